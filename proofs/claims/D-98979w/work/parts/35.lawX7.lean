set_option linter.unusedVariables false
set_option linter.unusedSimpArgs false
/-! THE PLAIN LAW: the component's best row, the search -/
def bestX (B : Bk) (P : Nat → Int32) (m : Nat) (aim : Int32) (gj : GI) (top : Nat) : Prop :=
  ∃ rb, rowIs gj 33 rb ∧ gj 0 16 = N (Row.sum rb) ∧ gj 0 17 = val B P m aim rb ∧ BestTo Row.key (val B P m aim) (Row.In (mx B P m) (leftN B P m)) top rb
def soX (B : Bk) (P : Nat → Int32) (m : Nat) (aim : Int32) (gj : GI) (top : Nat) : Prop :=
  bestX B P m aim gj top ∨ (gj 0 17 = -1000000 ∧ ∀ r', Row.In (mx B P m) (leftN B P m) r' → ¬ Row.key r' < top)
theorem soX.keep {B : Bk} {P : Nat → Int32} {m : Nat} {aim : Int32} {gj gk : GI} {top : Nat} (h : soX B P m aim gj top) (h1 : gk 33 = gj 33) (h2 : gk 0 16 = gj 0 16) (h3 : gk 0 17 = gj 0 17) : soX B P m aim gk top := by
  rcases h with ⟨rb, a, b, c, d⟩ | ⟨a, b⟩
  · refine Or.inl ⟨rb, ?_, h2.trans b, h3.trans c, d⟩
    unfold rowIs
    rw [h1]
    exact a
  · exact Or.inr ⟨h3.trans a, b⟩
theorem soX.top {B : Bk} {P : Nat → Int32} {m : Nat} {aim : Int32} {gj : GI} {top top' : Nat} (h : soX B P m aim gj top) (h1 : top ≤ top') (h2 : ∀ r', Row.In (mx B P m) (leftN B P m) r' → Row.key r' < top' → Row.key r' < top) : soX B P m aim gj top' := by
  rcases h with ⟨rb, a, b, c, d1, d2, d3⟩ | ⟨a, b⟩
  · exact Or.inl ⟨rb, a, b, c, d1, by omega, fun r' q1 q2 q3 => d3 r' q1 (h2 r' q1 q2) q3⟩
  · exact Or.inr ⟨a, fun r' q1 q2 => b r' q1 (h2 r' q1 q2)⟩
abbrev BX (ask : Nat) (gi : GI) (B : Bk) (P : Nat → Int32) (m : Nat) (gj : GI) (cur : Row) : Prop := (KX ask gi gj) ∧ (rowIs gj 32 cur) ∧ (Rw B.nk cur) ∧ (Row.sum cur ≤ leftN B P m)
theorem BX.fr {ask : Nat} {gi : GI} {B : Bk} {P : Nat → Int32} {m : Nat} {gj : GI} {cur : Row} (h : BX ask gi B P m gj cur) : KX ask gi gj := h.1
theorem BX.row {ask : Nat} {gi : GI} {B : Bk} {P : Nat → Int32} {m : Nat} {gj : GI} {cur : Row} (h : BX ask gi B P m gj cur) : rowIs gj 32 cur := h.2.1
theorem BX.rw {ask : Nat} {gi : GI} {B : Bk} {P : Nat → Int32} {m : Nat} {gj : GI} {cur : Row} (h : BX ask gi B P m gj cur) : Rw B.nk cur := h.2.2.1
theorem BX.sum {ask : Nat} {gi : GI} {B : Bk} {P : Nat → Int32} {m : Nat} {gj : GI} {cur : Row} (h : BX ask gi B P m gj cur) : Row.sum cur ≤ leftN B P m := h.2.2.2
def LX (ask : Nat) (gi : GI) (B : Bk) (P : Nat → Int32) (m : Nat) (aim : Int32) (n : Nat) (s : Int32 × GI) : Prop :=
  (s.1 = 1 ∧ ∃ cur, n = 10001 - Row.key cur ∧ BX ask gi B P m s.2 cur ∧ soX B P m aim s.2 (Row.key cur)) ∨ (s.1 = 0 ∧ n = 0 ∧ KX ask gi s.2 ∧ soX B P m aim s.2 10000)
theorem key_lt {r : Row} {n : Nat} (h : Row.sum r ≤ n) (hn : n ≤ 9) : Row.key r < 1000 * (n + 1) ∧ 1000 * Row.sum r ≤ Row.key r := by
  obtain ⟨a, b, c⟩ := r
  simp only [Row.sum, Row.key, Row.code] at *
  omega
theorem x_best_next {hk : HK} {gi : GI} {gr : GR} {b ask : Nat} {L : List Nat} {B : Bk} (w : XWd hk gi gr b ask L B) {P : Nat → Int32} {m p : Nat} (hm : m < B.nm) {aim : Int32} {gj : GI} {cur : Row} (h : BX ask gi B P m gj cur) (hb : soX B P m aim gj (Row.key cur + 1)) : ∃ s', f_X0_layBest_j90 hk gr 0 p (N m) aim (N (leftN B P m)) gj = some (.inl s') ∧ ∃ n', n' < 10001 - Row.key cur ∧ LX ask gi B P m aim n' s' := by
  have hL := leftN_le w.bk.ok P m
  have h3 := w.bk.ok.nk
  have wj := h.fr.wd w
  have hs := h.sum
  obtain ⟨gk, k1, k2, k3⟩ := x_nextRow wj h.row h.rw (by omega) hL hs
  rw [f_X0_layBest_j90, k1, Option.bind_some]
  refine ⟨_, rfl, ?_⟩
  have hfr : KX ask gi gk := h.fr.trans ⟨fun k _ _ => by rw [k3 0 (by omega)], fun c _ _ h1 _ _ => k3 c h1⟩
  have hb' := hb.keep (gk := gk) (k3 33 (by decide)) (by rw [k3 0 (by decide)]) (by rw [k3 0 (by decide)])
  have kc := key_lt (n := 8) (show Row.sum cur ≤ 8 by omega) (by omega)
  by_cases hc : B.nk ≠ 0 ∧ Row.sum (nxtX B.nk cur) ≤ leftN B P m
  · rw [if_pos hc]
    obtain ⟨n1, n2, n3, n4⟩ := nxtX_ok h3 hc.1 h.rw (show Row.sum cur ≤ 8 by omega)
    refine ⟨10001 - Row.key (nxtX B.nk cur), by omega, Or.inl ⟨rfl, nxtX B.nk cur, rfl, ⟨hfr, k2 hc.1, n1, hc.2⟩, ?_⟩⟩
    refine hb'.top (by omega) ?_
    intro r' q1 q2
    by_cases q3 : Row.key cur < Row.key r'
    · have := n4 r' (In_Rw q1) (by have := q1.2.2.2; omega) q3
      omega
    · omega
  · rw [if_neg hc]
    refine ⟨0, by omega, Or.inr ⟨rfl, rfl, hfr, ?_⟩⟩
    refine hb'.top (by omega) ?_
    intro r' q1 _
    apply Classical.byContradiction
    intro q3
    have q3 : Row.key cur < Row.key r' := by omega
    have s1 := q1.2.2.2
    by_cases h0 : B.nk = 0
    · have e1 := In_Rw q1
      have e2 := h.rw
      obtain ⟨a, b, c⟩ := cur
      obtain ⟨x, y, z⟩ := r'
      simp only [Rw, Row.key, Row.sum, Row.code] at *
      omega
    · obtain ⟨n1, n2, n3, n4⟩ := nxtX_ok h3 h0 h.rw (show Row.sum cur ≤ 8 by omega)
      have n5 := n4 r' (In_Rw q1) (by omega) q3
      have n6 : ¬ Row.sum (nxtX B.nk cur) ≤ leftN B P m := fun e => hc ⟨h0, e⟩
      have n7 := key_lt (n := leftN B P m) s1 (by omega)
      have n8 : 1000 * Row.sum (nxtX B.nk cur) ≤ Row.key (nxtX B.nk cur) := by simp only [Row.key]; omega
      omega
theorem cpy3 {gi : GI} {a b : Nat} {r : Row} (h : rowIs gi a r) : rowIs (va_up gi b (va_cpy (gi a) (gi b) 0 0 3)) b r := by
  obtain ⟨h1, h2, h3⟩ := h
  refine ⟨?_, ?_, ?_⟩ <;> simp [va_up, va_cpy] <;> assumption
theorem x_best_take {hk : HK} {gi : GI} {gr : GR} {b ask : Nat} {L : List Nat} {B : Bk} (w : XWd hk gi gr b ask L B) {P : Nat → Int32} {m p : Nat} (hm : m < B.nm) {aim : Int32} {gj : GI} {cur : Row} (h : BX ask gi B P m gj cur) (hin : Row.In (mx B P m) (leftN B P m) cur) (hlt : gj 0 17 < val B P m aim cur) (hb : ∀ r', Row.In (mx B P m) (leftN B P m) r' → Row.key r' < Row.key cur → val B P m aim r' < val B P m aim cur) : ∃ s', f_X0_layBest_j47 hk gr 0 p (N m) aim (N (leftN B P m)) gj (val B P m aim cur) = some (.inl s') ∧ ∃ n', n' < 10001 - Row.key cur ∧ LX ask gi B P m aim n' s' := by
  have hL := leftN_le w.bk.ok P m
  have hs := h.sum
  rw [f_X0_layBest_j47, if_neg (Int32.not_le.mpr hlt), Option.bind_some, w.lay.f13, Option.bind_some, show (0 : Int32) = N 0 from rfl, x_sum (o := 0) w.lay.k32 (by omega) (by omega), Option.bind_some, Option.bind_some, Option.bind_some, w.lay.f14, Option.bind_some, g_is_of' w.lay.k32, Option.bind_some, g_is_of' w.lay.k33, Option.bind_some]
  have es : g_pi gj 0 17 (val B P m aim cur) 32 0 + g_pi gj 0 17 (val B P m aim cur) 32 (0 + 1) + g_pi gj 0 17 (val B P m aim cur) 32 (0 + 2) = N (Row.sum cur) := by
    rw [pi_off (by omega), h.row.1, h.row.2.1, h.row.2.2, N_add, N_add]; rfl
  rw [es]
  show ∃ s', ((g_cpi hk (g_pi (g_pi gj 0 17 (val B P m aim cur)) 0 16 (N (Row.sum cur))) 32 0 33 0 (N 3)).bind _ : Option ((Int32 × GI) ⊕ GI)) = _ ∧ _
  rw [cpi_of (na := 3) (nb := 3) (by rw [w.lay.k32]) (by rw [w.lay.k33]) (by omega) (by omega) (by omega), Option.bind_some]
  have r32 : rowIs (g_pi (g_pi gj 0 17 (val B P m aim cur)) 0 16 (N (Row.sum cur))) 32 cur := by
    unfold rowIs
    rw [pi_off (by omega), pi_off (by omega)]
    exact h.row
  refine x_best_next w hm ⟨?_, ?_, h.rw, h.sum⟩ (Or.inl ⟨cur, cpy3 r32, ?_, ?_, hin, by omega, ?_⟩)
  · have k1 : KX ask gi (g_pi (g_pi gj 0 17 (val B P m aim cur)) 0 16 (N (Row.sum cur))) := (h.fr.put (by omega)).put (by omega)
    refine k1.trans ⟨fun k _ _ => by rw [up_ne _ _ _ (by omega)], fun c _ _ _ h1 _ => by rw [up_ne _ _ _ h1]⟩
  · unfold rowIs
    rw [up_ne _ _ _ (by omega)]
    exact r32
  · rw [up_ne _ _ _ (by omega)]
    simp [pi_get]
  · rw [up_ne _ _ _ (by omega)]
    simp [pi_get]
  · intro r' q1 q2 q3
    left
    refine hb r' q1 ?_
    have : Row.key r' ≠ Row.key cur := fun e => q3 (key_inj (by have := q1.2.2.2; omega) (by omega) e)
    omega
theorem x_layBest {hk : HK} {gi : GI} {gr : GR} {b ask : Nat} {L : List Nat} {B : Bk} (w : XWd hk gi gr b ask L B) {p : Nat} (hp : isPl p) (hp2 : p ≠ 21) (hP : POk B (pl gi p)) {m : Nat} (hm : m < B.nm) (aim : Int32) : ∃ gi' r, f_X0_layBest hk gi gr 0 p (N m) aim = some gi' ∧ Best Row.key (val B (pl gi p) m aim) (Row.In (mx B (pl gi p) m) (leftN B (pl gi p) m)) r ∧ rowIs gi' 33 r ∧ gi' 0 16 = N (Row.sum r) ∧ gi' 0 17 = val B (pl gi p) m aim r ∧ KX ask gi gi' := by
  have h5 := w.bk.ok.nm
  have hL := leftN_le w.bk.ok (pl gi p) m
  rw [f_X0_layBest, x_left w hp hP (by omega), Option.bind_some, x_clearRow w.lay, Option.bind_some, Option.bind_some]
  have key := loop_J (body := fun (s : Int32 × GI) => f_X0_layBest_l21 hk gr 0 p (N m) aim (N (leftN B (pl gi p) m)) s.1 s.2) (LX ask gi B (pl gi p) m aim) (fun gj => KX ask gi gj ∧ soX B (pl gi p) m aim gj 10000) (by
    rintro n ⟨x5, gj⟩ (⟨e1, cur, e2, h, hb⟩ | ⟨e1, e2, h, hb⟩)
    · left
      dsimp only at e1 h hb ⊢
      subst e1 e2
      have hs := h.sum
      have wj := h.fr.wd w
      have ej : pl gj p = pl gi p := h.fr.pl w hp hp2
      rw [f_X0_layBest_l21, if_neg (show ¬ ((1 : Int32) = 0) by decide), x_isRowOf w.lay hp h.row (by omega) (show m < 5 by omega) (by rw [ej]; exact hP.purse), Option.bind_some, ej]
      by_cases hv : cur.1 ≤ pn (pl gi p) (3 * m) ∧ cur.2.1 ≤ pn (pl gi p) (3 * m + 1) ∧ cur.2.2 ≤ pn (pl gi p) (3 * m + 2)
      · have hin : Row.In (mx B (pl gi p) m) (leftN B (pl gi p) m) cur := (In_iff h.rw).mpr ⟨hv, hs⟩
        rw [if_pos hv, if_neg (by decide)]
        obtain ⟨g2, a1, a2⟩ := x_growthBy wj hp hp2 h.row h.rw (by rw [ej]; exact hP.over0) hm aim
        rw [a1, Option.bind_some, ej]
        show ∃ s', f_X0_layBest_j47 hk gr 0 p (N m) aim (N (leftN B (pl gi p) m)) g2 (val B (pl gi p) m aim cur) = _ ∧ _
        have na : ask ≠ 0 ∧ ask ≠ 32 ∧ ask ≠ 33 := by
          have := w.sep ask (Or.inr rfl)
          unfold isSt at this
          omega
        have h2 : BX ask gi B (pl gi p) m g2 cur := ⟨h.fr.trans ⟨fun k _ _ => by rw [a2 0 (fun e => na.1 e.symm) (by omega)], fun c _ h1 _ _ h3 => a2 c h1 h3⟩, by unfold rowIs; rw [a2 32 (fun e => na.2.1 e.symm) (by omega)]; exact h.row, h.rw, hs⟩
        have hb2 := hb.keep (gk := g2) (a2 33 (fun e => na.2.2 e.symm) (by omega)) (by rw [a2 0 (fun e => na.1 e.symm) (by omega)]) (by rw [a2 0 (fun e => na.1 e.symm) (by omega)])
        rcases hb2 with ⟨rb, q1, q2, q3, q4, q5, q6⟩ | ⟨q1, q2⟩
        · by_cases hlt : val B (pl gi p) m aim rb < val B (pl gi p) m aim cur
          · refine x_best_take w hm h2 hin (by rw [q3]; exact hlt) ?_
            intro r' v1 v2
            by_cases v3 : r' = rb
            · subst v3; exact hlt
            · rcases q6 r' v1 v2 v3 with u | ⟨u, _⟩
              · exact Int32.lt_trans u hlt
              · rw [u]; exact hlt
          · rw [f_X0_layBest_j47, if_pos (by rw [q3]; exact Int32.not_lt.mp hlt)]
            refine x_best_next w hm h2 (Or.inl ⟨rb, q1, q2, q3, q4, by omega, ?_⟩)
            intro r' v1 v2 v3
            by_cases v4 : Row.key r' < Row.key cur
            · exact q6 r' v1 v4 v3
            · have : r' = cur := key_inj (by have := v1.2.2.2; omega) (by omega) (by omega)
              subst this
              rcases Int32.lt_or_eq_of_le (Int32.not_lt.mp hlt) with u | u
              · exact Or.inl u
              · exact Or.inr ⟨u, q5⟩
        · refine x_best_take w hm h2 hin (by rw [q1]; exact val_gap B w.bk.ok _ _ _ _) ?_
          intro r' v1 v2
          exact absurd v2 (q2 r' v1)
      · rw [if_neg hv, if_pos rfl, f_X0_layBest_j47, if_pos ?_]
        · refine x_best_next w hm h (hb.top (by omega) ?_)
          intro r' v1 v2
          have : Row.key r' ≠ Row.key cur := by
            intro e
            have : r' = cur := key_inj (by have := v1.2.2.2; omega) (by omega) e
            subst this
            exact hv ((In_iff h.rw).mp v1).1
          omega
        · rcases hb with ⟨rb, q1, q2, q3, q4⟩ | ⟨q1, q2⟩
          · rw [q3]; exact Int32.le_of_lt (val_gap B w.bk.ok _ _ _ _)
          · rw [q1]; exact Int32.le_refl _
    · right
      dsimp only at e1
      subst e1
      exact ⟨gj, rfl, h, hb⟩) (n := 10001) (s := (1, g_pi (g_pi (g_pi (g_pi gi 32 0 0) 32 1 0) 32 2 0) 0 17 (-1000000))) (by
    refine Or.inl ⟨rfl, (0, 0, 0), rfl, ⟨?_, ?_, ?_, ?_⟩, Or.inr ⟨by simp [pi_get], fun r' _ => by simp [Row.key, Row.sum, Row.code]⟩⟩
    · exact ((((KX.refl ask gi).put (by omega)).put (by omega)).put (by omega)).put (by omega)
    · refine ⟨?_, ?_, ?_⟩ <;> simp [pi_get] <;> rfl
    · simp [Rw]
    · simp [Row.sum]) (by decide)
  obtain ⟨gi', k1, k2, k3⟩ := key
  rcases k3 with ⟨rb, q1, q2, q3, q4, q5, q6⟩ | ⟨q1, q2⟩
  · refine ⟨gi', rb, by rw [k1]; rfl, ⟨q4, fun r' v1 v2 => q6 r' v1 ?_ v2⟩, q1, q2, q3, k2⟩
    have := key_lt (n := 8) (show Row.sum r' ≤ 8 by have := v1.2.2.2; omega) (by omega)
    omega
  · exfalso
    exact q2 (0, 0, 0) (by simp [Row.In, Row.sum]) (by simp [Row.key, Row.sum, Row.code])

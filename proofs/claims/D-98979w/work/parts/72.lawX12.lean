set_option linter.unusedVariables false
set_option linter.unusedSimpArgs false
/-! THE PLAIN LAW: what a growth needs, two who pool, of the component -/
section X12
variable {hk : HK} {nx : Nat} {gi gi' : GI} {gr : GR} {b ask : Nat} {L : List Nat} {sl : Nat} {sf w : Nat → Nat} {S : St}
def LNX (ask : Nat) (gi : GI) (B : Bk) (P : Nat → Int32) (m : Nat) (y : Int32) (n : Nat) (s : Int32 × GI) : Prop :=
  (s.1 = 1 ∧ ∃ cur, n = 10001 - Row.key cur ∧ BX ask gi B P m s.2 cur ∧ ∀ r', fitV B P m y r' → ¬ Row.key r' < Row.key cur) ∨ (s.1 = 0 ∧ n = 0 ∧ KX ask gi s.2 ∧ ∀ r', ¬ fitV B P m y r')
theorem x_needs_next {B : Bk} (wd : XWd hk gi gr b ask L B) {P : Nat → Int32} (hP : POk B P) (h11 : pl gi 11 = P) {m : Nat} (hm : m < B.nm) {y : Int32} {gj : GI} {cur : Row} (h : BX ask gi B P m gj cur) (hb : ∀ r', fitV B P m y r' → ¬ Row.key r' < Row.key cur + 1) : ∃ s', f_X0_needs_j96 hk gr 0 (N m) y gj = some (.inl s') ∧ ∃ n', n' < 10001 - Row.key cur ∧ LNX ask gi B P m y n' s' := by
  have hL := leftN_le wd.bk.ok P m
  have h3 := wd.bk.ok.nk
  have h5 := wd.bk.ok.nm
  have wj := h.fr.wd wd
  have hs := h.sum
  have e11 : pl gj 11 = P := (h.fr.pl wd pl11 (by decide)).trans h11
  obtain ⟨gk, k1, k2, k3⟩ := x_nextRow wj h.row h.rw (by omega) hL hs
  rw [f_X0_needs_j96, wd.lay.f5, Option.bind_some, x_left wj pl11 (by rw [e11]; exact hP) (by omega), Option.bind_some, e11, k1, Option.bind_some]
  refine ⟨_, rfl, ?_⟩
  have hfr : KX ask gi gk := h.fr.trans ⟨fun k _ _ => by rw [k3 0 (by omega)], fun c _ _ h1 _ _ => k3 c h1⟩
  have kc := key_lt (n := 8) (show Row.sum cur ≤ 8 by omega) (by omega)
  by_cases hc : B.nk ≠ 0 ∧ Row.sum (nxtX B.nk cur) ≤ leftN B P m
  · rw [if_pos hc]
    obtain ⟨n1, n2, n3, n4⟩ := nxtX_ok h3 hc.1 h.rw (show Row.sum cur ≤ 8 by omega)
    refine ⟨10001 - Row.key (nxtX B.nk cur), by omega, Or.inl ⟨rfl, nxtX B.nk cur, rfl, ⟨hfr, k2 hc.1, n1, hc.2⟩, ?_⟩⟩
    intro r' q1 q2
    by_cases q3 : Row.key cur < Row.key r'
    · have := n4 r' (In_Rw q1.1) (by have := q1.1.2.2.2; omega) q3
      omega
    · exact hb r' q1 (by omega)
  · rw [if_neg hc]
    refine ⟨0, by omega, Or.inr ⟨rfl, rfl, hfr, ?_⟩⟩
    intro r' q1
    have q3 : Row.key cur < Row.key r' := by have := hb r' q1; omega
    have s1 := q1.1.2.2.2
    by_cases h0 : B.nk = 0
    · have e1 := In_Rw q1.1
      have e2 := h.rw
      obtain ⟨a, b, c⟩ := cur
      obtain ⟨x, y, z⟩ := r'
      simp only [Rw, Row.key, Row.sum, Row.code] at *
      omega
    · obtain ⟨n1, n2, n3, n4⟩ := nxtX_ok h3 h0 h.rw (show Row.sum cur ≤ 8 by omega)
      have n5 := n4 r' (In_Rw q1.1) (by omega) q3
      have n6 : ¬ Row.sum (nxtX B.nk cur) ≤ leftN B P m := fun e => hc ⟨h0, e⟩
      have n7 := key_lt (n := leftN B P m) s1 (by omega)
      have n8 : 1000 * Row.sum (nxtX B.nk cur) ≤ Row.key (nxtX B.nk cur) := by simp only [Row.key]; omega
      omega
theorem x_needs (r : RX hk nx gi gr b ask L sl sf w S) (o : SOk S) (x y : Int32) : ∃ gi', f_X0_needs hk gi gr 0 x y = some ((s_needs S x y).1, gi') ∧ RX hk nx gi' gr b ask L sl sf w (s_needs S x y).2 := by
  have r0 := r.laid0
  have h5 := r.wd.bk.ok.nm
  have h3 := r.wd.bk.ok.nk
  have hl := r.wd.lay
  have w0 : XWd hk (g_pi gi 0 18 0) gr b ask L S.B := r0.wd
  have p0 : pl (g_pi gi 0 18 0) 11 = S.P := r0.now
  have ha := r.askst
  rw [f_X0_needs, Option.bind_some, x_isMan w0, Option.bind_some]
  unfold s_needs
  cases h : asQ x S.B.nm with
  | none => exact ⟨_, rfl, r0⟩
  | some m =>
    obtain ⟨rfl, hm⟩ := asQ_some h
    simp only [Option.isSome_some, if_true]
    rw [if_neg (by decide), x_isIn, in1, Option.bind_some]
    by_cases hy : -20 ≤ y ∧ y ≤ 20
    · rw [if_pos hy, if_neg (by decide), if_pos hy, x_clearRow hl, Option.bind_some]
      have hL := leftN_le r.wd.bk.ok S.P m
      obtain ⟨e, k1, k2⟩ := loop_J (body := fun (s : Int32 × GI) => f_X0_needs_l32 hk gr 0 (N m) y s.1 s.2) (LNX ask (g_pi gi 0 18 0) S.B S.P m y) (fun e => match e with | .inl g => KX ask (g_pi gi 0 18 0) g ∧ ∀ r', ¬ fitV S.B S.P m y r' | .inr q => ∃ cur, q.1 = N (Row.sum cur) ∧ fitV S.B S.P m y cur ∧ (∀ r', fitV S.B S.P m y r' → ¬ Row.key r' < Row.key cur) ∧ ∃ g, KX ask (g_pi gi 0 18 0) g ∧ rowIs g 32 cur ∧ q.2 = g_pi (va_up g 34 (va_cpy (g 32) (g 34) 0 0 S.B.nk)) 0 18 (N S.B.nk)) (by
        rintro n ⟨x3, gj⟩ (⟨e1, cur, e2, hj, hb⟩ | ⟨e1, e2, hj, hb⟩)
        · dsimp only at e1 hj ⊢
          subst e1 e2
          have hs := hj.sum
          have wj := hj.fr.wd w0
          have ej : pl gj 11 = S.P := (hj.fr.pl w0 pl11 (by decide)).trans p0
          rw [f_X0_needs_l32, if_neg (show ¬ ((1 : Int32) = 0) by decide), hl.f5, Option.bind_some, x_isRowOf hl pl11 hj.row (by omega) (show m < 5 by omega) (by rw [ej]; exact o.row.ok.purse), Option.bind_some, ej]
          by_cases hv : cur.1 ≤ pn S.P (3 * m) ∧ cur.2.1 ≤ pn S.P (3 * m + 1) ∧ cur.2.2 ≤ pn S.P (3 * m + 2)
          · have hin : Row.In (mx S.B S.P m) (leftN S.B S.P m) cur := (In_iff hj.rw).mpr ⟨hv, hs⟩
            rw [if_pos hv, if_neg (by decide), Option.bind_some]
            obtain ⟨g2, a1, a2⟩ := x_growthBy wj pl11 (by decide) hj.row hj.rw (by rw [ej]; exact o.row.ok.over0) hm 0
            rw [a1, Option.bind_some, ej]
            have h2 : BX ask (g_pi gi 0 18 0) S.B S.P m g2 cur := ⟨hj.fr.trans ⟨fun k _ _ => by rw [a2 0 (by omega) (by omega)], fun c _ h1 _ _ h3 => a2 c h1 h3⟩, by unfold rowIs; rw [a2 32 (by omega) (by omega)]; exact hj.row, hj.rw, hs⟩
            dsimp only
            by_cases q : val S.B S.P m 0 cur < y
            · left
              rw [if_pos q]
              refine x_needs_next w0 o.row.ok p0 hm h2 ?_
              intro r' q1 q2
              by_cases e : Row.key r' = Row.key cur
              · have : r' = cur := key_inj (by have := q1.1.2.2.2; omega) (by omega) e
                subst this
                exact Int32.not_le.mpr q q1.2
              · exact hb r' q1 (by omega)
            · right
              have q := Int32.not_lt.mp q
              have w2 := h2.fr.wd w0
              have e1 : g_cpi hk g2 32 0 34 0 (N S.B.nk) = some (va_up g2 34 (va_cpy (g2 32) (g2 34) 0 0 S.B.nk)) := cpi_of (na := 3) (nb := 6) (by rw [hl.k32]) (by rw [hl.k34]) h3 (by omega) (by omega)
              have w3 : XWd hk (va_up g2 34 (va_cpy (g2 32) (g2 34) 0 0 S.B.nk)) gr b ask L S.B := w2.over (fun c h1 _ => up_ne _ _ _ (by have := not_st h1; omega))
              have es : g_pi (va_up g2 34 (va_cpy (g2 32) (g2 34) 0 0 S.B.nk)) 0 18 (N S.B.nk) 32 0 + g_pi (va_up g2 34 (va_cpy (g2 32) (g2 34) 0 0 S.B.nk)) 0 18 (N S.B.nk) 32 (0 + 1) + g_pi (va_up g2 34 (va_cpy (g2 32) (g2 34) 0 0 S.B.nk)) 0 18 (N S.B.nk) 32 (0 + 2) = N (Row.sum cur) := by
                rw [pi_off (by omega), up_ne _ _ _ (by omega), h2.row.1, h2.row.2.1, h2.row.2.2, N_add, N_add]; rfl
              rw [if_neg (Int32.not_lt.mpr q), hl.f13, Option.bind_some, hl.f15, Option.bind_some, x_kindsN w2, Option.bind_some, g_is_of' hl.k32, Option.bind_some, g_is_of' hl.k34, Option.bind_some, e1, Option.bind_some, x_kindsN w3, Option.bind_some, Option.bind_some, Option.bind_some, show (0 : Int32) = N 0 from rfl, x_sum (o := 0) hl.k32 (by omega) (by omega), Option.bind_some]
              show ∃ e, some (Sum.inr (Sum.inr (g_pi (va_up g2 34 (va_cpy (g2 32) (g2 34) 0 0 S.B.nk)) 0 18 (N S.B.nk) 32 0 + g_pi (va_up g2 34 (va_cpy (g2 32) (g2 34) 0 0 S.B.nk)) 0 18 (N S.B.nk) 32 (0 + 1) + g_pi (va_up g2 34 (va_cpy (g2 32) (g2 34) 0 0 S.B.nk)) 0 18 (N S.B.nk) 32 (0 + 2), g_pi (va_up g2 34 (va_cpy (g2 32) (g2 34) 0 0 S.B.nk)) 0 18 (N S.B.nk)))) = some (Sum.inr e) ∧ _
              rw [es]
              exact ⟨_, rfl, cur, rfl, ⟨hin, q⟩, hb, g2, h2.fr, h2.row, rfl⟩
          · left
            rw [if_neg hv, if_pos rfl]
            refine x_needs_next w0 o.row.ok p0 hm hj ?_
            intro r' q1 q2
            by_cases e : Row.key r' = Row.key cur
            · have : r' = cur := key_inj (by have := q1.1.2.2.2; omega) (by omega) e
              subst this
              exact hv ((In_iff hj.rw).mp q1.1).1
            · exact hb r' q1 (by omega)
        · right
          dsimp only at e1 hj ⊢
          subst e1
          exact ⟨.inl gj, rfl, hj, hb⟩) (n := 10001) (s := (1, g_pi (g_pi (g_pi (g_pi gi 0 18 0) 32 0 0) 32 1 0) 32 2 0)) (by
        refine Or.inl ⟨rfl, (0, 0, 0), rfl, ⟨?_, ?_, ?_, ?_⟩, fun r' _ => by simp [Row.key, Row.sum, Row.code]⟩
        · exact (((KX.refl ask _).put (by omega)).put (by omega)).put (by omega)
        · refine ⟨?_, ?_, ?_⟩ <;> simp [pi_get] <;> rfl
        · simp [Rw]
        · simp [Row.sum]) (by decide)
      rw [k1, Option.bind_some]
      cases e with
      | inl g =>
        obtain ⟨k2, k3⟩ := k2
        have : fitRow S.B S.P m y = none := theBO_eq (show BO Row.key (fun _ => 0) (fitV S.B S.P m y) none from k3)
        rw [this]
        exact ⟨g, rfl, k2.xfr.rx r0⟩
      | inr q =>
        obtain ⟨cur, c1, c2, c3, g, c4, c5, c6⟩ := k2
        have : fitRow S.B S.P m y = some cur := theBO_eq (show BO Row.key (fun _ => 0) (fitV S.B S.P m y) (some cur) from ⟨c2, fun r' q1 q2 => Or.inr ⟨rfl, by
          have := c3 r' q1
          have hne : Row.key r' ≠ Row.key cur := fun e => q2 (key_inj (by have := q1.1.2.2.2; omega) (by have := c2.1.2.2.2; omega) e)
          omega⟩⟩)
        rw [this]
        obtain ⟨q1, q2⟩ := q
        dsimp only at c1 c6
        subst c1 c6
        refine ⟨_, rfl, ?_⟩
        have rg := c4.xfr.rx r0
        exact rg.lie (l := S.B.nk) (f := Row.at cur) (fun c h1 h2 => by rw [pi_off h1, up_ne _ _ _ h2]) (fun k hk => by rw [pi_get, if_neg (by omega), up_ne _ _ _ (by decide)]) (by simp [pi_get]) (fun i hi => by
          rw [pi_off (by decide), up_same, va_cpy, if_pos (by omega), show 0 + (i - 0) = i by omega]
          exact c5.at i (by omega))
    · rw [if_neg hy, if_pos rfl, if_neg hy]
      exact ⟨_, rfl, r0⟩
/-! rows by a number -/
def dec (v : Nat) : Row := (v / 16, v / 4 % 4, v % 4)
def enc (r : Row) : Nat := 16 * r.1 + 4 * r.2.1 + r.2.2
theorem dec_enc {r : Row} (h : r.1 ≤ 3 ∧ r.2.1 ≤ 3 ∧ r.2.2 ≤ 3) : dec (enc r) = r ∧ enc r < 64 := by
  obtain ⟨a, b, c⟩ := r
  simp only [dec, enc] at *
  refine ⟨?_, by omega⟩
  have h1 : (16 * a + 4 * b + c) / 16 = a := by omega
  have h2 : (16 * a + 4 * b + c) / 4 % 4 = b := by omega
  have h3 : (16 * a + 4 * b + c) % 4 = c := by omega
  rw [h1, h2, h3]
theorem dec_lt : ∀ u, u < 64 → ∀ v, v < 65 → (Row.code (dec u) < Row.code (dec v) ↔ u < v) := by decide +kernel
theorem dec3 {v : Nat} (h : v < 64) : (dec v).1 ≤ 3 ∧ (dec v).2.1 ≤ 3 ∧ (dec v).2.2 ≤ 3 := by
  simp only [dec]
  omega
theorem code_dec {r : Row} (h : r.1 ≤ 3 ∧ r.2.1 ≤ 3 ∧ r.2.2 ≤ 3) {v : Nat} (hv : v < 65) : Row.code r < Row.code (dec v) ↔ enc r < v := by
  obtain ⟨h1, h2⟩ := dec_enc h
  have := dec_lt (enc r) h2 v hv
  rw [h1] at this
  exact this
def zs (f : Nat → Int32) (k : Nat) : Nat → Bool
  | 0 => true
  | i + 1 => zs f k i && (f (k + i) == 0)
theorem zs_Rw {nk : Nat} (h : nk ≤ 3) {r : Row} (hr : r.1 ≤ 3 ∧ r.2.1 ≤ 3 ∧ r.2.2 ≤ 3) : zs (Row.at r) nk (3 - nk) = true ↔ Rw nk r := by
  obtain ⟨a, b, c⟩ := r
  have nz : ∀ n : Nat, n ≤ 3 → (N n = (0 : Int32) ↔ n = 0) := fun n hn => by rw [show (0 : Int32) = N 0 from rfl, N_eq (by omega) (by omega)]
  simp only at hr
  match nk, h with
  | 0, _ => simp [zs, Row.at, Rw, nz a hr.1, nz b hr.2.1, nz c hr.2.2]; omega
  | 1, _ => simp [zs, Row.at, Rw, nz b hr.2.1, nz c hr.2.2]; omega
  | 2, _ => simp [zs, Row.at, Rw, nz c hr.2.2]
  | 3, _ => simp [zs, Rw]
theorem x_laysRow {B : Bk} (wd : XWd hk gi gr b ask L B) {v o M : Nat} (hv : v < 64) (ho : o + 3 ≤ 6) (hM : M ≤ 3) : ∃ gi' c, f_X0_laysRow hk gi gr 0 (N v) (N o) (N M) = some (b2i c, gi') ∧ (c = true ↔ Rw B.nk (dec v) ∧ Row.sum (dec v) ≤ M) ∧ (∀ k, k < 3 → gi' 35 (o + k) = Row.at (dec v) k) ∧ (∀ j, ¬ (o ≤ j ∧ j < o + 3) → gi' 35 j = gi 35 j) ∧ ∀ d, d ≠ 35 → gi' d = gi d := by
  have hl := wd.lay
  have h3 := wd.bk.ok.nk
  have d3 := dec3 hv
  have st : ∀ (x k : Nat) (gj : GI), x < 1000 → k < 3 → f_X0_laysRow_l6 hk gr 0 (N o) (N M) (N x) (N k) gj = some (.inl (N (x / 4), N k + (-1), g_pi gj 35 (o + k) (N (x % 4)))) := by
    intro x k gj hx hk3
    rw [f_X0_laysRow_l6, if_neg (N_nneg (by omega)), hl.f19, Option.bind_some, g_is_of' hl.k35, Option.bind_some, hl.k35, show (4 : Int32) = N 4 from rfl, N_mod (by omega) (by omega) (by omega), N_add, N_st (by omega) (by decide), Option.bind_some, N_div (by omega) (by omega)]
  have e2 : N 2 + (-1) = N 1 := rfl
  have e1 : N 1 + (-1) = N 0 := rfl
  have s2 := st v 2 gi (by omega) (by decide)
  have s1 := st (v / 4) 1 (g_pi gi 35 (o + 2) (N (v % 4))) (by omega) (by decide)
  have s0 := st (v / 4 / 4) 0 (g_pi (g_pi gi 35 (o + 2) (N (v % 4))) 35 (o + 1) (N (v / 4 % 4))) (by omega) (by decide)
  rw [e2] at s2
  rw [e1] at s1
  have lp := lp_3 (body := fun (s : Int32 × Int32 × GI) => f_X0_laysRow_l6 hk gr 0 (N o) (N M) s.1 s.2.1 s.2.2) (s0 := (N v, 2, gi)) s2 s1 s0 rfl
  rw [f_X0_laysRow, lp, Option.bind_some]
  generalize hg1 : g_pi (g_pi (g_pi gi 35 (o + 2) (N (v % 4))) 35 (o + 1) (N (v / 4 % 4))) 35 (o + 0) (N (v / 4 / 4 % 4)) = g1
  have q0 : v / 4 / 4 % 4 = v / 16 := by omega
  have at1 : ∀ k, k < 3 → g1 35 (o + k) = Row.at (dec v) k := by
    intro k hk3
    rw [← hg1, q0]
    match k, hk3 with
    | 0, _ => simp [pi_get, Row.at, dec]
    | 1, _ => simp [pi_get, Row.at, dec]
    | 2, _ => simp [pi_get, Row.at, dec]
  have off1 : ∀ j, ¬ (o ≤ j ∧ j < o + 3) → g1 35 j = gi 35 j := by
    intro j hj
    rw [← hg1, pi_get, if_neg (by omega), pi_get, if_neg (by omega), pi_get, if_neg (by omega)]
  have ne1 : ∀ d, d ≠ 35 → g1 d = gi d := fun d hd => by rw [← hg1, pi_off hd, pi_off hd, pi_off hd]
  have w1 : XWd hk g1 gr b ask L B := wd.over (fun c h1 _ => ne1 c (by have := not_st h1; omega))
  have es : g1 35 o + g1 35 (o + 1) + g1 35 (o + 2) = N (Row.sum (dec v)) := by
    rw [show g1 35 o = Row.at (dec v) 0 from at1 0 (by decide), at1 1 (by decide), at1 2 (by decide)]
    show N _ + N _ + N _ = _
    rw [N_add, N_add]; rfl
  have s9 : Row.sum (dec v) ≤ 9 := by unfold Row.sum; omega
  have j53 : ∀ c : Bool, f_X0_laysRow_j53 hk gr 0 (N o) g1 (b2i c) = some (b2i (c && zs (Row.at (dec v)) B.nk (3 - B.nk)), g1) := by
    intro c
    have l2 : g_loop g_K (fun (s : Int32 × Int32) => f_X0_laysRow_l61 hk g1 gr 0 (N o) s.1 s.2) (b2i c, N B.nk) = some (b2i (c && zs (Row.at (dec v)) B.nk (3 - B.nk))) := by
      refine loop_T (fun i => (b2i (c && zs (Row.at (dec v)) B.nk i), N (B.nk + i))) (3 - B.nk) (by simp [zs]) ?_ ?_ (by simp only [g_K]; omega)
      · intro i hi
        dsimp only
        have e1 : N (B.nk + i) + 1 = N (B.nk + (i + 1)) := by rw [show (1 : Int32) = N 1 from rfl, N_add]; rfl
        rw [f_X0_laysRow_l61, show (3 : Int32) = N 3 from rfl, if_le (by omega) (by omega), if_neg (by omega), zs, e1]
        cases hz : (c && zs (Row.at (dec v)) B.nk i) with
        | false =>
          rw [if_pos (by rfl), ← Bool.and_assoc, hz]; rfl
        | true =>
          rw [if_neg (by decide), hl.f19, Option.bind_some, g_is_of' hl.k35, Option.bind_some, hl.k35, N_add, N_ld (by omega) (by decide), Option.bind_some, at1 (B.nk + i) (by omega), ← Bool.and_assoc, hz, Bool.true_and]
          by_cases q : Row.at (dec v) (B.nk + i) = 0
          · rw [if_pos q, q]; rfl
          · rw [if_neg q]
            have : (Row.at (dec v) (B.nk + i) == 0) = false := by simpa using q
            rw [this]; rfl
      · dsimp only
        rw [f_X0_laysRow_l61, show (3 : Int32) = N 3 from rfl, if_le (by omega) (by omega), if_pos (by omega)]
    rw [f_X0_laysRow_j53, x_kindsN w1, Option.bind_some, l2, Option.bind_some, f_X0_laysRow_x61]
    cases (c && zs (Row.at (dec v)) B.nk (3 - B.nk)) <;> rfl
  rw [f_X0_laysRow_x6, hl.f19, Option.bind_some, x_sum hl.k35 (by omega) (by omega), Option.bind_some, es, if_lt (by omega) (by omega)]
  by_cases q : M < Row.sum (dec v)
  · rw [if_pos q]
    refine ⟨g1, false, j53 false, ?_, at1, off1, ne1⟩
    constructor
    · intro h; cases h
    · rintro ⟨_, h⟩; omega
  · rw [if_neg q]
    refine ⟨g1, _, j53 true, ?_, at1, off1, ne1⟩
    rw [Bool.true_and, zs_Rw h3 d3]
    exact ⟨fun h => ⟨h, by omega⟩, fun h => h.1⟩
/-- whether two rows keep to what both have -/
def pooledR (P : Nat → Int32) (m o : Nat) (p : Two) : Prop := p.1.1 + p.2.1 ≤ pn P (3 * m) + pn P (3 * o) ∧ p.1.2.1 + p.2.2.1 ≤ pn P (3 * m + 1) + pn P (3 * o + 1) ∧ p.1.2.2 + p.2.2.2 ≤ pn P (3 * m + 2) + pn P (3 * o + 2)
theorem x_arePooled {B : Bk} (wd : XWd hk gi gr b ask L B) (hP : POk B (pl gi 11)) {m o : Nat} (hm : m < 5) (ho : o < 5) {p : Two} (h1 : p.1.1 ≤ 3 ∧ p.1.2.1 ≤ 3 ∧ p.1.2.2 ≤ 3) (h2 : p.2.1 ≤ 3 ∧ p.2.2.1 ≤ 3 ∧ p.2.2.2 ≤ 3) (a1 : ∀ k, k < 3 → gi 35 k = Row.at p.1 k) (a2 : ∀ k, k < 3 → gi 35 (3 + k) = Row.at p.2 k) : ∃ c, f_X0_arePooled hk gi gr 0 (N m) (N o) = some (b2i c) ∧ (c = true ↔ pooledR (pl gi 11) m o p) := by
  have hl := wd.lay
  have x11 := hl.pls 11 pl11
  have st : ∀ (c : Bool) (k x y : Nat), k < 3 → x ≤ 3 → y ≤ 3 → gi 35 k = N x → gi 35 (3 + k) = N y → f_X0_arePooled_l5 hk gi gr 0 (N m) (N o) (b2i c) (N k) = some (.inl (b2i (c && decide (x + y ≤ pn (pl gi 11) (3 * m + k) + pn (pl gi 11) (3 * o + k))), N (k + 1))) := by
    intro c k x y hk3 hx hy e1 e2
    obtain ⟨u1, u2⟩ := hP.pu (show 3 * m + k < 15 by omega)
    obtain ⟨t1, t2⟩ := hP.pu (show 3 * o + k < 15 by omega)
    rw [f_X0_arePooled_l5, show (3 : Int32) = N 3 from rfl, if_le (by omega) (by omega), if_neg (by omega), show N k + 1 = N (k + 1) by rw [show (1 : Int32) = N 1 from rfl, N_add]]
    cases c with
    | false => rfl
    | true =>
      rw [if_neg (by decide), hl.f19, Option.bind_some, g_is_of' hl.k35, Option.bind_some, hl.k35, N_ld (by omega) (by decide), Option.bind_some, Option.bind_some, g_is_of' hl.k35, Option.bind_some, hl.k35, N_add, N_ld (by omega) (by decide), Option.bind_some, hl.f5, Option.bind_some, g_is_of x11.k, Option.bind_some, x_purse x11 hm hk3, Option.bind_some, Option.bind_some, g_is_of x11.k, Option.bind_some, x_purse x11 ho hk3, Option.bind_some, u1, t1, e1, e2, N_add, N_add, if_lt (by omega) (by omega)]
      by_cases q : x + y ≤ pn (pl gi 11) (3 * m + k) + pn (pl gi 11) (3 * o + k)
      · rw [if_neg (by omega)]; simp [q, b2i]
      · rw [if_pos (by omega)]; simp [q, b2i]
  have lp := lp_3 (body := fun (s : Int32 × Int32) => f_X0_arePooled_l5 hk gi gr 0 (N m) (N o) s.1 s.2) (s0 := (1, 0)) (st true 0 _ _ (by decide) h1.1 h2.1 (a1 0 (by decide)) (a2 0 (by decide))) (st _ 1 _ _ (by decide) h1.2.1 h2.2.1 (a1 1 (by decide)) (a2 1 (by decide))) (st _ 2 _ _ (by decide) h1.2.2 h2.2.2 (a1 2 (by decide)) (a2 2 (by decide))) rfl
  refine ⟨_, by rw [f_X0_arePooled, lp, Option.bind_some, f_X0_arePooled_x5]; rw [show ∀ c : Bool, (g_zb (b2i c)).bind (fun _ => some (b2i c)) = some (b2i c) from fun c => by cases c <;> rfl], ?_⟩
  unfold pooledR
  simp only [Bool.and_eq_true, decide_eq_true_eq, Bool.true_and, Nat.add_zero]
  constructor
  · rintro ⟨⟨u, v⟩, w⟩; exact ⟨u, v, w⟩
  · rintro ⟨u, v, w⟩; exact ⟨⟨u, v⟩, w⟩
theorem poolV_iff {B : Bk} (hB : B.Ok) {P : Nat → Int32} {m o : Nat} {p : Two} : poolV B P m o p ↔ (Rw B.nk p.1 ∧ Row.sum p.1 ≤ few (leftN B P m)) ∧ (Rw B.nk p.2 ∧ Row.sum p.2 ≤ few (leftN B P o)) ∧ pooledR P m o p := by
  have h3 := hB.nk
  constructor
  · intro h
    have r1 := bothR_Rw h.1
    have r2 := lessR_Rw h.2
    obtain ⟨⟨a1, a2, a3, a4⟩, b1, b2, b3, b4⟩ := h
    refine ⟨⟨r1, a4⟩, ⟨r2, b4⟩, ?_⟩
    simp only [bothR, lessR, mx] at a1 a2 a3 b1 b2 b3
    refine ⟨?_, ?_, ?_⟩
    · split at a1 <;> split at b1 <;> omega
    · split at a2 <;> split at b2 <;> omega
    · split at a3 <;> split at b3 <;> omega
  · rintro ⟨⟨r1, s1⟩, ⟨r2, s2⟩, c1, c2, c3⟩
    obtain ⟨r11, r12, r13⟩ := r1
    obtain ⟨r21, r22, r23⟩ := r2
    refine ⟨⟨?_, ?_, ?_, s1⟩, ?_, ?_, ?_, s2⟩ <;> simp only [bothR, lessR, mx]
    · by_cases q : 0 < B.nk
      · rw [if_pos q, if_pos q]; omega
      · have := r13 (by omega); omega
    · by_cases q : 1 < B.nk
      · rw [if_pos q, if_pos q]; omega
      · have := r12 (by omega); omega
    · by_cases q : 2 < B.nk
      · rw [if_pos q, if_pos q]; omega
      · have := r11 (by omega); omega
    · by_cases q : 0 < B.nk
      · rw [if_pos q, if_pos q]; omega
      · have := r23 (by omega); omega
    · by_cases q : 1 < B.nk
      · rw [if_pos q, if_pos q]; omega
      · have := r22 (by omega); omega
    · by_cases q : 2 < B.nk
      · rw [if_pos q, if_pos q]; omega
      · have := r21 (by omega); omega
end X12

set_option linter.unusedVariables false
set_option linter.unusedSimpArgs false
/-! THE PLAIN LAW: what a growth needs, of the model -/
def NV (B : Bk) (P : Nat → Int32) (m : Nat) (y : Int32) (top : Nat) (r : Row) : Prop := fitV B P m y r ∧ Row.code r < top
/-- the loop's state: the fewest so far lie there -/
abbrev NI (gi : GI) (B : Bk) (m : Nat) (y : Int32) (gj : GI) (f : Int32) (o : Option Row) : Prop := (∀ k, k ≠ 47 → k ≠ 55 → gj 0 k = gi 0 k) ∧ (∀ c, c ≠ 0 → c ≠ 32 → c ≠ 35 → c ≠ 37 → c ≠ 38 → gj c = gi c) ∧ (rowIs gj 38 (mx B (gi 33) m)) ∧ ((o = none ∧ f = -1 ∧ gj 0 55 = 0) ∨ ∃ r, o = some r ∧ f = N (Row.sum r) ∧ gj 0 55 = N B.nk ∧ (∀ i, i < B.nk → gj 37 i = Row.at r i) ∧ Row.sum r ≤ 8)
theorem NI.own {gi : GI} {B : Bk} {m : Nat} {y : Int32} {gj : GI} {f : Int32} {o : Option Row} (h : NI gi B m y gj f o) : ∀ k, k ≠ 47 → k ≠ 55 → gj 0 k = gi 0 k := h.1
theorem NI.cells {gi : GI} {B : Bk} {m : Nat} {y : Int32} {gj : GI} {f : Int32} {o : Option Row} (h : NI gi B m y gj f o) : ∀ c, c ≠ 0 → c ≠ 32 → c ≠ 35 → c ≠ 37 → c ≠ 38 → gj c = gi c := h.2.1
theorem NI.mxr {gi : GI} {B : Bk} {m : Nat} {y : Int32} {gj : GI} {f : Int32} {o : Option Row} (h : NI gi B m y gj f o) : rowIs gj 38 (mx B (gi 33) m) := h.2.2.1
theorem NI.so {gi : GI} {B : Bk} {m : Nat} {y : Int32} {gj : GI} {f : Int32} {o : Option Row} (h : NI gi B m y gj f o) : (o = none ∧ f = -1 ∧ gj 0 55 = 0) ∨ ∃ r, o = some r ∧ f = N (Row.sum r) ∧ gj 0 55 = N B.nk ∧ (∀ i, i < B.nk → gj 37 i = Row.at r i) ∧ Row.sum r ≤ 8 := h.2.2.2
def LN (gi : GI) (B : Bk) (m : Nat) (y : Int32) (n : Nat) (s : Int32 × Int32 × GI) : Prop :=
  (s.1 = 1 ∧ ∃ cur o, n = 1001 - Row.code cur ∧ NI gi B m y s.2.2 s.2.1 o ∧ rowIs s.2.2 35 cur ∧ Row.In (mx B (gi 33) m) (leftN B (gi 33) m) cur ∧ BO Row.key (fun _ => 0) (NV B (gi 33) m y (Row.code cur)) o) ∨
  (s.1 = 0 ∧ n = 0 ∧ ∃ o, NI gi B m y s.2.2 s.2.1 o ∧ BO Row.key (fun _ => 0) (NV B (gi 33) m y 1000) o)
theorem NI.fr {gi : GI} {B : Bk} {m : Nat} {y : Int32} {gj : GI} {f : Int32} {o : Option Row} (h : NI gi B m y gj f o) : Fr gi gj := ⟨h.own 41 (by decide) (by decide), fun c h1 h2 => h.cells c (by omega) (by omega) (by omega) (by omega) (by omega)⟩
theorem NI.all {gi : GI} {B : Bk} {m : Nat} {y : Int32} {gj : GI} {f : Int32} {o : Option Row} (h : NI gi B m y gj f o) : gj 33 = gi 33 := h.cells 33 (by decide) (by decide) (by decide) (by decide) (by decide)
/-- the row at hand goes on -/
theorem needs_next {gi : GI} {B : Bk} (b : MBk gi B) (hP : POk B (gi 33)) {m : Nat} (hm : m < B.nm) {y : Int32} {gj : GI} {f : Int32} {o : Option Row} {cur : Row} (h : NI gi B m y gj f o) (hr : rowIs gj 35 cur) (hin : Row.In (mx B (gi 33) m) (leftN B (gi 33) m) cur) (hb : BO Row.key (fun _ => 0) (NV B (gi 33) m y (Row.code cur + 1)) o) : ∃ s', f_X4_needs_j137 (N m) y gj f = some (.inl s') ∧ ∃ n', n' < 1001 - Row.code cur ∧ LN gi B m y n' s' := by
  have h5 := b.ok.nm
  have hL := leftN_le b.ok (gi 33) m
  have e33 := h.all
  have bj := h.fr.book b
  obtain ⟨c1, c2⟩ := In_code hL hin
  obtain ⟨gk, k1, k2, k3⟩ := m_nextRow (gi := gj) (a := 38) ⟨by decide, rfl, by decide⟩ h.mxr hr (L := leftN B (gi 33) m) (mx_le hP (by omega)) (by omega) (by omega)
  rw [f_X4_needs_j137, m_leftOf bj (by rw [e33]; exact hP) (by omega), Option.bind_some, e33, k1, Option.bind_some]
  refine ⟨_, rfl, ?_⟩
  have hk : NI gi B m y gk f o := by
    refine ⟨fun k v1 v2 => by rw [k3 0 (by decide)]; exact h.own k v1 v2, fun c v1 v2 v3 v4 v5 => by rw [k3 c v3]; exact h.cells c v1 v2 v3 v4 v5, by unfold rowIs; rw [k3 38 (by decide)]; exact h.mxr, ?_⟩
    rw [k3 0 (by decide), k3 37 (by decide)]
    exact h.so
  match hn : nxt (mx B (gi 33) m) (leftN B (gi 33) m) cur with
  | (r', true) =>
    rw [hn] at k2
    obtain ⟨n1, n2, n3⟩ := nxt_true hL hin hn
    refine ⟨1001 - Row.code r', by omega, Or.inl ⟨by simp, r', o, rfl, hk, k2, n1, ?_⟩⟩
    exact BO.congr hb (fun x => ⟨fun q => ⟨q.1, by have := q.2; omega⟩, fun q => ⟨q.1, by have := n3 x q.1.1 q.2; omega⟩⟩)
  | (r', false) =>
    obtain ⟨n1, n2⟩ := nxt_false hL hin hn
    refine ⟨0, by omega, Or.inr ⟨by simp, rfl, o, hk, ?_⟩⟩
    exact BO.congr hb (fun x => ⟨fun q => ⟨q.1, by have := q.2; omega⟩, fun q => ⟨q.1, by have := n2 x q.1.1; omega⟩⟩)
theorem m_needs {gi : GI} {S : St} (r : RM gi S) (o : SOk S) (x y : Int32) : ∃ gi', f_X4_needs gi x y = some ((s_needs S x y).1, gi') ∧ RM gi' (s_needs S x y).2 := by
  have r0 := r.laid0
  have h5 := r.book.ok.nm
  have h3 := r.book.ok.nk
  have bk0 : MBk (g_pi gi 0 55 0) S.B := r0.book
  have a0 : g_pi gi 0 55 0 33 = S.P := r0.all
  rw [f_X4_needs, Option.bind_some, m_isMan bk0, Option.bind_some]
  unfold s_needs
  cases h : asQ x S.B.nm with
  | none => exact ⟨_, rfl, r0⟩
  | some m =>
    obtain ⟨rfl, hm⟩ := asQ_some h
    simp only [Option.isSome_some, if_true]
    rw [if_neg (by decide), m_isIn, in1, Option.bind_some]
    by_cases hy : -20 ≤ y ∧ y ≤ 20
    · rw [if_pos hy, if_neg (by decide), if_pos hy]
      have hP0 : POk S.B (g_pi gi 0 55 0 33) := by rw [a0]; exact o.row.ok
      have hL := leftN_le bk0.ok (g_pi gi 0 55 0 33) m
      obtain ⟨g1, a1, a2, a3⟩ := m_layMost bk0 hP0 (show m < 5 by omega)
      rw [a1, Option.bind_some, m_noRow, Option.bind_some]
      have key := loop_J (body := fun (s : Int32 × Int32 × GI) => f_X4_needs_l40 (N m) y s.1 s.2.1 s.2.2) (LN (g_pi gi 0 55 0) S.B m y) (fun e => ∃ q, NI (g_pi gi 0 55 0) S.B m y e.2 e.1 q ∧ BO Row.key (fun _ => 0) (NV S.B (g_pi gi 0 55 0 33) m y 1000) q) (by
        rintro n ⟨x3, f, gj⟩ (⟨e1, cur, q, e2, hj, hr, hin, hb⟩ | ⟨e1, e2, q, hj, hb⟩)
        · left
          dsimp only at e1 hj hr hb ⊢
          subst e1 e2
          have bj := hj.fr.book bk0
          have e33 := hj.all
          have b4 := (Fr.all gj (lyR S.B m (gj 35) 1 (gj 33))).book bj
          have hat : lyR S.B m (gj 35) 1 (gj 33) = lyR S.B m (Row.at cur) 1 (g_pi gi 0 55 0 33) := by
            rw [e33]; exact layR_same S.B m (fun k hk => hr.at k hk) 1 _
          obtain ⟨g5, k1, k2⟩ := m_growthOf b4 (show m < 5 by omega)
          have ev : growth S.B (va_up gj 33 (lyR S.B m (gj 35) 1 (gj 33)) 33) m = val S.B (g_pi gi 0 55 0 33) m 0 cur := by
            rw [all_get, hat, val, if_pos rfl]
          have b5 := k2.fr.book b4
          have f33 : g5 33 = lyR S.B m (gj 35) 1 (gj 33) := by rw [k2.2 33 (by decide) (by decide), all_get]
          have f35 : g5 35 = gj 35 := by rw [k2.2 35 (by decide) (by decide), all_ne _ _ _ (by decide)]
          have g6 : ∃ g6, f_X4_layRow g5 (N m) (-1) = some g6 ∧ NI (g_pi gi 0 55 0) S.B m y g6 f q ∧ rowIs g6 35 cur := by
            refine ⟨va_up g5 33 (gj 33), by rw [m_layRow b5 hm, f33, f35, layR_back], ⟨?_, ?_, ?_, ?_⟩, ?_⟩
            · intro k v1 v2
              rw [all_ne _ _ _ (by decide), k2.1 k v1, all_ne _ _ _ (by decide)]; exact hj.own k v1 v2
            · intro c v1 v2 v3 v4 v5
              by_cases hc : c = 33
              · subst hc; rw [all_get]; exact e33
              · rw [all_ne _ _ _ hc, k2.2 c v1 v2, all_ne _ _ _ hc]; exact hj.cells c v1 v2 v3 v4 v5
            · unfold rowIs
              rw [all_ne _ _ _ (by decide), k2.2 38 (by decide) (by decide), all_ne _ _ _ (by decide)]; exact hj.mxr
            · rw [all_ne _ _ _ (by decide), all_ne _ _ _ (by decide), k2.1 55 (by decide), k2.2 37 (by decide) (by decide), all_ne _ _ _ (by decide), all_ne _ _ _ (by decide)]; exact hj.so
            · unfold rowIs
              rw [all_ne _ _ _ (by decide), f35]; exact hr
          obtain ⟨g6, l1, l2, l3⟩ := g6
          obtain ⟨c1, c2, c3, c4⟩ := In_code hL hin
          have sum8 : Row.sum cur ≤ 8 := by have := hin.2.2.2; omega
          have hs : g6 35 0 + g6 35 1 + g6 35 2 = N (Row.sum cur) := by
            rw [l3.1, l3.2.1, l3.2.2, N_add, N_add]; rfl
          have ld : ∀ t : Int32, f_X4_needs_j64 (N m) y g5 f t = if t = 0 then f_X4_needs_j137 (N m) y g6 f else if f < 0 then f_X4_needs_j111 (N m) y g6 (N (Row.sum cur)) else if f ≤ N (Row.sum cur) then f_X4_needs_j137 (N m) y g6 f else f_X4_needs_j111 (N m) y g6 (N (Row.sum cur)) := by
            intro t
            rw [f_X4_needs_j64, l1, Option.bind_some, show (0 : Int32) = N 0 from rfl, N_ld (by decide) (by decide), Option.bind_some, show (1 : Int32) = N 1 from rfl, N_ld (by decide) (by decide), Option.bind_some, show (2 : Int32) = N 2 from rfl, N_ld (by decide) (by decide), Option.bind_some, hs]
          -- taken
          have tk : (∀ q', q = some q' → Row.sum cur < Row.sum q') → y ≤ val S.B (g_pi gi 0 55 0 33) m 0 cur → ∃ s', f_X4_needs_j111 (N m) y g6 (N (Row.sum cur)) = some (.inl s') ∧ ∃ n', n' < 1001 - Row.code cur ∧ LN (g_pi gi 0 55 0) S.B m y n' s' := by
            intro hq hv
            have b6 := l2.fr.book bk0
            have hsh := m_showRow b6 (a := 35) (o := 0) ⟨by decide, rfl, by decide⟩ (by decide)
            have hsh : f_X4_showRow g6 35 0 = some (va_up g6 37 (cpo (g6 37) (g6 35) 0 S.B.nk)) := hsh
            have b7 : MBk (va_up g6 37 (cpo (g6 37) (g6 35) 0 S.B.nk)) S.B := (show Fr g6 _ from ⟨by rw [up_ne _ _ _ (by decide)], fun c _ _ => up_ne _ _ _ (by omega)⟩).book b6
            rw [f_X4_needs_j111, hsh, Option.bind_some, m_nk b7, Option.bind_some, Option.bind_some]
            refine needs_next bk0 hP0 hm (o := some cur) ⟨?_, ?_, ?_, Or.inr ⟨cur, rfl, rfl, by simp [pi_get], ?_, sum8⟩⟩ ?_ hin ?_
            · intro k v1 v2
              rw [pi_get, if_neg (by omega), up_ne _ _ _ (by decide)]; exact l2.own k v1 v2
            · intro c v1 v2 v3 v4 v5
              rw [pi_off v1, up_ne _ _ _ v4]; exact l2.cells c v1 v2 v3 v4 v5
            · unfold rowIs
              rw [pi_off (by decide), up_ne _ _ _ (by decide)]; exact l2.mxr
            · intro i hi
              rw [pi_off (by decide), up_same, cpo, if_pos (by omega), Nat.sub_zero]; exact l3.at i (by omega)
            · unfold rowIs
              rw [pi_off (by decide), up_ne _ _ _ (by decide)]; exact l3
            · refine BO.congr (BO.take hb (c := cur) (fun q' hq' => Or.inr ⟨rfl, ?_⟩)) (fun z => ⟨fun w => ?_, fun w => ?_⟩)
              · have hs := hq q' hq'
                subst hq'
                have hm' := (BO.best hb).1
                have c5 := (In_code hL hm'.1.1).1
                unfold Row.key
                omega
              · rcases w with w | w
                · exact ⟨w.1, by have := w.2; omega⟩
                · rw [w]; exact ⟨⟨hin, hv⟩, by omega⟩
              · by_cases e : Row.code z = Row.code cur
                · exact Or.inr (code_inj hL w.1.1 hin e)
                · exact Or.inl ⟨w.1, by have := w.2; omega⟩
          -- passed over, as another is as few
          have sk : ∀ q', q = some q' → Row.sum q' ≤ Row.sum cur → y ≤ val S.B (g_pi gi 0 55 0 33) m 0 cur → ∃ s', f_X4_needs_j137 (N m) y g6 f = some (.inl s') ∧ ∃ n', n' < 1001 - Row.code cur ∧ LN (g_pi gi 0 55 0) S.B m y n' s' := by
            intro q' hq' hs hv
            subst hq'
            have hm' := (BO.best hb).1
            refine needs_next bk0 hP0 hm l2 l3 hin (BO.congr (BO.skip hb (c := cur) (Or.inr ⟨rfl, ?_⟩)) (fun z => ⟨fun w => ?_, fun w => ?_⟩))
            · have := hm'.2
              unfold Row.key
              omega
            · rcases w with w | w
              · exact ⟨w.1, by have := w.2; omega⟩
              · rw [w]; exact ⟨⟨hin, hv⟩, by omega⟩
            · by_cases e : Row.code z = Row.code cur
              · exact Or.inr (code_inj hL w.1.1 hin e)
              · exact Or.inl ⟨w.1, by have := w.2; omega⟩
          rw [f_X4_needs_l40, if_neg (show ¬ ((1 : Int32) = 0) by decide), m_layRow bj hm, Option.bind_some, k1, Option.bind_some]
          dsimp only
          rw [ev]
          by_cases hv : val S.B (g_pi gi 0 55 0 33) m 0 cur < y
          · rw [if_pos hv, ld, if_pos rfl]
            refine needs_next bk0 hP0 hm l2 l3 hin (BO.congr hb (fun z => ⟨fun w => ⟨w.1, by have := w.2; omega⟩, fun w => ⟨w.1, ?_⟩⟩))
            have : Row.code z ≠ Row.code cur := by
              intro e
              have := code_inj hL w.1.1 hin e
              subst this
              exact Int32.not_le.mpr hv w.1.2
            have := w.2
            omega
          · have hv := Int32.not_lt.mp hv
            rw [if_neg (Int32.not_lt.mpr hv), ld, if_neg (by decide)]
            rcases l2.so with ⟨q1, q2, q3⟩ | ⟨rb, q1, q2, q3, q4, q5⟩
            · rw [q2, if_pos (by decide)]
              exact tk (fun q' hq' => by rw [q1] at hq'; cases hq') hv
            · rw [q2, show (0 : Int32) = N 0 from rfl, if_lt (by omega) (by omega), if_neg (by omega), if_le (by omega) (by omega)]
              by_cases w : Row.sum rb ≤ Row.sum cur
              · rw [if_pos w]
                have := sk rb q1 w hv
                rw [q2] at this
                exact this
              · rw [if_neg w]
                exact tk (fun q' hq' => by rw [q1] at hq'; cases hq'; omega) hv
        · right
          dsimp only at e1 hj hb
          subst e1
          exact ⟨(f, gj), rfl, q, hj, hb⟩) (n := 1001) (s := (1, -1, g_pi (g_pi (g_pi g1 35 0 0) 35 1 0) 35 2 0)) (by
        refine Or.inl ⟨rfl, (0, 0, 0), none, rfl, ⟨?_, ?_, ?_, Or.inl ⟨rfl, rfl, ?_⟩⟩, ?_, ?_, ?_⟩
        · intro k _ _
          dsimp only
          rw [pi_off (by decide), pi_off (by decide), pi_off (by decide), a3 0 (by decide)]
        · intro c v1 v2 v3 v4 v5
          dsimp only
          rw [pi_off v3, pi_off v3, pi_off v3, a3 c v5]
        · simpa [rowIs, pi_get] using a2
        · show g_pi (g_pi (g_pi g1 35 0 0) 35 1 0) 35 2 0 0 55 = 0
          rw [pi_off (by decide), pi_off (by decide), pi_off (by decide), a3 0 (by decide)]
          simp [pi_get]
        · simp [rowIs, pi_get]; rfl
        · simp [Row.In, Row.sum]
        · intro z hz
          have := hz.2
          simp [Row.code] at this) (by decide)
      obtain ⟨⟨f, gi'⟩, k1, q, k2, k3⟩ := key
      dsimp only at k2
      rw [k1, Option.bind_some, f_X4_needs_x40]
      have hf : fitRow S.B S.P m y = q := by
        rw [← a0]
        refine theBO_eq (BO.congr k3 (fun z => ⟨fun w => w.1, fun w => ⟨w, (In_code hL w.1).1⟩⟩))
      have fr : ∀ l : Nat, gi' 0 55 = N l → ∀ ff, (∀ i, i < l → gi' 37 i = ff i) → RM gi' ((S.w_laid l).w_lies ff) := by
        intro l hl ff hff
        have rr : RM (va_up (g_pi gi' 0 55 (gi 0 55)) 37 (gi 37)) S := by
          refine MFr.rm ⟨?_, ?_, ?_, ?_⟩ r
          · rw [up_ne _ _ _ (by decide), pi_get, if_neg (by omega), k2.own 41 (by decide) (by decide)]; simp [pi_get]
          · intro c h1 h2
            rw [up_ne _ _ _ (by omega), pi_off (by omega), k2.cells c (by omega) (by omega) (by omega) (by omega) (by omega), pi_off (by omega)]
          · intro k hk
            rw [up_ne _ _ _ (by decide)]
            by_cases q55 : k = 55
            · subst q55; simp [pi_get]
            · rw [pi_get, if_neg (by omega), k2.own k (by omega) q55, pi_get, if_neg (by omega)]
          · intro c hc
            by_cases q37 : c = 37
            · subst q37; rw [up_same]
            · rw [up_ne _ _ _ q37, pi_off (by omega), k2.cells c (by omega) (by omega) (by omega) q37 (by omega), pi_off (by omega)]
        exact rr.lie (fun c h1 h2 => by rw [up_ne _ _ _ h2, pi_off h1]) (fun k hk => by rw [up_ne _ _ _ (by decide), pi_get, if_neg (by omega)]) hl hff
      rw [hf]
      rcases k2.so with ⟨q1, q2, q3⟩ | ⟨rb, q1, q2, q3, q4, q5⟩
      · subst q1 q2
        exact ⟨gi', rfl, fr 0 q3 S.lies (fun i hi => by omega)⟩
      · subst q1 q2
        exact ⟨gi', rfl, fr S.B.nk q3 (Row.at rb) q4⟩
    · rw [if_neg hy, if_pos rfl, if_neg hy]
      exact ⟨_, rfl, r0⟩

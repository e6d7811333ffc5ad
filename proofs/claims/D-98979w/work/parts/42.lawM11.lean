set_option linter.unusedVariables false
set_option linter.unusedSimpArgs false
/-! THE PLAIN LAW: what is asked of the model: rows, weeks ahead -/
theorem m_showRow {gi : GI} {B : Bk} (b : MBk gi B) {a o : Nat} (ha : a < 55 ∧ hkM a = (0, 3) ∧ a ≠ 37) (ho : o + 3 ≤ 8) : f_X4_showRow gi a (N o) = some (va_up gi 37 (cpo (gi 37) (gi a) o B.nk)) := by
  have h3 := b.ok.nk
  have hl : g_loop g_K (fun (s : Int32 × GI) => f_X4_showRow_l2 a (N o) s.1 s.2) (0, gi) = some (va_up gi 37 (cpo (gi 37) (gi a) o B.nk)) := by
    refine loop_T (fun i => (N i, va_up gi 37 (cpo (gi 37) (gi a) o i))) B.nk (by rw [cpo_zero, up_id]; rfl) ?_ ?_ (by simp only [g_K]; omega)
    · intro i hi
      dsimp only
      have bj : MBk (va_up gi 37 (cpo (gi 37) (gi a) o i)) B := (show Fr gi _ from ⟨by rw [up_ne _ _ _ (by decide)], fun c h1 h2 => up_ne _ _ _ (by omega)⟩).book b
      have hld : g_ldP (va_up gi 37 (cpo (gi 37) (gi a) o i)) a (N i) = some (gi a i) := by
        rw [g_ldP, if_pos ⟨ha.1, by rw [ha.2.1]⟩, ha.2.1, N_ld (show i < 3 by omega) (by decide), up_ne _ _ _ ha.2.2]
      rw [f_X4_showRow_l2, m_nk bj, Option.bind_some, if_le (by omega) (by omega), if_neg (by omega), hld, Option.bind_some, N_add, N_st (by omega) (by decide), Option.bind_some, up_pi, cpo_step, show (1 : Int32) = N 1 from rfl, N_add]
    · dsimp only
      have bj : MBk (va_up gi 37 (cpo (gi 37) (gi a) o B.nk)) B := (show Fr gi _ from ⟨by rw [up_ne _ _ _ (by decide)], fun c h1 h2 => up_ne _ _ _ (by omega)⟩).book b
      rw [f_X4_showRow_l2, m_nk bj, Option.bind_some, if_le (by omega) (by omega), if_pos (Nat.le_refl _)]
  rw [f_X4_showRow, hl]; rfl
/-- a row comes to lie there -/
theorem RM.lie {gi gi' : GI} {S : St} (r : RM gi S) {l : Nat} {f : Nat → Int32} (hc : ∀ c, c ≠ 0 → c ≠ 37 → gi' c = gi c) (h0 : ∀ k, k ≠ 55 → gi' 0 k = gi 0 k) (hl : gi' 0 55 = N l) (hf : ∀ i, i < l → gi' 37 i = f i) : RM gi' ((S.w_laid l).w_lies f) := by
  refine ⟨(show Fr gi gi' from ⟨h0 41 (by decide), fun c h1 h2 => hc c (by omega) (by omega)⟩).book r.book, ?_, ?_, ?_, ?_, ?_, ?_, ?_, ?_, hl, hf, ?_, ?_, ?_, ?_, ?_⟩
  · rw [hc 33 (by decide) (by decide)]; exact r.all
  · rw [h0 2 (by decide)]; exact r.taped
  · rw [hc 1 (by decide) (by decide)]; exact r.tape
  · rw [h0 4 (by decide)]; exact r.fk
  · rw [h0 5 (by decide)]; exact r.fp
  · rw [h0 50 (by decide)]; exact r.acts
  · rw [h0 51 (by decide)]; exact r.undone
  · rw [hc 34 (by decide) (by decide)]; exact r.was
  · rw [h0 78 (by decide)]; exact r.ns
  · intro f i hf hi; rw [hc (45 + f) (by omega) (by omega)]; exact r.sg f i hf hi
  · rw [h0 79 (by decide)]; exact r.time
  · rw [hc 53 (by decide) (by decide)]; exact r.box
  · rw [hc 54 (by decide) (by decide)]; exact r.boxed
theorem m_show {gi : GI} {S : St} (r : RM gi S) {w : Row} (hw : rowIs gi 36 w) (x : Int32) : ∃ gi', f_X4_show gi x = some (if x = 0 then gi 0 57 else gi 0 56, gi') ∧ RM gi' ((S.w_laid S.B.nk).w_lies (Row.at w)) := by
  have h3 := r.book.ok.nk
  have b1 : MBk (va_up gi 37 (cpo (gi 37) (gi 36) 0 S.B.nk)) S.B := (show Fr gi _ from ⟨by rw [up_ne _ _ _ (by decide)], fun c h1 h2 => up_ne _ _ _ (by omega)⟩).book r.book
  rw [f_X4_show, show (0 : Int32) = N 0 from rfl, m_showRow r.book ⟨by decide, rfl, by decide⟩ (by decide), Option.bind_some, m_nk b1, Option.bind_some, Option.bind_some]
  have e57 : g_pi (va_up gi 37 (cpo (gi 37) (gi 36) 0 S.B.nk)) 0 55 (N S.B.nk) 0 57 = gi 0 57 := by rw [pi_get, if_neg (by omega), up_ne _ _ _ (by decide)]
  have e56 : g_pi (va_up gi 37 (cpo (gi 37) (gi 36) 0 S.B.nk)) 0 55 (N S.B.nk) 0 56 = gi 0 56 := by rw [pi_get, if_neg (by omega), up_ne _ _ _ (by decide)]
  rw [e57, e56]
  refine ⟨g_pi (va_up gi 37 (cpo (gi 37) (gi 36) 0 S.B.nk)) 0 55 (N S.B.nk), by split <;> rfl, ?_⟩
  refine r.lie (fun c h1 h2 => by rw [pi_off h1, up_ne _ _ _ h2]) (fun k hk => by rw [pi_get, if_neg (by omega), up_ne _ _ _ (by decide)]) (by rw [pi_get, if_pos ⟨rfl, rfl⟩]) ?_
  intro i hi
  rw [pi_off (by decide), up_same]
  unfold cpo
  rw [if_pos (by omega), Nat.sub_zero]
  exact hw.at i (by omega)
theorem bestRow_eq {B : Bk} {P : Nat → Int32} {m : Nat} {aim : Int32} {r : Row} (h : Best Row.key (val B P m aim) (Row.In (mx B P m) (leftN B P m)) r) : bestRow B P m aim = r := theBest_eq h
theorem m_best0 {gi : GI} {S : St} (r : RM gi S) (o : SOk S) {m : Nat} (hm : m < S.B.nm) (y aim : Int32) : ∃ gi' gi'', f_X4_layBest (g_pi gi 0 55 0) (N m) aim = some gi' ∧ f_X4_show gi' y = some (if y = 0 then val S.B S.P m aim (bestRow S.B S.P m aim) else N (Row.sum (bestRow S.B S.P m aim)), gi'') ∧ RM gi'' ((S.w_laid S.B.nk).w_lies (Row.at (bestRow S.B S.P m aim))) := by
  have r0 := r.laid0
  have b0 : MBk (g_pi gi 0 55 0) S.B := r0.book
  obtain ⟨g1, w, a1, a2, a3, a4, a5, a6⟩ := m_layBest b0 (by rw [r0.all]; exact o.row.ok) hm aim
  have e : g_pi gi 0 55 0 33 = S.P := r0.all
  rw [e] at a2 a5
  have hb := bestRow_eq a2
  have r1 := a6.mfr.rm r0
  obtain ⟨g2, b1, b2⟩ := m_show r1 a3 y
  refine ⟨g1, g2, a1, ?_, ?_⟩
  · rw [b1, a4, a5, hb]
  · rw [hb]; exact b2
theorem m_best {gi : GI} {S : St} (r : RM gi S) (o : SOk S) (x y : Int32) : ∃ gi', f_X4_best gi x y = some ((s_best S x y 0).1, gi') ∧ RM gi' (s_best S x y 0).2 := by
  have r0 := r.laid0
  rw [f_X4_best, Option.bind_some, m_isMan r0.book, Option.bind_some]
  unfold s_best
  show ∃ gi', (if (if (asQ x S.B.nm).isSome = true then (1 : Int32) else 0) = 0 then _ else _) = _ ∧ _
  cases h : asQ x S.B.nm with
  | none => exact ⟨_, rfl, r0⟩
  | some m =>
    obtain ⟨rfl, hm⟩ := asQ_some h
    simp only [Option.isSome_some, if_true]
    rw [if_neg (by decide), m_isIn, in01, Option.bind_some]
    by_cases hy : y = 0 ∨ y = 1
    · obtain ⟨g1, g2, a1, a2, a3⟩ := m_best0 r o hm y 0
      rw [if_pos hy, if_neg (by decide), if_pos hy, a1, Option.bind_some, a2]
      exact ⟨g2, rfl, a3⟩
    · rw [if_neg hy, if_pos rfl, if_neg hy]
      exact ⟨_, rfl, r0⟩
theorem m_good {gi : GI} {S : St} (r : RM gi S) (o : SOk S) (x y : Int32) : ∃ gi', f_X4_good gi x y = some ((s_best S x y 1).1, gi') ∧ RM gi' (s_best S x y 1).2 := by
  have r0 := r.laid0
  rw [f_X4_good, Option.bind_some, m_isMan r0.book, Option.bind_some]
  unfold s_best
  show ∃ gi', (if (if (asQ x S.B.nm).isSome = true then (1 : Int32) else 0) = 0 then _ else _) = _ ∧ _
  cases h : asQ x S.B.nm with
  | none => exact ⟨_, rfl, r0⟩
  | some m =>
    obtain ⟨rfl, hm⟩ := asQ_some h
    simp only [Option.isSome_some, if_true]
    rw [if_neg (by decide), m_isIn, in01, Option.bind_some]
    by_cases hy : y = 0 ∨ y = 1
    · obtain ⟨g1, g2, a1, a2, a3⟩ := m_best0 r o hm y 1
      rw [if_pos hy, if_neg (by decide), if_pos hy, a1, Option.bind_some, a2]
      exact ⟨g2, rfl, a3⟩
    · rw [if_neg hy, if_pos rfl, if_neg hy]
      exact ⟨_, rfl, r0⟩
theorem m_leaks {gi : GI} {S : St} (r : RM gi S) (o : SOk S) (x : Int32) : ∃ gi', f_X4_leaks gi x = some (q_leaks S x, gi') ∧ RM gi' S := by
  have h5 := r.book.ok.nm
  rw [f_X4_leaks, m_isMan r.book, Option.bind_some]
  unfold q_leaks
  cases h : asQ x S.B.nm with
  | none => exact ⟨gi, rfl, r⟩
  | some m =>
    obtain ⟨rfl, hm⟩ := asQ_some h
    simp only [Option.isSome_some, if_true]
    rw [if_neg (by decide)]
    obtain ⟨g1, w, a1, a2, a3, a4, a5, a6⟩ := m_layBest r.book (by rw [r.all]; exact o.row.ok) hm 0
    rw [r.all] at a2
    have hb := bestRow_eq a2
    have r1 := a6.mfr.rm r
    obtain ⟨g2, b1, b2⟩ := m_growths r1.book
    have r2 := b2.mfr.rm r1
    obtain ⟨g3, c1, c2⟩ := m_growthOf r2.book (show m < 5 by omega)
    have r3 := c2.mfr.rm r2
    have e36 : g3 36 = g1 36 := by rw [c2.2 36 (by decide) (by decide), b2.2 36 (by decide) (by decide)]
    have d1 := m_layBestRow r3.book hm 1
    have er : ∀ (v : Int32) (P : Nat → Int32), lyR S.B m (g3 36) v P = lyR S.B m (Row.at (bestRow S.B S.P m 0)) v P := fun v P => layR_same S.B m (fun k hk => by rw [e36, hb]; exact a3.at k hk) v P
    rw [er, r3.all] at d1
    have r4 := r3.row (lyR S.B m (Row.at (bestRow S.B S.P m 0)) 1 S.P)
    have b4 : MBk _ S.B := r4.book
    obtain ⟨g5, f1, f2⟩ := m_growths b4
    have r5 := f2.mfr.rm r4
    have b5 : MBk _ S.B := r5.book
    obtain ⟨g6, q1, q2⟩ := m_growthOf b5 (show m < 5 by omega)
    have r6 := q2.mfr.rm r5
    have b6 : MBk _ S.B := r6.book
    have d2 := m_layBestRow b6 hm (-1)
    have e36' : g6 36 = g3 36 := by rw [q2.2 36 (by decide) (by decide), f2.2 36 (by decide) (by decide), up_ne _ _ _ (by decide)]
    rw [e36', er, r6.all] at d2
    have e6 : ((S.w_P (lyR S.B m (Row.at (bestRow S.B S.P m 0)) 1 S.P))).P = lyR S.B m (Row.at (bestRow S.B S.P m 0)) 1 S.P := rfl
    rw [e6, layR_back] at d2
    have s1 := r1.all
    have s2 := r2.all
    have s4 : va_up g3 33 (lyR S.B m (Row.at (bestRow S.B S.P m 0)) 1 S.P) 33 = lyR S.B m (Row.at (bestRow S.B S.P m 0)) 1 S.P := up_same _ _ _
    have s5 : g5 33 = lyR S.B m (Row.at (bestRow S.B S.P m 0)) 1 S.P := r5.all
    rw [s1] at b1
    rw [s2] at c1
    rw [s4] at f1
    rw [s5] at q1
    rw [a1, Option.bind_some, b1, Option.bind_some]
    simp only [c1, Option.bind_some, d1]
    rw [f1, Option.bind_some]
    simp only [q1, Option.bind_some, d2]
    exact ⟨_, rfl, r6.row S.P⟩
theorem m_keepNow (gi : GI) : f_X4_keepNow gi = some (va_up gi 42 (cpo (gi 42) (gi 33) 0 42)) := by
  have hl := loop_copy (body := fun (s : Int32 × GI) => f_X4_keepNow_l2 s.1 s.2) (gi := gi) (c := 42) (off := 0) (n := 42) (src := gi 33) (by decide) (by
    intro i gj hi hg
    show f_X4_keepNow_l2 (N i) gj = _
    rw [f_X4_keepNow_l2, show (42 : Int32) = N 42 from rfl, if_le (by omega) (by omega), if_neg (by omega), N_ld hi (by decide), Option.bind_some, N_st hi (by decide), Option.bind_some, hg 33 (by decide), show (1 : Int32) = N 1 from rfl, N_add, Nat.zero_add]) (fun gj => rfl)
  rw [f_X4_keepNow, hl]; rfl
theorem m_bringBack (gi : GI) : f_X4_bringBack gi = some (va_up gi 33 (cpo (gi 33) (gi 42) 0 42)) := by
  have hl := loop_copy (body := fun (s : Int32 × GI) => f_X4_bringBack_l2 s.1 s.2) (gi := gi) (c := 33) (off := 0) (n := 42) (src := gi 42) (by decide) (by
    intro i gj hi hg
    show f_X4_bringBack_l2 (N i) gj = _
    rw [f_X4_bringBack_l2, show (42 : Int32) = N 42 from rfl, if_le (by omega) (by omega), if_neg (by omega), N_ld hi (by decide), Option.bind_some, N_st hi (by decide), Option.bind_some, hg 42 (by decide), show (1 : Int32) = N 1 from rfl, N_add, Nat.zero_add]) (fun gj => rfl)
  rw [f_X4_bringBack, hl]; rfl

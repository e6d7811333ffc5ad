set_option linter.unusedVariables false
set_option linter.unusedSimpArgs false
/-! THE PLAIN LAW: weeks ahead, of the model -/
def spendR (P : Nat → Int32) (m : Nat) (f : Nat → Int32) : Nat → Int32 := add (add (add P (3 * m) (-(f 0))) (3 * m + 1) (-(f 1))) (3 * m + 2) (-(f 2))
theorem spendR_get (P : Nat → Int32) (m : Nat) (f : Nat → Int32) (j : Nat) : spendR P m f j = if j = 3 * m then P j - f 0 else if j = 3 * m + 1 then P j - f 1 else if j = 3 * m + 2 then P j - f 2 else P j := by
  unfold spendR
  rw [add_get, add_get, add_get]
  by_cases h0 : j = 3 * m
  · rw [if_pos h0, if_neg (show ¬ j = 3 * m + 1 by omega), if_neg (show ¬ j = 3 * m + 2 by omega), if_pos h0, Int32.add_zero, Int32.add_zero, Int32.sub_eq_add_neg]
  · rw [if_neg h0, if_neg h0]
    by_cases h1 : j = 3 * m + 1
    · rw [if_pos h1, if_neg (show ¬ j = 3 * m + 2 by omega), if_pos h1, Int32.add_zero, Int32.add_zero, Int32.sub_eq_add_neg]
    · rw [if_neg h1, if_neg h1]
      by_cases h2 : j = 3 * m + 2
      · rw [if_pos h2, if_pos h2, Int32.add_zero, Int32.add_zero, Int32.sub_eq_add_neg]
      · rw [if_neg h2, if_neg h2, Int32.add_zero, Int32.add_zero, Int32.add_zero]
theorem spendR_ok {B : Bk} (hB : B.Ok) {P : Nat → Int32} (h : POk B P) {m : Nat} (hm : m < B.nm) {L : Nat} {r : Row} (hin : Row.In (mx B P m) L r) : POk B (lyR B m (Row.at r) 1 (spendR P m (Row.at r))) ∧ ∀ j, 35 ≤ j → lyR B m (Row.at r) 1 (spendR P m (Row.at r)) j = P j := by
  have h5 := hB.nm
  have hw := In_Rw hin
  have hi := ((In_iff hw).mp hin).1
  have off : ∀ j, j < 20 ∨ 35 ≤ j → lyR B m (Row.at r) 1 (spendR P m (Row.at r)) j = spendR P m (Row.at r) j := fun j hj => layR_off B m hm h5 _ _ _ j hj
  have far : ∀ j, 15 ≤ j → spendR P m (Row.at r) j = P j := fun j hj => by rw [spendR_get, if_neg (by omega), if_neg (by omega), if_neg (by omega)]
  refine ⟨⟨?_, ?_, ?_, ?_, ?_, ?_⟩, fun j hj => (off j (by omega)).trans (far j (by omega))⟩
  · intro j hj
    rw [off j (by omega), spendR_get]
    obtain ⟨v1, v2⟩ := h.pu (show 3 * m < 15 by omega)
    obtain ⟨u1, u2⟩ := h.pu (show 3 * m + 1 < 15 by omega)
    obtain ⟨t1, t2⟩ := h.pu (show 3 * m + 2 < 15 by omega)
    by_cases q0 : j = 3 * m
    · rw [if_pos q0, q0, v1]
      exact ⟨pn P (3 * m) - r.1, by omega, N_sub hi.1⟩
    · rw [if_neg q0]
      by_cases q1 : j = 3 * m + 1
      · rw [if_pos q1, q1, u1]
        exact ⟨pn P (3 * m + 1) - r.2.1, by omega, N_sub hi.2.1⟩
      · rw [if_neg q1]
        by_cases q2 : j = 3 * m + 2
        · rw [if_pos q2, q2, t1]
          exact ⟨pn P (3 * m + 2) - r.2.2, by omega, N_sub hi.2.2⟩
        · rw [if_neg q2]; exact h.purse j hj
  · intro k hk
    rw [off _ (by omega), far _ (by omega)]; exact h.spent k hk
  · exact lyR_over0 hw (fun m' k h1 h2 h3 => by rw [far _ (by omega)]; exact h.over0 m' k h1 h2 h3)
  · intro k hk
    rw [off _ (by omega), far _ (by omega)]; exact h.crop k hk
  · rw [off _ (by omega), far _ (by omega)]; exact h.week
  · rw [off _ (by omega), far _ (by omega)]; exact h.seed
theorem RM.back {gi g' : GI} {S : St} (r : RM g' (S.w_P (g' 33))) (h42 : ∀ j, j < 42 → g' 42 j = S.P j) (hbig : ∀ j, 42 ≤ j → g' 33 j = S.P j) : RM (va_up g' 33 (cpo (g' 33) (g' 42) 0 42)) S := by
  have e : cpo (g' 33) (g' 42) 0 42 = S.P := by
    funext j
    unfold cpo
    by_cases hj : j < 42
    · rw [if_pos (by omega), Nat.sub_zero, h42 j hj]
    · rw [if_neg (by omega), hbig j (by omega)]
  rw [e]
  exact r.row S.P
theorem m_will {gi : GI} {S : St} (r : RM gi S) (o : SOk S) (x y : Int32) : ∃ gi', f_X4_will gi x y = some (q_will S x y, gi') ∧ RM gi' S := by
  have h5 := r.book.ok.nm
  rw [f_X4_will, m_isMan r.book, Option.bind_some]
  unfold q_will
  cases h : asQ x S.B.nm with
  | none => exact ⟨gi, rfl, r⟩
  | some m =>
    obtain ⟨rfl, hm⟩ := asQ_some h
    simp only [Option.isSome_some, if_true]
    rw [if_neg (by decide), m_isIn, show (30 : Int32) = N 31 - 1 from rfl, isIn_asQ y (by decide), Option.bind_some]
    cases g : asQ y 31 with
    | none => exact ⟨gi, rfl, r⟩
    | some n =>
      obtain ⟨rfl, hn⟩ := asQ_some g
      simp only [Option.isSome_some, if_true]
      rw [if_neg (by decide), m_keepNow, Option.bind_some]
      obtain ⟨w, w1, w2⟩ := o.row.week
      have fr0 : MFr gi (va_up gi 42 (cpo (gi 42) (gi 33) 0 42)) := ⟨by rw [up_ne _ _ _ (by decide)], fun c _ _ => up_ne _ _ _ (by omega), fun k _ => by rw [up_ne _ _ _ (by decide)], fun c hc => up_ne _ _ _ (by omega)⟩
      have e42 : ∀ j, j < 42 → va_up gi 42 (cpo (gi 42) (gi 33) 0 42) 42 j = S.P j := fun j hj => by
        rw [up_same]; unfold cpo; rw [if_pos (by omega), r.all, Nat.sub_zero]
      have r0 := fr0.rm r
      generalize va_up gi 42 (cpo (gi 42) (gi 33) 0 42) = g0 at r0 e42
      obtain ⟨g1, a1, a2, a3⟩ := loop_J (body := fun (s : Int32 × GI) => f_X4_will_l26 (N m) (N n) s.1 s.2) (fun k s => ∃ i, k = n - i ∧ i ≤ n ∧ s.1 = N i ∧ RM s.2 (S.w_P (weeks S.B S.P i)) ∧ s.2 42 = g0 42) (fun g1 => RM g1 (S.w_P (weeks S.B S.P n)) ∧ g1 42 = g0 42) (by
        rintro k ⟨q, gj⟩ ⟨i, i0, i1, i2, i3, i4⟩
        dsimp only at i2 i3 i4 ⊢
        subst i2
        rw [f_X4_will_l26, if_le (by omega) (by omega)]
        by_cases hi : i = n
        · right
          subst hi
          exact ⟨gj, if_pos (Nat.le_refl _), i3, i4⟩
        · left
          have bj : MBk gj S.B := i3.book
          have pj : gj 33 = weeks S.B S.P i := i3.all
          obtain ⟨k1, k2, k3⟩ := weeks_ok o.bok o.row.ok w2 i (by omega)
          obtain ⟨g', c1, c2, c3⟩ := m_goWeek bj (by rw [pj]; exact k1.seed)
          rw [if_neg (by omega), c1, Option.bind_some]
          refine ⟨_, rfl, n - (i + 1), by omega, i + 1, rfl, by omega, N_add i 1, ?_, ?_⟩
          · have := c3.mfr.rm (i3.row (g' 33))
            rw [c2, pj] at this
            exact this
          · rw [← i4]
            show g' 42 = gj 42
            rw [c3.2 42 (by decide) (by decide), up_ne _ _ _ (by decide)]) (n := n) (s := (0, g0)) ⟨0, by omega, by omega, rfl, r0, rfl⟩ (by simp only [g_K]; omega)
      have p1 : g1 33 = weeks S.B S.P n := a2.all
      rw [a1, Option.bind_some, f_X4_will_x26, show (15 : Int32) = N 15 from rfl, N_add, N_ld (by omega) (by decide), Option.bind_some, m_bringBack, Option.bind_some, p1]
      refine ⟨_, rfl, ?_⟩
      have hb := (weeks_ok o.bok o.row.ok w2 n (by omega)).2.2
      rw [← p1]
      exact RM.back (gi := g1) (by rw [p1]; exact a2) (fun j hj => by rw [a3]; exact e42 j hj) (fun j hj => by rw [p1, hb j hj])
theorem m_thrive {gi : GI} {S : St} (r : RM gi S) (o : SOk S) (x y : Int32) : ∃ gi', f_X4_thrive gi x y = some (q_thrive S x y, gi') ∧ RM gi' S := by
  have h5 := r.book.ok.nm
  rw [f_X4_thrive, m_isMan r.book, Option.bind_some]
  unfold q_thrive
  cases h : asQ x S.B.nm with
  | none => exact ⟨gi, rfl, r⟩
  | some m =>
    obtain ⟨rfl, hm⟩ := asQ_some h
    simp only [Option.isSome_some, if_true]
    rw [if_neg (by decide), m_isIn, show (12 : Int32) = N 13 - 1 from rfl, isIn_asQ y (by decide), Option.bind_some]
    cases g : asQ y 13 with
    | none => exact ⟨gi, rfl, r⟩
    | some n =>
      obtain ⟨rfl, hn⟩ := asQ_some g
      simp only [Option.isSome_some, if_true]
      rw [if_neg (by decide), m_keepNow, Option.bind_some]
      obtain ⟨w, w1, w2⟩ := o.row.week
      have fr0 : MFr gi (va_up gi 42 (cpo (gi 42) (gi 33) 0 42)) := ⟨by rw [up_ne _ _ _ (by decide)], fun c _ _ => up_ne _ _ _ (by omega), fun k _ => by rw [up_ne _ _ _ (by decide)], fun c hc => up_ne _ _ _ (by omega)⟩
      have e42 : ∀ j, j < 42 → va_up gi 42 (cpo (gi 42) (gi 33) 0 42) 42 j = S.P j := fun j hj => by
        rw [up_same]; unfold cpo; rw [if_pos (by omega), r.all, Nat.sub_zero]
      have r0 := fr0.rm r
      generalize va_up gi 42 (cpo (gi 42) (gi 33) 0 42) = g0 at r0 e42
      obtain ⟨g1, a1, a2, a3, a4⟩ := loop_J (body := fun (s : Int32 × GI) => f_X4_thrive_l26 (N m) (N n) s.1 s.2) (fun k s => ∃ i, k = n - i ∧ i ≤ n ∧ s.1 = N i ∧ RM s.2 (S.w_P (thriveP S.B m S.P i)) ∧ s.2 42 = g0 42 ∧ POk S.B (thriveP S.B m S.P i) ∧ thriveP S.B m S.P i 40 = N (w + i) ∧ ∀ j, 42 ≤ j → thriveP S.B m S.P i j = S.P j) (fun g1 => RM g1 (S.w_P (thriveP S.B m S.P n)) ∧ g1 42 = g0 42 ∧ ∀ j, 42 ≤ j → thriveP S.B m S.P n j = S.P j) (by
        rintro k ⟨q, gj⟩ ⟨i, i0, i1, i2, i3, i4, i5, i6, i7⟩
        dsimp only at i2 i3 i4 ⊢
        subst i2
        rw [f_X4_thrive_l26, if_le (by omega) (by omega)]
        by_cases hi : i = n
        · right
          subst hi
          exact ⟨gj, if_pos (Nat.le_refl _), i3, i4, i7⟩
        · left
          have bj : MBk gj S.B := i3.book
          have pj : gj 33 = thriveP S.B m S.P i := i3.all
          obtain ⟨g2, v, b1, b2, b3, b4, b5, b6⟩ := m_layBest bj (by rw [pj]; exact i5) hm 0
          rw [pj] at b2
          have hb := bestRow_eq b2
          have r2 := b6.mfr.rm i3
          have d1 := m_layBestRow (show MBk g2 S.B from r2.book) hm 1
          have er : ∀ P, lyR S.B m (g2 36) 1 P = lyR S.B m (Row.at v) 1 P := fun P => layR_same S.B m (fun k hk => b3.at k hk) 1 P
          have p2 : g2 33 = thriveP S.B m S.P i := r2.all
          rw [er, p2] at d1
          rw [if_neg (by omega), b1, Option.bind_some, d1, Option.bind_some]
          -- the purse pays
          have st : ∀ (P : Nat → Int32) (k : Nat), k < 3 → f_X4_thrive_l46 (N m) (N n) (N i) (N k) (va_up g2 33 P) = some (.inl (N (k + 1), va_up g2 33 (add P (3 * m + k) (-(Row.at v k))))) := by
            intro P k hk3
            rw [f_X4_thrive_l46, show (3 : Int32) = N 3 from rfl, if_le (by omega) (by omega), if_neg (by omega), show (0 : Int32) = N 0 from rfl, N_mul, N_add, N_add, Nat.zero_add, N_ld (by omega) (by decide), Option.bind_some, N_ld hk3 (by decide), Option.bind_some, N_st (by omega) (by decide), Option.bind_some, up_pi, up_same, up_ne _ _ _ (by decide), show (1 : Int32) = N 1 from rfl, N_add, b3.at k hk3, Int32.sub_eq_add_neg]
            rfl
          rw [lp_3 (body := fun (s : Int32 × GI) => f_X4_thrive_l46 (N m) (N n) (N i) s.1 s.2) (s0 := (0, va_up g2 33 (lyR S.B m (Row.at v) 1 (thriveP S.B m S.P i)))) (st _ 0 (by decide)) (st _ 1 (by decide)) (st _ 2 (by decide)) rfl, Option.bind_some, f_X4_thrive_x46]
          have ecomm : add (add (add (lyR S.B m (Row.at v) 1 (thriveP S.B m S.P i)) (3 * m + 0) (-(Row.at v 0))) (3 * m + 1) (-(Row.at v 1))) (3 * m + 2) (-(Row.at v 2)) = lyR S.B m (Row.at v) 1 (spendR (thriveP S.B m S.P i) m (Row.at v)) := by
            funext j
            unfold spendR
            simp only [add_get, layR_dl, Nat.add_zero]
            grind
          rw [ecomm]
          obtain ⟨k1, k2⟩ := spendR_ok o.bok i5 hm b2.1
          have r3 := r2.row (lyR S.B m (Row.at v) 1 (spendR (thriveP S.B m S.P i) m (Row.at v)))
          obtain ⟨g', c1, c2, c3⟩ := m_goWeek (show MBk _ S.B from r3.book) (by rw [up_same]; exact k1.seed)
          rw [up_same] at c1 c2
          rw [c1, Option.bind_some]
          obtain ⟨y1, y2, y3⟩ := weekP_ok o.bok k1 (w := w + i) (by omega) (by rw [k2 40 (by decide)]; exact i6)
          have eth : thriveP S.B m S.P (i + 1) = weekP S.B (lyR S.B m (Row.at v) 1 (spendR (thriveP S.B m S.P i) m (Row.at v))) := by
            rw [← hb]; rfl
          refine ⟨_, rfl, n - (i + 1), by omega, i + 1, rfl, by omega, N_add i 1, ?_, ?_, ?_, ?_, ?_⟩
          · have := c3.mfr.rm (r3.row (g' 33))
            rw [c2] at this
            rw [eth]
            exact this
          · rw [← i4]
            show g' 42 = gj 42
            rw [c3.2 42 (by decide) (by decide), up_ne _ _ _ (by decide), up_ne _ _ _ (by decide), b6.2 42 (by decide) (by decide) (by decide) (by decide) (by decide)]
          · rw [eth]; exact y1
          · rw [eth, y2]; rfl
          · intro j hj
            rw [eth, y3 j hj, k2 j (by omega), i7 j hj]) (n := n) (s := (0, g0)) ⟨0, by omega, by omega, rfl, r0, rfl, o.row.ok, w2, fun _ _ => rfl⟩ (by simp only [g_K]; omega)
      have p1 : g1 33 = thriveP S.B m S.P n := a2.all
      rw [a1, Option.bind_some, f_X4_thrive_x26, show (15 : Int32) = N 15 from rfl, N_add, N_ld (by omega) (by decide), Option.bind_some, m_bringBack, Option.bind_some, p1]
      refine ⟨_, rfl, ?_⟩
      rw [← p1]
      exact RM.back (gi := g1) (by rw [p1]; exact a2) (fun j hj => by rw [a3]; exact e42 j hj) (fun j hj => by rw [p1, a4 j hj])

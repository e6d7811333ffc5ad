set_option linter.unusedVariables false
set_option linter.unusedSimpArgs false
/-! THE PLAIN LAW: what is asked of the model: saves, the richest, the gulf, the most -/
theorem m_saves {gi : GI} {S : St} (r : RM gi S) (x y z : Int32) : f_X4_saves gi x y z = some (q_saves S x y z) := by
  have h5 := r.book.ok.nm
  have h3 := r.book.ok.nk
  rw [f_X4_saves, m_isMan r.book, Option.bind_some]
  unfold q_saves
  cases h : asQ x S.B.nm with
  | none => rfl
  | some m =>
    obtain ⟨rfl, hm⟩ := asQ_some h
    simp only [Option.isSome_some, if_true]
    rw [if_neg (by decide), m_isKind r.book, Option.bind_some]
    cases g : asQ y S.B.nk with
    | none => rfl
    | some k =>
      obtain ⟨rfl, hk⟩ := asQ_some g
      simp only [Option.isSome_some, if_true]
      rw [if_neg (by decide), m_isIn, in1, Option.bind_some]
      by_cases hz : 0 ≤ z ∧ z ≤ 99
      · rw [if_pos hz, if_neg (by decide), if_pos hz, m_inP gi (by omega) (by omega), Option.bind_some, r.all]
        have st : ∀ i, i < 61 → f_X4_saves_l39 gi (N m) (N k) z (S.P (3 * m + k) + N i * S.B.pay m k) (N i) = if z ≤ S.P (3 * m + k) + N i * S.B.pay m k then some (.inr (.inr (N i))) else some (.inl (S.P (3 * m + k) + N (i + 1) * S.B.pay m k, N (i + 1))) := by
          intro i hi
          rw [f_X4_saves_l39, show (60 : Int32) = N 60 from rfl, if_lt (by omega) (by omega), if_neg (by omega)]
          by_cases q : z ≤ S.P (3 * m + k) + N i * S.B.pay m k
          · rw [if_pos q, if_neg (Int32.not_lt.mpr q)]
          · rw [if_neg q, if_pos (Int32.not_le.mp q), m_payOf r.book hm (by omega), Option.bind_some, show (1 : Int32) = N 1 from rfl, N_add]
            congr 3
            rw [← N_add i 1]
            show _ + _ + _ = _ + (N i + 1) * _
            grind
        have s0 : (S.P (3 * m + k), (0 : Int32)) = (S.P (3 * m + k) + N 0 * S.B.pay m k, N 0) := by
          congr 1
          rw [show N 0 = 0 from rfl, Int32.zero_mul, Int32.add_zero]
        cases hf : firstN (fun n => decide (z ≤ S.P (3 * m + k) + N n * S.B.pay m k)) 61 with
        | some i =>
          obtain ⟨f1, f2, f3⟩ := firstN_some hf
          have hl : g_loop g_K (fun (s : Int32 × Int32) => f_X4_saves_l39 gi (N m) (N k) z s.1 s.2) (S.P (3 * m + k), 0) = some (.inr (N i)) := by
            refine loop_T (fun j => (S.P (3 * m + k) + N j * S.B.pay m k, N j)) i s0 ?_ ?_ (by simp only [g_K]; omega)
            · intro j hj
              dsimp only
              rw [st j (by omega), if_neg]
              intro c
              have := f3 j hj
              simp [c] at this
            · dsimp only
              rw [st i f1, if_pos (by simpa using f2)]
          rw [hl]; rfl
        | none =>
          have f3 := firstN_none hf
          have hl : g_loop g_K (fun (s : Int32 × Int32) => f_X4_saves_l39 gi (N m) (N k) z s.1 s.2) (S.P (3 * m + k), 0) = some (.inl ()) := by
            refine loop_T (fun j => (S.P (3 * m + k) + N j * S.B.pay m k, N j)) 61 s0 ?_ ?_ (by decide)
            · intro j hj
              dsimp only
              rw [st j (by omega), if_neg]
              intro c
              have := f3 j hj
              simp [c] at this
            · dsimp only
              rw [f_X4_saves_l39, if_pos (by decide)]
          rw [hl]; rfl
      · rw [if_neg hz, if_pos rfl, if_neg hz]
theorem richN_lt {P : Nat → Int32} : ∀ {n b : Nat}, richN P n = some b → b < n
  | 0, _ => fun h => by cases h
  | n + 1, b => fun h => by
    rw [richN] at h
    cases hq : richN P n with
    | none => rw [hq] at h; cases h; omega
    | some c =>
      rw [hq] at h
      have := richN_lt hq
      dsimp only at h
      split at h <;> cases h <;> omega
theorem richN_some {P : Nat → Int32} : ∀ n, richN P (n + 1) ≠ none := by
  intro n h
  rw [richN] at h
  cases hq : richN P n with
  | none => rw [hq] at h; cases h
  | some c =>
    rw [hq] at h
    dsimp only at h
    split at h <;> cases h
theorem m_sum0 (gi : GI) {m : Nat} (hm : m < 5) : f_X4_sumOf gi 0 (N m) = some (sum3 (gi 33) (3 * m)) := by
  have := m_sumOf gi (o := 0) (m := m) (by omega)
  rw [Nat.zero_add] at this
  exact this
theorem m_richest {gi : GI} {S : St} (r : RM gi S) : f_X4_richest gi = some (q_richest S) := by
  have h5 := r.book.ok.nm
  have hl : g_loop g_K (fun (s : Int32 × Int32) => f_X4_richest_l4 gi s.1 s.2) (-1, 0) = some (asI (richN S.P S.B.nm)) := by
    refine loop_T (fun i => (asI (richN S.P i), N i)) S.B.nm rfl ?_ ?_ (by simp only [g_K]; omega)
    · intro i hi
      dsimp only
      rw [f_X4_richest_l4, m_many r.book, Option.bind_some, if_le (by omega) (by omega), if_neg (by omega), show (1 : Int32) = N 1 from rfl, N_add, richN]
      cases hq : richN S.P i with
      | none => rfl
      | some b =>
        have hb := richN_lt hq
        rw [show asI (some b) = N b from rfl]
        have hz : ¬ (N b < (0 : Int32)) := by rw [show (0 : Int32) = N 0 from rfl, N_lt (by omega) (by omega)]; omega
        rw [if_neg hz]
        show ((f_X4_sumOf gi 0 (N i)).bind fun q2 => (f_X4_sumOf gi 0 (N b)).bind fun q3 => if q2 ≤ q3 then some (Sum.inl (N b, N (i + 1))) else some (Sum.inl (N i, N (i + 1))) : Option ((Int32 × Int32) ⊕ Int32)) = _
        rw [m_sum0 gi (by omega), Option.bind_some, m_sum0 gi (by omega), Option.bind_some, r.all]
        by_cases q : sum3 S.P (3 * b) < sum3 S.P (3 * i)
        · rw [if_neg (Int32.not_le.mpr q)]
          simp only [if_pos q]; rfl
        · rw [if_pos (Int32.not_lt.mp q)]
          simp only [if_neg q]; rfl
    · dsimp only
      rw [f_X4_richest_l4, m_many r.book, Option.bind_some, if_le (by omega) (by omega), if_pos (Nat.le_refl _)]
  rw [f_X4_richest, hl]; rfl
theorem m_gulf {gi : GI} {S : St} (r : RM gi S) : f_X4_gulf gi = some (q_gulf S) := by
  have h5 := r.book.ok.nm
  rw [f_X4_gulf, m_many r.book, Option.bind_some, show (0 : Int32) = N 0 from rfl, if_eq (by omega) (by omega)]
  unfold q_gulf
  by_cases h0 : S.B.nm = 0
  · rw [if_pos h0, h0]; rfl
  · rw [if_neg h0]
    have hl : g_loop g_K (fun (s : Int32 × Int32) => f_X4_gulf_l18 gi s.1 s.2) (sum3 S.P 0, 0) = some (poorN S.P S.B.nm) := by
      refine loop_T (fun i => (poorN S.P i, N i)) S.B.nm rfl ?_ ?_ (by simp only [g_K]; omega)
      · intro i hi
        dsimp only
        rw [f_X4_gulf_l18, m_many r.book, Option.bind_some, if_le (by omega) (by omega), if_neg (by omega), m_sum0 gi (by omega), Option.bind_some, m_lesser, Option.bind_some, show (1 : Int32) = N 1 from rfl, N_add, r.all]; rfl
      · dsimp only
        rw [f_X4_gulf_l18, m_many r.book, Option.bind_some, if_le (by omega) (by omega), if_pos (Nat.le_refl _)]
    show (f_X4_sumOf gi 0 (N 0)).bind _ = _
    rw [m_sum0 gi (by omega), Option.bind_some, r.all]
    show ((g_loop g_K (fun (s : Int32 × Int32) => f_X4_gulf_l18 gi s.1 s.2) (sum3 S.P 0, 0)).bind fun E18 => f_X4_gulf_x18 gi E18) = _
    rw [hl, Option.bind_some, f_X4_gulf_x18, m_richest r, Option.bind_some]
    unfold q_richest
    cases hq : richN S.P S.B.nm with
    | none =>
      obtain ⟨n, hn⟩ : ∃ n, S.B.nm = n + 1 := ⟨S.B.nm - 1, by omega⟩
      rw [hn] at hq
      exact absurd hq (richN_some n)
    | some b =>
      have hb := richN_lt hq
      dsimp only [asI]
      rw [m_sum0 gi (by omega), Option.bind_some, r.all]
theorem mostN_lt {P : Nat → Int32} {m : Nat} : ∀ {n b : Nat}, mostN P m n = some b → b < n
  | 0, _ => fun h => by cases h
  | n + 1, b => fun h => by
    rw [mostN] at h
    cases hq : mostN P m n with
    | none => rw [hq] at h; cases h; omega
    | some c =>
      rw [hq] at h
      have := mostN_lt hq
      dsimp only at h
      split at h <;> cases h <;> omega
theorem m_most {gi : GI} {S : St} (r : RM gi S) (x : Int32) : f_X4_most gi x = some (q_most S x) := by
  have h5 := r.book.ok.nm
  have h3 := r.book.ok.nk
  rw [f_X4_most, m_isMan r.book, Option.bind_some]
  unfold q_most
  cases h : asQ x S.B.nm with
  | none => rfl
  | some m =>
    obtain ⟨rfl, hm⟩ := asQ_some h
    simp only [Option.isSome_some, if_true]
    rw [if_neg (by decide), m_nk r.book, Option.bind_some, show (0 : Int32) = N 0 from rfl, if_eq (by omega) (by omega)]
    by_cases h0 : S.B.nk = 0
    · rw [if_pos h0, h0]; rfl
    · rw [if_neg h0]
      have hl : g_loop g_K (fun (s : Int32 × Int32) => f_X4_most_l26 gi (N m) s.1 s.2) (N 0, 1) = some (asI (mostN S.P m S.B.nk)) := by
        refine loop_T (fun i => (asI (mostN S.P m (i + 1)), N (i + 1))) (S.B.nk - 1) rfl ?_ ?_ (by simp only [g_K]; omega)
        · intro i hi
          dsimp only
          rw [f_X4_most_l26, m_nk r.book, Option.bind_some, if_le (by omega) (by omega), if_neg (by omega), show (1 : Int32) = N 1 from rfl, N_add]
          conv => rhs; rw [mostN]
          cases hq : mostN S.P m (i + 1) with
          | none =>
            rw [mostN] at hq
            cases hz : mostN S.P m i with
            | none => rw [hz] at hq; cases hq
            | some c => rw [hz] at hq; dsimp only at hq; split at hq <;> cases hq
          | some b =>
            have hb := mostN_lt hq
            dsimp only [asI]
            rw [m_inP gi (by omega) (by omega), Option.bind_some, m_inP gi (by omega) (by omega), Option.bind_some, r.all]
            by_cases q : S.P (3 * m + b) < S.P (3 * m + (i + 1))
            · rw [if_neg (Int32.not_le.mpr q), if_pos q]
            · rw [if_pos (Int32.not_lt.mp q), if_neg q]
        · dsimp only
          rw [show S.B.nk - 1 + 1 = S.B.nk by omega, f_X4_most_l26, m_nk r.book, Option.bind_some, if_le (by omega) (by omega), if_pos (Nat.le_refl _)]
      rw [hl]; rfl

set_option linter.unusedVariables false
set_option linter.unusedSimpArgs false
/-! THE PLAIN LAW: the numbers keep to their bounds -/
theorem least99 {a : Nat} (h : a < 2147483648) : ∃ v, v ≤ 99 ∧ least 99 (N a) = N v := by
  unfold least
  rw [show (99 : Int32) = N 99 from rfl, if_le h (by decide)]
  by_cases q : a ≤ 99
  · rw [if_pos q]; exact ⟨a, q, rfl⟩
  · rw [if_neg q]; exact ⟨99, Nat.le_refl _, rfl⟩
theorem cropOf_in (v : Int32) : ∃ w, w ≤ 99 ∧ cropOf v = N w := by
  unfold cropOf
  by_cases h : 0 ≤ v
  · rw [if_pos h]
    unfold least
    by_cases q : v ≤ 99
    · rw [if_pos q]
      have h0 : (0 : Int) ≤ v.toInt := Int32.le_iff_toInt_le.mp h
      have h1 : v.toInt ≤ 99 := Int32.le_iff_toInt_le.mp q
      refine ⟨v.toInt.toNat, by omega, ?_⟩
      rw [← Int32.toInt_inj, N_toInt (by omega)]
      omega
    · rw [if_neg q]; exact ⟨99, Nat.le_refl _, rfl⟩
  · rw [if_neg h]; exact ⟨0, by omega, rfl⟩
theorem POk.pu' {B : Bk} {P : Nat → Int32} (h : POk B P) : Pu P := ⟨h.seed, h.purse⟩
theorem loosen_off {B : Bk} (hB : B.Ok) {m : Nat} (hm : m < B.nm) {P : Nat → Int32} (h : Pu P) {j : Nat} (hj : (15 ≤ j ∧ j < 20) ∨ (35 ≤ j ∧ j ≠ 41)) : loosen B m P j = P j := by
  have h5 := hB.nm
  have h3 := hB.nk
  obtain ⟨v, hv, hs⟩ := h.1
  rw [loosen_at hv hs]
  by_cases hk : B.nk = 0
  · rw [if_pos hk]
    simp only [upd]
    rw [if_neg (by omega)]
  · rw [if_neg hk]
    have hkk := Nat.mod_lt ((137 * v + 71) % 1000) (show B.nk > 0 by omega)
    generalize (137 * v + 71) % 1000 % B.nk = k at hkk
    by_cases hz : P (3 * m + k) = 0
    · rw [if_pos hz]
      simp only [upd]
      rw [if_neg (by omega)]
    · rw [if_neg hz, lay_dl, dl_off B m k (by omega) hm h5 _ j (by omega), Int32.mul_zero, Int32.add_zero]
      simp only [upd]
      rw [if_neg (by omega), if_neg (by omega)]
theorem loosens_all {B : Bk} (hB : B.Ok) {P : Nat → Int32} (h : Pu P) (ho : ∀ m k, m < 5 → B.nk ≤ k → k < 3 → P (20 + 3 * m + k) = 0) : ∀ n, n ≤ B.nm → Pu (loosens B P n) ∧ (∀ m k, m < 5 → B.nk ≤ k → k < 3 → loosens B P n (20 + 3 * m + k) = 0) ∧ ∀ j, (15 ≤ j ∧ j < 20) ∨ (35 ≤ j ∧ j ≠ 41) → loosens B P n j = P j
  | 0, _ => ⟨h, ho, fun _ _ => rfl⟩
  | n + 1, hn => by
    obtain ⟨i1, i2, i3⟩ := loosens_all hB h ho n (by omega)
    rw [loosens]
    by_cases hl : B.loose n
    · rw [if_pos hl]
      exact ⟨loosen_Pu hB (by omega) i1, loosen_over0 hB (by omega) i1 i2, fun j hj => (loosen_off hB (by omega) i1 hj).trans (i3 j hj)⟩
    · rw [if_neg hl]
      exact ⟨i1, i2, i3⟩
theorem crops_in {B : Bk} {P : Nat → Int32} (h : ∀ m, m < 5 → ∃ v, v ≤ 99 ∧ P (15 + m) = N v) : ∀ n, n ≤ 5 → ∀ m, m < 5 → ∃ v, v ≤ 99 ∧ crops B P n (15 + m) = N v
  | 0, _ => h
  | n + 1, hn => by
    intro m hm
    rw [crops, upd]
    by_cases q : 15 + m = 15 + n
    · rw [if_pos q]; exact cropOf_in _
    · rw [if_neg q]; exact crops_in h n (by omega) m hm
theorem resets_get {B : Bk} {P : Nat → Int32} : ∀ n, n ≤ 5 → ∀ j, resets B P n j = if j < 3 * n then least 99 (P j + B.pay (j / 3) (j % 3)) else if 20 ≤ j ∧ j < 20 + 3 * n then 0 else if 35 ≤ j ∧ j < 35 + n then 0 else P j
  | 0, _ => by
    intro j
    rw [if_neg (by omega), if_neg (by omega), if_neg (by omega)]; rfl
  | n + 1, hn => by
    intro j
    have ih := resets_get (B := B) (P := P) n (by omega)
    simp only [resets, reset1, getsP, upd]
    by_cases h0 : j = 3 * n
    · subst h0
      have d0 : 3 * n / 3 = n := by omega
      have d1 : 3 * n % 3 = 0 := by omega
      rw [if_pos (show 3 * n < 3 * (n + 1) by omega), d0, d1]
      simp [show 3 * n ≠ 3 * n + 2 by omega, show 3 * n ≠ 3 * n + 1 by omega, show ¬ 3 * n = 20 + 3 * n by omega, show ¬ 3 * n = 20 + 3 * n + 1 by omega, show ¬ 3 * n = 20 + 3 * n + 2 by omega, show ¬ 3 * n = 35 + n by omega]
      rw [ih, if_neg (by omega), if_neg (by omega), if_neg (by omega)]
    · by_cases h1 : j = 3 * n + 1
      · subst h1
        have d0 : (3 * n + 1) / 3 = n := by omega
        have d1 : (3 * n + 1) % 3 = 1 := by omega
        rw [if_pos (show 3 * n + 1 < 3 * (n + 1) by omega), d0, d1]
        simp [show ¬ 3 * n + 1 = 3 * n by omega, show ¬ 3 * n + 1 = 20 + 3 * n by omega, show ¬ 3 * n + 1 = 20 + 3 * n + 1 by omega, show ¬ 3 * n + 1 = 20 + 3 * n + 2 by omega, show ¬ 3 * n + 1 = 35 + n by omega]
        rw [ih]
        simp only [if_neg (show ¬ (3 * n + 1 < 3 * n) by omega), if_neg (show ¬ (20 ≤ 3 * n + 1 ∧ 3 * n + 1 < 20 + 3 * n) by omega), if_neg (show ¬ (35 ≤ 3 * n + 1 ∧ 3 * n + 1 < 35 + n) by omega)]
        rw [if_neg (by omega)]
      · by_cases h2 : j = 3 * n + 2
        · subst h2
          have d0 : (3 * n + 2) / 3 = n := by omega
          have d1 : (3 * n + 2) % 3 = 2 := by omega
          rw [if_pos (show 3 * n + 2 < 3 * (n + 1) by omega), d0, d1]
          simp [show ¬ 3 * n + 2 = 3 * n by omega, show ¬ 3 * n + 2 = 20 + 3 * n by omega, show ¬ 3 * n + 2 = 20 + 3 * n + 1 by omega, show ¬ 3 * n + 2 = 20 + 3 * n + 2 by omega, show ¬ 3 * n + 2 = 35 + n by omega]
          rw [ih, if_neg (by omega), if_neg (by omega), if_neg (by omega)]
        · rw [if_neg h2, if_neg (show ¬ j = 3 * n + 1 by omega), if_neg (show ¬ j = 3 * n + 0 by omega)]
          by_cases q : 20 ≤ j ∧ j < 20 + 3 * (n + 1)
          · rw [if_neg (show ¬ j < 3 * (n + 1) by omega), if_pos q]
            by_cases a2 : j = 20 + 3 * n + 2
            · rw [if_pos a2]
            · rw [if_neg a2]
              by_cases a1 : j = 20 + 3 * n + 1
              · rw [if_pos a1]
              · rw [if_neg a1]
                by_cases a0 : j = 20 + 3 * n + 0
                · rw [if_pos a0]
                · rw [if_neg a0, if_neg (show ¬ j = 35 + n by omega), ih, if_neg (by omega), if_pos (by omega)]
          · rw [if_neg (show ¬ j = 20 + 3 * n + 2 by omega), if_neg (show ¬ j = 20 + 3 * n + 1 by omega), if_neg (show ¬ j = 20 + 3 * n + 0 by omega)]
            by_cases q2 : j = 35 + n
            · rw [if_pos q2, if_neg (by omega), if_neg q, if_pos (by omega)]
            · rw [if_neg q2, ih]
              by_cases q3 : j < 3 * n
              · rw [if_pos q3, if_pos (by omega)]
              · rw [if_neg q3, if_neg (show ¬ (20 ≤ j ∧ j < 20 + 3 * n) by omega), if_neg (show ¬ j < 3 * (n + 1) by omega), if_neg q]
                by_cases q4 : 35 ≤ j ∧ j < 35 + n
                · rw [if_pos q4, if_pos (by omega)]
                · rw [if_neg q4, if_neg (by omega)]
theorem weekP_ok {B : Bk} (hB : B.Ok) {P : Nat → Int32} (h : POk B P) {w : Nat} (hw : w < 2000) (h40 : P 40 = N w) : POk B (weekP B P) ∧ weekP B P 40 = N (w + 1) ∧ ∀ j, 42 ≤ j → weekP B P j = P j := by
  have h5 := hB.nm
  obtain ⟨l1, l2, l3⟩ := loosens_all hB h.pu' h.over0 B.nm (Nat.le_refl _)
  have cr := crops_in (B := B) (P := loosens B P B.nm) (fun m hm => by rw [l3 _ (by omega)]; exact h.crop m hm) B.nm h5
  have g := resets_get (B := B) (P := crops B (loosens B P B.nm) B.nm) B.nm h5
  have co : ∀ j, ¬ (15 ≤ j ∧ j < 15 + B.nm) → crops B (loosens B P B.nm) B.nm j = loosens B P B.nm j := fun j hj => crops_off _ _ hj
  have e : ∀ j, j ≠ 40 → weekP B P j = resets B (crops B (loosens B P B.nm) B.nm) B.nm j := fun j hj => by
    rw [weekP, add_get, if_neg hj, Int32.add_zero]
  have e40 : weekP B P 40 = N (w + 1) := by
    rw [weekP, add_get, if_pos rfl, g, if_neg (by omega), if_neg (by omega), if_neg (by omega), co 40 (by omega), l3 40 (by omega), h40, show (1 : Int32) = N 1 from rfl, N_add]
  refine ⟨⟨?_, ?_, ?_, ?_, ⟨w + 1, by omega, e40⟩, ?_⟩, e40, ?_⟩
  · intro j hj
    rw [e j (by omega), g]
    by_cases q : j < 3 * B.nm
    · obtain ⟨v, v1, v2⟩ := l1.2 j hj
      obtain ⟨u, u1, u2⟩ := hB.pay (j / 3) (j % 3) (by omega) (by omega)
      rw [if_pos q, co j (by omega), v2, u2, N_add]
      exact least99 (by omega)
    · rw [if_neg q, if_neg (by omega), if_neg (by omega), co j (by omega)]
      exact l1.2 j hj
  · intro m hm
    rw [e _ (by omega), g, if_neg (by omega), if_neg (by omega)]
    by_cases q : m < B.nm
    · rw [if_pos (by omega)]; exact ⟨0, Nat.zero_le _, rfl⟩
    · rw [if_neg (by omega), co _ (by omega), l3 _ (by omega)]; exact h.spent m hm
  · intro m k hm hk hk3
    rw [e _ (by omega), g, if_neg (by omega)]
    by_cases q : m < B.nm
    · rw [if_pos (by omega)]
    · rw [if_neg (by omega), if_neg (by omega), co _ (by omega)]; exact l2 m k hm hk hk3
  · intro m hm
    rw [e _ (by omega), g, if_neg (by omega), if_neg (by omega), if_neg (by omega)]
    exact cr m hm
  · rw [e _ (by omega), g, if_neg (by omega), if_neg (by omega), if_neg (by omega), co _ (by omega)]
    exact l1.1
  · intro j hj
    rw [e _ (by omega), g, if_neg (by omega), if_neg (by omega), if_neg (by omega), co _ (by omega), l3 _ (by omega)]
theorem weeks_ok {B : Bk} (hB : B.Ok) {P : Nat → Int32} (h : POk B P) {w : Nat} (h40 : P 40 = N w) : ∀ n, w + n ≤ 2000 → POk B (weeks B P n) ∧ weeks B P n 40 = N (w + n) ∧ ∀ j, 42 ≤ j → weeks B P n j = P j
  | 0, _ => ⟨h, h40, fun _ _ => rfl⟩
  | n + 1, hn => by
    obtain ⟨i1, i2, i3⟩ := weeks_ok hB h h40 n (by omega)
    obtain ⟨j1, j2, j3⟩ := weekP_ok hB i1 (w := w + n) (by omega) i2
    exact ⟨j1, j2, fun j hj => (j3 j hj).trans (i3 j hj)⟩

set_option linter.unusedVariables false
set_option linter.unusedSimpArgs false
/-! THE PLAIN LAW: rows of hours -/
abbrev Row : Type := Nat × Nat × Nat
def Row.sum (r : Row) : Nat := r.1 + r.2.1 + r.2.2
def Row.code (r : Row) : Nat := 100 * r.1 + 10 * r.2.1 + r.2.2
def Row.key (r : Row) : Nat := 1000 * Row.sum r + Row.code r
def Row.at (r : Row) (k : Nat) : Int32 := if k = 0 then N r.1 else if k = 1 then N r.2.1 else N r.2.2
/-- within a most of each kind, and so many hours -/
def Row.In (x : Row) (L : Nat) (r : Row) : Prop := r.1 ≤ x.1 ∧ r.2.1 ≤ x.2.1 ∧ r.2.2 ≤ x.2.2 ∧ Row.sum r ≤ L
/-- the best of all: most, of these the one with the least key -/
def Best {α : Type} (key : α → Nat) (v : α → Int32) (V : α → Prop) (r : α) : Prop := V r ∧ ∀ r', V r' → r' ≠ r → v r' < v r ∨ (v r' = v r ∧ key r < key r')
theorem Best.unique {α : Type} {key : α → Nat} {v : α → Int32} {V : α → Prop} {r s : α} (h : Best key v V r) (g : Best key v V s) : r = s := by
  apply Classical.byContradiction
  intro hne
  have h1 := h.2 s g.1 (fun e => hne e.symm)
  have h2 := g.2 r h.1 hne
  rcases h1 with h1 | ⟨h1, h1'⟩
  · rcases h2 with h2 | ⟨h2, h2'⟩
    · exact Int32.lt_irrefl (Int32.lt_trans h1 h2)
    · rw [h2] at h1; exact Int32.lt_irrefl h1
  · rcases h2 with h2 | ⟨h2, h2'⟩
    · rw [h1] at h2; exact Int32.lt_irrefl h2
    · omega
noncomputable def theBest {α : Type} (z : α) (key : α → Nat) (v : α → Int32) (V : α → Prop) : α := @Classical.epsilon α ⟨z⟩ (fun r => Best key v V r)
theorem theBest_eq {α : Type} {z : α} {key : α → Nat} {v : α → Int32} {V : α → Prop} {r : α} (h : Best key v V r) : theBest z key v V = r :=
  (@Classical.epsilon_spec_aux α ⟨z⟩ (fun r => Best key v V r) ⟨r, h⟩).unique h
/-- the next row of an odometer -/
def nxt (x : Row) (L : Nat) (r : Row) : Row × Bool :=
  if r.2.2 + 1 ≤ x.2.2 ∧ r.1 + r.2.1 + (r.2.2 + 1) ≤ L then ((r.1, r.2.1, r.2.2 + 1), true)
  else if r.2.1 + 1 ≤ x.2.1 ∧ r.1 + (r.2.1 + 1) + 0 ≤ L then ((r.1, r.2.1 + 1, 0), true)
  else if r.1 + 1 ≤ x.1 ∧ r.1 + 1 + 0 + 0 ≤ L then ((r.1 + 1, 0, 0), true)
  else ((0, 0, 0), false)
theorem nxt_true {x : Row} {L : Nat} (hL : L ≤ 8) {r r' : Row} (hr : Row.In x L r) (h : nxt x L r = (r', true)) : Row.In x L r' ∧ Row.code r < Row.code r' ∧ ∀ q, Row.In x L q → Row.code q < Row.code r' → Row.code q ≤ Row.code r := by
  obtain ⟨a, b, c⟩ := r
  obtain ⟨x1, x2, x3⟩ := x
  simp only [Row.In, Row.sum] at hr
  simp only [nxt] at h
  split at h
  · rename_i h1
    cases h
    refine ⟨by simp only [Row.In, Row.sum]; omega, by simp only [Row.code]; omega, ?_⟩
    rintro ⟨p, q, s⟩ hq hlt
    simp only [Row.In, Row.sum, Row.code] at *
    omega
  · split at h
    · rename_i h1 h2
      cases h
      refine ⟨by simp only [Row.In, Row.sum]; omega, by simp only [Row.code]; omega, ?_⟩
      rintro ⟨p, q, s⟩ hq hlt
      simp only [Row.In, Row.sum, Row.code] at *
      omega
    · split at h
      · rename_i h1 h2 h3
        cases h
        refine ⟨by simp only [Row.In, Row.sum]; omega, by simp only [Row.code]; omega, ?_⟩
        rintro ⟨p, q, s⟩ hq hlt
        simp only [Row.In, Row.sum, Row.code] at *
        omega
      · cases h
theorem nxt_false {x : Row} {L : Nat} (hL : L ≤ 8) {r r' : Row} (hr : Row.In x L r) (h : nxt x L r = (r', false)) : r' = (0, 0, 0) ∧ ∀ q, Row.In x L q → Row.code q ≤ Row.code r := by
  obtain ⟨a, b, c⟩ := r
  obtain ⟨x1, x2, x3⟩ := x
  simp only [Row.In, Row.sum] at hr
  simp only [nxt] at h
  split at h
  · cases h
  · split at h
    · cases h
    · split at h
      · cases h
      · cases h
        refine ⟨rfl, ?_⟩
        rintro ⟨p, q, s⟩ hq
        simp only [Row.In, Row.sum, Row.code] at *
        omega
theorem code_inj {r q : Row} {x : Row} {L : Nat} (hL : L ≤ 8) (hr : Row.In x L r) (hq : Row.In x L q) (h : Row.code r = Row.code q) : r = q := by
  obtain ⟨a, b, c⟩ := r
  obtain ⟨p, q, s⟩ := q
  simp only [Row.In, Row.sum, Row.code] at *
  have h1 : a = p := by omega
  have h2 : b = q := by omega
  have h3 : c = s := by omega
  rw [h1, h2, h3]
/-- rows laid -/
def lyR (B : Bk) (m : Nat) (f : Nat → Int32) (w : Int32) (P : Nat → Int32) : Nat → Int32 := ly B m 2 (f 2) w (ly B m 1 (f 1) w (ly B m 0 (f 0) w P))
/-- what a laying adds -/
def dl (B : Bk) (m k : Nat) (n : Int32) (j : Nat) : Int32 :=
  if j = 20 + 3 * m + k then n else if 0 < m ∧ j = 20 + 3 * (m - 1) + k then leak B (m - 1) n else if m + 1 < B.nm ∧ j = 20 + 3 * (m + 1) + k then leak B m n else 0
theorem add_get (P : Nat → Int32) (i : Nat) (v : Int32) (j : Nat) : add P i v j = P j + (if j = i then v else 0) := by
  unfold add upd
  by_cases h : j = i <;> simp [h]
theorem lay1_get (B : Bk) (m k : Nat) (n w : Int32) (P : Nat → Int32) (j : Nat) : lay1 B m k n w P j = P j + (if 0 < m ∧ j = 20 + 3 * (m - 1) + k then w * leak B (m - 1) n else 0) := by
  unfold lay1
  by_cases h : m = 0
  · simp [h]
  · simp [h, add_get, Nat.pos_of_ne_zero h]
theorem lay2_get (B : Bk) (m k : Nat) (n w : Int32) (P : Nat → Int32) (j : Nat) : lay2 B m k n w P j = P j + (if m + 1 < B.nm ∧ j = 20 + 3 * (m + 1) + k then w * leak B m n else 0) := by
  unfold lay2
  by_cases h : B.nm ≤ m + 1
  · simp [h, Nat.not_lt.mpr h]
  · simp [h, add_get, Nat.not_le.mp h]
theorem lay_dl (B : Bk) (m k : Nat) (n w : Int32) (P : Nat → Int32) (j : Nat) : ly B m k n w P j = P j + w * dl B m k n j := by
  rw [ly, lay2_get, lay1_get, add_get, dl]
  by_cases h1 : j = 20 + 3 * m + k
  · rw [if_pos h1, if_neg (show ¬ (0 < m ∧ j = 20 + 3 * (m - 1) + k) by omega), if_neg (show ¬ (m + 1 < B.nm ∧ j = 20 + 3 * (m + 1) + k) by omega), if_pos h1, Int32.add_zero, Int32.add_zero]
  · rw [if_neg h1, if_neg h1]
    by_cases h2 : 0 < m ∧ j = 20 + 3 * (m - 1) + k
    · rw [if_pos h2, if_pos h2, if_neg (show ¬ (m + 1 < B.nm ∧ j = 20 + 3 * (m + 1) + k) by omega), Int32.add_zero, Int32.add_zero]
    · rw [if_neg h2, if_neg h2]
      by_cases h3 : m + 1 < B.nm ∧ j = 20 + 3 * (m + 1) + k
      · rw [if_pos h3, if_pos h3, Int32.add_zero, Int32.add_zero]
      · rw [if_neg h3, if_neg h3, Int32.add_zero, Int32.add_zero, Int32.mul_zero, Int32.add_zero]
/-- a row's laying -/
def dR (B : Bk) (m : Nat) (f : Nat → Int32) (j : Nat) : Int32 := dl B m 0 (f 0) j + dl B m 1 (f 1) j + dl B m 2 (f 2) j
theorem layR_dl (B : Bk) (m : Nat) (f : Nat → Int32) (w : Int32) (P : Nat → Int32) (j : Nat) : lyR B m f w P j = P j + w * dR B m f j := by
  rw [lyR, lay_dl, lay_dl, lay_dl, dR]
  grind
theorem layR_back (B : Bk) (m : Nat) (f : Nat → Int32) (P : Nat → Int32) : lyR B m f (-1) (lyR B m f 1 P) = P := by
  funext j
  rw [layR_dl, layR_dl]
  grind
theorem layR_swap (B : Bk) (m o : Nat) (f g : Nat → Int32) (v w : Int32) (P : Nat → Int32) : lyR B m f v (lyR B o g w P) = lyR B o g w (lyR B m f v P) := by
  funext j
  rw [layR_dl, layR_dl, layR_dl, layR_dl]
  grind
theorem layR_same (B : Bk) (m : Nat) {f g : Nat → Int32} (h : ∀ k, k < 3 → f k = g k) (w : Int32) (P : Nat → Int32) : lyR B m f w P = lyR B m g w P := by
  unfold lyR
  rw [h 0 (by decide), h 1 (by decide), h 2 (by decide)]
theorem dl_off (B : Bk) (m k : Nat) (hk : k < 3) (hm : m < B.nm) (h5 : B.nm ≤ 5) (n : Int32) (j : Nat) (hj : j < 20 ∨ 35 ≤ j) : dl B m k n j = 0 := by
  rw [dl, if_neg (by omega), if_neg (by omega), if_neg (by omega)]
theorem layR_off (B : Bk) (m : Nat) (hm : m < B.nm) (h5 : B.nm ≤ 5) (f : Nat → Int32) (w : Int32) (P : Nat → Int32) (j : Nat) (hj : j < 20 ∨ 35 ≤ j) : lyR B m f w P j = P j := by
  rw [layR_dl, dR, dl_off B m 0 (by decide) hm h5 _ j hj, dl_off B m 1 (by decide) hm h5 _ j hj, dl_off B m 2 (by decide) hm h5 _ j hj]
  simp
/-- numbers that plots keep to -/
abbrev POk (B : Bk) (P : Nat → Int32) : Prop := (∀ j, j < 15 → ∃ v, v ≤ 99 ∧ P j = N v) ∧ (∀ m, m < 5 → ∃ v, v ≤ B.hours ∧ P (35 + m) = N v) ∧ (∀ m k, m < 5 → B.nk ≤ k → k < 3 → P (20 + 3 * m + k) = 0) ∧ (∀ m, m < 5 → ∃ v, v ≤ 99 ∧ P (15 + m) = N v) ∧ (∃ v, v ≤ 2000 ∧ P 40 = N v) ∧ (∃ v, v ≤ 999 ∧ P 41 = N v)
theorem POk.purse {B : Bk} {P : Nat → Int32} (h : POk B P) : ∀ j, j < 15 → ∃ v, v ≤ 99 ∧ P j = N v := h.1
theorem POk.spent {B : Bk} {P : Nat → Int32} (h : POk B P) : ∀ m, m < 5 → ∃ v, v ≤ B.hours ∧ P (35 + m) = N v := h.2.1
theorem POk.over0 {B : Bk} {P : Nat → Int32} (h : POk B P) : ∀ m k, m < 5 → B.nk ≤ k → k < 3 → P (20 + 3 * m + k) = 0 := h.2.2.1
theorem POk.crop {B : Bk} {P : Nat → Int32} (h : POk B P) : ∀ m, m < 5 → ∃ v, v ≤ 99 ∧ P (15 + m) = N v := h.2.2.2.1
theorem POk.week {B : Bk} {P : Nat → Int32} (h : POk B P) : ∃ v, v ≤ 2000 ∧ P 40 = N v := h.2.2.2.2.1
theorem POk.seed {B : Bk} {P : Nat → Int32} (h : POk B P) : ∃ v, v ≤ 999 ∧ P 41 = N v := h.2.2.2.2.2
def pn (P : Nat → Int32) (j : Nat) : Nat := (P j).toNatClampNeg
theorem POk.pu {B : Bk} {P : Nat → Int32} (h : POk B P) {j : Nat} (hj : j < 15) : P j = N (pn P j) ∧ pn P j ≤ 99 := by
  obtain ⟨v, h1, h2⟩ := h.purse j hj
  have : pn P j = v := by unfold pn; rw [h2, N_toNat (by omega)]
  rw [this]
  exact ⟨h2, h1⟩
theorem POk.sp {B : Bk} {P : Nat → Int32} (h : POk B P) (hB : B.Ok) {m : Nat} (hm : m < 5) : P (35 + m) = N (pn P (35 + m)) ∧ pn P (35 + m) ≤ B.hours := by
  obtain ⟨v, h1, h2⟩ := h.spent m hm
  have := hB.hours
  have : pn P (35 + m) = v := by unfold pn; rw [h2, N_toNat (by omega)]
  rw [this]
  exact ⟨h2, h1⟩
def mx (B : Bk) (P : Nat → Int32) (m : Nat) : Row := (if 0 < B.nk then pn P (3 * m) else 0, if 1 < B.nk then pn P (3 * m + 1) else 0, if 2 < B.nk then pn P (3 * m + 2) else 0)
def leftN (B : Bk) (P : Nat → Int32) (m : Nat) : Nat := B.hours - pn P (35 + m)
def val (B : Bk) (P : Nat → Int32) (m : Nat) (aim : Int32) (r : Row) : Int32 := if aim = 0 then growth B (lyR B m (Row.at r) 1 P) m else growths B (lyR B m (Row.at r) 1 P) B.nm
/-- the best row of a man's -/
noncomputable def bestRow (B : Bk) (P : Nat → Int32) (m : Nat) (aim : Int32) : Row := theBest ((0, 0, 0) : Row) Row.key (val B P m aim) (Row.In (mx B P m) (leftN B P m))

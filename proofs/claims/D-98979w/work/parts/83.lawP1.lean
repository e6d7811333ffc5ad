set_option linter.unusedVariables false
set_option linter.unusedSimpArgs false
/-! THE PLAIN LAW: the text and its tokens -/
def isL (c : Nat) : Bool := decide (97 ≤ c ∧ c ≤ 122)
def isD (c : Nat) : Bool := decide (48 ≤ c ∧ c ≤ 57)
def isB (c : Nat) : Bool := decide (c = 32 ∨ c = 10)
def isSg (c : Nat) : Bool := decide (c = 59 ∨ c = 40 ∨ c = 41 ∨ c = 60 ∨ c = 62 ∨ c = 61 ∨ c = 43 ∨ c = 45 ∨ c = 42 ∨ c = 47 ∨ c = 37)
/-- the signs of a text; behind its end 256 -/
abbrev Txt (X : Nat → Nat) (n : Nat) : Prop := (∀ k, k < n → X k < 256) ∧ (∀ k, n ≤ k → X k = 256) ∧ (n ≤ 1600)
theorem Txt.low {X : Nat → Nat} {n : Nat} (h : Txt X n) : ∀ k, k < n → X k < 256 := h.1
theorem Txt.over {X : Nat → Nat} {n : Nat} (h : Txt X n) : ∀ k, n ≤ k → X k = 256 := h.2.1
theorem Txt.len {X : Nat → Nat} {n : Nat} (h : Txt X n) : n ≤ 1600 := h.2.2
def runN (p : Nat → Bool) (k : Nat) : Nat → Nat
  | 0 => 0
  | f + 1 => if p k = true then runN p (k + 1) f + 1 else 0
def stopN (p : Nat → Bool) (n k : Nat) : Nat := k + runN p k (n - k)
theorem runN_spec (p : Nat → Bool) : ∀ f k, runN p k f ≤ f ∧ (∀ i, k ≤ i → i < k + runN p k f → p i = true) ∧ (runN p k f < f → p (k + runN p k f) = false)
  | 0, k => ⟨Nat.le_refl _, fun i h1 h2 => absurd (show i < k + 0 from h2) (by omega), fun h => absurd (show (0 : Nat) < 0 from h) (by omega)⟩
  | f + 1, k => by
    obtain ⟨h1, h2, h3⟩ := runN_spec p f (k + 1)
    by_cases q : p k = true
    · have e : runN p k (f + 1) = runN p (k + 1) f + 1 := by rw [runN, if_pos q]
      rw [e]
      refine ⟨by omega, fun i i1 i2 => ?_, fun h => ?_⟩
      · by_cases z : i = k
        · rw [z]; exact q
        · exact h2 i (by omega) (by omega)
      · rw [show k + (runN p (k + 1) f + 1) = k + 1 + runN p (k + 1) f by omega]
        exact h3 (by omega)
    · have e : runN p k (f + 1) = 0 := by rw [runN, if_neg q]
      rw [e]
      refine ⟨by omega, fun i i1 i2 => absurd i2 (by omega), fun h => ?_⟩
      rw [Nat.add_zero]
      exact Bool.eq_false_iff.mpr q
theorem stopN_spec {p : Nat → Bool} {n k : Nat} (hk9 : k ≤ n) (hn : ∀ i, n ≤ i → p i = false) : k ≤ stopN p n k ∧ stopN p n k ≤ n ∧ (∀ i, k ≤ i → i < stopN p n k → p i = true) ∧ p (stopN p n k) = false := by
  obtain ⟨h1, h2, h3⟩ := runN_spec p (n - k) k
  unfold stopN
  refine ⟨by omega, by omega, h2, ?_⟩
  by_cases q : runN p k (n - k) < n - k
  · exact h3 q
  · exact hn _ (by omega)
/-- a word's letters, packed; a number -/
def pak (X : Nat → Nat) (a : Nat) : Nat → Nat
  | 0 => 0
  | j + 1 => 256 * pak X a j + X (a + j)
def digs (X : Nat → Nat) (a : Nat) : Nat → Nat
  | 0 => 0
  | j + 1 => 10 * digs X a j + X (a + j) - 48
abbrev Tk : Type := Nat × Nat × Nat × Nat
def Tk.sort (t : Tk) : Nat := t.1
def Tk.place (t : Tk) : Nat := t.2.1
def Tk.val (t : Tk) : Nat := t.2.2.1
def Tk.next (t : Tk) : Nat := t.2.2.2
def lexB (X : Nat → Nat) (n p : Nat) : Nat := stopN (fun k => isB (X k)) n p
def lexL (X : Nat → Nat) (n p : Nat) : Nat := stopN (fun k => isL (X k)) n p
def lexD (X : Nat → Nat) (n p : Nat) : Nat := stopN (fun k => isD (X k)) n p
/-- the token that begins at a -/
def lexA (X : Nat → Nat) (n a : Nat) : Tk :=
  if n ≤ a then (0, n, 0, n)
  else if isL (X a) = true then (if 8 < lexL X n a - a then (3, a, 0, a) else (1, a, pak X a (lexL X n a - a), lexL X n a))
  else if isD (X a) = true then (if 4 < lexD X n a - a ∨ isL (X (lexD X n a)) = true then (3, a, 0, a) else (2, a, digs X a (lexD X n a - a), lexD X n a))
  else if isSg (X a) = true then (X a, a, 0, a + 1) else (3, a, 0, a)
/-- the token behind p: sort (0 over, 1 word, 2 number, 3 bad, else the sign), place, value, where it ends -/
def lexT (X : Nat → Nat) (n p : Nat) : Tk := lexA X n (lexB X n p)
theorem isB_256 : isB 256 = false := by decide
theorem isL_256 : isL 256 = false := by decide
theorem isD_256 : isD 256 = false := by decide
section P1
variable {X : Nat → Nat} {n p : Nat}
theorem Txt.b (x : Txt X n) (i : Nat) (h : n ≤ i) : isB (X i) = false := by rw [x.over i h]; rfl
theorem Txt.l (x : Txt X n) (i : Nat) (h : n ≤ i) : isL (X i) = false := by rw [x.over i h]; rfl
theorem Txt.d (x : Txt X n) (i : Nat) (h : n ≤ i) : isD (X i) = false := by rw [x.over i h]; rfl
theorem lexB_spec (x : Txt X n) (h : p ≤ n) : p ≤ lexB X n p ∧ lexB X n p ≤ n ∧ (∀ i, p ≤ i → i < lexB X n p → isB (X i) = true) ∧ isB (X (lexB X n p)) = false := stopN_spec h x.b
theorem lexL_spec (x : Txt X n) (h : p ≤ n) : p ≤ lexL X n p ∧ lexL X n p ≤ n ∧ (∀ i, p ≤ i → i < lexL X n p → isL (X i) = true) ∧ isL (X (lexL X n p)) = false := stopN_spec h x.l
theorem lexD_spec (x : Txt X n) (h : p ≤ n) : p ≤ lexD X n p ∧ lexD X n p ≤ n ∧ (∀ i, p ≤ i → i < lexD X n p → isD (X i) = true) ∧ isD (X (lexD X n p)) = false := stopN_spec h x.d
theorem isL_in {c : Nat} (h : isL c = true) : 97 ≤ c ∧ c ≤ 122 := of_decide_eq_true h
theorem isD_in {c : Nat} (h : isD c = true) : 48 ≤ c ∧ c ≤ 57 := of_decide_eq_true h
theorem pak_lt {a : Nat} : ∀ j, (∀ i, a ≤ i → i < a + j → X i ≤ 122) → 255 * pak X a j + 122 ≤ 122 * 256 ^ j
  | 0, _ => by simp [pak]
  | j + 1, h => by
    have ih := pak_lt j (fun i h1 h2 => h i h1 (by omega))
    have hx := h (a + j) (by omega) (by omega)
    rw [pak, Nat.pow_succ]
    omega
theorem pak_63 {a j : Nat} (hj : j ≤ 8) (h : ∀ i, a ≤ i → i < a + j → X i ≤ 122) : pak X a j < 9223372036854775808 ∧ (j ≤ 7 → pak X a j < 72057594037927936) := by
  have hb := pak_lt j h
  have e8 : 256 ^ j ≤ 256 ^ 8 := Nat.pow_le_pow_right (by decide) hj
  refine ⟨by omega, fun h7 => ?_⟩
  have e7 : 256 ^ j ≤ 256 ^ 7 := Nat.pow_le_pow_right (by decide) h7
  omega
theorem digs_lt {a : Nat} : ∀ j, (∀ i, a ≤ i → i < a + j → 48 ≤ X i ∧ X i ≤ 57) → digs X a j + 1 ≤ 10 ^ j
  | 0, _ => by simp [digs]
  | j + 1, h => by
    have ih := digs_lt j (fun i h1 h2 => h i h1 (by omega))
    have hx := h (a + j) (by omega) (by omega)
    rw [digs, Nat.pow_succ]
    omega
/-- what a token is -/
theorem lexA_next (x : Txt X n) {a : Nat} (h : a ≤ n) : (lexA X n a).sort ≠ 3 → (lexA X n a).next ≤ n ∧ ((lexA X n a).sort ≠ 0 → a < (lexA X n a).next) := by
  unfold lexA Tk.sort Tk.next
  by_cases h1 : n ≤ a
  · rw [if_pos h1]; exact fun _ => ⟨Nat.le_refl _, fun z => absurd rfl z⟩
  · rw [if_neg h1]
    by_cases h2 : isL (X a) = true
    · rw [if_pos h2]
      obtain ⟨s1, s2, s3, s4⟩ := lexL_spec x h
      have ne : lexL X n a ≠ a := fun e => by rw [e, h2] at s4; exact absurd s4 (by decide)
      by_cases h3 : 8 < lexL X n a - a
      · rw [if_pos h3]; exact fun z => absurd rfl z
      · rw [if_neg h3]; exact fun _ => ⟨s2, fun _ => (show a < lexL X n a by omega)⟩
    · rw [if_neg h2]
      by_cases h4 : isD (X a) = true
      · rw [if_pos h4]
        obtain ⟨s1, s2, s3, s4⟩ := lexD_spec x h
        have ne : lexD X n a ≠ a := fun e => by rw [e, h4] at s4; exact absurd s4 (by decide)
        by_cases h3 : 4 < lexD X n a - a ∨ isL (X (lexD X n a)) = true
        · rw [if_pos h3]; exact fun z => absurd rfl z
        · rw [if_neg h3]; exact fun _ => ⟨s2, fun _ => (show a < lexD X n a by omega)⟩
      · rw [if_neg h4]
        by_cases h5 : isSg (X a) = true
        · rw [if_pos h5]; exact fun _ => ⟨(show a + 1 ≤ n by omega), fun _ => (show a < a + 1 by omega)⟩
        · rw [if_neg h5]; exact fun z => absurd rfl z
end P1

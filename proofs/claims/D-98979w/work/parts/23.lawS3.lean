set_option linter.unusedVariables false
set_option linter.unusedSimpArgs false
/-! THE PLAIN LAW: what both keep, and what each call does -/
/-- a number as a place among so many -/
def asQ (x : Int32) (n : Nat) : Option Nat := if 0 ≤ x ∧ x.toNatClampNeg < n then some x.toNatClampNeg else none
theorem asQ_some {x : Int32} {n m : Nat} (h : asQ x n = some m) : x = N m ∧ m < n := by
  unfold asQ at h
  split at h
  · rename_i q
    cases h
    refine ⟨?_, q.2⟩
    have h0 : (0 : Int) ≤ x.toInt := by
      have := Int32.le_iff_toInt_le.mp q.1
      exact this
    rw [← Int32.toInt_inj]
    have h1 : x.toNatClampNeg = x.toInt.toNat := (Int32.toNat_toInt x).symm
    have h2 := Int32.toInt_lt x
    rw [N_toInt (by omega), h1]
    omega
  · cases h
theorem asQ_of {n m : Nat} (h : m < n) (hn : n ≤ 2147483648) : asQ (N m) n = some m := by
  unfold asQ
  have : (0 : Int32) ≤ N m := by rw [show (0 : Int32) = N 0 from rfl, N_le (by omega) (by omega)]; omega
  rw [N_toNat (by omega), if_pos ⟨this, h⟩]
theorem asQ_none {x : Int32} {n : Nat} (h : asQ x n = none) : x < 0 ∨ N n ≤ x ∨ 2147483648 ≤ n := by
  unfold asQ at h
  split at h
  · cases h
  · rename_i q
    by_cases h0 : x < 0
    · exact Or.inl h0
    · right
      by_cases hn : 2147483648 ≤ n
      · exact Or.inr hn
      · left
        have h1 : (0 : Int32) ≤ x := Int32.not_lt.mp h0
        have h2 : ¬ x.toNatClampNeg < n := fun c => q ⟨h1, c⟩
        rw [Int32.le_iff_toInt_le, N_toInt (by omega)]
        have h3 : x.toNatClampNeg = x.toInt.toNat := (Int32.toNat_toInt x).symm
        have h4 : (0 : Int) ≤ x.toInt := Int32.le_iff_toInt_le.mp h1
        omega
/-- 0 ≤ x ≤ n - 1 as the classes ask it -/
theorem isIn_asQ (x : Int32) {n : Nat} (hn : n < 2147483648) : (if x < 0 then (0 : Int32) else if N n - 1 < x then 0 else 1) = if (asQ x n).isSome then 1 else 0 := by
  match h : asQ x n with
  | some m =>
    obtain ⟨h1, h2⟩ := asQ_some h
    subst h1
    have e : N n - 1 = N (n - 1) := by rw [show (1 : Int32) = N 1 from rfl, N_sub (by omega)]
    rw [e, show (0 : Int32) = N 0 from rfl, if_lt (by omega) (by omega), if_lt (by omega) (by omega), if_neg (by omega), if_neg (by omega)]
    rfl
  | none =>
    rcases asQ_none h with q | q | q
    · rw [if_pos q]; rfl
    · by_cases h0 : x < 0
      · rw [if_pos h0]; rfl
      · rw [if_neg h0]
        have : N n - 1 < x := by
          by_cases hz : n = 0
          · subst hz
            exact Int32.lt_of_lt_of_le (by decide : N 0 - 1 < (0 : Int32)) (Int32.not_lt.mp h0)
          · have e : N n - 1 = N (n - 1) := by rw [show (1 : Int32) = N 1 from rfl, N_sub (by omega)]
            rw [e]
            exact Int32.lt_of_lt_of_le ((N_lt (by omega) (by omega)).mpr (by omega)) q
        rw [if_pos this]; rfl
    · omega
def sum3 (P : Nat → Int32) (j : Nat) : Int32 := P j + P (j + 1) + P (j + 2)
def least (a b : Int32) : Int32 := if b ≤ a then b else a
/-! a week -/
def seedOf (v : Int32) : Int32 := (137 * v + 71) - (137 * v + 71) / 1000 * 1000
def loosen (B : Bk) (m : Nat) (P : Nat → Int32) : Nat → Int32 :=
  if B.nk = 0 then upd P 41 (seedOf (P 41))
  else
    if P (3 * m + pn (upd P 41 (seedOf (P 41))) 41 % B.nk) = 0 then upd P 41 (seedOf (P 41))
    else ly B m (pn (upd P 41 (seedOf (P 41))) 41 % B.nk) 1 1 (upd (upd P 41 (seedOf (P 41))) (3 * m + pn (upd P 41 (seedOf (P 41))) 41 % B.nk) (P (3 * m + pn (upd P 41 (seedOf (P 41))) 41 % B.nk) - 1))
def loosens (B : Bk) (P : Nat → Int32) : Nat → Nat → Int32
  | 0 => P
  | n + 1 => if B.loose n then loosen B n (loosens B P n) else loosens B P n
def cropOf (v : Int32) : Int32 := if 0 ≤ v then least 99 v else 0
def crops (B : Bk) (P : Nat → Int32) : Nat → Nat → Int32
  | 0 => P
  | n + 1 => upd (crops B P n) (15 + n) (cropOf (crops B P n (15 + n) + growth B (crops B P n) n))
def getsP (P : Nat → Int32) (j : Nat) (v : Int32) : Nat → Int32 := upd P j (least 99 (P j + v))
def reset1 (B : Bk) (m k : Nat) (P : Nat → Int32) : Nat → Int32 := getsP (upd P (20 + 3 * m + k) 0) (3 * m + k) (B.pay m k)
def resets (B : Bk) (P : Nat → Int32) : Nat → Nat → Int32
  | 0 => P
  | n + 1 => reset1 B n 2 (reset1 B n 1 (reset1 B n 0 (upd (resets B P n) (35 + n) 0)))
def weekSum (B : Bk) (P : Nat → Int32) : Int32 := growths B (loosens B P B.nm) B.nm
def weekP (B : Bk) (P : Nat → Int32) : Nat → Int32 := add (resets B (crops B (loosens B P B.nm) B.nm) B.nm) 40 1
def weeks (B : Bk) (P : Nat → Int32) : Nat → Nat → Int32
  | 0 => P
  | n + 1 => weekP B (weeks B P n)

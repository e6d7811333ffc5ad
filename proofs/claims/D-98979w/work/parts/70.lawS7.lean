set_option linter.unusedVariables false
set_option linter.unusedSimpArgs false
/-! THE PLAIN LAW: whose book is which: what is answered -/
/-- the first digits of a number -/
def dgs (F v : Nat) : Nat → List Nat
  | 0 => []
  | m + 1 => dgs F v m ++ [v / F ^ m % F]
/-- whether they are all different -/
def dOk (F v : Nat) : Nat → Bool
  | 0 => true
  | m + 1 => dOk F v m && !((dgs F v m).contains (v / F ^ m % F))
def perM (F n : Nat) : List (List Nat) := ((List.range n).filter (fun v => dOk F v F)).map (fun v => dgs F v F)
/-- all orders, from a beginning on -/
def exts (F : Nat) : Nat → List Nat → List (List Nat)
  | 0, pre => [pre]
  | n + 1, pre => (List.range F).flatMap (fun b => if pre.contains b then [] else exts F n (pre ++ [b]))
theorem per_perm : ∀ F, F < 6 → ((exts F F []).isPerm (perM F (F ^ F))) = true := by decide +kernel
theorem per_eq {F : Nat} (h : F < 6) : (exts F F []).Perm (perM F (F ^ F)) := List.isPerm_iff.mp (per_perm F h)
def bookP (S : St) (p : List Nat) (m : Int32) : Int32 := S.B.book (p.getD m.toNatClampNeg 9)
def fitI (S : St) (k : Int32) (p : List Nat) (i : Nat) : Bool :=
  if k < S.sg 4 i then true
  else if ¬ (S.sg 5 i < 0) ∧ S.sg 5 i ≤ k then true
  else (if S.sg 1 i < 0 then decide (S.sg 2 i ≤ bookP S p (S.sg 0 i)) else decide (bookP S p (S.sg 1 i) < bookP S p (S.sg 0 i))) == decide (S.sg 3 i = 1)
def fitN (S : St) (k : Int32) (p : List Nat) : Nat → Bool
  | 0 => true
  | n + 1 => fitN S k p n && fitI S k p n
def fits' (S : St) (k : Int32) (p : List Nat) : Bool := fitN S k p S.ns
def fitB (S : St) (k : Int32) (m b : Nat) (p : List Nat) : Bool := fits' S k p && p.getD m 9 == b
def oN (S : St) (k : Int32) : Nat := (perM (firsts S.B) (firsts S.B ^ firsts S.B)).countP (fits' S k)
def oT (S : St) (k : Int32) (m b : Nat) : Nat := (perM (firsts S.B) (firsts S.B ^ firsts S.B)).countP (fitB S k m b)
theorem oT_le (S : St) (k : Int32) (m b : Nat) : oT S k m b ≤ oN S k := by
  unfold oT oN
  apply List.countP_mono_left
  intro p _ h
  unfold fitB at h
  simp only [Bool.and_eq_true] at h
  exact h.1
theorem two_le {α : Type} (l : List α) (f p q : α → Bool) (hp : ∀ x, p x = true → f x = true) (hq : ∀ x, q x = true → f x = true) (hd : ∀ x, p x = true → q x = false) : l.countP p + l.countP q ≤ l.countP f := by
  induction l with
  | nil => simp
  | cons a l ih =>
    simp only [List.countP_cons]
    cases h1 : p a with
    | true =>
      rw [hp a h1, hd a h1]
      simp
      omega
    | false =>
      cases h2 : q a with
      | true =>
        rw [hq a h2]
        simp
        omega
      | false =>
        simp
        split <;> omega
theorem oT_one (S : St) (k : Int32) (m : Nat) {a b : Nat} (h : a ≠ b) (ha : oT S k m a = oN S k) (hb : oT S k m b = oN S k) : oN S k = 0 := by
  have := two_le (perM (firsts S.B) (firsts S.B ^ firsts S.B)) (fits' S k) (fitB S k m a) (fitB S k m b) (fun x hx => by unfold fitB at hx; simp only [Bool.and_eq_true] at hx; exact hx.1) (fun x hx => by unfold fitB at hx; simp only [Bool.and_eq_true] at hx; exact hx.1) (fun x hx => by
    unfold fitB at hx ⊢
    simp only [Bool.and_eq_true, beq_iff_eq] at hx
    rw [hx.2]
    have : (a == b) = false := by simp [h]
    rw [this, Bool.and_false])
  have e1 : (perM (firsts S.B) (firsts S.B ^ firsts S.B)).countP (fitB S k m a) = oN S k := ha
  have e2 : (perM (firsts S.B) (firsts S.B ^ firsts S.B)).countP (fitB S k m b) = oN S k := hb
  have e3 : (perM (firsts S.B) (firsts S.B ^ firsts S.B)).countP (fits' S k) = oN S k := rfl
  omega
theorem pow5 : ∀ F, F < 6 → F ^ F ≤ 3125 := by decide
theorem oN_le (S : St) (k : Int32) (h : firsts S.B < 6) : oN S k ≤ 3125 := by
  have h1 : oN S k ≤ (perM (firsts S.B) (firsts S.B ^ firsts S.B)).length := List.countP_le_length
  have h2 : (perM (firsts S.B) (firsts S.B ^ firsts S.B)).length ≤ firsts S.B ^ firsts S.B := by
    unfold perM
    rw [List.length_map]
    exact Nat.le_trans (List.length_filter_le _ _) (by rw [List.length_range]; exact Nat.le_refl _)
  have h3 := pow5 _ h
  omega
def q_orders (S : St) (k : Int32) : Int32 := N (oN S k)
def q_sure (S : St) (x k : Int32) : Int32 :=
  match asQ x (firsts S.B) with
  | none => -1
  | some m => if oN S k = 0 then -1 else (match firstN (fun b => decide (oT S k m b = oN S k)) 5 with | none => -2 | some b => N b)
def mostT (S : St) (k : Int32) (m : Nat) : Nat → Nat
  | 0 => 0
  | b + 1 => if mostT S k m b < oT S k m b then oT S k m b else mostT S k m b
def askN (S : St) (k : Int32) : Nat → Option (Nat × Nat)
  | 0 => none
  | m + 1 => match askN S k m with
    | none => some (m, mostT S k m 5)
    | some q => if mostT S k m 5 < q.2 then some (m, mostT S k m 5) else some q
def q_ask (S : St) (x k : Int32) : Int32 :=
  if x = 0 ∨ x = 1 then
    (if oN S k = 0 then -1 else (match askN S k (firsts S.B) with | none => -1 | some q => if x = 0 then N q.1 else N q.2))
  else -1
theorem mostT_le (S : St) (k : Int32) (m : Nat) : ∀ b, mostT S k m b ≤ oN S k
  | 0 => Nat.zero_le _
  | b + 1 => by
    rw [mostT]
    split
    · exact oT_le S k m b
    · exact mostT_le S k m b
theorem askN_le (S : St) (k : Int32) : ∀ n q, askN S k n = some q → q.1 < n ∧ q.2 ≤ oN S k
  | 0, _ => fun h => by cases h
  | n + 1, q => fun h => by
    rw [askN] at h
    cases hq : askN S k n with
    | none => rw [hq] at h; cases h; exact ⟨Nat.lt_succ_self _, mostT_le S k n 5⟩
    | some c =>
      rw [hq] at h
      have := askN_le S k n c hq
      dsimp only at h
      split at h <;> cases h
      · exact ⟨Nat.lt_succ_self _, mostT_le S k n 5⟩
      · exact ⟨by omega, this.2⟩
/-! sets of small numbers -/
def mask : List Nat → Nat
  | [] => 0
  | x :: l => 2 ^ x ||| mask l
theorem mask_bit (b : Nat) : ∀ l, (mask l).testBit b = l.contains b
  | [] => by simp [mask]
  | x :: l => by
    rw [mask, Nat.testBit_or, mask_bit b l, Nat.testBit_two_pow, List.contains_cons]
    by_cases h : x = b
    · subst h; simp
    · have h2 : ¬ b = x := fun e => h e.symm
      simp [h, h2]
theorem mask_snoc (x : Nat) : ∀ l, mask (l ++ [x]) = mask l ||| 2 ^ x
  | [] => by simp [mask]
  | y :: l => by
    rw [List.cons_append, mask, mask, mask_snoc x l, Nat.or_assoc]
theorem mask_lt {n : Nat} : ∀ l, (∀ x, x ∈ l → x < n) → mask l < 2 ^ n
  | [], _ => by simp [mask]; exact Nat.pow_pos (by decide)
  | x :: l, h => by
    rw [mask]
    exact Nat.or_lt_two_pow (Nat.pow_lt_pow_right (by decide) (h x (by simp))) (mask_lt l (fun y hy => h y (by simp [hy])))
theorem bits : ∀ a, a < 32 → ∀ b, b < 5 → (((N a >>> (N b &&& 31)) &&& 1) = if a.testBit b then 1 else 0) ∧ (N a ||| ((1 : Int32) <<< (N b &&& 31))) = N (a ||| 2 ^ b) := by decide +kernel
theorem dgs_len (F v : Nat) : ∀ m, (dgs F v m).length = m
  | 0 => rfl
  | m + 1 => by rw [dgs, List.length_append, dgs_len F v m]; rfl
theorem dgs_lt {F v : Nat} (hF : 0 < F) : ∀ m x, x ∈ dgs F v m → x < F
  | 0, x => fun h => by cases h
  | m + 1, x => fun h => by
    rw [dgs, List.mem_append] at h
    rcases h with h | h
    · exact dgs_lt hF m x h
    · rw [List.mem_singleton] at h
      rw [h]
      exact Nat.mod_lt _ hF

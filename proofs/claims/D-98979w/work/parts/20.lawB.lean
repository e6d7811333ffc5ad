set_option linter.unusedVariables false
set_option linter.unusedSimpArgs false
/-! THE PLAIN LAW: base -/
abbrev N (n : Nat) : Int32 := Int32.ofNat n
theorem N_lit (n : Nat) : (OfNat.ofNat n : Int32) = N n := rfl
theorem N_toInt {a : Nat} (h : a < 2147483648) : (N a).toInt = a := by
  rw [Int32.toInt_ofNat_of_lt]; omega
theorem N_add (a b : Nat) : N a + N b = N (a + b) := (Int32.ofNat_add a b).symm
theorem N_mul (a b : Nat) : N a * N b = N (a * b) := (Int32.ofNat_mul a b).symm
theorem N_sub {a b : Nat} (h : b ≤ a) : N a - N b = N (a - b) := by
  have := N_add (a - b) b
  rw [Nat.sub_add_cancel h] at this
  rw [← this]
  exact Int32.add_sub_cancel _ _
theorem N_le {a b : Nat} (ha : a < 2147483648) (hb : b < 2147483648) : N a ≤ N b ↔ a ≤ b := by
  rw [Int32.le_iff_toInt_le, N_toInt ha, N_toInt hb]; omega
theorem N_lt {a b : Nat} (ha : a < 2147483648) (hb : b < 2147483648) : N a < N b ↔ a < b := by
  rw [Int32.lt_iff_toInt_lt, N_toInt ha, N_toInt hb]; omega
theorem N_eq {a b : Nat} (ha : a < 2147483648) (hb : b < 2147483648) : N a = N b ↔ a = b := by
  rw [← Int32.toInt_inj, N_toInt ha, N_toInt hb]; omega
theorem N_toNat {a : Nat} (h : a < 2147483648) : (N a).toNatClampNeg = a := by
  rw [← Int32.toNat_toInt, N_toInt h]; rfl
theorem N_in {a n : Nat} (h : a < n) (hn : n ≤ 2147483648) : g_in (N a) n = true := by
  have h1 : ¬ (N a < (0 : Int32)) := by
    rw [Int32.lt_iff_toInt_lt, N_toInt (by omega)]
    show ¬ ((a : Int) < 0)
    omega
  simp [g_in, h1, N_toNat (show a < 2147483648 by omega)]
  exact h
theorem N_ld {gi : GI} {c n e : Nat} (h : e < n) (hn : n ≤ 2147483648) : g_ld gi c n (N e) = some (gi c e) := by
  simp only [g_ld, N_in h hn, if_true, N_toNat (show e < 2147483648 by omega)]
theorem N_st {gi : GI} {c n e : Nat} {x : Int32} (h : e < n) (hn : n ≤ 2147483648) : g_st gi c n (N e) x = some (g_pi gi c e x) := by
  simp only [g_st, N_in h hn, if_true, N_toNat (show e < 2147483648 by omega)]
theorem N_ldr {gr : GR} {c n e : Nat} (h : e < n) (hn : n ≤ 2147483648) : g_ldr gr c n (N e) = gr c e := by
  simp only [g_ldr, N_in h hn, if_true, N_toNat (show e < 2147483648 by omega)]
theorem N_str {gr : GR} {c n e : Nat} {x : Option Nat} (h : e < n) (hn : n ≤ 2147483648) : g_str gr c n (N e) x = some (g_pr gr c e x) := by
  simp only [g_str, N_in h hn, if_true, N_toNat (show e < 2147483648 by omega)]
theorem pi_get (gi : GI) (c k : Nat) (x : Int32) (i j : Nat) : g_pi gi c k x i j = if i = c ∧ j = k then x else gi i j := by
  unfold g_pi va_up upd
  by_cases h : i = c
  · subst h
    by_cases h2 : j = k <;> simp [h2]
  · simp [h]
theorem pr_get (gr : GR) (c k : Nat) (x : Option Nat) (i j : Nat) : g_pr gr c k x i j = if i = c ∧ j = k then x else gr i j := by
  unfold g_pr va_up
  by_cases h : i = c
  · subst h
    by_cases h2 : j = k <;> simp [h2]
  · simp [h]
/-! loops -/
theorem loop_T {S E : Type} {body : S → Option (S ⊕ E)} (T : Nat → S) (n : Nat) {e : E} {s : S} (h0 : s = T 0) (hs : ∀ i, i < n → body (T i) = some (.inl (T (i + 1)))) (he : body (T n) = some (.inr e)) (hn : n < g_K) : g_loop g_K body s = some e := by
  subst h0
  suffices h : ∀ j K, j ≤ n → n - j < K → g_loop K body (T j) = some e from h 0 g_K (Nat.zero_le _) (by omega)
  intro j K
  induction K generalizing j with
  | zero => intro _ h; omega
  | succ K ih =>
    intro hj hK
    by_cases hjn : j = n
    · subst hjn
      simp [g_loop, he]
    · simp only [g_loop, hs j (by omega)]
      exact ih (j + 1) (by omega) (by omega)
/-- a loop by an invariant and a measure -/
theorem loop_I {S E : Type} {body : S → Option (S ⊕ E)} (I : S → Prop) (mu : S → Nat) (Q : E → Prop) (hb : ∀ s, I s → (∃ s', body s = some (.inl s') ∧ I s' ∧ mu s' < mu s) ∨ ∃ e, body s = some (.inr e) ∧ Q e) {s : S} (h0 : I s) (hK : mu s < g_K) : ∃ e, g_loop g_K body s = some e ∧ Q e := by
  suffices h : ∀ K s, I s → mu s < K → ∃ e, g_loop K body s = some e ∧ Q e from h g_K s h0 hK
  intro K
  induction K with
  | zero => intro s _ h; omega
  | succ K ih =>
    intro s hI hm
    rcases hb s hI with ⟨s', h1, h2, h3⟩ | ⟨e, h1, h2⟩
    · simp only [g_loop, h1]
      exact ih s' h2 (by omega)
    · exact ⟨e, by simp [g_loop, h1], h2⟩
theorem if_le {α : Type} {a b : Nat} (ha : a < 2147483648) (hb : b < 2147483648) (x y : α) : (if N a ≤ N b then x else y) = if a ≤ b then x else y := by
  simp only [N_le ha hb]
theorem if_lt {α : Type} {a b : Nat} (ha : a < 2147483648) (hb : b < 2147483648) (x y : α) : (if N a < N b then x else y) = if a < b then x else y := by
  simp only [N_lt ha hb]
theorem if_eq {α : Type} {a b : Nat} (ha : a < 2147483648) (hb : b < 2147483648) (x y : α) : (if N a = N b then x else y) = if a = b then x else y := by
  simp only [N_eq ha hb]
/-- a loop by an invariant that counts down -/
theorem loop_J {S E : Type} {body : S → Option (S ⊕ E)} (I : Nat → S → Prop) (Q : E → Prop) (hb : ∀ n s, I n s → (∃ s', body s = some (.inl s') ∧ ∃ n', n' < n ∧ I n' s') ∨ ∃ e, body s = some (.inr e) ∧ Q e) {n : Nat} {s : S} (h0 : I n s) (hK : n < g_K) : ∃ e, g_loop g_K body s = some e ∧ Q e := by
  suffices h : ∀ K n s, I n s → n < K → ∃ e, g_loop K body s = some e ∧ Q e from h g_K n s h0 hK
  intro K
  induction K with
  | zero => intro n s _ h; omega
  | succ K ih =>
    intro n s hI hm
    rcases hb n s hI with ⟨s', h1, n', h2, h3⟩ | ⟨e, h1, h2⟩
    · simp only [g_loop, h1]
      exact ih n' s' h3 (by omega)
    · exact ⟨e, by simp [g_loop, h1], h2⟩

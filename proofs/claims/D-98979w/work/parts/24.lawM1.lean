set_option linter.unusedVariables false
set_option linter.unusedSimpArgs false
/-! THE PLAIN LAW: the model's book, growth -/
/-- a bank of the model's holds a book -/
abbrev MB1 (gi : GI) (r : Nat) (B : Bk) : Prop := (B.Ok) ∧ (r < 2) ∧ (gi 3 r = N B.nk) ∧ (gi 4 r = N B.nm) ∧ (gi 5 r = N B.nb) ∧ (gi 6 r = N B.nr) ∧ (gi 7 r = N B.units) ∧ (gi 8 r = N B.hours) ∧ (gi 9 r = B.seed) ∧ (∀ m, m < 5 → (((gi 10 r) >>> (N m &&& 31)) &&& 1) = if B.loose m then 1 else 0) ∧ (∀ m, m < B.nm → gi 12 (5 * r + m) = B.crop m) ∧ (∀ m, m < B.nm → gi 13 (5 * r + m) = B.hedge m) ∧ (∀ m k, m < B.nm → k < 3 → gi 14 (3 * (5 * r + m) + k) = B.purse m k) ∧ (∀ m k, m < B.nm → k < 3 → gi 15 (3 * (5 * r + m) + k) = B.pay m k) ∧ (∀ a b, a < 3 → b < 3 → gi 18 (9 * r + 3 * a + b) = N (B.cost a b)) ∧ (∀ a b, a < 3 → b < 3 → B.cost a b ≠ 0 → gi 19 (9 * r + 3 * a + b) = N (B.brings a b)) ∧ (∀ j, j < B.nb → gi 20 (5 * r + j) = B.book j) ∧ ((B.grow = none ∧ gi 23 r = 0) ∨ ∃ e f, B.grow = some e ∧ gi 23 r = 1 ∧ (∃ d, Cd d e) ∧ lets e ≤ 60 ∧ gi 21 r = N f ∧ gi 22 r = N (f + e.length) ∧ f + e.length ≤ 1120 ∧ ∀ i, i < e.length → some (gi 28 (f + i), gi 29 (f + i)) = e[i]?)
theorem MB1.ok {gi : GI} {r : Nat} {B : Bk} (h : MB1 gi r B) : B.Ok := h.1
theorem MB1.hr {gi : GI} {r : Nat} {B : Bk} (h : MB1 gi r B) : r < 2 := h.2.1
theorem MB1.nk {gi : GI} {r : Nat} {B : Bk} (h : MB1 gi r B) : gi 3 r = N B.nk := h.2.2.1
theorem MB1.nm {gi : GI} {r : Nat} {B : Bk} (h : MB1 gi r B) : gi 4 r = N B.nm := h.2.2.2.1
theorem MB1.nb {gi : GI} {r : Nat} {B : Bk} (h : MB1 gi r B) : gi 5 r = N B.nb := h.2.2.2.2.1
theorem MB1.nr {gi : GI} {r : Nat} {B : Bk} (h : MB1 gi r B) : gi 6 r = N B.nr := h.2.2.2.2.2.1
theorem MB1.units {gi : GI} {r : Nat} {B : Bk} (h : MB1 gi r B) : gi 7 r = N B.units := h.2.2.2.2.2.2.1
theorem MB1.hours {gi : GI} {r : Nat} {B : Bk} (h : MB1 gi r B) : gi 8 r = N B.hours := h.2.2.2.2.2.2.2.1
theorem MB1.seed {gi : GI} {r : Nat} {B : Bk} (h : MB1 gi r B) : gi 9 r = B.seed := h.2.2.2.2.2.2.2.2.1
theorem MB1.loose {gi : GI} {r : Nat} {B : Bk} (h : MB1 gi r B) : ∀ m, m < 5 → (((gi 10 r) >>> (N m &&& 31)) &&& 1) = if B.loose m then 1 else 0 := h.2.2.2.2.2.2.2.2.2.1
theorem MB1.crop {gi : GI} {r : Nat} {B : Bk} (h : MB1 gi r B) : ∀ m, m < B.nm → gi 12 (5 * r + m) = B.crop m := h.2.2.2.2.2.2.2.2.2.2.1
theorem MB1.hedge {gi : GI} {r : Nat} {B : Bk} (h : MB1 gi r B) : ∀ m, m < B.nm → gi 13 (5 * r + m) = B.hedge m := h.2.2.2.2.2.2.2.2.2.2.2.1
theorem MB1.purse {gi : GI} {r : Nat} {B : Bk} (h : MB1 gi r B) : ∀ m k, m < B.nm → k < 3 → gi 14 (3 * (5 * r + m) + k) = B.purse m k := h.2.2.2.2.2.2.2.2.2.2.2.2.1
theorem MB1.pay {gi : GI} {r : Nat} {B : Bk} (h : MB1 gi r B) : ∀ m k, m < B.nm → k < 3 → gi 15 (3 * (5 * r + m) + k) = B.pay m k := h.2.2.2.2.2.2.2.2.2.2.2.2.2.1
theorem MB1.cost {gi : GI} {r : Nat} {B : Bk} (h : MB1 gi r B) : ∀ a b, a < 3 → b < 3 → gi 18 (9 * r + 3 * a + b) = N (B.cost a b) := h.2.2.2.2.2.2.2.2.2.2.2.2.2.2.1
theorem MB1.brings {gi : GI} {r : Nat} {B : Bk} (h : MB1 gi r B) : ∀ a b, a < 3 → b < 3 → B.cost a b ≠ 0 → gi 19 (9 * r + 3 * a + b) = N (B.brings a b) := h.2.2.2.2.2.2.2.2.2.2.2.2.2.2.2.1
theorem MB1.book {gi : GI} {r : Nat} {B : Bk} (h : MB1 gi r B) : ∀ j, j < B.nb → gi 20 (5 * r + j) = B.book j := h.2.2.2.2.2.2.2.2.2.2.2.2.2.2.2.2.1
theorem MB1.grow {gi : GI} {r : Nat} {B : Bk} (h : MB1 gi r B) : (B.grow = none ∧ gi 23 r = 0) ∨ ∃ e f, B.grow = some e ∧ gi 23 r = 1 ∧ (∃ d, Cd d e) ∧ lets e ≤ 60 ∧ gi 21 r = N f ∧ gi 22 r = N (f + e.length) ∧ f + e.length ≤ 1120 ∧ ∀ i, i < e.length → some (gi 28 (f + i), gi 29 (f + i)) = e[i]? := h.2.2.2.2.2.2.2.2.2.2.2.2.2.2.2.2.2
/-- the bank in use holds a book -/
def MBk (gi : GI) (B : Bk) : Prop := ∃ r, gi 0 41 = N r ∧ MB1 gi r B
/-- the told things stay -/
def Fr (gi gi' : GI) : Prop := gi' 0 41 = gi 0 41 ∧ ∀ c, 3 ≤ c → c < 30 → gi' c = gi c
theorem Fr.refl (gi : GI) : Fr gi gi := ⟨rfl, fun _ _ _ => rfl⟩
theorem Fr.trans {a b c : GI} (h : Fr a b) (g : Fr b c) : Fr a c := ⟨g.1.trans h.1, fun i h1 h2 => (g.2 i h1 h2).trans (h.2 i h1 h2)⟩
theorem Fr.bank {gi gi' : GI} {r : Nat} {B : Bk} (h : Fr gi gi') (b : MB1 gi r B) : MB1 gi' r B := by
  have e := h.2
  refine ⟨?_, ?_, ?_, ?_, ?_, ?_, ?_, ?_, ?_, ?_, ?_, ?_, ?_, ?_, ?_, ?_, ?_, ?_⟩
  · exact b.ok
  · exact b.hr
  · rw [e 3 (by decide) (by decide)]; exact b.nk
  · rw [e 4 (by decide) (by decide)]; exact b.nm
  · rw [e 5 (by decide) (by decide)]; exact b.nb
  · rw [e 6 (by decide) (by decide)]; exact b.nr
  · rw [e 7 (by decide) (by decide)]; exact b.units
  · rw [e 8 (by decide) (by decide)]; exact b.hours
  · rw [e 9 (by decide) (by decide)]; exact b.seed
  · rw [e 10 (by decide) (by decide)]; exact b.loose
  · rw [e 12 (by decide) (by decide)]; exact b.crop
  · rw [e 13 (by decide) (by decide)]; exact b.hedge
  · rw [e 14 (by decide) (by decide)]; exact b.purse
  · rw [e 15 (by decide) (by decide)]; exact b.pay
  · rw [e 18 (by decide) (by decide)]; exact b.cost
  · rw [e 19 (by decide) (by decide)]; exact b.brings
  · rw [e 20 (by decide) (by decide)]; exact b.book
  · rw [e 23 (by decide) (by decide), e 21 (by decide) (by decide), e 22 (by decide) (by decide), e 28 (by decide) (by decide), e 29 (by decide) (by decide)]; exact b.grow
theorem Fr.book {gi gi' : GI} {B : Bk} (h : Fr gi gi') (b : MBk gi B) : MBk gi' B := by
  obtain ⟨r, h1, h2⟩ := b
  exact ⟨r, h.1.trans h1, h.bank h2⟩
/-- only the whole row (cell 33) is written -/
theorem Fr.all (gi : GI) (P : Nat → Int32) : Fr gi (va_up gi 33 P) := ⟨by simp [va_up], fun c _ h => by simp [va_up, show c ≠ 33 by omega]⟩
theorem Fr.cell (gi : GI) (c k : Nat) (x : Int32) (h : (c = 0 ∧ k ≠ 41) ∨ 30 ≤ c ∨ c = 1 ∨ c = 2) : Fr gi (g_pi gi c k x) := by
  constructor
  · rw [pi_get, if_neg]; omega
  · intro d h1 h2
    funext j
    rw [pi_get, if_neg]; omega
theorem all_pi (gi : GI) (k : Nat) (x : Int32) : g_pi gi 33 k x = va_up gi 33 (upd (gi 33) k x) := rfl
theorem all_up (gi : GI) (P Q : Nat → Int32) : va_up (va_up gi 33 P) 33 Q = va_up gi 33 Q := by
  funext i; by_cases h : i = 33 <;> simp [va_up, h]
theorem all_get (gi : GI) (P : Nat → Int32) : va_up gi 33 P 33 = P := by simp [va_up]
theorem all_ne (gi : GI) (P : Nat → Int32) (c : Nat) (h : c ≠ 33) : va_up gi 33 P c = gi c := by simp [va_up, h]
theorem m_many {gi : GI} {B : Bk} (b : MBk gi B) : f_X4_many gi = some (N B.nm) := by
  obtain ⟨r, h1, h2⟩ := b
  have := h2.hr
  simp [f_X4_many, h1, N_ld (gi := gi) (c := 4) this (by decide), h2.nm]
theorem m_leakTo {gi : GI} {B : Bk} (b : MBk gi B) {m : Nat} (hm : m < B.nm) (n : Int32) : f_X4_leakTo gi (N m) n = some (leak B m n) := by
  obtain ⟨r, h1, h2⟩ := b
  have := h2.hr
  have := h2.ok.nm
  rw [f_X4_leakTo, h1, N_lit 5, N_mul, N_add, N_ld (by omega) (by decide), h2.hedge m hm]
  rfl
theorem m_lay_j {gi : GI} {B : Bk} (b : MBk gi B) {m k : Nat} (hm : m < B.nm) (hk : k < 3) (n w : Int32) : f_X4_lay_j53 (N m) (N k) n w gi = some (va_up gi 33 (lay2 B m k n w (gi 33))) := by
  have hn : B.nm ≤ 5 := by obtain ⟨r, h1, h2⟩ := b; exact h2.ok.nm
  rw [f_X4_lay_j53, m_many b]
  simp only [Option.bind_some, N_lit, N_add, N_le (show B.nm < 2147483648 by omega) (show m + 1 < 2147483648 by omega)]
  unfold lay2
  split
  · congr 1; funext i; by_cases h : i = 33 <;> simp [va_up, h]
  · rename_i h
    rw [N_mul, N_add, N_add, N_ld (by omega) (by decide), Option.bind_some, m_leakTo b hm, Option.bind_some, N_st (by omega) (by decide)]
    rfl
theorem m_lay {gi : GI} {B : Bk} (b : MBk gi B) {m k : Nat} (hm : m < B.nm) (hk : k < 3) (n w : Int32) : f_X4_lay gi (N m) (N k) n w = some (va_up gi 33 (ly B m k n w (gi 33))) := by
  have hn : B.nm ≤ 5 := by obtain ⟨r, h1, h2⟩ := b; exact h2.ok.nm
  simp only [f_X4_lay, N_lit, N_mul, N_add]
  rw [N_ld (by omega) (by decide), Option.bind_some, N_st (by omega) (by decide), Option.bind_some, all_pi]
  have b1 := (Fr.all gi (add (gi 33) (20 + 3 * m + k) (w * n))).book b
  have e1 : upd (gi 33) (20 + 3 * m + k) (gi 33 (20 + 3 * m + k) + w * n) = add (gi 33) (20 + 3 * m + k) (w * n) := rfl
  rw [e1]
  simp only [N_le (show m < 2147483648 by omega) (show 0 < 2147483648 by omega)]
  unfold ly lay1
  by_cases h0 : m = 0
  · rw [if_pos (by omega), if_pos h0, m_lay_j b1 hm hk, all_get, all_up]
  · rw [if_neg (by omega), if_neg h0, N_sub (by omega), N_mul, N_add, N_add, N_ld (by omega) (by decide), Option.bind_some, m_leakTo b1 (by omega), Option.bind_some, N_st (by omega) (by decide), Option.bind_some, all_pi, all_up, all_get, m_lay_j ((Fr.all gi _).book b) hm hk, all_get, all_up]
    rfl

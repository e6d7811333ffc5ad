set_option linter.unusedVariables false
set_option linter.unusedSimpArgs false
/-! THE PLAIN LAW: the component's plots and books -/
/-- a cell is a Plots, its arrays behind it -/
abbrev XPl (hk : HK) (gr : GR) (p : Nat) : Prop := ((hk p).1 = 13) ∧ (gr p 0 = some (p + 1)) ∧ (gr p 1 = some (p + 2)) ∧ (gr p 2 = some (p + 3)) ∧ (gr p 3 = some (p + 4)) ∧ (hk (p + 1) = (0, 15)) ∧ (hk (p + 2) = (0, 15)) ∧ (hk (p + 3) = (0, 5)) ∧ (hk (p + 4) = (0, 5))
theorem XPl.k {hk : HK} {gr : GR} {p : Nat} (h : XPl hk gr p) : (hk p).1 = 13 := h.1
theorem XPl.r0 {hk : HK} {gr : GR} {p : Nat} (h : XPl hk gr p) : gr p 0 = some (p + 1) := h.2.1
theorem XPl.r1 {hk : HK} {gr : GR} {p : Nat} (h : XPl hk gr p) : gr p 1 = some (p + 2) := h.2.2.1
theorem XPl.r2 {hk : HK} {gr : GR} {p : Nat} (h : XPl hk gr p) : gr p 2 = some (p + 3) := h.2.2.2.1
theorem XPl.r3 {hk : HK} {gr : GR} {p : Nat} (h : XPl hk gr p) : gr p 3 = some (p + 4) := h.2.2.2.2.1
theorem XPl.k1 {hk : HK} {gr : GR} {p : Nat} (h : XPl hk gr p) : hk (p + 1) = (0, 15) := h.2.2.2.2.2.1
theorem XPl.k2 {hk : HK} {gr : GR} {p : Nat} (h : XPl hk gr p) : hk (p + 2) = (0, 15) := h.2.2.2.2.2.2.1
theorem XPl.k3 {hk : HK} {gr : GR} {p : Nat} (h : XPl hk gr p) : hk (p + 3) = (0, 5) := h.2.2.2.2.2.2.2.1
theorem XPl.k4 {hk : HK} {gr : GR} {p : Nat} (h : XPl hk gr p) : hk (p + 4) = (0, 5) := h.2.2.2.2.2.2.2.2
/-- what a Plots holds, as a row -/
def pl (gi : GI) (p : Nat) (j : Nat) : Int32 := if j < 15 then gi (p + 1) j else if j < 20 then gi (p + 3) (j - 15) else if j < 35 then gi (p + 2) (j - 20) else if j < 40 then gi (p + 4) (j - 35) else if j < 42 then gi p (j - 36) else 0
theorem pl_same {gi gi' : GI} {p : Nat} (h : ∀ c, p ≤ c → c ≤ p + 4 → gi' c = gi c) : pl gi' p = pl gi p := by
  funext j
  unfold pl
  rw [h p (by omega) (by omega), h (p + 1) (by omega) (by omega), h (p + 2) (by omega) (by omega), h (p + 3) (by omega) (by omega), h (p + 4) (by omega) (by omega)]
theorem pl_purse (gi : GI) (p k : Nat) (hk : k < 15) (x : Int32) : pl (g_pi gi (p + 1) k x) p = upd (pl gi p) k x := by
  funext j
  simp only [pl, upd, pi_get]
  by_cases h : j = k
  · subst h; simp [hk]
  · simp [h, show p ≠ p + 1 by omega, show p + 3 ≠ p + 1 by omega, show p + 2 ≠ p + 1 by omega, show p + 4 ≠ p + 1 by omega]
theorem pl_over (gi : GI) (p k : Nat) (hk : k < 15) (x : Int32) : pl (g_pi gi (p + 2) k x) p = upd (pl gi p) (20 + k) x := by
  funext j
  simp only [pl, upd, pi_get]
  by_cases h : j = 20 + k
  · subst h; simp [show ¬ (20 + k < 15) by omega, show ¬ (20 + k < 20) by omega, show 20 + k < 35 by omega]
  · by_cases h2 : j < 20
    · simp [h, h2, show p + 1 ≠ p + 2 by omega, show p + 3 ≠ p + 2 by omega]
    · simp [h, h2, show p ≠ p + 2 by omega, show p + 1 ≠ p + 2 by omega, show p + 3 ≠ p + 2 by omega, show p + 4 ≠ p + 2 by omega, show j - 20 ≠ k by omega]
theorem pl_crop (gi : GI) (p k : Nat) (hk : k < 5) (x : Int32) : pl (g_pi gi (p + 3) k x) p = upd (pl gi p) (15 + k) x := by
  funext j
  simp only [pl, upd, pi_get]
  by_cases h : j = 15 + k
  · subst h; simp [show ¬ (15 + k < 15) by omega, show (15 + k < 20) by omega]
  · by_cases h2 : j < 15
    · simp [h, h2, show p + 1 ≠ p + 3 by omega]
    · simp [h, h2, show p ≠ p + 3 by omega, show p + 1 ≠ p + 3 by omega, show p + 2 ≠ p + 3 by omega, show p + 4 ≠ p + 3 by omega, show j - 15 ≠ k by omega]
theorem pl_spent (gi : GI) (p k : Nat) (hk : k < 5) (x : Int32) : pl (g_pi gi (p + 4) k x) p = upd (pl gi p) (35 + k) x := by
  funext j
  simp only [pl, upd, pi_get]
  by_cases h : j = 35 + k
  · subst h; simp [show ¬ (35 + k < 15) by omega, show ¬ (35 + k < 20) by omega, show ¬ (35 + k < 35) by omega, show 35 + k < 40 by omega]
  · by_cases h2 : j < 35
    · simp [h, h2, show p + 1 ≠ p + 4 by omega, show p + 2 ≠ p + 4 by omega, show p + 3 ≠ p + 4 by omega]
    · simp [h, h2, show p ≠ p + 4 by omega, show p + 1 ≠ p + 4 by omega, show p + 2 ≠ p + 4 by omega, show p + 3 ≠ p + 4 by omega, show j - 35 ≠ k by omega]
theorem pl_own (gi : GI) (p k : Nat) (hk : k = 4 ∨ k = 5) (x : Int32) : pl (g_pi gi p k x) p = upd (pl gi p) (36 + k) x := by
  funext j
  simp only [pl, upd, pi_get]
  by_cases h : j = 36 + k
  · subst h; simp [show ¬ (36 + k < 15) by omega, show ¬ (36 + k < 20) by omega, show ¬ (36 + k < 35) by omega, show ¬ (36 + k < 40) by omega, show 36 + k < 42 by omega]
  · by_cases h2 : j < 40
    · simp [h, h2]
    · simp [h, h2, show j - 36 ≠ k by omega]
theorem pl_at_purse {gi : GI} {p j : Nat} (h : j < 15) : pl gi p j = gi (p + 1) j := by simp [pl, h]
theorem pl_at_over {gi : GI} {p j : Nat} (h : j < 15) : pl gi p (20 + j) = gi (p + 2) j := by
  simp [pl, show ¬ (20 + j < 15) by omega, show ¬ (20 + j < 20) by omega, show 20 + j < 35 by omega]
theorem pl_at_crop {gi : GI} {p j : Nat} (h : j < 5) : pl gi p (15 + j) = gi (p + 3) j := by
  simp [pl, show ¬ (15 + j < 15) by omega, show 15 + j < 20 by omega]
theorem pl_at_spent {gi : GI} {p j : Nat} (h : j < 5) : pl gi p (35 + j) = gi (p + 4) j := by
  simp [pl, show ¬ (35 + j < 15) by omega, show ¬ (35 + j < 20) by omega, show ¬ (35 + j < 35) by omega, show 35 + j < 40 by omega]
theorem pl_week (gi : GI) (p : Nat) : pl gi p 40 = gi p 4 := rfl
theorem pl_seed (gi : GI) (p : Nat) : pl gi p 41 = gi p 5 := rfl
/-! books -/
/-- a cell is a formula's, with its code -/
def XEx (hk : HK) (gi : GI) (gr : GR) (L : List Nat) : Nat → Nat → Cde → Prop
  | 0, _, _ => False
  | d + 1, g, C => g ∈ L ∧ (((hk g).1 = 19 ∧ C = [(110, gi g 0)]) ∨ (∃ k, g = 1000000 + k ∧ k < 6 ∧ (hk g).1 ≠ 19 ∧ (hk g).1 ≠ 18 ∧ (hk g).1 ≠ 20 ∧ C = [(askc k, 0)]) ∨ ((hk g).1 = 18 ∧ ∃ n A, gr g 0 = some n ∧ XEx hk gi gr L d n A ∧ C = A ++ [(126, 0)]) ∨ ((hk g).1 = 20 ∧ isTwo (gi g 2) ∧ ∃ a b A E, gr g 0 = some a ∧ gr g 1 = some b ∧ XEx hk gi gr L d a A ∧ XEx hk gi gr L d b E ∧ C = A ++ E ++ [(gi g 2, 0)]))
theorem XEx.cd {hk : HK} {gi : GI} {gr : GR} {L : List Nat} : ∀ {d g : Nat} {C : Cde}, XEx hk gi gr L d g C → Cd d C := by
  intro d
  induction d with
  | zero => intro g C h; exact h.elim
  | succ d ih =>
    rintro g C ⟨_, ⟨_, h⟩ | ⟨k, _, h1, _, _, _, h⟩ | ⟨_, n, A, _, h1, h⟩ | ⟨_, h0, a, b, A, E, _, _, h1, h2, h⟩⟩
    · exact Or.inl ⟨_, h⟩
    · exact Or.inr (Or.inl ⟨k, h1, h⟩)
    · exact Or.inr (Or.inr (Or.inl ⟨A, ih h1, h⟩))
    · exact Or.inr (Or.inr (Or.inr ⟨A, E, _, ih h1, ih h2, h0, h⟩))
theorem XEx.up {hk : HK} {gi : GI} {gr : GR} {L : List Nat} : ∀ {d e g : Nat} {C : Cde}, XEx hk gi gr L d g C → d ≤ e → XEx hk gi gr L e g C := by
  intro d
  induction d with
  | zero => intro e g C h; exact h.elim
  | succ d ih =>
    intro e g C h he
    obtain ⟨e, rfl⟩ : ∃ e', e = e' + 1 := ⟨e - 1, by omega⟩
    obtain ⟨h0, h | h | ⟨k, n, A, a1, h1, h⟩ | ⟨k, a0, a, b, A, E, a1, a2, h1, h2, h⟩⟩ := h
    · exact ⟨h0, Or.inl h⟩
    · exact ⟨h0, Or.inr (Or.inl h)⟩
    · exact ⟨h0, Or.inr (Or.inr (Or.inl ⟨k, n, A, a1, ih h1 (by omega), h⟩))⟩
    · exact ⟨h0, Or.inr (Or.inr (Or.inr ⟨k, a0, a, b, A, E, a1, a2, ih h1 (by omega), ih h2 (by omega), h⟩))⟩
/-- a man -/
abbrev XMan (hk : HK) (gi : GI) (gr : GR) (L : List Nat) (c : Nat) (B : Bk) (m : Nat) : Prop := (c ∈ L) ∧ ((hk c).1 = 16) ∧ (∃ a, a ∈ L ∧ gr c 1 = some a ∧ hk a = (0, 3) ∧ ∀ k, k < 3 → gi a k = B.purse m k) ∧ (∃ a, a ∈ L ∧ gr c 2 = some a ∧ hk a = (0, 3) ∧ ∀ k, k < 3 → gi a k = B.pay m k) ∧ (gi c 3 = B.crop m) ∧ (gi c 6 = B.hedge m) ∧ (gi c 7 = if B.loose m then 1 else 0)
theorem XMan.mem {hk : HK} {gi : GI} {gr : GR} {L : List Nat} {c : Nat} {B : Bk} {m : Nat} (h : XMan hk gi gr L c B m) : c ∈ L := h.1
theorem XMan.k {hk : HK} {gi : GI} {gr : GR} {L : List Nat} {c : Nat} {B : Bk} {m : Nat} (h : XMan hk gi gr L c B m) : (hk c).1 = 16 := h.2.1
theorem XMan.purse {hk : HK} {gi : GI} {gr : GR} {L : List Nat} {c : Nat} {B : Bk} {m : Nat} (h : XMan hk gi gr L c B m) : ∃ a, a ∈ L ∧ gr c 1 = some a ∧ hk a = (0, 3) ∧ ∀ k, k < 3 → gi a k = B.purse m k := h.2.2.1
theorem XMan.pay {hk : HK} {gi : GI} {gr : GR} {L : List Nat} {c : Nat} {B : Bk} {m : Nat} (h : XMan hk gi gr L c B m) : ∃ a, a ∈ L ∧ gr c 2 = some a ∧ hk a = (0, 3) ∧ ∀ k, k < 3 → gi a k = B.pay m k := h.2.2.2.1
theorem XMan.crop {hk : HK} {gi : GI} {gr : GR} {L : List Nat} {c : Nat} {B : Bk} {m : Nat} (h : XMan hk gi gr L c B m) : gi c 3 = B.crop m := h.2.2.2.2.1
theorem XMan.hedge {hk : HK} {gi : GI} {gr : GR} {L : List Nat} {c : Nat} {B : Bk} {m : Nat} (h : XMan hk gi gr L c B m) : gi c 6 = B.hedge m := h.2.2.2.2.2.1
theorem XMan.loose {hk : HK} {gi : GI} {gr : GR} {L : List Nat} {c : Nat} {B : Bk} {m : Nat} (h : XMan hk gi gr L c B m) : gi c 7 = if B.loose m then 1 else 0 := h.2.2.2.2.2.2
/-- a list of so many cells -/
abbrev XLs (hk : HK) (gi : GI) (gr : GR) (L : List Nat) (l : Nat) (n : Nat) (f : Nat → Nat) : Prop := (l ∈ L) ∧ ((hk l).1 = 22) ∧ (gi l 2 = N n) ∧ (n ≤ 10000) ∧ (∃ e, e ∈ L ∧ gr l 1 = some e ∧ (hk e).1 = 4 ∧ n ≤ (hk e).2 ∧ (hk e).2 < 2147483648 ∧ ∀ i, i < n → gr e i = some (f i))
theorem XLs.mem {hk : HK} {gi : GI} {gr : GR} {L : List Nat} {l : Nat} {n : Nat} {f : Nat → Nat} (h : XLs hk gi gr L l n f) : l ∈ L := h.1
theorem XLs.k {hk : HK} {gi : GI} {gr : GR} {L : List Nat} {l : Nat} {n : Nat} {f : Nat → Nat} (h : XLs hk gi gr L l n f) : (hk l).1 = 22 := h.2.1
theorem XLs.size {hk : HK} {gi : GI} {gr : GR} {L : List Nat} {l : Nat} {n : Nat} {f : Nat → Nat} (h : XLs hk gi gr L l n f) : gi l 2 = N n := h.2.2.1
theorem XLs.small {hk : HK} {gi : GI} {gr : GR} {L : List Nat} {l : Nat} {n : Nat} {f : Nat → Nat} (h : XLs hk gi gr L l n f) : n ≤ 10000 := h.2.2.2.1
theorem XLs.els {hk : HK} {gi : GI} {gr : GR} {L : List Nat} {l : Nat} {n : Nat} {f : Nat → Nat} (h : XLs hk gi gr L l n f) : ∃ e, e ∈ L ∧ gr l 1 = some e ∧ (hk e).1 = 4 ∧ n ≤ (hk e).2 ∧ (hk e).2 < 2147483648 ∧ ∀ i, i < n → gr e i = some (f i) := h.2.2.2.2
/-- rates: the cells of a list tell the tables of costs -/
abbrev XRt (hk : HK) (gi : GI) (L : List Nat) (B : Bk) (f : Nat → Nat) : Prop := (∀ i, i < B.nr → f i ∈ L ∧ (hk (f i)).1 = 17 ∧ ∃ a b, a < 3 ∧ b < 3 ∧ gi (f i) 0 = N a ∧ gi (f i) 1 = N b ∧ gi (f i) 2 = N (B.cost a b) ∧ gi (f i) 3 = N (B.brings a b) ∧ B.cost a b ≠ 0) ∧ (∀ a b, a < 3 → b < 3 → B.cost a b ≠ 0 → ∃ i, i < B.nr ∧ gi (f i) 0 = N a ∧ gi (f i) 1 = N b)
theorem XRt.cell {hk : HK} {gi : GI} {L : List Nat} {B : Bk} {f : Nat → Nat} (h : XRt hk gi L B f) : ∀ i, i < B.nr → f i ∈ L ∧ (hk (f i)).1 = 17 ∧ ∃ a b, a < 3 ∧ b < 3 ∧ gi (f i) 0 = N a ∧ gi (f i) 1 = N b ∧ gi (f i) 2 = N (B.cost a b) ∧ gi (f i) 3 = N (B.brings a b) ∧ B.cost a b ≠ 0 := h.1
theorem XRt.has {hk : HK} {gi : GI} {L : List Nat} {B : Bk} {f : Nat → Nat} (h : XRt hk gi L B f) : ∀ a b, a < 3 → b < 3 → B.cost a b ≠ 0 → ∃ i, i < B.nr ∧ gi (f i) 0 = N a ∧ gi (f i) 1 = N b := h.2
abbrev XBk (hk : HK) (gi : GI) (gr : GR) (b : Nat) (B : Bk) (ask : Nat) (L : List Nat) : Prop := (B.Ok) ∧ (b ∈ L) ∧ ((hk b).1 = 11) ∧ (∃ kl f, gr b 0 = some kl ∧ XLs hk gi gr L kl B.nk f) ∧ (∃ ml f, gr b 1 = some ml ∧ XLs hk gi gr L ml B.nm f ∧ ∀ m, m < B.nm → XMan hk gi gr L (f m) B m) ∧ (∃ rl f, gr b 2 = some rl ∧ XLs hk gi gr L rl B.nr f ∧ XRt hk gi L B f) ∧ (∃ ba, ba ∈ L ∧ gr b 3 = some ba ∧ hk ba = (0, 5) ∧ ∀ j, j < B.nb → gi ba j = B.book j) ∧ (gr b 4 = some ask ∧ (hk ask).1 = 12 ∧ ask ∉ L) ∧ (gi b 6 = N B.nb) ∧ (gi b 7 = N B.hours) ∧ (gi b 8 = B.seed) ∧ (gi b 9 = N B.units) ∧ ((B.grow = none ∧ gr b 5 = none) ∨ ∃ e g, B.grow = some e ∧ gr b 5 = some g ∧ XEx hk gi gr L 100 g e)
theorem XBk.ok {hk : HK} {gi : GI} {gr : GR} {b : Nat} {B : Bk} {ask : Nat} {L : List Nat} (h : XBk hk gi gr b B ask L) : B.Ok := h.1
theorem XBk.mem {hk : HK} {gi : GI} {gr : GR} {b : Nat} {B : Bk} {ask : Nat} {L : List Nat} (h : XBk hk gi gr b B ask L) : b ∈ L := h.2.1
theorem XBk.k {hk : HK} {gi : GI} {gr : GR} {b : Nat} {B : Bk} {ask : Nat} {L : List Nat} (h : XBk hk gi gr b B ask L) : (hk b).1 = 11 := h.2.2.1
theorem XBk.kinds {hk : HK} {gi : GI} {gr : GR} {b : Nat} {B : Bk} {ask : Nat} {L : List Nat} (h : XBk hk gi gr b B ask L) : ∃ kl f, gr b 0 = some kl ∧ XLs hk gi gr L kl B.nk f := h.2.2.2.1
theorem XBk.men {hk : HK} {gi : GI} {gr : GR} {b : Nat} {B : Bk} {ask : Nat} {L : List Nat} (h : XBk hk gi gr b B ask L) : ∃ ml f, gr b 1 = some ml ∧ XLs hk gi gr L ml B.nm f ∧ ∀ m, m < B.nm → XMan hk gi gr L (f m) B m := h.2.2.2.2.1
theorem XBk.rates {hk : HK} {gi : GI} {gr : GR} {b : Nat} {B : Bk} {ask : Nat} {L : List Nat} (h : XBk hk gi gr b B ask L) : ∃ rl f, gr b 2 = some rl ∧ XLs hk gi gr L rl B.nr f ∧ XRt hk gi L B f := h.2.2.2.2.2.1
theorem XBk.books {hk : HK} {gi : GI} {gr : GR} {b : Nat} {B : Bk} {ask : Nat} {L : List Nat} (h : XBk hk gi gr b B ask L) : ∃ ba, ba ∈ L ∧ gr b 3 = some ba ∧ hk ba = (0, 5) ∧ ∀ j, j < B.nb → gi ba j = B.book j := h.2.2.2.2.2.2.1
theorem XBk.ask {hk : HK} {gi : GI} {gr : GR} {b : Nat} {B : Bk} {ask : Nat} {L : List Nat} (h : XBk hk gi gr b B ask L) : gr b 4 = some ask ∧ (hk ask).1 = 12 ∧ ask ∉ L := h.2.2.2.2.2.2.2.1
theorem XBk.nb {hk : HK} {gi : GI} {gr : GR} {b : Nat} {B : Bk} {ask : Nat} {L : List Nat} (h : XBk hk gi gr b B ask L) : gi b 6 = N B.nb := h.2.2.2.2.2.2.2.2.1
theorem XBk.hours {hk : HK} {gi : GI} {gr : GR} {b : Nat} {B : Bk} {ask : Nat} {L : List Nat} (h : XBk hk gi gr b B ask L) : gi b 7 = N B.hours := h.2.2.2.2.2.2.2.2.2.1
theorem XBk.seed {hk : HK} {gi : GI} {gr : GR} {b : Nat} {B : Bk} {ask : Nat} {L : List Nat} (h : XBk hk gi gr b B ask L) : gi b 8 = B.seed := h.2.2.2.2.2.2.2.2.2.2.1
theorem XBk.units {hk : HK} {gi : GI} {gr : GR} {b : Nat} {B : Bk} {ask : Nat} {L : List Nat} (h : XBk hk gi gr b B ask L) : gi b 9 = N B.units := h.2.2.2.2.2.2.2.2.2.2.2.1
theorem XBk.grow {hk : HK} {gi : GI} {gr : GR} {b : Nat} {B : Bk} {ask : Nat} {L : List Nat} (h : XBk hk gi gr b B ask L) : (B.grow = none ∧ gr b 5 = none) ∨ ∃ e g, B.grow = some e ∧ gr b 5 = some g ∧ XEx hk gi gr L 100 g e := h.2.2.2.2.2.2.2.2.2.2.2.2
/-! frames -/
def Keep (hk hk' : HK) (gi gi' : GI) (gr gr' : GR) (L : List Nat) : Prop := ∀ c, c ∈ L → hk' c = hk c ∧ gi' c = gi c ∧ gr' c = gr c
theorem XEx.keep {hk hk' : HK} {gi gi' : GI} {gr gr' : GR} {L M : List Nat} (h : Keep hk hk' gi gi' gr gr' L) (hM : ∀ c, c ∈ L → c ∈ M) : ∀ {d g : Nat} {C : Cde}, XEx hk gi gr L d g C → XEx hk' gi' gr' M d g C := by
  intro d
  induction d with
  | zero => intro g C h; exact h.elim
  | succ d ih =>
    intro g C x
    obtain ⟨x0, x⟩ := x
    obtain ⟨q1, q2, q3⟩ := h g x0
    refine ⟨hM g x0, ?_⟩
    rw [q1, q2, q3]
    rcases x with x | x | ⟨k, n, A, a1, h1, x⟩ | ⟨k, a0, a, b, A, E, a1, a2, h1, h2, x⟩
    · exact Or.inl x
    · exact Or.inr (Or.inl x)
    · exact Or.inr (Or.inr (Or.inl ⟨k, n, A, a1, ih h1, x⟩))
    · exact Or.inr (Or.inr (Or.inr ⟨k, a0, a, b, A, E, a1, a2, ih h1, ih h2, x⟩))
theorem XLs.keep {hk hk' : HK} {gi gi' : GI} {gr gr' : GR} {L : List Nat} (h : Keep hk hk' gi gi' gr gr' L) {l n : Nat} {f : Nat → Nat} (x : XLs hk gi gr L l n f) : XLs hk' gi' gr' L l n f := by
  obtain ⟨q1, q2, q3⟩ := h l x.mem
  obtain ⟨e, e1, e2, e3, e4, e5, e6⟩ := x.els
  obtain ⟨p1, p2, p3⟩ := h e e1
  exact ⟨x.mem, by rw [q1]; exact x.k, by rw [q2]; exact x.size, x.small, e, e1, by rw [q3]; exact e2, by rw [p1]; exact e3, by rw [p1]; exact e4, by rw [p1]; exact e5, by rw [p3]; exact e6⟩
theorem XMan.keep {hk hk' : HK} {gi gi' : GI} {gr gr' : GR} {L : List Nat} (h : Keep hk hk' gi gi' gr gr' L) {c : Nat} {B : Bk} {m : Nat} (x : XMan hk gi gr L c B m) : XMan hk' gi' gr' L c B m := by
  obtain ⟨q1, q2, q3⟩ := h c x.mem
  obtain ⟨a, a1, a2, a3, a4⟩ := x.purse
  obtain ⟨b, b1, b2, b3, b4⟩ := x.pay
  exact ⟨x.mem, by rw [q1]; exact x.k, ⟨a, a1, by rw [q3]; exact a2, by rw [(h a a1).1]; exact a3, by rw [(h a a1).2.1]; exact a4⟩, ⟨b, b1, by rw [q3]; exact b2, by rw [(h b b1).1]; exact b3, by rw [(h b b1).2.1]; exact b4⟩, by rw [q2]; exact x.crop, by rw [q2]; exact x.hedge, by rw [q2]; exact x.loose⟩
theorem XRt.keep {hk hk' : HK} {gi gi' : GI} {gr gr' : GR} {L : List Nat} (h : Keep hk hk' gi gi' gr gr' L) {B : Bk} {f : Nat → Nat} (x : XRt hk gi L B f) : XRt hk' gi' L B f := by
  constructor
  · intro i hi
    obtain ⟨c1, c2, c3⟩ := x.cell i hi
    rw [(h _ c1).1, (h _ c1).2.1]
    exact ⟨c1, c2, c3⟩
  · intro a b ha hb hc
    obtain ⟨i, h1, h2⟩ := x.has a b ha hb hc
    obtain ⟨c1, _⟩ := x.cell i h1
    exact ⟨i, h1, by rw [(h _ c1).2.1]; exact h2⟩
theorem XBk.keep {hk hk' : HK} {gi gi' : GI} {gr gr' : GR} {L : List Nat} (h : Keep hk hk' gi gi' gr gr' L) {b : Nat} {B : Bk} {ask : Nat} (ha : hk' ask = hk ask) (x : XBk hk gi gr b B ask L) : XBk hk' gi' gr' b B ask L := by
  obtain ⟨q1, q2, q3⟩ := h b x.mem
  refine ⟨x.ok, x.mem, by rw [q1]; exact x.k, ?_, ?_, ?_, ?_, by rw [q3, ha]; exact x.ask, by rw [q2]; exact x.nb, by rw [q2]; exact x.hours, by rw [q2]; exact x.seed, by rw [q2]; exact x.units, ?_⟩
  · obtain ⟨kl, f, a1, a2⟩ := x.kinds
    exact ⟨kl, f, by rw [q3]; exact a1, a2.keep h⟩
  · obtain ⟨kl, f, a1, a2, a3⟩ := x.men
    exact ⟨kl, f, by rw [q3]; exact a1, a2.keep h, fun m hm => (a3 m hm).keep h⟩
  · obtain ⟨kl, f, a1, a2, a3⟩ := x.rates
    exact ⟨kl, f, by rw [q3]; exact a1, a2.keep h, a3.keep h⟩
  · obtain ⟨ba, a1, a2, a3, a4⟩ := x.books
    exact ⟨ba, a1, by rw [q3]; exact a2, by rw [(h ba a1).1]; exact a3, by rw [(h ba a1).2.1]; exact a4⟩
  · rcases x.grow with ⟨a1, a2⟩ | ⟨e, g, a1, a2, a3⟩
    · exact Or.inl ⟨a1, by rw [q3]; exact a2⟩
    · exact Or.inr ⟨e, g, a1, by rw [q3]; exact a2, a3.keep h (fun _ h => h)⟩

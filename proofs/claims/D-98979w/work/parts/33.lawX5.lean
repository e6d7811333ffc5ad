set_option linter.unusedVariables false
set_option linter.unusedSimpArgs false
/-! THE PLAIN LAW: the component's world; rows of hours -/
/-- the cells that stand from the start (but the first book) -/
def isSt (c : Nat) : Prop := c < 2 ∨ (11 ≤ c ∧ c < 264)
/-- the Plots among them -/
def isPl (p : Nat) : Prop := p = 11 ∨ p = 16 ∨ p = 21 ∨ p = 26 ∨ (∃ i, i < 43 ∧ p = 49 + 5 * i)
abbrev XLay (hk : HK) (gr : GR) : Prop := ((hk 0).1 = 10) ∧ (gr 0 0 = some 1) ∧ (hk 1 = (1, 1600)) ∧ (gr 0 5 = some 11) ∧ (gr 0 6 = some 16) ∧ (gr 0 7 = some 21) ∧ (gr 0 8 = some 26) ∧ (∀ p, isPl p → XPl hk gr p) ∧ (gr 0 10 = some 31) ∧ (hk 31 = (5, 40)) ∧ (gr 0 13 = some 32) ∧ (hk 32 = (0, 3)) ∧ (gr 0 14 = some 33) ∧ (hk 33 = (0, 3)) ∧ (gr 0 15 = some 34) ∧ (hk 34 = (0, 6)) ∧ (gr 0 19 = some 35) ∧ (hk 35 = (0, 6)) ∧ (gr 0 20 = some 36) ∧ (hk 36 = (0, 6)) ∧ (gr 0 21 = some 37) ∧ (hk 37 = (0, 15)) ∧ (gr 0 25 = some 38) ∧ ((hk 38).1 = 22) ∧ (gr 0 26 = some 40) ∧ (hk 40 = (0, 5)) ∧ (gr 0 27 = some 41) ∧ (hk 41 = (6, 5)) ∧ (∀ i, i < 5 → gr 41 i = some (42 + i) ∧ hk (42 + i) = (0, 5)) ∧ (gr 0 28 = some 47) ∧ (hk 47 = (5, 3)) ∧ (∀ b, b < 3 → gr 47 b = some (249 + 5 * b)) ∧ (gr 0 29 = some 48) ∧ (hk 48 = (2, 3))
theorem XLay.k0 {hk : HK} {gr : GR} (h : XLay hk gr) : (hk 0).1 = 10 := h.1
theorem XLay.f0 {hk : HK} {gr : GR} (h : XLay hk gr) : gr 0 0 = some 1 := h.2.1
theorem XLay.k1 {hk : HK} {gr : GR} (h : XLay hk gr) : hk 1 = (1, 1600) := h.2.2.1
theorem XLay.f5 {hk : HK} {gr : GR} (h : XLay hk gr) : gr 0 5 = some 11 := h.2.2.2.1
theorem XLay.f6 {hk : HK} {gr : GR} (h : XLay hk gr) : gr 0 6 = some 16 := h.2.2.2.2.1
theorem XLay.f7 {hk : HK} {gr : GR} (h : XLay hk gr) : gr 0 7 = some 21 := h.2.2.2.2.2.1
theorem XLay.f8 {hk : HK} {gr : GR} (h : XLay hk gr) : gr 0 8 = some 26 := h.2.2.2.2.2.2.1
theorem XLay.pls {hk : HK} {gr : GR} (h : XLay hk gr) : ∀ p, isPl p → XPl hk gr p := h.2.2.2.2.2.2.2.1
theorem XLay.f10 {hk : HK} {gr : GR} (h : XLay hk gr) : gr 0 10 = some 31 := h.2.2.2.2.2.2.2.2.1
theorem XLay.k31 {hk : HK} {gr : GR} (h : XLay hk gr) : hk 31 = (5, 40) := h.2.2.2.2.2.2.2.2.2.1
theorem XLay.f13 {hk : HK} {gr : GR} (h : XLay hk gr) : gr 0 13 = some 32 := h.2.2.2.2.2.2.2.2.2.2.1
theorem XLay.k32 {hk : HK} {gr : GR} (h : XLay hk gr) : hk 32 = (0, 3) := h.2.2.2.2.2.2.2.2.2.2.2.1
theorem XLay.f14 {hk : HK} {gr : GR} (h : XLay hk gr) : gr 0 14 = some 33 := h.2.2.2.2.2.2.2.2.2.2.2.2.1
theorem XLay.k33 {hk : HK} {gr : GR} (h : XLay hk gr) : hk 33 = (0, 3) := h.2.2.2.2.2.2.2.2.2.2.2.2.2.1
theorem XLay.f15 {hk : HK} {gr : GR} (h : XLay hk gr) : gr 0 15 = some 34 := h.2.2.2.2.2.2.2.2.2.2.2.2.2.2.1
theorem XLay.k34 {hk : HK} {gr : GR} (h : XLay hk gr) : hk 34 = (0, 6) := h.2.2.2.2.2.2.2.2.2.2.2.2.2.2.2.1
theorem XLay.f19 {hk : HK} {gr : GR} (h : XLay hk gr) : gr 0 19 = some 35 := h.2.2.2.2.2.2.2.2.2.2.2.2.2.2.2.2.1
theorem XLay.k35 {hk : HK} {gr : GR} (h : XLay hk gr) : hk 35 = (0, 6) := h.2.2.2.2.2.2.2.2.2.2.2.2.2.2.2.2.2.1
theorem XLay.f20 {hk : HK} {gr : GR} (h : XLay hk gr) : gr 0 20 = some 36 := h.2.2.2.2.2.2.2.2.2.2.2.2.2.2.2.2.2.2.1
theorem XLay.k36 {hk : HK} {gr : GR} (h : XLay hk gr) : hk 36 = (0, 6) := h.2.2.2.2.2.2.2.2.2.2.2.2.2.2.2.2.2.2.2.1
theorem XLay.f21 {hk : HK} {gr : GR} (h : XLay hk gr) : gr 0 21 = some 37 := h.2.2.2.2.2.2.2.2.2.2.2.2.2.2.2.2.2.2.2.2.1
theorem XLay.k37 {hk : HK} {gr : GR} (h : XLay hk gr) : hk 37 = (0, 15) := h.2.2.2.2.2.2.2.2.2.2.2.2.2.2.2.2.2.2.2.2.2.1
theorem XLay.f25 {hk : HK} {gr : GR} (h : XLay hk gr) : gr 0 25 = some 38 := h.2.2.2.2.2.2.2.2.2.2.2.2.2.2.2.2.2.2.2.2.2.2.1
theorem XLay.k38 {hk : HK} {gr : GR} (h : XLay hk gr) : (hk 38).1 = 22 := h.2.2.2.2.2.2.2.2.2.2.2.2.2.2.2.2.2.2.2.2.2.2.2.1
theorem XLay.f26 {hk : HK} {gr : GR} (h : XLay hk gr) : gr 0 26 = some 40 := h.2.2.2.2.2.2.2.2.2.2.2.2.2.2.2.2.2.2.2.2.2.2.2.2.1
theorem XLay.k40 {hk : HK} {gr : GR} (h : XLay hk gr) : hk 40 = (0, 5) := h.2.2.2.2.2.2.2.2.2.2.2.2.2.2.2.2.2.2.2.2.2.2.2.2.2.1
theorem XLay.f27 {hk : HK} {gr : GR} (h : XLay hk gr) : gr 0 27 = some 41 := h.2.2.2.2.2.2.2.2.2.2.2.2.2.2.2.2.2.2.2.2.2.2.2.2.2.2.1
theorem XLay.k41 {hk : HK} {gr : GR} (h : XLay hk gr) : hk 41 = (6, 5) := h.2.2.2.2.2.2.2.2.2.2.2.2.2.2.2.2.2.2.2.2.2.2.2.2.2.2.2.1
theorem XLay.t41 {hk : HK} {gr : GR} (h : XLay hk gr) : ∀ i, i < 5 → gr 41 i = some (42 + i) ∧ hk (42 + i) = (0, 5) := h.2.2.2.2.2.2.2.2.2.2.2.2.2.2.2.2.2.2.2.2.2.2.2.2.2.2.2.2.1
theorem XLay.f28 {hk : HK} {gr : GR} (h : XLay hk gr) : gr 0 28 = some 47 := h.2.2.2.2.2.2.2.2.2.2.2.2.2.2.2.2.2.2.2.2.2.2.2.2.2.2.2.2.2.1
theorem XLay.k47 {hk : HK} {gr : GR} (h : XLay hk gr) : hk 47 = (5, 3) := h.2.2.2.2.2.2.2.2.2.2.2.2.2.2.2.2.2.2.2.2.2.2.2.2.2.2.2.2.2.2.1
theorem XLay.t47 {hk : HK} {gr : GR} (h : XLay hk gr) : ∀ b, b < 3 → gr 47 b = some (249 + 5 * b) := h.2.2.2.2.2.2.2.2.2.2.2.2.2.2.2.2.2.2.2.2.2.2.2.2.2.2.2.2.2.2.2.1
theorem XLay.f29 {hk : HK} {gr : GR} (h : XLay hk gr) : gr 0 29 = some 48 := h.2.2.2.2.2.2.2.2.2.2.2.2.2.2.2.2.2.2.2.2.2.2.2.2.2.2.2.2.2.2.2.2.1
theorem XLay.k48 {hk : HK} {gr : GR} (h : XLay hk gr) : hk 48 = (2, 3) := h.2.2.2.2.2.2.2.2.2.2.2.2.2.2.2.2.2.2.2.2.2.2.2.2.2.2.2.2.2.2.2.2.2
abbrev XWd (hk : HK) (gi : GI) (gr : GR) (b ask : Nat) (L : List Nat) (B : Bk) : Prop := (XLay hk gr) ∧ (gr 0 4 = some b) ∧ (XBk hk gi gr b B ask L) ∧ (∀ c, (c ∈ L ∨ c = ask) → ¬ isSt c)
theorem XWd.lay {hk : HK} {gi : GI} {gr : GR} {b ask : Nat} {L : List Nat} {B : Bk} (h : XWd hk gi gr b ask L B) : XLay hk gr := h.1
theorem XWd.f4 {hk : HK} {gi : GI} {gr : GR} {b ask : Nat} {L : List Nat} {B : Bk} (h : XWd hk gi gr b ask L B) : gr 0 4 = some b := h.2.1
theorem XWd.bk {hk : HK} {gi : GI} {gr : GR} {b ask : Nat} {L : List Nat} {B : Bk} (h : XWd hk gi gr b ask L B) : XBk hk gi gr b B ask L := h.2.2.1
theorem XWd.sep {hk : HK} {gi : GI} {gr : GR} {b ask : Nat} {L : List Nat} {B : Bk} (h : XWd hk gi gr b ask L B) : ∀ c, (c ∈ L ∨ c = ask) → ¬ isSt c := h.2.2.2
theorem XWd.over {hk : HK} {gi gi' : GI} {gr : GR} {b ask : Nat} {L : List Nat} {B : Bk} (w : XWd hk gi gr b ask L B) (h : ∀ c, ¬ isSt c → c ≠ ask → gi' c = gi c) : XWd hk gi' gr b ask L B :=
  ⟨w.lay, w.f4, w.bk.over (fun c hc => h c (w.sep c (Or.inl hc)) (fun e => w.bk.ask.2.2 (e ▸ hc))), w.sep⟩
theorem isPl.st {p : Nat} (h : isPl p) {c : Nat} (h1 : p ≤ c) (h2 : c ≤ p + 4) : isSt c := by
  unfold isSt
  rcases h with h | h | h | h | ⟨i, h3, h⟩ <;> omega
theorem XWd.sp {hk : HK} {gi : GI} {gr : GR} {b ask : Nat} {L : List Nat} {B : Bk} (w : XWd hk gi gr b ask L B) {p : Nat} (hp : isPl p) : Sp L ask p :=
  ⟨fun c hc h => w.sep c (Or.inl hc) (hp.st h.1 h.2), fun h => w.sep ask (Or.inr rfl) (hp.st h.1 h.2)⟩
theorem isPl.apart {p q : Nat} (hp : isPl p) (hq : isPl q) (h : p ≠ q) : p + 4 < q ∨ q + 4 < p := by
  rcases hp with hp | hp | hp | hp | ⟨i, h3, hp⟩ <;> rcases hq with hq | hq | hq | hq | ⟨k, h4, hq⟩ <;> omega
theorem isPl.low {p : Nat} (h : isPl p) : 11 ≤ p ∧ p ≤ 259 ∧ ¬ (26 < p ∧ p < 49) := by
  rcases h with h | h | h | h | ⟨i, h3, h⟩ <;> omega
theorem pl11 : isPl 11 := Or.inl rfl
theorem pl16 : isPl 16 := Or.inr (Or.inl rfl)
theorem pl21 : isPl 21 := Or.inr (Or.inr (Or.inl rfl))
theorem pl26 : isPl 26 := Or.inr (Or.inr (Or.inr (Or.inl rfl)))
theorem x_menN {hk : HK} {gi : GI} {gr : GR} {b ask : Nat} {L : List Nat} {B : Bk} (w : XWd hk gi gr b ask L B) : f_X0_men hk gi gr 0 = some (N B.nm) := by
  obtain ⟨ml, f, h1, h2, h3⟩ := w.bk.men
  rw [f_X0_men, w.f4, Option.bind_some, g_is_of w.bk.k, Option.bind_some, h1, Option.bind_some, g_is_of h2.k, Option.bind_some, f_J2_size, Option.bind_some, h2.size]
theorem x_kindsN {hk : HK} {gi : GI} {gr : GR} {b ask : Nat} {L : List Nat} {B : Bk} (w : XWd hk gi gr b ask L B) : f_X0_kinds hk gi gr 0 = some (N B.nk) := by
  obtain ⟨ml, f, h1, h2⟩ := w.bk.kinds
  rw [f_X0_kinds, w.f4, Option.bind_some, g_is_of w.bk.k, Option.bind_some, h1, Option.bind_some, g_is_of h2.k, Option.bind_some, f_J2_size, Option.bind_some, h2.size]
theorem x_isIn (hk : HK) (gi : GI) (gr : GR) (x a c : Int32) : f_X0_isIn hk gi gr x a c = some (if x < a then 0 else if c < x then 0 else 1) := by
  unfold f_X0_isIn
  split
  · rfl
  · split <;> rfl
theorem x_isMan {hk : HK} {gi : GI} {gr : GR} {b ask : Nat} {L : List Nat} {B : Bk} (w : XWd hk gi gr b ask L B) (x : Int32) : f_X0_isMan hk gi gr 0 x = some (if (asQ x B.nm).isSome then 1 else 0) := by
  have h5 := w.bk.ok.nm
  rw [f_X0_isMan, x_menN w, Option.bind_some, x_isIn, isIn_asQ x (by omega), Option.bind_some]
  by_cases q : (asQ x B.nm).isSome <;> simp [q, g_zb]
theorem x_isKind {hk : HK} {gi : GI} {gr : GR} {b ask : Nat} {L : List Nat} {B : Bk} (w : XWd hk gi gr b ask L B) (x : Int32) : f_X0_isKind hk gi gr 0 x = some (if (asQ x B.nk).isSome then 1 else 0) := by
  have h5 := w.bk.ok.nk
  rw [f_X0_isKind, x_kindsN w, Option.bind_some, x_isIn, isIn_asQ x (by omega), Option.bind_some]
  by_cases q : (asQ x B.nk).isSome <;> simp [q, g_zb]
theorem x_left {hk : HK} {gi : GI} {gr : GR} {b ask : Nat} {L : List Nat} {B : Bk} (w : XWd hk gi gr b ask L B) {p : Nat} (hp : isPl p) (hP : POk B (pl gi p)) {m : Nat} (hm : m < 5) : f_X0_left_2 hk gi gr 0 p (N m) = some (N (leftN B (pl gi p) m)) := by
  have xp := w.lay.pls p hp
  have hh := w.bk.ok.hours
  obtain ⟨s1, s2⟩ := hP.sp w.bk.ok hm
  rw [f_X0_left_2, w.f4, Option.bind_some, g_is_of w.bk.k, Option.bind_some, g_is_of xp.k, Option.bind_some, xp.r3, Option.bind_some, g_is_of' xp.k4, Option.bind_some, xp.k4, N_ld (by omega) (by decide), Option.bind_some, w.bk.hours, ← pl_at_spent (gi := gi) (p := p) hm, s1, N_sub s2, show (0 : Int32) = N 0 from rfl, if_lt (by omega) (by omega)]
  unfold leftN
  by_cases h : 0 < B.hours - pn (pl gi p) (35 + m)
  · rw [if_pos h]
  · rw [if_neg h]
    congr 2
    omega
theorem x_clearRow {hk : HK} {gi : GI} {gr : GR} (w : XLay hk gr) : f_X0_clearRow hk gi gr 0 = some (g_pi (g_pi (g_pi gi 32 0 0) 32 1 0) 32 2 0) := by
  have st : ∀ (gj : GI) (k : Nat), k < 3 → f_X0_clearRow_l2 hk gr 0 (N k) gj = some (.inl (N (k + 1), g_pi gj 32 k 0)) := by
    intro gj k hk3
    rw [f_X0_clearRow_l2, show (3 : Int32) = N 3 from rfl, if_le (by omega) (by omega), if_neg (by omega), w.f13, Option.bind_some, g_is_of' w.k32, Option.bind_some, w.k32, N_st hk3 (by decide), Option.bind_some, show (1 : Int32) = N 1 from rfl, N_add]
  rw [f_X0_clearRow, lp_3 (body := fun (s : Int32 × GI) => f_X0_clearRow_l2 hk gr 0 s.1 s.2) (s0 := (0, gi)) (st gi 0 (by decide)) (st _ 1 (by decide)) (st _ 2 (by decide)) rfl]
  rfl
theorem x_sum {hk : HK} {gi : GI} {gr : GR} {a n o : Nat} (ha : hk a = (0, n)) (h : o + 3 ≤ n) (hn : n ≤ 1000) : f_X0_sum hk gi gr a (N o) = some (gi a o + gi a (o + 1) + gi a (o + 2)) := by
  rw [f_X0_sum, g_is_of' ha, Option.bind_some, ha, N_ld (by omega) (by show n ≤ _; omega), Option.bind_some, show (1 : Int32) = N 1 from rfl, N_add, N_ld (by omega) (by show n ≤ _; omega), Option.bind_some, show (2 : Int32) = N 2 from rfl, N_add, N_ld (by omega) (by show n ≤ _; omega), Option.bind_some]
/-- rows that have no hours of kinds that are not there -/
def Rw (nk : Nat) (r : Row) : Prop := (nk ≤ 2 → r.2.2 = 0) ∧ (nk ≤ 1 → r.2.1 = 0) ∧ (nk ≤ 0 → r.1 = 0)
/-- the next row, by sums -/
def nxtX (nk : Nat) (r : Row) : Row :=
  if nk ≤ 1 then (Row.sum r + 1, 0, 0)
  else if nk = 2 then (if r.2.1 = 0 then (0, Row.sum r + 1, 0) else (r.1 + 1, r.2.1 - 1, 0))
  else if r.2.2 = 0 then (if r.2.1 = 0 then (0, 0, Row.sum r + 1) else (r.1 + 1, 0, r.2.1 - 1))
  else (r.1, r.2.1 + 1, r.2.2 - 1)
theorem Rw1 {a b c : Nat} : Rw 1 (a, b, c) ↔ b = 0 ∧ c = 0 := ⟨fun h => ⟨h.2.1 (by decide), h.1 (by decide)⟩, fun h => ⟨fun _ => h.2, fun _ => h.1, fun q => absurd q (by decide)⟩⟩
theorem Rw2 {a b c : Nat} : Rw 2 (a, b, c) ↔ c = 0 := ⟨fun h => h.1 (by decide), fun h => ⟨fun _ => h, fun q => absurd q (by decide), fun q => absurd q (by decide)⟩⟩
theorem Rw3 {a b c : Nat} : Rw 3 (a, b, c) ↔ True := ⟨fun _ => trivial, fun h => ⟨fun q => absurd q (by decide), fun q => absurd q (by decide), fun q => absurd q (by decide)⟩⟩
theorem key3 (a b c : Nat) : Row.key (a, b, c) = 1000 * (a + b + c) + (100 * a + 10 * b + c) := rfl
theorem sum3r (a b c : Nat) : Row.sum (a, b, c) = a + b + c := rfl
theorem key_lt_iff {a b c x y z : Nat} (h1 : a + b + c ≤ 9) (h2 : x + y + z ≤ 9) : Row.key (a, b, c) < Row.key (x, y, z) ↔ (a + b + c < x + y + z ∨ (a + b + c = x + y + z ∧ (a < x ∨ (a = x ∧ b < y)))) := by
  rw [key3, key3]
  constructor
  · intro h
    by_cases q1 : a + b + c < x + y + z
    · exact Or.inl q1
    · by_cases q2 : x + y + z < a + b + c
      · omega
      · refine Or.inr ⟨by omega, ?_⟩
        by_cases q3 : a < x
        · exact Or.inl q3
        · by_cases q4 : x < a
          · omega
          · exact Or.inr ⟨by omega, by omega⟩
  · rintro (h | ⟨h, h' | ⟨h', h''⟩⟩) <;> omega
theorem nxtX1 (a b c : Nat) : nxtX 1 (a, b, c) = (a + b + c + 1, 0, 0) := rfl
theorem nxtX2z (a c : Nat) : nxtX 2 (a, 0, c) = (0, a + 0 + c + 1, 0) := rfl
theorem nxtX2 (a b c : Nat) (h : b ≠ 0) : nxtX 2 (a, b, c) = (a + 1, b - 1, 0) := by simp [nxtX, h]
theorem nxtX3zz (a : Nat) : nxtX 3 (a, 0, 0) = (0, 0, a + 0 + 0 + 1) := rfl
theorem nxtX3z (a b : Nat) (h : b ≠ 0) : nxtX 3 (a, b, 0) = (a + 1, 0, b - 1) := by simp [nxtX, h]
theorem nxtX3 (a b c : Nat) (h : c ≠ 0) : nxtX 3 (a, b, c) = (a, b + 1, c - 1) := by simp [nxtX, h]
theorem nxtX_ok {nk : Nat} (hk : nk ≤ 3) (h0 : nk ≠ 0) {r : Row} (hr : Rw nk r) (hs : Row.sum r ≤ 8) : Rw nk (nxtX nk r) ∧ Row.key r < Row.key (nxtX nk r) ∧ (Row.sum (nxtX nk r) = Row.sum r ∨ Row.sum (nxtX nk r) = Row.sum r + 1) ∧ ∀ q, Rw nk q → Row.sum q ≤ 9 → Row.key r < Row.key q → Row.key (nxtX nk r) ≤ Row.key q := by
  obtain ⟨a, b, c⟩ := r
  rw [sum3r] at hs
  have hc : nk = 1 ∨ nk = 2 ∨ nk = 3 := by omega
  rcases hc with rfl | rfl | rfl
  · rw [Rw1] at hr
    obtain ⟨rfl, rfl⟩ := hr
    rw [nxtX1, Rw1, key_lt_iff (by omega) (by omega), sum3r, sum3r]
    refine ⟨⟨rfl, rfl⟩, by omega, by omega, ?_⟩
    rintro ⟨x, y, z⟩ h1 h2 h3
    rw [Rw1] at h1
    rw [sum3r] at h2
    rw [key_lt_iff (by omega) (by omega)] at h3
    rw [← Nat.not_lt, key_lt_iff (by omega) (by omega)]
    omega
  · rw [Rw2] at hr
    subst hr
    by_cases q : b = 0
    · subst q
      rw [nxtX2z, Rw2, key_lt_iff (by omega) (by omega), sum3r, sum3r]
      refine ⟨rfl, by omega, by omega, ?_⟩
      rintro ⟨x, y, z⟩ h1 h2 h3
      rw [Rw2] at h1
      rw [sum3r] at h2
      rw [key_lt_iff (by omega) (by omega)] at h3
      rw [← Nat.not_lt, key_lt_iff (by omega) (by omega)]
      omega
    · rw [nxtX2 _ _ _ q, Rw2, key_lt_iff (by omega) (by omega), sum3r, sum3r]
      refine ⟨rfl, by omega, by omega, ?_⟩
      rintro ⟨x, y, z⟩ h1 h2 h3
      rw [Rw2] at h1
      rw [sum3r] at h2
      rw [key_lt_iff (by omega) (by omega)] at h3
      rw [← Nat.not_lt, key_lt_iff (by omega) (by omega)]
      omega
  · by_cases q2 : c = 0
    · subst q2
      by_cases q : b = 0
      · subst q
        rw [nxtX3zz, Rw3, key_lt_iff (by omega) (by omega), sum3r, sum3r]
        refine ⟨trivial, by omega, by omega, ?_⟩
        rintro ⟨x, y, z⟩ h1 h2 h3
        rw [sum3r] at h2
        rw [key_lt_iff (by omega) (by omega)] at h3
        rw [← Nat.not_lt, key_lt_iff (by omega) (by omega)]
        omega
      · rw [nxtX3z _ _ q, Rw3, key_lt_iff (by omega) (by omega), sum3r, sum3r]
        refine ⟨trivial, by omega, by omega, ?_⟩
        rintro ⟨x, y, z⟩ h1 h2 h3
        rw [sum3r] at h2
        rw [key_lt_iff (by omega) (by omega)] at h3
        rw [← Nat.not_lt, key_lt_iff (by omega) (by omega)]
        omega
    · rw [nxtX3 _ _ _ q2, Rw3, key_lt_iff (by omega) (by omega), sum3r, sum3r]
      refine ⟨trivial, by omega, by omega, ?_⟩
      rintro ⟨x, y, z⟩ h1 h2 h3
      rw [sum3r] at h2
      rw [key_lt_iff (by omega) (by omega)] at h3
      rw [← Nat.not_lt, key_lt_iff (by omega) (by omega)]
      omega
theorem N_dec {a : Nat} (h : 1 ≤ a) : N a + (-1) = N (a - 1) := by
  have := N_sub h
  rw [← this, show N 1 = 1 from rfl, Int32.sub_eq_add_neg]
theorem x_nextRow {hk : HK} {gi : GI} {gr : GR} {b ask : Nat} {L : List Nat} {B : Bk} (w : XWd hk gi gr b ask L B) {r : Row} (hr : rowIs gi 32 r) (hw : Rw B.nk r) (hs : Row.sum r ≤ 8) {M : Nat} (hM : M ≤ 8) (hrM : Row.sum r ≤ M) : ∃ gi', f_X0_nextRow hk gi gr 0 (N M) = some (if B.nk ≠ 0 ∧ Row.sum (nxtX B.nk r) ≤ M then 1 else 0, gi') ∧ (B.nk ≠ 0 → rowIs gi' 32 (nxtX B.nk r)) ∧ ∀ c, c ≠ 32 → gi' c = gi c := by
  obtain ⟨x0, x1, x2⟩ := r
  obtain ⟨r0, r1, r2⟩ := hr
  simp only at r0 r1 r2
  have h3 := w.bk.ok.nk
  simp only [Rw, Row.sum] at hw hs hrM
  have es : gi 32 0 + gi 32 (0 + 1) + gi 32 (0 + 2) = N (x0 + x1 + x2) := by rw [r0, r1, r2, N_add, N_add]
  have hsum := x_sum (gi := gi) (gr := gr) (o := 0) w.lay.k32 (by omega) (by omega)
  rw [es] at hsum
  rw [f_X0_nextRow, x_kindsN w, Option.bind_some, w.lay.f13, Option.bind_some, show (0 : Int32) = N 0 from rfl, hsum, Option.bind_some]
  by_cases h0 : B.nk = 0
  · rw [h0, if_neg (by decide), if_neg (by simp)]
    exact ⟨gi, rfl, fun h => absurd rfl h, fun _ _ => rfl⟩
  · rw [show (1 : Int32) = N 1 from rfl, N_sub (by omega), if_le (by omega) (by omega), if_pos (by omega)]
    -- the place of the last kind that has hours
    have st : ∀ k, 1 ≤ k → k < 3 → f_X0_nextRow_l25 hk gi gr 0 (N M) (N (B.nk - 1)) (N (x0 + x1 + x2)) (N k) = if gi 32 k = 0 then some (.inl (N (k - 1))) else some (.inr (N k)) := by
      intro k k1 k2
      rw [f_X0_nextRow_l25, show (0 : Int32) = N 0 from rfl, if_le (by omega) (by omega), if_neg (by omega), w.lay.f13, Option.bind_some, g_is_of' w.lay.k32, Option.bind_some, w.lay.k32, N_ld k2 (by decide), Option.bind_some, N_dec k1]
    have st0 : f_X0_nextRow_l25 hk gi gr 0 (N M) (N (B.nk - 1)) (N (x0 + x1 + x2)) (N 0) = some (.inr (N 0)) := rfl
    have z1 : gi 32 1 = 0 ↔ x1 = 0 := by rw [r1, show (0 : Int32) = N 0 from rfl, N_eq (by omega) (by omega)]
    have z2 : gi 32 2 = 0 ↔ x2 = 0 := by rw [r2, show (0 : Int32) = N 0 from rfl, N_eq (by omega) (by omega)]
    -- behind the search: none has hours but the first kind
    have fin0 : ∃ gi', f_X0_nextRow_x25 hk gi gr 0 (N M) (N (B.nk - 1)) (N (x0 + x1 + x2)) (N 0) = some (if x0 + x1 + x2 + 1 ≤ M then 1 else 0, gi') ∧ rowIs gi' 32 (if B.nk - 1 = 0 then (x0 + x1 + x2 + 1, 0, 0) else if B.nk - 1 = 1 then (0, x0 + x1 + x2 + 1, 0) else (0, 0, x0 + x1 + x2 + 1)) ∧ ∀ c, c ≠ 32 → gi' c = gi c := by
      rw [f_X0_nextRow_x25, if_pos (show N 0 = 0 from rfl), x_clearRow w.lay, Option.bind_some, w.lay.f13, Option.bind_some, g_is_of' w.lay.k32, Option.bind_some, w.lay.k32, show (1 : Int32) = N 1 from rfl, N_add, N_st (by omega) (by decide), Option.bind_some, if_le (by omega) (by omega)]
      have hr : rowIs (g_pi (g_pi (g_pi (g_pi gi 32 0 0) 32 1 0) 32 2 0) 32 (B.nk - 1) (N (x0 + x1 + x2 + 1))) 32 (if B.nk - 1 = 0 then (x0 + x1 + x2 + 1, 0, 0) else if B.nk - 1 = 1 then (0, x0 + x1 + x2 + 1, 0) else (0, 0, x0 + x1 + x2 + 1)) := by
        have hc : B.nk - 1 = 0 ∨ B.nk - 1 = 1 ∨ B.nk - 1 = 2 := by omega
        rcases hc with hc | hc | hc <;> rw [hc] <;> refine ⟨?_, ?_, ?_⟩ <;> simp [pi_get] <;> rfl
      have hf : ∀ c, c ≠ 32 → g_pi (g_pi (g_pi (g_pi gi 32 0 0) 32 1 0) 32 2 0) 32 (B.nk - 1) (N (x0 + x1 + x2 + 1)) c = gi c := fun c hc => by rw [pi_off hc, pi_off hc, pi_off hc, pi_off hc]
      by_cases hm : M ≤ x0 + x1 + x2
      · rw [if_pos hm, if_neg (by omega)]
        exact ⟨_, rfl, hr, hf⟩
      · rw [if_neg hm, if_pos (by omega)]
        exact ⟨_, rfl, hr, hf⟩
    have fin : ∀ k, 1 ≤ k → k < 3 → k ≤ B.nk - 1 → ∀ v u, gi 32 k = N v → 1 ≤ v → gi 32 (k - 1) = N u → ∃ gi', f_X0_nextRow_x25 hk gi gr 0 (N M) (N (B.nk - 1)) (N (x0 + x1 + x2)) (N k) = some (1, gi') ∧ gi' = g_pi (g_pi (g_pi gi 32 k 0) 32 (k - 1) (N (u + 1))) 32 (B.nk - 1) (N (v - 1)) := by
      intro k k1 k2 k3 v u hv hv1 hu
      rw [f_X0_nextRow_x25, if_neg (by rw [show (0 : Int32) = N 0 from rfl, N_eq (by omega) (by omega)]; omega), show (1 : Int32) = N 1 from rfl, N_sub k1]
      simp only [w.lay.f13, Option.bind_some, g_is_of' w.lay.k32, w.lay.k32]
      rw [N_ld k2 (by decide), Option.bind_some, N_st k2 (by decide), Option.bind_some, N_ld (by omega) (by decide), Option.bind_some, pi_get, if_neg (by omega), hu, N_add, N_st (by omega) (by decide), Option.bind_some, hv, N_sub hv1, N_st (by omega) (by decide), Option.bind_some]
      exact ⟨_, rfl, rfl⟩
    have ff : ∀ k v u, ∀ c, c ≠ 32 → g_pi (g_pi (g_pi gi 32 k 0) 32 (k - 1) (N (u + 1))) 32 (B.nk - 1) (N (v - 1)) c = gi c := fun k v u c hc => by rw [pi_off hc, pi_off hc, pi_off hc]
    have hc : B.nk = 1 ∨ B.nk = 2 ∨ B.nk = 3 := by omega
    rcases hc with hc | hc | hc
    · -- one kind
      rw [hc] at fin0 st st0 ⊢
      rw [show (1 : Nat) - 1 = 0 from rfl, lp_0 (body := fun (s : Int32) => f_X0_nextRow_l25 hk gi gr 0 (N M) (N 0) (N (x0 + x1 + x2)) s) st0, Option.bind_some]
      obtain ⟨g', a1, a2, a3⟩ := fin0
      refine ⟨g', ?_, fun _ => a2, a3⟩
      rw [a1]
      simp [nxtX, Row.sum]
      rfl
    · rw [hc] at fin0 st st0 fin ff ⊢
      rw [show (2 : Nat) - 1 = 1 from rfl] at *
      have s1 := st 1 (by omega) (by omega)
      by_cases q : x1 = 0
      · rw [if_pos (z1.mpr q)] at s1
        rw [lp_1 (body := fun (s : Int32) => f_X0_nextRow_l25 hk gi gr 0 (N M) (N 1) (N (x0 + x1 + x2)) s) s1 st0, Option.bind_some]
        obtain ⟨g', a1, a2, a3⟩ := fin0
        refine ⟨g', ?_, fun _ => ?_, a3⟩
        · rw [a1]
          simp [nxtX, Row.sum, q]
          rfl
        · simpa [nxtX, Row.sum, q] using a2
      · rw [if_neg (fun e => q (z1.mp e))] at s1
        rw [lp_0 (body := fun (s : Int32) => f_X0_nextRow_l25 hk gi gr 0 (N M) (N 1) (N (x0 + x1 + x2)) s) s1, Option.bind_some]
        obtain ⟨g', a1, a2⟩ := fin 1 (by omega) (by omega) (by omega) x1 x0 r1 (by omega) r0
        refine ⟨g', ?_, fun _ => ?_, by rw [a2]; exact ff 1 x1 x0⟩
        · rw [a1, if_pos ⟨by omega, by simp only [nxtX, Row.sum, if_neg q]; simp; omega⟩]; rfl
        · rw [a2]
          simp only [nxtX, if_neg q]
          have : x2 = 0 := hw.1 (by omega)
          refine ⟨?_, ?_, ?_⟩ <;> simp [pi_get, r2, this]
    · rw [hc] at fin0 st st0 fin ff ⊢
      rw [show (3 : Nat) - 1 = 2 from rfl] at *
      have s2 := st 2 (by omega) (by omega)
      have s1 := st 1 (by omega) (by omega)
      by_cases q2 : x2 = 0
      · rw [if_pos (z2.mpr q2)] at s2
        by_cases q : x1 = 0
        · rw [if_pos (z1.mpr q)] at s1
          rw [lp_2 (body := fun (s : Int32) => f_X0_nextRow_l25 hk gi gr 0 (N M) (N 2) (N (x0 + x1 + x2)) s) s2 s1 st0, Option.bind_some]
          obtain ⟨g', a1, a2, a3⟩ := fin0
          refine ⟨g', ?_, fun _ => ?_, a3⟩
          · rw [a1]
            simp [nxtX, Row.sum, q, q2]
            rfl
          · simpa [nxtX, Row.sum, q, q2] using a2
        · rw [if_neg (fun e => q (z1.mp e))] at s1
          rw [lp_1 (body := fun (s : Int32) => f_X0_nextRow_l25 hk gi gr 0 (N M) (N 2) (N (x0 + x1 + x2)) s) s2 s1, Option.bind_some]
          obtain ⟨g', a1, a2⟩ := fin 1 (by omega) (by omega) (by omega) x1 x0 r1 (by omega) r0
          refine ⟨g', ?_, fun _ => ?_, by rw [a2]; exact ff 1 x1 x0⟩
          · rw [a1, if_pos ⟨by omega, by simp only [nxtX, Row.sum, if_neg q, if_pos q2]; simp; omega⟩]; rfl
          · rw [a2]
            simp only [nxtX, if_neg q, if_pos q2]
            refine ⟨?_, ?_, ?_⟩ <;> simp [pi_get] <;> rfl
      · rw [if_neg (fun e => q2 (z2.mp e))] at s2
        rw [lp_0 (body := fun (s : Int32) => f_X0_nextRow_l25 hk gi gr 0 (N M) (N 2) (N (x0 + x1 + x2)) s) s2, Option.bind_some]
        obtain ⟨g', a1, a2⟩ := fin 2 (by omega) (by omega) (by omega) x2 x1 r2 (by omega) r1
        refine ⟨g', ?_, fun _ => ?_, by rw [a2]; exact ff 2 x2 x1⟩
        · rw [a1, if_pos ⟨by omega, by simp only [nxtX, Row.sum, if_neg q2]; simp; omega⟩]; rfl
        · rw [a2]
          simp only [nxtX, if_neg q2]
          refine ⟨?_, ?_, ?_⟩ <;> simp [pi_get, r0]

set_option linter.unusedVariables false
set_option linter.unusedSimpArgs false
/-! THE PLAIN LAW: what a book is, how it grows -/
/-- a formula is its code, written behind: what is asked, then the sign -/
abbrev Cde : Type := List (Int32 × Int32)
def Bk : Type := (Nat) × (Nat) × (Nat) × (Nat) × (Nat) × (Nat) × (Int32) × (Nat → Int32) × (Nat → Nat → Int32) × (Nat → Nat → Int32) × (Nat → Int32) × (Nat → Bool) × (Nat → Nat → Nat) × (Nat → Nat → Nat) × (Nat → Int32) × (Option Cde)
def Bk.nk (h : Bk) : Nat := h.1
def Bk.nm (h : Bk) : Nat := h.2.1
def Bk.nb (h : Bk) : Nat := h.2.2.1
def Bk.nr (h : Bk) : Nat := h.2.2.2.1
def Bk.hours (h : Bk) : Nat := h.2.2.2.2.1
def Bk.units (h : Bk) : Nat := h.2.2.2.2.2.1
def Bk.seed (h : Bk) : Int32 := h.2.2.2.2.2.2.1
def Bk.crop (h : Bk) : Nat → Int32 := h.2.2.2.2.2.2.2.1
def Bk.purse (h : Bk) : Nat → Nat → Int32 := h.2.2.2.2.2.2.2.2.1
def Bk.pay (h : Bk) : Nat → Nat → Int32 := h.2.2.2.2.2.2.2.2.2.1
def Bk.hedge (h : Bk) : Nat → Int32 := h.2.2.2.2.2.2.2.2.2.2.1
def Bk.loose (h : Bk) : Nat → Bool := h.2.2.2.2.2.2.2.2.2.2.2.1
def Bk.cost (h : Bk) : Nat → Nat → Nat := h.2.2.2.2.2.2.2.2.2.2.2.2.1
def Bk.brings (h : Bk) : Nat → Nat → Nat := h.2.2.2.2.2.2.2.2.2.2.2.2.2.1
def Bk.book (h : Bk) : Nat → Int32 := h.2.2.2.2.2.2.2.2.2.2.2.2.2.2.1
def Bk.grow (h : Bk) : Option Cde := h.2.2.2.2.2.2.2.2.2.2.2.2.2.2.2
def Bk.mk (nk_ : Nat) (nm_ : Nat) (nb_ : Nat) (nr_ : Nat) (hours_ : Nat) (units_ : Nat) (seed_ : Int32) (crop_ : Nat → Int32) (purse_ : Nat → Nat → Int32) (pay_ : Nat → Nat → Int32) (hedge_ : Nat → Int32) (loose_ : Nat → Bool) (cost_ : Nat → Nat → Nat) (brings_ : Nat → Nat → Nat) (book_ : Nat → Int32) (grow_ : Option Cde) : Bk := (nk_, nm_, nb_, nr_, hours_, units_, seed_, crop_, purse_, pay_, hedge_, loose_, cost_, brings_, book_, grow_)
def Bk.w_nk (h : Bk) (x : Nat) : Bk := (x, h.2.1, h.2.2.1, h.2.2.2.1, h.2.2.2.2.1, h.2.2.2.2.2.1, h.2.2.2.2.2.2.1, h.2.2.2.2.2.2.2.1, h.2.2.2.2.2.2.2.2.1, h.2.2.2.2.2.2.2.2.2.1, h.2.2.2.2.2.2.2.2.2.2.1, h.2.2.2.2.2.2.2.2.2.2.2.1, h.2.2.2.2.2.2.2.2.2.2.2.2.1, h.2.2.2.2.2.2.2.2.2.2.2.2.2.1, h.2.2.2.2.2.2.2.2.2.2.2.2.2.2.1, h.2.2.2.2.2.2.2.2.2.2.2.2.2.2.2)
def Bk.w_nm (h : Bk) (x : Nat) : Bk := (h.1, x, h.2.2.1, h.2.2.2.1, h.2.2.2.2.1, h.2.2.2.2.2.1, h.2.2.2.2.2.2.1, h.2.2.2.2.2.2.2.1, h.2.2.2.2.2.2.2.2.1, h.2.2.2.2.2.2.2.2.2.1, h.2.2.2.2.2.2.2.2.2.2.1, h.2.2.2.2.2.2.2.2.2.2.2.1, h.2.2.2.2.2.2.2.2.2.2.2.2.1, h.2.2.2.2.2.2.2.2.2.2.2.2.2.1, h.2.2.2.2.2.2.2.2.2.2.2.2.2.2.1, h.2.2.2.2.2.2.2.2.2.2.2.2.2.2.2)
def Bk.w_nb (h : Bk) (x : Nat) : Bk := (h.1, h.2.1, x, h.2.2.2.1, h.2.2.2.2.1, h.2.2.2.2.2.1, h.2.2.2.2.2.2.1, h.2.2.2.2.2.2.2.1, h.2.2.2.2.2.2.2.2.1, h.2.2.2.2.2.2.2.2.2.1, h.2.2.2.2.2.2.2.2.2.2.1, h.2.2.2.2.2.2.2.2.2.2.2.1, h.2.2.2.2.2.2.2.2.2.2.2.2.1, h.2.2.2.2.2.2.2.2.2.2.2.2.2.1, h.2.2.2.2.2.2.2.2.2.2.2.2.2.2.1, h.2.2.2.2.2.2.2.2.2.2.2.2.2.2.2)
def Bk.w_nr (h : Bk) (x : Nat) : Bk := (h.1, h.2.1, h.2.2.1, x, h.2.2.2.2.1, h.2.2.2.2.2.1, h.2.2.2.2.2.2.1, h.2.2.2.2.2.2.2.1, h.2.2.2.2.2.2.2.2.1, h.2.2.2.2.2.2.2.2.2.1, h.2.2.2.2.2.2.2.2.2.2.1, h.2.2.2.2.2.2.2.2.2.2.2.1, h.2.2.2.2.2.2.2.2.2.2.2.2.1, h.2.2.2.2.2.2.2.2.2.2.2.2.2.1, h.2.2.2.2.2.2.2.2.2.2.2.2.2.2.1, h.2.2.2.2.2.2.2.2.2.2.2.2.2.2.2)
def Bk.w_hours (h : Bk) (x : Nat) : Bk := (h.1, h.2.1, h.2.2.1, h.2.2.2.1, x, h.2.2.2.2.2.1, h.2.2.2.2.2.2.1, h.2.2.2.2.2.2.2.1, h.2.2.2.2.2.2.2.2.1, h.2.2.2.2.2.2.2.2.2.1, h.2.2.2.2.2.2.2.2.2.2.1, h.2.2.2.2.2.2.2.2.2.2.2.1, h.2.2.2.2.2.2.2.2.2.2.2.2.1, h.2.2.2.2.2.2.2.2.2.2.2.2.2.1, h.2.2.2.2.2.2.2.2.2.2.2.2.2.2.1, h.2.2.2.2.2.2.2.2.2.2.2.2.2.2.2)
def Bk.w_units (h : Bk) (x : Nat) : Bk := (h.1, h.2.1, h.2.2.1, h.2.2.2.1, h.2.2.2.2.1, x, h.2.2.2.2.2.2.1, h.2.2.2.2.2.2.2.1, h.2.2.2.2.2.2.2.2.1, h.2.2.2.2.2.2.2.2.2.1, h.2.2.2.2.2.2.2.2.2.2.1, h.2.2.2.2.2.2.2.2.2.2.2.1, h.2.2.2.2.2.2.2.2.2.2.2.2.1, h.2.2.2.2.2.2.2.2.2.2.2.2.2.1, h.2.2.2.2.2.2.2.2.2.2.2.2.2.2.1, h.2.2.2.2.2.2.2.2.2.2.2.2.2.2.2)
def Bk.w_seed (h : Bk) (x : Int32) : Bk := (h.1, h.2.1, h.2.2.1, h.2.2.2.1, h.2.2.2.2.1, h.2.2.2.2.2.1, x, h.2.2.2.2.2.2.2.1, h.2.2.2.2.2.2.2.2.1, h.2.2.2.2.2.2.2.2.2.1, h.2.2.2.2.2.2.2.2.2.2.1, h.2.2.2.2.2.2.2.2.2.2.2.1, h.2.2.2.2.2.2.2.2.2.2.2.2.1, h.2.2.2.2.2.2.2.2.2.2.2.2.2.1, h.2.2.2.2.2.2.2.2.2.2.2.2.2.2.1, h.2.2.2.2.2.2.2.2.2.2.2.2.2.2.2)
def Bk.w_crop (h : Bk) (x : Nat → Int32) : Bk := (h.1, h.2.1, h.2.2.1, h.2.2.2.1, h.2.2.2.2.1, h.2.2.2.2.2.1, h.2.2.2.2.2.2.1, x, h.2.2.2.2.2.2.2.2.1, h.2.2.2.2.2.2.2.2.2.1, h.2.2.2.2.2.2.2.2.2.2.1, h.2.2.2.2.2.2.2.2.2.2.2.1, h.2.2.2.2.2.2.2.2.2.2.2.2.1, h.2.2.2.2.2.2.2.2.2.2.2.2.2.1, h.2.2.2.2.2.2.2.2.2.2.2.2.2.2.1, h.2.2.2.2.2.2.2.2.2.2.2.2.2.2.2)
def Bk.w_purse (h : Bk) (x : Nat → Nat → Int32) : Bk := (h.1, h.2.1, h.2.2.1, h.2.2.2.1, h.2.2.2.2.1, h.2.2.2.2.2.1, h.2.2.2.2.2.2.1, h.2.2.2.2.2.2.2.1, x, h.2.2.2.2.2.2.2.2.2.1, h.2.2.2.2.2.2.2.2.2.2.1, h.2.2.2.2.2.2.2.2.2.2.2.1, h.2.2.2.2.2.2.2.2.2.2.2.2.1, h.2.2.2.2.2.2.2.2.2.2.2.2.2.1, h.2.2.2.2.2.2.2.2.2.2.2.2.2.2.1, h.2.2.2.2.2.2.2.2.2.2.2.2.2.2.2)
def Bk.w_pay (h : Bk) (x : Nat → Nat → Int32) : Bk := (h.1, h.2.1, h.2.2.1, h.2.2.2.1, h.2.2.2.2.1, h.2.2.2.2.2.1, h.2.2.2.2.2.2.1, h.2.2.2.2.2.2.2.1, h.2.2.2.2.2.2.2.2.1, x, h.2.2.2.2.2.2.2.2.2.2.1, h.2.2.2.2.2.2.2.2.2.2.2.1, h.2.2.2.2.2.2.2.2.2.2.2.2.1, h.2.2.2.2.2.2.2.2.2.2.2.2.2.1, h.2.2.2.2.2.2.2.2.2.2.2.2.2.2.1, h.2.2.2.2.2.2.2.2.2.2.2.2.2.2.2)
def Bk.w_hedge (h : Bk) (x : Nat → Int32) : Bk := (h.1, h.2.1, h.2.2.1, h.2.2.2.1, h.2.2.2.2.1, h.2.2.2.2.2.1, h.2.2.2.2.2.2.1, h.2.2.2.2.2.2.2.1, h.2.2.2.2.2.2.2.2.1, h.2.2.2.2.2.2.2.2.2.1, x, h.2.2.2.2.2.2.2.2.2.2.2.1, h.2.2.2.2.2.2.2.2.2.2.2.2.1, h.2.2.2.2.2.2.2.2.2.2.2.2.2.1, h.2.2.2.2.2.2.2.2.2.2.2.2.2.2.1, h.2.2.2.2.2.2.2.2.2.2.2.2.2.2.2)
def Bk.w_loose (h : Bk) (x : Nat → Bool) : Bk := (h.1, h.2.1, h.2.2.1, h.2.2.2.1, h.2.2.2.2.1, h.2.2.2.2.2.1, h.2.2.2.2.2.2.1, h.2.2.2.2.2.2.2.1, h.2.2.2.2.2.2.2.2.1, h.2.2.2.2.2.2.2.2.2.1, h.2.2.2.2.2.2.2.2.2.2.1, x, h.2.2.2.2.2.2.2.2.2.2.2.2.1, h.2.2.2.2.2.2.2.2.2.2.2.2.2.1, h.2.2.2.2.2.2.2.2.2.2.2.2.2.2.1, h.2.2.2.2.2.2.2.2.2.2.2.2.2.2.2)
def Bk.w_cost (h : Bk) (x : Nat → Nat → Nat) : Bk := (h.1, h.2.1, h.2.2.1, h.2.2.2.1, h.2.2.2.2.1, h.2.2.2.2.2.1, h.2.2.2.2.2.2.1, h.2.2.2.2.2.2.2.1, h.2.2.2.2.2.2.2.2.1, h.2.2.2.2.2.2.2.2.2.1, h.2.2.2.2.2.2.2.2.2.2.1, h.2.2.2.2.2.2.2.2.2.2.2.1, x, h.2.2.2.2.2.2.2.2.2.2.2.2.2.1, h.2.2.2.2.2.2.2.2.2.2.2.2.2.2.1, h.2.2.2.2.2.2.2.2.2.2.2.2.2.2.2)
def Bk.w_brings (h : Bk) (x : Nat → Nat → Nat) : Bk := (h.1, h.2.1, h.2.2.1, h.2.2.2.1, h.2.2.2.2.1, h.2.2.2.2.2.1, h.2.2.2.2.2.2.1, h.2.2.2.2.2.2.2.1, h.2.2.2.2.2.2.2.2.1, h.2.2.2.2.2.2.2.2.2.1, h.2.2.2.2.2.2.2.2.2.2.1, h.2.2.2.2.2.2.2.2.2.2.2.1, h.2.2.2.2.2.2.2.2.2.2.2.2.1, x, h.2.2.2.2.2.2.2.2.2.2.2.2.2.2.1, h.2.2.2.2.2.2.2.2.2.2.2.2.2.2.2)
def Bk.w_book (h : Bk) (x : Nat → Int32) : Bk := (h.1, h.2.1, h.2.2.1, h.2.2.2.1, h.2.2.2.2.1, h.2.2.2.2.2.1, h.2.2.2.2.2.2.1, h.2.2.2.2.2.2.2.1, h.2.2.2.2.2.2.2.2.1, h.2.2.2.2.2.2.2.2.2.1, h.2.2.2.2.2.2.2.2.2.2.1, h.2.2.2.2.2.2.2.2.2.2.2.1, h.2.2.2.2.2.2.2.2.2.2.2.2.1, h.2.2.2.2.2.2.2.2.2.2.2.2.2.1, x, h.2.2.2.2.2.2.2.2.2.2.2.2.2.2.2)
def Bk.w_grow (h : Bk) (x : Option Cde) : Bk := (h.1, h.2.1, h.2.2.1, h.2.2.2.1, h.2.2.2.2.1, h.2.2.2.2.2.1, h.2.2.2.2.2.2.1, h.2.2.2.2.2.2.2.1, h.2.2.2.2.2.2.2.2.1, h.2.2.2.2.2.2.2.2.2.1, h.2.2.2.2.2.2.2.2.2.2.1, h.2.2.2.2.2.2.2.2.2.2.2.1, h.2.2.2.2.2.2.2.2.2.2.2.2.1, h.2.2.2.2.2.2.2.2.2.2.2.2.2.1, h.2.2.2.2.2.2.2.2.2.2.2.2.2.2.1, x)
/-- numbers that a book keeps to -/
abbrev Bk.Ok (B : Bk) : Prop := (B.nk ≤ 3) ∧ (B.nm ≤ 5) ∧ (B.nb ≤ 5) ∧ (1 ≤ B.hours ∧ B.hours ≤ 8) ∧ (∀ a b, B.cost a b ≤ 9) ∧ (∀ a b, B.brings a b ≤ 9) ∧ (∀ m k, m < B.nm → k < 3 → ∃ v, v ≤ 9 ∧ B.pay m k = N v) ∧ (∀ m k, m < B.nm → k < 3 → ∃ v, v ≤ 60 ∧ B.purse m k = N v) ∧ (∀ m, m < B.nm → ∃ v, v ≤ 99 ∧ B.crop m = N v) ∧ (∃ v, v ≤ 999 ∧ B.seed = N v)
theorem Bk.Ok.nk {B : Bk} (h : Bk.Ok B) : B.nk ≤ 3 := h.1
theorem Bk.Ok.nm {B : Bk} (h : Bk.Ok B) : B.nm ≤ 5 := h.2.1
theorem Bk.Ok.nb {B : Bk} (h : Bk.Ok B) : B.nb ≤ 5 := h.2.2.1
theorem Bk.Ok.hours {B : Bk} (h : Bk.Ok B) : 1 ≤ B.hours ∧ B.hours ≤ 8 := h.2.2.2.1
theorem Bk.Ok.cost {B : Bk} (h : Bk.Ok B) : ∀ a b, B.cost a b ≤ 9 := h.2.2.2.2.1
theorem Bk.Ok.brings {B : Bk} (h : Bk.Ok B) : ∀ a b, B.brings a b ≤ 9 := h.2.2.2.2.2.1
theorem Bk.Ok.pay {B : Bk} (h : Bk.Ok B) : ∀ m k, m < B.nm → k < 3 → ∃ v, v ≤ 9 ∧ B.pay m k = N v := h.2.2.2.2.2.2.1
theorem Bk.Ok.purse {B : Bk} (h : Bk.Ok B) : ∀ m k, m < B.nm → k < 3 → ∃ v, v ≤ 60 ∧ B.purse m k = N v := h.2.2.2.2.2.2.2.1
theorem Bk.Ok.crop {B : Bk} (h : Bk.Ok B) : ∀ m, m < B.nm → ∃ v, v ≤ 99 ∧ B.crop m = N v := h.2.2.2.2.2.2.2.2.1
theorem Bk.Ok.seed {B : Bk} (h : Bk.Ok B) : ∃ v, v ≤ 999 ∧ B.seed = N v := h.2.2.2.2.2.2.2.2.2
def two (c x y : Int32) : Int32 :=
  if c = 43 then x + y else if c = 45 then x - y else if c = 42 then x * y
  else if c = 47 then (if y = 0 then 0 else x / y) else if c = 37 then (if y = 0 then 0 else x - x / y * y)
  else if c = 60 then (if x < y then 1 else 0) else if c = 62 then (if y < x then 1 else 0)
  else if c = 61 then (if x = y then 1 else 0) else if c = 38 then (if x = 0 ∨ y = 0 then 0 else 1) else (if x = 0 ∧ y = 0 then 0 else 1)
def isTwo (c : Int32) : Prop := c = 43 ∨ c = 45 ∨ c = 42 ∨ c = 47 ∨ c = 37 ∨ c = 60 ∨ c = 62 ∨ c = 61 ∨ c = 38 ∨ c = 124
/-- what a plot's row (42 numbers: purses, crops, over, spent, week, seed) tells a formula of a man -/
def askv (B : Bk) (P : Nat → Int32) (m k : Nat) : Int32 :=
  if k = 3 then P (15 + m) else if k = 4 then P 40 else if k = 5 then N m else if k < B.nk then P (20 + 3 * m + k) else 0
def stp (a : Nat → Int32) (c : Int32 × Int32) (st : List Int32) : List Int32 :=
  if c.1 = 126 then (match st with | x :: t => (if x = 0 then 1 else 0) :: t | [] => [])
  else if c.1 = 110 then c.2 :: st
  else if c.1 = 102 then a 0 :: st else if c.1 = 115 then a 1 :: st else if c.1 = 116 then a 2 :: st else if c.1 = 99 then a 3 :: st else if c.1 = 119 then a 4 :: st else if c.1 = 112 then a 5 :: st
  else (match st with | y :: x :: t => two c.1 x y :: t | _ => [])
def runs (a : Nat → Int32) : Cde → List Int32 → List Int32
  | [], st => st
  | c :: l, st => runs a l (stp a c st)
def evC (a : Nat → Int32) (C : Cde) : Int32 := (runs a C []).headD 0
def clamp (v : Int32) : Int32 := if v ≤ 20 then (if (-20) ≤ v then v else (-20)) else 20
def growth (B : Bk) (P : Nat → Int32) (m : Nat) : Int32 :=
  clamp (match B.grow with
    | none => askv B P m 0 + askv B P m 1 + askv B P m 2
    | some e => evC (askv B P m) e)
def growths (B : Bk) (P : Nat → Int32) : Nat → Int32
  | 0 => 0
  | n + 1 => growths B P n + growth B P n
def leak (B : Bk) (m : Nat) (n : Int32) : Int32 := (n * (10 - B.hedge m)) / 10
def add (P : Nat → Int32) (j : Nat) (v : Int32) : Nat → Int32 := upd P j (P j + v)
/-- hours come over a plot, and leak -/
def lay1 (B : Bk) (m k : Nat) (n w : Int32) (P : Nat → Int32) : Nat → Int32 := if m = 0 then P else add P (20 + 3 * (m - 1) + k) (w * leak B (m - 1) n)
def lay2 (B : Bk) (m k : Nat) (n w : Int32) (P : Nat → Int32) : Nat → Int32 := if B.nm ≤ m + 1 then P else add P (20 + 3 * (m + 1) + k) (w * leak B m n)
def ly (B : Bk) (m k : Nat) (n w : Int32) (P : Nat → Int32) : Nat → Int32 := lay2 B m k n w (lay1 B m k n w (add P (20 + 3 * m + k) (w * n)))
/-! postfix code -/
def askc : Nat → Int32
  | 0 => 102
  | 1 => 115
  | 2 => 116
  | 3 => 99
  | 4 => 119
  | _ => 112
/-- a code of a formula of so many steps -/
def Cd : Nat → Cde → Prop
  | 0, _ => False
  | d + 1, C => (∃ v, C = [(110, v)]) ∨ (∃ k, k < 6 ∧ C = [(askc k, 0)]) ∨ (∃ A, Cd d A ∧ C = A ++ [(126, 0)]) ∨ ∃ A E c, Cd d A ∧ Cd d E ∧ isTwo c ∧ C = A ++ E ++ [(c, 0)]
def isLet (c : Int32) : Bool := c == 110 || c == 102 || c == 115 || c == 116 || c == 99 || c == 119 || c == 112
/-- how many are asked -/
def lets : Cde → Nat
  | [] => 0
  | c :: l => (if isLet c.1 then 1 else 0) + lets l
/-- a code can be run from so many places of the pile -/
def can : Cde → Nat → Prop
  | [], n => n = 1
  | c :: l, n => (c.1 = 126 ∧ 1 ≤ n ∧ can l n) ∨ ((c.1 = 110 ∨ c.1 = 102 ∨ c.1 = 115 ∨ c.1 = 116 ∨ c.1 = 99 ∨ c.1 = 119 ∨ c.1 = 112) ∧ n < 60 ∧ can l (n + 1)) ∨ (isTwo c.1 ∧ 2 ≤ n ∧ can l (n - 1))
theorem runs_app (a : Nat → Int32) (l r : Cde) (st : List Int32) : runs a (l ++ r) st = runs a r (runs a l st) := by
  induction l generalizing st with
  | nil => rfl
  | cons c l ih => exact ih _
theorem two_not {c : Int32} (h : isTwo c) : c ≠ 126 ∧ c ≠ 110 ∧ c ≠ 102 ∧ c ≠ 115 ∧ c ≠ 116 ∧ c ≠ 99 ∧ c ≠ 119 ∧ c ≠ 112 := by
  rcases h with h | h | h | h | h | h | h | h | h | h <;> subst h <;> decide
theorem lets_app (a b : Cde) : lets (a ++ b) = lets a + lets b := by
  induction a with
  | nil => simp [lets]
  | cons c l ih => simp only [List.cons_append, lets, ih]; omega
theorem askc_let {k : Nat} (h : k < 6) : isLet (askc k) = true := by
  match k, h with
  | 0, _ => rfl
  | 1, _ => rfl
  | 2, _ => rfl
  | 3, _ => rfl
  | 4, _ => rfl
  | 5, _ => rfl
theorem stp_ask (a : Nat → Int32) {k : Nat} (h : k < 6) (v : Int32) (st : List Int32) : stp a (askc k, v) st = a k :: st := by
  match k, h with
  | 0, _ => rfl
  | 1, _ => rfl
  | 2, _ => rfl
  | 3, _ => rfl
  | 4, _ => rfl
  | 5, _ => rfl
theorem stp_two (a : Nat → Int32) {c : Int32} (h : isTwo c) (v x y : Int32) (st : List Int32) : stp a (c, v) (y :: x :: st) = two c x y :: st := by
  obtain ⟨q1, q2, q3, q4, q5, q6, q7, q8⟩ := two_not h
  simp [stp, q1, q2, q3, q4, q5, q6, q7, q8]
theorem runs_Cd (a : Nat → Int32) : ∀ (d : Nat) (C : Cde), Cd d C → ∀ st, runs a C st = evC a C :: st := by
  intro d
  induction d with
  | zero => intro C h; exact h.elim
  | succ d ih =>
    intro C h
    have fin : (∃ v, ∀ st, runs a C st = v :: st) → ∀ st, runs a C st = evC a C :: st := by
      rintro ⟨v, hv⟩ st
      rw [evC, hv, hv]
      rfl
    apply fin
    rcases h with ⟨v, rfl⟩ | ⟨k, hk, rfl⟩ | ⟨A, hA, rfl⟩ | ⟨A, E, c, hA, hE, hc, rfl⟩
    · exact ⟨v, fun _ => rfl⟩
    · exact ⟨a k, fun st => stp_ask a hk 0 st⟩
    · exact ⟨if evC a A = 0 then 1 else 0, fun st => by rw [runs_app, ih A hA]; rfl⟩
    · exact ⟨two c (evC a A) (evC a E), fun st => by rw [runs_app, runs_app, ih A hA, ih E hE]; exact stp_two a hc 0 _ _ st⟩
theorem evC_val (a : Nat → Int32) (v : Int32) : evC a [(110, v)] = v := rfl
theorem evC_ask (a : Nat → Int32) {k : Nat} (h : k < 6) : evC a [(askc k, 0)] = a k := by
  rw [evC, runs, stp_ask a h]; rfl
theorem evC_not (a : Nat → Int32) {d : Nat} {A : Cde} (h : Cd d A) : evC a (A ++ [(126, 0)]) = if evC a A = 0 then 1 else 0 := by
  rw [evC, runs_app, runs_Cd a d A h]; rfl
theorem evC_two (a : Nat → Int32) {d : Nat} {A E : Cde} (hA : Cd d A) (hE : Cd d E) {c : Int32} (hc : isTwo c) : evC a (A ++ E ++ [(c, 0)]) = two c (evC a A) (evC a E) := by
  rw [evC, runs_app, runs_app, runs_Cd a d A hA, runs_Cd a d E hE, runs, runs, stp_two a hc]; rfl
theorem Cd_up {d : Nat} : ∀ {e : Nat} {C : Cde}, Cd d C → d ≤ e → Cd e C := by
  induction d with
  | zero => intro e C h; exact h.elim
  | succ d ih =>
    intro e C h he
    obtain ⟨e, rfl⟩ : ∃ e', e = e' + 1 := ⟨e - 1, by omega⟩
    rcases h with h | h | ⟨A, hA, h⟩ | ⟨A, E, c, hA, hE, hc, h⟩
    · exact Or.inl h
    · exact Or.inr (Or.inl h)
    · exact Or.inr (Or.inr (Or.inl ⟨A, ih hA (by omega), h⟩))
    · exact Or.inr (Or.inr (Or.inr ⟨A, E, c, ih hA (by omega), ih hE (by omega), hc, h⟩))
theorem two_let {c : Int32} (h : isTwo c) : isLet c = false := by
  rcases h with h | h | h | h | h | h | h | h | h | h <;> subst h <;> rfl
theorem Cd_lets : ∀ (d : Nat) (C : Cde), Cd d C → 1 ≤ lets C := by
  intro d
  induction d with
  | zero => intro C h; exact h.elim
  | succ d ih =>
    intro C h
    rcases h with ⟨v, rfl⟩ | ⟨k, hk, rfl⟩ | ⟨A, hA, rfl⟩ | ⟨A, E, c, hA, hE, hc, rfl⟩
    · exact Nat.le_refl 1
    · simp [lets, askc_let hk]
    · rw [lets_app]; have := ih A hA; omega
    · rw [lets_app, lets_app]; have := ih A hA; omega
theorem can_Cd : ∀ (d : Nat) (C : Cde), Cd d C → ∀ (n : Nat) (l : Cde), n + lets C ≤ 60 → can l (n + 1) → can (C ++ l) n := by
  intro d
  induction d with
  | zero => intro C h; exact h.elim
  | succ d ih =>
    intro C h n l hn hl
    rcases h with ⟨v, rfl⟩ | ⟨k, hk, rfl⟩ | ⟨A, hA, rfl⟩ | ⟨A, E, c, hA, hE, hc, rfl⟩
    · have hn : n + 1 ≤ 60 := hn
      exact Or.inr (Or.inl ⟨Or.inl rfl, by omega, hl⟩)
    · have hn : n + 1 ≤ 60 := by simpa [lets, askc_let hk] using hn
      refine Or.inr (Or.inl ⟨?_, by omega, hl⟩)
      match k, hk with
      | 0, _ => simp [askc]
      | 1, _ => simp [askc]
      | 2, _ => simp [askc]
      | 3, _ => simp [askc]
      | 4, _ => simp [askc]
      | 5, _ => simp [askc]
    · rw [lets_app] at hn
      rw [List.append_assoc]
      exact ih A hA n _ (by omega) (Or.inl ⟨rfl, by omega, hl⟩)
    · rw [lets_app, lets_app] at hn
      have := Cd_lets d A hA
      rw [List.append_assoc, List.append_assoc]
      exact ih A hA n _ (by omega) (ih E hE (n + 1) _ (by omega) (Or.inr (Or.inr ⟨hc, by omega, hl⟩)))
theorem clamp_le (v : Int32) : (-20 : Int32) ≤ clamp v ∧ clamp v ≤ 20 := by
  unfold clamp
  split
  · split
    · constructor <;> assumption
    · exact ⟨by decide, by decide⟩
  · exact ⟨by decide, by decide⟩

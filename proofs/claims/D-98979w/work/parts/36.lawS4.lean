set_option linter.unusedVariables false
set_option linter.unusedSimpArgs false
/-! THE PLAIN LAW: what both keep, and what each call does -/
def St : Type := (Nat → Int32) × (Nat) × (Int32) × (Int32) × (Bk) × (Nat → Int32) × (Nat) × (Nat) × (Nat → Nat → Int32) × (Nat) × (Nat → Int32) × (Nat) × (Nat → Nat → Int32) × (Nat) × (Nat → Nat → Int32) × (Nat → Bool)
def St.tape (h : St) : Nat → Int32 := h.1
def St.taped (h : St) : Nat := h.2.1
def St.fk (h : St) : Int32 := h.2.2.1
def St.fp (h : St) : Int32 := h.2.2.2.1
def St.B (h : St) : Bk := h.2.2.2.2.1
def St.P (h : St) : Nat → Int32 := h.2.2.2.2.2.1
def St.acts (h : St) : Nat := h.2.2.2.2.2.2.1
def St.undone (h : St) : Nat := h.2.2.2.2.2.2.2.1
def St.was (h : St) : Nat → Nat → Int32 := h.2.2.2.2.2.2.2.2.1
def St.laid (h : St) : Nat := h.2.2.2.2.2.2.2.2.2.1
def St.lies (h : St) : Nat → Int32 := h.2.2.2.2.2.2.2.2.2.2.1
def St.ns (h : St) : Nat := h.2.2.2.2.2.2.2.2.2.2.2.1
def St.sg (h : St) : Nat → Nat → Int32 := h.2.2.2.2.2.2.2.2.2.2.2.2.1
def St.time (h : St) : Nat := h.2.2.2.2.2.2.2.2.2.2.2.2.2.1
def St.box (h : St) : Nat → Nat → Int32 := h.2.2.2.2.2.2.2.2.2.2.2.2.2.2.1
def St.boxed (h : St) : Nat → Bool := h.2.2.2.2.2.2.2.2.2.2.2.2.2.2.2
def St.mk (tape_ : Nat → Int32) (taped_ : Nat) (fk_ : Int32) (fp_ : Int32) (B_ : Bk) (P_ : Nat → Int32) (acts_ : Nat) (undone_ : Nat) (was_ : Nat → Nat → Int32) (laid_ : Nat) (lies_ : Nat → Int32) (ns_ : Nat) (sg_ : Nat → Nat → Int32) (time_ : Nat) (box_ : Nat → Nat → Int32) (boxed_ : Nat → Bool) : St := (tape_, taped_, fk_, fp_, B_, P_, acts_, undone_, was_, laid_, lies_, ns_, sg_, time_, box_, boxed_)
def St.w_tape (h : St) (x : Nat → Int32) : St := (x, h.2.1, h.2.2.1, h.2.2.2.1, h.2.2.2.2.1, h.2.2.2.2.2.1, h.2.2.2.2.2.2.1, h.2.2.2.2.2.2.2.1, h.2.2.2.2.2.2.2.2.1, h.2.2.2.2.2.2.2.2.2.1, h.2.2.2.2.2.2.2.2.2.2.1, h.2.2.2.2.2.2.2.2.2.2.2.1, h.2.2.2.2.2.2.2.2.2.2.2.2.1, h.2.2.2.2.2.2.2.2.2.2.2.2.2.1, h.2.2.2.2.2.2.2.2.2.2.2.2.2.2.1, h.2.2.2.2.2.2.2.2.2.2.2.2.2.2.2)
def St.w_taped (h : St) (x : Nat) : St := (h.1, x, h.2.2.1, h.2.2.2.1, h.2.2.2.2.1, h.2.2.2.2.2.1, h.2.2.2.2.2.2.1, h.2.2.2.2.2.2.2.1, h.2.2.2.2.2.2.2.2.1, h.2.2.2.2.2.2.2.2.2.1, h.2.2.2.2.2.2.2.2.2.2.1, h.2.2.2.2.2.2.2.2.2.2.2.1, h.2.2.2.2.2.2.2.2.2.2.2.2.1, h.2.2.2.2.2.2.2.2.2.2.2.2.2.1, h.2.2.2.2.2.2.2.2.2.2.2.2.2.2.1, h.2.2.2.2.2.2.2.2.2.2.2.2.2.2.2)
def St.w_fk (h : St) (x : Int32) : St := (h.1, h.2.1, x, h.2.2.2.1, h.2.2.2.2.1, h.2.2.2.2.2.1, h.2.2.2.2.2.2.1, h.2.2.2.2.2.2.2.1, h.2.2.2.2.2.2.2.2.1, h.2.2.2.2.2.2.2.2.2.1, h.2.2.2.2.2.2.2.2.2.2.1, h.2.2.2.2.2.2.2.2.2.2.2.1, h.2.2.2.2.2.2.2.2.2.2.2.2.1, h.2.2.2.2.2.2.2.2.2.2.2.2.2.1, h.2.2.2.2.2.2.2.2.2.2.2.2.2.2.1, h.2.2.2.2.2.2.2.2.2.2.2.2.2.2.2)
def St.w_fp (h : St) (x : Int32) : St := (h.1, h.2.1, h.2.2.1, x, h.2.2.2.2.1, h.2.2.2.2.2.1, h.2.2.2.2.2.2.1, h.2.2.2.2.2.2.2.1, h.2.2.2.2.2.2.2.2.1, h.2.2.2.2.2.2.2.2.2.1, h.2.2.2.2.2.2.2.2.2.2.1, h.2.2.2.2.2.2.2.2.2.2.2.1, h.2.2.2.2.2.2.2.2.2.2.2.2.1, h.2.2.2.2.2.2.2.2.2.2.2.2.2.1, h.2.2.2.2.2.2.2.2.2.2.2.2.2.2.1, h.2.2.2.2.2.2.2.2.2.2.2.2.2.2.2)
def St.w_B (h : St) (x : Bk) : St := (h.1, h.2.1, h.2.2.1, h.2.2.2.1, x, h.2.2.2.2.2.1, h.2.2.2.2.2.2.1, h.2.2.2.2.2.2.2.1, h.2.2.2.2.2.2.2.2.1, h.2.2.2.2.2.2.2.2.2.1, h.2.2.2.2.2.2.2.2.2.2.1, h.2.2.2.2.2.2.2.2.2.2.2.1, h.2.2.2.2.2.2.2.2.2.2.2.2.1, h.2.2.2.2.2.2.2.2.2.2.2.2.2.1, h.2.2.2.2.2.2.2.2.2.2.2.2.2.2.1, h.2.2.2.2.2.2.2.2.2.2.2.2.2.2.2)
def St.w_P (h : St) (x : Nat → Int32) : St := (h.1, h.2.1, h.2.2.1, h.2.2.2.1, h.2.2.2.2.1, x, h.2.2.2.2.2.2.1, h.2.2.2.2.2.2.2.1, h.2.2.2.2.2.2.2.2.1, h.2.2.2.2.2.2.2.2.2.1, h.2.2.2.2.2.2.2.2.2.2.1, h.2.2.2.2.2.2.2.2.2.2.2.1, h.2.2.2.2.2.2.2.2.2.2.2.2.1, h.2.2.2.2.2.2.2.2.2.2.2.2.2.1, h.2.2.2.2.2.2.2.2.2.2.2.2.2.2.1, h.2.2.2.2.2.2.2.2.2.2.2.2.2.2.2)
def St.w_acts (h : St) (x : Nat) : St := (h.1, h.2.1, h.2.2.1, h.2.2.2.1, h.2.2.2.2.1, h.2.2.2.2.2.1, x, h.2.2.2.2.2.2.2.1, h.2.2.2.2.2.2.2.2.1, h.2.2.2.2.2.2.2.2.2.1, h.2.2.2.2.2.2.2.2.2.2.1, h.2.2.2.2.2.2.2.2.2.2.2.1, h.2.2.2.2.2.2.2.2.2.2.2.2.1, h.2.2.2.2.2.2.2.2.2.2.2.2.2.1, h.2.2.2.2.2.2.2.2.2.2.2.2.2.2.1, h.2.2.2.2.2.2.2.2.2.2.2.2.2.2.2)
def St.w_undone (h : St) (x : Nat) : St := (h.1, h.2.1, h.2.2.1, h.2.2.2.1, h.2.2.2.2.1, h.2.2.2.2.2.1, h.2.2.2.2.2.2.1, x, h.2.2.2.2.2.2.2.2.1, h.2.2.2.2.2.2.2.2.2.1, h.2.2.2.2.2.2.2.2.2.2.1, h.2.2.2.2.2.2.2.2.2.2.2.1, h.2.2.2.2.2.2.2.2.2.2.2.2.1, h.2.2.2.2.2.2.2.2.2.2.2.2.2.1, h.2.2.2.2.2.2.2.2.2.2.2.2.2.2.1, h.2.2.2.2.2.2.2.2.2.2.2.2.2.2.2)
def St.w_was (h : St) (x : Nat → Nat → Int32) : St := (h.1, h.2.1, h.2.2.1, h.2.2.2.1, h.2.2.2.2.1, h.2.2.2.2.2.1, h.2.2.2.2.2.2.1, h.2.2.2.2.2.2.2.1, x, h.2.2.2.2.2.2.2.2.2.1, h.2.2.2.2.2.2.2.2.2.2.1, h.2.2.2.2.2.2.2.2.2.2.2.1, h.2.2.2.2.2.2.2.2.2.2.2.2.1, h.2.2.2.2.2.2.2.2.2.2.2.2.2.1, h.2.2.2.2.2.2.2.2.2.2.2.2.2.2.1, h.2.2.2.2.2.2.2.2.2.2.2.2.2.2.2)
def St.w_laid (h : St) (x : Nat) : St := (h.1, h.2.1, h.2.2.1, h.2.2.2.1, h.2.2.2.2.1, h.2.2.2.2.2.1, h.2.2.2.2.2.2.1, h.2.2.2.2.2.2.2.1, h.2.2.2.2.2.2.2.2.1, x, h.2.2.2.2.2.2.2.2.2.2.1, h.2.2.2.2.2.2.2.2.2.2.2.1, h.2.2.2.2.2.2.2.2.2.2.2.2.1, h.2.2.2.2.2.2.2.2.2.2.2.2.2.1, h.2.2.2.2.2.2.2.2.2.2.2.2.2.2.1, h.2.2.2.2.2.2.2.2.2.2.2.2.2.2.2)
def St.w_lies (h : St) (x : Nat → Int32) : St := (h.1, h.2.1, h.2.2.1, h.2.2.2.1, h.2.2.2.2.1, h.2.2.2.2.2.1, h.2.2.2.2.2.2.1, h.2.2.2.2.2.2.2.1, h.2.2.2.2.2.2.2.2.1, h.2.2.2.2.2.2.2.2.2.1, x, h.2.2.2.2.2.2.2.2.2.2.2.1, h.2.2.2.2.2.2.2.2.2.2.2.2.1, h.2.2.2.2.2.2.2.2.2.2.2.2.2.1, h.2.2.2.2.2.2.2.2.2.2.2.2.2.2.1, h.2.2.2.2.2.2.2.2.2.2.2.2.2.2.2)
def St.w_ns (h : St) (x : Nat) : St := (h.1, h.2.1, h.2.2.1, h.2.2.2.1, h.2.2.2.2.1, h.2.2.2.2.2.1, h.2.2.2.2.2.2.1, h.2.2.2.2.2.2.2.1, h.2.2.2.2.2.2.2.2.1, h.2.2.2.2.2.2.2.2.2.1, h.2.2.2.2.2.2.2.2.2.2.1, x, h.2.2.2.2.2.2.2.2.2.2.2.2.1, h.2.2.2.2.2.2.2.2.2.2.2.2.2.1, h.2.2.2.2.2.2.2.2.2.2.2.2.2.2.1, h.2.2.2.2.2.2.2.2.2.2.2.2.2.2.2)
def St.w_sg (h : St) (x : Nat → Nat → Int32) : St := (h.1, h.2.1, h.2.2.1, h.2.2.2.1, h.2.2.2.2.1, h.2.2.2.2.2.1, h.2.2.2.2.2.2.1, h.2.2.2.2.2.2.2.1, h.2.2.2.2.2.2.2.2.1, h.2.2.2.2.2.2.2.2.2.1, h.2.2.2.2.2.2.2.2.2.2.1, h.2.2.2.2.2.2.2.2.2.2.2.1, x, h.2.2.2.2.2.2.2.2.2.2.2.2.2.1, h.2.2.2.2.2.2.2.2.2.2.2.2.2.2.1, h.2.2.2.2.2.2.2.2.2.2.2.2.2.2.2)
def St.w_time (h : St) (x : Nat) : St := (h.1, h.2.1, h.2.2.1, h.2.2.2.1, h.2.2.2.2.1, h.2.2.2.2.2.1, h.2.2.2.2.2.2.1, h.2.2.2.2.2.2.2.1, h.2.2.2.2.2.2.2.2.1, h.2.2.2.2.2.2.2.2.2.1, h.2.2.2.2.2.2.2.2.2.2.1, h.2.2.2.2.2.2.2.2.2.2.2.1, h.2.2.2.2.2.2.2.2.2.2.2.2.1, x, h.2.2.2.2.2.2.2.2.2.2.2.2.2.2.1, h.2.2.2.2.2.2.2.2.2.2.2.2.2.2.2)
def St.w_box (h : St) (x : Nat → Nat → Int32) : St := (h.1, h.2.1, h.2.2.1, h.2.2.2.1, h.2.2.2.2.1, h.2.2.2.2.2.1, h.2.2.2.2.2.2.1, h.2.2.2.2.2.2.2.1, h.2.2.2.2.2.2.2.2.1, h.2.2.2.2.2.2.2.2.2.1, h.2.2.2.2.2.2.2.2.2.2.1, h.2.2.2.2.2.2.2.2.2.2.2.1, h.2.2.2.2.2.2.2.2.2.2.2.2.1, h.2.2.2.2.2.2.2.2.2.2.2.2.2.1, x, h.2.2.2.2.2.2.2.2.2.2.2.2.2.2.2)
def St.w_boxed (h : St) (x : Nat → Bool) : St := (h.1, h.2.1, h.2.2.1, h.2.2.2.1, h.2.2.2.2.1, h.2.2.2.2.2.1, h.2.2.2.2.2.2.1, h.2.2.2.2.2.2.2.1, h.2.2.2.2.2.2.2.2.1, h.2.2.2.2.2.2.2.2.2.1, h.2.2.2.2.2.2.2.2.2.2.1, h.2.2.2.2.2.2.2.2.2.2.2.1, h.2.2.2.2.2.2.2.2.2.2.2.2.1, h.2.2.2.2.2.2.2.2.2.2.2.2.2.1, h.2.2.2.2.2.2.2.2.2.2.2.2.2.2.1, x)
abbrev RowOk (B : Bk) (P : Nat → Int32) : Prop := (POk B P) ∧ (∃ v, v ≤ 999 ∧ P 40 = N v) ∧ (∀ j, 42 ≤ j → P j = 0)
theorem RowOk.ok {B : Bk} {P : Nat → Int32} (h : RowOk B P) : POk B P := h.1
theorem RowOk.week {B : Bk} {P : Nat → Int32} (h : RowOk B P) : ∃ v, v ≤ 999 ∧ P 40 = N v := h.2.1
theorem RowOk.big {B : Bk} {P : Nat → Int32} (h : RowOk B P) : ∀ j, 42 ≤ j → P j = 0 := h.2.2
def firsts (B : Bk) : Nat := if B.nm ≤ B.nb then B.nm else B.nb
abbrev SOk (S : St) : Prop := (S.B.Ok) ∧ (RowOk S.B S.P) ∧ (∀ i, i < S.acts + S.undone → RowOk S.B (S.was i)) ∧ (S.acts + S.undone ≤ 40) ∧ (S.taped ≤ 1600) ∧ (S.laid ≤ 6) ∧ (S.ns ≤ 30) ∧ (S.time ≤ 100000) ∧ (∀ i, i < S.ns → ∃ m, m < firsts S.B ∧ S.sg 0 i = N m) ∧ (∀ i, i < S.ns → S.sg 1 i = -1 ∨ ∃ m, m < firsts S.B ∧ S.sg 1 i = N m) ∧ (∀ i, i < S.ns → S.sg 3 i = 0 ∨ S.sg 3 i = 1) ∧ (∀ i, i < S.ns → S.sg 5 i = -1 ∨ ∃ t, t ≤ 100000 ∧ S.sg 5 i = N t) ∧ (∀ b, b < 3 → S.boxed b = true → RowOk S.B (S.box b)) ∧ (∀ a b, S.B.cost a b ≠ 0 → a < S.B.nk ∧ b < S.B.nk)
theorem SOk.bok {S : St} (h : SOk S) : S.B.Ok := h.1
theorem SOk.row {S : St} (h : SOk S) : RowOk S.B S.P := h.2.1
theorem SOk.was {S : St} (h : SOk S) : ∀ i, i < S.acts + S.undone → RowOk S.B (S.was i) := h.2.2.1
theorem SOk.room {S : St} (h : SOk S) : S.acts + S.undone ≤ 40 := h.2.2.2.1
theorem SOk.taped {S : St} (h : SOk S) : S.taped ≤ 1600 := h.2.2.2.2.1
theorem SOk.laid {S : St} (h : SOk S) : S.laid ≤ 6 := h.2.2.2.2.2.1
theorem SOk.ns {S : St} (h : SOk S) : S.ns ≤ 30 := h.2.2.2.2.2.2.1
theorem SOk.time {S : St} (h : SOk S) : S.time ≤ 100000 := h.2.2.2.2.2.2.2.1
theorem SOk.man {S : St} (h : SOk S) : ∀ i, i < S.ns → ∃ m, m < firsts S.B ∧ S.sg 0 i = N m := h.2.2.2.2.2.2.2.2.1
theorem SOk.other {S : St} (h : SOk S) : ∀ i, i < S.ns → S.sg 1 i = -1 ∨ ∃ m, m < firsts S.B ∧ S.sg 1 i = N m := h.2.2.2.2.2.2.2.2.2.1
theorem SOk.yes {S : St} (h : SOk S) : ∀ i, i < S.ns → S.sg 3 i = 0 ∨ S.sg 3 i = 1 := h.2.2.2.2.2.2.2.2.2.2.1
theorem SOk.untold {S : St} (h : SOk S) : ∀ i, i < S.ns → S.sg 5 i = -1 ∨ ∃ t, t ≤ 100000 ∧ S.sg 5 i = N t := h.2.2.2.2.2.2.2.2.2.2.2.1
theorem SOk.box {S : St} (h : SOk S) : ∀ b, b < 3 → S.boxed b = true → RowOk S.B (S.box b) := h.2.2.2.2.2.2.2.2.2.2.2.2.1
theorem SOk.rate {S : St} (h : SOk S) : ∀ a b, S.B.cost a b ≠ 0 → a < S.B.nk ∧ b < S.B.nk := h.2.2.2.2.2.2.2.2.2.2.2.2.2
/-! what is asked -/
def q_fault (S : St) (x : Int32) : Int32 := if x = 0 then S.fk else if x = 1 then S.fp else -1
def q_man (S : St) (x y : Int32) : Int32 :=
  match asQ x S.B.nm with
  | none => -1000000
  | some m => if y = 0 then S.P (15 + m) else if y = 1 then S.P (35 + m) else if y = 2 then growth S.B S.P m else if y = 3 then sum3 S.P (3 * m) else if y = 4 then S.B.pay m 0 + S.B.pay m 1 + S.B.pay m 2 else if y = 5 then S.B.hedge m else if y = 6 then (if S.B.loose m then 1 else 0) else -1000000
def at2 (a b : Option Nat) (f : Nat → Nat → Int32) (d : Int32) : Int32 :=
  match a, b with
  | some m, some k => f m k
  | _, _ => d
def q_purse (S : St) (x y : Int32) : Int32 := at2 (asQ x S.B.nm) (asQ y S.B.nk) (fun m k => S.P (3 * m + k)) (-1)
def q_over (S : St) (x y : Int32) : Int32 := at2 (asQ x S.B.nm) (asQ y S.B.nk) (fun m k => S.P (20 + 3 * m + k)) (-1)
def q_pay (S : St) (x y : Int32) : Int32 := at2 (asQ x S.B.nm) (asQ y S.B.nk) (fun m k => S.B.pay m k) (-1)
def sumOver (f : Nat → Int32) : Nat → Int32
  | 0 => 0
  | n + 1 => sumOver f n + f n
def q_all (S : St) (x y : Int32) : Int32 :=
  match asQ x S.B.nk with
  | none => -1
  | some k => if y = 0 then sumOver (fun m => S.P (3 * m + k)) S.B.nm else if y = 1 then sumOver (fun m => S.P (20 + 3 * m + k)) S.B.nm else -1
def q_left (S : St) (x : Int32) : Int32 :=
  match asQ x S.B.nm with
  | none => -1
  | some m => N (leftN S.B S.P m)
def q_lies (S : St) (x : Int32) : Int32 :=
  match asQ x S.laid with
  | none => -1
  | some i => S.lies i
def q_about (S : St) (x : Int32) : Int32 :=
  if x = 0 then N S.B.nm else if x = 1 then N S.B.nk else if x = 2 then N S.B.nb else if x = 3 then N S.B.nr else if x = 4 then S.P 40 else if x = 5 then S.P 41 else if x = 6 then N S.B.hours else if x = 7 then N S.acts else if x = 8 then N S.undone else if x = 9 then N S.ns else if x = 10 then N S.time else if x = 11 then N S.taped else if x = 12 then N S.B.units else if x = 13 then N S.laid else -1
def asI (o : Option Nat) : Int32 := match o with | none => -1 | some n => N n
def firstN (f : Nat → Bool) : Nat → Option Nat
  | 0 => none
  | n + 1 => match firstN f n with
    | some i => some i
    | none => if f n then some n else none
theorem firstN_some {f : Nat → Bool} : ∀ {n i : Nat}, firstN f n = some i → i < n ∧ f i = true ∧ ∀ j, j < i → f j = false
  | 0, _ => fun h => by cases h
  | n + 1, i => fun h => by
    rw [firstN] at h
    cases hn : firstN f n with
    | some k =>
      rw [hn] at h
      cases h
      obtain ⟨a, b, c⟩ := firstN_some hn
      exact ⟨by omega, b, c⟩
    | none =>
      rw [hn] at h
      have no : ∀ j, j < n → f j = false := by
        clear h
        induction n with
        | zero => intro j hj; omega
        | succ n ih =>
          intro j hj
          rw [firstN] at hn
          cases hm : firstN f n with
          | some k => rw [hm] at hn; cases hn
          | none =>
            rw [hm] at hn
            by_cases q : f n = true
            · simp [q] at hn
            · by_cases e : j = n
              · subst e; simpa using q
              · exact ih hm j (by omega)
      by_cases q : f n = true
      · simp [q] at h
        subst h
        exact ⟨by omega, q, no⟩
      · simp [q] at h
theorem firstN_none {f : Nat → Bool} : ∀ {n : Nat}, firstN f n = none → ∀ j, j < n → f j = false
  | 0 => fun _ j hj => by omega
  | n + 1 => fun h j hj => by
    rw [firstN] at h
    cases hm : firstN f n with
    | some k => rw [hm] at h; cases h
    | none =>
      rw [hm] at h
      by_cases q : f n = true
      · simp [q] at h
      · by_cases e : j = n
        · subst e; simpa using q
        · exact firstN_none hm j (by omega)
def q_saves (S : St) (x y z : Int32) : Int32 :=
  match asQ x S.B.nm, asQ y S.B.nk with
  | some m, some k => if 0 ≤ z ∧ z ≤ 99 then asI (firstN (fun n => decide (z ≤ S.P (3 * m + k) + N n * S.B.pay m k)) 61) else -1
  | _, _ => -1
def richN (P : Nat → Int32) : Nat → Option Nat
  | 0 => none
  | n + 1 => match richN P n with
    | none => some n
    | some b => if sum3 P (3 * b) < sum3 P (3 * n) then some n else some b
def q_richest (S : St) : Int32 := asI (richN S.P S.B.nm)
def poorN (P : Nat → Int32) : Nat → Int32
  | 0 => sum3 P 0
  | n + 1 => least (poorN P n) (sum3 P (3 * n))
def q_gulf (S : St) : Int32 := match richN S.P S.B.nm with | none => -1 | some b => sum3 S.P (3 * b) - poorN S.P S.B.nm
def mostN (P : Nat → Int32) (m : Nat) : Nat → Option Nat
  | 0 => none
  | n + 1 => match mostN P m n with
    | none => some n
    | some b => if P (3 * m + b) < P (3 * m + n) then some n else some b
def q_most (S : St) (x : Int32) : Int32 := match asQ x S.B.nm with | none => -1 | some m => asI (mostN S.P m S.B.nk)
/-! what is done -/
def s_act (S : St) : St :=
  if S.acts = 40 then ((S.w_was (fun i => if i = 39 then S.P else S.was (i + 1))).w_undone 0)
  else (((S.w_was (fun i => if i = S.acts then S.P else S.was i)).w_acts (S.acts + 1)).w_undone 0)
def s_spend (S : St) (x y z : Int32) : Int32 × St :=
  match asQ x S.B.nm, asQ y S.B.nk with
  | some m, some k => if (1 ≤ z ∧ z ≤ 8) ∧ z ≤ S.P (3 * m + k) ∧ z ≤ N (leftN S.B S.P m) then
      (ly S.B m k z 1 (add (add S.P (3 * m + k) (-z)) (35 + m) z) (20 + 3 * m + k), (s_act S).w_P (ly S.B m k z 1 (add (add S.P (3 * m + k) (-z)) (35 + m) z)))
    else (-1, S)
  | _, _ => (-1, S)
def s_give (S : St) (x o y z : Int32) : Int32 × St :=
  match asQ x S.B.nm, asQ o S.B.nm, asQ y S.B.nk with
  | some m, some n, some k => if m ≠ n ∧ 1 ≤ z ∧ z ≤ S.P (3 * m + k) then
      (getsP (add S.P (3 * m + k) (-z)) (3 * n + k) z (3 * n + k), (s_act S).w_P (getsP (add S.P (3 * m + k) (-z)) (3 * n + k) z))
    else (-1, S)
  | _, _, _ => (-1, S)
def s_change (S : St) (x y z : Int32) : Int32 × St :=
  match asQ x S.B.nm, asQ y S.B.nk, asQ z S.B.nk with
  | some m, some k, some o => if S.B.cost k o ≠ 0 ∧ N (S.B.cost k o) ≤ S.P (3 * m + k) then
      (getsP (add S.P (3 * m + k) (-(N (S.B.cost k o)))) (3 * m + o) (N (S.B.brings k o)) (3 * m + o), (s_act S).w_P (getsP (add S.P (3 * m + k) (-(N (S.B.cost k o)))) (3 * m + o) (N (S.B.brings k o))))
    else (-1, S)
  | _, _, _ => (-1, S)
def s_week (S : St) : Int32 × St := if S.P 40 = 999 then (-1000000, S) else (weekSum S.B S.P, (s_act S).w_P (weekP S.B S.P))
def s_swap (S : St) (i : Nat) : St := (S.w_P (S.was i)).w_was (fun k => if k = i then S.P else S.was k)
def s_undo (S : St) : Int32 × St := if S.acts = 0 then (0, S) else (1, (((s_swap S (S.acts - 1)).w_acts (S.acts - 1)).w_undone (S.undone + 1)))
def s_redo (S : St) : Int32 × St := if S.undone = 0 then (0, S) else (1, (((s_swap S S.acts).w_acts (S.acts + 1)).w_undone (S.undone - 1)))
noncomputable def s_best (S : St) (x y aim : Int32) : Int32 × St :=
  match asQ x S.B.nm with
  | none => (-1000000, S.w_laid 0)
  | some m => if y = 0 ∨ y = 1 then
      (if y = 0 then val S.B S.P m aim (bestRow S.B S.P m aim) else N (Row.sum (bestRow S.B S.P m aim)), (S.w_laid S.B.nk).w_lies (Row.at (bestRow S.B S.P m aim)))
    else (-1000000, S.w_laid 0)
noncomputable def q_leaks (S : St) (x : Int32) : Int32 :=
  match asQ x S.B.nm with
  | none => -1000000
  | some m => (growths S.B (lyR S.B m (Row.at (bestRow S.B S.P m 0)) 1 S.P) S.B.nm - growth S.B (lyR S.B m (Row.at (bestRow S.B S.P m 0)) 1 S.P) m) - (growths S.B S.P S.B.nm - growth S.B S.P m)
def q_will (S : St) (x y : Int32) : Int32 :=
  match asQ x S.B.nm, asQ y 31 with
  | some m, some n => weeks S.B S.P n (15 + m)
  | _, _ => -1
noncomputable def thriveP (B : Bk) (m : Nat) (P : Nat → Int32) : Nat → Nat → Int32
  | 0 => P
  | n + 1 => weekP B (lyR B m (Row.at (bestRow B (thriveP B m P n) m 0)) 1 (add (add (add (thriveP B m P n) (3 * m) (-(Row.at (bestRow B (thriveP B m P n) m 0) 0))) (3 * m + 1) (-(Row.at (bestRow B (thriveP B m P n) m 0) 1))) (3 * m + 2) (-(Row.at (bestRow B (thriveP B m P n) m 0) 2))))
noncomputable def q_thrive (S : St) (x y : Int32) : Int32 :=
  match asQ x S.B.nm, asQ y 13 with
  | some m, some n => thriveP S.B m S.P n (15 + m)
  | _, _ => -1
def s_later (S : St) (x : Int32) : Int32 × St := if 0 ≤ x ∧ x ≤ 1000 ∧ N S.time + x ≤ 100000 then (N S.time + x, S.w_time (S.time + x.toNatClampNeg)) else (-1, S)
def s_tell (S : St) (m o n y : Int32) : Int32 × St := (N S.ns, (S.w_ns (S.ns + 1)).w_sg (fun f i => if i = S.ns then (if f = 0 then m else if f = 1 then o else if f = 2 then n else if f = 3 then y else if f = 4 then N S.time else -1) else S.sg f i))
def s_least (S : St) (x y z : Int32) : Int32 × St :=
  match asQ x (firsts S.B) with
  | some m => if (0 ≤ y ∧ y ≤ 99) ∧ S.ns < 30 then s_tell S x (-1) y (if z = 0 then 0 else 1) else (-1, S)
  | none => (-1, S)
def s_more (S : St) (x y z : Int32) : Int32 × St :=
  match asQ x (firsts S.B), asQ y (firsts S.B) with
  | some m, some o => if m ≠ o ∧ S.ns < 30 then s_tell S x y 0 (if z = 0 then 0 else 1) else (-1, S)
  | _, _ => (-1, S)
def s_untell (S : St) (x : Int32) : Int32 × St :=
  match asQ x S.ns with
  | some i => if S.sg 5 i < 0 then (1, S.w_sg (fun f k => if f = 5 ∧ k = i then N S.time else S.sg f k)) else (0, S)
  | none => (0, S)
def s_image (S : St) (x : Int32) : Int32 × St :=
  match asQ x 3 with
  | some b => (S.P 40, (S.w_box (fun k => if k = b then S.P else S.box k)).w_boxed (fun k => if k = b then true else S.boxed k))
  | none => (-1, S)
def s_back (S : St) (x : Int32) : Int32 × St :=
  match asQ x 3 with
  | some b => if S.boxed b then (S.box b 40, ((S.w_P (S.box b)).w_acts 0).w_undone 0) else (-1, S)
  | none => (-1, S)
def byteOf (v : Int32) (k : Nat) : Int32 := (v >>> (N (24 - 8 * k) &&& 31)).toInt8.toInt32
def five (a b c d e : Int32) (k : Nat) : Int32 := if k < 4 then a else if k < 8 then b else if k < 12 then c else if k < 16 then d else e
def s_feed (S : St) (a b c d e : Int32) : Int32 × St :=
  if S.taped + 20 ≤ 1600 then (N (S.taped + 20), (S.w_taped (S.taped + 20)).w_tape (fun k => if S.taped ≤ k ∧ k < S.taped + 20 then byteOf (five a b c d e (k - S.taped)) ((k - S.taped) % 4) else S.tape k)) else (-1, S)
def s_end (S : St) (x : Int32) : Int32 × St :=
  match asQ x (S.taped + 1) with
  | some n => (N n, S.w_taped n)
  | none => (-1, S)

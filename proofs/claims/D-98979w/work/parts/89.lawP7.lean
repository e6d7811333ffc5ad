set_option linter.unusedVariables false
set_option linter.unusedSimpArgs false
/-! THE PLAIN LAW: formulas: the descent, and the machine with its stack -/
abbrev PE : Type := Nat × Nat
/-- token, units told in all, units of this formula -/
abbrev Es : Type := Tk × Nat × Nat
abbrev ER : Type := PE ⊕ (Cde × Es)
abbrev FE : Type := Nat → Es → ER
abbrev Sk : Type := List (Nat × Nat)
section P7
variable (X : Nat → Nat) (n : Nat)
def eGo (e : Es) : Es := (lexT X n e.1.next, e.2)
def eBad (e : Es) : PE := (if e.1.sort = 3 then 1 else 2, e.1.place)
def eW (e : Es) (i : Nat) : Bool := decide (e.1.sort = 1 ∧ e.1.val = litV i)
def eAsk (e : Es) : Option Nat := if e.1.sort = 1 then askI e.1.val else none
def eIn (e : Es) : Es := (e.1, e.2.1 + 1, e.2.2 + 1)
def eCode (e : Es) : Cde := [match eAsk e with | none => (110, N e.1.val) | some k => (askc k, 0)]
def eNo (e : Es) : Bool := decide ((e.1.sort ≠ 2 ∧ e.1.sort ≠ 40 ∧ eAsk e = none) ∨ e.2.1 = 60 ∨ e.2.2 = 30)
def opT (e : Es) : Option Nat := if e.1.sort = 42 ∨ e.1.sort = 47 ∨ e.1.sort = 37 then some e.1.sort else none
def opS (e : Es) : Option Nat := if e.1.sort = 43 ∨ e.1.sort = 45 then some e.1.sort else none
def opC (e : Es) : Option Nat := if e.1.sort = 60 ∨ e.1.sort = 62 ∨ e.1.sort = 61 then some e.1.sort else none
def opA (e : Es) : Option Nat := if eW e 19 = true then some 38 else none
def opO (e : Es) : Option Nat := if eW e 20 = true then some 124 else none
def sUnit (fB : FE) (deep : Nat) (e : Es) : ER :=
  if eNo e = true ∨ (e.1.sort = 40 ∧ 6 < deep) then .inl (eBad e)
  else if e.1.sort = 40 then
    match fB (deep + 1) (eGo X n (eIn e)) with
    | .inl x => .inl x
    | .inr r => if r.2.1.sort = 41 then .inr (r.1, eGo X n r.2) else .inl (eBad r.2)
  else .inr (eCode e, eGo X n (eIn e))
def eLoop (op : Es → Option Nat) (sub : FE) (deep : Nat) : Nat → Cde → Es → ER
  | 0, _, _ => .inl (0, 0)
  | f + 1, A, e =>
    match op e with
    | none => .inr (A, e)
    | some c =>
      match sub deep (eGo X n e) with
      | .inl x => .inl x
      | .inr r => eLoop op sub deep f (A ++ r.1 ++ [(N c, 0)]) r.2
def eSeq (op : Es → Option Nat) (sub : FE) : FE := fun deep e =>
  match sub deep e with
  | .inl x => .inl x
  | .inr r => eLoop X n op sub deep 2000 r.1 r.2
def sTerm (fB : FE) : FE := eSeq X n opT (sUnit X n fB)
def sSum (fB : FE) : FE := eSeq X n opS (sTerm X n fB)
def sOne (fB fO : FE) : FE := fun deep e =>
  if eW e 21 = true then
    (if 6 < deep then .inl (eBad e)
    else match fO (deep + 1) (eGo X n e) with
      | .inl x => .inl x
      | .inr r => .inr (r.1 ++ [(126, 0)], r.2))
  else match sSum X n fB deep e with
    | .inl x => .inl x
    | .inr r =>
      match opC r.2 with
      | none => .inr r
      | some c =>
        match sSum X n fB deep (eGo X n r.2) with
        | .inl x => .inl x
        | .inr r2 => .inr (r.1 ++ r2.1 ++ [(N c, 0)], r2.2)
def sAll (fB fO : FE) : FE := eSeq X n opA (sOne X n fB fO)
def sBoth (fB fO : FE) : FE := eSeq X n opO (sAll X n fB fO)
def sBo : Nat → FE × FE
  | 0 => (fun _ _ => .inl (0, 0), fun _ _ => .inl (0, 0))
  | d + 1 => (sBoth X n (sBo d).1 (sBo d).2, sOne X n (sBo d).1 (sBo d).2)
/-! the machine -/
abbrev MS : Type := Bool × Sk × Cde × Nat × Es
def begins (K : Sk) : Bool := match K with | [] => false | x :: _ => decide (x.1 ≤ 3 ∨ 7 ≤ x.1)
def eRank (e : Es) : Nat := if eW e 19 = true then 2 else if eW e 20 = true then 1 else if (opC e).isSome then 4 else if (opS e).isSome then 5 else if (opT e).isSome then 6 else 0
def eSign (e : Es) : Nat := if eRank e = 2 then 38 else if eRank e = 1 then 124 else e.1.sort
def cmpd : Sk → Bool
  | [] => false
  | x :: K => if x.1 = 5 ∨ x.1 = 6 then cmpd K else decide (x.1 = 4)
def pops (r : Nat) : Sk → Cde → Nat → Sk × Cde × Nat
  | [], C, w => ([], C, w)
  | x :: K, C, w => if x.1 ≤ 6 ∧ r ≤ x.1 then pops r K (C ++ [(N x.2, 0)]) (if x.1 = 3 then w - 1 else w) else (x :: K, C, w)
def mUnit (K : Sk) (C : Cde) (w : Nat) (e : Es) : PE ⊕ MS :=
  if begins K = true ∧ eW e 21 = true then
    (if w = 7 then .inl (eBad e) else .inr (true, (3, 126) :: K, C, w + 1, eGo X n e))
  else if eNo e = true ∨ (e.1.sort = 40 ∧ w = 7) then .inl (eBad e)
  else if e.1.sort = 40 then .inr (true, (7, 126) :: K, C, w + 1, eGo X n (eIn e))
  else .inr (false, K, C ++ eCode e, w, eGo X n (eIn e))
def mEnd (e : Es) (q : Sk × Cde × Nat) : PE ⊕ MS :=
  match q.1 with
  | [] => .inr (false, [], q.2.1, q.2.2, e)
  | x :: K => if x.1 = 7 then (if e.1.sort = 41 then .inr (false, K, q.2.1, q.2.2 - 1, eGo X n e) else .inl (eBad e)) else .inr (false, K, q.2.1, q.2.2, e)
def mBehind (K : Sk) (C : Cde) (w : Nat) (e : Es) : PE ⊕ MS :=
  if eRank e = 4 ∧ cmpd K = true then .inl (eBad e)
  else if 0 < eRank e then .inr (true, (eRank e, eSign e) :: (pops (eRank e) K C w).1, (pops (eRank e) K C w).2.1, (pops (eRank e) K C w).2.2, eGo X n e)
  else mEnd X n e (pops 0 K C w)
def mStep (s : MS) : PE ⊕ MS := if s.1 = true then mUnit X n s.2.1 s.2.2.1 s.2.2.2.1 s.2.2.2.2 else mBehind X n s.2.1 s.2.2.1 s.2.2.2.1 s.2.2.2.2
def mRun : Nat → MS → ER
  | 0, _ => .inl (0, 0)
  | k + 1, s => if s.2.1 = [] then .inr (s.2.2.1, s.2.2.2.2) else match mStep X n s with | .inl x => .inl x | .inr s' => mRun k s'
end P7

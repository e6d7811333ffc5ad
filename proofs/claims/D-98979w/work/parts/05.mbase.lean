/-! THE MODEL'S WORLD: cell 0 the object, cells 1 .. 54 its arrays in the order of their making -/
set_option maxRecDepth 100000
-- cell 1: tape (field 0), sort 1, 1620 places
-- cell 2: text (field 1), sort 1, 1600 places
-- cell 3: kinds (field 11), sort 0, 2 places
-- cell 4: men (field 12), sort 0, 2 places
-- cell 5: books (field 13), sort 0, 2 places
-- cell 6: rates (field 14), sort 0, 2 places
-- cell 7: units (field 15), sort 0, 2 places
-- cell 8: hours (field 16), sort 0, 2 places
-- cell 9: draw (field 17), sort 0, 2 places
-- cell 10: isLoose (field 18), sort 0, 2 places
-- cell 11: isHedged (field 19), sort 0, 2 places
-- cell 12: cropTold (field 20), sort 0, 10 places
-- cell 13: hedge (field 21), sort 0, 10 places
-- cell 14: purseTold (field 22), sort 0, 30 places
-- cell 15: payTold (field 23), sort 0, 30 places
-- cell 16: isPurse (field 24), sort 0, 10 places
-- cell 17: isPay (field 25), sort 0, 10 places
-- cell 18: rateOf (field 26), sort 0, 18 places
-- cell 19: rateFor (field 27), sort 0, 18 places
-- cell 20: book (field 28), sort 0, 10 places
-- cell 21: ruleFrom (field 29), sort 0, 2 places
-- cell 22: ruleTo (field 30), sort 0, 2 places
-- cell 23: hasGrow (field 31), sort 2, 2 places
-- cell 24: hasHours (field 32), sort 2, 2 places
-- cell 25: isDraw (field 33), sort 2, 2 places
-- cell 26: kName (field 34), sort 3, 6 places
-- cell 27: mName (field 35), sort 3, 10 places
-- cell 28: code (field 36), sort 0, 1120 places
-- cell 29: codeNumber (field 37), sort 0, 1120 places
-- cell 30: eWhat (field 38), sort 0, 90 places
-- cell 31: eSign (field 39), sort 0, 90 places
-- cell 32: pile (field 40), sort 0, 60 places
-- cell 33: all (field 48), sort 0, 42 places
-- cell 34: was (field 49), sort 0, 1722 places
-- cell 35: row (field 52), sort 0, 3 places
-- cell 36: bestRow (field 53), sort 0, 3 places
-- cell 37: laidRow (field 54), sort 0, 8 places
-- cell 38: mostOf (field 58), sort 0, 3 places
-- cell 39: firstRow (field 59), sort 0, 3 places
-- cell 40: bothOf (field 60), sort 0, 3 places
-- cell 41: restOf (field 61), sort 0, 3 places
-- cell 42: kept (field 64), sort 0, 42 places
-- cell 43: laidKept (field 65), sort 0, 8 places
-- cell 44: spends (field 66), sort 0, 15 places
-- cell 45: sMan (field 70), sort 0, 30 places
-- cell 46: sOther (field 71), sort 0, 30 places
-- cell 47: sNumber (field 72), sort 0, 30 places
-- cell 48: sIs (field 73), sort 0, 30 places
-- cell 49: sTold (field 74), sort 0, 30 places
-- cell 50: sUntold (field 75), sort 0, 30 places
-- cell 51: bookOf (field 76), sort 0, 5 places
-- cell 52: byBook (field 77), sort 0, 25 places
-- cell 53: boxAll (field 81), sort 0, 126 places
-- cell 54: isBoxed (field 82), sort 2, 3 places
def clM : List vw_C := [(RX4, TX4, 83)]
def fkM : Nat → List Nat := fun _ => [1, 1, 0, 0, 0, 0, 0, 0, 0, 0, 2, 1, 1, 1, 1, 1, 1, 1, 1, 1, 1, 1, 1, 1, 1, 1, 1, 1, 1, 1, 1, 1, 1, 1, 1, 1, 1, 1, 1, 1, 1, 0, 0, 0, 0, 0, 0, 0, 1, 1, 0, 0, 1, 1, 1, 0, 0, 0, 1, 1, 1, 1, 0, 0, 1, 1, 1, 0, 0, 0, 1, 1, 1, 1, 1, 1, 1, 1, 0, 0, 0, 1, 1]
def hkM : Nat → Nat × Nat := fun i => match i with
  | 0 => (10, 0)
  | 1 => (1, 1620)
  | 2 => (1, 1600)
  | 3 => (0, 2)
  | 4 => (0, 2)
  | 5 => (0, 2)
  | 6 => (0, 2)
  | 7 => (0, 2)
  | 8 => (0, 2)
  | 9 => (0, 2)
  | 10 => (0, 2)
  | 11 => (0, 2)
  | 12 => (0, 10)
  | 13 => (0, 10)
  | 14 => (0, 30)
  | 15 => (0, 30)
  | 16 => (0, 10)
  | 17 => (0, 10)
  | 18 => (0, 18)
  | 19 => (0, 18)
  | 20 => (0, 10)
  | 21 => (0, 2)
  | 22 => (0, 2)
  | 23 => (2, 2)
  | 24 => (2, 2)
  | 25 => (2, 2)
  | 26 => (3, 6)
  | 27 => (3, 10)
  | 28 => (0, 1120)
  | 29 => (0, 1120)
  | 30 => (0, 90)
  | 31 => (0, 90)
  | 32 => (0, 60)
  | 33 => (0, 42)
  | 34 => (0, 1722)
  | 35 => (0, 3)
  | 36 => (0, 3)
  | 37 => (0, 8)
  | 38 => (0, 3)
  | 39 => (0, 3)
  | 40 => (0, 3)
  | 41 => (0, 3)
  | 42 => (0, 42)
  | 43 => (0, 8)
  | 44 => (0, 15)
  | 45 => (0, 30)
  | 46 => (0, 30)
  | 47 => (0, 30)
  | 48 => (0, 30)
  | 49 => (0, 30)
  | 50 => (0, 30)
  | 51 => (0, 5)
  | 52 => (0, 25)
  | 53 => (0, 126)
  | 54 => (2, 3)
  | _ => (10, 0)
def hrMt : Nat → Option Nat := fun k => match k with
  | 0 => some 1
  | 1 => some 2
  | 11 => some 3
  | 12 => some 4
  | 13 => some 5
  | 14 => some 6
  | 15 => some 7
  | 16 => some 8
  | 17 => some 9
  | 18 => some 10
  | 19 => some 11
  | 20 => some 12
  | 21 => some 13
  | 22 => some 14
  | 23 => some 15
  | 24 => some 16
  | 25 => some 17
  | 26 => some 18
  | 27 => some 19
  | 28 => some 20
  | 29 => some 21
  | 30 => some 22
  | 31 => some 23
  | 32 => some 24
  | 33 => some 25
  | 34 => some 26
  | 35 => some 27
  | 36 => some 28
  | 37 => some 29
  | 38 => some 30
  | 39 => some 31
  | 40 => some 32
  | 48 => some 33
  | 49 => some 34
  | 52 => some 35
  | 53 => some 36
  | 54 => some 37
  | 58 => some 38
  | 59 => some 39
  | 60 => some 40
  | 61 => some 41
  | 64 => some 42
  | 65 => some 43
  | 66 => some 44
  | 70 => some 45
  | 71 => some 46
  | 72 => some 47
  | 73 => some 48
  | 74 => some 49
  | 75 => some 50
  | 76 => some 51
  | 77 => some 52
  | 81 => some 53
  | 82 => some 54
  | _ => none
def hrM : GR := fun i k => if i = 0 then hrMt k else none
def NM : Nat := 55
abbrev Mc (cA : Nat → ClassId) (ad : Nat → Nat) (gi : GI) (gl : GL) : Nat → va_E := g_cell fkM cA ad hkM gi hrM gl
abbrev Mw (cA : Nat → ClassId) (ad : Nat → Nat) (gi : GI) (gl : GL) : va_W := g_ws ad (Mc cA ad gi gl) NM
def g_D (A : Nat → Prop) (ad : Nat → Nat) (n : Nat) : Prop := (∀ i j, i < n → j < n → ad i = ad j → i = j) ∧ ∀ i, i < n → A (ad i)
theorem g_ws_lt {ad : Nat → Nat} {f : Nat → va_E} {n i : Nat} {q : Nat × va_E} (h : (g_ws ad f n)[i]? = some q) : i < n ∧ q = (ad i, f i) := by
  have h1 : i < n := by
    have h2 := (List.getElem?_eq_some_iff.mp h).1
    simpa [g_ws] using h2
  rw [g_ws_get h1] at h
  exact ⟨h1, (Option.some.inj h).symm⟩
theorem g_D.va {A : Nat → Prop} {ad : Nat → Nat} {n : Nat} {f : Nat → va_E} (h : g_D A ad n) : va_D A (g_ws ad f n) := by
  refine ⟨fun i j p q h1 h2 h3 => ?_, fun k q h1 => ?_⟩
  · obtain ⟨a1, a2⟩ := g_ws_lt h1
    obtain ⟨b1, b2⟩ := g_ws_lt h2
    subst a2; subst b2
    exact h.1 i j a1 b1 h3
  · obtain ⟨a1, a2⟩ := g_ws_lt h1
    subst a2
    exact h.2 k a1
theorem g_fs_set {L : List Nat} {f f' : Nat → Nat → Value} {k z : Nat} {v : Value} (hz : L[k]? = some z) (h1 : ∀ j w, j ≠ k → f' j w = f j w) (h2 : f' k z = v) : (L.mapIdx f).set k v = L.mapIdx f' := by
  apply List.ext_getElem?
  intro j
  rw [List.getElem?_set, List.getElem?_mapIdx, List.getElem?_mapIdx]
  by_cases e : k = j
  · subst e
    have hl : k < (L.mapIdx f).length := by
      have := (List.getElem?_eq_some_iff.mp hz).1
      simpa using this
    rw [if_pos rfl, if_pos hl, hz]
    simp [h2]
  · rw [if_neg e]
    cases hj : L[j]? with
    | none => rfl
    | some w => simp [h1 j w (fun q => e q.symm)]
/-- the model's world while a method of its runs -/
def MB (D : va_G) (cA : Nat → ClassId) (ad : Nat → Nat) (A : Nat → Prop) (s : State) (gi : GI) (gl : GL) (H : Heap) (locs : List Loc) : Prop := va_K D clM (g_tys cA) s ∧ va_P D clM (Mw cA ad gi gl) H ∧ (g_D A ad NM ∧ ∀ q, s.heap.size ≤ q → A q) ∧ va_S A s.heap H locs
/-- at a method's start, at its end -/
def MPre (D : va_G) (cA : Nat → ClassId) (ad : Nat → Nat) (gi : GI) (gl : GL) (sz : Nat) (U : State) : Prop := U.heap.size = sz ∧ va_K D clM (g_tys cA) U ∧ va_P D clM (Mw cA ad gi gl) U.heap ∧ g_D (fun _ => True) ad NM
def MPost (D : va_G) (cA : Nat → ClassId) (ad : Nat → Nat) (u : GI × GL) (t : State) : Prop := va_K D clM (g_tys cA) t ∧ va_P D clM (Mw cA ad u.1 u.2) t.heap
def MA (ad : Nat → Nat) (sz : Nat) : Nat → Prop := fun q => (∃ i, i < NM ∧ q = ad i) ∨ sz ≤ q
theorem Mc_pi {cA : Nat → ClassId} {ad : Nat → Nat} {gi : GI} {gl : GL} {i k : Nat} {x : Int32} (j : Nat) (h : j ≠ i) : Mc cA ad (g_pi gi i k x) gl j = Mc cA ad gi gl j := by
  have h1 : g_pi gi i k x j = gi j := by simp [g_pi, va_up, h]
  simp only [Mc, g_cell, g_fv, h1]
theorem Mc_pl {cA : Nat → ClassId} {ad : Nat → Nat} {gi : GI} {gl : GL} {i k : Nat} {x : Int64} (j : Nat) (h : j ≠ i) : Mc cA ad gi (g_pl gl i k x) j = Mc cA ad gi gl j := by
  have h1 : g_pl gl i k x j = gl j := by simp [g_pl, va_up, h]
  simp only [Mc, g_cell, g_fv, h1]
theorem g_pi_at {gi : GI} {i k : Nat} {x : Int32} : g_pi gi i k x i = upd (gi i) k x := by simp [g_pi, va_up]
theorem g_pl_at {gl : GL} {i k : Nat} {x : Int64} : g_pl gl i k x i = vp_updL (gl i) k x := by simp [g_pl, va_up]
section MM
variable {p : Program} {l : Launch} {e : Env} {R : Room} {s : State} {m : MethodId} {args : Array Value} {below : List Frame} {meth : Method} {c : Code} {H : Heap} {locs : List Loc} {cells slots : Nat} {Q : State → Prop}
variable {pc : Nat} {ls : Array Slot} {rest : List Value} {cc : ByteArray} {nL : Nat} {α : Type} {r : α} {D : va_G} {cA : Nat → ClassId} {ad : Nat → Nat} {A : Nat → Prop} {gi : GI} {gl : GL}
theorem Mw_0 {cA : Nat → ClassId} {ad : Nat → Nat} {gi : GI} {gl : GL} : (Mw cA ad gi gl)[0]? = some (ad 0, .inr (0, (fkM 0).mapIdx (fun k z => g_fv ad gi hrM gl 0 k z))) := g_ws_get (Nat.le_of_ble_eq_true rfl)
theorem mm_getI {idx : Nat} (C : CallFix p m c cc nL s args lw_all RX4) (B : MB D cA ad A s gi gl H locs) (k : Nat) (hk : k < 83) (hz : (fkM 0)[k]? = some 0) (hT : (TX4 k).1 = RX4) (hq : Cond.fieldLink RX4 idx RX4 (TX4 k).2.1 (TX4 k).2.2.1 ∈ lw_all) (hdg : decode cc pc = .ok (.getfield idx, 3)) (kk : W p l e R s m args below meth c H locs cells slots Q (F0 m (pc + 3) ls (.int (gi 0 k) :: rest))) : W p l e R s m args below meth c H locs cells slots Q (F0 m pc ls (.ref (ad 0) :: rest)) :=
  va_get (D := D) (ci := 0) (v := .int (gi 0 k)) (C := RX4) (T := TX4) (N := 83) C.1 C.2.1 C.2.2.2.2 in_X4 C.2.2.2.1 B.1 B.2.1 0 Mw_0 rfl k hk (C.2.2.2.2 _ hq) (fun _ h => by rw [hT] at h; exact h) (by rw [List.getElem?_mapIdx, hz]; rfl) hdg kk
theorem mm_getL {idx : Nat} (C : CallFix p m c cc nL s args lw_all RX4) (B : MB D cA ad A s gi gl H locs) (k : Nat) (hk : k < 83) (hz : (fkM 0)[k]? = some 2) (hT : (TX4 k).1 = RX4) (hq : Cond.fieldLink RX4 idx RX4 (TX4 k).2.1 (TX4 k).2.2.1 ∈ lw_all) (hdg : decode cc pc = .ok (.getfield idx, 3)) (kk : W p l e R s m args below meth c H locs cells slots Q (F0 m (pc + 3) ls (.long (gl 0 k) :: rest))) : W p l e R s m args below meth c H locs cells slots Q (F0 m pc ls (.ref (ad 0) :: rest)) :=
  va_get (D := D) (ci := 0) (v := .long (gl 0 k)) (C := RX4) (T := TX4) (N := 83) C.1 C.2.1 C.2.2.2.2 in_X4 C.2.2.2.1 B.1 B.2.1 0 Mw_0 rfl k hk (C.2.2.2.2 _ hq) (fun _ h => by rw [hT] at h; exact h) (by rw [List.getElem?_mapIdx, hz]; rfl) hdg kk
theorem mm_getR {idx a : Nat} (C : CallFix p m c cc nL s args lw_all RX4) (B : MB D cA ad A s gi gl H locs) (k : Nat) (hk : k < 83) (hz : (fkM 0)[k]? = some 1) (ha : hrM 0 k = some a) (hT : (TX4 k).1 = RX4) (hq : Cond.fieldLink RX4 idx RX4 (TX4 k).2.1 (TX4 k).2.2.1 ∈ lw_all) (hdg : decode cc pc = .ok (.getfield idx, 3)) (kk : W p l e R s m args below meth c H locs cells slots Q (F0 m (pc + 3) ls (.ref (ad a) :: rest))) : W p l e R s m args below meth c H locs cells slots Q (F0 m pc ls (.ref (ad 0) :: rest)) :=
  va_get (D := D) (ci := 0) (v := .ref (ad a)) (C := RX4) (T := TX4) (N := 83) C.1 C.2.1 C.2.2.2.2 in_X4 C.2.2.2.1 B.1 B.2.1 0 Mw_0 rfl k hk (C.2.2.2.2 _ hq) (fun _ h => by rw [hT] at h; exact h) (by rw [List.getElem?_mapIdx, hz]; simp [g_fv, ha, va_rf]) hdg kk
theorem mm_putI {idx : Nat} {x : Int32} {f : GI → Option α} (C : CallFix p m c cc nL s args lw_all RX4) (B : MB D cA ad A s gi gl H locs) (k : Nat) (hk : k < 83) (hz : (fkM 0)[k]? = some 0) (hfin : (TX4 k).2.2.2 = false) (hd : tyX4 k = .int) (hT : (TX4 k).1 = RX4) (hq : Cond.fieldLink RX4 idx RX4 (TX4 k).2.1 (TX4 k).2.2.1 ∈ lw_all) (h : (some (g_pi gi 0 k x)).bind f = some r) (hdg : decode cc pc = .ok (.putfield idx, 3)) (kk : ∀ g', f g' = some r → ∀ (H' : Heap) (locs' : List Loc), MB D cA ad A s g' gl H' locs' → W p l e R s m args below meth c H' locs' cells slots Q (F0 m (pc + 3) ls rest)) : W p l e R s m args below meth c H locs cells slots Q (F0 m pc ls (.int x :: .ref (ad 0) :: rest)) := by
  refine va_put (D := D) (ci := 0) (v := .int x) (ty := .int) (C := RX4) (T := TX4) (N := 83) C.1 C.2.1 C.2.2.2.2 in_X4 tyX4 tyX4_ok nmX4 C.2.2.2.1 B.1 B.2.1 (B.2.2.1.1.va) B.2.2.2 0 Mw_0 rfl k hk (C.2.2.2.2 _ hq) (fun _ h => by rw [hT] at h; exact h) hfin ((tyX4_ok k hk).trans (by rw [hd])) rfl rfl (by rw [List.length_mapIdx]; exact (List.getElem?_eq_some_iff.mp hz).1) hdg (fun H' locs' hP hD hS => ?_)
  refine kk _ h H' locs' ⟨B.1, ?_, B.2.2.1, hS⟩
  rw [g_ws_set (f' := Mc cA ad (g_pi gi 0 k x) gl) (fun j hj => Mc_pi j hj)] at hP
  · exact hP
  · show Sum.inr (0, _) = _
    rw [g_fs_set hz (f' := fun k_1 z => g_fv ad (g_pi gi 0 k x) hrM gl 0 k_1 z)]
    · rfl
    · intro j w hj
      simp only [g_fv, g_pi_at, upd, if_neg hj]
    · simp [g_fv, g_pi_at, upd]
theorem mm_putL {idx : Nat} {x : Int64} {f : GL → Option α} (C : CallFix p m c cc nL s args lw_all RX4) (B : MB D cA ad A s gi gl H locs) (k : Nat) (hk : k < 83) (hz : (fkM 0)[k]? = some 2) (hfin : (TX4 k).2.2.2 = false) (hd : tyX4 k = .long) (hT : (TX4 k).1 = RX4) (hq : Cond.fieldLink RX4 idx RX4 (TX4 k).2.1 (TX4 k).2.2.1 ∈ lw_all) (h : (some (g_pl gl 0 k x)).bind f = some r) (hdg : decode cc pc = .ok (.putfield idx, 3)) (kk : ∀ g', f g' = some r → ∀ (H' : Heap) (locs' : List Loc), MB D cA ad A s gi g' H' locs' → W p l e R s m args below meth c H' locs' cells slots Q (F0 m (pc + 3) ls rest)) : W p l e R s m args below meth c H locs cells slots Q (F0 m pc ls (.long x :: .ref (ad 0) :: rest)) := by
  refine va_put (D := D) (ci := 0) (v := .long x) (ty := .long) (C := RX4) (T := TX4) (N := 83) C.1 C.2.1 C.2.2.2.2 in_X4 tyX4 tyX4_ok nmX4 C.2.2.2.1 B.1 B.2.1 (B.2.2.1.1.va) B.2.2.2 0 Mw_0 rfl k hk (C.2.2.2.2 _ hq) (fun _ h => by rw [hT] at h; exact h) hfin ((tyX4_ok k hk).trans (by rw [hd])) rfl rfl (by rw [List.length_mapIdx]; exact (List.getElem?_eq_some_iff.mp hz).1) hdg (fun H' locs' hP hD hS => ?_)
  refine kk _ h H' locs' ⟨B.1, ?_, B.2.2.1, hS⟩
  rw [g_ws_set (f' := Mc cA ad gi (g_pl gl 0 k x)) (fun j hj => Mc_pl j hj)] at hP
  · exact hP
  · show Sum.inr (0, _) = _
    rw [g_fs_set hz (f' := fun k_1 z => g_fv ad gi hrM (g_pl gl 0 k x) 0 k_1 z)]
    · rfl
    · intro j w hj
      simp only [g_fv, g_pl_at, vp_updL, if_neg hj]
    · simp [g_fv, g_pl_at, vp_updL]
theorem Mw_i {cA : Nat → ClassId} {ad : Nat → Nat} {gi : GI} {gl : GL} {a t n : Nat} (ha : a < NM) (hk : hkM a = (t, n)) (ht : t < 3) : (Mw cA ad gi gl)[a]? = some (ad a, .inl (cA t, n, .inl (gi a))) := by
  rw [Mw, g_ws_get ha]
  simp only [Mc, g_cell, hk]
  rw [if_neg (by omega), if_pos ht]
theorem Mw_l {cA : Nat → ClassId} {ad : Nat → Nat} {gi : GI} {gl : GL} {a n : Nat} (ha : a < NM) (hk : hkM a = (3, n)) : (Mw cA ad gi gl)[a]? = some (ad a, .inl (cA 3, n, .inr (.inl (gl a)))) := by
  rw [Mw, g_ws_get ha]
  simp only [Mc, g_cell, hk]
  rfl
theorem Mw_pi {cA : Nat → ClassId} {ad : Nat → Nat} {gi : GI} {gl : GL} {a t n k : Nat} {x : Int32} (hk : hkM a = (t, n)) (ht : t < 3) : (Mw cA ad gi gl).set a (ad a, .inl (cA t, n, .inl (upd (gi a) k x))) = Mw cA ad (g_pi gi a k x) gl := by
  refine g_ws_set (fun j hj => Mc_pi j hj) ?_
  simp only [Mc, g_cell, hk, g_pi_at]
  rw [if_neg (by omega), if_pos ht]
theorem Mw_pl {cA : Nat → ClassId} {ad : Nat → Nat} {gi : GI} {gl : GL} {a n k : Nat} {x : Int64} (hk : hkM a = (3, n)) : (Mw cA ad gi gl).set a (ad a, .inl (cA 3, n, .inr (.inl (vp_updL (gl a) k x)))) = Mw cA ad gi (g_pl gl a k x) := by
  refine g_ws_set (fun j hj => Mc_pl j hj) ?_
  simp only [Mc, g_cell, hk, g_pl_at]
  rfl
theorem mm_iald {a n : Nat} {i : Int32} {f : Int32 → Option α} (C : CallFix p m c cc nL s args lw_all RX4) (B : MB D cA ad A s gi gl H locs) (ha : a < NM) (hk : hkM a = (0, n)) (h : (g_ld gi a n i).bind f = some r) (hdg : decode cc pc = .ok (.iaload, 1)) (kk : ∀ v, f v = some r → W p l e R s m args below meth c H locs cells slots Q (F0 m (pc + 1) ls (.int v :: rest))) : W p l e R s m args below meth c H locs cells slots Q (F0 m pc ls (.int i :: .ref (ad a) :: rest)) := by
  obtain ⟨v, h1, h2⟩ := g_ob h
  obtain ⟨h3, rfl⟩ := g_ld_in h1
  exact va_iald C.1 C.2.1 B.1 B.2.1 a 0 (Mw_i ha hk (by decide)) rfl h3 hdg (kk _ h2)
theorem mm_bald {a n : Nat} {i : Int32} {f : Int32 → Option α} (C : CallFix p m c cc nL s args lw_all RX4) (B : MB D cA ad A s gi gl H locs) (ha : a < NM) (hk : hkM a = (1, n)) (h : (g_ld gi a n i).bind f = some r) (hdg : decode cc pc = .ok (.baload, 1)) (kk : ∀ v, f v = some r → W p l e R s m args below meth c H locs cells slots Q (F0 m (pc + 1) ls (.int v :: rest))) : W p l e R s m args below meth c H locs cells slots Q (F0 m pc ls (.int i :: .ref (ad a) :: rest)) := by
  obtain ⟨v, h1, h2⟩ := g_ob h
  obtain ⟨h3, rfl⟩ := g_ld_in h1
  exact va_bald C.1 C.2.1 B.1 B.2.1 a 1 (Mw_i ha hk (by decide)) rfl h3 hdg (kk _ h2)
theorem mm_zald {a n : Nat} {i : Int32} {f : Int32 → Option α} (C : CallFix p m c cc nL s args lw_all RX4) (B : MB D cA ad A s gi gl H locs) (ha : a < NM) (hk : hkM a = (2, n)) (h : (g_ld gi a n i).bind f = some r) (hdg : decode cc pc = .ok (.baload, 1)) (kk : ∀ v, f v = some r → W p l e R s m args below meth c H locs cells slots Q (F0 m (pc + 1) ls (.int v :: rest))) : W p l e R s m args below meth c H locs cells slots Q (F0 m pc ls (.int i :: .ref (ad a) :: rest)) := by
  obtain ⟨v, h1, h2⟩ := g_ob h
  obtain ⟨h3, rfl⟩ := g_ld_in h1
  exact va_zald C.1 C.2.1 B.1 B.2.1 a 2 (Mw_i ha hk (by decide)) rfl h3 hdg (kk _ h2)
theorem mm_lald {a n : Nat} {i : Int32} {f : Int64 → Option α} (C : CallFix p m c cc nL s args lw_all RX4) (B : MB D cA ad A s gi gl H locs) (ha : a < NM) (hk : hkM a = (3, n)) (h : (g_ldL gl a n i).bind f = some r) (hdg : decode cc pc = .ok (.laload, 1)) (kk : ∀ v, f v = some r → W p l e R s m args below meth c H locs cells slots Q (F0 m (pc + 1) ls (.long v :: rest))) : W p l e R s m args below meth c H locs cells slots Q (F0 m pc ls (.int i :: .ref (ad a) :: rest)) := by
  obtain ⟨v, h1, h2⟩ := g_ob h
  obtain ⟨h3, rfl⟩ := g_ldL_in h1
  exact va_lald C.1 C.2.1 B.1 B.2.1 a 3 (Mw_l ha hk) rfl h3 hdg (kk _ h2)
theorem mm_iast {a n : Nat} {i x : Int32} {f : GI → Option α} (C : CallFix p m c cc nL s args lw_all RX4) (B : MB D cA ad A s gi gl H locs) (ha : a < NM) (hk : hkM a = (0, n)) (h : (g_st gi a n i x).bind f = some r) (hdg : decode cc pc = .ok (.iastore, 1)) (kk : ∀ g', f g' = some r → ∀ (H' : Heap) (locs' : List Loc), MB D cA ad A s g' gl H' locs' → W p l e R s m args below meth c H' locs' cells slots Q (F0 m (pc + 1) ls rest)) : W p l e R s m args below meth c H locs cells slots Q (F0 m pc ls (.int x :: .int i :: .ref (ad a) :: rest)) := by
  obtain ⟨g', h1, h2⟩ := g_ob h
  obtain ⟨h3, rfl⟩ := g_st_in h1
  exact va_iast C.1 C.2.1 B.1 B.2.1 B.2.2.1.1.va B.2.2.2 a 0 (Mw_i ha hk (by decide)) rfl h3 hdg (fun H' locs' hP _ hS => kk _ h2 H' locs' ⟨B.1, by rw [Mw_pi hk (by decide)] at hP; exact hP, B.2.2.1, hS⟩)
theorem mm_bast {a n : Nat} {i x : Int32} {f : GI → Option α} (C : CallFix p m c cc nL s args lw_all RX4) (B : MB D cA ad A s gi gl H locs) (ha : a < NM) (hk : hkM a = (1, n)) (h : (g_st gi a n i (vp_nar .byte x)).bind f = some r) (hdg : decode cc pc = .ok (.bastore, 1)) (kk : ∀ g', f g' = some r → ∀ (H' : Heap) (locs' : List Loc), MB D cA ad A s g' gl H' locs' → W p l e R s m args below meth c H' locs' cells slots Q (F0 m (pc + 1) ls rest)) : W p l e R s m args below meth c H locs cells slots Q (F0 m pc ls (.int x :: .int i :: .ref (ad a) :: rest)) := by
  obtain ⟨g', h1, h2⟩ := g_ob h
  obtain ⟨h3, rfl⟩ := g_st_in h1
  exact va_bast C.1 C.2.1 B.1 B.2.1 B.2.2.1.1.va B.2.2.2 a 1 (Mw_i ha hk (by decide)) rfl h3 hdg (fun H' locs' hP _ hS => kk _ h2 H' locs' ⟨B.1, by rw [Mw_pi hk (by decide)] at hP; exact hP, B.2.2.1, hS⟩)
theorem mm_zast {a n : Nat} {i x : Int32} {f : GI → Option α} (C : CallFix p m c cc nL s args lw_all RX4) (B : MB D cA ad A s gi gl H locs) (ha : a < NM) (hk : hkM a = (2, n)) (h : (g_st gi a n i (vp_nar .boolean x)).bind f = some r) (hdg : decode cc pc = .ok (.bastore, 1)) (kk : ∀ g', f g' = some r → ∀ (H' : Heap) (locs' : List Loc), MB D cA ad A s g' gl H' locs' → W p l e R s m args below meth c H' locs' cells slots Q (F0 m (pc + 1) ls rest)) : W p l e R s m args below meth c H locs cells slots Q (F0 m pc ls (.int x :: .int i :: .ref (ad a) :: rest)) := by
  obtain ⟨g', h1, h2⟩ := g_ob h
  obtain ⟨h3, rfl⟩ := g_st_in h1
  exact va_zast C.1 C.2.1 B.1 B.2.1 B.2.2.1.1.va B.2.2.2 a 2 (Mw_i ha hk (by decide)) rfl h3 hdg (fun H' locs' hP _ hS => kk _ h2 H' locs' ⟨B.1, by rw [Mw_pi hk (by decide)] at hP; exact hP, B.2.2.1, hS⟩)
theorem mm_last {a n : Nat} {i : Int32} {x : Int64} {f : GL → Option α} (C : CallFix p m c cc nL s args lw_all RX4) (B : MB D cA ad A s gi gl H locs) (ha : a < NM) (hk : hkM a = (3, n)) (h : (g_stL gl a n i x).bind f = some r) (hdg : decode cc pc = .ok (.lastore, 1)) (kk : ∀ g', f g' = some r → ∀ (H' : Heap) (locs' : List Loc), MB D cA ad A s gi g' H' locs' → W p l e R s m args below meth c H' locs' cells slots Q (F0 m (pc + 1) ls rest)) : W p l e R s m args below meth c H locs cells slots Q (F0 m pc ls (.long x :: .int i :: .ref (ad a) :: rest)) := by
  obtain ⟨g', h1, h2⟩ := g_ob h
  obtain ⟨h3, rfl⟩ := g_stL_in h1
  exact va_last C.1 C.2.1 B.1 B.2.1 B.2.2.1.1.va B.2.2.2 a 3 (Mw_l ha hk) rfl h3 hdg (fun H' locs' hP _ hS => kk _ h2 H' locs' ⟨B.1, by rw [Mw_pl hk] at hP; exact hP, B.2.2.1, hS⟩)
/-- division: the divisor isn't 0 -/
theorem mm_nz {y : Int32} {f : Unit → Option α} {P : Prop} (h : (g_nz y).bind f = some r) (kk : ¬ y = 0 → f () = some r → P) : P := by
  obtain ⟨v, h1, h2⟩ := g_ob h
  unfold g_nz at h1
  by_cases q : y = 0
  · rw [if_pos q] at h1; cases h1
  · exact kk q h2
end MM
section MF
variable {p : Program} {l : Launch} {e : Env} {R : Room} {s : State} {m : MethodId} {args : Array Value} {below : List Frame} {meth : Method} {c : Code} {H : Heap} {locs : List Loc} {cells slots : Nat} {Q : State → Prop}
variable {pc : Nat} {ls : Array Slot} {rest : List Value} {cc : ByteArray} {nL : Nat} {α : Type} {r : α} {D : va_G} {cA : Nat → ClassId} {ad : Nat → Nat} {A : Nat → Prop} {gi : GI} {gl : GL}
theorem mg_0 (C : CallFix p m c cc nL s args lw_all RX4) (B : MB D cA ad A s gi gl H locs) (hdg : decode cc pc = .ok (.getfield 7, 3)) (kk : W p l e R s m args below meth c H locs cells slots Q (F0 m (pc + 3) ls (.ref (ad 1) :: rest))) : W p l e R s m args below meth c H locs cells slots Q (F0 m pc ls (.ref (ad 0) :: rest)) := mm_getR C B 0 (Nat.le_of_ble_eq_true rfl) rfl rfl rfl q1703 hdg kk
theorem mg_1 (C : CallFix p m c cc nL s args lw_all RX4) (B : MB D cA ad A s gi gl H locs) (hdg : decode cc pc = .ok (.getfield 13, 3)) (kk : W p l e R s m args below meth c H locs cells slots Q (F0 m (pc + 3) ls (.ref (ad 2) :: rest))) : W p l e R s m args below meth c H locs cells slots Q (F0 m pc ls (.ref (ad 0) :: rest)) := mm_getR C B 1 (Nat.le_of_ble_eq_true rfl) rfl rfl rfl q1704 hdg kk
theorem mg_5 (C : CallFix p m c cc nL s args lw_all RX4) (B : MB D cA ad A s gi gl H locs) (hdg : decode cc pc = .ok (.getfield 16, 3)) (kk : W p l e R s m args below meth c H locs cells slots Q (F0 m (pc + 3) ls (.int (gi 0 5) :: rest))) : W p l e R s m args below meth c H locs cells slots Q (F0 m pc ls (.ref (ad 0) :: rest)) := mm_getI C B 5 (Nat.le_of_ble_eq_true rfl) rfl rfl q1708 hdg kk
theorem mp_5 {x : Int32} {f : GI → Option α} (C : CallFix p m c cc nL s args lw_all RX4) (B : MB D cA ad A s gi gl H locs) (h : (some (g_pi gi 0 5 x)).bind f = some r) (hdg : decode cc pc = .ok (.putfield 16, 3)) (kk : ∀ g', f g' = some r → ∀ (H' : Heap) (locs' : List Loc), MB D cA ad A s g' gl H' locs' → W p l e R s m args below meth c H' locs' cells slots Q (F0 m (pc + 3) ls (rest))) : W p l e R s m args below meth c H locs cells slots Q (F0 m pc ls (.int x :: .ref (ad 0) :: rest)) := mm_putI C B 5 (Nat.le_of_ble_eq_true rfl) rfl rfl rfl rfl q1708 h hdg kk
theorem mg_11 (C : CallFix p m c cc nL s args lw_all RX4) (B : MB D cA ad A s gi gl H locs) (hdg : decode cc pc = .ok (.getfield 20, 3)) (kk : W p l e R s m args below meth c H locs cells slots Q (F0 m (pc + 3) ls (.ref (ad 3) :: rest))) : W p l e R s m args below meth c H locs cells slots Q (F0 m pc ls (.ref (ad 0) :: rest)) := mm_getR C B 11 (Nat.le_of_ble_eq_true rfl) rfl rfl rfl q1714 hdg kk
theorem mg_12 (C : CallFix p m c cc nL s args lw_all RX4) (B : MB D cA ad A s gi gl H locs) (hdg : decode cc pc = .ok (.getfield 24, 3)) (kk : W p l e R s m args below meth c H locs cells slots Q (F0 m (pc + 3) ls (.ref (ad 4) :: rest))) : W p l e R s m args below meth c H locs cells slots Q (F0 m pc ls (.ref (ad 0) :: rest)) := mm_getR C B 12 (Nat.le_of_ble_eq_true rfl) rfl rfl rfl q1715 hdg kk
theorem mg_13 (C : CallFix p m c cc nL s args lw_all RX4) (B : MB D cA ad A s gi gl H locs) (hdg : decode cc pc = .ok (.getfield 27, 3)) (kk : W p l e R s m args below meth c H locs cells slots Q (F0 m (pc + 3) ls (.ref (ad 5) :: rest))) : W p l e R s m args below meth c H locs cells slots Q (F0 m pc ls (.ref (ad 0) :: rest)) := mm_getR C B 13 (Nat.le_of_ble_eq_true rfl) rfl rfl rfl q1716 hdg kk
theorem mg_14 (C : CallFix p m c cc nL s args lw_all RX4) (B : MB D cA ad A s gi gl H locs) (hdg : decode cc pc = .ok (.getfield 30, 3)) (kk : W p l e R s m args below meth c H locs cells slots Q (F0 m (pc + 3) ls (.ref (ad 6) :: rest))) : W p l e R s m args below meth c H locs cells slots Q (F0 m pc ls (.ref (ad 0) :: rest)) := mm_getR C B 14 (Nat.le_of_ble_eq_true rfl) rfl rfl rfl q1717 hdg kk
theorem mg_15 (C : CallFix p m c cc nL s args lw_all RX4) (B : MB D cA ad A s gi gl H locs) (hdg : decode cc pc = .ok (.getfield 33, 3)) (kk : W p l e R s m args below meth c H locs cells slots Q (F0 m (pc + 3) ls (.ref (ad 7) :: rest))) : W p l e R s m args below meth c H locs cells slots Q (F0 m pc ls (.ref (ad 0) :: rest)) := mm_getR C B 15 (Nat.le_of_ble_eq_true rfl) rfl rfl rfl q1718 hdg kk
theorem mg_16 (C : CallFix p m c cc nL s args lw_all RX4) (B : MB D cA ad A s gi gl H locs) (hdg : decode cc pc = .ok (.getfield 36, 3)) (kk : W p l e R s m args below meth c H locs cells slots Q (F0 m (pc + 3) ls (.ref (ad 8) :: rest))) : W p l e R s m args below meth c H locs cells slots Q (F0 m pc ls (.ref (ad 0) :: rest)) := mm_getR C B 16 (Nat.le_of_ble_eq_true rfl) rfl rfl rfl q1719 hdg kk
theorem mg_17 (C : CallFix p m c cc nL s args lw_all RX4) (B : MB D cA ad A s gi gl H locs) (hdg : decode cc pc = .ok (.getfield 39, 3)) (kk : W p l e R s m args below meth c H locs cells slots Q (F0 m (pc + 3) ls (.ref (ad 9) :: rest))) : W p l e R s m args below meth c H locs cells slots Q (F0 m pc ls (.ref (ad 0) :: rest)) := mm_getR C B 17 (Nat.le_of_ble_eq_true rfl) rfl rfl rfl q1720 hdg kk
theorem mg_18 (C : CallFix p m c cc nL s args lw_all RX4) (B : MB D cA ad A s gi gl H locs) (hdg : decode cc pc = .ok (.getfield 42, 3)) (kk : W p l e R s m args below meth c H locs cells slots Q (F0 m (pc + 3) ls (.ref (ad 10) :: rest))) : W p l e R s m args below meth c H locs cells slots Q (F0 m pc ls (.ref (ad 0) :: rest)) := mm_getR C B 18 (Nat.le_of_ble_eq_true rfl) rfl rfl rfl q1721 hdg kk
theorem mg_19 (C : CallFix p m c cc nL s args lw_all RX4) (B : MB D cA ad A s gi gl H locs) (hdg : decode cc pc = .ok (.getfield 45, 3)) (kk : W p l e R s m args below meth c H locs cells slots Q (F0 m (pc + 3) ls (.ref (ad 11) :: rest))) : W p l e R s m args below meth c H locs cells slots Q (F0 m pc ls (.ref (ad 0) :: rest)) := mm_getR C B 19 (Nat.le_of_ble_eq_true rfl) rfl rfl rfl q1722 hdg kk
theorem mg_20 (C : CallFix p m c cc nL s args lw_all RX4) (B : MB D cA ad A s gi gl H locs) (hdg : decode cc pc = .ok (.getfield 48, 3)) (kk : W p l e R s m args below meth c H locs cells slots Q (F0 m (pc + 3) ls (.ref (ad 12) :: rest))) : W p l e R s m args below meth c H locs cells slots Q (F0 m pc ls (.ref (ad 0) :: rest)) := mm_getR C B 20 (Nat.le_of_ble_eq_true rfl) rfl rfl rfl q1723 hdg kk
theorem mg_21 (C : CallFix p m c cc nL s args lw_all RX4) (B : MB D cA ad A s gi gl H locs) (hdg : decode cc pc = .ok (.getfield 51, 3)) (kk : W p l e R s m args below meth c H locs cells slots Q (F0 m (pc + 3) ls (.ref (ad 13) :: rest))) : W p l e R s m args below meth c H locs cells slots Q (F0 m pc ls (.ref (ad 0) :: rest)) := mm_getR C B 21 (Nat.le_of_ble_eq_true rfl) rfl rfl rfl q1724 hdg kk
theorem mg_22 (C : CallFix p m c cc nL s args lw_all RX4) (B : MB D cA ad A s gi gl H locs) (hdg : decode cc pc = .ok (.getfield 54, 3)) (kk : W p l e R s m args below meth c H locs cells slots Q (F0 m (pc + 3) ls (.ref (ad 14) :: rest))) : W p l e R s m args below meth c H locs cells slots Q (F0 m pc ls (.ref (ad 0) :: rest)) := mm_getR C B 22 (Nat.le_of_ble_eq_true rfl) rfl rfl rfl q1725 hdg kk
theorem mg_23 (C : CallFix p m c cc nL s args lw_all RX4) (B : MB D cA ad A s gi gl H locs) (hdg : decode cc pc = .ok (.getfield 57, 3)) (kk : W p l e R s m args below meth c H locs cells slots Q (F0 m (pc + 3) ls (.ref (ad 15) :: rest))) : W p l e R s m args below meth c H locs cells slots Q (F0 m pc ls (.ref (ad 0) :: rest)) := mm_getR C B 23 (Nat.le_of_ble_eq_true rfl) rfl rfl rfl q1726 hdg kk
theorem mg_24 (C : CallFix p m c cc nL s args lw_all RX4) (B : MB D cA ad A s gi gl H locs) (hdg : decode cc pc = .ok (.getfield 60, 3)) (kk : W p l e R s m args below meth c H locs cells slots Q (F0 m (pc + 3) ls (.ref (ad 16) :: rest))) : W p l e R s m args below meth c H locs cells slots Q (F0 m pc ls (.ref (ad 0) :: rest)) := mm_getR C B 24 (Nat.le_of_ble_eq_true rfl) rfl rfl rfl q1727 hdg kk
theorem mg_25 (C : CallFix p m c cc nL s args lw_all RX4) (B : MB D cA ad A s gi gl H locs) (hdg : decode cc pc = .ok (.getfield 63, 3)) (kk : W p l e R s m args below meth c H locs cells slots Q (F0 m (pc + 3) ls (.ref (ad 17) :: rest))) : W p l e R s m args below meth c H locs cells slots Q (F0 m pc ls (.ref (ad 0) :: rest)) := mm_getR C B 25 (Nat.le_of_ble_eq_true rfl) rfl rfl rfl q1728 hdg kk
theorem mg_26 (C : CallFix p m c cc nL s args lw_all RX4) (B : MB D cA ad A s gi gl H locs) (hdg : decode cc pc = .ok (.getfield 66, 3)) (kk : W p l e R s m args below meth c H locs cells slots Q (F0 m (pc + 3) ls (.ref (ad 18) :: rest))) : W p l e R s m args below meth c H locs cells slots Q (F0 m pc ls (.ref (ad 0) :: rest)) := mm_getR C B 26 (Nat.le_of_ble_eq_true rfl) rfl rfl rfl q1729 hdg kk
theorem mg_27 (C : CallFix p m c cc nL s args lw_all RX4) (B : MB D cA ad A s gi gl H locs) (hdg : decode cc pc = .ok (.getfield 69, 3)) (kk : W p l e R s m args below meth c H locs cells slots Q (F0 m (pc + 3) ls (.ref (ad 19) :: rest))) : W p l e R s m args below meth c H locs cells slots Q (F0 m pc ls (.ref (ad 0) :: rest)) := mm_getR C B 27 (Nat.le_of_ble_eq_true rfl) rfl rfl rfl q1730 hdg kk
theorem mg_28 (C : CallFix p m c cc nL s args lw_all RX4) (B : MB D cA ad A s gi gl H locs) (hdg : decode cc pc = .ok (.getfield 72, 3)) (kk : W p l e R s m args below meth c H locs cells slots Q (F0 m (pc + 3) ls (.ref (ad 20) :: rest))) : W p l e R s m args below meth c H locs cells slots Q (F0 m pc ls (.ref (ad 0) :: rest)) := mm_getR C B 28 (Nat.le_of_ble_eq_true rfl) rfl rfl rfl q1731 hdg kk
theorem mg_29 (C : CallFix p m c cc nL s args lw_all RX4) (B : MB D cA ad A s gi gl H locs) (hdg : decode cc pc = .ok (.getfield 75, 3)) (kk : W p l e R s m args below meth c H locs cells slots Q (F0 m (pc + 3) ls (.ref (ad 21) :: rest))) : W p l e R s m args below meth c H locs cells slots Q (F0 m pc ls (.ref (ad 0) :: rest)) := mm_getR C B 29 (Nat.le_of_ble_eq_true rfl) rfl rfl rfl q1732 hdg kk
theorem mg_30 (C : CallFix p m c cc nL s args lw_all RX4) (B : MB D cA ad A s gi gl H locs) (hdg : decode cc pc = .ok (.getfield 78, 3)) (kk : W p l e R s m args below meth c H locs cells slots Q (F0 m (pc + 3) ls (.ref (ad 22) :: rest))) : W p l e R s m args below meth c H locs cells slots Q (F0 m pc ls (.ref (ad 0) :: rest)) := mm_getR C B 30 (Nat.le_of_ble_eq_true rfl) rfl rfl rfl q1733 hdg kk
theorem mg_31 (C : CallFix p m c cc nL s args lw_all RX4) (B : MB D cA ad A s gi gl H locs) (hdg : decode cc pc = .ok (.getfield 81, 3)) (kk : W p l e R s m args below meth c H locs cells slots Q (F0 m (pc + 3) ls (.ref (ad 23) :: rest))) : W p l e R s m args below meth c H locs cells slots Q (F0 m pc ls (.ref (ad 0) :: rest)) := mm_getR C B 31 (Nat.le_of_ble_eq_true rfl) rfl rfl rfl q1734 hdg kk
theorem mg_32 (C : CallFix p m c cc nL s args lw_all RX4) (B : MB D cA ad A s gi gl H locs) (hdg : decode cc pc = .ok (.getfield 85, 3)) (kk : W p l e R s m args below meth c H locs cells slots Q (F0 m (pc + 3) ls (.ref (ad 24) :: rest))) : W p l e R s m args below meth c H locs cells slots Q (F0 m pc ls (.ref (ad 0) :: rest)) := mm_getR C B 32 (Nat.le_of_ble_eq_true rfl) rfl rfl rfl q1735 hdg kk
theorem mg_33 (C : CallFix p m c cc nL s args lw_all RX4) (B : MB D cA ad A s gi gl H locs) (hdg : decode cc pc = .ok (.getfield 88, 3)) (kk : W p l e R s m args below meth c H locs cells slots Q (F0 m (pc + 3) ls (.ref (ad 25) :: rest))) : W p l e R s m args below meth c H locs cells slots Q (F0 m pc ls (.ref (ad 0) :: rest)) := mm_getR C B 33 (Nat.le_of_ble_eq_true rfl) rfl rfl rfl q1736 hdg kk
theorem mg_34 (C : CallFix p m c cc nL s args lw_all RX4) (B : MB D cA ad A s gi gl H locs) (hdg : decode cc pc = .ok (.getfield 91, 3)) (kk : W p l e R s m args below meth c H locs cells slots Q (F0 m (pc + 3) ls (.ref (ad 26) :: rest))) : W p l e R s m args below meth c H locs cells slots Q (F0 m pc ls (.ref (ad 0) :: rest)) := mm_getR C B 34 (Nat.le_of_ble_eq_true rfl) rfl rfl rfl q1737 hdg kk
theorem mg_35 (C : CallFix p m c cc nL s args lw_all RX4) (B : MB D cA ad A s gi gl H locs) (hdg : decode cc pc = .ok (.getfield 95, 3)) (kk : W p l e R s m args below meth c H locs cells slots Q (F0 m (pc + 3) ls (.ref (ad 27) :: rest))) : W p l e R s m args below meth c H locs cells slots Q (F0 m pc ls (.ref (ad 0) :: rest)) := mm_getR C B 35 (Nat.le_of_ble_eq_true rfl) rfl rfl rfl q1738 hdg kk
theorem mg_36 (C : CallFix p m c cc nL s args lw_all RX4) (B : MB D cA ad A s gi gl H locs) (hdg : decode cc pc = .ok (.getfield 98, 3)) (kk : W p l e R s m args below meth c H locs cells slots Q (F0 m (pc + 3) ls (.ref (ad 28) :: rest))) : W p l e R s m args below meth c H locs cells slots Q (F0 m pc ls (.ref (ad 0) :: rest)) := mm_getR C B 36 (Nat.le_of_ble_eq_true rfl) rfl rfl rfl q1739 hdg kk
theorem mg_37 (C : CallFix p m c cc nL s args lw_all RX4) (B : MB D cA ad A s gi gl H locs) (hdg : decode cc pc = .ok (.getfield 101, 3)) (kk : W p l e R s m args below meth c H locs cells slots Q (F0 m (pc + 3) ls (.ref (ad 29) :: rest))) : W p l e R s m args below meth c H locs cells slots Q (F0 m pc ls (.ref (ad 0) :: rest)) := mm_getR C B 37 (Nat.le_of_ble_eq_true rfl) rfl rfl rfl q1740 hdg kk
theorem mg_38 (C : CallFix p m c cc nL s args lw_all RX4) (B : MB D cA ad A s gi gl H locs) (hdg : decode cc pc = .ok (.getfield 104, 3)) (kk : W p l e R s m args below meth c H locs cells slots Q (F0 m (pc + 3) ls (.ref (ad 30) :: rest))) : W p l e R s m args below meth c H locs cells slots Q (F0 m pc ls (.ref (ad 0) :: rest)) := mm_getR C B 38 (Nat.le_of_ble_eq_true rfl) rfl rfl rfl q1741 hdg kk
theorem mg_39 (C : CallFix p m c cc nL s args lw_all RX4) (B : MB D cA ad A s gi gl H locs) (hdg : decode cc pc = .ok (.getfield 107, 3)) (kk : W p l e R s m args below meth c H locs cells slots Q (F0 m (pc + 3) ls (.ref (ad 31) :: rest))) : W p l e R s m args below meth c H locs cells slots Q (F0 m pc ls (.ref (ad 0) :: rest)) := mm_getR C B 39 (Nat.le_of_ble_eq_true rfl) rfl rfl rfl q1742 hdg kk
theorem mg_40 (C : CallFix p m c cc nL s args lw_all RX4) (B : MB D cA ad A s gi gl H locs) (hdg : decode cc pc = .ok (.getfield 110, 3)) (kk : W p l e R s m args below meth c H locs cells slots Q (F0 m (pc + 3) ls (.ref (ad 32) :: rest))) : W p l e R s m args below meth c H locs cells slots Q (F0 m pc ls (.ref (ad 0) :: rest)) := mm_getR C B 40 (Nat.le_of_ble_eq_true rfl) rfl rfl rfl q1743 hdg kk
theorem mg_48 (C : CallFix p m c cc nL s args lw_all RX4) (B : MB D cA ad A s gi gl H locs) (hdg : decode cc pc = .ok (.getfield 113, 3)) (kk : W p l e R s m args below meth c H locs cells slots Q (F0 m (pc + 3) ls (.ref (ad 33) :: rest))) : W p l e R s m args below meth c H locs cells slots Q (F0 m pc ls (.ref (ad 0) :: rest)) := mm_getR C B 48 (Nat.le_of_ble_eq_true rfl) rfl rfl rfl q1751 hdg kk
theorem mg_49 (C : CallFix p m c cc nL s args lw_all RX4) (B : MB D cA ad A s gi gl H locs) (hdg : decode cc pc = .ok (.getfield 116, 3)) (kk : W p l e R s m args below meth c H locs cells slots Q (F0 m (pc + 3) ls (.ref (ad 34) :: rest))) : W p l e R s m args below meth c H locs cells slots Q (F0 m pc ls (.ref (ad 0) :: rest)) := mm_getR C B 49 (Nat.le_of_ble_eq_true rfl) rfl rfl rfl q1752 hdg kk
theorem mg_52 (C : CallFix p m c cc nL s args lw_all RX4) (B : MB D cA ad A s gi gl H locs) (hdg : decode cc pc = .ok (.getfield 119, 3)) (kk : W p l e R s m args below meth c H locs cells slots Q (F0 m (pc + 3) ls (.ref (ad 35) :: rest))) : W p l e R s m args below meth c H locs cells slots Q (F0 m pc ls (.ref (ad 0) :: rest)) := mm_getR C B 52 (Nat.le_of_ble_eq_true rfl) rfl rfl rfl q1755 hdg kk
theorem mg_53 (C : CallFix p m c cc nL s args lw_all RX4) (B : MB D cA ad A s gi gl H locs) (hdg : decode cc pc = .ok (.getfield 122, 3)) (kk : W p l e R s m args below meth c H locs cells slots Q (F0 m (pc + 3) ls (.ref (ad 36) :: rest))) : W p l e R s m args below meth c H locs cells slots Q (F0 m pc ls (.ref (ad 0) :: rest)) := mm_getR C B 53 (Nat.le_of_ble_eq_true rfl) rfl rfl rfl q1756 hdg kk
theorem mg_54 (C : CallFix p m c cc nL s args lw_all RX4) (B : MB D cA ad A s gi gl H locs) (hdg : decode cc pc = .ok (.getfield 125, 3)) (kk : W p l e R s m args below meth c H locs cells slots Q (F0 m (pc + 3) ls (.ref (ad 37) :: rest))) : W p l e R s m args below meth c H locs cells slots Q (F0 m pc ls (.ref (ad 0) :: rest)) := mm_getR C B 54 (Nat.le_of_ble_eq_true rfl) rfl rfl rfl q1757 hdg kk
theorem mg_58 (C : CallFix p m c cc nL s args lw_all RX4) (B : MB D cA ad A s gi gl H locs) (hdg : decode cc pc = .ok (.getfield 128, 3)) (kk : W p l e R s m args below meth c H locs cells slots Q (F0 m (pc + 3) ls (.ref (ad 38) :: rest))) : W p l e R s m args below meth c H locs cells slots Q (F0 m pc ls (.ref (ad 0) :: rest)) := mm_getR C B 58 (Nat.le_of_ble_eq_true rfl) rfl rfl rfl q1761 hdg kk
theorem mg_59 (C : CallFix p m c cc nL s args lw_all RX4) (B : MB D cA ad A s gi gl H locs) (hdg : decode cc pc = .ok (.getfield 131, 3)) (kk : W p l e R s m args below meth c H locs cells slots Q (F0 m (pc + 3) ls (.ref (ad 39) :: rest))) : W p l e R s m args below meth c H locs cells slots Q (F0 m pc ls (.ref (ad 0) :: rest)) := mm_getR C B 59 (Nat.le_of_ble_eq_true rfl) rfl rfl rfl q1762 hdg kk
theorem mg_60 (C : CallFix p m c cc nL s args lw_all RX4) (B : MB D cA ad A s gi gl H locs) (hdg : decode cc pc = .ok (.getfield 134, 3)) (kk : W p l e R s m args below meth c H locs cells slots Q (F0 m (pc + 3) ls (.ref (ad 40) :: rest))) : W p l e R s m args below meth c H locs cells slots Q (F0 m pc ls (.ref (ad 0) :: rest)) := mm_getR C B 60 (Nat.le_of_ble_eq_true rfl) rfl rfl rfl q1763 hdg kk
theorem mg_61 (C : CallFix p m c cc nL s args lw_all RX4) (B : MB D cA ad A s gi gl H locs) (hdg : decode cc pc = .ok (.getfield 137, 3)) (kk : W p l e R s m args below meth c H locs cells slots Q (F0 m (pc + 3) ls (.ref (ad 41) :: rest))) : W p l e R s m args below meth c H locs cells slots Q (F0 m pc ls (.ref (ad 0) :: rest)) := mm_getR C B 61 (Nat.le_of_ble_eq_true rfl) rfl rfl rfl q1764 hdg kk
theorem mg_64 (C : CallFix p m c cc nL s args lw_all RX4) (B : MB D cA ad A s gi gl H locs) (hdg : decode cc pc = .ok (.getfield 140, 3)) (kk : W p l e R s m args below meth c H locs cells slots Q (F0 m (pc + 3) ls (.ref (ad 42) :: rest))) : W p l e R s m args below meth c H locs cells slots Q (F0 m pc ls (.ref (ad 0) :: rest)) := mm_getR C B 64 (Nat.le_of_ble_eq_true rfl) rfl rfl rfl q1767 hdg kk
theorem mg_65 (C : CallFix p m c cc nL s args lw_all RX4) (B : MB D cA ad A s gi gl H locs) (hdg : decode cc pc = .ok (.getfield 143, 3)) (kk : W p l e R s m args below meth c H locs cells slots Q (F0 m (pc + 3) ls (.ref (ad 43) :: rest))) : W p l e R s m args below meth c H locs cells slots Q (F0 m pc ls (.ref (ad 0) :: rest)) := mm_getR C B 65 (Nat.le_of_ble_eq_true rfl) rfl rfl rfl q1768 hdg kk
theorem mg_66 (C : CallFix p m c cc nL s args lw_all RX4) (B : MB D cA ad A s gi gl H locs) (hdg : decode cc pc = .ok (.getfield 146, 3)) (kk : W p l e R s m args below meth c H locs cells slots Q (F0 m (pc + 3) ls (.ref (ad 44) :: rest))) : W p l e R s m args below meth c H locs cells slots Q (F0 m pc ls (.ref (ad 0) :: rest)) := mm_getR C B 66 (Nat.le_of_ble_eq_true rfl) rfl rfl rfl q1769 hdg kk
theorem mg_70 (C : CallFix p m c cc nL s args lw_all RX4) (B : MB D cA ad A s gi gl H locs) (hdg : decode cc pc = .ok (.getfield 149, 3)) (kk : W p l e R s m args below meth c H locs cells slots Q (F0 m (pc + 3) ls (.ref (ad 45) :: rest))) : W p l e R s m args below meth c H locs cells slots Q (F0 m pc ls (.ref (ad 0) :: rest)) := mm_getR C B 70 (Nat.le_of_ble_eq_true rfl) rfl rfl rfl q1773 hdg kk
theorem mg_71 (C : CallFix p m c cc nL s args lw_all RX4) (B : MB D cA ad A s gi gl H locs) (hdg : decode cc pc = .ok (.getfield 152, 3)) (kk : W p l e R s m args below meth c H locs cells slots Q (F0 m (pc + 3) ls (.ref (ad 46) :: rest))) : W p l e R s m args below meth c H locs cells slots Q (F0 m pc ls (.ref (ad 0) :: rest)) := mm_getR C B 71 (Nat.le_of_ble_eq_true rfl) rfl rfl rfl q1774 hdg kk
theorem mg_72 (C : CallFix p m c cc nL s args lw_all RX4) (B : MB D cA ad A s gi gl H locs) (hdg : decode cc pc = .ok (.getfield 155, 3)) (kk : W p l e R s m args below meth c H locs cells slots Q (F0 m (pc + 3) ls (.ref (ad 47) :: rest))) : W p l e R s m args below meth c H locs cells slots Q (F0 m pc ls (.ref (ad 0) :: rest)) := mm_getR C B 72 (Nat.le_of_ble_eq_true rfl) rfl rfl rfl q1775 hdg kk
theorem mg_73 (C : CallFix p m c cc nL s args lw_all RX4) (B : MB D cA ad A s gi gl H locs) (hdg : decode cc pc = .ok (.getfield 158, 3)) (kk : W p l e R s m args below meth c H locs cells slots Q (F0 m (pc + 3) ls (.ref (ad 48) :: rest))) : W p l e R s m args below meth c H locs cells slots Q (F0 m pc ls (.ref (ad 0) :: rest)) := mm_getR C B 73 (Nat.le_of_ble_eq_true rfl) rfl rfl rfl q1776 hdg kk
theorem mg_74 (C : CallFix p m c cc nL s args lw_all RX4) (B : MB D cA ad A s gi gl H locs) (hdg : decode cc pc = .ok (.getfield 161, 3)) (kk : W p l e R s m args below meth c H locs cells slots Q (F0 m (pc + 3) ls (.ref (ad 49) :: rest))) : W p l e R s m args below meth c H locs cells slots Q (F0 m pc ls (.ref (ad 0) :: rest)) := mm_getR C B 74 (Nat.le_of_ble_eq_true rfl) rfl rfl rfl q1777 hdg kk
theorem mg_75 (C : CallFix p m c cc nL s args lw_all RX4) (B : MB D cA ad A s gi gl H locs) (hdg : decode cc pc = .ok (.getfield 164, 3)) (kk : W p l e R s m args below meth c H locs cells slots Q (F0 m (pc + 3) ls (.ref (ad 50) :: rest))) : W p l e R s m args below meth c H locs cells slots Q (F0 m pc ls (.ref (ad 0) :: rest)) := mm_getR C B 75 (Nat.le_of_ble_eq_true rfl) rfl rfl rfl q1778 hdg kk
theorem mg_76 (C : CallFix p m c cc nL s args lw_all RX4) (B : MB D cA ad A s gi gl H locs) (hdg : decode cc pc = .ok (.getfield 167, 3)) (kk : W p l e R s m args below meth c H locs cells slots Q (F0 m (pc + 3) ls (.ref (ad 51) :: rest))) : W p l e R s m args below meth c H locs cells slots Q (F0 m pc ls (.ref (ad 0) :: rest)) := mm_getR C B 76 (Nat.le_of_ble_eq_true rfl) rfl rfl rfl q1779 hdg kk
theorem mg_77 (C : CallFix p m c cc nL s args lw_all RX4) (B : MB D cA ad A s gi gl H locs) (hdg : decode cc pc = .ok (.getfield 170, 3)) (kk : W p l e R s m args below meth c H locs cells slots Q (F0 m (pc + 3) ls (.ref (ad 52) :: rest))) : W p l e R s m args below meth c H locs cells slots Q (F0 m pc ls (.ref (ad 0) :: rest)) := mm_getR C B 77 (Nat.le_of_ble_eq_true rfl) rfl rfl rfl q1780 hdg kk
theorem mg_81 (C : CallFix p m c cc nL s args lw_all RX4) (B : MB D cA ad A s gi gl H locs) (hdg : decode cc pc = .ok (.getfield 173, 3)) (kk : W p l e R s m args below meth c H locs cells slots Q (F0 m (pc + 3) ls (.ref (ad 53) :: rest))) : W p l e R s m args below meth c H locs cells slots Q (F0 m pc ls (.ref (ad 0) :: rest)) := mm_getR C B 81 (Nat.le_of_ble_eq_true rfl) rfl rfl rfl q1784 hdg kk
theorem mg_82 (C : CallFix p m c cc nL s args lw_all RX4) (B : MB D cA ad A s gi gl H locs) (hdg : decode cc pc = .ok (.getfield 176, 3)) (kk : W p l e R s m args below meth c H locs cells slots Q (F0 m (pc + 3) ls (.ref (ad 54) :: rest))) : W p l e R s m args below meth c H locs cells slots Q (F0 m pc ls (.ref (ad 0) :: rest)) := mm_getR C B 82 (Nat.le_of_ble_eq_true rfl) rfl rfl rfl q1785 hdg kk
theorem mg_3 (C : CallFix p m c cc nL s args lw_all RX4) (B : MB D cA ad A s gi gl H locs) (hdg : decode cc pc = .ok (.getfield 185, 3)) (kk : W p l e R s m args below meth c H locs cells slots Q (F0 m (pc + 3) ls (.int (gi 0 3) :: rest))) : W p l e R s m args below meth c H locs cells slots Q (F0 m pc ls (.ref (ad 0) :: rest)) := mm_getI C B 3 (Nat.le_of_ble_eq_true rfl) rfl rfl q1706 hdg kk
theorem mp_3 {x : Int32} {f : GI → Option α} (C : CallFix p m c cc nL s args lw_all RX4) (B : MB D cA ad A s gi gl H locs) (h : (some (g_pi gi 0 3 x)).bind f = some r) (hdg : decode cc pc = .ok (.putfield 185, 3)) (kk : ∀ g', f g' = some r → ∀ (H' : Heap) (locs' : List Loc), MB D cA ad A s g' gl H' locs' → W p l e R s m args below meth c H' locs' cells slots Q (F0 m (pc + 3) ls (rest))) : W p l e R s m args below meth c H locs cells slots Q (F0 m pc ls (.int x :: .ref (ad 0) :: rest)) := mm_putI C B 3 (Nat.le_of_ble_eq_true rfl) rfl rfl rfl rfl q1706 h hdg kk
theorem mg_4 (C : CallFix p m c cc nL s args lw_all RX4) (B : MB D cA ad A s gi gl H locs) (hdg : decode cc pc = .ok (.getfield 188, 3)) (kk : W p l e R s m args below meth c H locs cells slots Q (F0 m (pc + 3) ls (.int (gi 0 4) :: rest))) : W p l e R s m args below meth c H locs cells slots Q (F0 m pc ls (.ref (ad 0) :: rest)) := mm_getI C B 4 (Nat.le_of_ble_eq_true rfl) rfl rfl q1707 hdg kk
theorem mp_4 {x : Int32} {f : GI → Option α} (C : CallFix p m c cc nL s args lw_all RX4) (B : MB D cA ad A s gi gl H locs) (h : (some (g_pi gi 0 4 x)).bind f = some r) (hdg : decode cc pc = .ok (.putfield 188, 3)) (kk : ∀ g', f g' = some r → ∀ (H' : Heap) (locs' : List Loc), MB D cA ad A s g' gl H' locs' → W p l e R s m args below meth c H' locs' cells slots Q (F0 m (pc + 3) ls (rest))) : W p l e R s m args below meth c H locs cells slots Q (F0 m pc ls (.int x :: .ref (ad 0) :: rest)) := mm_putI C B 4 (Nat.le_of_ble_eq_true rfl) rfl rfl rfl rfl q1707 h hdg kk
theorem mg_7 (C : CallFix p m c cc nL s args lw_all RX4) (B : MB D cA ad A s gi gl H locs) (hdg : decode cc pc = .ok (.getfield 233, 3)) (kk : W p l e R s m args below meth c H locs cells slots Q (F0 m (pc + 3) ls (.int (gi 0 7) :: rest))) : W p l e R s m args below meth c H locs cells slots Q (F0 m pc ls (.ref (ad 0) :: rest)) := mm_getI C B 7 (Nat.le_of_ble_eq_true rfl) rfl rfl q1710 hdg kk
theorem mp_7 {x : Int32} {f : GI → Option α} (C : CallFix p m c cc nL s args lw_all RX4) (B : MB D cA ad A s gi gl H locs) (h : (some (g_pi gi 0 7 x)).bind f = some r) (hdg : decode cc pc = .ok (.putfield 233, 3)) (kk : ∀ g', f g' = some r → ∀ (H' : Heap) (locs' : List Loc), MB D cA ad A s g' gl H' locs' → W p l e R s m args below meth c H' locs' cells slots Q (F0 m (pc + 3) ls (rest))) : W p l e R s m args below meth c H locs cells slots Q (F0 m pc ls (.int x :: .ref (ad 0) :: rest)) := mm_putI C B 7 (Nat.le_of_ble_eq_true rfl) rfl rfl rfl rfl q1710 h hdg kk
theorem mg_6 (C : CallFix p m c cc nL s args lw_all RX4) (B : MB D cA ad A s gi gl H locs) (hdg : decode cc pc = .ok (.getfield 236, 3)) (kk : W p l e R s m args below meth c H locs cells slots Q (F0 m (pc + 3) ls (.int (gi 0 6) :: rest))) : W p l e R s m args below meth c H locs cells slots Q (F0 m pc ls (.ref (ad 0) :: rest)) := mm_getI C B 6 (Nat.le_of_ble_eq_true rfl) rfl rfl q1709 hdg kk
theorem mp_6 {x : Int32} {f : GI → Option α} (C : CallFix p m c cc nL s args lw_all RX4) (B : MB D cA ad A s gi gl H locs) (h : (some (g_pi gi 0 6 x)).bind f = some r) (hdg : decode cc pc = .ok (.putfield 236, 3)) (kk : ∀ g', f g' = some r → ∀ (H' : Heap) (locs' : List Loc), MB D cA ad A s g' gl H' locs' → W p l e R s m args below meth c H' locs' cells slots Q (F0 m (pc + 3) ls (rest))) : W p l e R s m args below meth c H locs cells slots Q (F0 m pc ls (.int x :: .ref (ad 0) :: rest)) := mm_putI C B 6 (Nat.le_of_ble_eq_true rfl) rfl rfl rfl rfl q1709 h hdg kk
theorem mg_8 (C : CallFix p m c cc nL s args lw_all RX4) (B : MB D cA ad A s gi gl H locs) (hdg : decode cc pc = .ok (.getfield 243, 3)) (kk : W p l e R s m args below meth c H locs cells slots Q (F0 m (pc + 3) ls (.int (gi 0 8) :: rest))) : W p l e R s m args below meth c H locs cells slots Q (F0 m pc ls (.ref (ad 0) :: rest)) := mm_getI C B 8 (Nat.le_of_ble_eq_true rfl) rfl rfl q1711 hdg kk
theorem mp_8 {x : Int32} {f : GI → Option α} (C : CallFix p m c cc nL s args lw_all RX4) (B : MB D cA ad A s gi gl H locs) (h : (some (g_pi gi 0 8 x)).bind f = some r) (hdg : decode cc pc = .ok (.putfield 243, 3)) (kk : ∀ g', f g' = some r → ∀ (H' : Heap) (locs' : List Loc), MB D cA ad A s g' gl H' locs' → W p l e R s m args below meth c H' locs' cells slots Q (F0 m (pc + 3) ls (rest))) : W p l e R s m args below meth c H locs cells slots Q (F0 m pc ls (.int x :: .ref (ad 0) :: rest)) := mm_putI C B 8 (Nat.le_of_ble_eq_true rfl) rfl rfl rfl rfl q1711 h hdg kk
theorem mg_10 (C : CallFix p m c cc nL s args lw_all RX4) (B : MB D cA ad A s gi gl H locs) (hdg : decode cc pc = .ok (.getfield 250, 3)) (kk : W p l e R s m args below meth c H locs cells slots Q (F0 m (pc + 3) ls (.long (gl 0 10) :: rest))) : W p l e R s m args below meth c H locs cells slots Q (F0 m pc ls (.ref (ad 0) :: rest)) := mm_getL C B 10 (Nat.le_of_ble_eq_true rfl) rfl rfl q1713 hdg kk
theorem mp_10 {x : Int64} {f : GL → Option α} (C : CallFix p m c cc nL s args lw_all RX4) (B : MB D cA ad A s gi gl H locs) (h : (some (g_pl gl 0 10 x)).bind f = some r) (hdg : decode cc pc = .ok (.putfield 250, 3)) (kk : ∀ g', f g' = some r → ∀ (H' : Heap) (locs' : List Loc), MB D cA ad A s gi g' H' locs' → W p l e R s m args below meth c H' locs' cells slots Q (F0 m (pc + 3) ls (rest))) : W p l e R s m args below meth c H locs cells slots Q (F0 m pc ls (.long x :: .ref (ad 0) :: rest)) := mm_putL C B 10 (Nat.le_of_ble_eq_true rfl) rfl rfl rfl rfl q1713 h hdg kk
theorem mg_9 (C : CallFix p m c cc nL s args lw_all RX4) (B : MB D cA ad A s gi gl H locs) (hdg : decode cc pc = .ok (.getfield 261, 3)) (kk : W p l e R s m args below meth c H locs cells slots Q (F0 m (pc + 3) ls (.int (gi 0 9) :: rest))) : W p l e R s m args below meth c H locs cells slots Q (F0 m pc ls (.ref (ad 0) :: rest)) := mm_getI C B 9 (Nat.le_of_ble_eq_true rfl) rfl rfl q1712 hdg kk
theorem mp_9 {x : Int32} {f : GI → Option α} (C : CallFix p m c cc nL s args lw_all RX4) (B : MB D cA ad A s gi gl H locs) (h : (some (g_pi gi 0 9 x)).bind f = some r) (hdg : decode cc pc = .ok (.putfield 261, 3)) (kk : ∀ g', f g' = some r → ∀ (H' : Heap) (locs' : List Loc), MB D cA ad A s g' gl H' locs' → W p l e R s m args below meth c H' locs' cells slots Q (F0 m (pc + 3) ls (rest))) : W p l e R s m args below meth c H locs cells slots Q (F0 m pc ls (.int x :: .ref (ad 0) :: rest)) := mm_putI C B 9 (Nat.le_of_ble_eq_true rfl) rfl rfl rfl rfl q1712 h hdg kk
theorem mg_42 (C : CallFix p m c cc nL s args lw_all RX4) (B : MB D cA ad A s gi gl H locs) (hdg : decode cc pc = .ok (.getfield 292, 3)) (kk : W p l e R s m args below meth c H locs cells slots Q (F0 m (pc + 3) ls (.int (gi 0 42) :: rest))) : W p l e R s m args below meth c H locs cells slots Q (F0 m pc ls (.ref (ad 0) :: rest)) := mm_getI C B 42 (Nat.le_of_ble_eq_true rfl) rfl rfl q1745 hdg kk
theorem mp_42 {x : Int32} {f : GI → Option α} (C : CallFix p m c cc nL s args lw_all RX4) (B : MB D cA ad A s gi gl H locs) (h : (some (g_pi gi 0 42 x)).bind f = some r) (hdg : decode cc pc = .ok (.putfield 292, 3)) (kk : ∀ g', f g' = some r → ∀ (H' : Heap) (locs' : List Loc), MB D cA ad A s g' gl H' locs' → W p l e R s m args below meth c H' locs' cells slots Q (F0 m (pc + 3) ls (rest))) : W p l e R s m args below meth c H locs cells slots Q (F0 m pc ls (.int x :: .ref (ad 0) :: rest)) := mm_putI C B 42 (Nat.le_of_ble_eq_true rfl) rfl rfl rfl rfl q1745 h hdg kk
theorem mg_43 (C : CallFix p m c cc nL s args lw_all RX4) (B : MB D cA ad A s gi gl H locs) (hdg : decode cc pc = .ok (.getfield 295, 3)) (kk : W p l e R s m args below meth c H locs cells slots Q (F0 m (pc + 3) ls (.int (gi 0 43) :: rest))) : W p l e R s m args below meth c H locs cells slots Q (F0 m pc ls (.ref (ad 0) :: rest)) := mm_getI C B 43 (Nat.le_of_ble_eq_true rfl) rfl rfl q1746 hdg kk
theorem mp_43 {x : Int32} {f : GI → Option α} (C : CallFix p m c cc nL s args lw_all RX4) (B : MB D cA ad A s gi gl H locs) (h : (some (g_pi gi 0 43 x)).bind f = some r) (hdg : decode cc pc = .ok (.putfield 295, 3)) (kk : ∀ g', f g' = some r → ∀ (H' : Heap) (locs' : List Loc), MB D cA ad A s g' gl H' locs' → W p l e R s m args below meth c H' locs' cells slots Q (F0 m (pc + 3) ls (rest))) : W p l e R s m args below meth c H locs cells slots Q (F0 m pc ls (.int x :: .ref (ad 0) :: rest)) := mm_putI C B 43 (Nat.le_of_ble_eq_true rfl) rfl rfl rfl rfl q1746 h hdg kk
theorem mg_2 (C : CallFix p m c cc nL s args lw_all RX4) (B : MB D cA ad A s gi gl H locs) (hdg : decode cc pc = .ok (.getfield 298, 3)) (kk : W p l e R s m args below meth c H locs cells slots Q (F0 m (pc + 3) ls (.int (gi 0 2) :: rest))) : W p l e R s m args below meth c H locs cells slots Q (F0 m pc ls (.ref (ad 0) :: rest)) := mm_getI C B 2 (Nat.le_of_ble_eq_true rfl) rfl rfl q1705 hdg kk
theorem mp_2 {x : Int32} {f : GI → Option α} (C : CallFix p m c cc nL s args lw_all RX4) (B : MB D cA ad A s gi gl H locs) (h : (some (g_pi gi 0 2 x)).bind f = some r) (hdg : decode cc pc = .ok (.putfield 298, 3)) (kk : ∀ g', f g' = some r → ∀ (H' : Heap) (locs' : List Loc), MB D cA ad A s g' gl H' locs' → W p l e R s m args below meth c H' locs' cells slots Q (F0 m (pc + 3) ls (rest))) : W p l e R s m args below meth c H locs cells slots Q (F0 m pc ls (.int x :: .ref (ad 0) :: rest)) := mm_putI C B 2 (Nat.le_of_ble_eq_true rfl) rfl rfl rfl rfl q1705 h hdg kk
theorem mg_41 (C : CallFix p m c cc nL s args lw_all RX4) (B : MB D cA ad A s gi gl H locs) (hdg : decode cc pc = .ok (.getfield 301, 3)) (kk : W p l e R s m args below meth c H locs cells slots Q (F0 m (pc + 3) ls (.int (gi 0 41) :: rest))) : W p l e R s m args below meth c H locs cells slots Q (F0 m pc ls (.ref (ad 0) :: rest)) := mm_getI C B 41 (Nat.le_of_ble_eq_true rfl) rfl rfl q1744 hdg kk
theorem mp_41 {x : Int32} {f : GI → Option α} (C : CallFix p m c cc nL s args lw_all RX4) (B : MB D cA ad A s gi gl H locs) (h : (some (g_pi gi 0 41 x)).bind f = some r) (hdg : decode cc pc = .ok (.putfield 301, 3)) (kk : ∀ g', f g' = some r → ∀ (H' : Heap) (locs' : List Loc), MB D cA ad A s g' gl H' locs' → W p l e R s m args below meth c H' locs' cells slots Q (F0 m (pc + 3) ls (rest))) : W p l e R s m args below meth c H locs cells slots Q (F0 m pc ls (.int x :: .ref (ad 0) :: rest)) := mm_putI C B 41 (Nat.le_of_ble_eq_true rfl) rfl rfl rfl rfl q1744 h hdg kk
theorem mg_46 (C : CallFix p m c cc nL s args lw_all RX4) (B : MB D cA ad A s gi gl H locs) (hdg : decode cc pc = .ok (.getfield 352, 3)) (kk : W p l e R s m args below meth c H locs cells slots Q (F0 m (pc + 3) ls (.int (gi 0 46) :: rest))) : W p l e R s m args below meth c H locs cells slots Q (F0 m pc ls (.ref (ad 0) :: rest)) := mm_getI C B 46 (Nat.le_of_ble_eq_true rfl) rfl rfl q1749 hdg kk
theorem mp_46 {x : Int32} {f : GI → Option α} (C : CallFix p m c cc nL s args lw_all RX4) (B : MB D cA ad A s gi gl H locs) (h : (some (g_pi gi 0 46 x)).bind f = some r) (hdg : decode cc pc = .ok (.putfield 352, 3)) (kk : ∀ g', f g' = some r → ∀ (H' : Heap) (locs' : List Loc), MB D cA ad A s g' gl H' locs' → W p l e R s m args below meth c H' locs' cells slots Q (F0 m (pc + 3) ls (rest))) : W p l e R s m args below meth c H locs cells slots Q (F0 m pc ls (.int x :: .ref (ad 0) :: rest)) := mm_putI C B 46 (Nat.le_of_ble_eq_true rfl) rfl rfl rfl rfl q1749 h hdg kk
theorem mg_45 (C : CallFix p m c cc nL s args lw_all RX4) (B : MB D cA ad A s gi gl H locs) (hdg : decode cc pc = .ok (.getfield 358, 3)) (kk : W p l e R s m args below meth c H locs cells slots Q (F0 m (pc + 3) ls (.int (gi 0 45) :: rest))) : W p l e R s m args below meth c H locs cells slots Q (F0 m pc ls (.ref (ad 0) :: rest)) := mm_getI C B 45 (Nat.le_of_ble_eq_true rfl) rfl rfl q1748 hdg kk
theorem mp_45 {x : Int32} {f : GI → Option α} (C : CallFix p m c cc nL s args lw_all RX4) (B : MB D cA ad A s gi gl H locs) (h : (some (g_pi gi 0 45 x)).bind f = some r) (hdg : decode cc pc = .ok (.putfield 358, 3)) (kk : ∀ g', f g' = some r → ∀ (H' : Heap) (locs' : List Loc), MB D cA ad A s g' gl H' locs' → W p l e R s m args below meth c H' locs' cells slots Q (F0 m (pc + 3) ls (rest))) : W p l e R s m args below meth c H locs cells slots Q (F0 m pc ls (.int x :: .ref (ad 0) :: rest)) := mm_putI C B 45 (Nat.le_of_ble_eq_true rfl) rfl rfl rfl rfl q1748 h hdg kk
theorem mg_44 (C : CallFix p m c cc nL s args lw_all RX4) (B : MB D cA ad A s gi gl H locs) (hdg : decode cc pc = .ok (.getfield 361, 3)) (kk : W p l e R s m args below meth c H locs cells slots Q (F0 m (pc + 3) ls (.int (gi 0 44) :: rest))) : W p l e R s m args below meth c H locs cells slots Q (F0 m pc ls (.ref (ad 0) :: rest)) := mm_getI C B 44 (Nat.le_of_ble_eq_true rfl) rfl rfl q1747 hdg kk
theorem mp_44 {x : Int32} {f : GI → Option α} (C : CallFix p m c cc nL s args lw_all RX4) (B : MB D cA ad A s gi gl H locs) (h : (some (g_pi gi 0 44 x)).bind f = some r) (hdg : decode cc pc = .ok (.putfield 361, 3)) (kk : ∀ g', f g' = some r → ∀ (H' : Heap) (locs' : List Loc), MB D cA ad A s g' gl H' locs' → W p l e R s m args below meth c H' locs' cells slots Q (F0 m (pc + 3) ls (rest))) : W p l e R s m args below meth c H locs cells slots Q (F0 m pc ls (.int x :: .ref (ad 0) :: rest)) := mm_putI C B 44 (Nat.le_of_ble_eq_true rfl) rfl rfl rfl rfl q1747 h hdg kk
theorem mg_47 (C : CallFix p m c cc nL s args lw_all RX4) (B : MB D cA ad A s gi gl H locs) (hdg : decode cc pc = .ok (.getfield 385, 3)) (kk : W p l e R s m args below meth c H locs cells slots Q (F0 m (pc + 3) ls (.int (gi 0 47) :: rest))) : W p l e R s m args below meth c H locs cells slots Q (F0 m pc ls (.ref (ad 0) :: rest)) := mm_getI C B 47 (Nat.le_of_ble_eq_true rfl) rfl rfl q1750 hdg kk
theorem mp_47 {x : Int32} {f : GI → Option α} (C : CallFix p m c cc nL s args lw_all RX4) (B : MB D cA ad A s gi gl H locs) (h : (some (g_pi gi 0 47 x)).bind f = some r) (hdg : decode cc pc = .ok (.putfield 385, 3)) (kk : ∀ g', f g' = some r → ∀ (H' : Heap) (locs' : List Loc), MB D cA ad A s g' gl H' locs' → W p l e R s m args below meth c H' locs' cells slots Q (F0 m (pc + 3) ls (rest))) : W p l e R s m args below meth c H locs cells slots Q (F0 m pc ls (.int x :: .ref (ad 0) :: rest)) := mm_putI C B 47 (Nat.le_of_ble_eq_true rfl) rfl rfl rfl rfl q1750 h hdg kk
theorem mg_50 (C : CallFix p m c cc nL s args lw_all RX4) (B : MB D cA ad A s gi gl H locs) (hdg : decode cc pc = .ok (.getfield 405, 3)) (kk : W p l e R s m args below meth c H locs cells slots Q (F0 m (pc + 3) ls (.int (gi 0 50) :: rest))) : W p l e R s m args below meth c H locs cells slots Q (F0 m pc ls (.ref (ad 0) :: rest)) := mm_getI C B 50 (Nat.le_of_ble_eq_true rfl) rfl rfl q1753 hdg kk
theorem mp_50 {x : Int32} {f : GI → Option α} (C : CallFix p m c cc nL s args lw_all RX4) (B : MB D cA ad A s gi gl H locs) (h : (some (g_pi gi 0 50 x)).bind f = some r) (hdg : decode cc pc = .ok (.putfield 405, 3)) (kk : ∀ g', f g' = some r → ∀ (H' : Heap) (locs' : List Loc), MB D cA ad A s g' gl H' locs' → W p l e R s m args below meth c H' locs' cells slots Q (F0 m (pc + 3) ls (rest))) : W p l e R s m args below meth c H locs cells slots Q (F0 m pc ls (.int x :: .ref (ad 0) :: rest)) := mm_putI C B 50 (Nat.le_of_ble_eq_true rfl) rfl rfl rfl rfl q1753 h hdg kk
theorem mg_51 (C : CallFix p m c cc nL s args lw_all RX4) (B : MB D cA ad A s gi gl H locs) (hdg : decode cc pc = .ok (.getfield 408, 3)) (kk : W p l e R s m args below meth c H locs cells slots Q (F0 m (pc + 3) ls (.int (gi 0 51) :: rest))) : W p l e R s m args below meth c H locs cells slots Q (F0 m pc ls (.ref (ad 0) :: rest)) := mm_getI C B 51 (Nat.le_of_ble_eq_true rfl) rfl rfl q1754 hdg kk
theorem mp_51 {x : Int32} {f : GI → Option α} (C : CallFix p m c cc nL s args lw_all RX4) (B : MB D cA ad A s gi gl H locs) (h : (some (g_pi gi 0 51 x)).bind f = some r) (hdg : decode cc pc = .ok (.putfield 408, 3)) (kk : ∀ g', f g' = some r → ∀ (H' : Heap) (locs' : List Loc), MB D cA ad A s g' gl H' locs' → W p l e R s m args below meth c H' locs' cells slots Q (F0 m (pc + 3) ls (rest))) : W p l e R s m args below meth c H locs cells slots Q (F0 m pc ls (.int x :: .ref (ad 0) :: rest)) := mm_putI C B 51 (Nat.le_of_ble_eq_true rfl) rfl rfl rfl rfl q1754 h hdg kk
theorem mg_78 (C : CallFix p m c cc nL s args lw_all RX4) (B : MB D cA ad A s gi gl H locs) (hdg : decode cc pc = .ok (.getfield 411, 3)) (kk : W p l e R s m args below meth c H locs cells slots Q (F0 m (pc + 3) ls (.int (gi 0 78) :: rest))) : W p l e R s m args below meth c H locs cells slots Q (F0 m pc ls (.ref (ad 0) :: rest)) := mm_getI C B 78 (Nat.le_of_ble_eq_true rfl) rfl rfl q1781 hdg kk
theorem mp_78 {x : Int32} {f : GI → Option α} (C : CallFix p m c cc nL s args lw_all RX4) (B : MB D cA ad A s gi gl H locs) (h : (some (g_pi gi 0 78 x)).bind f = some r) (hdg : decode cc pc = .ok (.putfield 411, 3)) (kk : ∀ g', f g' = some r → ∀ (H' : Heap) (locs' : List Loc), MB D cA ad A s g' gl H' locs' → W p l e R s m args below meth c H' locs' cells slots Q (F0 m (pc + 3) ls (rest))) : W p l e R s m args below meth c H locs cells slots Q (F0 m pc ls (.int x :: .ref (ad 0) :: rest)) := mm_putI C B 78 (Nat.le_of_ble_eq_true rfl) rfl rfl rfl rfl q1781 h hdg kk
theorem mg_55 (C : CallFix p m c cc nL s args lw_all RX4) (B : MB D cA ad A s gi gl H locs) (hdg : decode cc pc = .ok (.getfield 414, 3)) (kk : W p l e R s m args below meth c H locs cells slots Q (F0 m (pc + 3) ls (.int (gi 0 55) :: rest))) : W p l e R s m args below meth c H locs cells slots Q (F0 m pc ls (.ref (ad 0) :: rest)) := mm_getI C B 55 (Nat.le_of_ble_eq_true rfl) rfl rfl q1758 hdg kk
theorem mp_55 {x : Int32} {f : GI → Option α} (C : CallFix p m c cc nL s args lw_all RX4) (B : MB D cA ad A s gi gl H locs) (h : (some (g_pi gi 0 55 x)).bind f = some r) (hdg : decode cc pc = .ok (.putfield 414, 3)) (kk : ∀ g', f g' = some r → ∀ (H' : Heap) (locs' : List Loc), MB D cA ad A s g' gl H' locs' → W p l e R s m args below meth c H' locs' cells slots Q (F0 m (pc + 3) ls (rest))) : W p l e R s m args below meth c H locs cells slots Q (F0 m pc ls (.int x :: .ref (ad 0) :: rest)) := mm_putI C B 55 (Nat.le_of_ble_eq_true rfl) rfl rfl rfl rfl q1758 h hdg kk
theorem mg_56 (C : CallFix p m c cc nL s args lw_all RX4) (B : MB D cA ad A s gi gl H locs) (hdg : decode cc pc = .ok (.getfield 481, 3)) (kk : W p l e R s m args below meth c H locs cells slots Q (F0 m (pc + 3) ls (.int (gi 0 56) :: rest))) : W p l e R s m args below meth c H locs cells slots Q (F0 m pc ls (.ref (ad 0) :: rest)) := mm_getI C B 56 (Nat.le_of_ble_eq_true rfl) rfl rfl q1759 hdg kk
theorem mp_56 {x : Int32} {f : GI → Option α} (C : CallFix p m c cc nL s args lw_all RX4) (B : MB D cA ad A s gi gl H locs) (h : (some (g_pi gi 0 56 x)).bind f = some r) (hdg : decode cc pc = .ok (.putfield 481, 3)) (kk : ∀ g', f g' = some r → ∀ (H' : Heap) (locs' : List Loc), MB D cA ad A s g' gl H' locs' → W p l e R s m args below meth c H' locs' cells slots Q (F0 m (pc + 3) ls (rest))) : W p l e R s m args below meth c H locs cells slots Q (F0 m pc ls (.int x :: .ref (ad 0) :: rest)) := mm_putI C B 56 (Nat.le_of_ble_eq_true rfl) rfl rfl rfl rfl q1759 h hdg kk
theorem mg_57 (C : CallFix p m c cc nL s args lw_all RX4) (B : MB D cA ad A s gi gl H locs) (hdg : decode cc pc = .ok (.getfield 487, 3)) (kk : W p l e R s m args below meth c H locs cells slots Q (F0 m (pc + 3) ls (.int (gi 0 57) :: rest))) : W p l e R s m args below meth c H locs cells slots Q (F0 m pc ls (.ref (ad 0) :: rest)) := mm_getI C B 57 (Nat.le_of_ble_eq_true rfl) rfl rfl q1760 hdg kk
theorem mp_57 {x : Int32} {f : GI → Option α} (C : CallFix p m c cc nL s args lw_all RX4) (B : MB D cA ad A s gi gl H locs) (h : (some (g_pi gi 0 57 x)).bind f = some r) (hdg : decode cc pc = .ok (.putfield 487, 3)) (kk : ∀ g', f g' = some r → ∀ (H' : Heap) (locs' : List Loc), MB D cA ad A s g' gl H' locs' → W p l e R s m args below meth c H' locs' cells slots Q (F0 m (pc + 3) ls (rest))) : W p l e R s m args below meth c H locs cells slots Q (F0 m pc ls (.int x :: .ref (ad 0) :: rest)) := mm_putI C B 57 (Nat.le_of_ble_eq_true rfl) rfl rfl rfl rfl q1760 h hdg kk
theorem mg_62 (C : CallFix p m c cc nL s args lw_all RX4) (B : MB D cA ad A s gi gl H locs) (hdg : decode cc pc = .ok (.getfield 507, 3)) (kk : W p l e R s m args below meth c H locs cells slots Q (F0 m (pc + 3) ls (.int (gi 0 62) :: rest))) : W p l e R s m args below meth c H locs cells slots Q (F0 m pc ls (.ref (ad 0) :: rest)) := mm_getI C B 62 (Nat.le_of_ble_eq_true rfl) rfl rfl q1765 hdg kk
theorem mp_62 {x : Int32} {f : GI → Option α} (C : CallFix p m c cc nL s args lw_all RX4) (B : MB D cA ad A s gi gl H locs) (h : (some (g_pi gi 0 62 x)).bind f = some r) (hdg : decode cc pc = .ok (.putfield 507, 3)) (kk : ∀ g', f g' = some r → ∀ (H' : Heap) (locs' : List Loc), MB D cA ad A s g' gl H' locs' → W p l e R s m args below meth c H' locs' cells slots Q (F0 m (pc + 3) ls (rest))) : W p l e R s m args below meth c H locs cells slots Q (F0 m pc ls (.int x :: .ref (ad 0) :: rest)) := mm_putI C B 62 (Nat.le_of_ble_eq_true rfl) rfl rfl rfl rfl q1765 h hdg kk
theorem mg_63 (C : CallFix p m c cc nL s args lw_all RX4) (B : MB D cA ad A s gi gl H locs) (hdg : decode cc pc = .ok (.getfield 510, 3)) (kk : W p l e R s m args below meth c H locs cells slots Q (F0 m (pc + 3) ls (.int (gi 0 63) :: rest))) : W p l e R s m args below meth c H locs cells slots Q (F0 m pc ls (.ref (ad 0) :: rest)) := mm_getI C B 63 (Nat.le_of_ble_eq_true rfl) rfl rfl q1766 hdg kk
theorem mp_63 {x : Int32} {f : GI → Option α} (C : CallFix p m c cc nL s args lw_all RX4) (B : MB D cA ad A s gi gl H locs) (h : (some (g_pi gi 0 63 x)).bind f = some r) (hdg : decode cc pc = .ok (.putfield 510, 3)) (kk : ∀ g', f g' = some r → ∀ (H' : Heap) (locs' : List Loc), MB D cA ad A s g' gl H' locs' → W p l e R s m args below meth c H' locs' cells slots Q (F0 m (pc + 3) ls (rest))) : W p l e R s m args below meth c H locs cells slots Q (F0 m pc ls (.int x :: .ref (ad 0) :: rest)) := mm_putI C B 63 (Nat.le_of_ble_eq_true rfl) rfl rfl rfl rfl q1766 h hdg kk
theorem mg_68 (C : CallFix p m c cc nL s args lw_all RX4) (B : MB D cA ad A s gi gl H locs) (hdg : decode cc pc = .ok (.getfield 537, 3)) (kk : W p l e R s m args below meth c H locs cells slots Q (F0 m (pc + 3) ls (.int (gi 0 68) :: rest))) : W p l e R s m args below meth c H locs cells slots Q (F0 m pc ls (.ref (ad 0) :: rest)) := mm_getI C B 68 (Nat.le_of_ble_eq_true rfl) rfl rfl q1771 hdg kk
theorem mp_68 {x : Int32} {f : GI → Option α} (C : CallFix p m c cc nL s args lw_all RX4) (B : MB D cA ad A s gi gl H locs) (h : (some (g_pi gi 0 68 x)).bind f = some r) (hdg : decode cc pc = .ok (.putfield 537, 3)) (kk : ∀ g', f g' = some r → ∀ (H' : Heap) (locs' : List Loc), MB D cA ad A s g' gl H' locs' → W p l e R s m args below meth c H' locs' cells slots Q (F0 m (pc + 3) ls (rest))) : W p l e R s m args below meth c H locs cells slots Q (F0 m pc ls (.int x :: .ref (ad 0) :: rest)) := mm_putI C B 68 (Nat.le_of_ble_eq_true rfl) rfl rfl rfl rfl q1771 h hdg kk
theorem mg_67 (C : CallFix p m c cc nL s args lw_all RX4) (B : MB D cA ad A s gi gl H locs) (hdg : decode cc pc = .ok (.getfield 540, 3)) (kk : W p l e R s m args below meth c H locs cells slots Q (F0 m (pc + 3) ls (.int (gi 0 67) :: rest))) : W p l e R s m args below meth c H locs cells slots Q (F0 m pc ls (.ref (ad 0) :: rest)) := mm_getI C B 67 (Nat.le_of_ble_eq_true rfl) rfl rfl q1770 hdg kk
theorem mp_67 {x : Int32} {f : GI → Option α} (C : CallFix p m c cc nL s args lw_all RX4) (B : MB D cA ad A s gi gl H locs) (h : (some (g_pi gi 0 67 x)).bind f = some r) (hdg : decode cc pc = .ok (.putfield 540, 3)) (kk : ∀ g', f g' = some r → ∀ (H' : Heap) (locs' : List Loc), MB D cA ad A s g' gl H' locs' → W p l e R s m args below meth c H' locs' cells slots Q (F0 m (pc + 3) ls (rest))) : W p l e R s m args below meth c H locs cells slots Q (F0 m pc ls (.int x :: .ref (ad 0) :: rest)) := mm_putI C B 67 (Nat.le_of_ble_eq_true rfl) rfl rfl rfl rfl q1770 h hdg kk
theorem mg_69 (C : CallFix p m c cc nL s args lw_all RX4) (B : MB D cA ad A s gi gl H locs) (hdg : decode cc pc = .ok (.getfield 543, 3)) (kk : W p l e R s m args below meth c H locs cells slots Q (F0 m (pc + 3) ls (.int (gi 0 69) :: rest))) : W p l e R s m args below meth c H locs cells slots Q (F0 m pc ls (.ref (ad 0) :: rest)) := mm_getI C B 69 (Nat.le_of_ble_eq_true rfl) rfl rfl q1772 hdg kk
theorem mp_69 {x : Int32} {f : GI → Option α} (C : CallFix p m c cc nL s args lw_all RX4) (B : MB D cA ad A s gi gl H locs) (h : (some (g_pi gi 0 69 x)).bind f = some r) (hdg : decode cc pc = .ok (.putfield 543, 3)) (kk : ∀ g', f g' = some r → ∀ (H' : Heap) (locs' : List Loc), MB D cA ad A s g' gl H' locs' → W p l e R s m args below meth c H' locs' cells slots Q (F0 m (pc + 3) ls (rest))) : W p l e R s m args below meth c H locs cells slots Q (F0 m pc ls (.int x :: .ref (ad 0) :: rest)) := mm_putI C B 69 (Nat.le_of_ble_eq_true rfl) rfl rfl rfl rfl q1772 h hdg kk
theorem mg_79 (C : CallFix p m c cc nL s args lw_all RX4) (B : MB D cA ad A s gi gl H locs) (hdg : decode cc pc = .ok (.getfield 555, 3)) (kk : W p l e R s m args below meth c H locs cells slots Q (F0 m (pc + 3) ls (.int (gi 0 79) :: rest))) : W p l e R s m args below meth c H locs cells slots Q (F0 m pc ls (.ref (ad 0) :: rest)) := mm_getI C B 79 (Nat.le_of_ble_eq_true rfl) rfl rfl q1782 hdg kk
theorem mp_79 {x : Int32} {f : GI → Option α} (C : CallFix p m c cc nL s args lw_all RX4) (B : MB D cA ad A s gi gl H locs) (h : (some (g_pi gi 0 79 x)).bind f = some r) (hdg : decode cc pc = .ok (.putfield 555, 3)) (kk : ∀ g', f g' = some r → ∀ (H' : Heap) (locs' : List Loc), MB D cA ad A s g' gl H' locs' → W p l e R s m args below meth c H' locs' cells slots Q (F0 m (pc + 3) ls (rest))) : W p l e R s m args below meth c H locs cells slots Q (F0 m pc ls (.int x :: .ref (ad 0) :: rest)) := mm_putI C B 79 (Nat.le_of_ble_eq_true rfl) rfl rfl rfl rfl q1782 h hdg kk
theorem mg_80 (C : CallFix p m c cc nL s args lw_all RX4) (B : MB D cA ad A s gi gl H locs) (hdg : decode cc pc = .ok (.getfield 569, 3)) (kk : W p l e R s m args below meth c H locs cells slots Q (F0 m (pc + 3) ls (.int (gi 0 80) :: rest))) : W p l e R s m args below meth c H locs cells slots Q (F0 m pc ls (.ref (ad 0) :: rest)) := mm_getI C B 80 (Nat.le_of_ble_eq_true rfl) rfl rfl q1783 hdg kk
theorem mp_80 {x : Int32} {f : GI → Option α} (C : CallFix p m c cc nL s args lw_all RX4) (B : MB D cA ad A s gi gl H locs) (h : (some (g_pi gi 0 80 x)).bind f = some r) (hdg : decode cc pc = .ok (.putfield 569, 3)) (kk : ∀ g', f g' = some r → ∀ (H' : Heap) (locs' : List Loc), MB D cA ad A s g' gl H' locs' → W p l e R s m args below meth c H' locs' cells slots Q (F0 m (pc + 3) ls (rest))) : W p l e R s m args below meth c H locs cells slots Q (F0 m pc ls (.int x :: .ref (ad 0) :: rest)) := mm_putI C B 80 (Nat.le_of_ble_eq_true rfl) rfl rfl rfl rfl q1783 h hdg kk
end MF

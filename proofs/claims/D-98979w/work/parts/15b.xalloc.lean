/-! CELLS ARE MADE: the world grows by one cell; its number is nx -/
set_option maxRecDepth 100000
theorem g_D.of {A : Nat → Prop} {ad : Nat → Nat} {n : Nat} {f : Nat → va_E} (h : va_D A (g_ws ad f n)) : g_D A ad n :=
  ⟨fun i j hi hj e => h.1 i j _ _ (g_ws_get hi) (g_ws_get hj) e, fun i hi => h.2 i _ (g_ws_get hi)⟩
theorem g_ws_push {ad : Nat → Nat} {f f' : Nat → va_E} {n q : Nat} {x : va_E} (h1 : ∀ i, i < n → f' i = f i) (h2 : f' n = x) : g_ws ad f n ++ [(q, x)] = g_ws (va_up ad n q) f' (n + 1) := by
  unfold g_ws
  rw [List.range_succ, List.map_append]
  congr 1
  · apply List.map_congr_left
    intro i hi
    have hi := List.mem_range.mp hi
    rw [h1 i hi, va_up_ne _ _ (by omega)]
  · simp [va_up, h2]
def g_new (cN cS nx ns t n w : Nat) (hk : HK) (gi : GI) (gr : GR) : Option (HK × GI × GR) := if nx + 1 ≤ cN ∧ ns + w ≤ cS ∧ nx < 1000000 then some (va_up hk nx (t, n), va_up gi nx (fun _ => 0), va_up gr nx (fun _ => none)) else none
theorem XW.fresh {hk : HK} {nx : Nat} {gr : GR} (h : XW hk nx gr) (hn : nx < 1000000) {i : Nat} (hi : (hk i).1 < 1000) : i ≠ nx := by
  intro e
  subst e
  by_cases q : (hk i).1 < 100
  · have := h.1 i q; omega
  · have := h.2.1 i (by omega) hi; omega
theorem XW.grow {hk : HK} {nx : Nat} {gr : GR} (h : XW hk nx gr) (hn : nx < 1000000) {t n : Nat} (ht : t < 100) : XW (va_up hk nx (t, n)) (nx + 1) (va_up gr nx (fun _ => none)) := by
  refine ⟨fun i hi => ?_, fun i h1 h2 => ?_, fun i k j hi he => ?_, by omega⟩
  · by_cases q : i = nx
    · omega
    · rw [va_up_ne _ _ q] at hi
      have := h.1 i hi; omega
  · by_cases q : i = nx
    · subst q
      simp [va_up] at h1
      omega
    · rw [va_up_ne _ _ q] at h1 h2
      exact h.2.1 i h1 h2
  · by_cases q : i = nx
    · subst q
      simp [va_up] at he
    · rw [va_up_ne _ _ q] at he
      have hj := h.2.2.1 i k j (by omega) he
      rw [va_up_ne _ _ (h.fresh hn hj)]
      exact hj
/-- the old cells are as they were under the new addresses -/
theorem Xc_grow {z : Nat → Int32} {cA : Nat → ClassId} {ad : Nat → Nat} {hk : HK} {nx : Nat} {gi : GI} {gr : GR} (hW : XW hk nx gr) (hn : nx < 1000000) (q : Nat) (t n : Nat) (i : Nat) (hi : i < nx) : Xc cA (va_up ad nx q) (va_up hk nx (t, n)) (va_up gi nx z) (va_up gr nx (fun _ => none)) i = Xc cA ad hk gi gr i := by
  have e1 : va_up hk nx (t, n) i = hk i := va_up_ne _ _ (by omega)
  have e2 : va_up gi nx z i = gi i := va_up_ne _ _ (by omega)
  have e3 : va_up gr nx (fun _ => none) i = gr i := va_up_ne _ _ (by omega)
  have e4 : ∀ k, (gr i k).map (va_up ad nx q) = (gr i k).map ad := fun k => by
    cases hj : gr i k with
    | none => rfl
    | some j =>
      have := hW.fresh hn (hW.2.2.1 i k j hi hj)
      simp [va_up, this]
  simp only [Xc, g_cell, g_fv, e1, e2, e3, e4]
/-- the world of a method that makes cells: beside XB, what holds since its start (a0, h0, n0, m0), and the caps cN, cS -/
abbrev XBA (D : va_G) (cA : Nat → ClassId) (a0 : Nat → Nat) (h0 : HK) (n0 m0 cN cS : Nat) (ad : Nat → Nat) (hk : HK) (nx ns : Nat) (A : Nat → Prop) (s : State) (gi : GI) (gr : GR) (H : Heap) (locs : List Loc) : Prop :=
  XB D cA ad hk nx A s gi gr H locs ∧ (∀ i, (h0 i).1 < 1000 → ad i = a0 i ∧ hk i = h0 i) ∧ (∀ i, 1000000 ≤ i → ad i = a0 i) ∧ n0 ≤ nx ∧ nx ≤ cN ∧ m0 ≤ ns ∧ ns ≤ cS
def g_zv (z : Nat) : Value := if z = 0 then .int 0 else if z = 1 then .null else .long 0
section XAL
variable {p : Program} {l : Launch} {e : Env} {R : Room} {s : State} {m : MethodId} {args : Array Value} {below : List Frame} {meth : Method} {c : Code} {H : Heap} {locs : List Loc} {Q : State → Prop}
variable {pc : Nat} {ls : Array Slot} {rest : List Value} {cc : ByteArray} {nL : Nat} {α : Type} {r : α} {D : va_G} {cA : Nat → ClassId} {a0 : Nat → Nat} {h0 : HK} {n0 m0 cN cS : Nat} {ad : Nat → Nat} {hk : HK} {nx ns : Nat} {A : Nat → Prop} {gi : GI} {gr : GR} {own : String} {idx : Nat}
theorem xa_z (hR : R.cells = cN - n0 ∧ R.slots = cS - m0) (B : XBA D cA a0 h0 n0 m0 cN cS ad hk nx ns A s gi gr H locs) : nx - n0 ≤ R.cells ∧ ns - m0 ≤ R.slots := by
  obtain ⟨-, -, -, b1, b2, b3, b4⟩ := B
  omega
theorem xa_step {z : Nat → Int32} {H' : Heap} {q t n w : Nat} {x : va_E} (hc : nx + 1 ≤ cN ∧ ns + w ≤ cS ∧ nx < 1000000) (ht : t < 100) (B : XBA D cA a0 h0 n0 m0 cN cS ad hk nx ns A s gi gr H locs) (hx : Xc cA (va_up ad nx q) (va_up hk nx (t, n)) (va_up gi nx z) (va_up gr nx (fun _ => none)) nx = x) (hP : va_P D clX (Xw cA ad hk nx gi gr ++ [(q, x)]) H') (hD : va_D A (Xw cA ad hk nx gi gr ++ [(q, x)])) (hS : va_S A s.heap H' locs) :
    (∀ i, (hk i).1 < 1000 → va_up ad nx q i = ad i ∧ va_up hk nx (t, n) i = hk i) ∧ XBA D cA a0 h0 n0 m0 cN cS (va_up ad nx q) (va_up hk nx (t, n)) (nx + 1) (ns + w) A s (va_up gi nx z) (va_up gr nx (fun _ => none)) H' locs := by
  have hW := B.1.2.2.1.2
  have hf : ∀ i, (hk i).1 < 1000 → i ≠ nx := fun i hi => hW.fresh hc.2.2 hi
  have bb := B.2.2.2
  rw [Xw, g_ws_push (f' := Xc cA (va_up ad nx q) (va_up hk nx (t, n)) (va_up gi nx z) (va_up gr nx (fun _ => none))) (fun i hi => Xc_grow hW hc.2.2 q t n i hi) hx] at hP hD
  refine ⟨fun i hi => ⟨va_up_ne _ _ (hf i hi), va_up_ne _ _ (hf i hi)⟩, ⟨B.1.1, hP, ⟨⟨g_D.of hD, B.1.2.2.1.1.2⟩, hW.grow hc.2.2 ht⟩, hS, B.1.2.2.2.2.ext (fun i hi => va_up_ne _ _ (by omega))⟩, fun i hi => ?_, fun i hi => (va_up_ne _ _ (by omega)).trans (B.2.2.1 i hi), by omega, hc.1, by omega, hc.2.1⟩
  have h1 := B.2.1 i hi
  have h2 : (hk i).1 < 1000 := by rw [h1.2]; exact hi
  rw [va_up_ne _ _ (hf i h2), va_up_ne _ _ (hf i h2)]
  exact h1
theorem g_new_of {cN cS nx ns t n w : Nat} {hk : HK} {gi : GI} {gr : GR} {q : HK × GI × GR} (h : g_new cN cS nx ns t n w hk gi gr = some q) : (nx + 1 ≤ cN ∧ ns + w ≤ cS ∧ nx < 1000000) ∧ q = (va_up hk nx (t, n), va_up gi nx (fun _ => 0), va_up gr nx (fun _ => none)) := by
  unfold g_new at h
  by_cases z : nx + 1 ≤ cN ∧ ns + w ≤ cS ∧ nx < 1000000
  · rw [if_pos z] at h; exact ⟨z, (Option.some.inj h).symm⟩
  · rw [if_neg z] at h; cases h
theorem xa_new {ci N : Nat} {Rc : String} {Tc : u_T} {tyc : Nat → FieldType} {f : HK × GI × GR → Option α} (C : CallFix p m c cc nL s args lw_all own) (B : XBA D cA a0 h0 n0 m0 cN cS ad hk nx ns A s gi gr H locs) (hR : R.cells = cN - n0 ∧ R.slots = cS - m0) (X : XC ci Rc Tc tyc N) (hci : 10 + ci < 100) (hdef : ∀ j, j < N → defaultValue (tyc j) = vp_V ((fkX ci).map g_zv) j) (hq : Cond.classLink own idx Rc ∈ lw_all) (hins : Cond.instantiable Rc N ∈ lw_all) (hini : Cond.initialized Rc ∈ lw_all) (h : (g_new cN cS nx ns (10 + ci) 0 N hk gi gr).bind f = some r) (hdg : decode cc pc = .ok (.new idx, 3))
    (kk : ∀ (q : HK × GI × GR) (ad' : Nat → Nat), f q = some r → (∀ i, (hk i).1 < 1000 → ad' i = ad i ∧ q.1 i = hk i) → (q.1 nx).1 = 10 + ci → ∀ H', XBA D cA a0 h0 n0 m0 cN cS ad' q.1 (nx + 1) (ns + N) A s q.2.1 q.2.2 H' locs → W p l e R s m args below meth c H' locs (nx + 1 - n0) (ns + N - m0) Q (F0 m (pc + 3) ls (.ref (ad' nx) :: rest))) : W p l e R s m args below meth c H locs (nx - n0) (ns - m0) Q (F0 m pc ls rest) := by
  obtain ⟨q, h1, h2⟩ := g_ob h
  obtain ⟨hc, rfl⟩ := g_new_of h1
  have b := B.2.2.2
  refine va_new (ci := ci) (fs := (fkX ci).map g_zv) (C := Rc) (T := Tc) (N := N) C.1 C.2.1 C.2.2.2.2 X.2.1 tyc X.2.2.1 C.2.2.2.1 (C.2.2.2.2 _ hq) (C.2.2.2.2 _ hins) (C.2.2.2.2 _ hini) B.1.1 B.1.2.1 B.1.2.2.1.1.1.va B.1.2.2.2.1 B.1.2.2.1.1.2 X.1 hdef (by omega) (by omega) hdg (fun q' H1 hP hD hS => ?_)
  obtain ⟨s1, s2⟩ := xa_step (z := fun _ => 0) (n := 0) hc hci B (x := .inr (ci, (fkX ci).map g_zv)) (by
    simp only [Xc, g_cell, va_up, if_pos]
    rw [if_pos (by omega)]
    congr 2
    · omega
    · rw [show 10 + ci - 10 = ci by omega]
      apply List.ext_getElem?
      intro j
      rw [List.getElem?_mapIdx, List.getElem?_map]
      cases (fkX ci)[j]? with
      | none => rfl
      | some z => simp [g_fv, g_zv, va_rf, va_up]) hP hD hS
  have kk := kk _ (va_up ad nx q') h2 s1 (by simp [va_up]) H1 s2
  refine W.widen (k := nx + 1 - n0) (n := ns + N - m0) (by omega) (by omega) ?_
  have e : va_up ad nx q' nx = q' := by simp [va_up]
  rw [e] at kk
  exact kk
theorem xa_newa {t N' : Nat} {atype : ArrayType} {ty : FieldType} {n : Int32} {f : HK × GI × GR → Option α} (C : CallFix p m c cc nL s args lw_all own) (B : XBA D cA a0 h0 n0 m0 cN cS ad hk nx ns A s gi gr H locs) (hR : R.cells = cN - n0 ∧ R.slots = cS - m0) (ht : t < 3) (hty : newarray.typeOf atype = ty) (hta : (g_tys cA)[t]? = some (cA t, ty)) (hprim : ∀ cB : ClassId, va_RA s cB ty → s.vm.findClass ("[" ++ ty.toString) = some cB) (hdf : defaultValue ty = .int 0) (harr : Cond.arrayClass (newarray.typeOf atype) ∈ lw_all) (hn : ¬ n < 0) (hN : n.toNatClampNeg = N') (hby : N' * componentBytes ty ≤ 536870912) (h : (g_new cN cS nx ns t N' N' hk gi gr).bind f = some r) (hdg : decode cc pc = .ok (.newarray atype, 2))
    (kk : ∀ (q : HK × GI × GR) (ad' : Nat → Nat), f q = some r → (∀ i, (hk i).1 < 1000 → ad' i = ad i ∧ q.1 i = hk i) → q.1 nx = (t, N') → ∀ H', XBA D cA a0 h0 n0 m0 cN cS ad' q.1 (nx + 1) (ns + N') A s q.2.1 q.2.2 H' locs → W p l e R s m args below meth c H' locs (nx + 1 - n0) (ns + N' - m0) Q (F0 m (pc + 2) ls (.ref (ad' nx) :: rest))) : W p l e R s m args below meth c H locs (nx - n0) (ns - m0) Q (F0 m pc ls (.int n :: rest)) := by
  obtain ⟨q, h1, h2⟩ := g_ob h
  obtain ⟨hc, rfl⟩ := g_new_of h1
  have b := B.2.2.2
  refine va_newa (atype := atype) (a0 := (N', .inl (fun _ => 0))) C.1 C.2.1 (C.2.2.2.2 _ harr) hty B.1.1 B.1.2.1 B.1.2.2.1.1.1.va B.1.2.2.2.1 B.1.2.2.1.1.2 (fun cB => by rw [vp_cell_i, hdf]) hn hN hby (by omega) (by omega) hdg (fun q' cB H1 hK hP hD hS => ?_)
  have e0 : cB = cA t := by
    have k1 := hprim _ (hK.2 7 (cB, ty) rfl).2
    have k2 := hprim _ (B.1.1.2 t _ hta).2
    exact Option.some.inj (k1.symm.trans k2)
  subst e0
  obtain ⟨s1, s2⟩ := xa_step (z := fun _ => 0) (n := N') (t := t) hc (by omega) B (x := .inl (cA t, N', .inl (fun _ => 0))) (by
    simp only [Xc, g_cell, va_up, if_pos]
    rw [if_neg (by omega), if_pos ht]) hP hD hS
  have kk := kk _ (va_up ad nx q') h2 s1 (by simp [va_up]) H1 s2
  refine W.widen (k := nx + 1 - n0) (n := ns + N' - m0) (by omega) (by omega) ?_
  have e : va_up ad nx q' nx = q' := by simp [va_up]
  rw [e] at kk
  exact kk
theorem xa_newq {t N' : Nat} {E : String} {n : Int32} {f : HK × GI × GR → Option α} (C : CallFix p m c cc nL s args lw_all own) (B : XBA D cA a0 h0 n0 m0 cN cS ad hk nx ns A s gi gr H locs) (hR : R.cells = cN - n0 ∧ R.slots = cS - m0) (ht : 4 ≤ t ∧ t < 10) (hta : (g_tys cA)[t]? = some (cA t, .object E)) (hq : Cond.classLink own idx E ∈ lw_all) (hao : va_AO E s) (hn : ¬ n < 0) (hN : n.toNatClampNeg = N') (hby : N' * 4 ≤ 536870912) (h : (g_new cN cS nx ns t N' N' hk gi gr).bind f = some r) (hdg : decode cc pc = .ok (.anewarray idx, 3))
    (kk : ∀ (q : HK × GI × GR) (ad' : Nat → Nat), f q = some r → (∀ i, (hk i).1 < 1000 → ad' i = ad i ∧ q.1 i = hk i) → q.1 nx = (t, N') → ∀ H', XBA D cA a0 h0 n0 m0 cN cS ad' q.1 (nx + 1) (ns + N') A s q.2.1 q.2.2 H' locs → W p l e R s m args below meth c H' locs (nx + 1 - n0) (ns + N' - m0) Q (F0 m (pc + 3) ls (.ref (ad' nx) :: rest))) : W p l e R s m args below meth c H locs (nx - n0) (ns - m0) Q (F0 m pc ls (.int n :: rest)) := by
  obtain ⟨q, h1, h2⟩ := g_ob h
  obtain ⟨hc, rfl⟩ := g_new_of h1
  have b := B.2.2.2
  refine va_newq C.1 C.2.1 C.2.2.2.1 (C.2.2.2.2 _ hq) hao B.1.1 B.1.2.1 B.1.2.2.1.1.1.va B.1.2.2.2.1 B.1.2.2.1.1.2 hn hN hby (by omega) (by omega) hdg (fun q' cB H1 hK hP hD hS => ?_)
  have e0 : cB = cA t := by
    obtain ⟨kA, comp, -, -, -, k1⟩ := (hK.2 7 (cB, .object E) rfl).2
    obtain ⟨kA', comp', -, -, -, k2⟩ := (B.1.1.2 t _ hta).2
    exact Option.some.inj (k1.symm.trans k2)
  subst e0
  obtain ⟨s1, s2⟩ := xa_step (z := fun _ => 0) (n := N') (t := t) hc (by omega) B (x := .inl (cA t, N', .inr (.inr (.inr (.inr (fun _ => none)))))) (by
    simp only [Xc, g_cell, va_up, if_pos]
    rw [if_neg (by omega), if_neg (by omega), if_neg (by omega)]
    rfl) hP hD hS
  have kk := kk _ (va_up ad nx q') h2 s1 (by simp [va_up]) H1 s2
  refine W.widen (k := nx + 1 - n0) (n := ns + N' - m0) (by omega) (by omega) ?_
  have e : va_up ad nx q' nx = q' := by simp [va_up]
  rw [e] at kk
  exact kk
/-- an int[N][K]: the outer cell has the number nx, its rows nx + 1 .. nx + N -/
def g_multi (cN cS nx ns N K : Nat) (hk : HK) (gi : GI) (gr : GR) : Option (HK × GI × GR) :=
  if nx + (1 + N) ≤ cN ∧ ns + (N + N * K) ≤ cS ∧ nx + N < 1000000 then some (fun i => if i = nx then (6, N) else if nx < i ∧ i ≤ nx + N then (0, K) else hk i, fun i => if nx ≤ i ∧ i ≤ nx + N then (fun _ => 0) else gi i, fun i => if i = nx then (fun j => if j < N then some (nx + 1 + j) else none) else if nx < i ∧ i ≤ nx + N then (fun _ => none) else gr i) else none
theorem g_ws_inv {ad : Nat → Nat} {f : Nat → va_E} {n k : Nat} {q : Nat × va_E} (h : (g_ws ad f n)[k]? = some q) : k < n ∧ q = (ad k, f k) := by
  by_cases z : k < n
  · rw [g_ws_get z] at h; exact ⟨z, (Option.some.inj h).symm⟩
  · rw [List.getElem?_eq_none (by simp [g_ws]; omega)] at h; cases h
theorem g_outer {c : ClassId} {N h0 : Nat} : ∀ i, i ≤ N → Jvm.Free.Multi.outerC c N h0 i = arrV c N (fun j => if j < i then .ref (h0 + 1 + j) else .null)
  | 0, _ => by
    show ({ cls := c, slots := Array.replicate N .null, vm := .none } : Cell) = _
    rw [arrV_new]
    rfl
  | i + 1, hi => by
    show (Jvm.Free.Multi.outerC c N h0 i).setSlot i _ = _
    rw [g_outer i (by omega), arrV_store]
    congr 1
    funext j
    unfold updV
    by_cases e : j = i
    · rw [if_pos e, if_pos (by omega), e]
    · rw [if_neg e]
      show (if j < i then _ else _) = _
      by_cases z : j < i
      · rw [if_pos z, if_pos (by omega)]
      · rw [if_neg z, if_neg (by omega)]
theorem g_AA.use {A : Array Value} {U : State} (h : g_AA U) : (Cond.arrayOver (.array .int)).before A U = true := by
  unfold g_AA at h
  unfold Cond.before Cond.holds at h ⊢
  simp only [Cond.value] at h ⊢
  exact h
theorem xa_multi {n k : Int32} {N K : Nat} {f : HK × GI × GR → Option α} (C : CallFix p m c cc nL s args lw_all own) (B : XBA D cA a0 h0 n0 m0 cN cS ad hk nx ns A s gi gr H locs) (hR : R.cells = cN - n0 ∧ R.slots = cS - m0) (hcl : Cond.classLink own idx "[[I" ∈ lw_all) (hac : Cond.arrayClass .int ∈ lw_all) (hn : ¬ n < 0) (hk0 : ¬ k < 0) (hN : n.toNatClampNeg = N) (hK : k.toNatClampNeg = K) (hb1 : N * 4 ≤ 536870912) (hb2 : K * 4 ≤ 536870912) (h : (g_multi cN cS nx ns N K hk gi gr).bind f = some r) (hdg : decode cc pc = .ok (.multianewarray idx 2, 4))
    (kk : ∀ (q : HK × GI × GR) (ad' : Nat → Nat), f q = some r → (∀ i, (hk i).1 < 1000 → ad' i = ad i ∧ q.1 i = hk i) → q.1 nx = (6, N) → ∀ H', XBA D cA a0 h0 n0 m0 cN cS ad' q.1 (nx + (1 + N)) (ns + (N + N * K)) A s q.2.1 q.2.2 H' locs → W p l e R s m args below meth c H' locs (nx + (1 + N) - n0) (ns + (N + N * K) - m0) Q (F0 m (pc + 4) ls (.ref (ad' nx) :: rest))) : W p l e R s m args below meth c H locs (nx - n0) (ns - m0) Q (F0 m pc ls (.int k :: .int n :: rest)) := by
  obtain ⟨q, h1, h2⟩ := g_ob h
  unfold g_multi at h1
  by_cases hc : nx + (1 + N) ≤ cN ∧ ns + (N + N * K) ≤ cS ∧ nx + N < 1000000
  case neg => rw [if_neg hc] at h1; cases h1
  rw [if_pos hc] at h1
  have h1 := Option.some.inj h1
  have b := B.2.2.2
  have hW := B.1.2.2.1.2
  have hfr : ∀ i, (hk i).1 < 1000 → ¬ (nx ≤ i ∧ i ≤ nx + N) := fun i hi => by
    by_cases q : (hk i).1 < 100
    · have := hW.1 i q; omega
    · have := hW.2.1 i (by omega) hi; omega
  subst hN hK
  intro T hT X
  subst hT
  have es : "[" ++ (FieldType.array FieldType.int).toString = "[[I" := rfl
  obtain ⟨vm₁, cA', comp, hWm, hfA, hfC, hO, hI, X1, step⟩ := X.multianewarray2F (g := F0 m pc ls (.int k :: .int n :: rest)) (n := n) (k := k) (rest := rest) C.1 (own := own) (index := idx) (ty := .int) C.2.2.2.1 (by rw [es]; exact C.2.2.2.2 _ hcl) (g_AA.use B.1.2.2.2.2.2.2.1.2.2.1) (C.2.2.2.2 _ hac) rfl (by rw [C.2.1]; exact hdg) rfl hn hk0 hb1 hb2 (Nat.le_trans (Nat.le_mul_of_pos_right _ (by decide)) hb2) rfl rfl (by omega) (by omega)
  have e6 : cA' = cA 6 := by
    have k2 : s.vm.findClass ("[" ++ (FieldType.array FieldType.int).toString) = some (cA 6) := (B.1.1.2 6 _ rfl).2
    exact Option.some.inj (hfA.symm.trans k2)
  have e0 : comp = cA 0 := by
    have k2 : s.vm.findClass ("[" ++ FieldType.int.toString) = some (cA 0) := (B.1.1.2 0 _ rfl).2
    exact Option.some.inj (hfC.symm.trans k2)
  subst e6 e0
  obtain ⟨f1, f2, f3, f4⟩ := Jvm.Free.Multi.fill_facts (T.setVm vm₁) (cA 6) (cA 0) n.toNatClampNeg k.toNatClampNeg (defaultValue .int) n.toNatClampNeg
  have fo := fun (a : Addr) (ha : a < T.heap.size) => Jvm.Free.Multi.fill_old (T.setVm vm₁) (cA 6) (cA 0) n.toNatClampNeg k.toNatClampNeg (defaultValue .int) (a := a) ha n.toNatClampNeg
  have fi := fun (j : Nat) (hj : j < n.toNatClampNeg) => Jvm.Free.Multi.fill_inner (T.setVm vm₁) (cA 6) (cA 0) n.toNatClampNeg k.toNatClampNeg (defaultValue .int) n.toNatClampNeg j hj
  have hsz : (T.setVm vm₁).heap.size = T.heap.size := rfl
  rw [hsz] at f1 f2 fi
  have fo : ∀ a : Nat, a < T.heap.size → (Jvm.Free.Multi.fill (T.setVm vm₁) (cA 6) (cA 0) n.toNatClampNeg k.toNatClampNeg (defaultValue .int) n.toNatClampNeg).heap[a]? = T.heap[a]? := fo
  generalize hT' : Jvm.Free.Multi.fill (T.setVm vm₁) (cA 6) (cA 0) n.toNatClampNeg k.toNatClampNeg (defaultValue .int) n.toNatClampNeg = T' at *
  generalize had : (fun i => if nx ≤ i ∧ i ≤ nx + n.toNatClampNeg then T.heap.size + (i - nx) else ad i) = ad'
  have had1 : ∀ i, ¬ (nx ≤ i ∧ i ≤ nx + n.toNatClampNeg) → ad' i = ad i := fun i hi => by rw [← had]; exact if_neg hi
  have had2 : ∀ i, (nx ≤ i ∧ i ≤ nx + n.toNatClampNeg) → ad' i = T.heap.size + (i - nx) := fun i hi => by rw [← had]; exact if_pos hi
  have hlt : ∀ i, i < nx → ad i < T.heap.size := fun i hi => (B.1.2.1 i _ (g_ws_get hi)).lt
  have hrw := h1.symm
  subst hrw
  have B' : XBA D cA a0 h0 n0 m0 cN cS ad' (fun i => if i = nx then (6, n.toNatClampNeg) else if nx < i ∧ i ≤ nx + n.toNatClampNeg then (0, k.toNatClampNeg) else hk i) (nx + (1 + n.toNatClampNeg)) (ns + (n.toNatClampNeg + n.toNatClampNeg * k.toNatClampNeg)) A s (fun i => if nx ≤ i ∧ i ≤ nx + n.toNatClampNeg then (fun _ => 0) else gi i) (fun i => if i = nx then (fun j => if j < n.toNatClampNeg then some (nx + 1 + j) else none) else if nx < i ∧ i ≤ nx + n.toNatClampNeg then (fun _ => none) else gr i) T'.heap locs := by
    refine ⟨⟨B.1.1, ?_, ⟨⟨⟨?_, ?_⟩, B.1.2.2.1.1.2⟩, ?_⟩, ?_, B.1.2.2.2.2.ext (fun i hi => had1 i (by omega))⟩, fun i hi => ?_, fun i hi => (had1 i (by omega)).trans (B.2.2.1 i hi), by omega, hc.1, by omega, hc.2.1⟩
    · intro j q hq
      obtain ⟨hj, rfl⟩ := g_ws_inv hq
      by_cases z : j < nx
      · have z1 : ¬ (nx ≤ j ∧ j ≤ nx + n.toNatClampNeg) := by omega
        have z2 : ¬ j = nx := by omega
        have z3 : ¬ (nx < j ∧ j ≤ nx + n.toNatClampNeg) := by omega
        have e4 : ∀ q, (gr j q).map ad' = (gr j q).map ad := fun q => by
          cases hg : gr j q with
          | none => rfl
          | some w => exact congrArg some (had1 w (hfr w (hW.2.2.1 j q w z hg)))
        have e5 : Xc cA ad' (fun i => if i = nx then (6, n.toNatClampNeg) else if nx < i ∧ i ≤ nx + n.toNatClampNeg then (0, k.toNatClampNeg) else hk i) (fun i => if nx ≤ i ∧ i ≤ nx + n.toNatClampNeg then (fun _ => 0) else gi i) (fun i => if i = nx then (fun j => if j < n.toNatClampNeg then some (nx + 1 + j) else none) else if nx < i ∧ i ≤ nx + n.toNatClampNeg then (fun _ => none) else gr i) j = Xc cA ad hk gi gr j := by
          simp only [Xc, g_cell, g_fv, if_neg z1, if_neg z2, if_neg z3, e4]
        rw [e5, had1 j z1]
        exact (B.1.2.1 j _ (g_ws_get z)).kept (fo _ (hlt j z))
      · by_cases z2 : j = nx
        · have ec : Xc cA ad' (fun i => if i = nx then (6, n.toNatClampNeg) else if nx < i ∧ i ≤ nx + n.toNatClampNeg then (0, k.toNatClampNeg) else hk i) (fun i => if nx ≤ i ∧ i ≤ nx + n.toNatClampNeg then (fun _ => 0) else gi i) (fun i => if i = nx then (fun j => if j < n.toNatClampNeg then some (nx + 1 + j) else none) else if nx < i ∧ i ≤ nx + n.toNatClampNeg then (fun _ => none) else gr i) j = .inl (cA 6, n.toNatClampNeg, .inr (.inr (.inr (.inr (fun j => (if j < n.toNatClampNeg then some (nx + 1 + j) else none).map ad'))))) := by
            simp only [Xc, g_cell, if_pos z2]
            rfl
          rw [ec, had2 j (by omega), show T.heap.size + (j - nx) = T.heap.size by omega]
          show T'.heap[T.heap.size]? = some (vp_cell _ _)
          rw [vp_cell_q, f2, g_outer _ (Nat.le_refl _)]
          congr 2
          funext w
          by_cases hw : w < n.toNatClampNeg
          · rw [if_pos hw, if_pos hw]
            show _ = va_rf (some (ad' (nx + 1 + w)))
            rw [had2 _ (by omega), show T.heap.size + (nx + 1 + w - nx) = T.heap.size + 1 + w by omega]
            rfl
          · rw [if_neg hw, if_neg hw]
            rfl
        · have z3 : nx < j ∧ j ≤ nx + n.toNatClampNeg := by omega
          have z4 : nx ≤ j ∧ j ≤ nx + n.toNatClampNeg := by omega
          have ec : Xc cA ad' (fun i => if i = nx then (6, n.toNatClampNeg) else if nx < i ∧ i ≤ nx + n.toNatClampNeg then (0, k.toNatClampNeg) else hk i) (fun i => if nx ≤ i ∧ i ≤ nx + n.toNatClampNeg then (fun _ => 0) else gi i) (fun i => if i = nx then (fun j => if j < n.toNatClampNeg then some (nx + 1 + j) else none) else if nx < i ∧ i ≤ nx + n.toNatClampNeg then (fun _ => none) else gr i) j = .inl (cA 0, k.toNatClampNeg, .inl (fun _ => 0)) := by
            simp only [Xc, g_cell, if_neg z2, if_pos z3, if_pos z4]
            rfl
          rw [ec, had2 j z4, show T.heap.size + (j - nx) = T.heap.size + 1 + (j - nx - 1) by omega]
          show T'.heap[T.heap.size + 1 + (j - nx - 1)]? = some (vp_cell _ _)
          rw [vp_cell_i, fi (j - nx - 1) (by omega)]
          exact congrArg some (arrV_new _ _ _)
    · intro i j hi hj he
      by_cases zi : i < nx
      · rw [had1 i (by omega)] at he
        by_cases zj : j < nx
        · rw [had1 j (by omega)] at he
          exact B.1.2.2.1.1.1.1 i j zi zj he
        · rw [had2 j (by omega)] at he
          have := hlt i zi
          omega
      · rw [had2 i (by omega)] at he
        by_cases zj : j < nx
        · rw [had1 j (by omega)] at he
          have := hlt j zj
          omega
        · rw [had2 j (by omega)] at he
          omega
    · intro i hi
      by_cases zi : i < nx
      · rw [had1 i (by omega)]
        exact B.1.2.2.1.1.1.2 i zi
      · rw [had2 i (by omega)]
        exact B.1.2.2.1.1.2 _ (Nat.le_trans B.1.2.2.2.1.1 (Nat.le_add_right _ _))
    · refine ⟨fun i hi => ?_, fun i h1 h2 => ?_, fun i q j hi he => ?_, by omega⟩
      · dsimp only at hi
        by_cases z : nx ≤ i ∧ i ≤ nx + n.toNatClampNeg
        · omega
        · rw [if_neg (by omega), if_neg (by omega)] at hi
          have := hW.1 i hi
          omega
      · dsimp only at h1 h2
        by_cases z : i = nx
        · rw [if_pos z] at h1
          simp at h1
        · by_cases z2 : nx < i ∧ i ≤ nx + n.toNatClampNeg
          · rw [if_neg z, if_pos z2] at h1
            simp at h1
          · rw [if_neg z, if_neg z2] at h1 h2
            exact hW.2.1 i h1 h2
      · dsimp only at he ⊢
        by_cases z : i = nx
        · rw [if_pos z] at he
          by_cases zq : q < n.toNatClampNeg
          · rw [if_pos zq] at he
            cases he
            rw [if_neg (by omega), if_pos (by omega)]
            exact (by decide : (0 : Nat) < 1000)
          · rw [if_neg zq] at he
            cases he
        · by_cases z2 : nx < i ∧ i ≤ nx + n.toNatClampNeg
          · rw [if_neg z, if_pos z2] at he
            cases he
          · rw [if_neg z, if_neg z2] at he
            have hj := hW.2.2.1 i q j (by omega) he
            have := hfr j hj
            rw [if_neg (by omega), if_neg (by omega)]
            exact hj
    · refine ⟨Nat.le_trans B.1.2.2.2.1.1 (by rw [f1]; omega), fun q h1 h2 => (fo q (Nat.lt_of_lt_of_le h1 B.1.2.2.2.1.1)).trans (B.1.2.2.2.1.2.1 q h1 h2), B.1.2.2.2.1.2.2⟩
    · have h1 := B.2.1 i hi
      have h2 : (hk i).1 < 1000 := by rw [h1.2]; exact hi
      have h3 := hfr i h2
      dsimp only
      rw [had1 i h3, if_neg (by omega), if_neg (by omega)]
      exact h1
  have kk := kk _ ad' h2 (fun i hi => ⟨had1 i (hfr i hi), by
    have := hfr i hi
    show (if i = nx then _ else if _ then _ else _) = _
    rw [if_neg (by omega), if_neg (by omega)]⟩) (if_pos rfl) T'.heap B'
  rw [had2 nx (by omega), show T.heap.size + (nx - nx) = T.heap.size by omega] at kk
  obtain ⟨t, a1, b1⟩ := W.widen (k := nx + (1 + n.toNatClampNeg) - n0) (n := ns + (n.toNatClampNeg + n.toNatClampNeg * k.toNatClampNeg) - m0) (by omega) (by omega) kk T' rfl X1
  exact ⟨t, step t a1, b1⟩
end XAL
abbrev XU : Type := (Nat → Nat) × HK × Nat × Nat × GI × GR
/-- at the end of a method that makes cells -/
def XPostA (D : va_G) (cA : Nat → ClassId) (a0 : Nat → Nat) (h0 : HK) (n0 sz : Nat) (u : XU) (t : State) : Prop := va_K D clX (g_tys cA) t ∧ va_P D clX (Xw cA u.1 u.2.1 u.2.2.1 u.2.2.2.2.1 u.2.2.2.2.2) t.heap ∧ XW u.2.1 u.2.2.1 u.2.2.2.2.2 ∧ (∀ i, (h0 i).1 < 1000 → u.1 i = a0 i ∧ u.2.1 i = h0 i) ∧ (∀ i, 1000000 ≤ i → u.1 i = a0 i) ∧ (∀ i j, i < u.2.2.1 → j < u.2.2.1 → u.1 i = u.1 j → i = j) ∧ ∀ i, i < u.2.2.1 → XA a0 n0 sz (u.1 i)
/-- a call of a method that makes cells: with the caps it needs, no more -/
def g_cc {T : Type} (f : Nat → Nat → Option T) (nxo nso : T → Nat) (cN cS nx ns : Nat) : Option T := (f cN cS).bind fun q0 => (f (nxo q0) (nso q0)).bind fun q => if nxo q = nxo q0 ∧ nso q = nso q0 ∧ nx ≤ nxo q ∧ ns ≤ nso q ∧ nxo q ≤ cN ∧ nso q ≤ cS then some q else none
theorem g_cc_of {T : Type} {f : Nat → Nat → Option T} {nxo nso : T → Nat} {cN cS nx ns : Nat} {q : T} (h : g_cc f nxo nso cN cS nx ns = some q) : f (nxo q) (nso q) = some q ∧ nx ≤ nxo q ∧ nxo q ≤ cN ∧ ns ≤ nso q ∧ nso q ≤ cS := by
  unfold g_cc at h
  obtain ⟨q0, h1, h⟩ := g_ob h
  obtain ⟨q1, h2, h⟩ := g_ob h
  rcases g_if h with ⟨⟨c1, c2, c3, c4, c5, c6⟩, h⟩ | ⟨_, h⟩
  · cases h
    exact ⟨by rw [c1, c2]; exact h2, c3, c5, c4, c6⟩
  · cases h
section XAST
variable {D : va_G} {cA : Nat → ClassId} {ad : Nat → Nat} {hk : HK} {nx ns cN cS : Nat} {gi : GI} {gr : GR} {l : Launch}
theorem xa_stI {y : MethodName} {own : String} {cc : ByteArray} {nL fr lo : Nat} {av : List Value} {P : Int32 → XU → Prop} (hy : plainName y.cls = true) (hc : y.cls = own) (hn : (lg_sl av).length ≤ nL) (hcap : nx ≤ cN ∧ ns ≤ cS)
    (body : ∀ (p : Program) (e : Env) (s : State) (m : MethodId) (args : Array Value) (below : List Frame) (meth : Method) (c : Code) (R : Room) (Q : State → Prop) (A : Nat → Prop) (ls : Array Slot), CallFix p m c cc nL s args lw_all own → meth.name = y.name → fr ≤ R.frames → lo ≤ R.locals → (R.cells = cN - nx ∧ R.slots = cS - ns) → XBA D cA ad hk nx ns cN cS ad hk nx ns A s gi gr s.heap [] →
      (∀ (v : Int32) (u : XU) (H : Heap) (locs : List Loc) (ls : Array Slot) (pc : Nat), P v u → XBA D cA ad hk nx ns cN cS u.1 u.2.1 u.2.2.1 u.2.2.2.1 A s u.2.2.2.2.1 u.2.2.2.2.2 H locs → decode cc pc = .ok (.ireturn, 1) → W p l e R s m args below meth c H locs (u.2.2.1 - nx) (u.2.2.2.1 - ns) Q (F0 m pc ls [.int v])) → lv_has ls nL (lv_args 0 av) → W p l e R s m args below meth c s.heap [] (nx - nx) (ns - ns) Q (F0 m 0 ls [])) (sz : Nat) :
    Met l y (ws_ y cc nL (some .int)) ({ frames := fr, cells := cN - nx, slots := cS - ns, locals := lo } : Room) (va_Pc av (XPre D cA ad hk nx gi gr sz)) (va_Qi P (XPostA D cA ad hk nx sz) (XA ad nx sz)) (cN - nx) (cS - ns) (XA ad nx sz) := by
  refine Met.ofW (cc := cc) (maxL := nL) (ret := some .int) hy rfl ?_
  intro p e s m args below meth c s₁ B hml hv
  obtain ⟨rfl, hsz, hK, hP, hD, hT⟩ := hv
  have hx := B.exec
  have hb := B.bytes
  have hr := B.returns
  have hts := atoms_spec (ws := ws_ y cc nL (some .int)) B.pre
  have hts : ∀ w ∈ lw_all, w.before _ s = true := fun w h => hts w (List.mem_cons_of_mem _ h)
  have hown : s.vm.findClass own = some m.cls := by rw [← hc]; exact findClass_of_methodNamed B.named
  have hlocks := B.notSynchronized
  have hl := lv_entry av (n := nL) hn
  rw [lg_entry_eq]
  generalize (lg_sl av ++ List.replicate (nL - (lg_sl av).length) Slot.unset).toArray = ls at hl ⊢
  subst hsz
  have hb1 := body p e s m av.toArray below meth c (headSpec (ws_ y cc nL (some .int)) ({ frames := fr, cells := cN - nx, slots := cS - ns, locals := lo } : Room)).room (MQ below (va_Qi P (XPostA D cA ad hk nx s.heap.size) (XA ad nx s.heap.size)) av.toArray s (cN - nx) (cS - ns) (XA ad nx s.heap.size)) (XA ad nx s.heap.size) ls ⟨hx, hb, hml, hown, hts⟩ (name_of_methodNamed B.named B.method).1 (Nat.le_refl _) (Nat.le_refl _) ⟨rfl, rfl⟩ ⟨⟨hK, hP, ⟨⟨⟨hD.1.1, fun i hi => Or.inl ⟨i, hi, rfl⟩⟩, fun q h => Or.inr h⟩, hD.2⟩, va_S.rf, hT⟩, fun _ _ => ⟨rfl, rfl⟩, fun _ _ => rfl, Nat.le_refl _, hcap.1, Nat.le_refl _, hcap.2⟩
  rw [Nat.sub_self, Nat.sub_self] at hb1
  refine hb1 ?_ hl
  · intro v u H locs ls pc hp G hdg
    have gg := G.2.2.2
    refine W.widen (k := cN - nx) (n := cS - ns) (by omega) (by omega) ?_
    exact W.iret hx hb hr (fun t ht hW => ⟨⟨v, u, rfl, hp, va_K.moved hW.alike G.1.1, by rw [ht]; exact G.1.2.1, G.1.2.2.1.2, G.2.1, G.2.2.1, G.1.2.2.1.1.1.1, G.1.2.2.1.1.1.2⟩, G.1.2.2.2.1.F ht⟩) G.1.2.2.2.1.2.2 hdg
theorem xa_stZ {y : MethodName} {own : String} {cc : ByteArray} {nL fr lo : Nat} {av : List Value} {P : Int32 → XU → Prop} (hy : plainName y.cls = true) (hc : y.cls = own) (hn : (lg_sl av).length ≤ nL) (hcap : nx ≤ cN ∧ ns ≤ cS)
    (body : ∀ (p : Program) (e : Env) (s : State) (m : MethodId) (args : Array Value) (below : List Frame) (meth : Method) (c : Code) (R : Room) (Q : State → Prop) (A : Nat → Prop) (ls : Array Slot), CallFix p m c cc nL s args lw_all own → meth.name = y.name → fr ≤ R.frames → lo ≤ R.locals → (R.cells = cN - nx ∧ R.slots = cS - ns) → XBA D cA ad hk nx ns cN cS ad hk nx ns A s gi gr s.heap [] →
      (∀ (v : Int32) (u : XU) (H : Heap) (locs : List Loc) (ls : Array Slot) (pc : Nat), P v u → (v = 0 ∨ v = 1) → XBA D cA ad hk nx ns cN cS u.1 u.2.1 u.2.2.1 u.2.2.2.1 A s u.2.2.2.2.1 u.2.2.2.2.2 H locs → decode cc pc = .ok (.ireturn, 1) → W p l e R s m args below meth c H locs (u.2.2.1 - nx) (u.2.2.2.1 - ns) Q (F0 m pc ls [.int v])) → lv_has ls nL (lv_args 0 av) → W p l e R s m args below meth c s.heap [] (nx - nx) (ns - ns) Q (F0 m 0 ls [])) (sz : Nat) :
    Met l y (ws_ y cc nL (some .boolean)) ({ frames := fr, cells := cN - nx, slots := cS - ns, locals := lo } : Room) (va_Pc av (XPre D cA ad hk nx gi gr sz)) (va_Qi P (XPostA D cA ad hk nx sz) (XA ad nx sz)) (cN - nx) (cS - ns) (XA ad nx sz) := by
  refine Met.ofW (cc := cc) (maxL := nL) (ret := some .boolean) hy rfl ?_
  intro p e s m args below meth c s₁ B hml hv
  obtain ⟨rfl, hsz, hK, hP, hD, hT⟩ := hv
  have hx := B.exec
  have hb := B.bytes
  have hr := B.returns
  have hts := atoms_spec (ws := ws_ y cc nL (some .boolean)) B.pre
  have hts : ∀ w ∈ lw_all, w.before _ s = true := fun w h => hts w (List.mem_cons_of_mem _ h)
  have hown : s.vm.findClass own = some m.cls := by rw [← hc]; exact findClass_of_methodNamed B.named
  have hlocks := B.notSynchronized
  have hl := lv_entry av (n := nL) hn
  rw [lg_entry_eq]
  generalize (lg_sl av ++ List.replicate (nL - (lg_sl av).length) Slot.unset).toArray = ls at hl ⊢
  subst hsz
  have hb1 := body p e s m av.toArray below meth c (headSpec (ws_ y cc nL (some .boolean)) ({ frames := fr, cells := cN - nx, slots := cS - ns, locals := lo } : Room)).room (MQ below (va_Qi P (XPostA D cA ad hk nx s.heap.size) (XA ad nx s.heap.size)) av.toArray s (cN - nx) (cS - ns) (XA ad nx s.heap.size)) (XA ad nx s.heap.size) ls ⟨hx, hb, hml, hown, hts⟩ (name_of_methodNamed B.named B.method).1 (Nat.le_refl _) (Nat.le_refl _) ⟨rfl, rfl⟩ ⟨⟨hK, hP, ⟨⟨⟨hD.1.1, fun i hi => Or.inl ⟨i, hi, rfl⟩⟩, fun q h => Or.inr h⟩, hD.2⟩, va_S.rf, hT⟩, fun _ _ => ⟨rfl, rfl⟩, fun _ _ => rfl, Nat.le_refl _, hcap.1, Nat.le_refl _, hcap.2⟩
  rw [Nat.sub_self, Nat.sub_self] at hb1
  refine hb1 ?_ hl
  · intro v u H locs ls pc hp hz G hdg
    have gg := G.2.2.2
    refine W.widen (k := cN - nx) (n := cS - ns) (by omega) (by omega) ?_
    exact W.zret hx hb hr (by rcases hz with rfl | rfl <;> rfl) (fun t ht hW => ⟨⟨v, u, rfl, hp, va_K.moved hW.alike G.1.1, by rw [ht]; exact G.1.2.1, G.1.2.2.1.2, G.2.1, G.2.2.1, G.1.2.2.1.1.1.1, G.1.2.2.1.1.1.2⟩, G.1.2.2.2.1.F ht⟩) G.1.2.2.2.1.2.2 hdg
theorem xa_stV {y : MethodName} {own : String} {cc : ByteArray} {nL fr lo : Nat} {av : List Value} {P : XU → Prop} (hy : plainName y.cls = true) (hc : y.cls = own) (hn : (lg_sl av).length ≤ nL) (hcap : nx ≤ cN ∧ ns ≤ cS)
    (body : ∀ (p : Program) (e : Env) (s : State) (m : MethodId) (args : Array Value) (below : List Frame) (meth : Method) (c : Code) (R : Room) (Q : State → Prop) (A : Nat → Prop) (ls : Array Slot), CallFix p m c cc nL s args lw_all own → meth.name = y.name → fr ≤ R.frames → lo ≤ R.locals → (R.cells = cN - nx ∧ R.slots = cS - ns) → XBA D cA ad hk nx ns cN cS ad hk nx ns A s gi gr s.heap [] →
      (∀ (u : XU) (H : Heap) (locs : List Loc) (ls : Array Slot) (pc : Nat), P u → XBA D cA ad hk nx ns cN cS u.1 u.2.1 u.2.2.1 u.2.2.2.1 A s u.2.2.2.2.1 u.2.2.2.2.2 H locs → decode cc pc = .ok (.return_, 1) → W p l e R s m args below meth c H locs (u.2.2.1 - nx) (u.2.2.2.1 - ns) Q (F0 m pc ls [])) → lv_has ls nL (lv_args 0 av) → W p l e R s m args below meth c s.heap [] (nx - nx) (ns - ns) Q (F0 m 0 ls [])) (sz : Nat) :
    Met l y (ws_ y cc nL (none)) ({ frames := fr, cells := cN - nx, slots := cS - ns, locals := lo } : Room) (va_Pc av (XPre D cA ad hk nx gi gr sz)) (va_Qv P (XPostA D cA ad hk nx sz) (XA ad nx sz)) (cN - nx) (cS - ns) (XA ad nx sz) := by
  refine Met.ofW (cc := cc) (maxL := nL) (ret := none) hy rfl ?_
  intro p e s m args below meth c s₁ B hml hv
  obtain ⟨rfl, hsz, hK, hP, hD, hT⟩ := hv
  have hx := B.exec
  have hb := B.bytes
  have hr := B.returns
  have hts := atoms_spec (ws := ws_ y cc nL (none)) B.pre
  have hts : ∀ w ∈ lw_all, w.before _ s = true := fun w h => hts w (List.mem_cons_of_mem _ h)
  have hown : s.vm.findClass own = some m.cls := by rw [← hc]; exact findClass_of_methodNamed B.named
  have hlocks := B.notSynchronized
  have hl := lv_entry av (n := nL) hn
  rw [lg_entry_eq]
  generalize (lg_sl av ++ List.replicate (nL - (lg_sl av).length) Slot.unset).toArray = ls at hl ⊢
  subst hsz
  have hb1 := body p e s m av.toArray below meth c (headSpec (ws_ y cc nL (none)) ({ frames := fr, cells := cN - nx, slots := cS - ns, locals := lo } : Room)).room (MQ below (va_Qv P (XPostA D cA ad hk nx s.heap.size) (XA ad nx s.heap.size)) av.toArray s (cN - nx) (cS - ns) (XA ad nx s.heap.size)) (XA ad nx s.heap.size) ls ⟨hx, hb, hml, hown, hts⟩ (name_of_methodNamed B.named B.method).1 (Nat.le_refl _) (Nat.le_refl _) ⟨rfl, rfl⟩ ⟨⟨hK, hP, ⟨⟨⟨hD.1.1, fun i hi => Or.inl ⟨i, hi, rfl⟩⟩, fun q h => Or.inr h⟩, hD.2⟩, va_S.rf, hT⟩, fun _ _ => ⟨rfl, rfl⟩, fun _ _ => rfl, Nat.le_refl _, hcap.1, Nat.le_refl _, hcap.2⟩
  rw [Nat.sub_self, Nat.sub_self] at hb1
  refine hb1 ?_ hl
  · intro u H locs ls pc hp G hdg
    have gg := G.2.2.2
    refine W.widen (k := cN - nx) (n := cS - ns) (by omega) (by omega) ?_
    exact W.vret hx hb hr (fun t ht hW => ⟨⟨u, rfl, hp, va_K.moved hW.alike G.1.1, by rw [ht]; exact G.1.2.1, G.1.2.2.1.2, G.2.1, G.2.2.1, G.1.2.2.1.1.1.1, G.1.2.2.1.1.1.2⟩, G.1.2.2.2.1.F ht⟩) G.1.2.2.2.1.2.2 hdg
theorem xa_stR {y : MethodName} {own : String} {rt : FieldType} (hrt : (∃ n, rt = .object n) ∨ ∃ t, rt = .array t) {cc : ByteArray} {nL fr lo : Nat} {av : List Value} {P : Option Nat → XU → Prop} (hy : plainName y.cls = true) (hc : y.cls = own) (hn : (lg_sl av).length ≤ nL) (hcap : nx ≤ cN ∧ ns ≤ cS)
    (body : ∀ (p : Program) (e : Env) (s : State) (m : MethodId) (args : Array Value) (below : List Frame) (meth : Method) (c : Code) (R : Room) (Q : State → Prop) (A : Nat → Prop) (ls : Array Slot), CallFix p m c cc nL s args lw_all own → meth.name = y.name → fr ≤ R.frames → lo ≤ R.locals → (R.cells = cN - nx ∧ R.slots = cS - ns) → XBA D cA ad hk nx ns cN cS ad hk nx ns A s gi gr s.heap [] →
      (∀ (v : Option Nat) (u : XU) (H : Heap) (locs : List Loc) (ls : Array Slot) (pc : Nat), P v u → XBA D cA ad hk nx ns cN cS u.1 u.2.1 u.2.2.1 u.2.2.2.1 A s u.2.2.2.2.1 u.2.2.2.2.2 H locs → decode cc pc = .ok (.areturn, 1) → W p l e R s m args below meth c H locs (u.2.2.1 - nx) (u.2.2.2.1 - ns) Q (F0 m pc ls [va_rf (v.map u.1)])) → lv_has ls nL (lv_args 0 av) → W p l e R s m args below meth c s.heap [] (nx - nx) (ns - ns) Q (F0 m 0 ls [])) (sz : Nat) :
    Met l y (ws_ y cc nL (some rt)) ({ frames := fr, cells := cN - nx, slots := cS - ns, locals := lo } : Room) (va_Pc av (XPre D cA ad hk nx gi gr sz)) (va_Qq (fun o u => ∃ v : Option Nat, o = v.map u.1 ∧ P v u) (XPostA D cA ad hk nx sz) (XA ad nx sz)) (cN - nx) (cS - ns) (XA ad nx sz) := by
  refine Met.ofW (cc := cc) (maxL := nL) (ret := some rt) hy rfl ?_
  intro p e s m args below meth c s₁ B hml hv
  obtain ⟨rfl, hsz, hK, hP, hD, hT⟩ := hv
  have hx := B.exec
  have hb := B.bytes
  have hr := B.returns
  have hts := atoms_spec (ws := ws_ y cc nL (some rt)) B.pre
  have hts : ∀ w ∈ lw_all, w.before _ s = true := fun w h => hts w (List.mem_cons_of_mem _ h)
  have hown : s.vm.findClass own = some m.cls := by rw [← hc]; exact findClass_of_methodNamed B.named
  have hlocks := B.notSynchronized
  have hl := lv_entry av (n := nL) hn
  rw [lg_entry_eq]
  generalize (lg_sl av ++ List.replicate (nL - (lg_sl av).length) Slot.unset).toArray = ls at hl ⊢
  subst hsz
  have hb1 := body p e s m av.toArray below meth c (headSpec (ws_ y cc nL (some rt)) ({ frames := fr, cells := cN - nx, slots := cS - ns, locals := lo } : Room)).room (MQ below (va_Qq (fun o u => ∃ v : Option Nat, o = v.map u.1 ∧ P v u) (XPostA D cA ad hk nx s.heap.size) (XA ad nx s.heap.size)) av.toArray s (cN - nx) (cS - ns) (XA ad nx s.heap.size)) (XA ad nx s.heap.size) ls ⟨hx, hb, hml, hown, hts⟩ (name_of_methodNamed B.named B.method).1 (Nat.le_refl _) (Nat.le_refl _) ⟨rfl, rfl⟩ ⟨⟨hK, hP, ⟨⟨⟨hD.1.1, fun i hi => Or.inl ⟨i, hi, rfl⟩⟩, fun q h => Or.inr h⟩, hD.2⟩, va_S.rf, hT⟩, fun _ _ => ⟨rfl, rfl⟩, fun _ _ => rfl, Nat.le_refl _, hcap.1, Nat.le_refl _, hcap.2⟩
  rw [Nat.sub_self, Nat.sub_self] at hb1
  refine hb1 ?_ hl
  · intro v u H locs ls pc hp G hdg
    have gg := G.2.2.2
    refine W.widen (k := cN - nx) (n := cS - ns) (by omega) (by omega) ?_
    exact W.aret hx hb hr hrt (va_rf_or _) (fun t ht hW => ⟨⟨_, u, rfl, ⟨v, rfl, hp⟩, va_K.moved hW.alike G.1.1, by rw [ht]; exact G.1.2.1, G.1.2.2.1.2, G.2.1, G.2.2.1, G.1.2.2.1.1.1.1, G.1.2.2.1.1.1.2⟩, G.1.2.2.2.1.F ht⟩) G.1.2.2.2.1.2.2 hdg
end XAST
section XACA
variable {p : Program} {l : Launch} {e : Env} {R : Room} {s : State} {m : MethodId} {args : Array Value} {below : List Frame} {meth : Method} {c : Code} {H : Heap} {locs : List Loc} {Q : State → Prop}
variable {pc : Nat} {ls : Array Slot} {rest : List Value} {cc : ByteArray} {nL : Nat} {D : va_G} {cA : Nat → ClassId} {a0 : Nat → Nat} {h0 : HK} {n0 m0 cN cS : Nat} {ad : Nat → Nat} {hk : HK} {nx ns : Nat} {A : Nat → Prop} {gi : GI} {gr : GR} {own : String} {idx : Nat} {y : MethodName} {bytes : ByteArray} {maxL fr lo n qn qs : Nat} {ret : Option FieldType} {As : List Value}
theorem xa_back {u : XU} {t : State} {H1 : Heap} {locs1 : List Loc} (B : XBA D cA a0 h0 n0 m0 cN cS ad hk nx ns A s gi gr H locs) (hB : XPostA D cA ad hk nx H.size u t) (ht : t.heap = H1) (hq : nx ≤ qn ∧ qn ≤ cN ∧ ns ≤ qs ∧ qs ≤ cS) (hu : u.2.2.1 = qn ∧ u.2.2.2.1 = qs) (hS : va_S A s.heap H1 locs1) : XBA D cA a0 h0 n0 m0 cN cS u.1 u.2.1 u.2.2.1 u.2.2.2.1 A s u.2.2.2.2.1 u.2.2.2.2.2 H1 locs1 := by
  obtain ⟨k1, k2, k3, k4, k5, k6, k7⟩ := hB
  have b := B.2.2.2
  refine ⟨⟨B.1.1, by rw [← ht]; exact k2, ⟨⟨⟨k6, fun i hi => xx_inA B.1 _ (k7 i hi)⟩, B.1.2.2.1.1.2⟩, k3⟩, hS, B.1.2.2.2.2.ext k5⟩, fun i hi => ?_, fun i hi => (k5 i hi).trans (B.2.2.1 i hi), by omega, by omega, by omega, by omega⟩
  have h1 := B.2.1 i hi
  have h2 := k4 i (by rw [h1.2]; exact hi)
  exact ⟨h2.1.trans h1.1, h2.2.trans h1.2⟩
theorem xa_cVI {P : Int32 → XU → Prop} {b ci N : Nat} {Rc : String} {Tc : u_T} {tyc : Nat → FieldType} (X : XC ci Rc Tc tyc N) (hp : (hk b).1 = 10 + ci) (hci : 10 + ci < 100) (C : CallFix p m c cc nL s args lw_all own) (B : XBA D cA a0 h0 n0 m0 cN cS ad hk nx ns A s gi gr H locs) (hRr : R.cells = cN - n0 ∧ R.slots = cS - m0) (hM : ∀ sz, Met l y (ws_ y bytes maxL ret) ({ frames := fr, cells := qn - nx, slots := qs - ns, locals := lo } : Room) (va_Pc (.ref (ad b) :: As) (XPre D cA ad hk nx gi gr sz)) (va_Qi P (XPostA D cA ad hk nx sz) (XA ad nx sz)) (qn - nx) (qs - ns) (XA ad nx sz))
    (h1 : Cond.methodLink own idx y ∈ lw_all) (h2 : Cond.instanceMethod y ∈ lw_all) (h3 : Cond.selects Rc y y ∈ lw_all) (h4 : Cond.initialized Rc ∈ lw_all) (h5 : Cond.code y bytes maxL ret ∈ lw_all) (hy : y.cls = Rc ∧ y.cls ≠ "java/lang/invoke/MethodHandle" ∧ y.cls ≠ "java/lang/invoke/VarHandle" ∧ (parseMethodDescriptor y.desc).map (fun d => d.parameters.length) = some n) (hq : nx ≤ qn ∧ qn ≤ cN ∧ ns ≤ qs ∧ qs ≤ cS) (hPn : ∀ (v : Int32) (u : XU), P v u → u.2.2.1 = qn ∧ u.2.2.2.1 = qs) (hR : fr + 1 ≤ R.frames ∧ 8 + (maxL + 11) + lo ≤ R.locals) (hn : As.length = n) (hs : ls.size = nL) (hw : (rest.map fun v => v.category).sum ≤ 8) (hdg : decode cc pc = .ok (.invokevirtual idx, 3))
    (kk : ∀ (v : Int32) (u : XU) (H' : Heap) (locs' : List Loc), P v u → (∀ i, (hk i).1 < 1000 → u.1 i = ad i ∧ u.2.1 i = hk i) → XBA D cA a0 h0 n0 m0 cN cS u.1 u.2.1 u.2.2.1 u.2.2.2.1 A s u.2.2.2.2.1 u.2.2.2.2.2 H' locs' → W p l e R s m args below meth c H' locs' (u.2.2.1 - n0) (u.2.2.2.1 - m0) Q (F0 m (pc + 3) ls (.int v :: rest))) : W p l e R s m args below meth c H locs (nx - n0) (ns - m0) Q (F0 m pc ls (As.reverse ++ .ref (ad b) :: rest)) := by
  have b := B.2.2.2
  have hz0 : nx - n0 + (qn - nx) ≤ R.cells ∧ ns - m0 + (qs - ns) ≤ R.slots := by omega
  refine va_calli (va_runV (As := As) (rest := rest) C (hM H.size) (cwV n C.2.2.2.2 (lw_V h1 h2 h3 h4 h5) rfl rfl rfl hy hR) ⟨xx_blind, xx_recv B.1 X hp hci, fun U hU hW => xx_pre B.1 U hU hW⟩ rfl hn hs rfl (lv_room hw) hdg hz0) B.1.2.2.2.1 (fun q _ h => xx_inA B.1 q h) (fun q h => xx_inA B.1 q h) (fun v u t H1 locs1 ht hvm hp hB hz hk hS => ?_)
  have e := hPn v u hp
  refine W.widen (k := u.2.2.1 - n0) (n := u.2.2.2.1 - m0) (by omega) (by omega) ?_
  exact kk v u H1 locs1 hp hB.2.2.2.1 (xa_back B hB ht hq e hS)
theorem xa_cSI {P : Int32 → XU → Prop} (C : CallFix p m c cc nL s args lw_all own) (B : XBA D cA a0 h0 n0 m0 cN cS ad hk nx ns A s gi gr H locs) (hRr : R.cells = cN - n0 ∧ R.slots = cS - m0) (hM : ∀ sz, Met l y (ws_ y bytes maxL ret) ({ frames := fr, cells := qn - nx, slots := qs - ns, locals := lo } : Room) (va_Pc (As) (XPre D cA ad hk nx gi gr sz)) (va_Qi P (XPostA D cA ad hk nx sz) (XA ad nx sz)) (qn - nx) (qs - ns) (XA ad nx sz))
    (h1 : Cond.methodLink own idx y ∈ lw_all) (h2 : Cond.static y ∈ lw_all) (h3 : Cond.initialized y.cls ∈ lw_all) (h5 : Cond.code y bytes maxL ret ∈ lw_all) (hy : y.cls ≠ "java/lang/invoke/MethodHandle" ∧ y.cls ≠ "java/lang/invoke/VarHandle" ∧ (parseMethodDescriptor y.desc).map (fun d => d.parameters.length) = some n) (hq : nx ≤ qn ∧ qn ≤ cN ∧ ns ≤ qs ∧ qs ≤ cS) (hPn : ∀ (v : Int32) (u : XU), P v u → u.2.2.1 = qn ∧ u.2.2.2.1 = qs) (hR : fr + 1 ≤ R.frames ∧ 8 + (maxL + 11) + lo ≤ R.locals) (hn : As.length = n) (hs : ls.size = nL) (hw : (rest.map fun v => v.category).sum ≤ 8) (hdg : decode cc pc = .ok (.invokestatic idx, 3))
    (kk : ∀ (v : Int32) (u : XU) (H' : Heap) (locs' : List Loc), P v u → (∀ i, (hk i).1 < 1000 → u.1 i = ad i ∧ u.2.1 i = hk i) → XBA D cA a0 h0 n0 m0 cN cS u.1 u.2.1 u.2.2.1 u.2.2.2.1 A s u.2.2.2.2.1 u.2.2.2.2.2 H' locs' → W p l e R s m args below meth c H' locs' (u.2.2.1 - n0) (u.2.2.2.1 - m0) Q (F0 m (pc + 3) ls (.int v :: rest))) : W p l e R s m args below meth c H locs (nx - n0) (ns - m0) Q (F0 m pc ls (As.reverse ++ rest)) := by
  have b := B.2.2.2
  have hz0 : nx - n0 + (qn - nx) ≤ R.cells ∧ ns - m0 + (qs - ns) ≤ R.slots := by omega
  refine va_calli (va_runS (As := As) (rest := rest) C (hM H.size) (va_cwS n C.2.2.2.2 (lw_S h1 h2 h3 h5) rfl rfl rfl hy hR) ⟨xx_blind, fun U hU hW => xx_pre B.1 U hU hW⟩ rfl hn hs rfl (lv_room hw) hdg hz0) B.1.2.2.2.1 (fun q _ h => xx_inA B.1 q h) (fun q h => xx_inA B.1 q h) (fun v u t H1 locs1 ht hvm hp hB hz hk hS => ?_)
  have e := hPn v u hp
  refine W.widen (k := u.2.2.1 - n0) (n := u.2.2.2.1 - m0) (by omega) (by omega) ?_
  exact kk v u H1 locs1 hp hB.2.2.2.1 (xa_back B hB ht hq e hS)
theorem xa_cUI {P : Int32 → XU → Prop} {b ci N : Nat} {Rc owner : String} {x : MethodName} {Tc : u_T} {tyc : Nat → FieldType} (X : XC ci Rc Tc tyc N) (hp : (hk b).1 = 10 + ci) (hci : 10 + ci < 100) (C : CallFix p m c cc nL s args lw_all own) (B : XBA D cA a0 h0 n0 m0 cN cS ad hk nx ns A s gi gr H locs) (hRr : R.cells = cN - n0 ∧ R.slots = cS - m0) (hM : ∀ sz, Met l y (ws_ y bytes maxL ret) ({ frames := fr, cells := qn - nx, slots := qs - ns, locals := lo } : Room) (va_Pc (.ref (ad b) :: As) (XPre D cA ad hk nx gi gr sz)) (va_Qi P (XPostA D cA ad hk nx sz) (XA ad nx sz)) (qn - nx) (qs - ns) (XA ad nx sz))
    (hcw : va_CU R s args own Rc owner idx x y bytes maxL ret (ws_ y bytes maxL ret) ({ frames := fr, cells := qn - nx, slots := qs - ns, locals := lo } : Room) (qn - nx) (qs - ns) n) (hq : nx ≤ qn ∧ qn ≤ cN ∧ ns ≤ qs ∧ qs ≤ cS) (hPn : ∀ (v : Int32) (u : XU), P v u → u.2.2.1 = qn ∧ u.2.2.2.1 = qs) (hR : fr + 1 ≤ R.frames ∧ 8 + (maxL + 11) + lo ≤ R.locals) (hn : As.length = n) (hs : ls.size = nL) (hw : (rest.map fun v => v.category).sum ≤ 8) (hdg : decode cc pc = .ok (.invokevirtual idx, 3))
    (kk : ∀ (v : Int32) (u : XU) (H' : Heap) (locs' : List Loc), P v u → (∀ i, (hk i).1 < 1000 → u.1 i = ad i ∧ u.2.1 i = hk i) → XBA D cA a0 h0 n0 m0 cN cS u.1 u.2.1 u.2.2.1 u.2.2.2.1 A s u.2.2.2.2.1 u.2.2.2.2.2 H' locs' → W p l e R s m args below meth c H' locs' (u.2.2.1 - n0) (u.2.2.2.1 - m0) Q (F0 m (pc + 3) ls (.int v :: rest))) : W p l e R s m args below meth c H locs (nx - n0) (ns - m0) Q (F0 m pc ls (As.reverse ++ .ref (ad b) :: rest)) := by
  have b := B.2.2.2
  have hz0 : nx - n0 + (qn - nx) ≤ R.cells ∧ ns - m0 + (qs - ns) ≤ R.slots := by omega
  refine va_calli (va_runU (As := As) (rest := rest) C (hM H.size) hcw ⟨xx_blind, xx_recv B.1 X hp hci, fun U hU hW => xx_pre B.1 U hU hW⟩ rfl hn hs rfl (lv_room hw) hdg hz0) B.1.2.2.2.1 (fun q _ h => xx_inA B.1 q h) (fun q h => xx_inA B.1 q h) (fun v u t H1 locs1 ht hvm hp hB hz hk hS => ?_)
  have e := hPn v u hp
  refine W.widen (k := u.2.2.1 - n0) (n := u.2.2.2.1 - m0) (by omega) (by omega) ?_
  exact kk v u H1 locs1 hp hB.2.2.2.1 (xa_back B hB ht hq e hS)
theorem xa_cSUI {P : Int32 → XU → Prop} {b ci N : Nat} {Rc : String} {Tc : u_T} {tyc : Nat → FieldType} (X : XC ci Rc Tc tyc N) (hp : (hk b).1 = 10 + ci) (hci : 10 + ci < 100) (C : CallFix p m c cc nL s args lw_all own) (B : XBA D cA a0 h0 n0 m0 cN cS ad hk nx ns A s gi gr H locs) (hRr : R.cells = cN - n0 ∧ R.slots = cS - m0) (hM : ∀ sz, Met l y (ws_ y bytes maxL ret) ({ frames := fr, cells := qn - nx, slots := qs - ns, locals := lo } : Room) (va_Pc (.ref (ad b) :: As) (XPre D cA ad hk nx gi gr sz)) (va_Qi P (XPostA D cA ad hk nx sz) (XA ad nx sz)) (qn - nx) (qs - ns) (XA ad nx sz))
    (hcw : va_CS R s args own idx y bytes maxL ret (ws_ y bytes maxL ret) ({ frames := fr, cells := qn - nx, slots := qs - ns, locals := lo } : Room) (qn - nx) (qs - ns) n) (hq : nx ≤ qn ∧ qn ≤ cN ∧ ns ≤ qs ∧ qs ≤ cS) (hPn : ∀ (v : Int32) (u : XU), P v u → u.2.2.1 = qn ∧ u.2.2.2.1 = qs) (hR : fr + 1 ≤ R.frames ∧ 8 + (maxL + 11) + lo ≤ R.locals) (hn : As.length = n) (hs : ls.size = nL) (hw : (rest.map fun v => v.category).sum ≤ 8) (hdg : decode cc pc = .ok (.invokespecial idx, 3))
    (kk : ∀ (v : Int32) (u : XU) (H' : Heap) (locs' : List Loc), P v u → (∀ i, (hk i).1 < 1000 → u.1 i = ad i ∧ u.2.1 i = hk i) → XBA D cA a0 h0 n0 m0 cN cS u.1 u.2.1 u.2.2.1 u.2.2.2.1 A s u.2.2.2.2.1 u.2.2.2.2.2 H' locs' → W p l e R s m args below meth c H' locs' (u.2.2.1 - n0) (u.2.2.2.1 - m0) Q (F0 m (pc + 3) ls (.int v :: rest))) : W p l e R s m args below meth c H locs (nx - n0) (ns - m0) Q (F0 m pc ls (As.reverse ++ .ref (ad b) :: rest)) := by
  have b := B.2.2.2
  have hz0 : nx - n0 + (qn - nx) ≤ R.cells ∧ ns - m0 + (qs - ns) ≤ R.slots := by omega
  refine va_calli (va_runSU (As := As) (rest := rest) (B.1.1.1 ci _ X.1).2 C (hM H.size) hcw ⟨xx_blind, xx_recv B.1 X hp hci, fun U hU hW => xx_pre B.1 U hU hW⟩ rfl hn hs rfl (lv_room hw) hdg hz0) B.1.2.2.2.1 (fun q _ h => xx_inA B.1 q h) (fun q h => xx_inA B.1 q h) (fun v u t H1 locs1 ht hvm hp hB hz hk hS => ?_)
  have e := hPn v u hp
  refine W.widen (k := u.2.2.1 - n0) (n := u.2.2.2.1 - m0) (by omega) (by omega) ?_
  exact kk v u H1 locs1 hp hB.2.2.2.1 (xa_back B hB ht hq e hS)
theorem xa_cVV {P : XU → Prop} {b ci N : Nat} {Rc : String} {Tc : u_T} {tyc : Nat → FieldType} (X : XC ci Rc Tc tyc N) (hp : (hk b).1 = 10 + ci) (hci : 10 + ci < 100) (C : CallFix p m c cc nL s args lw_all own) (B : XBA D cA a0 h0 n0 m0 cN cS ad hk nx ns A s gi gr H locs) (hRr : R.cells = cN - n0 ∧ R.slots = cS - m0) (hM : ∀ sz, Met l y (ws_ y bytes maxL ret) ({ frames := fr, cells := qn - nx, slots := qs - ns, locals := lo } : Room) (va_Pc (.ref (ad b) :: As) (XPre D cA ad hk nx gi gr sz)) (va_Qv P (XPostA D cA ad hk nx sz) (XA ad nx sz)) (qn - nx) (qs - ns) (XA ad nx sz))
    (h1 : Cond.methodLink own idx y ∈ lw_all) (h2 : Cond.instanceMethod y ∈ lw_all) (h3 : Cond.selects Rc y y ∈ lw_all) (h4 : Cond.initialized Rc ∈ lw_all) (h5 : Cond.code y bytes maxL ret ∈ lw_all) (hy : y.cls = Rc ∧ y.cls ≠ "java/lang/invoke/MethodHandle" ∧ y.cls ≠ "java/lang/invoke/VarHandle" ∧ (parseMethodDescriptor y.desc).map (fun d => d.parameters.length) = some n) (hq : nx ≤ qn ∧ qn ≤ cN ∧ ns ≤ qs ∧ qs ≤ cS) (hPn : ∀ (u : XU), P u → u.2.2.1 = qn ∧ u.2.2.2.1 = qs) (hR : fr + 1 ≤ R.frames ∧ 8 + (maxL + 11) + lo ≤ R.locals) (hn : As.length = n) (hs : ls.size = nL) (hw : (rest.map fun v => v.category).sum ≤ 8) (hdg : decode cc pc = .ok (.invokevirtual idx, 3))
    (kk : ∀ (u : XU) (H' : Heap) (locs' : List Loc), P u → (∀ i, (hk i).1 < 1000 → u.1 i = ad i ∧ u.2.1 i = hk i) → XBA D cA a0 h0 n0 m0 cN cS u.1 u.2.1 u.2.2.1 u.2.2.2.1 A s u.2.2.2.2.1 u.2.2.2.2.2 H' locs' → W p l e R s m args below meth c H' locs' (u.2.2.1 - n0) (u.2.2.2.1 - m0) Q (F0 m (pc + 3) ls (rest))) : W p l e R s m args below meth c H locs (nx - n0) (ns - m0) Q (F0 m pc ls (As.reverse ++ .ref (ad b) :: rest)) := by
  have b := B.2.2.2
  have hz0 : nx - n0 + (qn - nx) ≤ R.cells ∧ ns - m0 + (qs - ns) ≤ R.slots := by omega
  refine va_callv (va_runV (As := As) (rest := rest) C (hM H.size) (cwV n C.2.2.2.2 (lw_V h1 h2 h3 h4 h5) rfl rfl rfl hy hR) ⟨xx_blind, xx_recv B.1 X hp hci, fun U hU hW => xx_pre B.1 U hU hW⟩ rfl hn hs rfl (lv_room hw) hdg hz0) B.1.2.2.2.1 (fun q _ h => xx_inA B.1 q h) (fun q h => xx_inA B.1 q h) (fun u t H1 locs1 ht hvm hp hB hz hk hS => ?_)
  have e := hPn u hp
  refine W.widen (k := u.2.2.1 - n0) (n := u.2.2.2.1 - m0) (by omega) (by omega) ?_
  exact kk u H1 locs1 hp hB.2.2.2.1 (xa_back B hB ht hq e hS)
theorem xa_cSV {P : XU → Prop} (C : CallFix p m c cc nL s args lw_all own) (B : XBA D cA a0 h0 n0 m0 cN cS ad hk nx ns A s gi gr H locs) (hRr : R.cells = cN - n0 ∧ R.slots = cS - m0) (hM : ∀ sz, Met l y (ws_ y bytes maxL ret) ({ frames := fr, cells := qn - nx, slots := qs - ns, locals := lo } : Room) (va_Pc (As) (XPre D cA ad hk nx gi gr sz)) (va_Qv P (XPostA D cA ad hk nx sz) (XA ad nx sz)) (qn - nx) (qs - ns) (XA ad nx sz))
    (h1 : Cond.methodLink own idx y ∈ lw_all) (h2 : Cond.static y ∈ lw_all) (h3 : Cond.initialized y.cls ∈ lw_all) (h5 : Cond.code y bytes maxL ret ∈ lw_all) (hy : y.cls ≠ "java/lang/invoke/MethodHandle" ∧ y.cls ≠ "java/lang/invoke/VarHandle" ∧ (parseMethodDescriptor y.desc).map (fun d => d.parameters.length) = some n) (hq : nx ≤ qn ∧ qn ≤ cN ∧ ns ≤ qs ∧ qs ≤ cS) (hPn : ∀ (u : XU), P u → u.2.2.1 = qn ∧ u.2.2.2.1 = qs) (hR : fr + 1 ≤ R.frames ∧ 8 + (maxL + 11) + lo ≤ R.locals) (hn : As.length = n) (hs : ls.size = nL) (hw : (rest.map fun v => v.category).sum ≤ 8) (hdg : decode cc pc = .ok (.invokestatic idx, 3))
    (kk : ∀ (u : XU) (H' : Heap) (locs' : List Loc), P u → (∀ i, (hk i).1 < 1000 → u.1 i = ad i ∧ u.2.1 i = hk i) → XBA D cA a0 h0 n0 m0 cN cS u.1 u.2.1 u.2.2.1 u.2.2.2.1 A s u.2.2.2.2.1 u.2.2.2.2.2 H' locs' → W p l e R s m args below meth c H' locs' (u.2.2.1 - n0) (u.2.2.2.1 - m0) Q (F0 m (pc + 3) ls (rest))) : W p l e R s m args below meth c H locs (nx - n0) (ns - m0) Q (F0 m pc ls (As.reverse ++ rest)) := by
  have b := B.2.2.2
  have hz0 : nx - n0 + (qn - nx) ≤ R.cells ∧ ns - m0 + (qs - ns) ≤ R.slots := by omega
  refine va_callv (va_runS (As := As) (rest := rest) C (hM H.size) (va_cwS n C.2.2.2.2 (lw_S h1 h2 h3 h5) rfl rfl rfl hy hR) ⟨xx_blind, fun U hU hW => xx_pre B.1 U hU hW⟩ rfl hn hs rfl (lv_room hw) hdg hz0) B.1.2.2.2.1 (fun q _ h => xx_inA B.1 q h) (fun q h => xx_inA B.1 q h) (fun u t H1 locs1 ht hvm hp hB hz hk hS => ?_)
  have e := hPn u hp
  refine W.widen (k := u.2.2.1 - n0) (n := u.2.2.2.1 - m0) (by omega) (by omega) ?_
  exact kk u H1 locs1 hp hB.2.2.2.1 (xa_back B hB ht hq e hS)
theorem xa_cIV {P : XU → Prop} {b : Nat} (C : CallFix p m c cc nL s args lw_all own) (B : XBA D cA a0 h0 n0 m0 cN cS ad hk nx ns A s gi gr H locs) (hRr : R.cells = cN - n0 ∧ R.slots = cS - m0) (hM : ∀ sz, Met l y (ws_ y bytes maxL none) ({ frames := fr, cells := qn - nx, slots := qs - ns, locals := lo } : Room) (va_Pc (.ref (ad b) :: As) (XPre D cA ad hk nx gi gr sz)) (va_Qv P (XPostA D cA ad hk nx sz) (XA ad nx sz)) (qn - nx) (qs - ns) (XA ad nx sz))
    (h1 : Cond.methodLink own idx y ∈ lw_all) (h2 : Cond.instanceMethod y ∈ lw_all) (h4 : Cond.initialized y.cls ∈ lw_all) (h5 : Cond.code y bytes maxL none ∈ lw_all) (hyn : y.name = "<init>") (hy : y.cls ≠ "java/lang/invoke/MethodHandle" ∧ y.cls ≠ "java/lang/invoke/VarHandle" ∧ (parseMethodDescriptor y.desc).map (fun d => d.parameters.length) = some n) (hq : nx ≤ qn ∧ qn ≤ cN ∧ ns ≤ qs ∧ qs ≤ cS) (hPn : ∀ (u : XU), P u → u.2.2.1 = qn ∧ u.2.2.2.1 = qs) (hR : fr + 1 ≤ R.frames ∧ 8 + (maxL + 11) + lo ≤ R.locals) (hn : As.length = n) (hs : ls.size = nL) (hw : (rest.map fun v => v.category).sum ≤ 8) (hdg : decode cc pc = .ok (.invokespecial idx, 3))
    (kk : ∀ (u : XU) (H' : Heap) (locs' : List Loc), P u → (∀ i, (hk i).1 < 1000 → u.1 i = ad i ∧ u.2.1 i = hk i) → XBA D cA a0 h0 n0 m0 cN cS u.1 u.2.1 u.2.2.1 u.2.2.2.1 A s u.2.2.2.2.1 u.2.2.2.2.2 H' locs' → W p l e R s m args below meth c H' locs' (u.2.2.1 - n0) (u.2.2.2.1 - m0) Q (F0 m (pc + 3) ls (rest))) : W p l e R s m args below meth c H locs (nx - n0) (ns - m0) Q (F0 m pc ls (As.reverse ++ .ref (ad b) :: rest)) := by
  have b := B.2.2.2
  have hz0 : nx - n0 + (qn - nx) ≤ R.cells ∧ ns - m0 + (qs - ns) ≤ R.slots := by omega
  refine va_callv (va_runI (As := As) (rest := rest) C (hM H.size) (cwI n C.2.2.2.2 (lw_meth h5) rfl rfl rfl (C.2.2.2.2 _ h4) (C.2.2.2.2 _ h1) (C.2.2.2.2 _ h2) hyn hy hR) ⟨xx_blind, fun U hU hW => xx_pre B.1 U hU hW⟩ rfl hn hs rfl (lv_room hw) hdg hz0) B.1.2.2.2.1 (fun q _ h => xx_inA B.1 q h) (fun q h => xx_inA B.1 q h) (fun u t H1 locs1 ht hvm hp hB hz hk hS => ?_)
  have e := hPn u hp
  refine W.widen (k := u.2.2.1 - n0) (n := u.2.2.2.1 - m0) (by omega) (by omega) ?_
  exact kk u H1 locs1 hp hB.2.2.2.1 (xa_back B hB ht hq e hS)
theorem xa_cINV {P : XU → Prop} {b : Nat} {host : String} (C : CallFix p m c cc nL s args lw_all own) (B : XBA D cA a0 h0 n0 m0 cN cS ad hk nx ns A s gi gr H locs) (hRr : R.cells = cN - n0 ∧ R.slots = cS - m0) (hM : ∀ sz, Met l y (ws_ y bytes maxL none) ({ frames := fr, cells := qn - nx, slots := qs - ns, locals := lo } : Room) (va_Pc (.ref (ad b) :: As) (XPre D cA ad hk nx gi gr sz)) (va_Qv P (XPostA D cA ad hk nx sz) (XA ad nx sz)) (qn - nx) (qs - ns) (XA ad nx sz))
    (h1 : Cond.methodLinkNest own idx y host ∈ nwX) (h2 : Cond.instanceMethod y ∈ lw_all) (h4 : Cond.initialized y.cls ∈ lw_all) (h5 : Cond.code y bytes maxL none ∈ lw_all) (hyn : y.name = "<init>") (hy : y.cls ≠ "java/lang/invoke/MethodHandle" ∧ y.cls ≠ "java/lang/invoke/VarHandle" ∧ (parseMethodDescriptor y.desc).map (fun d => d.parameters.length) = some n) (hq : nx ≤ qn ∧ qn ≤ cN ∧ ns ≤ qs ∧ qs ≤ cS) (hPn : ∀ (u : XU), P u → u.2.2.1 = qn ∧ u.2.2.2.1 = qs) (hR : fr + 1 ≤ R.frames ∧ 8 + (maxL + 11) + lo ≤ R.locals) (hn : As.length = n) (hs : ls.size = nL) (hw : (rest.map fun v => v.category).sum ≤ 8) (hdg : decode cc pc = .ok (.invokespecial idx, 3))
    (kk : ∀ (u : XU) (H' : Heap) (locs' : List Loc), P u → (∀ i, (hk i).1 < 1000 → u.1 i = ad i ∧ u.2.1 i = hk i) → XBA D cA a0 h0 n0 m0 cN cS u.1 u.2.1 u.2.2.1 u.2.2.2.1 A s u.2.2.2.2.1 u.2.2.2.2.2 H' locs' → W p l e R s m args below meth c H' locs' (u.2.2.1 - n0) (u.2.2.2.1 - m0) Q (F0 m (pc + 3) ls (rest))) : W p l e R s m args below meth c H locs (nx - n0) (ns - m0) Q (F0 m pc ls (As.reverse ++ .ref (ad b) :: rest)) := by
  have b := B.2.2.2
  have hz0 : nx - n0 + (qn - nx) ≤ R.cells ∧ ns - m0 + (qs - ns) ≤ R.slots := by omega
  refine va_callv (va_runIN (As := As) (rest := rest) C (hM H.size) ⟨va_cnB n C.2.2.2.2 (lw_meth h5) rfl rfl rfl (B.1.2.2.2.2.1 _ h1) (C.2.2.2.2 _ h4) hy hR, hyn, C.2.2.2.2 _ h2⟩ ⟨xx_blind, fun U hU hW => xx_pre B.1 U hU hW⟩ rfl hn hs rfl (lv_room hw) hdg hz0) B.1.2.2.2.1 (fun q _ h => xx_inA B.1 q h) (fun q h => xx_inA B.1 q h) (fun u t H1 locs1 ht hvm hp hB hz hk hS => ?_)
  have e := hPn u hp
  refine W.widen (k := u.2.2.1 - n0) (n := u.2.2.2.1 - m0) (by omega) (by omega) ?_
  exact kk u H1 locs1 hp hB.2.2.2.1 (xa_back B hB ht hq e hS)
theorem xa_cUV {P : XU → Prop} {b ci N : Nat} {Rc owner : String} {x : MethodName} {Tc : u_T} {tyc : Nat → FieldType} (X : XC ci Rc Tc tyc N) (hp : (hk b).1 = 10 + ci) (hci : 10 + ci < 100) (C : CallFix p m c cc nL s args lw_all own) (B : XBA D cA a0 h0 n0 m0 cN cS ad hk nx ns A s gi gr H locs) (hRr : R.cells = cN - n0 ∧ R.slots = cS - m0) (hM : ∀ sz, Met l y (ws_ y bytes maxL ret) ({ frames := fr, cells := qn - nx, slots := qs - ns, locals := lo } : Room) (va_Pc (.ref (ad b) :: As) (XPre D cA ad hk nx gi gr sz)) (va_Qv P (XPostA D cA ad hk nx sz) (XA ad nx sz)) (qn - nx) (qs - ns) (XA ad nx sz))
    (hcw : va_CU R s args own Rc owner idx x y bytes maxL ret (ws_ y bytes maxL ret) ({ frames := fr, cells := qn - nx, slots := qs - ns, locals := lo } : Room) (qn - nx) (qs - ns) n) (hq : nx ≤ qn ∧ qn ≤ cN ∧ ns ≤ qs ∧ qs ≤ cS) (hPn : ∀ (u : XU), P u → u.2.2.1 = qn ∧ u.2.2.2.1 = qs) (hR : fr + 1 ≤ R.frames ∧ 8 + (maxL + 11) + lo ≤ R.locals) (hn : As.length = n) (hs : ls.size = nL) (hw : (rest.map fun v => v.category).sum ≤ 8) (hdg : decode cc pc = .ok (.invokevirtual idx, 3))
    (kk : ∀ (u : XU) (H' : Heap) (locs' : List Loc), P u → (∀ i, (hk i).1 < 1000 → u.1 i = ad i ∧ u.2.1 i = hk i) → XBA D cA a0 h0 n0 m0 cN cS u.1 u.2.1 u.2.2.1 u.2.2.2.1 A s u.2.2.2.2.1 u.2.2.2.2.2 H' locs' → W p l e R s m args below meth c H' locs' (u.2.2.1 - n0) (u.2.2.2.1 - m0) Q (F0 m (pc + 3) ls (rest))) : W p l e R s m args below meth c H locs (nx - n0) (ns - m0) Q (F0 m pc ls (As.reverse ++ .ref (ad b) :: rest)) := by
  have b := B.2.2.2
  have hz0 : nx - n0 + (qn - nx) ≤ R.cells ∧ ns - m0 + (qs - ns) ≤ R.slots := by omega
  refine va_callv (va_runU (As := As) (rest := rest) C (hM H.size) hcw ⟨xx_blind, xx_recv B.1 X hp hci, fun U hU hW => xx_pre B.1 U hU hW⟩ rfl hn hs rfl (lv_room hw) hdg hz0) B.1.2.2.2.1 (fun q _ h => xx_inA B.1 q h) (fun q h => xx_inA B.1 q h) (fun u t H1 locs1 ht hvm hp hB hz hk hS => ?_)
  have e := hPn u hp
  refine W.widen (k := u.2.2.1 - n0) (n := u.2.2.2.1 - m0) (by omega) (by omega) ?_
  exact kk u H1 locs1 hp hB.2.2.2.1 (xa_back B hB ht hq e hS)
theorem xa_cSUV {P : XU → Prop} {b ci N : Nat} {Rc : String} {Tc : u_T} {tyc : Nat → FieldType} (X : XC ci Rc Tc tyc N) (hp : (hk b).1 = 10 + ci) (hci : 10 + ci < 100) (C : CallFix p m c cc nL s args lw_all own) (B : XBA D cA a0 h0 n0 m0 cN cS ad hk nx ns A s gi gr H locs) (hRr : R.cells = cN - n0 ∧ R.slots = cS - m0) (hM : ∀ sz, Met l y (ws_ y bytes maxL ret) ({ frames := fr, cells := qn - nx, slots := qs - ns, locals := lo } : Room) (va_Pc (.ref (ad b) :: As) (XPre D cA ad hk nx gi gr sz)) (va_Qv P (XPostA D cA ad hk nx sz) (XA ad nx sz)) (qn - nx) (qs - ns) (XA ad nx sz))
    (hcw : va_CS R s args own idx y bytes maxL ret (ws_ y bytes maxL ret) ({ frames := fr, cells := qn - nx, slots := qs - ns, locals := lo } : Room) (qn - nx) (qs - ns) n) (hq : nx ≤ qn ∧ qn ≤ cN ∧ ns ≤ qs ∧ qs ≤ cS) (hPn : ∀ (u : XU), P u → u.2.2.1 = qn ∧ u.2.2.2.1 = qs) (hR : fr + 1 ≤ R.frames ∧ 8 + (maxL + 11) + lo ≤ R.locals) (hn : As.length = n) (hs : ls.size = nL) (hw : (rest.map fun v => v.category).sum ≤ 8) (hdg : decode cc pc = .ok (.invokespecial idx, 3))
    (kk : ∀ (u : XU) (H' : Heap) (locs' : List Loc), P u → (∀ i, (hk i).1 < 1000 → u.1 i = ad i ∧ u.2.1 i = hk i) → XBA D cA a0 h0 n0 m0 cN cS u.1 u.2.1 u.2.2.1 u.2.2.2.1 A s u.2.2.2.2.1 u.2.2.2.2.2 H' locs' → W p l e R s m args below meth c H' locs' (u.2.2.1 - n0) (u.2.2.2.1 - m0) Q (F0 m (pc + 3) ls (rest))) : W p l e R s m args below meth c H locs (nx - n0) (ns - m0) Q (F0 m pc ls (As.reverse ++ .ref (ad b) :: rest)) := by
  have b := B.2.2.2
  have hz0 : nx - n0 + (qn - nx) ≤ R.cells ∧ ns - m0 + (qs - ns) ≤ R.slots := by omega
  refine va_callv (va_runSU (As := As) (rest := rest) (B.1.1.1 ci _ X.1).2 C (hM H.size) hcw ⟨xx_blind, xx_recv B.1 X hp hci, fun U hU hW => xx_pre B.1 U hU hW⟩ rfl hn hs rfl (lv_room hw) hdg hz0) B.1.2.2.2.1 (fun q _ h => xx_inA B.1 q h) (fun q h => xx_inA B.1 q h) (fun u t H1 locs1 ht hvm hp hB hz hk hS => ?_)
  have e := hPn u hp
  refine W.widen (k := u.2.2.1 - n0) (n := u.2.2.2.1 - m0) (by omega) (by omega) ?_
  exact kk u H1 locs1 hp hB.2.2.2.1 (xa_back B hB ht hq e hS)
theorem xa_cVR {P : Option Nat → XU → Prop} {b ci N : Nat} {Rc : String} {Tc : u_T} {tyc : Nat → FieldType} (X : XC ci Rc Tc tyc N) (hp : (hk b).1 = 10 + ci) (hci : 10 + ci < 100) (C : CallFix p m c cc nL s args lw_all own) (B : XBA D cA a0 h0 n0 m0 cN cS ad hk nx ns A s gi gr H locs) (hRr : R.cells = cN - n0 ∧ R.slots = cS - m0) (hM : ∀ sz, Met l y (ws_ y bytes maxL ret) ({ frames := fr, cells := qn - nx, slots := qs - ns, locals := lo } : Room) (va_Pc (.ref (ad b) :: As) (XPre D cA ad hk nx gi gr sz)) (va_Qq (fun o u => ∃ v : Option Nat, o = v.map u.1 ∧ P v u) (XPostA D cA ad hk nx sz) (XA ad nx sz)) (qn - nx) (qs - ns) (XA ad nx sz))
    (h1 : Cond.methodLink own idx y ∈ lw_all) (h2 : Cond.instanceMethod y ∈ lw_all) (h3 : Cond.selects Rc y y ∈ lw_all) (h4 : Cond.initialized Rc ∈ lw_all) (h5 : Cond.code y bytes maxL ret ∈ lw_all) (hy : y.cls = Rc ∧ y.cls ≠ "java/lang/invoke/MethodHandle" ∧ y.cls ≠ "java/lang/invoke/VarHandle" ∧ (parseMethodDescriptor y.desc).map (fun d => d.parameters.length) = some n) (hq : nx ≤ qn ∧ qn ≤ cN ∧ ns ≤ qs ∧ qs ≤ cS) (hPn : ∀ (v : Option Nat) (u : XU), P v u → u.2.2.1 = qn ∧ u.2.2.2.1 = qs) (hR : fr + 1 ≤ R.frames ∧ 8 + (maxL + 11) + lo ≤ R.locals) (hn : As.length = n) (hs : ls.size = nL) (hw : (rest.map fun v => v.category).sum ≤ 8) (hdg : decode cc pc = .ok (.invokevirtual idx, 3))
    (kk : ∀ (v : Option Nat) (u : XU) (H' : Heap) (locs' : List Loc), P v u → (∀ i, (hk i).1 < 1000 → u.1 i = ad i ∧ u.2.1 i = hk i) → XBA D cA a0 h0 n0 m0 cN cS u.1 u.2.1 u.2.2.1 u.2.2.2.1 A s u.2.2.2.2.1 u.2.2.2.2.2 H' locs' → W p l e R s m args below meth c H' locs' (u.2.2.1 - n0) (u.2.2.2.1 - m0) Q (F0 m (pc + 3) ls (va_rf (v.map u.1) :: rest))) : W p l e R s m args below meth c H locs (nx - n0) (ns - m0) Q (F0 m pc ls (As.reverse ++ .ref (ad b) :: rest)) := by
  have b := B.2.2.2
  have hz0 : nx - n0 + (qn - nx) ≤ R.cells ∧ ns - m0 + (qs - ns) ≤ R.slots := by omega
  refine va_callq (va_runV (As := As) (rest := rest) C (hM H.size) (cwV n C.2.2.2.2 (lw_V h1 h2 h3 h4 h5) rfl rfl rfl hy hR) ⟨xx_blind, xx_recv B.1 X hp hci, fun U hU hW => xx_pre B.1 U hU hW⟩ rfl hn hs rfl (lv_room hw) hdg hz0) B.1.2.2.2.1 (fun q _ h => xx_inA B.1 q h) (fun q h => xx_inA B.1 q h) (fun v u t H1 locs1 ht hvm hp hB hz hk hS => ?_)
  obtain ⟨v, rfl, hp⟩ := hp
  have e := hPn v u hp
  refine W.widen (k := u.2.2.1 - n0) (n := u.2.2.2.1 - m0) (by omega) (by omega) ?_
  exact kk v u H1 locs1 hp hB.2.2.2.1 (xa_back B hB ht hq e hS)
theorem xa_cSR {P : Option Nat → XU → Prop} (C : CallFix p m c cc nL s args lw_all own) (B : XBA D cA a0 h0 n0 m0 cN cS ad hk nx ns A s gi gr H locs) (hRr : R.cells = cN - n0 ∧ R.slots = cS - m0) (hM : ∀ sz, Met l y (ws_ y bytes maxL ret) ({ frames := fr, cells := qn - nx, slots := qs - ns, locals := lo } : Room) (va_Pc (As) (XPre D cA ad hk nx gi gr sz)) (va_Qq (fun o u => ∃ v : Option Nat, o = v.map u.1 ∧ P v u) (XPostA D cA ad hk nx sz) (XA ad nx sz)) (qn - nx) (qs - ns) (XA ad nx sz))
    (h1 : Cond.methodLink own idx y ∈ lw_all) (h2 : Cond.static y ∈ lw_all) (h3 : Cond.initialized y.cls ∈ lw_all) (h5 : Cond.code y bytes maxL ret ∈ lw_all) (hy : y.cls ≠ "java/lang/invoke/MethodHandle" ∧ y.cls ≠ "java/lang/invoke/VarHandle" ∧ (parseMethodDescriptor y.desc).map (fun d => d.parameters.length) = some n) (hq : nx ≤ qn ∧ qn ≤ cN ∧ ns ≤ qs ∧ qs ≤ cS) (hPn : ∀ (v : Option Nat) (u : XU), P v u → u.2.2.1 = qn ∧ u.2.2.2.1 = qs) (hR : fr + 1 ≤ R.frames ∧ 8 + (maxL + 11) + lo ≤ R.locals) (hn : As.length = n) (hs : ls.size = nL) (hw : (rest.map fun v => v.category).sum ≤ 8) (hdg : decode cc pc = .ok (.invokestatic idx, 3))
    (kk : ∀ (v : Option Nat) (u : XU) (H' : Heap) (locs' : List Loc), P v u → (∀ i, (hk i).1 < 1000 → u.1 i = ad i ∧ u.2.1 i = hk i) → XBA D cA a0 h0 n0 m0 cN cS u.1 u.2.1 u.2.2.1 u.2.2.2.1 A s u.2.2.2.2.1 u.2.2.2.2.2 H' locs' → W p l e R s m args below meth c H' locs' (u.2.2.1 - n0) (u.2.2.2.1 - m0) Q (F0 m (pc + 3) ls (va_rf (v.map u.1) :: rest))) : W p l e R s m args below meth c H locs (nx - n0) (ns - m0) Q (F0 m pc ls (As.reverse ++ rest)) := by
  have b := B.2.2.2
  have hz0 : nx - n0 + (qn - nx) ≤ R.cells ∧ ns - m0 + (qs - ns) ≤ R.slots := by omega
  refine va_callq (va_runS (As := As) (rest := rest) C (hM H.size) (va_cwS n C.2.2.2.2 (lw_S h1 h2 h3 h5) rfl rfl rfl hy hR) ⟨xx_blind, fun U hU hW => xx_pre B.1 U hU hW⟩ rfl hn hs rfl (lv_room hw) hdg hz0) B.1.2.2.2.1 (fun q _ h => xx_inA B.1 q h) (fun q h => xx_inA B.1 q h) (fun v u t H1 locs1 ht hvm hp hB hz hk hS => ?_)
  obtain ⟨v, rfl, hp⟩ := hp
  have e := hPn v u hp
  refine W.widen (k := u.2.2.1 - n0) (n := u.2.2.2.1 - m0) (by omega) (by omega) ?_
  exact kk v u H1 locs1 hp hB.2.2.2.1 (xa_back B hB ht hq e hS)
theorem xa_cUR {P : Option Nat → XU → Prop} {b ci N : Nat} {Rc owner : String} {x : MethodName} {Tc : u_T} {tyc : Nat → FieldType} (X : XC ci Rc Tc tyc N) (hp : (hk b).1 = 10 + ci) (hci : 10 + ci < 100) (C : CallFix p m c cc nL s args lw_all own) (B : XBA D cA a0 h0 n0 m0 cN cS ad hk nx ns A s gi gr H locs) (hRr : R.cells = cN - n0 ∧ R.slots = cS - m0) (hM : ∀ sz, Met l y (ws_ y bytes maxL ret) ({ frames := fr, cells := qn - nx, slots := qs - ns, locals := lo } : Room) (va_Pc (.ref (ad b) :: As) (XPre D cA ad hk nx gi gr sz)) (va_Qq (fun o u => ∃ v : Option Nat, o = v.map u.1 ∧ P v u) (XPostA D cA ad hk nx sz) (XA ad nx sz)) (qn - nx) (qs - ns) (XA ad nx sz))
    (hcw : va_CU R s args own Rc owner idx x y bytes maxL ret (ws_ y bytes maxL ret) ({ frames := fr, cells := qn - nx, slots := qs - ns, locals := lo } : Room) (qn - nx) (qs - ns) n) (hq : nx ≤ qn ∧ qn ≤ cN ∧ ns ≤ qs ∧ qs ≤ cS) (hPn : ∀ (v : Option Nat) (u : XU), P v u → u.2.2.1 = qn ∧ u.2.2.2.1 = qs) (hR : fr + 1 ≤ R.frames ∧ 8 + (maxL + 11) + lo ≤ R.locals) (hn : As.length = n) (hs : ls.size = nL) (hw : (rest.map fun v => v.category).sum ≤ 8) (hdg : decode cc pc = .ok (.invokevirtual idx, 3))
    (kk : ∀ (v : Option Nat) (u : XU) (H' : Heap) (locs' : List Loc), P v u → (∀ i, (hk i).1 < 1000 → u.1 i = ad i ∧ u.2.1 i = hk i) → XBA D cA a0 h0 n0 m0 cN cS u.1 u.2.1 u.2.2.1 u.2.2.2.1 A s u.2.2.2.2.1 u.2.2.2.2.2 H' locs' → W p l e R s m args below meth c H' locs' (u.2.2.1 - n0) (u.2.2.2.1 - m0) Q (F0 m (pc + 3) ls (va_rf (v.map u.1) :: rest))) : W p l e R s m args below meth c H locs (nx - n0) (ns - m0) Q (F0 m pc ls (As.reverse ++ .ref (ad b) :: rest)) := by
  have b := B.2.2.2
  have hz0 : nx - n0 + (qn - nx) ≤ R.cells ∧ ns - m0 + (qs - ns) ≤ R.slots := by omega
  refine va_callq (va_runU (As := As) (rest := rest) C (hM H.size) hcw ⟨xx_blind, xx_recv B.1 X hp hci, fun U hU hW => xx_pre B.1 U hU hW⟩ rfl hn hs rfl (lv_room hw) hdg hz0) B.1.2.2.2.1 (fun q _ h => xx_inA B.1 q h) (fun q h => xx_inA B.1 q h) (fun v u t H1 locs1 ht hvm hp hB hz hk hS => ?_)
  obtain ⟨v, rfl, hp⟩ := hp
  have e := hPn v u hp
  refine W.widen (k := u.2.2.1 - n0) (n := u.2.2.2.1 - m0) (by omega) (by omega) ?_
  exact kk v u H1 locs1 hp hB.2.2.2.1 (xa_back B hB ht hq e hS)
theorem xa_cSUR {P : Option Nat → XU → Prop} {b ci N : Nat} {Rc : String} {Tc : u_T} {tyc : Nat → FieldType} (X : XC ci Rc Tc tyc N) (hp : (hk b).1 = 10 + ci) (hci : 10 + ci < 100) (C : CallFix p m c cc nL s args lw_all own) (B : XBA D cA a0 h0 n0 m0 cN cS ad hk nx ns A s gi gr H locs) (hRr : R.cells = cN - n0 ∧ R.slots = cS - m0) (hM : ∀ sz, Met l y (ws_ y bytes maxL ret) ({ frames := fr, cells := qn - nx, slots := qs - ns, locals := lo } : Room) (va_Pc (.ref (ad b) :: As) (XPre D cA ad hk nx gi gr sz)) (va_Qq (fun o u => ∃ v : Option Nat, o = v.map u.1 ∧ P v u) (XPostA D cA ad hk nx sz) (XA ad nx sz)) (qn - nx) (qs - ns) (XA ad nx sz))
    (hcw : va_CS R s args own idx y bytes maxL ret (ws_ y bytes maxL ret) ({ frames := fr, cells := qn - nx, slots := qs - ns, locals := lo } : Room) (qn - nx) (qs - ns) n) (hq : nx ≤ qn ∧ qn ≤ cN ∧ ns ≤ qs ∧ qs ≤ cS) (hPn : ∀ (v : Option Nat) (u : XU), P v u → u.2.2.1 = qn ∧ u.2.2.2.1 = qs) (hR : fr + 1 ≤ R.frames ∧ 8 + (maxL + 11) + lo ≤ R.locals) (hn : As.length = n) (hs : ls.size = nL) (hw : (rest.map fun v => v.category).sum ≤ 8) (hdg : decode cc pc = .ok (.invokespecial idx, 3))
    (kk : ∀ (v : Option Nat) (u : XU) (H' : Heap) (locs' : List Loc), P v u → (∀ i, (hk i).1 < 1000 → u.1 i = ad i ∧ u.2.1 i = hk i) → XBA D cA a0 h0 n0 m0 cN cS u.1 u.2.1 u.2.2.1 u.2.2.2.1 A s u.2.2.2.2.1 u.2.2.2.2.2 H' locs' → W p l e R s m args below meth c H' locs' (u.2.2.1 - n0) (u.2.2.2.1 - m0) Q (F0 m (pc + 3) ls (va_rf (v.map u.1) :: rest))) : W p l e R s m args below meth c H locs (nx - n0) (ns - m0) Q (F0 m pc ls (As.reverse ++ .ref (ad b) :: rest)) := by
  have b := B.2.2.2
  have hz0 : nx - n0 + (qn - nx) ≤ R.cells ∧ ns - m0 + (qs - ns) ≤ R.slots := by omega
  refine va_callq (va_runSU (As := As) (rest := rest) (B.1.1.1 ci _ X.1).2 C (hM H.size) hcw ⟨xx_blind, xx_recv B.1 X hp hci, fun U hU hW => xx_pre B.1 U hU hW⟩ rfl hn hs rfl (lv_room hw) hdg hz0) B.1.2.2.2.1 (fun q _ h => xx_inA B.1 q h) (fun q h => xx_inA B.1 q h) (fun v u t H1 locs1 ht hvm hp hB hz hk hS => ?_)
  obtain ⟨v, rfl, hp⟩ := hp
  have e := hPn v u hp
  refine W.widen (k := u.2.2.1 - n0) (n := u.2.2.2.1 - m0) (by omega) (by omega) ?_
  exact kk v u H1 locs1 hp hB.2.2.2.1 (xa_back B hB ht hq e hS)
end XACA

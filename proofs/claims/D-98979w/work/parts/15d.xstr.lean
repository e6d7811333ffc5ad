/-! TEXTS: copying bytes, clone of bytes -/
set_option maxRecDepth 100000
/-- the values are bytes -/
def g_fb (f : Nat → Int32) (o n : Nat) : Bool := (List.range n).all fun i => fits .byte (.int (f (o + i)))
theorem g_fb_of {f : Nat → Int32} {o n : Nat} (h : g_fb f o n = true) : ∀ i, i < n → fits .byte (.int (f (o + i))) = true := fun i hi => List.all_eq_true.mp h i (List.mem_range.mpr hi)
def g_cpb (hk : HK) (gi : GI) (a : Nat) (sp : Int32) (b : Nat) (dp n : Int32) : Option GI := if g_cp0 sp dp n (hk a).2 (hk b).2 = true ∧ g_fb (gi a) sp.toNatClampNeg n.toNatClampNeg = true then some (va_up gi b (va_cpy (gi a) (gi b) sp.toNatClampNeg dp.toNatClampNeg n.toNatClampNeg)) else none
section XSTR
variable {p : Program} {l : Launch} {e : Env} {R : Room} {s : State} {m : MethodId} {args : Array Value} {below : List Frame} {meth : Method} {c : Code} {H : Heap} {locs : List Loc} {Q : State → Prop} {cells slots : Nat}
variable {pc : Nat} {ls : Array Slot} {rest : List Value} {cc : ByteArray} {nL : Nat} {α : Type} {r : α} {D : va_G} {cA : Nat → ClassId} {a0 : Nat → Nat} {h0 : HK} {n0 m0 cN cS : Nat} {ad : Nat → Nat} {hk : HK} {nx ns : Nat} {A : Nat → Prop} {gi : GI} {gr : GR} {own : String} {idx : Nat}
theorem xx_cpb {a b : Nat} {sp dp k : Int32} {f : GI → Option α} (C : CallFix p m c cc nL s args lw_all own) (B : XB D cA ad hk nx A s gi gr H locs) (hq : Cond.methodLink own idx arraycopyName ∈ lw_all) (hna : Cond.native arraycopyName ∈ lw_all) (hst : Cond.static arraycopyName ∈ lw_all) (hin : Cond.initialized "java/lang/System" ∈ lw_all) (ha : (hk a).1 = 1) (hb : (hk b).1 = 1) (hF : 1 ≤ R.frames) (hN : 8 + (nativeFrameWords "java/lang/System" "arraycopy" 5 + 11) ≤ R.locals) (hs : ls.size = nL) (hw : (rest.map fun v => v.category).sum ≤ 8) (h : (g_cpb hk gi a sp b dp k).bind f = some r) (hdg : decode cc pc = .ok (.invokestatic idx, 3)) (kk : ∀ g', f g' = some r → ∀ (H' : Heap) (locs' : List Loc), XB D cA ad hk nx A s g' gr H' locs' → W p l e R s m args below meth c H' locs' cells slots Q (F0 m (pc + 3) ls rest)) : W p l e R s m args below meth c H locs cells slots Q (F0 m pc ls (.int k :: .int dp :: .ref (ad b) :: .int sp :: .ref (ad a) :: rest)) := by
  obtain ⟨g', h1, h2⟩ := g_ob h
  unfold g_cpb at h1
  by_cases q : g_cp0 sp dp k (hk a).2 (hk b).2 = true ∧ g_fb (gi a) sp.toNatClampNeg k.toNatClampNeg = true
  · rw [if_pos q] at h1
    cases h1
    obtain ⟨q1, q2, q3, q4, q5⟩ := g_cp0_of q.1
    exact va_copyi C.1 C.2.1 (C.2.2.1.trans hs.symm) C.2.2.2.1 (C.2.2.2.2 _ hq) (C.2.2.2.2 _ hna) (C.2.2.2.2 _ hst) (C.2.2.2.2 _ hin) B.1 B.2.1 B.2.2.1.1.1.va B.2.2.2.1 a b 1 1 (ty := .byte) (Xw_i (xb_lt B ha (by decide)) ha (by decide)) (Xw_i (xb_lt B hb (by decide)) hb (by decide)) rfl rfl rfl q1 q2 q3 q4 q5 (g_fb_of q.2) hF (by omega) hdg (fun H' locs' hP _ hS => kk _ h2 H' locs' ⟨B.1, by rw [Xw_pi (gi' := va_up gi b (va_cpy (gi a) (gi b) sp.toNatClampNeg dp.toNatClampNeg k.toNatClampNeg)) hb (by decide) (by simp [va_up]) (fun j hj => by simp [va_up, hj])] at hP; exact hP, B.2.2.1, hS, B.2.2.2.2⟩)
  · rw [if_neg q] at h1
    cases h1
theorem xx_castB {a : Nat} (C : CallFix p m c cc nL s args lw_all own) (B : XB D cA ad hk nx A s gi gr H locs) (ha : (hk a).1 = 1) (hq : Cond.classLink own idx "[B" ∈ lw_all) (hdg : decode cc pc = .ok (.checkcast idx, 3)) (kk : W p l e R s m args below meth c H locs cells slots Q (F0 m (pc + 3) ls (.ref (ad a) :: rest))) : W p l e R s m args below meth c H locs cells slots Q (F0 m pc ls (.ref (ad a) :: rest)) :=
  va_castA C.1 C.2.1 C.2.2.2.1 (C.2.2.2.2 _ hq) B.2.1 a (Xw_i (xb_lt B ha (by decide)) ha (by decide)) (B.1.2 1 _ rfl).2 hdg kk
/-- byte[].clone -/
def g_clone (cN cS nx ns : Nat) (hk : HK) (gi : GI) (gr : GR) (a : Nat) : Option (HK × GI × GR) := if (nx + 1 ≤ cN ∧ ns + (hk a).2 ≤ cS ∧ nx < 1000000) ∧ g_fb (gi a) 0 (hk a).2 = true then some (va_up hk nx (1, (hk a).2), va_up gi nx (gi a), va_up gr nx (fun _ => none)) else none
theorem xa_clone {a : Nat} {f : HK × GI × GR → Option α} (C : CallFix p m c cc nL s args lw_all own) (B : XBA D cA a0 h0 n0 m0 cN cS ad hk nx ns A s gi gr H locs) (hR : R.cells = cN - n0 ∧ R.slots = cS - m0) (ha : (hk a).1 = 1) (hq : Cond.methodLink own idx ⟨"[B", "clone", "()Ljava/lang/Object;"⟩ ∈ lw_all) (hsame : Cond.sameMethod "[B" "java/lang/Object" "clone" "()Ljava/lang/Object;" ∈ lw_all) (hnat : Cond.native ⟨"java/lang/Object", "clone", "()Ljava/lang/Object;"⟩ ∈ lw_all) (hinst : Cond.instanceMethod ⟨"java/lang/Object", "clone", "()Ljava/lang/Object;"⟩ ∈ lw_all) (hsel : Cond.selects "[B" ⟨"[B", "clone", "()Ljava/lang/Object;"⟩ ⟨"java/lang/Object", "clone", "()Ljava/lang/Object;"⟩ ∈ lw_all) (hcl : Cond.castable "[B" "java/lang/Cloneable" ∈ nwX)
    (hF : 1 ≤ R.frames) (hN : 22 ≤ R.locals) (hs : ls.size = nL) (hw : (rest.map fun v => v.category).sum ≤ 8) (h : (g_clone cN cS nx ns hk gi gr a).bind f = some r) (hdg : decode cc pc = .ok (.invokevirtual idx, 3))
    (kk : ∀ (q : HK × GI × GR) (ad' : Nat → Nat), f q = some r → (∀ i, (hk i).1 < 1000 → ad' i = ad i ∧ q.1 i = hk i) → q.1 nx = (1, (hk a).2) → ∀ H', XBA D cA a0 h0 n0 m0 cN cS ad' q.1 (nx + 1) (ns + (hk a).2) A s q.2.1 q.2.2 H' locs → W p l e R s m args below meth c H' locs (nx + 1 - n0) (ns + (hk a).2 - m0) Q (F0 m (pc + 3) ls (.ref (ad' nx) :: rest))) : W p l e R s m args below meth c H locs (nx - n0) (ns - m0) Q (F0 m pc ls (.ref (ad a) :: rest)) := by
  obtain ⟨q, h1, h2⟩ := g_ob h
  unfold g_clone at h1
  by_cases z : (nx + 1 ≤ cN ∧ ns + (hk a).2 ≤ cS ∧ nx < 1000000) ∧ g_fb (gi a) 0 (hk a).2 = true
  case neg => rw [if_neg z] at h1; cases h1
  rw [if_pos z] at h1
  cases h1
  obtain ⟨hc, hfb⟩ := z
  have b := B.2.2.2
  have hnm : s.vm.findClass "[B" = some (cA 1) := (B.1.1.2 1 _ rfl).2
  refine va_clone (ad := "[B") C.1 C.2.1 (C.2.2.1.trans hs.symm) C.2.2.2.1 (C.2.2.2.2 _ hq) (C.2.2.2.2 _ hsame) (C.2.2.2.2 _ hnat) (C.2.2.2.2 _ hinst) (C.2.2.2.2 _ hsel) (B.1.2.2.2.2.1 _ hcl) B.1.1 B.1.2.1 B.1.2.2.1.1.1.va B.1.2.2.2.1 B.1.2.2.1.1.2 a 1 (ty := .byte) (Xw_i (xb_lt B.1 ha (by decide)) ha (by decide)) rfl hnm (fun i v hv => ?_) hF (by omega) (by omega) (by show _ + (hk a).2 ≤ _; omega) hdg (fun q' H1 hK hP hD hS => ?_)
  · rw [vp_cell_i] at hv
    have hi : i < (hk a).2 := by
      have := (Array.getElem?_eq_some_iff.mp hv).1
      rw [arrV_size] at this
      exact this
    rw [arrV_read _ _ hi] at hv
    cases hv
    have := g_fb_of hfb i hi
    rw [Nat.zero_add] at this
    exact this
  obtain ⟨s1, s2⟩ := xa_step (z := gi a) (n := (hk a).2) (t := 1) hc (by omega) B (x := .inl (cA 1, (hk a).2, .inl (gi a))) (by
    simp only [Xc, g_cell, va_up, if_pos]
    rfl) hP hD hS
  have kk := kk _ (va_up ad nx q') h2 s1 (by simp [va_up]) H1 s2
  refine W.widen (k := nx + 1 - n0) (n := ns + (hk a).2 - m0) (by omega) (by show _ + (hk a).2 ≤ _; omega) ?_
  have e : va_up ad nx q' nx = q' := by simp [va_up]
  rw [e] at kk
  exact kk
end XSTR

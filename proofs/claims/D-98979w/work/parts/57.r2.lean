/-! THE READER: formulas, lines, the text -/
set_option maxRecDepth 100000
abbrev FT5 : Type := Nat → Nat → HK → Nat → Nat → GI → GR → Nat → Option ((Nat × HK × Nat × Nat × GI × GR) ⊕ (Nat × HK × Nat × Nat × GI × GR))
def H5_one (l : Launch) (D : va_G) (cA : Nat → ClassId) (fX : FT5) (fr lo : Nat) : Prop := ∀ (ad : Nat → Nat) (cN cS : Nat) (hk : HK) (nx ns : Nat) (gi : GI) (gr : GR) (a0 : Nat), (hk a0).1 = 14 → nx ≤ cN ∧ ns ≤ cS → ∀ r, fX cN cS hk nx ns gi gr a0 = some r → ∀ sz, vx_Met l yX5_one (ws_ yX5_one cX5_one 3 (some (.object "WeatherWages$Node"))) ({ frames := fr, cells := cN - nx, slots := cS - ns, locals := lo } : Room) (va_Pc [.ref (ad a0)] (XPre D cA ad hk nx gi gr sz)) (va_Qq (fun o u => ∃ v : Option Nat, o = v.map u.1 ∧ (fun (v : Option Nat) (u : XU) => ∃ v9, v = some v9 ∧ Sum.inr (v9, u.2) = r) v u) (XPostA D cA ad hk nx sz) (XA ad nx sz)) (vx_X (fun x : XV => Sum.inl (x.1, x.2.2) = r) (XPostX D cA ad hk nx sz) (XA ad nx sz)) (cN - nx) (cS - ns) (XA ad nx sz)
theorem kb_X5_one {p : Program} {l : Launch} {e : Env} {R : Room} {s : State} {m : MethodId} {args : Array Value} {below : List Frame} {meth : Method} {c : Code} {H : Heap} {locs : List Loc} {Q : State → Prop} {pc : Nat} {ls : Array Slot} {rest : List Value} {cc : ByteArray} {nL : Nat} {D : va_G} {cA : Nat → ClassId} {a9 : Nat → Nat} {h9 : HK} {n0 m0 cN cS : Nat} {ad : Nat → Nat} {hk : HK} {nx ns : Nat} {A : Nat → Prop} {gi : GI} {gr : GR} {α : Type} {r : α} {own : String} {idx : Nat} {a0 : Nat} {fX : FT5} {fr lo : Nat} {ff : ((Nat × HK × Nat × Nat × GI × GR) ⊕ (Nat × HK × Nat × Nat × GI × GR)) → Option α} (hX : H5_one l D cA fX fr lo) (ht : (hk a0).1 = 14) (C : CallFix p m c cc nL s args lw_all own) (B : XBA D cA a9 h9 n0 m0 cN cS ad hk nx ns A s gi gr H locs) (hRr : R.cells = cN - n0 ∧ R.slots = cS - m0) (hq : Cond.methodLink own idx yX5_one ∈ lw_all) (hF : fr + 1 ≤ R.frames) (hN : 8 + (3 + 11) + lo ≤ R.locals) (hs : ls.size = nL) (hw : (rest.map fun v => v.category).sum ≤ 8) (h : (g_cc (fun c1 c2 => fX c1 c2 hk nx ns gi gr a0) (fun z : (Nat × HK × Nat × Nat × GI × GR) ⊕ (Nat × HK × Nat × Nat × GI × GR) => Sum.elim (fun t : Nat × HK × Nat × Nat × GI × GR => t.2.2.1) (fun q : Nat × HK × Nat × Nat × GI × GR => q.2.2.1) z) (fun z : (Nat × HK × Nat × Nat × GI × GR) ⊕ (Nat × HK × Nat × Nat × GI × GR) => Sum.elim (fun t : Nat × HK × Nat × Nat × GI × GR => t.2.2.2.1) (fun q : Nat × HK × Nat × Nat × GI × GR => q.2.2.2.1) z) cN cS nx ns).bind ff = some r) (hdg : decode cc pc = .ok (.invokevirtual idx, 3)) (kx : ∀ (t : Nat × HK × Nat × Nat × GI × GR) (ad' : Nat → Nat), ff (.inl t) = some r → (t.2.1 t.1).1 = 15 → (∀ i, (hk i).1 < 1000 → ad' i = ad i ∧ t.2.1 i = hk i) → ∀ (H' : Heap) (locs' : List Loc), XBA D cA a9 h9 n0 m0 cN cS ad' t.2.1 t.2.2.1 t.2.2.2.1 A s t.2.2.2.2.1 t.2.2.2.2.2 H' locs' → vx_W p l e R s m args below meth c H' locs' (t.2.2.1 - n0) (t.2.2.2.1 - m0) Q (F0 m pc ls rest) (ad' t.1)) (kk : ∀ (q : Nat × HK × Nat × Nat × GI × GR) (ad' : Nat → Nat), ff (.inr q) = some r → (∀ i, (hk i).1 < 1000 → ad' i = ad i ∧ q.2.1 i = hk i) → ∀ (H' : Heap) (locs' : List Loc), XBA D cA a9 h9 n0 m0 cN cS ad' q.2.1 q.2.2.1 q.2.2.2.1 A s q.2.2.2.2.1 q.2.2.2.2.2 H' locs' → W p l e R s m args below meth c H' locs' (q.2.2.1 - n0) (q.2.2.2.1 - m0) Q (F0 m (pc + 3) ls (.ref (ad' q.1) :: rest))) : W p l e R s m args below meth c H locs (nx - n0) (ns - m0) Q (F0 m pc ls (.ref (ad a0) :: rest)) := by
  obtain ⟨z, h1, h2⟩ := g_ob h
  obtain ⟨h3, c1, c2, c3, c4⟩ := g_cc_of h1
  refine xt_cVR (As := []) (rest := rest) (n := 0) (qn := (fun z : (Nat × HK × Nat × Nat × GI × GR) ⊕ (Nat × HK × Nat × Nat × GI × GR) => Sum.elim (fun t : Nat × HK × Nat × Nat × GI × GR => t.2.2.1) (fun q : Nat × HK × Nat × Nat × GI × GR => q.2.2.1) z) z) (qs := (fun z : (Nat × HK × Nat × Nat × GI × GR) ⊕ (Nat × HK × Nat × Nat × GI × GR) => Sum.elim (fun t : Nat × HK × Nat × Nat × GI × GR => t.2.2.2.1) (fun q : Nat × HK × Nat × Nat × GI × GR => q.2.2.2.1) z) z) xc_4 ht (by decide) C B hRr (fun sz => hX ad _ _ hk nx ns gi gr a0 ht ⟨c1, c3⟩ z h3 sz) hq q1152 qs31 q151 q1153 (by decide +kernel) ⟨c1, c2, c3, c4⟩ (fun v u hp => ?_) (fun x hp => ?_) ⟨hF, hN⟩ rfl hs hw hdg (fun w u H9 locs9 hp hw9 hae B9 => ?_) (fun v u H9 locs9 hp hae B9 => ?_)
  · have hp := hp
    obtain ⟨v9, rfl, rfl⟩ := hp
    exact ⟨rfl, rfl⟩
  · have hp := hp
    subst hp
    exact ⟨rfl, rfl⟩
  · have hp := hp
    subst hp
    exact kx _ u.1 h2 hw9 hae H9 locs9 B9
  · have hp := hp
    obtain ⟨v9, rfl, rfl⟩ := hp
    exact kk _ u.1 h2 hae H9 locs9 B9
def H5_both (l : Launch) (D : va_G) (cA : Nat → ClassId) (fX : FT5) (fr lo : Nat) : Prop := ∀ (ad : Nat → Nat) (cN cS : Nat) (hk : HK) (nx ns : Nat) (gi : GI) (gr : GR) (a0 : Nat), (hk a0).1 = 14 → nx ≤ cN ∧ ns ≤ cS → ∀ r, fX cN cS hk nx ns gi gr a0 = some r → ∀ sz, vx_Met l yX5_both (ws_ yX5_both cX5_both 2 (some (.object "WeatherWages$Node"))) ({ frames := fr, cells := cN - nx, slots := cS - ns, locals := lo } : Room) (va_Pc [.ref (ad a0)] (XPre D cA ad hk nx gi gr sz)) (va_Qq (fun o u => ∃ v : Option Nat, o = v.map u.1 ∧ (fun (v : Option Nat) (u : XU) => ∃ v9, v = some v9 ∧ Sum.inr (v9, u.2) = r) v u) (XPostA D cA ad hk nx sz) (XA ad nx sz)) (vx_X (fun x : XV => Sum.inl (x.1, x.2.2) = r) (XPostX D cA ad hk nx sz) (XA ad nx sz)) (cN - nx) (cS - ns) (XA ad nx sz)
theorem kb_X5_both {p : Program} {l : Launch} {e : Env} {R : Room} {s : State} {m : MethodId} {args : Array Value} {below : List Frame} {meth : Method} {c : Code} {H : Heap} {locs : List Loc} {Q : State → Prop} {pc : Nat} {ls : Array Slot} {rest : List Value} {cc : ByteArray} {nL : Nat} {D : va_G} {cA : Nat → ClassId} {a9 : Nat → Nat} {h9 : HK} {n0 m0 cN cS : Nat} {ad : Nat → Nat} {hk : HK} {nx ns : Nat} {A : Nat → Prop} {gi : GI} {gr : GR} {α : Type} {r : α} {own : String} {idx : Nat} {a0 : Nat} {fX : FT5} {fr lo : Nat} {ff : ((Nat × HK × Nat × Nat × GI × GR) ⊕ (Nat × HK × Nat × Nat × GI × GR)) → Option α} (hX : H5_both l D cA fX fr lo) (ht : (hk a0).1 = 14) (C : CallFix p m c cc nL s args lw_all own) (B : XBA D cA a9 h9 n0 m0 cN cS ad hk nx ns A s gi gr H locs) (hRr : R.cells = cN - n0 ∧ R.slots = cS - m0) (hq : Cond.methodLink own idx yX5_both ∈ lw_all) (hF : fr + 1 ≤ R.frames) (hN : 8 + (2 + 11) + lo ≤ R.locals) (hs : ls.size = nL) (hw : (rest.map fun v => v.category).sum ≤ 8) (h : (g_cc (fun c1 c2 => fX c1 c2 hk nx ns gi gr a0) (fun z : (Nat × HK × Nat × Nat × GI × GR) ⊕ (Nat × HK × Nat × Nat × GI × GR) => Sum.elim (fun t : Nat × HK × Nat × Nat × GI × GR => t.2.2.1) (fun q : Nat × HK × Nat × Nat × GI × GR => q.2.2.1) z) (fun z : (Nat × HK × Nat × Nat × GI × GR) ⊕ (Nat × HK × Nat × Nat × GI × GR) => Sum.elim (fun t : Nat × HK × Nat × Nat × GI × GR => t.2.2.2.1) (fun q : Nat × HK × Nat × Nat × GI × GR => q.2.2.2.1) z) cN cS nx ns).bind ff = some r) (hdg : decode cc pc = .ok (.invokevirtual idx, 3)) (kx : ∀ (t : Nat × HK × Nat × Nat × GI × GR) (ad' : Nat → Nat), ff (.inl t) = some r → (t.2.1 t.1).1 = 15 → (∀ i, (hk i).1 < 1000 → ad' i = ad i ∧ t.2.1 i = hk i) → ∀ (H' : Heap) (locs' : List Loc), XBA D cA a9 h9 n0 m0 cN cS ad' t.2.1 t.2.2.1 t.2.2.2.1 A s t.2.2.2.2.1 t.2.2.2.2.2 H' locs' → vx_W p l e R s m args below meth c H' locs' (t.2.2.1 - n0) (t.2.2.2.1 - m0) Q (F0 m pc ls rest) (ad' t.1)) (kk : ∀ (q : Nat × HK × Nat × Nat × GI × GR) (ad' : Nat → Nat), ff (.inr q) = some r → (∀ i, (hk i).1 < 1000 → ad' i = ad i ∧ q.2.1 i = hk i) → ∀ (H' : Heap) (locs' : List Loc), XBA D cA a9 h9 n0 m0 cN cS ad' q.2.1 q.2.2.1 q.2.2.2.1 A s q.2.2.2.2.1 q.2.2.2.2.2 H' locs' → W p l e R s m args below meth c H' locs' (q.2.2.1 - n0) (q.2.2.2.1 - m0) Q (F0 m (pc + 3) ls (.ref (ad' q.1) :: rest))) : W p l e R s m args below meth c H locs (nx - n0) (ns - m0) Q (F0 m pc ls (.ref (ad a0) :: rest)) := by
  obtain ⟨z, h1, h2⟩ := g_ob h
  obtain ⟨h3, c1, c2, c3, c4⟩ := g_cc_of h1
  refine xt_cVR (As := []) (rest := rest) (n := 0) (qn := (fun z : (Nat × HK × Nat × Nat × GI × GR) ⊕ (Nat × HK × Nat × Nat × GI × GR) => Sum.elim (fun t : Nat × HK × Nat × Nat × GI × GR => t.2.2.1) (fun q : Nat × HK × Nat × Nat × GI × GR => q.2.2.1) z) z) (qs := (fun z : (Nat × HK × Nat × Nat × GI × GR) ⊕ (Nat × HK × Nat × Nat × GI × GR) => Sum.elim (fun t : Nat × HK × Nat × Nat × GI × GR => t.2.2.2.1) (fun q : Nat × HK × Nat × Nat × GI × GR => q.2.2.2.1) z) z) xc_4 ht (by decide) C B hRr (fun sz => hX ad _ _ hk nx ns gi gr a0 ht ⟨c1, c3⟩ z h3 sz) hq q1144 qs29 q151 q1145 (by decide +kernel) ⟨c1, c2, c3, c4⟩ (fun v u hp => ?_) (fun x hp => ?_) ⟨hF, hN⟩ rfl hs hw hdg (fun w u H9 locs9 hp hw9 hae B9 => ?_) (fun v u H9 locs9 hp hae B9 => ?_)
  · have hp := hp
    obtain ⟨v9, rfl, rfl⟩ := hp
    exact ⟨rfl, rfl⟩
  · have hp := hp
    subst hp
    exact ⟨rfl, rfl⟩
  · have hp := hp
    subst hp
    exact kx _ u.1 h2 hw9 hae H9 locs9 B9
  · have hp := hp
    obtain ⟨v9, rfl, rfl⟩ := hp
    exact kk _ u.1 h2 hae H9 locs9 B9
def f_X5_unit_j65_b (fB fO : FT5) (cN cS : Nat) (a0 : Nat) (hkj65 : HK) (nxj65 : Nat) (nsj65 : Nat) (gij65 : GI) (grj65 : GR) : Option ((Nat × HK × Nat × Nat × GI × GR) ⊕ (Nat × HK × Nat × Nat × GI × GR)) :=
  (g_cc (fun c1 c2 => f_X5_wrong c1 c2 hkj65 nxj65 nsj65 gij65 grj65 a0) (fun q : Nat × HK × Nat × Nat × GI × GR => q.2.2.1) (fun q : Nat × HK × Nat × Nat × GI × GR => q.2.2.2.1) cN cS nxj65 nsj65).bind fun q7 =>
  (g_is q7.2.1 q7.1 15).bind fun _ =>
  some (.inl (q7.1, q7.2.1, q7.2.2.1, q7.2.2.2.1, q7.2.2.2.2.1, q7.2.2.2.2.2))
def f_X5_unit_j170_b (fB fO : FT5) (cN cS : Nat) (a0 : Nat) (hkj170 : HK) (nxj170 : Nat) (nsj170 : Nat) (gij170 : GI) (grj170 : GR) (t0j170 : Option Nat) : Option ((Nat × HK × Nat × Nat × GI × GR) ⊕ (Nat × HK × Nat × Nat × GI × GR)) :=
  (g_oko hkj170 t0j170).bind fun _ =>
  (g_cc (fun c1 c2 => f_X5_go c1 c2 hkj170 nxj170 nsj170 gij170 grj170 a0) (fun q : HK × Nat × Nat × GI × GR => q.2.1) (fun q : HK × Nat × Nat × GI × GR => q.2.2.1) cN cS nxj170 nsj170).bind fun q35 =>
  t0j170.bind fun v40 =>
  some (.inr (v40, q35.1, q35.2.1, q35.2.2.1, q35.2.2.2.1, q35.2.2.2.2))
def f_X5_unit_j70_b (fB fO : FT5) (cN cS : Nat) (a0 : Nat) (hkj70 : HK) (nxj70 : Nat) (nsj70 : Nat) (gij70 : GI) (grj70 : GR) (o1j70 : Option Nat) : Option ((Nat × HK × Nat × Nat × GI × GR) ⊕ (Nat × HK × Nat × Nat × GI × GR)) :=
  (grj70 a0 9).bind fun v13 =>
  (g_is hkj70 v13 11).bind fun _ =>
  (some (g_pi gij70 v13 9 ((gij70 v13 9) + 1))).bind fun gi16 =>
  (some (g_pi gi16 a0 5 ((gi16 a0 5) + 1))).bind fun gi17 =>
  if (gi17 a0 1) = 40 then
  ((some (g_pi gi17 a0 4 ((gi17 a0 4) + 1))).bind fun gi42 =>
  (g_oko hkj70 o1j70).bind fun _ =>
  (g_cc (fun c1 c2 => f_X5_go c1 c2 hkj70 nxj70 nsj70 gi42 grj70 a0) (fun q : HK × Nat × Nat × GI × GR => q.2.1) (fun q : HK × Nat × Nat × GI × GR => q.2.2.1) cN cS nxj70 nsj70).bind fun q44 =>
  (g_cc (fun c1 c2 => fB c1 c2 q44.1 q44.2.1 q44.2.2.1 q44.2.2.2.1 q44.2.2.2.2 a0) (fun z : (Nat × HK × Nat × Nat × GI × GR) ⊕ (Nat × HK × Nat × Nat × GI × GR) => Sum.elim (fun t : Nat × HK × Nat × Nat × GI × GR => t.2.2.1) (fun q : Nat × HK × Nat × Nat × GI × GR => q.2.2.1) z) (fun z : (Nat × HK × Nat × Nat × GI × GR) ⊕ (Nat × HK × Nat × Nat × GI × GR) => Sum.elim (fun t : Nat × HK × Nat × Nat × GI × GR => t.2.2.2.1) (fun q : Nat × HK × Nat × Nat × GI × GR => q.2.2.2.1) z) cN cS q44.2.1 q44.2.2.1).bind fun q9 => Sum.elim (fun (t50 : Nat × HK × Nat × Nat × GI × GR) => some (.inl (t50.1, t50.2.1, t50.2.2.1, t50.2.2.2.1, t50.2.2.2.2.1, t50.2.2.2.2.2))) (fun (q49 : Nat × HK × Nat × Nat × GI × GR) =>
  if (q49.2.2.2.2.1 a0 1) = 41 then
  ((some (g_pi q49.2.2.2.2.1 a0 4 ((q49.2.2.2.2.1 a0 4) - 1))).bind fun gi57 =>
  (g_ok q49.2.1 q49.1).bind fun _ =>
  (g_cc (fun c1 c2 => f_X5_go c1 c2 q49.2.1 q49.2.2.1 q49.2.2.2.1 gi57 q49.2.2.2.2.2 a0) (fun q : HK × Nat × Nat × GI × GR => q.2.1) (fun q : HK × Nat × Nat × GI × GR => q.2.2.1) cN cS q49.2.2.1 q49.2.2.2.1).bind fun q59 =>
  some (.inr (q49.1, q59.1, q59.2.1, q59.2.2.1, q59.2.2.2.1, q59.2.2.2.2)))
  else
  ((g_ok q49.2.1 q49.1).bind fun _ =>
  (g_cc (fun c1 c2 => f_X5_wrong c1 c2 q49.2.1 q49.2.2.1 q49.2.2.2.1 q49.2.2.2.2.1 q49.2.2.2.2.2 a0) (fun q : Nat × HK × Nat × Nat × GI × GR => q.2.2.1) (fun q : Nat × HK × Nat × Nat × GI × GR => q.2.2.2.1) cN cS q49.2.2.1 q49.2.2.2.1).bind fun q66 =>
  (g_is q66.2.1 q66.1 15).bind fun _ =>
  some (.inl (q66.1, q66.2.1, q66.2.2.1, q66.2.2.2.1, q66.2.2.2.2.1, q66.2.2.2.2.2)))) q9)
  else
  (o1j70.elim
  ((g_oko hkj70 o1j70).bind fun _ =>
  (g_new cN cS nxj70 nsj70 19 0 1 hkj70 gi17 grj70).bind fun q21 =>
  (g_cc (fun c1 c2 => f_X10_init c1 c2 q21.1 (nxj70 + 1) (nsj70 + 1) q21.2.1 q21.2.2 nxj70 (q21.2.1 a0 3)) (fun q : HK × Nat × Nat × GI × GR => q.2.1) (fun q : HK × Nat × Nat × GI × GR => q.2.2.1) cN cS (nxj70 + 1) (nsj70 + 1)).bind fun q27 =>
  f_X5_unit_j170_b fB fO cN cS a0 q27.1 q27.2.1 q27.2.2.1 q27.2.2.2.1 q27.2.2.2.2 (some nxj70))
  (fun v18 =>
  f_X5_unit_j170_b fB fO cN cS a0 hkj70 nxj70 nsj70 gi17 grj70 o1j70))
def f_X5_unit_j26_b (fB fO : FT5) (cN cS : Nat) (a0 : Nat) (hkj26 : HK) (nxj26 : Nat) (nsj26 : Nat) (gij26 : GI) (grj26 : GR) (o1j26 : Option Nat) : Option ((Nat × HK × Nat × Nat × GI × GR) ⊕ (Nat × HK × Nat × Nat × GI × GR)) :=
  (grj26 a0 9).bind fun v3 =>
  (g_is hkj26 v3 11).bind fun _ =>
  if (gij26 v3 9) = 60 then
  (f_X5_unit_j65_b fB fO cN cS a0 hkj26 nxj26 nsj26 gij26 grj26)
  else
  (if (gij26 a0 5) = 30 then
  (f_X5_unit_j65_b fB fO cN cS a0 hkj26 nxj26 nsj26 gij26 grj26)
  else
  (if (gij26 a0 1) = 40 then
  (if (gij26 a0 4) ≤ 6 then
  (f_X5_unit_j70_b fB fO cN cS a0 hkj26 nxj26 nsj26 gij26 grj26 o1j26)
  else
  (f_X5_unit_j65_b fB fO cN cS a0 hkj26 nxj26 nsj26 gij26 grj26))
  else
  (f_X5_unit_j70_b fB fO cN cS a0 hkj26 nxj26 nsj26 gij26 grj26 o1j26)))
def f_X5_unit_b (fB fO : FT5) (cN cS : Nat) (hk : HK) (nx ns : Nat) (gi : GI) (gr : GR) (a0 : Nat) : Option ((Nat × HK × Nat × Nat × GI × GR) ⊕ (Nat × HK × Nat × Nat × GI × GR)) :=
  (f_X5_asked hk gi gr a0).bind fun q1 =>
  if (q1.2 a0 1) = 2 then
  (f_X5_unit_j26_b fB fO cN cS a0 hk nx ns q1.2 gr q1.1)
  else
  (if (q1.2 a0 1) = 40 then
  (f_X5_unit_j26_b fB fO cN cS a0 hk nx ns q1.2 gr q1.1)
  else
  (q1.1.elim
  (f_X5_unit_j65_b fB fO cN cS a0 hk nx ns q1.2 gr)
  (fun v73 =>
  f_X5_unit_j26_b fB fO cN cS a0 hk nx ns q1.2 gr q1.1)))
set_option maxHeartbeats 400000 in
theorem wb_X5_unit (l : Launch) (D : va_G) (cA : Nat → ClassId) (fB fO : FT5) (fr lo : Nat) (hfr : 9 ≤ fr) (hlo : 243 ≤ lo) (hB : H5_both l D cA fB fr lo) (hO : H5_one l D cA fO fr lo) (ad : Nat → Nat) (cN cS : Nat) (hk : HK) (nx ns : Nat) (gi : GI) (gr : GR) (a0 : Nat) (ht : (hk a0).1 = 14) (hcap : nx ≤ cN ∧ ns ≤ cS) (r : (Nat × HK × Nat × Nat × GI × GR) ⊕ (Nat × HK × Nat × Nat × GI × GR)) (h : f_X5_unit_b fB fO cN cS hk nx ns gi gr a0 = some r) (sz : Nat) : vx_Met l yX5_unit (ws_ yX5_unit cX5_unit 3 (some (.object "WeatherWages$Node"))) ({ frames := fr + 1, cells := cN - nx, slots := cS - ns, locals := lo + 40 } : Room) (va_Pc [.ref (ad a0)] (XPre D cA ad hk nx gi gr sz)) (va_Qq (fun o u => ∃ v : Option Nat, o = v.map u.1 ∧ (fun (v : Option Nat) (u : XU) => ∃ v9, v = some v9 ∧ Sum.inr (v9, u.2) = r) v u) (XPostA D cA ad hk nx sz) (XA ad nx sz)) (vx_X (fun x : XV => Sum.inl (x.1, x.2.2) = r) (XPostX D cA ad hk nx sz) (XA ad nx sz)) (cN - nx) (cS - ns) (XA ad nx sz) := by
  refine xt_stR (Or.inl ⟨_, rfl⟩) (own := RX5) (P := (fun (v : Option Nat) (u : XU) => ∃ v9, v = some v9 ∧ Sum.inr (v9, u.2) = r)) (PX := (fun x : XV => Sum.inl (x.1, x.2.2) = r)) (by decide +kernel) rfl (Nat.le_of_ble_eq_true rfl) hcap (fun p e s m args below meth c R Q A ls C hmn hF hN hRr B hret hthr hL => ?_) sz
  have hx := C.1
  have hb := C.2.1
  have hL : lv_has ls 3 [(0, .ref (ad a0))] := hL
  unfold f_X5_unit_b at h
  have hj170 : ∀ (hkj170 : HK) (nxj170 : Nat) (nsj170 : Nat) (gij170 : GI) (grj170 : GR) (t0j170 : Option Nat) (adj170 : Nat → Nat) (H : Heap) (locs : List Loc) (ls : Array Slot), f_X5_unit_j170_b fB fO cN cS a0 hkj170 nxj170 nsj170 gij170 grj170 t0j170 = some r → XBA D cA ad hk nx ns cN cS adj170 hkj170 nxj170 nsj170 A s gij170 grj170 H locs → lv_has ls 3 [(0, .ref (adj170 a0))] → W p l e R s m args below meth c H locs (nxj170 - nx) (nsj170 - ns) Q (F0 m 170 ls [va_rf (t0j170.map adj170)]) := by
    intro hkj170 nxj170 nsj170 gij170 grj170 t0j170 adj170 H locs ls h B hL
    unfold f_X5_unit_j170_b at h
    have ht33 : (hkj170 a0).1 = 14 := by rw [(B.2.1 a0 (by rw [ht]; decide)).2]; exact ht
    refine xx_astore_nO (o := t0j170) (ad := adj170) (lv' := [(2, va_rf (t0j170.map adj170)), (0, .ref (adj170 a0))]) hx hb dX5_unit_170 rfl hL (by decide) (by first | rfl | (simp [xx_vcat]; done)) (fun ls hL => ?_)
    refine lv_aload_n hx hb dX5_unit_171 rfl (lv_at hL 1 rfl) ?_
    refine xx_oko h (fun ok34 h => ?_)
    refine k_X5_go ht33 C B hRr q512 (by omega) (by omega) hL.1 (Nat.le_of_ble_eq_true rfl) h dX5_unit_172 (fun q35 ad36 h hae37 H locs B => ?_)
    rw [← (hae37 a0 (by rw [ht33]; decide)).1] at hL
    have hp38 : (q35.1 a0).1 = 14 := by rw [(hae37 a0 (by rw [ht33]; decide)).2]; exact ht33
    rw [← xx_omap (x := t0j170) hae37 ok34] at hL
    have ok39 := xx_okm (x := t0j170) hae37 ok34
    refine xx_aload_nO (o := t0j170) (ad := ad36) hx hb dX5_unit_175 rfl (lv_at hL 0 rfl) ?_
    refine xx_nn (o := t0j170) (ad := ad36) h (fun v40 ho41 h => ?_)
    exact hret (some v40) (ad36, q35.1, q35.2.1, q35.2.2.1, q35.2.2.2.1, q35.2.2.2.2) _ _ _ _ ⟨_, rfl, Option.some.inj h⟩ B dX5_unit_176
  have hj70 : ∀ (hkj70 : HK) (nxj70 : Nat) (nsj70 : Nat) (gij70 : GI) (grj70 : GR) (o1j70 : Option Nat) (adj70 : Nat → Nat) (H : Heap) (locs : List Loc) (ls : Array Slot), f_X5_unit_j70_b fB fO cN cS a0 hkj70 nxj70 nsj70 gij70 grj70 o1j70 = some r → XBA D cA ad hk nx ns cN cS adj70 hkj70 nxj70 nsj70 A s gij70 grj70 H locs → lv_has ls 3 [(0, .ref (adj70 a0)), (1, va_rf (o1j70.map adj70))] → W p l e R s m args below meth c H locs (nxj70 - nx) (nsj70 - ns) Q (F0 m 70 ls []) := by
    intro hkj70 nxj70 nsj70 gij70 grj70 o1j70 adj70 H locs ls h B hL
    unfold f_X5_unit_j70_b at h
    have ht12 : (hkj70 a0).1 = 14 := by rw [(B.2.1 a0 (by rw [ht]; decide)).2]; exact ht
    refine lv_aload_n hx hb dX5_unit_70 rfl (lv_at hL 0 rfl) ?_
    refine xx_gr (ci := 4) (k := 9) C B.1 xc_4 ht12 (by decide) (Nat.le_of_ble_eq_true rfl) rfl q483 (fun _ h => h) h dX5_unit_71 (fun v13 ok14 h => ?_)
    refine lv_dup hx hb dX5_unit_74 rfl ?_
    refine xx_is h (fun hp15 h => ?_)
    refine xx_gi (ci := 1) (k := 9) C B.1 xc_1 hp15 (by decide) (Nat.le_of_ble_eq_true rfl) rfl q275 (fun _ h => h) dX5_unit_75 ?_
    refine lv_iconst (v := 1) hx hb dX5_unit_78 (by decide) ?_
    refine lv_iadd hx hb dX5_unit_79 ?_
    refine xx_pi (ci := 1) (k := 9) C B.1 xc_1 hp15 (by decide) (Nat.le_of_ble_eq_true rfl) rfl q275 (fun _ h => h) rfl rfl rfl h dX5_unit_80 (fun gi16 h H locs B2 => ?_)
    have B := And.intro B2 B.2
    refine lv_aload_n hx hb dX5_unit_83 rfl (lv_at hL 0 rfl) ?_
    refine lv_dup hx hb dX5_unit_84 rfl ?_
    refine xx_gi (ci := 4) (k := 5) C B.1 xc_4 ht12 (by decide) (Nat.le_of_ble_eq_true rfl) rfl q479 (fun _ h => h) dX5_unit_85 ?_
    refine lv_iconst (v := 1) hx hb dX5_unit_88 (by decide) ?_
    refine lv_iadd hx hb dX5_unit_89 ?_
    refine xx_pi (ci := 4) (k := 5) C B.1 xc_4 ht12 (by decide) (Nat.le_of_ble_eq_true rfl) rfl q479 (fun _ h => h) rfl rfl rfl h dX5_unit_90 (fun gi17 h H locs B2 => ?_)
    have B := And.intro B2 B.2
    refine lv_aload_n hx hb dX5_unit_93 rfl (lv_at hL 0 rfl) ?_
    refine xx_gi (ci := 4) (k := 1) C B.1 xc_4 ht12 (by decide) (Nat.le_of_ble_eq_true rfl) rfl q475 (fun _ h => h) dX5_unit_94 ?_
    refine lv_bipush (v := 40) hx hb dX5_unit_97 (by decide) ?_
    refine gg_icmp_ne hx hb 151 h dX5_unit_99 (by decide) (fun h => ?_) (fun h => ?_)
    · refine xx_aload_nO (o := o1j70) (ad := adj70) hx hb dX5_unit_151 rfl (lv_at hL 1 rfl) ?_
      refine xx_ifnonnull (o := o1j70) (ad := adj70) hx hb 169 h dX5_unit_152 (by decide) (fun ho19 h => ?_) (fun v18 ho19 h => ?_)
      · refine xx_oko h (fun ok20 h => ?_)
        refine xa_new C B hRr xc_9 (by decide) xd_9 q1192 q1193 q170 h dX5_unit_155 (fun q21 ad22 h hae23 hp24 H B => ?_)
        rw [← (hae23 a0 (by rw [ht12]; decide)).1] at hL
        have hp25 : (q21.1 a0).1 = 14 := by rw [(hae23 a0 (by rw [ht12]; decide)).2]; exact ht12
        rw [← xx_omap (x := o1j70) hae23 ok20] at hL
        have ok26 := xx_okm (x := o1j70) hae23 ok20
        refine lv_dup hx hb dX5_unit_158 rfl ?_
        refine lv_aload_n hx hb dX5_unit_159 rfl (lv_at hL 0 rfl) ?_
        refine xx_gi (ci := 4) (k := 3) C B.1 xc_4 hp25 (by decide) (Nat.le_of_ble_eq_true rfl) rfl q477 (fun _ h => h) dX5_unit_160 ?_
        refine k_X10_init hp24 C B hRr q1194 (by omega) (by omega) hL.1 (Nat.le_of_ble_eq_true rfl) h dX5_unit_163 (fun q27 ad28 h hae29 H locs B => ?_)
        rw [← (hae29 a0 (by rw [hp25]; decide)).1] at hL
        have hp30 : (q27.1 a0).1 = 14 := by rw [(hae29 a0 (by rw [hp25]; decide)).2]; exact hp25
        rw [← (hae29 nxj70 (by rw [hp24]; decide)).1]
        have hp31 : (q27.1 nxj70).1 = 19 := by rw [(hae29 nxj70 (by rw [hp24]; decide)).2]; exact hp24
        rw [← xx_omap (x := o1j70) hae29 ok26] at hL
        have ok32 := xx_okm (x := o1j70) hae29 ok26
        refine lv_goto (tgt := 170) hx hb dX5_unit_166 (by decide) ?_
        exact hj170 _ _ _ _ _ _ _ _ _ _ h B (lv_sub hL [0] rfl)
      · refine xx_aload_nO (o := o1j70) (ad := adj70) hx hb dX5_unit_169 rfl (lv_at hL 1 rfl) ?_
        exact hj170 _ _ _ _ _ _ _ _ _ _ h B (lv_sub hL [0] rfl)
    · refine lv_aload_n hx hb dX5_unit_102 rfl (lv_at hL 0 rfl) ?_
      refine lv_dup hx hb dX5_unit_103 rfl ?_
      refine xx_gi (ci := 4) (k := 4) C B.1 xc_4 ht12 (by decide) (Nat.le_of_ble_eq_true rfl) rfl q478 (fun _ h => h) dX5_unit_104 ?_
      refine lv_iconst (v := 1) hx hb dX5_unit_107 (by decide) ?_
      refine lv_iadd hx hb dX5_unit_108 ?_
      refine xx_pi (ci := 4) (k := 4) C B.1 xc_4 ht12 (by decide) (Nat.le_of_ble_eq_true rfl) rfl q478 (fun _ h => h) rfl rfl rfl h dX5_unit_109 (fun gi42 h H locs B2 => ?_)
      have B := And.intro B2 B.2
      refine lv_aload_n hx hb dX5_unit_112 rfl (lv_at hL 0 rfl) ?_
      refine xx_oko h (fun ok43 h => ?_)
      refine k_X5_go ht12 C B hRr q512 (by omega) (by omega) hL.1 (Nat.le_of_ble_eq_true rfl) h dX5_unit_113 (fun q44 ad45 h hae46 H locs B => ?_)
      rw [← (hae46 a0 (by rw [ht12]; decide)).1] at hL
      have hp47 : (q44.1 a0).1 = 14 := by rw [(hae46 a0 (by rw [ht12]; decide)).2]; exact ht12
      rw [← xx_omap (x := o1j70) hae46 ok43] at hL
      have ok48 := xx_okm (x := o1j70) hae46 ok43
      refine lv_aload_n hx hb dX5_unit_116 rfl (lv_at hL 0 rfl) ?_
      refine kb_X5_both hB hp47 C B hRr q1142 (by omega) (by omega) hL.1 (Nat.le_of_ble_eq_true rfl) h dX5_unit_117 (fun t50 ad52 h hw54 _ H locs B => ?_) (fun q49 ad51 h hae53 H locs B => ?_)
      · exact hthr t50.1 (ad52, t50.2.1, t50.2.2.1, t50.2.2.2.1, t50.2.2.2.2.1, t50.2.2.2.2.2) _ _ _ _ _ (Option.some.inj h) hw54 B
      · have h := g_elr h
        rw [← (hae53 a0 (by rw [hp47]; decide)).1] at hL
        have hp55 : (q49.2.1 a0).1 = 14 := by rw [(hae53 a0 (by rw [hp47]; decide)).2]; exact hp47
        rw [← xx_omap (x := o1j70) hae53 ok48] at hL
        have ok56 := xx_okm (x := o1j70) hae53 ok48
        refine lv_astore_n (lv' := [(2, .ref (ad51 q49.1)), (0, .ref (ad51 a0)), (1, va_rf (o1j70.map ad51))]) hx hb dX5_unit_120 rfl hL (by decide) (by first | rfl | (simp [xx_vcat]; done)) (fun ls hL => ?_)
        refine lv_aload_n hx hb dX5_unit_121 rfl (lv_at hL 1 rfl) ?_
        refine xx_gi (ci := 4) (k := 1) C B.1 xc_4 hp55 (by decide) (Nat.le_of_ble_eq_true rfl) rfl q475 (fun _ h => h) dX5_unit_122 ?_
        refine lv_bipush (v := 41) hx hb dX5_unit_125 (by decide) ?_
        refine gg_icmp_eq hx hb 135 h dX5_unit_127 (by decide) (fun h => ?_) (fun h => ?_)
        · refine lv_aload_n hx hb dX5_unit_135 rfl (lv_at hL 1 rfl) ?_
          refine lv_dup hx hb dX5_unit_136 rfl ?_
          refine xx_gi (ci := 4) (k := 4) C B.1 xc_4 hp55 (by decide) (Nat.le_of_ble_eq_true rfl) rfl q478 (fun _ h => h) dX5_unit_137 ?_
          refine lv_iconst (v := 1) hx hb dX5_unit_140 (by decide) ?_
          refine lv_isub hx hb dX5_unit_141 ?_
          refine xx_pi (ci := 4) (k := 4) C B.1 xc_4 hp55 (by decide) (Nat.le_of_ble_eq_true rfl) rfl q478 (fun _ h => h) rfl rfl rfl h dX5_unit_142 (fun gi57 h H locs B2 => ?_)
          have B := And.intro B2 B.2
          refine lv_aload_n hx hb dX5_unit_145 rfl (lv_at hL 1 rfl) ?_
          refine xx_ok h (fun ok58 h => ?_)
          refine k_X5_go hp55 C B hRr q512 (by omega) (by omega) hL.1 (Nat.le_of_ble_eq_true rfl) h dX5_unit_146 (fun q59 ad60 h hae61 H locs B => ?_)
          rw [← (hae61 q49.1 ok58).1] at hL
          have ok62 : (q59.1 q49.1).1 < 1000 := by rw [(hae61 q49.1 ok58).2]; exact ok58
          rw [← (hae61 a0 (by rw [hp55]; decide)).1] at hL
          have hp63 : (q59.1 a0).1 = 14 := by rw [(hae61 a0 (by rw [hp55]; decide)).2]; exact hp55
          rw [← xx_omap (x := o1j70) hae61 ok56] at hL
          have ok64 := xx_okm (x := o1j70) hae61 ok56
          refine lv_aload_n hx hb dX5_unit_149 rfl (lv_at hL 0 rfl) ?_
          exact hret (some q49.1) (ad60, q59.1, q59.2.1, q59.2.2.1, q59.2.2.2.1, q59.2.2.2.2) _ _ _ _ ⟨_, rfl, Option.some.inj h⟩ B dX5_unit_150
        · refine lv_aload_n hx hb dX5_unit_130 rfl (lv_at hL 1 rfl) ?_
          refine xx_ok h (fun ok65 h => ?_)
          refine k_X5_wrong hp55 C B hRr q829 (by omega) (by omega) hL.1 (Nat.le_of_ble_eq_true rfl) h dX5_unit_131 (fun q66 ad67 h hae68 H locs B => ?_)
          rw [← (hae68 q49.1 ok65).1] at hL
          have ok69 : (q66.2.1 q49.1).1 < 1000 := by rw [(hae68 q49.1 ok65).2]; exact ok65
          rw [← (hae68 a0 (by rw [hp55]; decide)).1] at hL
          have hp70 : (q66.2.1 a0).1 = 14 := by rw [(hae68 a0 (by rw [hp55]; decide)).2]; exact hp55
          rw [← xx_omap (x := o1j70) hae68 ok56] at hL
          have ok71 := xx_okm (x := o1j70) hae68 ok56
          refine xx_is h (fun hp72 h => ?_)
          refine vx_athrow hx hb dX5_unit_134 ?_
          exact hthr q66.1 (ad67, q66.2.1, q66.2.2.1, q66.2.2.2.1, q66.2.2.2.2.1, q66.2.2.2.2.2) _ _ _ _ _ (Option.some.inj h) hp72 B
  have hj65 : ∀ (hkj65 : HK) (nxj65 : Nat) (nsj65 : Nat) (gij65 : GI) (grj65 : GR) (adj65 : Nat → Nat) (H : Heap) (locs : List Loc) (ls : Array Slot), f_X5_unit_j65_b fB fO cN cS a0 hkj65 nxj65 nsj65 gij65 grj65 = some r → XBA D cA ad hk nx ns cN cS adj65 hkj65 nxj65 nsj65 A s gij65 grj65 H locs → lv_has ls 3 [(0, .ref (adj65 a0))] → W p l e R s m args below meth c H locs (nxj65 - nx) (nsj65 - ns) Q (F0 m 65 ls []) := by
    intro hkj65 nxj65 nsj65 gij65 grj65 adj65 H locs ls h B hL
    unfold f_X5_unit_j65_b at h
    have ht6 : (hkj65 a0).1 = 14 := by rw [(B.2.1 a0 (by rw [ht]; decide)).2]; exact ht
    refine lv_aload_n hx hb dX5_unit_65 rfl (lv_at hL 0 rfl) ?_
    refine k_X5_wrong ht6 C B hRr q829 (by omega) (by omega) hL.1 (Nat.le_of_ble_eq_true rfl) h dX5_unit_66 (fun q7 ad8 h hae9 H locs B => ?_)
    rw [← (hae9 a0 (by rw [ht6]; decide)).1] at hL
    have hp10 : (q7.2.1 a0).1 = 14 := by rw [(hae9 a0 (by rw [ht6]; decide)).2]; exact ht6
    refine xx_is h (fun hp11 h => ?_)
    refine vx_athrow hx hb dX5_unit_69 ?_
    exact hthr q7.1 (ad8, q7.2.1, q7.2.2.1, q7.2.2.2.1, q7.2.2.2.2.1, q7.2.2.2.2.2) _ _ _ _ _ (Option.some.inj h) hp11 B
  have hj26 : ∀ (hkj26 : HK) (nxj26 : Nat) (nsj26 : Nat) (gij26 : GI) (grj26 : GR) (o1j26 : Option Nat) (adj26 : Nat → Nat) (H : Heap) (locs : List Loc) (ls : Array Slot), f_X5_unit_j26_b fB fO cN cS a0 hkj26 nxj26 nsj26 gij26 grj26 o1j26 = some r → XBA D cA ad hk nx ns cN cS adj26 hkj26 nxj26 nsj26 A s gij26 grj26 H locs → lv_has ls 3 [(0, .ref (adj26 a0)), (1, va_rf (o1j26.map adj26))] → W p l e R s m args below meth c H locs (nxj26 - nx) (nsj26 - ns) Q (F0 m 26 ls []) := by
    intro hkj26 nxj26 nsj26 gij26 grj26 o1j26 adj26 H locs ls h B hL
    unfold f_X5_unit_j26_b at h
    have ht2 : (hkj26 a0).1 = 14 := by rw [(B.2.1 a0 (by rw [ht]; decide)).2]; exact ht
    refine lv_aload_n hx hb dX5_unit_26 rfl (lv_at hL 0 rfl) ?_
    refine xx_gr (ci := 4) (k := 9) C B.1 xc_4 ht2 (by decide) (Nat.le_of_ble_eq_true rfl) rfl q483 (fun _ h => h) h dX5_unit_27 (fun v3 ok4 h => ?_)
    refine xx_is h (fun hp5 h => ?_)
    refine xx_gi (ci := 1) (k := 9) C B.1 xc_1 hp5 (by decide) (Nat.le_of_ble_eq_true rfl) rfl q275 (fun _ h => h) dX5_unit_30 ?_
    refine lv_bipush (v := 60) hx hb dX5_unit_33 (by decide) ?_
    refine gg_icmp_eq hx hb 65 h dX5_unit_35 (by decide) (fun h => ?_) (fun h => ?_)
    · exact hj65 _ _ _ _ _ _ _ _ _ h B (lv_sub hL [0] rfl)
    · refine lv_aload_n hx hb dX5_unit_38 rfl (lv_at hL 0 rfl) ?_
      refine xx_gi (ci := 4) (k := 5) C B.1 xc_4 ht2 (by decide) (Nat.le_of_ble_eq_true rfl) rfl q479 (fun _ h => h) dX5_unit_39 ?_
      refine lv_bipush (v := 30) hx hb dX5_unit_42 (by decide) ?_
      refine gg_icmp_eq hx hb 65 h dX5_unit_44 (by decide) (fun h => ?_) (fun h => ?_)
      · exact hj65 _ _ _ _ _ _ _ _ _ h B (lv_sub hL [0] rfl)
      · refine lv_aload_n hx hb dX5_unit_47 rfl (lv_at hL 0 rfl) ?_
        refine xx_gi (ci := 4) (k := 1) C B.1 xc_4 ht2 (by decide) (Nat.le_of_ble_eq_true rfl) rfl q475 (fun _ h => h) dX5_unit_48 ?_
        refine lv_bipush (v := 40) hx hb dX5_unit_51 (by decide) ?_
        refine gg_icmp_ne hx hb 70 h dX5_unit_53 (by decide) (fun h => ?_) (fun h => ?_)
        · exact hj70 _ _ _ _ _ _ _ _ _ _ h B (lv_sub hL [0, 1] rfl)
        · refine lv_aload_n hx hb dX5_unit_56 rfl (lv_at hL 0 rfl) ?_
          refine xx_gi (ci := 4) (k := 4) C B.1 xc_4 ht2 (by decide) (Nat.le_of_ble_eq_true rfl) rfl q478 (fun _ h => h) dX5_unit_57 ?_
          refine lv_bipush (v := 6) hx hb dX5_unit_60 (by decide) ?_
          refine gg_icmp_le hx hb 70 h dX5_unit_62 (by decide) (fun h => ?_) (fun h => ?_)
          · exact hj70 _ _ _ _ _ _ _ _ _ _ h B (lv_sub hL [0, 1] rfl)
          · exact hj65 _ _ _ _ _ _ _ _ _ h B (lv_sub hL [0] rfl)
  refine lv_aload_n hx hb dX5_unit_0 rfl (lv_at hL 0 rfl) ?_
  refine k_X5_asked ht C B.1 q1176 (by omega) (by omega) hL.1 (Nat.le_of_ble_eq_true rfl) (xa_z hRr B) h dX5_unit_1 (fun q1 h H locs B2 => ?_)
  have B := And.intro B2 B.2
  refine xx_astore_nO (o := q1.1) (ad := ad) (lv' := [(1, va_rf (q1.1.map ad)), (0, .ref (ad a0))]) hx hb dX5_unit_4 rfl hL (by decide) (by first | rfl | (simp [xx_vcat]; done)) (fun ls hL => ?_)
  refine lv_aload_n hx hb dX5_unit_5 rfl (lv_at hL 1 rfl) ?_
  refine xx_gi (ci := 4) (k := 1) C B.1 xc_4 ht (by decide) (Nat.le_of_ble_eq_true rfl) rfl q475 (fun _ h => h) dX5_unit_6 ?_
  refine lv_iconst (v := 2) hx hb dX5_unit_9 (by decide) ?_
  refine gg_icmp_eq hx hb 26 h dX5_unit_10 (by decide) (fun h => ?_) (fun h => ?_)
  · exact hj26 _ _ _ _ _ _ _ _ _ _ h B (lv_sub hL [1, 0] rfl)
  · refine lv_aload_n hx hb dX5_unit_13 rfl (lv_at hL 1 rfl) ?_
    refine xx_gi (ci := 4) (k := 1) C B.1 xc_4 ht (by decide) (Nat.le_of_ble_eq_true rfl) rfl q475 (fun _ h => h) dX5_unit_14 ?_
    refine lv_bipush (v := 40) hx hb dX5_unit_17 (by decide) ?_
    refine gg_icmp_eq hx hb 26 h dX5_unit_19 (by decide) (fun h => ?_) (fun h => ?_)
    · exact hj26 _ _ _ _ _ _ _ _ _ _ h B (lv_sub hL [1, 0] rfl)
    · refine xx_aload_nO (o := q1.1) (ad := ad) hx hb dX5_unit_22 rfl (lv_at hL 0 rfl) ?_
      refine xx_ifnull (o := q1.1) (ad := ad) hx hb 65 h dX5_unit_23 (by decide) (fun ho74 h => ?_) (fun v73 ho74 h => ?_)
      · exact hj65 _ _ _ _ _ _ _ _ _ h B (lv_sub hL [1] rfl)
      · exact hj26 _ _ _ _ _ _ _ _ _ _ h B (lv_sub hL [1, 0] rfl)
theorem k_X5_unit {p : Program} {l : Launch} {e : Env} {R : Room} {s : State} {m : MethodId} {args : Array Value} {below : List Frame} {meth : Method} {c : Code} {H : Heap} {locs : List Loc} {Q : State → Prop} {pc : Nat} {ls : Array Slot} {rest : List Value} {cc : ByteArray} {nL : Nat} {D : va_G} {cA : Nat → ClassId} {a9 : Nat → Nat} {h9 : HK} {n0 m0 cN cS : Nat} {ad : Nat → Nat} {hk : HK} {nx ns : Nat} {A : Nat → Prop} {gi : GI} {gr : GR} {α : Type} {r : α} {own : String} {idx : Nat} {a0 : Nat} {fB fO : FT5} {fr lo : Nat} {ff : ((Nat × HK × Nat × Nat × GI × GR) ⊕ (Nat × HK × Nat × Nat × GI × GR)) → Option α} (hfr : 9 ≤ fr) (hlo : 243 ≤ lo) (hB : H5_both l D cA fB fr lo) (hO : H5_one l D cA fO fr lo) (ht : (hk a0).1 = 14) (C : CallFix p m c cc nL s args lw_all own) (B : XBA D cA a9 h9 n0 m0 cN cS ad hk nx ns A s gi gr H locs) (hRr : R.cells = cN - n0 ∧ R.slots = cS - m0) (hq : Cond.methodLink own idx yX5_unit ∈ lw_all) (hF : fr + 1 + 1 ≤ R.frames) (hN : 8 + (3 + 11) + (lo + 40) ≤ R.locals) (hs : ls.size = nL) (hw : (rest.map fun v => v.category).sum ≤ 8) (h : (g_cc (fun c1 c2 => f_X5_unit_b fB fO c1 c2 hk nx ns gi gr a0) (fun z : (Nat × HK × Nat × Nat × GI × GR) ⊕ (Nat × HK × Nat × Nat × GI × GR) => Sum.elim (fun t : Nat × HK × Nat × Nat × GI × GR => t.2.2.1) (fun q : Nat × HK × Nat × Nat × GI × GR => q.2.2.1) z) (fun z : (Nat × HK × Nat × Nat × GI × GR) ⊕ (Nat × HK × Nat × Nat × GI × GR) => Sum.elim (fun t : Nat × HK × Nat × Nat × GI × GR => t.2.2.2.1) (fun q : Nat × HK × Nat × Nat × GI × GR => q.2.2.2.1) z) cN cS nx ns).bind ff = some r) (hdg : decode cc pc = .ok (.invokevirtual idx, 3)) (kx : ∀ (t : Nat × HK × Nat × Nat × GI × GR) (ad' : Nat → Nat), ff (.inl t) = some r → (t.2.1 t.1).1 = 15 → (∀ i, (hk i).1 < 1000 → ad' i = ad i ∧ t.2.1 i = hk i) → ∀ (H' : Heap) (locs' : List Loc), XBA D cA a9 h9 n0 m0 cN cS ad' t.2.1 t.2.2.1 t.2.2.2.1 A s t.2.2.2.2.1 t.2.2.2.2.2 H' locs' → vx_W p l e R s m args below meth c H' locs' (t.2.2.1 - n0) (t.2.2.2.1 - m0) Q (F0 m pc ls rest) (ad' t.1)) (kk : ∀ (q : Nat × HK × Nat × Nat × GI × GR) (ad' : Nat → Nat), ff (.inr q) = some r → (∀ i, (hk i).1 < 1000 → ad' i = ad i ∧ q.2.1 i = hk i) → ∀ (H' : Heap) (locs' : List Loc), XBA D cA a9 h9 n0 m0 cN cS ad' q.2.1 q.2.2.1 q.2.2.2.1 A s q.2.2.2.2.1 q.2.2.2.2.2 H' locs' → W p l e R s m args below meth c H' locs' (q.2.2.1 - n0) (q.2.2.2.1 - m0) Q (F0 m (pc + 3) ls (.ref (ad' q.1) :: rest))) : W p l e R s m args below meth c H locs (nx - n0) (ns - m0) Q (F0 m pc ls (.ref (ad a0) :: rest)) := by
  obtain ⟨z, h1, h2⟩ := g_ob h
  obtain ⟨h3, c1, c2, c3, c4⟩ := g_cc_of h1
  refine xt_cVR (As := []) (rest := rest) (n := 0) (qn := (fun z : (Nat × HK × Nat × Nat × GI × GR) ⊕ (Nat × HK × Nat × Nat × GI × GR) => Sum.elim (fun t : Nat × HK × Nat × Nat × GI × GR => t.2.2.1) (fun q : Nat × HK × Nat × Nat × GI × GR => q.2.2.1) z) z) (qs := (fun z : (Nat × HK × Nat × Nat × GI × GR) ⊕ (Nat × HK × Nat × Nat × GI × GR) => Sum.elim (fun t : Nat × HK × Nat × Nat × GI × GR => t.2.2.2.1) (fun q : Nat × HK × Nat × Nat × GI × GR => q.2.2.2.1) z) z) xc_4 ht (by decide) C B hRr (fun sz => wb_X5_unit l D cA fB fO fr lo hfr hlo hB hO ad _ _ hk nx ns gi gr a0 ht ⟨c1, c3⟩ z h3 sz) hq q1174 qs34 q151 q1175 (by decide +kernel) ⟨c1, c2, c3, c4⟩ (fun v u hp => ?_) (fun x hp => ?_) ⟨hF, hN⟩ rfl hs hw hdg (fun w u H9 locs9 hp hw9 hae B9 => ?_) (fun v u H9 locs9 hp hae B9 => ?_)
  · have hp := hp
    obtain ⟨v9, rfl, rfl⟩ := hp
    exact ⟨rfl, rfl⟩
  · have hp := hp
    subst hp
    exact ⟨rfl, rfl⟩
  · have hp := hp
    subst hp
    exact kx _ u.1 h2 hw9 hae H9 locs9 B9
  · have hp := hp
    obtain ⟨v9, rfl, rfl⟩ := hp
    exact kk _ u.1 h2 hae H9 locs9 B9
def f_X5_term_j32_b (fB fO : FT5) (cN cS : Nat) (a0 : Nat) (hkj32 : HK) (nxj32 : Nat) (nsj32 : Nat) (gij32 : GI) (grj32 : GR) (a1j32 : Nat) : Option ((Nat × HK × Nat × Nat × GI × GR) ⊕ ((Nat × HK × Nat × Nat × GI × GR) ⊕ (Nat × HK × Nat × Nat × GI × GR))) :=
  (g_ok hkj32 a1j32).bind fun _ =>
  (g_cc (fun c1 c2 => f_X5_go c1 c2 hkj32 nxj32 nsj32 gij32 grj32 a0) (fun q : HK × Nat × Nat × GI × GR => q.2.1) (fun q : HK × Nat × Nat × GI × GR => q.2.2.1) cN cS nxj32 nsj32).bind fun q11 =>
  (g_new cN cS q11.2.1 q11.2.2.1 20 0 3 q11.1 q11.2.2.2.1 q11.2.2.2.2).bind fun q16 =>
  (g_cc (fun c1 c2 => f_X5_unit_b fB fO c1 c2 q16.1 (q11.2.1 + 1) (q11.2.2.1 + 3) q16.2.1 q16.2.2 a0) (fun z : (Nat × HK × Nat × Nat × GI × GR) ⊕ (Nat × HK × Nat × Nat × GI × GR) => Sum.elim (fun t : Nat × HK × Nat × Nat × GI × GR => t.2.2.1) (fun q : Nat × HK × Nat × Nat × GI × GR => q.2.2.1) z) (fun z : (Nat × HK × Nat × Nat × GI × GR) ⊕ (Nat × HK × Nat × Nat × GI × GR) => Sum.elim (fun t : Nat × HK × Nat × Nat × GI × GR => t.2.2.2.1) (fun q : Nat × HK × Nat × Nat × GI × GR => q.2.2.2.1) z) cN cS (q11.2.1 + 1) (q11.2.2.1 + 3)).bind fun q9 => Sum.elim (fun (t23 : Nat × HK × Nat × Nat × GI × GR) => some (.inr (.inr (t23.1, t23.2.1, t23.2.2.1, t23.2.2.2.1, t23.2.2.2.2.1, t23.2.2.2.2.2)))) (fun (q22 : Nat × HK × Nat × Nat × GI × GR) =>
  (g_cc (fun c1 c2 => f_X11_init c1 c2 q22.2.1 q22.2.2.1 q22.2.2.2.1 q22.2.2.2.2.1 q22.2.2.2.2.2 q11.2.1 a1j32 q22.1 (((gij32 a0 1).toUInt32 % 65536).toInt32)) (fun q : HK × Nat × Nat × GI × GR => q.2.1) (fun q : HK × Nat × Nat × GI × GR => q.2.2.1) cN cS q22.2.2.1 q22.2.2.2.1).bind fun q31 =>
  some (.inl (q11.2.1, q31.1, q31.2.1, q31.2.2.1, q31.2.2.2.1, q31.2.2.2.2))) q9
def f_X5_term_l5_b (fB fO : FT5) (cN cS : Nat) (a0 : Nat) (a1l5 : Nat) (hkl5 : HK) (nxl5 : Nat) (nsl5 : Nat) (gil5 : GI) (grl5 : GR) : Option ((Nat × HK × Nat × Nat × GI × GR) ⊕ ((Nat × HK × Nat × Nat × GI × GR) ⊕ (Nat × HK × Nat × Nat × GI × GR))) :=
  if (gil5 a0 1) = 42 then
  (f_X5_term_j32_b fB fO cN cS a0 hkl5 nxl5 nsl5 gil5 grl5 a1l5)
  else
  (if (gil5 a0 1) = 47 then
  (f_X5_term_j32_b fB fO cN cS a0 hkl5 nxl5 nsl5 gil5 grl5 a1l5)
  else
  (if (gil5 a0 1) = 37 then
  (f_X5_term_j32_b fB fO cN cS a0 hkl5 nxl5 nsl5 gil5 grl5 a1l5)
  else
  (some (.inr (.inl (a1l5, hkl5, nxl5, nsl5, gil5, grl5))))))
def f_X5_term_x5_b (fB fO : FT5) (cN cS : Nat) (a0 : Nat) (a1e5 : Nat) (hke5 : HK) (nxe5 : Nat) (nse5 : Nat) (gie5 : GI) (gre5 : GR) : Option ((Nat × HK × Nat × Nat × GI × GR) ⊕ (Nat × HK × Nat × Nat × GI × GR)) :=
  some (.inr (a1e5, hke5, nxe5, nse5, gie5, gre5))
def f_X5_term_b (fB fO : FT5) (cN cS : Nat) (hk : HK) (nx ns : Nat) (gi : GI) (gr : GR) (a0 : Nat) : Option ((Nat × HK × Nat × Nat × GI × GR) ⊕ (Nat × HK × Nat × Nat × GI × GR)) :=
  (g_cc (fun c1 c2 => f_X5_unit_b fB fO c1 c2 hk nx ns gi gr a0) (fun z : (Nat × HK × Nat × Nat × GI × GR) ⊕ (Nat × HK × Nat × Nat × GI × GR) => Sum.elim (fun t : Nat × HK × Nat × Nat × GI × GR => t.2.2.1) (fun q : Nat × HK × Nat × Nat × GI × GR => q.2.2.1) z) (fun z : (Nat × HK × Nat × Nat × GI × GR) ⊕ (Nat × HK × Nat × Nat × GI × GR) => Sum.elim (fun t : Nat × HK × Nat × Nat × GI × GR => t.2.2.2.1) (fun q : Nat × HK × Nat × Nat × GI × GR => q.2.2.2.1) z) cN cS nx ns).bind fun q9 => Sum.elim (fun (t2 : Nat × HK × Nat × Nat × GI × GR) => some (.inl (t2.1, t2.2.1, t2.2.2.1, t2.2.2.2.1, t2.2.2.2.2.1, t2.2.2.2.2.2))) (fun (q1 : Nat × HK × Nat × Nat × GI × GR) =>
  (g_loop g_K (fun (s : Nat × HK × Nat × Nat × GI × GR) => f_X5_term_l5_b fB fO cN cS a0 s.1 s.2.1 s.2.2.1 s.2.2.2.1 s.2.2.2.2.1 s.2.2.2.2.2) (q1.1, q1.2.1, q1.2.2.1, q1.2.2.2.1, q1.2.2.2.2.1, q1.2.2.2.2.2)).bind fun E5 => Sum.elim (fun (S5 : Nat × HK × Nat × Nat × GI × GR) => f_X5_term_x5_b fB fO cN cS a0 S5.1 S5.2.1 S5.2.2.1 S5.2.2.2.1 S5.2.2.2.2.1 S5.2.2.2.2.2) (fun (t5 : Nat × HK × Nat × Nat × GI × GR) => some (.inl t5)) E5) q9
set_option maxHeartbeats 400000 in
theorem wb_X5_term (l : Launch) (D : va_G) (cA : Nat → ClassId) (fB fO : FT5) (fr lo : Nat) (hfr : 9 ≤ fr) (hlo : 243 ≤ lo) (hB : H5_both l D cA fB fr lo) (hO : H5_one l D cA fO fr lo) (ad : Nat → Nat) (cN cS : Nat) (hk : HK) (nx ns : Nat) (gi : GI) (gr : GR) (a0 : Nat) (ht : (hk a0).1 = 14) (hcap : nx ≤ cN ∧ ns ≤ cS) (r : (Nat × HK × Nat × Nat × GI × GR) ⊕ (Nat × HK × Nat × Nat × GI × GR)) (h : f_X5_term_b fB fO cN cS hk nx ns gi gr a0 = some r) (sz : Nat) : vx_Met l yX5_term (ws_ yX5_term cX5_term 3 (some (.object "WeatherWages$Node"))) ({ frames := fr + 2, cells := cN - nx, slots := cS - ns, locals := lo + 80 } : Room) (va_Pc [.ref (ad a0)] (XPre D cA ad hk nx gi gr sz)) (va_Qq (fun o u => ∃ v : Option Nat, o = v.map u.1 ∧ (fun (v : Option Nat) (u : XU) => ∃ v9, v = some v9 ∧ Sum.inr (v9, u.2) = r) v u) (XPostA D cA ad hk nx sz) (XA ad nx sz)) (vx_X (fun x : XV => Sum.inl (x.1, x.2.2) = r) (XPostX D cA ad hk nx sz) (XA ad nx sz)) (cN - nx) (cS - ns) (XA ad nx sz) := by
  refine xt_stR (Or.inl ⟨_, rfl⟩) (own := RX5) (P := (fun (v : Option Nat) (u : XU) => ∃ v9, v = some v9 ∧ Sum.inr (v9, u.2) = r)) (PX := (fun x : XV => Sum.inl (x.1, x.2.2) = r)) (by decide +kernel) rfl (Nat.le_of_ble_eq_true rfl) hcap (fun p e s m args below meth c R Q A ls C hmn hF hN hRr B hret hthr hL => ?_) sz
  have hx := C.1
  have hb := C.2.1
  have hL : lv_has ls 3 [(0, .ref (ad a0))] := hL
  unfold f_X5_term_b at h
  refine lv_aload_n hx hb dX5_term_0 rfl (lv_at hL 0 rfl) ?_
  refine k_X5_unit hfr hlo hB hO ht C B hRr q1172 (by omega) (by omega) hL.1 (Nat.le_of_ble_eq_true rfl) h dX5_term_1 (fun t2 ad4 h hw6 _ H locs B => ?_) (fun q1 ad3 h hae5 H locs B => ?_)
  · exact hthr t2.1 (ad4, t2.2.1, t2.2.2.1, t2.2.2.2.1, t2.2.2.2.2.1, t2.2.2.2.2.2) _ _ _ _ _ (Option.some.inj h) hw6 B
  · have h := g_elr h
    rw [← (hae5 a0 (by rw [ht]; decide)).1] at hL
    have hp7 : (q1.2.1 a0).1 = 14 := by rw [(hae5 a0 (by rw [ht]; decide)).2]; exact ht
    refine lv_astore_n (lv' := [(1, .ref (ad3 q1.1)), (0, .ref (ad3 a0))]) hx hb dX5_term_4 rfl hL (by decide) rfl (fun ls hL => ?_)
    obtain ⟨E5, h85, h⟩ := g_ob h
    have kx5 : ∀ (a1e5 : Nat) (hke5 : HK) (nxe5 : Nat) (nse5 : Nat) (gie5 : GI) (gre5 : GR) (ade5 : Nat → Nat) (H : Heap) (locs : List Loc) (ls : Array Slot), Sum.inl (a1e5, hke5, nxe5, nse5, gie5, gre5) = E5 → XBA D cA ad hk nx ns cN cS ade5 hke5 nxe5 nse5 A s gie5 gre5 H locs → lv_has ls 3 [(1, .ref (ade5 a1e5))] → W p l e R s m args below meth c H locs (nxe5 - nx) (nse5 - ns) Q (F0 m 59 ls []) := by
      intro a1e5 hke5 nxe5 nse5 gie5 gre5 ade5 H locs ls he B hL
      subst he
      have h : f_X5_term_x5_b fB fO cN cS a0 a1e5 hke5 nxe5 nse5 gie5 gre5 = some r := h
      unfold f_X5_term_x5_b at h
      have ht37 : (hke5 a0).1 = 14 := by rw [(B.2.1 a0 (by rw [ht]; decide)).2]; exact ht
      refine lv_aload_n hx hb dX5_term_59 rfl (lv_at hL 0 rfl) ?_
      exact hret (some a1e5) (ade5, hke5, nxe5, nse5, gie5, gre5) _ _ _ _ ⟨_, rfl, Option.some.inj h⟩ B dX5_term_60
    have kt5 : ∀ (w : Nat) (u : XU) (H : Heap) (locs : List Loc) (ls : Array Slot) (pc : Nat) (rest : List Value), Sum.inr (w, u.2) = E5 → (u.2.1 w).1 = 15 → XBA D cA ad hk nx ns cN cS u.1 u.2.1 u.2.2.1 u.2.2.2.1 A s u.2.2.2.2.1 u.2.2.2.2.2 H locs → vx_W p l e R s m args below meth c H locs (u.2.2.1 - nx) (u.2.2.2.1 - ns) Q (F0 m pc ls rest) (u.1 w) := by
      intro w u H locs ls pc rest he hw B
      subst he
      have h : some (Sum.inl (w, u.2)) = some r := h
      exact hthr w u H locs ls pc rest (Option.some.inj h) hw B
    have hl5 : ∀ (k : Nat) (a1l5 : Nat) (hkl5 : HK) (nxl5 : Nat) (nsl5 : Nat) (gil5 : GI) (grl5 : GR) (adl5 : Nat → Nat) (H : Heap) (locs : List Loc) (ls : Array Slot), g_loop k (fun (s : Nat × HK × Nat × Nat × GI × GR) => f_X5_term_l5_b fB fO cN cS a0 s.1 s.2.1 s.2.2.1 s.2.2.2.1 s.2.2.2.2.1 s.2.2.2.2.2) (a1l5, hkl5, nxl5, nsl5, gil5, grl5) = some E5 → XBA D cA ad hk nx ns cN cS adl5 hkl5 nxl5 nsl5 A s gil5 grl5 H locs → lv_has ls 3 [(0, .ref (adl5 a0)), (1, .ref (adl5 a1l5))] → W p l e R s m args below meth c H locs (nxl5 - nx) (nsl5 - ns) Q (F0 m 5 ls []) := by
      intro k
      induction k with
      | zero => intro a1l5 hkl5 nxl5 nsl5 gil5 grl5 adl5 H locs ls h; exact absurd h (fun z => g_loop_0 z)
      | succ k ih5 =>
        intro a1l5 hkl5 nxl5 nsl5 gil5 grl5 adl5 H locs ls h B hL
        obtain ⟨Z5, h, h95⟩ := g_loop_s h
        have h : f_X5_term_l5_b fB fO cN cS a0 a1l5 hkl5 nxl5 nsl5 gil5 grl5 = some Z5 := h
        unfold f_X5_term_l5_b at h
        have hj32 : ∀ (hkj32 : HK) (nxj32 : Nat) (nsj32 : Nat) (gij32 : GI) (grj32 : GR) (a1j32 : Nat) (adj32 : Nat → Nat) (H : Heap) (locs : List Loc) (ls : Array Slot), f_X5_term_j32_b fB fO cN cS a0 hkj32 nxj32 nsj32 gij32 grj32 a1j32 = some Z5 → XBA D cA ad hk nx ns cN cS adj32 hkj32 nxj32 nsj32 A s gij32 grj32 H locs → lv_has ls 3 [(0, .ref (adj32 a0)), (1, .ref (adj32 a1j32))] → W p l e R s m args below meth c H locs (nxj32 - nx) (nsj32 - ns) Q (F0 m 32 ls []) := by
          intro hkj32 nxj32 nsj32 gij32 grj32 a1j32 adj32 H locs ls h B hL
          unfold f_X5_term_j32_b at h
          have ht9 : (hkj32 a0).1 = 14 := by rw [(B.2.1 a0 (by rw [ht]; decide)).2]; exact ht
          refine lv_aload_n hx hb dX5_term_32 rfl (lv_at hL 0 rfl) ?_
          refine xx_gi (ci := 4) (k := 1) C B.1 xc_4 ht9 (by decide) (Nat.le_of_ble_eq_true rfl) rfl q475 (fun _ h => h) dX5_term_33 ?_
          refine lv_i2c hx hb dX5_term_36 rfl ?_
          refine lv_istore_n (lv' := [(2, .int (((gij32 a0 1).toUInt32 % 65536).toInt32)), (0, .ref (adj32 a0)), (1, .ref (adj32 a1j32))]) hx hb dX5_term_37 rfl hL (by decide) rfl (fun ls hL => ?_)
          refine lv_aload_n hx hb dX5_term_38 rfl (lv_at hL 1 rfl) ?_
          refine xx_ok h (fun ok10 h => ?_)
          refine k_X5_go ht9 C B hRr q512 (by omega) (by omega) hL.1 (Nat.le_of_ble_eq_true rfl) h dX5_term_39 (fun q11 ad12 h hae13 H locs B => ?_)
          rw [← (hae13 a0 (by rw [ht9]; decide)).1] at hL
          have hp14 : (q11.1 a0).1 = 14 := by rw [(hae13 a0 (by rw [ht9]; decide)).2]; exact ht9
          rw [← (hae13 a1j32 ok10).1] at hL
          have ok15 : (q11.1 a1j32).1 < 1000 := by rw [(hae13 a1j32 ok10).2]; exact ok10
          refine xa_new C B hRr xc_10 (by decide) xd_10 q1202 q1203 q171 h dX5_term_42 (fun q16 ad17 h hae18 hp19 H B => ?_)
          rw [← (hae18 a0 (by rw [hp14]; decide)).1] at hL
          have hp20 : (q16.1 a0).1 = 14 := by rw [(hae18 a0 (by rw [hp14]; decide)).2]; exact hp14
          rw [← (hae18 a1j32 ok15).1] at hL
          have ok21 : (q16.1 a1j32).1 < 1000 := by rw [(hae18 a1j32 ok15).2]; exact ok15
          refine lv_dup hx hb dX5_term_45 rfl ?_
          refine lv_aload_n hx hb dX5_term_46 rfl (lv_at hL 2 rfl) ?_
          refine lv_aload_n hx hb dX5_term_47 rfl (lv_at hL 1 rfl) ?_
          refine k_X5_unit hfr hlo hB hO hp20 C B hRr q1172 (by omega) (by omega) hL.1 (Nat.le_of_ble_eq_true rfl) h dX5_term_48 (fun t23 ad25 h hw27 _ H locs B => ?_) (fun q22 ad24 h hae26 H locs B => ?_)
          · exact kt5 t23.1 (ad25, t23.2.1, t23.2.2.1, t23.2.2.2.1, t23.2.2.2.2.1, t23.2.2.2.2.2) _ _ _ _ _ (g_exit h h95) hw27 B
          · have h := g_elr h
            rw [← (hae26 a0 (by rw [hp20]; decide)).1] at hL
            have hp28 : (q22.2.1 a0).1 = 14 := by rw [(hae26 a0 (by rw [hp20]; decide)).2]; exact hp20
            rw [← (hae26 a1j32 ok21).1] at hL
            rw [← (hae26 a1j32 ok21).1]
            have ok29 : (q22.2.1 a1j32).1 < 1000 := by rw [(hae26 a1j32 ok21).2]; exact ok21
            rw [← (hae26 q11.2.1 (by rw [hp19]; decide)).1]
            have hp30 : (q22.2.1 q11.2.1).1 = 20 := by rw [(hae26 q11.2.1 (by rw [hp19]; decide)).2]; exact hp19
            refine lv_iload_n hx hb dX5_term_51 rfl (lv_at hL 0 rfl) ?_
            refine k_X11_init hp30 C B hRr q1204 (by omega) (by omega) hL.1 (Nat.le_of_ble_eq_true rfl) h dX5_term_52 (fun q31 ad32 h hae33 H locs B => ?_)
            rw [← (hae33 a0 (by rw [hp28]; decide)).1] at hL
            have hp34 : (q31.1 a0).1 = 14 := by rw [(hae33 a0 (by rw [hp28]; decide)).2]; exact hp28
            rw [← (hae33 a1j32 ok29).1] at hL
            have ok35 : (q31.1 a1j32).1 < 1000 := by rw [(hae33 a1j32 ok29).2]; exact ok29
            rw [← (hae33 q11.2.1 (by rw [hp30]; decide)).1]
            have hp36 : (q31.1 q11.2.1).1 = 20 := by rw [(hae33 q11.2.1 (by rw [hp30]; decide)).2]; exact hp30
            refine lv_astore_n (lv' := [(1, .ref (ad32 q11.2.1)), (2, .int (((gij32 a0 1).toUInt32 % 65536).toInt32)), (0, .ref (ad32 a0))]) hx hb dX5_term_55 rfl hL (by decide) rfl (fun ls hL => ?_)
            refine lv_goto (tgt := 5) hx hb dX5_term_56 (by decide) ?_
            exact ih5 _ _ _ _ _ _ _ _ _ _ (g_next h h95) B (lv_sub hL [2, 0] rfl)
        have ht8 : (hkl5 a0).1 = 14 := by rw [(B.2.1 a0 (by rw [ht]; decide)).2]; exact ht
        refine lv_aload_n hx hb dX5_term_5 rfl (lv_at hL 0 rfl) ?_
        refine xx_gi (ci := 4) (k := 1) C B.1 xc_4 ht8 (by decide) (Nat.le_of_ble_eq_true rfl) rfl q475 (fun _ h => h) dX5_term_6 ?_
        refine lv_bipush (v := 42) hx hb dX5_term_9 (by decide) ?_
        refine gg_icmp_eq hx hb 32 h dX5_term_11 (by decide) (fun h => ?_) (fun h => ?_)
        · exact hj32 _ _ _ _ _ _ _ _ _ _ h B (lv_sub hL [0, 1] rfl)
        · refine lv_aload_n hx hb dX5_term_14 rfl (lv_at hL 0 rfl) ?_
          refine xx_gi (ci := 4) (k := 1) C B.1 xc_4 ht8 (by decide) (Nat.le_of_ble_eq_true rfl) rfl q475 (fun _ h => h) dX5_term_15 ?_
          refine lv_bipush (v := 47) hx hb dX5_term_18 (by decide) ?_
          refine gg_icmp_eq hx hb 32 h dX5_term_20 (by decide) (fun h => ?_) (fun h => ?_)
          · exact hj32 _ _ _ _ _ _ _ _ _ _ h B (lv_sub hL [0, 1] rfl)
          · refine lv_aload_n hx hb dX5_term_23 rfl (lv_at hL 0 rfl) ?_
            refine xx_gi (ci := 4) (k := 1) C B.1 xc_4 ht8 (by decide) (Nat.le_of_ble_eq_true rfl) rfl q475 (fun _ h => h) dX5_term_24 ?_
            refine lv_bipush (v := 37) hx hb dX5_term_27 (by decide) ?_
            refine gg_icmp_ne hx hb 59 h dX5_term_29 (by decide) (fun h => ?_) (fun h => ?_)
            · exact kx5 _ _ _ _ _ _ _ _ _ _ (g_exit h h95) B (lv_sub hL [1] rfl)
            · exact hj32 _ _ _ _ _ _ _ _ _ _ h B (lv_sub hL [0, 1] rfl)
    exact hl5 g_K _ _ _ _ _ _ _ _ _ _ h85 B (lv_sub hL [1, 0] rfl)
theorem k_X5_term {p : Program} {l : Launch} {e : Env} {R : Room} {s : State} {m : MethodId} {args : Array Value} {below : List Frame} {meth : Method} {c : Code} {H : Heap} {locs : List Loc} {Q : State → Prop} {pc : Nat} {ls : Array Slot} {rest : List Value} {cc : ByteArray} {nL : Nat} {D : va_G} {cA : Nat → ClassId} {a9 : Nat → Nat} {h9 : HK} {n0 m0 cN cS : Nat} {ad : Nat → Nat} {hk : HK} {nx ns : Nat} {A : Nat → Prop} {gi : GI} {gr : GR} {α : Type} {r : α} {own : String} {idx : Nat} {a0 : Nat} {fB fO : FT5} {fr lo : Nat} {ff : ((Nat × HK × Nat × Nat × GI × GR) ⊕ (Nat × HK × Nat × Nat × GI × GR)) → Option α} (hfr : 9 ≤ fr) (hlo : 243 ≤ lo) (hB : H5_both l D cA fB fr lo) (hO : H5_one l D cA fO fr lo) (ht : (hk a0).1 = 14) (C : CallFix p m c cc nL s args lw_all own) (B : XBA D cA a9 h9 n0 m0 cN cS ad hk nx ns A s gi gr H locs) (hRr : R.cells = cN - n0 ∧ R.slots = cS - m0) (hq : Cond.methodLink own idx yX5_term ∈ lw_all) (hF : fr + 2 + 1 ≤ R.frames) (hN : 8 + (3 + 11) + (lo + 80) ≤ R.locals) (hs : ls.size = nL) (hw : (rest.map fun v => v.category).sum ≤ 8) (h : (g_cc (fun c1 c2 => f_X5_term_b fB fO c1 c2 hk nx ns gi gr a0) (fun z : (Nat × HK × Nat × Nat × GI × GR) ⊕ (Nat × HK × Nat × Nat × GI × GR) => Sum.elim (fun t : Nat × HK × Nat × Nat × GI × GR => t.2.2.1) (fun q : Nat × HK × Nat × Nat × GI × GR => q.2.2.1) z) (fun z : (Nat × HK × Nat × Nat × GI × GR) ⊕ (Nat × HK × Nat × Nat × GI × GR) => Sum.elim (fun t : Nat × HK × Nat × Nat × GI × GR => t.2.2.2.1) (fun q : Nat × HK × Nat × Nat × GI × GR => q.2.2.2.1) z) cN cS nx ns).bind ff = some r) (hdg : decode cc pc = .ok (.invokevirtual idx, 3)) (kx : ∀ (t : Nat × HK × Nat × Nat × GI × GR) (ad' : Nat → Nat), ff (.inl t) = some r → (t.2.1 t.1).1 = 15 → (∀ i, (hk i).1 < 1000 → ad' i = ad i ∧ t.2.1 i = hk i) → ∀ (H' : Heap) (locs' : List Loc), XBA D cA a9 h9 n0 m0 cN cS ad' t.2.1 t.2.2.1 t.2.2.2.1 A s t.2.2.2.2.1 t.2.2.2.2.2 H' locs' → vx_W p l e R s m args below meth c H' locs' (t.2.2.1 - n0) (t.2.2.2.1 - m0) Q (F0 m pc ls rest) (ad' t.1)) (kk : ∀ (q : Nat × HK × Nat × Nat × GI × GR) (ad' : Nat → Nat), ff (.inr q) = some r → (∀ i, (hk i).1 < 1000 → ad' i = ad i ∧ q.2.1 i = hk i) → ∀ (H' : Heap) (locs' : List Loc), XBA D cA a9 h9 n0 m0 cN cS ad' q.2.1 q.2.2.1 q.2.2.2.1 A s q.2.2.2.2.1 q.2.2.2.2.2 H' locs' → W p l e R s m args below meth c H' locs' (q.2.2.1 - n0) (q.2.2.2.1 - m0) Q (F0 m (pc + 3) ls (.ref (ad' q.1) :: rest))) : W p l e R s m args below meth c H locs (nx - n0) (ns - m0) Q (F0 m pc ls (.ref (ad a0) :: rest)) := by
  obtain ⟨z, h1, h2⟩ := g_ob h
  obtain ⟨h3, c1, c2, c3, c4⟩ := g_cc_of h1
  refine xt_cVR (As := []) (rest := rest) (n := 0) (qn := (fun z : (Nat × HK × Nat × Nat × GI × GR) ⊕ (Nat × HK × Nat × Nat × GI × GR) => Sum.elim (fun t : Nat × HK × Nat × Nat × GI × GR => t.2.2.1) (fun q : Nat × HK × Nat × Nat × GI × GR => q.2.2.1) z) z) (qs := (fun z : (Nat × HK × Nat × Nat × GI × GR) ⊕ (Nat × HK × Nat × Nat × GI × GR) => Sum.elim (fun t : Nat × HK × Nat × Nat × GI × GR => t.2.2.2.1) (fun q : Nat × HK × Nat × Nat × GI × GR => q.2.2.2.1) z) z) xc_4 ht (by decide) C B hRr (fun sz => wb_X5_term l D cA fB fO fr lo hfr hlo hB hO ad _ _ hk nx ns gi gr a0 ht ⟨c1, c3⟩ z h3 sz) hq q1170 qs33 q151 q1171 (by decide +kernel) ⟨c1, c2, c3, c4⟩ (fun v u hp => ?_) (fun x hp => ?_) ⟨hF, hN⟩ rfl hs hw hdg (fun w u H9 locs9 hp hw9 hae B9 => ?_) (fun v u H9 locs9 hp hae B9 => ?_)
  · have hp := hp
    obtain ⟨v9, rfl, rfl⟩ := hp
    exact ⟨rfl, rfl⟩
  · have hp := hp
    subst hp
    exact ⟨rfl, rfl⟩
  · have hp := hp
    subst hp
    exact kx _ u.1 h2 hw9 hae H9 locs9 B9
  · have hp := hp
    obtain ⟨v9, rfl, rfl⟩ := hp
    exact kk _ u.1 h2 hae H9 locs9 B9
def f_X5_sum_j23_b (fB fO : FT5) (cN cS : Nat) (a0 : Nat) (hkj23 : HK) (nxj23 : Nat) (nsj23 : Nat) (gij23 : GI) (grj23 : GR) (a1j23 : Nat) : Option ((Nat × HK × Nat × Nat × GI × GR) ⊕ ((Nat × HK × Nat × Nat × GI × GR) ⊕ (Nat × HK × Nat × Nat × GI × GR))) :=
  (g_ok hkj23 a1j23).bind fun _ =>
  (g_cc (fun c1 c2 => f_X5_go c1 c2 hkj23 nxj23 nsj23 gij23 grj23 a0) (fun q : HK × Nat × Nat × GI × GR => q.2.1) (fun q : HK × Nat × Nat × GI × GR => q.2.2.1) cN cS nxj23 nsj23).bind fun q11 =>
  (g_new cN cS q11.2.1 q11.2.2.1 20 0 3 q11.1 q11.2.2.2.1 q11.2.2.2.2).bind fun q16 =>
  (g_cc (fun c1 c2 => f_X5_term_b fB fO c1 c2 q16.1 (q11.2.1 + 1) (q11.2.2.1 + 3) q16.2.1 q16.2.2 a0) (fun z : (Nat × HK × Nat × Nat × GI × GR) ⊕ (Nat × HK × Nat × Nat × GI × GR) => Sum.elim (fun t : Nat × HK × Nat × Nat × GI × GR => t.2.2.1) (fun q : Nat × HK × Nat × Nat × GI × GR => q.2.2.1) z) (fun z : (Nat × HK × Nat × Nat × GI × GR) ⊕ (Nat × HK × Nat × Nat × GI × GR) => Sum.elim (fun t : Nat × HK × Nat × Nat × GI × GR => t.2.2.2.1) (fun q : Nat × HK × Nat × Nat × GI × GR => q.2.2.2.1) z) cN cS (q11.2.1 + 1) (q11.2.2.1 + 3)).bind fun q9 => Sum.elim (fun (t23 : Nat × HK × Nat × Nat × GI × GR) => some (.inr (.inr (t23.1, t23.2.1, t23.2.2.1, t23.2.2.2.1, t23.2.2.2.2.1, t23.2.2.2.2.2)))) (fun (q22 : Nat × HK × Nat × Nat × GI × GR) =>
  (g_cc (fun c1 c2 => f_X11_init c1 c2 q22.2.1 q22.2.2.1 q22.2.2.2.1 q22.2.2.2.2.1 q22.2.2.2.2.2 q11.2.1 a1j23 q22.1 (((gij23 a0 1).toUInt32 % 65536).toInt32)) (fun q : HK × Nat × Nat × GI × GR => q.2.1) (fun q : HK × Nat × Nat × GI × GR => q.2.2.1) cN cS q22.2.2.1 q22.2.2.2.1).bind fun q31 =>
  some (.inl (q11.2.1, q31.1, q31.2.1, q31.2.2.1, q31.2.2.2.1, q31.2.2.2.2))) q9
def f_X5_sum_l5_b (fB fO : FT5) (cN cS : Nat) (a0 : Nat) (a1l5 : Nat) (hkl5 : HK) (nxl5 : Nat) (nsl5 : Nat) (gil5 : GI) (grl5 : GR) : Option ((Nat × HK × Nat × Nat × GI × GR) ⊕ ((Nat × HK × Nat × Nat × GI × GR) ⊕ (Nat × HK × Nat × Nat × GI × GR))) :=
  if (gil5 a0 1) = 43 then
  (f_X5_sum_j23_b fB fO cN cS a0 hkl5 nxl5 nsl5 gil5 grl5 a1l5)
  else
  (if (gil5 a0 1) = 45 then
  (f_X5_sum_j23_b fB fO cN cS a0 hkl5 nxl5 nsl5 gil5 grl5 a1l5)
  else
  (some (.inr (.inl (a1l5, hkl5, nxl5, nsl5, gil5, grl5)))))
def f_X5_sum_x5_b (fB fO : FT5) (cN cS : Nat) (a0 : Nat) (a1e5 : Nat) (hke5 : HK) (nxe5 : Nat) (nse5 : Nat) (gie5 : GI) (gre5 : GR) : Option ((Nat × HK × Nat × Nat × GI × GR) ⊕ (Nat × HK × Nat × Nat × GI × GR)) :=
  some (.inr (a1e5, hke5, nxe5, nse5, gie5, gre5))
def f_X5_sum_b (fB fO : FT5) (cN cS : Nat) (hk : HK) (nx ns : Nat) (gi : GI) (gr : GR) (a0 : Nat) : Option ((Nat × HK × Nat × Nat × GI × GR) ⊕ (Nat × HK × Nat × Nat × GI × GR)) :=
  (g_cc (fun c1 c2 => f_X5_term_b fB fO c1 c2 hk nx ns gi gr a0) (fun z : (Nat × HK × Nat × Nat × GI × GR) ⊕ (Nat × HK × Nat × Nat × GI × GR) => Sum.elim (fun t : Nat × HK × Nat × Nat × GI × GR => t.2.2.1) (fun q : Nat × HK × Nat × Nat × GI × GR => q.2.2.1) z) (fun z : (Nat × HK × Nat × Nat × GI × GR) ⊕ (Nat × HK × Nat × Nat × GI × GR) => Sum.elim (fun t : Nat × HK × Nat × Nat × GI × GR => t.2.2.2.1) (fun q : Nat × HK × Nat × Nat × GI × GR => q.2.2.2.1) z) cN cS nx ns).bind fun q9 => Sum.elim (fun (t2 : Nat × HK × Nat × Nat × GI × GR) => some (.inl (t2.1, t2.2.1, t2.2.2.1, t2.2.2.2.1, t2.2.2.2.2.1, t2.2.2.2.2.2))) (fun (q1 : Nat × HK × Nat × Nat × GI × GR) =>
  (g_loop g_K (fun (s : Nat × HK × Nat × Nat × GI × GR) => f_X5_sum_l5_b fB fO cN cS a0 s.1 s.2.1 s.2.2.1 s.2.2.2.1 s.2.2.2.2.1 s.2.2.2.2.2) (q1.1, q1.2.1, q1.2.2.1, q1.2.2.2.1, q1.2.2.2.2.1, q1.2.2.2.2.2)).bind fun E5 => Sum.elim (fun (S5 : Nat × HK × Nat × Nat × GI × GR) => f_X5_sum_x5_b fB fO cN cS a0 S5.1 S5.2.1 S5.2.2.1 S5.2.2.2.1 S5.2.2.2.2.1 S5.2.2.2.2.2) (fun (t5 : Nat × HK × Nat × Nat × GI × GR) => some (.inl t5)) E5) q9
set_option maxHeartbeats 400000 in
theorem wb_X5_sum (l : Launch) (D : va_G) (cA : Nat → ClassId) (fB fO : FT5) (fr lo : Nat) (hfr : 9 ≤ fr) (hlo : 243 ≤ lo) (hB : H5_both l D cA fB fr lo) (hO : H5_one l D cA fO fr lo) (ad : Nat → Nat) (cN cS : Nat) (hk : HK) (nx ns : Nat) (gi : GI) (gr : GR) (a0 : Nat) (ht : (hk a0).1 = 14) (hcap : nx ≤ cN ∧ ns ≤ cS) (r : (Nat × HK × Nat × Nat × GI × GR) ⊕ (Nat × HK × Nat × Nat × GI × GR)) (h : f_X5_sum_b fB fO cN cS hk nx ns gi gr a0 = some r) (sz : Nat) : vx_Met l yX5_sum (ws_ yX5_sum cX5_sum 3 (some (.object "WeatherWages$Node"))) ({ frames := fr + 3, cells := cN - nx, slots := cS - ns, locals := lo + 120 } : Room) (va_Pc [.ref (ad a0)] (XPre D cA ad hk nx gi gr sz)) (va_Qq (fun o u => ∃ v : Option Nat, o = v.map u.1 ∧ (fun (v : Option Nat) (u : XU) => ∃ v9, v = some v9 ∧ Sum.inr (v9, u.2) = r) v u) (XPostA D cA ad hk nx sz) (XA ad nx sz)) (vx_X (fun x : XV => Sum.inl (x.1, x.2.2) = r) (XPostX D cA ad hk nx sz) (XA ad nx sz)) (cN - nx) (cS - ns) (XA ad nx sz) := by
  refine xt_stR (Or.inl ⟨_, rfl⟩) (own := RX5) (P := (fun (v : Option Nat) (u : XU) => ∃ v9, v = some v9 ∧ Sum.inr (v9, u.2) = r)) (PX := (fun x : XV => Sum.inl (x.1, x.2.2) = r)) (by decide +kernel) rfl (Nat.le_of_ble_eq_true rfl) hcap (fun p e s m args below meth c R Q A ls C hmn hF hN hRr B hret hthr hL => ?_) sz
  have hx := C.1
  have hb := C.2.1
  have hL : lv_has ls 3 [(0, .ref (ad a0))] := hL
  unfold f_X5_sum_b at h
  refine lv_aload_n hx hb dX5_sum_0 rfl (lv_at hL 0 rfl) ?_
  refine k_X5_term hfr hlo hB hO ht C B hRr q1168 (by omega) (by omega) hL.1 (Nat.le_of_ble_eq_true rfl) h dX5_sum_1 (fun t2 ad4 h hw6 _ H locs B => ?_) (fun q1 ad3 h hae5 H locs B => ?_)
  · exact hthr t2.1 (ad4, t2.2.1, t2.2.2.1, t2.2.2.2.1, t2.2.2.2.2.1, t2.2.2.2.2.2) _ _ _ _ _ (Option.some.inj h) hw6 B
  · have h := g_elr h
    rw [← (hae5 a0 (by rw [ht]; decide)).1] at hL
    have hp7 : (q1.2.1 a0).1 = 14 := by rw [(hae5 a0 (by rw [ht]; decide)).2]; exact ht
    refine lv_astore_n (lv' := [(1, .ref (ad3 q1.1)), (0, .ref (ad3 a0))]) hx hb dX5_sum_4 rfl hL (by decide) rfl (fun ls hL => ?_)
    obtain ⟨E5, h85, h⟩ := g_ob h
    have kx5 : ∀ (a1e5 : Nat) (hke5 : HK) (nxe5 : Nat) (nse5 : Nat) (gie5 : GI) (gre5 : GR) (ade5 : Nat → Nat) (H : Heap) (locs : List Loc) (ls : Array Slot), Sum.inl (a1e5, hke5, nxe5, nse5, gie5, gre5) = E5 → XBA D cA ad hk nx ns cN cS ade5 hke5 nxe5 nse5 A s gie5 gre5 H locs → lv_has ls 3 [(1, .ref (ade5 a1e5))] → W p l e R s m args below meth c H locs (nxe5 - nx) (nse5 - ns) Q (F0 m 50 ls []) := by
      intro a1e5 hke5 nxe5 nse5 gie5 gre5 ade5 H locs ls he B hL
      subst he
      have h : f_X5_sum_x5_b fB fO cN cS a0 a1e5 hke5 nxe5 nse5 gie5 gre5 = some r := h
      unfold f_X5_sum_x5_b at h
      have ht37 : (hke5 a0).1 = 14 := by rw [(B.2.1 a0 (by rw [ht]; decide)).2]; exact ht
      refine lv_aload_n hx hb dX5_sum_50 rfl (lv_at hL 0 rfl) ?_
      exact hret (some a1e5) (ade5, hke5, nxe5, nse5, gie5, gre5) _ _ _ _ ⟨_, rfl, Option.some.inj h⟩ B dX5_sum_51
    have kt5 : ∀ (w : Nat) (u : XU) (H : Heap) (locs : List Loc) (ls : Array Slot) (pc : Nat) (rest : List Value), Sum.inr (w, u.2) = E5 → (u.2.1 w).1 = 15 → XBA D cA ad hk nx ns cN cS u.1 u.2.1 u.2.2.1 u.2.2.2.1 A s u.2.2.2.2.1 u.2.2.2.2.2 H locs → vx_W p l e R s m args below meth c H locs (u.2.2.1 - nx) (u.2.2.2.1 - ns) Q (F0 m pc ls rest) (u.1 w) := by
      intro w u H locs ls pc rest he hw B
      subst he
      have h : some (Sum.inl (w, u.2)) = some r := h
      exact hthr w u H locs ls pc rest (Option.some.inj h) hw B
    have hl5 : ∀ (k : Nat) (a1l5 : Nat) (hkl5 : HK) (nxl5 : Nat) (nsl5 : Nat) (gil5 : GI) (grl5 : GR) (adl5 : Nat → Nat) (H : Heap) (locs : List Loc) (ls : Array Slot), g_loop k (fun (s : Nat × HK × Nat × Nat × GI × GR) => f_X5_sum_l5_b fB fO cN cS a0 s.1 s.2.1 s.2.2.1 s.2.2.2.1 s.2.2.2.2.1 s.2.2.2.2.2) (a1l5, hkl5, nxl5, nsl5, gil5, grl5) = some E5 → XBA D cA ad hk nx ns cN cS adl5 hkl5 nxl5 nsl5 A s gil5 grl5 H locs → lv_has ls 3 [(0, .ref (adl5 a0)), (1, .ref (adl5 a1l5))] → W p l e R s m args below meth c H locs (nxl5 - nx) (nsl5 - ns) Q (F0 m 5 ls []) := by
      intro k
      induction k with
      | zero => intro a1l5 hkl5 nxl5 nsl5 gil5 grl5 adl5 H locs ls h; exact absurd h (fun z => g_loop_0 z)
      | succ k ih5 =>
        intro a1l5 hkl5 nxl5 nsl5 gil5 grl5 adl5 H locs ls h B hL
        obtain ⟨Z5, h, h95⟩ := g_loop_s h
        have h : f_X5_sum_l5_b fB fO cN cS a0 a1l5 hkl5 nxl5 nsl5 gil5 grl5 = some Z5 := h
        unfold f_X5_sum_l5_b at h
        have hj23 : ∀ (hkj23 : HK) (nxj23 : Nat) (nsj23 : Nat) (gij23 : GI) (grj23 : GR) (a1j23 : Nat) (adj23 : Nat → Nat) (H : Heap) (locs : List Loc) (ls : Array Slot), f_X5_sum_j23_b fB fO cN cS a0 hkj23 nxj23 nsj23 gij23 grj23 a1j23 = some Z5 → XBA D cA ad hk nx ns cN cS adj23 hkj23 nxj23 nsj23 A s gij23 grj23 H locs → lv_has ls 3 [(0, .ref (adj23 a0)), (1, .ref (adj23 a1j23))] → W p l e R s m args below meth c H locs (nxj23 - nx) (nsj23 - ns) Q (F0 m 23 ls []) := by
          intro hkj23 nxj23 nsj23 gij23 grj23 a1j23 adj23 H locs ls h B hL
          unfold f_X5_sum_j23_b at h
          have ht9 : (hkj23 a0).1 = 14 := by rw [(B.2.1 a0 (by rw [ht]; decide)).2]; exact ht
          refine lv_aload_n hx hb dX5_sum_23 rfl (lv_at hL 0 rfl) ?_
          refine xx_gi (ci := 4) (k := 1) C B.1 xc_4 ht9 (by decide) (Nat.le_of_ble_eq_true rfl) rfl q475 (fun _ h => h) dX5_sum_24 ?_
          refine lv_i2c hx hb dX5_sum_27 rfl ?_
          refine lv_istore_n (lv' := [(2, .int (((gij23 a0 1).toUInt32 % 65536).toInt32)), (0, .ref (adj23 a0)), (1, .ref (adj23 a1j23))]) hx hb dX5_sum_28 rfl hL (by decide) rfl (fun ls hL => ?_)
          refine lv_aload_n hx hb dX5_sum_29 rfl (lv_at hL 1 rfl) ?_
          refine xx_ok h (fun ok10 h => ?_)
          refine k_X5_go ht9 C B hRr q512 (by omega) (by omega) hL.1 (Nat.le_of_ble_eq_true rfl) h dX5_sum_30 (fun q11 ad12 h hae13 H locs B => ?_)
          rw [← (hae13 a0 (by rw [ht9]; decide)).1] at hL
          have hp14 : (q11.1 a0).1 = 14 := by rw [(hae13 a0 (by rw [ht9]; decide)).2]; exact ht9
          rw [← (hae13 a1j23 ok10).1] at hL
          have ok15 : (q11.1 a1j23).1 < 1000 := by rw [(hae13 a1j23 ok10).2]; exact ok10
          refine xa_new C B hRr xc_10 (by decide) xd_10 q1202 q1203 q171 h dX5_sum_33 (fun q16 ad17 h hae18 hp19 H B => ?_)
          rw [← (hae18 a0 (by rw [hp14]; decide)).1] at hL
          have hp20 : (q16.1 a0).1 = 14 := by rw [(hae18 a0 (by rw [hp14]; decide)).2]; exact hp14
          rw [← (hae18 a1j23 ok15).1] at hL
          have ok21 : (q16.1 a1j23).1 < 1000 := by rw [(hae18 a1j23 ok15).2]; exact ok15
          refine lv_dup hx hb dX5_sum_36 rfl ?_
          refine lv_aload_n hx hb dX5_sum_37 rfl (lv_at hL 2 rfl) ?_
          refine lv_aload_n hx hb dX5_sum_38 rfl (lv_at hL 1 rfl) ?_
          refine k_X5_term hfr hlo hB hO hp20 C B hRr q1168 (by omega) (by omega) hL.1 (Nat.le_of_ble_eq_true rfl) h dX5_sum_39 (fun t23 ad25 h hw27 _ H locs B => ?_) (fun q22 ad24 h hae26 H locs B => ?_)
          · exact kt5 t23.1 (ad25, t23.2.1, t23.2.2.1, t23.2.2.2.1, t23.2.2.2.2.1, t23.2.2.2.2.2) _ _ _ _ _ (g_exit h h95) hw27 B
          · have h := g_elr h
            rw [← (hae26 a0 (by rw [hp20]; decide)).1] at hL
            have hp28 : (q22.2.1 a0).1 = 14 := by rw [(hae26 a0 (by rw [hp20]; decide)).2]; exact hp20
            rw [← (hae26 a1j23 ok21).1] at hL
            rw [← (hae26 a1j23 ok21).1]
            have ok29 : (q22.2.1 a1j23).1 < 1000 := by rw [(hae26 a1j23 ok21).2]; exact ok21
            rw [← (hae26 q11.2.1 (by rw [hp19]; decide)).1]
            have hp30 : (q22.2.1 q11.2.1).1 = 20 := by rw [(hae26 q11.2.1 (by rw [hp19]; decide)).2]; exact hp19
            refine lv_iload_n hx hb dX5_sum_42 rfl (lv_at hL 0 rfl) ?_
            refine k_X11_init hp30 C B hRr q1204 (by omega) (by omega) hL.1 (Nat.le_of_ble_eq_true rfl) h dX5_sum_43 (fun q31 ad32 h hae33 H locs B => ?_)
            rw [← (hae33 a0 (by rw [hp28]; decide)).1] at hL
            have hp34 : (q31.1 a0).1 = 14 := by rw [(hae33 a0 (by rw [hp28]; decide)).2]; exact hp28
            rw [← (hae33 a1j23 ok29).1] at hL
            have ok35 : (q31.1 a1j23).1 < 1000 := by rw [(hae33 a1j23 ok29).2]; exact ok29
            rw [← (hae33 q11.2.1 (by rw [hp30]; decide)).1]
            have hp36 : (q31.1 q11.2.1).1 = 20 := by rw [(hae33 q11.2.1 (by rw [hp30]; decide)).2]; exact hp30
            refine lv_astore_n (lv' := [(1, .ref (ad32 q11.2.1)), (2, .int (((gij23 a0 1).toUInt32 % 65536).toInt32)), (0, .ref (ad32 a0))]) hx hb dX5_sum_46 rfl hL (by decide) rfl (fun ls hL => ?_)
            refine lv_goto (tgt := 5) hx hb dX5_sum_47 (by decide) ?_
            exact ih5 _ _ _ _ _ _ _ _ _ _ (g_next h h95) B (lv_sub hL [2, 0] rfl)
        have ht8 : (hkl5 a0).1 = 14 := by rw [(B.2.1 a0 (by rw [ht]; decide)).2]; exact ht
        refine lv_aload_n hx hb dX5_sum_5 rfl (lv_at hL 0 rfl) ?_
        refine xx_gi (ci := 4) (k := 1) C B.1 xc_4 ht8 (by decide) (Nat.le_of_ble_eq_true rfl) rfl q475 (fun _ h => h) dX5_sum_6 ?_
        refine lv_bipush (v := 43) hx hb dX5_sum_9 (by decide) ?_
        refine gg_icmp_eq hx hb 23 h dX5_sum_11 (by decide) (fun h => ?_) (fun h => ?_)
        · exact hj23 _ _ _ _ _ _ _ _ _ _ h B (lv_sub hL [0, 1] rfl)
        · refine lv_aload_n hx hb dX5_sum_14 rfl (lv_at hL 0 rfl) ?_
          refine xx_gi (ci := 4) (k := 1) C B.1 xc_4 ht8 (by decide) (Nat.le_of_ble_eq_true rfl) rfl q475 (fun _ h => h) dX5_sum_15 ?_
          refine lv_bipush (v := 45) hx hb dX5_sum_18 (by decide) ?_
          refine gg_icmp_ne hx hb 50 h dX5_sum_20 (by decide) (fun h => ?_) (fun h => ?_)
          · exact kx5 _ _ _ _ _ _ _ _ _ _ (g_exit h h95) B (lv_sub hL [1] rfl)
          · exact hj23 _ _ _ _ _ _ _ _ _ _ h B (lv_sub hL [0, 1] rfl)
    exact hl5 g_K _ _ _ _ _ _ _ _ _ _ h85 B (lv_sub hL [1, 0] rfl)
theorem k_X5_sum {p : Program} {l : Launch} {e : Env} {R : Room} {s : State} {m : MethodId} {args : Array Value} {below : List Frame} {meth : Method} {c : Code} {H : Heap} {locs : List Loc} {Q : State → Prop} {pc : Nat} {ls : Array Slot} {rest : List Value} {cc : ByteArray} {nL : Nat} {D : va_G} {cA : Nat → ClassId} {a9 : Nat → Nat} {h9 : HK} {n0 m0 cN cS : Nat} {ad : Nat → Nat} {hk : HK} {nx ns : Nat} {A : Nat → Prop} {gi : GI} {gr : GR} {α : Type} {r : α} {own : String} {idx : Nat} {a0 : Nat} {fB fO : FT5} {fr lo : Nat} {ff : ((Nat × HK × Nat × Nat × GI × GR) ⊕ (Nat × HK × Nat × Nat × GI × GR)) → Option α} (hfr : 9 ≤ fr) (hlo : 243 ≤ lo) (hB : H5_both l D cA fB fr lo) (hO : H5_one l D cA fO fr lo) (ht : (hk a0).1 = 14) (C : CallFix p m c cc nL s args lw_all own) (B : XBA D cA a9 h9 n0 m0 cN cS ad hk nx ns A s gi gr H locs) (hRr : R.cells = cN - n0 ∧ R.slots = cS - m0) (hq : Cond.methodLink own idx yX5_sum ∈ lw_all) (hF : fr + 3 + 1 ≤ R.frames) (hN : 8 + (3 + 11) + (lo + 120) ≤ R.locals) (hs : ls.size = nL) (hw : (rest.map fun v => v.category).sum ≤ 8) (h : (g_cc (fun c1 c2 => f_X5_sum_b fB fO c1 c2 hk nx ns gi gr a0) (fun z : (Nat × HK × Nat × Nat × GI × GR) ⊕ (Nat × HK × Nat × Nat × GI × GR) => Sum.elim (fun t : Nat × HK × Nat × Nat × GI × GR => t.2.2.1) (fun q : Nat × HK × Nat × Nat × GI × GR => q.2.2.1) z) (fun z : (Nat × HK × Nat × Nat × GI × GR) ⊕ (Nat × HK × Nat × Nat × GI × GR) => Sum.elim (fun t : Nat × HK × Nat × Nat × GI × GR => t.2.2.2.1) (fun q : Nat × HK × Nat × Nat × GI × GR => q.2.2.2.1) z) cN cS nx ns).bind ff = some r) (hdg : decode cc pc = .ok (.invokevirtual idx, 3)) (kx : ∀ (t : Nat × HK × Nat × Nat × GI × GR) (ad' : Nat → Nat), ff (.inl t) = some r → (t.2.1 t.1).1 = 15 → (∀ i, (hk i).1 < 1000 → ad' i = ad i ∧ t.2.1 i = hk i) → ∀ (H' : Heap) (locs' : List Loc), XBA D cA a9 h9 n0 m0 cN cS ad' t.2.1 t.2.2.1 t.2.2.2.1 A s t.2.2.2.2.1 t.2.2.2.2.2 H' locs' → vx_W p l e R s m args below meth c H' locs' (t.2.2.1 - n0) (t.2.2.2.1 - m0) Q (F0 m pc ls rest) (ad' t.1)) (kk : ∀ (q : Nat × HK × Nat × Nat × GI × GR) (ad' : Nat → Nat), ff (.inr q) = some r → (∀ i, (hk i).1 < 1000 → ad' i = ad i ∧ q.2.1 i = hk i) → ∀ (H' : Heap) (locs' : List Loc), XBA D cA a9 h9 n0 m0 cN cS ad' q.2.1 q.2.2.1 q.2.2.2.1 A s q.2.2.2.2.1 q.2.2.2.2.2 H' locs' → W p l e R s m args below meth c H' locs' (q.2.2.1 - n0) (q.2.2.2.1 - m0) Q (F0 m (pc + 3) ls (.ref (ad' q.1) :: rest))) : W p l e R s m args below meth c H locs (nx - n0) (ns - m0) Q (F0 m pc ls (.ref (ad a0) :: rest)) := by
  obtain ⟨z, h1, h2⟩ := g_ob h
  obtain ⟨h3, c1, c2, c3, c4⟩ := g_cc_of h1
  refine xt_cVR (As := []) (rest := rest) (n := 0) (qn := (fun z : (Nat × HK × Nat × Nat × GI × GR) ⊕ (Nat × HK × Nat × Nat × GI × GR) => Sum.elim (fun t : Nat × HK × Nat × Nat × GI × GR => t.2.2.1) (fun q : Nat × HK × Nat × Nat × GI × GR => q.2.2.1) z) z) (qs := (fun z : (Nat × HK × Nat × Nat × GI × GR) ⊕ (Nat × HK × Nat × Nat × GI × GR) => Sum.elim (fun t : Nat × HK × Nat × Nat × GI × GR => t.2.2.2.1) (fun q : Nat × HK × Nat × Nat × GI × GR => q.2.2.2.1) z) z) xc_4 ht (by decide) C B hRr (fun sz => wb_X5_sum l D cA fB fO fr lo hfr hlo hB hO ad _ _ hk nx ns gi gr a0 ht ⟨c1, c3⟩ z h3 sz) hq q1166 qs32 q151 q1167 (by decide +kernel) ⟨c1, c2, c3, c4⟩ (fun v u hp => ?_) (fun x hp => ?_) ⟨hF, hN⟩ rfl hs hw hdg (fun w u H9 locs9 hp hw9 hae B9 => ?_) (fun v u H9 locs9 hp hae B9 => ?_)
  · have hp := hp
    obtain ⟨v9, rfl, rfl⟩ := hp
    exact ⟨rfl, rfl⟩
  · have hp := hp
    subst hp
    exact ⟨rfl, rfl⟩
  · have hp := hp
    subst hp
    exact kx _ u.1 h2 hw9 hae H9 locs9 B9
  · have hp := hp
    obtain ⟨v9, rfl, rfl⟩ := hp
    exact kk _ u.1 h2 hae H9 locs9 B9
def f_X5_one_j95_b (fB fO : FT5) (cN cS : Nat) (a0 : Nat) (hkj95 : HK) (nxj95 : Nat) (nsj95 : Nat) (gij95 : GI) (grj95 : GR) (a1j95 : Nat) : Option ((Nat × HK × Nat × Nat × GI × GR) ⊕ (Nat × HK × Nat × Nat × GI × GR)) :=
  (g_ok hkj95 a1j95).bind fun _ =>
  (g_cc (fun c1 c2 => f_X5_go c1 c2 hkj95 nxj95 nsj95 gij95 grj95 a0) (fun q : HK × Nat × Nat × GI × GR => q.2.1) (fun q : HK × Nat × Nat × GI × GR => q.2.2.1) cN cS nxj95 nsj95).bind fun q11 =>
  (g_new cN cS q11.2.1 q11.2.2.1 20 0 3 q11.1 q11.2.2.2.1 q11.2.2.2.2).bind fun q16 =>
  (g_cc (fun c1 c2 => f_X5_sum_b fB fO c1 c2 q16.1 (q11.2.1 + 1) (q11.2.2.1 + 3) q16.2.1 q16.2.2 a0) (fun z : (Nat × HK × Nat × Nat × GI × GR) ⊕ (Nat × HK × Nat × Nat × GI × GR) => Sum.elim (fun t : Nat × HK × Nat × Nat × GI × GR => t.2.2.1) (fun q : Nat × HK × Nat × Nat × GI × GR => q.2.2.1) z) (fun z : (Nat × HK × Nat × Nat × GI × GR) ⊕ (Nat × HK × Nat × Nat × GI × GR) => Sum.elim (fun t : Nat × HK × Nat × Nat × GI × GR => t.2.2.2.1) (fun q : Nat × HK × Nat × Nat × GI × GR => q.2.2.2.1) z) cN cS (q11.2.1 + 1) (q11.2.2.1 + 3)).bind fun q9 => Sum.elim (fun (t23 : Nat × HK × Nat × Nat × GI × GR) => some (.inl (t23.1, t23.2.1, t23.2.2.1, t23.2.2.2.1, t23.2.2.2.2.1, t23.2.2.2.2.2))) (fun (q22 : Nat × HK × Nat × Nat × GI × GR) =>
  (g_cc (fun c1 c2 => f_X11_init c1 c2 q22.2.1 q22.2.2.1 q22.2.2.2.1 q22.2.2.2.2.1 q22.2.2.2.2.2 q11.2.1 a1j95 q22.1 (((gij95 a0 1).toUInt32 % 65536).toInt32)) (fun q : HK × Nat × Nat × GI × GR => q.2.1) (fun q : HK × Nat × Nat × GI × GR => q.2.2.1) cN cS q22.2.2.1 q22.2.2.2.1).bind fun q31 =>
  some (.inr (q11.2.1, q31.1, q31.2.1, q31.2.2.1, q31.2.2.2.1, q31.2.2.2.2))) q9
def f_X5_one_b (fB fO : FT5) (cN cS : Nat) (hk : HK) (nx ns : Nat) (gi : GI) (gr : GR) (a0 : Nat) : Option ((Nat × HK × Nat × Nat × GI × GR) ⊕ (Nat × HK × Nat × Nat × GI × GR)) :=
  (f_X5_is hk gi gr a0 21).bind fun q1 =>
  if q1 = 0 then
  ((g_cc (fun c1 c2 => f_X5_sum_b fB fO c1 c2 hk nx ns gi gr a0) (fun z : (Nat × HK × Nat × Nat × GI × GR) ⊕ (Nat × HK × Nat × Nat × GI × GR) => Sum.elim (fun t : Nat × HK × Nat × Nat × GI × GR => t.2.2.1) (fun q : Nat × HK × Nat × Nat × GI × GR => q.2.2.1) z) (fun z : (Nat × HK × Nat × Nat × GI × GR) ⊕ (Nat × HK × Nat × Nat × GI × GR) => Sum.elim (fun t : Nat × HK × Nat × Nat × GI × GR => t.2.2.2.1) (fun q : Nat × HK × Nat × Nat × GI × GR => q.2.2.2.1) z) cN cS nx ns).bind fun q9 => Sum.elim (fun (t3 : Nat × HK × Nat × Nat × GI × GR) => some (.inl (t3.1, t3.2.1, t3.2.2.1, t3.2.2.2.1, t3.2.2.2.2.1, t3.2.2.2.2.2))) (fun (q2 : Nat × HK × Nat × Nat × GI × GR) =>
  if (q2.2.2.2.2.1 a0 1) = 60 then
  (f_X5_one_j95_b fB fO cN cS a0 q2.2.1 q2.2.2.1 q2.2.2.2.1 q2.2.2.2.2.1 q2.2.2.2.2.2 q2.1)
  else
  (if (q2.2.2.2.2.1 a0 1) = 62 then
  (f_X5_one_j95_b fB fO cN cS a0 q2.2.1 q2.2.2.1 q2.2.2.2.1 q2.2.2.2.2.1 q2.2.2.2.2.2 q2.1)
  else
  (if (q2.2.2.2.2.1 a0 1) = 61 then
  (f_X5_one_j95_b fB fO cN cS a0 q2.2.1 q2.2.2.1 q2.2.2.2.1 q2.2.2.2.2.1 q2.2.2.2.2.2 q2.1)
  else
  (some (.inr (q2.1, q2.2.1, q2.2.2.1, q2.2.2.2.1, q2.2.2.2.2.1, q2.2.2.2.2.2)))))) q9)
  else
  (if (gi a0 4) ≤ 6 then
  ((some (g_pi gi a0 4 ((gi a0 4) + 1))).bind fun gi37 =>
  (g_cc (fun c1 c2 => f_X5_go c1 c2 hk nx ns gi37 gr a0) (fun q : HK × Nat × Nat × GI × GR => q.2.1) (fun q : HK × Nat × Nat × GI × GR => q.2.2.1) cN cS nx ns).bind fun q38 =>
  (g_new cN cS q38.2.1 q38.2.2.1 18 0 1 q38.1 q38.2.2.2.1 q38.2.2.2.2).bind fun q42 =>
  (g_cc (fun c1 c2 => fO c1 c2 q42.1 (q38.2.1 + 1) (q38.2.2.1 + 1) q42.2.1 q42.2.2 a0) (fun z : (Nat × HK × Nat × Nat × GI × GR) ⊕ (Nat × HK × Nat × Nat × GI × GR) => Sum.elim (fun t : Nat × HK × Nat × Nat × GI × GR => t.2.2.1) (fun q : Nat × HK × Nat × Nat × GI × GR => q.2.2.1) z) (fun z : (Nat × HK × Nat × Nat × GI × GR) ⊕ (Nat × HK × Nat × Nat × GI × GR) => Sum.elim (fun t : Nat × HK × Nat × Nat × GI × GR => t.2.2.2.1) (fun q : Nat × HK × Nat × Nat × GI × GR => q.2.2.2.1) z) cN cS (q38.2.1 + 1) (q38.2.2.1 + 1)).bind fun q9 => Sum.elim (fun (t48 : Nat × HK × Nat × Nat × GI × GR) => some (.inl (t48.1, t48.2.1, t48.2.2.1, t48.2.2.2.1, t48.2.2.2.2.1, t48.2.2.2.2.2))) (fun (q47 : Nat × HK × Nat × Nat × GI × GR) =>
  (g_cc (fun c1 c2 => f_X9_init c1 c2 q47.2.1 q47.2.2.1 q47.2.2.2.1 q47.2.2.2.2.1 q47.2.2.2.2.2 q38.2.1 q47.1) (fun q : HK × Nat × Nat × GI × GR => q.2.1) (fun q : HK × Nat × Nat × GI × GR => q.2.2.1) cN cS q47.2.2.1 q47.2.2.2.1).bind fun q55 =>
  (some (g_pi q55.2.2.2.1 a0 4 ((q55.2.2.2.1 a0 4) - 1))).bind fun gi60 =>
  some (.inr (q38.2.1, q55.1, q55.2.1, q55.2.2.1, gi60, q55.2.2.2.2))) q9)
  else
  ((g_cc (fun c1 c2 => f_X5_wrong c1 c2 hk nx ns gi gr a0) (fun q : Nat × HK × Nat × Nat × GI × GR => q.2.2.1) (fun q : Nat × HK × Nat × Nat × GI × GR => q.2.2.2.1) cN cS nx ns).bind fun q61 =>
  (g_is q61.2.1 q61.1 15).bind fun _ =>
  some (.inl (q61.1, q61.2.1, q61.2.2.1, q61.2.2.2.1, q61.2.2.2.2.1, q61.2.2.2.2.2))))
set_option maxHeartbeats 400000 in
theorem wb_X5_one (l : Launch) (D : va_G) (cA : Nat → ClassId) (fB fO : FT5) (fr lo : Nat) (hfr : 9 ≤ fr) (hlo : 243 ≤ lo) (hB : H5_both l D cA fB fr lo) (hO : H5_one l D cA fO fr lo) (ad : Nat → Nat) (cN cS : Nat) (hk : HK) (nx ns : Nat) (gi : GI) (gr : GR) (a0 : Nat) (ht : (hk a0).1 = 14) (hcap : nx ≤ cN ∧ ns ≤ cS) (r : (Nat × HK × Nat × Nat × GI × GR) ⊕ (Nat × HK × Nat × Nat × GI × GR)) (h : f_X5_one_b fB fO cN cS hk nx ns gi gr a0 = some r) (sz : Nat) : vx_Met l yX5_one (ws_ yX5_one cX5_one 3 (some (.object "WeatherWages$Node"))) ({ frames := fr + 4, cells := cN - nx, slots := cS - ns, locals := lo + 160 } : Room) (va_Pc [.ref (ad a0)] (XPre D cA ad hk nx gi gr sz)) (va_Qq (fun o u => ∃ v : Option Nat, o = v.map u.1 ∧ (fun (v : Option Nat) (u : XU) => ∃ v9, v = some v9 ∧ Sum.inr (v9, u.2) = r) v u) (XPostA D cA ad hk nx sz) (XA ad nx sz)) (vx_X (fun x : XV => Sum.inl (x.1, x.2.2) = r) (XPostX D cA ad hk nx sz) (XA ad nx sz)) (cN - nx) (cS - ns) (XA ad nx sz) := by
  refine xt_stR (Or.inl ⟨_, rfl⟩) (own := RX5) (P := (fun (v : Option Nat) (u : XU) => ∃ v9, v = some v9 ∧ Sum.inr (v9, u.2) = r)) (PX := (fun x : XV => Sum.inl (x.1, x.2.2) = r)) (by decide +kernel) rfl (Nat.le_of_ble_eq_true rfl) hcap (fun p e s m args below meth c R Q A ls C hmn hF hN hRr B hret hthr hL => ?_) sz
  have hx := C.1
  have hb := C.2.1
  have hL : lv_has ls 3 [(0, .ref (ad a0))] := hL
  unfold f_X5_one_b at h
  have hj95 : ∀ (hkj95 : HK) (nxj95 : Nat) (nsj95 : Nat) (gij95 : GI) (grj95 : GR) (a1j95 : Nat) (adj95 : Nat → Nat) (H : Heap) (locs : List Loc) (ls : Array Slot), f_X5_one_j95_b fB fO cN cS a0 hkj95 nxj95 nsj95 gij95 grj95 a1j95 = some r → XBA D cA ad hk nx ns cN cS adj95 hkj95 nxj95 nsj95 A s gij95 grj95 H locs → lv_has ls 3 [(0, .ref (adj95 a0)), (1, .ref (adj95 a1j95))] → W p l e R s m args below meth c H locs (nxj95 - nx) (nsj95 - ns) Q (F0 m 95 ls []) := by
    intro hkj95 nxj95 nsj95 gij95 grj95 a1j95 adj95 H locs ls h B hL
    unfold f_X5_one_j95_b at h
    have ht9 : (hkj95 a0).1 = 14 := by rw [(B.2.1 a0 (by rw [ht]; decide)).2]; exact ht
    refine lv_aload_n hx hb dX5_one_95 rfl (lv_at hL 0 rfl) ?_
    refine xx_gi (ci := 4) (k := 1) C B.1 xc_4 ht9 (by decide) (Nat.le_of_ble_eq_true rfl) rfl q475 (fun _ h => h) dX5_one_96 ?_
    refine lv_i2c hx hb dX5_one_99 rfl ?_
    refine lv_istore_n (lv' := [(2, .int (((gij95 a0 1).toUInt32 % 65536).toInt32)), (0, .ref (adj95 a0)), (1, .ref (adj95 a1j95))]) hx hb dX5_one_100 rfl hL (by decide) rfl (fun ls hL => ?_)
    refine lv_aload_n hx hb dX5_one_101 rfl (lv_at hL 1 rfl) ?_
    refine xx_ok h (fun ok10 h => ?_)
    refine k_X5_go ht9 C B hRr q512 (by omega) (by omega) hL.1 (Nat.le_of_ble_eq_true rfl) h dX5_one_102 (fun q11 ad12 h hae13 H locs B => ?_)
    rw [← (hae13 a0 (by rw [ht9]; decide)).1] at hL
    have hp14 : (q11.1 a0).1 = 14 := by rw [(hae13 a0 (by rw [ht9]; decide)).2]; exact ht9
    rw [← (hae13 a1j95 ok10).1] at hL
    have ok15 : (q11.1 a1j95).1 < 1000 := by rw [(hae13 a1j95 ok10).2]; exact ok10
    refine xa_new C B hRr xc_10 (by decide) xd_10 q1202 q1203 q171 h dX5_one_105 (fun q16 ad17 h hae18 hp19 H B => ?_)
    rw [← (hae18 a0 (by rw [hp14]; decide)).1] at hL
    have hp20 : (q16.1 a0).1 = 14 := by rw [(hae18 a0 (by rw [hp14]; decide)).2]; exact hp14
    rw [← (hae18 a1j95 ok15).1] at hL
    have ok21 : (q16.1 a1j95).1 < 1000 := by rw [(hae18 a1j95 ok15).2]; exact ok15
    refine lv_dup hx hb dX5_one_108 rfl ?_
    refine lv_aload_n hx hb dX5_one_109 rfl (lv_at hL 2 rfl) ?_
    refine lv_aload_n hx hb dX5_one_110 rfl (lv_at hL 1 rfl) ?_
    refine k_X5_sum hfr hlo hB hO hp20 C B hRr q1164 (by omega) (by omega) hL.1 (Nat.le_of_ble_eq_true rfl) h dX5_one_111 (fun t23 ad25 h hw27 _ H locs B => ?_) (fun q22 ad24 h hae26 H locs B => ?_)
    · exact hthr t23.1 (ad25, t23.2.1, t23.2.2.1, t23.2.2.2.1, t23.2.2.2.2.1, t23.2.2.2.2.2) _ _ _ _ _ (Option.some.inj h) hw27 B
    · have h := g_elr h
      rw [← (hae26 a0 (by rw [hp20]; decide)).1] at hL
      have hp28 : (q22.2.1 a0).1 = 14 := by rw [(hae26 a0 (by rw [hp20]; decide)).2]; exact hp20
      rw [← (hae26 a1j95 ok21).1] at hL
      rw [← (hae26 a1j95 ok21).1]
      have ok29 : (q22.2.1 a1j95).1 < 1000 := by rw [(hae26 a1j95 ok21).2]; exact ok21
      rw [← (hae26 q11.2.1 (by rw [hp19]; decide)).1]
      have hp30 : (q22.2.1 q11.2.1).1 = 20 := by rw [(hae26 q11.2.1 (by rw [hp19]; decide)).2]; exact hp19
      refine lv_iload_n hx hb dX5_one_114 rfl (lv_at hL 0 rfl) ?_
      refine k_X11_init hp30 C B hRr q1204 (by omega) (by omega) hL.1 (Nat.le_of_ble_eq_true rfl) h dX5_one_115 (fun q31 ad32 h hae33 H locs B => ?_)
      rw [← (hae33 a0 (by rw [hp28]; decide)).1] at hL
      have hp34 : (q31.1 a0).1 = 14 := by rw [(hae33 a0 (by rw [hp28]; decide)).2]; exact hp28
      rw [← (hae33 a1j95 ok29).1] at hL
      have ok35 : (q31.1 a1j95).1 < 1000 := by rw [(hae33 a1j95 ok29).2]; exact ok29
      rw [← (hae33 q11.2.1 (by rw [hp30]; decide)).1]
      have hp36 : (q31.1 q11.2.1).1 = 20 := by rw [(hae33 q11.2.1 (by rw [hp30]; decide)).2]; exact hp30
      exact hret (some q11.2.1) (ad32, q31.1, q31.2.1, q31.2.2.1, q31.2.2.2.1, q31.2.2.2.2) _ _ _ _ ⟨_, rfl, Option.some.inj h⟩ B dX5_one_118
  refine lv_aload_n hx hb dX5_one_0 rfl (lv_at hL 0 rfl) ?_
  refine xx_ldcS (i := 21) C B.1 (by decide) rfl dX5_one_1 ?_
  refine k_X5_is ht (by decide) C B.1 q723 (by omega) (by omega) hL.1 (Nat.le_of_ble_eq_true rfl) (xa_z hRr B) h dX5_one_3 (fun q1 h H locs B2 => ?_)
  have B := And.intro B2 B.2
  refine gg_if_eq hx hb 61 h dX5_one_6 (by decide) (fun h => ?_) (fun h => ?_)
  · refine lv_aload_n hx hb dX5_one_61 rfl (lv_at hL 0 rfl) ?_
    refine k_X5_sum hfr hlo hB hO ht C B hRr q1164 (by omega) (by omega) hL.1 (Nat.le_of_ble_eq_true rfl) h dX5_one_62 (fun t3 ad5 h hw7 _ H locs B => ?_) (fun q2 ad4 h hae6 H locs B => ?_)
    · exact hthr t3.1 (ad5, t3.2.1, t3.2.2.1, t3.2.2.2.1, t3.2.2.2.2.1, t3.2.2.2.2.2) _ _ _ _ _ (Option.some.inj h) hw7 B
    · have h := g_elr h
      rw [← (hae6 a0 (by rw [ht]; decide)).1] at hL
      have hp8 : (q2.2.1 a0).1 = 14 := by rw [(hae6 a0 (by rw [ht]; decide)).2]; exact ht
      refine lv_astore_n (lv' := [(1, .ref (ad4 q2.1)), (0, .ref (ad4 a0))]) hx hb dX5_one_65 rfl hL (by decide) rfl (fun ls hL => ?_)
      refine lv_aload_n hx hb dX5_one_66 rfl (lv_at hL 1 rfl) ?_
      refine xx_gi (ci := 4) (k := 1) C B.1 xc_4 hp8 (by decide) (Nat.le_of_ble_eq_true rfl) rfl q475 (fun _ h => h) dX5_one_67 ?_
      refine lv_bipush (v := 60) hx hb dX5_one_70 (by decide) ?_
      refine gg_icmp_eq hx hb 95 h dX5_one_72 (by decide) (fun h => ?_) (fun h => ?_)
      · exact hj95 _ _ _ _ _ _ _ _ _ _ h B (lv_sub hL [1, 0] rfl)
      · refine lv_aload_n hx hb dX5_one_75 rfl (lv_at hL 1 rfl) ?_
        refine xx_gi (ci := 4) (k := 1) C B.1 xc_4 hp8 (by decide) (Nat.le_of_ble_eq_true rfl) rfl q475 (fun _ h => h) dX5_one_76 ?_
        refine lv_bipush (v := 62) hx hb dX5_one_79 (by decide) ?_
        refine gg_icmp_eq hx hb 95 h dX5_one_81 (by decide) (fun h => ?_) (fun h => ?_)
        · exact hj95 _ _ _ _ _ _ _ _ _ _ h B (lv_sub hL [1, 0] rfl)
        · refine lv_aload_n hx hb dX5_one_84 rfl (lv_at hL 1 rfl) ?_
          refine xx_gi (ci := 4) (k := 1) C B.1 xc_4 hp8 (by decide) (Nat.le_of_ble_eq_true rfl) rfl q475 (fun _ h => h) dX5_one_85 ?_
          refine lv_bipush (v := 61) hx hb dX5_one_88 (by decide) ?_
          refine gg_icmp_eq hx hb 95 h dX5_one_90 (by decide) (fun h => ?_) (fun h => ?_)
          · exact hj95 _ _ _ _ _ _ _ _ _ _ h B (lv_sub hL [1, 0] rfl)
          · refine lv_aload_n hx hb dX5_one_93 rfl (lv_at hL 0 rfl) ?_
            exact hret (some q2.1) (ad4, q2.2.1, q2.2.2.1, q2.2.2.2.1, q2.2.2.2.2.1, q2.2.2.2.2.2) _ _ _ _ ⟨_, rfl, Option.some.inj h⟩ B dX5_one_94
  · refine lv_aload_n hx hb dX5_one_9 rfl (lv_at hL 0 rfl) ?_
    refine xx_gi (ci := 4) (k := 4) C B.1 xc_4 ht (by decide) (Nat.le_of_ble_eq_true rfl) rfl q478 (fun _ h => h) dX5_one_10 ?_
    refine lv_bipush (v := 6) hx hb dX5_one_13 (by decide) ?_
    refine gg_icmp_le hx hb 23 h dX5_one_15 (by decide) (fun h => ?_) (fun h => ?_)
    · refine lv_aload_n hx hb dX5_one_23 rfl (lv_at hL 0 rfl) ?_
      refine lv_dup hx hb dX5_one_24 rfl ?_
      refine xx_gi (ci := 4) (k := 4) C B.1 xc_4 ht (by decide) (Nat.le_of_ble_eq_true rfl) rfl q478 (fun _ h => h) dX5_one_25 ?_
      refine lv_iconst (v := 1) hx hb dX5_one_28 (by decide) ?_
      refine lv_iadd hx hb dX5_one_29 ?_
      refine xx_pi (ci := 4) (k := 4) C B.1 xc_4 ht (by decide) (Nat.le_of_ble_eq_true rfl) rfl q478 (fun _ h => h) rfl rfl rfl h dX5_one_30 (fun gi37 h H locs B2 => ?_)
      have B := And.intro B2 B.2
      refine lv_aload_n hx hb dX5_one_33 rfl (lv_at hL 0 rfl) ?_
      refine k_X5_go ht C B hRr q512 (by omega) (by omega) hL.1 (Nat.le_of_ble_eq_true rfl) h dX5_one_34 (fun q38 ad39 h hae40 H locs B => ?_)
      rw [← (hae40 a0 (by rw [ht]; decide)).1] at hL
      have hp41 : (q38.1 a0).1 = 14 := by rw [(hae40 a0 (by rw [ht]; decide)).2]; exact ht
      refine xa_new C B hRr xc_8 (by decide) xd_8 q1154 q1155 q167 h dX5_one_37 (fun q42 ad43 h hae44 hp45 H B => ?_)
      rw [← (hae44 a0 (by rw [hp41]; decide)).1] at hL
      have hp46 : (q42.1 a0).1 = 14 := by rw [(hae44 a0 (by rw [hp41]; decide)).2]; exact hp41
      refine lv_dup hx hb dX5_one_40 rfl ?_
      refine lv_aload_n hx hb dX5_one_41 rfl (lv_at hL 0 rfl) ?_
      refine kb_X5_one hO hp46 C B hRr q1150 (by omega) (by omega) hL.1 (Nat.le_of_ble_eq_true rfl) h dX5_one_42 (fun t48 ad50 h hw52 _ H locs B => ?_) (fun q47 ad49 h hae51 H locs B => ?_)
      · exact hthr t48.1 (ad50, t48.2.1, t48.2.2.1, t48.2.2.2.1, t48.2.2.2.2.1, t48.2.2.2.2.2) _ _ _ _ _ (Option.some.inj h) hw52 B
      · have h := g_elr h
        rw [← (hae51 a0 (by rw [hp46]; decide)).1] at hL
        have hp53 : (q47.2.1 a0).1 = 14 := by rw [(hae51 a0 (by rw [hp46]; decide)).2]; exact hp46
        rw [← (hae51 q38.2.1 (by rw [hp45]; decide)).1]
        have hp54 : (q47.2.1 q38.2.1).1 = 18 := by rw [(hae51 q38.2.1 (by rw [hp45]; decide)).2]; exact hp45
        refine k_X9_init hp54 C B hRr q1156 (by omega) (by omega) hL.1 (Nat.le_of_ble_eq_true rfl) h dX5_one_45 (fun q55 ad56 h hae57 H locs B => ?_)
        rw [← (hae57 a0 (by rw [hp53]; decide)).1] at hL
        have hp58 : (q55.1 a0).1 = 14 := by rw [(hae57 a0 (by rw [hp53]; decide)).2]; exact hp53
        rw [← (hae57 q38.2.1 (by rw [hp54]; decide)).1]
        have hp59 : (q55.1 q38.2.1).1 = 18 := by rw [(hae57 q38.2.1 (by rw [hp54]; decide)).2]; exact hp54
        refine lv_astore_n (lv' := [(1, .ref (ad56 q38.2.1)), (0, .ref (ad56 a0))]) hx hb dX5_one_48 rfl hL (by decide) rfl (fun ls hL => ?_)
        refine lv_aload_n hx hb dX5_one_49 rfl (lv_at hL 1 rfl) ?_
        refine lv_dup hx hb dX5_one_50 rfl ?_
        refine xx_gi (ci := 4) (k := 4) C B.1 xc_4 hp58 (by decide) (Nat.le_of_ble_eq_true rfl) rfl q478 (fun _ h => h) dX5_one_51 ?_
        refine lv_iconst (v := 1) hx hb dX5_one_54 (by decide) ?_
        refine lv_isub hx hb dX5_one_55 ?_
        refine xx_pi (ci := 4) (k := 4) C B.1 xc_4 hp58 (by decide) (Nat.le_of_ble_eq_true rfl) rfl q478 (fun _ h => h) rfl rfl rfl h dX5_one_56 (fun gi60 h H locs B2 => ?_)
        have B := And.intro B2 B.2
        refine lv_aload_n hx hb dX5_one_59 rfl (lv_at hL 0 rfl) ?_
        exact hret (some q38.2.1) (ad56, q55.1, q55.2.1, q55.2.2.1, gi60, q55.2.2.2.2) _ _ _ _ ⟨_, rfl, Option.some.inj h⟩ B dX5_one_60
    · refine lv_aload_n hx hb dX5_one_18 rfl (lv_at hL 0 rfl) ?_
      refine k_X5_wrong ht C B hRr q829 (by omega) (by omega) hL.1 (Nat.le_of_ble_eq_true rfl) h dX5_one_19 (fun q61 ad62 h hae63 H locs B => ?_)
      rw [← (hae63 a0 (by rw [ht]; decide)).1] at hL
      have hp64 : (q61.2.1 a0).1 = 14 := by rw [(hae63 a0 (by rw [ht]; decide)).2]; exact ht
      refine xx_is h (fun hp65 h => ?_)
      refine vx_athrow hx hb dX5_one_22 ?_
      exact hthr q61.1 (ad62, q61.2.1, q61.2.2.1, q61.2.2.2.1, q61.2.2.2.2.1, q61.2.2.2.2.2) _ _ _ _ _ (Option.some.inj h) hp65 B
theorem k_X5_one {p : Program} {l : Launch} {e : Env} {R : Room} {s : State} {m : MethodId} {args : Array Value} {below : List Frame} {meth : Method} {c : Code} {H : Heap} {locs : List Loc} {Q : State → Prop} {pc : Nat} {ls : Array Slot} {rest : List Value} {cc : ByteArray} {nL : Nat} {D : va_G} {cA : Nat → ClassId} {a9 : Nat → Nat} {h9 : HK} {n0 m0 cN cS : Nat} {ad : Nat → Nat} {hk : HK} {nx ns : Nat} {A : Nat → Prop} {gi : GI} {gr : GR} {α : Type} {r : α} {own : String} {idx : Nat} {a0 : Nat} {fB fO : FT5} {fr lo : Nat} {ff : ((Nat × HK × Nat × Nat × GI × GR) ⊕ (Nat × HK × Nat × Nat × GI × GR)) → Option α} (hfr : 9 ≤ fr) (hlo : 243 ≤ lo) (hB : H5_both l D cA fB fr lo) (hO : H5_one l D cA fO fr lo) (ht : (hk a0).1 = 14) (C : CallFix p m c cc nL s args lw_all own) (B : XBA D cA a9 h9 n0 m0 cN cS ad hk nx ns A s gi gr H locs) (hRr : R.cells = cN - n0 ∧ R.slots = cS - m0) (hq : Cond.methodLink own idx yX5_one ∈ lw_all) (hF : fr + 4 + 1 ≤ R.frames) (hN : 8 + (3 + 11) + (lo + 160) ≤ R.locals) (hs : ls.size = nL) (hw : (rest.map fun v => v.category).sum ≤ 8) (h : (g_cc (fun c1 c2 => f_X5_one_b fB fO c1 c2 hk nx ns gi gr a0) (fun z : (Nat × HK × Nat × Nat × GI × GR) ⊕ (Nat × HK × Nat × Nat × GI × GR) => Sum.elim (fun t : Nat × HK × Nat × Nat × GI × GR => t.2.2.1) (fun q : Nat × HK × Nat × Nat × GI × GR => q.2.2.1) z) (fun z : (Nat × HK × Nat × Nat × GI × GR) ⊕ (Nat × HK × Nat × Nat × GI × GR) => Sum.elim (fun t : Nat × HK × Nat × Nat × GI × GR => t.2.2.2.1) (fun q : Nat × HK × Nat × Nat × GI × GR => q.2.2.2.1) z) cN cS nx ns).bind ff = some r) (hdg : decode cc pc = .ok (.invokevirtual idx, 3)) (kx : ∀ (t : Nat × HK × Nat × Nat × GI × GR) (ad' : Nat → Nat), ff (.inl t) = some r → (t.2.1 t.1).1 = 15 → (∀ i, (hk i).1 < 1000 → ad' i = ad i ∧ t.2.1 i = hk i) → ∀ (H' : Heap) (locs' : List Loc), XBA D cA a9 h9 n0 m0 cN cS ad' t.2.1 t.2.2.1 t.2.2.2.1 A s t.2.2.2.2.1 t.2.2.2.2.2 H' locs' → vx_W p l e R s m args below meth c H' locs' (t.2.2.1 - n0) (t.2.2.2.1 - m0) Q (F0 m pc ls rest) (ad' t.1)) (kk : ∀ (q : Nat × HK × Nat × Nat × GI × GR) (ad' : Nat → Nat), ff (.inr q) = some r → (∀ i, (hk i).1 < 1000 → ad' i = ad i ∧ q.2.1 i = hk i) → ∀ (H' : Heap) (locs' : List Loc), XBA D cA a9 h9 n0 m0 cN cS ad' q.2.1 q.2.2.1 q.2.2.2.1 A s q.2.2.2.2.1 q.2.2.2.2.2 H' locs' → W p l e R s m args below meth c H' locs' (q.2.2.1 - n0) (q.2.2.2.1 - m0) Q (F0 m (pc + 3) ls (.ref (ad' q.1) :: rest))) : W p l e R s m args below meth c H locs (nx - n0) (ns - m0) Q (F0 m pc ls (.ref (ad a0) :: rest)) := by
  obtain ⟨z, h1, h2⟩ := g_ob h
  obtain ⟨h3, c1, c2, c3, c4⟩ := g_cc_of h1
  refine xt_cVR (As := []) (rest := rest) (n := 0) (qn := (fun z : (Nat × HK × Nat × Nat × GI × GR) ⊕ (Nat × HK × Nat × Nat × GI × GR) => Sum.elim (fun t : Nat × HK × Nat × Nat × GI × GR => t.2.2.1) (fun q : Nat × HK × Nat × Nat × GI × GR => q.2.2.1) z) z) (qs := (fun z : (Nat × HK × Nat × Nat × GI × GR) ⊕ (Nat × HK × Nat × Nat × GI × GR) => Sum.elim (fun t : Nat × HK × Nat × Nat × GI × GR => t.2.2.2.1) (fun q : Nat × HK × Nat × Nat × GI × GR => q.2.2.2.1) z) z) xc_4 ht (by decide) C B hRr (fun sz => wb_X5_one l D cA fB fO fr lo hfr hlo hB hO ad _ _ hk nx ns gi gr a0 ht ⟨c1, c3⟩ z h3 sz) hq q1152 qs31 q151 q1153 (by decide +kernel) ⟨c1, c2, c3, c4⟩ (fun v u hp => ?_) (fun x hp => ?_) ⟨hF, hN⟩ rfl hs hw hdg (fun w u H9 locs9 hp hw9 hae B9 => ?_) (fun v u H9 locs9 hp hae B9 => ?_)
  · have hp := hp
    obtain ⟨v9, rfl, rfl⟩ := hp
    exact ⟨rfl, rfl⟩
  · have hp := hp
    subst hp
    exact ⟨rfl, rfl⟩
  · have hp := hp
    subst hp
    exact kx _ u.1 h2 hw9 hae H9 locs9 B9
  · have hp := hp
    obtain ⟨v9, rfl, rfl⟩ := hp
    exact kk _ u.1 h2 hae H9 locs9 B9
set_option maxHeartbeats 400000 in
theorem wb2_X5_one (l : Launch) (D : va_G) (cA : Nat → ClassId) (fB fO : FT5) (fr lo : Nat) (hfr : 9 ≤ fr) (hlo : 243 ≤ lo) (hB : H5_both l D cA fB fr lo) (hO : H5_one l D cA fO fr lo) (ad : Nat → Nat) (cN cS : Nat) (hk : HK) (nx ns : Nat) (gi : GI) (gr : GR) (a0 : Nat) (ht : (hk a0).1 = 14) (hcap : nx ≤ cN ∧ ns ≤ cS) (r : (Nat × HK × Nat × Nat × GI × GR) ⊕ (Nat × HK × Nat × Nat × GI × GR)) (h : f_X5_one_b fB fO cN cS hk nx ns gi gr a0 = some r) (sz : Nat) : vx_Met l yX5_one (ws_ yX5_one cX5_one 3 (some (.object "WeatherWages$Node"))) ({ frames := fr + 6, cells := cN - nx, slots := cS - ns, locals := lo + 240 } : Room) (va_Pc [.ref (ad a0)] (XPre D cA ad hk nx gi gr sz)) (va_Qq (fun o u => ∃ v : Option Nat, o = v.map u.1 ∧ (fun (v : Option Nat) (u : XU) => ∃ v9, v = some v9 ∧ Sum.inr (v9, u.2) = r) v u) (XPostA D cA ad hk nx sz) (XA ad nx sz)) (vx_X (fun x : XV => Sum.inl (x.1, x.2.2) = r) (XPostX D cA ad hk nx sz) (XA ad nx sz)) (cN - nx) (cS - ns) (XA ad nx sz) := by
  refine xt_stR (Or.inl ⟨_, rfl⟩) (own := RX5) (P := (fun (v : Option Nat) (u : XU) => ∃ v9, v = some v9 ∧ Sum.inr (v9, u.2) = r)) (PX := (fun x : XV => Sum.inl (x.1, x.2.2) = r)) (by decide +kernel) rfl (Nat.le_of_ble_eq_true rfl) hcap (fun p e s m args below meth c R Q A ls C hmn hF hN hRr B hret hthr hL => ?_) sz
  have hx := C.1
  have hb := C.2.1
  have hL : lv_has ls 3 [(0, .ref (ad a0))] := hL
  unfold f_X5_one_b at h
  have hj95 : ∀ (hkj95 : HK) (nxj95 : Nat) (nsj95 : Nat) (gij95 : GI) (grj95 : GR) (a1j95 : Nat) (adj95 : Nat → Nat) (H : Heap) (locs : List Loc) (ls : Array Slot), f_X5_one_j95_b fB fO cN cS a0 hkj95 nxj95 nsj95 gij95 grj95 a1j95 = some r → XBA D cA ad hk nx ns cN cS adj95 hkj95 nxj95 nsj95 A s gij95 grj95 H locs → lv_has ls 3 [(0, .ref (adj95 a0)), (1, .ref (adj95 a1j95))] → W p l e R s m args below meth c H locs (nxj95 - nx) (nsj95 - ns) Q (F0 m 95 ls []) := by
    intro hkj95 nxj95 nsj95 gij95 grj95 a1j95 adj95 H locs ls h B hL
    unfold f_X5_one_j95_b at h
    have ht9 : (hkj95 a0).1 = 14 := by rw [(B.2.1 a0 (by rw [ht]; decide)).2]; exact ht
    refine lv_aload_n hx hb dX5_one_95 rfl (lv_at hL 0 rfl) ?_
    refine xx_gi (ci := 4) (k := 1) C B.1 xc_4 ht9 (by decide) (Nat.le_of_ble_eq_true rfl) rfl q475 (fun _ h => h) dX5_one_96 ?_
    refine lv_i2c hx hb dX5_one_99 rfl ?_
    refine lv_istore_n (lv' := [(2, .int (((gij95 a0 1).toUInt32 % 65536).toInt32)), (0, .ref (adj95 a0)), (1, .ref (adj95 a1j95))]) hx hb dX5_one_100 rfl hL (by decide) rfl (fun ls hL => ?_)
    refine lv_aload_n hx hb dX5_one_101 rfl (lv_at hL 1 rfl) ?_
    refine xx_ok h (fun ok10 h => ?_)
    refine k_X5_go ht9 C B hRr q512 (by omega) (by omega) hL.1 (Nat.le_of_ble_eq_true rfl) h dX5_one_102 (fun q11 ad12 h hae13 H locs B => ?_)
    rw [← (hae13 a0 (by rw [ht9]; decide)).1] at hL
    have hp14 : (q11.1 a0).1 = 14 := by rw [(hae13 a0 (by rw [ht9]; decide)).2]; exact ht9
    rw [← (hae13 a1j95 ok10).1] at hL
    have ok15 : (q11.1 a1j95).1 < 1000 := by rw [(hae13 a1j95 ok10).2]; exact ok10
    refine xa_new C B hRr xc_10 (by decide) xd_10 q1202 q1203 q171 h dX5_one_105 (fun q16 ad17 h hae18 hp19 H B => ?_)
    rw [← (hae18 a0 (by rw [hp14]; decide)).1] at hL
    have hp20 : (q16.1 a0).1 = 14 := by rw [(hae18 a0 (by rw [hp14]; decide)).2]; exact hp14
    rw [← (hae18 a1j95 ok15).1] at hL
    have ok21 : (q16.1 a1j95).1 < 1000 := by rw [(hae18 a1j95 ok15).2]; exact ok15
    refine lv_dup hx hb dX5_one_108 rfl ?_
    refine lv_aload_n hx hb dX5_one_109 rfl (lv_at hL 2 rfl) ?_
    refine lv_aload_n hx hb dX5_one_110 rfl (lv_at hL 1 rfl) ?_
    refine k_X5_sum hfr hlo hB hO hp20 C B hRr q1164 (by omega) (by omega) hL.1 (Nat.le_of_ble_eq_true rfl) h dX5_one_111 (fun t23 ad25 h hw27 _ H locs B => ?_) (fun q22 ad24 h hae26 H locs B => ?_)
    · exact hthr t23.1 (ad25, t23.2.1, t23.2.2.1, t23.2.2.2.1, t23.2.2.2.2.1, t23.2.2.2.2.2) _ _ _ _ _ (Option.some.inj h) hw27 B
    · have h := g_elr h
      rw [← (hae26 a0 (by rw [hp20]; decide)).1] at hL
      have hp28 : (q22.2.1 a0).1 = 14 := by rw [(hae26 a0 (by rw [hp20]; decide)).2]; exact hp20
      rw [← (hae26 a1j95 ok21).1] at hL
      rw [← (hae26 a1j95 ok21).1]
      have ok29 : (q22.2.1 a1j95).1 < 1000 := by rw [(hae26 a1j95 ok21).2]; exact ok21
      rw [← (hae26 q11.2.1 (by rw [hp19]; decide)).1]
      have hp30 : (q22.2.1 q11.2.1).1 = 20 := by rw [(hae26 q11.2.1 (by rw [hp19]; decide)).2]; exact hp19
      refine lv_iload_n hx hb dX5_one_114 rfl (lv_at hL 0 rfl) ?_
      refine k_X11_init hp30 C B hRr q1204 (by omega) (by omega) hL.1 (Nat.le_of_ble_eq_true rfl) h dX5_one_115 (fun q31 ad32 h hae33 H locs B => ?_)
      rw [← (hae33 a0 (by rw [hp28]; decide)).1] at hL
      have hp34 : (q31.1 a0).1 = 14 := by rw [(hae33 a0 (by rw [hp28]; decide)).2]; exact hp28
      rw [← (hae33 a1j95 ok29).1] at hL
      have ok35 : (q31.1 a1j95).1 < 1000 := by rw [(hae33 a1j95 ok29).2]; exact ok29
      rw [← (hae33 q11.2.1 (by rw [hp30]; decide)).1]
      have hp36 : (q31.1 q11.2.1).1 = 20 := by rw [(hae33 q11.2.1 (by rw [hp30]; decide)).2]; exact hp30
      exact hret (some q11.2.1) (ad32, q31.1, q31.2.1, q31.2.2.1, q31.2.2.2.1, q31.2.2.2.2) _ _ _ _ ⟨_, rfl, Option.some.inj h⟩ B dX5_one_118
  refine lv_aload_n hx hb dX5_one_0 rfl (lv_at hL 0 rfl) ?_
  refine xx_ldcS (i := 21) C B.1 (by decide) rfl dX5_one_1 ?_
  refine k_X5_is ht (by decide) C B.1 q723 (by omega) (by omega) hL.1 (Nat.le_of_ble_eq_true rfl) (xa_z hRr B) h dX5_one_3 (fun q1 h H locs B2 => ?_)
  have B := And.intro B2 B.2
  refine gg_if_eq hx hb 61 h dX5_one_6 (by decide) (fun h => ?_) (fun h => ?_)
  · refine lv_aload_n hx hb dX5_one_61 rfl (lv_at hL 0 rfl) ?_
    refine k_X5_sum hfr hlo hB hO ht C B hRr q1164 (by omega) (by omega) hL.1 (Nat.le_of_ble_eq_true rfl) h dX5_one_62 (fun t3 ad5 h hw7 _ H locs B => ?_) (fun q2 ad4 h hae6 H locs B => ?_)
    · exact hthr t3.1 (ad5, t3.2.1, t3.2.2.1, t3.2.2.2.1, t3.2.2.2.2.1, t3.2.2.2.2.2) _ _ _ _ _ (Option.some.inj h) hw7 B
    · have h := g_elr h
      rw [← (hae6 a0 (by rw [ht]; decide)).1] at hL
      have hp8 : (q2.2.1 a0).1 = 14 := by rw [(hae6 a0 (by rw [ht]; decide)).2]; exact ht
      refine lv_astore_n (lv' := [(1, .ref (ad4 q2.1)), (0, .ref (ad4 a0))]) hx hb dX5_one_65 rfl hL (by decide) rfl (fun ls hL => ?_)
      refine lv_aload_n hx hb dX5_one_66 rfl (lv_at hL 1 rfl) ?_
      refine xx_gi (ci := 4) (k := 1) C B.1 xc_4 hp8 (by decide) (Nat.le_of_ble_eq_true rfl) rfl q475 (fun _ h => h) dX5_one_67 ?_
      refine lv_bipush (v := 60) hx hb dX5_one_70 (by decide) ?_
      refine gg_icmp_eq hx hb 95 h dX5_one_72 (by decide) (fun h => ?_) (fun h => ?_)
      · exact hj95 _ _ _ _ _ _ _ _ _ _ h B (lv_sub hL [1, 0] rfl)
      · refine lv_aload_n hx hb dX5_one_75 rfl (lv_at hL 1 rfl) ?_
        refine xx_gi (ci := 4) (k := 1) C B.1 xc_4 hp8 (by decide) (Nat.le_of_ble_eq_true rfl) rfl q475 (fun _ h => h) dX5_one_76 ?_
        refine lv_bipush (v := 62) hx hb dX5_one_79 (by decide) ?_
        refine gg_icmp_eq hx hb 95 h dX5_one_81 (by decide) (fun h => ?_) (fun h => ?_)
        · exact hj95 _ _ _ _ _ _ _ _ _ _ h B (lv_sub hL [1, 0] rfl)
        · refine lv_aload_n hx hb dX5_one_84 rfl (lv_at hL 1 rfl) ?_
          refine xx_gi (ci := 4) (k := 1) C B.1 xc_4 hp8 (by decide) (Nat.le_of_ble_eq_true rfl) rfl q475 (fun _ h => h) dX5_one_85 ?_
          refine lv_bipush (v := 61) hx hb dX5_one_88 (by decide) ?_
          refine gg_icmp_eq hx hb 95 h dX5_one_90 (by decide) (fun h => ?_) (fun h => ?_)
          · exact hj95 _ _ _ _ _ _ _ _ _ _ h B (lv_sub hL [1, 0] rfl)
          · refine lv_aload_n hx hb dX5_one_93 rfl (lv_at hL 0 rfl) ?_
            exact hret (some q2.1) (ad4, q2.2.1, q2.2.2.1, q2.2.2.2.1, q2.2.2.2.2.1, q2.2.2.2.2.2) _ _ _ _ ⟨_, rfl, Option.some.inj h⟩ B dX5_one_94
  · refine lv_aload_n hx hb dX5_one_9 rfl (lv_at hL 0 rfl) ?_
    refine xx_gi (ci := 4) (k := 4) C B.1 xc_4 ht (by decide) (Nat.le_of_ble_eq_true rfl) rfl q478 (fun _ h => h) dX5_one_10 ?_
    refine lv_bipush (v := 6) hx hb dX5_one_13 (by decide) ?_
    refine gg_icmp_le hx hb 23 h dX5_one_15 (by decide) (fun h => ?_) (fun h => ?_)
    · refine lv_aload_n hx hb dX5_one_23 rfl (lv_at hL 0 rfl) ?_
      refine lv_dup hx hb dX5_one_24 rfl ?_
      refine xx_gi (ci := 4) (k := 4) C B.1 xc_4 ht (by decide) (Nat.le_of_ble_eq_true rfl) rfl q478 (fun _ h => h) dX5_one_25 ?_
      refine lv_iconst (v := 1) hx hb dX5_one_28 (by decide) ?_
      refine lv_iadd hx hb dX5_one_29 ?_
      refine xx_pi (ci := 4) (k := 4) C B.1 xc_4 ht (by decide) (Nat.le_of_ble_eq_true rfl) rfl q478 (fun _ h => h) rfl rfl rfl h dX5_one_30 (fun gi37 h H locs B2 => ?_)
      have B := And.intro B2 B.2
      refine lv_aload_n hx hb dX5_one_33 rfl (lv_at hL 0 rfl) ?_
      refine k_X5_go ht C B hRr q512 (by omega) (by omega) hL.1 (Nat.le_of_ble_eq_true rfl) h dX5_one_34 (fun q38 ad39 h hae40 H locs B => ?_)
      rw [← (hae40 a0 (by rw [ht]; decide)).1] at hL
      have hp41 : (q38.1 a0).1 = 14 := by rw [(hae40 a0 (by rw [ht]; decide)).2]; exact ht
      refine xa_new C B hRr xc_8 (by decide) xd_8 q1154 q1155 q167 h dX5_one_37 (fun q42 ad43 h hae44 hp45 H B => ?_)
      rw [← (hae44 a0 (by rw [hp41]; decide)).1] at hL
      have hp46 : (q42.1 a0).1 = 14 := by rw [(hae44 a0 (by rw [hp41]; decide)).2]; exact hp41
      refine lv_dup hx hb dX5_one_40 rfl ?_
      refine lv_aload_n hx hb dX5_one_41 rfl (lv_at hL 0 rfl) ?_
      refine kb_X5_one hO hp46 C B hRr q1150 (by omega) (by omega) hL.1 (Nat.le_of_ble_eq_true rfl) h dX5_one_42 (fun t48 ad50 h hw52 _ H locs B => ?_) (fun q47 ad49 h hae51 H locs B => ?_)
      · exact hthr t48.1 (ad50, t48.2.1, t48.2.2.1, t48.2.2.2.1, t48.2.2.2.2.1, t48.2.2.2.2.2) _ _ _ _ _ (Option.some.inj h) hw52 B
      · have h := g_elr h
        rw [← (hae51 a0 (by rw [hp46]; decide)).1] at hL
        have hp53 : (q47.2.1 a0).1 = 14 := by rw [(hae51 a0 (by rw [hp46]; decide)).2]; exact hp46
        rw [← (hae51 q38.2.1 (by rw [hp45]; decide)).1]
        have hp54 : (q47.2.1 q38.2.1).1 = 18 := by rw [(hae51 q38.2.1 (by rw [hp45]; decide)).2]; exact hp45
        refine k_X9_init hp54 C B hRr q1156 (by omega) (by omega) hL.1 (Nat.le_of_ble_eq_true rfl) h dX5_one_45 (fun q55 ad56 h hae57 H locs B => ?_)
        rw [← (hae57 a0 (by rw [hp53]; decide)).1] at hL
        have hp58 : (q55.1 a0).1 = 14 := by rw [(hae57 a0 (by rw [hp53]; decide)).2]; exact hp53
        rw [← (hae57 q38.2.1 (by rw [hp54]; decide)).1]
        have hp59 : (q55.1 q38.2.1).1 = 18 := by rw [(hae57 q38.2.1 (by rw [hp54]; decide)).2]; exact hp54
        refine lv_astore_n (lv' := [(1, .ref (ad56 q38.2.1)), (0, .ref (ad56 a0))]) hx hb dX5_one_48 rfl hL (by decide) rfl (fun ls hL => ?_)
        refine lv_aload_n hx hb dX5_one_49 rfl (lv_at hL 1 rfl) ?_
        refine lv_dup hx hb dX5_one_50 rfl ?_
        refine xx_gi (ci := 4) (k := 4) C B.1 xc_4 hp58 (by decide) (Nat.le_of_ble_eq_true rfl) rfl q478 (fun _ h => h) dX5_one_51 ?_
        refine lv_iconst (v := 1) hx hb dX5_one_54 (by decide) ?_
        refine lv_isub hx hb dX5_one_55 ?_
        refine xx_pi (ci := 4) (k := 4) C B.1 xc_4 hp58 (by decide) (Nat.le_of_ble_eq_true rfl) rfl q478 (fun _ h => h) rfl rfl rfl h dX5_one_56 (fun gi60 h H locs B2 => ?_)
        have B := And.intro B2 B.2
        refine lv_aload_n hx hb dX5_one_59 rfl (lv_at hL 0 rfl) ?_
        exact hret (some q38.2.1) (ad56, q55.1, q55.2.1, q55.2.2.1, gi60, q55.2.2.2.2) _ _ _ _ ⟨_, rfl, Option.some.inj h⟩ B dX5_one_60
    · refine lv_aload_n hx hb dX5_one_18 rfl (lv_at hL 0 rfl) ?_
      refine k_X5_wrong ht C B hRr q829 (by omega) (by omega) hL.1 (Nat.le_of_ble_eq_true rfl) h dX5_one_19 (fun q61 ad62 h hae63 H locs B => ?_)
      rw [← (hae63 a0 (by rw [ht]; decide)).1] at hL
      have hp64 : (q61.2.1 a0).1 = 14 := by rw [(hae63 a0 (by rw [ht]; decide)).2]; exact ht
      refine xx_is h (fun hp65 h => ?_)
      refine vx_athrow hx hb dX5_one_22 ?_
      exact hthr q61.1 (ad62, q61.2.1, q61.2.2.1, q61.2.2.2.1, q61.2.2.2.2.1, q61.2.2.2.2.2) _ _ _ _ _ (Option.some.inj h) hp65 B
def f_X5_all_l5_b (fB fO : FT5) (cN cS : Nat) (a0 : Nat) (a1l5 : Nat) (hkl5 : HK) (nxl5 : Nat) (nsl5 : Nat) (gil5 : GI) (grl5 : GR) : Option ((Nat × HK × Nat × Nat × GI × GR) ⊕ ((Nat × HK × Nat × Nat × GI × GR) ⊕ (Nat × HK × Nat × Nat × GI × GR))) :=
  (g_ok hkl5 a1l5).bind fun _ =>
  (g_cc (fun c1 c2 => f_X5_takes c1 c2 hkl5 nxl5 nsl5 gil5 grl5 a0 19) (fun q : Int32 × HK × Nat × Nat × GI × GR => q.2.2.1) (fun q : Int32 × HK × Nat × Nat × GI × GR => q.2.2.2.1) cN cS nxl5 nsl5).bind fun q10 =>
  if q10.1 = 0 then
  (some (.inr (.inl (a1l5, q10.2.1, q10.2.2.1, q10.2.2.2.1, q10.2.2.2.2.1, q10.2.2.2.2.2))))
  else
  ((g_new cN cS q10.2.2.1 q10.2.2.2.1 20 0 3 q10.2.1 q10.2.2.2.2.1 q10.2.2.2.2.2).bind fun q15 =>
  (g_cc (fun c1 c2 => f_X5_one_b fB fO c1 c2 q15.1 (q10.2.2.1 + 1) (q10.2.2.2.1 + 3) q15.2.1 q15.2.2 a0) (fun z : (Nat × HK × Nat × Nat × GI × GR) ⊕ (Nat × HK × Nat × Nat × GI × GR) => Sum.elim (fun t : Nat × HK × Nat × Nat × GI × GR => t.2.2.1) (fun q : Nat × HK × Nat × Nat × GI × GR => q.2.2.1) z) (fun z : (Nat × HK × Nat × Nat × GI × GR) ⊕ (Nat × HK × Nat × Nat × GI × GR) => Sum.elim (fun t : Nat × HK × Nat × Nat × GI × GR => t.2.2.2.1) (fun q : Nat × HK × Nat × Nat × GI × GR => q.2.2.2.1) z) cN cS (q10.2.2.1 + 1) (q10.2.2.2.1 + 3)).bind fun q9 => Sum.elim (fun (t22 : Nat × HK × Nat × Nat × GI × GR) => some (.inr (.inr (t22.1, t22.2.1, t22.2.2.1, t22.2.2.2.1, t22.2.2.2.2.1, t22.2.2.2.2.2)))) (fun (q21 : Nat × HK × Nat × Nat × GI × GR) =>
  (g_cc (fun c1 c2 => f_X11_init c1 c2 q21.2.1 q21.2.2.1 q21.2.2.2.1 q21.2.2.2.2.1 q21.2.2.2.2.2 q10.2.2.1 a1l5 q21.1 38) (fun q : HK × Nat × Nat × GI × GR => q.2.1) (fun q : HK × Nat × Nat × GI × GR => q.2.2.1) cN cS q21.2.2.1 q21.2.2.2.1).bind fun q30 =>
  some (.inl (q10.2.2.1, q30.1, q30.2.1, q30.2.2.1, q30.2.2.2.1, q30.2.2.2.2))) q9)
def f_X5_all_x5_b (fB fO : FT5) (cN cS : Nat) (a0 : Nat) (a1e5 : Nat) (hke5 : HK) (nxe5 : Nat) (nse5 : Nat) (gie5 : GI) (gre5 : GR) : Option ((Nat × HK × Nat × Nat × GI × GR) ⊕ (Nat × HK × Nat × Nat × GI × GR)) :=
  some (.inr (a1e5, hke5, nxe5, nse5, gie5, gre5))
def f_X5_all_b (fB fO : FT5) (cN cS : Nat) (hk : HK) (nx ns : Nat) (gi : GI) (gr : GR) (a0 : Nat) : Option ((Nat × HK × Nat × Nat × GI × GR) ⊕ (Nat × HK × Nat × Nat × GI × GR)) :=
  (g_cc (fun c1 c2 => f_X5_one_b fB fO c1 c2 hk nx ns gi gr a0) (fun z : (Nat × HK × Nat × Nat × GI × GR) ⊕ (Nat × HK × Nat × Nat × GI × GR) => Sum.elim (fun t : Nat × HK × Nat × Nat × GI × GR => t.2.2.1) (fun q : Nat × HK × Nat × Nat × GI × GR => q.2.2.1) z) (fun z : (Nat × HK × Nat × Nat × GI × GR) ⊕ (Nat × HK × Nat × Nat × GI × GR) => Sum.elim (fun t : Nat × HK × Nat × Nat × GI × GR => t.2.2.2.1) (fun q : Nat × HK × Nat × Nat × GI × GR => q.2.2.2.1) z) cN cS nx ns).bind fun q9 => Sum.elim (fun (t2 : Nat × HK × Nat × Nat × GI × GR) => some (.inl (t2.1, t2.2.1, t2.2.2.1, t2.2.2.2.1, t2.2.2.2.2.1, t2.2.2.2.2.2))) (fun (q1 : Nat × HK × Nat × Nat × GI × GR) =>
  (g_loop g_K (fun (s : Nat × HK × Nat × Nat × GI × GR) => f_X5_all_l5_b fB fO cN cS a0 s.1 s.2.1 s.2.2.1 s.2.2.2.1 s.2.2.2.2.1 s.2.2.2.2.2) (q1.1, q1.2.1, q1.2.2.1, q1.2.2.2.1, q1.2.2.2.2.1, q1.2.2.2.2.2)).bind fun E5 => Sum.elim (fun (S5 : Nat × HK × Nat × Nat × GI × GR) => f_X5_all_x5_b fB fO cN cS a0 S5.1 S5.2.1 S5.2.2.1 S5.2.2.2.1 S5.2.2.2.2.1 S5.2.2.2.2.2) (fun (t5 : Nat × HK × Nat × Nat × GI × GR) => some (.inl t5)) E5) q9
set_option maxHeartbeats 400000 in
theorem wb_X5_all (l : Launch) (D : va_G) (cA : Nat → ClassId) (fB fO : FT5) (fr lo : Nat) (hfr : 9 ≤ fr) (hlo : 243 ≤ lo) (hB : H5_both l D cA fB fr lo) (hO : H5_one l D cA fO fr lo) (ad : Nat → Nat) (cN cS : Nat) (hk : HK) (nx ns : Nat) (gi : GI) (gr : GR) (a0 : Nat) (ht : (hk a0).1 = 14) (hcap : nx ≤ cN ∧ ns ≤ cS) (r : (Nat × HK × Nat × Nat × GI × GR) ⊕ (Nat × HK × Nat × Nat × GI × GR)) (h : f_X5_all_b fB fO cN cS hk nx ns gi gr a0 = some r) (sz : Nat) : vx_Met l yX5_all (ws_ yX5_all cX5_all 2 (some (.object "WeatherWages$Node"))) ({ frames := fr + 5, cells := cN - nx, slots := cS - ns, locals := lo + 200 } : Room) (va_Pc [.ref (ad a0)] (XPre D cA ad hk nx gi gr sz)) (va_Qq (fun o u => ∃ v : Option Nat, o = v.map u.1 ∧ (fun (v : Option Nat) (u : XU) => ∃ v9, v = some v9 ∧ Sum.inr (v9, u.2) = r) v u) (XPostA D cA ad hk nx sz) (XA ad nx sz)) (vx_X (fun x : XV => Sum.inl (x.1, x.2.2) = r) (XPostX D cA ad hk nx sz) (XA ad nx sz)) (cN - nx) (cS - ns) (XA ad nx sz) := by
  refine xt_stR (Or.inl ⟨_, rfl⟩) (own := RX5) (P := (fun (v : Option Nat) (u : XU) => ∃ v9, v = some v9 ∧ Sum.inr (v9, u.2) = r)) (PX := (fun x : XV => Sum.inl (x.1, x.2.2) = r)) (by decide +kernel) rfl (Nat.le_of_ble_eq_true rfl) hcap (fun p e s m args below meth c R Q A ls C hmn hF hN hRr B hret hthr hL => ?_) sz
  have hx := C.1
  have hb := C.2.1
  have hL : lv_has ls 2 [(0, .ref (ad a0))] := hL
  unfold f_X5_all_b at h
  refine lv_aload_n hx hb dX5_all_0 rfl (lv_at hL 0 rfl) ?_
  refine k_X5_one hfr hlo hB hO ht C B hRr q1150 (by omega) (by omega) hL.1 (Nat.le_of_ble_eq_true rfl) h dX5_all_1 (fun t2 ad4 h hw6 _ H locs B => ?_) (fun q1 ad3 h hae5 H locs B => ?_)
  · exact hthr t2.1 (ad4, t2.2.1, t2.2.2.1, t2.2.2.2.1, t2.2.2.2.2.1, t2.2.2.2.2.2) _ _ _ _ _ (Option.some.inj h) hw6 B
  · have h := g_elr h
    rw [← (hae5 a0 (by rw [ht]; decide)).1] at hL
    have hp7 : (q1.2.1 a0).1 = 14 := by rw [(hae5 a0 (by rw [ht]; decide)).2]; exact ht
    refine lv_astore_n (lv' := [(1, .ref (ad3 q1.1)), (0, .ref (ad3 a0))]) hx hb dX5_all_4 rfl hL (by decide) rfl (fun ls hL => ?_)
    obtain ⟨E5, h85, h⟩ := g_ob h
    have kx5 : ∀ (a1e5 : Nat) (hke5 : HK) (nxe5 : Nat) (nse5 : Nat) (gie5 : GI) (gre5 : GR) (ade5 : Nat → Nat) (H : Heap) (locs : List Loc) (ls : Array Slot), Sum.inl (a1e5, hke5, nxe5, nse5, gie5, gre5) = E5 → XBA D cA ad hk nx ns cN cS ade5 hke5 nxe5 nse5 A s gie5 gre5 H locs → lv_has ls 2 [(1, .ref (ade5 a1e5))] → W p l e R s m args below meth c H locs (nxe5 - nx) (nse5 - ns) Q (F0 m 32 ls []) := by
      intro a1e5 hke5 nxe5 nse5 gie5 gre5 ade5 H locs ls he B hL
      subst he
      have h : f_X5_all_x5_b fB fO cN cS a0 a1e5 hke5 nxe5 nse5 gie5 gre5 = some r := h
      unfold f_X5_all_x5_b at h
      have ht36 : (hke5 a0).1 = 14 := by rw [(B.2.1 a0 (by rw [ht]; decide)).2]; exact ht
      refine lv_aload_n hx hb dX5_all_32 rfl (lv_at hL 0 rfl) ?_
      exact hret (some a1e5) (ade5, hke5, nxe5, nse5, gie5, gre5) _ _ _ _ ⟨_, rfl, Option.some.inj h⟩ B dX5_all_33
    have kt5 : ∀ (w : Nat) (u : XU) (H : Heap) (locs : List Loc) (ls : Array Slot) (pc : Nat) (rest : List Value), Sum.inr (w, u.2) = E5 → (u.2.1 w).1 = 15 → XBA D cA ad hk nx ns cN cS u.1 u.2.1 u.2.2.1 u.2.2.2.1 A s u.2.2.2.2.1 u.2.2.2.2.2 H locs → vx_W p l e R s m args below meth c H locs (u.2.2.1 - nx) (u.2.2.2.1 - ns) Q (F0 m pc ls rest) (u.1 w) := by
      intro w u H locs ls pc rest he hw B
      subst he
      have h : some (Sum.inl (w, u.2)) = some r := h
      exact hthr w u H locs ls pc rest (Option.some.inj h) hw B
    have hl5 : ∀ (k : Nat) (a1l5 : Nat) (hkl5 : HK) (nxl5 : Nat) (nsl5 : Nat) (gil5 : GI) (grl5 : GR) (adl5 : Nat → Nat) (H : Heap) (locs : List Loc) (ls : Array Slot), g_loop k (fun (s : Nat × HK × Nat × Nat × GI × GR) => f_X5_all_l5_b fB fO cN cS a0 s.1 s.2.1 s.2.2.1 s.2.2.2.1 s.2.2.2.2.1 s.2.2.2.2.2) (a1l5, hkl5, nxl5, nsl5, gil5, grl5) = some E5 → XBA D cA ad hk nx ns cN cS adl5 hkl5 nxl5 nsl5 A s gil5 grl5 H locs → lv_has ls 2 [(0, .ref (adl5 a0)), (1, .ref (adl5 a1l5))] → W p l e R s m args below meth c H locs (nxl5 - nx) (nsl5 - ns) Q (F0 m 5 ls []) := by
      intro k
      induction k with
      | zero => intro a1l5 hkl5 nxl5 nsl5 gil5 grl5 adl5 H locs ls h; exact absurd h (fun z => g_loop_0 z)
      | succ k ih5 =>
        intro a1l5 hkl5 nxl5 nsl5 gil5 grl5 adl5 H locs ls h B hL
        obtain ⟨Z5, h, h95⟩ := g_loop_s h
        have h : f_X5_all_l5_b fB fO cN cS a0 a1l5 hkl5 nxl5 nsl5 gil5 grl5 = some Z5 := h
        unfold f_X5_all_l5_b at h
        have ht8 : (hkl5 a0).1 = 14 := by rw [(B.2.1 a0 (by rw [ht]; decide)).2]; exact ht
        refine lv_aload_n hx hb dX5_all_5 rfl (lv_at hL 0 rfl) ?_
        refine xx_ldcS (i := 19) C B.1 (by decide) rfl dX5_all_6 ?_
        refine xx_ok h (fun ok9 h => ?_)
        refine k_X5_takes ht8 (by decide) C B hRr q1015 (by omega) (by omega) hL.1 (Nat.le_of_ble_eq_true rfl) h dX5_all_8 (fun q10 ad11 h hae12 H locs B => ?_)
        rw [← (hae12 a0 (by rw [ht8]; decide)).1] at hL
        have hp13 : (q10.2.1 a0).1 = 14 := by rw [(hae12 a0 (by rw [ht8]; decide)).2]; exact ht8
        rw [← (hae12 a1l5 ok9).1] at hL
        have ok14 : (q10.2.1 a1l5).1 < 1000 := by rw [(hae12 a1l5 ok9).2]; exact ok9
        refine gg_if_eq hx hb 32 h dX5_all_11 (by decide) (fun h => ?_) (fun h => ?_)
        · exact kx5 _ _ _ _ _ _ _ _ _ _ (g_exit h h95) B (lv_sub hL [1] rfl)
        · refine xa_new C B hRr xc_10 (by decide) xd_10 q1202 q1203 q171 h dX5_all_14 (fun q15 ad16 h hae17 hp18 H B => ?_)
          rw [← (hae17 a0 (by rw [hp13]; decide)).1] at hL
          have hp19 : (q15.1 a0).1 = 14 := by rw [(hae17 a0 (by rw [hp13]; decide)).2]; exact hp13
          rw [← (hae17 a1l5 ok14).1] at hL
          have ok20 : (q15.1 a1l5).1 < 1000 := by rw [(hae17 a1l5 ok14).2]; exact ok14
          refine lv_dup hx hb dX5_all_17 rfl ?_
          refine lv_aload_n hx hb dX5_all_18 rfl (lv_at hL 1 rfl) ?_
          refine lv_aload_n hx hb dX5_all_19 rfl (lv_at hL 0 rfl) ?_
          refine k_X5_one hfr hlo hB hO hp19 C B hRr q1150 (by omega) (by omega) hL.1 (Nat.le_of_ble_eq_true rfl) h dX5_all_20 (fun t22 ad24 h hw26 _ H locs B => ?_) (fun q21 ad23 h hae25 H locs B => ?_)
          · exact kt5 t22.1 (ad24, t22.2.1, t22.2.2.1, t22.2.2.2.1, t22.2.2.2.2.1, t22.2.2.2.2.2) _ _ _ _ _ (g_exit h h95) hw26 B
          · have h := g_elr h
            rw [← (hae25 a0 (by rw [hp19]; decide)).1] at hL
            have hp27 : (q21.2.1 a0).1 = 14 := by rw [(hae25 a0 (by rw [hp19]; decide)).2]; exact hp19
            rw [← (hae25 a1l5 ok20).1] at hL
            rw [← (hae25 a1l5 ok20).1]
            have ok28 : (q21.2.1 a1l5).1 < 1000 := by rw [(hae25 a1l5 ok20).2]; exact ok20
            rw [← (hae25 q10.2.2.1 (by rw [hp18]; decide)).1]
            have hp29 : (q21.2.1 q10.2.2.1).1 = 20 := by rw [(hae25 q10.2.2.1 (by rw [hp18]; decide)).2]; exact hp18
            refine lv_bipush (v := 38) hx hb dX5_all_23 (by decide) ?_
            refine k_X11_init hp29 C B hRr q1204 (by omega) (by omega) hL.1 (Nat.le_of_ble_eq_true rfl) h dX5_all_25 (fun q30 ad31 h hae32 H locs B => ?_)
            rw [← (hae32 a0 (by rw [hp27]; decide)).1] at hL
            have hp33 : (q30.1 a0).1 = 14 := by rw [(hae32 a0 (by rw [hp27]; decide)).2]; exact hp27
            rw [← (hae32 a1l5 ok28).1] at hL
            have ok34 : (q30.1 a1l5).1 < 1000 := by rw [(hae32 a1l5 ok28).2]; exact ok28
            rw [← (hae32 q10.2.2.1 (by rw [hp29]; decide)).1]
            have hp35 : (q30.1 q10.2.2.1).1 = 20 := by rw [(hae32 q10.2.2.1 (by rw [hp29]; decide)).2]; exact hp29
            refine lv_astore_n (lv' := [(1, .ref (ad31 q10.2.2.1)), (0, .ref (ad31 a0))]) hx hb dX5_all_28 rfl hL (by decide) rfl (fun ls hL => ?_)
            refine lv_goto (tgt := 5) hx hb dX5_all_29 (by decide) ?_
            exact ih5 _ _ _ _ _ _ _ _ _ _ (g_next h h95) B (lv_sub hL [1, 0] rfl)
    exact hl5 g_K _ _ _ _ _ _ _ _ _ _ h85 B (lv_sub hL [1, 0] rfl)
theorem k_X5_all {p : Program} {l : Launch} {e : Env} {R : Room} {s : State} {m : MethodId} {args : Array Value} {below : List Frame} {meth : Method} {c : Code} {H : Heap} {locs : List Loc} {Q : State → Prop} {pc : Nat} {ls : Array Slot} {rest : List Value} {cc : ByteArray} {nL : Nat} {D : va_G} {cA : Nat → ClassId} {a9 : Nat → Nat} {h9 : HK} {n0 m0 cN cS : Nat} {ad : Nat → Nat} {hk : HK} {nx ns : Nat} {A : Nat → Prop} {gi : GI} {gr : GR} {α : Type} {r : α} {own : String} {idx : Nat} {a0 : Nat} {fB fO : FT5} {fr lo : Nat} {ff : ((Nat × HK × Nat × Nat × GI × GR) ⊕ (Nat × HK × Nat × Nat × GI × GR)) → Option α} (hfr : 9 ≤ fr) (hlo : 243 ≤ lo) (hB : H5_both l D cA fB fr lo) (hO : H5_one l D cA fO fr lo) (ht : (hk a0).1 = 14) (C : CallFix p m c cc nL s args lw_all own) (B : XBA D cA a9 h9 n0 m0 cN cS ad hk nx ns A s gi gr H locs) (hRr : R.cells = cN - n0 ∧ R.slots = cS - m0) (hq : Cond.methodLink own idx yX5_all ∈ lw_all) (hF : fr + 5 + 1 ≤ R.frames) (hN : 8 + (2 + 11) + (lo + 200) ≤ R.locals) (hs : ls.size = nL) (hw : (rest.map fun v => v.category).sum ≤ 8) (h : (g_cc (fun c1 c2 => f_X5_all_b fB fO c1 c2 hk nx ns gi gr a0) (fun z : (Nat × HK × Nat × Nat × GI × GR) ⊕ (Nat × HK × Nat × Nat × GI × GR) => Sum.elim (fun t : Nat × HK × Nat × Nat × GI × GR => t.2.2.1) (fun q : Nat × HK × Nat × Nat × GI × GR => q.2.2.1) z) (fun z : (Nat × HK × Nat × Nat × GI × GR) ⊕ (Nat × HK × Nat × Nat × GI × GR) => Sum.elim (fun t : Nat × HK × Nat × Nat × GI × GR => t.2.2.2.1) (fun q : Nat × HK × Nat × Nat × GI × GR => q.2.2.2.1) z) cN cS nx ns).bind ff = some r) (hdg : decode cc pc = .ok (.invokevirtual idx, 3)) (kx : ∀ (t : Nat × HK × Nat × Nat × GI × GR) (ad' : Nat → Nat), ff (.inl t) = some r → (t.2.1 t.1).1 = 15 → (∀ i, (hk i).1 < 1000 → ad' i = ad i ∧ t.2.1 i = hk i) → ∀ (H' : Heap) (locs' : List Loc), XBA D cA a9 h9 n0 m0 cN cS ad' t.2.1 t.2.2.1 t.2.2.2.1 A s t.2.2.2.2.1 t.2.2.2.2.2 H' locs' → vx_W p l e R s m args below meth c H' locs' (t.2.2.1 - n0) (t.2.2.2.1 - m0) Q (F0 m pc ls rest) (ad' t.1)) (kk : ∀ (q : Nat × HK × Nat × Nat × GI × GR) (ad' : Nat → Nat), ff (.inr q) = some r → (∀ i, (hk i).1 < 1000 → ad' i = ad i ∧ q.2.1 i = hk i) → ∀ (H' : Heap) (locs' : List Loc), XBA D cA a9 h9 n0 m0 cN cS ad' q.2.1 q.2.2.1 q.2.2.2.1 A s q.2.2.2.2.1 q.2.2.2.2.2 H' locs' → W p l e R s m args below meth c H' locs' (q.2.2.1 - n0) (q.2.2.2.1 - m0) Q (F0 m (pc + 3) ls (.ref (ad' q.1) :: rest))) : W p l e R s m args below meth c H locs (nx - n0) (ns - m0) Q (F0 m pc ls (.ref (ad a0) :: rest)) := by
  obtain ⟨z, h1, h2⟩ := g_ob h
  obtain ⟨h3, c1, c2, c3, c4⟩ := g_cc_of h1
  refine xt_cVR (As := []) (rest := rest) (n := 0) (qn := (fun z : (Nat × HK × Nat × Nat × GI × GR) ⊕ (Nat × HK × Nat × Nat × GI × GR) => Sum.elim (fun t : Nat × HK × Nat × Nat × GI × GR => t.2.2.1) (fun q : Nat × HK × Nat × Nat × GI × GR => q.2.2.1) z) z) (qs := (fun z : (Nat × HK × Nat × Nat × GI × GR) ⊕ (Nat × HK × Nat × Nat × GI × GR) => Sum.elim (fun t : Nat × HK × Nat × Nat × GI × GR => t.2.2.2.1) (fun q : Nat × HK × Nat × Nat × GI × GR => q.2.2.2.1) z) z) xc_4 ht (by decide) C B hRr (fun sz => wb_X5_all l D cA fB fO fr lo hfr hlo hB hO ad _ _ hk nx ns gi gr a0 ht ⟨c1, c3⟩ z h3 sz) hq q1148 qs30 q151 q1149 (by decide +kernel) ⟨c1, c2, c3, c4⟩ (fun v u hp => ?_) (fun x hp => ?_) ⟨hF, hN⟩ rfl hs hw hdg (fun w u H9 locs9 hp hw9 hae B9 => ?_) (fun v u H9 locs9 hp hae B9 => ?_)
  · have hp := hp
    obtain ⟨v9, rfl, rfl⟩ := hp
    exact ⟨rfl, rfl⟩
  · have hp := hp
    subst hp
    exact ⟨rfl, rfl⟩
  · have hp := hp
    subst hp
    exact kx _ u.1 h2 hw9 hae H9 locs9 B9
  · have hp := hp
    obtain ⟨v9, rfl, rfl⟩ := hp
    exact kk _ u.1 h2 hae H9 locs9 B9
def f_X5_both_l5_b (fB fO : FT5) (cN cS : Nat) (a0 : Nat) (a1l5 : Nat) (hkl5 : HK) (nxl5 : Nat) (nsl5 : Nat) (gil5 : GI) (grl5 : GR) : Option ((Nat × HK × Nat × Nat × GI × GR) ⊕ ((Nat × HK × Nat × Nat × GI × GR) ⊕ (Nat × HK × Nat × Nat × GI × GR))) :=
  (g_ok hkl5 a1l5).bind fun _ =>
  (g_cc (fun c1 c2 => f_X5_takes c1 c2 hkl5 nxl5 nsl5 gil5 grl5 a0 20) (fun q : Int32 × HK × Nat × Nat × GI × GR => q.2.2.1) (fun q : Int32 × HK × Nat × Nat × GI × GR => q.2.2.2.1) cN cS nxl5 nsl5).bind fun q10 =>
  if q10.1 = 0 then
  (some (.inr (.inl (a1l5, q10.2.1, q10.2.2.1, q10.2.2.2.1, q10.2.2.2.2.1, q10.2.2.2.2.2))))
  else
  ((g_new cN cS q10.2.2.1 q10.2.2.2.1 20 0 3 q10.2.1 q10.2.2.2.2.1 q10.2.2.2.2.2).bind fun q15 =>
  (g_cc (fun c1 c2 => f_X5_all_b fB fO c1 c2 q15.1 (q10.2.2.1 + 1) (q10.2.2.2.1 + 3) q15.2.1 q15.2.2 a0) (fun z : (Nat × HK × Nat × Nat × GI × GR) ⊕ (Nat × HK × Nat × Nat × GI × GR) => Sum.elim (fun t : Nat × HK × Nat × Nat × GI × GR => t.2.2.1) (fun q : Nat × HK × Nat × Nat × GI × GR => q.2.2.1) z) (fun z : (Nat × HK × Nat × Nat × GI × GR) ⊕ (Nat × HK × Nat × Nat × GI × GR) => Sum.elim (fun t : Nat × HK × Nat × Nat × GI × GR => t.2.2.2.1) (fun q : Nat × HK × Nat × Nat × GI × GR => q.2.2.2.1) z) cN cS (q10.2.2.1 + 1) (q10.2.2.2.1 + 3)).bind fun q9 => Sum.elim (fun (t22 : Nat × HK × Nat × Nat × GI × GR) => some (.inr (.inr (t22.1, t22.2.1, t22.2.2.1, t22.2.2.2.1, t22.2.2.2.2.1, t22.2.2.2.2.2)))) (fun (q21 : Nat × HK × Nat × Nat × GI × GR) =>
  (g_cc (fun c1 c2 => f_X11_init c1 c2 q21.2.1 q21.2.2.1 q21.2.2.2.1 q21.2.2.2.2.1 q21.2.2.2.2.2 q10.2.2.1 a1l5 q21.1 124) (fun q : HK × Nat × Nat × GI × GR => q.2.1) (fun q : HK × Nat × Nat × GI × GR => q.2.2.1) cN cS q21.2.2.1 q21.2.2.2.1).bind fun q30 =>
  some (.inl (q10.2.2.1, q30.1, q30.2.1, q30.2.2.1, q30.2.2.2.1, q30.2.2.2.2))) q9)
def f_X5_both_x5_b (fB fO : FT5) (cN cS : Nat) (a0 : Nat) (a1e5 : Nat) (hke5 : HK) (nxe5 : Nat) (nse5 : Nat) (gie5 : GI) (gre5 : GR) : Option ((Nat × HK × Nat × Nat × GI × GR) ⊕ (Nat × HK × Nat × Nat × GI × GR)) :=
  some (.inr (a1e5, hke5, nxe5, nse5, gie5, gre5))
def f_X5_both_b (fB fO : FT5) (cN cS : Nat) (hk : HK) (nx ns : Nat) (gi : GI) (gr : GR) (a0 : Nat) : Option ((Nat × HK × Nat × Nat × GI × GR) ⊕ (Nat × HK × Nat × Nat × GI × GR)) :=
  (g_cc (fun c1 c2 => f_X5_all_b fB fO c1 c2 hk nx ns gi gr a0) (fun z : (Nat × HK × Nat × Nat × GI × GR) ⊕ (Nat × HK × Nat × Nat × GI × GR) => Sum.elim (fun t : Nat × HK × Nat × Nat × GI × GR => t.2.2.1) (fun q : Nat × HK × Nat × Nat × GI × GR => q.2.2.1) z) (fun z : (Nat × HK × Nat × Nat × GI × GR) ⊕ (Nat × HK × Nat × Nat × GI × GR) => Sum.elim (fun t : Nat × HK × Nat × Nat × GI × GR => t.2.2.2.1) (fun q : Nat × HK × Nat × Nat × GI × GR => q.2.2.2.1) z) cN cS nx ns).bind fun q9 => Sum.elim (fun (t2 : Nat × HK × Nat × Nat × GI × GR) => some (.inl (t2.1, t2.2.1, t2.2.2.1, t2.2.2.2.1, t2.2.2.2.2.1, t2.2.2.2.2.2))) (fun (q1 : Nat × HK × Nat × Nat × GI × GR) =>
  (g_loop g_K (fun (s : Nat × HK × Nat × Nat × GI × GR) => f_X5_both_l5_b fB fO cN cS a0 s.1 s.2.1 s.2.2.1 s.2.2.2.1 s.2.2.2.2.1 s.2.2.2.2.2) (q1.1, q1.2.1, q1.2.2.1, q1.2.2.2.1, q1.2.2.2.2.1, q1.2.2.2.2.2)).bind fun E5 => Sum.elim (fun (S5 : Nat × HK × Nat × Nat × GI × GR) => f_X5_both_x5_b fB fO cN cS a0 S5.1 S5.2.1 S5.2.2.1 S5.2.2.2.1 S5.2.2.2.2.1 S5.2.2.2.2.2) (fun (t5 : Nat × HK × Nat × Nat × GI × GR) => some (.inl t5)) E5) q9
set_option maxHeartbeats 400000 in
theorem wb_X5_both (l : Launch) (D : va_G) (cA : Nat → ClassId) (fB fO : FT5) (fr lo : Nat) (hfr : 9 ≤ fr) (hlo : 243 ≤ lo) (hB : H5_both l D cA fB fr lo) (hO : H5_one l D cA fO fr lo) (ad : Nat → Nat) (cN cS : Nat) (hk : HK) (nx ns : Nat) (gi : GI) (gr : GR) (a0 : Nat) (ht : (hk a0).1 = 14) (hcap : nx ≤ cN ∧ ns ≤ cS) (r : (Nat × HK × Nat × Nat × GI × GR) ⊕ (Nat × HK × Nat × Nat × GI × GR)) (h : f_X5_both_b fB fO cN cS hk nx ns gi gr a0 = some r) (sz : Nat) : vx_Met l yX5_both (ws_ yX5_both cX5_both 2 (some (.object "WeatherWages$Node"))) ({ frames := fr + 6, cells := cN - nx, slots := cS - ns, locals := lo + 240 } : Room) (va_Pc [.ref (ad a0)] (XPre D cA ad hk nx gi gr sz)) (va_Qq (fun o u => ∃ v : Option Nat, o = v.map u.1 ∧ (fun (v : Option Nat) (u : XU) => ∃ v9, v = some v9 ∧ Sum.inr (v9, u.2) = r) v u) (XPostA D cA ad hk nx sz) (XA ad nx sz)) (vx_X (fun x : XV => Sum.inl (x.1, x.2.2) = r) (XPostX D cA ad hk nx sz) (XA ad nx sz)) (cN - nx) (cS - ns) (XA ad nx sz) := by
  refine xt_stR (Or.inl ⟨_, rfl⟩) (own := RX5) (P := (fun (v : Option Nat) (u : XU) => ∃ v9, v = some v9 ∧ Sum.inr (v9, u.2) = r)) (PX := (fun x : XV => Sum.inl (x.1, x.2.2) = r)) (by decide +kernel) rfl (Nat.le_of_ble_eq_true rfl) hcap (fun p e s m args below meth c R Q A ls C hmn hF hN hRr B hret hthr hL => ?_) sz
  have hx := C.1
  have hb := C.2.1
  have hL : lv_has ls 2 [(0, .ref (ad a0))] := hL
  unfold f_X5_both_b at h
  refine lv_aload_n hx hb dX5_both_0 rfl (lv_at hL 0 rfl) ?_
  refine k_X5_all hfr hlo hB hO ht C B hRr q1146 (by omega) (by omega) hL.1 (Nat.le_of_ble_eq_true rfl) h dX5_both_1 (fun t2 ad4 h hw6 _ H locs B => ?_) (fun q1 ad3 h hae5 H locs B => ?_)
  · exact hthr t2.1 (ad4, t2.2.1, t2.2.2.1, t2.2.2.2.1, t2.2.2.2.2.1, t2.2.2.2.2.2) _ _ _ _ _ (Option.some.inj h) hw6 B
  · have h := g_elr h
    rw [← (hae5 a0 (by rw [ht]; decide)).1] at hL
    have hp7 : (q1.2.1 a0).1 = 14 := by rw [(hae5 a0 (by rw [ht]; decide)).2]; exact ht
    refine lv_astore_n (lv' := [(1, .ref (ad3 q1.1)), (0, .ref (ad3 a0))]) hx hb dX5_both_4 rfl hL (by decide) rfl (fun ls hL => ?_)
    obtain ⟨E5, h85, h⟩ := g_ob h
    have kx5 : ∀ (a1e5 : Nat) (hke5 : HK) (nxe5 : Nat) (nse5 : Nat) (gie5 : GI) (gre5 : GR) (ade5 : Nat → Nat) (H : Heap) (locs : List Loc) (ls : Array Slot), Sum.inl (a1e5, hke5, nxe5, nse5, gie5, gre5) = E5 → XBA D cA ad hk nx ns cN cS ade5 hke5 nxe5 nse5 A s gie5 gre5 H locs → lv_has ls 2 [(1, .ref (ade5 a1e5))] → W p l e R s m args below meth c H locs (nxe5 - nx) (nse5 - ns) Q (F0 m 32 ls []) := by
      intro a1e5 hke5 nxe5 nse5 gie5 gre5 ade5 H locs ls he B hL
      subst he
      have h : f_X5_both_x5_b fB fO cN cS a0 a1e5 hke5 nxe5 nse5 gie5 gre5 = some r := h
      unfold f_X5_both_x5_b at h
      have ht36 : (hke5 a0).1 = 14 := by rw [(B.2.1 a0 (by rw [ht]; decide)).2]; exact ht
      refine lv_aload_n hx hb dX5_both_32 rfl (lv_at hL 0 rfl) ?_
      exact hret (some a1e5) (ade5, hke5, nxe5, nse5, gie5, gre5) _ _ _ _ ⟨_, rfl, Option.some.inj h⟩ B dX5_both_33
    have kt5 : ∀ (w : Nat) (u : XU) (H : Heap) (locs : List Loc) (ls : Array Slot) (pc : Nat) (rest : List Value), Sum.inr (w, u.2) = E5 → (u.2.1 w).1 = 15 → XBA D cA ad hk nx ns cN cS u.1 u.2.1 u.2.2.1 u.2.2.2.1 A s u.2.2.2.2.1 u.2.2.2.2.2 H locs → vx_W p l e R s m args below meth c H locs (u.2.2.1 - nx) (u.2.2.2.1 - ns) Q (F0 m pc ls rest) (u.1 w) := by
      intro w u H locs ls pc rest he hw B
      subst he
      have h : some (Sum.inl (w, u.2)) = some r := h
      exact hthr w u H locs ls pc rest (Option.some.inj h) hw B
    have hl5 : ∀ (k : Nat) (a1l5 : Nat) (hkl5 : HK) (nxl5 : Nat) (nsl5 : Nat) (gil5 : GI) (grl5 : GR) (adl5 : Nat → Nat) (H : Heap) (locs : List Loc) (ls : Array Slot), g_loop k (fun (s : Nat × HK × Nat × Nat × GI × GR) => f_X5_both_l5_b fB fO cN cS a0 s.1 s.2.1 s.2.2.1 s.2.2.2.1 s.2.2.2.2.1 s.2.2.2.2.2) (a1l5, hkl5, nxl5, nsl5, gil5, grl5) = some E5 → XBA D cA ad hk nx ns cN cS adl5 hkl5 nxl5 nsl5 A s gil5 grl5 H locs → lv_has ls 2 [(0, .ref (adl5 a0)), (1, .ref (adl5 a1l5))] → W p l e R s m args below meth c H locs (nxl5 - nx) (nsl5 - ns) Q (F0 m 5 ls []) := by
      intro k
      induction k with
      | zero => intro a1l5 hkl5 nxl5 nsl5 gil5 grl5 adl5 H locs ls h; exact absurd h (fun z => g_loop_0 z)
      | succ k ih5 =>
        intro a1l5 hkl5 nxl5 nsl5 gil5 grl5 adl5 H locs ls h B hL
        obtain ⟨Z5, h, h95⟩ := g_loop_s h
        have h : f_X5_both_l5_b fB fO cN cS a0 a1l5 hkl5 nxl5 nsl5 gil5 grl5 = some Z5 := h
        unfold f_X5_both_l5_b at h
        have ht8 : (hkl5 a0).1 = 14 := by rw [(B.2.1 a0 (by rw [ht]; decide)).2]; exact ht
        refine lv_aload_n hx hb dX5_both_5 rfl (lv_at hL 0 rfl) ?_
        refine xx_ldcS (i := 20) C B.1 (by decide) rfl dX5_both_6 ?_
        refine xx_ok h (fun ok9 h => ?_)
        refine k_X5_takes ht8 (by decide) C B hRr q1015 (by omega) (by omega) hL.1 (Nat.le_of_ble_eq_true rfl) h dX5_both_8 (fun q10 ad11 h hae12 H locs B => ?_)
        rw [← (hae12 a0 (by rw [ht8]; decide)).1] at hL
        have hp13 : (q10.2.1 a0).1 = 14 := by rw [(hae12 a0 (by rw [ht8]; decide)).2]; exact ht8
        rw [← (hae12 a1l5 ok9).1] at hL
        have ok14 : (q10.2.1 a1l5).1 < 1000 := by rw [(hae12 a1l5 ok9).2]; exact ok9
        refine gg_if_eq hx hb 32 h dX5_both_11 (by decide) (fun h => ?_) (fun h => ?_)
        · exact kx5 _ _ _ _ _ _ _ _ _ _ (g_exit h h95) B (lv_sub hL [1] rfl)
        · refine xa_new C B hRr xc_10 (by decide) xd_10 q1202 q1203 q171 h dX5_both_14 (fun q15 ad16 h hae17 hp18 H B => ?_)
          rw [← (hae17 a0 (by rw [hp13]; decide)).1] at hL
          have hp19 : (q15.1 a0).1 = 14 := by rw [(hae17 a0 (by rw [hp13]; decide)).2]; exact hp13
          rw [← (hae17 a1l5 ok14).1] at hL
          have ok20 : (q15.1 a1l5).1 < 1000 := by rw [(hae17 a1l5 ok14).2]; exact ok14
          refine lv_dup hx hb dX5_both_17 rfl ?_
          refine lv_aload_n hx hb dX5_both_18 rfl (lv_at hL 1 rfl) ?_
          refine lv_aload_n hx hb dX5_both_19 rfl (lv_at hL 0 rfl) ?_
          refine k_X5_all hfr hlo hB hO hp19 C B hRr q1146 (by omega) (by omega) hL.1 (Nat.le_of_ble_eq_true rfl) h dX5_both_20 (fun t22 ad24 h hw26 _ H locs B => ?_) (fun q21 ad23 h hae25 H locs B => ?_)
          · exact kt5 t22.1 (ad24, t22.2.1, t22.2.2.1, t22.2.2.2.1, t22.2.2.2.2.1, t22.2.2.2.2.2) _ _ _ _ _ (g_exit h h95) hw26 B
          · have h := g_elr h
            rw [← (hae25 a0 (by rw [hp19]; decide)).1] at hL
            have hp27 : (q21.2.1 a0).1 = 14 := by rw [(hae25 a0 (by rw [hp19]; decide)).2]; exact hp19
            rw [← (hae25 a1l5 ok20).1] at hL
            rw [← (hae25 a1l5 ok20).1]
            have ok28 : (q21.2.1 a1l5).1 < 1000 := by rw [(hae25 a1l5 ok20).2]; exact ok20
            rw [← (hae25 q10.2.2.1 (by rw [hp18]; decide)).1]
            have hp29 : (q21.2.1 q10.2.2.1).1 = 20 := by rw [(hae25 q10.2.2.1 (by rw [hp18]; decide)).2]; exact hp18
            refine lv_bipush (v := 124) hx hb dX5_both_23 (by decide) ?_
            refine k_X11_init hp29 C B hRr q1204 (by omega) (by omega) hL.1 (Nat.le_of_ble_eq_true rfl) h dX5_both_25 (fun q30 ad31 h hae32 H locs B => ?_)
            rw [← (hae32 a0 (by rw [hp27]; decide)).1] at hL
            have hp33 : (q30.1 a0).1 = 14 := by rw [(hae32 a0 (by rw [hp27]; decide)).2]; exact hp27
            rw [← (hae32 a1l5 ok28).1] at hL
            have ok34 : (q30.1 a1l5).1 < 1000 := by rw [(hae32 a1l5 ok28).2]; exact ok28
            rw [← (hae32 q10.2.2.1 (by rw [hp29]; decide)).1]
            have hp35 : (q30.1 q10.2.2.1).1 = 20 := by rw [(hae32 q10.2.2.1 (by rw [hp29]; decide)).2]; exact hp29
            refine lv_astore_n (lv' := [(1, .ref (ad31 q10.2.2.1)), (0, .ref (ad31 a0))]) hx hb dX5_both_28 rfl hL (by decide) rfl (fun ls hL => ?_)
            refine lv_goto (tgt := 5) hx hb dX5_both_29 (by decide) ?_
            exact ih5 _ _ _ _ _ _ _ _ _ _ (g_next h h95) B (lv_sub hL [1, 0] rfl)
    exact hl5 g_K _ _ _ _ _ _ _ _ _ _ h85 B (lv_sub hL [1, 0] rfl)
theorem k_X5_both {p : Program} {l : Launch} {e : Env} {R : Room} {s : State} {m : MethodId} {args : Array Value} {below : List Frame} {meth : Method} {c : Code} {H : Heap} {locs : List Loc} {Q : State → Prop} {pc : Nat} {ls : Array Slot} {rest : List Value} {cc : ByteArray} {nL : Nat} {D : va_G} {cA : Nat → ClassId} {a9 : Nat → Nat} {h9 : HK} {n0 m0 cN cS : Nat} {ad : Nat → Nat} {hk : HK} {nx ns : Nat} {A : Nat → Prop} {gi : GI} {gr : GR} {α : Type} {r : α} {own : String} {idx : Nat} {a0 : Nat} {fB fO : FT5} {fr lo : Nat} {ff : ((Nat × HK × Nat × Nat × GI × GR) ⊕ (Nat × HK × Nat × Nat × GI × GR)) → Option α} (hfr : 9 ≤ fr) (hlo : 243 ≤ lo) (hB : H5_both l D cA fB fr lo) (hO : H5_one l D cA fO fr lo) (ht : (hk a0).1 = 14) (C : CallFix p m c cc nL s args lw_all own) (B : XBA D cA a9 h9 n0 m0 cN cS ad hk nx ns A s gi gr H locs) (hRr : R.cells = cN - n0 ∧ R.slots = cS - m0) (hq : Cond.methodLink own idx yX5_both ∈ lw_all) (hF : fr + 6 + 1 ≤ R.frames) (hN : 8 + (2 + 11) + (lo + 240) ≤ R.locals) (hs : ls.size = nL) (hw : (rest.map fun v => v.category).sum ≤ 8) (h : (g_cc (fun c1 c2 => f_X5_both_b fB fO c1 c2 hk nx ns gi gr a0) (fun z : (Nat × HK × Nat × Nat × GI × GR) ⊕ (Nat × HK × Nat × Nat × GI × GR) => Sum.elim (fun t : Nat × HK × Nat × Nat × GI × GR => t.2.2.1) (fun q : Nat × HK × Nat × Nat × GI × GR => q.2.2.1) z) (fun z : (Nat × HK × Nat × Nat × GI × GR) ⊕ (Nat × HK × Nat × Nat × GI × GR) => Sum.elim (fun t : Nat × HK × Nat × Nat × GI × GR => t.2.2.2.1) (fun q : Nat × HK × Nat × Nat × GI × GR => q.2.2.2.1) z) cN cS nx ns).bind ff = some r) (hdg : decode cc pc = .ok (.invokevirtual idx, 3)) (kx : ∀ (t : Nat × HK × Nat × Nat × GI × GR) (ad' : Nat → Nat), ff (.inl t) = some r → (t.2.1 t.1).1 = 15 → (∀ i, (hk i).1 < 1000 → ad' i = ad i ∧ t.2.1 i = hk i) → ∀ (H' : Heap) (locs' : List Loc), XBA D cA a9 h9 n0 m0 cN cS ad' t.2.1 t.2.2.1 t.2.2.2.1 A s t.2.2.2.2.1 t.2.2.2.2.2 H' locs' → vx_W p l e R s m args below meth c H' locs' (t.2.2.1 - n0) (t.2.2.2.1 - m0) Q (F0 m pc ls rest) (ad' t.1)) (kk : ∀ (q : Nat × HK × Nat × Nat × GI × GR) (ad' : Nat → Nat), ff (.inr q) = some r → (∀ i, (hk i).1 < 1000 → ad' i = ad i ∧ q.2.1 i = hk i) → ∀ (H' : Heap) (locs' : List Loc), XBA D cA a9 h9 n0 m0 cN cS ad' q.2.1 q.2.2.1 q.2.2.2.1 A s q.2.2.2.2.1 q.2.2.2.2.2 H' locs' → W p l e R s m args below meth c H' locs' (q.2.2.1 - n0) (q.2.2.2.1 - m0) Q (F0 m (pc + 3) ls (.ref (ad' q.1) :: rest))) : W p l e R s m args below meth c H locs (nx - n0) (ns - m0) Q (F0 m pc ls (.ref (ad a0) :: rest)) := by
  obtain ⟨z, h1, h2⟩ := g_ob h
  obtain ⟨h3, c1, c2, c3, c4⟩ := g_cc_of h1
  refine xt_cVR (As := []) (rest := rest) (n := 0) (qn := (fun z : (Nat × HK × Nat × Nat × GI × GR) ⊕ (Nat × HK × Nat × Nat × GI × GR) => Sum.elim (fun t : Nat × HK × Nat × Nat × GI × GR => t.2.2.1) (fun q : Nat × HK × Nat × Nat × GI × GR => q.2.2.1) z) z) (qs := (fun z : (Nat × HK × Nat × Nat × GI × GR) ⊕ (Nat × HK × Nat × Nat × GI × GR) => Sum.elim (fun t : Nat × HK × Nat × Nat × GI × GR => t.2.2.2.1) (fun q : Nat × HK × Nat × Nat × GI × GR => q.2.2.2.1) z) z) xc_4 ht (by decide) C B hRr (fun sz => wb_X5_both l D cA fB fO fr lo hfr hlo hB hO ad _ _ hk nx ns gi gr a0 ht ⟨c1, c3⟩ z h3 sz) hq q1144 qs29 q151 q1145 (by decide +kernel) ⟨c1, c2, c3, c4⟩ (fun v u hp => ?_) (fun x hp => ?_) ⟨hF, hN⟩ rfl hs hw hdg (fun w u H9 locs9 hp hw9 hae B9 => ?_) (fun v u H9 locs9 hp hae B9 => ?_)
  · have hp := hp
    obtain ⟨v9, rfl, rfl⟩ := hp
    exact ⟨rfl, rfl⟩
  · have hp := hp
    subst hp
    exact ⟨rfl, rfl⟩
  · have hp := hp
    subst hp
    exact kx _ u.1 h2 hw9 hae H9 locs9 B9
  · have hp := hp
    obtain ⟨v9, rfl, rfl⟩ := hp
    exact kk _ u.1 h2 hae H9 locs9 B9
def f_X5_bo : Nat → FT5 × FT5
  | 0 => (fun _ _ _ _ _ _ _ _ => none, fun _ _ _ _ _ _ _ _ => none)
  | d + 1 => (f_X5_both_b (f_X5_bo d).1 (f_X5_bo d).2, f_X5_one_b (f_X5_bo d).1 (f_X5_bo d).2)
theorem wd_X5_bo (l : Launch) (D : va_G) (cA : Nat → ClassId) : ∀ d : Nat, H5_both l D cA (f_X5_bo d).1 (9 + 6 * d) (243 + 240 * d) ∧ H5_one l D cA (f_X5_bo d).2 (9 + 6 * d) (243 + 240 * d) := by
  intro d
  induction d with
  | zero => exact ⟨fun _ _ _ _ _ _ _ _ _ _ _ r h => by (cases h), fun _ _ _ _ _ _ _ _ _ _ _ r h => by (cases h)⟩
  | succ d ih =>
    refine ⟨fun ad cN cS hk nx ns gi gr a0 ht hcap r h sz => ?_, fun ad cN cS hk nx ns gi gr a0 ht hcap r h sz => ?_⟩
    · exact wb_X5_both l D cA (f_X5_bo d).1 (f_X5_bo d).2 (9 + 6 * d) (243 + 240 * d) (by omega) (by omega) ih.1 ih.2 ad cN cS hk nx ns gi gr a0 ht hcap r h sz
    · exact wb2_X5_one l D cA (f_X5_bo d).1 (f_X5_bo d).2 (9 + 6 * d) (243 + 240 * d) (by omega) (by omega) ih.1 ih.2 ad cN cS hk nx ns gi gr a0 ht hcap r h sz
def f_X5_both : FT5 := (f_X5_bo 10).1
theorem w_X5_both (l : Launch) (D : va_G) (cA : Nat → ClassId) (ad : Nat → Nat) (cN cS : Nat) (hk : HK) (nx ns : Nat) (gi : GI) (gr : GR) (a0 : Nat) (ht : (hk a0).1 = 14) (hcap : nx ≤ cN ∧ ns ≤ cS) (r : (Nat × HK × Nat × Nat × GI × GR) ⊕ (Nat × HK × Nat × Nat × GI × GR)) (h : f_X5_both cN cS hk nx ns gi gr a0 = some r) (sz : Nat) : vx_Met l yX5_both (ws_ yX5_both cX5_both 2 (some (.object "WeatherWages$Node"))) ({ frames := 69, cells := cN - nx, slots := cS - ns, locals := 2643 } : Room) (va_Pc [.ref (ad a0)] (XPre D cA ad hk nx gi gr sz)) (va_Qq (fun o u => ∃ v : Option Nat, o = v.map u.1 ∧ (fun (v : Option Nat) (u : XU) => ∃ v9, v = some v9 ∧ Sum.inr (v9, u.2) = r) v u) (XPostA D cA ad hk nx sz) (XA ad nx sz)) (vx_X (fun x : XV => Sum.inl (x.1, x.2.2) = r) (XPostX D cA ad hk nx sz) (XA ad nx sz)) (cN - nx) (cS - ns) (XA ad nx sz) := (wd_X5_bo l D cA 10).1 ad cN cS hk nx ns gi gr a0 ht hcap r h sz
theorem kc_X5_both {p : Program} {l : Launch} {e : Env} {R : Room} {s : State} {m : MethodId} {args : Array Value} {below : List Frame} {meth : Method} {c : Code} {H : Heap} {locs : List Loc} {Q : State → Prop} {pc : Nat} {ls : Array Slot} {rest : List Value} {cc : ByteArray} {nL : Nat} {D : va_G} {cA : Nat → ClassId} {a9 : Nat → Nat} {h9 : HK} {n0 m0 cN cS : Nat} {ad : Nat → Nat} {hk : HK} {nx ns : Nat} {A : Nat → Prop} {gi : GI} {gr : GR} {α : Type} {r : α} {own : String} {idx : Nat} {a0 : Nat} {ff : ((Nat × HK × Nat × Nat × GI × GR) ⊕ (Nat × HK × Nat × Nat × GI × GR)) → Option α} (ht : (hk a0).1 = 14) (C : CallFix p m c cc nL s args lw_all own) (B : XBA D cA a9 h9 n0 m0 cN cS ad hk nx ns A s gi gr H locs) (hRr : R.cells = cN - n0 ∧ R.slots = cS - m0) (hq : Cond.methodLink own idx yX5_both ∈ lw_all) (hF : 70 ≤ R.frames) (hN : 2664 ≤ R.locals) (hs : ls.size = nL) (hw : (rest.map fun v => v.category).sum ≤ 8) (h : (g_cc (fun c1 c2 => f_X5_both c1 c2 hk nx ns gi gr a0) (fun z : (Nat × HK × Nat × Nat × GI × GR) ⊕ (Nat × HK × Nat × Nat × GI × GR) => Sum.elim (fun t : Nat × HK × Nat × Nat × GI × GR => t.2.2.1) (fun q : Nat × HK × Nat × Nat × GI × GR => q.2.2.1) z) (fun z : (Nat × HK × Nat × Nat × GI × GR) ⊕ (Nat × HK × Nat × Nat × GI × GR) => Sum.elim (fun t : Nat × HK × Nat × Nat × GI × GR => t.2.2.2.1) (fun q : Nat × HK × Nat × Nat × GI × GR => q.2.2.2.1) z) cN cS nx ns).bind ff = some r) (hdg : decode cc pc = .ok (.invokevirtual idx, 3)) (kx : ∀ (t : Nat × HK × Nat × Nat × GI × GR) (ad' : Nat → Nat), ff (.inl t) = some r → (t.2.1 t.1).1 = 15 → (∀ i, (hk i).1 < 1000 → ad' i = ad i ∧ t.2.1 i = hk i) → ∀ (H' : Heap) (locs' : List Loc), XBA D cA a9 h9 n0 m0 cN cS ad' t.2.1 t.2.2.1 t.2.2.2.1 A s t.2.2.2.2.1 t.2.2.2.2.2 H' locs' → vx_W p l e R s m args below meth c H' locs' (t.2.2.1 - n0) (t.2.2.2.1 - m0) Q (F0 m pc ls rest) (ad' t.1)) (kk : ∀ (q : Nat × HK × Nat × Nat × GI × GR) (ad' : Nat → Nat), ff (.inr q) = some r → (∀ i, (hk i).1 < 1000 → ad' i = ad i ∧ q.2.1 i = hk i) → ∀ (H' : Heap) (locs' : List Loc), XBA D cA a9 h9 n0 m0 cN cS ad' q.2.1 q.2.2.1 q.2.2.2.1 A s q.2.2.2.2.1 q.2.2.2.2.2 H' locs' → W p l e R s m args below meth c H' locs' (q.2.2.1 - n0) (q.2.2.2.1 - m0) Q (F0 m (pc + 3) ls (.ref (ad' q.1) :: rest))) : W p l e R s m args below meth c H locs (nx - n0) (ns - m0) Q (F0 m pc ls (.ref (ad a0) :: rest)) := by
  obtain ⟨z, h1, h2⟩ := g_ob h
  obtain ⟨h3, c1, c2, c3, c4⟩ := g_cc_of h1
  refine xt_cVR (As := []) (rest := rest) (n := 0) (qn := (fun z : (Nat × HK × Nat × Nat × GI × GR) ⊕ (Nat × HK × Nat × Nat × GI × GR) => Sum.elim (fun t : Nat × HK × Nat × Nat × GI × GR => t.2.2.1) (fun q : Nat × HK × Nat × Nat × GI × GR => q.2.2.1) z) z) (qs := (fun z : (Nat × HK × Nat × Nat × GI × GR) ⊕ (Nat × HK × Nat × Nat × GI × GR) => Sum.elim (fun t : Nat × HK × Nat × Nat × GI × GR => t.2.2.2.1) (fun q : Nat × HK × Nat × Nat × GI × GR => q.2.2.2.1) z) z) xc_4 ht (by decide) C B hRr (fun sz => w_X5_both l D cA ad _ _ hk nx ns gi gr a0 ht ⟨c1, c3⟩ z h3 sz) hq q1144 qs29 q151 q1145 (by decide +kernel) ⟨c1, c2, c3, c4⟩ (fun v u hp => ?_) (fun x hp => ?_) ⟨hF, hN⟩ rfl hs hw hdg (fun w u H9 locs9 hp hw9 hae B9 => ?_) (fun v u H9 locs9 hp hae B9 => ?_)
  · have hp := hp
    obtain ⟨v9, rfl, rfl⟩ := hp
    exact ⟨rfl, rfl⟩
  · have hp := hp
    subst hp
    exact ⟨rfl, rfl⟩
  · have hp := hp
    subst hp
    exact kx _ u.1 h2 hw9 hae H9 locs9 B9
  · have hp := hp
    obtain ⟨v9, rfl, rfl⟩ := hp
    exact kk _ u.1 h2 hae H9 locs9 B9
def f_X5_e (cN cS : Nat) (hk : HK) (nx ns : Nat) (gi : GI) (gr : GR) (a0 : Nat) : Option ((Nat × HK × Nat × Nat × GI × GR) ⊕ (Nat × HK × Nat × Nat × GI × GR)) :=
  (some (g_pi gi a0 4 0)).bind fun gi1 =>
  (some (g_pi gi1 a0 5 0)).bind fun gi2 =>
  (g_cc (fun c1 c2 => f_X5_both c1 c2 hk nx ns gi2 gr a0) (fun z : (Nat × HK × Nat × Nat × GI × GR) ⊕ (Nat × HK × Nat × Nat × GI × GR) => Sum.elim (fun t : Nat × HK × Nat × Nat × GI × GR => t.2.2.1) (fun q : Nat × HK × Nat × Nat × GI × GR => q.2.2.1) z) (fun z : (Nat × HK × Nat × Nat × GI × GR) ⊕ (Nat × HK × Nat × Nat × GI × GR) => Sum.elim (fun t : Nat × HK × Nat × Nat × GI × GR => t.2.2.2.1) (fun q : Nat × HK × Nat × Nat × GI × GR => q.2.2.2.1) z) cN cS nx ns).bind fun q9 => Sum.elim (fun (t4 : Nat × HK × Nat × Nat × GI × GR) => some (.inl (t4.1, t4.2.1, t4.2.2.1, t4.2.2.2.1, t4.2.2.2.2.1, t4.2.2.2.2.2))) (fun (q3 : Nat × HK × Nat × Nat × GI × GR) =>
  some (.inr (q3.1, q3.2.1, q3.2.2.1, q3.2.2.2.1, q3.2.2.2.2.1, q3.2.2.2.2.2))) q9
set_option maxHeartbeats 400000 in
theorem w_X5_e (l : Launch) (D : va_G) (cA : Nat → ClassId) (ad : Nat → Nat) (cN cS : Nat) (hk : HK) (nx ns : Nat) (gi : GI) (gr : GR) (a0 : Nat) (ht : (hk a0).1 = 14) (hcap : nx ≤ cN ∧ ns ≤ cS) (r : (Nat × HK × Nat × Nat × GI × GR) ⊕ (Nat × HK × Nat × Nat × GI × GR)) (h : f_X5_e cN cS hk nx ns gi gr a0 = some r) (sz : Nat) : vx_Met l yX5_e (ws_ yX5_e cX5_e 1 (some (.object "WeatherWages$Node"))) ({ frames := 70, cells := cN - nx, slots := cS - ns, locals := 2664 } : Room) (va_Pc [.ref (ad a0)] (XPre D cA ad hk nx gi gr sz)) (va_Qq (fun o u => ∃ v : Option Nat, o = v.map u.1 ∧ (fun (v : Option Nat) (u : XU) => ∃ v9, v = some v9 ∧ Sum.inr (v9, u.2) = r) v u) (XPostA D cA ad hk nx sz) (XA ad nx sz)) (vx_X (fun x : XV => Sum.inl (x.1, x.2.2) = r) (XPostX D cA ad hk nx sz) (XA ad nx sz)) (cN - nx) (cS - ns) (XA ad nx sz) := by
  refine xt_stR (Or.inl ⟨_, rfl⟩) (own := RX5) (P := (fun (v : Option Nat) (u : XU) => ∃ v9, v = some v9 ∧ Sum.inr (v9, u.2) = r)) (PX := (fun x : XV => Sum.inl (x.1, x.2.2) = r)) (by decide +kernel) rfl (Nat.le_of_ble_eq_true rfl) hcap (fun p e s m args below meth c R Q A ls C hmn hF hN hRr B hret hthr hL => ?_) sz
  have hx := C.1
  have hb := C.2.1
  have hL : lv_has ls 1 [(0, .ref (ad a0))] := hL
  unfold f_X5_e at h
  refine lv_aload_n hx hb dX5_e_0 rfl (lv_at hL 0 rfl) ?_
  refine lv_iconst (v := 0) hx hb dX5_e_1 (by decide) ?_
  refine xx_pi (ci := 4) (k := 4) C B.1 xc_4 ht (by decide) (Nat.le_of_ble_eq_true rfl) rfl q478 (fun _ h => h) rfl rfl rfl h dX5_e_2 (fun gi1 h H locs B2 => ?_)
  have B := And.intro B2 B.2
  refine lv_aload_n hx hb dX5_e_5 rfl (lv_at hL 0 rfl) ?_
  refine lv_iconst (v := 0) hx hb dX5_e_6 (by decide) ?_
  refine xx_pi (ci := 4) (k := 5) C B.1 xc_4 ht (by decide) (Nat.le_of_ble_eq_true rfl) rfl q479 (fun _ h => h) rfl rfl rfl h dX5_e_7 (fun gi2 h H locs B2 => ?_)
  have B := And.intro B2 B.2
  refine lv_aload_n hx hb dX5_e_10 rfl (lv_at hL 0 rfl) ?_
  refine kc_X5_both ht C B hRr q1142 (Nat.le_trans (Nat.le_of_ble_eq_true rfl) hF) (Nat.le_trans (Nat.le_of_ble_eq_true rfl) hN) hL.1 (Nat.le_of_ble_eq_true rfl) h dX5_e_11 (fun t4 ad6 h hw8 _ H locs B => ?_) (fun q3 ad5 h hae7 H locs B => ?_)
  · exact hthr t4.1 (ad6, t4.2.1, t4.2.2.1, t4.2.2.2.1, t4.2.2.2.2.1, t4.2.2.2.2.2) _ _ _ _ _ (Option.some.inj h) hw8 B
  · have h := g_elr h
    rw [← (hae7 a0 (by rw [ht]; decide)).1] at hL
    have hp9 : (q3.2.1 a0).1 = 14 := by rw [(hae7 a0 (by rw [ht]; decide)).2]; exact ht
    exact hret (some q3.1) (ad5, q3.2.1, q3.2.2.1, q3.2.2.2.1, q3.2.2.2.2.1, q3.2.2.2.2.2) _ _ _ _ ⟨_, rfl, Option.some.inj h⟩ B dX5_e_14
theorem k_X5_e {p : Program} {l : Launch} {e : Env} {R : Room} {s : State} {m : MethodId} {args : Array Value} {below : List Frame} {meth : Method} {c : Code} {H : Heap} {locs : List Loc} {Q : State → Prop} {pc : Nat} {ls : Array Slot} {rest : List Value} {cc : ByteArray} {nL : Nat} {D : va_G} {cA : Nat → ClassId} {a9 : Nat → Nat} {h9 : HK} {n0 m0 cN cS : Nat} {ad : Nat → Nat} {hk : HK} {nx ns : Nat} {A : Nat → Prop} {gi : GI} {gr : GR} {α : Type} {r : α} {own : String} {idx : Nat} {a0 : Nat} {ff : ((Nat × HK × Nat × Nat × GI × GR) ⊕ (Nat × HK × Nat × Nat × GI × GR)) → Option α} (ht : (hk a0).1 = 14) (C : CallFix p m c cc nL s args lw_all own) (B : XBA D cA a9 h9 n0 m0 cN cS ad hk nx ns A s gi gr H locs) (hRr : R.cells = cN - n0 ∧ R.slots = cS - m0) (hq : Cond.methodLink own idx yX5_e ∈ lw_all) (hF : 71 ≤ R.frames) (hN : 2684 ≤ R.locals) (hs : ls.size = nL) (hw : (rest.map fun v => v.category).sum ≤ 8) (h : (g_cc (fun c1 c2 => f_X5_e c1 c2 hk nx ns gi gr a0) (fun z : (Nat × HK × Nat × Nat × GI × GR) ⊕ (Nat × HK × Nat × Nat × GI × GR) => Sum.elim (fun t : Nat × HK × Nat × Nat × GI × GR => t.2.2.1) (fun q : Nat × HK × Nat × Nat × GI × GR => q.2.2.1) z) (fun z : (Nat × HK × Nat × Nat × GI × GR) ⊕ (Nat × HK × Nat × Nat × GI × GR) => Sum.elim (fun t : Nat × HK × Nat × Nat × GI × GR => t.2.2.2.1) (fun q : Nat × HK × Nat × Nat × GI × GR => q.2.2.2.1) z) cN cS nx ns).bind ff = some r) (hdg : decode cc pc = .ok (.invokevirtual idx, 3)) (kx : ∀ (t : Nat × HK × Nat × Nat × GI × GR) (ad' : Nat → Nat), ff (.inl t) = some r → (t.2.1 t.1).1 = 15 → (∀ i, (hk i).1 < 1000 → ad' i = ad i ∧ t.2.1 i = hk i) → ∀ (H' : Heap) (locs' : List Loc), XBA D cA a9 h9 n0 m0 cN cS ad' t.2.1 t.2.2.1 t.2.2.2.1 A s t.2.2.2.2.1 t.2.2.2.2.2 H' locs' → vx_W p l e R s m args below meth c H' locs' (t.2.2.1 - n0) (t.2.2.2.1 - m0) Q (F0 m pc ls rest) (ad' t.1)) (kk : ∀ (q : Nat × HK × Nat × Nat × GI × GR) (ad' : Nat → Nat), ff (.inr q) = some r → (∀ i, (hk i).1 < 1000 → ad' i = ad i ∧ q.2.1 i = hk i) → ∀ (H' : Heap) (locs' : List Loc), XBA D cA a9 h9 n0 m0 cN cS ad' q.2.1 q.2.2.1 q.2.2.2.1 A s q.2.2.2.2.1 q.2.2.2.2.2 H' locs' → W p l e R s m args below meth c H' locs' (q.2.2.1 - n0) (q.2.2.2.1 - m0) Q (F0 m (pc + 3) ls (.ref (ad' q.1) :: rest))) : W p l e R s m args below meth c H locs (nx - n0) (ns - m0) Q (F0 m pc ls (.ref (ad a0) :: rest)) := by
  obtain ⟨z, h1, h2⟩ := g_ob h
  obtain ⟨h3, c1, c2, c3, c4⟩ := g_cc_of h1
  refine xt_cVR (As := []) (rest := rest) (n := 0) (qn := (fun z : (Nat × HK × Nat × Nat × GI × GR) ⊕ (Nat × HK × Nat × Nat × GI × GR) => Sum.elim (fun t : Nat × HK × Nat × Nat × GI × GR => t.2.2.1) (fun q : Nat × HK × Nat × Nat × GI × GR => q.2.2.1) z) z) (qs := (fun z : (Nat × HK × Nat × Nat × GI × GR) ⊕ (Nat × HK × Nat × Nat × GI × GR) => Sum.elim (fun t : Nat × HK × Nat × Nat × GI × GR => t.2.2.2.1) (fun q : Nat × HK × Nat × Nat × GI × GR => q.2.2.2.1) z) z) xc_4 ht (by decide) C B hRr (fun sz => w_X5_e l D cA ad _ _ hk nx ns gi gr a0 ht ⟨c1, c3⟩ z h3 sz) hq q1140 qs28 q151 q1141 (by decide +kernel) ⟨c1, c2, c3, c4⟩ (fun v u hp => ?_) (fun x hp => ?_) ⟨hF, hN⟩ rfl hs hw hdg (fun w u H9 locs9 hp hw9 hae B9 => ?_) (fun v u H9 locs9 hp hae B9 => ?_)
  · have hp := hp
    obtain ⟨v9, rfl, rfl⟩ := hp
    exact ⟨rfl, rfl⟩
  · have hp := hp
    subst hp
    exact ⟨rfl, rfl⟩
  · have hp := hp
    subst hp
    exact kx _ u.1 h2 hw9 hae H9 locs9 B9
  · have hp := hp
    obtain ⟨v9, rfl, rfl⟩ := hp
    exact kk _ u.1 h2 hae H9 locs9 B9
def f_X5_grow (cN cS : Nat) (hk : HK) (nx ns : Nat) (gi : GI) (gr : GR) (a0 : Nat) : Option ((Nat × HK × Nat × Nat × GI × GR) ⊕ (HK × Nat × Nat × GI × GR)) :=
  (g_cc (fun c1 c2 => f_X5_go c1 c2 hk nx ns gi gr a0) (fun q : HK × Nat × Nat × GI × GR => q.2.1) (fun q : HK × Nat × Nat × GI × GR => q.2.2.1) cN cS nx ns).bind fun q1 =>
  (q1.2.2.2.2 a0 9).bind fun v5 =>
  (g_cc (fun c1 c2 => f_X5_e c1 c2 q1.1 q1.2.1 q1.2.2.1 q1.2.2.2.1 q1.2.2.2.2 a0) (fun z : (Nat × HK × Nat × Nat × GI × GR) ⊕ (Nat × HK × Nat × Nat × GI × GR) => Sum.elim (fun t : Nat × HK × Nat × Nat × GI × GR => t.2.2.1) (fun q : Nat × HK × Nat × Nat × GI × GR => q.2.2.1) z) (fun z : (Nat × HK × Nat × Nat × GI × GR) ⊕ (Nat × HK × Nat × Nat × GI × GR) => Sum.elim (fun t : Nat × HK × Nat × Nat × GI × GR => t.2.2.2.1) (fun q : Nat × HK × Nat × Nat × GI × GR => q.2.2.2.1) z) cN cS q1.2.1 q1.2.2.1).bind fun q9 => Sum.elim (fun (t8 : Nat × HK × Nat × Nat × GI × GR) => some (.inl (t8.1, t8.2.1, t8.2.2.1, t8.2.2.2.1, t8.2.2.2.2.1, t8.2.2.2.2.2))) (fun (q7 : Nat × HK × Nat × Nat × GI × GR) =>
  (g_is q7.2.1 v5 11).bind fun _ =>
  (g_ok q7.2.1 q7.1).bind fun _ =>
  (some (g_pr q7.2.2.2.2.2 v5 5 (some q7.1))).bind fun gr16 =>
  some (.inr (q7.2.1, q7.2.2.1, q7.2.2.2.1, q7.2.2.2.2.1, gr16))) q9
set_option maxHeartbeats 400000 in
theorem w_X5_grow (l : Launch) (D : va_G) (cA : Nat → ClassId) (ad : Nat → Nat) (cN cS : Nat) (hk : HK) (nx ns : Nat) (gi : GI) (gr : GR) (a0 : Nat) (ht : (hk a0).1 = 14) (hcap : nx ≤ cN ∧ ns ≤ cS) (r : (Nat × HK × Nat × Nat × GI × GR) ⊕ (HK × Nat × Nat × GI × GR)) (h : f_X5_grow cN cS hk nx ns gi gr a0 = some r) (sz : Nat) : vx_Met l yX5_grow (ws_ yX5_grow cX5_grow 1 (none)) ({ frames := 71, cells := cN - nx, slots := cS - ns, locals := 2684 } : Room) (va_Pc [.ref (ad a0)] (XPre D cA ad hk nx gi gr sz)) (va_Qv (fun (u : XU) => Sum.inr u.2 = r) (XPostA D cA ad hk nx sz) (XA ad nx sz)) (vx_X (fun x : XV => Sum.inl (x.1, x.2.2) = r) (XPostX D cA ad hk nx sz) (XA ad nx sz)) (cN - nx) (cS - ns) (XA ad nx sz) := by
  refine xt_stV (own := RX5) (P := (fun (u : XU) => Sum.inr u.2 = r)) (PX := (fun x : XV => Sum.inl (x.1, x.2.2) = r)) (by decide +kernel) rfl (Nat.le_of_ble_eq_true rfl) hcap (fun p e s m args below meth c R Q A ls C hmn hF hN hRr B hret hthr hL => ?_) sz
  have hx := C.1
  have hb := C.2.1
  have hL : lv_has ls 1 [(0, .ref (ad a0))] := hL
  unfold f_X5_grow at h
  refine lv_aload_n hx hb dX5_grow_0 rfl (lv_at hL 0 rfl) ?_
  refine k_X5_go ht C B hRr q512 (Nat.le_trans (Nat.le_of_ble_eq_true rfl) hF) (Nat.le_trans (Nat.le_of_ble_eq_true rfl) hN) hL.1 (Nat.le_of_ble_eq_true rfl) h dX5_grow_1 (fun q1 ad2 h hae3 H locs B => ?_)
  rw [← (hae3 a0 (by rw [ht]; decide)).1] at hL
  have hp4 : (q1.1 a0).1 = 14 := by rw [(hae3 a0 (by rw [ht]; decide)).2]; exact ht
  refine lv_aload_n hx hb dX5_grow_4 rfl (lv_at hL 0 rfl) ?_
  refine xx_gr (ci := 4) (k := 9) C B.1 xc_4 hp4 (by decide) (Nat.le_of_ble_eq_true rfl) rfl q483 (fun _ h => h) h dX5_grow_5 (fun v5 ok6 h => ?_)
  refine lv_aload_n hx hb dX5_grow_8 rfl (lv_at hL 0 rfl) ?_
  refine k_X5_e hp4 C B hRr q1138 (Nat.le_trans (Nat.le_of_ble_eq_true rfl) hF) (Nat.le_trans (Nat.le_of_ble_eq_true rfl) hN) hL.1 (Nat.le_of_ble_eq_true rfl) h dX5_grow_9 (fun t8 ad10 h hw12 _ H locs B => ?_) (fun q7 ad9 h hae11 H locs B => ?_)
  · exact hthr t8.1 (ad10, t8.2.1, t8.2.2.1, t8.2.2.2.1, t8.2.2.2.2.1, t8.2.2.2.2.2) _ _ _ _ _ (Option.some.inj h) hw12 B
  · have h := g_elr h
    rw [← (hae11 a0 (by rw [hp4]; decide)).1] at hL
    have hp13 : (q7.2.1 a0).1 = 14 := by rw [(hae11 a0 (by rw [hp4]; decide)).2]; exact hp4
    rw [← (hae11 v5 ok6).1]
    have ok14 : (q7.2.1 v5).1 < 1000 := by rw [(hae11 v5 ok6).2]; exact ok6
    refine xx_is h (fun hp15 h => ?_)
    refine xx_ok h (fun ok17 h => ?_)
    refine xx_pr (ci := 1) (k := 5) C B.1 xc_1 hp15 (by decide) ok17 (Nat.le_of_ble_eq_true rfl) rfl q267 (fun _ h => h) rfl rfl rfl h dX5_grow_12 (fun gr16 h H locs B2 => ?_)
    have B := And.intro B2 B.2
    exact hret (ad9, q7.2.1, q7.2.2.1, q7.2.2.2.1, q7.2.2.2.2.1, gr16) _ _ _ _ (Option.some.inj h) B dX5_grow_15
theorem k_X5_grow {p : Program} {l : Launch} {e : Env} {R : Room} {s : State} {m : MethodId} {args : Array Value} {below : List Frame} {meth : Method} {c : Code} {H : Heap} {locs : List Loc} {Q : State → Prop} {pc : Nat} {ls : Array Slot} {rest : List Value} {cc : ByteArray} {nL : Nat} {D : va_G} {cA : Nat → ClassId} {a9 : Nat → Nat} {h9 : HK} {n0 m0 cN cS : Nat} {ad : Nat → Nat} {hk : HK} {nx ns : Nat} {A : Nat → Prop} {gi : GI} {gr : GR} {α : Type} {r : α} {own : String} {idx : Nat} {a0 : Nat} {ff : ((Nat × HK × Nat × Nat × GI × GR) ⊕ (HK × Nat × Nat × GI × GR)) → Option α} (ht : (hk a0).1 = 14) (C : CallFix p m c cc nL s args lw_all own) (B : XBA D cA a9 h9 n0 m0 cN cS ad hk nx ns A s gi gr H locs) (hRr : R.cells = cN - n0 ∧ R.slots = cS - m0) (hq : Cond.methodLink own idx yX5_grow ∈ lw_all) (hF : 72 ≤ R.frames) (hN : 2704 ≤ R.locals) (hs : ls.size = nL) (hw : (rest.map fun v => v.category).sum ≤ 8) (h : (g_cc (fun c1 c2 => f_X5_grow c1 c2 hk nx ns gi gr a0) (fun z : (Nat × HK × Nat × Nat × GI × GR) ⊕ (HK × Nat × Nat × GI × GR) => Sum.elim (fun t : Nat × HK × Nat × Nat × GI × GR => t.2.2.1) (fun q : HK × Nat × Nat × GI × GR => q.2.1) z) (fun z : (Nat × HK × Nat × Nat × GI × GR) ⊕ (HK × Nat × Nat × GI × GR) => Sum.elim (fun t : Nat × HK × Nat × Nat × GI × GR => t.2.2.2.1) (fun q : HK × Nat × Nat × GI × GR => q.2.2.1) z) cN cS nx ns).bind ff = some r) (hdg : decode cc pc = .ok (.invokevirtual idx, 3)) (kx : ∀ (t : Nat × HK × Nat × Nat × GI × GR) (ad' : Nat → Nat), ff (.inl t) = some r → (t.2.1 t.1).1 = 15 → (∀ i, (hk i).1 < 1000 → ad' i = ad i ∧ t.2.1 i = hk i) → ∀ (H' : Heap) (locs' : List Loc), XBA D cA a9 h9 n0 m0 cN cS ad' t.2.1 t.2.2.1 t.2.2.2.1 A s t.2.2.2.2.1 t.2.2.2.2.2 H' locs' → vx_W p l e R s m args below meth c H' locs' (t.2.2.1 - n0) (t.2.2.2.1 - m0) Q (F0 m pc ls rest) (ad' t.1)) (kk : ∀ (q : HK × Nat × Nat × GI × GR) (ad' : Nat → Nat), ff (.inr q) = some r → (∀ i, (hk i).1 < 1000 → ad' i = ad i ∧ q.1 i = hk i) → ∀ (H' : Heap) (locs' : List Loc), XBA D cA a9 h9 n0 m0 cN cS ad' q.1 q.2.1 q.2.2.1 A s q.2.2.2.1 q.2.2.2.2 H' locs' → W p l e R s m args below meth c H' locs' (q.2.1 - n0) (q.2.2.1 - m0) Q (F0 m (pc + 3) ls (rest))) : W p l e R s m args below meth c H locs (nx - n0) (ns - m0) Q (F0 m pc ls (.ref (ad a0) :: rest)) := by
  obtain ⟨z, h1, h2⟩ := g_ob h
  obtain ⟨h3, c1, c2, c3, c4⟩ := g_cc_of h1
  refine xt_cVV (As := []) (rest := rest) (n := 0) (qn := (fun z : (Nat × HK × Nat × Nat × GI × GR) ⊕ (HK × Nat × Nat × GI × GR) => Sum.elim (fun t : Nat × HK × Nat × Nat × GI × GR => t.2.2.1) (fun q : HK × Nat × Nat × GI × GR => q.2.1) z) z) (qs := (fun z : (Nat × HK × Nat × Nat × GI × GR) ⊕ (HK × Nat × Nat × GI × GR) => Sum.elim (fun t : Nat × HK × Nat × Nat × GI × GR => t.2.2.2.1) (fun q : HK × Nat × Nat × GI × GR => q.2.2.1) z) z) xc_4 ht (by decide) C B hRr (fun sz => w_X5_grow l D cA ad _ _ hk nx ns gi gr a0 ht ⟨c1, c3⟩ z h3 sz) hq q1136 qs27 q151 q1137 (by decide +kernel) ⟨c1, c2, c3, c4⟩ (fun u hp => ?_) (fun x hp => ?_) ⟨hF, hN⟩ rfl hs hw hdg (fun w u H9 locs9 hp hw9 hae B9 => ?_) (fun u H9 locs9 hp hae B9 => ?_)
  · have hp := hp
    subst hp
    exact ⟨rfl, rfl⟩
  · have hp := hp
    subst hp
    exact ⟨rfl, rfl⟩
  · have hp := hp
    subst hp
    exact kx _ u.1 h2 hw9 hae H9 locs9 B9
  · have hp := hp
    subst hp
    exact kk _ u.1 h2 hae H9 locs9 B9
def f_X5_line_j223 (cN cS : Nat) (a0 : Nat) (hkj223 : HK) (nxj223 : Nat) (nsj223 : Nat) (gij223 : GI) (grj223 : GR) : Option ((Nat × HK × Nat × Nat × GI × GR) ⊕ (HK × Nat × Nat × GI × GR)) :=
  (g_cc (fun c1 c2 => f_X5_wrong c1 c2 hkj223 nxj223 nsj223 gij223 grj223 a0) (fun q : Nat × HK × Nat × Nat × GI × GR => q.2.2.1) (fun q : Nat × HK × Nat × Nat × GI × GR => q.2.2.2.1) cN cS nxj223 nsj223).bind fun q17 =>
  (g_is q17.2.1 q17.1 15).bind fun _ =>
  some (.inl (q17.1, q17.2.1, q17.2.2.1, q17.2.2.2.1, q17.2.2.2.2.1, q17.2.2.2.2.2))
def f_X5_line_j200 (cN cS : Nat) (a0 : Nat) (hkj200 : HK) (nxj200 : Nat) (nsj200 : Nat) (gij200 : GI) (grj200 : GR) : Option ((Nat × HK × Nat × Nat × GI × GR) ⊕ (HK × Nat × Nat × GI × GR)) :=
  (f_X5_is hkj200 gij200 grj200 a0 13).bind fun q15 =>
  if q15 = 0 then
  (f_X5_line_j223 cN cS a0 hkj200 nxj200 nsj200 gij200 grj200)
  else
  (if (gij200 a0 7) = 0 then
  ((g_cc (fun c1 c2 => f_X5_draw c1 c2 hkj200 nxj200 nsj200 gij200 grj200 a0) (fun z : (Nat × HK × Nat × Nat × GI × GR) ⊕ (HK × Nat × Nat × GI × GR) => Sum.elim (fun t : Nat × HK × Nat × Nat × GI × GR => t.2.2.1) (fun q : HK × Nat × Nat × GI × GR => q.2.1) z) (fun z : (Nat × HK × Nat × Nat × GI × GR) ⊕ (HK × Nat × Nat × GI × GR) => Sum.elim (fun t : Nat × HK × Nat × Nat × GI × GR => t.2.2.2.1) (fun q : HK × Nat × Nat × GI × GR => q.2.2.1) z) cN cS nxj200 nsj200).bind fun q9 => Sum.elim (fun (t23 : Nat × HK × Nat × Nat × GI × GR) => some (.inl (t23.1, t23.2.1, t23.2.2.1, t23.2.2.2.1, t23.2.2.2.2.1, t23.2.2.2.2.2))) (fun (q22 : HK × Nat × Nat × GI × GR) =>
  some (.inr (q22.1, q22.2.1, q22.2.2.1, q22.2.2.2.1, q22.2.2.2.2))) q9)
  else
  (f_X5_line_j223 cN cS a0 hkj200 nxj200 nsj200 gij200 grj200))
def f_X5_line_j177 (cN cS : Nat) (a0 : Nat) (hkj177 : HK) (nxj177 : Nat) (nsj177 : Nat) (gij177 : GI) (grj177 : GR) : Option ((Nat × HK × Nat × Nat × GI × GR) ⊕ (HK × Nat × Nat × GI × GR)) :=
  (f_X5_is hkj177 gij177 grj177 a0 12).bind fun q13 =>
  if q13 = 0 then
  (f_X5_line_j200 cN cS a0 hkj177 nxj177 nsj177 gij177 grj177)
  else
  (if (gij177 a0 6) = 0 then
  ((g_cc (fun c1 c2 => f_X5_hours c1 c2 hkj177 nxj177 nsj177 gij177 grj177 a0) (fun z : (Nat × HK × Nat × Nat × GI × GR) ⊕ (HK × Nat × Nat × GI × GR) => Sum.elim (fun t : Nat × HK × Nat × Nat × GI × GR => t.2.2.1) (fun q : HK × Nat × Nat × GI × GR => q.2.1) z) (fun z : (Nat × HK × Nat × Nat × GI × GR) ⊕ (HK × Nat × Nat × GI × GR) => Sum.elim (fun t : Nat × HK × Nat × Nat × GI × GR => t.2.2.2.1) (fun q : HK × Nat × Nat × GI × GR => q.2.2.1) z) cN cS nxj177 nsj177).bind fun q9 => Sum.elim (fun (t30 : Nat × HK × Nat × Nat × GI × GR) => some (.inl (t30.1, t30.2.1, t30.2.2.1, t30.2.2.2.1, t30.2.2.2.2.1, t30.2.2.2.2.2))) (fun (q29 : HK × Nat × Nat × GI × GR) =>
  some (.inr (q29.1, q29.2.1, q29.2.2.1, q29.2.2.2.1, q29.2.2.2.2))) q9)
  else
  (f_X5_line_j200 cN cS a0 hkj177 nxj177 nsj177 gij177 grj177))
def f_X5_line_j151 (cN cS : Nat) (a0 : Nat) (hkj151 : HK) (nxj151 : Nat) (nsj151 : Nat) (gij151 : GI) (grj151 : GR) : Option ((Nat × HK × Nat × Nat × GI × GR) ⊕ (HK × Nat × Nat × GI × GR)) :=
  (f_X5_is hkj151 gij151 grj151 a0 11).bind fun q11 =>
  if q11 = 0 then
  (f_X5_line_j177 cN cS a0 hkj151 nxj151 nsj151 gij151 grj151)
  else
  ((grj151 a0 9).bind fun v36 =>
  (g_is hkj151 v36 11).bind fun _ =>
  (grj151 v36 5).elim
  ((g_cc (fun c1 c2 => f_X5_grow c1 c2 hkj151 nxj151 nsj151 gij151 grj151 a0) (fun z : (Nat × HK × Nat × Nat × GI × GR) ⊕ (HK × Nat × Nat × GI × GR) => Sum.elim (fun t : Nat × HK × Nat × Nat × GI × GR => t.2.2.1) (fun q : HK × Nat × Nat × GI × GR => q.2.1) z) (fun z : (Nat × HK × Nat × Nat × GI × GR) ⊕ (HK × Nat × Nat × GI × GR) => Sum.elim (fun t : Nat × HK × Nat × Nat × GI × GR => t.2.2.2.1) (fun q : HK × Nat × Nat × GI × GR => q.2.2.1) z) cN cS nxj151 nsj151).bind fun q9 => Sum.elim (fun (t42 : Nat × HK × Nat × Nat × GI × GR) => some (.inl (t42.1, t42.2.1, t42.2.2.1, t42.2.2.2.1, t42.2.2.2.2.1, t42.2.2.2.2.2))) (fun (q41 : HK × Nat × Nat × GI × GR) =>
  some (.inr (q41.1, q41.2.1, q41.2.2.1, q41.2.2.2.1, q41.2.2.2.2))) q9)
  (fun v39 =>
  f_X5_line_j177 cN cS a0 hkj151 nxj151 nsj151 gij151 grj151))
def f_X5_line_j60 (cN cS : Nat) (a0 : Nat) (hkj60 : HK) (nxj60 : Nat) (nsj60 : Nat) (gij60 : GI) (grj60 : GR) : Option ((Nat × HK × Nat × Nat × GI × GR) ⊕ (HK × Nat × Nat × GI × GR)) :=
  (f_X5_is hkj60 gij60 grj60 a0 5).bind fun q5 =>
  if q5 = 0 then
  ((f_X5_is hkj60 gij60 grj60 a0 6).bind fun q6 =>
  if q6 = 0 then
  ((f_X5_is hkj60 gij60 grj60 a0 7).bind fun q7 =>
  if q7 = 0 then
  ((f_X5_is hkj60 gij60 grj60 a0 8).bind fun q8 =>
  if q8 = 0 then
  ((f_X5_is hkj60 gij60 grj60 a0 10).bind fun q9 =>
  if q9 = 0 then
  (f_X5_line_j151 cN cS a0 hkj60 nxj60 nsj60 gij60 grj60)
  else
  ((grj60 a0 9).bind fun v48 =>
  (g_is hkj60 v48 11).bind fun _ =>
  if 5 ≤ (gij60 v48 6) then
  (f_X5_line_j151 cN cS a0 hkj60 nxj60 nsj60 gij60 grj60)
  else
  ((g_cc (fun c1 c2 => f_X5_book c1 c2 hkj60 nxj60 nsj60 gij60 grj60 a0) (fun z : (Nat × HK × Nat × Nat × GI × GR) ⊕ (HK × Nat × Nat × GI × GR) => Sum.elim (fun t : Nat × HK × Nat × Nat × GI × GR => t.2.2.1) (fun q : HK × Nat × Nat × GI × GR => q.2.1) z) (fun z : (Nat × HK × Nat × Nat × GI × GR) ⊕ (HK × Nat × Nat × GI × GR) => Sum.elim (fun t : Nat × HK × Nat × Nat × GI × GR => t.2.2.2.1) (fun q : HK × Nat × Nat × GI × GR => q.2.2.1) z) cN cS nxj60 nsj60).bind fun q9 => Sum.elim (fun (t52 : Nat × HK × Nat × Nat × GI × GR) => some (.inl (t52.1, t52.2.1, t52.2.2.1, t52.2.2.2.1, t52.2.2.2.2.1, t52.2.2.2.2.2))) (fun (q51 : HK × Nat × Nat × GI × GR) =>
  some (.inr (q51.1, q51.2.1, q51.2.2.1, q51.2.2.2.1, q51.2.2.2.2))) q9)))
  else
  ((g_cc (fun c1 c2 => f_X5_rate c1 c2 hkj60 nxj60 nsj60 gij60 grj60 a0) (fun z : (Nat × HK × Nat × Nat × GI × GR) ⊕ (HK × Nat × Nat × GI × GR) => Sum.elim (fun t : Nat × HK × Nat × Nat × GI × GR => t.2.2.1) (fun q : HK × Nat × Nat × GI × GR => q.2.1) z) (fun z : (Nat × HK × Nat × Nat × GI × GR) ⊕ (HK × Nat × Nat × GI × GR) => Sum.elim (fun t : Nat × HK × Nat × Nat × GI × GR => t.2.2.2.1) (fun q : HK × Nat × Nat × GI × GR => q.2.2.1) z) cN cS nxj60 nsj60).bind fun q9 => Sum.elim (fun (t59 : Nat × HK × Nat × Nat × GI × GR) => some (.inl (t59.1, t59.2.1, t59.2.2.1, t59.2.2.2.1, t59.2.2.2.2.1, t59.2.2.2.2.2))) (fun (q58 : HK × Nat × Nat × GI × GR) =>
  some (.inr (q58.1, q58.2.1, q58.2.2.1, q58.2.2.2.1, q58.2.2.2.2))) q9))
  else
  ((g_cc (fun c1 c2 => f_X5_hedge c1 c2 hkj60 nxj60 nsj60 gij60 grj60 a0) (fun z : (Nat × HK × Nat × Nat × GI × GR) ⊕ (HK × Nat × Nat × GI × GR) => Sum.elim (fun t : Nat × HK × Nat × Nat × GI × GR => t.2.2.1) (fun q : HK × Nat × Nat × GI × GR => q.2.1) z) (fun z : (Nat × HK × Nat × Nat × GI × GR) ⊕ (HK × Nat × Nat × GI × GR) => Sum.elim (fun t : Nat × HK × Nat × Nat × GI × GR => t.2.2.2.1) (fun q : HK × Nat × Nat × GI × GR => q.2.2.1) z) cN cS nxj60 nsj60).bind fun q9 => Sum.elim (fun (t66 : Nat × HK × Nat × Nat × GI × GR) => some (.inl (t66.1, t66.2.1, t66.2.2.1, t66.2.2.2.1, t66.2.2.2.2.1, t66.2.2.2.2.2))) (fun (q65 : HK × Nat × Nat × GI × GR) =>
  some (.inr (q65.1, q65.2.1, q65.2.2.1, q65.2.2.2.1, q65.2.2.2.2))) q9))
  else
  ((g_cc (fun c1 c2 => f_X5_pay c1 c2 hkj60 nxj60 nsj60 gij60 grj60 a0) (fun z : (Nat × HK × Nat × Nat × GI × GR) ⊕ (HK × Nat × Nat × GI × GR) => Sum.elim (fun t : Nat × HK × Nat × Nat × GI × GR => t.2.2.1) (fun q : HK × Nat × Nat × GI × GR => q.2.1) z) (fun z : (Nat × HK × Nat × Nat × GI × GR) ⊕ (HK × Nat × Nat × GI × GR) => Sum.elim (fun t : Nat × HK × Nat × Nat × GI × GR => t.2.2.2.1) (fun q : HK × Nat × Nat × GI × GR => q.2.2.1) z) cN cS nxj60 nsj60).bind fun q9 => Sum.elim (fun (t73 : Nat × HK × Nat × Nat × GI × GR) => some (.inl (t73.1, t73.2.1, t73.2.2.1, t73.2.2.2.1, t73.2.2.2.2.1, t73.2.2.2.2.2))) (fun (q72 : HK × Nat × Nat × GI × GR) =>
  some (.inr (q72.1, q72.2.1, q72.2.2.1, q72.2.2.2.1, q72.2.2.2.2))) q9))
  else
  ((g_cc (fun c1 c2 => f_X5_purse c1 c2 hkj60 nxj60 nsj60 gij60 grj60 a0) (fun z : (Nat × HK × Nat × Nat × GI × GR) ⊕ (HK × Nat × Nat × GI × GR) => Sum.elim (fun t : Nat × HK × Nat × Nat × GI × GR => t.2.2.1) (fun q : HK × Nat × Nat × GI × GR => q.2.1) z) (fun z : (Nat × HK × Nat × Nat × GI × GR) ⊕ (HK × Nat × Nat × GI × GR) => Sum.elim (fun t : Nat × HK × Nat × Nat × GI × GR => t.2.2.2.1) (fun q : HK × Nat × Nat × GI × GR => q.2.2.1) z) cN cS nxj60 nsj60).bind fun q9 => Sum.elim (fun (t80 : Nat × HK × Nat × Nat × GI × GR) => some (.inl (t80.1, t80.2.1, t80.2.2.1, t80.2.2.2.1, t80.2.2.2.2.1, t80.2.2.2.2.2))) (fun (q79 : HK × Nat × Nat × GI × GR) =>
  some (.inr (q79.1, q79.2.1, q79.2.2.1, q79.2.2.2.1, q79.2.2.2.2))) q9)
def f_X5_line_j30 (cN cS : Nat) (a0 : Nat) (hkj30 : HK) (nxj30 : Nat) (nsj30 : Nat) (gij30 : GI) (grj30 : GR) : Option ((Nat × HK × Nat × Nat × GI × GR) ⊕ (HK × Nat × Nat × GI × GR)) :=
  (f_X5_is hkj30 gij30 grj30 a0 2).bind fun q3 =>
  if q3 = 0 then
  (f_X5_line_j60 cN cS a0 hkj30 nxj30 nsj30 gij30 grj30)
  else
  ((grj30 a0 9).bind fun v86 =>
  (g_is hkj30 v86 11).bind fun _ =>
  (grj30 v86 1).bind fun v89 =>
  (g_is hkj30 v89 22).bind fun _ =>
  (f_J2_size hkj30 gij30 grj30 v89).bind fun q92 =>
  if 5 ≤ q92 then
  (f_X5_line_j60 cN cS a0 hkj30 nxj30 nsj30 gij30 grj30)
  else
  ((g_cc (fun c1 c2 => f_X5_man c1 c2 hkj30 nxj30 nsj30 gij30 grj30 a0) (fun z : (Nat × HK × Nat × Nat × GI × GR) ⊕ (HK × Nat × Nat × GI × GR) => Sum.elim (fun t : Nat × HK × Nat × Nat × GI × GR => t.2.2.1) (fun q : HK × Nat × Nat × GI × GR => q.2.1) z) (fun z : (Nat × HK × Nat × Nat × GI × GR) ⊕ (HK × Nat × Nat × GI × GR) => Sum.elim (fun t : Nat × HK × Nat × Nat × GI × GR => t.2.2.2.1) (fun q : HK × Nat × Nat × GI × GR => q.2.2.1) z) cN cS nxj30 nsj30).bind fun q9 => Sum.elim (fun (t94 : Nat × HK × Nat × Nat × GI × GR) => some (.inl (t94.1, t94.2.1, t94.2.2.1, t94.2.2.2.1, t94.2.2.2.2.1, t94.2.2.2.2.2))) (fun (q93 : HK × Nat × Nat × GI × GR) =>
  some (.inr (q93.1, q93.2.1, q93.2.2.1, q93.2.2.2.1, q93.2.2.2.2))) q9))
def f_X5_line (cN cS : Nat) (hk : HK) (nx ns : Nat) (gi : GI) (gr : GR) (a0 : Nat) : Option ((Nat × HK × Nat × Nat × GI × GR) ⊕ (HK × Nat × Nat × GI × GR)) :=
  (f_X5_is hk gi gr a0 1).bind fun q1 =>
  if q1 = 0 then
  (f_X5_line_j30 cN cS a0 hk nx ns gi gr)
  else
  ((gr a0 9).bind fun v100 =>
  (g_is hk v100 11).bind fun _ =>
  (gr v100 0).bind fun v103 =>
  (g_is hk v103 22).bind fun _ =>
  (f_J2_size hk gi gr v103).bind fun q106 =>
  if 3 ≤ q106 then
  (f_X5_line_j30 cN cS a0 hk nx ns gi gr)
  else
  ((g_cc (fun c1 c2 => f_X5_kind c1 c2 hk nx ns gi gr a0) (fun z : (Nat × HK × Nat × Nat × GI × GR) ⊕ (HK × Nat × Nat × GI × GR) => Sum.elim (fun t : Nat × HK × Nat × Nat × GI × GR => t.2.2.1) (fun q : HK × Nat × Nat × GI × GR => q.2.1) z) (fun z : (Nat × HK × Nat × Nat × GI × GR) ⊕ (HK × Nat × Nat × GI × GR) => Sum.elim (fun t : Nat × HK × Nat × Nat × GI × GR => t.2.2.2.1) (fun q : HK × Nat × Nat × GI × GR => q.2.2.1) z) cN cS nx ns).bind fun q9 => Sum.elim (fun (t108 : Nat × HK × Nat × Nat × GI × GR) => some (.inl (t108.1, t108.2.1, t108.2.2.1, t108.2.2.2.1, t108.2.2.2.2.1, t108.2.2.2.2.2))) (fun (q107 : HK × Nat × Nat × GI × GR) =>
  some (.inr (q107.1, q107.2.1, q107.2.2.1, q107.2.2.2.1, q107.2.2.2.2))) q9))
set_option maxHeartbeats 400000 in
theorem w_X5_line (l : Launch) (D : va_G) (cA : Nat → ClassId) (ad : Nat → Nat) (cN cS : Nat) (hk : HK) (nx ns : Nat) (gi : GI) (gr : GR) (a0 : Nat) (ht : (hk a0).1 = 14) (hcap : nx ≤ cN ∧ ns ≤ cS) (r : (Nat × HK × Nat × Nat × GI × GR) ⊕ (HK × Nat × Nat × GI × GR)) (h : f_X5_line cN cS hk nx ns gi gr a0 = some r) (sz : Nat) : vx_Met l yX5_line (ws_ yX5_line cX5_line 1 (none)) ({ frames := 72, cells := cN - nx, slots := cS - ns, locals := 2704 } : Room) (va_Pc [.ref (ad a0)] (XPre D cA ad hk nx gi gr sz)) (va_Qv (fun (u : XU) => Sum.inr u.2 = r) (XPostA D cA ad hk nx sz) (XA ad nx sz)) (vx_X (fun x : XV => Sum.inl (x.1, x.2.2) = r) (XPostX D cA ad hk nx sz) (XA ad nx sz)) (cN - nx) (cS - ns) (XA ad nx sz) := by
  refine xt_stV (own := RX5) (P := (fun (u : XU) => Sum.inr u.2 = r)) (PX := (fun x : XV => Sum.inl (x.1, x.2.2) = r)) (by decide +kernel) rfl (Nat.le_of_ble_eq_true rfl) hcap (fun p e s m args below meth c R Q A ls C hmn hF hN hRr B hret hthr hL => ?_) sz
  have hx := C.1
  have hb := C.2.1
  have hL : lv_has ls 1 [(0, .ref (ad a0))] := hL
  unfold f_X5_line at h
  have hj223 : ∀ (hkj223 : HK) (nxj223 : Nat) (nsj223 : Nat) (gij223 : GI) (grj223 : GR) (adj223 : Nat → Nat) (H : Heap) (locs : List Loc) (ls : Array Slot), f_X5_line_j223 cN cS a0 hkj223 nxj223 nsj223 gij223 grj223 = some r → XBA D cA ad hk nx ns cN cS adj223 hkj223 nxj223 nsj223 A s gij223 grj223 H locs → lv_has ls 1 [(0, .ref (adj223 a0))] → W p l e R s m args below meth c H locs (nxj223 - nx) (nsj223 - ns) Q (F0 m 223 ls []) := by
    intro hkj223 nxj223 nsj223 gij223 grj223 adj223 H locs ls h B hL
    unfold f_X5_line_j223 at h
    have ht16 : (hkj223 a0).1 = 14 := by rw [(B.2.1 a0 (by rw [ht]; decide)).2]; exact ht
    refine lv_aload_n hx hb dX5_line_223 rfl (lv_at hL 0 rfl) ?_
    refine k_X5_wrong ht16 C B hRr q829 (Nat.le_trans (Nat.le_of_ble_eq_true rfl) hF) (Nat.le_trans (Nat.le_of_ble_eq_true rfl) hN) hL.1 (Nat.le_of_ble_eq_true rfl) h dX5_line_224 (fun q17 ad18 h hae19 H locs B => ?_)
    rw [← (hae19 a0 (by rw [ht16]; decide)).1] at hL
    have hp20 : (q17.2.1 a0).1 = 14 := by rw [(hae19 a0 (by rw [ht16]; decide)).2]; exact ht16
    refine xx_is h (fun hp21 h => ?_)
    refine vx_athrow hx hb dX5_line_227 ?_
    exact hthr q17.1 (ad18, q17.2.1, q17.2.2.1, q17.2.2.2.1, q17.2.2.2.2.1, q17.2.2.2.2.2) _ _ _ _ _ (Option.some.inj h) hp21 B
  have hj200 : ∀ (hkj200 : HK) (nxj200 : Nat) (nsj200 : Nat) (gij200 : GI) (grj200 : GR) (adj200 : Nat → Nat) (H : Heap) (locs : List Loc) (ls : Array Slot), f_X5_line_j200 cN cS a0 hkj200 nxj200 nsj200 gij200 grj200 = some r → XBA D cA ad hk nx ns cN cS adj200 hkj200 nxj200 nsj200 A s gij200 grj200 H locs → lv_has ls 1 [(0, .ref (adj200 a0))] → W p l e R s m args below meth c H locs (nxj200 - nx) (nsj200 - ns) Q (F0 m 200 ls []) := by
    intro hkj200 nxj200 nsj200 gij200 grj200 adj200 H locs ls h B hL
    unfold f_X5_line_j200 at h
    have ht14 : (hkj200 a0).1 = 14 := by rw [(B.2.1 a0 (by rw [ht]; decide)).2]; exact ht
    refine lv_aload_n hx hb dX5_line_200 rfl (lv_at hL 0 rfl) ?_
    refine xx_ldcS (i := 13) C B.1 (by decide) rfl dX5_line_201 ?_
    refine k_X5_is ht14 (by decide) C B.1 q723 (Nat.le_trans (Nat.le_of_ble_eq_true rfl) hF) (Nat.le_trans (Nat.le_of_ble_eq_true rfl) hN) hL.1 (Nat.le_of_ble_eq_true rfl) (xa_z hRr B) h dX5_line_203 (fun q15 h H locs B2 => ?_)
    have B := And.intro B2 B.2
    refine gg_if_eq hx hb 223 h dX5_line_206 (by decide) (fun h => ?_) (fun h => ?_)
    · exact hj223 _ _ _ _ _ _ _ _ _ h B (lv_sub hL [0] rfl)
    · refine lv_aload_n hx hb dX5_line_209 rfl (lv_at hL 0 rfl) ?_
      refine xx_gi (ci := 4) (k := 7) C B.1 xc_4 ht14 (by decide) (Nat.le_of_ble_eq_true rfl) rfl q481 (fun _ h => h) dX5_line_210 ?_
      refine gg_if_ne hx hb 223 h dX5_line_213 (by decide) (fun h => ?_) (fun h => ?_)
      · exact hj223 _ _ _ _ _ _ _ _ _ h B (lv_sub hL [0] rfl)
      · refine lv_aload_n hx hb dX5_line_216 rfl (lv_at hL 0 rfl) ?_
        refine k_X5_draw ht14 C B hRr q1222 (Nat.le_trans (Nat.le_of_ble_eq_true rfl) hF) (Nat.le_trans (Nat.le_of_ble_eq_true rfl) hN) hL.1 (Nat.le_of_ble_eq_true rfl) h dX5_line_217 (fun t23 ad25 h hw27 _ H locs B => ?_) (fun q22 ad24 h hae26 H locs B => ?_)
        · exact hthr t23.1 (ad25, t23.2.1, t23.2.2.1, t23.2.2.2.1, t23.2.2.2.2.1, t23.2.2.2.2.2) _ _ _ _ _ (Option.some.inj h) hw27 B
        · have h := g_elr h
          rw [← (hae26 a0 (by rw [ht14]; decide)).1] at hL
          have hp28 : (q22.1 a0).1 = 14 := by rw [(hae26 a0 (by rw [ht14]; decide)).2]; exact ht14
          refine lv_goto (tgt := 228) hx hb dX5_line_220 (by decide) ?_
          exact hret (ad24, q22.1, q22.2.1, q22.2.2.1, q22.2.2.2.1, q22.2.2.2.2) _ _ _ _ (Option.some.inj h) B dX5_line_228
  have hj177 : ∀ (hkj177 : HK) (nxj177 : Nat) (nsj177 : Nat) (gij177 : GI) (grj177 : GR) (adj177 : Nat → Nat) (H : Heap) (locs : List Loc) (ls : Array Slot), f_X5_line_j177 cN cS a0 hkj177 nxj177 nsj177 gij177 grj177 = some r → XBA D cA ad hk nx ns cN cS adj177 hkj177 nxj177 nsj177 A s gij177 grj177 H locs → lv_has ls 1 [(0, .ref (adj177 a0))] → W p l e R s m args below meth c H locs (nxj177 - nx) (nsj177 - ns) Q (F0 m 177 ls []) := by
    intro hkj177 nxj177 nsj177 gij177 grj177 adj177 H locs ls h B hL
    unfold f_X5_line_j177 at h
    have ht12 : (hkj177 a0).1 = 14 := by rw [(B.2.1 a0 (by rw [ht]; decide)).2]; exact ht
    refine lv_aload_n hx hb dX5_line_177 rfl (lv_at hL 0 rfl) ?_
    refine xx_ldcS (i := 12) C B.1 (by decide) rfl dX5_line_178 ?_
    refine k_X5_is ht12 (by decide) C B.1 q723 (Nat.le_trans (Nat.le_of_ble_eq_true rfl) hF) (Nat.le_trans (Nat.le_of_ble_eq_true rfl) hN) hL.1 (Nat.le_of_ble_eq_true rfl) (xa_z hRr B) h dX5_line_180 (fun q13 h H locs B2 => ?_)
    have B := And.intro B2 B.2
    refine gg_if_eq hx hb 200 h dX5_line_183 (by decide) (fun h => ?_) (fun h => ?_)
    · exact hj200 _ _ _ _ _ _ _ _ _ h B (lv_sub hL [0] rfl)
    · refine lv_aload_n hx hb dX5_line_186 rfl (lv_at hL 0 rfl) ?_
      refine xx_gi (ci := 4) (k := 6) C B.1 xc_4 ht12 (by decide) (Nat.le_of_ble_eq_true rfl) rfl q480 (fun _ h => h) dX5_line_187 ?_
      refine gg_if_ne hx hb 200 h dX5_line_190 (by decide) (fun h => ?_) (fun h => ?_)
      · exact hj200 _ _ _ _ _ _ _ _ _ h B (lv_sub hL [0] rfl)
      · refine lv_aload_n hx hb dX5_line_193 rfl (lv_at hL 0 rfl) ?_
        refine k_X5_hours ht12 C B hRr q1218 (Nat.le_trans (Nat.le_of_ble_eq_true rfl) hF) (Nat.le_trans (Nat.le_of_ble_eq_true rfl) hN) hL.1 (Nat.le_of_ble_eq_true rfl) h dX5_line_194 (fun t30 ad32 h hw34 _ H locs B => ?_) (fun q29 ad31 h hae33 H locs B => ?_)
        · exact hthr t30.1 (ad32, t30.2.1, t30.2.2.1, t30.2.2.2.1, t30.2.2.2.2.1, t30.2.2.2.2.2) _ _ _ _ _ (Option.some.inj h) hw34 B
        · have h := g_elr h
          rw [← (hae33 a0 (by rw [ht12]; decide)).1] at hL
          have hp35 : (q29.1 a0).1 = 14 := by rw [(hae33 a0 (by rw [ht12]; decide)).2]; exact ht12
          refine lv_goto (tgt := 228) hx hb dX5_line_197 (by decide) ?_
          exact hret (ad31, q29.1, q29.2.1, q29.2.2.1, q29.2.2.2.1, q29.2.2.2.2) _ _ _ _ (Option.some.inj h) B dX5_line_228
  have hj151 : ∀ (hkj151 : HK) (nxj151 : Nat) (nsj151 : Nat) (gij151 : GI) (grj151 : GR) (adj151 : Nat → Nat) (H : Heap) (locs : List Loc) (ls : Array Slot), f_X5_line_j151 cN cS a0 hkj151 nxj151 nsj151 gij151 grj151 = some r → XBA D cA ad hk nx ns cN cS adj151 hkj151 nxj151 nsj151 A s gij151 grj151 H locs → lv_has ls 1 [(0, .ref (adj151 a0))] → W p l e R s m args below meth c H locs (nxj151 - nx) (nsj151 - ns) Q (F0 m 151 ls []) := by
    intro hkj151 nxj151 nsj151 gij151 grj151 adj151 H locs ls h B hL
    unfold f_X5_line_j151 at h
    have ht10 : (hkj151 a0).1 = 14 := by rw [(B.2.1 a0 (by rw [ht]; decide)).2]; exact ht
    refine lv_aload_n hx hb dX5_line_151 rfl (lv_at hL 0 rfl) ?_
    refine xx_ldcS (i := 11) C B.1 (by decide) rfl dX5_line_152 ?_
    refine k_X5_is ht10 (by decide) C B.1 q723 (Nat.le_trans (Nat.le_of_ble_eq_true rfl) hF) (Nat.le_trans (Nat.le_of_ble_eq_true rfl) hN) hL.1 (Nat.le_of_ble_eq_true rfl) (xa_z hRr B) h dX5_line_154 (fun q11 h H locs B2 => ?_)
    have B := And.intro B2 B.2
    refine gg_if_eq hx hb 177 h dX5_line_157 (by decide) (fun h => ?_) (fun h => ?_)
    · exact hj177 _ _ _ _ _ _ _ _ _ h B (lv_sub hL [0] rfl)
    · refine lv_aload_n hx hb dX5_line_160 rfl (lv_at hL 0 rfl) ?_
      refine xx_gr (ci := 4) (k := 9) C B.1 xc_4 ht10 (by decide) (Nat.le_of_ble_eq_true rfl) rfl q483 (fun _ h => h) h dX5_line_161 (fun v36 ok37 h => ?_)
      refine xx_is h (fun hp38 h => ?_)
      refine xx_go (ci := 1) (k := 5) C B.1 xc_1 hp38 (by decide) (Nat.le_of_ble_eq_true rfl) rfl q267 (fun _ h => h) dX5_line_164 ?_
      refine xx_ifnonnull (o := grj151 v36 5) (ad := adj151) hx hb 177 h dX5_line_167 (by decide) (fun ho40 h => ?_) (fun v39 ho40 h => ?_)
      · refine lv_aload_n hx hb dX5_line_170 rfl (lv_at hL 0 rfl) ?_
        refine k_X5_grow ht10 C B hRr q1134 (Nat.le_trans (Nat.le_of_ble_eq_true rfl) hF) (Nat.le_trans (Nat.le_of_ble_eq_true rfl) hN) hL.1 (Nat.le_of_ble_eq_true rfl) h dX5_line_171 (fun t42 ad44 h hw46 _ H locs B => ?_) (fun q41 ad43 h hae45 H locs B => ?_)
        · exact hthr t42.1 (ad44, t42.2.1, t42.2.2.1, t42.2.2.2.1, t42.2.2.2.2.1, t42.2.2.2.2.2) _ _ _ _ _ (Option.some.inj h) hw46 B
        · have h := g_elr h
          rw [← (hae45 a0 (by rw [ht10]; decide)).1] at hL
          have hp47 : (q41.1 a0).1 = 14 := by rw [(hae45 a0 (by rw [ht10]; decide)).2]; exact ht10
          refine lv_goto (tgt := 228) hx hb dX5_line_174 (by decide) ?_
          exact hret (ad43, q41.1, q41.2.1, q41.2.2.1, q41.2.2.2.1, q41.2.2.2.2) _ _ _ _ (Option.some.inj h) B dX5_line_228
      · exact hj177 _ _ _ _ _ _ _ _ _ h B (lv_sub hL [0] rfl)
  have hj60 : ∀ (hkj60 : HK) (nxj60 : Nat) (nsj60 : Nat) (gij60 : GI) (grj60 : GR) (adj60 : Nat → Nat) (H : Heap) (locs : List Loc) (ls : Array Slot), f_X5_line_j60 cN cS a0 hkj60 nxj60 nsj60 gij60 grj60 = some r → XBA D cA ad hk nx ns cN cS adj60 hkj60 nxj60 nsj60 A s gij60 grj60 H locs → lv_has ls 1 [(0, .ref (adj60 a0))] → W p l e R s m args below meth c H locs (nxj60 - nx) (nsj60 - ns) Q (F0 m 60 ls []) := by
    intro hkj60 nxj60 nsj60 gij60 grj60 adj60 H locs ls h B hL
    unfold f_X5_line_j60 at h
    have ht4 : (hkj60 a0).1 = 14 := by rw [(B.2.1 a0 (by rw [ht]; decide)).2]; exact ht
    refine lv_aload_n hx hb dX5_line_60 rfl (lv_at hL 0 rfl) ?_
    refine xx_ldcS (i := 5) C B.1 (by decide) rfl dX5_line_61 ?_
    refine k_X5_is ht4 (by decide) C B.1 q723 (Nat.le_trans (Nat.le_of_ble_eq_true rfl) hF) (Nat.le_trans (Nat.le_of_ble_eq_true rfl) hN) hL.1 (Nat.le_of_ble_eq_true rfl) (xa_z hRr B) h dX5_line_63 (fun q5 h H locs B2 => ?_)
    have B := And.intro B2 B.2
    refine gg_if_eq hx hb 76 h dX5_line_66 (by decide) (fun h => ?_) (fun h => ?_)
    · refine lv_aload_n hx hb dX5_line_76 rfl (lv_at hL 0 rfl) ?_
      refine xx_ldcS (i := 6) C B.1 (by decide) rfl dX5_line_77 ?_
      refine k_X5_is ht4 (by decide) C B.1 q723 (Nat.le_trans (Nat.le_of_ble_eq_true rfl) hF) (Nat.le_trans (Nat.le_of_ble_eq_true rfl) hN) hL.1 (Nat.le_of_ble_eq_true rfl) (xa_z hRr B) h dX5_line_79 (fun q6 h H locs B2 => ?_)
      have B := And.intro B2 B.2
      refine gg_if_eq hx hb 92 h dX5_line_82 (by decide) (fun h => ?_) (fun h => ?_)
      · refine lv_aload_n hx hb dX5_line_92 rfl (lv_at hL 0 rfl) ?_
        refine xx_ldcS (i := 7) C B.1 (by decide) rfl dX5_line_93 ?_
        refine k_X5_is ht4 (by decide) C B.1 q723 (Nat.le_trans (Nat.le_of_ble_eq_true rfl) hF) (Nat.le_trans (Nat.le_of_ble_eq_true rfl) hN) hL.1 (Nat.le_of_ble_eq_true rfl) (xa_z hRr B) h dX5_line_95 (fun q7 h H locs B2 => ?_)
        have B := And.intro B2 B.2
        refine gg_if_eq hx hb 108 h dX5_line_98 (by decide) (fun h => ?_) (fun h => ?_)
        · refine lv_aload_n hx hb dX5_line_108 rfl (lv_at hL 0 rfl) ?_
          refine xx_ldcS (i := 8) C B.1 (by decide) rfl dX5_line_109 ?_
          refine k_X5_is ht4 (by decide) C B.1 q723 (Nat.le_trans (Nat.le_of_ble_eq_true rfl) hF) (Nat.le_trans (Nat.le_of_ble_eq_true rfl) hN) hL.1 (Nat.le_of_ble_eq_true rfl) (xa_z hRr B) h dX5_line_111 (fun q8 h H locs B2 => ?_)
          have B := And.intro B2 B.2
          refine gg_if_eq hx hb 124 h dX5_line_114 (by decide) (fun h => ?_) (fun h => ?_)
          · refine lv_aload_n hx hb dX5_line_124 rfl (lv_at hL 0 rfl) ?_
            refine xx_ldcS (i := 10) C B.1 (by decide) rfl dX5_line_125 ?_
            refine k_X5_is ht4 (by decide) C B.1 q723 (Nat.le_trans (Nat.le_of_ble_eq_true rfl) hF) (Nat.le_trans (Nat.le_of_ble_eq_true rfl) hN) hL.1 (Nat.le_of_ble_eq_true rfl) (xa_z hRr B) h dX5_line_127 (fun q9 h H locs B2 => ?_)
            have B := And.intro B2 B.2
            refine gg_if_eq hx hb 151 h dX5_line_130 (by decide) (fun h => ?_) (fun h => ?_)
            · exact hj151 _ _ _ _ _ _ _ _ _ h B (lv_sub hL [0] rfl)
            · refine lv_aload_n hx hb dX5_line_133 rfl (lv_at hL 0 rfl) ?_
              refine xx_gr (ci := 4) (k := 9) C B.1 xc_4 ht4 (by decide) (Nat.le_of_ble_eq_true rfl) rfl q483 (fun _ h => h) h dX5_line_134 (fun v48 ok49 h => ?_)
              refine xx_is h (fun hp50 h => ?_)
              refine xx_gi (ci := 1) (k := 6) C B.1 xc_1 hp50 (by decide) (Nat.le_of_ble_eq_true rfl) rfl q268 (fun _ h => h) dX5_line_137 ?_
              refine lv_iconst (v := 5) hx hb dX5_line_140 (by decide) ?_
              refine gg_icmp_ge hx hb 151 h dX5_line_141 (by decide) (fun h => ?_) (fun h => ?_)
              · exact hj151 _ _ _ _ _ _ _ _ _ h B (lv_sub hL [0] rfl)
              · refine lv_aload_n hx hb dX5_line_144 rfl (lv_at hL 0 rfl) ?_
                refine k_X5_book ht4 C B hRr q1130 (Nat.le_trans (Nat.le_of_ble_eq_true rfl) hF) (Nat.le_trans (Nat.le_of_ble_eq_true rfl) hN) hL.1 (Nat.le_of_ble_eq_true rfl) h dX5_line_145 (fun t52 ad54 h hw56 _ H locs B => ?_) (fun q51 ad53 h hae55 H locs B => ?_)
                · exact hthr t52.1 (ad54, t52.2.1, t52.2.2.1, t52.2.2.2.1, t52.2.2.2.2.1, t52.2.2.2.2.2) _ _ _ _ _ (Option.some.inj h) hw56 B
                · have h := g_elr h
                  rw [← (hae55 a0 (by rw [ht4]; decide)).1] at hL
                  have hp57 : (q51.1 a0).1 = 14 := by rw [(hae55 a0 (by rw [ht4]; decide)).2]; exact ht4
                  refine lv_goto (tgt := 228) hx hb dX5_line_148 (by decide) ?_
                  exact hret (ad53, q51.1, q51.2.1, q51.2.2.1, q51.2.2.2.1, q51.2.2.2.2) _ _ _ _ (Option.some.inj h) B dX5_line_228
          · refine lv_aload_n hx hb dX5_line_117 rfl (lv_at hL 0 rfl) ?_
            refine k_X5_rate ht4 C B hRr q1052 (Nat.le_trans (Nat.le_of_ble_eq_true rfl) hF) (Nat.le_trans (Nat.le_of_ble_eq_true rfl) hN) hL.1 (Nat.le_of_ble_eq_true rfl) h dX5_line_118 (fun t59 ad61 h hw63 _ H locs B => ?_) (fun q58 ad60 h hae62 H locs B => ?_)
            · exact hthr t59.1 (ad61, t59.2.1, t59.2.2.1, t59.2.2.2.1, t59.2.2.2.2.1, t59.2.2.2.2.2) _ _ _ _ _ (Option.some.inj h) hw63 B
            · have h := g_elr h
              rw [← (hae62 a0 (by rw [ht4]; decide)).1] at hL
              have hp64 : (q58.1 a0).1 = 14 := by rw [(hae62 a0 (by rw [ht4]; decide)).2]; exact ht4
              refine lv_goto (tgt := 228) hx hb dX5_line_121 (by decide) ?_
              exact hret (ad60, q58.1, q58.2.1, q58.2.2.1, q58.2.2.2.1, q58.2.2.2.2) _ _ _ _ (Option.some.inj h) B dX5_line_228
        · refine lv_aload_n hx hb dX5_line_101 rfl (lv_at hL 0 rfl) ?_
          refine k_X5_hedge ht4 C B hRr q1048 (Nat.le_trans (Nat.le_of_ble_eq_true rfl) hF) (Nat.le_trans (Nat.le_of_ble_eq_true rfl) hN) hL.1 (Nat.le_of_ble_eq_true rfl) h dX5_line_102 (fun t66 ad68 h hw70 _ H locs B => ?_) (fun q65 ad67 h hae69 H locs B => ?_)
          · exact hthr t66.1 (ad68, t66.2.1, t66.2.2.1, t66.2.2.2.1, t66.2.2.2.2.1, t66.2.2.2.2.2) _ _ _ _ _ (Option.some.inj h) hw70 B
          · have h := g_elr h
            rw [← (hae69 a0 (by rw [ht4]; decide)).1] at hL
            have hp71 : (q65.1 a0).1 = 14 := by rw [(hae69 a0 (by rw [ht4]; decide)).2]; exact ht4
            refine lv_goto (tgt := 228) hx hb dX5_line_105 (by decide) ?_
            exact hret (ad67, q65.1, q65.2.1, q65.2.2.1, q65.2.2.2.1, q65.2.2.2.2) _ _ _ _ (Option.some.inj h) B dX5_line_228
      · refine lv_aload_n hx hb dX5_line_85 rfl (lv_at hL 0 rfl) ?_
        refine k_X5_pay ht4 C B hRr q1044 (Nat.le_trans (Nat.le_of_ble_eq_true rfl) hF) (Nat.le_trans (Nat.le_of_ble_eq_true rfl) hN) hL.1 (Nat.le_of_ble_eq_true rfl) h dX5_line_86 (fun t73 ad75 h hw77 _ H locs B => ?_) (fun q72 ad74 h hae76 H locs B => ?_)
        · exact hthr t73.1 (ad75, t73.2.1, t73.2.2.1, t73.2.2.2.1, t73.2.2.2.2.1, t73.2.2.2.2.2) _ _ _ _ _ (Option.some.inj h) hw77 B
        · have h := g_elr h
          rw [← (hae76 a0 (by rw [ht4]; decide)).1] at hL
          have hp78 : (q72.1 a0).1 = 14 := by rw [(hae76 a0 (by rw [ht4]; decide)).2]; exact ht4
          refine lv_goto (tgt := 228) hx hb dX5_line_89 (by decide) ?_
          exact hret (ad74, q72.1, q72.2.1, q72.2.2.1, q72.2.2.2.1, q72.2.2.2.2) _ _ _ _ (Option.some.inj h) B dX5_line_228
    · refine lv_aload_n hx hb dX5_line_69 rfl (lv_at hL 0 rfl) ?_
      refine k_X5_purse ht4 C B hRr q1023 (Nat.le_trans (Nat.le_of_ble_eq_true rfl) hF) (Nat.le_trans (Nat.le_of_ble_eq_true rfl) hN) hL.1 (Nat.le_of_ble_eq_true rfl) h dX5_line_70 (fun t80 ad82 h hw84 _ H locs B => ?_) (fun q79 ad81 h hae83 H locs B => ?_)
      · exact hthr t80.1 (ad82, t80.2.1, t80.2.2.1, t80.2.2.2.1, t80.2.2.2.2.1, t80.2.2.2.2.2) _ _ _ _ _ (Option.some.inj h) hw84 B
      · have h := g_elr h
        rw [← (hae83 a0 (by rw [ht4]; decide)).1] at hL
        have hp85 : (q79.1 a0).1 = 14 := by rw [(hae83 a0 (by rw [ht4]; decide)).2]; exact ht4
        refine lv_goto (tgt := 228) hx hb dX5_line_73 (by decide) ?_
        exact hret (ad81, q79.1, q79.2.1, q79.2.2.1, q79.2.2.2.1, q79.2.2.2.2) _ _ _ _ (Option.some.inj h) B dX5_line_228
  have hj30 : ∀ (hkj30 : HK) (nxj30 : Nat) (nsj30 : Nat) (gij30 : GI) (grj30 : GR) (adj30 : Nat → Nat) (H : Heap) (locs : List Loc) (ls : Array Slot), f_X5_line_j30 cN cS a0 hkj30 nxj30 nsj30 gij30 grj30 = some r → XBA D cA ad hk nx ns cN cS adj30 hkj30 nxj30 nsj30 A s gij30 grj30 H locs → lv_has ls 1 [(0, .ref (adj30 a0))] → W p l e R s m args below meth c H locs (nxj30 - nx) (nsj30 - ns) Q (F0 m 30 ls []) := by
    intro hkj30 nxj30 nsj30 gij30 grj30 adj30 H locs ls h B hL
    unfold f_X5_line_j30 at h
    have ht2 : (hkj30 a0).1 = 14 := by rw [(B.2.1 a0 (by rw [ht]; decide)).2]; exact ht
    refine lv_aload_n hx hb dX5_line_30 rfl (lv_at hL 0 rfl) ?_
    refine xx_ldcS (i := 2) C B.1 (by decide) rfl dX5_line_31 ?_
    refine k_X5_is ht2 (by decide) C B.1 q723 (Nat.le_trans (Nat.le_of_ble_eq_true rfl) hF) (Nat.le_trans (Nat.le_of_ble_eq_true rfl) hN) hL.1 (Nat.le_of_ble_eq_true rfl) (xa_z hRr B) h dX5_line_33 (fun q3 h H locs B2 => ?_)
    have B := And.intro B2 B.2
    refine gg_if_eq hx hb 60 h dX5_line_36 (by decide) (fun h => ?_) (fun h => ?_)
    · exact hj60 _ _ _ _ _ _ _ _ _ h B (lv_sub hL [0] rfl)
    · refine lv_aload_n hx hb dX5_line_39 rfl (lv_at hL 0 rfl) ?_
      refine xx_gr (ci := 4) (k := 9) C B.1 xc_4 ht2 (by decide) (Nat.le_of_ble_eq_true rfl) rfl q483 (fun _ h => h) h dX5_line_40 (fun v86 ok87 h => ?_)
      refine xx_is h (fun hp88 h => ?_)
      refine xx_gr (ci := 1) (k := 1) C B.1 xc_1 hp88 (by decide) (Nat.le_of_ble_eq_true rfl) rfl q258 (fun _ h => h) h dX5_line_43 (fun v89 ok90 h => ?_)
      refine xx_is h (fun hp91 h => ?_)
      refine k_J2_size hp91 C B.1 q735 (Nat.le_trans (Nat.le_of_ble_eq_true rfl) hF) (Nat.le_trans (Nat.le_of_ble_eq_true rfl) hN) hL.1 (Nat.le_of_ble_eq_true rfl) (xa_z hRr B) h dX5_line_46 (fun q92 h H locs B2 => ?_)
      have B := And.intro B2 B.2
      refine lv_iconst (v := 5) hx hb dX5_line_49 (by decide) ?_
      refine gg_icmp_ge hx hb 60 h dX5_line_50 (by decide) (fun h => ?_) (fun h => ?_)
      · exact hj60 _ _ _ _ _ _ _ _ _ h B (lv_sub hL [0] rfl)
      · refine lv_aload_n hx hb dX5_line_53 rfl (lv_at hL 0 rfl) ?_
        refine k_X5_man ht2 C B hRr q956 (Nat.le_trans (Nat.le_of_ble_eq_true rfl) hF) (Nat.le_trans (Nat.le_of_ble_eq_true rfl) hN) hL.1 (Nat.le_of_ble_eq_true rfl) h dX5_line_54 (fun t94 ad96 h hw98 _ H locs B => ?_) (fun q93 ad95 h hae97 H locs B => ?_)
        · exact hthr t94.1 (ad96, t94.2.1, t94.2.2.1, t94.2.2.2.1, t94.2.2.2.2.1, t94.2.2.2.2.2) _ _ _ _ _ (Option.some.inj h) hw98 B
        · have h := g_elr h
          rw [← (hae97 a0 (by rw [ht2]; decide)).1] at hL
          have hp99 : (q93.1 a0).1 = 14 := by rw [(hae97 a0 (by rw [ht2]; decide)).2]; exact ht2
          refine lv_goto (tgt := 228) hx hb dX5_line_57 (by decide) ?_
          exact hret (ad95, q93.1, q93.2.1, q93.2.2.1, q93.2.2.2.1, q93.2.2.2.2) _ _ _ _ (Option.some.inj h) B dX5_line_228
  refine lv_aload_n hx hb dX5_line_0 rfl (lv_at hL 0 rfl) ?_
  refine xx_ldcS (i := 1) C B.1 (by decide) rfl dX5_line_1 ?_
  refine k_X5_is ht (by decide) C B.1 q723 (Nat.le_trans (Nat.le_of_ble_eq_true rfl) hF) (Nat.le_trans (Nat.le_of_ble_eq_true rfl) hN) hL.1 (Nat.le_of_ble_eq_true rfl) (xa_z hRr B) h dX5_line_3 (fun q1 h H locs B2 => ?_)
  have B := And.intro B2 B.2
  refine gg_if_eq hx hb 30 h dX5_line_6 (by decide) (fun h => ?_) (fun h => ?_)
  · exact hj30 _ _ _ _ _ _ _ _ _ h B (lv_sub hL [0] rfl)
  · refine lv_aload_n hx hb dX5_line_9 rfl (lv_at hL 0 rfl) ?_
    refine xx_gr (ci := 4) (k := 9) C B.1 xc_4 ht (by decide) (Nat.le_of_ble_eq_true rfl) rfl q483 (fun _ h => h) h dX5_line_10 (fun v100 ok101 h => ?_)
    refine xx_is h (fun hp102 h => ?_)
    refine xx_gr (ci := 1) (k := 0) C B.1 xc_1 hp102 (by decide) (Nat.le_of_ble_eq_true rfl) rfl q254 (fun _ h => h) h dX5_line_13 (fun v103 ok104 h => ?_)
    refine xx_is h (fun hp105 h => ?_)
    refine k_J2_size hp105 C B.1 q735 (Nat.le_trans (Nat.le_of_ble_eq_true rfl) hF) (Nat.le_trans (Nat.le_of_ble_eq_true rfl) hN) hL.1 (Nat.le_of_ble_eq_true rfl) (xa_z hRr B) h dX5_line_16 (fun q106 h H locs B2 => ?_)
    have B := And.intro B2 B.2
    refine lv_iconst (v := 3) hx hb dX5_line_19 (by decide) ?_
    refine gg_icmp_ge hx hb 30 h dX5_line_20 (by decide) (fun h => ?_) (fun h => ?_)
    · exact hj30 _ _ _ _ _ _ _ _ _ h B (lv_sub hL [0] rfl)
    · refine lv_aload_n hx hb dX5_line_23 rfl (lv_at hL 0 rfl) ?_
      refine k_X5_kind ht C B hRr q736 (Nat.le_trans (Nat.le_of_ble_eq_true rfl) hF) (Nat.le_trans (Nat.le_of_ble_eq_true rfl) hN) hL.1 (Nat.le_of_ble_eq_true rfl) h dX5_line_24 (fun t108 ad110 h hw112 _ H locs B => ?_) (fun q107 ad109 h hae111 H locs B => ?_)
      · exact hthr t108.1 (ad110, t108.2.1, t108.2.2.1, t108.2.2.2.1, t108.2.2.2.2.1, t108.2.2.2.2.2) _ _ _ _ _ (Option.some.inj h) hw112 B
      · have h := g_elr h
        rw [← (hae111 a0 (by rw [ht]; decide)).1] at hL
        have hp113 : (q107.1 a0).1 = 14 := by rw [(hae111 a0 (by rw [ht]; decide)).2]; exact ht
        refine lv_goto (tgt := 228) hx hb dX5_line_27 (by decide) ?_
        exact hret (ad109, q107.1, q107.2.1, q107.2.2.1, q107.2.2.2.1, q107.2.2.2.2) _ _ _ _ (Option.some.inj h) B dX5_line_228
theorem k_X5_line {p : Program} {l : Launch} {e : Env} {R : Room} {s : State} {m : MethodId} {args : Array Value} {below : List Frame} {meth : Method} {c : Code} {H : Heap} {locs : List Loc} {Q : State → Prop} {pc : Nat} {ls : Array Slot} {rest : List Value} {cc : ByteArray} {nL : Nat} {D : va_G} {cA : Nat → ClassId} {a9 : Nat → Nat} {h9 : HK} {n0 m0 cN cS : Nat} {ad : Nat → Nat} {hk : HK} {nx ns : Nat} {A : Nat → Prop} {gi : GI} {gr : GR} {α : Type} {r : α} {own : String} {idx : Nat} {a0 : Nat} {ff : ((Nat × HK × Nat × Nat × GI × GR) ⊕ (HK × Nat × Nat × GI × GR)) → Option α} (ht : (hk a0).1 = 14) (C : CallFix p m c cc nL s args lw_all own) (B : XBA D cA a9 h9 n0 m0 cN cS ad hk nx ns A s gi gr H locs) (hRr : R.cells = cN - n0 ∧ R.slots = cS - m0) (hq : Cond.methodLink own idx yX5_line ∈ lw_all) (hF : 73 ≤ R.frames) (hN : 2724 ≤ R.locals) (hs : ls.size = nL) (hw : (rest.map fun v => v.category).sum ≤ 8) (h : (g_cc (fun c1 c2 => f_X5_line c1 c2 hk nx ns gi gr a0) (fun z : (Nat × HK × Nat × Nat × GI × GR) ⊕ (HK × Nat × Nat × GI × GR) => Sum.elim (fun t : Nat × HK × Nat × Nat × GI × GR => t.2.2.1) (fun q : HK × Nat × Nat × GI × GR => q.2.1) z) (fun z : (Nat × HK × Nat × Nat × GI × GR) ⊕ (HK × Nat × Nat × GI × GR) => Sum.elim (fun t : Nat × HK × Nat × Nat × GI × GR => t.2.2.2.1) (fun q : HK × Nat × Nat × GI × GR => q.2.2.1) z) cN cS nx ns).bind ff = some r) (hdg : decode cc pc = .ok (.invokevirtual idx, 3)) (kx : ∀ (t : Nat × HK × Nat × Nat × GI × GR) (ad' : Nat → Nat), ff (.inl t) = some r → (t.2.1 t.1).1 = 15 → (∀ i, (hk i).1 < 1000 → ad' i = ad i ∧ t.2.1 i = hk i) → ∀ (H' : Heap) (locs' : List Loc), XBA D cA a9 h9 n0 m0 cN cS ad' t.2.1 t.2.2.1 t.2.2.2.1 A s t.2.2.2.2.1 t.2.2.2.2.2 H' locs' → vx_W p l e R s m args below meth c H' locs' (t.2.2.1 - n0) (t.2.2.2.1 - m0) Q (F0 m pc ls rest) (ad' t.1)) (kk : ∀ (q : HK × Nat × Nat × GI × GR) (ad' : Nat → Nat), ff (.inr q) = some r → (∀ i, (hk i).1 < 1000 → ad' i = ad i ∧ q.1 i = hk i) → ∀ (H' : Heap) (locs' : List Loc), XBA D cA a9 h9 n0 m0 cN cS ad' q.1 q.2.1 q.2.2.1 A s q.2.2.2.1 q.2.2.2.2 H' locs' → W p l e R s m args below meth c H' locs' (q.2.1 - n0) (q.2.2.1 - m0) Q (F0 m (pc + 3) ls (rest))) : W p l e R s m args below meth c H locs (nx - n0) (ns - m0) Q (F0 m pc ls (.ref (ad a0) :: rest)) := by
  obtain ⟨z, h1, h2⟩ := g_ob h
  obtain ⟨h3, c1, c2, c3, c4⟩ := g_cc_of h1
  refine xt_cVV (As := []) (rest := rest) (n := 0) (qn := (fun z : (Nat × HK × Nat × Nat × GI × GR) ⊕ (HK × Nat × Nat × GI × GR) => Sum.elim (fun t : Nat × HK × Nat × Nat × GI × GR => t.2.2.1) (fun q : HK × Nat × Nat × GI × GR => q.2.1) z) z) (qs := (fun z : (Nat × HK × Nat × Nat × GI × GR) ⊕ (HK × Nat × Nat × GI × GR) => Sum.elim (fun t : Nat × HK × Nat × Nat × GI × GR => t.2.2.2.1) (fun q : HK × Nat × Nat × GI × GR => q.2.2.1) z) z) xc_4 ht (by decide) C B hRr (fun sz => w_X5_line l D cA ad _ _ hk nx ns gi gr a0 ht ⟨c1, c3⟩ z h3 sz) hq q720 qs4 q151 q721 (by decide +kernel) ⟨c1, c2, c3, c4⟩ (fun u hp => ?_) (fun x hp => ?_) ⟨hF, hN⟩ rfl hs hw hdg (fun w u H9 locs9 hp hw9 hae B9 => ?_) (fun u H9 locs9 hp hae B9 => ?_)
  · have hp := hp
    subst hp
    exact ⟨rfl, rfl⟩
  · have hp := hp
    subst hp
    exact ⟨rfl, rfl⟩
  · have hp := hp
    subst hp
    exact kx _ u.1 h2 hw9 hae H9 locs9 B9
  · have hp := hp
    subst hp
    exact kk _ u.1 h2 hae H9 locs9 B9
def f_X5_text_l4 (cN cS : Nat) (a0 : Nat) (hkl4 : HK) (nxl4 : Nat) (nsl4 : Nat) (gil4 : GI) (grl4 : GR) : Option ((HK × Nat × Nat × GI × GR) ⊕ ((HK × Nat × Nat × GI × GR) ⊕ (Nat × HK × Nat × Nat × GI × GR))) :=
  if (gil4 a0 1) = 0 then
  (some (.inr (.inl (hkl4, nxl4, nsl4, gil4, grl4))))
  else
  ((g_cc (fun c1 c2 => f_X5_line c1 c2 hkl4 nxl4 nsl4 gil4 grl4 a0) (fun z : (Nat × HK × Nat × Nat × GI × GR) ⊕ (HK × Nat × Nat × GI × GR) => Sum.elim (fun t : Nat × HK × Nat × Nat × GI × GR => t.2.2.1) (fun q : HK × Nat × Nat × GI × GR => q.2.1) z) (fun z : (Nat × HK × Nat × Nat × GI × GR) ⊕ (HK × Nat × Nat × GI × GR) => Sum.elim (fun t : Nat × HK × Nat × Nat × GI × GR => t.2.2.2.1) (fun q : HK × Nat × Nat × GI × GR => q.2.2.1) z) cN cS nxl4 nsl4).bind fun q9 => Sum.elim (fun (t7 : Nat × HK × Nat × Nat × GI × GR) => some (.inr (.inr (t7.1, t7.2.1, t7.2.2.1, t7.2.2.2.1, t7.2.2.2.2.1, t7.2.2.2.2.2)))) (fun (q6 : HK × Nat × Nat × GI × GR) =>
  if (q6.2.2.2.1 a0 1) = 59 then
  ((g_cc (fun c1 c2 => f_X5_go c1 c2 q6.1 q6.2.1 q6.2.2.1 q6.2.2.2.1 q6.2.2.2.2 a0) (fun q : HK × Nat × Nat × GI × GR => q.2.1) (fun q : HK × Nat × Nat × GI × GR => q.2.2.1) cN cS q6.2.1 q6.2.2.1).bind fun q13 =>
  some (.inl (q13.1, q13.2.1, q13.2.2.1, q13.2.2.2.1, q13.2.2.2.2)))
  else
  ((g_cc (fun c1 c2 => f_X5_wrong c1 c2 q6.1 q6.2.1 q6.2.2.1 q6.2.2.2.1 q6.2.2.2.2 a0) (fun q : Nat × HK × Nat × Nat × GI × GR => q.2.2.1) (fun q : Nat × HK × Nat × Nat × GI × GR => q.2.2.2.1) cN cS q6.2.1 q6.2.2.1).bind fun q17 =>
  (g_is q17.2.1 q17.1 15).bind fun _ =>
  some (.inr (.inr (q17.1, q17.2.1, q17.2.2.1, q17.2.2.2.1, q17.2.2.2.2.1, q17.2.2.2.2.2))))) q9)
def f_X5_text_x4 (cN cS : Nat) (a0 : Nat) (hke4 : HK) (nxe4 : Nat) (nse4 : Nat) (gie4 : GI) (gre4 : GR) : Option ((Nat × HK × Nat × Nat × GI × GR) ⊕ (Nat × HK × Nat × Nat × GI × GR)) :=
  (gre4 a0 9).bind fun v23 =>
  some (.inr (v23, hke4, nxe4, nse4, gie4, gre4))
def f_X5_text (cN cS : Nat) (hk : HK) (nx ns : Nat) (gi : GI) (gr : GR) (a0 : Nat) : Option ((Nat × HK × Nat × Nat × GI × GR) ⊕ (Nat × HK × Nat × Nat × GI × GR)) :=
  (g_cc (fun c1 c2 => f_X5_go c1 c2 hk nx ns gi gr a0) (fun q : HK × Nat × Nat × GI × GR => q.2.1) (fun q : HK × Nat × Nat × GI × GR => q.2.2.1) cN cS nx ns).bind fun q1 =>
  (g_loop g_K (fun (s : HK × Nat × Nat × GI × GR) => f_X5_text_l4 cN cS a0 s.1 s.2.1 s.2.2.1 s.2.2.2.1 s.2.2.2.2) (q1.1, q1.2.1, q1.2.2.1, q1.2.2.2.1, q1.2.2.2.2)).bind fun E4 => Sum.elim (fun (S4 : HK × Nat × Nat × GI × GR) => f_X5_text_x4 cN cS a0 S4.1 S4.2.1 S4.2.2.1 S4.2.2.2.1 S4.2.2.2.2) (fun (t4 : Nat × HK × Nat × Nat × GI × GR) => some (.inl t4)) E4
set_option maxHeartbeats 400000 in
theorem w_X5_text (l : Launch) (D : va_G) (cA : Nat → ClassId) (ad : Nat → Nat) (cN cS : Nat) (hk : HK) (nx ns : Nat) (gi : GI) (gr : GR) (a0 : Nat) (ht : (hk a0).1 = 14) (hcap : nx ≤ cN ∧ ns ≤ cS) (r : (Nat × HK × Nat × Nat × GI × GR) ⊕ (Nat × HK × Nat × Nat × GI × GR)) (h : f_X5_text cN cS hk nx ns gi gr a0 = some r) (sz : Nat) : vx_Met l yX5_text (ws_ yX5_text cX5_text 1 (some (.object "WeatherWages$Book"))) ({ frames := 73, cells := cN - nx, slots := cS - ns, locals := 2724 } : Room) (va_Pc [.ref (ad a0)] (XPre D cA ad hk nx gi gr sz)) (va_Qq (fun o u => ∃ v : Option Nat, o = v.map u.1 ∧ (fun (v : Option Nat) (u : XU) => ∃ v9, v = some v9 ∧ Sum.inr (v9, u.2) = r) v u) (XPostA D cA ad hk nx sz) (XA ad nx sz)) (vx_X (fun x : XV => Sum.inl (x.1, x.2.2) = r) (XPostX D cA ad hk nx sz) (XA ad nx sz)) (cN - nx) (cS - ns) (XA ad nx sz) := by
  refine xt_stR (Or.inl ⟨_, rfl⟩) (own := RX5) (P := (fun (v : Option Nat) (u : XU) => ∃ v9, v = some v9 ∧ Sum.inr (v9, u.2) = r)) (PX := (fun x : XV => Sum.inl (x.1, x.2.2) = r)) (by decide +kernel) rfl (Nat.le_of_ble_eq_true rfl) hcap (fun p e s m args below meth c R Q A ls C hmn hF hN hRr B hret hthr hL => ?_) sz
  have hx := C.1
  have hb := C.2.1
  have hL : lv_has ls 1 [(0, .ref (ad a0))] := hL
  unfold f_X5_text at h
  refine lv_aload_n hx hb dX5_text_0 rfl (lv_at hL 0 rfl) ?_
  refine k_X5_go ht C B hRr q512 (Nat.le_trans (Nat.le_of_ble_eq_true rfl) hF) (Nat.le_trans (Nat.le_of_ble_eq_true rfl) hN) hL.1 (Nat.le_of_ble_eq_true rfl) h dX5_text_1 (fun q1 ad2 h hae3 H locs B => ?_)
  rw [← (hae3 a0 (by rw [ht]; decide)).1] at hL
  have hp4 : (q1.1 a0).1 = 14 := by rw [(hae3 a0 (by rw [ht]; decide)).2]; exact ht
  obtain ⟨E4, h84, h⟩ := g_ob h
  have kx4 : ∀ (hke4 : HK) (nxe4 : Nat) (nse4 : Nat) (gie4 : GI) (gre4 : GR) (ade4 : Nat → Nat) (H : Heap) (locs : List Loc) (ls : Array Slot), Sum.inl (hke4, nxe4, nse4, gie4, gre4) = E4 → XBA D cA ad hk nx ns cN cS ade4 hke4 nxe4 nse4 A s gie4 gre4 H locs → lv_has ls 1 [(0, .ref (ade4 a0))] → W p l e R s m args below meth c H locs (nxe4 - nx) (nse4 - ns) Q (F0 m 36 ls []) := by
    intro hke4 nxe4 nse4 gie4 gre4 ade4 H locs ls he B hL
    subst he
    have h : f_X5_text_x4 cN cS a0 hke4 nxe4 nse4 gie4 gre4 = some r := h
    unfold f_X5_text_x4 at h
    have ht22 : (hke4 a0).1 = 14 := by rw [(B.2.1 a0 (by rw [ht]; decide)).2]; exact ht
    refine lv_aload_n hx hb dX5_text_36 rfl (lv_at hL 0 rfl) ?_
    refine xx_gr (ci := 4) (k := 9) C B.1 xc_4 ht22 (by decide) (Nat.le_of_ble_eq_true rfl) rfl q483 (fun _ h => h) h dX5_text_37 (fun v23 ok24 h => ?_)
    exact hret (some v23) (ade4, hke4, nxe4, nse4, gie4, gre4) _ _ _ _ ⟨_, rfl, Option.some.inj h⟩ B dX5_text_40
  have kt4 : ∀ (w : Nat) (u : XU) (H : Heap) (locs : List Loc) (ls : Array Slot) (pc : Nat) (rest : List Value), Sum.inr (w, u.2) = E4 → (u.2.1 w).1 = 15 → XBA D cA ad hk nx ns cN cS u.1 u.2.1 u.2.2.1 u.2.2.2.1 A s u.2.2.2.2.1 u.2.2.2.2.2 H locs → vx_W p l e R s m args below meth c H locs (u.2.2.1 - nx) (u.2.2.2.1 - ns) Q (F0 m pc ls rest) (u.1 w) := by
    intro w u H locs ls pc rest he hw B
    subst he
    have h : some (Sum.inl (w, u.2)) = some r := h
    exact hthr w u H locs ls pc rest (Option.some.inj h) hw B
  have hl4 : ∀ (k : Nat) (hkl4 : HK) (nxl4 : Nat) (nsl4 : Nat) (gil4 : GI) (grl4 : GR) (adl4 : Nat → Nat) (H : Heap) (locs : List Loc) (ls : Array Slot), g_loop k (fun (s : HK × Nat × Nat × GI × GR) => f_X5_text_l4 cN cS a0 s.1 s.2.1 s.2.2.1 s.2.2.2.1 s.2.2.2.2) (hkl4, nxl4, nsl4, gil4, grl4) = some E4 → XBA D cA ad hk nx ns cN cS adl4 hkl4 nxl4 nsl4 A s gil4 grl4 H locs → lv_has ls 1 [(0, .ref (adl4 a0))] → W p l e R s m args below meth c H locs (nxl4 - nx) (nsl4 - ns) Q (F0 m 4 ls []) := by
    intro k
    induction k with
    | zero => intro hkl4 nxl4 nsl4 gil4 grl4 adl4 H locs ls h; exact absurd h (fun z => g_loop_0 z)
    | succ k ih4 =>
      intro hkl4 nxl4 nsl4 gil4 grl4 adl4 H locs ls h B hL
      obtain ⟨Z4, h, h94⟩ := g_loop_s h
      have h : f_X5_text_l4 cN cS a0 hkl4 nxl4 nsl4 gil4 grl4 = some Z4 := h
      unfold f_X5_text_l4 at h
      have ht5 : (hkl4 a0).1 = 14 := by rw [(B.2.1 a0 (by rw [ht]; decide)).2]; exact ht
      refine lv_aload_n hx hb dX5_text_4 rfl (lv_at hL 0 rfl) ?_
      refine xx_gi (ci := 4) (k := 1) C B.1 xc_4 ht5 (by decide) (Nat.le_of_ble_eq_true rfl) rfl q475 (fun _ h => h) dX5_text_5 ?_
      refine gg_if_eq hx hb 36 h dX5_text_8 (by decide) (fun h => ?_) (fun h => ?_)
      · exact kx4 _ _ _ _ _ _ _ _ _ (g_exit h h94) B (lv_sub hL [0] rfl)
      · refine lv_aload_n hx hb dX5_text_11 rfl (lv_at hL 0 rfl) ?_
        refine k_X5_line ht5 C B hRr q718 (Nat.le_trans (Nat.le_of_ble_eq_true rfl) hF) (Nat.le_trans (Nat.le_of_ble_eq_true rfl) hN) hL.1 (Nat.le_of_ble_eq_true rfl) h dX5_text_12 (fun t7 ad9 h hw11 _ H locs B => ?_) (fun q6 ad8 h hae10 H locs B => ?_)
        · exact kt4 t7.1 (ad9, t7.2.1, t7.2.2.1, t7.2.2.2.1, t7.2.2.2.2.1, t7.2.2.2.2.2) _ _ _ _ _ (g_exit h h94) hw11 B
        · have h := g_elr h
          rw [← (hae10 a0 (by rw [ht5]; decide)).1] at hL
          have hp12 : (q6.1 a0).1 = 14 := by rw [(hae10 a0 (by rw [ht5]; decide)).2]; exact ht5
          refine lv_aload_n hx hb dX5_text_15 rfl (lv_at hL 0 rfl) ?_
          refine xx_gi (ci := 4) (k := 1) C B.1 xc_4 hp12 (by decide) (Nat.le_of_ble_eq_true rfl) rfl q475 (fun _ h => h) dX5_text_16 ?_
          refine lv_bipush (v := 59) hx hb dX5_text_19 (by decide) ?_
          refine gg_icmp_eq hx hb 29 h dX5_text_21 (by decide) (fun h => ?_) (fun h => ?_)
          · refine lv_aload_n hx hb dX5_text_29 rfl (lv_at hL 0 rfl) ?_
            refine k_X5_go hp12 C B hRr q512 (Nat.le_trans (Nat.le_of_ble_eq_true rfl) hF) (Nat.le_trans (Nat.le_of_ble_eq_true rfl) hN) hL.1 (Nat.le_of_ble_eq_true rfl) h dX5_text_30 (fun q13 ad14 h hae15 H locs B => ?_)
            rw [← (hae15 a0 (by rw [hp12]; decide)).1] at hL
            have hp16 : (q13.1 a0).1 = 14 := by rw [(hae15 a0 (by rw [hp12]; decide)).2]; exact hp12
            refine lv_goto (tgt := 4) hx hb dX5_text_33 (by decide) ?_
            exact ih4 _ _ _ _ _ _ _ _ _ (g_next h h94) B (lv_sub hL [0] rfl)
          · refine lv_aload_n hx hb dX5_text_24 rfl (lv_at hL 0 rfl) ?_
            refine k_X5_wrong hp12 C B hRr q829 (Nat.le_trans (Nat.le_of_ble_eq_true rfl) hF) (Nat.le_trans (Nat.le_of_ble_eq_true rfl) hN) hL.1 (Nat.le_of_ble_eq_true rfl) h dX5_text_25 (fun q17 ad18 h hae19 H locs B => ?_)
            rw [← (hae19 a0 (by rw [hp12]; decide)).1] at hL
            have hp20 : (q17.2.1 a0).1 = 14 := by rw [(hae19 a0 (by rw [hp12]; decide)).2]; exact hp12
            refine xx_is h (fun hp21 h => ?_)
            refine vx_athrow hx hb dX5_text_28 ?_
            exact kt4 q17.1 (ad18, q17.2.1, q17.2.2.1, q17.2.2.2.1, q17.2.2.2.2.1, q17.2.2.2.2.2) _ _ _ _ _ (g_exit h h94) hp21 B
  exact hl4 g_K _ _ _ _ _ _ _ _ _ h84 B (lv_sub hL [0] rfl)
theorem k_X5_text {p : Program} {l : Launch} {e : Env} {R : Room} {s : State} {m : MethodId} {args : Array Value} {below : List Frame} {meth : Method} {c : Code} {H : Heap} {locs : List Loc} {Q : State → Prop} {pc : Nat} {ls : Array Slot} {rest : List Value} {cc : ByteArray} {nL : Nat} {D : va_G} {cA : Nat → ClassId} {a9 : Nat → Nat} {h9 : HK} {n0 m0 cN cS : Nat} {ad : Nat → Nat} {hk : HK} {nx ns : Nat} {A : Nat → Prop} {gi : GI} {gr : GR} {α : Type} {r : α} {own : String} {idx : Nat} {a0 : Nat} {ff : ((Nat × HK × Nat × Nat × GI × GR) ⊕ (Nat × HK × Nat × Nat × GI × GR)) → Option α} (ht : (hk a0).1 = 14) (C : CallFix p m c cc nL s args lw_all own) (B : XBA D cA a9 h9 n0 m0 cN cS ad hk nx ns A s gi gr H locs) (hRr : R.cells = cN - n0 ∧ R.slots = cS - m0) (hq : Cond.methodLink own idx yX5_text ∈ lw_all) (hF : 74 ≤ R.frames) (hN : 2744 ≤ R.locals) (hs : ls.size = nL) (hw : (rest.map fun v => v.category).sum ≤ 8) (h : (g_cc (fun c1 c2 => f_X5_text c1 c2 hk nx ns gi gr a0) (fun z : (Nat × HK × Nat × Nat × GI × GR) ⊕ (Nat × HK × Nat × Nat × GI × GR) => Sum.elim (fun t : Nat × HK × Nat × Nat × GI × GR => t.2.2.1) (fun q : Nat × HK × Nat × Nat × GI × GR => q.2.2.1) z) (fun z : (Nat × HK × Nat × Nat × GI × GR) ⊕ (Nat × HK × Nat × Nat × GI × GR) => Sum.elim (fun t : Nat × HK × Nat × Nat × GI × GR => t.2.2.2.1) (fun q : Nat × HK × Nat × Nat × GI × GR => q.2.2.2.1) z) cN cS nx ns).bind ff = some r) (hdg : decode cc pc = .ok (.invokevirtual idx, 3)) (kx : ∀ (t : Nat × HK × Nat × Nat × GI × GR) (ad' : Nat → Nat), ff (.inl t) = some r → (t.2.1 t.1).1 = 15 → (∀ i, (hk i).1 < 1000 → ad' i = ad i ∧ t.2.1 i = hk i) → ∀ (H' : Heap) (locs' : List Loc), XBA D cA a9 h9 n0 m0 cN cS ad' t.2.1 t.2.2.1 t.2.2.2.1 A s t.2.2.2.2.1 t.2.2.2.2.2 H' locs' → vx_W p l e R s m args below meth c H' locs' (t.2.2.1 - n0) (t.2.2.2.1 - m0) Q (F0 m pc ls rest) (ad' t.1)) (kk : ∀ (q : Nat × HK × Nat × Nat × GI × GR) (ad' : Nat → Nat), ff (.inr q) = some r → (∀ i, (hk i).1 < 1000 → ad' i = ad i ∧ q.2.1 i = hk i) → ∀ (H' : Heap) (locs' : List Loc), XBA D cA a9 h9 n0 m0 cN cS ad' q.2.1 q.2.2.1 q.2.2.2.1 A s q.2.2.2.2.1 q.2.2.2.2.2 H' locs' → W p l e R s m args below meth c H' locs' (q.2.2.1 - n0) (q.2.2.2.1 - m0) Q (F0 m (pc + 3) ls (.ref (ad' q.1) :: rest))) : W p l e R s m args below meth c H locs (nx - n0) (ns - m0) Q (F0 m pc ls (.ref (ad a0) :: rest)) := by
  obtain ⟨z, h1, h2⟩ := g_ob h
  obtain ⟨h3, c1, c2, c3, c4⟩ := g_cc_of h1
  refine xt_cVR (As := []) (rest := rest) (n := 0) (qn := (fun z : (Nat × HK × Nat × Nat × GI × GR) ⊕ (Nat × HK × Nat × Nat × GI × GR) => Sum.elim (fun t : Nat × HK × Nat × Nat × GI × GR => t.2.2.1) (fun q : Nat × HK × Nat × Nat × GI × GR => q.2.2.1) z) z) (qs := (fun z : (Nat × HK × Nat × Nat × GI × GR) ⊕ (Nat × HK × Nat × Nat × GI × GR) => Sum.elim (fun t : Nat × HK × Nat × Nat × GI × GR => t.2.2.2.1) (fun q : Nat × HK × Nat × Nat × GI × GR => q.2.2.2.1) z) z) xc_4 ht (by decide) C B hRr (fun sz => w_X5_text l D cA ad _ _ hk nx ns gi gr a0 ht ⟨c1, c3⟩ z h3 sz) hq q509 q510 q151 q511 (by decide +kernel) ⟨c1, c2, c3, c4⟩ (fun v u hp => ?_) (fun x hp => ?_) ⟨hF, hN⟩ rfl hs hw hdg (fun w u H9 locs9 hp hw9 hae B9 => ?_) (fun v u H9 locs9 hp hae B9 => ?_)
  · have hp := hp
    obtain ⟨v9, rfl, rfl⟩ := hp
    exact ⟨rfl, rfl⟩
  · have hp := hp
    subst hp
    exact ⟨rfl, rfl⟩
  · have hp := hp
    subst hp
    exact kx _ u.1 h2 hw9 hae H9 locs9 B9
  · have hp := hp
    obtain ⟨v9, rfl, rfl⟩ := hp
    exact kk _ u.1 h2 hae H9 locs9 B9

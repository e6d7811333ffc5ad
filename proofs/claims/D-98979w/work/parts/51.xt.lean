/-! METHODS THAT MAY THROW A Wrong: start rows, call rows -/
set_option maxRecDepth 100000
abbrev XV : Type := Nat × XU
def XPostX (D : va_G) (cA : Nat → ClassId) (a0 : Nat → Nat) (h0 : HK) (n0 sz : Nat) (E : String) (q : Addr) (x : XV) (t : State) : Prop := (E = RX6 ∧ q = x.2.1 x.1 ∧ (x.2.2.1 x.1).1 = 15) ∧ XPostA D cA a0 h0 n0 sz x.2 t
theorem xt_cell {D : va_G} {cA : Nat → ClassId} {ad : Nat → Nat} {hk : HK} {nx : Nat} {A : Nat → Prop} {s : State} {gi : GI} {gr : GR} {H : Heap} {locs : List Loc} (B : XB D cA ad hk nx A s gi gr H locs) {b : Nat} (hp : (hk b).1 = 15) : ∃ ce : Cell, H[ad b]? = some ce ∧ ce.vm = .none ∧ s.vm.findClass RX6 = some ce.cls := by
  obtain ⟨q', h1, cell, g1, g2, g3, -⟩ := B.2.1 b _ (Xw_o (ci := 5) (xb_lt B hp (by decide)) hp)
  exact ⟨cell, g1, g3, by rw [g2]; exact (B.1.1 5 _ xc_5.1).2.1⟩
section XTST
variable {D : va_G} {cA : Nat → ClassId} {ad : Nat → Nat} {hk : HK} {nx ns cN cS : Nat} {gi : GI} {gr : GR} {l : Launch}
theorem xt_stI {y : MethodName} {own : String} {cc : ByteArray} {nL fr lo : Nat} {av : List Value} {P : Int32 → XU → Prop} {PX : XV → Prop} (hy : plainName y.cls = true) (hc : y.cls = own) (hn : (lg_sl av).length ≤ nL) (hcap : nx ≤ cN ∧ ns ≤ cS)
    (body : ∀ (p : Program) (e : Env) (s : State) (m : MethodId) (args : Array Value) (below : List Frame) (meth : Method) (c : Code) (R : Room) (Q : State → Prop) (A : Nat → Prop) (ls : Array Slot), CallFix p m c cc nL s args lw_all own → meth.name = y.name → fr ≤ R.frames → lo ≤ R.locals → (R.cells = cN - nx ∧ R.slots = cS - ns) → XBA D cA ad hk nx ns cN cS ad hk nx ns A s gi gr s.heap [] →
      (∀ (v : Int32) (u : XU) (H : Heap) (locs : List Loc) (ls : Array Slot) (pc : Nat), P v u → XBA D cA ad hk nx ns cN cS u.1 u.2.1 u.2.2.1 u.2.2.2.1 A s u.2.2.2.2.1 u.2.2.2.2.2 H locs → decode cc pc = .ok (.ireturn, 1) → W p l e R s m args below meth c H locs (u.2.2.1 - nx) (u.2.2.2.1 - ns) Q (F0 m pc ls [.int v])) → (∀ (w : Nat) (u : XU) (H : Heap) (locs : List Loc) (ls : Array Slot) (pc : Nat) (rest : List Value), PX (w, u) → (u.2.1 w).1 = 15 → XBA D cA ad hk nx ns cN cS u.1 u.2.1 u.2.2.1 u.2.2.2.1 A s u.2.2.2.2.1 u.2.2.2.2.2 H locs → vx_W p l e R s m args below meth c H locs (u.2.2.1 - nx) (u.2.2.2.1 - ns) Q (F0 m pc ls rest) (u.1 w)) → lv_has ls nL (lv_args 0 av) → W p l e R s m args below meth c s.heap [] (nx - nx) (ns - ns) Q (F0 m 0 ls [])) (sz : Nat) :
    vx_Met l y (ws_ y cc nL (some .int)) ({ frames := fr, cells := cN - nx, slots := cS - ns, locals := lo } : Room) (va_Pc av (XPre D cA ad hk nx gi gr sz)) (va_Qi P (XPostA D cA ad hk nx sz) (XA ad nx sz)) (vx_X PX (XPostX D cA ad hk nx sz) (XA ad nx sz)) (cN - nx) (cS - ns) (XA ad nx sz) := by
  refine vx_ofW (cc := cc) (maxL := nL) (ret := some .int) hy rfl ?_
  intro p e s m args below meth c s₁ B hml htab hv
  obtain ⟨rfl, hsz, hK, hP, hD, hT⟩ := hv
  have hx := B.exec
  have hb := B.bytes
  have hr := B.returns
  have hts := atoms_spec (ws := ws_ y cc nL (some .int)) B.pre
  have hts : ∀ w ∈ lw_all, w.before _ s = true := fun w h => hts w (List.mem_cons_of_mem _ h)
  have hown : s.vm.findClass own = some m.cls := by rw [← hc]; exact findClass_of_methodNamed B.named
  have hlocks := B.notSynchronized
  have hl := lv_entry av (n := nL) hn
  rw [lg_entry_eq]
  generalize (lg_sl av ++ List.replicate (nL - (lg_sl av).length) Slot.unset).toArray = ls at hl ⊢
  subst hsz
  have hb1 := body p e s m av.toArray below meth c (headSpec (ws_ y cc nL (some .int)) ({ frames := fr, cells := cN - nx, slots := cS - ns, locals := lo } : Room)).room (vx_MQ below (va_Qi P (XPostA D cA ad hk nx s.heap.size) (XA ad nx s.heap.size)) (vx_X PX (XPostX D cA ad hk nx s.heap.size) (XA ad nx s.heap.size)) av.toArray s (cN - nx) (cS - ns) (XA ad nx s.heap.size)) (XA ad nx s.heap.size) ls ⟨hx, hb, hml, hown, hts⟩ (name_of_methodNamed B.named B.method).1 (Nat.le_refl _) (Nat.le_refl _) ⟨rfl, rfl⟩ ⟨⟨hK, hP, ⟨⟨⟨hD.1.1, fun i hi => Or.inl ⟨i, hi, rfl⟩⟩, fun q h => Or.inr h⟩, hD.2⟩, va_S.rf, hT⟩, fun _ _ => ⟨rfl, rfl⟩, fun _ _ => rfl, Nat.le_refl _, hcap.1, Nat.le_refl _, hcap.2⟩
  rw [Nat.sub_self, Nat.sub_self] at hb1
  refine hb1 ?_ ?_ hl
  · intro v u H locs ls pc hp G hdg
    have gg := G.2.2.2
    refine W.widen (k := cN - nx) (n := cS - ns) (by omega) (by omega) ?_
    exact vx_ret (W.iret hx hb hr (fun t ht hW => ⟨⟨v, u, rfl, hp, va_K.moved hW.alike G.1.1, by rw [ht]; exact G.1.2.1, G.1.2.2.1.2, G.2.1, G.2.2.1, G.1.2.2.1.1.1.1, G.1.2.2.1.1.1.2⟩, G.1.2.2.2.1.F ht⟩) G.1.2.2.2.1.2.2 hdg)
  · intro w u H locs ls pc rest hp hw G
    have gg := G.2.2.2
    obtain ⟨ce, c1, c2, c3⟩ := xt_cell G.1 hw
    refine vx_widen (k := cN - nx) (n := cS - ns) (by omega) (by omega) ?_
    exact vx_out (fun x hx => (htab x hx).elim) hlocks c1 c2 c3 (fun t ht hW => ⟨(w, u), hp, ⟨⟨rfl, rfl, hw⟩, va_K.moved hW G.1.1, by rw [ht]; exact G.1.2.1, G.1.2.2.1.2, G.2.1, G.2.2.1, G.1.2.2.1.1.1.1, G.1.2.2.1.1.1.2⟩, G.1.2.2.2.1.F ht⟩) G.1.2.2.2.1.2.2 (Nat.le_refl _) (Nat.le_refl _)
theorem xt_stV {y : MethodName} {own : String} {cc : ByteArray} {nL fr lo : Nat} {av : List Value} {P : XU → Prop} {PX : XV → Prop} (hy : plainName y.cls = true) (hc : y.cls = own) (hn : (lg_sl av).length ≤ nL) (hcap : nx ≤ cN ∧ ns ≤ cS)
    (body : ∀ (p : Program) (e : Env) (s : State) (m : MethodId) (args : Array Value) (below : List Frame) (meth : Method) (c : Code) (R : Room) (Q : State → Prop) (A : Nat → Prop) (ls : Array Slot), CallFix p m c cc nL s args lw_all own → meth.name = y.name → fr ≤ R.frames → lo ≤ R.locals → (R.cells = cN - nx ∧ R.slots = cS - ns) → XBA D cA ad hk nx ns cN cS ad hk nx ns A s gi gr s.heap [] →
      (∀ (u : XU) (H : Heap) (locs : List Loc) (ls : Array Slot) (pc : Nat), P u → XBA D cA ad hk nx ns cN cS u.1 u.2.1 u.2.2.1 u.2.2.2.1 A s u.2.2.2.2.1 u.2.2.2.2.2 H locs → decode cc pc = .ok (.return_, 1) → W p l e R s m args below meth c H locs (u.2.2.1 - nx) (u.2.2.2.1 - ns) Q (F0 m pc ls [])) → (∀ (w : Nat) (u : XU) (H : Heap) (locs : List Loc) (ls : Array Slot) (pc : Nat) (rest : List Value), PX (w, u) → (u.2.1 w).1 = 15 → XBA D cA ad hk nx ns cN cS u.1 u.2.1 u.2.2.1 u.2.2.2.1 A s u.2.2.2.2.1 u.2.2.2.2.2 H locs → vx_W p l e R s m args below meth c H locs (u.2.2.1 - nx) (u.2.2.2.1 - ns) Q (F0 m pc ls rest) (u.1 w)) → lv_has ls nL (lv_args 0 av) → W p l e R s m args below meth c s.heap [] (nx - nx) (ns - ns) Q (F0 m 0 ls [])) (sz : Nat) :
    vx_Met l y (ws_ y cc nL (none)) ({ frames := fr, cells := cN - nx, slots := cS - ns, locals := lo } : Room) (va_Pc av (XPre D cA ad hk nx gi gr sz)) (va_Qv P (XPostA D cA ad hk nx sz) (XA ad nx sz)) (vx_X PX (XPostX D cA ad hk nx sz) (XA ad nx sz)) (cN - nx) (cS - ns) (XA ad nx sz) := by
  refine vx_ofW (cc := cc) (maxL := nL) (ret := none) hy rfl ?_
  intro p e s m args below meth c s₁ B hml htab hv
  obtain ⟨rfl, hsz, hK, hP, hD, hT⟩ := hv
  have hx := B.exec
  have hb := B.bytes
  have hr := B.returns
  have hts := atoms_spec (ws := ws_ y cc nL (none)) B.pre
  have hts : ∀ w ∈ lw_all, w.before _ s = true := fun w h => hts w (List.mem_cons_of_mem _ h)
  have hown : s.vm.findClass own = some m.cls := by rw [← hc]; exact findClass_of_methodNamed B.named
  have hlocks := B.notSynchronized
  have hl := lv_entry av (n := nL) hn
  rw [lg_entry_eq]
  generalize (lg_sl av ++ List.replicate (nL - (lg_sl av).length) Slot.unset).toArray = ls at hl ⊢
  subst hsz
  have hb1 := body p e s m av.toArray below meth c (headSpec (ws_ y cc nL (none)) ({ frames := fr, cells := cN - nx, slots := cS - ns, locals := lo } : Room)).room (vx_MQ below (va_Qv P (XPostA D cA ad hk nx s.heap.size) (XA ad nx s.heap.size)) (vx_X PX (XPostX D cA ad hk nx s.heap.size) (XA ad nx s.heap.size)) av.toArray s (cN - nx) (cS - ns) (XA ad nx s.heap.size)) (XA ad nx s.heap.size) ls ⟨hx, hb, hml, hown, hts⟩ (name_of_methodNamed B.named B.method).1 (Nat.le_refl _) (Nat.le_refl _) ⟨rfl, rfl⟩ ⟨⟨hK, hP, ⟨⟨⟨hD.1.1, fun i hi => Or.inl ⟨i, hi, rfl⟩⟩, fun q h => Or.inr h⟩, hD.2⟩, va_S.rf, hT⟩, fun _ _ => ⟨rfl, rfl⟩, fun _ _ => rfl, Nat.le_refl _, hcap.1, Nat.le_refl _, hcap.2⟩
  rw [Nat.sub_self, Nat.sub_self] at hb1
  refine hb1 ?_ ?_ hl
  · intro u H locs ls pc hp G hdg
    have gg := G.2.2.2
    refine W.widen (k := cN - nx) (n := cS - ns) (by omega) (by omega) ?_
    exact vx_ret (W.vret hx hb hr (fun t ht hW => ⟨⟨u, rfl, hp, va_K.moved hW.alike G.1.1, by rw [ht]; exact G.1.2.1, G.1.2.2.1.2, G.2.1, G.2.2.1, G.1.2.2.1.1.1.1, G.1.2.2.1.1.1.2⟩, G.1.2.2.2.1.F ht⟩) G.1.2.2.2.1.2.2 hdg)
  · intro w u H locs ls pc rest hp hw G
    have gg := G.2.2.2
    obtain ⟨ce, c1, c2, c3⟩ := xt_cell G.1 hw
    refine vx_widen (k := cN - nx) (n := cS - ns) (by omega) (by omega) ?_
    exact vx_out (fun x hx => (htab x hx).elim) hlocks c1 c2 c3 (fun t ht hW => ⟨(w, u), hp, ⟨⟨rfl, rfl, hw⟩, va_K.moved hW G.1.1, by rw [ht]; exact G.1.2.1, G.1.2.2.1.2, G.2.1, G.2.2.1, G.1.2.2.1.1.1.1, G.1.2.2.1.1.1.2⟩, G.1.2.2.2.1.F ht⟩) G.1.2.2.2.1.2.2 (Nat.le_refl _) (Nat.le_refl _)
theorem xt_stR {y : MethodName} {own : String} {rt : FieldType} (hrt : (∃ n, rt = .object n) ∨ ∃ t, rt = .array t) {cc : ByteArray} {nL fr lo : Nat} {av : List Value} {P : Option Nat → XU → Prop} {PX : XV → Prop} (hy : plainName y.cls = true) (hc : y.cls = own) (hn : (lg_sl av).length ≤ nL) (hcap : nx ≤ cN ∧ ns ≤ cS)
    (body : ∀ (p : Program) (e : Env) (s : State) (m : MethodId) (args : Array Value) (below : List Frame) (meth : Method) (c : Code) (R : Room) (Q : State → Prop) (A : Nat → Prop) (ls : Array Slot), CallFix p m c cc nL s args lw_all own → meth.name = y.name → fr ≤ R.frames → lo ≤ R.locals → (R.cells = cN - nx ∧ R.slots = cS - ns) → XBA D cA ad hk nx ns cN cS ad hk nx ns A s gi gr s.heap [] →
      (∀ (v : Option Nat) (u : XU) (H : Heap) (locs : List Loc) (ls : Array Slot) (pc : Nat), P v u → XBA D cA ad hk nx ns cN cS u.1 u.2.1 u.2.2.1 u.2.2.2.1 A s u.2.2.2.2.1 u.2.2.2.2.2 H locs → decode cc pc = .ok (.areturn, 1) → W p l e R s m args below meth c H locs (u.2.2.1 - nx) (u.2.2.2.1 - ns) Q (F0 m pc ls [va_rf (v.map u.1)])) → (∀ (w : Nat) (u : XU) (H : Heap) (locs : List Loc) (ls : Array Slot) (pc : Nat) (rest : List Value), PX (w, u) → (u.2.1 w).1 = 15 → XBA D cA ad hk nx ns cN cS u.1 u.2.1 u.2.2.1 u.2.2.2.1 A s u.2.2.2.2.1 u.2.2.2.2.2 H locs → vx_W p l e R s m args below meth c H locs (u.2.2.1 - nx) (u.2.2.2.1 - ns) Q (F0 m pc ls rest) (u.1 w)) → lv_has ls nL (lv_args 0 av) → W p l e R s m args below meth c s.heap [] (nx - nx) (ns - ns) Q (F0 m 0 ls [])) (sz : Nat) :
    vx_Met l y (ws_ y cc nL (some rt)) ({ frames := fr, cells := cN - nx, slots := cS - ns, locals := lo } : Room) (va_Pc av (XPre D cA ad hk nx gi gr sz)) (va_Qq (fun o u => ∃ v : Option Nat, o = v.map u.1 ∧ P v u) (XPostA D cA ad hk nx sz) (XA ad nx sz)) (vx_X PX (XPostX D cA ad hk nx sz) (XA ad nx sz)) (cN - nx) (cS - ns) (XA ad nx sz) := by
  refine vx_ofW (cc := cc) (maxL := nL) (ret := some rt) hy rfl ?_
  intro p e s m args below meth c s₁ B hml htab hv
  obtain ⟨rfl, hsz, hK, hP, hD, hT⟩ := hv
  have hx := B.exec
  have hb := B.bytes
  have hr := B.returns
  have hts := atoms_spec (ws := ws_ y cc nL (some rt)) B.pre
  have hts : ∀ w ∈ lw_all, w.before _ s = true := fun w h => hts w (List.mem_cons_of_mem _ h)
  have hown : s.vm.findClass own = some m.cls := by rw [← hc]; exact findClass_of_methodNamed B.named
  have hlocks := B.notSynchronized
  have hl := lv_entry av (n := nL) hn
  rw [lg_entry_eq]
  generalize (lg_sl av ++ List.replicate (nL - (lg_sl av).length) Slot.unset).toArray = ls at hl ⊢
  subst hsz
  have hb1 := body p e s m av.toArray below meth c (headSpec (ws_ y cc nL (some rt)) ({ frames := fr, cells := cN - nx, slots := cS - ns, locals := lo } : Room)).room (vx_MQ below (va_Qq (fun o u => ∃ v : Option Nat, o = v.map u.1 ∧ P v u) (XPostA D cA ad hk nx s.heap.size) (XA ad nx s.heap.size)) (vx_X PX (XPostX D cA ad hk nx s.heap.size) (XA ad nx s.heap.size)) av.toArray s (cN - nx) (cS - ns) (XA ad nx s.heap.size)) (XA ad nx s.heap.size) ls ⟨hx, hb, hml, hown, hts⟩ (name_of_methodNamed B.named B.method).1 (Nat.le_refl _) (Nat.le_refl _) ⟨rfl, rfl⟩ ⟨⟨hK, hP, ⟨⟨⟨hD.1.1, fun i hi => Or.inl ⟨i, hi, rfl⟩⟩, fun q h => Or.inr h⟩, hD.2⟩, va_S.rf, hT⟩, fun _ _ => ⟨rfl, rfl⟩, fun _ _ => rfl, Nat.le_refl _, hcap.1, Nat.le_refl _, hcap.2⟩
  rw [Nat.sub_self, Nat.sub_self] at hb1
  refine hb1 ?_ ?_ hl
  · intro v u H locs ls pc hp G hdg
    have gg := G.2.2.2
    refine W.widen (k := cN - nx) (n := cS - ns) (by omega) (by omega) ?_
    exact vx_ret (W.aret hx hb hr hrt (va_rf_or _) (fun t ht hW => ⟨⟨_, u, rfl, ⟨v, rfl, hp⟩, va_K.moved hW.alike G.1.1, by rw [ht]; exact G.1.2.1, G.1.2.2.1.2, G.2.1, G.2.2.1, G.1.2.2.1.1.1.1, G.1.2.2.1.1.1.2⟩, G.1.2.2.2.1.F ht⟩) G.1.2.2.2.1.2.2 hdg)
  · intro w u H locs ls pc rest hp hw G
    have gg := G.2.2.2
    obtain ⟨ce, c1, c2, c3⟩ := xt_cell G.1 hw
    refine vx_widen (k := cN - nx) (n := cS - ns) (by omega) (by omega) ?_
    exact vx_out (fun x hx => (htab x hx).elim) hlocks c1 c2 c3 (fun t ht hW => ⟨(w, u), hp, ⟨⟨rfl, rfl, hw⟩, va_K.moved hW G.1.1, by rw [ht]; exact G.1.2.1, G.1.2.2.1.2, G.2.1, G.2.2.1, G.1.2.2.1.1.1.1, G.1.2.2.1.1.1.2⟩, G.1.2.2.2.1.F ht⟩) G.1.2.2.2.1.2.2 (Nat.le_refl _) (Nat.le_refl _)
end XTST
section XTCL
variable {p : Program} {l : Launch} {e : Env} {R : Room} {s : State} {m : MethodId} {args : Array Value} {below : List Frame} {meth : Method} {c : Code} {H : Heap} {locs : List Loc} {Q : State → Prop}
variable {pc : Nat} {ls : Array Slot} {rest : List Value} {cc : ByteArray} {nL : Nat} {D : va_G} {cA : Nat → ClassId} {a0 : Nat → Nat} {h0 : HK} {n0 m0 cN cS : Nat} {ad : Nat → Nat} {hk : HK} {nx ns : Nat} {A : Nat → Prop} {gi : GI} {gr : GR} {own : String} {idx : Nat} {y : MethodName} {bytes : ByteArray} {maxL fr lo n qn qs : Nat} {ret : Option FieldType} {As : List Value}
theorem xt_cVI {P : Int32 → XU → Prop} {PX : XV → Prop} {b ci N : Nat} {Rc : String} {Tc : u_T} {tyc : Nat → FieldType} (X : XC ci Rc Tc tyc N) (hp : (hk b).1 = 10 + ci) (hci : 10 + ci < 100) (C : CallFix p m c cc nL s args lw_all own) (B : XBA D cA a0 h0 n0 m0 cN cS ad hk nx ns A s gi gr H locs) (hRr : R.cells = cN - n0 ∧ R.slots = cS - m0) (hM : ∀ sz, vx_Met l y (ws_ y bytes maxL ret) ({ frames := fr, cells := qn - nx, slots := qs - ns, locals := lo } : Room) (va_Pc (.ref (ad b) :: As) (XPre D cA ad hk nx gi gr sz)) (va_Qi P (XPostA D cA ad hk nx sz) (XA ad nx sz)) (vx_X PX (XPostX D cA ad hk nx sz) (XA ad nx sz)) (qn - nx) (qs - ns) (XA ad nx sz))
    (h1 : Cond.methodLink own idx y ∈ lw_all) (h2 : Cond.instanceMethod y ∈ lw_all) (h3 : Cond.selects Rc y y ∈ lw_all) (h4 : Cond.initialized Rc ∈ lw_all) (h5 : Cond.code y bytes maxL ret ∈ lw_all) (hy : y.cls = Rc ∧ y.cls ≠ "java/lang/invoke/MethodHandle" ∧ y.cls ≠ "java/lang/invoke/VarHandle" ∧ (parseMethodDescriptor y.desc).map (fun d => d.parameters.length) = some n) (hq : nx ≤ qn ∧ qn ≤ cN ∧ ns ≤ qs ∧ qs ≤ cS) (hPn : ∀ (v : Int32) (u : XU), P v u → u.2.2.1 = qn ∧ u.2.2.2.1 = qs) (hPx : ∀ x : XV, PX x → x.2.2.2.1 = qn ∧ x.2.2.2.2.1 = qs) (hR : fr + 1 ≤ R.frames ∧ 8 + (maxL + 11) + lo ≤ R.locals) (hn : As.length = n) (hs : ls.size = nL) (hw : (rest.map fun v => v.category).sum ≤ 8) (hdg : decode cc pc = .ok (.invokevirtual idx, 3))
    (kx : ∀ (w : Nat) (u : XU) (H' : Heap) (locs' : List Loc), PX (w, u) → (u.2.1 w).1 = 15 → (∀ i, (hk i).1 < 1000 → u.1 i = ad i ∧ u.2.1 i = hk i) → XBA D cA a0 h0 n0 m0 cN cS u.1 u.2.1 u.2.2.1 u.2.2.2.1 A s u.2.2.2.2.1 u.2.2.2.2.2 H' locs' → vx_W p l e R s m args below meth c H' locs' (u.2.2.1 - n0) (u.2.2.2.1 - m0) Q (F0 m pc ls rest) (u.1 w))
    (kk : ∀ (v : Int32) (u : XU) (H' : Heap) (locs' : List Loc), P v u → (∀ i, (hk i).1 < 1000 → u.1 i = ad i ∧ u.2.1 i = hk i) → XBA D cA a0 h0 n0 m0 cN cS u.1 u.2.1 u.2.2.1 u.2.2.2.1 A s u.2.2.2.2.1 u.2.2.2.2.2 H' locs' → W p l e R s m args below meth c H' locs' (u.2.2.1 - n0) (u.2.2.2.1 - m0) Q (F0 m (pc + 3) ls (.int v :: rest))) : W p l e R s m args below meth c H locs (nx - n0) (ns - m0) Q (F0 m pc ls (As.reverse ++ .ref (ad b) :: rest)) := by
  have b := B.2.2.2
  have hz0 : nx - n0 + (qn - nx) ≤ R.cells ∧ ns - m0 + (qs - ns) ≤ R.slots := by omega
  refine vx_calli (vx_runV (As := As) (rest := rest) C (hM H.size) (cwV n C.2.2.2.2 (lw_V h1 h2 h3 h4 h5) rfl rfl rfl hy hR) ⟨xx_blind, xx_recv B.1 X hp hci, fun U hU hW => xx_pre B.1 U hU hW⟩ rfl hn hs rfl (lv_room hw) hdg hz0) B.1.2.2.2.1 (fun q _ h => xx_inA B.1 q h) (fun q h => xx_inA B.1 q h) (fun q _ h => xx_inA B.1 q h) (fun E ce q9 x t H1 locs1 ht hvm hp hB hz hk hS hc hv hf => ?_) (fun v u t H1 locs1 ht hvm hp hB hz hk hS => ?_)
  · obtain ⟨w, u⟩ := x
    obtain ⟨⟨-, hq9, hw⟩, hB⟩ := hB
    dsimp only at hq9 hw hB
    subst hq9
    have e := hPx (w, u) hp
    dsimp only at e
    refine vx_widen (k := u.2.2.1 - n0) (n := u.2.2.2.1 - m0) (by omega) (by omega) ?_
    exact kx w u H1 locs1 hp hw hB.2.2.2.1 (xa_back B hB ht hq e hS)
  · have e := hPn v u hp
    refine W.widen (k := u.2.2.1 - n0) (n := u.2.2.2.1 - m0) (by omega) (by omega) ?_
    exact kk v u H1 locs1 hp hB.2.2.2.1 (xa_back B hB ht hq e hS)
theorem xt_cVV {P : XU → Prop} {PX : XV → Prop} {b ci N : Nat} {Rc : String} {Tc : u_T} {tyc : Nat → FieldType} (X : XC ci Rc Tc tyc N) (hp : (hk b).1 = 10 + ci) (hci : 10 + ci < 100) (C : CallFix p m c cc nL s args lw_all own) (B : XBA D cA a0 h0 n0 m0 cN cS ad hk nx ns A s gi gr H locs) (hRr : R.cells = cN - n0 ∧ R.slots = cS - m0) (hM : ∀ sz, vx_Met l y (ws_ y bytes maxL ret) ({ frames := fr, cells := qn - nx, slots := qs - ns, locals := lo } : Room) (va_Pc (.ref (ad b) :: As) (XPre D cA ad hk nx gi gr sz)) (va_Qv P (XPostA D cA ad hk nx sz) (XA ad nx sz)) (vx_X PX (XPostX D cA ad hk nx sz) (XA ad nx sz)) (qn - nx) (qs - ns) (XA ad nx sz))
    (h1 : Cond.methodLink own idx y ∈ lw_all) (h2 : Cond.instanceMethod y ∈ lw_all) (h3 : Cond.selects Rc y y ∈ lw_all) (h4 : Cond.initialized Rc ∈ lw_all) (h5 : Cond.code y bytes maxL ret ∈ lw_all) (hy : y.cls = Rc ∧ y.cls ≠ "java/lang/invoke/MethodHandle" ∧ y.cls ≠ "java/lang/invoke/VarHandle" ∧ (parseMethodDescriptor y.desc).map (fun d => d.parameters.length) = some n) (hq : nx ≤ qn ∧ qn ≤ cN ∧ ns ≤ qs ∧ qs ≤ cS) (hPn : ∀ (u : XU), P u → u.2.2.1 = qn ∧ u.2.2.2.1 = qs) (hPx : ∀ x : XV, PX x → x.2.2.2.1 = qn ∧ x.2.2.2.2.1 = qs) (hR : fr + 1 ≤ R.frames ∧ 8 + (maxL + 11) + lo ≤ R.locals) (hn : As.length = n) (hs : ls.size = nL) (hw : (rest.map fun v => v.category).sum ≤ 8) (hdg : decode cc pc = .ok (.invokevirtual idx, 3))
    (kx : ∀ (w : Nat) (u : XU) (H' : Heap) (locs' : List Loc), PX (w, u) → (u.2.1 w).1 = 15 → (∀ i, (hk i).1 < 1000 → u.1 i = ad i ∧ u.2.1 i = hk i) → XBA D cA a0 h0 n0 m0 cN cS u.1 u.2.1 u.2.2.1 u.2.2.2.1 A s u.2.2.2.2.1 u.2.2.2.2.2 H' locs' → vx_W p l e R s m args below meth c H' locs' (u.2.2.1 - n0) (u.2.2.2.1 - m0) Q (F0 m pc ls rest) (u.1 w))
    (kk : ∀ (u : XU) (H' : Heap) (locs' : List Loc), P u → (∀ i, (hk i).1 < 1000 → u.1 i = ad i ∧ u.2.1 i = hk i) → XBA D cA a0 h0 n0 m0 cN cS u.1 u.2.1 u.2.2.1 u.2.2.2.1 A s u.2.2.2.2.1 u.2.2.2.2.2 H' locs' → W p l e R s m args below meth c H' locs' (u.2.2.1 - n0) (u.2.2.2.1 - m0) Q (F0 m (pc + 3) ls (rest))) : W p l e R s m args below meth c H locs (nx - n0) (ns - m0) Q (F0 m pc ls (As.reverse ++ .ref (ad b) :: rest)) := by
  have b := B.2.2.2
  have hz0 : nx - n0 + (qn - nx) ≤ R.cells ∧ ns - m0 + (qs - ns) ≤ R.slots := by omega
  refine vx_callv (vx_runV (As := As) (rest := rest) C (hM H.size) (cwV n C.2.2.2.2 (lw_V h1 h2 h3 h4 h5) rfl rfl rfl hy hR) ⟨xx_blind, xx_recv B.1 X hp hci, fun U hU hW => xx_pre B.1 U hU hW⟩ rfl hn hs rfl (lv_room hw) hdg hz0) B.1.2.2.2.1 (fun q _ h => xx_inA B.1 q h) (fun q h => xx_inA B.1 q h) (fun q _ h => xx_inA B.1 q h) (fun E ce q9 x t H1 locs1 ht hvm hp hB hz hk hS hc hv hf => ?_) (fun u t H1 locs1 ht hvm hp hB hz hk hS => ?_)
  · obtain ⟨w, u⟩ := x
    obtain ⟨⟨-, hq9, hw⟩, hB⟩ := hB
    dsimp only at hq9 hw hB
    subst hq9
    have e := hPx (w, u) hp
    dsimp only at e
    refine vx_widen (k := u.2.2.1 - n0) (n := u.2.2.2.1 - m0) (by omega) (by omega) ?_
    exact kx w u H1 locs1 hp hw hB.2.2.2.1 (xa_back B hB ht hq e hS)
  · have e := hPn u hp
    refine W.widen (k := u.2.2.1 - n0) (n := u.2.2.2.1 - m0) (by omega) (by omega) ?_
    exact kk u H1 locs1 hp hB.2.2.2.1 (xa_back B hB ht hq e hS)
theorem xt_cVR {P : Option Nat → XU → Prop} {PX : XV → Prop} {b ci N : Nat} {Rc : String} {Tc : u_T} {tyc : Nat → FieldType} (X : XC ci Rc Tc tyc N) (hp : (hk b).1 = 10 + ci) (hci : 10 + ci < 100) (C : CallFix p m c cc nL s args lw_all own) (B : XBA D cA a0 h0 n0 m0 cN cS ad hk nx ns A s gi gr H locs) (hRr : R.cells = cN - n0 ∧ R.slots = cS - m0) (hM : ∀ sz, vx_Met l y (ws_ y bytes maxL ret) ({ frames := fr, cells := qn - nx, slots := qs - ns, locals := lo } : Room) (va_Pc (.ref (ad b) :: As) (XPre D cA ad hk nx gi gr sz)) (va_Qq (fun o u => ∃ v : Option Nat, o = v.map u.1 ∧ P v u) (XPostA D cA ad hk nx sz) (XA ad nx sz)) (vx_X PX (XPostX D cA ad hk nx sz) (XA ad nx sz)) (qn - nx) (qs - ns) (XA ad nx sz))
    (h1 : Cond.methodLink own idx y ∈ lw_all) (h2 : Cond.instanceMethod y ∈ lw_all) (h3 : Cond.selects Rc y y ∈ lw_all) (h4 : Cond.initialized Rc ∈ lw_all) (h5 : Cond.code y bytes maxL ret ∈ lw_all) (hy : y.cls = Rc ∧ y.cls ≠ "java/lang/invoke/MethodHandle" ∧ y.cls ≠ "java/lang/invoke/VarHandle" ∧ (parseMethodDescriptor y.desc).map (fun d => d.parameters.length) = some n) (hq : nx ≤ qn ∧ qn ≤ cN ∧ ns ≤ qs ∧ qs ≤ cS) (hPn : ∀ (v : Option Nat) (u : XU), P v u → u.2.2.1 = qn ∧ u.2.2.2.1 = qs) (hPx : ∀ x : XV, PX x → x.2.2.2.1 = qn ∧ x.2.2.2.2.1 = qs) (hR : fr + 1 ≤ R.frames ∧ 8 + (maxL + 11) + lo ≤ R.locals) (hn : As.length = n) (hs : ls.size = nL) (hw : (rest.map fun v => v.category).sum ≤ 8) (hdg : decode cc pc = .ok (.invokevirtual idx, 3))
    (kx : ∀ (w : Nat) (u : XU) (H' : Heap) (locs' : List Loc), PX (w, u) → (u.2.1 w).1 = 15 → (∀ i, (hk i).1 < 1000 → u.1 i = ad i ∧ u.2.1 i = hk i) → XBA D cA a0 h0 n0 m0 cN cS u.1 u.2.1 u.2.2.1 u.2.2.2.1 A s u.2.2.2.2.1 u.2.2.2.2.2 H' locs' → vx_W p l e R s m args below meth c H' locs' (u.2.2.1 - n0) (u.2.2.2.1 - m0) Q (F0 m pc ls rest) (u.1 w))
    (kk : ∀ (v : Option Nat) (u : XU) (H' : Heap) (locs' : List Loc), P v u → (∀ i, (hk i).1 < 1000 → u.1 i = ad i ∧ u.2.1 i = hk i) → XBA D cA a0 h0 n0 m0 cN cS u.1 u.2.1 u.2.2.1 u.2.2.2.1 A s u.2.2.2.2.1 u.2.2.2.2.2 H' locs' → W p l e R s m args below meth c H' locs' (u.2.2.1 - n0) (u.2.2.2.1 - m0) Q (F0 m (pc + 3) ls (va_rf (v.map u.1) :: rest))) : W p l e R s m args below meth c H locs (nx - n0) (ns - m0) Q (F0 m pc ls (As.reverse ++ .ref (ad b) :: rest)) := by
  have b := B.2.2.2
  have hz0 : nx - n0 + (qn - nx) ≤ R.cells ∧ ns - m0 + (qs - ns) ≤ R.slots := by omega
  refine vx_callq (vx_runV (As := As) (rest := rest) C (hM H.size) (cwV n C.2.2.2.2 (lw_V h1 h2 h3 h4 h5) rfl rfl rfl hy hR) ⟨xx_blind, xx_recv B.1 X hp hci, fun U hU hW => xx_pre B.1 U hU hW⟩ rfl hn hs rfl (lv_room hw) hdg hz0) B.1.2.2.2.1 (fun q _ h => xx_inA B.1 q h) (fun q h => xx_inA B.1 q h) (fun q _ h => xx_inA B.1 q h) (fun E ce q9 x t H1 locs1 ht hvm hp hB hz hk hS hc hv hf => ?_) (fun v u t H1 locs1 ht hvm hp hB hz hk hS => ?_)
  · obtain ⟨w, u⟩ := x
    obtain ⟨⟨-, hq9, hw⟩, hB⟩ := hB
    dsimp only at hq9 hw hB
    subst hq9
    have e := hPx (w, u) hp
    dsimp only at e
    refine vx_widen (k := u.2.2.1 - n0) (n := u.2.2.2.1 - m0) (by omega) (by omega) ?_
    exact kx w u H1 locs1 hp hw hB.2.2.2.1 (xa_back B hB ht hq e hS)
  · obtain ⟨v, rfl, hp⟩ := hp
    have e := hPn v u hp
    refine W.widen (k := u.2.2.1 - n0) (n := u.2.2.2.1 - m0) (by omega) (by omega) ?_
    exact kk v u H1 locs1 hp hB.2.2.2.1 (xa_back B hB ht hq e hS)
end XTCL

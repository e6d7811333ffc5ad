/-! THE MODEL'S METHODS: how a contract is begun, how a method is called -/
set_option maxRecDepth 100000
section MST
variable {D : va_G} {cA : Nat → ClassId} {ad : Nat → Nat} {gi : GI} {gl : GL} {l : Launch}
theorem mm_blind {av : List Value} {sz : Nat} : FrameBlind (va_Pc av (MPre D cA ad gi gl sz)) := fun a U g mk q => by
  obtain ⟨q0, q1, qK, qP, qD⟩ := q
  exact ⟨q0, q1, va_K.moved (u := U) (U := U.calling g mk a) (Vm.Alike.refl U.vm) qK, qP, qD⟩

theorem mm_stI {y : MethodName} {cc : ByteArray} {nL fr lo : Nat} {av : List Value} {P : Int32 → GI × GL → Prop} (hy : plainName y.cls = true) (hc : y.cls = RX4) (hn : (lg_sl av).length ≤ nL)
    (body : ∀ (p : Program) (e : Env) (s : State) (m : MethodId) (args : Array Value) (below : List Frame) (meth : Method) (c : Code) (R : Room) (Q : State → Prop) (A : Nat → Prop) (ls : Array Slot), CallFix p m c cc nL s args lw_all RX4 → fr ≤ R.frames → lo ≤ R.locals → MB D cA ad A s gi gl s.heap [] →
      (∀ (v : Int32) (g' : GI) (l' : GL) (H : Heap) (locs : List Loc) (ls : Array Slot) (pc : Nat), P v (g', l') → MB D cA ad A s g' l' H locs → decode cc pc = .ok (.ireturn, 1) → W p l e R s m args below meth c H locs 0 0 Q (F0 m pc ls [.int v])) → lv_has ls nL (lv_args 0 av) → W p l e R s m args below meth c s.heap [] 0 0 Q (F0 m 0 ls [])) (sz : Nat) :
    Met l y (ws_ y cc nL (some .int)) ({ frames := fr, cells := 0, slots := 0, locals := lo } : Room) (va_Pc av (MPre D cA ad gi gl sz)) (va_Qi P (MPost D cA ad) (MA ad sz)) 0 0 (MA ad sz) := by
  refine Met.ofW (cc := cc) (maxL := nL) (ret := some .int) hy rfl ?_
  intro p e s m args below meth c s₁ B hml hv
  obtain ⟨rfl, hsz, hK, hP, hD⟩ := hv
  have hx := B.exec
  have hb := B.bytes
  have hr := B.returns
  have hts := atoms_spec (ws := ws_ y cc nL (some .int)) B.pre
  have hts : ∀ w ∈ lw_all, w.before _ s = true := fun w h => hts w (List.mem_cons_of_mem _ h)
  have hown : s.vm.findClass RX4 = some m.cls := by rw [← hc]; exact findClass_of_methodNamed B.named
  have hlocks := B.notSynchronized
  have hl := lv_entry av (n := nL) hn
  rw [lg_entry_eq]
  subst hsz
  refine body p e s m _ below meth c _ _ (MA ad s.heap.size) _ ⟨hx, hb, hml, hown, hts⟩ (Nat.le_refl _) (Nat.le_refl _) ⟨hK, hP, ⟨⟨hD.1, fun i hi => Or.inl ⟨i, hi, rfl⟩⟩, fun q h => Or.inr h⟩, va_S.rf⟩ ?_ hl
  intro v g' l' H locs ls pc hp G hdg
  exact W.iret hx hb hr (fun t ht hW => ⟨⟨v, (g', l'), rfl, hp, va_K.moved hW.alike G.1, by rw [ht]; exact G.2.1⟩, G.2.2.2.F ht⟩) G.2.2.2.2.2 hdg
theorem mm_stZ {y : MethodName} {cc : ByteArray} {nL fr lo : Nat} {av : List Value} {P : Int32 → GI × GL → Prop} (hy : plainName y.cls = true) (hc : y.cls = RX4) (hn : (lg_sl av).length ≤ nL)
    (body : ∀ (p : Program) (e : Env) (s : State) (m : MethodId) (args : Array Value) (below : List Frame) (meth : Method) (c : Code) (R : Room) (Q : State → Prop) (A : Nat → Prop) (ls : Array Slot), CallFix p m c cc nL s args lw_all RX4 → fr ≤ R.frames → lo ≤ R.locals → MB D cA ad A s gi gl s.heap [] →
      (∀ (v : Int32) (g' : GI) (l' : GL) (H : Heap) (locs : List Loc) (ls : Array Slot) (pc : Nat), P v (g', l') → (hz : v = 0 ∨ v = 1) → MB D cA ad A s g' l' H locs → decode cc pc = .ok (.ireturn, 1) → W p l e R s m args below meth c H locs 0 0 Q (F0 m pc ls [.int v])) → lv_has ls nL (lv_args 0 av) → W p l e R s m args below meth c s.heap [] 0 0 Q (F0 m 0 ls [])) (sz : Nat) :
    Met l y (ws_ y cc nL (some .boolean)) ({ frames := fr, cells := 0, slots := 0, locals := lo } : Room) (va_Pc av (MPre D cA ad gi gl sz)) (va_Qi P (MPost D cA ad) (MA ad sz)) 0 0 (MA ad sz) := by
  refine Met.ofW (cc := cc) (maxL := nL) (ret := some .boolean) hy rfl ?_
  intro p e s m args below meth c s₁ B hml hv
  obtain ⟨rfl, hsz, hK, hP, hD⟩ := hv
  have hx := B.exec
  have hb := B.bytes
  have hr := B.returns
  have hts := atoms_spec (ws := ws_ y cc nL (some .boolean)) B.pre
  have hts : ∀ w ∈ lw_all, w.before _ s = true := fun w h => hts w (List.mem_cons_of_mem _ h)
  have hown : s.vm.findClass RX4 = some m.cls := by rw [← hc]; exact findClass_of_methodNamed B.named
  have hlocks := B.notSynchronized
  have hl := lv_entry av (n := nL) hn
  rw [lg_entry_eq]
  subst hsz
  refine body p e s m _ below meth c _ _ (MA ad s.heap.size) _ ⟨hx, hb, hml, hown, hts⟩ (Nat.le_refl _) (Nat.le_refl _) ⟨hK, hP, ⟨⟨hD.1, fun i hi => Or.inl ⟨i, hi, rfl⟩⟩, fun q h => Or.inr h⟩, va_S.rf⟩ ?_ hl
  intro v g' l' H locs ls pc hp hz G hdg
  exact W.zret hx hb hr (by rcases hz with rfl | rfl <;> rfl) (fun t ht hW => ⟨⟨v, (g', l'), rfl, hp, va_K.moved hW.alike G.1, by rw [ht]; exact G.2.1⟩, G.2.2.2.F ht⟩) G.2.2.2.2.2 hdg
theorem mm_stJ {y : MethodName} {cc : ByteArray} {nL fr lo : Nat} {av : List Value} {P : Int64 → GI × GL → Prop} (hy : plainName y.cls = true) (hc : y.cls = RX4) (hn : (lg_sl av).length ≤ nL)
    (body : ∀ (p : Program) (e : Env) (s : State) (m : MethodId) (args : Array Value) (below : List Frame) (meth : Method) (c : Code) (R : Room) (Q : State → Prop) (A : Nat → Prop) (ls : Array Slot), CallFix p m c cc nL s args lw_all RX4 → fr ≤ R.frames → lo ≤ R.locals → MB D cA ad A s gi gl s.heap [] →
      (∀ (v : Int64) (g' : GI) (l' : GL) (H : Heap) (locs : List Loc) (ls : Array Slot) (pc : Nat), P v (g', l') → MB D cA ad A s g' l' H locs → decode cc pc = .ok (.lreturn, 1) → W p l e R s m args below meth c H locs 0 0 Q (F0 m pc ls [.long v])) → lv_has ls nL (lv_args 0 av) → W p l e R s m args below meth c s.heap [] 0 0 Q (F0 m 0 ls [])) (sz : Nat) :
    Met l y (ws_ y cc nL (some .long)) ({ frames := fr, cells := 0, slots := 0, locals := lo } : Room) (va_Pc av (MPre D cA ad gi gl sz)) (va_Ql P (MPost D cA ad) (MA ad sz)) 0 0 (MA ad sz) := by
  refine Met.ofW (cc := cc) (maxL := nL) (ret := some .long) hy rfl ?_
  intro p e s m args below meth c s₁ B hml hv
  obtain ⟨rfl, hsz, hK, hP, hD⟩ := hv
  have hx := B.exec
  have hb := B.bytes
  have hr := B.returns
  have hts := atoms_spec (ws := ws_ y cc nL (some .long)) B.pre
  have hts : ∀ w ∈ lw_all, w.before _ s = true := fun w h => hts w (List.mem_cons_of_mem _ h)
  have hown : s.vm.findClass RX4 = some m.cls := by rw [← hc]; exact findClass_of_methodNamed B.named
  have hlocks := B.notSynchronized
  have hl := lv_entry av (n := nL) hn
  rw [lg_entry_eq]
  subst hsz
  refine body p e s m _ below meth c _ _ (MA ad s.heap.size) _ ⟨hx, hb, hml, hown, hts⟩ (Nat.le_refl _) (Nat.le_refl _) ⟨hK, hP, ⟨⟨hD.1, fun i hi => Or.inl ⟨i, hi, rfl⟩⟩, fun q h => Or.inr h⟩, va_S.rf⟩ ?_ hl
  intro v g' l' H locs ls pc hp G hdg
  exact W.lret hx hb hr (fun t ht hW => ⟨⟨v, (g', l'), rfl, hp, va_K.moved hW.alike G.1, by rw [ht]; exact G.2.1⟩, G.2.2.2.F ht⟩) G.2.2.2.2.2 hdg
theorem mm_stV {y : MethodName} {cc : ByteArray} {nL fr lo : Nat} {av : List Value} {P : GI × GL → Prop} (hy : plainName y.cls = true) (hc : y.cls = RX4) (hn : (lg_sl av).length ≤ nL)
    (body : ∀ (p : Program) (e : Env) (s : State) (m : MethodId) (args : Array Value) (below : List Frame) (meth : Method) (c : Code) (R : Room) (Q : State → Prop) (A : Nat → Prop) (ls : Array Slot), CallFix p m c cc nL s args lw_all RX4 → fr ≤ R.frames → lo ≤ R.locals → MB D cA ad A s gi gl s.heap [] →
      (∀ (g' : GI) (l' : GL) (H : Heap) (locs : List Loc) (ls : Array Slot) (pc : Nat), P (g', l') → MB D cA ad A s g' l' H locs → decode cc pc = .ok (.return_, 1) → W p l e R s m args below meth c H locs 0 0 Q (F0 m pc ls [])) → lv_has ls nL (lv_args 0 av) → W p l e R s m args below meth c s.heap [] 0 0 Q (F0 m 0 ls [])) (sz : Nat) :
    Met l y (ws_ y cc nL (none)) ({ frames := fr, cells := 0, slots := 0, locals := lo } : Room) (va_Pc av (MPre D cA ad gi gl sz)) (va_Qv P (MPost D cA ad) (MA ad sz)) 0 0 (MA ad sz) := by
  refine Met.ofW (cc := cc) (maxL := nL) (ret := none) hy rfl ?_
  intro p e s m args below meth c s₁ B hml hv
  obtain ⟨rfl, hsz, hK, hP, hD⟩ := hv
  have hx := B.exec
  have hb := B.bytes
  have hr := B.returns
  have hts := atoms_spec (ws := ws_ y cc nL (none)) B.pre
  have hts : ∀ w ∈ lw_all, w.before _ s = true := fun w h => hts w (List.mem_cons_of_mem _ h)
  have hown : s.vm.findClass RX4 = some m.cls := by rw [← hc]; exact findClass_of_methodNamed B.named
  have hlocks := B.notSynchronized
  have hl := lv_entry av (n := nL) hn
  rw [lg_entry_eq]
  subst hsz
  refine body p e s m _ below meth c _ _ (MA ad s.heap.size) _ ⟨hx, hb, hml, hown, hts⟩ (Nat.le_refl _) (Nat.le_refl _) ⟨hK, hP, ⟨⟨hD.1, fun i hi => Or.inl ⟨i, hi, rfl⟩⟩, fun q h => Or.inr h⟩, va_S.rf⟩ ?_ hl
  intro g' l' H locs ls pc hp G hdg
  exact W.vret hx hb hr (fun t ht hW => ⟨⟨(g', l'), rfl, hp, va_K.moved hW.alike G.1, by rw [ht]; exact G.2.1⟩, G.2.2.2.F ht⟩) G.2.2.2.2.2 hdg
end MST
section MCA
variable {p : Program} {l : Launch} {e : Env} {R : Room} {s : State} {m : MethodId} {args : Array Value} {below : List Frame} {meth : Method} {c : Code} {H : Heap} {locs : List Loc} {Q : State → Prop}
variable {pc : Nat} {ls : Array Slot} {rest : List Value} {cc : ByteArray} {nL : Nat} {D : va_G} {cA : Nat → ClassId} {ad : Nat → Nat} {A : Nat → Prop} {gi : GI} {gl : GL} {y : MethodName} {bytes : ByteArray} {maxL idx fr lo n : Nat} {ret : Option FieldType} {As : List Value}
theorem mm_inA (B : MB D cA ad A s gi gl H locs) (q : Nat) (h : MA ad H.size q) : A q := by
  rcases h with ⟨i, h1, rfl⟩ | h
  · exact B.2.2.1.1.2 i h1
  · exact B.2.2.1.2 q (Nat.le_trans B.2.2.2.1 h)
theorem mm_cVI {P : Int32 → GI × GL → Prop} (C : CallFix p m c cc nL s args lw_all RX4) (B : MB D cA ad A s gi gl H locs) (hM : ∀ sz, Met l y (ws_ y bytes maxL ret) ({ frames := fr, cells := 0, slots := 0, locals := lo } : Room) (va_Pc (.ref (ad 0) :: As) (MPre D cA ad gi gl sz)) (va_Qi P (MPost D cA ad) (MA ad sz)) 0 0 (MA ad sz))
    (h1 : Cond.methodLink RX4 idx y ∈ lw_all) (h2 : Cond.instanceMethod y ∈ lw_all) (h3 : Cond.selects RX4 y y ∈ lw_all) (h4 : Cond.initialized RX4 ∈ lw_all) (h5 : Cond.code y bytes maxL ret ∈ lw_all) (hy : y.cls = RX4 ∧ y.cls ≠ "java/lang/invoke/MethodHandle" ∧ y.cls ≠ "java/lang/invoke/VarHandle" ∧ (parseMethodDescriptor y.desc).map (fun d => d.parameters.length) = some n) (hR : fr + 1 ≤ R.frames ∧ 8 + (maxL + 11) + lo ≤ R.locals) (hn : As.length = n) (hs : ls.size = nL) (hw : (rest.map fun v => v.category).sum ≤ 8) (hdg : decode cc pc = .ok (.invokevirtual idx, 3))
    (kk : ∀ (v : Int32) (u : GI × GL) (H' : Heap) (locs' : List Loc), P v u → MB D cA ad A s u.1 u.2 H' locs' → W p l e R s m args below meth c H' locs' 0 0 Q (F0 m (pc + 3) ls (.int v :: rest))) : W p l e R s m args below meth c H locs 0 0 Q (F0 m pc ls (As.reverse ++ .ref (ad 0) :: rest)) := by
  refine va_calli (va_runV (As := As) (rest := rest) C (hM H.size) (cwV n C.2.2.2.2 (lw_V h1 h2 h3 h4 h5) rfl rfl rfl hy hR) ⟨mm_blind, va_recv B.1 B.2.1 (ci := 0) (q0 := 0) (q := (RX4, TX4, 83)) rfl Mw_0, fun U hU hW => ⟨rfl, by rw [hU], va_K.moved hW.alike B.1, by rw [hU]; exact B.2.1, ⟨B.2.2.1.1.1, fun _ _ => trivial⟩⟩⟩ rfl hn hs rfl (lv_room hw) hdg ⟨Nat.zero_le _, Nat.zero_le _⟩) B.2.2.2 (fun q _ h => mm_inA B q h) (fun q h => mm_inA B q h) (fun v u t H1 locs1 ht hvm hp hB hz hk hS => ?_)
  exact kk v u H1 locs1 hp ⟨B.1, by rw [← ht]; exact hB.2, B.2.2.1, hS⟩
theorem mm_cSI {P : Int32 → GI × GL → Prop} (C : CallFix p m c cc nL s args lw_all RX4) (B : MB D cA ad A s gi gl H locs) (hM : ∀ sz, Met l y (ws_ y bytes maxL ret) ({ frames := fr, cells := 0, slots := 0, locals := lo } : Room) (va_Pc (As) (MPre D cA ad gi gl sz)) (va_Qi P (MPost D cA ad) (MA ad sz)) 0 0 (MA ad sz))
    (h1 : Cond.methodLink RX4 idx y ∈ lw_all) (h2 : Cond.static y ∈ lw_all) (h3 : Cond.initialized y.cls ∈ lw_all) (h5 : Cond.code y bytes maxL ret ∈ lw_all) (hy : y.cls ≠ "java/lang/invoke/MethodHandle" ∧ y.cls ≠ "java/lang/invoke/VarHandle" ∧ (parseMethodDescriptor y.desc).map (fun d => d.parameters.length) = some n) (hR : fr + 1 ≤ R.frames ∧ 8 + (maxL + 11) + lo ≤ R.locals) (hn : As.length = n) (hs : ls.size = nL) (hw : (rest.map fun v => v.category).sum ≤ 8) (hdg : decode cc pc = .ok (.invokestatic idx, 3))
    (kk : ∀ (v : Int32) (u : GI × GL) (H' : Heap) (locs' : List Loc), P v u → MB D cA ad A s u.1 u.2 H' locs' → W p l e R s m args below meth c H' locs' 0 0 Q (F0 m (pc + 3) ls (.int v :: rest))) : W p l e R s m args below meth c H locs 0 0 Q (F0 m pc ls (As.reverse ++ rest)) := by
  refine va_calli (va_runS (As := As) (rest := rest) C (hM H.size) (va_cwS n C.2.2.2.2 (lw_S h1 h2 h3 h5) rfl rfl rfl hy hR) ⟨mm_blind, fun U hU hW => ⟨rfl, by rw [hU], va_K.moved hW.alike B.1, by rw [hU]; exact B.2.1, ⟨B.2.2.1.1.1, fun _ _ => trivial⟩⟩⟩ rfl hn hs rfl (lv_room hw) hdg ⟨Nat.zero_le _, Nat.zero_le _⟩) B.2.2.2 (fun q _ h => mm_inA B q h) (fun q h => mm_inA B q h) (fun v u t H1 locs1 ht hvm hp hB hz hk hS => ?_)
  exact kk v u H1 locs1 hp ⟨B.1, by rw [← ht]; exact hB.2, B.2.2.1, hS⟩
theorem mm_cVJ {P : Int64 → GI × GL → Prop} (C : CallFix p m c cc nL s args lw_all RX4) (B : MB D cA ad A s gi gl H locs) (hM : ∀ sz, Met l y (ws_ y bytes maxL ret) ({ frames := fr, cells := 0, slots := 0, locals := lo } : Room) (va_Pc (.ref (ad 0) :: As) (MPre D cA ad gi gl sz)) (va_Ql P (MPost D cA ad) (MA ad sz)) 0 0 (MA ad sz))
    (h1 : Cond.methodLink RX4 idx y ∈ lw_all) (h2 : Cond.instanceMethod y ∈ lw_all) (h3 : Cond.selects RX4 y y ∈ lw_all) (h4 : Cond.initialized RX4 ∈ lw_all) (h5 : Cond.code y bytes maxL ret ∈ lw_all) (hy : y.cls = RX4 ∧ y.cls ≠ "java/lang/invoke/MethodHandle" ∧ y.cls ≠ "java/lang/invoke/VarHandle" ∧ (parseMethodDescriptor y.desc).map (fun d => d.parameters.length) = some n) (hR : fr + 1 ≤ R.frames ∧ 8 + (maxL + 11) + lo ≤ R.locals) (hn : As.length = n) (hs : ls.size = nL) (hw : (rest.map fun v => v.category).sum ≤ 8) (hdg : decode cc pc = .ok (.invokevirtual idx, 3))
    (kk : ∀ (v : Int64) (u : GI × GL) (H' : Heap) (locs' : List Loc), P v u → MB D cA ad A s u.1 u.2 H' locs' → W p l e R s m args below meth c H' locs' 0 0 Q (F0 m (pc + 3) ls (.long v :: rest))) : W p l e R s m args below meth c H locs 0 0 Q (F0 m pc ls (As.reverse ++ .ref (ad 0) :: rest)) := by
  refine va_calll (va_runV (As := As) (rest := rest) C (hM H.size) (cwV n C.2.2.2.2 (lw_V h1 h2 h3 h4 h5) rfl rfl rfl hy hR) ⟨mm_blind, va_recv B.1 B.2.1 (ci := 0) (q0 := 0) (q := (RX4, TX4, 83)) rfl Mw_0, fun U hU hW => ⟨rfl, by rw [hU], va_K.moved hW.alike B.1, by rw [hU]; exact B.2.1, ⟨B.2.2.1.1.1, fun _ _ => trivial⟩⟩⟩ rfl hn hs rfl (lv_room hw) hdg ⟨Nat.zero_le _, Nat.zero_le _⟩) B.2.2.2 (fun q _ h => mm_inA B q h) (fun q h => mm_inA B q h) (fun v u t H1 locs1 ht hvm hp hB hz hk hS => ?_)
  exact kk v u H1 locs1 hp ⟨B.1, by rw [← ht]; exact hB.2, B.2.2.1, hS⟩
theorem mm_cSJ {P : Int64 → GI × GL → Prop} (C : CallFix p m c cc nL s args lw_all RX4) (B : MB D cA ad A s gi gl H locs) (hM : ∀ sz, Met l y (ws_ y bytes maxL ret) ({ frames := fr, cells := 0, slots := 0, locals := lo } : Room) (va_Pc (As) (MPre D cA ad gi gl sz)) (va_Ql P (MPost D cA ad) (MA ad sz)) 0 0 (MA ad sz))
    (h1 : Cond.methodLink RX4 idx y ∈ lw_all) (h2 : Cond.static y ∈ lw_all) (h3 : Cond.initialized y.cls ∈ lw_all) (h5 : Cond.code y bytes maxL ret ∈ lw_all) (hy : y.cls ≠ "java/lang/invoke/MethodHandle" ∧ y.cls ≠ "java/lang/invoke/VarHandle" ∧ (parseMethodDescriptor y.desc).map (fun d => d.parameters.length) = some n) (hR : fr + 1 ≤ R.frames ∧ 8 + (maxL + 11) + lo ≤ R.locals) (hn : As.length = n) (hs : ls.size = nL) (hw : (rest.map fun v => v.category).sum ≤ 8) (hdg : decode cc pc = .ok (.invokestatic idx, 3))
    (kk : ∀ (v : Int64) (u : GI × GL) (H' : Heap) (locs' : List Loc), P v u → MB D cA ad A s u.1 u.2 H' locs' → W p l e R s m args below meth c H' locs' 0 0 Q (F0 m (pc + 3) ls (.long v :: rest))) : W p l e R s m args below meth c H locs 0 0 Q (F0 m pc ls (As.reverse ++ rest)) := by
  refine va_calll (va_runS (As := As) (rest := rest) C (hM H.size) (va_cwS n C.2.2.2.2 (lw_S h1 h2 h3 h5) rfl rfl rfl hy hR) ⟨mm_blind, fun U hU hW => ⟨rfl, by rw [hU], va_K.moved hW.alike B.1, by rw [hU]; exact B.2.1, ⟨B.2.2.1.1.1, fun _ _ => trivial⟩⟩⟩ rfl hn hs rfl (lv_room hw) hdg ⟨Nat.zero_le _, Nat.zero_le _⟩) B.2.2.2 (fun q _ h => mm_inA B q h) (fun q h => mm_inA B q h) (fun v u t H1 locs1 ht hvm hp hB hz hk hS => ?_)
  exact kk v u H1 locs1 hp ⟨B.1, by rw [← ht]; exact hB.2, B.2.2.1, hS⟩
theorem mm_cVV {P : GI × GL → Prop} (C : CallFix p m c cc nL s args lw_all RX4) (B : MB D cA ad A s gi gl H locs) (hM : ∀ sz, Met l y (ws_ y bytes maxL ret) ({ frames := fr, cells := 0, slots := 0, locals := lo } : Room) (va_Pc (.ref (ad 0) :: As) (MPre D cA ad gi gl sz)) (va_Qv P (MPost D cA ad) (MA ad sz)) 0 0 (MA ad sz))
    (h1 : Cond.methodLink RX4 idx y ∈ lw_all) (h2 : Cond.instanceMethod y ∈ lw_all) (h3 : Cond.selects RX4 y y ∈ lw_all) (h4 : Cond.initialized RX4 ∈ lw_all) (h5 : Cond.code y bytes maxL ret ∈ lw_all) (hy : y.cls = RX4 ∧ y.cls ≠ "java/lang/invoke/MethodHandle" ∧ y.cls ≠ "java/lang/invoke/VarHandle" ∧ (parseMethodDescriptor y.desc).map (fun d => d.parameters.length) = some n) (hR : fr + 1 ≤ R.frames ∧ 8 + (maxL + 11) + lo ≤ R.locals) (hn : As.length = n) (hs : ls.size = nL) (hw : (rest.map fun v => v.category).sum ≤ 8) (hdg : decode cc pc = .ok (.invokevirtual idx, 3))
    (kk : ∀ (u : GI × GL) (H' : Heap) (locs' : List Loc), P u → MB D cA ad A s u.1 u.2 H' locs' → W p l e R s m args below meth c H' locs' 0 0 Q (F0 m (pc + 3) ls (rest))) : W p l e R s m args below meth c H locs 0 0 Q (F0 m pc ls (As.reverse ++ .ref (ad 0) :: rest)) := by
  refine va_callv (va_runV (As := As) (rest := rest) C (hM H.size) (cwV n C.2.2.2.2 (lw_V h1 h2 h3 h4 h5) rfl rfl rfl hy hR) ⟨mm_blind, va_recv B.1 B.2.1 (ci := 0) (q0 := 0) (q := (RX4, TX4, 83)) rfl Mw_0, fun U hU hW => ⟨rfl, by rw [hU], va_K.moved hW.alike B.1, by rw [hU]; exact B.2.1, ⟨B.2.2.1.1.1, fun _ _ => trivial⟩⟩⟩ rfl hn hs rfl (lv_room hw) hdg ⟨Nat.zero_le _, Nat.zero_le _⟩) B.2.2.2 (fun q _ h => mm_inA B q h) (fun q h => mm_inA B q h) (fun u t H1 locs1 ht hvm hp hB hz hk hS => ?_)
  exact kk u H1 locs1 hp ⟨B.1, by rw [← ht]; exact hB.2, B.2.2.1, hS⟩
theorem mm_cSV {P : GI × GL → Prop} (C : CallFix p m c cc nL s args lw_all RX4) (B : MB D cA ad A s gi gl H locs) (hM : ∀ sz, Met l y (ws_ y bytes maxL ret) ({ frames := fr, cells := 0, slots := 0, locals := lo } : Room) (va_Pc (As) (MPre D cA ad gi gl sz)) (va_Qv P (MPost D cA ad) (MA ad sz)) 0 0 (MA ad sz))
    (h1 : Cond.methodLink RX4 idx y ∈ lw_all) (h2 : Cond.static y ∈ lw_all) (h3 : Cond.initialized y.cls ∈ lw_all) (h5 : Cond.code y bytes maxL ret ∈ lw_all) (hy : y.cls ≠ "java/lang/invoke/MethodHandle" ∧ y.cls ≠ "java/lang/invoke/VarHandle" ∧ (parseMethodDescriptor y.desc).map (fun d => d.parameters.length) = some n) (hR : fr + 1 ≤ R.frames ∧ 8 + (maxL + 11) + lo ≤ R.locals) (hn : As.length = n) (hs : ls.size = nL) (hw : (rest.map fun v => v.category).sum ≤ 8) (hdg : decode cc pc = .ok (.invokestatic idx, 3))
    (kk : ∀ (u : GI × GL) (H' : Heap) (locs' : List Loc), P u → MB D cA ad A s u.1 u.2 H' locs' → W p l e R s m args below meth c H' locs' 0 0 Q (F0 m (pc + 3) ls (rest))) : W p l e R s m args below meth c H locs 0 0 Q (F0 m pc ls (As.reverse ++ rest)) := by
  refine va_callv (va_runS (As := As) (rest := rest) C (hM H.size) (va_cwS n C.2.2.2.2 (lw_S h1 h2 h3 h5) rfl rfl rfl hy hR) ⟨mm_blind, fun U hU hW => ⟨rfl, by rw [hU], va_K.moved hW.alike B.1, by rw [hU]; exact B.2.1, ⟨B.2.2.1.1.1, fun _ _ => trivial⟩⟩⟩ rfl hn hs rfl (lv_room hw) hdg ⟨Nat.zero_le _, Nat.zero_le _⟩) B.2.2.2 (fun q _ h => mm_inA B q h) (fun q h => mm_inA B q h) (fun u t H1 locs1 ht hvm hp hB hz hk hS => ?_)
  exact kk u H1 locs1 hp ⟨B.1, by rw [← ht]; exact hB.2, B.2.2.1, hS⟩
/-- arrays that are handed over: their number is a parameter -/
def g_ldP (gi : GI) (a : Nat) (i : Int32) : Option Int32 := if a < NM ∧ (hkM a).1 = 0 then g_ld gi a (hkM a).2 i else none
def g_ldPL (gl : GL) (a : Nat) (i : Int32) : Option Int64 := if a < NM ∧ (hkM a).1 = 3 then g_ldL gl a (hkM a).2 i else none
def g_stP (gi : GI) (a : Nat) (i x : Int32) : Option GI := if a < NM ∧ (hkM a).1 = 0 then g_st gi a (hkM a).2 i x else none
theorem mm_ialdP {α : Type} {r : α} {a : Nat} {i : Int32} {f : Int32 → Option α} (C : CallFix p m c cc nL s args lw_all RX4) (B : MB D cA ad A s gi gl H locs) (h : (g_ldP gi a i).bind f = some r) (hdg : decode cc pc = .ok (.iaload, 1)) (kk : ∀ v, f v = some r → W p l e R s m args below meth c H locs 0 0 Q (F0 m (pc + 1) ls (.int v :: rest))) : W p l e R s m args below meth c H locs 0 0 Q (F0 m pc ls (.int i :: .ref (ad a) :: rest)) := by
  by_cases q : a < NM ∧ (hkM a).1 = 0
  · rw [g_ldP, if_pos q] at h
    exact mm_iald C B q.1 (show hkM a = (0, (hkM a).2) by rw [← q.2]) h hdg kk
  · rw [g_ldP, if_neg q] at h
    cases h
theorem mm_laldP {α : Type} {r : α} {a : Nat} {i : Int32} {f : Int64 → Option α} (C : CallFix p m c cc nL s args lw_all RX4) (B : MB D cA ad A s gi gl H locs) (h : (g_ldPL gl a i).bind f = some r) (hdg : decode cc pc = .ok (.laload, 1)) (kk : ∀ v, f v = some r → W p l e R s m args below meth c H locs 0 0 Q (F0 m (pc + 1) ls (.long v :: rest))) : W p l e R s m args below meth c H locs 0 0 Q (F0 m pc ls (.int i :: .ref (ad a) :: rest)) := by
  by_cases q : a < NM ∧ (hkM a).1 = 3
  · rw [g_ldPL, if_pos q] at h
    exact mm_lald C B q.1 (show hkM a = (3, (hkM a).2) by rw [← q.2]) h hdg kk
  · rw [g_ldPL, if_neg q] at h
    cases h
theorem mm_iastP {α : Type} {r : α} {a : Nat} {i x : Int32} {f : GI → Option α} (C : CallFix p m c cc nL s args lw_all RX4) (B : MB D cA ad A s gi gl H locs) (h : (g_stP gi a i x).bind f = some r) (hdg : decode cc pc = .ok (.iastore, 1)) (kk : ∀ g', f g' = some r → ∀ (H' : Heap) (locs' : List Loc), MB D cA ad A s g' gl H' locs' → W p l e R s m args below meth c H' locs' 0 0 Q (F0 m (pc + 1) ls rest)) : W p l e R s m args below meth c H locs 0 0 Q (F0 m pc ls (.int x :: .int i :: .ref (ad a) :: rest)) := by
  by_cases q : a < NM ∧ (hkM a).1 = 0
  · rw [g_stP, if_pos q] at h
    exact mm_iast C B q.1 (show hkM a = (0, (hkM a).2) by rw [← q.2]) h hdg kk
  · rw [g_stP, if_neg q] at h
    cases h
theorem mm_zb {α : Type} {r : α} {v : Int32} {f : Unit → Option α} {P : Prop} (h : (g_zb v).bind f = some r) (kk : (v = 0 ∨ v = 1) → f () = some r → P) : P := by
  obtain ⟨w, h1, h2⟩ := g_ob h
  unfold g_zb at h1
  by_cases q : v = 0 ∨ v = 1
  · exact kk q h2
  · rw [if_neg q] at h1; cases h1
end MCA

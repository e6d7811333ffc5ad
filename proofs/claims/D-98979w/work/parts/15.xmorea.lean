/-! A callee that is walked where it is called: its class isn't among those that are said to be initialised (the bodies of an enum's constants) -/
set_option maxRecDepth 100000
theorem back_nr {l : Launch} {R : Room} {p : Program} {e : Env} {below : List Frame} {s : State} {sargs : Array Value} {y : MethodName} {len W0 : Nat} {rm : Room} {Pc : Array Value → State → Prop} {Qc : Array Value → State → Outcome → State → Prop} {mc ms : Nat} {free : Addr → Prop} {bytes : ByteArray} {maxL : Nat} {ret : Option FieldType}
    (hy : plainName y.cls = true) (hcw : ∀ (a' : Array Value) (U : State), s.WarmedH U.vm → (Cond.code y bytes maxL ret).before a' U = true) (hblind : FrameBlind Pc) (hrc : rm.cells = mc) (hrs : rm.slots = ms) (hframes : rm.frames + 1 ≤ R.frames) (hlocals : W0 + (maxL + 11) + rm.locals ≤ R.locals)
    (body : ∀ (s' : State) (m : MethodId) (args : Array Value) (below' : List Frame) (meth : Method) (c : Code), s.WarmedH s'.vm → s'.methodNamed? y = some m → c.code = bytes → c.maxLocals = maxL → meth.sig.returnType = ret → meth.locks = false → Pc args s' → W p l e rm s' m args below' meth c s'.heap [] 0 0 (MQ below' Qc args s' mc ms free) (entryFrame m args maxL)) :
    Back l R p e below s sargs y len W0 (PreOf R mc ms Pc) (PostOf Qc mc ms free) := by
  intro m meth c A g ig mk a X hg hsize hdg hW hn hp
  obtain ⟨U, Ls, c0, s0⟩ := A
  obtain ⟨hp1, hp2, hpc⟩ := hp
  dsimp only [Pt.U, Pt.locs, Pt.cells, Pt.slots] at X hn hp1 hp2 hpc ⊢
  have h2 : (Cond.code y bytes maxL ret).before a U = true := hcw a U X.warmed
  obtain ⟨methY, cY, hmY, hcY, hbY, hlY, hrY, hkY, -, -⟩ := Cond.code_spec hn h2
  have h : At U g.method c below := by rw [hg]; exact X.here
  obtain ⟨mid, hmid⟩ := h.above
  have hfr : (U.setTop g).frames = (.java g :: mid) ++ below := by rw [State.frames_setTop' g h.top, hmid]; rfl
  have hf := State.frames_calling h.top g mk a
  have hcur := State.cur_lt_of_frames hf
  have hcode : (U.calling g mk a).code? g.method = some c := by
    have := h.code
    rw [State.code?_eq] at this ⊢
    simpa [State.calling, State.pushFrame, State.setFrames] using this
  have hmY' : (U.calling g mk a).vm.method? mk = some methY := hmY
  have hn' : (U.calling g mk a).methodNamed? y = some mk := hn
  obtain ⟨B', hB'⟩ : ∃ B', B' = (.java g :: U.frames.tail : List Frame) := ⟨_, rfl⟩
  rw [← hB'] at hf
  have hB2 : B' = (.java g :: mid) ++ below := by rw [hB', ← hfr, State.frames_setTop' g h.top]
  have hhears : (U.calling g mk a).hears mk B' = true := by rw [hB']; simp [State.hears, hcode, hdg, Except.toOption]
  have hroom : (U.calling g mk a).hasRoom e.platform rm = true := X.room_calling (g := g) (R' := rm) hsize hmY hcY hframes (by rw [hlY]; omega) (by rw [hrc]; exact hp1) (by rw [hrs]; exact hp2)
  have hf1 : ((U.calling g mk a).setFrames (.java (entryFrame mk a maxL) :: B')).frames = .java (entryFrame mk a maxL) :: B' := State.frames_setFrames _ hcur
  have ht1 := State.topJava?_of_frames hf1
  have hplain : ((U.calling g mk a).setFrames (.java (entryFrame mk a maxL) :: B')).plainMethod mk := State.plainMethod.of_named (s := U.calling g mk a) (plainFor_of_name hy) hn' hmY'
  have hAt : At ((U.calling g mk a).setFrames (.java (entryFrame mk a maxL) :: B')) mk cY B' :=
    ⟨by rw [ht1]; rfl, ⟨[], by rw [hf1]; rfl⟩, h.running, by simpa [State.calling] using h.runnable, by simpa [State.calling] using h.alone, by rw [State.code?_eq]; simp [State.setFrames, hmY', hcY], hplain⟩
  obtain ⟨t0, ht0, -⟩ := State.frames_cons hf
  have XY : Stand p l e rm (U.calling g mk a) mk a B' methY cY ((U.calling g mk a).setFrames (.java (entryFrame mk a maxL) :: B')) [] 0 0 :=
    ⟨X.admits, X.cas, X.clock, hf, hroom, hhears, hmY', hcY, hAt, by rw [hf1]; rfl, State.WarmedH.refl _, by rw [State.stackLimits_setFrames], by rw [State.stackBytes_setFrames], (State.sameButNew.refl (U.calling g mk a) ht0).setFrames (.java (entryFrame mk a maxL) :: B') hcur⟩
  obtain ⟨s₂, hst, o, hrun, hend, hq', L, hfe, hL⟩ := body (U.calling g mk a) mk a B' methY cY X.warmed hn' hbY hlY hrY hkY (hblind _ _ _ _ hpc) ((U.calling g mk a).setFrames (.java (entryFrame mk a maxL) :: B')) rfl XY
  have hstep : (doInvoke e (U.setTop g) [] mk a).1 = ((U.calling g mk a).setFrames (.java (entryFrame mk a maxL) :: B')).setTop (entryFrame mk a maxL) := by
    rw [(doInvoke_java (s := U.setTop g) (e := e) (acts := []) (m := mk) (args := a) (meth := methY) (code := cY) hmY hcY hkY (X.notFull (g := g) hsize (by omega) (by rw [hlY]; omega))).1, State.setTop_self ht1]
    rw [State.pushFrame, hlY]
    rw [State.calling, State.pushFrame, State.setFrames_setFrames]
    congr 1
    rw [hB', State.frames_setTop' g h.top]
    rfl
  obtain ⟨n0, hn0, hw0⟩ := hst
  have hsteps : Steps p.tables e below (doInvoke e (U.setTop g) [] mk a).1 s₂ := by
    rw [hstep]
    have hww : ∀ Z : State, Within Z B' → Within Z below := fun Z hZ => by rw [hB2] at hZ; exact hZ.weaken
    exact ⟨n0, hn0, fun k hk => hww _ (hw0 k hk)⟩
  rw [hB'] at hend
  obtain ⟨⟨v, rfl⟩, hW₂, e2, q2, q3, q4, q5, q6⟩ := id hfe
  have e3 : s₂ = ({ (U.calling g mk a).setFrames s₂.frames with heap := s₂.heap, slotsUsed := s₂.slotsUsed } : State).setVm s₂.vm := by
    have : s₂ = ({ s₂ with vm := (U.calling g mk a).vm } : State).setVm s₂.vm := rfl
    rw [e2] at this
    exact this
  obtain ⟨c₂, i₂, len₂, hc₂, hd₂, hf₂⟩ := hend
  have hW' : U.WarmedH s₂.vm := hW₂
  have hcc : c₂ = c := by
    have h1 : s₂.code? g.method = U.code? g.method := by
      rw [State.code?_eq, State.code?_eq, hW'.alike.method?]
    exact Option.some.inj (hc₂.symm.trans (h1.trans h.code))
  subst hcc
  have hlen : len₂ = len := by rw [hdg] at hd₂; cases hd₂; rfl
  subst hlen
  obtain ⟨g₀, hg0⟩ := Option.isSome_iff_exists.mp h.top
  obtain ⟨r, hr⟩ := State.topJava?_eq_some.mp hg0
  have hs₂ : s₂ = (({ U with heap := s₂.heap, slotsUsed := s₂.slotsUsed } : State).setVm s₂.vm).setTop { g with pc := g.pc + len₂, stack := v.toList ++ g.stack } := by
    have hr' : (({ U with heap := s₂.heap, slotsUsed := s₂.slotsUsed } : State).setVm s₂.vm).frames = .java g₀ :: r := hr
    refine e3.trans ?_
    rw [hf₂, State.calling_eq h.top, State.setFrames_setFrames, State.setTop_of_frames _ hr', hr]
    rfl
  have hsame : U.sameButNew ({ U with heap := s₂.heap, slotsUsed := s₂.slotsUsed } : State) L mc ms := by
    refine ⟨?_, q2, q3, q4, q5, q6⟩
    obtain ⟨t, ht, -⟩ := State.frames_cons hr
    show ({ U with heap := s₂.heap, slotsUsed := s₂.slotsUsed } : State) = { U.setFrames U.frames with heap := s₂.heap, slotsUsed := s₂.slotsUsed }
    rw [State.setFrames_self ht]
  subst hg
  refine ⟨v, ⟨(({ U with heap := s₂.heap, slotsUsed := s₂.slotsUsed } : State).setVm s₂.vm), Ls ++ L, c0 + mc, s0 + ms⟩,
    ⟨X.admits, X.cas, X.clock, X.frames, X.room, X.hears, X.method, X.code, (X.here.setHeapUsed s₂.heap s₂.slotsUsed).setVm hW'.alike, X.tail, State.WarmedH.trans X.warmed hW', X.limits, X.bytes, X.same.trans (hsame.setVm s.vm)⟩, ?_, ?_⟩
  · exact ⟨g, mk, s₂, L, rfl, rfl, hq', rfl, hL, rfl, rfl⟩
  · show Steps p.tables e below _ ((({ U with heap := s₂.heap, slotsUsed := s₂.slotsUsed } : State).setVm s₂.vm).setTop { g with pc := g.pc + len₂, stack := v.toList ++ g.stack })
    rw [← hs₂]
    exact hsteps
def yOf : MethodName := ⟨"WeatherWages$Node", "of", "(LWeatherWages$Ask;)I"⟩
section XNR
variable {p : Program} {l : Launch} {e : Env} {R : Room} {s : State} {m : MethodId} {args : Array Value} {below : List Frame} {meth : Method} {c : Code} {H : Heap} {locs : List Loc} {cells slots : Nat} {Q : State → Prop}
variable {pc : Nat} {ls : Array Slot} {rest : List Value} {cc : ByteArray} {nL : Nat} {D : va_G} {cA : Nat → ClassId} {ad : Nat → Nat} {hk : HK} {nx : Nat} {A : Nat → Prop} {gi : GI} {gr : GR} {own : String} {idx count : Nat}
/-- a constant's answer: one field of the asking -/
theorem k_askC {j b fx : Nat} {Rc : String} {y : MethodName} {bytes : ByteArray} (C : CallFix p m c cc nL s args lw_all own) (B : XB D cA ad hk nx A s gi gr H locs) (hj : j < 6) (hRc : asN.getD j "" = Rc) (hb : (hk b).1 = 12) (h1 : Cond.methodLink own idx yOf ∈ lw_all) (hfw : (Rc, yOf, y) ∈ fwX) (hsel : Cond.selects Rc yOf y ∈ lw_all) (hins : Cond.instanceMethod y ∈ lw_all) (hco : Cond.code y bytes 2 (some .int) ∈ lw_all) (hyc : plainName y.cls = true) (hyR : y.cls = Rc) (d0 : decode bytes 0 = .ok (.aload_n 1, 1)) (d1 : decode bytes 1 = .ok (.getfield fx, 3)) (d4 : decode bytes 4 = .ok (.ireturn, 1)) (hfl : Cond.fieldLink Rc fx (TX2 j).1 (TX2 j).2.1 (TX2 j).2.2.1 ∈ lw_all)
    (hF : 2 ≤ R.frames) (hN : 30 ≤ R.locals) (hs : ls.size = nL) (hw : (rest.map fun v => v.category).sum ≤ 8) (hz0 : cells ≤ R.cells ∧ slots ≤ R.slots) (hdg : decode cc pc = .ok (.invokeinterface idx count, 5)) (kk : ∀ (H' : Heap) (locs' : List Loc), XB D cA ad hk nx A s gi gr H' locs' → W p l e R s m args below meth c H' locs' cells slots Q (F0 m (pc + 5) ls (.int (gi b j) :: rest))) : W p l e R s m args below meth c H locs cells slots Q (F0 m pc ls (.ref (ad b) :: .ref (ad (1000000 + j)) :: rest)) := by
  have hK : Back l R p e below s args y 5 8 (PreOf R 0 0 (va_Pc [.ref (ad (1000000 + j)), .ref (ad b)] (XPre D cA ad hk nx gi gr H.size))) (PostOf (va_Qi (fun w u => w = gi b j ∧ u.1 = gi ∧ u.2 = gr) (XPost D cA ad hk nx) (XA ad nx H.size)) 0 0 (XA ad nx H.size)) := by
    refine back_nr (bytes := bytes) (maxL := 2) (ret := some .int) (rm := { frames := 0, cells := 0, slots := 0, locals := 0 }) hyc (fun a' U hW => word_at hW (lw_self _ hco).2 (C.2.2.2.2 _ hco)) xx_blind rfl rfl (by show 0 + 1 ≤ R.frames; omega) (by show 8 + (2 + 11) + 0 ≤ R.locals; omega) ?_
    intro s' m' args' below' meth' c' hWm hn hb' hml hr hlk hv
    obtain ⟨rfl, hsz, hK, hP, hD, hT⟩ := hv
    have hts : ∀ w ∈ lw_all, w.before ([.ref (ad (1000000 + j)), .ref (ad b)] : List Value).toArray s' = true := fun w h => word_at hWm (lw_self w h).2 (C.2.2.2.2 w h)
    have hown : s'.vm.findClass Rc = some m'.cls := by rw [← hyR]; exact findClass_of_methodNamed hn
    have hl := lv_entry ([.ref (ad (1000000 + j)), .ref (ad b)] : List Value) (n := 2) (Nat.le_of_ble_eq_true rfl)
    rw [lg_entry_eq]
    have hx := C.1
    have hlocks : meth'.locks = false := hlk
    have C' : CallFix p m' c' bytes 2 s' _ lw_all Rc := ⟨C.1, hb', hml, hown, hts⟩
    have B' : XB D cA ad hk nx (XA ad nx H.size) s' gi gr s'.heap [] := ⟨hK, hP, ⟨⟨⟨hD.1.1, fun i hi => Or.inl ⟨i, hi, rfl⟩⟩, fun q h => Or.inr (by rw [← hsz]; exact h)⟩, hD.2⟩, va_S.rf, hT⟩
    refine lv_aload_n hx hb' d0 rfl (lv_at hl 1 rfl) ?_
    refine xx_gi (ci := 2) (k := j) C' B' xc_2 hb (by decide) hj (by match j, hj with | 0, _ => rfl | 1, _ => rfl | 2, _ => rfl | 3, _ => rfl | 4, _ => rfl | 5, _ => rfl) hfl (fun _ h => h) d1 ?_
    exact W.iret hx hb' hr (fun t ht hW => ⟨⟨_, (gi, gr), rfl, ⟨rfl, rfl, rfl⟩, va_K.moved hW.alike hK, by rw [ht]; exact hP, hD.2⟩, B'.2.2.2.1.F ht⟩) (fun _ h => by cases h) d4
  obtain ⟨g1, g2, g3, g4, g5⟩ := B.2.2.2.2.2.1 _ hfw
  obtain ⟨cellB, hcB, hoB, hclB⟩ := va_Orecv ((B.2.2.2.2.2.2.2.1 j hj).1) B.2.2.2.1
  rw [hRc] at hclB
  obtain ⟨kB, hkB, -⟩ := Vm.findClass_spec hclB
  have hrun : va_Run5 p l e R s m args below meth c H locs cells slots 0 0 (F0 m pc ls (.ref (ad b) :: .ref (ad (1000000 + j)) :: rest)) rest (va_Qi (fun w u => w = gi b j ∧ u.1 = gi ∧ u.2 = gr) (XPost D cA ad hk nx) (XA ad nx H.size) ([.ref (ad (1000000 + j)), .ref (ad b)] : List Value).toArray) (XA ad nx H.size) := by
    have hx := C.1
    have hbb := C.2.1
    have hml := C.2.2.1
    have ho := C.2.2.2.1
    have hdl : (parseMethodDescriptor yOf.desc).map (fun d => d.parameters.length) = some 1 := by decide +kernel
    intro T hT X
    obtain ⟨v, vm₁, ⟨U', l2, c2, s2⟩, hW₁, X', ⟨g', mk, t, L, e1, e2, hq, h1, hL, h2, h3⟩, st⟩ := va_callIF X hx (C := Rc) (x := yOf) (y := y) (bytes := bytes) (maxL := 2) (ret := some .int) ho (C.2.2.2.2 _ h1) (va_any rfl g1) (va_any rfl g2) (C.2.2.2.2 _ hsel) (C.2.2.2.2 _ hins) (va_any rfl g3) (va_any rfl g4) (va_any rfl g5) (C.2.2.2.2 _ hco) (by decide +kernel) hK (by rw [hT]; exact hcB) hoB hclB hkB rfl (hs.trans hml.symm) (argsL := [.ref (ad b)]) (rest := rest) (fun sig h => by rw [h] at hdl; exact (Option.some.inj hdl).symm) rfl (lv_room hw) (by rw [hbb]; exact hdg)
      (fun vm₁ hW₁ => ⟨hz0.1, hz0.2, xx_pre B (T.setVm vm₁) hT hW₁⟩)
    dsimp only [Pt.U, Pt.locs, Pt.cells, Pt.slots] at X' e1 e2 h1 h2 h3 st
    subst h1; subst h2; subst h3
    exact ⟨v, (T.setVm vm₁).calling g' mk ([.ref (ad (1000000 + j)), .ref (ad b)] : List Value).toArray, t, U', L, hT, X', hL, e1, e2, hq, st⟩
  refine va_callFi hrun B.2.2.2.1 (fun q _ h => xx_inA B q h) (fun q h => xx_inA B q h) (fun w u t H1 locs1 ht hvm hp hB hz hk hS => ?_)
  obtain ⟨rfl, e2, e3⟩ := hp
  have hB2 := hB.2.1
  have hB3 := hB.2.2
  rw [e2, e3] at hB2
  rw [e3] at hB3
  exact kk H1 locs1 ⟨B.1, by rw [← ht]; exact hB2, ⟨B.2.2.1.1, hB3⟩, hS, B.2.2.2.2⟩
/-- a constant of the enum answers a number of the asking -/
theorem k_asked {j b : Nat} (C : CallFix p m c cc nL s args lw_all own) (B : XB D cA ad hk nx A s gi gr H locs) (hj : j < 6) (hb : (hk b).1 = 12) (h1 : Cond.methodLink own idx yOf ∈ lw_all) (hF : 2 ≤ R.frames) (hN : 30 ≤ R.locals) (hs : ls.size = nL) (hw : (rest.map fun v => v.category).sum ≤ 8) (hz0 : cells ≤ R.cells ∧ slots ≤ R.slots) (hdg : decode cc pc = .ok (.invokeinterface idx count, 5)) (kk : ∀ (H' : Heap) (locs' : List Loc), XB D cA ad hk nx A s gi gr H' locs' → W p l e R s m args below meth c H' locs' cells slots Q (F0 m (pc + 5) ls (.int (gi b j) :: rest))) : W p l e R s m args below meth c H locs cells slots Q (F0 m pc ls (.ref (ad b) :: .ref (ad (1000000 + j)) :: rest)) := by
  match j, hj with
  | 0, _ => exact k_askC (j := 0) (fx := 7) (bytes := cX13_of) (y := yX13_of) (Rc := "WeatherWages$Asked$1") C B (by decide) rfl hb h1 fw_5 q1266 q1268 q1270 (by decide +kernel) rfl dX13_of_0 dX13_of_1 dX13_of_4 q225 hF hN hs hw hz0 hdg kk
  | 1, _ => exact k_askC (j := 1) (fx := 7) (bytes := cX14_of) (y := yX14_of) (Rc := "WeatherWages$Asked$2") C B (by decide) rfl hb h1 fw_6 q1272 q1274 q1276 (by decide +kernel) rfl dX14_of_0 dX14_of_1 dX14_of_4 q227 hF hN hs hw hz0 hdg kk
  | 2, _ => exact k_askC (j := 2) (fx := 7) (bytes := cX15_of) (y := yX15_of) (Rc := "WeatherWages$Asked$3") C B (by decide) rfl hb h1 fw_7 q1278 q1280 q1282 (by decide +kernel) rfl dX15_of_0 dX15_of_1 dX15_of_4 q229 hF hN hs hw hz0 hdg kk
  | 3, _ => exact k_askC (j := 3) (fx := 7) (bytes := cX16_of) (y := yX16_of) (Rc := "WeatherWages$Asked$4") C B (by decide) rfl hb h1 fw_8 q1284 q1286 q1288 (by decide +kernel) rfl dX16_of_0 dX16_of_1 dX16_of_4 q231 hF hN hs hw hz0 hdg kk
  | 4, _ => exact k_askC (j := 4) (fx := 7) (bytes := cX17_of) (y := yX17_of) (Rc := "WeatherWages$Asked$5") C B (by decide) rfl hb h1 fw_9 q1290 q1292 q1294 (by decide +kernel) rfl dX17_of_0 dX17_of_1 dX17_of_4 q233 hF hN hs hw hz0 hdg kk
  | 5, _ => exact k_askC (j := 5) (fx := 7) (bytes := cX18_of) (y := yX18_of) (Rc := "WeatherWages$Asked$6") C B (by decide) rfl hb h1 fw_10 q1296 q1298 q1300 (by decide +kernel) rfl dX18_of_0 dX18_of_1 dX18_of_4 q235 hF hN hs hw hz0 hdg kk
end XNR

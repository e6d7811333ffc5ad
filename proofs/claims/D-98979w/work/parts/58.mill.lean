/-! A METHOD WITH A HANDLER: mill -/
set_option maxRecDepth 100000
theorem g_ofWH {l : Launch} {y : MethodName} {ws ws' : List Cond} {rm : Room} {Pc : Array Value → State → Prop} {Qc : Array Value → State → Outcome → State → Prop} {mc ms : Nat} {free : Addr → Prop} {cc : ByteArray} {maxL : Nat} {ret : Option FieldType} {hh : List (Nat × Nat × Nat × Nat)} (hy : plainName y.cls = true) (hw : ws = Cond.codeWith y cc maxL ret hh :: ws')
    (body : ∀ p e s m args below meth c s₁, BodyLoose p l y (headSpec ws rm) cc maxL ret e s m args below meth c s₁ → c.maxLocals = maxL → c.exceptionTable.toList = tableOf hh → Pc args s →
      W p l e (headSpec ws rm).room s m args below meth c s.heap [] 0 0 (MQ below Qc args s mc ms free) (entryFrame m args maxL)) : Met l y ws rm Pc Qc mc ms free := by
  refine MetFree.of_bodyS (code := cc) (maxLocals := maxL) (ret := ret) hy ?_ ?_
  · intro args s m h hn
    obtain ⟨m9, meth, c, hn9, h1, h2, h3, h4, -, h5, h6, -⟩ := Cond.codeWith_spec (atoms_spec (ws := ws) h _ (by rw [hw]; exact List.mem_cons_self))
    cases hn.symm.trans hn9
    exact ⟨meth, c, h1, h2, h3, h4, h5, h6⟩
  · intro p e s m args below meth c s₁ B hml hP _
    have hh0 : s₁.heap = s.heap := by rw [B.state]; rfl
    have ht : c.exceptionTable.toList = tableOf hh := vx_table (x := y) B (atoms_spec (ws := ws) B.pre _ (by rw [hw]; exact List.mem_cons_self))
    obtain ⟨t, a1, o, b1, b2, b3⟩ := body p e s m args below meth c s₁ B hml ht hP s₁ hh0 (Stand.of_body B)
    exact ⟨t, o, a1, b1, b2, ⟨b3.1, b3.2⟩⟩
section XAW
variable {D : va_G} {cA : Nat → ClassId} {ad : Nat → Nat} {hk : HK} {nx ns cN cS : Nat} {gi : GI} {gr : GR} {l : Launch}
theorem xa_stIW {y : MethodName} {own : String} {cc : ByteArray} {nL fr lo : Nat} {hh : List (Nat × Nat × Nat × Nat)} {av : List Value} {P : Int32 → XU → Prop} (hy : plainName y.cls = true) (hc : y.cls = own) (hn : (lg_sl av).length ≤ nL) (hcap : nx ≤ cN ∧ ns ≤ cS)
    (body : ∀ (p : Program) (e : Env) (s : State) (m : MethodId) (args : Array Value) (below : List Frame) (meth : Method) (c : Code) (R : Room) (Q : State → Prop) (A : Nat → Prop) (ls : Array Slot), CallFix p m c cc nL s args lw_all own → meth.name = y.name → c.exceptionTable.toList = tableOf hh → fr ≤ R.frames → lo ≤ R.locals → (R.cells = cN - nx ∧ R.slots = cS - ns) → XBA D cA ad hk nx ns cN cS ad hk nx ns A s gi gr s.heap [] →
      (∀ (v : Int32) (u : XU) (H : Heap) (locs : List Loc) (ls : Array Slot) (pc : Nat), P v u → XBA D cA ad hk nx ns cN cS u.1 u.2.1 u.2.2.1 u.2.2.2.1 A s u.2.2.2.2.1 u.2.2.2.2.2 H locs → decode cc pc = .ok (.ireturn, 1) → W p l e R s m args below meth c H locs (u.2.2.1 - nx) (u.2.2.2.1 - ns) Q (F0 m pc ls [.int v])) → lv_has ls nL (lv_args 0 av) → W p l e R s m args below meth c s.heap [] (nx - nx) (ns - ns) Q (F0 m 0 ls [])) (sz : Nat) :
    Met l y (wsW_ y cc nL (some .int) hh) ({ frames := fr, cells := cN - nx, slots := cS - ns, locals := lo } : Room) (va_Pc av (XPre D cA ad hk nx gi gr sz)) (va_Qi P (XPostA D cA ad hk nx sz) (XA ad nx sz)) (cN - nx) (cS - ns) (XA ad nx sz) := by
  refine g_ofWH (cc := cc) (maxL := nL) (ret := some .int) hy rfl ?_
  intro p e s m args below meth c s₁ B hml htab hv
  obtain ⟨rfl, hsz, hK, hP, hD, hT⟩ := hv
  have hx := B.exec
  have hb := B.bytes
  have hr := B.returns
  have hts := atoms_spec (ws := wsW_ y cc nL (some .int) hh) B.pre
  have hts : ∀ w ∈ lw_all, w.before _ s = true := fun w h => hts w (List.mem_cons_of_mem _ h)
  have hown : s.vm.findClass own = some m.cls := by rw [← hc]; exact findClass_of_methodNamed B.named
  have hlocks := B.notSynchronized
  have hl := lv_entry av (n := nL) hn
  rw [lg_entry_eq]
  generalize (lg_sl av ++ List.replicate (nL - (lg_sl av).length) Slot.unset).toArray = ls at hl ⊢
  subst hsz
  have hb1 := body p e s m av.toArray below meth c (headSpec (wsW_ y cc nL (some .int) hh) ({ frames := fr, cells := cN - nx, slots := cS - ns, locals := lo } : Room)).room (MQ below (va_Qi P (XPostA D cA ad hk nx s.heap.size) (XA ad nx s.heap.size)) av.toArray s (cN - nx) (cS - ns) (XA ad nx s.heap.size)) (XA ad nx s.heap.size) ls ⟨hx, hb, hml, hown, hts⟩ (name_of_methodNamed B.named B.method).1 htab (Nat.le_refl _) (Nat.le_refl _) ⟨rfl, rfl⟩ ⟨⟨hK, hP, ⟨⟨⟨hD.1.1, fun i hi => Or.inl ⟨i, hi, rfl⟩⟩, fun q h => Or.inr h⟩, hD.2⟩, va_S.rf, hT⟩, fun _ _ => ⟨rfl, rfl⟩, fun _ _ => rfl, Nat.le_refl _, hcap.1, Nat.le_refl _, hcap.2⟩
  rw [Nat.sub_self, Nat.sub_self] at hb1
  refine hb1 ?_ hl
  · intro v u H locs ls pc hp G hdg
    have gg := G.2.2.2
    refine W.widen (k := cN - nx) (n := cS - ns) (by omega) (by omega) ?_
    exact W.iret hx hb hr (fun t ht hW => ⟨⟨v, u, rfl, hp, va_K.moved hW.alike G.1.1, by rw [ht]; exact G.1.2.1, G.1.2.2.1.2, G.2.1, G.2.2.1, G.1.2.2.1.1.1.1, G.1.2.2.1.1.1.2⟩, G.1.2.2.2.1.F ht⟩) G.1.2.2.2.1.2.2 hdg
end XAW
/-- caught: the one row of a table -/
theorem xa_catch {p : Program} {l : Launch} {e : Env} {R : Room} {s : State} {m : MethodId} {args : Array Value} {below : List Frame} {meth : Method} {c : Code} {H : Heap} {locs : List Loc} {cells slots : Nat} {Q : State → Prop} {pc : Nat} {ls : Array Slot} {rest : List Value} {cc : ByteArray} {nL : Nat} {D : va_G} {cA : Nat → ClassId} {ad : Nat → Nat} {hk : HK} {nx : Nat} {A : Nat → Prop} {gi : GI} {gr : GR} {own : String} {b a z k : Nat} (C : CallFix p m c cc nL s args lw_all own) (B : XB D cA ad hk nx A s gi gr H locs) (htab : c.exceptionTable.toList = tableOf [(a, z, k, 115)]) (hpc : a ≤ pc ∧ pc < z) (hb : (hk b).1 = 15) (hq : Cond.classLink own 115 RX6 ∈ lw_all) (hw : Cond.castable RX6 RX6 ∈ nwX) (kk : W p l e R s m args below meth c H locs cells slots Q (F0 m k ls [.ref (ad b)])) : vx_W p l e R s m args below meth c H locs cells slots Q (F0 m pc ls rest) (ad b) := by
  obtain ⟨ce, c1, c2, c3⟩ := xt_cell B hb
  refine vx_catch (own := own) (name := RX6) (E := RX6) C.2.2.2.1 [] ⟨a, z, k, 115⟩ [] (by rw [htab]; rfl) (fun z hz => by cases hz) ?_ (show (115 : Nat) ≠ 0 by decide) (C.2.2.2.2 _ hq) (va_Nw.use rfl (B.2.2.2.2.1 _ hw)) c1 c2 c3 kk
  unfold covers
  simp [hpc.1, hpc.2]
theorem g_ell {A B C : Type} {f : A → Option C} {g : B → Option C} {q : A} {r : C} (h : Sum.elim f g (Sum.inl q) = some r) : f q = some r := h
def f_X0_mill_j106 (cN cS : Nat) (a0 : Nat) (hkj106 : HK) (nxj106 : Nat) (nsj106 : Nat) (gij106 : GI) (grj106 : GR) (o1j106 : Option Nat) (t0j106 : Int32) (t1j106 : Nat) : Option (Int32 × HK × Nat × Nat × GI × GR) :=
  (g_is hkj106 t1j106 10).bind fun _ =>
  (some (g_pi gij106 t1j106 3 t0j106)).bind fun gi29 =>
  (some (g_pi gi29 a0 1 0)).bind fun gi30 =>
  o1j106.elim
  ((f_X0_men hkj106 gi30 grj106 a0).bind fun q33 =>
  some (q33, hkj106, nxj106, nsj106, gi30, grj106))
  (fun v31 =>
  some ((-1), hkj106, nxj106, nsj106, gi30, grj106))
def f_X0_mill_j90 (cN cS : Nat) (a0 : Nat) (hkj90 : HK) (nxj90 : Nat) (nsj90 : Nat) (gij90 : GI) (grj90 : GR) (o1j90 : Option Nat) (t0j90 : Int32) (t1j90 : Nat) : Option (Int32 × HK × Nat × Nat × GI × GR) :=
  (g_is hkj90 t1j90 10).bind fun _ =>
  (some (g_pi gij90 t1j90 2 t0j90)).bind fun gi24 =>
  o1j90.elim
  (f_X0_mill_j106 cN cS a0 hkj90 nxj90 nsj90 gi24 grj90 o1j90 ((-1)) a0)
  (fun v25 =>
  o1j90.bind fun v34 =>
  (g_is hkj90 v34 15).bind fun _ =>
  f_X0_mill_j106 cN cS a0 hkj90 nxj90 nsj90 gi24 grj90 o1j90 (gi24 v34 7) a0)
def f_X0_mill_j77 (cN cS : Nat) (a0 : Nat) (hkj77 : HK) (nxj77 : Nat) (nsj77 : Nat) (gij77 : GI) (grj77 : GR) (o1j77 : Option Nat) : Option (Int32 × HK × Nat × Nat × GI × GR) :=
  o1j77.elim
  (f_X0_mill_j90 cN cS a0 hkj77 nxj77 nsj77 gij77 grj77 o1j77 0 a0)
  (fun v20 =>
  o1j77.bind fun v37 =>
  (g_is hkj77 v37 15).bind fun _ =>
  f_X0_mill_j90 cN cS a0 hkj77 nxj77 nsj77 gij77 grj77 o1j77 (gij77 v37 6) a0)
def f_X0_mill_l53 (cN cS : Nat) (a0 : Nat) (x2l53 : Int32) (hkl53 : HK) (nxl53 : Nat) (nsl53 : Nat) (gil53 : GI) (grl53 : GR) : Option ((Int32 × HK × Nat × Nat × GI × GR) ⊕ (HK × Nat × Nat × GI × GR)) :=
  if 3 ≤ x2l53 then
  (some (.inr (hkl53, nxl53, nsl53, gil53, grl53)))
  else
  ((grl53 a0 29).bind fun v60 =>
  (g_is hkl53 v60 2).bind fun _ =>
  (g_st gil53 v60 (hkl53 v60).2 x2l53 (vp_nar .boolean 0)).bind fun gi63 =>
  some (.inl (x2l53 + 1, hkl53, nxl53, nsl53, gi63, grl53)))
def f_X0_mill_x53 (cN cS : Nat) (a0 : Nat) (hke53 : HK) (nxe53 : Nat) (nse53 : Nat) (gie53 : GI) (gre53 : GR) : Option (Int32 × HK × Nat × Nat × GI × GR) :=
  f_X0_mill_j77 cN cS a0 hke53 nxe53 nse53 gie53 gre53 ((Option.none : Option Nat))
def f_X0_mill (cN cS : Nat) (hk : HK) (nx ns : Nat) (gi : GI) (gr : GR) (a0 : Nat) : Option (Int32 × HK × Nat × Nat × GI × GR) :=
  (g_new cN cS nx ns 14 0 11 hk gi gr).bind fun q1 =>
  (g_cc (fun c1 c2 => f_X5_init c1 c2 q1.1 (nx + 1) (ns + 11) q1.2.1 q1.2.2 nx a0) (fun q : HK × Nat × Nat × GI × GR => q.2.1) (fun q : HK × Nat × Nat × GI × GR => q.2.2.1) cN cS (nx + 1) (ns + 11)).bind fun q6 =>
  (g_cc (fun c1 c2 => f_X5_text c1 c2 q6.1 q6.2.1 q6.2.2.1 q6.2.2.2.1 q6.2.2.2.2 nx) (fun z : (Nat × HK × Nat × Nat × GI × GR) ⊕ (Nat × HK × Nat × Nat × GI × GR) => Sum.elim (fun t : Nat × HK × Nat × Nat × GI × GR => t.2.2.1) (fun q : Nat × HK × Nat × Nat × GI × GR => q.2.2.1) z) (fun z : (Nat × HK × Nat × Nat × GI × GR) ⊕ (Nat × HK × Nat × Nat × GI × GR) => Sum.elim (fun t : Nat × HK × Nat × Nat × GI × GR => t.2.2.2.1) (fun q : Nat × HK × Nat × Nat × GI × GR => q.2.2.2.1) z) cN cS q6.2.1 q6.2.2.1).bind fun q9 => Sum.elim (fun (t12 : Nat × HK × Nat × Nat × GI × GR) =>
  f_X0_mill_j77 cN cS a0 t12.2.1 t12.2.2.1 t12.2.2.2.1 t12.2.2.2.2.1 t12.2.2.2.2.2 (some t12.1)) (fun (q11 : Nat × HK × Nat × Nat × GI × GR) =>
  (g_ok q11.2.1 q11.1).bind fun _ =>
  (some (g_pr q11.2.2.2.2.2 a0 4 (some q11.1))).bind fun gr41 =>
  (gr41 a0 5).bind fun v43 =>
  (gr41 a0 4).bind fun v45 =>
  (g_is q11.2.1 v43 13).bind fun _ =>
  (f_X3_begin q11.2.1 q11.2.2.2.2.1 gr41 v43 v45).bind fun q48 =>
  (some (g_pi q48.2 a0 11 0)).bind fun gi49 =>
  (some (g_pi gi49 a0 12 0)).bind fun gi50 =>
  (some (g_pi gi50 a0 18 0)).bind fun gi51 =>
  (gr41 a0 25).bind fun v52 =>
  (g_is q11.2.1 v52 22).bind fun _ =>
  (g_cc (fun c1 c2 => f_J2_clear c1 c2 q11.2.1 q11.2.2.1 q11.2.2.2.1 gi51 gr41 v52) (fun q : HK × Nat × Nat × GI × GR => q.2.1) (fun q : HK × Nat × Nat × GI × GR => q.2.2.1) cN cS q11.2.2.1 q11.2.2.2.1).bind fun q55 =>
  (g_loop g_K (fun (s : Int32 × HK × Nat × Nat × GI × GR) => f_X0_mill_l53 cN cS a0 s.1 s.2.1 s.2.2.1 s.2.2.2.1 s.2.2.2.2.1 s.2.2.2.2.2) (0, q55.1, q55.2.1, q55.2.2.1, q55.2.2.2.1, q55.2.2.2.2)).bind fun E53 => f_X0_mill_x53 cN cS a0 E53.1 E53.2.1 E53.2.2.1 E53.2.2.2.1 E53.2.2.2.2) q9
set_option maxHeartbeats 400000 in
theorem w_X0_mill (l : Launch) (D : va_G) (cA : Nat → ClassId) (ad : Nat → Nat) (cN cS : Nat) (hk : HK) (nx ns : Nat) (gi : GI) (gr : GR) (a0 : Nat) (ht : (hk a0).1 = 10) (hcap : nx ≤ cN ∧ ns ≤ cS) (r : Int32 × HK × Nat × Nat × GI × GR) (h : f_X0_mill cN cS hk nx ns gi gr a0 = some r) (sz : Nat) : Met l yX0_mill (wsW_ yX0_mill cX0_mill 3 (some .int) [(2, 71, 74, 115)]) ({ frames := 74, cells := cN - nx, slots := cS - ns, locals := 2744 } : Room) (va_Pc [.ref (ad a0)] (XPre D cA ad hk nx gi gr sz)) (va_Qi (fun (v : Int32) (u : XU) => (v, u.2) = r) (XPostA D cA ad hk nx sz) (XA ad nx sz)) (cN - nx) (cS - ns) (XA ad nx sz) := by
  refine xa_stIW (own := RX0) (P := (fun (v : Int32) (u : XU) => (v, u.2) = r)) (by decide +kernel) rfl (Nat.le_of_ble_eq_true rfl) hcap (fun p e s m args below meth c R Q A ls C hmn htab hF hN hRr B hret hL => ?_) sz
  have hx := C.1
  have hb := C.2.1
  have hL : lv_has ls 3 [(0, .ref (ad a0))] := hL
  unfold f_X0_mill at h
  have hj106 : ∀ (hkj106 : HK) (nxj106 : Nat) (nsj106 : Nat) (gij106 : GI) (grj106 : GR) (o1j106 : Option Nat) (t0j106 : Int32) (t1j106 : Nat) (adj106 : Nat → Nat) (H : Heap) (locs : List Loc) (ls : Array Slot), f_X0_mill_j106 cN cS a0 hkj106 nxj106 nsj106 gij106 grj106 o1j106 t0j106 t1j106 = some r → XBA D cA ad hk nx ns cN cS adj106 hkj106 nxj106 nsj106 A s gij106 grj106 H locs → lv_has ls 3 [(0, .ref (adj106 a0)), (1, va_rf (o1j106.map adj106))] → W p l e R s m args below meth c H locs (nxj106 - nx) (nsj106 - ns) Q (F0 m 106 ls [.int t0j106, .ref (adj106 t1j106)]) := by
    intro hkj106 nxj106 nsj106 gij106 grj106 o1j106 t0j106 t1j106 adj106 H locs ls h B hL
    unfold f_X0_mill_j106 at h
    have ht27 : (hkj106 a0).1 = 10 := by rw [(B.2.1 a0 (by rw [ht]; decide)).2]; exact ht
    refine xx_is h (fun hp28 h => ?_)
    refine xx_pi (ci := 0) (k := 3) C B.1 xc_0 hp28 (by decide) (Nat.le_of_ble_eq_true rfl) rfl q362 (fun _ h => h) rfl rfl rfl h dX0_mill_106 (fun gi29 h H locs B2 => ?_)
    have B := And.intro B2 B.2
    refine lv_aload_n hx hb dX0_mill_109 rfl (lv_at hL 0 rfl) ?_
    refine lv_iconst (v := 0) hx hb dX0_mill_110 (by decide) ?_
    refine xx_pi (ci := 0) (k := 1) C B.1 xc_0 ht27 (by decide) (Nat.le_of_ble_eq_true rfl) rfl q360 (fun _ h => h) rfl rfl rfl h dX0_mill_111 (fun gi30 h H locs B2 => ?_)
    have B := And.intro B2 B.2
    refine xx_aload_nO (o := o1j106) (ad := adj106) hx hb dX0_mill_114 rfl (lv_at hL 1 rfl) ?_
    refine xx_ifnonnull (o := o1j106) (ad := adj106) hx hb 125 h dX0_mill_115 (by decide) (fun ho32 h => ?_) (fun v31 ho32 h => ?_)
    · refine lv_aload_n hx hb dX0_mill_118 rfl (lv_at hL 0 rfl) ?_
      refine k_X0_men ht27 C B.1 q1230 (Nat.le_trans (Nat.le_of_ble_eq_true rfl) hF) (Nat.le_trans (Nat.le_of_ble_eq_true rfl) hN) hL.1 (Nat.le_of_ble_eq_true rfl) (xa_z hRr B) h dX0_mill_119 (fun q33 h H locs B2 => ?_)
      have B := And.intro B2 B.2
      refine lv_goto (tgt := 126) hx hb dX0_mill_122 (by decide) ?_
      exact hret _ (adj106, hkj106, nxj106, nsj106, gi30, grj106) _ _ _ _ (Option.some.inj h) B dX0_mill_126
    · refine lv_iconst (v := (-1)) hx hb dX0_mill_125 (by decide) ?_
      exact hret _ (adj106, hkj106, nxj106, nsj106, gi30, grj106) _ _ _ _ (Option.some.inj h) B dX0_mill_126
  have hj90 : ∀ (hkj90 : HK) (nxj90 : Nat) (nsj90 : Nat) (gij90 : GI) (grj90 : GR) (o1j90 : Option Nat) (t0j90 : Int32) (t1j90 : Nat) (adj90 : Nat → Nat) (H : Heap) (locs : List Loc) (ls : Array Slot), f_X0_mill_j90 cN cS a0 hkj90 nxj90 nsj90 gij90 grj90 o1j90 t0j90 t1j90 = some r → XBA D cA ad hk nx ns cN cS adj90 hkj90 nxj90 nsj90 A s gij90 grj90 H locs → lv_has ls 3 [(0, .ref (adj90 a0)), (1, va_rf (o1j90.map adj90))] → W p l e R s m args below meth c H locs (nxj90 - nx) (nsj90 - ns) Q (F0 m 90 ls [.int t0j90, .ref (adj90 t1j90)]) := by
    intro hkj90 nxj90 nsj90 gij90 grj90 o1j90 t0j90 t1j90 adj90 H locs ls h B hL
    unfold f_X0_mill_j90 at h
    have ht22 : (hkj90 a0).1 = 10 := by rw [(B.2.1 a0 (by rw [ht]; decide)).2]; exact ht
    refine xx_is h (fun hp23 h => ?_)
    refine xx_pi (ci := 0) (k := 2) C B.1 xc_0 hp23 (by decide) (Nat.le_of_ble_eq_true rfl) rfl q361 (fun _ h => h) rfl rfl rfl h dX0_mill_90 (fun gi24 h H locs B2 => ?_)
    have B := And.intro B2 B.2
    refine lv_aload_n hx hb dX0_mill_93 rfl (lv_at hL 0 rfl) ?_
    refine xx_aload_nO (o := o1j90) (ad := adj90) hx hb dX0_mill_94 rfl (lv_at hL 1 rfl) ?_
    refine xx_ifnonnull (o := o1j90) (ad := adj90) hx hb 102 h dX0_mill_95 (by decide) (fun ho26 h => ?_) (fun v25 ho26 h => ?_)
    · refine lv_iconst (v := (-1)) hx hb dX0_mill_98 (by decide) ?_
      refine lv_goto (tgt := 106) hx hb dX0_mill_99 (by decide) ?_
      exact hj106 _ _ _ _ _ _ _ _ _ _ _ _ h B (lv_sub hL [0, 1] rfl)
    · refine xx_aload_nO (o := o1j90) (ad := adj90) hx hb dX0_mill_102 rfl (lv_at hL 1 rfl) ?_
      refine xx_nn (o := o1j90) (ad := adj90) h (fun v34 ho35 h => ?_)
      refine xx_is h (fun hp36 h => ?_)
      refine xx_gi (ci := 5) (k := 7) C B.1 xc_5 hp36 (by decide) (Nat.le_of_ble_eq_true rfl) rfl q882 (fun _ h => h) dX0_mill_103 ?_
      exact hj106 _ _ _ _ _ _ _ _ _ _ _ _ h B (lv_sub hL [0, 1] rfl)
  have hj77 : ∀ (hkj77 : HK) (nxj77 : Nat) (nsj77 : Nat) (gij77 : GI) (grj77 : GR) (o1j77 : Option Nat) (adj77 : Nat → Nat) (H : Heap) (locs : List Loc) (ls : Array Slot), f_X0_mill_j77 cN cS a0 hkj77 nxj77 nsj77 gij77 grj77 o1j77 = some r → XBA D cA ad hk nx ns cN cS adj77 hkj77 nxj77 nsj77 A s gij77 grj77 H locs → lv_has ls 3 [(0, .ref (adj77 a0)), (1, va_rf (o1j77.map adj77))] → W p l e R s m args below meth c H locs (nxj77 - nx) (nsj77 - ns) Q (F0 m 77 ls []) := by
    intro hkj77 nxj77 nsj77 gij77 grj77 o1j77 adj77 H locs ls h B hL
    unfold f_X0_mill_j77 at h
    have ht19 : (hkj77 a0).1 = 10 := by rw [(B.2.1 a0 (by rw [ht]; decide)).2]; exact ht
    refine lv_aload_n hx hb dX0_mill_77 rfl (lv_at hL 0 rfl) ?_
    refine xx_aload_nO (o := o1j77) (ad := adj77) hx hb dX0_mill_78 rfl (lv_at hL 1 rfl) ?_
    refine xx_ifnonnull (o := o1j77) (ad := adj77) hx hb 86 h dX0_mill_79 (by decide) (fun ho21 h => ?_) (fun v20 ho21 h => ?_)
    · refine lv_iconst (v := 0) hx hb dX0_mill_82 (by decide) ?_
      refine lv_goto (tgt := 90) hx hb dX0_mill_83 (by decide) ?_
      exact hj90 _ _ _ _ _ _ _ _ _ _ _ _ h B (lv_sub hL [0, 1] rfl)
    · refine xx_aload_nO (o := o1j77) (ad := adj77) hx hb dX0_mill_86 rfl (lv_at hL 1 rfl) ?_
      refine xx_nn (o := o1j77) (ad := adj77) h (fun v37 ho38 h => ?_)
      refine xx_is h (fun hp39 h => ?_)
      refine xx_gi (ci := 5) (k := 6) C B.1 xc_5 hp39 (by decide) (Nat.le_of_ble_eq_true rfl) rfl q880 (fun _ h => h) dX0_mill_87 ?_
      exact hj90 _ _ _ _ _ _ _ _ _ _ _ _ h B (lv_sub hL [0, 1] rfl)
  refine lv_null hx hb dX0_mill_0 ?_
  refine lv_astore_nN (lv' := [(1, .null), (0, .ref (ad a0))]) hx hb dX0_mill_1 rfl hL (by decide) rfl (fun ls hL => ?_)
  refine lv_aload_n hx hb dX0_mill_2 rfl (lv_at hL 1 rfl) ?_
  refine xa_new C B hRr xc_4 (by decide) xd_4 q465 q466 q151 h dX0_mill_3 (fun q1 ad2 h hae3 hp4 H B => ?_)
  rw [← (hae3 a0 (by rw [ht]; decide)).1] at hL
  rw [← (hae3 a0 (by rw [ht]; decide)).1]
  have hp5 : (q1.1 a0).1 = 10 := by rw [(hae3 a0 (by rw [ht]; decide)).2]; exact ht
  refine lv_dup hx hb dX0_mill_6 rfl ?_
  refine lv_aload_n hx hb dX0_mill_7 rfl (lv_at hL 1 rfl) ?_
  refine kn_X5_init hp4 C B hRr nw_q467 (Nat.le_trans (Nat.le_of_ble_eq_true rfl) hF) (Nat.le_trans (Nat.le_of_ble_eq_true rfl) hN) hL.1 (Nat.le_of_ble_eq_true rfl) h dX0_mill_8 (fun q6 ad7 h hae8 H locs B => ?_)
  rw [← (hae8 a0 (by rw [hp5]; decide)).1] at hL
  rw [← (hae8 a0 (by rw [hp5]; decide)).1]
  have hp9 : (q6.1 a0).1 = 10 := by rw [(hae8 a0 (by rw [hp5]; decide)).2]; exact hp5
  rw [← (hae8 nx (by rw [hp4]; decide)).1]
  have hp10 : (q6.1 nx).1 = 14 := by rw [(hae8 nx (by rw [hp4]; decide)).2]; exact hp4
  refine k_X5_text hp10 C B hRr q508 (Nat.le_trans (Nat.le_of_ble_eq_true rfl) hF) (Nat.le_trans (Nat.le_of_ble_eq_true rfl) hN) hL.1 (Nat.le_of_ble_eq_true rfl) h dX0_mill_11 (fun t12 ad14 h hw17 hae16 H locs B => ?_) (fun q11 ad13 h hae15 H locs B => ?_)
  · have h := g_ell h
    have hL := lv_sub (l' := [(0, .ref (ad7 a0))]) hL [1] rfl
    rw [← (hae16 a0 (by rw [hp9]; decide)).1] at hL
    have hp18 : (t12.2.1 a0).1 = 10 := by rw [(hae16 a0 (by rw [hp9]; decide)).2]; exact hp9
    refine xa_catch C B.1 htab (by decide) hw17 q464 nw_q835 ?_
    refine lv_astore_n (lv' := [(2, .ref (ad14 t12.1)), (0, .ref (ad14 a0))]) hx hb dX0_mill_74 rfl hL (by decide) rfl (fun ls hL => ?_)
    refine lv_aload_n hx hb dX0_mill_75 rfl (lv_at hL 0 rfl) ?_
    refine lv_astore_n (lv' := [(1, .ref (ad14 t12.1)), (2, .ref (ad14 t12.1)), (0, .ref (ad14 a0))]) hx hb dX0_mill_76 rfl hL (by decide) rfl (fun ls hL => ?_)
    exact hj77 _ _ _ _ _ _ _ _ _ _ h B (lv_sub hL [2, 0] rfl)
  · have h := g_elr h
    rw [← (hae15 a0 (by rw [hp9]; decide)).1] at hL
    rw [← (hae15 a0 (by rw [hp9]; decide)).1]
    have hp40 : (q11.2.1 a0).1 = 10 := by rw [(hae15 a0 (by rw [hp9]; decide)).2]; exact hp9
    refine xx_ok h (fun ok42 h => ?_)
    refine xx_pr (ci := 0) (k := 4) C B.1 xc_0 hp40 (by decide) ok42 (Nat.le_of_ble_eq_true rfl) rfl q363 (fun _ h => h) rfl rfl rfl h dX0_mill_14 (fun gr41 h H locs B2 => ?_)
    have B := And.intro B2 B.2
    refine lv_aload_n hx hb dX0_mill_17 rfl (lv_at hL 1 rfl) ?_
    refine xx_gr (ci := 0) (k := 5) C B.1 xc_0 hp40 (by decide) (Nat.le_of_ble_eq_true rfl) rfl q364 (fun _ h => h) h dX0_mill_18 (fun v43 ok44 h => ?_)
    refine lv_aload_n hx hb dX0_mill_21 rfl (lv_at hL 1 rfl) ?_
    refine xx_gr (ci := 0) (k := 4) C B.1 xc_0 hp40 (by decide) (Nat.le_of_ble_eq_true rfl) rfl q363 (fun _ h => h) h dX0_mill_22 (fun v45 ok46 h => ?_)
    refine xx_is h (fun hp47 h => ?_)
    refine k_X3_begin hp47 C B.1 q329 (Nat.le_trans (Nat.le_of_ble_eq_true rfl) hF) (Nat.le_trans (Nat.le_of_ble_eq_true rfl) hN) hL.1 (Nat.le_of_ble_eq_true rfl) (xa_z hRr B) h dX0_mill_25 (fun q48 h H locs B2 => ?_)
    have B := And.intro B2 B.2
    refine lv_pop hx hb dX0_mill_28 rfl ?_
    refine lv_aload_n hx hb dX0_mill_29 rfl (lv_at hL 1 rfl) ?_
    refine lv_iconst (v := 0) hx hb dX0_mill_30 (by decide) ?_
    refine xx_pi (ci := 0) (k := 11) C B.1 xc_0 hp40 (by decide) (Nat.le_of_ble_eq_true rfl) rfl q371 (fun _ h => h) rfl rfl rfl h dX0_mill_31 (fun gi49 h H locs B2 => ?_)
    have B := And.intro B2 B.2
    refine lv_aload_n hx hb dX0_mill_34 rfl (lv_at hL 1 rfl) ?_
    refine lv_iconst (v := 0) hx hb dX0_mill_35 (by decide) ?_
    refine xx_pi (ci := 0) (k := 12) C B.1 xc_0 hp40 (by decide) (Nat.le_of_ble_eq_true rfl) rfl q372 (fun _ h => h) rfl rfl rfl h dX0_mill_36 (fun gi50 h H locs B2 => ?_)
    have B := And.intro B2 B.2
    refine lv_aload_n hx hb dX0_mill_39 rfl (lv_at hL 1 rfl) ?_
    refine lv_iconst (v := 0) hx hb dX0_mill_40 (by decide) ?_
    refine xx_pi (ci := 0) (k := 18) C B.1 xc_0 hp40 (by decide) (Nat.le_of_ble_eq_true rfl) rfl q378 (fun _ h => h) rfl rfl rfl h dX0_mill_41 (fun gi51 h H locs B2 => ?_)
    have B := And.intro B2 B.2
    refine lv_aload_n hx hb dX0_mill_44 rfl (lv_at hL 1 rfl) ?_
    refine xx_gr (ci := 0) (k := 25) C B.1 xc_0 hp40 (by decide) (Nat.le_of_ble_eq_true rfl) rfl q385 (fun _ h => h) h dX0_mill_45 (fun v52 ok53 h => ?_)
    refine xx_is h (fun hp54 h => ?_)
    refine k_J2_clear hp54 C B hRr q1226 (Nat.le_trans (Nat.le_of_ble_eq_true rfl) hF) (Nat.le_trans (Nat.le_of_ble_eq_true rfl) hN) hL.1 (Nat.le_of_ble_eq_true rfl) h dX0_mill_48 (fun q55 ad56 h hae57 H locs B => ?_)
    rw [← (hae57 a0 (by rw [hp40]; decide)).1] at hL
    have hp58 : (q55.1 a0).1 = 10 := by rw [(hae57 a0 (by rw [hp40]; decide)).2]; exact hp40
    refine lv_iconst (v := 0) hx hb dX0_mill_51 (by decide) ?_
    refine lv_istore_n (lv' := [(2, .int 0), (1, .null), (0, .ref (ad56 a0))]) hx hb dX0_mill_52 rfl hL (by decide) (by first | rfl | (simp [xx_vcat]; done)) (fun ls hL => ?_)
    obtain ⟨E53, h853, h⟩ := g_ob h
    have kx53 : ∀ (hke53 : HK) (nxe53 : Nat) (nse53 : Nat) (gie53 : GI) (gre53 : GR) (ade53 : Nat → Nat) (H : Heap) (locs : List Loc) (ls : Array Slot), (hke53, nxe53, nse53, gie53, gre53) = E53 → XBA D cA ad hk nx ns cN cS ade53 hke53 nxe53 nse53 A s gie53 gre53 H locs → lv_has ls 3 [(0, .ref (ade53 a0)), (1, .null)] → W p l e R s m args below meth c H locs (nxe53 - nx) (nse53 - ns) Q (F0 m 71 ls []) := by
      intro hke53 nxe53 nse53 gie53 gre53 ade53 H locs ls he B hL
      subst he
      have h : f_X0_mill_x53 cN cS a0 hke53 nxe53 nse53 gie53 gre53 = some r := h
      unfold f_X0_mill_x53 at h
      have ht64 : (hke53 a0).1 = 10 := by rw [(B.2.1 a0 (by rw [ht]; decide)).2]; exact ht
      refine lv_goto (tgt := 77) hx hb dX0_mill_71 (by decide) ?_
      exact hj77 _ _ _ _ _ _ _ _ _ _ h B (lv_sub hL [0, 1] rfl)
    have hl53 : ∀ (k : Nat) (x2l53 : Int32) (hkl53 : HK) (nxl53 : Nat) (nsl53 : Nat) (gil53 : GI) (grl53 : GR) (adl53 : Nat → Nat) (H : Heap) (locs : List Loc) (ls : Array Slot), g_loop k (fun (s : Int32 × HK × Nat × Nat × GI × GR) => f_X0_mill_l53 cN cS a0 s.1 s.2.1 s.2.2.1 s.2.2.2.1 s.2.2.2.2.1 s.2.2.2.2.2) (x2l53, hkl53, nxl53, nsl53, gil53, grl53) = some E53 → XBA D cA ad hk nx ns cN cS adl53 hkl53 nxl53 nsl53 A s gil53 grl53 H locs → lv_has ls 3 [(0, .ref (adl53 a0)), (1, .null), (2, .int x2l53)] → W p l e R s m args below meth c H locs (nxl53 - nx) (nsl53 - ns) Q (F0 m 53 ls []) := by
      intro k
      induction k with
      | zero => intro x2l53 hkl53 nxl53 nsl53 gil53 grl53 adl53 H locs ls h; exact absurd h (fun z => g_loop_0 z)
      | succ k ih53 =>
        intro x2l53 hkl53 nxl53 nsl53 gil53 grl53 adl53 H locs ls h B hL
        obtain ⟨Z53, h, h953⟩ := g_loop_s h
        have h : f_X0_mill_l53 cN cS a0 x2l53 hkl53 nxl53 nsl53 gil53 grl53 = some Z53 := h
        unfold f_X0_mill_l53 at h
        have ht59 : (hkl53 a0).1 = 10 := by rw [(B.2.1 a0 (by rw [ht]; decide)).2]; exact ht
        refine lv_iload_n hx hb dX0_mill_53 rfl (lv_at hL 2 rfl) ?_
        refine lv_iconst (v := 3) hx hb dX0_mill_54 (by decide) ?_
        refine gg_icmp_ge hx hb 71 h dX0_mill_55 (by decide) (fun h => ?_) (fun h => ?_)
        · exact kx53 _ _ _ _ _ _ _ _ _ (g_exit h h953) B (lv_sub hL [0, 1] rfl)
        · refine lv_aload_n hx hb dX0_mill_58 rfl (lv_at hL 0 rfl) ?_
          refine xx_gr (ci := 0) (k := 29) C B.1 xc_0 ht59 (by decide) (Nat.le_of_ble_eq_true rfl) rfl q389 (fun _ h => h) h dX0_mill_59 (fun v60 ok61 h => ?_)
          refine lv_iload_n hx hb dX0_mill_62 rfl (lv_at hL 2 rfl) ?_
          refine lv_iconst (v := 0) hx hb dX0_mill_63 (by decide) ?_
          refine xx_is h (fun hp62 h => ?_)
          refine xx_zast C B.1 hp62 h dX0_mill_64 (fun gi63 h H locs B2 => ?_)
          have B := And.intro B2 B.2
          refine lv_iinc (v := x2l53 + 1) (lv' := [(2, .int (x2l53 + 1)), (0, .ref (adl53 a0)), (1, .null)]) hx hb dX0_mill_65 hL (k := 2) rfl rfl (by decide) rfl (fun ls hL => ?_)
          refine lv_goto (tgt := 53) hx hb dX0_mill_68 (by decide) ?_
          exact ih53 _ _ _ _ _ _ _ _ _ _ (g_next h h953) B (lv_sub hL [1, 2, 0] rfl)
    exact hl53 g_K _ _ _ _ _ _ _ _ _ _ h853 B (lv_sub hL [2, 1, 0] rfl)

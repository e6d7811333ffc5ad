/-! THE COMPONENT: methods that make cells, constructors -/
set_option maxRecDepth 100000
def f_J0_init (cN cS : Nat) (hk : HK) (nx ns : Nat) (gi : GI) (gr : GR) (a0 : Nat) : Option (HK × Nat × Nat × GI × GR) :=
  some (hk, nx, ns, gi, gr)
set_option maxHeartbeats 400000 in
theorem w_J0_init (l : Launch) (D : va_G) (cA : Nat → ClassId) (ad : Nat → Nat) (cN cS : Nat) (hk : HK) (nx ns : Nat) (gi : GI) (gr : GR) (a0 : Nat) (ht : (hk a0).1 = 22) (hcap : nx ≤ cN ∧ ns ≤ cS) (r : HK × Nat × Nat × GI × GR) (h : f_J0_init cN cS hk nx ns gi gr a0 = some r) (sz : Nat) : Met l yJ0_init (ws_ yJ0_init cJ0_init 1 (none)) ({ frames := 1, cells := cN - nx, slots := cS - ns, locals := 64 } : Room) (va_Pc [.ref (ad a0)] (XPre D cA ad hk nx gi gr sz)) (va_Qv (fun (u : XU) => u.2 = r) (XPostA D cA ad hk nx sz) (XA ad nx sz)) (cN - nx) (cS - ns) (XA ad nx sz) := by
  refine xa_stV (own := RJ0) (P := (fun (u : XU) => u.2 = r)) (by decide +kernel) rfl (Nat.le_of_ble_eq_true rfl) hcap (fun p e s m args below meth c R Q A ls C hmn hF hN hRr B hret hL => ?_) sz
  have hx := C.1
  have hb := C.2.1
  have hL : lv_has ls 1 [(0, .ref (ad a0))] := hL
  unfold f_J0_init at h
  refine lv_aload_n hx hb dJ0_init_0 rfl (lv_at hL 0 rfl) ?_
  refine W.objInit hx hb C.2.2.2.1 (C.2.2.2.2 _ q198) (C.2.2.2.2 _ q179) (C.2.2.2.2 _ q180) rfl (by rw [C.2.2.1]; exact hL.1) rfl dJ0_init_1 (Nat.le_trans (Nat.le_of_ble_eq_true rfl) hF) (Nat.le_trans (Nat.le_of_ble_eq_true rfl) hN) ?_
  refine W.eq (g2 := F0 m 4 ls []) rfl ?_
  exact hret (ad, hk, nx, ns, gi, gr) _ _ _ _ (Option.some.inj h) B dJ0_init_4
theorem k_J0_init {p : Program} {l : Launch} {e : Env} {R : Room} {s : State} {m : MethodId} {args : Array Value} {below : List Frame} {meth : Method} {c : Code} {H : Heap} {locs : List Loc} {Q : State → Prop} {pc : Nat} {ls : Array Slot} {rest : List Value} {cc : ByteArray} {nL : Nat} {D : va_G} {cA : Nat → ClassId} {a9 : Nat → Nat} {h9 : HK} {n0 m0 cN cS : Nat} {ad : Nat → Nat} {hk : HK} {nx ns : Nat} {A : Nat → Prop} {gi : GI} {gr : GR} {α : Type} {r : α} {own : String} {idx : Nat} {a0 : Nat} {ff : (HK × Nat × Nat × GI × GR) → Option α} (ht : (hk a0).1 = 22) (C : CallFix p m c cc nL s args lw_all own) (B : XBA D cA a9 h9 n0 m0 cN cS ad hk nx ns A s gi gr H locs) (hRr : R.cells = cN - n0 ∧ R.slots = cS - m0) (hq : Cond.methodLink own idx yJ0_init ∈ lw_all) (hF : 2 ≤ R.frames) (hN : 84 ≤ R.locals) (hs : ls.size = nL) (hw : (rest.map fun v => v.category).sum ≤ 8) (h : (g_cc (fun c1 c2 => f_J0_init c1 c2 hk nx ns gi gr a0) (fun q : HK × Nat × Nat × GI × GR => q.2.1) (fun q : HK × Nat × Nat × GI × GR => q.2.2.1) cN cS nx ns).bind ff = some r) (hdg : decode cc pc = .ok (.invokespecial idx, 3)) (kk : ∀ (q : HK × Nat × Nat × GI × GR) (ad' : Nat → Nat), ff q = some r → (∀ i, (hk i).1 < 1000 → ad' i = ad i ∧ q.1 i = hk i) → ∀ (H' : Heap) (locs' : List Loc), XBA D cA a9 h9 n0 m0 cN cS ad' q.1 q.2.1 q.2.2.1 A s q.2.2.2.1 q.2.2.2.2 H' locs' → W p l e R s m args below meth c H' locs' (q.2.1 - n0) (q.2.2.1 - m0) Q (F0 m (pc + 3) ls (rest))) : W p l e R s m args below meth c H locs (nx - n0) (ns - m0) Q (F0 m pc ls (.ref (ad a0) :: rest)) := by
  obtain ⟨q, h1, h2⟩ := g_ob h
  obtain ⟨h3, c1, c2, c3, c4⟩ := g_cc_of h1
  refine xa_cIV (As := []) (rest := rest) (n := 0) (qn := q.2.1) (qs := q.2.2.1) (b := a0) C B hRr (fun sz => w_J0_init l D cA ad _ _ hk nx ns gi gr a0 ht ⟨c1, c3⟩ q h3 sz) hq q196 q143 q197 rfl (by decide +kernel) ⟨c1, c2, c3, c4⟩ (fun u hp => ?_) ⟨hF, hN⟩ rfl hs hw hdg (fun u H9 locs9 hp hae B9 => ?_)
  · have hp := hp
    subst hp
    exact ⟨rfl, rfl⟩
  · have hp := hp
    subst hp
    exact kk _ u.1 h2 hae H9 locs9 B9
def f_J1_init (cN cS : Nat) (hk : HK) (nx ns : Nat) (gi : GI) (gr : GR) (a0 : Nat) : Option (HK × Nat × Nat × GI × GR) :=
  (g_cc (fun c1 c2 => f_J0_init c1 c2 hk nx ns gi gr a0) (fun q : HK × Nat × Nat × GI × GR => q.2.1) (fun q : HK × Nat × Nat × GI × GR => q.2.2.1) cN cS nx ns).bind fun q1 =>
  (some (g_pi q1.2.2.2.1 a0 0 0)).bind fun gi5 =>
  some (q1.1, q1.2.1, q1.2.2.1, gi5, q1.2.2.2.2)
set_option maxHeartbeats 400000 in
theorem w_J1_init (l : Launch) (D : va_G) (cA : Nat → ClassId) (ad : Nat → Nat) (cN cS : Nat) (hk : HK) (nx ns : Nat) (gi : GI) (gr : GR) (a0 : Nat) (ht : (hk a0).1 = 22) (hcap : nx ≤ cN ∧ ns ≤ cS) (r : HK × Nat × Nat × GI × GR) (h : f_J1_init cN cS hk nx ns gi gr a0 = some r) (sz : Nat) : Met l yJ1_init (ws_ yJ1_init cJ1_init 1 (none)) ({ frames := 2, cells := cN - nx, slots := cS - ns, locals := 84 } : Room) (va_Pc [.ref (ad a0)] (XPre D cA ad hk nx gi gr sz)) (va_Qv (fun (u : XU) => u.2 = r) (XPostA D cA ad hk nx sz) (XA ad nx sz)) (cN - nx) (cS - ns) (XA ad nx sz) := by
  refine xa_stV (own := RJ1) (P := (fun (u : XU) => u.2 = r)) (by decide +kernel) rfl (Nat.le_of_ble_eq_true rfl) hcap (fun p e s m args below meth c R Q A ls C hmn hF hN hRr B hret hL => ?_) sz
  have hx := C.1
  have hb := C.2.1
  have hL : lv_has ls 1 [(0, .ref (ad a0))] := hL
  unfold f_J1_init at h
  refine lv_aload_n hx hb dJ1_init_0 rfl (lv_at hL 0 rfl) ?_
  refine k_J0_init ht C B hRr q195 (Nat.le_trans (Nat.le_of_ble_eq_true rfl) hF) (Nat.le_trans (Nat.le_of_ble_eq_true rfl) hN) hL.1 (Nat.le_of_ble_eq_true rfl) h dJ1_init_1 (fun q1 ad2 h hae3 H locs B => ?_)
  rw [← (hae3 a0 (by rw [ht]; decide)).1] at hL
  have hp4 : (q1.1 a0).1 = 22 := by rw [(hae3 a0 (by rw [ht]; decide)).2]; exact ht
  refine lv_aload_n hx hb dJ1_init_4 rfl (lv_at hL 0 rfl) ?_
  refine lv_iconst (v := 0) hx hb dJ1_init_5 (by decide) ?_
  refine xx_pi (ci := 12) (k := 0) C B.1 xc_12 hp4 (by decide) (Nat.le_of_ble_eq_true rfl) rfl q207 (fun _ h => h) rfl rfl rfl h dJ1_init_6 (fun gi5 h H locs B2 => ?_)
  have B := And.intro B2 B.2
  exact hret (ad2, q1.1, q1.2.1, q1.2.2.1, gi5, q1.2.2.2.2) _ _ _ _ (Option.some.inj h) B dJ1_init_9
theorem k_J1_init {p : Program} {l : Launch} {e : Env} {R : Room} {s : State} {m : MethodId} {args : Array Value} {below : List Frame} {meth : Method} {c : Code} {H : Heap} {locs : List Loc} {Q : State → Prop} {pc : Nat} {ls : Array Slot} {rest : List Value} {cc : ByteArray} {nL : Nat} {D : va_G} {cA : Nat → ClassId} {a9 : Nat → Nat} {h9 : HK} {n0 m0 cN cS : Nat} {ad : Nat → Nat} {hk : HK} {nx ns : Nat} {A : Nat → Prop} {gi : GI} {gr : GR} {α : Type} {r : α} {own : String} {idx : Nat} {a0 : Nat} {ff : (HK × Nat × Nat × GI × GR) → Option α} (ht : (hk a0).1 = 22) (C : CallFix p m c cc nL s args lw_all own) (B : XBA D cA a9 h9 n0 m0 cN cS ad hk nx ns A s gi gr H locs) (hRr : R.cells = cN - n0 ∧ R.slots = cS - m0) (hq : Cond.methodLink own idx yJ1_init ∈ lw_all) (hF : 3 ≤ R.frames) (hN : 104 ≤ R.locals) (hs : ls.size = nL) (hw : (rest.map fun v => v.category).sum ≤ 8) (h : (g_cc (fun c1 c2 => f_J1_init c1 c2 hk nx ns gi gr a0) (fun q : HK × Nat × Nat × GI × GR => q.2.1) (fun q : HK × Nat × Nat × GI × GR => q.2.2.1) cN cS nx ns).bind ff = some r) (hdg : decode cc pc = .ok (.invokespecial idx, 3)) (kk : ∀ (q : HK × Nat × Nat × GI × GR) (ad' : Nat → Nat), ff q = some r → (∀ i, (hk i).1 < 1000 → ad' i = ad i ∧ q.1 i = hk i) → ∀ (H' : Heap) (locs' : List Loc), XBA D cA a9 h9 n0 m0 cN cS ad' q.1 q.2.1 q.2.2.1 A s q.2.2.2.1 q.2.2.2.2 H' locs' → W p l e R s m args below meth c H' locs' (q.2.1 - n0) (q.2.2.1 - m0) Q (F0 m (pc + 3) ls (rest))) : W p l e R s m args below meth c H locs (nx - n0) (ns - m0) Q (F0 m pc ls (.ref (ad a0) :: rest)) := by
  obtain ⟨q, h1, h2⟩ := g_ob h
  obtain ⟨h3, c1, c2, c3, c4⟩ := g_cc_of h1
  refine xa_cIV (As := []) (rest := rest) (n := 0) (qn := q.2.1) (qs := q.2.2.1) (b := a0) C B hRr (fun sz => w_J1_init l D cA ad _ _ hk nx ns gi gr a0 ht ⟨c1, c3⟩ q h3 sz) hq q193 q144 q194 rfl (by decide +kernel) ⟨c1, c2, c3, c4⟩ (fun u hp => ?_) ⟨hF, hN⟩ rfl hs hw hdg (fun u H9 locs9 hp hae B9 => ?_)
  · have hp := hp
    subst hp
    exact ⟨rfl, rfl⟩
  · have hp := hp
    subst hp
    exact kk _ u.1 h2 hae H9 locs9 B9
def f_J11_copyOf (cN cS : Nat) (hk : HK) (nx ns : Nat) (gi : GI) (gr : GR) (as0 : Nat) (x1 : Int32) : Option (Nat × HK × Nat × Nat × GI × GR) :=
  (g_is hk as0 1).bind fun _ =>
  if x1 = (Int32.ofNat (hk as0).2) then
  ((g_clone cN cS nx ns hk gi gr as0).bind fun q11 =>
  some (nx, q11.1, nx + 1, ns + (hk as0).2, q11.2.1, q11.2.2))
  else
  ((g_len x1).bind fun _ =>
  (g_new cN cS nx ns 1 x1.toNatClampNeg x1.toNatClampNeg hk gi gr).bind fun q2 =>
  (g_cpb q2.1 q2.2.1 as0 0 nx 0 (if x1 < (Int32.ofNat (q2.1 as0).2) then x1 else (Int32.ofNat (q2.1 as0).2))).bind fun gi10 =>
  some (nx, q2.1, nx + 1, ns + x1.toNatClampNeg, gi10, q2.2.2))
set_option maxHeartbeats 400000 in
theorem w_J11_copyOf (l : Launch) (D : va_G) (cA : Nat → ClassId) (ad : Nat → Nat) (cN cS : Nat) (hk : HK) (nx ns : Nat) (gi : GI) (gr : GR) (as0 : Nat) (x1 : Int32) (hcap : nx ≤ cN ∧ ns ≤ cS) (r : Nat × HK × Nat × Nat × GI × GR) (h : f_J11_copyOf cN cS hk nx ns gi gr as0 x1 = some r) (sz : Nat) : Met l yJ11_copyOf (ws_ yJ11_copyOf cJ11_copyOf 3 (some (.array .byte))) ({ frames := 1, cells := cN - nx, slots := cS - ns, locals := 64 } : Room) (va_Pc [.ref (ad as0), .int x1] (XPre D cA ad hk nx gi gr sz)) (va_Qq (fun o u => ∃ v : Option Nat, o = v.map u.1 ∧ (fun (v : Option Nat) (u : XU) => ∃ v9, v = some v9 ∧ (v9, u.2) = r) v u) (XPostA D cA ad hk nx sz) (XA ad nx sz)) (cN - nx) (cS - ns) (XA ad nx sz) := by
  refine xa_stR (Or.inr ⟨_, rfl⟩) (own := RJ11) (P := (fun (v : Option Nat) (u : XU) => ∃ v9, v = some v9 ∧ (v9, u.2) = r)) (by decide +kernel) rfl (Nat.le_of_ble_eq_true rfl) hcap (fun p e s m args below meth c R Q A ls C hmn hF hN hRr B hret hL => ?_) sz
  have hx := C.1
  have hb := C.2.1
  have hL : lv_has ls 3 [(0, .ref (ad as0)), (1, .int x1)] := hL
  unfold f_J11_copyOf at h
  refine lv_iload_n hx hb dJ11_copyOf_0 rfl (lv_at hL 1 rfl) ?_
  refine lv_aload_n hx hb dJ11_copyOf_1 rfl (lv_at hL 0 rfl) ?_
  refine xx_is h (fun hp1 h => ?_)
  refine xx_alen C B.1 hp1 (by decide) dJ11_copyOf_2 ?_
  refine gg_icmp_ne hx hb 14 h dJ11_copyOf_3 (by decide) (fun h => ?_) (fun h => ?_)
  · refine lv_iload_n hx hb dJ11_copyOf_14 rfl (lv_at hL 1 rfl) ?_
    refine xx_len h (fun hl6 hl7 h => ?_)
    refine xa_newa (t := 1) (atype := .byte) (ty := .byte) C B hRr (by decide) rfl rfl (fun _ h => h) rfl q218 hl6 rfl (by first | exact hl7 | (show _ * 1 ≤ _; omega)) h dJ11_copyOf_15 (fun q2 ad3 h hae4 hp5 H B => ?_)
    rw [← (hae4 as0 (by rw [hp1]; decide)).1] at hL
    have hp9 : (q2.1 as0).1 = 1 := by rw [(hae4 as0 (by rw [hp1]; decide)).2]; exact hp1
    have hp8 : (q2.1 nx).1 = 1 := by rw [hp5]
    refine lv_astore_n (lv' := [(2, .ref (ad3 nx)), (0, .ref (ad3 as0)), (1, .int x1)]) hx hb dJ11_copyOf_17 rfl hL (by decide) rfl (fun ls hL => ?_)
    refine lv_aload_n hx hb dJ11_copyOf_18 rfl (lv_at hL 1 rfl) ?_
    refine lv_iconst (v := 0) hx hb dJ11_copyOf_19 (by decide) ?_
    refine lv_aload_n hx hb dJ11_copyOf_20 rfl (lv_at hL 0 rfl) ?_
    refine lv_iconst (v := 0) hx hb dJ11_copyOf_21 (by decide) ?_
    refine lv_aload_n hx hb dJ11_copyOf_22 rfl (lv_at hL 1 rfl) ?_
    refine xx_alen C B.1 hp9 (by decide) dJ11_copyOf_23 ?_
    refine lv_iload_n hx hb dJ11_copyOf_24 rfl (lv_at hL 2 rfl) ?_
    refine xx_min C q591 q592 q157 q593 (Nat.le_trans (Nat.le_of_ble_eq_true rfl) hF) (Nat.le_trans (Nat.le_of_ble_eq_true rfl) hN) hL.1 (Nat.le_of_ble_eq_true rfl) (xa_z hRr B) dJ11_copyOf_25 ?_
    refine xx_cpb C B.1 q594 q596 q595 q159 hp9 hp8 (Nat.le_trans (Nat.le_of_ble_eq_true rfl) hF) (Nat.le_trans (Nat.le_of_ble_eq_true rfl) hN) hL.1 (Nat.le_of_ble_eq_true rfl) h dJ11_copyOf_28 (fun gi10 h H locs B2 => ?_)
    have B := And.intro B2 B.2
    refine lv_aload_n hx hb dJ11_copyOf_31 rfl (lv_at hL 0 rfl) ?_
    exact hret (some nx) (ad3, q2.1, nx + 1, ns + x1.toNatClampNeg, gi10, q2.2.2) _ _ _ _ ⟨_, rfl, Option.some.inj h⟩ B dJ11_copyOf_32
  · refine lv_aload_n hx hb dJ11_copyOf_6 rfl (lv_at hL 0 rfl) ?_
    refine xa_clone C B hRr hp1 q584 q585 q586 q587 q588 nw_q589 (Nat.le_trans (Nat.le_of_ble_eq_true rfl) hF) (Nat.le_trans (Nat.le_of_ble_eq_true rfl) hN) hL.1 (Nat.le_of_ble_eq_true rfl) h dJ11_copyOf_7 (fun q11 ad12 h hae13 hp14 H B => ?_)
    rw [← (hae13 as0 (by rw [hp1]; decide)).1] at hL
    have hp16 : (q11.1 as0).1 = 1 := by rw [(hae13 as0 (by rw [hp1]; decide)).2]; exact hp1
    have hp15 : (q11.1 nx).1 = 1 := by rw [hp14]
    refine xx_castB C B.1 hp15 q590 dJ11_copyOf_10 ?_
    exact hret (some nx) (ad12, q11.1, nx + 1, ns + (hk as0).2, q11.2.1, q11.2.2) _ _ _ _ ⟨_, rfl, Option.some.inj h⟩ B dJ11_copyOf_13
theorem k_J11_copyOf {p : Program} {l : Launch} {e : Env} {R : Room} {s : State} {m : MethodId} {args : Array Value} {below : List Frame} {meth : Method} {c : Code} {H : Heap} {locs : List Loc} {Q : State → Prop} {pc : Nat} {ls : Array Slot} {rest : List Value} {cc : ByteArray} {nL : Nat} {D : va_G} {cA : Nat → ClassId} {a9 : Nat → Nat} {h9 : HK} {n0 m0 cN cS : Nat} {ad : Nat → Nat} {hk : HK} {nx ns : Nat} {A : Nat → Prop} {gi : GI} {gr : GR} {α : Type} {r : α} {own : String} {idx : Nat} {as0 : Nat} {x1 : Int32} {ff : (Nat × HK × Nat × Nat × GI × GR) → Option α} (C : CallFix p m c cc nL s args lw_all own) (B : XBA D cA a9 h9 n0 m0 cN cS ad hk nx ns A s gi gr H locs) (hRr : R.cells = cN - n0 ∧ R.slots = cS - m0) (hq : Cond.methodLink own idx yJ11_copyOf ∈ lw_all) (hF : 2 ≤ R.frames) (hN : 86 ≤ R.locals) (hs : ls.size = nL) (hw : (rest.map fun v => v.category).sum ≤ 8) (h : (g_cc (fun c1 c2 => f_J11_copyOf c1 c2 hk nx ns gi gr as0 x1) (fun q : Nat × HK × Nat × Nat × GI × GR => q.2.2.1) (fun q : Nat × HK × Nat × Nat × GI × GR => q.2.2.2.1) cN cS nx ns).bind ff = some r) (hdg : decode cc pc = .ok (.invokestatic idx, 3)) (kk : ∀ (q : Nat × HK × Nat × Nat × GI × GR) (ad' : Nat → Nat), ff q = some r → (∀ i, (hk i).1 < 1000 → ad' i = ad i ∧ q.2.1 i = hk i) → ∀ (H' : Heap) (locs' : List Loc), XBA D cA a9 h9 n0 m0 cN cS ad' q.2.1 q.2.2.1 q.2.2.2.1 A s q.2.2.2.2.1 q.2.2.2.2.2 H' locs' → W p l e R s m args below meth c H' locs' (q.2.2.1 - n0) (q.2.2.2.1 - m0) Q (F0 m (pc + 3) ls (.ref (ad' q.1) :: rest))) : W p l e R s m args below meth c H locs (nx - n0) (ns - m0) Q (F0 m pc ls (.int x1 :: .ref (ad as0) :: rest)) := by
  obtain ⟨q, h1, h2⟩ := g_ob h
  obtain ⟨h3, c1, c2, c3, c4⟩ := g_cc_of h1
  refine xa_cSR (As := [.ref (ad as0), .int x1]) (rest := rest) (n := 2) (qn := q.2.2.1) (qs := q.2.2.2.1) C B hRr (fun sz => w_J11_copyOf l D cA ad _ _ hk nx ns gi gr as0 x1 ⟨c1, c3⟩ q h3 sz) hq q582 q158 q583 (by decide +kernel) ⟨c1, c2, c3, c4⟩ (fun v u hp => ?_) ⟨hF, hN⟩ rfl hs hw hdg (fun v u H9 locs9 hp hae B9 => ?_)
  · obtain ⟨v9, rfl, rfl⟩ := hp
    exact ⟨rfl, rfl⟩
  · obtain ⟨v9, rfl, rfl⟩ := hp
    exact kk _ u.1 h2 hae H9 locs9 B9
def f_J11_copyOfRangeByte (cN cS : Nat) (hk : HK) (nx ns : Nat) (gi : GI) (gr : GR) (as0 : Nat) (x1 : Int32) (x2 : Int32) : Option (Nat × HK × Nat × Nat × GI × GR) :=
  (f_J11_checkLength hk gi gr x1 x2).bind fun q1 =>
  (g_ok hk as0).bind fun _ =>
  (g_len (x2 - x1)).bind fun _ =>
  (g_new cN cS nx ns 1 ((x2 - x1).toNatClampNeg) ((x2 - x1).toNatClampNeg) hk gi gr).bind fun q3 =>
  (g_is q3.1 as0 1).bind fun _ =>
  (g_cpb q3.1 q3.2.1 as0 x1 nx 0 (if (x2 - x1) < ((Int32.ofNat (q3.1 as0).2) - x1) then (x2 - x1) else ((Int32.ofNat (q3.1 as0).2) - x1))).bind fun gi12 =>
  some (nx, q3.1, nx + 1, ns + ((x2 - x1).toNatClampNeg), gi12, q3.2.2)
set_option maxHeartbeats 400000 in
theorem w_J11_copyOfRangeByte (l : Launch) (D : va_G) (cA : Nat → ClassId) (ad : Nat → Nat) (cN cS : Nat) (hk : HK) (nx ns : Nat) (gi : GI) (gr : GR) (as0 : Nat) (x1 : Int32) (x2 : Int32) (hcap : nx ≤ cN ∧ ns ≤ cS) (r : Nat × HK × Nat × Nat × GI × GR) (h : f_J11_copyOfRangeByte cN cS hk nx ns gi gr as0 x1 x2 = some r) (sz : Nat) : Met l yJ11_copyOfRangeByte (ws_ yJ11_copyOfRangeByte cJ11_copyOfRangeByte 5 (some (.array .byte))) ({ frames := 2, cells := cN - nx, slots := cS - ns, locals := 85 } : Room) (va_Pc [.ref (ad as0), .int x1, .int x2] (XPre D cA ad hk nx gi gr sz)) (va_Qq (fun o u => ∃ v : Option Nat, o = v.map u.1 ∧ (fun (v : Option Nat) (u : XU) => ∃ v9, v = some v9 ∧ (v9, u.2) = r) v u) (XPostA D cA ad hk nx sz) (XA ad nx sz)) (cN - nx) (cS - ns) (XA ad nx sz) := by
  refine xa_stR (Or.inr ⟨_, rfl⟩) (own := RJ11) (P := (fun (v : Option Nat) (u : XU) => ∃ v9, v = some v9 ∧ (v9, u.2) = r)) (by decide +kernel) rfl (Nat.le_of_ble_eq_true rfl) hcap (fun p e s m args below meth c R Q A ls C hmn hF hN hRr B hret hL => ?_) sz
  have hx := C.1
  have hb := C.2.1
  have hL : lv_has ls 5 [(0, .ref (ad as0)), (1, .int x1), (2, .int x2)] := hL
  unfold f_J11_copyOfRangeByte at h
  refine lv_iload_n hx hb dJ11_copyOfRangeByte_0 rfl (lv_at hL 1 rfl) ?_
  refine lv_iload_n hx hb dJ11_copyOfRangeByte_1 rfl (lv_at hL 2 rfl) ?_
  refine k_J11_checkLength C B.1 q681 (Nat.le_trans (Nat.le_of_ble_eq_true rfl) hF) (Nat.le_trans (Nat.le_of_ble_eq_true rfl) hN) hL.1 (Nat.le_of_ble_eq_true rfl) (xa_z hRr B) h dJ11_copyOfRangeByte_2 (fun q1 h H locs B2 => ?_)
  have B := And.intro B2 B.2
  refine lv_iload_n hx hb dJ11_copyOfRangeByte_5 rfl (lv_at hL 2 rfl) ?_
  refine lv_iload_n hx hb dJ11_copyOfRangeByte_6 rfl (lv_at hL 1 rfl) ?_
  refine lv_isub hx hb dJ11_copyOfRangeByte_7 ?_
  refine lv_istore_n (lv' := [(3, .int (x2 - x1)), (0, .ref (ad as0)), (1, .int x1), (2, .int x2)]) hx hb dJ11_copyOfRangeByte_8 rfl hL (by decide) rfl (fun ls hL => ?_)
  refine lv_iload_n hx hb dJ11_copyOfRangeByte_9 rfl (lv_at hL 0 rfl) ?_
  refine xx_ok h (fun ok2 h => ?_)
  refine xx_len h (fun hl7 hl8 h => ?_)
  refine xa_newa (t := 1) (atype := .byte) (ty := .byte) C B hRr (by decide) rfl rfl (fun _ h => h) rfl q218 hl7 rfl (by first | exact hl8 | (show _ * 1 ≤ _; omega)) h dJ11_copyOfRangeByte_10 (fun q3 ad4 h hae5 hp6 H B => ?_)
  rw [← (hae5 as0 ok2).1] at hL
  have ok10 : (q3.1 as0).1 < 1000 := by rw [(hae5 as0 ok2).2]; exact ok2
  have hp9 : (q3.1 nx).1 = 1 := by rw [hp6]
  refine lv_astore (lv' := [(4, .ref (ad4 nx)), (3, .int (x2 - x1)), (0, .ref (ad4 as0)), (1, .int x1), (2, .int x2)]) hx hb dJ11_copyOfRangeByte_12 hL (by decide) rfl (fun ls hL => ?_)
  refine lv_aload_n hx hb dJ11_copyOfRangeByte_14 rfl (lv_at hL 2 rfl) ?_
  refine lv_iload_n hx hb dJ11_copyOfRangeByte_15 rfl (lv_at hL 3 rfl) ?_
  refine lv_aload hx hb dJ11_copyOfRangeByte_16 (lv_at hL 0 rfl) ?_
  refine lv_iconst (v := 0) hx hb dJ11_copyOfRangeByte_18 (by decide) ?_
  refine lv_aload_n hx hb dJ11_copyOfRangeByte_19 rfl (lv_at hL 2 rfl) ?_
  refine xx_is h (fun hp11 h => ?_)
  refine xx_alen C B.1 hp11 (by decide) dJ11_copyOfRangeByte_20 ?_
  refine lv_iload_n hx hb dJ11_copyOfRangeByte_21 rfl (lv_at hL 3 rfl) ?_
  refine lv_isub hx hb dJ11_copyOfRangeByte_22 ?_
  refine lv_iload_n hx hb dJ11_copyOfRangeByte_23 rfl (lv_at hL 1 rfl) ?_
  refine xx_min C q591 q592 q157 q593 (Nat.le_trans (Nat.le_of_ble_eq_true rfl) hF) (Nat.le_trans (Nat.le_of_ble_eq_true rfl) hN) hL.1 (Nat.le_of_ble_eq_true rfl) (xa_z hRr B) dJ11_copyOfRangeByte_24 ?_
  refine xx_cpb C B.1 q594 q596 q595 q159 hp11 hp9 (Nat.le_trans (Nat.le_of_ble_eq_true rfl) hF) (Nat.le_trans (Nat.le_of_ble_eq_true rfl) hN) hL.1 (Nat.le_of_ble_eq_true rfl) h dJ11_copyOfRangeByte_27 (fun gi12 h H locs B2 => ?_)
  have B := And.intro B2 B.2
  refine lv_aload hx hb dJ11_copyOfRangeByte_30 (lv_at hL 0 rfl) ?_
  exact hret (some nx) (ad4, q3.1, nx + 1, ns + ((x2 - x1).toNatClampNeg), gi12, q3.2.2) _ _ _ _ ⟨_, rfl, Option.some.inj h⟩ B dJ11_copyOfRangeByte_32
theorem k_J11_copyOfRangeByte {p : Program} {l : Launch} {e : Env} {R : Room} {s : State} {m : MethodId} {args : Array Value} {below : List Frame} {meth : Method} {c : Code} {H : Heap} {locs : List Loc} {Q : State → Prop} {pc : Nat} {ls : Array Slot} {rest : List Value} {cc : ByteArray} {nL : Nat} {D : va_G} {cA : Nat → ClassId} {a9 : Nat → Nat} {h9 : HK} {n0 m0 cN cS : Nat} {ad : Nat → Nat} {hk : HK} {nx ns : Nat} {A : Nat → Prop} {gi : GI} {gr : GR} {α : Type} {r : α} {own : String} {idx : Nat} {as0 : Nat} {x1 : Int32} {x2 : Int32} {ff : (Nat × HK × Nat × Nat × GI × GR) → Option α} (C : CallFix p m c cc nL s args lw_all own) (B : XBA D cA a9 h9 n0 m0 cN cS ad hk nx ns A s gi gr H locs) (hRr : R.cells = cN - n0 ∧ R.slots = cS - m0) (hq : Cond.methodLink own idx yJ11_copyOfRangeByte ∈ lw_all) (hF : 3 ≤ R.frames) (hN : 109 ≤ R.locals) (hs : ls.size = nL) (hw : (rest.map fun v => v.category).sum ≤ 8) (h : (g_cc (fun c1 c2 => f_J11_copyOfRangeByte c1 c2 hk nx ns gi gr as0 x1 x2) (fun q : Nat × HK × Nat × Nat × GI × GR => q.2.2.1) (fun q : Nat × HK × Nat × Nat × GI × GR => q.2.2.2.1) cN cS nx ns).bind ff = some r) (hdg : decode cc pc = .ok (.invokestatic idx, 3)) (kk : ∀ (q : Nat × HK × Nat × Nat × GI × GR) (ad' : Nat → Nat), ff q = some r → (∀ i, (hk i).1 < 1000 → ad' i = ad i ∧ q.2.1 i = hk i) → ∀ (H' : Heap) (locs' : List Loc), XBA D cA a9 h9 n0 m0 cN cS ad' q.2.1 q.2.2.1 q.2.2.2.1 A s q.2.2.2.2.1 q.2.2.2.2.2 H' locs' → W p l e R s m args below meth c H' locs' (q.2.2.1 - n0) (q.2.2.2.1 - m0) Q (F0 m (pc + 3) ls (.ref (ad' q.1) :: rest))) : W p l e R s m args below meth c H locs (nx - n0) (ns - m0) Q (F0 m pc ls (.int x2 :: .int x1 :: .ref (ad as0) :: rest)) := by
  obtain ⟨q, h1, h2⟩ := g_ob h
  obtain ⟨h3, c1, c2, c3, c4⟩ := g_cc_of h1
  refine xa_cSR (As := [.ref (ad as0), .int x1, .int x2]) (rest := rest) (n := 3) (qn := q.2.2.1) (qs := q.2.2.2.1) C B hRr (fun sz => w_J11_copyOfRangeByte l D cA ad _ _ hk nx ns gi gr as0 x1 x2 ⟨c1, c3⟩ q h3 sz) hq q679 q158 q680 (by decide +kernel) ⟨c1, c2, c3, c4⟩ (fun v u hp => ?_) ⟨hF, hN⟩ rfl hs hw hdg (fun v u H9 locs9 hp hae B9 => ?_)
  · obtain ⟨v9, rfl, rfl⟩ := hp
    exact ⟨rfl, rfl⟩
  · obtain ⟨v9, rfl, rfl⟩ := hp
    exact kk _ u.1 h2 hae H9 locs9 B9
def f_J11_copyOfRange_j10 (cN cS : Nat) (a0j10 : Nat) (x1j10 : Int32) (x2j10 : Int32) (hkj10 : HK) (nxj10 : Nat) (nsj10 : Nat) (gij10 : GI) (grj10 : GR) : Option (Nat × HK × Nat × Nat × GI × GR) :=
  (g_ok hkj10 a0j10).bind fun _ =>
  (g_cc (fun c1 c2 => f_J11_copyOfRangeByte c1 c2 hkj10 nxj10 nsj10 gij10 grj10 a0j10 x1j10 x2j10) (fun q : Nat × HK × Nat × Nat × GI × GR => q.2.2.1) (fun q : Nat × HK × Nat × Nat × GI × GR => q.2.2.2.1) cN cS nxj10 nsj10).bind fun q2 =>
  some (q2.1, q2.2.1, q2.2.2.1, q2.2.2.2.1, q2.2.2.2.2.1, q2.2.2.2.2.2)
def f_J11_copyOfRange (cN cS : Nat) (hk : HK) (nx ns : Nat) (gi : GI) (gr : GR) (as0 : Nat) (x1 : Int32) (x2 : Int32) : Option (Nat × HK × Nat × Nat × GI × GR) :=
  if x1 = 0 then
  ((g_is hk as0 1).bind fun _ =>
  if x2 = (Int32.ofNat (hk as0).2) then
  ((g_clone cN cS nx ns hk gi gr as0).bind fun q7 =>
  some (nx, q7.1, nx + 1, ns + (hk as0).2, q7.2.1, q7.2.2))
  else
  (f_J11_copyOfRange_j10 cN cS as0 x1 x2 hk nx ns gi gr))
  else
  (f_J11_copyOfRange_j10 cN cS as0 x1 x2 hk nx ns gi gr)
set_option maxHeartbeats 400000 in
theorem w_J11_copyOfRange (l : Launch) (D : va_G) (cA : Nat → ClassId) (ad : Nat → Nat) (cN cS : Nat) (hk : HK) (nx ns : Nat) (gi : GI) (gr : GR) (as0 : Nat) (x1 : Int32) (x2 : Int32) (hcap : nx ≤ cN ∧ ns ≤ cS) (r : Nat × HK × Nat × Nat × GI × GR) (h : f_J11_copyOfRange cN cS hk nx ns gi gr as0 x1 x2 = some r) (sz : Nat) : Met l yJ11_copyOfRange (ws_ yJ11_copyOfRange cJ11_copyOfRange 3 (some (.array .byte))) ({ frames := 3, cells := cN - nx, slots := cS - ns, locals := 109 } : Room) (va_Pc [.ref (ad as0), .int x1, .int x2] (XPre D cA ad hk nx gi gr sz)) (va_Qq (fun o u => ∃ v : Option Nat, o = v.map u.1 ∧ (fun (v : Option Nat) (u : XU) => ∃ v9, v = some v9 ∧ (v9, u.2) = r) v u) (XPostA D cA ad hk nx sz) (XA ad nx sz)) (cN - nx) (cS - ns) (XA ad nx sz) := by
  refine xa_stR (Or.inr ⟨_, rfl⟩) (own := RJ11) (P := (fun (v : Option Nat) (u : XU) => ∃ v9, v = some v9 ∧ (v9, u.2) = r)) (by decide +kernel) rfl (Nat.le_of_ble_eq_true rfl) hcap (fun p e s m args below meth c R Q A ls C hmn hF hN hRr B hret hL => ?_) sz
  have hx := C.1
  have hb := C.2.1
  have hL : lv_has ls 3 [(0, .ref (ad as0)), (1, .int x1), (2, .int x2)] := hL
  unfold f_J11_copyOfRange at h
  have hj10 : ∀ (hkj10 : HK) (nxj10 : Nat) (nsj10 : Nat) (gij10 : GI) (grj10 : GR) (adj10 : Nat → Nat) (H : Heap) (locs : List Loc) (ls : Array Slot), f_J11_copyOfRange_j10 cN cS as0 x1 x2 hkj10 nxj10 nsj10 gij10 grj10 = some r → XBA D cA ad hk nx ns cN cS adj10 hkj10 nxj10 nsj10 A s gij10 grj10 H locs → lv_has ls 3 [(0, .ref (adj10 as0)), (1, .int x1), (2, .int x2)] → W p l e R s m args below meth c H locs (nxj10 - nx) (nsj10 - ns) Q (F0 m 10 ls []) := by
    intro hkj10 nxj10 nsj10 gij10 grj10 adj10 H locs ls h B hL
    unfold f_J11_copyOfRange_j10 at h
    refine lv_aload_n hx hb dJ11_copyOfRange_10 rfl (lv_at hL 0 rfl) ?_
    refine lv_iload_n hx hb dJ11_copyOfRange_11 rfl (lv_at hL 1 rfl) ?_
    refine lv_iload_n hx hb dJ11_copyOfRange_12 rfl (lv_at hL 2 rfl) ?_
    refine xx_ok h (fun ok1 h => ?_)
    refine k_J11_copyOfRangeByte C B hRr q678 (Nat.le_trans (Nat.le_of_ble_eq_true rfl) hF) (Nat.le_trans (Nat.le_of_ble_eq_true rfl) hN) hL.1 (Nat.le_of_ble_eq_true rfl) h dJ11_copyOfRange_13 (fun q2 ad3 h hae4 H locs B => ?_)
    rw [← (hae4 as0 ok1).1] at hL
    have ok5 : (q2.2.1 as0).1 < 1000 := by rw [(hae4 as0 ok1).2]; exact ok1
    exact hret (some q2.1) (ad3, q2.2.1, q2.2.2.1, q2.2.2.2.1, q2.2.2.2.2.1, q2.2.2.2.2.2) _ _ _ _ ⟨_, rfl, Option.some.inj h⟩ B dJ11_copyOfRange_16
  refine lv_iload_n hx hb dJ11_copyOfRange_0 rfl (lv_at hL 1 rfl) ?_
  refine gg_if_ne hx hb 10 h dJ11_copyOfRange_1 (by decide) (fun h => ?_) (fun h => ?_)
  · exact hj10 _ _ _ _ _ _ _ _ _ h B (lv_sub hL [0, 1, 2] rfl)
  · refine lv_iload_n hx hb dJ11_copyOfRange_4 rfl (lv_at hL 2 rfl) ?_
    refine lv_aload_n hx hb dJ11_copyOfRange_5 rfl (lv_at hL 0 rfl) ?_
    refine xx_is h (fun hp6 h => ?_)
    refine xx_alen C B.1 hp6 (by decide) dJ11_copyOfRange_6 ?_
    refine gg_icmp_eq hx hb 17 h dJ11_copyOfRange_7 (by decide) (fun h => ?_) (fun h => ?_)
    · refine lv_aload_n hx hb dJ11_copyOfRange_17 rfl (lv_at hL 0 rfl) ?_
      refine xa_clone C B hRr hp6 q584 q585 q586 q587 q588 nw_q589 (Nat.le_trans (Nat.le_of_ble_eq_true rfl) hF) (Nat.le_trans (Nat.le_of_ble_eq_true rfl) hN) hL.1 (Nat.le_of_ble_eq_true rfl) h dJ11_copyOfRange_18 (fun q7 ad8 h hae9 hp10 H B => ?_)
      rw [← (hae9 as0 (by rw [hp6]; decide)).1] at hL
      have hp12 : (q7.1 as0).1 = 1 := by rw [(hae9 as0 (by rw [hp6]; decide)).2]; exact hp6
      have hp11 : (q7.1 nx).1 = 1 := by rw [hp10]
      refine xx_castB C B.1 hp11 q590 dJ11_copyOfRange_21 ?_
      exact hret (some nx) (ad8, q7.1, nx + 1, ns + (hk as0).2, q7.2.1, q7.2.2) _ _ _ _ ⟨_, rfl, Option.some.inj h⟩ B dJ11_copyOfRange_24
    · exact hj10 _ _ _ _ _ _ _ _ _ h B (lv_sub hL [0, 1, 2] rfl)
theorem k_J11_copyOfRange {p : Program} {l : Launch} {e : Env} {R : Room} {s : State} {m : MethodId} {args : Array Value} {below : List Frame} {meth : Method} {c : Code} {H : Heap} {locs : List Loc} {Q : State → Prop} {pc : Nat} {ls : Array Slot} {rest : List Value} {cc : ByteArray} {nL : Nat} {D : va_G} {cA : Nat → ClassId} {a9 : Nat → Nat} {h9 : HK} {n0 m0 cN cS : Nat} {ad : Nat → Nat} {hk : HK} {nx ns : Nat} {A : Nat → Prop} {gi : GI} {gr : GR} {α : Type} {r : α} {own : String} {idx : Nat} {as0 : Nat} {x1 : Int32} {x2 : Int32} {ff : (Nat × HK × Nat × Nat × GI × GR) → Option α} (C : CallFix p m c cc nL s args lw_all own) (B : XBA D cA a9 h9 n0 m0 cN cS ad hk nx ns A s gi gr H locs) (hRr : R.cells = cN - n0 ∧ R.slots = cS - m0) (hq : Cond.methodLink own idx yJ11_copyOfRange ∈ lw_all) (hF : 4 ≤ R.frames) (hN : 131 ≤ R.locals) (hs : ls.size = nL) (hw : (rest.map fun v => v.category).sum ≤ 8) (h : (g_cc (fun c1 c2 => f_J11_copyOfRange c1 c2 hk nx ns gi gr as0 x1 x2) (fun q : Nat × HK × Nat × Nat × GI × GR => q.2.2.1) (fun q : Nat × HK × Nat × Nat × GI × GR => q.2.2.2.1) cN cS nx ns).bind ff = some r) (hdg : decode cc pc = .ok (.invokestatic idx, 3)) (kk : ∀ (q : Nat × HK × Nat × Nat × GI × GR) (ad' : Nat → Nat), ff q = some r → (∀ i, (hk i).1 < 1000 → ad' i = ad i ∧ q.2.1 i = hk i) → ∀ (H' : Heap) (locs' : List Loc), XBA D cA a9 h9 n0 m0 cN cS ad' q.2.1 q.2.2.1 q.2.2.2.1 A s q.2.2.2.2.1 q.2.2.2.2.2 H' locs' → W p l e R s m args below meth c H' locs' (q.2.2.1 - n0) (q.2.2.2.1 - m0) Q (F0 m (pc + 3) ls (.ref (ad' q.1) :: rest))) : W p l e R s m args below meth c H locs (nx - n0) (ns - m0) Q (F0 m pc ls (.int x2 :: .int x1 :: .ref (ad as0) :: rest)) := by
  obtain ⟨q, h1, h2⟩ := g_ob h
  obtain ⟨h3, c1, c2, c3, c4⟩ := g_cc_of h1
  refine xa_cSR (As := [.ref (ad as0), .int x1, .int x2]) (rest := rest) (n := 3) (qn := q.2.2.1) (qs := q.2.2.2.1) C B hRr (fun sz => w_J11_copyOfRange l D cA ad _ _ hk nx ns gi gr as0 x1 x2 ⟨c1, c3⟩ q h3 sz) hq q676 q158 q677 (by decide +kernel) ⟨c1, c2, c3, c4⟩ (fun v u hp => ?_) ⟨hF, hN⟩ rfl hs hw hdg (fun v u H9 locs9 hp hae B9 => ?_)
  · obtain ⟨v9, rfl, rfl⟩ := hp
    exact ⟨rfl, rfl⟩
  · obtain ⟨v9, rfl, rfl⟩ := hp
    exact kk _ u.1 h2 hae H9 locs9 B9
def f_J11_copyOf_3_j24 (cN cS : Nat) (a0j24 : Nat) (x1j24 : Int32) (hkj24 : HK) (nxj24 : Nat) (nsj24 : Nat) (gij24 : GI) (grj24 : GR) (t0j24 : Nat) : Option (Nat × HK × Nat × Nat × GI × GR) :=
  (g_is hkj24 a0j24 4).bind fun _ =>
  (g_is hkj24 t0j24 4).bind fun _ =>
  (g_cprO hkj24 grj24 a0j24 0 t0j24 0 (if x1j24 < (Int32.ofNat (hkj24 a0j24).2) then x1j24 else (Int32.ofNat (hkj24 a0j24).2))).bind fun gr12 =>
  some (t0j24, hkj24, nxj24, nsj24, gij24, gr12)
def f_J11_copyOf_3 (cN cS : Nat) (hk : HK) (nx ns : Nat) (gi : GI) (gr : GR) (as0 : Nat) (x1 : Int32) : Option (Nat × HK × Nat × Nat × GI × GR) :=
  (g_ok hk as0).bind fun _ =>
  (g_len x1).bind fun _ =>
  (g_new cN cS nx ns 4 x1.toNatClampNeg x1.toNatClampNeg hk gi gr).bind fun q2 =>
  f_J11_copyOf_3_j24 cN cS as0 x1 q2.1 (nx + 1) (ns + x1.toNatClampNeg) q2.2.1 q2.2.2 nx
set_option maxHeartbeats 400000 in
theorem w_J11_copyOf_3 (l : Launch) (D : va_G) (cA : Nat → ClassId) (ad : Nat → Nat) (cN cS : Nat) (hk : HK) (nx ns : Nat) (gi : GI) (gr : GR) (as0 : Nat) (x1 : Int32) (hcap : nx ≤ cN ∧ ns ≤ cS) (r : Nat × HK × Nat × Nat × GI × GR) (h : f_J11_copyOf_3 cN cS hk nx ns gi gr as0 x1 = some r) (sz : Nat) : Met l yJ11_copyOf_3 (ws_ yJ11_copyOf_3 cJ11_copyOf_3 4 (some (.array (.object "java/lang/Object")))) ({ frames := 1, cells := cN - nx, slots := cS - ns, locals := 64 } : Room) (va_Pc [.ref (ad as0), .int x1, .ref (ad 1000300)] (XPre D cA ad hk nx gi gr sz)) (va_Qq (fun o u => ∃ v : Option Nat, o = v.map u.1 ∧ (fun (v : Option Nat) (u : XU) => ∃ v9, v = some v9 ∧ (v9, u.2) = r) v u) (XPostA D cA ad hk nx sz) (XA ad nx sz)) (cN - nx) (cS - ns) (XA ad nx sz) := by
  refine xa_stR (Or.inr ⟨_, rfl⟩) (own := RJ11) (P := (fun (v : Option Nat) (u : XU) => ∃ v9, v = some v9 ∧ (v9, u.2) = r)) (by decide +kernel) rfl (Nat.le_of_ble_eq_true rfl) hcap (fun p e s m args below meth c R Q A ls C hmn hF hN hRr B hret hL => ?_) sz
  have hx := C.1
  have hb := C.2.1
  have hL : lv_has ls 4 [(0, .ref (ad as0)), (1, .int x1), (2, .ref (ad 1000300))] := hL
  unfold f_J11_copyOf_3 at h
  have hj24 : ∀ (hkj24 : HK) (nxj24 : Nat) (nsj24 : Nat) (gij24 : GI) (grj24 : GR) (t0j24 : Nat) (adj24 : Nat → Nat) (H : Heap) (locs : List Loc) (ls : Array Slot), f_J11_copyOf_3_j24 cN cS as0 x1 hkj24 nxj24 nsj24 gij24 grj24 t0j24 = some r → XBA D cA ad hk nx ns cN cS adj24 hkj24 nxj24 nsj24 A s gij24 grj24 H locs → lv_has ls 4 [(0, .ref (adj24 as0)), (1, .int x1)] → W p l e R s m args below meth c H locs (nxj24 - nx) (nsj24 - ns) Q (F0 m 24 ls [.ref (adj24 t0j24)]) := by
    intro hkj24 nxj24 nsj24 gij24 grj24 t0j24 adj24 H locs ls h B hL
    unfold f_J11_copyOf_3_j24 at h
    refine lv_astore_n (lv' := [(3, .ref (adj24 t0j24)), (0, .ref (adj24 as0)), (1, .int x1)]) hx hb dJ11_copyOf_3_24 rfl hL (by decide) rfl (fun ls hL => ?_)
    refine lv_aload_n hx hb dJ11_copyOf_3_25 rfl (lv_at hL 1 rfl) ?_
    refine lv_iconst (v := 0) hx hb dJ11_copyOf_3_26 (by decide) ?_
    refine lv_aload_n hx hb dJ11_copyOf_3_27 rfl (lv_at hL 0 rfl) ?_
    refine lv_iconst (v := 0) hx hb dJ11_copyOf_3_28 (by decide) ?_
    refine lv_aload_n hx hb dJ11_copyOf_3_29 rfl (lv_at hL 1 rfl) ?_
    refine xx_is h (fun hp10 h => ?_)
    refine xx_alen C B.1 hp10 (by decide) dJ11_copyOf_3_30 ?_
    refine lv_iload_n hx hb dJ11_copyOf_3_31 rfl (lv_at hL 2 rfl) ?_
    refine xx_min C q591 q592 q157 q593 (Nat.le_trans (Nat.le_of_ble_eq_true rfl) hF) (Nat.le_trans (Nat.le_of_ble_eq_true rfl) hN) hL.1 (Nat.le_of_ble_eq_true rfl) (xa_z hRr B) dJ11_copyOf_3_32 ?_
    refine xx_is h (fun hp11 h => ?_)
    refine xx_cprO C B.1 q594 q596 q595 q159 hp10 hp11 (Nat.le_trans (Nat.le_of_ble_eq_true rfl) hF) (Nat.le_trans (Nat.le_of_ble_eq_true rfl) hN) hL.1 (Nat.le_of_ble_eq_true rfl) h dJ11_copyOf_3_35 (fun gr12 h H locs B2 => ?_)
    have B := And.intro B2 B.2
    refine lv_aload_n hx hb dJ11_copyOf_3_38 rfl (lv_at hL 0 rfl) ?_
    exact hret (some t0j24) (adj24, hkj24, nxj24, nsj24, gij24, gr12) _ _ _ _ ⟨_, rfl, Option.some.inj h⟩ B dJ11_copyOf_3_39
  refine lv_aload_n hx hb dJ11_copyOf_3_0 rfl (lv_at hL 2 rfl) ?_
  refine xx_ldcM C B.1 q953 dJ11_copyOf_3_1 ?_
  refine xx_same hx hb 13 dJ11_copyOf_3_3 (by decide) ?_
  refine lv_iload_n hx hb dJ11_copyOf_3_6 rfl (lv_at hL 1 rfl) ?_
  have hL := lv_sub (l' := [(0, .ref (ad as0)), (1, .int x1)]) hL [0, 1] rfl
  refine xx_ok h (fun ok1 h => ?_)
  refine xx_len h (fun hl6 hl7 h => ?_)
  refine xa_newq (t := 4) (E := "java/lang/Object") C B hRr (by decide) rfl q954 B.1.2.2.2.2.2.2.1.1 hl6 rfl (by first | exact hl7 | (show _ * 1 ≤ _; omega)) h dJ11_copyOf_3_7 (fun q2 ad3 h hae4 hp5 H B => ?_)
  rw [← (hae4 as0 ok1).1] at hL
  have ok9 : (q2.1 as0).1 < 1000 := by rw [(hae4 as0 ok1).2]; exact ok1
  have hp8 : (q2.1 nx).1 = 4 := by rw [hp5]
  refine lv_goto (tgt := 24) hx hb dJ11_copyOf_3_10 (by decide) ?_
  exact hj24 _ _ _ _ _ _ _ _ _ _ h B (lv_sub hL [0, 1] rfl)
theorem k_J11_copyOf_3 {p : Program} {l : Launch} {e : Env} {R : Room} {s : State} {m : MethodId} {args : Array Value} {below : List Frame} {meth : Method} {c : Code} {H : Heap} {locs : List Loc} {Q : State → Prop} {pc : Nat} {ls : Array Slot} {rest : List Value} {cc : ByteArray} {nL : Nat} {D : va_G} {cA : Nat → ClassId} {a9 : Nat → Nat} {h9 : HK} {n0 m0 cN cS : Nat} {ad : Nat → Nat} {hk : HK} {nx ns : Nat} {A : Nat → Prop} {gi : GI} {gr : GR} {α : Type} {r : α} {own : String} {idx : Nat} {as0 : Nat} {x1 : Int32} {ff : (Nat × HK × Nat × Nat × GI × GR) → Option α} (C : CallFix p m c cc nL s args lw_all own) (B : XBA D cA a9 h9 n0 m0 cN cS ad hk nx ns A s gi gr H locs) (hRr : R.cells = cN - n0 ∧ R.slots = cS - m0) (hq : Cond.methodLink own idx yJ11_copyOf_3 ∈ lw_all) (hF : 2 ≤ R.frames) (hN : 87 ≤ R.locals) (hs : ls.size = nL) (hw : (rest.map fun v => v.category).sum ≤ 8) (h : (g_cc (fun c1 c2 => f_J11_copyOf_3 c1 c2 hk nx ns gi gr as0 x1) (fun q : Nat × HK × Nat × Nat × GI × GR => q.2.2.1) (fun q : Nat × HK × Nat × Nat × GI × GR => q.2.2.2.1) cN cS nx ns).bind ff = some r) (hdg : decode cc pc = .ok (.invokestatic idx, 3)) (kk : ∀ (q : Nat × HK × Nat × Nat × GI × GR) (ad' : Nat → Nat), ff q = some r → (∀ i, (hk i).1 < 1000 → ad' i = ad i ∧ q.2.1 i = hk i) → ∀ (H' : Heap) (locs' : List Loc), XBA D cA a9 h9 n0 m0 cN cS ad' q.2.1 q.2.2.1 q.2.2.2.1 A s q.2.2.2.2.1 q.2.2.2.2.2 H' locs' → W p l e R s m args below meth c H' locs' (q.2.2.1 - n0) (q.2.2.2.1 - m0) Q (F0 m (pc + 3) ls (.ref (ad' q.1) :: rest))) : W p l e R s m args below meth c H locs (nx - n0) (ns - m0) Q (F0 m pc ls (.ref (ad 1000300) :: .int x1 :: .ref (ad as0) :: rest)) := by
  obtain ⟨q, h1, h2⟩ := g_ob h
  obtain ⟨h3, c1, c2, c3, c4⟩ := g_cc_of h1
  refine xa_cSR (As := [.ref (ad as0), .int x1, .ref (ad 1000300)]) (rest := rest) (n := 3) (qn := q.2.2.1) (qs := q.2.2.2.1) C B hRr (fun sz => w_J11_copyOf_3 l D cA ad _ _ hk nx ns gi gr as0 x1 ⟨c1, c3⟩ q h3 sz) hq q951 q158 q952 (by decide +kernel) ⟨c1, c2, c3, c4⟩ (fun v u hp => ?_) ⟨hF, hN⟩ rfl hs hw hdg (fun v u H9 locs9 hp hae B9 => ?_)
  · obtain ⟨v9, rfl, rfl⟩ := hp
    exact ⟨rfl, rfl⟩
  · obtain ⟨v9, rfl, rfl⟩ := hp
    exact kk _ u.1 h2 hae H9 locs9 B9
def f_J11_copyOf_2 (cN cS : Nat) (hk : HK) (nx ns : Nat) (gi : GI) (gr : GR) (as0 : Nat) (x1 : Int32) : Option (Nat × HK × Nat × Nat × GI × GR) :=
  (g_is hk as0 4).bind fun _ =>
  (g_cc (fun c1 c2 => f_J11_copyOf_3 c1 c2 hk nx ns gi gr as0 x1) (fun q : Nat × HK × Nat × Nat × GI × GR => q.2.2.1) (fun q : Nat × HK × Nat × Nat × GI × GR => q.2.2.2.1) cN cS nx ns).bind fun q2 =>
  some (q2.1, q2.2.1, q2.2.2.1, q2.2.2.2.1, q2.2.2.2.2.1, q2.2.2.2.2.2)
set_option maxHeartbeats 400000 in
theorem w_J11_copyOf_2 (l : Launch) (D : va_G) (cA : Nat → ClassId) (ad : Nat → Nat) (cN cS : Nat) (hk : HK) (nx ns : Nat) (gi : GI) (gr : GR) (as0 : Nat) (x1 : Int32) (hcap : nx ≤ cN ∧ ns ≤ cS) (r : Nat × HK × Nat × Nat × GI × GR) (h : f_J11_copyOf_2 cN cS hk nx ns gi gr as0 x1 = some r) (sz : Nat) : Met l yJ11_copyOf_2 (ws_ yJ11_copyOf_2 cJ11_copyOf_2 2 (some (.array (.object "java/lang/Object")))) ({ frames := 2, cells := cN - nx, slots := cS - ns, locals := 87 } : Room) (va_Pc [.ref (ad as0), .int x1] (XPre D cA ad hk nx gi gr sz)) (va_Qq (fun o u => ∃ v : Option Nat, o = v.map u.1 ∧ (fun (v : Option Nat) (u : XU) => ∃ v9, v = some v9 ∧ (v9, u.2) = r) v u) (XPostA D cA ad hk nx sz) (XA ad nx sz)) (cN - nx) (cS - ns) (XA ad nx sz) := by
  refine xa_stR (Or.inr ⟨_, rfl⟩) (own := RJ11) (P := (fun (v : Option Nat) (u : XU) => ∃ v9, v = some v9 ∧ (v9, u.2) = r)) (by decide +kernel) rfl (Nat.le_of_ble_eq_true rfl) hcap (fun p e s m args below meth c R Q A ls C hmn hF hN hRr B hret hL => ?_) sz
  have hx := C.1
  have hb := C.2.1
  have hL : lv_has ls 2 [(0, .ref (ad as0)), (1, .int x1)] := hL
  unfold f_J11_copyOf_2 at h
  refine lv_aload_n hx hb dJ11_copyOf_2_0 rfl (lv_at hL 0 rfl) ?_
  refine lv_iload_n hx hb dJ11_copyOf_2_1 rfl (lv_at hL 1 rfl) ?_
  refine lv_aload_n hx hb dJ11_copyOf_2_2 rfl (lv_at hL 0 rfl) ?_
  refine xx_is h (fun hp1 h => ?_)
  refine xx_getC (t := 0) C B.1 hp1 q922 q2485 q923 q949 (Nat.le_trans (Nat.le_of_ble_eq_true rfl) hF) (Nat.le_trans (Nat.le_of_ble_eq_true rfl) hN) hL.1 (Nat.le_of_ble_eq_true rfl) dJ11_copyOf_2_3 ?_
  refine k_J11_copyOf_3 C B hRr q950 (Nat.le_trans (Nat.le_of_ble_eq_true rfl) hF) (Nat.le_trans (Nat.le_of_ble_eq_true rfl) hN) hL.1 (Nat.le_of_ble_eq_true rfl) h dJ11_copyOf_2_6 (fun q2 ad3 h hae4 H locs B => ?_)
  rw [← (hae4 as0 (by rw [hp1]; decide)).1] at hL
  have hp5 : (q2.2.1 as0).1 = 4 := by rw [(hae4 as0 (by rw [hp1]; decide)).2]; exact hp1
  exact hret (some q2.1) (ad3, q2.2.1, q2.2.2.1, q2.2.2.2.1, q2.2.2.2.2.1, q2.2.2.2.2.2) _ _ _ _ ⟨_, rfl, Option.some.inj h⟩ B dJ11_copyOf_2_9
theorem k_J11_copyOf_2 {p : Program} {l : Launch} {e : Env} {R : Room} {s : State} {m : MethodId} {args : Array Value} {below : List Frame} {meth : Method} {c : Code} {H : Heap} {locs : List Loc} {Q : State → Prop} {pc : Nat} {ls : Array Slot} {rest : List Value} {cc : ByteArray} {nL : Nat} {D : va_G} {cA : Nat → ClassId} {a9 : Nat → Nat} {h9 : HK} {n0 m0 cN cS : Nat} {ad : Nat → Nat} {hk : HK} {nx ns : Nat} {A : Nat → Prop} {gi : GI} {gr : GR} {α : Type} {r : α} {own : String} {idx : Nat} {as0 : Nat} {x1 : Int32} {ff : (Nat × HK × Nat × Nat × GI × GR) → Option α} (C : CallFix p m c cc nL s args lw_all own) (B : XBA D cA a9 h9 n0 m0 cN cS ad hk nx ns A s gi gr H locs) (hRr : R.cells = cN - n0 ∧ R.slots = cS - m0) (hq : Cond.methodLink own idx yJ11_copyOf_2 ∈ lw_all) (hF : 3 ≤ R.frames) (hN : 108 ≤ R.locals) (hs : ls.size = nL) (hw : (rest.map fun v => v.category).sum ≤ 8) (h : (g_cc (fun c1 c2 => f_J11_copyOf_2 c1 c2 hk nx ns gi gr as0 x1) (fun q : Nat × HK × Nat × Nat × GI × GR => q.2.2.1) (fun q : Nat × HK × Nat × Nat × GI × GR => q.2.2.2.1) cN cS nx ns).bind ff = some r) (hdg : decode cc pc = .ok (.invokestatic idx, 3)) (kk : ∀ (q : Nat × HK × Nat × Nat × GI × GR) (ad' : Nat → Nat), ff q = some r → (∀ i, (hk i).1 < 1000 → ad' i = ad i ∧ q.2.1 i = hk i) → ∀ (H' : Heap) (locs' : List Loc), XBA D cA a9 h9 n0 m0 cN cS ad' q.2.1 q.2.2.1 q.2.2.2.1 A s q.2.2.2.2.1 q.2.2.2.2.2 H' locs' → W p l e R s m args below meth c H' locs' (q.2.2.1 - n0) (q.2.2.2.1 - m0) Q (F0 m (pc + 3) ls (.ref (ad' q.1) :: rest))) : W p l e R s m args below meth c H locs (nx - n0) (ns - m0) Q (F0 m pc ls (.int x1 :: .ref (ad as0) :: rest)) := by
  obtain ⟨q, h1, h2⟩ := g_ob h
  obtain ⟨h3, c1, c2, c3, c4⟩ := g_cc_of h1
  refine xa_cSR (As := [.ref (ad as0), .int x1]) (rest := rest) (n := 2) (qn := q.2.2.1) (qs := q.2.2.2.1) C B hRr (fun sz => w_J11_copyOf_2 l D cA ad _ _ hk nx ns gi gr as0 x1 ⟨c1, c3⟩ q h3 sz) hq q920 q158 q921 (by decide +kernel) ⟨c1, c2, c3, c4⟩ (fun v u hp => ?_) ⟨hF, hN⟩ rfl hs hw hdg (fun v u H9 locs9 hp hae B9 => ?_)
  · obtain ⟨v9, rfl, rfl⟩ := hp
    exact ⟨rfl, rfl⟩
  · obtain ⟨v9, rfl, rfl⟩ := hp
    exact kk _ u.1 h2 hae H9 locs9 B9
def f_J15_init (cN cS : Nat) (hk : HK) (nx ns : Nat) (gi : GI) (gr : GR) (a0 : Nat) (a1 : Nat) : Option (HK × Nat × Nat × GI × GR) :=
  (g_ok hk a1).bind fun _ =>
  (some (g_pr gr a0 3 (some a1))).bind fun gr1 =>
  (some (g_pi gi a0 1 ((-1)))).bind fun gi3 =>
  (gr1 a0 3).bind fun v4 =>
  (g_is hk v4 22).bind fun _ =>
  (some (g_pi gi3 a0 2 (gi3 v4 0))).bind fun gi7 =>
  some (hk, nx, ns, gi7, gr1)
set_option maxHeartbeats 400000 in
theorem w_J15_init (l : Launch) (D : va_G) (cA : Nat → ClassId) (ad : Nat → Nat) (cN cS : Nat) (hk : HK) (nx ns : Nat) (gi : GI) (gr : GR) (a0 : Nat) (a1 : Nat) (ht : (hk a0).1 = 23) (hcap : nx ≤ cN ∧ ns ≤ cS) (r : HK × Nat × Nat × GI × GR) (h : f_J15_init cN cS hk nx ns gi gr a0 a1 = some r) (sz : Nat) : Met l yJ15_init (ws_ yJ15_init cJ15_init 2 (none)) ({ frames := 1, cells := cN - nx, slots := cS - ns, locals := 64 } : Room) (va_Pc [.ref (ad a0), .ref (ad a1)] (XPre D cA ad hk nx gi gr sz)) (va_Qv (fun (u : XU) => u.2 = r) (XPostA D cA ad hk nx sz) (XA ad nx sz)) (cN - nx) (cS - ns) (XA ad nx sz) := by
  refine xa_stV (own := RJ15) (P := (fun (u : XU) => u.2 = r)) (by decide +kernel) rfl (Nat.le_of_ble_eq_true rfl) hcap (fun p e s m args below meth c R Q A ls C hmn hF hN hRr B hret hL => ?_) sz
  have hx := C.1
  have hb := C.2.1
  have hL : lv_has ls 2 [(0, .ref (ad a0)), (1, .ref (ad a1))] := hL
  unfold f_J15_init at h
  refine lv_aload_n hx hb dJ15_init_0 rfl (lv_at hL 0 rfl) ?_
  refine lv_aload_n hx hb dJ15_init_1 rfl (lv_at hL 1 rfl) ?_
  refine xx_ok h (fun ok2 h => ?_)
  refine xx_prF (ci := 13) (k := 3) C B.1 xc_13 ht (by decide) ok2 (Nat.le_of_ble_eq_true rfl) rfl q1073 (fun _ h => h) rfl hmn rfl rfl rfl h dJ15_init_2 (fun gr1 h H locs B2 => ?_)
  have B := And.intro B2 B.2
  refine lv_aload_n hx hb dJ15_init_5 rfl (lv_at hL 0 rfl) ?_
  refine W.objInit hx hb C.2.2.2.1 (C.2.2.2.2 _ q1069) (C.2.2.2.2 _ q179) (C.2.2.2.2 _ q180) rfl (by rw [C.2.2.1]; exact hL.1) rfl dJ15_init_6 (Nat.le_trans (Nat.le_of_ble_eq_true rfl) hF) (Nat.le_trans (Nat.le_of_ble_eq_true rfl) hN) ?_
  refine W.eq (g2 := F0 m 9 ls []) rfl ?_
  refine lv_aload_n hx hb dJ15_init_9 rfl (lv_at hL 0 rfl) ?_
  refine lv_iconst (v := (-1)) hx hb dJ15_init_10 (by decide) ?_
  refine xx_pi (ci := 13) (k := 1) C B.1 xc_13 ht (by decide) (Nat.le_of_ble_eq_true rfl) rfl q1071 (fun _ h => h) rfl rfl rfl h dJ15_init_11 (fun gi3 h H locs B2 => ?_)
  have B := And.intro B2 B.2
  refine lv_aload_n hx hb dJ15_init_14 rfl (lv_at hL 0 rfl) ?_
  refine lv_aload_n hx hb dJ15_init_15 rfl (lv_at hL 0 rfl) ?_
  refine xx_gr (ci := 13) (k := 3) C B.1 xc_13 ht (by decide) (Nat.le_of_ble_eq_true rfl) rfl q1073 (fun _ h => h) h dJ15_init_16 (fun v4 ok5 h => ?_)
  refine xx_is h (fun hp6 h => ?_)
  refine xx_gi (ci := 12) (k := 0) C B.1 xc_12 hp6 (by decide) (Nat.le_of_ble_eq_true rfl) rfl q208 (fun x h => u_same (C.2.2.2.2 _ q209) x h) dJ15_init_19 ?_
  refine xx_pi (ci := 13) (k := 2) C B.1 xc_13 ht (by decide) (Nat.le_of_ble_eq_true rfl) rfl q1072 (fun _ h => h) rfl rfl rfl h dJ15_init_22 (fun gi7 h H locs B2 => ?_)
  have B := And.intro B2 B.2
  exact hret (ad, hk, nx, ns, gi7, gr1) _ _ _ _ (Option.some.inj h) B dJ15_init_25
theorem k_J15_init {p : Program} {l : Launch} {e : Env} {R : Room} {s : State} {m : MethodId} {args : Array Value} {below : List Frame} {meth : Method} {c : Code} {H : Heap} {locs : List Loc} {Q : State → Prop} {pc : Nat} {ls : Array Slot} {rest : List Value} {cc : ByteArray} {nL : Nat} {D : va_G} {cA : Nat → ClassId} {a9 : Nat → Nat} {h9 : HK} {n0 m0 cN cS : Nat} {ad : Nat → Nat} {hk : HK} {nx ns : Nat} {A : Nat → Prop} {gi : GI} {gr : GR} {α : Type} {r : α} {own : String} {idx : Nat} {a0 : Nat} {a1 : Nat} {ff : (HK × Nat × Nat × GI × GR) → Option α} (ht : (hk a0).1 = 23) (C : CallFix p m c cc nL s args lw_all own) (B : XBA D cA a9 h9 n0 m0 cN cS ad hk nx ns A s gi gr H locs) (hRr : R.cells = cN - n0 ∧ R.slots = cS - m0) (hq : Cond.methodLink own idx yJ15_init ∈ lw_all) (hF : 2 ≤ R.frames) (hN : 85 ≤ R.locals) (hs : ls.size = nL) (hw : (rest.map fun v => v.category).sum ≤ 8) (h : (g_cc (fun c1 c2 => f_J15_init c1 c2 hk nx ns gi gr a0 a1) (fun q : HK × Nat × Nat × GI × GR => q.2.1) (fun q : HK × Nat × Nat × GI × GR => q.2.2.1) cN cS nx ns).bind ff = some r) (hdg : decode cc pc = .ok (.invokespecial idx, 3)) (kk : ∀ (q : HK × Nat × Nat × GI × GR) (ad' : Nat → Nat), ff q = some r → (∀ i, (hk i).1 < 1000 → ad' i = ad i ∧ q.1 i = hk i) → ∀ (H' : Heap) (locs' : List Loc), XBA D cA a9 h9 n0 m0 cN cS ad' q.1 q.2.1 q.2.2.1 A s q.2.2.2.1 q.2.2.2.2 H' locs' → W p l e R s m args below meth c H' locs' (q.2.1 - n0) (q.2.2.1 - m0) Q (F0 m (pc + 3) ls (rest))) : W p l e R s m args below meth c H locs (nx - n0) (ns - m0) Q (F0 m pc ls (.ref (ad a1) :: .ref (ad a0) :: rest)) := by
  obtain ⟨q, h1, h2⟩ := g_ob h
  obtain ⟨h3, c1, c2, c3, c4⟩ := g_cc_of h1
  refine xa_cIV (As := [.ref (ad a1)]) (rest := rest) (n := 1) (qn := q.2.1) (qs := q.2.2.1) (b := a0) C B hRr (fun sz => w_J15_init l D cA ad _ _ hk nx ns gi gr a0 a1 ht ⟨c1, c3⟩ q h3 sz) hq q1067 q165 q1068 rfl (by decide +kernel) ⟨c1, c2, c3, c4⟩ (fun u hp => ?_) ⟨hF, hN⟩ rfl hs hw hdg (fun u H9 locs9 hp hae B9 => ?_)
  · have hp := hp
    subst hp
    exact ⟨rfl, rfl⟩
  · have hp := hp
    subst hp
    exact kk _ u.1 h2 hae H9 locs9 B9
def f_J2_init (cN cS : Nat) (hk : HK) (nx ns : Nat) (gi : GI) (gr : GR) (a0 : Nat) (x1 : Int32) : Option (HK × Nat × Nat × GI × GR) :=
  (g_cc (fun c1 c2 => f_J1_init c1 c2 hk nx ns gi gr a0) (fun q : HK × Nat × Nat × GI × GR => q.2.1) (fun q : HK × Nat × Nat × GI × GR => q.2.2.1) cN cS nx ns).bind fun q1 =>
  if x1 ≤ 0 then
  (if x1 = 0 then
  (none)
  else
  (none))
  else
  ((g_len x1).bind fun _ =>
  (g_new cN cS q1.2.1 q1.2.2.1 4 x1.toNatClampNeg x1.toNatClampNeg q1.1 q1.2.2.2.1 q1.2.2.2.2).bind fun q5 =>
  (some (g_pr q5.2.2 a0 1 (some q1.2.1))).bind fun gr13 =>
  some (q5.1, q1.2.1 + 1, q1.2.2.1 + x1.toNatClampNeg, q5.2.1, gr13))
set_option maxHeartbeats 400000 in
theorem w_J2_init (l : Launch) (D : va_G) (cA : Nat → ClassId) (ad : Nat → Nat) (cN cS : Nat) (hk : HK) (nx ns : Nat) (gi : GI) (gr : GR) (a0 : Nat) (x1 : Int32) (ht : (hk a0).1 = 22) (hcap : nx ≤ cN ∧ ns ≤ cS) (r : HK × Nat × Nat × GI × GR) (h : f_J2_init cN cS hk nx ns gi gr a0 x1 = some r) (sz : Nat) : Met l yJ2_init (ws_ yJ2_init cJ2_init 2 (none)) ({ frames := 3, cells := cN - nx, slots := cS - ns, locals := 104 } : Room) (va_Pc [.ref (ad a0), .int x1] (XPre D cA ad hk nx gi gr sz)) (va_Qv (fun (u : XU) => u.2 = r) (XPostA D cA ad hk nx sz) (XA ad nx sz)) (cN - nx) (cS - ns) (XA ad nx sz) := by
  refine xa_stV (own := RJ2) (P := (fun (u : XU) => u.2 = r)) (by decide +kernel) rfl (Nat.le_of_ble_eq_true rfl) hcap (fun p e s m args below meth c R Q A ls C hmn hF hN hRr B hret hL => ?_) sz
  have hx := C.1
  have hb := C.2.1
  have hL : lv_has ls 2 [(0, .ref (ad a0)), (1, .int x1)] := hL
  unfold f_J2_init at h
  refine lv_aload_n hx hb dJ2_init_0 rfl (lv_at hL 0 rfl) ?_
  refine k_J1_init ht C B hRr q192 (Nat.le_trans (Nat.le_of_ble_eq_true rfl) hF) (Nat.le_trans (Nat.le_of_ble_eq_true rfl) hN) hL.1 (Nat.le_of_ble_eq_true rfl) h dJ2_init_1 (fun q1 ad2 h hae3 H locs B => ?_)
  rw [← (hae3 a0 (by rw [ht]; decide)).1] at hL
  have hp4 : (q1.1 a0).1 = 22 := by rw [(hae3 a0 (by rw [ht]; decide)).2]; exact ht
  refine lv_iload_n hx hb dJ2_init_4 rfl (lv_at hL 1 rfl) ?_
  refine gg_if_le hx hb 19 h dJ2_init_5 (by decide) (fun h => ?_) (fun h => ?_)
  · refine lv_iload_n hx hb dJ2_init_19 rfl (lv_at hL 1 rfl) ?_
    refine gg_if_ne hx hb 33 h dJ2_init_20 (by decide) (fun h => ?_) (fun h => ?_)
    · cases h
    · refine lv_aload_n hx hb dJ2_init_23 rfl (lv_at hL 0 rfl) ?_
      cases h
  · refine lv_aload_n hx hb dJ2_init_8 rfl (lv_at hL 0 rfl) ?_
    refine lv_iload_n hx hb dJ2_init_9 rfl (lv_at hL 1 rfl) ?_
    refine xx_len h (fun hl9 hl10 h => ?_)
    refine xa_newq (t := 4) (E := "java/lang/Object") C B hRr (by decide) rfl q199 B.1.2.2.2.2.2.2.1.1 hl9 rfl (by first | exact hl10 | (show _ * 1 ≤ _; omega)) h dJ2_init_10 (fun q5 ad6 h hae7 hp8 H B => ?_)
    rw [← (hae7 a0 (by rw [hp4]; decide)).1] at hL
    rw [← (hae7 a0 (by rw [hp4]; decide)).1]
    have hp12 : (q5.1 a0).1 = 22 := by rw [(hae7 a0 (by rw [hp4]; decide)).2]; exact hp4
    have hp11 : (q5.1 q1.2.1).1 = 4 := by rw [hp8]
    refine xx_pr (ci := 12) (k := 1) C B.1 xc_12 hp12 (by decide) (by rw [hp11]; decide) (Nat.le_of_ble_eq_true rfl) rfl q203 (fun _ h => h) rfl rfl rfl h dJ2_init_13 (fun gr13 h H locs B2 => ?_)
    have B := And.intro B2 B.2
    refine lv_goto (tgt := 60) hx hb dJ2_init_16 (by decide) ?_
    exact hret (ad6, q5.1, q1.2.1 + 1, q1.2.2.1 + x1.toNatClampNeg, q5.2.1, gr13) _ _ _ _ (Option.some.inj h) B dJ2_init_60
theorem k_J2_init {p : Program} {l : Launch} {e : Env} {R : Room} {s : State} {m : MethodId} {args : Array Value} {below : List Frame} {meth : Method} {c : Code} {H : Heap} {locs : List Loc} {Q : State → Prop} {pc : Nat} {ls : Array Slot} {rest : List Value} {cc : ByteArray} {nL : Nat} {D : va_G} {cA : Nat → ClassId} {a9 : Nat → Nat} {h9 : HK} {n0 m0 cN cS : Nat} {ad : Nat → Nat} {hk : HK} {nx ns : Nat} {A : Nat → Prop} {gi : GI} {gr : GR} {α : Type} {r : α} {own : String} {idx : Nat} {a0 : Nat} {x1 : Int32} {ff : (HK × Nat × Nat × GI × GR) → Option α} (ht : (hk a0).1 = 22) (C : CallFix p m c cc nL s args lw_all own) (B : XBA D cA a9 h9 n0 m0 cN cS ad hk nx ns A s gi gr H locs) (hRr : R.cells = cN - n0 ∧ R.slots = cS - m0) (hq : Cond.methodLink own idx yJ2_init ∈ lw_all) (hF : 4 ≤ R.frames) (hN : 125 ≤ R.locals) (hs : ls.size = nL) (hw : (rest.map fun v => v.category).sum ≤ 8) (h : (g_cc (fun c1 c2 => f_J2_init c1 c2 hk nx ns gi gr a0 x1) (fun q : HK × Nat × Nat × GI × GR => q.2.1) (fun q : HK × Nat × Nat × GI × GR => q.2.2.1) cN cS nx ns).bind ff = some r) (hdg : decode cc pc = .ok (.invokespecial idx, 3)) (kk : ∀ (q : HK × Nat × Nat × GI × GR) (ad' : Nat → Nat), ff q = some r → (∀ i, (hk i).1 < 1000 → ad' i = ad i ∧ q.1 i = hk i) → ∀ (H' : Heap) (locs' : List Loc), XBA D cA a9 h9 n0 m0 cN cS ad' q.1 q.2.1 q.2.2.1 A s q.2.2.2.1 q.2.2.2.2 H' locs' → W p l e R s m args below meth c H' locs' (q.2.1 - n0) (q.2.2.1 - m0) Q (F0 m (pc + 3) ls (rest))) : W p l e R s m args below meth c H locs (nx - n0) (ns - m0) Q (F0 m pc ls (.int x1 :: .ref (ad a0) :: rest)) := by
  obtain ⟨q, h1, h2⟩ := g_ob h
  obtain ⟨h3, c1, c2, c3, c4⟩ := g_cc_of h1
  refine xa_cIV (As := [.int x1]) (rest := rest) (n := 1) (qn := q.2.1) (qs := q.2.2.1) (b := a0) C B hRr (fun sz => w_J2_init l D cA ad _ _ hk nx ns gi gr a0 x1 ht ⟨c1, c3⟩ q h3 sz) hq q190 q145 q191 rfl (by decide +kernel) ⟨c1, c2, c3, c4⟩ (fun u hp => ?_) ⟨hF, hN⟩ rfl hs hw hdg (fun u H9 locs9 hp hae B9 => ?_)
  · have hp := hp
    subst hp
    exact ⟨rfl, rfl⟩
  · have hp := hp
    subst hp
    exact kk _ u.1 h2 hae H9 locs9 B9
def f_J2_grow_2_j20 (cN cS : Nat) (a0 : Nat) (x1j20 : Int32) (hkj20 : HK) (nxj20 : Nat) (nsj20 : Nat) (gij20 : GI) (grj20 : GR) (x2j20 : Int32) : Option (Nat × HK × Nat × Nat × GI × GR) :=
  (f_J9_newLength hkj20 gij20 grj20 x2j20 (x1j20 - x2j20) (x2j20 >>> (1 &&& 31))).bind fun q5 =>
  (grj20 a0 1).bind fun v6 =>
  (g_cc (fun c1 c2 => f_J11_copyOf_2 c1 c2 hkj20 nxj20 nsj20 gij20 grj20 v6 q5) (fun q : Nat × HK × Nat × Nat × GI × GR => q.2.2.1) (fun q : Nat × HK × Nat × Nat × GI × GR => q.2.2.2.1) cN cS nxj20 nsj20).bind fun q8 =>
  (g_ok q8.2.1 q8.1).bind fun _ =>
  (some (g_pr q8.2.2.2.2.2 a0 1 (some q8.1))).bind fun gr12 =>
  some (q8.1, q8.2.1, q8.2.2.1, q8.2.2.2.1, q8.2.2.2.2.1, gr12)
def f_J2_grow_2 (cN cS : Nat) (hk : HK) (nx ns : Nat) (gi : GI) (gr : GR) (a0 : Nat) (x1 : Int32) : Option (Nat × HK × Nat × Nat × GI × GR) :=
  (gr a0 1).bind fun v1 =>
  (g_is hk v1 4).bind fun _ =>
  if 0 < (Int32.ofNat (hk v1).2) then
  (f_J2_grow_2_j20 cN cS a0 x1 hk nx ns gi gr (Int32.ofNat (hk v1).2))
  else
  ((gr a0 1).bind fun v14 =>
  none)
set_option maxHeartbeats 400000 in
theorem w_J2_grow_2 (l : Launch) (D : va_G) (cA : Nat → ClassId) (ad : Nat → Nat) (cN cS : Nat) (hk : HK) (nx ns : Nat) (gi : GI) (gr : GR) (a0 : Nat) (x1 : Int32) (ht : (hk a0).1 = 22) (hcap : nx ≤ cN ∧ ns ≤ cS) (r : Nat × HK × Nat × Nat × GI × GR) (h : f_J2_grow_2 cN cS hk nx ns gi gr a0 x1 = some r) (sz : Nat) : Met l yJ2_grow_2 (ws_ yJ2_grow_2 cJ2_grow_2 4 (some (.array (.object "java/lang/Object")))) ({ frames := 3, cells := cN - nx, slots := cS - ns, locals := 109 } : Room) (va_Pc [.ref (ad a0), .int x1] (XPre D cA ad hk nx gi gr sz)) (va_Qq (fun o u => ∃ v : Option Nat, o = v.map u.1 ∧ (fun (v : Option Nat) (u : XU) => ∃ v9, v = some v9 ∧ (v9, u.2) = r) v u) (XPostA D cA ad hk nx sz) (XA ad nx sz)) (cN - nx) (cS - ns) (XA ad nx sz) := by
  refine xa_stR (Or.inr ⟨_, rfl⟩) (own := RJ2) (P := (fun (v : Option Nat) (u : XU) => ∃ v9, v = some v9 ∧ (v9, u.2) = r)) (by decide +kernel) rfl (Nat.le_of_ble_eq_true rfl) hcap (fun p e s m args below meth c R Q A ls C hmn hF hN hRr B hret hL => ?_) sz
  have hx := C.1
  have hb := C.2.1
  have hL : lv_has ls 4 [(0, .ref (ad a0)), (1, .int x1)] := hL
  unfold f_J2_grow_2 at h
  have hj20 : ∀ (hkj20 : HK) (nxj20 : Nat) (nsj20 : Nat) (gij20 : GI) (grj20 : GR) (x2j20 : Int32) (adj20 : Nat → Nat) (H : Heap) (locs : List Loc) (ls : Array Slot), f_J2_grow_2_j20 cN cS a0 x1 hkj20 nxj20 nsj20 gij20 grj20 x2j20 = some r → XBA D cA ad hk nx ns cN cS adj20 hkj20 nxj20 nsj20 A s gij20 grj20 H locs → lv_has ls 4 [(0, .ref (adj20 a0)), (1, .int x1), (2, .int x2j20)] → W p l e R s m args below meth c H locs (nxj20 - nx) (nsj20 - ns) Q (F0 m 20 ls []) := by
    intro hkj20 nxj20 nsj20 gij20 grj20 x2j20 adj20 H locs ls h B hL
    unfold f_J2_grow_2_j20 at h
    have ht4 : (hkj20 a0).1 = 22 := by rw [(B.2.1 a0 (by rw [ht]; decide)).2]; exact ht
    refine lv_iload_n hx hb dJ2_grow_2_20 rfl (lv_at hL 2 rfl) ?_
    refine lv_iload_n hx hb dJ2_grow_2_21 rfl (lv_at hL 1 rfl) ?_
    refine lv_iload_n hx hb dJ2_grow_2_22 rfl (lv_at hL 2 rfl) ?_
    refine lv_isub hx hb dJ2_grow_2_23 ?_
    refine lv_iload_n hx hb dJ2_grow_2_24 rfl (lv_at hL 2 rfl) ?_
    refine lv_iconst (v := 1) hx hb dJ2_grow_2_25 (by decide) ?_
    refine lv_ishr hx hb dJ2_grow_2_26 ?_
    refine k_J9_newLength C B.1 q918 (Nat.le_trans (Nat.le_of_ble_eq_true rfl) hF) (Nat.le_trans (Nat.le_of_ble_eq_true rfl) hN) hL.1 (Nat.le_of_ble_eq_true rfl) (xa_z hRr B) h dJ2_grow_2_27 (fun q5 h H locs B2 => ?_)
    have B := And.intro B2 B.2
    refine lv_istore_n (lv' := [(3, .int q5), (0, .ref (adj20 a0)), (1, .int x1), (2, .int x2j20)]) hx hb dJ2_grow_2_30 rfl hL (by decide) rfl (fun ls hL => ?_)
    refine lv_aload_n hx hb dJ2_grow_2_31 rfl (lv_at hL 1 rfl) ?_
    refine lv_aload_n hx hb dJ2_grow_2_32 rfl (lv_at hL 1 rfl) ?_
    refine xx_gr (ci := 12) (k := 1) C B.1 xc_12 ht4 (by decide) (Nat.le_of_ble_eq_true rfl) rfl q203 (fun _ h => h) h dJ2_grow_2_33 (fun v6 ok7 h => ?_)
    refine lv_iload_n hx hb dJ2_grow_2_36 rfl (lv_at hL 0 rfl) ?_
    refine k_J11_copyOf_2 C B hRr q919 (Nat.le_trans (Nat.le_of_ble_eq_true rfl) hF) (Nat.le_trans (Nat.le_of_ble_eq_true rfl) hN) hL.1 (Nat.le_of_ble_eq_true rfl) h dJ2_grow_2_37 (fun q8 ad9 h hae10 H locs B => ?_)
    rw [← (hae10 a0 (by rw [ht4]; decide)).1] at hL
    rw [← (hae10 a0 (by rw [ht4]; decide)).1]
    have hp11 : (q8.2.1 a0).1 = 22 := by rw [(hae10 a0 (by rw [ht4]; decide)).2]; exact ht4
    refine lv_dup_x1 hx hb dJ2_grow_2_40 rfl rfl ?_
    refine xx_ok h (fun ok13 h => ?_)
    refine xx_pr (ci := 12) (k := 1) C B.1 xc_12 hp11 (by decide) ok13 (Nat.le_of_ble_eq_true rfl) rfl q203 (fun _ h => h) rfl rfl rfl h dJ2_grow_2_41 (fun gr12 h H locs B2 => ?_)
    have B := And.intro B2 B.2
    exact hret (some q8.1) (ad9, q8.2.1, q8.2.2.1, q8.2.2.2.1, q8.2.2.2.2.1, gr12) _ _ _ _ ⟨_, rfl, Option.some.inj h⟩ B dJ2_grow_2_44
  refine lv_aload_n hx hb dJ2_grow_2_0 rfl (lv_at hL 0 rfl) ?_
  refine xx_gr (ci := 12) (k := 1) C B.1 xc_12 ht (by decide) (Nat.le_of_ble_eq_true rfl) rfl q203 (fun _ h => h) h dJ2_grow_2_1 (fun v1 ok2 h => ?_)
  refine xx_is h (fun hp3 h => ?_)
  refine xx_alen C B.1 hp3 (by decide) dJ2_grow_2_4 ?_
  refine lv_istore_n (lv' := [(2, .int (Int32.ofNat (hk v1).2)), (0, .ref (ad a0)), (1, .int x1)]) hx hb dJ2_grow_2_5 rfl hL (by decide) rfl (fun ls hL => ?_)
  refine lv_iload_n hx hb dJ2_grow_2_6 rfl (lv_at hL 0 rfl) ?_
  refine gg_if_gt hx hb 20 h dJ2_grow_2_7 (by decide) (fun h => ?_) (fun h => ?_)
  · exact hj20 _ _ _ _ _ _ _ _ _ _ h B (lv_sub hL [1, 2, 0] rfl)
  · refine lv_aload_n hx hb dJ2_grow_2_10 rfl (lv_at hL 1 rfl) ?_
    refine xx_gr (ci := 12) (k := 1) C B.1 xc_12 ht (by decide) (Nat.le_of_ble_eq_true rfl) rfl q203 (fun _ h => h) h dJ2_grow_2_11 (fun v14 ok15 h => ?_)
    cases h
theorem k_J2_grow_2 {p : Program} {l : Launch} {e : Env} {R : Room} {s : State} {m : MethodId} {args : Array Value} {below : List Frame} {meth : Method} {c : Code} {H : Heap} {locs : List Loc} {Q : State → Prop} {pc : Nat} {ls : Array Slot} {rest : List Value} {cc : ByteArray} {nL : Nat} {D : va_G} {cA : Nat → ClassId} {a9 : Nat → Nat} {h9 : HK} {n0 m0 cN cS : Nat} {ad : Nat → Nat} {hk : HK} {nx ns : Nat} {A : Nat → Prop} {gi : GI} {gr : GR} {α : Type} {r : α} {own : String} {idx : Nat} {a0 : Nat} {x1 : Int32} {ff : (Nat × HK × Nat × Nat × GI × GR) → Option α} (ht : (hk a0).1 = 22) (C : CallFix p m c cc nL s args lw_all own) (B : XBA D cA a9 h9 n0 m0 cN cS ad hk nx ns A s gi gr H locs) (hRr : R.cells = cN - n0 ∧ R.slots = cS - m0) (hq : Cond.methodLink own idx yJ2_grow_2 ∈ lw_all) (hF : 4 ≤ R.frames) (hN : 132 ≤ R.locals) (hs : ls.size = nL) (hw : (rest.map fun v => v.category).sum ≤ 8) (h : (g_cc (fun c1 c2 => f_J2_grow_2 c1 c2 hk nx ns gi gr a0 x1) (fun q : Nat × HK × Nat × Nat × GI × GR => q.2.2.1) (fun q : Nat × HK × Nat × Nat × GI × GR => q.2.2.2.1) cN cS nx ns).bind ff = some r) (hdg : decode cc pc = .ok (.invokevirtual idx, 3)) (kk : ∀ (q : Nat × HK × Nat × Nat × GI × GR) (ad' : Nat → Nat), ff q = some r → (∀ i, (hk i).1 < 1000 → ad' i = ad i ∧ q.2.1 i = hk i) → ∀ (H' : Heap) (locs' : List Loc), XBA D cA a9 h9 n0 m0 cN cS ad' q.2.1 q.2.2.1 q.2.2.2.1 A s q.2.2.2.2.1 q.2.2.2.2.2 H' locs' → W p l e R s m args below meth c H' locs' (q.2.2.1 - n0) (q.2.2.2.1 - m0) Q (F0 m (pc + 3) ls (.ref (ad' q.1) :: rest))) : W p l e R s m args below meth c H locs (nx - n0) (ns - m0) Q (F0 m pc ls (.int x1 :: .ref (ad a0) :: rest)) := by
  obtain ⟨q, h1, h2⟩ := g_ob h
  obtain ⟨h3, c1, c2, c3, c4⟩ := g_cc_of h1
  refine xa_cVR (As := [.int x1]) (rest := rest) (n := 1) (qn := q.2.2.1) (qs := q.2.2.2.1) xc_12 ht (by decide) C B hRr (fun sz => w_J2_grow_2 l D cA ad _ _ hk nx ns gi gr a0 x1 ht ⟨c1, c3⟩ q h3 sz) hq q914 qs13 q145 q915 (by decide +kernel) ⟨c1, c2, c3, c4⟩ (fun v u hp => ?_) ⟨hF, hN⟩ rfl hs hw hdg (fun v u H9 locs9 hp hae B9 => ?_)
  · obtain ⟨v9, rfl, rfl⟩ := hp
    exact ⟨rfl, rfl⟩
  · obtain ⟨v9, rfl, rfl⟩ := hp
    exact kk _ u.1 h2 hae H9 locs9 B9
def f_J2_grow (cN cS : Nat) (hk : HK) (nx ns : Nat) (gi : GI) (gr : GR) (a0 : Nat) : Option (Nat × HK × Nat × Nat × GI × GR) :=
  (g_cc (fun c1 c2 => f_J2_grow_2 c1 c2 hk nx ns gi gr a0 ((gi a0 2) + 1)) (fun q : Nat × HK × Nat × Nat × GI × GR => q.2.2.1) (fun q : Nat × HK × Nat × Nat × GI × GR => q.2.2.2.1) cN cS nx ns).bind fun q1 =>
  some (q1.1, q1.2.1, q1.2.2.1, q1.2.2.2.1, q1.2.2.2.2.1, q1.2.2.2.2.2)
set_option maxHeartbeats 400000 in
theorem w_J2_grow (l : Launch) (D : va_G) (cA : Nat → ClassId) (ad : Nat → Nat) (cN cS : Nat) (hk : HK) (nx ns : Nat) (gi : GI) (gr : GR) (a0 : Nat) (ht : (hk a0).1 = 22) (hcap : nx ≤ cN ∧ ns ≤ cS) (r : Nat × HK × Nat × Nat × GI × GR) (h : f_J2_grow cN cS hk nx ns gi gr a0 = some r) (sz : Nat) : Met l yJ2_grow (ws_ yJ2_grow cJ2_grow 1 (some (.array (.object "java/lang/Object")))) ({ frames := 4, cells := cN - nx, slots := cS - ns, locals := 132 } : Room) (va_Pc [.ref (ad a0)] (XPre D cA ad hk nx gi gr sz)) (va_Qq (fun o u => ∃ v : Option Nat, o = v.map u.1 ∧ (fun (v : Option Nat) (u : XU) => ∃ v9, v = some v9 ∧ (v9, u.2) = r) v u) (XPostA D cA ad hk nx sz) (XA ad nx sz)) (cN - nx) (cS - ns) (XA ad nx sz) := by
  refine xa_stR (Or.inr ⟨_, rfl⟩) (own := RJ2) (P := (fun (v : Option Nat) (u : XU) => ∃ v9, v = some v9 ∧ (v9, u.2) = r)) (by decide +kernel) rfl (Nat.le_of_ble_eq_true rfl) hcap (fun p e s m args below meth c R Q A ls C hmn hF hN hRr B hret hL => ?_) sz
  have hx := C.1
  have hb := C.2.1
  have hL : lv_has ls 1 [(0, .ref (ad a0))] := hL
  unfold f_J2_grow at h
  refine lv_aload_n hx hb dJ2_grow_0 rfl (lv_at hL 0 rfl) ?_
  refine lv_aload_n hx hb dJ2_grow_1 rfl (lv_at hL 0 rfl) ?_
  refine xx_gi (ci := 12) (k := 2) C B.1 xc_12 ht (by decide) (Nat.le_of_ble_eq_true rfl) rfl q206 (fun _ h => h) dJ2_grow_2 ?_
  refine lv_iconst (v := 1) hx hb dJ2_grow_5 (by decide) ?_
  refine lv_iadd hx hb dJ2_grow_6 ?_
  refine k_J2_grow_2 ht C B hRr q912 (Nat.le_trans (Nat.le_of_ble_eq_true rfl) hF) (Nat.le_trans (Nat.le_of_ble_eq_true rfl) hN) hL.1 (Nat.le_of_ble_eq_true rfl) h dJ2_grow_7 (fun q1 ad2 h hae3 H locs B => ?_)
  rw [← (hae3 a0 (by rw [ht]; decide)).1] at hL
  have hp4 : (q1.2.1 a0).1 = 22 := by rw [(hae3 a0 (by rw [ht]; decide)).2]; exact ht
  exact hret (some q1.1) (ad2, q1.2.1, q1.2.2.1, q1.2.2.2.1, q1.2.2.2.2.1, q1.2.2.2.2.2) _ _ _ _ ⟨_, rfl, Option.some.inj h⟩ B dJ2_grow_10
theorem k_J2_grow {p : Program} {l : Launch} {e : Env} {R : Room} {s : State} {m : MethodId} {args : Array Value} {below : List Frame} {meth : Method} {c : Code} {H : Heap} {locs : List Loc} {Q : State → Prop} {pc : Nat} {ls : Array Slot} {rest : List Value} {cc : ByteArray} {nL : Nat} {D : va_G} {cA : Nat → ClassId} {a9 : Nat → Nat} {h9 : HK} {n0 m0 cN cS : Nat} {ad : Nat → Nat} {hk : HK} {nx ns : Nat} {A : Nat → Prop} {gi : GI} {gr : GR} {α : Type} {r : α} {own : String} {idx : Nat} {a0 : Nat} {ff : (Nat × HK × Nat × Nat × GI × GR) → Option α} (ht : (hk a0).1 = 22) (C : CallFix p m c cc nL s args lw_all own) (B : XBA D cA a9 h9 n0 m0 cN cS ad hk nx ns A s gi gr H locs) (hRr : R.cells = cN - n0 ∧ R.slots = cS - m0) (hq : Cond.methodLink own idx yJ2_grow ∈ lw_all) (hF : 5 ≤ R.frames) (hN : 152 ≤ R.locals) (hs : ls.size = nL) (hw : (rest.map fun v => v.category).sum ≤ 8) (h : (g_cc (fun c1 c2 => f_J2_grow c1 c2 hk nx ns gi gr a0) (fun q : Nat × HK × Nat × Nat × GI × GR => q.2.2.1) (fun q : Nat × HK × Nat × Nat × GI × GR => q.2.2.2.1) cN cS nx ns).bind ff = some r) (hdg : decode cc pc = .ok (.invokevirtual idx, 3)) (kk : ∀ (q : Nat × HK × Nat × Nat × GI × GR) (ad' : Nat → Nat), ff q = some r → (∀ i, (hk i).1 < 1000 → ad' i = ad i ∧ q.2.1 i = hk i) → ∀ (H' : Heap) (locs' : List Loc), XBA D cA a9 h9 n0 m0 cN cS ad' q.2.1 q.2.2.1 q.2.2.2.1 A s q.2.2.2.2.1 q.2.2.2.2.2 H' locs' → W p l e R s m args below meth c H' locs' (q.2.2.1 - n0) (q.2.2.2.1 - m0) Q (F0 m (pc + 3) ls (.ref (ad' q.1) :: rest))) : W p l e R s m args below meth c H locs (nx - n0) (ns - m0) Q (F0 m pc ls (.ref (ad a0) :: rest)) := by
  obtain ⟨q, h1, h2⟩ := g_ob h
  obtain ⟨h3, c1, c2, c3, c4⟩ := g_cc_of h1
  refine xa_cVR (As := []) (rest := rest) (n := 0) (qn := q.2.2.1) (qs := q.2.2.2.1) xc_12 ht (by decide) C B hRr (fun sz => w_J2_grow l D cA ad _ _ hk nx ns gi gr a0 ht ⟨c1, c3⟩ q h3 sz) hq q910 qs12 q145 q911 (by decide +kernel) ⟨c1, c2, c3, c4⟩ (fun v u hp => ?_) ⟨hF, hN⟩ rfl hs hw hdg (fun v u H9 locs9 hp hae B9 => ?_)
  · obtain ⟨v9, rfl, rfl⟩ := hp
    exact ⟨rfl, rfl⟩
  · obtain ⟨v9, rfl, rfl⟩ := hp
    exact kk _ u.1 h2 hae H9 locs9 B9
def f_J2_add_2_j11 (cN cS : Nat) (a0 : Nat) (a1j11 : Nat) (x3j11 : Int32) (hkj11 : HK) (nxj11 : Nat) (nsj11 : Nat) (gij11 : GI) (grj11 : GR) (a2j11 : Nat) : Option (HK × Nat × Nat × GI × GR) :=
  (g_is hkj11 a2j11 4).bind fun _ =>
  (g_obj hkj11 a1j11).bind fun _ =>
  (g_str grj11 a2j11 (hkj11 a2j11).2 x3j11 (some a1j11)).bind fun gr4 =>
  (some (g_pi gij11 a0 2 (x3j11 + 1))).bind fun gi6 =>
  some (hkj11, nxj11, nsj11, gi6, gr4)
def f_J2_add_2 (cN cS : Nat) (hk : HK) (nx ns : Nat) (gi : GI) (gr : GR) (a0 : Nat) (a1 : Nat) (a2 : Nat) (x3 : Int32) : Option (HK × Nat × Nat × GI × GR) :=
  (g_is hk a2 4).bind fun _ =>
  if x3 = (Int32.ofNat (hk a2).2) then
  ((g_ok hk a1).bind fun _ =>
  (g_cc (fun c1 c2 => f_J2_grow c1 c2 hk nx ns gi gr a0) (fun q : Nat × HK × Nat × Nat × GI × GR => q.2.2.1) (fun q : Nat × HK × Nat × Nat × GI × GR => q.2.2.2.1) cN cS nx ns).bind fun q8 =>
  f_J2_add_2_j11 cN cS a0 a1 x3 q8.2.1 q8.2.2.1 q8.2.2.2.1 q8.2.2.2.2.1 q8.2.2.2.2.2 q8.1)
  else
  (f_J2_add_2_j11 cN cS a0 a1 x3 hk nx ns gi gr a2)
set_option maxHeartbeats 400000 in
theorem w_J2_add_2 (l : Launch) (D : va_G) (cA : Nat → ClassId) (ad : Nat → Nat) (cN cS : Nat) (hk : HK) (nx ns : Nat) (gi : GI) (gr : GR) (a0 : Nat) (a1 : Nat) (a2 : Nat) (x3 : Int32) (ht : (hk a0).1 = 22) (hcap : nx ≤ cN ∧ ns ≤ cS) (r : HK × Nat × Nat × GI × GR) (h : f_J2_add_2 cN cS hk nx ns gi gr a0 a1 a2 x3 = some r) (sz : Nat) : Met l yJ2_add_2 (ws_ yJ2_add_2 cJ2_add_2 4 (none)) ({ frames := 5, cells := cN - nx, slots := cS - ns, locals := 152 } : Room) (va_Pc [.ref (ad a0), .ref (ad a1), .ref (ad a2), .int x3] (XPre D cA ad hk nx gi gr sz)) (va_Qv (fun (u : XU) => u.2 = r) (XPostA D cA ad hk nx sz) (XA ad nx sz)) (cN - nx) (cS - ns) (XA ad nx sz) := by
  refine xa_stV (own := RJ2) (P := (fun (u : XU) => u.2 = r)) (by decide +kernel) rfl (Nat.le_of_ble_eq_true rfl) hcap (fun p e s m args below meth c R Q A ls C hmn hF hN hRr B hret hL => ?_) sz
  have hx := C.1
  have hb := C.2.1
  have hL : lv_has ls 4 [(0, .ref (ad a0)), (1, .ref (ad a1)), (2, .ref (ad a2)), (3, .int x3)] := hL
  unfold f_J2_add_2 at h
  have hj11 : ∀ (hkj11 : HK) (nxj11 : Nat) (nsj11 : Nat) (gij11 : GI) (grj11 : GR) (a2j11 : Nat) (adj11 : Nat → Nat) (H : Heap) (locs : List Loc) (ls : Array Slot), f_J2_add_2_j11 cN cS a0 a1 x3 hkj11 nxj11 nsj11 gij11 grj11 a2j11 = some r → XBA D cA ad hk nx ns cN cS adj11 hkj11 nxj11 nsj11 A s gij11 grj11 H locs → lv_has ls 4 [(0, .ref (adj11 a0)), (1, .ref (adj11 a1)), (2, .ref (adj11 a2j11)), (3, .int x3)] → W p l e R s m args below meth c H locs (nxj11 - nx) (nsj11 - ns) Q (F0 m 11 ls []) := by
    intro hkj11 nxj11 nsj11 gij11 grj11 a2j11 adj11 H locs ls h B hL
    unfold f_J2_add_2_j11 at h
    have ht2 : (hkj11 a0).1 = 22 := by rw [(B.2.1 a0 (by rw [ht]; decide)).2]; exact ht
    refine lv_aload_n hx hb dJ2_add_2_11 rfl (lv_at hL 2 rfl) ?_
    refine lv_iload_n hx hb dJ2_add_2_12 rfl (lv_at hL 3 rfl) ?_
    refine lv_aload_n hx hb dJ2_add_2_13 rfl (lv_at hL 1 rfl) ?_
    refine xx_is h (fun hp3 h => ?_)
    refine xx_obj h (fun ob5 h => ?_)
    refine xx_aastM C B.1 hp3 (by decide) rfl (xx_anyO B.1 ob5) (xx_obj_lt ob5) h dJ2_add_2_14 (fun gr4 h H locs B2 => ?_)
    have B := And.intro B2 B.2
    refine lv_aload_n hx hb dJ2_add_2_15 rfl (lv_at hL 0 rfl) ?_
    refine lv_iload_n hx hb dJ2_add_2_16 rfl (lv_at hL 3 rfl) ?_
    refine lv_iconst (v := 1) hx hb dJ2_add_2_17 (by decide) ?_
    refine lv_iadd hx hb dJ2_add_2_18 ?_
    refine xx_pi (ci := 12) (k := 2) C B.1 xc_12 ht2 (by decide) (Nat.le_of_ble_eq_true rfl) rfl q206 (fun _ h => h) rfl rfl rfl h dJ2_add_2_19 (fun gi6 h H locs B2 => ?_)
    have B := And.intro B2 B.2
    exact hret (adj11, hkj11, nxj11, nsj11, gi6, gr4) _ _ _ _ (Option.some.inj h) B dJ2_add_2_22
  refine lv_iload_n hx hb dJ2_add_2_0 rfl (lv_at hL 3 rfl) ?_
  refine lv_aload_n hx hb dJ2_add_2_1 rfl (lv_at hL 2 rfl) ?_
  refine xx_is h (fun hp1 h => ?_)
  refine xx_alen C B.1 hp1 (by decide) dJ2_add_2_2 ?_
  refine gg_icmp_ne hx hb 11 h dJ2_add_2_3 (by decide) (fun h => ?_) (fun h => ?_)
  · exact hj11 _ _ _ _ _ _ _ _ _ _ h B (lv_sub hL [0, 1, 2, 3] rfl)
  · refine lv_aload_n hx hb dJ2_add_2_6 rfl (lv_at hL 0 rfl) ?_
    refine xx_ok h (fun ok7 h => ?_)
    refine k_J2_grow ht C B hRr q908 (Nat.le_trans (Nat.le_of_ble_eq_true rfl) hF) (Nat.le_trans (Nat.le_of_ble_eq_true rfl) hN) hL.1 (Nat.le_of_ble_eq_true rfl) h dJ2_add_2_7 (fun q8 ad9 h hae10 H locs B => ?_)
    rw [← (hae10 a0 (by rw [ht]; decide)).1] at hL
    have hp11 : (q8.2.1 a0).1 = 22 := by rw [(hae10 a0 (by rw [ht]; decide)).2]; exact ht
    rw [← (hae10 a1 ok7).1] at hL
    have ok12 : (q8.2.1 a1).1 < 1000 := by rw [(hae10 a1 ok7).2]; exact ok7
    rw [← (hae10 a2 (by rw [hp1]; decide)).1] at hL
    have hp13 : (q8.2.1 a2).1 = 4 := by rw [(hae10 a2 (by rw [hp1]; decide)).2]; exact hp1
    refine lv_astore_n (lv' := [(2, .ref (ad9 q8.1)), (0, .ref (ad9 a0)), (1, .ref (ad9 a1)), (3, .int x3)]) hx hb dJ2_add_2_10 rfl hL (by decide) rfl (fun ls hL => ?_)
    exact hj11 _ _ _ _ _ _ _ _ _ _ h B (lv_sub hL [1, 2, 0, 3] rfl)
theorem k_J2_add_2 {p : Program} {l : Launch} {e : Env} {R : Room} {s : State} {m : MethodId} {args : Array Value} {below : List Frame} {meth : Method} {c : Code} {H : Heap} {locs : List Loc} {Q : State → Prop} {pc : Nat} {ls : Array Slot} {rest : List Value} {cc : ByteArray} {nL : Nat} {D : va_G} {cA : Nat → ClassId} {a9 : Nat → Nat} {h9 : HK} {n0 m0 cN cS : Nat} {ad : Nat → Nat} {hk : HK} {nx ns : Nat} {A : Nat → Prop} {gi : GI} {gr : GR} {α : Type} {r : α} {own : String} {idx : Nat} {a0 : Nat} {a1 : Nat} {a2 : Nat} {x3 : Int32} {ff : (HK × Nat × Nat × GI × GR) → Option α} (ht : (hk a0).1 = 22) (C : CallFix p m c cc nL s args lw_all own) (B : XBA D cA a9 h9 n0 m0 cN cS ad hk nx ns A s gi gr H locs) (hRr : R.cells = cN - n0 ∧ R.slots = cS - m0) (hq : Cond.methodLink own idx yJ2_add_2 ∈ lw_all) (hF : 6 ≤ R.frames) (hN : 175 ≤ R.locals) (hs : ls.size = nL) (hw : (rest.map fun v => v.category).sum ≤ 8) (h : (g_cc (fun c1 c2 => f_J2_add_2 c1 c2 hk nx ns gi gr a0 a1 a2 x3) (fun q : HK × Nat × Nat × GI × GR => q.2.1) (fun q : HK × Nat × Nat × GI × GR => q.2.2.1) cN cS nx ns).bind ff = some r) (hdg : decode cc pc = .ok (.invokevirtual idx, 3)) (kk : ∀ (q : HK × Nat × Nat × GI × GR) (ad' : Nat → Nat), ff q = some r → (∀ i, (hk i).1 < 1000 → ad' i = ad i ∧ q.1 i = hk i) → ∀ (H' : Heap) (locs' : List Loc), XBA D cA a9 h9 n0 m0 cN cS ad' q.1 q.2.1 q.2.2.1 A s q.2.2.2.1 q.2.2.2.2 H' locs' → W p l e R s m args below meth c H' locs' (q.2.1 - n0) (q.2.2.1 - m0) Q (F0 m (pc + 3) ls (rest))) : W p l e R s m args below meth c H locs (nx - n0) (ns - m0) Q (F0 m pc ls (.int x3 :: .ref (ad a2) :: .ref (ad a1) :: .ref (ad a0) :: rest)) := by
  obtain ⟨q, h1, h2⟩ := g_ob h
  obtain ⟨h3, c1, c2, c3, c4⟩ := g_cc_of h1
  refine xa_cVV (As := [.ref (ad a1), .ref (ad a2), .int x3]) (rest := rest) (n := 3) (qn := q.2.1) (qs := q.2.2.1) xc_12 ht (by decide) C B hRr (fun sz => w_J2_add_2 l D cA ad _ _ hk nx ns gi gr a0 a1 a2 x3 ht ⟨c1, c3⟩ q h3 sz) hq q906 qs11 q145 q907 (by decide +kernel) ⟨c1, c2, c3, c4⟩ (fun u hp => ?_) ⟨hF, hN⟩ rfl hs hw hdg (fun u H9 locs9 hp hae B9 => ?_)
  · have hp := hp
    subst hp
    exact ⟨rfl, rfl⟩
  · have hp := hp
    subst hp
    exact kk _ u.1 h2 hae H9 locs9 B9
def f_J2_add (cN cS : Nat) (hk : HK) (nx ns : Nat) (gi : GI) (gr : GR) (a0 : Nat) (a1 : Nat) : Option (Int32 × HK × Nat × Nat × GI × GR) :=
  (some (g_pi gi a0 0 ((gi a0 0) + 1))).bind fun gi1 =>
  (gr a0 1).bind fun v2 =>
  (g_ok hk a1).bind fun _ =>
  (g_cc (fun c1 c2 => f_J2_add_2 c1 c2 hk nx ns gi1 gr a0 a1 v2 (gi1 a0 2)) (fun q : HK × Nat × Nat × GI × GR => q.2.1) (fun q : HK × Nat × Nat × GI × GR => q.2.2.1) cN cS nx ns).bind fun q5 =>
  some (1, q5.1, q5.2.1, q5.2.2.1, q5.2.2.2.1, q5.2.2.2.2)
set_option maxHeartbeats 400000 in
theorem w_J2_add (l : Launch) (D : va_G) (cA : Nat → ClassId) (ad : Nat → Nat) (cN cS : Nat) (hk : HK) (nx ns : Nat) (gi : GI) (gr : GR) (a0 : Nat) (a1 : Nat) (ht : (hk a0).1 = 22) (hcap : nx ≤ cN ∧ ns ≤ cS) (r : Int32 × HK × Nat × Nat × GI × GR) (h : f_J2_add cN cS hk nx ns gi gr a0 a1 = some r) (sz : Nat) : Met l yJ2_add (ws_ yJ2_add cJ2_add 2 (some .boolean)) ({ frames := 6, cells := cN - nx, slots := cS - ns, locals := 175 } : Room) (va_Pc [.ref (ad a0), .ref (ad a1)] (XPre D cA ad hk nx gi gr sz)) (va_Qi (fun (v : Int32) (u : XU) => (v, u.2) = r) (XPostA D cA ad hk nx sz) (XA ad nx sz)) (cN - nx) (cS - ns) (XA ad nx sz) := by
  refine xa_stZ (own := RJ2) (P := (fun (v : Int32) (u : XU) => (v, u.2) = r)) (by decide +kernel) rfl (Nat.le_of_ble_eq_true rfl) hcap (fun p e s m args below meth c R Q A ls C hmn hF hN hRr B hret hL => ?_) sz
  have hx := C.1
  have hb := C.2.1
  have hL : lv_has ls 2 [(0, .ref (ad a0)), (1, .ref (ad a1))] := hL
  unfold f_J2_add at h
  refine lv_aload_n hx hb dJ2_add_0 rfl (lv_at hL 0 rfl) ?_
  refine lv_dup hx hb dJ2_add_1 rfl ?_
  refine xx_gi (ci := 12) (k := 0) C B.1 xc_12 ht (by decide) (Nat.le_of_ble_eq_true rfl) rfl q210 (fun x h => u_same (C.2.2.2.2 _ q209) x h) dJ2_add_2 ?_
  refine lv_iconst (v := 1) hx hb dJ2_add_5 (by decide) ?_
  refine lv_iadd hx hb dJ2_add_6 ?_
  refine xx_pi (ci := 12) (k := 0) C B.1 xc_12 ht (by decide) (Nat.le_of_ble_eq_true rfl) rfl q210 (fun x h => u_same (C.2.2.2.2 _ q209) x h) rfl rfl rfl h dJ2_add_7 (fun gi1 h H locs B2 => ?_)
  have B := And.intro B2 B.2
  refine lv_aload_n hx hb dJ2_add_10 rfl (lv_at hL 0 rfl) ?_
  refine lv_aload_n hx hb dJ2_add_11 rfl (lv_at hL 1 rfl) ?_
  refine lv_aload_n hx hb dJ2_add_12 rfl (lv_at hL 0 rfl) ?_
  refine xx_gr (ci := 12) (k := 1) C B.1 xc_12 ht (by decide) (Nat.le_of_ble_eq_true rfl) rfl q203 (fun _ h => h) h dJ2_add_13 (fun v2 ok3 h => ?_)
  refine lv_aload_n hx hb dJ2_add_16 rfl (lv_at hL 0 rfl) ?_
  refine xx_gi (ci := 12) (k := 2) C B.1 xc_12 ht (by decide) (Nat.le_of_ble_eq_true rfl) rfl q206 (fun _ h => h) dJ2_add_17 ?_
  refine xx_ok h (fun ok4 h => ?_)
  refine k_J2_add_2 ht C B hRr q904 (Nat.le_trans (Nat.le_of_ble_eq_true rfl) hF) (Nat.le_trans (Nat.le_of_ble_eq_true rfl) hN) hL.1 (Nat.le_of_ble_eq_true rfl) h dJ2_add_20 (fun q5 ad6 h hae7 H locs B => ?_)
  rw [← (hae7 a0 (by rw [ht]; decide)).1] at hL
  have hp8 : (q5.1 a0).1 = 22 := by rw [(hae7 a0 (by rw [ht]; decide)).2]; exact ht
  rw [← (hae7 a1 ok4).1] at hL
  have ok9 : (q5.1 a1).1 < 1000 := by rw [(hae7 a1 ok4).2]; exact ok4
  refine lv_iconst (v := 1) hx hb dJ2_add_23 (by decide) ?_
  exact hret _ (ad6, q5.1, q5.2.1, q5.2.2.1, q5.2.2.2.1, q5.2.2.2.2) _ _ _ _ (Option.some.inj h) (Or.inr rfl) B dJ2_add_24
theorem k_J2_add {p : Program} {l : Launch} {e : Env} {R : Room} {s : State} {m : MethodId} {args : Array Value} {below : List Frame} {meth : Method} {c : Code} {H : Heap} {locs : List Loc} {Q : State → Prop} {pc : Nat} {ls : Array Slot} {rest : List Value} {cc : ByteArray} {nL : Nat} {D : va_G} {cA : Nat → ClassId} {a9 : Nat → Nat} {h9 : HK} {n0 m0 cN cS : Nat} {ad : Nat → Nat} {hk : HK} {nx ns : Nat} {A : Nat → Prop} {gi : GI} {gr : GR} {α : Type} {r : α} {own : String} {idx : Nat} {a0 : Nat} {a1 : Nat} {ff : (Int32 × HK × Nat × Nat × GI × GR) → Option α} (ht : (hk a0).1 = 22) (C : CallFix p m c cc nL s args lw_all own) (B : XBA D cA a9 h9 n0 m0 cN cS ad hk nx ns A s gi gr H locs) (hRr : R.cells = cN - n0 ∧ R.slots = cS - m0) (hq : Cond.methodLink own idx yJ2_add ∈ lw_all) (hF : 7 ≤ R.frames) (hN : 196 ≤ R.locals) (hs : ls.size = nL) (hw : (rest.map fun v => v.category).sum ≤ 8) (h : (g_cc (fun c1 c2 => f_J2_add c1 c2 hk nx ns gi gr a0 a1) (fun q : Int32 × HK × Nat × Nat × GI × GR => q.2.2.1) (fun q : Int32 × HK × Nat × Nat × GI × GR => q.2.2.2.1) cN cS nx ns).bind ff = some r) (hdg : decode cc pc = .ok (.invokevirtual idx, 3)) (kk : ∀ (q : Int32 × HK × Nat × Nat × GI × GR) (ad' : Nat → Nat), ff q = some r → (∀ i, (hk i).1 < 1000 → ad' i = ad i ∧ q.2.1 i = hk i) → ∀ (H' : Heap) (locs' : List Loc), XBA D cA a9 h9 n0 m0 cN cS ad' q.2.1 q.2.2.1 q.2.2.2.1 A s q.2.2.2.2.1 q.2.2.2.2.2 H' locs' → W p l e R s m args below meth c H' locs' (q.2.2.1 - n0) (q.2.2.2.1 - m0) Q (F0 m (pc + 3) ls (.int q.1 :: rest))) : W p l e R s m args below meth c H locs (nx - n0) (ns - m0) Q (F0 m pc ls (.ref (ad a1) :: .ref (ad a0) :: rest)) := by
  obtain ⟨q, h1, h2⟩ := g_ob h
  obtain ⟨h3, c1, c2, c3, c4⟩ := g_cc_of h1
  refine xa_cVI (As := [.ref (ad a1)]) (rest := rest) (n := 1) (qn := q.2.2.1) (qs := q.2.2.2.1) xc_12 ht (by decide) C B hRr (fun sz => w_J2_add l D cA ad _ _ hk nx ns gi gr a0 a1 ht ⟨c1, c3⟩ q h3 sz) hq q901 q902 q145 q903 (by decide +kernel) ⟨c1, c2, c3, c4⟩ (fun v u hp => ?_) ⟨hF, hN⟩ rfl hs hw hdg (fun v u H9 locs9 hp hae B9 => ?_)
  · have hp := hp
    subst hp
    exact ⟨rfl, rfl⟩
  · have hp := hp
    subst hp
    exact kk _ u.1 h2 hae H9 locs9 B9
def f_J2_iterator (cN cS : Nat) (hk : HK) (nx ns : Nat) (gi : GI) (gr : GR) (a0 : Nat) : Option (Nat × HK × Nat × Nat × GI × GR) :=
  (g_new cN cS nx ns 23 0 4 hk gi gr).bind fun q1 =>
  (g_cc (fun c1 c2 => f_J15_init c1 c2 q1.1 (nx + 1) (ns + 4) q1.2.1 q1.2.2 nx a0) (fun q : HK × Nat × Nat × GI × GR => q.2.1) (fun q : HK × Nat × Nat × GI × GR => q.2.2.1) cN cS (nx + 1) (ns + 4)).bind fun q6 =>
  some (nx, q6.1, q6.2.1, q6.2.2.1, q6.2.2.2.1, q6.2.2.2.2)
set_option maxHeartbeats 400000 in
theorem w_J2_iterator (l : Launch) (D : va_G) (cA : Nat → ClassId) (ad : Nat → Nat) (cN cS : Nat) (hk : HK) (nx ns : Nat) (gi : GI) (gr : GR) (a0 : Nat) (ht : (hk a0).1 = 22) (hcap : nx ≤ cN ∧ ns ≤ cS) (r : Nat × HK × Nat × Nat × GI × GR) (h : f_J2_iterator cN cS hk nx ns gi gr a0 = some r) (sz : Nat) : Met l yJ2_iterator (ws_ yJ2_iterator cJ2_iterator 1 (some (.object "java/util/Iterator"))) ({ frames := 2, cells := cN - nx, slots := cS - ns, locals := 85 } : Room) (va_Pc [.ref (ad a0)] (XPre D cA ad hk nx gi gr sz)) (va_Qq (fun o u => ∃ v : Option Nat, o = v.map u.1 ∧ (fun (v : Option Nat) (u : XU) => ∃ v9, v = some v9 ∧ (v9, u.2) = r) v u) (XPostA D cA ad hk nx sz) (XA ad nx sz)) (cN - nx) (cS - ns) (XA ad nx sz) := by
  refine xa_stR (Or.inl ⟨_, rfl⟩) (own := RJ2) (P := (fun (v : Option Nat) (u : XU) => ∃ v9, v = some v9 ∧ (v9, u.2) = r)) (by decide +kernel) rfl (Nat.le_of_ble_eq_true rfl) hcap (fun p e s m args below meth c R Q A ls C hmn hF hN hRr B hret hL => ?_) sz
  have hx := C.1
  have hb := C.2.1
  have hL : lv_has ls 1 [(0, .ref (ad a0))] := hL
  unfold f_J2_iterator at h
  refine xa_new C B hRr xc_13 (by decide) xd_13 q1064 q1065 q165 h dJ2_iterator_0 (fun q1 ad2 h hae3 hp4 H B => ?_)
  rw [← (hae3 a0 (by rw [ht]; decide)).1] at hL
  have hp5 : (q1.1 a0).1 = 22 := by rw [(hae3 a0 (by rw [ht]; decide)).2]; exact ht
  refine lv_dup hx hb dJ2_iterator_3 rfl ?_
  refine lv_aload_n hx hb dJ2_iterator_4 rfl (lv_at hL 0 rfl) ?_
  refine k_J15_init hp4 C B hRr q1066 (Nat.le_trans (Nat.le_of_ble_eq_true rfl) hF) (Nat.le_trans (Nat.le_of_ble_eq_true rfl) hN) hL.1 (Nat.le_of_ble_eq_true rfl) h dJ2_iterator_5 (fun q6 ad7 h hae8 H locs B => ?_)
  rw [← (hae8 a0 (by rw [hp5]; decide)).1] at hL
  have hp9 : (q6.1 a0).1 = 22 := by rw [(hae8 a0 (by rw [hp5]; decide)).2]; exact hp5
  rw [← (hae8 nx (by rw [hp4]; decide)).1]
  have hp10 : (q6.1 nx).1 = 23 := by rw [(hae8 nx (by rw [hp4]; decide)).2]; exact hp4
  exact hret (some nx) (ad7, q6.1, q6.2.1, q6.2.2.1, q6.2.2.2.1, q6.2.2.2.2) _ _ _ _ ⟨_, rfl, Option.some.inj h⟩ B dJ2_iterator_8
theorem k_J2_iterator {p : Program} {l : Launch} {e : Env} {R : Room} {s : State} {m : MethodId} {args : Array Value} {below : List Frame} {meth : Method} {c : Code} {H : Heap} {locs : List Loc} {Q : State → Prop} {pc : Nat} {ls : Array Slot} {rest : List Value} {cc : ByteArray} {nL : Nat} {D : va_G} {cA : Nat → ClassId} {a9 : Nat → Nat} {h9 : HK} {n0 m0 cN cS : Nat} {ad : Nat → Nat} {hk : HK} {nx ns : Nat} {A : Nat → Prop} {gi : GI} {gr : GR} {α : Type} {r : α} {own : String} {idx : Nat} {a0 : Nat} {ff : (Nat × HK × Nat × Nat × GI × GR) → Option α} (ht : (hk a0).1 = 22) (C : CallFix p m c cc nL s args lw_all own) (B : XBA D cA a9 h9 n0 m0 cN cS ad hk nx ns A s gi gr H locs) (hRr : R.cells = cN - n0 ∧ R.slots = cS - m0) (hq : Cond.methodLink own idx yJ2_iterator ∈ lw_all) (hF : 3 ≤ R.frames) (hN : 105 ≤ R.locals) (hs : ls.size = nL) (hw : (rest.map fun v => v.category).sum ≤ 8) (h : (g_cc (fun c1 c2 => f_J2_iterator c1 c2 hk nx ns gi gr a0) (fun q : Nat × HK × Nat × Nat × GI × GR => q.2.2.1) (fun q : Nat × HK × Nat × Nat × GI × GR => q.2.2.2.1) cN cS nx ns).bind ff = some r) (hdg : decode cc pc = .ok (.invokevirtual idx, 3)) (kk : ∀ (q : Nat × HK × Nat × Nat × GI × GR) (ad' : Nat → Nat), ff q = some r → (∀ i, (hk i).1 < 1000 → ad' i = ad i ∧ q.2.1 i = hk i) → ∀ (H' : Heap) (locs' : List Loc), XBA D cA a9 h9 n0 m0 cN cS ad' q.2.1 q.2.2.1 q.2.2.2.1 A s q.2.2.2.2.1 q.2.2.2.2.2 H' locs' → W p l e R s m args below meth c H' locs' (q.2.2.1 - n0) (q.2.2.2.1 - m0) Q (F0 m (pc + 3) ls (.ref (ad' q.1) :: rest))) : W p l e R s m args below meth c H locs (nx - n0) (ns - m0) Q (F0 m pc ls (.ref (ad a0) :: rest)) := by
  obtain ⟨q, h1, h2⟩ := g_ob h
  obtain ⟨h3, c1, c2, c3, c4⟩ := g_cc_of h1
  refine xa_cVR (As := []) (rest := rest) (n := 0) (qn := q.2.2.1) (qs := q.2.2.2.1) xc_12 ht (by decide) C B hRr (fun sz => w_J2_iterator l D cA ad _ _ hk nx ns gi gr a0 ht ⟨c1, c3⟩ q h3 sz) hq q1061 q1062 q145 q1063 (by decide +kernel) ⟨c1, c2, c3, c4⟩ (fun v u hp => ?_) ⟨hF, hN⟩ rfl hs hw hdg (fun v u H9 locs9 hp hae B9 => ?_)
  · obtain ⟨v9, rfl, rfl⟩ := hp
    exact ⟨rfl, rfl⟩
  · obtain ⟨v9, rfl, rfl⟩ := hp
    exact kk _ u.1 h2 hae H9 locs9 B9
def f_J2_clear_l27 (cN cS : Nat) (a0 : Nat) (a1i27 : Nat) (x2i27 : Int32) (x3l27 : Int32) (hkl27 : HK) (nxl27 : Nat) (nsl27 : Nat) (gil27 : GI) (grl27 : GR) : Option ((Int32 × HK × Nat × Nat × GI × GR) ⊕ (HK × Nat × Nat × GI × GR)) :=
  if x2i27 ≤ x3l27 then
  (some (.inr (hkl27, nxl27, nsl27, gil27, grl27)))
  else
  ((g_is hkl27 a1i27 4).bind fun _ =>
  (g_str grl27 a1i27 (hkl27 a1i27).2 x3l27 none).bind fun gr7 =>
  some (.inl (x3l27 + 1, hkl27, nxl27, nsl27, gil27, gr7)))
def f_J2_clear_x27 (cN cS : Nat) (a0 : Nat) (hke27 : HK) (nxe27 : Nat) (nse27 : Nat) (gie27 : GI) (gre27 : GR) : Option (HK × Nat × Nat × GI × GR) :=
  some (hke27, nxe27, nse27, gie27, gre27)
def f_J2_clear (cN cS : Nat) (hk : HK) (nx ns : Nat) (gi : GI) (gr : GR) (a0 : Nat) : Option (HK × Nat × Nat × GI × GR) :=
  (some (g_pi gi a0 0 ((gi a0 0) + 1))).bind fun gi1 =>
  (gr a0 1).bind fun v2 =>
  (some (g_pi gi1 a0 2 0)).bind fun gi4 =>
  (g_loop g_K (fun (s : Int32 × HK × Nat × Nat × GI × GR) => f_J2_clear_l27 cN cS a0 v2 (gi1 a0 2) s.1 s.2.1 s.2.2.1 s.2.2.2.1 s.2.2.2.2.1 s.2.2.2.2.2) (0, hk, nx, ns, gi4, gr)).bind fun E27 => f_J2_clear_x27 cN cS a0 E27.1 E27.2.1 E27.2.2.1 E27.2.2.2.1 E27.2.2.2.2
set_option maxHeartbeats 400000 in
theorem w_J2_clear (l : Launch) (D : va_G) (cA : Nat → ClassId) (ad : Nat → Nat) (cN cS : Nat) (hk : HK) (nx ns : Nat) (gi : GI) (gr : GR) (a0 : Nat) (ht : (hk a0).1 = 22) (hcap : nx ≤ cN ∧ ns ≤ cS) (r : HK × Nat × Nat × GI × GR) (h : f_J2_clear cN cS hk nx ns gi gr a0 = some r) (sz : Nat) : Met l yJ2_clear (ws_ yJ2_clear cJ2_clear 4 (none)) ({ frames := 1, cells := cN - nx, slots := cS - ns, locals := 64 } : Room) (va_Pc [.ref (ad a0)] (XPre D cA ad hk nx gi gr sz)) (va_Qv (fun (u : XU) => u.2 = r) (XPostA D cA ad hk nx sz) (XA ad nx sz)) (cN - nx) (cS - ns) (XA ad nx sz) := by
  refine xa_stV (own := RJ2) (P := (fun (u : XU) => u.2 = r)) (by decide +kernel) rfl (Nat.le_of_ble_eq_true rfl) hcap (fun p e s m args below meth c R Q A ls C hmn hF hN hRr B hret hL => ?_) sz
  have hx := C.1
  have hb := C.2.1
  have hL : lv_has ls 4 [(0, .ref (ad a0))] := hL
  unfold f_J2_clear at h
  refine lv_aload_n hx hb dJ2_clear_0 rfl (lv_at hL 0 rfl) ?_
  refine lv_dup hx hb dJ2_clear_1 rfl ?_
  refine xx_gi (ci := 12) (k := 0) C B.1 xc_12 ht (by decide) (Nat.le_of_ble_eq_true rfl) rfl q210 (fun x h => u_same (C.2.2.2.2 _ q209) x h) dJ2_clear_2 ?_
  refine lv_iconst (v := 1) hx hb dJ2_clear_5 (by decide) ?_
  refine lv_iadd hx hb dJ2_clear_6 ?_
  refine xx_pi (ci := 12) (k := 0) C B.1 xc_12 ht (by decide) (Nat.le_of_ble_eq_true rfl) rfl q210 (fun x h => u_same (C.2.2.2.2 _ q209) x h) rfl rfl rfl h dJ2_clear_7 (fun gi1 h H locs B2 => ?_)
  have B := And.intro B2 B.2
  refine lv_aload_n hx hb dJ2_clear_10 rfl (lv_at hL 0 rfl) ?_
  refine xx_gr (ci := 12) (k := 1) C B.1 xc_12 ht (by decide) (Nat.le_of_ble_eq_true rfl) rfl q203 (fun _ h => h) h dJ2_clear_11 (fun v2 ok3 h => ?_)
  refine lv_astore_n (lv' := [(1, .ref (ad v2)), (0, .ref (ad a0))]) hx hb dJ2_clear_14 rfl hL (by decide) rfl (fun ls hL => ?_)
  refine lv_aload_n hx hb dJ2_clear_15 rfl (lv_at hL 1 rfl) ?_
  refine xx_gi (ci := 12) (k := 2) C B.1 xc_12 ht (by decide) (Nat.le_of_ble_eq_true rfl) rfl q206 (fun _ h => h) dJ2_clear_16 ?_
  refine lv_istore_n (lv' := [(2, .int (gi1 a0 2)), (1, .ref (ad v2)), (0, .ref (ad a0))]) hx hb dJ2_clear_19 rfl hL (by decide) rfl (fun ls hL => ?_)
  refine lv_aload_n hx hb dJ2_clear_20 rfl (lv_at hL 2 rfl) ?_
  refine lv_iconst (v := 0) hx hb dJ2_clear_21 (by decide) ?_
  refine lv_dup_x1 hx hb dJ2_clear_22 rfl rfl ?_
  refine xx_pi (ci := 12) (k := 2) C B.1 xc_12 ht (by decide) (Nat.le_of_ble_eq_true rfl) rfl q206 (fun _ h => h) rfl rfl rfl h dJ2_clear_23 (fun gi4 h H locs B2 => ?_)
  have B := And.intro B2 B.2
  refine lv_istore_n (lv' := [(3, .int 0), (2, .int (gi1 a0 2)), (1, .ref (ad v2)), (0, .ref (ad a0))]) hx hb dJ2_clear_26 rfl hL (by decide) rfl (fun ls hL => ?_)
  obtain ⟨E27, h827, h⟩ := g_ob h
  have kx27 : ∀ (hke27 : HK) (nxe27 : Nat) (nse27 : Nat) (gie27 : GI) (gre27 : GR) (ade27 : Nat → Nat) (H : Heap) (locs : List Loc) (ls : Array Slot), (hke27, nxe27, nse27, gie27, gre27) = E27 → XBA D cA ad hk nx ns cN cS ade27 hke27 nxe27 nse27 A s gie27 gre27 H locs → lv_has ls 4 [] → W p l e R s m args below meth c H locs (nxe27 - nx) (nse27 - ns) Q (F0 m 42 ls []) := by
    intro hke27 nxe27 nse27 gie27 gre27 ade27 H locs ls he B hL
    subst he
    have h : f_J2_clear_x27 cN cS a0 hke27 nxe27 nse27 gie27 gre27 = some r := h
    unfold f_J2_clear_x27 at h
    have ht8 : (hke27 a0).1 = 22 := by rw [(B.2.1 a0 (by rw [ht]; decide)).2]; exact ht
    exact hret (ade27, hke27, nxe27, nse27, gie27, gre27) _ _ _ _ (Option.some.inj h) B dJ2_clear_42
  have hl27 : ∀ (k : Nat) (x3l27 : Int32) (hkl27 : HK) (nxl27 : Nat) (nsl27 : Nat) (gil27 : GI) (grl27 : GR) (adl27 : Nat → Nat) (H : Heap) (locs : List Loc) (ls : Array Slot), g_loop k (fun (s : Int32 × HK × Nat × Nat × GI × GR) => f_J2_clear_l27 cN cS a0 v2 (gi1 a0 2) s.1 s.2.1 s.2.2.1 s.2.2.2.1 s.2.2.2.2.1 s.2.2.2.2.2) (x3l27, hkl27, nxl27, nsl27, gil27, grl27) = some E27 → XBA D cA ad hk nx ns cN cS adl27 hkl27 nxl27 nsl27 A s gil27 grl27 H locs → lv_has ls 4 [(1, .ref (adl27 v2)), (2, .int (gi1 a0 2)), (3, .int x3l27)] → W p l e R s m args below meth c H locs (nxl27 - nx) (nsl27 - ns) Q (F0 m 27 ls []) := by
    intro k
    induction k with
    | zero => intro x3l27 hkl27 nxl27 nsl27 gil27 grl27 adl27 H locs ls h; exact absurd h (fun z => g_loop_0 z)
    | succ k ih27 =>
      intro x3l27 hkl27 nxl27 nsl27 gil27 grl27 adl27 H locs ls h B hL
      obtain ⟨Z27, h, h927⟩ := g_loop_s h
      have h : f_J2_clear_l27 cN cS a0 v2 (gi1 a0 2) x3l27 hkl27 nxl27 nsl27 gil27 grl27 = some Z27 := h
      unfold f_J2_clear_l27 at h
      have ht5 : (hkl27 a0).1 = 22 := by rw [(B.2.1 a0 (by rw [ht]; decide)).2]; exact ht
      refine lv_iload_n hx hb dJ2_clear_27 rfl (lv_at hL 2 rfl) ?_
      refine lv_iload_n hx hb dJ2_clear_28 rfl (lv_at hL 1 rfl) ?_
      refine gg_icmp_ge hx hb 42 h dJ2_clear_29 (by decide) (fun h => ?_) (fun h => ?_)
      · exact kx27 _ _ _ _ _ _ _ _ _ (g_exit h h927) B (lv_sub hL [] rfl)
      · refine lv_aload_n hx hb dJ2_clear_32 rfl (lv_at hL 0 rfl) ?_
        refine lv_iload_n hx hb dJ2_clear_33 rfl (lv_at hL 2 rfl) ?_
        refine lv_null hx hb dJ2_clear_34 ?_
        refine xx_is h (fun hp6 h => ?_)
        refine xx_aastN C B.1 hp6 (by decide) rfl h dJ2_clear_35 (fun gr7 h H locs B2 => ?_)
        have B := And.intro B2 B.2
        refine lv_iinc (v := x3l27 + 1) (lv' := [(3, .int (x3l27 + 1)), (1, .ref (adl27 v2)), (2, .int (gi1 a0 2))]) hx hb dJ2_clear_36 hL (k := 2) rfl rfl (by decide) rfl (fun ls hL => ?_)
        refine lv_goto (tgt := 27) hx hb dJ2_clear_39 (by decide) ?_
        exact ih27 _ _ _ _ _ _ _ _ _ _ (g_next h h927) B (lv_sub hL [1, 2, 0] rfl)
  exact hl27 g_K _ _ _ _ _ _ _ _ _ _ h827 B (lv_sub hL [2, 1, 0] rfl)
theorem k_J2_clear {p : Program} {l : Launch} {e : Env} {R : Room} {s : State} {m : MethodId} {args : Array Value} {below : List Frame} {meth : Method} {c : Code} {H : Heap} {locs : List Loc} {Q : State → Prop} {pc : Nat} {ls : Array Slot} {rest : List Value} {cc : ByteArray} {nL : Nat} {D : va_G} {cA : Nat → ClassId} {a9 : Nat → Nat} {h9 : HK} {n0 m0 cN cS : Nat} {ad : Nat → Nat} {hk : HK} {nx ns : Nat} {A : Nat → Prop} {gi : GI} {gr : GR} {α : Type} {r : α} {own : String} {idx : Nat} {a0 : Nat} {ff : (HK × Nat × Nat × GI × GR) → Option α} (ht : (hk a0).1 = 22) (C : CallFix p m c cc nL s args lw_all own) (B : XBA D cA a9 h9 n0 m0 cN cS ad hk nx ns A s gi gr H locs) (hRr : R.cells = cN - n0 ∧ R.slots = cS - m0) (hq : Cond.methodLink own idx yJ2_clear ∈ lw_all) (hF : 2 ≤ R.frames) (hN : 87 ≤ R.locals) (hs : ls.size = nL) (hw : (rest.map fun v => v.category).sum ≤ 8) (h : (g_cc (fun c1 c2 => f_J2_clear c1 c2 hk nx ns gi gr a0) (fun q : HK × Nat × Nat × GI × GR => q.2.1) (fun q : HK × Nat × Nat × GI × GR => q.2.2.1) cN cS nx ns).bind ff = some r) (hdg : decode cc pc = .ok (.invokevirtual idx, 3)) (kk : ∀ (q : HK × Nat × Nat × GI × GR) (ad' : Nat → Nat), ff q = some r → (∀ i, (hk i).1 < 1000 → ad' i = ad i ∧ q.1 i = hk i) → ∀ (H' : Heap) (locs' : List Loc), XBA D cA a9 h9 n0 m0 cN cS ad' q.1 q.2.1 q.2.2.1 A s q.2.2.2.1 q.2.2.2.2 H' locs' → W p l e R s m args below meth c H' locs' (q.2.1 - n0) (q.2.2.1 - m0) Q (F0 m (pc + 3) ls (rest))) : W p l e R s m args below meth c H locs (nx - n0) (ns - m0) Q (F0 m pc ls (.ref (ad a0) :: rest)) := by
  obtain ⟨q, h1, h2⟩ := g_ob h
  obtain ⟨h3, c1, c2, c3, c4⟩ := g_cc_of h1
  refine xa_cVV (As := []) (rest := rest) (n := 0) (qn := q.2.1) (qs := q.2.2.1) xc_12 ht (by decide) C B hRr (fun sz => w_J2_clear l D cA ad _ _ hk nx ns gi gr a0 ht ⟨c1, c3⟩ q h3 sz) hq q1227 q1228 q145 q1229 (by decide +kernel) ⟨c1, c2, c3, c4⟩ (fun u hp => ?_) ⟨hF, hN⟩ rfl hs hw hdg (fun u H9 locs9 hp hae B9 => ?_)
  · have hp := hp
    subst hp
    exact ⟨rfl, rfl⟩
  · have hp := hp
    subst hp
    exact kk _ u.1 h2 hae H9 locs9 B9
def f_J5_init (cN cS : Nat) (hk : HK) (nx ns : Nat) (gi : GI) (gr : GR) (a0 : Nat) (x1 : Int32) : Option (HK × Nat × Nat × GI × GR) :=
  if ((1 : Int32)) = 0 then
  (none)
  else
  ((g_len x1).bind fun _ =>
  (g_new cN cS nx ns 1 x1.toNatClampNeg x1.toNatClampNeg hk gi gr).bind fun q1 =>
  (some (g_pr q1.2.2 a0 0 (some nx))).bind fun gr9 =>
  (some (g_pi q1.2.1 a0 1 0)).bind fun gi10 =>
  some (q1.1, nx + 1, ns + x1.toNatClampNeg, gi10, gr9))
set_option maxHeartbeats 400000 in
theorem w_J5_init (l : Launch) (D : va_G) (cA : Nat → ClassId) (ad : Nat → Nat) (cN cS : Nat) (hk : HK) (nx ns : Nat) (gi : GI) (gr : GR) (a0 : Nat) (x1 : Int32) (ht : (hk a0).1 = 24) (hcap : nx ≤ cN ∧ ns ≤ cS) (r : HK × Nat × Nat × GI × GR) (h : f_J5_init cN cS hk nx ns gi gr a0 x1 = some r) (sz : Nat) : Met l yJ5_init (ws_ yJ5_init cJ5_init 2 (none)) ({ frames := 1, cells := cN - nx, slots := cS - ns, locals := 64 } : Room) (va_Pc [.ref (ad a0), .int x1] (XPre D cA ad hk nx gi gr sz)) (va_Qv (fun (u : XU) => u.2 = r) (XPostA D cA ad hk nx sz) (XA ad nx sz)) (cN - nx) (cS - ns) (XA ad nx sz) := by
  refine xa_stV (own := RJ5) (P := (fun (u : XU) => u.2 = r)) (by decide +kernel) rfl (Nat.le_of_ble_eq_true rfl) hcap (fun p e s m args below meth c R Q A ls C hmn hF hN hRr B hret hL => ?_) sz
  have hx := C.1
  have hb := C.2.1
  have hL : lv_has ls 2 [(0, .ref (ad a0)), (1, .int x1)] := hL
  unfold f_J5_init at h
  refine lv_aload_n hx hb dJ5_init_0 rfl (lv_at hL 0 rfl) ?_
  refine W.objInit hx hb C.2.2.2.1 (C.2.2.2.2 _ q532) (C.2.2.2.2 _ q179) (C.2.2.2.2 _ q180) rfl (by rw [C.2.2.1]; exact hL.1) rfl dJ5_init_1 (Nat.le_trans (Nat.le_of_ble_eq_true rfl) hF) (Nat.le_trans (Nat.le_of_ble_eq_true rfl) hN) ?_
  refine W.eq (g2 := F0 m 4 ls []) rfl ?_
  refine xx_gs C B.1 q533 dJ5_init_4 ?_
  refine gg_if_eq hx hb 25 h dJ5_init_7 (by decide) (fun h => ?_) (fun h => ?_)
  · refine lv_aload_n hx hb dJ5_init_25 rfl (lv_at hL 0 rfl) ?_
    refine lv_iload_n hx hb dJ5_init_26 rfl (lv_at hL 1 rfl) ?_
    cases h
  · refine lv_aload_n hx hb dJ5_init_10 rfl (lv_at hL 0 rfl) ?_
    refine lv_iload_n hx hb dJ5_init_11 rfl (lv_at hL 1 rfl) ?_
    refine xx_len h (fun hl5 hl6 h => ?_)
    refine xa_newa (t := 1) (atype := .byte) (ty := .byte) C B hRr (by decide) rfl rfl (fun _ h => h) rfl q218 hl5 rfl (by first | exact hl6 | (show _ * 1 ≤ _; omega)) h dJ5_init_12 (fun q1 ad2 h hae3 hp4 H B => ?_)
    rw [← (hae3 a0 (by rw [ht]; decide)).1] at hL
    rw [← (hae3 a0 (by rw [ht]; decide)).1]
    have hp8 : (q1.1 a0).1 = 24 := by rw [(hae3 a0 (by rw [ht]; decide)).2]; exact ht
    have hp7 : (q1.1 nx).1 = 1 := by rw [hp4]
    refine xx_pr (ci := 14) (k := 0) C B.1 xc_14 hp8 (by decide) (by rw [hp7]; decide) (Nat.le_of_ble_eq_true rfl) rfl q542 (fun _ h => h) rfl rfl rfl h dJ5_init_14 (fun gr9 h H locs B2 => ?_)
    have B := And.intro B2 B.2
    refine lv_aload_n hx hb dJ5_init_17 rfl (lv_at hL 0 rfl) ?_
    refine lv_iconst (v := 0) hx hb dJ5_init_18 (by decide) ?_
    refine xx_pi (ci := 14) (k := 1) C B.1 xc_14 hp8 (by decide) (Nat.le_of_ble_eq_true rfl) rfl q543 (fun _ h => h) rfl rfl rfl h dJ5_init_19 (fun gi10 h H locs B2 => ?_)
    have B := And.intro B2 B.2
    refine lv_goto (tgt := 38) hx hb dJ5_init_22 (by decide) ?_
    exact hret (ad2, q1.1, nx + 1, ns + x1.toNatClampNeg, gi10, gr9) _ _ _ _ (Option.some.inj h) B dJ5_init_38
theorem k_J5_init {p : Program} {l : Launch} {e : Env} {R : Room} {s : State} {m : MethodId} {args : Array Value} {below : List Frame} {meth : Method} {c : Code} {H : Heap} {locs : List Loc} {Q : State → Prop} {pc : Nat} {ls : Array Slot} {rest : List Value} {cc : ByteArray} {nL : Nat} {D : va_G} {cA : Nat → ClassId} {a9 : Nat → Nat} {h9 : HK} {n0 m0 cN cS : Nat} {ad : Nat → Nat} {hk : HK} {nx ns : Nat} {A : Nat → Prop} {gi : GI} {gr : GR} {α : Type} {r : α} {own : String} {idx : Nat} {a0 : Nat} {x1 : Int32} {ff : (HK × Nat × Nat × GI × GR) → Option α} (ht : (hk a0).1 = 24) (C : CallFix p m c cc nL s args lw_all own) (B : XBA D cA a9 h9 n0 m0 cN cS ad hk nx ns A s gi gr H locs) (hRr : R.cells = cN - n0 ∧ R.slots = cS - m0) (hq : Cond.methodLink own idx yJ5_init ∈ lw_all) (hF : 2 ≤ R.frames) (hN : 85 ≤ R.locals) (hs : ls.size = nL) (hw : (rest.map fun v => v.category).sum ≤ 8) (h : (g_cc (fun c1 c2 => f_J5_init c1 c2 hk nx ns gi gr a0 x1) (fun q : HK × Nat × Nat × GI × GR => q.2.1) (fun q : HK × Nat × Nat × GI × GR => q.2.2.1) cN cS nx ns).bind ff = some r) (hdg : decode cc pc = .ok (.invokespecial idx, 3)) (kk : ∀ (q : HK × Nat × Nat × GI × GR) (ad' : Nat → Nat), ff q = some r → (∀ i, (hk i).1 < 1000 → ad' i = ad i ∧ q.1 i = hk i) → ∀ (H' : Heap) (locs' : List Loc), XBA D cA a9 h9 n0 m0 cN cS ad' q.1 q.2.1 q.2.2.1 A s q.2.2.2.1 q.2.2.2.2 H' locs' → W p l e R s m args below meth c H' locs' (q.2.1 - n0) (q.2.2.1 - m0) Q (F0 m (pc + 3) ls (rest))) : W p l e R s m args below meth c H locs (nx - n0) (ns - m0) Q (F0 m pc ls (.int x1 :: .ref (ad a0) :: rest)) := by
  obtain ⟨q, h1, h2⟩ := g_ob h
  obtain ⟨h3, c1, c2, c3, c4⟩ := g_cc_of h1
  refine xa_cIV (As := [.int x1]) (rest := rest) (n := 1) (qn := q.2.1) (qs := q.2.2.1) (b := a0) C B hRr (fun sz => w_J5_init l D cA ad _ _ hk nx ns gi gr a0 x1 ht ⟨c1, c3⟩ q h3 sz) hq q530 q152 q531 rfl (by decide +kernel) ⟨c1, c2, c3, c4⟩ (fun u hp => ?_) ⟨hF, hN⟩ rfl hs hw hdg (fun u H9 locs9 hp hae B9 => ?_)
  · have hp := hp
    subst hp
    exact ⟨rfl, rfl⟩
  · have hp := hp
    subst hp
    exact kk _ u.1 h2 hae H9 locs9 B9
def f_J5_ensureCapacityInternal (cN cS : Nat) (hk : HK) (nx ns : Nat) (gi : GI) (gr : GR) (a0 : Nat) (x1 : Int32) : Option (HK × Nat × Nat × GI × GR) :=
  (gr a0 0).bind fun v1 =>
  (g_is hk v1 1).bind fun _ =>
  if (x1 - ((Int32.ofNat (hk v1).2) >>> ((gi a0 1) &&& 31))) ≤ 0 then
  (some (hk, nx, ns, gi, gr))
  else
  ((gr a0 0).bind fun v4 =>
  (f_J5_newCapacity hk gi gr a0 x1).bind fun q6 =>
  (g_cc (fun c1 c2 => f_J11_copyOf c1 c2 hk nx ns gi gr v4 (q6 <<< ((gi a0 1) &&& 31))) (fun q : Nat × HK × Nat × Nat × GI × GR => q.2.2.1) (fun q : Nat × HK × Nat × Nat × GI × GR => q.2.2.2.1) cN cS nx ns).bind fun q7 =>
  (g_ok q7.2.1 q7.1).bind fun _ =>
  (some (g_pr q7.2.2.2.2.2 a0 0 (some q7.1))).bind fun gr11 =>
  some (q7.2.1, q7.2.2.1, q7.2.2.2.1, q7.2.2.2.2.1, gr11))
set_option maxHeartbeats 400000 in
theorem w_J5_ensureCapacityInternal (l : Launch) (D : va_G) (cA : Nat → ClassId) (ad : Nat → Nat) (cN cS : Nat) (hk : HK) (nx ns : Nat) (gi : GI) (gr : GR) (a0 : Nat) (x1 : Int32) (ht : (hk a0).1 = 24) (hcap : nx ≤ cN ∧ ns ≤ cS) (r : HK × Nat × Nat × GI × GR) (h : f_J5_ensureCapacityInternal cN cS hk nx ns gi gr a0 x1 = some r) (sz : Nat) : Met l yJ5_ensureCapacityInternal (ws_ yJ5_ensureCapacityInternal cJ5_ensureCapacityInternal 3 (none)) ({ frames := 4, cells := cN - nx, slots := cS - ns, locals := 134 } : Room) (va_Pc [.ref (ad a0), .int x1] (XPre D cA ad hk nx gi gr sz)) (va_Qv (fun (u : XU) => u.2 = r) (XPostA D cA ad hk nx sz) (XA ad nx sz)) (cN - nx) (cS - ns) (XA ad nx sz) := by
  refine xa_stV (own := RJ5) (P := (fun (u : XU) => u.2 = r)) (by decide +kernel) rfl (Nat.le_of_ble_eq_true rfl) hcap (fun p e s m args below meth c R Q A ls C hmn hF hN hRr B hret hL => ?_) sz
  have hx := C.1
  have hb := C.2.1
  have hL : lv_has ls 3 [(0, .ref (ad a0)), (1, .int x1)] := hL
  unfold f_J5_ensureCapacityInternal at h
  refine lv_aload_n hx hb dJ5_ensureCapacityInternal_0 rfl (lv_at hL 0 rfl) ?_
  refine xx_gr (ci := 14) (k := 0) C B.1 xc_14 ht (by decide) (Nat.le_of_ble_eq_true rfl) rfl q542 (fun _ h => h) h dJ5_ensureCapacityInternal_1 (fun v1 ok2 h => ?_)
  refine xx_is h (fun hp3 h => ?_)
  refine xx_alen C B.1 hp3 (by decide) dJ5_ensureCapacityInternal_4 ?_
  refine lv_aload_n hx hb dJ5_ensureCapacityInternal_5 rfl (lv_at hL 0 rfl) ?_
  refine xx_gi (ci := 14) (k := 1) C B.1 xc_14 ht (by decide) (Nat.le_of_ble_eq_true rfl) rfl q543 (fun _ h => h) dJ5_ensureCapacityInternal_6 ?_
  refine lv_ishr hx hb dJ5_ensureCapacityInternal_9 ?_
  refine lv_istore_n (lv' := [(2, .int ((Int32.ofNat (hk v1).2) >>> ((gi a0 1) &&& 31))), (0, .ref (ad a0)), (1, .int x1)]) hx hb dJ5_ensureCapacityInternal_10 rfl hL (by decide) rfl (fun ls hL => ?_)
  refine lv_iload_n hx hb dJ5_ensureCapacityInternal_11 rfl (lv_at hL 2 rfl) ?_
  refine lv_iload_n hx hb dJ5_ensureCapacityInternal_12 rfl (lv_at hL 0 rfl) ?_
  refine lv_isub hx hb dJ5_ensureCapacityInternal_13 ?_
  refine gg_if_le hx hb 38 h dJ5_ensureCapacityInternal_14 (by decide) (fun h => ?_) (fun h => ?_)
  · exact hret (ad, hk, nx, ns, gi, gr) _ _ _ _ (Option.some.inj h) B dJ5_ensureCapacityInternal_38
  · refine lv_aload_n hx hb dJ5_ensureCapacityInternal_17 rfl (lv_at hL 1 rfl) ?_
    refine lv_aload_n hx hb dJ5_ensureCapacityInternal_18 rfl (lv_at hL 1 rfl) ?_
    refine xx_gr (ci := 14) (k := 0) C B.1 xc_14 ht (by decide) (Nat.le_of_ble_eq_true rfl) rfl q542 (fun _ h => h) h dJ5_ensureCapacityInternal_19 (fun v4 ok5 h => ?_)
    refine lv_aload_n hx hb dJ5_ensureCapacityInternal_22 rfl (lv_at hL 1 rfl) ?_
    refine lv_iload_n hx hb dJ5_ensureCapacityInternal_23 rfl (lv_at hL 2 rfl) ?_
    refine k_J5_newCapacity ht C B.1 q566 (Nat.le_trans (Nat.le_of_ble_eq_true rfl) hF) (Nat.le_trans (Nat.le_of_ble_eq_true rfl) hN) hL.1 (Nat.le_of_ble_eq_true rfl) (xa_z hRr B) h dJ5_ensureCapacityInternal_24 (fun q6 h H locs B2 => ?_)
    have B := And.intro B2 B.2
    refine lv_aload_n hx hb dJ5_ensureCapacityInternal_27 rfl (lv_at hL 1 rfl) ?_
    refine xx_gi (ci := 14) (k := 1) C B.1 xc_14 ht (by decide) (Nat.le_of_ble_eq_true rfl) rfl q543 (fun _ h => h) dJ5_ensureCapacityInternal_28 ?_
    refine lv_ishl hx hb dJ5_ensureCapacityInternal_31 ?_
    refine k_J11_copyOf C B hRr q581 (Nat.le_trans (Nat.le_of_ble_eq_true rfl) hF) (Nat.le_trans (Nat.le_of_ble_eq_true rfl) hN) hL.1 (Nat.le_of_ble_eq_true rfl) h dJ5_ensureCapacityInternal_32 (fun q7 ad8 h hae9 H locs B => ?_)
    rw [← (hae9 a0 (by rw [ht]; decide)).1] at hL
    rw [← (hae9 a0 (by rw [ht]; decide)).1]
    have hp10 : (q7.2.1 a0).1 = 24 := by rw [(hae9 a0 (by rw [ht]; decide)).2]; exact ht
    refine xx_ok h (fun ok12 h => ?_)
    refine xx_pr (ci := 14) (k := 0) C B.1 xc_14 hp10 (by decide) ok12 (Nat.le_of_ble_eq_true rfl) rfl q542 (fun _ h => h) rfl rfl rfl h dJ5_ensureCapacityInternal_35 (fun gr11 h H locs B2 => ?_)
    have B := And.intro B2 B.2
    exact hret (ad8, q7.2.1, q7.2.2.1, q7.2.2.2.1, q7.2.2.2.2.1, gr11) _ _ _ _ (Option.some.inj h) B dJ5_ensureCapacityInternal_38
theorem k_J5_ensureCapacityInternal {p : Program} {l : Launch} {e : Env} {R : Room} {s : State} {m : MethodId} {args : Array Value} {below : List Frame} {meth : Method} {c : Code} {H : Heap} {locs : List Loc} {Q : State → Prop} {pc : Nat} {ls : Array Slot} {rest : List Value} {cc : ByteArray} {nL : Nat} {D : va_G} {cA : Nat → ClassId} {a9 : Nat → Nat} {h9 : HK} {n0 m0 cN cS : Nat} {ad : Nat → Nat} {hk : HK} {nx ns : Nat} {A : Nat → Prop} {gi : GI} {gr : GR} {α : Type} {r : α} {own : String} {idx : Nat} {a0 : Nat} {x1 : Int32} {ff : (HK × Nat × Nat × GI × GR) → Option α} (ht : (hk a0).1 = 24) (C : CallFix p m c cc nL s args lw_all own) (B : XBA D cA a9 h9 n0 m0 cN cS ad hk nx ns A s gi gr H locs) (hRr : R.cells = cN - n0 ∧ R.slots = cS - m0) (hq : Cond.methodLink own idx yJ5_ensureCapacityInternal ∈ lw_all) (hF : 5 ≤ R.frames) (hN : 156 ≤ R.locals) (hs : ls.size = nL) (hw : (rest.map fun v => v.category).sum ≤ 8) (h : (g_cc (fun c1 c2 => f_J5_ensureCapacityInternal c1 c2 hk nx ns gi gr a0 x1) (fun q : HK × Nat × Nat × GI × GR => q.2.1) (fun q : HK × Nat × Nat × GI × GR => q.2.2.1) cN cS nx ns).bind ff = some r) (hdg : decode cc pc = .ok (.invokevirtual idx, 3)) (kk : ∀ (q : HK × Nat × Nat × GI × GR) (ad' : Nat → Nat), ff q = some r → (∀ i, (hk i).1 < 1000 → ad' i = ad i ∧ q.1 i = hk i) → ∀ (H' : Heap) (locs' : List Loc), XBA D cA a9 h9 n0 m0 cN cS ad' q.1 q.2.1 q.2.2.1 A s q.2.2.2.1 q.2.2.2.2 H' locs' → W p l e R s m args below meth c H' locs' (q.2.1 - n0) (q.2.2.1 - m0) Q (F0 m (pc + 3) ls (rest))) : W p l e R s m args below meth c H locs (nx - n0) (ns - m0) Q (F0 m pc ls (.int x1 :: .ref (ad a0) :: rest)) := by
  obtain ⟨q, h1, h2⟩ := g_ob h
  obtain ⟨h3, c1, c2, c3, c4⟩ := g_cc_of h1
  refine xa_cUV (As := [.int x1]) (rest := rest) (n := 1) (qn := q.2.1) (qs := q.2.2.1) xc_14 ht (by decide) C B hRr (fun sz => w_J5_ensureCapacityInternal l D cA ad _ _ hk nx ns gi gr a0 x1 ht ⟨c1, c3⟩ q h3 sz) (g_cwU 1 C.2.2.2.2 hq q2454 (va_tabs rfl rfl (B.1.2.2.2.2.2.2.1.2.2.2 _ (List.mem_of_getElem? (i := 0) rfl)).1) q564 q152 q565 (by decide +kernel) ⟨hF, hN⟩) ⟨c1, c2, c3, c4⟩ (fun u hp => ?_) ⟨hF, hN⟩ rfl hs hw hdg (fun u H9 locs9 hp hae B9 => ?_)
  · have hp := hp
    subst hp
    exact ⟨rfl, rfl⟩
  · have hp := hp
    subst hp
    exact kk _ u.1 h2 hae H9 locs9 B9
def f_J5_append_j56 (cN cS : Nat) (a0 : Nat) (x1j56 : Int32) (hkj56 : HK) (nxj56 : Nat) (nsj56 : Nat) (gij56 : GI) (grj56 : GR) : Option (Nat × HK × Nat × Nat × GI × GR) :=
  (grj56 a0 0).bind fun v9 =>
  (some (g_pi gij56 a0 3 ((gij56 a0 3) + 1))).bind fun gi11 =>
  none
def f_J5_append_j45 (cN cS : Nat) (a0 : Nat) (x1j45 : Int32) (hkj45 : HK) (nxj45 : Nat) (nsj45 : Nat) (gij45 : GI) (grj45 : GR) : Option (Nat × HK × Nat × Nat × GI × GR) :=
  (f_J5_isLatin1 hkj45 gij45 grj45 a0).bind fun q7 =>
  if q7 = 0 then
  (f_J5_append_j56 cN cS a0 x1j45 hkj45 nxj45 nsj45 gij45 grj45)
  else
  (none)
def f_J5_append (cN cS : Nat) (hk : HK) (nx ns : Nat) (gi : GI) (gr : GR) (a0 : Nat) (x1 : Int32) : Option (Nat × HK × Nat × Nat × GI × GR) :=
  (g_cc (fun c1 c2 => f_J5_ensureCapacityInternal c1 c2 hk nx ns gi gr a0 ((gi a0 3) + 1)) (fun q : HK × Nat × Nat × GI × GR => q.2.1) (fun q : HK × Nat × Nat × GI × GR => q.2.2.1) cN cS nx ns).bind fun q1 =>
  (f_J5_isLatin1 q1.1 q1.2.2.2.1 q1.2.2.2.2 a0).bind fun q5 =>
  if q5 = 0 then
  (f_J5_append_j45 cN cS a0 x1 q1.1 q1.2.1 q1.2.2.1 q1.2.2.2.1 q1.2.2.2.2)
  else
  ((f_J12_canEncode q1.1 q1.2.2.2.1 q1.2.2.2.2 x1).bind fun q12 =>
  if q12 = 0 then
  (f_J5_append_j45 cN cS a0 x1 q1.1 q1.2.1 q1.2.2.1 q1.2.2.2.1 q1.2.2.2.2)
  else
  ((q1.2.2.2.2 a0 0).bind fun v13 =>
  (some (g_pi q1.2.2.2.1 a0 3 ((q1.2.2.2.1 a0 3) + 1))).bind fun gi15 =>
  (g_is q1.1 v13 1).bind fun _ =>
  (g_st gi15 v13 (q1.1 v13).2 (q1.2.2.2.1 a0 3) (vp_nar .byte x1.toInt8.toInt32)).bind fun gi17 =>
  some (a0, q1.1, q1.2.1, q1.2.2.1, gi17, q1.2.2.2.2)))
set_option maxHeartbeats 400000 in
theorem w_J5_append (l : Launch) (D : va_G) (cA : Nat → ClassId) (ad : Nat → Nat) (cN cS : Nat) (hk : HK) (nx ns : Nat) (gi : GI) (gr : GR) (a0 : Nat) (x1 : Int32) (ht : (hk a0).1 = 24) (hcap : nx ≤ cN ∧ ns ≤ cS) (r : Nat × HK × Nat × Nat × GI × GR) (h : f_J5_append cN cS hk nx ns gi gr a0 x1 = some r) (sz : Nat) : Met l yJ5_append (ws_ yJ5_append cJ5_append 2 (some (.object "java/lang/AbstractStringBuilder"))) ({ frames := 5, cells := cN - nx, slots := cS - ns, locals := 156 } : Room) (va_Pc [.ref (ad a0), .int x1] (XPre D cA ad hk nx gi gr sz)) (va_Qq (fun o u => ∃ v : Option Nat, o = v.map u.1 ∧ (fun (v : Option Nat) (u : XU) => ∃ v9, v = some v9 ∧ (v9, u.2) = r) v u) (XPostA D cA ad hk nx sz) (XA ad nx sz)) (cN - nx) (cS - ns) (XA ad nx sz) := by
  refine xa_stR (Or.inl ⟨_, rfl⟩) (own := RJ5) (P := (fun (v : Option Nat) (u : XU) => ∃ v9, v = some v9 ∧ (v9, u.2) = r)) (by decide +kernel) rfl (Nat.le_of_ble_eq_true rfl) hcap (fun p e s m args below meth c R Q A ls C hmn hF hN hRr B hret hL => ?_) sz
  have hx := C.1
  have hb := C.2.1
  have hL : lv_has ls 2 [(0, .ref (ad a0)), (1, .int x1)] := hL
  unfold f_J5_append at h
  have hj56 : ∀ (hkj56 : HK) (nxj56 : Nat) (nsj56 : Nat) (gij56 : GI) (grj56 : GR) (adj56 : Nat → Nat) (H : Heap) (locs : List Loc) (ls : Array Slot), f_J5_append_j56 cN cS a0 x1 hkj56 nxj56 nsj56 gij56 grj56 = some r → XBA D cA ad hk nx ns cN cS adj56 hkj56 nxj56 nsj56 A s gij56 grj56 H locs → lv_has ls 2 [(0, .ref (adj56 a0)), (1, .int x1)] → W p l e R s m args below meth c H locs (nxj56 - nx) (nsj56 - ns) Q (F0 m 56 ls []) := by
    intro hkj56 nxj56 nsj56 gij56 grj56 adj56 H locs ls h B hL
    unfold f_J5_append_j56 at h
    have ht8 : (hkj56 a0).1 = 24 := by rw [(B.2.1 a0 (by rw [ht]; decide)).2]; exact ht
    refine lv_aload_n hx hb dJ5_append_56 rfl (lv_at hL 0 rfl) ?_
    refine xx_gr (ci := 14) (k := 0) C B.1 xc_14 ht8 (by decide) (Nat.le_of_ble_eq_true rfl) rfl q542 (fun _ h => h) h dJ5_append_57 (fun v9 ok10 h => ?_)
    refine lv_aload_n hx hb dJ5_append_60 rfl (lv_at hL 0 rfl) ?_
    refine lv_dup hx hb dJ5_append_61 rfl ?_
    refine xx_gi (ci := 14) (k := 3) C B.1 xc_14 ht8 (by decide) (Nat.le_of_ble_eq_true rfl) rfl q545 (fun _ h => h) dJ5_append_62 ?_
    refine lv_dup_x1 hx hb dJ5_append_65 rfl rfl ?_
    refine lv_iconst (v := 1) hx hb dJ5_append_66 (by decide) ?_
    refine lv_iadd hx hb dJ5_append_67 ?_
    refine xx_pi (ci := 14) (k := 3) C B.1 xc_14 ht8 (by decide) (Nat.le_of_ble_eq_true rfl) rfl q545 (fun _ h => h) rfl rfl rfl h dJ5_append_68 (fun gi11 h H locs B2 => ?_)
    have B := And.intro B2 B.2
    refine lv_iload_n hx hb dJ5_append_71 rfl (lv_at hL 1 rfl) ?_
    cases h
  have hj45 : ∀ (hkj45 : HK) (nxj45 : Nat) (nsj45 : Nat) (gij45 : GI) (grj45 : GR) (adj45 : Nat → Nat) (H : Heap) (locs : List Loc) (ls : Array Slot), f_J5_append_j45 cN cS a0 x1 hkj45 nxj45 nsj45 gij45 grj45 = some r → XBA D cA ad hk nx ns cN cS adj45 hkj45 nxj45 nsj45 A s gij45 grj45 H locs → lv_has ls 2 [(0, .ref (adj45 a0)), (1, .int x1)] → W p l e R s m args below meth c H locs (nxj45 - nx) (nsj45 - ns) Q (F0 m 45 ls []) := by
    intro hkj45 nxj45 nsj45 gij45 grj45 adj45 H locs ls h B hL
    unfold f_J5_append_j45 at h
    have ht6 : (hkj45 a0).1 = 24 := by rw [(B.2.1 a0 (by rw [ht]; decide)).2]; exact ht
    refine lv_aload_n hx hb dJ5_append_45 rfl (lv_at hL 0 rfl) ?_
    refine k_J5_isLatin1 ht6 C B.1 q597 (Nat.le_trans (Nat.le_of_ble_eq_true rfl) hF) (Nat.le_trans (Nat.le_of_ble_eq_true rfl) hN) hL.1 (Nat.le_of_ble_eq_true rfl) (xa_z hRr B) h dJ5_append_46 (fun q7 h H locs B2 => ?_)
    have B := And.intro B2 B.2
    refine gg_if_eq hx hb 56 h dJ5_append_49 (by decide) (fun h => ?_) (fun h => ?_)
    · exact hj56 _ _ _ _ _ _ _ _ _ h B (lv_sub hL [0, 1] rfl)
    · refine lv_aload_n hx hb dJ5_append_52 rfl (lv_at hL 0 rfl) ?_
      cases h
  refine lv_aload_n hx hb dJ5_append_0 rfl (lv_at hL 0 rfl) ?_
  refine lv_aload_n hx hb dJ5_append_1 rfl (lv_at hL 0 rfl) ?_
  refine xx_gi (ci := 14) (k := 3) C B.1 xc_14 ht (by decide) (Nat.le_of_ble_eq_true rfl) rfl q545 (fun _ h => h) dJ5_append_2 ?_
  refine lv_iconst (v := 1) hx hb dJ5_append_5 (by decide) ?_
  refine lv_iadd hx hb dJ5_append_6 ?_
  refine k_J5_ensureCapacityInternal ht C B hRr q562 (Nat.le_trans (Nat.le_of_ble_eq_true rfl) hF) (Nat.le_trans (Nat.le_of_ble_eq_true rfl) hN) hL.1 (Nat.le_of_ble_eq_true rfl) h dJ5_append_7 (fun q1 ad2 h hae3 H locs B => ?_)
  rw [← (hae3 a0 (by rw [ht]; decide)).1] at hL
  have hp4 : (q1.1 a0).1 = 24 := by rw [(hae3 a0 (by rw [ht]; decide)).2]; exact ht
  refine lv_aload_n hx hb dJ5_append_10 rfl (lv_at hL 0 rfl) ?_
  refine k_J5_isLatin1 hp4 C B.1 q597 (Nat.le_trans (Nat.le_of_ble_eq_true rfl) hF) (Nat.le_trans (Nat.le_of_ble_eq_true rfl) hN) hL.1 (Nat.le_of_ble_eq_true rfl) (xa_z hRr B) h dJ5_append_11 (fun q5 h H locs B2 => ?_)
  have B := And.intro B2 B.2
  refine gg_if_eq hx hb 45 h dJ5_append_14 (by decide) (fun h => ?_) (fun h => ?_)
  · exact hj45 _ _ _ _ _ _ _ _ _ h B (lv_sub hL [0, 1] rfl)
  · refine lv_iload_n hx hb dJ5_append_17 rfl (lv_at hL 1 rfl) ?_
    refine k_J12_canEncode C B.1 q602 (Nat.le_trans (Nat.le_of_ble_eq_true rfl) hF) (Nat.le_trans (Nat.le_of_ble_eq_true rfl) hN) hL.1 (Nat.le_of_ble_eq_true rfl) (xa_z hRr B) h dJ5_append_18 (fun q12 h H locs B2 => ?_)
    have B := And.intro B2 B.2
    refine gg_if_eq hx hb 45 h dJ5_append_21 (by decide) (fun h => ?_) (fun h => ?_)
    · exact hj45 _ _ _ _ _ _ _ _ _ h B (lv_sub hL [0, 1] rfl)
    · refine lv_aload_n hx hb dJ5_append_24 rfl (lv_at hL 0 rfl) ?_
      refine xx_gr (ci := 14) (k := 0) C B.1 xc_14 hp4 (by decide) (Nat.le_of_ble_eq_true rfl) rfl q542 (fun _ h => h) h dJ5_append_25 (fun v13 ok14 h => ?_)
      refine lv_aload_n hx hb dJ5_append_28 rfl (lv_at hL 0 rfl) ?_
      refine lv_dup hx hb dJ5_append_29 rfl ?_
      refine xx_gi (ci := 14) (k := 3) C B.1 xc_14 hp4 (by decide) (Nat.le_of_ble_eq_true rfl) rfl q545 (fun _ h => h) dJ5_append_30 ?_
      refine lv_dup_x1 hx hb dJ5_append_33 rfl rfl ?_
      refine lv_iconst (v := 1) hx hb dJ5_append_34 (by decide) ?_
      refine lv_iadd hx hb dJ5_append_35 ?_
      refine xx_pi (ci := 14) (k := 3) C B.1 xc_14 hp4 (by decide) (Nat.le_of_ble_eq_true rfl) rfl q545 (fun _ h => h) rfl rfl rfl h dJ5_append_36 (fun gi15 h H locs B2 => ?_)
      have B := And.intro B2 B.2
      refine lv_iload_n hx hb dJ5_append_39 rfl (lv_at hL 1 rfl) ?_
      refine lv_i2b hx hb dJ5_append_40 rfl ?_
      refine xx_is h (fun hp16 h => ?_)
      refine xx_bast C B.1 hp16 h dJ5_append_41 (fun gi17 h H locs B2 => ?_)
      have B := And.intro B2 B.2
      refine lv_goto (tgt := 75) hx hb dJ5_append_42 (by decide) ?_
      refine lv_aload_n hx hb dJ5_append_75 rfl (lv_at hL 0 rfl) ?_
      exact hret (some a0) (ad2, q1.1, q1.2.1, q1.2.2.1, gi17, q1.2.2.2.2) _ _ _ _ ⟨_, rfl, Option.some.inj h⟩ B dJ5_append_76
theorem kS_J5_append {p : Program} {l : Launch} {e : Env} {R : Room} {s : State} {m : MethodId} {args : Array Value} {below : List Frame} {meth : Method} {c : Code} {H : Heap} {locs : List Loc} {Q : State → Prop} {pc : Nat} {ls : Array Slot} {rest : List Value} {cc : ByteArray} {nL : Nat} {D : va_G} {cA : Nat → ClassId} {a9 : Nat → Nat} {h9 : HK} {n0 m0 cN cS : Nat} {ad : Nat → Nat} {hk : HK} {nx ns : Nat} {A : Nat → Prop} {gi : GI} {gr : GR} {α : Type} {r : α}  {idx : Nat} {a0 : Nat} {x1 : Int32} {ff : (Nat × HK × Nat × Nat × GI × GR) → Option α} (ht : (hk a0).1 = 24) (C : CallFix p m c cc nL s args lw_all "java/lang/StringBuilder") (B : XBA D cA a9 h9 n0 m0 cN cS ad hk nx ns A s gi gr H locs) (hRr : R.cells = cN - n0 ∧ R.slots = cS - m0) (hq : Cond.methodLink "java/lang/StringBuilder" idx yJ5_append ∈ lw_all) (hF : 6 ≤ R.frames) (hN : 177 ≤ R.locals) (hs : ls.size = nL) (hw : (rest.map fun v => v.category).sum ≤ 8) (h : (g_cc (fun c1 c2 => f_J5_append c1 c2 hk nx ns gi gr a0 x1) (fun q : Nat × HK × Nat × Nat × GI × GR => q.2.2.1) (fun q : Nat × HK × Nat × Nat × GI × GR => q.2.2.2.1) cN cS nx ns).bind ff = some r) (hdg : decode cc pc = .ok (.invokespecial idx, 3)) (kk : ∀ (q : Nat × HK × Nat × Nat × GI × GR) (ad' : Nat → Nat), ff q = some r → (∀ i, (hk i).1 < 1000 → ad' i = ad i ∧ q.2.1 i = hk i) → ∀ (H' : Heap) (locs' : List Loc), XBA D cA a9 h9 n0 m0 cN cS ad' q.2.1 q.2.2.1 q.2.2.2.1 A s q.2.2.2.2.1 q.2.2.2.2.2 H' locs' → W p l e R s m args below meth c H' locs' (q.2.2.1 - n0) (q.2.2.2.1 - m0) Q (F0 m (pc + 3) ls (.ref (ad' q.1) :: rest))) : W p l e R s m args below meth c H locs (nx - n0) (ns - m0) Q (F0 m pc ls (.int x1 :: .ref (ad a0) :: rest)) := by
  obtain ⟨q, h1, h2⟩ := g_ob h
  obtain ⟨h3, c1, c2, c3, c4⟩ := g_cc_of h1
  refine xa_cSUR (As := [.int x1]) (rest := rest) (n := 1) (qn := q.2.2.1) (qs := q.2.2.2.1) xc_14 ht (by decide) C B hRr (fun sz => w_J5_append l D cA ad _ _ hk nx ns gi gr a0 x1 ht ⟨c1, c3⟩ q h3 sz) (g_cwSU 1 C.2.2.2.2 hq q2453 q554 q560 q152 q561 (by decide +kernel) ⟨hF, hN⟩) ⟨c1, c2, c3, c4⟩ (fun v u hp => ?_) ⟨hF, hN⟩ rfl hs hw hdg (fun v u H9 locs9 hp hae B9 => ?_)
  · obtain ⟨v9, rfl, rfl⟩ := hp
    exact ⟨rfl, rfl⟩
  · obtain ⟨v9, rfl, rfl⟩ := hp
    exact kk _ u.1 h2 hae H9 locs9 B9
def f_J5_getValue (cN cS : Nat) (hk : HK) (nx ns : Nat) (gi : GI) (gr : GR) (a0 : Nat) : Option (Nat × HK × Nat × Nat × GI × GR) :=
  (gr a0 0).bind fun v1 =>
  some (v1, hk, nx, ns, gi, gr)
set_option maxHeartbeats 400000 in
theorem w_J5_getValue (l : Launch) (D : va_G) (cA : Nat → ClassId) (ad : Nat → Nat) (cN cS : Nat) (hk : HK) (nx ns : Nat) (gi : GI) (gr : GR) (a0 : Nat) (ht : (hk a0).1 = 24) (hcap : nx ≤ cN ∧ ns ≤ cS) (r : Nat × HK × Nat × Nat × GI × GR) (h : f_J5_getValue cN cS hk nx ns gi gr a0 = some r) (sz : Nat) : Met l yJ5_getValue (ws_ yJ5_getValue cJ5_getValue 1 (some (.array .byte))) ({ frames := 1, cells := cN - nx, slots := cS - ns, locals := 64 } : Room) (va_Pc [.ref (ad a0)] (XPre D cA ad hk nx gi gr sz)) (va_Qq (fun o u => ∃ v : Option Nat, o = v.map u.1 ∧ (fun (v : Option Nat) (u : XU) => ∃ v9, v = some v9 ∧ (v9, u.2) = r) v u) (XPostA D cA ad hk nx sz) (XA ad nx sz)) (cN - nx) (cS - ns) (XA ad nx sz) := by
  refine xa_stR (Or.inr ⟨_, rfl⟩) (own := RJ5) (P := (fun (v : Option Nat) (u : XU) => ∃ v9, v = some v9 ∧ (v9, u.2) = r)) (by decide +kernel) rfl (Nat.le_of_ble_eq_true rfl) hcap (fun p e s m args below meth c R Q A ls C hmn hF hN hRr B hret hL => ?_) sz
  have hx := C.1
  have hb := C.2.1
  have hL : lv_has ls 1 [(0, .ref (ad a0))] := hL
  unfold f_J5_getValue at h
  refine lv_aload_n hx hb dJ5_getValue_0 rfl (lv_at hL 0 rfl) ?_
  refine xx_gr (ci := 14) (k := 0) C B.1 xc_14 ht (by decide) (Nat.le_of_ble_eq_true rfl) rfl q542 (fun _ h => h) h dJ5_getValue_1 (fun v1 ok2 h => ?_)
  exact hret (some v1) (ad, hk, nx, ns, gi, gr) _ _ _ _ ⟨_, rfl, Option.some.inj h⟩ B dJ5_getValue_4
theorem k_J5_getValue {p : Program} {l : Launch} {e : Env} {R : Room} {s : State} {m : MethodId} {args : Array Value} {below : List Frame} {meth : Method} {c : Code} {H : Heap} {locs : List Loc} {Q : State → Prop} {pc : Nat} {ls : Array Slot} {rest : List Value} {cc : ByteArray} {nL : Nat} {D : va_G} {cA : Nat → ClassId} {a9 : Nat → Nat} {h9 : HK} {n0 m0 cN cS : Nat} {ad : Nat → Nat} {hk : HK} {nx ns : Nat} {A : Nat → Prop} {gi : GI} {gr : GR} {α : Type} {r : α} {own : String} {idx : Nat} {a0 : Nat} {ff : (Nat × HK × Nat × Nat × GI × GR) → Option α} (ht : (hk a0).1 = 24) (C : CallFix p m c cc nL s args lw_all own) (B : XBA D cA a9 h9 n0 m0 cN cS ad hk nx ns A s gi gr H locs) (hRr : R.cells = cN - n0 ∧ R.slots = cS - m0) (hq : Cond.methodLink own idx yJ5_getValue ∈ lw_all) (hF : 2 ≤ R.frames) (hN : 84 ≤ R.locals) (hs : ls.size = nL) (hw : (rest.map fun v => v.category).sum ≤ 8) (h : (g_cc (fun c1 c2 => f_J5_getValue c1 c2 hk nx ns gi gr a0) (fun q : Nat × HK × Nat × Nat × GI × GR => q.2.2.1) (fun q : Nat × HK × Nat × Nat × GI × GR => q.2.2.2.1) cN cS nx ns).bind ff = some r) (hdg : decode cc pc = .ok (.invokevirtual idx, 3)) (kk : ∀ (q : Nat × HK × Nat × Nat × GI × GR) (ad' : Nat → Nat), ff q = some r → (∀ i, (hk i).1 < 1000 → ad' i = ad i ∧ q.2.1 i = hk i) → ∀ (H' : Heap) (locs' : List Loc), XBA D cA a9 h9 n0 m0 cN cS ad' q.2.1 q.2.2.1 q.2.2.2.1 A s q.2.2.2.2.1 q.2.2.2.2.2 H' locs' → W p l e R s m args below meth c H' locs' (q.2.2.1 - n0) (q.2.2.2.1 - m0) Q (F0 m (pc + 3) ls (.ref (ad' q.1) :: rest))) : W p l e R s m args below meth c H locs (nx - n0) (ns - m0) Q (F0 m pc ls (.ref (ad a0) :: rest)) := by
  obtain ⟨q, h1, h2⟩ := g_ob h
  obtain ⟨h3, c1, c2, c3, c4⟩ := g_cc_of h1
  refine xa_cUR (As := []) (rest := rest) (n := 0) (qn := q.2.2.1) (qs := q.2.2.2.1) xc_14 ht (by decide) C B hRr (fun sz => w_J5_getValue l D cA ad _ _ hk nx ns gi gr a0 ht ⟨c1, c3⟩ q h3 sz) (g_cwU 0 C.2.2.2.2 hq q663 (C.2.2.2.2 _ q664) q662 q152 q665 (by decide +kernel) ⟨hF, hN⟩) ⟨c1, c2, c3, c4⟩ (fun v u hp => ?_) ⟨hF, hN⟩ rfl hs hw hdg (fun v u H9 locs9 hp hae B9 => ?_)
  · obtain ⟨v9, rfl, rfl⟩ := hp
    exact ⟨rfl, rfl⟩
  · obtain ⟨v9, rfl, rfl⟩ := hp
    exact kk _ u.1 h2 hae H9 locs9 B9
def f_J6_init (cN cS : Nat) (hk : HK) (nx ns : Nat) (gi : GI) (gr : GR) (a0 : Nat) (x1 : Int32) : Option (HK × Nat × Nat × GI × GR) :=
  (g_cc (fun c1 c2 => f_J5_init c1 c2 hk nx ns gi gr a0 x1) (fun q : HK × Nat × Nat × GI × GR => q.2.1) (fun q : HK × Nat × Nat × GI × GR => q.2.2.1) cN cS nx ns).bind fun q1 =>
  some (q1.1, q1.2.1, q1.2.2.1, q1.2.2.2.1, q1.2.2.2.2)
set_option maxHeartbeats 400000 in
theorem w_J6_init (l : Launch) (D : va_G) (cA : Nat → ClassId) (ad : Nat → Nat) (cN cS : Nat) (hk : HK) (nx ns : Nat) (gi : GI) (gr : GR) (a0 : Nat) (x1 : Int32) (ht : (hk a0).1 = 24) (hcap : nx ≤ cN ∧ ns ≤ cS) (r : HK × Nat × Nat × GI × GR) (h : f_J6_init cN cS hk nx ns gi gr a0 x1 = some r) (sz : Nat) : Met l yJ6_init (ws_ yJ6_init cJ6_init 2 (none)) ({ frames := 2, cells := cN - nx, slots := cS - ns, locals := 85 } : Room) (va_Pc [.ref (ad a0), .int x1] (XPre D cA ad hk nx gi gr sz)) (va_Qv (fun (u : XU) => u.2 = r) (XPostA D cA ad hk nx sz) (XA ad nx sz)) (cN - nx) (cS - ns) (XA ad nx sz) := by
  refine xa_stV (own := RJ6) (P := (fun (u : XU) => u.2 = r)) (by decide +kernel) rfl (Nat.le_of_ble_eq_true rfl) hcap (fun p e s m args below meth c R Q A ls C hmn hF hN hRr B hret hL => ?_) sz
  have hx := C.1
  have hb := C.2.1
  have hL : lv_has ls 2 [(0, .ref (ad a0)), (1, .int x1)] := hL
  unfold f_J6_init at h
  refine lv_aload_n hx hb dJ6_init_0 rfl (lv_at hL 0 rfl) ?_
  refine lv_iload_n hx hb dJ6_init_1 rfl (lv_at hL 1 rfl) ?_
  refine k_J5_init ht C B hRr q529 (Nat.le_trans (Nat.le_of_ble_eq_true rfl) hF) (Nat.le_trans (Nat.le_of_ble_eq_true rfl) hN) hL.1 (Nat.le_of_ble_eq_true rfl) h dJ6_init_2 (fun q1 ad2 h hae3 H locs B => ?_)
  rw [← (hae3 a0 (by rw [ht]; decide)).1] at hL
  have hp4 : (q1.1 a0).1 = 24 := by rw [(hae3 a0 (by rw [ht]; decide)).2]; exact ht
  exact hret (ad2, q1.1, q1.2.1, q1.2.2.1, q1.2.2.2.1, q1.2.2.2.2) _ _ _ _ (Option.some.inj h) B dJ6_init_5
theorem k_J6_init {p : Program} {l : Launch} {e : Env} {R : Room} {s : State} {m : MethodId} {args : Array Value} {below : List Frame} {meth : Method} {c : Code} {H : Heap} {locs : List Loc} {Q : State → Prop} {pc : Nat} {ls : Array Slot} {rest : List Value} {cc : ByteArray} {nL : Nat} {D : va_G} {cA : Nat → ClassId} {a9 : Nat → Nat} {h9 : HK} {n0 m0 cN cS : Nat} {ad : Nat → Nat} {hk : HK} {nx ns : Nat} {A : Nat → Prop} {gi : GI} {gr : GR} {α : Type} {r : α} {own : String} {idx : Nat} {a0 : Nat} {x1 : Int32} {ff : (HK × Nat × Nat × GI × GR) → Option α} (ht : (hk a0).1 = 24) (C : CallFix p m c cc nL s args lw_all own) (B : XBA D cA a9 h9 n0 m0 cN cS ad hk nx ns A s gi gr H locs) (hRr : R.cells = cN - n0 ∧ R.slots = cS - m0) (hq : Cond.methodLink own idx yJ6_init ∈ lw_all) (hF : 3 ≤ R.frames) (hN : 106 ≤ R.locals) (hs : ls.size = nL) (hw : (rest.map fun v => v.category).sum ≤ 8) (h : (g_cc (fun c1 c2 => f_J6_init c1 c2 hk nx ns gi gr a0 x1) (fun q : HK × Nat × Nat × GI × GR => q.2.1) (fun q : HK × Nat × Nat × GI × GR => q.2.2.1) cN cS nx ns).bind ff = some r) (hdg : decode cc pc = .ok (.invokespecial idx, 3)) (kk : ∀ (q : HK × Nat × Nat × GI × GR) (ad' : Nat → Nat), ff q = some r → (∀ i, (hk i).1 < 1000 → ad' i = ad i ∧ q.1 i = hk i) → ∀ (H' : Heap) (locs' : List Loc), XBA D cA a9 h9 n0 m0 cN cS ad' q.1 q.2.1 q.2.2.1 A s q.2.2.2.1 q.2.2.2.2 H' locs' → W p l e R s m args below meth c H' locs' (q.2.1 - n0) (q.2.2.1 - m0) Q (F0 m (pc + 3) ls (rest))) : W p l e R s m args below meth c H locs (nx - n0) (ns - m0) Q (F0 m pc ls (.int x1 :: .ref (ad a0) :: rest)) := by
  obtain ⟨q, h1, h2⟩ := g_ob h
  obtain ⟨h3, c1, c2, c3, c4⟩ := g_cc_of h1
  refine xa_cIV (As := [.int x1]) (rest := rest) (n := 1) (qn := q.2.1) (qs := q.2.2.1) (b := a0) C B hRr (fun sz => w_J6_init l D cA ad _ _ hk nx ns gi gr a0 x1 ht ⟨c1, c3⟩ q h3 sz) hq q527 q153 q528 rfl (by decide +kernel) ⟨c1, c2, c3, c4⟩ (fun u hp => ?_) ⟨hF, hN⟩ rfl hs hw hdg (fun u H9 locs9 hp hae B9 => ?_)
  · have hp := hp
    subst hp
    exact ⟨rfl, rfl⟩
  · have hp := hp
    subst hp
    exact kk _ u.1 h2 hae H9 locs9 B9
def f_J6_append (cN cS : Nat) (hk : HK) (nx ns : Nat) (gi : GI) (gr : GR) (a0 : Nat) (x1 : Int32) : Option (Nat × HK × Nat × Nat × GI × GR) :=
  (g_cc (fun c1 c2 => f_J5_append c1 c2 hk nx ns gi gr a0 x1) (fun q : Nat × HK × Nat × Nat × GI × GR => q.2.2.1) (fun q : Nat × HK × Nat × Nat × GI × GR => q.2.2.2.1) cN cS nx ns).bind fun q1 =>
  some (a0, q1.2.1, q1.2.2.1, q1.2.2.2.1, q1.2.2.2.2.1, q1.2.2.2.2.2)
set_option maxHeartbeats 400000 in
theorem w_J6_append (l : Launch) (D : va_G) (cA : Nat → ClassId) (ad : Nat → Nat) (cN cS : Nat) (hk : HK) (nx ns : Nat) (gi : GI) (gr : GR) (a0 : Nat) (x1 : Int32) (ht : (hk a0).1 = 24) (hcap : nx ≤ cN ∧ ns ≤ cS) (r : Nat × HK × Nat × Nat × GI × GR) (h : f_J6_append cN cS hk nx ns gi gr a0 x1 = some r) (sz : Nat) : Met l yJ6_append (ws_ yJ6_append cJ6_append 2 (some (.object "java/lang/StringBuilder"))) ({ frames := 6, cells := cN - nx, slots := cS - ns, locals := 177 } : Room) (va_Pc [.ref (ad a0), .int x1] (XPre D cA ad hk nx gi gr sz)) (va_Qq (fun o u => ∃ v : Option Nat, o = v.map u.1 ∧ (fun (v : Option Nat) (u : XU) => ∃ v9, v = some v9 ∧ (v9, u.2) = r) v u) (XPostA D cA ad hk nx sz) (XA ad nx sz)) (cN - nx) (cS - ns) (XA ad nx sz) := by
  refine xa_stR (Or.inl ⟨_, rfl⟩) (own := RJ6) (P := (fun (v : Option Nat) (u : XU) => ∃ v9, v = some v9 ∧ (v9, u.2) = r)) (by decide +kernel) rfl (Nat.le_of_ble_eq_true rfl) hcap (fun p e s m args below meth c R Q A ls C hmn hF hN hRr B hret hL => ?_) sz
  have hx := C.1
  have hb := C.2.1
  have hL : lv_has ls 2 [(0, .ref (ad a0)), (1, .int x1)] := hL
  unfold f_J6_append at h
  refine lv_aload_n hx hb dJ6_append_0 rfl (lv_at hL 0 rfl) ?_
  refine lv_iload_n hx hb dJ6_append_1 rfl (lv_at hL 1 rfl) ?_
  refine kS_J5_append ht C B hRr q559 (Nat.le_trans (Nat.le_of_ble_eq_true rfl) hF) (Nat.le_trans (Nat.le_of_ble_eq_true rfl) hN) hL.1 (Nat.le_of_ble_eq_true rfl) h dJ6_append_2 (fun q1 ad2 h hae3 H locs B => ?_)
  rw [← (hae3 a0 (by rw [ht]; decide)).1] at hL
  have hp4 : (q1.2.1 a0).1 = 24 := by rw [(hae3 a0 (by rw [ht]; decide)).2]; exact ht
  refine lv_pop hx hb dJ6_append_5 rfl ?_
  refine lv_aload_n hx hb dJ6_append_6 rfl (lv_at hL 0 rfl) ?_
  exact hret (some a0) (ad2, q1.2.1, q1.2.2.1, q1.2.2.2.1, q1.2.2.2.2.1, q1.2.2.2.2.2) _ _ _ _ ⟨_, rfl, Option.some.inj h⟩ B dJ6_append_7
theorem k_J6_append {p : Program} {l : Launch} {e : Env} {R : Room} {s : State} {m : MethodId} {args : Array Value} {below : List Frame} {meth : Method} {c : Code} {H : Heap} {locs : List Loc} {Q : State → Prop} {pc : Nat} {ls : Array Slot} {rest : List Value} {cc : ByteArray} {nL : Nat} {D : va_G} {cA : Nat → ClassId} {a9 : Nat → Nat} {h9 : HK} {n0 m0 cN cS : Nat} {ad : Nat → Nat} {hk : HK} {nx ns : Nat} {A : Nat → Prop} {gi : GI} {gr : GR} {α : Type} {r : α} {own : String} {idx : Nat} {a0 : Nat} {x1 : Int32} {ff : (Nat × HK × Nat × Nat × GI × GR) → Option α} (ht : (hk a0).1 = 24) (C : CallFix p m c cc nL s args lw_all own) (B : XBA D cA a9 h9 n0 m0 cN cS ad hk nx ns A s gi gr H locs) (hRr : R.cells = cN - n0 ∧ R.slots = cS - m0) (hq : Cond.methodLink own idx yJ6_append ∈ lw_all) (hF : 7 ≤ R.frames) (hN : 198 ≤ R.locals) (hs : ls.size = nL) (hw : (rest.map fun v => v.category).sum ≤ 8) (h : (g_cc (fun c1 c2 => f_J6_append c1 c2 hk nx ns gi gr a0 x1) (fun q : Nat × HK × Nat × Nat × GI × GR => q.2.2.1) (fun q : Nat × HK × Nat × Nat × GI × GR => q.2.2.2.1) cN cS nx ns).bind ff = some r) (hdg : decode cc pc = .ok (.invokevirtual idx, 3)) (kk : ∀ (q : Nat × HK × Nat × Nat × GI × GR) (ad' : Nat → Nat), ff q = some r → (∀ i, (hk i).1 < 1000 → ad' i = ad i ∧ q.2.1 i = hk i) → ∀ (H' : Heap) (locs' : List Loc), XBA D cA a9 h9 n0 m0 cN cS ad' q.2.1 q.2.2.1 q.2.2.2.1 A s q.2.2.2.2.1 q.2.2.2.2.2 H' locs' → W p l e R s m args below meth c H' locs' (q.2.2.1 - n0) (q.2.2.2.1 - m0) Q (F0 m (pc + 3) ls (.ref (ad' q.1) :: rest))) : W p l e R s m args below meth c H locs (nx - n0) (ns - m0) Q (F0 m pc ls (.int x1 :: .ref (ad a0) :: rest)) := by
  obtain ⟨q, h1, h2⟩ := g_ob h
  obtain ⟨h3, c1, c2, c3, c4⟩ := g_cc_of h1
  refine xa_cVR (As := [.int x1]) (rest := rest) (n := 1) (qn := q.2.2.1) (qs := q.2.2.2.1) xc_14 ht (by decide) C B hRr (fun sz => w_J6_append l D cA ad _ _ hk nx ns gi gr a0 x1 ht ⟨c1, c3⟩ q h3 sz) hq q556 q557 q153 q558 (by decide +kernel) ⟨c1, c2, c3, c4⟩ (fun v u hp => ?_) ⟨hF, hN⟩ rfl hs hw hdg (fun v u H9 locs9 hp hae B9 => ?_)
  · obtain ⟨v9, rfl, rfl⟩ := hp
    exact ⟨rfl, rfl⟩
  · obtain ⟨v9, rfl, rfl⟩ := hp
    exact kk _ u.1 h2 hae H9 locs9 B9
def f_J7_init_2_j79 (cN cS : Nat) (a0 : Nat) (hkj79 : HK) (nxj79 : Nat) (nsj79 : Nat) (gij79 : GI) (grj79 : GR) (a3j79 : Nat) (x4j79 : Int32) : Option (HK × Nat × Nat × GI × GR) :=
  (some (g_pi gij79 a0 1 1)).bind fun gi10 =>
  (g_ok hkj79 a3j79).bind fun _ =>
  (g_cc (fun c1 c2 => f_J11_copyOfRange c1 c2 hkj79 nxj79 nsj79 gi10 grj79 a3j79 0 (x4j79 <<< (1 &&& 31))) (fun q : Nat × HK × Nat × Nat × GI × GR => q.2.2.1) (fun q : Nat × HK × Nat × Nat × GI × GR => q.2.2.2.1) cN cS nxj79 nsj79).bind fun q12 =>
  (g_ok q12.2.1 q12.1).bind fun _ =>
  (some (g_pr q12.2.2.2.2.2 a0 0 (some q12.1))).bind fun gr17 =>
  some (q12.2.1, q12.2.2.1, q12.2.2.2.1, q12.2.2.2.2.1, gr17)
def f_J7_init_2 (cN cS : Nat) (hk : HK) (nx ns : Nat) (gi : GI) (gr : GR) (a0 : Nat) (a1 : Nat) : Option (HK × Nat × Nat × GI × GR) :=
  (g_is hk a1 24).bind fun _ =>
  (g_cc (fun c1 c2 => f_J5_getValue c1 c2 hk nx ns gi gr a1) (fun q : Nat × HK × Nat × Nat × GI × GR => q.2.2.1) (fun q : Nat × HK × Nat × Nat × GI × GR => q.2.2.2.1) cN cS nx ns).bind fun q2 =>
  (f_J6_length q2.2.1 q2.2.2.2.2.1 q2.2.2.2.2.2 a1).bind fun q7 =>
  (f_J5_isLatin1 q2.2.1 q2.2.2.2.2.1 q2.2.2.2.2.2 a1).bind fun q8 =>
  if q8 = 0 then
  (if ((1 : Int32)) = 0 then
  (f_J7_init_2_j79 cN cS a0 q2.2.1 q2.2.2.1 q2.2.2.2.1 q2.2.2.2.2.1 q2.2.2.2.2.2 q2.1 q7)
  else
  (if (q2.2.2.2.2.1 a1 2) = 0 then
  (f_J7_init_2_j79 cN cS a0 q2.2.1 q2.2.2.1 q2.2.2.2.1 q2.2.2.2.2.1 q2.2.2.2.2.2 q2.1 q7)
  else
  (none)))
  else
  ((some (g_pi q2.2.2.2.2.1 a0 1 0)).bind fun gi19 =>
  (g_ok q2.2.1 q2.1).bind fun _ =>
  (g_cc (fun c1 c2 => f_J11_copyOfRange c1 c2 q2.2.1 q2.2.2.1 q2.2.2.2.1 gi19 q2.2.2.2.2.2 q2.1 0 q7) (fun q : Nat × HK × Nat × Nat × GI × GR => q.2.2.1) (fun q : Nat × HK × Nat × Nat × GI × GR => q.2.2.2.1) cN cS q2.2.2.1 q2.2.2.2.1).bind fun q21 =>
  (g_ok q21.2.1 q21.1).bind fun _ =>
  (some (g_pr q21.2.2.2.2.2 a0 0 (some q21.1))).bind fun gr27 =>
  some (q21.2.1, q21.2.2.1, q21.2.2.2.1, q21.2.2.2.2.1, gr27))
set_option maxHeartbeats 400000 in
theorem w_J7_init_2 (l : Launch) (D : va_G) (cA : Nat → ClassId) (ad : Nat → Nat) (cN cS : Nat) (hk : HK) (nx ns : Nat) (gi : GI) (gr : GR) (a0 : Nat) (a1 : Nat) (ht : (hk a0).1 = 25) (hcap : nx ≤ cN ∧ ns ≤ cS) (r : HK × Nat × Nat × GI × GR) (h : f_J7_init_2 cN cS hk nx ns gi gr a0 a1 = some r) (sz : Nat) : Met l yJ7_init_2 (ws_ yJ7_init_2 cJ7_init_2 5 (none)) ({ frames := 4, cells := cN - nx, slots := cS - ns, locals := 131 } : Room) (va_Pc [.ref (ad a0), .ref (ad a1), .null] (XPre D cA ad hk nx gi gr sz)) (va_Qv (fun (u : XU) => u.2 = r) (XPostA D cA ad hk nx sz) (XA ad nx sz)) (cN - nx) (cS - ns) (XA ad nx sz) := by
  refine xa_stV (own := RJ7) (P := (fun (u : XU) => u.2 = r)) (by decide +kernel) rfl (Nat.le_of_ble_eq_true rfl) hcap (fun p e s m args below meth c R Q A ls C hmn hF hN hRr B hret hL => ?_) sz
  have hx := C.1
  have hb := C.2.1
  have hL : lv_has ls 5 [(0, .ref (ad a0)), (1, .ref (ad a1)), (2, .null)] := hL
  unfold f_J7_init_2 at h
  have hj79 : ∀ (hkj79 : HK) (nxj79 : Nat) (nsj79 : Nat) (gij79 : GI) (grj79 : GR) (a3j79 : Nat) (x4j79 : Int32) (adj79 : Nat → Nat) (H : Heap) (locs : List Loc) (ls : Array Slot), f_J7_init_2_j79 cN cS a0 hkj79 nxj79 nsj79 gij79 grj79 a3j79 x4j79 = some r → XBA D cA ad hk nx ns cN cS adj79 hkj79 nxj79 nsj79 A s gij79 grj79 H locs → lv_has ls 5 [(0, .ref (adj79 a0)), (3, .ref (adj79 a3j79)), (4, .int x4j79)] → W p l e R s m args below meth c H locs (nxj79 - nx) (nsj79 - ns) Q (F0 m 79 ls []) := by
    intro hkj79 nxj79 nsj79 gij79 grj79 a3j79 x4j79 adj79 H locs ls h B hL
    unfold f_J7_init_2_j79 at h
    have ht9 : (hkj79 a0).1 = 25 := by rw [(B.2.1 a0 (by rw [ht]; decide)).2]; exact ht
    refine lv_aload_n hx hb dJ7_init_2_79 rfl (lv_at hL 0 rfl) ?_
    refine lv_iconst (v := 1) hx hb dJ7_init_2_80 (by decide) ?_
    refine xx_piF (ci := 15) (k := 1) C B.1 xc_15 ht9 (by decide) (Nat.le_of_ble_eq_true rfl) rfl q699 (fun _ h => h) rfl hmn rfl rfl rfl h dJ7_init_2_81 (fun gi10 h H locs B2 => ?_)
    have B := And.intro B2 B.2
    refine lv_aload_n hx hb dJ7_init_2_84 rfl (lv_at hL 0 rfl) ?_
    refine lv_aload_n hx hb dJ7_init_2_85 rfl (lv_at hL 1 rfl) ?_
    refine lv_iconst (v := 0) hx hb dJ7_init_2_86 (by decide) ?_
    refine lv_iload hx hb dJ7_init_2_87 (lv_at hL 2 rfl) ?_
    refine lv_iconst (v := 1) hx hb dJ7_init_2_89 (by decide) ?_
    refine lv_ishl hx hb dJ7_init_2_90 ?_
    refine xx_ok h (fun ok11 h => ?_)
    refine k_J11_copyOfRange C B hRr q675 (Nat.le_trans (Nat.le_of_ble_eq_true rfl) hF) (Nat.le_trans (Nat.le_of_ble_eq_true rfl) hN) hL.1 (Nat.le_of_ble_eq_true rfl) h dJ7_init_2_91 (fun q12 ad13 h hae14 H locs B => ?_)
    rw [← (hae14 a0 (by rw [ht9]; decide)).1] at hL
    rw [← (hae14 a0 (by rw [ht9]; decide)).1]
    have hp15 : (q12.2.1 a0).1 = 25 := by rw [(hae14 a0 (by rw [ht9]; decide)).2]; exact ht9
    rw [← (hae14 a3j79 ok11).1] at hL
    have ok16 : (q12.2.1 a3j79).1 < 1000 := by rw [(hae14 a3j79 ok11).2]; exact ok11
    refine xx_ok h (fun ok18 h => ?_)
    refine xx_prF (ci := 15) (k := 0) C B.1 xc_15 hp15 (by decide) ok18 (Nat.le_of_ble_eq_true rfl) rfl q698 (fun _ h => h) rfl hmn rfl rfl rfl h dJ7_init_2_94 (fun gr17 h H locs B2 => ?_)
    have B := And.intro B2 B.2
    exact hret (ad13, q12.2.1, q12.2.2.1, q12.2.2.2.1, q12.2.2.2.2.1, gr17) _ _ _ _ (Option.some.inj h) B dJ7_init_2_97
  refine lv_aload_n hx hb dJ7_init_2_0 rfl (lv_at hL 0 rfl) ?_
  refine W.objInit hx hb C.2.2.2.1 (C.2.2.2.2 _ q660) (C.2.2.2.2 _ q179) (C.2.2.2.2 _ q180) rfl (by rw [C.2.2.1]; exact hL.1) rfl dJ7_init_2_1 (Nat.le_trans (Nat.le_of_ble_eq_true rfl) hF) (Nat.le_trans (Nat.le_of_ble_eq_true rfl) hN) ?_
  refine W.eq (g2 := F0 m 4 ls []) rfl ?_
  refine lv_aload_n hx hb dJ7_init_2_4 rfl (lv_at hL 1 rfl) ?_
  refine xx_is h (fun hp1 h => ?_)
  refine k_J5_getValue hp1 C B hRr q661 (Nat.le_trans (Nat.le_of_ble_eq_true rfl) hF) (Nat.le_trans (Nat.le_of_ble_eq_true rfl) hN) hL.1 (Nat.le_of_ble_eq_true rfl) h dJ7_init_2_5 (fun q2 ad3 h hae4 H locs B => ?_)
  rw [← (hae4 a0 (by rw [ht]; decide)).1] at hL
  have hp5 : (q2.2.1 a0).1 = 25 := by rw [(hae4 a0 (by rw [ht]; decide)).2]; exact ht
  rw [← (hae4 a1 (by rw [hp1]; decide)).1] at hL
  have hp6 : (q2.2.1 a1).1 = 24 := by rw [(hae4 a1 (by rw [hp1]; decide)).2]; exact hp1
  refine lv_astore_n (lv' := [(3, .ref (ad3 q2.1)), (0, .ref (ad3 a0)), (1, .ref (ad3 a1)), (2, .null)]) hx hb dJ7_init_2_8 rfl hL (by decide) (by first | rfl | (simp [xx_vcat]; done)) (fun ls hL => ?_)
  refine lv_aload_n hx hb dJ7_init_2_9 rfl (lv_at hL 2 rfl) ?_
  refine k_J6_length hp6 C B.1 q666 (Nat.le_trans (Nat.le_of_ble_eq_true rfl) hF) (Nat.le_trans (Nat.le_of_ble_eq_true rfl) hN) hL.1 (Nat.le_of_ble_eq_true rfl) (xa_z hRr B) h dJ7_init_2_10 (fun q7 h H locs B2 => ?_)
  have B := And.intro B2 B.2
  refine lv_istore (lv' := [(4, .int q7), (3, .ref (ad3 q2.1)), (0, .ref (ad3 a0)), (1, .ref (ad3 a1)), (2, .null)]) hx hb dJ7_init_2_13 hL (by decide) rfl (fun ls hL => ?_)
  refine lv_aload_n hx hb dJ7_init_2_15 rfl (lv_at hL 3 rfl) ?_
  refine k_J5_isLatin1 hp6 C B.1 q674 (Nat.le_trans (Nat.le_of_ble_eq_true rfl) hF) (Nat.le_trans (Nat.le_of_ble_eq_true rfl) hN) hL.1 (Nat.le_of_ble_eq_true rfl) (xa_z hRr B) h dJ7_init_2_16 (fun q8 h H locs B2 => ?_)
  have B := And.intro B2 B.2
  refine gg_if_eq hx hb 41 h dJ7_init_2_19 (by decide) (fun h => ?_) (fun h => ?_)
  · refine xx_gs C B.1 q684 dJ7_init_2_41 ?_
    refine gg_if_eq hx hb 79 h dJ7_init_2_44 (by decide) (fun h => ?_) (fun h => ?_)
    · exact hj79 _ _ _ _ _ _ _ _ _ _ _ h B (lv_sub hL [2, 1, 0] rfl)
    · refine lv_aload_n hx hb dJ7_init_2_47 rfl (lv_at hL 3 rfl) ?_
      refine xx_gi (ci := 14) (k := 2) C B.1 xc_14 hp6 (by decide) (Nat.le_of_ble_eq_true rfl) rfl q544 (fun _ h => h) dJ7_init_2_48 ?_
      refine gg_if_eq hx hb 79 h dJ7_init_2_51 (by decide) (fun h => ?_) (fun h => ?_)
      · exact hj79 _ _ _ _ _ _ _ _ _ _ _ h B (lv_sub hL [2, 1, 0] rfl)
      · refine lv_aload_n hx hb dJ7_init_2_54 rfl (lv_at hL 2 rfl) ?_
        refine lv_aload_n hx hb dJ7_init_2_55 rfl (lv_at hL 1 rfl) ?_
        refine lv_iconst (v := 0) hx hb dJ7_init_2_56 (by decide) ?_
        refine lv_iload hx hb dJ7_init_2_57 (lv_at hL 0 rfl) ?_
        cases h
  · refine lv_aload_n hx hb dJ7_init_2_22 rfl (lv_at hL 2 rfl) ?_
    refine lv_iconst (v := 0) hx hb dJ7_init_2_23 (by decide) ?_
    refine xx_piF (ci := 15) (k := 1) C B.1 xc_15 hp5 (by decide) (Nat.le_of_ble_eq_true rfl) rfl q699 (fun _ h => h) rfl hmn rfl rfl rfl h dJ7_init_2_24 (fun gi19 h H locs B2 => ?_)
    have B := And.intro B2 B.2
    refine lv_aload_n hx hb dJ7_init_2_27 rfl (lv_at hL 2 rfl) ?_
    refine lv_aload_n hx hb dJ7_init_2_28 rfl (lv_at hL 1 rfl) ?_
    refine lv_iconst (v := 0) hx hb dJ7_init_2_29 (by decide) ?_
    refine lv_iload hx hb dJ7_init_2_30 (lv_at hL 0 rfl) ?_
    refine xx_ok h (fun ok20 h => ?_)
    refine k_J11_copyOfRange C B hRr q675 (Nat.le_trans (Nat.le_of_ble_eq_true rfl) hF) (Nat.le_trans (Nat.le_of_ble_eq_true rfl) hN) hL.1 (Nat.le_of_ble_eq_true rfl) h dJ7_init_2_32 (fun q21 ad22 h hae23 H locs B => ?_)
    rw [← (hae23 q2.1 ok20).1] at hL
    have ok24 : (q21.2.1 q2.1).1 < 1000 := by rw [(hae23 q2.1 ok20).2]; exact ok20
    rw [← (hae23 a0 (by rw [hp5]; decide)).1] at hL
    rw [← (hae23 a0 (by rw [hp5]; decide)).1]
    have hp25 : (q21.2.1 a0).1 = 25 := by rw [(hae23 a0 (by rw [hp5]; decide)).2]; exact hp5
    rw [← (hae23 a1 (by rw [hp6]; decide)).1] at hL
    have hp26 : (q21.2.1 a1).1 = 24 := by rw [(hae23 a1 (by rw [hp6]; decide)).2]; exact hp6
    refine xx_ok h (fun ok28 h => ?_)
    refine xx_prF (ci := 15) (k := 0) C B.1 xc_15 hp25 (by decide) ok28 (Nat.le_of_ble_eq_true rfl) rfl q698 (fun _ h => h) rfl hmn rfl rfl rfl h dJ7_init_2_35 (fun gr27 h H locs B2 => ?_)
    have B := And.intro B2 B.2
    refine lv_goto (tgt := 97) hx hb dJ7_init_2_38 (by decide) ?_
    exact hret (ad22, q21.2.1, q21.2.2.1, q21.2.2.2.1, q21.2.2.2.2.1, gr27) _ _ _ _ (Option.some.inj h) B dJ7_init_2_97
theorem k_J7_init_2 {p : Program} {l : Launch} {e : Env} {R : Room} {s : State} {m : MethodId} {args : Array Value} {below : List Frame} {meth : Method} {c : Code} {H : Heap} {locs : List Loc} {Q : State → Prop} {pc : Nat} {ls : Array Slot} {rest : List Value} {cc : ByteArray} {nL : Nat} {D : va_G} {cA : Nat → ClassId} {a9 : Nat → Nat} {h9 : HK} {n0 m0 cN cS : Nat} {ad : Nat → Nat} {hk : HK} {nx ns : Nat} {A : Nat → Prop} {gi : GI} {gr : GR} {α : Type} {r : α} {own : String} {idx : Nat} {a0 : Nat} {a1 : Nat} {ff : (HK × Nat × Nat × GI × GR) → Option α} (ht : (hk a0).1 = 25) (C : CallFix p m c cc nL s args lw_all own) (B : XBA D cA a9 h9 n0 m0 cN cS ad hk nx ns A s gi gr H locs) (hRr : R.cells = cN - n0 ∧ R.slots = cS - m0) (hq : Cond.methodLink own idx yJ7_init_2 ∈ lw_all) (hF : 5 ≤ R.frames) (hN : 155 ≤ R.locals) (hs : ls.size = nL) (hw : (rest.map fun v => v.category).sum ≤ 8) (h : (g_cc (fun c1 c2 => f_J7_init_2 c1 c2 hk nx ns gi gr a0 a1) (fun q : HK × Nat × Nat × GI × GR => q.2.1) (fun q : HK × Nat × Nat × GI × GR => q.2.2.1) cN cS nx ns).bind ff = some r) (hdg : decode cc pc = .ok (.invokespecial idx, 3)) (kk : ∀ (q : HK × Nat × Nat × GI × GR) (ad' : Nat → Nat), ff q = some r → (∀ i, (hk i).1 < 1000 → ad' i = ad i ∧ q.1 i = hk i) → ∀ (H' : Heap) (locs' : List Loc), XBA D cA a9 h9 n0 m0 cN cS ad' q.1 q.2.1 q.2.2.1 A s q.2.2.2.1 q.2.2.2.2 H' locs' → W p l e R s m args below meth c H' locs' (q.2.1 - n0) (q.2.2.1 - m0) Q (F0 m (pc + 3) ls (rest))) : W p l e R s m args below meth c H locs (nx - n0) (ns - m0) Q (F0 m pc ls (.null :: .ref (ad a1) :: .ref (ad a0) :: rest)) := by
  obtain ⟨q, h1, h2⟩ := g_ob h
  obtain ⟨h3, c1, c2, c3, c4⟩ := g_cc_of h1
  refine xa_cIV (As := [.ref (ad a1), .null]) (rest := rest) (n := 2) (qn := q.2.1) (qs := q.2.2.1) (b := a0) C B hRr (fun sz => w_J7_init_2 l D cA ad _ _ hk nx ns gi gr a0 a1 ht ⟨c1, c3⟩ q h3 sz) hq q658 q154 q659 rfl (by decide +kernel) ⟨c1, c2, c3, c4⟩ (fun u hp => ?_) ⟨hF, hN⟩ rfl hs hw hdg (fun u H9 locs9 hp hae B9 => ?_)
  · have hp := hp
    subst hp
    exact ⟨rfl, rfl⟩
  · have hp := hp
    subst hp
    exact kk _ u.1 h2 hae H9 locs9 B9
def f_J7_init (cN cS : Nat) (hk : HK) (nx ns : Nat) (gi : GI) (gr : GR) (a0 : Nat) (a1 : Nat) : Option (HK × Nat × Nat × GI × GR) :=
  (g_ok hk a1).bind fun _ =>
  (g_cc (fun c1 c2 => f_J7_init_2 c1 c2 hk nx ns gi gr a0 a1) (fun q : HK × Nat × Nat × GI × GR => q.2.1) (fun q : HK × Nat × Nat × GI × GR => q.2.2.1) cN cS nx ns).bind fun q2 =>
  some (q2.1, q2.2.1, q2.2.2.1, q2.2.2.2.1, q2.2.2.2.2)
set_option maxHeartbeats 400000 in
theorem w_J7_init (l : Launch) (D : va_G) (cA : Nat → ClassId) (ad : Nat → Nat) (cN cS : Nat) (hk : HK) (nx ns : Nat) (gi : GI) (gr : GR) (a0 : Nat) (a1 : Nat) (ht : (hk a0).1 = 25) (hcap : nx ≤ cN ∧ ns ≤ cS) (r : HK × Nat × Nat × GI × GR) (h : f_J7_init cN cS hk nx ns gi gr a0 a1 = some r) (sz : Nat) : Met l yJ7_init (ws_ yJ7_init cJ7_init 2 (none)) ({ frames := 5, cells := cN - nx, slots := cS - ns, locals := 155 } : Room) (va_Pc [.ref (ad a0), .ref (ad a1)] (XPre D cA ad hk nx gi gr sz)) (va_Qv (fun (u : XU) => u.2 = r) (XPostA D cA ad hk nx sz) (XA ad nx sz)) (cN - nx) (cS - ns) (XA ad nx sz) := by
  refine xa_stV (own := RJ7) (P := (fun (u : XU) => u.2 = r)) (by decide +kernel) rfl (Nat.le_of_ble_eq_true rfl) hcap (fun p e s m args below meth c R Q A ls C hmn hF hN hRr B hret hL => ?_) sz
  have hx := C.1
  have hb := C.2.1
  have hL : lv_has ls 2 [(0, .ref (ad a0)), (1, .ref (ad a1))] := hL
  unfold f_J7_init at h
  refine lv_aload_n hx hb dJ7_init_0 rfl (lv_at hL 0 rfl) ?_
  refine lv_aload_n hx hb dJ7_init_1 rfl (lv_at hL 1 rfl) ?_
  refine lv_null hx hb dJ7_init_2 ?_
  refine xx_ok h (fun ok1 h => ?_)
  refine k_J7_init_2 ht C B hRr q657 (Nat.le_trans (Nat.le_of_ble_eq_true rfl) hF) (Nat.le_trans (Nat.le_of_ble_eq_true rfl) hN) hL.1 (Nat.le_of_ble_eq_true rfl) h dJ7_init_3 (fun q2 ad3 h hae4 H locs B => ?_)
  rw [← (hae4 a0 (by rw [ht]; decide)).1] at hL
  have hp5 : (q2.1 a0).1 = 25 := by rw [(hae4 a0 (by rw [ht]; decide)).2]; exact ht
  rw [← (hae4 a1 ok1).1] at hL
  have ok6 : (q2.1 a1).1 < 1000 := by rw [(hae4 a1 ok1).2]; exact ok1
  exact hret (ad3, q2.1, q2.2.1, q2.2.2.1, q2.2.2.2.1, q2.2.2.2.2) _ _ _ _ (Option.some.inj h) B dJ7_init_6
theorem k_J7_init {p : Program} {l : Launch} {e : Env} {R : Room} {s : State} {m : MethodId} {args : Array Value} {below : List Frame} {meth : Method} {c : Code} {H : Heap} {locs : List Loc} {Q : State → Prop} {pc : Nat} {ls : Array Slot} {rest : List Value} {cc : ByteArray} {nL : Nat} {D : va_G} {cA : Nat → ClassId} {a9 : Nat → Nat} {h9 : HK} {n0 m0 cN cS : Nat} {ad : Nat → Nat} {hk : HK} {nx ns : Nat} {A : Nat → Prop} {gi : GI} {gr : GR} {α : Type} {r : α} {own : String} {idx : Nat} {a0 : Nat} {a1 : Nat} {ff : (HK × Nat × Nat × GI × GR) → Option α} (ht : (hk a0).1 = 25) (C : CallFix p m c cc nL s args lw_all own) (B : XBA D cA a9 h9 n0 m0 cN cS ad hk nx ns A s gi gr H locs) (hRr : R.cells = cN - n0 ∧ R.slots = cS - m0) (hq : Cond.methodLink own idx yJ7_init ∈ lw_all) (hF : 6 ≤ R.frames) (hN : 176 ≤ R.locals) (hs : ls.size = nL) (hw : (rest.map fun v => v.category).sum ≤ 8) (h : (g_cc (fun c1 c2 => f_J7_init c1 c2 hk nx ns gi gr a0 a1) (fun q : HK × Nat × Nat × GI × GR => q.2.1) (fun q : HK × Nat × Nat × GI × GR => q.2.2.1) cN cS nx ns).bind ff = some r) (hdg : decode cc pc = .ok (.invokespecial idx, 3)) (kk : ∀ (q : HK × Nat × Nat × GI × GR) (ad' : Nat → Nat), ff q = some r → (∀ i, (hk i).1 < 1000 → ad' i = ad i ∧ q.1 i = hk i) → ∀ (H' : Heap) (locs' : List Loc), XBA D cA a9 h9 n0 m0 cN cS ad' q.1 q.2.1 q.2.2.1 A s q.2.2.2.1 q.2.2.2.2 H' locs' → W p l e R s m args below meth c H' locs' (q.2.1 - n0) (q.2.2.1 - m0) Q (F0 m (pc + 3) ls (rest))) : W p l e R s m args below meth c H locs (nx - n0) (ns - m0) Q (F0 m pc ls (.ref (ad a1) :: .ref (ad a0) :: rest)) := by
  obtain ⟨q, h1, h2⟩ := g_ob h
  obtain ⟨h3, c1, c2, c3, c4⟩ := g_cc_of h1
  refine xa_cIV (As := [.ref (ad a1)]) (rest := rest) (n := 1) (qn := q.2.1) (qs := q.2.2.1) (b := a0) C B hRr (fun sz => w_J7_init l D cA ad _ _ hk nx ns gi gr a0 a1 ht ⟨c1, c3⟩ q h3 sz) hq q655 q154 q656 rfl (by decide +kernel) ⟨c1, c2, c3, c4⟩ (fun u hp => ?_) ⟨hF, hN⟩ rfl hs hw hdg (fun u H9 locs9 hp hae B9 => ?_)
  · have hp := hp
    subst hp
    exact ⟨rfl, rfl⟩
  · have hp := hp
    subst hp
    exact kk _ u.1 h2 hae H9 locs9 B9
def f_J6_toString (cN cS : Nat) (hk : HK) (nx ns : Nat) (gi : GI) (gr : GR) (a0 : Nat) : Option (Nat × HK × Nat × Nat × GI × GR) :=
  (g_new cN cS nx ns 25 0 4 hk gi gr).bind fun q1 =>
  (g_cc (fun c1 c2 => f_J7_init c1 c2 q1.1 (nx + 1) (ns + 4) q1.2.1 q1.2.2 nx a0) (fun q : HK × Nat × Nat × GI × GR => q.2.1) (fun q : HK × Nat × Nat × GI × GR => q.2.2.1) cN cS (nx + 1) (ns + 4)).bind fun q6 =>
  some (nx, q6.1, q6.2.1, q6.2.2.1, q6.2.2.2.1, q6.2.2.2.2)
set_option maxHeartbeats 400000 in
theorem w_J6_toString (l : Launch) (D : va_G) (cA : Nat → ClassId) (ad : Nat → Nat) (cN cS : Nat) (hk : HK) (nx ns : Nat) (gi : GI) (gr : GR) (a0 : Nat) (ht : (hk a0).1 = 24) (hcap : nx ≤ cN ∧ ns ≤ cS) (r : Nat × HK × Nat × Nat × GI × GR) (h : f_J6_toString cN cS hk nx ns gi gr a0 = some r) (sz : Nat) : Met l yJ6_toString (ws_ yJ6_toString cJ6_toString 1 (some (.object "java/lang/String"))) ({ frames := 6, cells := cN - nx, slots := cS - ns, locals := 176 } : Room) (va_Pc [.ref (ad a0)] (XPre D cA ad hk nx gi gr sz)) (va_Qq (fun o u => ∃ v : Option Nat, o = v.map u.1 ∧ (fun (v : Option Nat) (u : XU) => ∃ v9, v = some v9 ∧ (v9, u.2) = r) v u) (XPostA D cA ad hk nx sz) (XA ad nx sz)) (cN - nx) (cS - ns) (XA ad nx sz) := by
  refine xa_stR (Or.inl ⟨_, rfl⟩) (own := RJ6) (P := (fun (v : Option Nat) (u : XU) => ∃ v9, v = some v9 ∧ (v9, u.2) = r)) (by decide +kernel) rfl (Nat.le_of_ble_eq_true rfl) hcap (fun p e s m args below meth c R Q A ls C hmn hF hN hRr B hret hL => ?_) sz
  have hx := C.1
  have hb := C.2.1
  have hL : lv_has ls 1 [(0, .ref (ad a0))] := hL
  unfold f_J6_toString at h
  refine xa_new C B hRr xc_15 (by decide) xd_15 q652 q653 q154 h dJ6_toString_0 (fun q1 ad2 h hae3 hp4 H B => ?_)
  rw [← (hae3 a0 (by rw [ht]; decide)).1] at hL
  have hp5 : (q1.1 a0).1 = 24 := by rw [(hae3 a0 (by rw [ht]; decide)).2]; exact ht
  refine lv_dup hx hb dJ6_toString_3 rfl ?_
  refine lv_aload_n hx hb dJ6_toString_4 rfl (lv_at hL 0 rfl) ?_
  refine k_J7_init hp4 C B hRr q654 (Nat.le_trans (Nat.le_of_ble_eq_true rfl) hF) (Nat.le_trans (Nat.le_of_ble_eq_true rfl) hN) hL.1 (Nat.le_of_ble_eq_true rfl) h dJ6_toString_5 (fun q6 ad7 h hae8 H locs B => ?_)
  rw [← (hae8 a0 (by rw [hp5]; decide)).1] at hL
  have hp9 : (q6.1 a0).1 = 24 := by rw [(hae8 a0 (by rw [hp5]; decide)).2]; exact hp5
  rw [← (hae8 nx (by rw [hp4]; decide)).1]
  have hp10 : (q6.1 nx).1 = 25 := by rw [(hae8 nx (by rw [hp4]; decide)).2]; exact hp4
  exact hret (some nx) (ad7, q6.1, q6.2.1, q6.2.2.1, q6.2.2.2.1, q6.2.2.2.2) _ _ _ _ ⟨_, rfl, Option.some.inj h⟩ B dJ6_toString_8
theorem k_J6_toString {p : Program} {l : Launch} {e : Env} {R : Room} {s : State} {m : MethodId} {args : Array Value} {below : List Frame} {meth : Method} {c : Code} {H : Heap} {locs : List Loc} {Q : State → Prop} {pc : Nat} {ls : Array Slot} {rest : List Value} {cc : ByteArray} {nL : Nat} {D : va_G} {cA : Nat → ClassId} {a9 : Nat → Nat} {h9 : HK} {n0 m0 cN cS : Nat} {ad : Nat → Nat} {hk : HK} {nx ns : Nat} {A : Nat → Prop} {gi : GI} {gr : GR} {α : Type} {r : α} {own : String} {idx : Nat} {a0 : Nat} {ff : (Nat × HK × Nat × Nat × GI × GR) → Option α} (ht : (hk a0).1 = 24) (C : CallFix p m c cc nL s args lw_all own) (B : XBA D cA a9 h9 n0 m0 cN cS ad hk nx ns A s gi gr H locs) (hRr : R.cells = cN - n0 ∧ R.slots = cS - m0) (hq : Cond.methodLink own idx yJ6_toString ∈ lw_all) (hF : 7 ≤ R.frames) (hN : 196 ≤ R.locals) (hs : ls.size = nL) (hw : (rest.map fun v => v.category).sum ≤ 8) (h : (g_cc (fun c1 c2 => f_J6_toString c1 c2 hk nx ns gi gr a0) (fun q : Nat × HK × Nat × Nat × GI × GR => q.2.2.1) (fun q : Nat × HK × Nat × Nat × GI × GR => q.2.2.2.1) cN cS nx ns).bind ff = some r) (hdg : decode cc pc = .ok (.invokevirtual idx, 3)) (kk : ∀ (q : Nat × HK × Nat × Nat × GI × GR) (ad' : Nat → Nat), ff q = some r → (∀ i, (hk i).1 < 1000 → ad' i = ad i ∧ q.2.1 i = hk i) → ∀ (H' : Heap) (locs' : List Loc), XBA D cA a9 h9 n0 m0 cN cS ad' q.2.1 q.2.2.1 q.2.2.2.1 A s q.2.2.2.2.1 q.2.2.2.2.2 H' locs' → W p l e R s m args below meth c H' locs' (q.2.2.1 - n0) (q.2.2.2.1 - m0) Q (F0 m (pc + 3) ls (.ref (ad' q.1) :: rest))) : W p l e R s m args below meth c H locs (nx - n0) (ns - m0) Q (F0 m pc ls (.ref (ad a0) :: rest)) := by
  obtain ⟨q, h1, h2⟩ := g_ob h
  obtain ⟨h3, c1, c2, c3, c4⟩ := g_cc_of h1
  refine xa_cVR (As := []) (rest := rest) (n := 0) (qn := q.2.2.1) (qs := q.2.2.2.1) xc_14 ht (by decide) C B hRr (fun sz => w_J6_toString l D cA ad _ _ hk nx ns gi gr a0 ht ⟨c1, c3⟩ q h3 sz) hq q649 q650 q153 q651 (by decide +kernel) ⟨c1, c2, c3, c4⟩ (fun v u hp => ?_) ⟨hF, hN⟩ rfl hs hw hdg (fun v u H9 locs9 hp hae B9 => ?_)
  · obtain ⟨v9, rfl, rfl⟩ := hp
    exact ⟨rfl, rfl⟩
  · obtain ⟨v9, rfl, rfl⟩ := hp
    exact kk _ u.1 h2 hae H9 locs9 B9
def f_J8_newBytesFor (cN cS : Nat) (hk : HK) (nx ns : Nat) (gi : GI) (gr : GR) (x0 : Int32) : Option (Nat × HK × Nat × Nat × GI × GR) :=
  none
set_option maxHeartbeats 400000 in
theorem w_J8_newBytesFor (l : Launch) (D : va_G) (cA : Nat → ClassId) (ad : Nat → Nat) (cN cS : Nat) (hk : HK) (nx ns : Nat) (gi : GI) (gr : GR) (x0 : Int32) (hcap : nx ≤ cN ∧ ns ≤ cS) (r : Nat × HK × Nat × Nat × GI × GR) (h : f_J8_newBytesFor cN cS hk nx ns gi gr x0 = some r) (sz : Nat) : Met l yJ8_newBytesFor (ws_ yJ8_newBytesFor cJ8_newBytesFor 1 (some (.array .byte))) ({ frames := 1, cells := cN - nx, slots := cS - ns, locals := 64 } : Room) (va_Pc [.int x0] (XPre D cA ad hk nx gi gr sz)) (va_Qq (fun o u => ∃ v : Option Nat, o = v.map u.1 ∧ (fun (v : Option Nat) (u : XU) => ∃ v9, v = some v9 ∧ (v9, u.2) = r) v u) (XPostA D cA ad hk nx sz) (XA ad nx sz)) (cN - nx) (cS - ns) (XA ad nx sz) := by
  refine xa_stR (Or.inr ⟨_, rfl⟩) (own := RJ8) (P := (fun (v : Option Nat) (u : XU) => ∃ v9, v = some v9 ∧ (v9, u.2) = r)) (by decide +kernel) rfl (Nat.le_of_ble_eq_true rfl) hcap (fun p e s m args below meth c R Q A ls C hmn hF hN hRr B hret hL => ?_) sz
  have hx := C.1
  have hb := C.2.1
  have hL : lv_has ls 1 [(0, .int x0)] := hL
  unfold f_J8_newBytesFor at h
  refine lv_iload_n hx hb dJ8_newBytesFor_0 rfl (lv_at hL 0 rfl) ?_
  cases h
theorem k_J8_newBytesFor {p : Program} {l : Launch} {e : Env} {R : Room} {s : State} {m : MethodId} {args : Array Value} {below : List Frame} {meth : Method} {c : Code} {H : Heap} {locs : List Loc} {Q : State → Prop} {pc : Nat} {ls : Array Slot} {rest : List Value} {cc : ByteArray} {nL : Nat} {D : va_G} {cA : Nat → ClassId} {a9 : Nat → Nat} {h9 : HK} {n0 m0 cN cS : Nat} {ad : Nat → Nat} {hk : HK} {nx ns : Nat} {A : Nat → Prop} {gi : GI} {gr : GR} {α : Type} {r : α} {own : String} {idx : Nat} {x0 : Int32} {ff : (Nat × HK × Nat × Nat × GI × GR) → Option α} (C : CallFix p m c cc nL s args lw_all own) (B : XBA D cA a9 h9 n0 m0 cN cS ad hk nx ns A s gi gr H locs) (hRr : R.cells = cN - n0 ∧ R.slots = cS - m0) (hq : Cond.methodLink own idx yJ8_newBytesFor ∈ lw_all) (hF : 2 ≤ R.frames) (hN : 84 ≤ R.locals) (hs : ls.size = nL) (hw : (rest.map fun v => v.category).sum ≤ 8) (h : (g_cc (fun c1 c2 => f_J8_newBytesFor c1 c2 hk nx ns gi gr x0) (fun q : Nat × HK × Nat × Nat × GI × GR => q.2.2.1) (fun q : Nat × HK × Nat × Nat × GI × GR => q.2.2.2.1) cN cS nx ns).bind ff = some r) (hdg : decode cc pc = .ok (.invokestatic idx, 3)) (kk : ∀ (q : Nat × HK × Nat × Nat × GI × GR) (ad' : Nat → Nat), ff q = some r → (∀ i, (hk i).1 < 1000 → ad' i = ad i ∧ q.2.1 i = hk i) → ∀ (H' : Heap) (locs' : List Loc), XBA D cA a9 h9 n0 m0 cN cS ad' q.2.1 q.2.2.1 q.2.2.2.1 A s q.2.2.2.2.1 q.2.2.2.2.2 H' locs' → W p l e R s m args below meth c H' locs' (q.2.2.1 - n0) (q.2.2.2.1 - m0) Q (F0 m (pc + 3) ls (.ref (ad' q.1) :: rest))) : W p l e R s m args below meth c H locs (nx - n0) (ns - m0) Q (F0 m pc ls (.int x0 :: rest)) := by
  obtain ⟨q, h1, h2⟩ := g_ob h
  obtain ⟨h3, c1, c2, c3, c4⟩ := g_cc_of h1
  refine xa_cSR (As := [.int x0]) (rest := rest) (n := 1) (qn := q.2.2.1) (qs := q.2.2.2.1) C B hRr (fun sz => w_J8_newBytesFor l D cA ad _ _ hk nx ns gi gr x0 ⟨c1, c3⟩ q h3 sz) hq q536 q155 q537 (by decide +kernel) ⟨c1, c2, c3, c4⟩ (fun v u hp => ?_) ⟨hF, hN⟩ rfl hs hw hdg (fun v u H9 locs9 hp hae B9 => ?_)
  · obtain ⟨v9, rfl, rfl⟩ := hp
    exact ⟨rfl, rfl⟩
  · obtain ⟨v9, rfl, rfl⟩ := hp
    exact kk _ u.1 h2 hae H9 locs9 B9
def f_X2_init (cN cS : Nat) (hk : HK) (nx ns : Nat) (gi : GI) (gr : GR) (a0 : Nat) : Option (HK × Nat × Nat × GI × GR) :=
  some (hk, nx, ns, gi, gr)
set_option maxHeartbeats 400000 in
theorem w_X2_init (l : Launch) (D : va_G) (cA : Nat → ClassId) (ad : Nat → Nat) (cN cS : Nat) (hk : HK) (nx ns : Nat) (gi : GI) (gr : GR) (a0 : Nat) (ht : (hk a0).1 = 12) (hcap : nx ≤ cN ∧ ns ≤ cS) (r : HK × Nat × Nat × GI × GR) (h : f_X2_init cN cS hk nx ns gi gr a0 = some r) (sz : Nat) : Met l yX2_init (ws_ yX2_init cX2_init 1 (none)) ({ frames := 1, cells := cN - nx, slots := cS - ns, locals := 64 } : Room) (va_Pc [.ref (ad a0)] (XPre D cA ad hk nx gi gr sz)) (va_Qv (fun (u : XU) => u.2 = r) (XPostA D cA ad hk nx sz) (XA ad nx sz)) (cN - nx) (cS - ns) (XA ad nx sz) := by
  refine xa_stV (own := RX2) (P := (fun (u : XU) => u.2 = r)) (by decide +kernel) rfl (Nat.le_of_ble_eq_true rfl) hcap (fun p e s m args below meth c R Q A ls C hmn hF hN hRr B hret hL => ?_) sz
  have hx := C.1
  have hb := C.2.1
  have hL : lv_has ls 1 [(0, .ref (ad a0))] := hL
  unfold f_X2_init at h
  refine lv_aload_n hx hb dX2_init_0 rfl (lv_at hL 0 rfl) ?_
  refine W.objInit hx hb C.2.2.2.1 (C.2.2.2.2 _ q224) (C.2.2.2.2 _ q179) (C.2.2.2.2 _ q180) rfl (by rw [C.2.2.1]; exact hL.1) rfl dX2_init_1 (Nat.le_trans (Nat.le_of_ble_eq_true rfl) hF) (Nat.le_trans (Nat.le_of_ble_eq_true rfl) hN) ?_
  refine W.eq (g2 := F0 m 4 ls []) rfl ?_
  exact hret (ad, hk, nx, ns, gi, gr) _ _ _ _ (Option.some.inj h) B dX2_init_4
theorem kn_X2_init {p : Program} {l : Launch} {e : Env} {R : Room} {s : State} {m : MethodId} {args : Array Value} {below : List Frame} {meth : Method} {c : Code} {H : Heap} {locs : List Loc} {Q : State → Prop} {pc : Nat} {ls : Array Slot} {rest : List Value} {cc : ByteArray} {nL : Nat} {D : va_G} {cA : Nat → ClassId} {a9 : Nat → Nat} {h9 : HK} {n0 m0 cN cS : Nat} {ad : Nat → Nat} {hk : HK} {nx ns : Nat} {A : Nat → Prop} {gi : GI} {gr : GR} {α : Type} {r : α} {own : String} {idx : Nat} {a0 : Nat} {ff : (HK × Nat × Nat × GI × GR) → Option α} (ht : (hk a0).1 = 12) (C : CallFix p m c cc nL s args lw_all own) (B : XBA D cA a9 h9 n0 m0 cN cS ad hk nx ns A s gi gr H locs) (hRr : R.cells = cN - n0 ∧ R.slots = cS - m0) (hq : Cond.methodLinkNest own idx yX2_init "WeatherWages" ∈ nwX) (hF : 2 ≤ R.frames) (hN : 84 ≤ R.locals) (hs : ls.size = nL) (hw : (rest.map fun v => v.category).sum ≤ 8) (h : (g_cc (fun c1 c2 => f_X2_init c1 c2 hk nx ns gi gr a0) (fun q : HK × Nat × Nat × GI × GR => q.2.1) (fun q : HK × Nat × Nat × GI × GR => q.2.2.1) cN cS nx ns).bind ff = some r) (hdg : decode cc pc = .ok (.invokespecial idx, 3)) (kk : ∀ (q : HK × Nat × Nat × GI × GR) (ad' : Nat → Nat), ff q = some r → (∀ i, (hk i).1 < 1000 → ad' i = ad i ∧ q.1 i = hk i) → ∀ (H' : Heap) (locs' : List Loc), XBA D cA a9 h9 n0 m0 cN cS ad' q.1 q.2.1 q.2.2.1 A s q.2.2.2.1 q.2.2.2.2 H' locs' → W p l e R s m args below meth c H' locs' (q.2.1 - n0) (q.2.2.1 - m0) Q (F0 m (pc + 3) ls (rest))) : W p l e R s m args below meth c H locs (nx - n0) (ns - m0) Q (F0 m pc ls (.ref (ad a0) :: rest)) := by
  obtain ⟨q, h1, h2⟩ := g_ob h
  obtain ⟨h3, c1, c2, c3, c4⟩ := g_cc_of h1
  refine xa_cINV (As := []) (rest := rest) (n := 0) (qn := q.2.1) (qs := q.2.2.1) (b := a0) C B hRr (fun sz => w_X2_init l D cA ad _ _ hk nx ns gi gr a0 ht ⟨c1, c3⟩ q h3 sz) hq q222 q146 q223 rfl (by decide +kernel) ⟨c1, c2, c3, c4⟩ (fun u hp => ?_) ⟨hF, hN⟩ rfl hs hw hdg (fun u H9 locs9 hp hae B9 => ?_)
  · have hp := hp
    subst hp
    exact ⟨rfl, rfl⟩
  · have hp := hp
    subst hp
    exact kk _ u.1 h2 hae H9 locs9 B9
def f_X1_init (cN cS : Nat) (hk : HK) (nx ns : Nat) (gi : GI) (gr : GR) (a0 : Nat) : Option (HK × Nat × Nat × GI × GR) :=
  (g_new cN cS nx ns 22 0 3 hk gi gr).bind fun q1 =>
  (g_cc (fun c1 c2 => f_J2_init c1 c2 q1.1 (nx + 1) (ns + 3) q1.2.1 q1.2.2 nx 2) (fun q : HK × Nat × Nat × GI × GR => q.2.1) (fun q : HK × Nat × Nat × GI × GR => q.2.2.1) cN cS (nx + 1) (ns + 3)).bind fun q6 =>
  (some (g_pr q6.2.2.2.2 a0 0 (some nx))).bind fun gr11 =>
  (g_new cN cS q6.2.1 q6.2.2.1 22 0 3 q6.1 q6.2.2.2.1 gr11).bind fun q12 =>
  (g_cc (fun c1 c2 => f_J2_init c1 c2 q12.1 (q6.2.1 + 1) (q6.2.2.1 + 3) q12.2.1 q12.2.2 q6.2.1 2) (fun q : HK × Nat × Nat × GI × GR => q.2.1) (fun q : HK × Nat × Nat × GI × GR => q.2.2.1) cN cS (q6.2.1 + 1) (q6.2.2.1 + 3)).bind fun q17 =>
  (some (g_pr q17.2.2.2.2 a0 1 (some q6.2.1))).bind fun gr22 =>
  (g_new cN cS q17.2.1 q17.2.2.1 22 0 3 q17.1 q17.2.2.2.1 gr22).bind fun q23 =>
  (g_cc (fun c1 c2 => f_J2_init c1 c2 q23.1 (q17.2.1 + 1) (q17.2.2.1 + 3) q23.2.1 q23.2.2 q17.2.1 2) (fun q : HK × Nat × Nat × GI × GR => q.2.1) (fun q : HK × Nat × Nat × GI × GR => q.2.2.1) cN cS (q17.2.1 + 1) (q17.2.2.1 + 3)).bind fun q28 =>
  (some (g_pr q28.2.2.2.2 a0 2 (some q17.2.1))).bind fun gr33 =>
  (g_new cN cS q28.2.1 q28.2.2.1 0 5 5 q28.1 q28.2.2.2.1 gr33).bind fun q34 =>
  (some (g_pr q34.2.2 a0 3 (some q28.2.1))).bind fun gr40 =>
  (g_new cN cS (q28.2.1 + 1) (q28.2.2.1 + 5) 12 0 6 q34.1 q34.2.1 gr40).bind fun q41 =>
  (g_cc (fun c1 c2 => f_X2_init c1 c2 q41.1 ((q28.2.1 + 1) + 1) ((q28.2.2.1 + 5) + 6) q41.2.1 q41.2.2 (q28.2.1 + 1)) (fun q : HK × Nat × Nat × GI × GR => q.2.1) (fun q : HK × Nat × Nat × GI × GR => q.2.2.1) cN cS ((q28.2.1 + 1) + 1) ((q28.2.2.1 + 5) + 6)).bind fun q46 =>
  (some (g_pr q46.2.2.2.2 a0 4 (some (q28.2.1 + 1)))).bind fun gr51 =>
  (some (g_pi q46.2.2.2.1 a0 7 6)).bind fun gi52 =>
  some (q46.1, q46.2.1, q46.2.2.1, gi52, gr51)
set_option maxHeartbeats 400000 in
theorem w_X1_init (l : Launch) (D : va_G) (cA : Nat → ClassId) (ad : Nat → Nat) (cN cS : Nat) (hk : HK) (nx ns : Nat) (gi : GI) (gr : GR) (a0 : Nat) (ht : (hk a0).1 = 11) (hcap : nx ≤ cN ∧ ns ≤ cS) (r : HK × Nat × Nat × GI × GR) (h : f_X1_init cN cS hk nx ns gi gr a0 = some r) (sz : Nat) : Met l yX1_init (ws_ yX1_init cX1_init 1 (none)) ({ frames := 4, cells := cN - nx, slots := cS - ns, locals := 125 } : Room) (va_Pc [.ref (ad a0)] (XPre D cA ad hk nx gi gr sz)) (va_Qv (fun (u : XU) => u.2 = r) (XPostA D cA ad hk nx sz) (XA ad nx sz)) (cN - nx) (cS - ns) (XA ad nx sz) := by
  refine xa_stV (own := RX1) (P := (fun (u : XU) => u.2 = r)) (by decide +kernel) rfl (Nat.le_of_ble_eq_true rfl) hcap (fun p e s m args below meth c R Q A ls C hmn hF hN hRr B hret hL => ?_) sz
  have hx := C.1
  have hb := C.2.1
  have hL : lv_has ls 1 [(0, .ref (ad a0))] := hL
  unfold f_X1_init at h
  refine lv_aload_n hx hb dX1_init_0 rfl (lv_at hL 0 rfl) ?_
  refine W.objInit hx hb C.2.2.2.1 (C.2.2.2.2 _ q186) (C.2.2.2.2 _ q179) (C.2.2.2.2 _ q180) rfl (by rw [C.2.2.1]; exact hL.1) rfl dX1_init_1 (Nat.le_trans (Nat.le_of_ble_eq_true rfl) hF) (Nat.le_trans (Nat.le_of_ble_eq_true rfl) hN) ?_
  refine W.eq (g2 := F0 m 4 ls []) rfl ?_
  refine lv_aload_n hx hb dX1_init_4 rfl (lv_at hL 0 rfl) ?_
  refine xa_new C B hRr xc_12 (by decide) xd_12 q187 q188 q145 h dX1_init_5 (fun q1 ad2 h hae3 hp4 H B => ?_)
  rw [← (hae3 a0 (by rw [ht]; decide)).1] at hL
  rw [← (hae3 a0 (by rw [ht]; decide)).1]
  have hp5 : (q1.1 a0).1 = 11 := by rw [(hae3 a0 (by rw [ht]; decide)).2]; exact ht
  refine lv_dup hx hb dX1_init_8 rfl ?_
  refine lv_iconst (v := 2) hx hb dX1_init_9 (by decide) ?_
  refine k_J2_init hp4 C B hRr q189 (Nat.le_trans (Nat.le_of_ble_eq_true rfl) hF) (Nat.le_trans (Nat.le_of_ble_eq_true rfl) hN) hL.1 (Nat.le_of_ble_eq_true rfl) h dX1_init_10 (fun q6 ad7 h hae8 H locs B => ?_)
  rw [← (hae8 a0 (by rw [hp5]; decide)).1] at hL
  rw [← (hae8 a0 (by rw [hp5]; decide)).1]
  have hp9 : (q6.1 a0).1 = 11 := by rw [(hae8 a0 (by rw [hp5]; decide)).2]; exact hp5
  rw [← (hae8 nx (by rw [hp4]; decide)).1]
  have hp10 : (q6.1 nx).1 = 22 := by rw [(hae8 nx (by rw [hp4]; decide)).2]; exact hp4
  refine xx_prF (ci := 1) (k := 0) C B.1 xc_1 hp9 (by decide) (by rw [hp10]; decide) (Nat.le_of_ble_eq_true rfl) rfl q251 (fun _ h => h) rfl hmn rfl rfl rfl h dX1_init_13 (fun gr11 h H locs B2 => ?_)
  have B := And.intro B2 B.2
  refine lv_aload_n hx hb dX1_init_16 rfl (lv_at hL 0 rfl) ?_
  refine xa_new C B hRr xc_12 (by decide) xd_12 q187 q188 q145 h dX1_init_17 (fun q12 ad13 h hae14 hp15 H B => ?_)
  rw [← (hae14 a0 (by rw [hp9]; decide)).1] at hL
  rw [← (hae14 a0 (by rw [hp9]; decide)).1]
  have hp16 : (q12.1 a0).1 = 11 := by rw [(hae14 a0 (by rw [hp9]; decide)).2]; exact hp9
  refine lv_dup hx hb dX1_init_20 rfl ?_
  refine lv_iconst (v := 2) hx hb dX1_init_21 (by decide) ?_
  refine k_J2_init hp15 C B hRr q189 (Nat.le_trans (Nat.le_of_ble_eq_true rfl) hF) (Nat.le_trans (Nat.le_of_ble_eq_true rfl) hN) hL.1 (Nat.le_of_ble_eq_true rfl) h dX1_init_22 (fun q17 ad18 h hae19 H locs B => ?_)
  rw [← (hae19 a0 (by rw [hp16]; decide)).1] at hL
  rw [← (hae19 a0 (by rw [hp16]; decide)).1]
  have hp20 : (q17.1 a0).1 = 11 := by rw [(hae19 a0 (by rw [hp16]; decide)).2]; exact hp16
  rw [← (hae19 q6.2.1 (by rw [hp15]; decide)).1]
  have hp21 : (q17.1 q6.2.1).1 = 22 := by rw [(hae19 q6.2.1 (by rw [hp15]; decide)).2]; exact hp15
  refine xx_prF (ci := 1) (k := 1) C B.1 xc_1 hp20 (by decide) (by rw [hp21]; decide) (Nat.le_of_ble_eq_true rfl) rfl q255 (fun _ h => h) rfl hmn rfl rfl rfl h dX1_init_25 (fun gr22 h H locs B2 => ?_)
  have B := And.intro B2 B.2
  refine lv_aload_n hx hb dX1_init_28 rfl (lv_at hL 0 rfl) ?_
  refine xa_new C B hRr xc_12 (by decide) xd_12 q187 q188 q145 h dX1_init_29 (fun q23 ad24 h hae25 hp26 H B => ?_)
  rw [← (hae25 a0 (by rw [hp20]; decide)).1] at hL
  rw [← (hae25 a0 (by rw [hp20]; decide)).1]
  have hp27 : (q23.1 a0).1 = 11 := by rw [(hae25 a0 (by rw [hp20]; decide)).2]; exact hp20
  refine lv_dup hx hb dX1_init_32 rfl ?_
  refine lv_iconst (v := 2) hx hb dX1_init_33 (by decide) ?_
  refine k_J2_init hp26 C B hRr q189 (Nat.le_trans (Nat.le_of_ble_eq_true rfl) hF) (Nat.le_trans (Nat.le_of_ble_eq_true rfl) hN) hL.1 (Nat.le_of_ble_eq_true rfl) h dX1_init_34 (fun q28 ad29 h hae30 H locs B => ?_)
  rw [← (hae30 a0 (by rw [hp27]; decide)).1] at hL
  rw [← (hae30 a0 (by rw [hp27]; decide)).1]
  have hp31 : (q28.1 a0).1 = 11 := by rw [(hae30 a0 (by rw [hp27]; decide)).2]; exact hp27
  rw [← (hae30 q17.2.1 (by rw [hp26]; decide)).1]
  have hp32 : (q28.1 q17.2.1).1 = 22 := by rw [(hae30 q17.2.1 (by rw [hp26]; decide)).2]; exact hp26
  refine xx_prF (ci := 1) (k := 2) C B.1 xc_1 hp31 (by decide) (by rw [hp32]; decide) (Nat.le_of_ble_eq_true rfl) rfl q259 (fun _ h => h) rfl hmn rfl rfl rfl h dX1_init_37 (fun gr33 h H locs B2 => ?_)
  have B := And.intro B2 B.2
  refine lv_aload_n hx hb dX1_init_40 rfl (lv_at hL 0 rfl) ?_
  refine lv_iconst (v := 5) hx hb dX1_init_41 (by decide) ?_
  refine xa_newa (t := 0) (atype := .int) (ty := .int) C B hRr (by decide) rfl rfl (fun _ h => h) rfl q250 (by decide) rfl (Nat.le_of_ble_eq_true rfl) h dX1_init_42 (fun q34 ad35 h hae36 hp37 H B => ?_)
  rw [← (hae36 a0 (by rw [hp31]; decide)).1] at hL
  rw [← (hae36 a0 (by rw [hp31]; decide)).1]
  have hp39 : (q34.1 a0).1 = 11 := by rw [(hae36 a0 (by rw [hp31]; decide)).2]; exact hp31
  have hp38 : (q34.1 q28.2.1).1 = 0 := by rw [hp37]
  refine xx_prF (ci := 1) (k := 3) C B.1 xc_1 hp39 (by decide) (by rw [hp38]; decide) (Nat.le_of_ble_eq_true rfl) rfl q262 (fun _ h => h) rfl hmn rfl rfl rfl h dX1_init_44 (fun gr40 h H locs B2 => ?_)
  have B := And.intro B2 B.2
  refine lv_aload_n hx hb dX1_init_47 rfl (lv_at hL 0 rfl) ?_
  refine xa_new C B hRr xc_2 (by decide) xd_2 q219 q220 q146 h dX1_init_48 (fun q41 ad42 h hae43 hp44 H B => ?_)
  rw [← (hae43 a0 (by rw [hp39]; decide)).1] at hL
  rw [← (hae43 a0 (by rw [hp39]; decide)).1]
  have hp45 : (q41.1 a0).1 = 11 := by rw [(hae43 a0 (by rw [hp39]; decide)).2]; exact hp39
  refine lv_dup hx hb dX1_init_51 rfl ?_
  refine kn_X2_init hp44 C B hRr nw_q221 (Nat.le_trans (Nat.le_of_ble_eq_true rfl) hF) (Nat.le_trans (Nat.le_of_ble_eq_true rfl) hN) hL.1 (Nat.le_of_ble_eq_true rfl) h dX1_init_52 (fun q46 ad47 h hae48 H locs B => ?_)
  rw [← (hae48 a0 (by rw [hp45]; decide)).1] at hL
  rw [← (hae48 a0 (by rw [hp45]; decide)).1]
  have hp49 : (q46.1 a0).1 = 11 := by rw [(hae48 a0 (by rw [hp45]; decide)).2]; exact hp45
  rw [← (hae48 (q28.2.1 + 1) (by rw [hp44]; decide)).1]
  have hp50 : (q46.1 (q28.2.1 + 1)).1 = 12 := by rw [(hae48 (q28.2.1 + 1) (by rw [hp44]; decide)).2]; exact hp44
  refine xx_prF (ci := 1) (k := 4) C B.1 xc_1 hp49 (by decide) (by rw [hp50]; decide) (Nat.le_of_ble_eq_true rfl) rfl q265 (fun _ h => h) rfl hmn rfl rfl rfl h dX1_init_55 (fun gr51 h H locs B2 => ?_)
  have B := And.intro B2 B.2
  refine lv_aload_n hx hb dX1_init_58 rfl (lv_at hL 0 rfl) ?_
  refine lv_bipush (v := 6) hx hb dX1_init_59 (by decide) ?_
  refine xx_pi (ci := 1) (k := 7) C B.1 xc_1 hp49 (by decide) (Nat.le_of_ble_eq_true rfl) rfl q270 (fun _ h => h) rfl rfl rfl h dX1_init_61 (fun gi52 h H locs B2 => ?_)
  have B := And.intro B2 B.2
  exact hret (ad47, q46.1, q46.2.1, q46.2.2.1, gi52, gr51) _ _ _ _ (Option.some.inj h) B dX1_init_64
theorem kn_X1_init {p : Program} {l : Launch} {e : Env} {R : Room} {s : State} {m : MethodId} {args : Array Value} {below : List Frame} {meth : Method} {c : Code} {H : Heap} {locs : List Loc} {Q : State → Prop} {pc : Nat} {ls : Array Slot} {rest : List Value} {cc : ByteArray} {nL : Nat} {D : va_G} {cA : Nat → ClassId} {a9 : Nat → Nat} {h9 : HK} {n0 m0 cN cS : Nat} {ad : Nat → Nat} {hk : HK} {nx ns : Nat} {A : Nat → Prop} {gi : GI} {gr : GR} {α : Type} {r : α} {own : String} {idx : Nat} {a0 : Nat} {ff : (HK × Nat × Nat × GI × GR) → Option α} (ht : (hk a0).1 = 11) (C : CallFix p m c cc nL s args lw_all own) (B : XBA D cA a9 h9 n0 m0 cN cS ad hk nx ns A s gi gr H locs) (hRr : R.cells = cN - n0 ∧ R.slots = cS - m0) (hq : Cond.methodLinkNest own idx yX1_init "WeatherWages" ∈ nwX) (hF : 5 ≤ R.frames) (hN : 145 ≤ R.locals) (hs : ls.size = nL) (hw : (rest.map fun v => v.category).sum ≤ 8) (h : (g_cc (fun c1 c2 => f_X1_init c1 c2 hk nx ns gi gr a0) (fun q : HK × Nat × Nat × GI × GR => q.2.1) (fun q : HK × Nat × Nat × GI × GR => q.2.2.1) cN cS nx ns).bind ff = some r) (hdg : decode cc pc = .ok (.invokespecial idx, 3)) (kk : ∀ (q : HK × Nat × Nat × GI × GR) (ad' : Nat → Nat), ff q = some r → (∀ i, (hk i).1 < 1000 → ad' i = ad i ∧ q.1 i = hk i) → ∀ (H' : Heap) (locs' : List Loc), XBA D cA a9 h9 n0 m0 cN cS ad' q.1 q.2.1 q.2.2.1 A s q.2.2.2.1 q.2.2.2.2 H' locs' → W p l e R s m args below meth c H' locs' (q.2.1 - n0) (q.2.2.1 - m0) Q (F0 m (pc + 3) ls (rest))) : W p l e R s m args below meth c H locs (nx - n0) (ns - m0) Q (F0 m pc ls (.ref (ad a0) :: rest)) := by
  obtain ⟨q, h1, h2⟩ := g_ob h
  obtain ⟨h3, c1, c2, c3, c4⟩ := g_cc_of h1
  refine xa_cINV (As := []) (rest := rest) (n := 0) (qn := q.2.1) (qs := q.2.2.1) (b := a0) C B hRr (fun sz => w_X1_init l D cA ad _ _ hk nx ns gi gr a0 ht ⟨c1, c3⟩ q h3 sz) hq q184 q142 q185 rfl (by decide +kernel) ⟨c1, c2, c3, c4⟩ (fun u hp => ?_) ⟨hF, hN⟩ rfl hs hw hdg (fun u H9 locs9 hp hae B9 => ?_)
  · have hp := hp
    subst hp
    exact ⟨rfl, rfl⟩
  · have hp := hp
    subst hp
    exact kk _ u.1 h2 hae H9 locs9 B9
def f_X3_init (cN cS : Nat) (hk : HK) (nx ns : Nat) (gi : GI) (gr : GR) (a0 : Nat) : Option (HK × Nat × Nat × GI × GR) :=
  (g_new cN cS nx ns 0 15 15 hk gi gr).bind fun q1 =>
  (some (g_pr q1.2.2 a0 0 (some nx))).bind fun gr7 =>
  (g_new cN cS (nx + 1) (ns + 15) 0 15 15 q1.1 q1.2.1 gr7).bind fun q8 =>
  (some (g_pr q8.2.2 a0 1 (some (nx + 1)))).bind fun gr14 =>
  (g_new cN cS ((nx + 1) + 1) ((ns + 15) + 15) 0 5 5 q8.1 q8.2.1 gr14).bind fun q15 =>
  (some (g_pr q15.2.2 a0 2 (some ((nx + 1) + 1)))).bind fun gr21 =>
  (g_new cN cS (((nx + 1) + 1) + 1) (((ns + 15) + 15) + 5) 0 5 5 q15.1 q15.2.1 gr21).bind fun q22 =>
  (some (g_pr q22.2.2 a0 3 (some (((nx + 1) + 1) + 1)))).bind fun gr28 =>
  some (q22.1, (((nx + 1) + 1) + 1) + 1, (((ns + 15) + 15) + 5) + 5, q22.2.1, gr28)
set_option maxHeartbeats 400000 in
theorem w_X3_init (l : Launch) (D : va_G) (cA : Nat → ClassId) (ad : Nat → Nat) (cN cS : Nat) (hk : HK) (nx ns : Nat) (gi : GI) (gr : GR) (a0 : Nat) (ht : (hk a0).1 = 13) (hcap : nx ≤ cN ∧ ns ≤ cS) (r : HK × Nat × Nat × GI × GR) (h : f_X3_init cN cS hk nx ns gi gr a0 = some r) (sz : Nat) : Met l yX3_init (ws_ yX3_init cX3_init 1 (none)) ({ frames := 1, cells := cN - nx, slots := cS - ns, locals := 64 } : Room) (va_Pc [.ref (ad a0)] (XPre D cA ad hk nx gi gr sz)) (va_Qv (fun (u : XU) => u.2 = r) (XPostA D cA ad hk nx sz) (XA ad nx sz)) (cN - nx) (cS - ns) (XA ad nx sz) := by
  refine xa_stV (own := RX3) (P := (fun (u : XU) => u.2 = r)) (by decide +kernel) rfl (Nat.le_of_ble_eq_true rfl) hcap (fun p e s m args below meth c R Q A ls C hmn hF hN hRr B hret hL => ?_) sz
  have hx := C.1
  have hb := C.2.1
  have hL : lv_has ls 1 [(0, .ref (ad a0))] := hL
  unfold f_X3_init at h
  refine lv_aload_n hx hb dX3_init_0 rfl (lv_at hL 0 rfl) ?_
  refine W.objInit hx hb C.2.2.2.1 (C.2.2.2.2 _ q303) (C.2.2.2.2 _ q179) (C.2.2.2.2 _ q180) rfl (by rw [C.2.2.1]; exact hL.1) rfl dX3_init_1 (Nat.le_trans (Nat.le_of_ble_eq_true rfl) hF) (Nat.le_trans (Nat.le_of_ble_eq_true rfl) hN) ?_
  refine W.eq (g2 := F0 m 4 ls []) rfl ?_
  refine lv_aload_n hx hb dX3_init_4 rfl (lv_at hL 0 rfl) ?_
  refine lv_bipush (v := 15) hx hb dX3_init_5 (by decide) ?_
  refine xa_newa (t := 0) (atype := .int) (ty := .int) C B hRr (by decide) rfl rfl (fun _ h => h) rfl q250 (by decide) rfl (Nat.le_of_ble_eq_true rfl) h dX3_init_7 (fun q1 ad2 h hae3 hp4 H B => ?_)
  rw [← (hae3 a0 (by rw [ht]; decide)).1] at hL
  rw [← (hae3 a0 (by rw [ht]; decide)).1]
  have hp6 : (q1.1 a0).1 = 13 := by rw [(hae3 a0 (by rw [ht]; decide)).2]; exact ht
  have hp5 : (q1.1 nx).1 = 0 := by rw [hp4]
  refine xx_prF (ci := 3) (k := 0) C B.1 xc_3 hp6 (by decide) (by rw [hp5]; decide) (Nat.le_of_ble_eq_true rfl) rfl q304 (fun _ h => h) rfl hmn rfl rfl rfl h dX3_init_9 (fun gr7 h H locs B2 => ?_)
  have B := And.intro B2 B.2
  refine lv_aload_n hx hb dX3_init_12 rfl (lv_at hL 0 rfl) ?_
  refine lv_bipush (v := 15) hx hb dX3_init_13 (by decide) ?_
  refine xa_newa (t := 0) (atype := .int) (ty := .int) C B hRr (by decide) rfl rfl (fun _ h => h) rfl q250 (by decide) rfl (Nat.le_of_ble_eq_true rfl) h dX3_init_15 (fun q8 ad9 h hae10 hp11 H B => ?_)
  rw [← (hae10 a0 (by rw [hp6]; decide)).1] at hL
  rw [← (hae10 a0 (by rw [hp6]; decide)).1]
  have hp13 : (q8.1 a0).1 = 13 := by rw [(hae10 a0 (by rw [hp6]; decide)).2]; exact hp6
  have hp12 : (q8.1 (nx + 1)).1 = 0 := by rw [hp11]
  refine xx_prF (ci := 3) (k := 1) C B.1 xc_3 hp13 (by decide) (by rw [hp12]; decide) (Nat.le_of_ble_eq_true rfl) rfl q306 (fun _ h => h) rfl hmn rfl rfl rfl h dX3_init_17 (fun gr14 h H locs B2 => ?_)
  have B := And.intro B2 B.2
  refine lv_aload_n hx hb dX3_init_20 rfl (lv_at hL 0 rfl) ?_
  refine lv_iconst (v := 5) hx hb dX3_init_21 (by decide) ?_
  refine xa_newa (t := 0) (atype := .int) (ty := .int) C B hRr (by decide) rfl rfl (fun _ h => h) rfl q250 (by decide) rfl (Nat.le_of_ble_eq_true rfl) h dX3_init_22 (fun q15 ad16 h hae17 hp18 H B => ?_)
  rw [← (hae17 a0 (by rw [hp13]; decide)).1] at hL
  rw [← (hae17 a0 (by rw [hp13]; decide)).1]
  have hp20 : (q15.1 a0).1 = 13 := by rw [(hae17 a0 (by rw [hp13]; decide)).2]; exact hp13
  have hp19 : (q15.1 ((nx + 1) + 1)).1 = 0 := by rw [hp18]
  refine xx_prF (ci := 3) (k := 2) C B.1 xc_3 hp20 (by decide) (by rw [hp19]; decide) (Nat.le_of_ble_eq_true rfl) rfl q308 (fun _ h => h) rfl hmn rfl rfl rfl h dX3_init_24 (fun gr21 h H locs B2 => ?_)
  have B := And.intro B2 B.2
  refine lv_aload_n hx hb dX3_init_27 rfl (lv_at hL 0 rfl) ?_
  refine lv_iconst (v := 5) hx hb dX3_init_28 (by decide) ?_
  refine xa_newa (t := 0) (atype := .int) (ty := .int) C B hRr (by decide) rfl rfl (fun _ h => h) rfl q250 (by decide) rfl (Nat.le_of_ble_eq_true rfl) h dX3_init_29 (fun q22 ad23 h hae24 hp25 H B => ?_)
  rw [← (hae24 a0 (by rw [hp20]; decide)).1] at hL
  rw [← (hae24 a0 (by rw [hp20]; decide)).1]
  have hp27 : (q22.1 a0).1 = 13 := by rw [(hae24 a0 (by rw [hp20]; decide)).2]; exact hp20
  have hp26 : (q22.1 (((nx + 1) + 1) + 1)).1 = 0 := by rw [hp25]
  refine xx_prF (ci := 3) (k := 3) C B.1 xc_3 hp27 (by decide) (by rw [hp26]; decide) (Nat.le_of_ble_eq_true rfl) rfl q310 (fun _ h => h) rfl hmn rfl rfl rfl h dX3_init_31 (fun gr28 h H locs B2 => ?_)
  have B := And.intro B2 B.2
  exact hret (ad23, q22.1, (((nx + 1) + 1) + 1) + 1, (((ns + 15) + 15) + 5) + 5, q22.2.1, gr28) _ _ _ _ (Option.some.inj h) B dX3_init_34
theorem kn_X3_init {p : Program} {l : Launch} {e : Env} {R : Room} {s : State} {m : MethodId} {args : Array Value} {below : List Frame} {meth : Method} {c : Code} {H : Heap} {locs : List Loc} {Q : State → Prop} {pc : Nat} {ls : Array Slot} {rest : List Value} {cc : ByteArray} {nL : Nat} {D : va_G} {cA : Nat → ClassId} {a9 : Nat → Nat} {h9 : HK} {n0 m0 cN cS : Nat} {ad : Nat → Nat} {hk : HK} {nx ns : Nat} {A : Nat → Prop} {gi : GI} {gr : GR} {α : Type} {r : α} {own : String} {idx : Nat} {a0 : Nat} {ff : (HK × Nat × Nat × GI × GR) → Option α} (ht : (hk a0).1 = 13) (C : CallFix p m c cc nL s args lw_all own) (B : XBA D cA a9 h9 n0 m0 cN cS ad hk nx ns A s gi gr H locs) (hRr : R.cells = cN - n0 ∧ R.slots = cS - m0) (hq : Cond.methodLinkNest own idx yX3_init "WeatherWages" ∈ nwX) (hF : 2 ≤ R.frames) (hN : 84 ≤ R.locals) (hs : ls.size = nL) (hw : (rest.map fun v => v.category).sum ≤ 8) (h : (g_cc (fun c1 c2 => f_X3_init c1 c2 hk nx ns gi gr a0) (fun q : HK × Nat × Nat × GI × GR => q.2.1) (fun q : HK × Nat × Nat × GI × GR => q.2.2.1) cN cS nx ns).bind ff = some r) (hdg : decode cc pc = .ok (.invokespecial idx, 3)) (kk : ∀ (q : HK × Nat × Nat × GI × GR) (ad' : Nat → Nat), ff q = some r → (∀ i, (hk i).1 < 1000 → ad' i = ad i ∧ q.1 i = hk i) → ∀ (H' : Heap) (locs' : List Loc), XBA D cA a9 h9 n0 m0 cN cS ad' q.1 q.2.1 q.2.2.1 A s q.2.2.2.1 q.2.2.2.2 H' locs' → W p l e R s m args below meth c H' locs' (q.2.1 - n0) (q.2.2.1 - m0) Q (F0 m (pc + 3) ls (rest))) : W p l e R s m args below meth c H locs (nx - n0) (ns - m0) Q (F0 m pc ls (.ref (ad a0) :: rest)) := by
  obtain ⟨q, h1, h2⟩ := g_ob h
  obtain ⟨h3, c1, c2, c3, c4⟩ := g_cc_of h1
  refine xa_cINV (As := []) (rest := rest) (n := 0) (qn := q.2.1) (qs := q.2.2.1) (b := a0) C B hRr (fun sz => w_X3_init l D cA ad _ _ hk nx ns gi gr a0 ht ⟨c1, c3⟩ q h3 sz) hq q301 q147 q302 rfl (by decide +kernel) ⟨c1, c2, c3, c4⟩ (fun u hp => ?_) ⟨hF, hN⟩ rfl hs hw hdg (fun u H9 locs9 hp hae B9 => ?_)
  · have hp := hp
    subst hp
    exact ⟨rfl, rfl⟩
  · have hp := hp
    subst hp
    exact kk _ u.1 h2 hae H9 locs9 B9
def f_X0_init_l181 (cN cS : Nat) (a0 : Nat) (x1l181 : Int32) (hkl181 : HK) (nxl181 : Nat) (nsl181 : Nat) (gil181 : GI) (grl181 : GR) : Option ((Int32 × HK × Nat × Nat × GI × GR) ⊕ (HK × Nat × Nat × GI × GR)) :=
  if 40 ≤ x1l181 then
  (some (.inr (hkl181, nxl181, nsl181, gil181, grl181)))
  else
  ((grl181 a0 10).bind fun v157 =>
  (g_new cN cS nxl181 nsl181 13 0 6 hkl181 gil181 grl181).bind fun q159 =>
  (g_cc (fun c1 c2 => f_X3_init c1 c2 q159.1 (nxl181 + 1) (nsl181 + 6) q159.2.1 q159.2.2 nxl181) (fun q : HK × Nat × Nat × GI × GR => q.2.1) (fun q : HK × Nat × Nat × GI × GR => q.2.2.1) cN cS (nxl181 + 1) (nsl181 + 6)).bind fun q165 =>
  (g_is q165.1 v157 5).bind fun _ =>
  (g_str q165.2.2.2.2 v157 (q165.1 v157).2 x1l181 (some nxl181)).bind fun gr172 =>
  some (.inl (x1l181 + 1, q165.1, q165.2.1, q165.2.2.1, q165.2.2.2.1, gr172)))
def f_X0_init_l208 (cN cS : Nat) (a0 : Nat) (x1l208 : Int32) (hkl208 : HK) (nxl208 : Nat) (nsl208 : Nat) (gil208 : GI) (grl208 : GR) : Option ((Int32 × HK × Nat × Nat × GI × GR) ⊕ (HK × Nat × Nat × GI × GR)) :=
  if 3 ≤ x1l208 then
  (some (.inr (hkl208, nxl208, nsl208, gil208, grl208)))
  else
  ((grl208 a0 28).bind fun v175 =>
  (g_new cN cS nxl208 nsl208 13 0 6 hkl208 gil208 grl208).bind fun q177 =>
  (g_cc (fun c1 c2 => f_X3_init c1 c2 q177.1 (nxl208 + 1) (nsl208 + 6) q177.2.1 q177.2.2 nxl208) (fun q : HK × Nat × Nat × GI × GR => q.2.1) (fun q : HK × Nat × Nat × GI × GR => q.2.2.1) cN cS (nxl208 + 1) (nsl208 + 6)).bind fun q183 =>
  (g_is q183.1 v175 5).bind fun _ =>
  (g_str q183.2.2.2.2 v175 (q183.1 v175).2 x1l208 (some nxl208)).bind fun gr190 =>
  some (.inl (x1l208 + 1, q183.1, q183.2.1, q183.2.2.1, q183.2.2.2.1, gr190)))
def f_X0_init_x208 (cN cS : Nat) (a0 : Nat) (hke208 : HK) (nxe208 : Nat) (nse208 : Nat) (gie208 : GI) (gre208 : GR) : Option (HK × Nat × Nat × GI × GR) :=
  some (hke208, nxe208, nse208, gie208, gre208)
def f_X0_init_x181 (cN cS : Nat) (a0 : Nat) (hke181 : HK) (nxe181 : Nat) (nse181 : Nat) (gie181 : GI) (gre181 : GR) : Option (HK × Nat × Nat × GI × GR) :=
  (g_loop g_K (fun (s : Int32 × HK × Nat × Nat × GI × GR) => f_X0_init_l208 cN cS a0 s.1 s.2.1 s.2.2.1 s.2.2.2.1 s.2.2.2.2.1 s.2.2.2.2.2) (0, hke181, nxe181, nse181, gie181, gre181)).bind fun E208 => f_X0_init_x208 cN cS a0 E208.1 E208.2.1 E208.2.2.1 E208.2.2.2.1 E208.2.2.2.2
def f_X0_init (cN cS : Nat) (hk : HK) (nx ns : Nat) (gi : GI) (gr : GR) (a0 : Nat) : Option (HK × Nat × Nat × GI × GR) :=
  (g_new cN cS nx ns 1 1600 1600 hk gi gr).bind fun q1 =>
  (some (g_pr q1.2.2 a0 0 (some nx))).bind fun gr7 =>
  (some (g_pi q1.2.1 a0 3 ((-1)))).bind fun gi8 =>
  (g_new cN cS (nx + 1) (ns + 1600) 11 0 10 q1.1 gi8 gr7).bind fun q9 =>
  (g_cc (fun c1 c2 => f_X1_init c1 c2 q9.1 ((nx + 1) + 1) ((ns + 1600) + 10) q9.2.1 q9.2.2 (nx + 1)) (fun q : HK × Nat × Nat × GI × GR => q.2.1) (fun q : HK × Nat × Nat × GI × GR => q.2.2.1) cN cS ((nx + 1) + 1) ((ns + 1600) + 10)).bind fun q14 =>
  (some (g_pr q14.2.2.2.2 a0 4 (some (nx + 1)))).bind fun gr19 =>
  (g_new cN cS q14.2.1 q14.2.2.1 13 0 6 q14.1 q14.2.2.2.1 gr19).bind fun q20 =>
  (g_cc (fun c1 c2 => f_X3_init c1 c2 q20.1 (q14.2.1 + 1) (q14.2.2.1 + 6) q20.2.1 q20.2.2 q14.2.1) (fun q : HK × Nat × Nat × GI × GR => q.2.1) (fun q : HK × Nat × Nat × GI × GR => q.2.2.1) cN cS (q14.2.1 + 1) (q14.2.2.1 + 6)).bind fun q25 =>
  (q25.2.2.2.2 a0 4).bind fun v30 =>
  (f_X3_begin q25.1 q25.2.2.2.1 q25.2.2.2.2 q14.2.1 v30).bind fun q32 =>
  (g_ok q25.1 q32.1).bind fun _ =>
  (some (g_pr q25.2.2.2.2 a0 5 (some q32.1))).bind fun gr33 =>
  (g_new cN cS q25.2.1 q25.2.2.1 13 0 6 q25.1 q32.2 gr33).bind fun q35 =>
  (g_cc (fun c1 c2 => f_X3_init c1 c2 q35.1 (q25.2.1 + 1) (q25.2.2.1 + 6) q35.2.1 q35.2.2 q25.2.1) (fun q : HK × Nat × Nat × GI × GR => q.2.1) (fun q : HK × Nat × Nat × GI × GR => q.2.2.1) cN cS (q25.2.1 + 1) (q25.2.2.1 + 6)).bind fun q40 =>
  (some (g_pr q40.2.2.2.2 a0 6 (some q25.2.1))).bind fun gr45 =>
  (g_new cN cS q40.2.1 q40.2.2.1 13 0 6 q40.1 q40.2.2.2.1 gr45).bind fun q46 =>
  (g_cc (fun c1 c2 => f_X3_init c1 c2 q46.1 (q40.2.1 + 1) (q40.2.2.1 + 6) q46.2.1 q46.2.2 q40.2.1) (fun q : HK × Nat × Nat × GI × GR => q.2.1) (fun q : HK × Nat × Nat × GI × GR => q.2.2.1) cN cS (q40.2.1 + 1) (q40.2.2.1 + 6)).bind fun q51 =>
  (some (g_pr q51.2.2.2.2 a0 7 (some q40.2.1))).bind fun gr56 =>
  (g_new cN cS q51.2.1 q51.2.2.1 13 0 6 q51.1 q51.2.2.2.1 gr56).bind fun q57 =>
  (g_cc (fun c1 c2 => f_X3_init c1 c2 q57.1 (q51.2.1 + 1) (q51.2.2.1 + 6) q57.2.1 q57.2.2 q51.2.1) (fun q : HK × Nat × Nat × GI × GR => q.2.1) (fun q : HK × Nat × Nat × GI × GR => q.2.2.1) cN cS (q51.2.1 + 1) (q51.2.2.1 + 6)).bind fun q62 =>
  (some (g_pr q62.2.2.2.2 a0 8 (some q51.2.1))).bind fun gr67 =>
  (g_new cN cS q62.2.1 q62.2.2.1 5 40 40 q62.1 q62.2.2.2.1 gr67).bind fun q68 =>
  (some (g_pr q68.2.2 a0 10 (some q62.2.1))).bind fun gr74 =>
  (g_new cN cS (q62.2.1 + 1) (q62.2.2.1 + 40) 0 3 3 q68.1 q68.2.1 gr74).bind fun q75 =>
  (some (g_pr q75.2.2 a0 13 (some (q62.2.1 + 1)))).bind fun gr81 =>
  (g_new cN cS ((q62.2.1 + 1) + 1) ((q62.2.2.1 + 40) + 3) 0 3 3 q75.1 q75.2.1 gr81).bind fun q82 =>
  (some (g_pr q82.2.2 a0 14 (some ((q62.2.1 + 1) + 1)))).bind fun gr88 =>
  (g_new cN cS (((q62.2.1 + 1) + 1) + 1) (((q62.2.2.1 + 40) + 3) + 3) 0 6 6 q82.1 q82.2.1 gr88).bind fun q89 =>
  (some (g_pr q89.2.2 a0 15 (some (((q62.2.1 + 1) + 1) + 1)))).bind fun gr95 =>
  (g_new cN cS ((((q62.2.1 + 1) + 1) + 1) + 1) ((((q62.2.2.1 + 40) + 3) + 3) + 6) 0 6 6 q89.1 q89.2.1 gr95).bind fun q96 =>
  (some (g_pr q96.2.2 a0 19 (some ((((q62.2.1 + 1) + 1) + 1) + 1)))).bind fun gr102 =>
  (g_new cN cS (((((q62.2.1 + 1) + 1) + 1) + 1) + 1) (((((q62.2.2.1 + 40) + 3) + 3) + 6) + 6) 0 6 6 q96.1 q96.2.1 gr102).bind fun q103 =>
  (some (g_pr q103.2.2 a0 20 (some (((((q62.2.1 + 1) + 1) + 1) + 1) + 1)))).bind fun gr109 =>
  (g_new cN cS ((((((q62.2.1 + 1) + 1) + 1) + 1) + 1) + 1) ((((((q62.2.2.1 + 40) + 3) + 3) + 6) + 6) + 6) 0 15 15 q103.1 q103.2.1 gr109).bind fun q110 =>
  (some (g_pr q110.2.2 a0 21 (some ((((((q62.2.1 + 1) + 1) + 1) + 1) + 1) + 1)))).bind fun gr116 =>
  (g_new cN cS (((((((q62.2.1 + 1) + 1) + 1) + 1) + 1) + 1) + 1) (((((((q62.2.2.1 + 40) + 3) + 3) + 6) + 6) + 6) + 15) 22 0 3 q110.1 q110.2.1 gr116).bind fun q117 =>
  (g_cc (fun c1 c2 => f_J2_init c1 c2 q117.1 ((((((((q62.2.1 + 1) + 1) + 1) + 1) + 1) + 1) + 1) + 1) ((((((((q62.2.2.1 + 40) + 3) + 3) + 6) + 6) + 6) + 15) + 3) q117.2.1 q117.2.2 (((((((q62.2.1 + 1) + 1) + 1) + 1) + 1) + 1) + 1) 2) (fun q : HK × Nat × Nat × GI × GR => q.2.1) (fun q : HK × Nat × Nat × GI × GR => q.2.2.1) cN cS ((((((((q62.2.1 + 1) + 1) + 1) + 1) + 1) + 1) + 1) + 1) ((((((((q62.2.2.1 + 40) + 3) + 3) + 6) + 6) + 6) + 15) + 3)).bind fun q122 =>
  (some (g_pr q122.2.2.2.2 a0 25 (some (((((((q62.2.1 + 1) + 1) + 1) + 1) + 1) + 1) + 1)))).bind fun gr127 =>
  (g_new cN cS q122.2.1 q122.2.2.1 0 5 5 q122.1 q122.2.2.2.1 gr127).bind fun q128 =>
  (some (g_pr q128.2.2 a0 26 (some q122.2.1))).bind fun gr134 =>
  (g_multi cN cS (q122.2.1 + 1) (q122.2.2.1 + 5) 5 5 q128.1 q128.2.1 gr134).bind fun q135 =>
  (some (g_pr q135.2.2 a0 27 (some (q122.2.1 + 1)))).bind fun gr141 =>
  (g_new cN cS ((q122.2.1 + 1) + (1 + 5)) ((q122.2.2.1 + 5) + (5 + 5 * 5)) 5 3 3 q135.1 q135.2.1 gr141).bind fun q142 =>
  (some (g_pr q142.2.2 a0 28 (some ((q122.2.1 + 1) + (1 + 5))))).bind fun gr148 =>
  (g_new cN cS (((q122.2.1 + 1) + (1 + 5)) + 1) (((q122.2.2.1 + 5) + (5 + 5 * 5)) + 3) 2 3 3 q142.1 q142.2.1 gr148).bind fun q149 =>
  (some (g_pr q149.2.2 a0 29 (some (((q122.2.1 + 1) + (1 + 5)) + 1)))).bind fun gr155 =>
  (g_loop g_K (fun (s : Int32 × HK × Nat × Nat × GI × GR) => f_X0_init_l181 cN cS a0 s.1 s.2.1 s.2.2.1 s.2.2.2.1 s.2.2.2.2.1 s.2.2.2.2.2) (0, q149.1, (((q122.2.1 + 1) + (1 + 5)) + 1) + 1, (((q122.2.2.1 + 5) + (5 + 5 * 5)) + 3) + 3, q149.2.1, gr155)).bind fun E181 => f_X0_init_x181 cN cS a0 E181.1 E181.2.1 E181.2.2.1 E181.2.2.2.1 E181.2.2.2.2
set_option maxHeartbeats 400000 in
theorem w_X0_init (l : Launch) (D : va_G) (cA : Nat → ClassId) (ad : Nat → Nat) (cN cS : Nat) (hk : HK) (nx ns : Nat) (gi : GI) (gr : GR) (a0 : Nat) (ht : (hk a0).1 = 10) (hcap : nx ≤ cN ∧ ns ≤ cS) (r : HK × Nat × Nat × GI × GR) (h : f_X0_init cN cS hk nx ns gi gr a0 = some r) (sz : Nat) : Met l yX0_init (ws_ yX0_init cX0_init 2 (none)) ({ frames := 5, cells := cN - nx, slots := cS - ns, locals := 151 } : Room) (va_Pc [.ref (ad a0)] (XPre D cA ad hk nx gi gr sz)) (va_Qv (fun (u : XU) => u.2 = r) (XPostA D cA ad hk nx sz) (XA ad nx sz)) (cN - nx) (cS - ns) (XA ad nx sz) := by
  refine xa_stV (own := RX0) (P := (fun (u : XU) => u.2 = r)) (by decide +kernel) rfl (Nat.le_of_ble_eq_true rfl) hcap (fun p e s m args below meth c R Q A ls C hmn hF hN hRr B hret hL => ?_) sz
  have hx := C.1
  have hb := C.2.1
  have hL : lv_has ls 2 [(0, .ref (ad a0))] := hL
  unfold f_X0_init at h
  refine lv_aload_n hx hb dX0_init_0 rfl (lv_at hL 0 rfl) ?_
  refine W.objInit hx hb C.2.2.2.1 (C.2.2.2.2 _ q178) (C.2.2.2.2 _ q179) (C.2.2.2.2 _ q180) rfl (by rw [C.2.2.1]; exact hL.1) rfl dX0_init_1 (Nat.le_trans (Nat.le_of_ble_eq_true rfl) hF) (Nat.le_trans (Nat.le_of_ble_eq_true rfl) hN) ?_
  refine W.eq (g2 := F0 m 4 ls []) rfl ?_
  refine lv_aload_n hx hb dX0_init_4 rfl (lv_at hL 0 rfl) ?_
  refine lv_sipush (v := 1600) hx hb dX0_init_5 (by decide) ?_
  refine xa_newa (t := 1) (atype := .byte) (ty := .byte) C B hRr (by decide) rfl rfl (fun _ h => h) rfl q218 (by decide) rfl (Nat.le_of_ble_eq_true rfl) h dX0_init_8 (fun q1 ad2 h hae3 hp4 H B => ?_)
  rw [← (hae3 a0 (by rw [ht]; decide)).1] at hL
  rw [← (hae3 a0 (by rw [ht]; decide)).1]
  have hp6 : (q1.1 a0).1 = 10 := by rw [(hae3 a0 (by rw [ht]; decide)).2]; exact ht
  have hp5 : (q1.1 nx).1 = 1 := by rw [hp4]
  refine xx_prF (ci := 0) (k := 0) C B.1 xc_0 hp6 (by decide) (by rw [hp5]; decide) (Nat.le_of_ble_eq_true rfl) rfl q357 (fun _ h => h) rfl hmn rfl rfl rfl h dX0_init_10 (fun gr7 h H locs B2 => ?_)
  have B := And.intro B2 B.2
  refine lv_aload_n hx hb dX0_init_13 rfl (lv_at hL 0 rfl) ?_
  refine lv_iconst (v := (-1)) hx hb dX0_init_14 (by decide) ?_
  refine xx_pi (ci := 0) (k := 3) C B.1 xc_0 hp6 (by decide) (Nat.le_of_ble_eq_true rfl) rfl q362 (fun _ h => h) rfl rfl rfl h dX0_init_15 (fun gi8 h H locs B2 => ?_)
  have B := And.intro B2 B.2
  refine lv_aload_n hx hb dX0_init_18 rfl (lv_at hL 0 rfl) ?_
  refine xa_new C B hRr xc_1 (by decide) xd_1 q181 q182 q142 h dX0_init_19 (fun q9 ad10 h hae11 hp12 H B => ?_)
  rw [← (hae11 a0 (by rw [hp6]; decide)).1] at hL
  rw [← (hae11 a0 (by rw [hp6]; decide)).1]
  have hp13 : (q9.1 a0).1 = 10 := by rw [(hae11 a0 (by rw [hp6]; decide)).2]; exact hp6
  refine lv_dup hx hb dX0_init_22 rfl ?_
  refine kn_X1_init hp12 C B hRr nw_q183 (Nat.le_trans (Nat.le_of_ble_eq_true rfl) hF) (Nat.le_trans (Nat.le_of_ble_eq_true rfl) hN) hL.1 (Nat.le_of_ble_eq_true rfl) h dX0_init_23 (fun q14 ad15 h hae16 H locs B => ?_)
  rw [← (hae16 a0 (by rw [hp13]; decide)).1] at hL
  rw [← (hae16 a0 (by rw [hp13]; decide)).1]
  have hp17 : (q14.1 a0).1 = 10 := by rw [(hae16 a0 (by rw [hp13]; decide)).2]; exact hp13
  rw [← (hae16 (nx + 1) (by rw [hp12]; decide)).1]
  have hp18 : (q14.1 (nx + 1)).1 = 11 := by rw [(hae16 (nx + 1) (by rw [hp12]; decide)).2]; exact hp12
  refine xx_pr (ci := 0) (k := 4) C B.1 xc_0 hp17 (by decide) (by rw [hp18]; decide) (Nat.le_of_ble_eq_true rfl) rfl q363 (fun _ h => h) rfl rfl rfl h dX0_init_26 (fun gr19 h H locs B2 => ?_)
  have B := And.intro B2 B.2
  refine lv_aload_n hx hb dX0_init_29 rfl (lv_at hL 0 rfl) ?_
  refine xa_new C B hRr xc_3 (by decide) xd_3 q298 q299 q147 h dX0_init_30 (fun q20 ad21 h hae22 hp23 H B => ?_)
  rw [← (hae22 a0 (by rw [hp17]; decide)).1] at hL
  rw [← (hae22 a0 (by rw [hp17]; decide)).1]
  have hp24 : (q20.1 a0).1 = 10 := by rw [(hae22 a0 (by rw [hp17]; decide)).2]; exact hp17
  refine lv_dup hx hb dX0_init_33 rfl ?_
  refine kn_X3_init hp23 C B hRr nw_q300 (Nat.le_trans (Nat.le_of_ble_eq_true rfl) hF) (Nat.le_trans (Nat.le_of_ble_eq_true rfl) hN) hL.1 (Nat.le_of_ble_eq_true rfl) h dX0_init_34 (fun q25 ad26 h hae27 H locs B => ?_)
  rw [← (hae27 a0 (by rw [hp24]; decide)).1] at hL
  rw [← (hae27 a0 (by rw [hp24]; decide)).1]
  have hp28 : (q25.1 a0).1 = 10 := by rw [(hae27 a0 (by rw [hp24]; decide)).2]; exact hp24
  rw [← (hae27 q14.2.1 (by rw [hp23]; decide)).1]
  have hp29 : (q25.1 q14.2.1).1 = 13 := by rw [(hae27 q14.2.1 (by rw [hp23]; decide)).2]; exact hp23
  refine lv_aload_n hx hb dX0_init_37 rfl (lv_at hL 0 rfl) ?_
  refine xx_gr (ci := 0) (k := 4) C B.1 xc_0 hp28 (by decide) (Nat.le_of_ble_eq_true rfl) rfl q363 (fun _ h => h) h dX0_init_38 (fun v30 ok31 h => ?_)
  refine k_X3_begin hp29 C B.1 q329 (Nat.le_trans (Nat.le_of_ble_eq_true rfl) hF) (Nat.le_trans (Nat.le_of_ble_eq_true rfl) hN) hL.1 (Nat.le_of_ble_eq_true rfl) (xa_z hRr B) h dX0_init_41 (fun q32 h H locs B2 => ?_)
  have B := And.intro B2 B.2
  refine xx_ok h (fun ok34 h => ?_)
  refine xx_prF (ci := 0) (k := 5) C B.1 xc_0 hp28 (by decide) ok34 (Nat.le_of_ble_eq_true rfl) rfl q364 (fun _ h => h) rfl hmn rfl rfl rfl h dX0_init_44 (fun gr33 h H locs B2 => ?_)
  have B := And.intro B2 B.2
  refine lv_aload_n hx hb dX0_init_47 rfl (lv_at hL 0 rfl) ?_
  refine xa_new C B hRr xc_3 (by decide) xd_3 q298 q299 q147 h dX0_init_48 (fun q35 ad36 h hae37 hp38 H B => ?_)
  rw [← (hae37 a0 (by rw [hp28]; decide)).1] at hL
  rw [← (hae37 a0 (by rw [hp28]; decide)).1]
  have hp39 : (q35.1 a0).1 = 10 := by rw [(hae37 a0 (by rw [hp28]; decide)).2]; exact hp28
  refine lv_dup hx hb dX0_init_51 rfl ?_
  refine kn_X3_init hp38 C B hRr nw_q300 (Nat.le_trans (Nat.le_of_ble_eq_true rfl) hF) (Nat.le_trans (Nat.le_of_ble_eq_true rfl) hN) hL.1 (Nat.le_of_ble_eq_true rfl) h dX0_init_52 (fun q40 ad41 h hae42 H locs B => ?_)
  rw [← (hae42 a0 (by rw [hp39]; decide)).1] at hL
  rw [← (hae42 a0 (by rw [hp39]; decide)).1]
  have hp43 : (q40.1 a0).1 = 10 := by rw [(hae42 a0 (by rw [hp39]; decide)).2]; exact hp39
  rw [← (hae42 q25.2.1 (by rw [hp38]; decide)).1]
  have hp44 : (q40.1 q25.2.1).1 = 13 := by rw [(hae42 q25.2.1 (by rw [hp38]; decide)).2]; exact hp38
  refine xx_prF (ci := 0) (k := 6) C B.1 xc_0 hp43 (by decide) (by rw [hp44]; decide) (Nat.le_of_ble_eq_true rfl) rfl q365 (fun _ h => h) rfl hmn rfl rfl rfl h dX0_init_55 (fun gr45 h H locs B2 => ?_)
  have B := And.intro B2 B.2
  refine lv_aload_n hx hb dX0_init_58 rfl (lv_at hL 0 rfl) ?_
  refine xa_new C B hRr xc_3 (by decide) xd_3 q298 q299 q147 h dX0_init_59 (fun q46 ad47 h hae48 hp49 H B => ?_)
  rw [← (hae48 a0 (by rw [hp43]; decide)).1] at hL
  rw [← (hae48 a0 (by rw [hp43]; decide)).1]
  have hp50 : (q46.1 a0).1 = 10 := by rw [(hae48 a0 (by rw [hp43]; decide)).2]; exact hp43
  refine lv_dup hx hb dX0_init_62 rfl ?_
  refine kn_X3_init hp49 C B hRr nw_q300 (Nat.le_trans (Nat.le_of_ble_eq_true rfl) hF) (Nat.le_trans (Nat.le_of_ble_eq_true rfl) hN) hL.1 (Nat.le_of_ble_eq_true rfl) h dX0_init_63 (fun q51 ad52 h hae53 H locs B => ?_)
  rw [← (hae53 a0 (by rw [hp50]; decide)).1] at hL
  rw [← (hae53 a0 (by rw [hp50]; decide)).1]
  have hp54 : (q51.1 a0).1 = 10 := by rw [(hae53 a0 (by rw [hp50]; decide)).2]; exact hp50
  rw [← (hae53 q40.2.1 (by rw [hp49]; decide)).1]
  have hp55 : (q51.1 q40.2.1).1 = 13 := by rw [(hae53 q40.2.1 (by rw [hp49]; decide)).2]; exact hp49
  refine xx_prF (ci := 0) (k := 7) C B.1 xc_0 hp54 (by decide) (by rw [hp55]; decide) (Nat.le_of_ble_eq_true rfl) rfl q366 (fun _ h => h) rfl hmn rfl rfl rfl h dX0_init_66 (fun gr56 h H locs B2 => ?_)
  have B := And.intro B2 B.2
  refine lv_aload_n hx hb dX0_init_69 rfl (lv_at hL 0 rfl) ?_
  refine xa_new C B hRr xc_3 (by decide) xd_3 q298 q299 q147 h dX0_init_70 (fun q57 ad58 h hae59 hp60 H B => ?_)
  rw [← (hae59 a0 (by rw [hp54]; decide)).1] at hL
  rw [← (hae59 a0 (by rw [hp54]; decide)).1]
  have hp61 : (q57.1 a0).1 = 10 := by rw [(hae59 a0 (by rw [hp54]; decide)).2]; exact hp54
  refine lv_dup hx hb dX0_init_73 rfl ?_
  refine kn_X3_init hp60 C B hRr nw_q300 (Nat.le_trans (Nat.le_of_ble_eq_true rfl) hF) (Nat.le_trans (Nat.le_of_ble_eq_true rfl) hN) hL.1 (Nat.le_of_ble_eq_true rfl) h dX0_init_74 (fun q62 ad63 h hae64 H locs B => ?_)
  rw [← (hae64 a0 (by rw [hp61]; decide)).1] at hL
  rw [← (hae64 a0 (by rw [hp61]; decide)).1]
  have hp65 : (q62.1 a0).1 = 10 := by rw [(hae64 a0 (by rw [hp61]; decide)).2]; exact hp61
  rw [← (hae64 q51.2.1 (by rw [hp60]; decide)).1]
  have hp66 : (q62.1 q51.2.1).1 = 13 := by rw [(hae64 q51.2.1 (by rw [hp60]; decide)).2]; exact hp60
  refine xx_prF (ci := 0) (k := 8) C B.1 xc_0 hp65 (by decide) (by rw [hp66]; decide) (Nat.le_of_ble_eq_true rfl) rfl q367 (fun _ h => h) rfl hmn rfl rfl rfl h dX0_init_77 (fun gr67 h H locs B2 => ?_)
  have B := And.intro B2 B.2
  refine lv_aload_n hx hb dX0_init_80 rfl (lv_at hL 0 rfl) ?_
  refine lv_bipush (v := 40) hx hb dX0_init_81 (by decide) ?_
  refine xa_newq (t := 5) (E := "WeatherWages$Plots") C B hRr (by decide) rfl q298 B.1.2.2.2.2.2.2.1.2.1 (by decide) rfl (Nat.le_of_ble_eq_true rfl) h dX0_init_83 (fun q68 ad69 h hae70 hp71 H B => ?_)
  rw [← (hae70 a0 (by rw [hp65]; decide)).1] at hL
  rw [← (hae70 a0 (by rw [hp65]; decide)).1]
  have hp73 : (q68.1 a0).1 = 10 := by rw [(hae70 a0 (by rw [hp65]; decide)).2]; exact hp65
  have hp72 : (q68.1 q62.2.1).1 = 5 := by rw [hp71]
  refine xx_prF (ci := 0) (k := 10) C B.1 xc_0 hp73 (by decide) (by rw [hp72]; decide) (Nat.le_of_ble_eq_true rfl) rfl q370 (fun _ h => h) rfl hmn rfl rfl rfl h dX0_init_86 (fun gr74 h H locs B2 => ?_)
  have B := And.intro B2 B.2
  refine lv_aload_n hx hb dX0_init_89 rfl (lv_at hL 0 rfl) ?_
  refine lv_iconst (v := 3) hx hb dX0_init_90 (by decide) ?_
  refine xa_newa (t := 0) (atype := .int) (ty := .int) C B hRr (by decide) rfl rfl (fun _ h => h) rfl q250 (by decide) rfl (Nat.le_of_ble_eq_true rfl) h dX0_init_91 (fun q75 ad76 h hae77 hp78 H B => ?_)
  rw [← (hae77 a0 (by rw [hp73]; decide)).1] at hL
  rw [← (hae77 a0 (by rw [hp73]; decide)).1]
  have hp80 : (q75.1 a0).1 = 10 := by rw [(hae77 a0 (by rw [hp73]; decide)).2]; exact hp73
  have hp79 : (q75.1 (q62.2.1 + 1)).1 = 0 := by rw [hp78]
  refine xx_prF (ci := 0) (k := 13) C B.1 xc_0 hp80 (by decide) (by rw [hp79]; decide) (Nat.le_of_ble_eq_true rfl) rfl q373 (fun _ h => h) rfl hmn rfl rfl rfl h dX0_init_93 (fun gr81 h H locs B2 => ?_)
  have B := And.intro B2 B.2
  refine lv_aload_n hx hb dX0_init_96 rfl (lv_at hL 0 rfl) ?_
  refine lv_iconst (v := 3) hx hb dX0_init_97 (by decide) ?_
  refine xa_newa (t := 0) (atype := .int) (ty := .int) C B hRr (by decide) rfl rfl (fun _ h => h) rfl q250 (by decide) rfl (Nat.le_of_ble_eq_true rfl) h dX0_init_98 (fun q82 ad83 h hae84 hp85 H B => ?_)
  rw [← (hae84 a0 (by rw [hp80]; decide)).1] at hL
  rw [← (hae84 a0 (by rw [hp80]; decide)).1]
  have hp87 : (q82.1 a0).1 = 10 := by rw [(hae84 a0 (by rw [hp80]; decide)).2]; exact hp80
  have hp86 : (q82.1 ((q62.2.1 + 1) + 1)).1 = 0 := by rw [hp85]
  refine xx_prF (ci := 0) (k := 14) C B.1 xc_0 hp87 (by decide) (by rw [hp86]; decide) (Nat.le_of_ble_eq_true rfl) rfl q374 (fun _ h => h) rfl hmn rfl rfl rfl h dX0_init_100 (fun gr88 h H locs B2 => ?_)
  have B := And.intro B2 B.2
  refine lv_aload_n hx hb dX0_init_103 rfl (lv_at hL 0 rfl) ?_
  refine lv_bipush (v := 6) hx hb dX0_init_104 (by decide) ?_
  refine xa_newa (t := 0) (atype := .int) (ty := .int) C B hRr (by decide) rfl rfl (fun _ h => h) rfl q250 (by decide) rfl (Nat.le_of_ble_eq_true rfl) h dX0_init_106 (fun q89 ad90 h hae91 hp92 H B => ?_)
  rw [← (hae91 a0 (by rw [hp87]; decide)).1] at hL
  rw [← (hae91 a0 (by rw [hp87]; decide)).1]
  have hp94 : (q89.1 a0).1 = 10 := by rw [(hae91 a0 (by rw [hp87]; decide)).2]; exact hp87
  have hp93 : (q89.1 (((q62.2.1 + 1) + 1) + 1)).1 = 0 := by rw [hp92]
  refine xx_prF (ci := 0) (k := 15) C B.1 xc_0 hp94 (by decide) (by rw [hp93]; decide) (Nat.le_of_ble_eq_true rfl) rfl q375 (fun _ h => h) rfl hmn rfl rfl rfl h dX0_init_108 (fun gr95 h H locs B2 => ?_)
  have B := And.intro B2 B.2
  refine lv_aload_n hx hb dX0_init_111 rfl (lv_at hL 0 rfl) ?_
  refine lv_bipush (v := 6) hx hb dX0_init_112 (by decide) ?_
  refine xa_newa (t := 0) (atype := .int) (ty := .int) C B hRr (by decide) rfl rfl (fun _ h => h) rfl q250 (by decide) rfl (Nat.le_of_ble_eq_true rfl) h dX0_init_114 (fun q96 ad97 h hae98 hp99 H B => ?_)
  rw [← (hae98 a0 (by rw [hp94]; decide)).1] at hL
  rw [← (hae98 a0 (by rw [hp94]; decide)).1]
  have hp101 : (q96.1 a0).1 = 10 := by rw [(hae98 a0 (by rw [hp94]; decide)).2]; exact hp94
  have hp100 : (q96.1 ((((q62.2.1 + 1) + 1) + 1) + 1)).1 = 0 := by rw [hp99]
  refine xx_prF (ci := 0) (k := 19) C B.1 xc_0 hp101 (by decide) (by rw [hp100]; decide) (Nat.le_of_ble_eq_true rfl) rfl q379 (fun _ h => h) rfl hmn rfl rfl rfl h dX0_init_116 (fun gr102 h H locs B2 => ?_)
  have B := And.intro B2 B.2
  refine lv_aload_n hx hb dX0_init_119 rfl (lv_at hL 0 rfl) ?_
  refine lv_bipush (v := 6) hx hb dX0_init_120 (by decide) ?_
  refine xa_newa (t := 0) (atype := .int) (ty := .int) C B hRr (by decide) rfl rfl (fun _ h => h) rfl q250 (by decide) rfl (Nat.le_of_ble_eq_true rfl) h dX0_init_122 (fun q103 ad104 h hae105 hp106 H B => ?_)
  rw [← (hae105 a0 (by rw [hp101]; decide)).1] at hL
  rw [← (hae105 a0 (by rw [hp101]; decide)).1]
  have hp108 : (q103.1 a0).1 = 10 := by rw [(hae105 a0 (by rw [hp101]; decide)).2]; exact hp101
  have hp107 : (q103.1 (((((q62.2.1 + 1) + 1) + 1) + 1) + 1)).1 = 0 := by rw [hp106]
  refine xx_prF (ci := 0) (k := 20) C B.1 xc_0 hp108 (by decide) (by rw [hp107]; decide) (Nat.le_of_ble_eq_true rfl) rfl q380 (fun _ h => h) rfl hmn rfl rfl rfl h dX0_init_124 (fun gr109 h H locs B2 => ?_)
  have B := And.intro B2 B.2
  refine lv_aload_n hx hb dX0_init_127 rfl (lv_at hL 0 rfl) ?_
  refine lv_bipush (v := 15) hx hb dX0_init_128 (by decide) ?_
  refine xa_newa (t := 0) (atype := .int) (ty := .int) C B hRr (by decide) rfl rfl (fun _ h => h) rfl q250 (by decide) rfl (Nat.le_of_ble_eq_true rfl) h dX0_init_130 (fun q110 ad111 h hae112 hp113 H B => ?_)
  rw [← (hae112 a0 (by rw [hp108]; decide)).1] at hL
  rw [← (hae112 a0 (by rw [hp108]; decide)).1]
  have hp115 : (q110.1 a0).1 = 10 := by rw [(hae112 a0 (by rw [hp108]; decide)).2]; exact hp108
  have hp114 : (q110.1 ((((((q62.2.1 + 1) + 1) + 1) + 1) + 1) + 1)).1 = 0 := by rw [hp113]
  refine xx_prF (ci := 0) (k := 21) C B.1 xc_0 hp115 (by decide) (by rw [hp114]; decide) (Nat.le_of_ble_eq_true rfl) rfl q381 (fun _ h => h) rfl hmn rfl rfl rfl h dX0_init_132 (fun gr116 h H locs B2 => ?_)
  have B := And.intro B2 B.2
  refine lv_aload_n hx hb dX0_init_135 rfl (lv_at hL 0 rfl) ?_
  refine xa_new C B hRr xc_12 (by decide) xd_12 q353 q188 q145 h dX0_init_136 (fun q117 ad118 h hae119 hp120 H B => ?_)
  rw [← (hae119 a0 (by rw [hp115]; decide)).1] at hL
  rw [← (hae119 a0 (by rw [hp115]; decide)).1]
  have hp121 : (q117.1 a0).1 = 10 := by rw [(hae119 a0 (by rw [hp115]; decide)).2]; exact hp115
  refine lv_dup hx hb dX0_init_139 rfl ?_
  refine lv_iconst (v := 2) hx hb dX0_init_140 (by decide) ?_
  refine k_J2_init hp120 C B hRr q354 (Nat.le_trans (Nat.le_of_ble_eq_true rfl) hF) (Nat.le_trans (Nat.le_of_ble_eq_true rfl) hN) hL.1 (Nat.le_of_ble_eq_true rfl) h dX0_init_141 (fun q122 ad123 h hae124 H locs B => ?_)
  rw [← (hae124 a0 (by rw [hp121]; decide)).1] at hL
  rw [← (hae124 a0 (by rw [hp121]; decide)).1]
  have hp125 : (q122.1 a0).1 = 10 := by rw [(hae124 a0 (by rw [hp121]; decide)).2]; exact hp121
  rw [← (hae124 (((((((q62.2.1 + 1) + 1) + 1) + 1) + 1) + 1) + 1) (by rw [hp120]; decide)).1]
  have hp126 : (q122.1 (((((((q62.2.1 + 1) + 1) + 1) + 1) + 1) + 1) + 1)).1 = 22 := by rw [(hae124 (((((((q62.2.1 + 1) + 1) + 1) + 1) + 1) + 1) + 1) (by rw [hp120]; decide)).2]; exact hp120
  refine xx_prF (ci := 0) (k := 25) C B.1 xc_0 hp125 (by decide) (by rw [hp126]; decide) (Nat.le_of_ble_eq_true rfl) rfl q385 (fun _ h => h) rfl hmn rfl rfl rfl h dX0_init_144 (fun gr127 h H locs B2 => ?_)
  have B := And.intro B2 B.2
  refine lv_aload_n hx hb dX0_init_147 rfl (lv_at hL 0 rfl) ?_
  refine lv_iconst (v := 5) hx hb dX0_init_148 (by decide) ?_
  refine xa_newa (t := 0) (atype := .int) (ty := .int) C B hRr (by decide) rfl rfl (fun _ h => h) rfl q250 (by decide) rfl (Nat.le_of_ble_eq_true rfl) h dX0_init_149 (fun q128 ad129 h hae130 hp131 H B => ?_)
  rw [← (hae130 a0 (by rw [hp125]; decide)).1] at hL
  rw [← (hae130 a0 (by rw [hp125]; decide)).1]
  have hp133 : (q128.1 a0).1 = 10 := by rw [(hae130 a0 (by rw [hp125]; decide)).2]; exact hp125
  have hp132 : (q128.1 q122.2.1).1 = 0 := by rw [hp131]
  refine xx_prF (ci := 0) (k := 26) C B.1 xc_0 hp133 (by decide) (by rw [hp132]; decide) (Nat.le_of_ble_eq_true rfl) rfl q386 (fun _ h => h) rfl hmn rfl rfl rfl h dX0_init_151 (fun gr134 h H locs B2 => ?_)
  have B := And.intro B2 B.2
  refine lv_aload_n hx hb dX0_init_154 rfl (lv_at hL 0 rfl) ?_
  refine lv_iconst (v := 5) hx hb dX0_init_155 (by decide) ?_
  refine lv_iconst (v := 5) hx hb dX0_init_156 (by decide) ?_
  refine xa_multi (N := 5) (K := 5) C B hRr q355 q250 (by decide) (by decide) rfl rfl (Nat.le_of_ble_eq_true rfl) (Nat.le_of_ble_eq_true rfl) h dX0_init_157 (fun q135 ad136 h hae137 hp138 H B => ?_)
  rw [← (hae137 a0 (by rw [hp133]; decide)).1] at hL
  rw [← (hae137 a0 (by rw [hp133]; decide)).1]
  have hp140 : (q135.1 a0).1 = 10 := by rw [(hae137 a0 (by rw [hp133]; decide)).2]; exact hp133
  have hp139 : (q135.1 (q122.2.1 + 1)).1 = 6 := by rw [hp138]
  refine xx_prF (ci := 0) (k := 27) C B.1 xc_0 hp140 (by decide) (by rw [hp139]; decide) (Nat.le_of_ble_eq_true rfl) rfl q387 (fun _ h => h) rfl hmn rfl rfl rfl h dX0_init_161 (fun gr141 h H locs B2 => ?_)
  have B := And.intro B2 B.2
  refine lv_aload_n hx hb dX0_init_164 rfl (lv_at hL 0 rfl) ?_
  refine lv_iconst (v := 3) hx hb dX0_init_165 (by decide) ?_
  refine xa_newq (t := 5) (E := "WeatherWages$Plots") C B hRr (by decide) rfl q298 B.1.2.2.2.2.2.2.1.2.1 (by decide) rfl (Nat.le_of_ble_eq_true rfl) h dX0_init_166 (fun q142 ad143 h hae144 hp145 H B => ?_)
  rw [← (hae144 a0 (by rw [hp140]; decide)).1] at hL
  rw [← (hae144 a0 (by rw [hp140]; decide)).1]
  have hp147 : (q142.1 a0).1 = 10 := by rw [(hae144 a0 (by rw [hp140]; decide)).2]; exact hp140
  have hp146 : (q142.1 ((q122.2.1 + 1) + (1 + 5))).1 = 5 := by rw [hp145]
  refine xx_prF (ci := 0) (k := 28) C B.1 xc_0 hp147 (by decide) (by rw [hp146]; decide) (Nat.le_of_ble_eq_true rfl) rfl q388 (fun _ h => h) rfl hmn rfl rfl rfl h dX0_init_169 (fun gr148 h H locs B2 => ?_)
  have B := And.intro B2 B.2
  refine lv_aload_n hx hb dX0_init_172 rfl (lv_at hL 0 rfl) ?_
  refine lv_iconst (v := 3) hx hb dX0_init_173 (by decide) ?_
  refine xa_newa (t := 2) (atype := .boolean) (ty := .boolean) C B hRr (by decide) rfl rfl (fun _ h => h) rfl q451 (by decide) rfl (Nat.le_of_ble_eq_true rfl) h dX0_init_174 (fun q149 ad150 h hae151 hp152 H B => ?_)
  rw [← (hae151 a0 (by rw [hp147]; decide)).1] at hL
  rw [← (hae151 a0 (by rw [hp147]; decide)).1]
  have hp154 : (q149.1 a0).1 = 10 := by rw [(hae151 a0 (by rw [hp147]; decide)).2]; exact hp147
  have hp153 : (q149.1 (((q122.2.1 + 1) + (1 + 5)) + 1)).1 = 2 := by rw [hp152]
  refine xx_prF (ci := 0) (k := 29) C B.1 xc_0 hp154 (by decide) (by rw [hp153]; decide) (Nat.le_of_ble_eq_true rfl) rfl q389 (fun _ h => h) rfl hmn rfl rfl rfl h dX0_init_176 (fun gr155 h H locs B2 => ?_)
  have B := And.intro B2 B.2
  refine lv_iconst (v := 0) hx hb dX0_init_179 (by decide) ?_
  refine lv_istore_n (lv' := [(1, .int 0), (0, .ref (ad150 a0))]) hx hb dX0_init_180 rfl hL (by decide) rfl (fun ls hL => ?_)
  obtain ⟨E181, h8181, h⟩ := g_ob h
  have kx181 : ∀ (hke181 : HK) (nxe181 : Nat) (nse181 : Nat) (gie181 : GI) (gre181 : GR) (ade181 : Nat → Nat) (H : Heap) (locs : List Loc) (ls : Array Slot), (hke181, nxe181, nse181, gie181, gre181) = E181 → XBA D cA ad hk nx ns cN cS ade181 hke181 nxe181 nse181 A s gie181 gre181 H locs → lv_has ls 2 [(0, .ref (ade181 a0))] → W p l e R s m args below meth c H locs (nxe181 - nx) (nse181 - ns) Q (F0 m 206 ls []) := by
    intro hke181 nxe181 nse181 gie181 gre181 ade181 H locs ls he B hL
    subst he
    have h : f_X0_init_x181 cN cS a0 hke181 nxe181 nse181 gie181 gre181 = some r := h
    unfold f_X0_init_x181 at h
    have ht173 : (hke181 a0).1 = 10 := by rw [(B.2.1 a0 (by rw [ht]; decide)).2]; exact ht
    refine lv_iconst (v := 0) hx hb dX0_init_206 (by decide) ?_
    refine lv_istore_n (lv' := [(1, .int 0), (0, .ref (ade181 a0))]) hx hb dX0_init_207 rfl hL (by decide) rfl (fun ls hL => ?_)
    obtain ⟨E208, h8208, h⟩ := g_ob h
    have kx208 : ∀ (hke208 : HK) (nxe208 : Nat) (nse208 : Nat) (gie208 : GI) (gre208 : GR) (ade208 : Nat → Nat) (H : Heap) (locs : List Loc) (ls : Array Slot), (hke208, nxe208, nse208, gie208, gre208) = E208 → XBA D cA ad hk nx ns cN cS ade208 hke208 nxe208 nse208 A s gie208 gre208 H locs → lv_has ls 2 [] → W p l e R s m args below meth c H locs (nxe208 - nx) (nse208 - ns) Q (F0 m 232 ls []) := by
      intro hke208 nxe208 nse208 gie208 gre208 ade208 H locs ls he B hL
      subst he
      have h : f_X0_init_x208 cN cS a0 hke208 nxe208 nse208 gie208 gre208 = some r := h
      unfold f_X0_init_x208 at h
      have ht191 : (hke208 a0).1 = 10 := by rw [(B.2.1 a0 (by rw [ht]; decide)).2]; exact ht
      exact hret (ade208, hke208, nxe208, nse208, gie208, gre208) _ _ _ _ (Option.some.inj h) B dX0_init_232
    have hl208 : ∀ (k : Nat) (x1l208 : Int32) (hkl208 : HK) (nxl208 : Nat) (nsl208 : Nat) (gil208 : GI) (grl208 : GR) (adl208 : Nat → Nat) (H : Heap) (locs : List Loc) (ls : Array Slot), g_loop k (fun (s : Int32 × HK × Nat × Nat × GI × GR) => f_X0_init_l208 cN cS a0 s.1 s.2.1 s.2.2.1 s.2.2.2.1 s.2.2.2.2.1 s.2.2.2.2.2) (x1l208, hkl208, nxl208, nsl208, gil208, grl208) = some E208 → XBA D cA ad hk nx ns cN cS adl208 hkl208 nxl208 nsl208 A s gil208 grl208 H locs → lv_has ls 2 [(0, .ref (adl208 a0)), (1, .int x1l208)] → W p l e R s m args below meth c H locs (nxl208 - nx) (nsl208 - ns) Q (F0 m 208 ls []) := by
      intro k
      induction k with
      | zero => intro x1l208 hkl208 nxl208 nsl208 gil208 grl208 adl208 H locs ls h; exact absurd h (fun z => g_loop_0 z)
      | succ k ih208 =>
        intro x1l208 hkl208 nxl208 nsl208 gil208 grl208 adl208 H locs ls h B hL
        obtain ⟨Z208, h, h9208⟩ := g_loop_s h
        have h : f_X0_init_l208 cN cS a0 x1l208 hkl208 nxl208 nsl208 gil208 grl208 = some Z208 := h
        unfold f_X0_init_l208 at h
        have ht174 : (hkl208 a0).1 = 10 := by rw [(B.2.1 a0 (by rw [ht]; decide)).2]; exact ht
        refine lv_iload_n hx hb dX0_init_208 rfl (lv_at hL 1 rfl) ?_
        refine lv_iconst (v := 3) hx hb dX0_init_209 (by decide) ?_
        refine gg_icmp_ge hx hb 232 h dX0_init_210 (by decide) (fun h => ?_) (fun h => ?_)
        · exact kx208 _ _ _ _ _ _ _ _ _ (g_exit h h9208) B (lv_sub hL [] rfl)
        · refine lv_aload_n hx hb dX0_init_213 rfl (lv_at hL 0 rfl) ?_
          refine xx_gr (ci := 0) (k := 28) C B.1 xc_0 ht174 (by decide) (Nat.le_of_ble_eq_true rfl) rfl q388 (fun _ h => h) h dX0_init_214 (fun v175 ok176 h => ?_)
          refine lv_iload_n hx hb dX0_init_217 rfl (lv_at hL 1 rfl) ?_
          refine xa_new C B hRr xc_3 (by decide) xd_3 q298 q299 q147 h dX0_init_218 (fun q177 ad178 h hae179 hp180 H B => ?_)
          rw [← (hae179 a0 (by rw [ht174]; decide)).1] at hL
          have hp181 : (q177.1 a0).1 = 10 := by rw [(hae179 a0 (by rw [ht174]; decide)).2]; exact ht174
          rw [← (hae179 v175 ok176).1]
          have ok182 : (q177.1 v175).1 < 1000 := by rw [(hae179 v175 ok176).2]; exact ok176
          refine lv_dup hx hb dX0_init_221 rfl ?_
          refine kn_X3_init hp180 C B hRr nw_q300 (Nat.le_trans (Nat.le_of_ble_eq_true rfl) hF) (Nat.le_trans (Nat.le_of_ble_eq_true rfl) hN) hL.1 (Nat.le_of_ble_eq_true rfl) h dX0_init_222 (fun q183 ad184 h hae185 H locs B => ?_)
          rw [← (hae185 a0 (by rw [hp181]; decide)).1] at hL
          have hp186 : (q183.1 a0).1 = 10 := by rw [(hae185 a0 (by rw [hp181]; decide)).2]; exact hp181
          rw [← (hae185 nxl208 (by rw [hp180]; decide)).1]
          have hp187 : (q183.1 nxl208).1 = 13 := by rw [(hae185 nxl208 (by rw [hp180]; decide)).2]; exact hp180
          rw [← (hae185 v175 ok182).1]
          have ok188 : (q183.1 v175).1 < 1000 := by rw [(hae185 v175 ok182).2]; exact ok182
          refine xx_is h (fun hp189 h => ?_)
          refine xx_aast C B.1 xc_3 hp189 (by decide) rfl hp187 (by decide) h dX0_init_225 (fun gr190 h H locs B2 => ?_)
          have B := And.intro B2 B.2
          refine lv_iinc (v := x1l208 + 1) (lv' := [(1, .int (x1l208 + 1)), (0, .ref (ad184 a0))]) hx hb dX0_init_226 hL (k := 1) rfl rfl (by decide) rfl (fun ls hL => ?_)
          refine lv_goto (tgt := 208) hx hb dX0_init_229 (by decide) ?_
          exact ih208 _ _ _ _ _ _ _ _ _ _ (g_next h h9208) B (lv_sub hL [1, 0] rfl)
    exact hl208 g_K _ _ _ _ _ _ _ _ _ _ h8208 B (lv_sub hL [1, 0] rfl)
  have hl181 : ∀ (k : Nat) (x1l181 : Int32) (hkl181 : HK) (nxl181 : Nat) (nsl181 : Nat) (gil181 : GI) (grl181 : GR) (adl181 : Nat → Nat) (H : Heap) (locs : List Loc) (ls : Array Slot), g_loop k (fun (s : Int32 × HK × Nat × Nat × GI × GR) => f_X0_init_l181 cN cS a0 s.1 s.2.1 s.2.2.1 s.2.2.2.1 s.2.2.2.2.1 s.2.2.2.2.2) (x1l181, hkl181, nxl181, nsl181, gil181, grl181) = some E181 → XBA D cA ad hk nx ns cN cS adl181 hkl181 nxl181 nsl181 A s gil181 grl181 H locs → lv_has ls 2 [(0, .ref (adl181 a0)), (1, .int x1l181)] → W p l e R s m args below meth c H locs (nxl181 - nx) (nsl181 - ns) Q (F0 m 181 ls []) := by
    intro k
    induction k with
    | zero => intro x1l181 hkl181 nxl181 nsl181 gil181 grl181 adl181 H locs ls h; exact absurd h (fun z => g_loop_0 z)
    | succ k ih181 =>
      intro x1l181 hkl181 nxl181 nsl181 gil181 grl181 adl181 H locs ls h B hL
      obtain ⟨Z181, h, h9181⟩ := g_loop_s h
      have h : f_X0_init_l181 cN cS a0 x1l181 hkl181 nxl181 nsl181 gil181 grl181 = some Z181 := h
      unfold f_X0_init_l181 at h
      have ht156 : (hkl181 a0).1 = 10 := by rw [(B.2.1 a0 (by rw [ht]; decide)).2]; exact ht
      refine lv_iload_n hx hb dX0_init_181 rfl (lv_at hL 1 rfl) ?_
      refine lv_bipush (v := 40) hx hb dX0_init_182 (by decide) ?_
      refine gg_icmp_ge hx hb 206 h dX0_init_184 (by decide) (fun h => ?_) (fun h => ?_)
      · exact kx181 _ _ _ _ _ _ _ _ _ (g_exit h h9181) B (lv_sub hL [0] rfl)
      · refine lv_aload_n hx hb dX0_init_187 rfl (lv_at hL 0 rfl) ?_
        refine xx_gr (ci := 0) (k := 10) C B.1 xc_0 ht156 (by decide) (Nat.le_of_ble_eq_true rfl) rfl q370 (fun _ h => h) h dX0_init_188 (fun v157 ok158 h => ?_)
        refine lv_iload_n hx hb dX0_init_191 rfl (lv_at hL 1 rfl) ?_
        refine xa_new C B hRr xc_3 (by decide) xd_3 q298 q299 q147 h dX0_init_192 (fun q159 ad160 h hae161 hp162 H B => ?_)
        rw [← (hae161 a0 (by rw [ht156]; decide)).1] at hL
        have hp163 : (q159.1 a0).1 = 10 := by rw [(hae161 a0 (by rw [ht156]; decide)).2]; exact ht156
        rw [← (hae161 v157 ok158).1]
        have ok164 : (q159.1 v157).1 < 1000 := by rw [(hae161 v157 ok158).2]; exact ok158
        refine lv_dup hx hb dX0_init_195 rfl ?_
        refine kn_X3_init hp162 C B hRr nw_q300 (Nat.le_trans (Nat.le_of_ble_eq_true rfl) hF) (Nat.le_trans (Nat.le_of_ble_eq_true rfl) hN) hL.1 (Nat.le_of_ble_eq_true rfl) h dX0_init_196 (fun q165 ad166 h hae167 H locs B => ?_)
        rw [← (hae167 a0 (by rw [hp163]; decide)).1] at hL
        have hp168 : (q165.1 a0).1 = 10 := by rw [(hae167 a0 (by rw [hp163]; decide)).2]; exact hp163
        rw [← (hae167 nxl181 (by rw [hp162]; decide)).1]
        have hp169 : (q165.1 nxl181).1 = 13 := by rw [(hae167 nxl181 (by rw [hp162]; decide)).2]; exact hp162
        rw [← (hae167 v157 ok164).1]
        have ok170 : (q165.1 v157).1 < 1000 := by rw [(hae167 v157 ok164).2]; exact ok164
        refine xx_is h (fun hp171 h => ?_)
        refine xx_aast C B.1 xc_3 hp171 (by decide) rfl hp169 (by decide) h dX0_init_199 (fun gr172 h H locs B2 => ?_)
        have B := And.intro B2 B.2
        refine lv_iinc (v := x1l181 + 1) (lv' := [(1, .int (x1l181 + 1)), (0, .ref (ad166 a0))]) hx hb dX0_init_200 hL (k := 1) rfl rfl (by decide) rfl (fun ls hL => ?_)
        refine lv_goto (tgt := 181) hx hb dX0_init_203 (by decide) ?_
        exact ih181 _ _ _ _ _ _ _ _ _ _ (g_next h h9181) B (lv_sub hL [1, 0] rfl)
  exact hl181 g_K _ _ _ _ _ _ _ _ _ _ h8181 B (lv_sub hL [1, 0] rfl)
theorem k_X0_init {p : Program} {l : Launch} {e : Env} {R : Room} {s : State} {m : MethodId} {args : Array Value} {below : List Frame} {meth : Method} {c : Code} {H : Heap} {locs : List Loc} {Q : State → Prop} {pc : Nat} {ls : Array Slot} {rest : List Value} {cc : ByteArray} {nL : Nat} {D : va_G} {cA : Nat → ClassId} {a9 : Nat → Nat} {h9 : HK} {n0 m0 cN cS : Nat} {ad : Nat → Nat} {hk : HK} {nx ns : Nat} {A : Nat → Prop} {gi : GI} {gr : GR} {α : Type} {r : α} {own : String} {idx : Nat} {a0 : Nat} {ff : (HK × Nat × Nat × GI × GR) → Option α} (ht : (hk a0).1 = 10) (C : CallFix p m c cc nL s args lw_all own) (B : XBA D cA a9 h9 n0 m0 cN cS ad hk nx ns A s gi gr H locs) (hRr : R.cells = cN - n0 ∧ R.slots = cS - m0) (hq : Cond.methodLink own idx yX0_init ∈ lw_all) (hF : 6 ≤ R.frames) (hN : 172 ≤ R.locals) (hs : ls.size = nL) (hw : (rest.map fun v => v.category).sum ≤ 8) (h : (g_cc (fun c1 c2 => f_X0_init c1 c2 hk nx ns gi gr a0) (fun q : HK × Nat × Nat × GI × GR => q.2.1) (fun q : HK × Nat × Nat × GI × GR => q.2.2.1) cN cS nx ns).bind ff = some r) (hdg : decode cc pc = .ok (.invokespecial idx, 3)) (kk : ∀ (q : HK × Nat × Nat × GI × GR) (ad' : Nat → Nat), ff q = some r → (∀ i, (hk i).1 < 1000 → ad' i = ad i ∧ q.1 i = hk i) → ∀ (H' : Heap) (locs' : List Loc), XBA D cA a9 h9 n0 m0 cN cS ad' q.1 q.2.1 q.2.2.1 A s q.2.2.2.1 q.2.2.2.2 H' locs' → W p l e R s m args below meth c H' locs' (q.2.1 - n0) (q.2.2.1 - m0) Q (F0 m (pc + 3) ls (rest))) : W p l e R s m args below meth c H locs (nx - n0) (ns - m0) Q (F0 m pc ls (.ref (ad a0) :: rest)) := by
  obtain ⟨q, h1, h2⟩ := g_ob h
  obtain ⟨h3, c1, c2, c3, c4⟩ := g_cc_of h1
  refine xa_cIV (As := []) (rest := rest) (n := 0) (qn := q.2.1) (qs := q.2.2.1) (b := a0) C B hRr (fun sz => w_X0_init l D cA ad _ _ hk nx ns gi gr a0 ht ⟨c1, c3⟩ q h3 sz) hq q176 q141 q177 rfl (by decide +kernel) ⟨c1, c2, c3, c4⟩ (fun u hp => ?_) ⟨hF, hN⟩ rfl hs hw hdg (fun u H9 locs9 hp hae B9 => ?_)
  · have hp := hp
    subst hp
    exact ⟨rfl, rfl⟩
  · have hp := hp
    subst hp
    exact kk _ u.1 h2 hae H9 locs9 B9
def f_X0_feed_l72 (cN cS : Nat) (a0 : Nat) (a7i72 : Nat) (x8i72 : Int32) (x9i72 : Int32) (x10i72 : Int32) (x11l72 : Int32) (hkl72 : HK) (nxl72 : Nat) (nsl72 : Nat) (gil72 : GI) (grl72 : GR) : Option ((Int32 × HK × Nat × Nat × GI × GR) ⊕ (HK × Nat × Nat × GI × GR)) :=
  if x11l72 < 0 then
  (some (.inr (hkl72, nxl72, nsl72, gil72, grl72)))
  else
  ((grl72 a0 0).bind fun v16 =>
  (g_is hkl72 v16 1).bind fun _ =>
  (g_st gil72 v16 (hkl72 v16).2 (gil72 a0 1) (vp_nar .byte ((x10i72 >>> (x11l72 &&& 31)).toInt8.toInt32))).bind fun gi19 =>
  (some (g_pi gi19 a0 1 ((gi19 a0 1) + 1))).bind fun gi20 =>
  some (.inl (x11l72 + (-8), hkl72, nxl72, nsl72, gi20, grl72)))
def f_X0_feed_x72 (cN cS : Nat) (a0 : Nat) (a7y72 : Nat) (x8y72 : Int32) (x9y72 : Int32) (hke72 : HK) (nxe72 : Nat) (nse72 : Nat) (gie72 : GI) (gre72 : GR) : Option ((Int32 × HK × Nat × Nat × GI × GR) ⊕ (HK × Nat × Nat × GI × GR)) :=
  some (.inl (x9y72 + 1, hke72, nxe72, nse72, gie72, gre72))
def f_X0_feed_l54 (cN cS : Nat) (a0 : Nat) (a7i54 : Nat) (x8i54 : Int32) (x9l54 : Int32) (hkl54 : HK) (nxl54 : Nat) (nsl54 : Nat) (gil54 : GI) (grl54 : GR) : Option ((Int32 × HK × Nat × Nat × GI × GR) ⊕ (HK × Nat × Nat × GI × GR)) :=
  if x8i54 ≤ x9l54 then
  (some (.inr (hkl54, nxl54, nsl54, gil54, grl54)))
  else
  ((g_is hkl54 a7i54 0).bind fun _ =>
  (g_ld gil54 a7i54 (hkl54 a7i54).2 x9l54).bind fun v14 =>
  (g_loop g_K (fun (s : Int32 × HK × Nat × Nat × GI × GR) => f_X0_feed_l72 cN cS a0 a7i54 x8i54 x9l54 v14 s.1 s.2.1 s.2.2.1 s.2.2.2.1 s.2.2.2.2.1 s.2.2.2.2.2) (24, hkl54, nxl54, nsl54, gil54, grl54)).bind fun E72 => f_X0_feed_x72 cN cS a0 a7i54 x8i54 x9l54 E72.1 E72.2.1 E72.2.2.1 E72.2.2.2.1 E72.2.2.2.2)
def f_X0_feed_x54 (cN cS : Nat) (a0 : Nat) (hke54 : HK) (nxe54 : Nat) (nse54 : Nat) (gie54 : GI) (gre54 : GR) : Option (Int32 × HK × Nat × Nat × GI × GR) :=
  some (gie54 a0 1, hke54, nxe54, nse54, gie54, gre54)
def f_X0_feed (cN cS : Nat) (hk : HK) (nx ns : Nat) (gi : GI) (gr : GR) (a0 : Nat) (x1 : Int32) (x2 : Int32) (x3 : Int32) (x4 : Int32) (x5 : Int32) : Option (Int32 × HK × Nat × Nat × GI × GR) :=
  if ((gi a0 1) + 20) ≤ 1600 then
  ((g_new cN cS nx ns 0 5 5 hk gi gr).bind fun q1 =>
  (g_st q1.2.1 nx (q1.1 nx).2 0 x1).bind fun gi7 =>
  (g_st gi7 nx (q1.1 nx).2 1 x2).bind fun gi8 =>
  (g_st gi8 nx (q1.1 nx).2 2 x3).bind fun gi9 =>
  (g_st gi9 nx (q1.1 nx).2 3 x4).bind fun gi10 =>
  (g_st gi10 nx (q1.1 nx).2 4 x5).bind fun gi11 =>
  (g_loop g_K (fun (s : Int32 × HK × Nat × Nat × GI × GR) => f_X0_feed_l54 cN cS a0 nx (Int32.ofNat (q1.1 nx).2) s.1 s.2.1 s.2.2.1 s.2.2.2.1 s.2.2.2.2.1 s.2.2.2.2.2) (0, q1.1, nx + 1, ns + 5, gi11, q1.2.2)).bind fun E54 => f_X0_feed_x54 cN cS a0 E54.1 E54.2.1 E54.2.2.1 E54.2.2.2.1 E54.2.2.2.2)
  else
  (some ((-1), hk, nx, ns, gi, gr))
set_option maxHeartbeats 400000 in
theorem w_X0_feed (l : Launch) (D : va_G) (cA : Nat → ClassId) (ad : Nat → Nat) (cN cS : Nat) (hk : HK) (nx ns : Nat) (gi : GI) (gr : GR) (a0 : Nat) (x1 : Int32) (x2 : Int32) (x3 : Int32) (x4 : Int32) (x5 : Int32) (ht : (hk a0).1 = 10) (hcap : nx ≤ cN ∧ ns ≤ cS) (r : Int32 × HK × Nat × Nat × GI × GR) (h : f_X0_feed cN cS hk nx ns gi gr a0 x1 x2 x3 x4 x5 = some r) (sz : Nat) : Met l yX0_feed (ws_ yX0_feed cX0_feed 12 (some .int)) ({ frames := 1, cells := cN - nx, slots := cS - ns, locals := 64 } : Room) (va_Pc [.ref (ad a0), .int x1, .int x2, .int x3, .int x4, .int x5] (XPre D cA ad hk nx gi gr sz)) (va_Qi (fun (v : Int32) (u : XU) => (v, u.2) = r) (XPostA D cA ad hk nx sz) (XA ad nx sz)) (cN - nx) (cS - ns) (XA ad nx sz) := by
  refine xa_stI (own := RX0) (P := (fun (v : Int32) (u : XU) => (v, u.2) = r)) (by decide +kernel) rfl (Nat.le_of_ble_eq_true rfl) hcap (fun p e s m args below meth c R Q A ls C hmn hF hN hRr B hret hL => ?_) sz
  have hx := C.1
  have hb := C.2.1
  have hL : lv_has ls 12 [(0, .ref (ad a0)), (1, .int x1), (2, .int x2), (3, .int x3), (4, .int x4), (5, .int x5)] := hL
  unfold f_X0_feed at h
  refine lv_aload_n hx hb dX0_feed_0 rfl (lv_at hL 0 rfl) ?_
  refine xx_gi (ci := 0) (k := 1) C B.1 xc_0 ht (by decide) (Nat.le_of_ble_eq_true rfl) rfl q360 (fun _ h => h) dX0_feed_1 ?_
  refine lv_bipush (v := 20) hx hb dX0_feed_4 (by decide) ?_
  refine lv_iadd hx hb dX0_feed_6 ?_
  refine lv_sipush (v := 1600) hx hb dX0_feed_7 (by decide) ?_
  refine gg_icmp_le hx hb 15 h dX0_feed_10 (by decide) (fun h => ?_) (fun h => ?_)
  · refine lv_iconst (v := 5) hx hb dX0_feed_15 (by decide) ?_
    refine xa_newa (t := 0) (atype := .int) (ty := .int) C B hRr (by decide) rfl rfl (fun _ h => h) rfl q250 (by decide) rfl (Nat.le_of_ble_eq_true rfl) h dX0_feed_16 (fun q1 ad2 h hae3 hp4 H B => ?_)
    rw [← (hae3 a0 (by rw [ht]; decide)).1] at hL
    have hp6 : (q1.1 a0).1 = 10 := by rw [(hae3 a0 (by rw [ht]; decide)).2]; exact ht
    have hp5 : (q1.1 nx).1 = 0 := by rw [hp4]
    refine lv_dup hx hb dX0_feed_18 rfl ?_
    refine lv_iconst (v := 0) hx hb dX0_feed_19 (by decide) ?_
    refine lv_iload_n hx hb dX0_feed_20 rfl (lv_at hL 1 rfl) ?_
    refine xx_iast C B.1 hp5 h dX0_feed_21 (fun gi7 h H locs B2 => ?_)
    have B := And.intro B2 B.2
    refine lv_dup hx hb dX0_feed_22 rfl ?_
    refine lv_iconst (v := 1) hx hb dX0_feed_23 (by decide) ?_
    refine lv_iload_n hx hb dX0_feed_24 rfl (lv_at hL 2 rfl) ?_
    refine xx_iast C B.1 hp5 h dX0_feed_25 (fun gi8 h H locs B2 => ?_)
    have B := And.intro B2 B.2
    refine lv_dup hx hb dX0_feed_26 rfl ?_
    refine lv_iconst (v := 2) hx hb dX0_feed_27 (by decide) ?_
    refine lv_iload_n hx hb dX0_feed_28 rfl (lv_at hL 3 rfl) ?_
    refine xx_iast C B.1 hp5 h dX0_feed_29 (fun gi9 h H locs B2 => ?_)
    have B := And.intro B2 B.2
    refine lv_dup hx hb dX0_feed_30 rfl ?_
    refine lv_iconst (v := 3) hx hb dX0_feed_31 (by decide) ?_
    refine lv_iload hx hb dX0_feed_32 (lv_at hL 4 rfl) ?_
    refine xx_iast C B.1 hp5 h dX0_feed_34 (fun gi10 h H locs B2 => ?_)
    have B := And.intro B2 B.2
    refine lv_dup hx hb dX0_feed_35 rfl ?_
    refine lv_iconst (v := 4) hx hb dX0_feed_36 (by decide) ?_
    refine lv_iload hx hb dX0_feed_37 (lv_at hL 5 rfl) ?_
    refine xx_iast C B.1 hp5 h dX0_feed_39 (fun gi11 h H locs B2 => ?_)
    have B := And.intro B2 B.2
    refine lv_astore (lv' := [(6, .ref (ad2 nx)), (0, .ref (ad2 a0)), (1, .int x1), (2, .int x2), (3, .int x3), (4, .int x4), (5, .int x5)]) hx hb dX0_feed_40 hL (by decide) rfl (fun ls hL => ?_)
    refine lv_aload hx hb dX0_feed_42 (lv_at hL 0 rfl) ?_
    refine lv_astore (lv' := [(7, .ref (ad2 nx)), (6, .ref (ad2 nx)), (0, .ref (ad2 a0)), (1, .int x1), (2, .int x2), (3, .int x3), (4, .int x4), (5, .int x5)]) hx hb dX0_feed_44 hL (by decide) rfl (fun ls hL => ?_)
    refine lv_aload hx hb dX0_feed_46 (lv_at hL 0 rfl) ?_
    refine xx_alen C B.1 hp5 (by decide) dX0_feed_48 ?_
    refine lv_istore (lv' := [(8, .int (Int32.ofNat (q1.1 nx).2)), (7, .ref (ad2 nx)), (6, .ref (ad2 nx)), (0, .ref (ad2 a0)), (1, .int x1), (2, .int x2), (3, .int x3), (4, .int x4), (5, .int x5)]) hx hb dX0_feed_49 hL (by decide) rfl (fun ls hL => ?_)
    refine lv_iconst (v := 0) hx hb dX0_feed_51 (by decide) ?_
    refine lv_istore (lv' := [(9, .int 0), (8, .int (Int32.ofNat (q1.1 nx).2)), (7, .ref (ad2 nx)), (6, .ref (ad2 nx)), (0, .ref (ad2 a0)), (1, .int x1), (2, .int x2), (3, .int x3), (4, .int x4), (5, .int x5)]) hx hb dX0_feed_52 hL (by decide) rfl (fun ls hL => ?_)
    obtain ⟨E54, h854, h⟩ := g_ob h
    have kx54 : ∀ (hke54 : HK) (nxe54 : Nat) (nse54 : Nat) (gie54 : GI) (gre54 : GR) (ade54 : Nat → Nat) (H : Heap) (locs : List Loc) (ls : Array Slot), (hke54, nxe54, nse54, gie54, gre54) = E54 → XBA D cA ad hk nx ns cN cS ade54 hke54 nxe54 nse54 A s gie54 gre54 H locs → lv_has ls 12 [(0, .ref (ade54 a0))] → W p l e R s m args below meth c H locs (nxe54 - nx) (nse54 - ns) Q (F0 m 114 ls []) := by
      intro hke54 nxe54 nse54 gie54 gre54 ade54 H locs ls he B hL
      subst he
      have h : f_X0_feed_x54 cN cS a0 hke54 nxe54 nse54 gie54 gre54 = some r := h
      unfold f_X0_feed_x54 at h
      have ht22 : (hke54 a0).1 = 10 := by rw [(B.2.1 a0 (by rw [ht]; decide)).2]; exact ht
      refine lv_aload_n hx hb dX0_feed_114 rfl (lv_at hL 0 rfl) ?_
      refine xx_gi (ci := 0) (k := 1) C B.1 xc_0 ht22 (by decide) (Nat.le_of_ble_eq_true rfl) rfl q360 (fun _ h => h) dX0_feed_115 ?_
      exact hret _ (ade54, hke54, nxe54, nse54, gie54, gre54) _ _ _ _ (Option.some.inj h) B dX0_feed_118
    have hl54 : ∀ (k : Nat) (x9l54 : Int32) (hkl54 : HK) (nxl54 : Nat) (nsl54 : Nat) (gil54 : GI) (grl54 : GR) (adl54 : Nat → Nat) (H : Heap) (locs : List Loc) (ls : Array Slot), g_loop k (fun (s : Int32 × HK × Nat × Nat × GI × GR) => f_X0_feed_l54 cN cS a0 nx (Int32.ofNat (q1.1 nx).2) s.1 s.2.1 s.2.2.1 s.2.2.2.1 s.2.2.2.2.1 s.2.2.2.2.2) (x9l54, hkl54, nxl54, nsl54, gil54, grl54) = some E54 → XBA D cA ad hk nx ns cN cS adl54 hkl54 nxl54 nsl54 A s gil54 grl54 H locs → lv_has ls 12 [(0, .ref (adl54 a0)), (7, .ref (adl54 nx)), (8, .int (Int32.ofNat (q1.1 nx).2)), (9, .int x9l54)] → W p l e R s m args below meth c H locs (nxl54 - nx) (nsl54 - ns) Q (F0 m 54 ls []) := by
      intro k
      induction k with
      | zero => intro x9l54 hkl54 nxl54 nsl54 gil54 grl54 adl54 H locs ls h; exact absurd h (fun z => g_loop_0 z)
      | succ k ih54 =>
        intro x9l54 hkl54 nxl54 nsl54 gil54 grl54 adl54 H locs ls h B hL
        obtain ⟨Z54, h, h954⟩ := g_loop_s h
        have h : f_X0_feed_l54 cN cS a0 nx (Int32.ofNat (q1.1 nx).2) x9l54 hkl54 nxl54 nsl54 gil54 grl54 = some Z54 := h
        unfold f_X0_feed_l54 at h
        have ht12 : (hkl54 a0).1 = 10 := by rw [(B.2.1 a0 (by rw [ht]; decide)).2]; exact ht
        refine lv_iload hx hb dX0_feed_54 (lv_at hL 3 rfl) ?_
        refine lv_iload hx hb dX0_feed_56 (lv_at hL 2 rfl) ?_
        refine gg_icmp_ge hx hb 114 h dX0_feed_58 (by decide) (fun h => ?_) (fun h => ?_)
        · exact kx54 _ _ _ _ _ _ _ _ _ (g_exit h h954) B (lv_sub hL [0] rfl)
        · refine lv_aload hx hb dX0_feed_61 (lv_at hL 1 rfl) ?_
          refine lv_iload hx hb dX0_feed_63 (lv_at hL 3 rfl) ?_
          refine xx_is h (fun hp13 h => ?_)
          refine xx_iald C B.1 hp13 h dX0_feed_65 (fun v14 h => ?_)
          refine lv_istore (lv' := [(10, .int v14), (0, .ref (adl54 a0)), (7, .ref (adl54 nx)), (8, .int (Int32.ofNat (q1.1 nx).2)), (9, .int x9l54)]) hx hb dX0_feed_66 hL (by decide) rfl (fun ls hL => ?_)
          refine lv_bipush (v := 24) hx hb dX0_feed_68 (by decide) ?_
          refine lv_istore (lv' := [(11, .int 24), (10, .int v14), (0, .ref (adl54 a0)), (7, .ref (adl54 nx)), (8, .int (Int32.ofNat (q1.1 nx).2)), (9, .int x9l54)]) hx hb dX0_feed_70 hL (by decide) rfl (fun ls hL => ?_)
          obtain ⟨E72, h872, h⟩ := g_ob h
          have kx72 : ∀ (hke72 : HK) (nxe72 : Nat) (nse72 : Nat) (gie72 : GI) (gre72 : GR) (ade72 : Nat → Nat) (H : Heap) (locs : List Loc) (ls : Array Slot), (hke72, nxe72, nse72, gie72, gre72) = E72 → XBA D cA ad hk nx ns cN cS ade72 hke72 nxe72 nse72 A s gie72 gre72 H locs → lv_has ls 12 [(0, .ref (ade72 a0)), (7, .ref (ade72 nx)), (8, .int (Int32.ofNat (q1.1 nx).2)), (9, .int x9l54)] → W p l e R s m args below meth c H locs (nxe72 - nx) (nse72 - ns) Q (F0 m 108 ls []) := by
            intro hke72 nxe72 nse72 gie72 gre72 ade72 H locs ls he B hL
            subst he
            have h : f_X0_feed_x72 cN cS a0 nx (Int32.ofNat (q1.1 nx).2) x9l54 hke72 nxe72 nse72 gie72 gre72 = some Z54 := h
            unfold f_X0_feed_x72 at h
            have ht21 : (hke72 a0).1 = 10 := by rw [(B.2.1 a0 (by rw [ht]; decide)).2]; exact ht
            refine lv_iinc (v := x9l54 + 1) (lv' := [(9, .int (x9l54 + 1)), (0, .ref (ade72 a0)), (7, .ref (ade72 nx)), (8, .int (Int32.ofNat (q1.1 nx).2))]) hx hb dX0_feed_108 hL (k := 3) rfl rfl (by decide) rfl (fun ls hL => ?_)
            refine lv_goto (tgt := 54) hx hb dX0_feed_111 (by decide) ?_
            exact ih54 _ _ _ _ _ _ _ _ _ _ (g_next h h954) B (lv_sub hL [1, 2, 3, 0] rfl)
          have hl72 : ∀ (k : Nat) (x11l72 : Int32) (hkl72 : HK) (nxl72 : Nat) (nsl72 : Nat) (gil72 : GI) (grl72 : GR) (adl72 : Nat → Nat) (H : Heap) (locs : List Loc) (ls : Array Slot), g_loop k (fun (s : Int32 × HK × Nat × Nat × GI × GR) => f_X0_feed_l72 cN cS a0 nx (Int32.ofNat (q1.1 nx).2) x9l54 v14 s.1 s.2.1 s.2.2.1 s.2.2.2.1 s.2.2.2.2.1 s.2.2.2.2.2) (x11l72, hkl72, nxl72, nsl72, gil72, grl72) = some E72 → XBA D cA ad hk nx ns cN cS adl72 hkl72 nxl72 nsl72 A s gil72 grl72 H locs → lv_has ls 12 [(0, .ref (adl72 a0)), (7, .ref (adl72 nx)), (8, .int (Int32.ofNat (q1.1 nx).2)), (9, .int x9l54), (10, .int v14), (11, .int x11l72)] → W p l e R s m args below meth c H locs (nxl72 - nx) (nsl72 - ns) Q (F0 m 72 ls []) := by
            intro k
            induction k with
            | zero => intro x11l72 hkl72 nxl72 nsl72 gil72 grl72 adl72 H locs ls h; exact absurd h (fun z => g_loop_0 z)
            | succ k ih72 =>
              intro x11l72 hkl72 nxl72 nsl72 gil72 grl72 adl72 H locs ls h B hL
              obtain ⟨Z72, h, h972⟩ := g_loop_s h
              have h : f_X0_feed_l72 cN cS a0 nx (Int32.ofNat (q1.1 nx).2) x9l54 v14 x11l72 hkl72 nxl72 nsl72 gil72 grl72 = some Z72 := h
              unfold f_X0_feed_l72 at h
              have ht15 : (hkl72 a0).1 = 10 := by rw [(B.2.1 a0 (by rw [ht]; decide)).2]; exact ht
              refine lv_iload hx hb dX0_feed_72 (lv_at hL 5 rfl) ?_
              refine gg_if_lt hx hb 108 h dX0_feed_74 (by decide) (fun h => ?_) (fun h => ?_)
              · exact kx72 _ _ _ _ _ _ _ _ _ (g_exit h h972) B (lv_sub hL [0, 1, 2, 3] rfl)
              · refine lv_aload_n hx hb dX0_feed_77 rfl (lv_at hL 0 rfl) ?_
                refine xx_gr (ci := 0) (k := 0) C B.1 xc_0 ht15 (by decide) (Nat.le_of_ble_eq_true rfl) rfl q357 (fun _ h => h) h dX0_feed_78 (fun v16 ok17 h => ?_)
                refine lv_aload_n hx hb dX0_feed_81 rfl (lv_at hL 0 rfl) ?_
                refine xx_gi (ci := 0) (k := 1) C B.1 xc_0 ht15 (by decide) (Nat.le_of_ble_eq_true rfl) rfl q360 (fun _ h => h) dX0_feed_82 ?_
                refine lv_iload hx hb dX0_feed_85 (lv_at hL 4 rfl) ?_
                refine lv_iload hx hb dX0_feed_87 (lv_at hL 5 rfl) ?_
                refine lv_ishr hx hb dX0_feed_89 ?_
                refine lv_i2b hx hb dX0_feed_90 rfl ?_
                refine xx_is h (fun hp18 h => ?_)
                refine xx_bast C B.1 hp18 h dX0_feed_91 (fun gi19 h H locs B2 => ?_)
                have B := And.intro B2 B.2
                refine lv_aload_n hx hb dX0_feed_92 rfl (lv_at hL 0 rfl) ?_
                refine lv_dup hx hb dX0_feed_93 rfl ?_
                refine xx_gi (ci := 0) (k := 1) C B.1 xc_0 ht15 (by decide) (Nat.le_of_ble_eq_true rfl) rfl q360 (fun _ h => h) dX0_feed_94 ?_
                refine lv_iconst (v := 1) hx hb dX0_feed_97 (by decide) ?_
                refine lv_iadd hx hb dX0_feed_98 ?_
                refine xx_pi (ci := 0) (k := 1) C B.1 xc_0 ht15 (by decide) (Nat.le_of_ble_eq_true rfl) rfl q360 (fun _ h => h) rfl rfl rfl h dX0_feed_99 (fun gi20 h H locs B2 => ?_)
                have B := And.intro B2 B.2
                refine lv_iinc (v := x11l72 + (-8)) (lv' := [(11, .int (x11l72 + (-8))), (0, .ref (adl72 a0)), (7, .ref (adl72 nx)), (8, .int (Int32.ofNat (q1.1 nx).2)), (9, .int x9l54), (10, .int v14)]) hx hb dX0_feed_102 hL (k := 5) rfl rfl (by decide) rfl (fun ls hL => ?_)
                refine lv_goto (tgt := 72) hx hb dX0_feed_105 (by decide) ?_
                exact ih72 _ _ _ _ _ _ _ _ _ _ (g_next h h972) B (lv_sub hL [1, 2, 3, 4, 5, 0] rfl)
          exact hl72 g_K _ _ _ _ _ _ _ _ _ _ h872 B (lv_sub hL [2, 3, 4, 5, 1, 0] rfl)
    exact hl54 g_K _ _ _ _ _ _ _ _ _ _ h854 B (lv_sub hL [4, 2, 1, 0] rfl)
  · refine lv_iconst (v := (-1)) hx hb dX0_feed_13 (by decide) ?_
    exact hret _ (ad, hk, nx, ns, gi, gr) _ _ _ _ (Option.some.inj h) B dX0_feed_14
theorem k_X0_feed {p : Program} {l : Launch} {e : Env} {R : Room} {s : State} {m : MethodId} {args : Array Value} {below : List Frame} {meth : Method} {c : Code} {H : Heap} {locs : List Loc} {Q : State → Prop} {pc : Nat} {ls : Array Slot} {rest : List Value} {cc : ByteArray} {nL : Nat} {D : va_G} {cA : Nat → ClassId} {a9 : Nat → Nat} {h9 : HK} {n0 m0 cN cS : Nat} {ad : Nat → Nat} {hk : HK} {nx ns : Nat} {A : Nat → Prop} {gi : GI} {gr : GR} {α : Type} {r : α} {own : String} {idx : Nat} {a0 : Nat} {x1 : Int32} {x2 : Int32} {x3 : Int32} {x4 : Int32} {x5 : Int32} {ff : (Int32 × HK × Nat × Nat × GI × GR) → Option α} (ht : (hk a0).1 = 10) (C : CallFix p m c cc nL s args lw_all own) (B : XBA D cA a9 h9 n0 m0 cN cS ad hk nx ns A s gi gr H locs) (hRr : R.cells = cN - n0 ∧ R.slots = cS - m0) (hq : Cond.methodLink own idx yX0_feed ∈ lw_all) (hF : 2 ≤ R.frames) (hN : 95 ≤ R.locals) (hs : ls.size = nL) (hw : (rest.map fun v => v.category).sum ≤ 8) (h : (g_cc (fun c1 c2 => f_X0_feed c1 c2 hk nx ns gi gr a0 x1 x2 x3 x4 x5) (fun q : Int32 × HK × Nat × Nat × GI × GR => q.2.2.1) (fun q : Int32 × HK × Nat × Nat × GI × GR => q.2.2.2.1) cN cS nx ns).bind ff = some r) (hdg : decode cc pc = .ok (.invokevirtual idx, 3)) (kk : ∀ (q : Int32 × HK × Nat × Nat × GI × GR) (ad' : Nat → Nat), ff q = some r → (∀ i, (hk i).1 < 1000 → ad' i = ad i ∧ q.2.1 i = hk i) → ∀ (H' : Heap) (locs' : List Loc), XBA D cA a9 h9 n0 m0 cN cS ad' q.2.1 q.2.2.1 q.2.2.2.1 A s q.2.2.2.2.1 q.2.2.2.2.2 H' locs' → W p l e R s m args below meth c H' locs' (q.2.2.1 - n0) (q.2.2.2.1 - m0) Q (F0 m (pc + 3) ls (.int q.1 :: rest))) : W p l e R s m args below meth c H locs (nx - n0) (ns - m0) Q (F0 m pc ls (.int x5 :: .int x4 :: .int x3 :: .int x2 :: .int x1 :: .ref (ad a0) :: rest)) := by
  obtain ⟨q, h1, h2⟩ := g_ob h
  obtain ⟨h3, c1, c2, c3, c4⟩ := g_cc_of h1
  refine xa_cVI (As := [.int x1, .int x2, .int x3, .int x4, .int x5]) (rest := rest) (n := 5) (qn := q.2.2.1) (qs := q.2.2.2.1) xc_0 ht (by decide) C B hRr (fun sz => w_X0_feed l D cA ad _ _ hk nx ns gi gr a0 x1 x2 x3 x4 x5 ht ⟨c1, c3⟩ q h3 sz) hq q453 q454 q141 q455 (by decide +kernel) ⟨c1, c2, c3, c4⟩ (fun v u hp => ?_) ⟨hF, hN⟩ rfl hs hw hdg (fun v u H9 locs9 hp hae B9 => ?_)
  · have hp := hp
    subst hp
    exact ⟨rfl, rfl⟩
  · have hp := hp
    subst hp
    exact kk _ u.1 h2 hae H9 locs9 B9
def f_X1_rate_l11 (cN cS : Nat) (a0 : Nat) (x1i11 : Int32) (x2i11 : Int32) (a4i11 : Nat) (o3l11 : Option Nat) (hkl11 : HK) (nxl11 : Nat) (nsl11 : Nat) (gil11 : GI) (grl11 : GR) : Option ((Option Nat × HK × Nat × Nat × GI × GR) ⊕ (Option Nat × HK × Nat × Nat × GI × GR)) :=
  (g_is hkl11 a4i11 23).bind fun _ =>
  (f_J15_hasNext hkl11 gil11 grl11 a4i11).bind fun q10 =>
  if q10 = 0 then
  (some (.inr (o3l11, hkl11, nxl11, nsl11, gil11, grl11)))
  else
  ((f_J15_next hkl11 gil11 grl11 a4i11).bind fun q11 =>
  (g_is hkl11 q11.1 17).bind fun _ =>
  if (q11.2 q11.1 0) = x1i11 then
  (if (q11.2 q11.1 1) = x2i11 then
  (some (.inl (q11.1, hkl11, nxl11, nsl11, q11.2, grl11)))
  else
  (some (.inl (o3l11, hkl11, nxl11, nsl11, q11.2, grl11))))
  else
  (some (.inl (o3l11, hkl11, nxl11, nsl11, q11.2, grl11))))
def f_X1_rate_x11 (cN cS : Nat) (a0 : Nat) (o3e11 : Option Nat) (hke11 : HK) (nxe11 : Nat) (nse11 : Nat) (gie11 : GI) (gre11 : GR) : Option (Option Nat × HK × Nat × Nat × GI × GR) :=
  some (o3e11, hke11, nxe11, nse11, gie11, gre11)
def f_X1_rate (cN cS : Nat) (hk : HK) (nx ns : Nat) (gi : GI) (gr : GR) (a0 : Nat) (x1 : Int32) (x2 : Int32) : Option (Option Nat × HK × Nat × Nat × GI × GR) :=
  (gr a0 2).bind fun v1 =>
  (g_is hk v1 22).bind fun _ =>
  (g_cc (fun c1 c2 => f_J2_iterator c1 c2 hk nx ns gi gr v1) (fun q : Nat × HK × Nat × Nat × GI × GR => q.2.2.1) (fun q : Nat × HK × Nat × Nat × GI × GR => q.2.2.2.1) cN cS nx ns).bind fun q4 =>
  (g_loop g_K (fun (s : Option Nat × HK × Nat × Nat × GI × GR) => f_X1_rate_l11 cN cS a0 x1 x2 q4.1 s.1 s.2.1 s.2.2.1 s.2.2.2.1 s.2.2.2.2.1 s.2.2.2.2.2) ((none : Option Nat), q4.2.1, q4.2.2.1, q4.2.2.2.1, q4.2.2.2.2.1, q4.2.2.2.2.2)).bind fun E11 => f_X1_rate_x11 cN cS a0 E11.1 E11.2.1 E11.2.2.1 E11.2.2.2.1 E11.2.2.2.2.1 E11.2.2.2.2.2
set_option maxHeartbeats 400000 in
theorem w_X1_rate (l : Launch) (D : va_G) (cA : Nat → ClassId) (ad : Nat → Nat) (cN cS : Nat) (hk : HK) (nx ns : Nat) (gi : GI) (gr : GR) (a0 : Nat) (x1 : Int32) (x2 : Int32) (ht : (hk a0).1 = 11) (hcap : nx ≤ cN ∧ ns ≤ cS) (r : Option Nat × HK × Nat × Nat × GI × GR) (h : f_X1_rate cN cS hk nx ns gi gr a0 x1 x2 = some r) (sz : Nat) : Met l yX1_rate (ws_ yX1_rate cX1_rate 6 (some (.object "WeatherWages$Rate"))) ({ frames := 3, cells := cN - nx, slots := cS - ns, locals := 106 } : Room) (va_Pc [.ref (ad a0), .int x1, .int x2] (XPre D cA ad hk nx gi gr sz)) (va_Qq (fun o u => ∃ v : Option Nat, o = v.map u.1 ∧ (fun (v : Option Nat) (u : XU) => (v, u.2) = r) v u) (XPostA D cA ad hk nx sz) (XA ad nx sz)) (cN - nx) (cS - ns) (XA ad nx sz) := by
  refine xa_stR (Or.inl ⟨_, rfl⟩) (own := RX1) (P := (fun (v : Option Nat) (u : XU) => (v, u.2) = r)) (by decide +kernel) rfl (Nat.le_of_ble_eq_true rfl) hcap (fun p e s m args below meth c R Q A ls C hmn hF hN hRr B hret hL => ?_) sz
  have hx := C.1
  have hb := C.2.1
  have hL : lv_has ls 6 [(0, .ref (ad a0)), (1, .int x1), (2, .int x2)] := hL
  unfold f_X1_rate at h
  refine lv_null hx hb dX1_rate_0 ?_
  refine lv_astore_nN (lv' := [(3, .null), (0, .ref (ad a0)), (1, .int x1), (2, .int x2)]) hx hb dX1_rate_1 rfl hL (by decide) rfl (fun ls hL => ?_)
  refine lv_aload_n hx hb dX1_rate_2 rfl (lv_at hL 1 rfl) ?_
  refine xx_gr (ci := 1) (k := 2) C B.1 xc_1 ht (by decide) (Nat.le_of_ble_eq_true rfl) rfl q259 (fun _ h => h) h dX1_rate_3 (fun v1 ok2 h => ?_)
  refine xx_is h (fun hp3 h => ?_)
  refine k_J2_iterator hp3 C B hRr q1060 (Nat.le_trans (Nat.le_of_ble_eq_true rfl) hF) (Nat.le_trans (Nat.le_of_ble_eq_true rfl) hN) hL.1 (Nat.le_of_ble_eq_true rfl) h dX1_rate_6 (fun q4 ad5 h hae6 H locs B => ?_)
  rw [← (hae6 a0 (by rw [ht]; decide)).1] at hL
  have hp7 : (q4.2.1 a0).1 = 11 := by rw [(hae6 a0 (by rw [ht]; decide)).2]; exact ht
  refine lv_astore (lv' := [(4, .ref (ad5 q4.1)), (3, .null), (0, .ref (ad5 a0)), (1, .int x1), (2, .int x2)]) hx hb dX1_rate_9 hL (by decide) (by first | rfl | (simp [xx_vcat]; done)) (fun ls hL => ?_)
  obtain ⟨E11, h811, h⟩ := g_ob h
  have kx11 : ∀ (o3e11 : Option Nat) (hke11 : HK) (nxe11 : Nat) (nse11 : Nat) (gie11 : GI) (gre11 : GR) (ade11 : Nat → Nat) (H : Heap) (locs : List Loc) (ls : Array Slot), (o3e11, hke11, nxe11, nse11, gie11, gre11) = E11 → XBA D cA ad hk nx ns cN cS ade11 hke11 nxe11 nse11 A s gie11 gre11 H locs → lv_has ls 6 [(3, va_rf (o3e11.map ade11))] → W p l e R s m args below meth c H locs (nxe11 - nx) (nse11 - ns) Q (F0 m 61 ls []) := by
    intro o3e11 hke11 nxe11 nse11 gie11 gre11 ade11 H locs ls he B hL
    subst he
    have h : f_X1_rate_x11 cN cS a0 o3e11 hke11 nxe11 nse11 gie11 gre11 = some r := h
    unfold f_X1_rate_x11 at h
    have ht13 : (hke11 a0).1 = 11 := by rw [(B.2.1 a0 (by rw [ht]; decide)).2]; exact ht
    refine xx_aload_nO (o := o3e11) (ad := ade11) hx hb dX1_rate_61 rfl (lv_at hL 0 rfl) ?_
    exact hret _ (ade11, hke11, nxe11, nse11, gie11, gre11) _ _ _ _ (Option.some.inj h) B dX1_rate_62
  have hl11 : ∀ (k : Nat) (o3l11 : Option Nat) (hkl11 : HK) (nxl11 : Nat) (nsl11 : Nat) (gil11 : GI) (grl11 : GR) (adl11 : Nat → Nat) (H : Heap) (locs : List Loc) (ls : Array Slot), g_loop k (fun (s : Option Nat × HK × Nat × Nat × GI × GR) => f_X1_rate_l11 cN cS a0 x1 x2 q4.1 s.1 s.2.1 s.2.2.1 s.2.2.2.1 s.2.2.2.2.1 s.2.2.2.2.2) (o3l11, hkl11, nxl11, nsl11, gil11, grl11) = some E11 → XBA D cA ad hk nx ns cN cS adl11 hkl11 nxl11 nsl11 A s gil11 grl11 H locs → lv_has ls 6 [(1, .int x1), (2, .int x2), (3, va_rf (o3l11.map adl11)), (4, .ref (adl11 q4.1))] → W p l e R s m args below meth c H locs (nxl11 - nx) (nsl11 - ns) Q (F0 m 11 ls []) := by
    intro k
    induction k with
    | zero => intro o3l11 hkl11 nxl11 nsl11 gil11 grl11 adl11 H locs ls h; exact absurd h (fun z => g_loop_0 z)
    | succ k ih11 =>
      intro o3l11 hkl11 nxl11 nsl11 gil11 grl11 adl11 H locs ls h B hL
      obtain ⟨Z11, h, h911⟩ := g_loop_s h
      have h : f_X1_rate_l11 cN cS a0 x1 x2 q4.1 o3l11 hkl11 nxl11 nsl11 gil11 grl11 = some Z11 := h
      unfold f_X1_rate_l11 at h
      have ht8 : (hkl11 a0).1 = 11 := by rw [(B.2.1 a0 (by rw [ht]; decide)).2]; exact ht
      refine lv_aload hx hb dX1_rate_11 (lv_at hL 3 rfl) ?_
      refine xx_is h (fun hp9 h => ?_)
      refine kF_J15_hasNext hp9 C B.1 q1084 (Nat.le_trans (Nat.le_of_ble_eq_true rfl) hF) (Nat.le_trans (Nat.le_of_ble_eq_true rfl) hN) hL.1 (Nat.le_of_ble_eq_true rfl) (xa_z hRr B) h dX1_rate_13 (fun q10 h H locs B2 => ?_)
      have B := And.intro B2 B.2
      refine gg_if_eq hx hb 61 h dX1_rate_18 (by decide) (fun h => ?_) (fun h => ?_)
      · exact kx11 _ _ _ _ _ _ _ _ _ _ (g_exit h h911) B (lv_sub hL [2] rfl)
      · refine lv_aload hx hb dX1_rate_21 (lv_at hL 3 rfl) ?_
        refine kF_J15_next hp9 C B.1 q1094 (Nat.le_trans (Nat.le_of_ble_eq_true rfl) hF) (Nat.le_trans (Nat.le_of_ble_eq_true rfl) hN) hL.1 (Nat.le_of_ble_eq_true rfl) (xa_z hRr B) h dX1_rate_23 (fun q11 h H locs B2 => ?_)
        have B := And.intro B2 B.2
        refine xx_is h (fun hp12 h => ?_)
        refine xx_cast C B.1 xc_7 hp12 (by decide) q1106 dX1_rate_28 ?_
        refine lv_astore (lv' := [(5, .ref (adl11 q11.1)), (1, .int x1), (2, .int x2), (3, va_rf (o3l11.map adl11)), (4, .ref (adl11 q4.1))]) hx hb dX1_rate_31 hL (by decide) rfl (fun ls hL => ?_)
        refine lv_aload hx hb dX1_rate_33 (lv_at hL 0 rfl) ?_
        refine xx_gi (ci := 7) (k := 0) C B.1 xc_7 hp12 (by decide) (Nat.le_of_ble_eq_true rfl) rfl q1114 (fun _ h => h) dX1_rate_35 ?_
        refine lv_iload_n hx hb dX1_rate_38 rfl (lv_at hL 1 rfl) ?_
        refine gg_icmp_ne hx hb 56 h dX1_rate_39 (by decide) (fun h => ?_) (fun h => ?_)
        · refine xx_aload_nO (o := o3l11) (ad := adl11) hx hb dX1_rate_56 rfl (lv_at hL 3 rfl) ?_
          refine xx_astore_nO (o := o3l11) (ad := adl11) (lv' := [(3, va_rf (o3l11.map adl11)), (5, .ref (adl11 q11.1)), (1, .int x1), (2, .int x2), (4, .ref (adl11 q4.1))]) hx hb dX1_rate_57 rfl hL (by decide) (by first | rfl | (simp [xx_vcat]; done)) (fun ls hL => ?_)
          refine lv_goto (tgt := 11) hx hb dX1_rate_58 (by decide) ?_
          exact ih11 _ _ _ _ _ _ _ _ _ _ (g_next h h911) B (lv_sub hL [2, 3, 0, 4] rfl)
        · refine lv_aload hx hb dX1_rate_42 (lv_at hL 0 rfl) ?_
          refine xx_gi (ci := 7) (k := 1) C B.1 xc_7 hp12 (by decide) (Nat.le_of_ble_eq_true rfl) rfl q1116 (fun _ h => h) dX1_rate_44 ?_
          refine lv_iload_n hx hb dX1_rate_47 rfl (lv_at hL 2 rfl) ?_
          refine gg_icmp_ne hx hb 56 h dX1_rate_48 (by decide) (fun h => ?_) (fun h => ?_)
          · refine xx_aload_nO (o := o3l11) (ad := adl11) hx hb dX1_rate_56 rfl (lv_at hL 3 rfl) ?_
            refine xx_astore_nO (o := o3l11) (ad := adl11) (lv' := [(3, va_rf (o3l11.map adl11)), (5, .ref (adl11 q11.1)), (1, .int x1), (2, .int x2), (4, .ref (adl11 q4.1))]) hx hb dX1_rate_57 rfl hL (by decide) (by first | rfl | (simp [xx_vcat]; done)) (fun ls hL => ?_)
            refine lv_goto (tgt := 11) hx hb dX1_rate_58 (by decide) ?_
            exact ih11 _ _ _ _ _ _ _ _ _ _ (g_next h h911) B (lv_sub hL [2, 3, 0, 4] rfl)
          · refine lv_aload hx hb dX1_rate_51 (lv_at hL 0 rfl) ?_
            refine lv_goto (tgt := 57) hx hb dX1_rate_53 (by decide) ?_
            refine lv_astore_n (lv' := [(3, .ref (adl11 q11.1)), (5, .ref (adl11 q11.1)), (1, .int x1), (2, .int x2), (4, .ref (adl11 q4.1))]) hx hb dX1_rate_57 rfl hL (by decide) rfl (fun ls hL => ?_)
            refine lv_goto (tgt := 11) hx hb dX1_rate_58 (by decide) ?_
            exact ih11 _ _ _ _ _ _ _ _ _ _ (g_next h h911) B (lv_sub hL [2, 3, 0, 4] rfl)
  exact hl11 g_K _ _ _ _ _ _ _ _ _ _ h811 B (lv_sub hL [3, 4, 1, 0] rfl)
theorem k_X1_rate {p : Program} {l : Launch} {e : Env} {R : Room} {s : State} {m : MethodId} {args : Array Value} {below : List Frame} {meth : Method} {c : Code} {H : Heap} {locs : List Loc} {Q : State → Prop} {pc : Nat} {ls : Array Slot} {rest : List Value} {cc : ByteArray} {nL : Nat} {D : va_G} {cA : Nat → ClassId} {a9 : Nat → Nat} {h9 : HK} {n0 m0 cN cS : Nat} {ad : Nat → Nat} {hk : HK} {nx ns : Nat} {A : Nat → Prop} {gi : GI} {gr : GR} {α : Type} {r : α} {own : String} {idx : Nat} {a0 : Nat} {x1 : Int32} {x2 : Int32} {ff : (Option Nat × HK × Nat × Nat × GI × GR) → Option α} (ht : (hk a0).1 = 11) (C : CallFix p m c cc nL s args lw_all own) (B : XBA D cA a9 h9 n0 m0 cN cS ad hk nx ns A s gi gr H locs) (hRr : R.cells = cN - n0 ∧ R.slots = cS - m0) (hq : Cond.methodLink own idx yX1_rate ∈ lw_all) (hF : 4 ≤ R.frames) (hN : 131 ≤ R.locals) (hs : ls.size = nL) (hw : (rest.map fun v => v.category).sum ≤ 8) (h : (g_cc (fun c1 c2 => f_X1_rate c1 c2 hk nx ns gi gr a0 x1 x2) (fun q : Option Nat × HK × Nat × Nat × GI × GR => q.2.2.1) (fun q : Option Nat × HK × Nat × Nat × GI × GR => q.2.2.2.1) cN cS nx ns).bind ff = some r) (hdg : decode cc pc = .ok (.invokevirtual idx, 3)) (kk : ∀ (q : Option Nat × HK × Nat × Nat × GI × GR) (ad' : Nat → Nat), ff q = some r → (∀ i, (hk i).1 < 1000 → ad' i = ad i ∧ q.2.1 i = hk i) → ∀ (H' : Heap) (locs' : List Loc), XBA D cA a9 h9 n0 m0 cN cS ad' q.2.1 q.2.2.1 q.2.2.2.1 A s q.2.2.2.2.1 q.2.2.2.2.2 H' locs' → W p l e R s m args below meth c H' locs' (q.2.2.1 - n0) (q.2.2.2.1 - m0) Q (F0 m (pc + 3) ls (va_rf (q.1.map ad') :: rest))) : W p l e R s m args below meth c H locs (nx - n0) (ns - m0) Q (F0 m pc ls (.int x2 :: .int x1 :: .ref (ad a0) :: rest)) := by
  obtain ⟨q, h1, h2⟩ := g_ob h
  obtain ⟨h3, c1, c2, c3, c4⟩ := g_cc_of h1
  refine xa_cVR (As := [.int x1, .int x2]) (rest := rest) (n := 2) (qn := q.2.2.1) (qs := q.2.2.2.1) xc_1 ht (by decide) C B hRr (fun sz => w_X1_rate l D cA ad _ _ hk nx ns gi gr a0 x1 x2 ht ⟨c1, c3⟩ q h3 sz) hq q1057 q1058 q142 q1059 (by decide +kernel) ⟨c1, c2, c3, c4⟩ (fun v u hp => ?_) ⟨hF, hN⟩ rfl hs hw hdg (fun v u H9 locs9 hp hae B9 => ?_)
  · have hp := hp
    subst hp
    exact ⟨rfl, rfl⟩
  · have hp := hp
    subst hp
    exact kk _ u.1 h2 hae H9 locs9 B9
def f_X0_change (cN cS : Nat) (hk : HK) (nx ns : Nat) (gi : GI) (gr : GR) (a0 : Nat) (x1 : Int32) (x2 : Int32) (x3 : Int32) : Option (Int32 × HK × Nat × Nat × GI × GR) :=
  (f_X0_isMan hk gi gr a0 x1).bind fun q1 =>
  if q1 = 0 then
  (some ((-1), hk, nx, ns, gi, gr))
  else
  ((f_X0_isKind hk gi gr a0 x2).bind fun q2 =>
  if q2 = 0 then
  (some ((-1), hk, nx, ns, gi, gr))
  else
  ((f_X0_isKind hk gi gr a0 x3).bind fun q3 =>
  if q3 = 0 then
  (some ((-1), hk, nx, ns, gi, gr))
  else
  ((gr a0 4).bind fun v4 =>
  (g_is hk v4 11).bind fun _ =>
  (g_cc (fun c1 c2 => f_X1_rate c1 c2 hk nx ns gi gr v4 x2 x3) (fun q : Option Nat × HK × Nat × Nat × GI × GR => q.2.2.1) (fun q : Option Nat × HK × Nat × Nat × GI × GR => q.2.2.2.1) cN cS nx ns).bind fun q7 =>
  q7.1.elim
  (some ((-1), q7.2.1, q7.2.2.1, q7.2.2.2.1, q7.2.2.2.2.1, q7.2.2.2.2.2))
  (fun v11 =>
  (g_is q7.2.1 v11 17).bind fun _ =>
  (q7.2.2.2.2.2 a0 5).bind fun v14 =>
  (g_is q7.2.1 v14 13).bind fun _ =>
  (f_X3_purse q7.2.1 q7.2.2.2.2.1 q7.2.2.2.2.2 v14 x1 x2).bind fun q17 =>
  if (q7.2.2.2.2.1 v11 2) ≤ q17 then
  ((f_X0_act q7.2.1 q7.2.2.2.2.1 q7.2.2.2.2.2 a0).bind fun q18 =>
  (q18.2 a0 5).bind fun v19 =>
  (g_is q7.2.1 v19 13).bind fun _ =>
  (q18.2 v19 0).bind fun v22 =>
  (g_is q7.2.1 v22 0).bind fun _ =>
  (g_ld q18.1 v22 (q7.2.1 v22).2 ((3 * x1) + x2)).bind fun v25 =>
  (g_st q18.1 v22 (q7.2.1 v22).2 ((3 * x1) + x2) (v25 - (q18.1 v11 2))).bind fun gi26 =>
  (q18.2 a0 5).bind fun v27 =>
  (g_is q7.2.1 v27 13).bind fun _ =>
  (f_X3_gets q7.2.1 gi26 q18.2 v27 x1 x3 (gi26 v11 3)).bind fun q30 =>
  (q18.2 a0 5).bind fun v31 =>
  (g_is q7.2.1 v31 13).bind fun _ =>
  (f_X3_purse q7.2.1 q30 q18.2 v31 x1 x3).bind fun q34 =>
  some (q34, q7.2.1, q7.2.2.1, q7.2.2.2.1, q30, q18.2))
  else
  (some ((-1), q7.2.1, q7.2.2.1, q7.2.2.2.1, q7.2.2.2.2.1, q7.2.2.2.2.2))))))
set_option maxHeartbeats 400000 in
theorem w_X0_change (l : Launch) (D : va_G) (cA : Nat → ClassId) (ad : Nat → Nat) (cN cS : Nat) (hk : HK) (nx ns : Nat) (gi : GI) (gr : GR) (a0 : Nat) (x1 : Int32) (x2 : Int32) (x3 : Int32) (ht : (hk a0).1 = 10) (hcap : nx ≤ cN ∧ ns ≤ cS) (r : Int32 × HK × Nat × Nat × GI × GR) (h : f_X0_change cN cS hk nx ns gi gr a0 x1 x2 x3 = some r) (sz : Nat) : Met l yX0_change (ws_ yX0_change cX0_change 5 (some .int)) ({ frames := 4, cells := cN - nx, slots := cS - ns, locals := 131 } : Room) (va_Pc [.ref (ad a0), .int x1, .int x2, .int x3] (XPre D cA ad hk nx gi gr sz)) (va_Qi (fun (v : Int32) (u : XU) => (v, u.2) = r) (XPostA D cA ad hk nx sz) (XA ad nx sz)) (cN - nx) (cS - ns) (XA ad nx sz) := by
  refine xa_stI (own := RX0) (P := (fun (v : Int32) (u : XU) => (v, u.2) = r)) (by decide +kernel) rfl (Nat.le_of_ble_eq_true rfl) hcap (fun p e s m args below meth c R Q A ls C hmn hF hN hRr B hret hL => ?_) sz
  have hx := C.1
  have hb := C.2.1
  have hL : lv_has ls 5 [(0, .ref (ad a0)), (1, .int x1), (2, .int x2), (3, .int x3)] := hL
  unfold f_X0_change at h
  refine lv_aload_n hx hb dX0_change_0 rfl (lv_at hL 0 rfl) ?_
  refine lv_iload_n hx hb dX0_change_1 rfl (lv_at hL 1 rfl) ?_
  refine k_X0_isMan ht C B.1 q1243 (Nat.le_trans (Nat.le_of_ble_eq_true rfl) hF) (Nat.le_trans (Nat.le_of_ble_eq_true rfl) hN) hL.1 (Nat.le_of_ble_eq_true rfl) (xa_z hRr B) h dX0_change_2 (fun q1 h H locs B2 => ?_)
  have B := And.intro B2 B.2
  refine gg_if_eq hx hb 24 h dX0_change_5 (by decide) (fun h => ?_) (fun h => ?_)
  · refine lv_iconst (v := (-1)) hx hb dX0_change_24 (by decide) ?_
    exact hret _ (ad, hk, nx, ns, gi, gr) _ _ _ _ (Option.some.inj h) B dX0_change_25
  · refine lv_aload_n hx hb dX0_change_8 rfl (lv_at hL 0 rfl) ?_
    refine lv_iload_n hx hb dX0_change_9 rfl (lv_at hL 2 rfl) ?_
    refine k_X0_isKind ht C B.1 q1341 (Nat.le_trans (Nat.le_of_ble_eq_true rfl) hF) (Nat.le_trans (Nat.le_of_ble_eq_true rfl) hN) hL.1 (Nat.le_of_ble_eq_true rfl) (xa_z hRr B) h dX0_change_10 (fun q2 h H locs B2 => ?_)
    have B := And.intro B2 B.2
    refine gg_if_eq hx hb 24 h dX0_change_13 (by decide) (fun h => ?_) (fun h => ?_)
    · refine lv_iconst (v := (-1)) hx hb dX0_change_24 (by decide) ?_
      exact hret _ (ad, hk, nx, ns, gi, gr) _ _ _ _ (Option.some.inj h) B dX0_change_25
    · refine lv_aload_n hx hb dX0_change_16 rfl (lv_at hL 0 rfl) ?_
      refine lv_iload_n hx hb dX0_change_17 rfl (lv_at hL 3 rfl) ?_
      refine k_X0_isKind ht C B.1 q1341 (Nat.le_trans (Nat.le_of_ble_eq_true rfl) hF) (Nat.le_trans (Nat.le_of_ble_eq_true rfl) hN) hL.1 (Nat.le_of_ble_eq_true rfl) (xa_z hRr B) h dX0_change_18 (fun q3 h H locs B2 => ?_)
      have B := And.intro B2 B.2
      refine gg_if_ne hx hb 26 h dX0_change_21 (by decide) (fun h => ?_) (fun h => ?_)
      · refine lv_aload_n hx hb dX0_change_26 rfl (lv_at hL 0 rfl) ?_
        refine xx_gr (ci := 0) (k := 4) C B.1 xc_0 ht (by decide) (Nat.le_of_ble_eq_true rfl) rfl q363 (fun _ h => h) h dX0_change_27 (fun v4 ok5 h => ?_)
        refine lv_iload_n hx hb dX0_change_30 rfl (lv_at hL 2 rfl) ?_
        refine lv_iload_n hx hb dX0_change_31 rfl (lv_at hL 3 rfl) ?_
        refine xx_is h (fun hp6 h => ?_)
        refine k_X1_rate hp6 C B hRr q1415 (Nat.le_trans (Nat.le_of_ble_eq_true rfl) hF) (Nat.le_trans (Nat.le_of_ble_eq_true rfl) hN) hL.1 (Nat.le_of_ble_eq_true rfl) h dX0_change_32 (fun q7 ad8 h hae9 H locs B => ?_)
        rw [← (hae9 a0 (by rw [ht]; decide)).1] at hL
        have hp10 : (q7.2.1 a0).1 = 10 := by rw [(hae9 a0 (by rw [ht]; decide)).2]; exact ht
        refine xx_astoreO (o := q7.1) (ad := ad8) (lv' := [(4, va_rf (q7.1.map ad8)), (0, .ref (ad8 a0)), (1, .int x1), (2, .int x2), (3, .int x3)]) hx hb dX0_change_35 hL (by decide) (by first | rfl | (simp [xx_vcat]; done)) (fun ls hL => ?_)
        refine xx_aloadO (o := q7.1) (ad := ad8) hx hb dX0_change_37 (lv_at hL 0 rfl) ?_
        refine xx_ifnull (o := q7.1) (ad := ad8) hx hb 59 h dX0_change_39 (by decide) (fun ho12 h => ?_) (fun v11 ho12 h => ?_)
        · have hL : lv_has ls 5 [(4, .null), (0, .ref (ad8 a0)), (1, .int x1), (2, .int x2), (3, .int x3)] := by rw [ho12] at hL; exact hL
          refine lv_iconst (v := (-1)) hx hb dX0_change_59 (by decide) ?_
          exact hret _ (ad8, q7.2.1, q7.2.2.1, q7.2.2.2.1, q7.2.2.2.2.1, q7.2.2.2.2.2) _ _ _ _ (Option.some.inj h) B dX0_change_60
        · have hL : lv_has ls 5 [(4, .ref (ad8 v11)), (0, .ref (ad8 a0)), (1, .int x1), (2, .int x2), (3, .int x3)] := by rw [ho12] at hL; exact hL
          refine lv_aload hx hb dX0_change_42 (lv_at hL 0 rfl) ?_
          refine xx_is h (fun hp13 h => ?_)
          refine xx_gi (ci := 7) (k := 2) C B.1 xc_7 hp13 (by decide) (Nat.le_of_ble_eq_true rfl) rfl q1118 (fun _ h => h) dX0_change_44 ?_
          refine lv_aload_n hx hb dX0_change_47 rfl (lv_at hL 1 rfl) ?_
          refine xx_gr (ci := 0) (k := 5) C B.1 xc_0 hp10 (by decide) (Nat.le_of_ble_eq_true rfl) rfl q364 (fun _ h => h) h dX0_change_48 (fun v14 ok15 h => ?_)
          refine lv_iload_n hx hb dX0_change_51 rfl (lv_at hL 2 rfl) ?_
          refine lv_iload_n hx hb dX0_change_52 rfl (lv_at hL 3 rfl) ?_
          refine xx_is h (fun hp16 h => ?_)
          refine k_X3_purse hp16 C B.1 q1349 (Nat.le_trans (Nat.le_of_ble_eq_true rfl) hF) (Nat.le_trans (Nat.le_of_ble_eq_true rfl) hN) hL.1 (Nat.le_of_ble_eq_true rfl) (xa_z hRr B) h dX0_change_53 (fun q17 h H locs B2 => ?_)
          have B := And.intro B2 B.2
          refine gg_icmp_le hx hb 61 h dX0_change_56 (by decide) (fun h => ?_) (fun h => ?_)
          · refine lv_aload_n hx hb dX0_change_61 rfl (lv_at hL 1 rfl) ?_
            refine k_X0_act hp10 C B.1 q1376 (Nat.le_trans (Nat.le_of_ble_eq_true rfl) hF) (Nat.le_trans (Nat.le_of_ble_eq_true rfl) hN) hL.1 (Nat.le_of_ble_eq_true rfl) (xa_z hRr B) h dX0_change_62 (fun q18 h H locs B2 => ?_)
            have B := And.intro B2 B.2
            refine lv_aload_n hx hb dX0_change_65 rfl (lv_at hL 1 rfl) ?_
            refine xx_gr (ci := 0) (k := 5) C B.1 xc_0 hp10 (by decide) (Nat.le_of_ble_eq_true rfl) rfl q364 (fun _ h => h) h dX0_change_66 (fun v19 ok20 h => ?_)
            refine xx_is h (fun hp21 h => ?_)
            refine xx_gr (ci := 3) (k := 0) C B.1 xc_3 hp21 (by decide) (Nat.le_of_ble_eq_true rfl) rfl q305 (fun _ h => h) h dX0_change_69 (fun v22 ok23 h => ?_)
            refine lv_iconst (v := 3) hx hb dX0_change_72 (by decide) ?_
            refine lv_iload_n hx hb dX0_change_73 rfl (lv_at hL 2 rfl) ?_
            refine lv_imul hx hb dX0_change_74 ?_
            refine lv_iload_n hx hb dX0_change_75 rfl (lv_at hL 3 rfl) ?_
            refine lv_iadd hx hb dX0_change_76 ?_
            refine lv_dup2_11 hx hb dX0_change_77 rfl rfl ?_
            refine xx_is h (fun hp24 h => ?_)
            refine xx_iald C B.1 hp24 h dX0_change_78 (fun v25 h => ?_)
            refine lv_aload hx hb dX0_change_79 (lv_at hL 0 rfl) ?_
            refine xx_gi (ci := 7) (k := 2) C B.1 xc_7 hp13 (by decide) (Nat.le_of_ble_eq_true rfl) rfl q1118 (fun _ h => h) dX0_change_81 ?_
            refine lv_isub hx hb dX0_change_84 ?_
            refine xx_iast C B.1 hp24 h dX0_change_85 (fun gi26 h H locs B2 => ?_)
            have B := And.intro B2 B.2
            refine lv_aload_n hx hb dX0_change_86 rfl (lv_at hL 1 rfl) ?_
            refine xx_gr (ci := 0) (k := 5) C B.1 xc_0 hp10 (by decide) (Nat.le_of_ble_eq_true rfl) rfl q364 (fun _ h => h) h dX0_change_87 (fun v27 ok28 h => ?_)
            refine lv_iload_n hx hb dX0_change_90 rfl (lv_at hL 2 rfl) ?_
            refine lv_iload_n hx hb dX0_change_91 rfl (lv_at hL 4 rfl) ?_
            refine lv_aload hx hb dX0_change_92 (lv_at hL 0 rfl) ?_
            refine xx_gi (ci := 7) (k := 3) C B.1 xc_7 hp13 (by decide) (Nat.le_of_ble_eq_true rfl) rfl q1120 (fun _ h => h) dX0_change_94 ?_
            refine xx_is h (fun hp29 h => ?_)
            refine k_X3_gets hp29 C B.1 q1406 (Nat.le_trans (Nat.le_of_ble_eq_true rfl) hF) (Nat.le_trans (Nat.le_of_ble_eq_true rfl) hN) hL.1 (Nat.le_of_ble_eq_true rfl) (xa_z hRr B) h dX0_change_97 (fun q30 h H locs B2 => ?_)
            have B := And.intro B2 B.2
            refine lv_aload_n hx hb dX0_change_100 rfl (lv_at hL 1 rfl) ?_
            refine xx_gr (ci := 0) (k := 5) C B.1 xc_0 hp10 (by decide) (Nat.le_of_ble_eq_true rfl) rfl q364 (fun _ h => h) h dX0_change_101 (fun v31 ok32 h => ?_)
            refine lv_iload_n hx hb dX0_change_104 rfl (lv_at hL 2 rfl) ?_
            refine lv_iload_n hx hb dX0_change_105 rfl (lv_at hL 4 rfl) ?_
            refine xx_is h (fun hp33 h => ?_)
            refine k_X3_purse hp33 C B.1 q1349 (Nat.le_trans (Nat.le_of_ble_eq_true rfl) hF) (Nat.le_trans (Nat.le_of_ble_eq_true rfl) hN) hL.1 (Nat.le_of_ble_eq_true rfl) (xa_z hRr B) h dX0_change_106 (fun q34 h H locs B2 => ?_)
            have B := And.intro B2 B.2
            exact hret _ (ad8, q7.2.1, q7.2.2.1, q7.2.2.2.1, q30, q18.2) _ _ _ _ (Option.some.inj h) B dX0_change_109
          · refine lv_iconst (v := (-1)) hx hb dX0_change_59 (by decide) ?_
            exact hret _ (ad8, q7.2.1, q7.2.2.1, q7.2.2.2.1, q7.2.2.2.2.1, q7.2.2.2.2.2) _ _ _ _ (Option.some.inj h) B dX0_change_60
      · refine lv_iconst (v := (-1)) hx hb dX0_change_24 (by decide) ?_
        exact hret _ (ad, hk, nx, ns, gi, gr) _ _ _ _ (Option.some.inj h) B dX0_change_25
theorem k_X0_change {p : Program} {l : Launch} {e : Env} {R : Room} {s : State} {m : MethodId} {args : Array Value} {below : List Frame} {meth : Method} {c : Code} {H : Heap} {locs : List Loc} {Q : State → Prop} {pc : Nat} {ls : Array Slot} {rest : List Value} {cc : ByteArray} {nL : Nat} {D : va_G} {cA : Nat → ClassId} {a9 : Nat → Nat} {h9 : HK} {n0 m0 cN cS : Nat} {ad : Nat → Nat} {hk : HK} {nx ns : Nat} {A : Nat → Prop} {gi : GI} {gr : GR} {α : Type} {r : α} {own : String} {idx : Nat} {a0 : Nat} {x1 : Int32} {x2 : Int32} {x3 : Int32} {ff : (Int32 × HK × Nat × Nat × GI × GR) → Option α} (ht : (hk a0).1 = 10) (C : CallFix p m c cc nL s args lw_all own) (B : XBA D cA a9 h9 n0 m0 cN cS ad hk nx ns A s gi gr H locs) (hRr : R.cells = cN - n0 ∧ R.slots = cS - m0) (hq : Cond.methodLink own idx yX0_change ∈ lw_all) (hF : 5 ≤ R.frames) (hN : 155 ≤ R.locals) (hs : ls.size = nL) (hw : (rest.map fun v => v.category).sum ≤ 8) (h : (g_cc (fun c1 c2 => f_X0_change c1 c2 hk nx ns gi gr a0 x1 x2 x3) (fun q : Int32 × HK × Nat × Nat × GI × GR => q.2.2.1) (fun q : Int32 × HK × Nat × Nat × GI × GR => q.2.2.2.1) cN cS nx ns).bind ff = some r) (hdg : decode cc pc = .ok (.invokevirtual idx, 3)) (kk : ∀ (q : Int32 × HK × Nat × Nat × GI × GR) (ad' : Nat → Nat), ff q = some r → (∀ i, (hk i).1 < 1000 → ad' i = ad i ∧ q.2.1 i = hk i) → ∀ (H' : Heap) (locs' : List Loc), XBA D cA a9 h9 n0 m0 cN cS ad' q.2.1 q.2.2.1 q.2.2.2.1 A s q.2.2.2.2.1 q.2.2.2.2.2 H' locs' → W p l e R s m args below meth c H' locs' (q.2.2.1 - n0) (q.2.2.2.1 - m0) Q (F0 m (pc + 3) ls (.int q.1 :: rest))) : W p l e R s m args below meth c H locs (nx - n0) (ns - m0) Q (F0 m pc ls (.int x3 :: .int x2 :: .int x1 :: .ref (ad a0) :: rest)) := by
  obtain ⟨q, h1, h2⟩ := g_ob h
  obtain ⟨h3, c1, c2, c3, c4⟩ := g_cc_of h1
  refine xa_cVI (As := [.int x1, .int x2, .int x3]) (rest := rest) (n := 3) (qn := q.2.2.1) (qs := q.2.2.2.1) xc_0 ht (by decide) C B hRr (fun sz => w_X0_change l D cA ad _ _ hk nx ns gi gr a0 x1 x2 x3 ht ⟨c1, c3⟩ q h3 sz) hq q1412 q1413 q141 q1414 (by decide +kernel) ⟨c1, c2, c3, c4⟩ (fun v u hp => ?_) ⟨hF, hN⟩ rfl hs hw hdg (fun v u H9 locs9 hp hae B9 => ?_)
  · have hp := hp
    subst hp
    exact ⟨rfl, rfl⟩
  · have hp := hp
    subst hp
    exact kk _ u.1 h2 hae H9 locs9 B9
def f_X0_tries_j150 (cN cS : Nat) (a0 : Nat) (x1j150 : Int32) (x2j150 : Int32) (x3j150 : Int32) (hkj150 : HK) (nxj150 : Nat) (nsj150 : Nat) (gij150 : GI) (grj150 : GR) (x7j150 : Int32) (x8j150 : Int32) : Option (HK × Nat × Nat × GI × GR) :=
  (some (g_pi gij150 a0 22 x7j150)).bind fun gi53 =>
  (some (g_pi gi53 a0 23 x8j150)).bind fun gi54 =>
  if 0 ≤ x3j150 then
  ((some (g_pi gi54 a0 24 (((100 * x1j150) + (10 * x2j150)) + x3j150))).bind fun gi55 =>
  some (hkj150, nxj150, nsj150, gi55, grj150))
  else
  ((some (g_pi gi54 a0 24 ((10 * x1j150) + x2j150))).bind fun gi56 =>
  some (hkj150, nxj150, nsj150, gi56, grj150))
def f_X0_tries_j122 (cN cS : Nat) (a0 : Nat) (x1j122 : Int32) (x2j122 : Int32) (x3j122 : Int32) (hkj122 : HK) (nxj122 : Nat) (nsj122 : Nat) (gij122 : GI) (grj122 : GR) (x7j122 : Int32) (t0j122 : Int32) (t1j122 : Int32) : Option (HK × Nat × Nat × GI × GR) :=
  if (gij122 a0 24) < 0 then
  (f_X0_tries_j150 cN cS a0 x1j122 x2j122 x3j122 hkj122 nxj122 nsj122 gij122 grj122 x7j122 (t1j122 * t0j122))
  else
  (if ((gij122 a0 22) * (t1j122 * t0j122)) < (x7j122 * (gij122 a0 23)) then
  (f_X0_tries_j150 cN cS a0 x1j122 x2j122 x3j122 hkj122 nxj122 nsj122 gij122 grj122 x7j122 (t1j122 * t0j122))
  else
  (some (hkj122, nxj122, nsj122, gij122, grj122)))
def f_X0_tries_j94 (cN cS : Nat) (a0 : Nat) (x1j94 : Int32) (x2j94 : Int32) (x3j94 : Int32) (hkj94 : HK) (nxj94 : Nat) (nsj94 : Nat) (gij94 : GI) (grj94 : GR) (o4j94 : Option Nat) (o5j94 : Option Nat) (o6j94 : Option Nat) (t0j94 : Int32) (t1j94 : Int32) : Option (HK × Nat × Nat × GI × GR) :=
  o4j94.bind fun v43 =>
  (g_is hkj94 v43 17).bind fun _ =>
  o5j94.bind fun v46 =>
  (g_is hkj94 v46 17).bind fun _ =>
  o6j94.elim
  (f_X0_tries_j122 cN cS a0 x1j94 x2j94 x3j94 hkj94 nxj94 nsj94 gij94 grj94 (t1j94 * t0j94) 1 ((gij94 v43 2) * (gij94 v46 2)))
  (fun v49 =>
  o6j94.bind fun v57 =>
  (g_is hkj94 v57 17).bind fun _ =>
  f_X0_tries_j122 cN cS a0 x1j94 x2j94 x3j94 hkj94 nxj94 nsj94 gij94 grj94 (t1j94 * t0j94) (gij94 v57 2) ((gij94 v43 2) * (gij94 v46 2)))
def f_X0_tries_j69 (cN cS : Nat) (a0 : Nat) (x1j69 : Int32) (x2j69 : Int32) (x3j69 : Int32) (hkj69 : HK) (nxj69 : Nat) (nsj69 : Nat) (gij69 : GI) (grj69 : GR) (o4j69 : Option Nat) (o5j69 : Option Nat) (o6j69 : Option Nat) : Option (HK × Nat × Nat × GI × GR) :=
  o4j69.bind fun v34 =>
  (g_is hkj69 v34 17).bind fun _ =>
  o5j69.bind fun v37 =>
  (g_is hkj69 v37 17).bind fun _ =>
  o6j69.elim
  (f_X0_tries_j94 cN cS a0 x1j69 x2j69 x3j69 hkj69 nxj69 nsj69 gij69 grj69 o4j69 o5j69 o6j69 1 ((gij69 v34 3) * (gij69 v37 3)))
  (fun v40 =>
  o6j69.bind fun v60 =>
  (g_is hkj69 v60 17).bind fun _ =>
  f_X0_tries_j94 cN cS a0 x1j69 x2j69 x3j69 hkj69 nxj69 nsj69 gij69 grj69 o4j69 o5j69 o6j69 (gij69 v60 3) ((gij69 v34 3) * (gij69 v37 3)))
def f_X0_tries_j47 (cN cS : Nat) (a0 : Nat) (x1j47 : Int32) (x2j47 : Int32) (x3j47 : Int32) (hkj47 : HK) (nxj47 : Nat) (nsj47 : Nat) (gij47 : GI) (grj47 : GR) (o4j47 : Option Nat) (o5j47 : Option Nat) (t0j47 : Option Nat) : Option (HK × Nat × Nat × GI × GR) :=
  o4j47.elim
  (some (hkj47, nxj47, nsj47, gij47, grj47))
  (fun v29 =>
  o5j47.elim
  (some (hkj47, nxj47, nsj47, gij47, grj47))
  (fun v31 =>
  if x3j47 < 0 then
  (f_X0_tries_j69 cN cS a0 x1j47 x2j47 x3j47 hkj47 nxj47 nsj47 gij47 grj47 o4j47 o5j47 t0j47)
  else
  (t0j47.elim
  (some (hkj47, nxj47, nsj47, gij47, grj47))
  (fun v63 =>
  f_X0_tries_j69 cN cS a0 x1j47 x2j47 x3j47 hkj47 nxj47 nsj47 gij47 grj47 o4j47 o5j47 t0j47))))
def f_X0_tries_j25 (cN cS : Nat) (a0 : Nat) (x1j25 : Int32) (x2j25 : Int32) (x3j25 : Int32) (hkj25 : HK) (nxj25 : Nat) (nsj25 : Nat) (gij25 : GI) (grj25 : GR) (o4j25 : Option Nat) (t0j25 : Int32) (t1j25 : Int32) (t2j25 : Nat) : Option (HK × Nat × Nat × GI × GR) :=
  (g_is hkj25 t2j25 11).bind fun _ =>
  (g_oko hkj25 o4j25).bind fun _ =>
  (g_cc (fun c1 c2 => f_X1_rate c1 c2 hkj25 nxj25 nsj25 gij25 grj25 t2j25 t1j25 t0j25) (fun q : Option Nat × HK × Nat × Nat × GI × GR => q.2.2.1) (fun q : Option Nat × HK × Nat × Nat × GI × GR => q.2.2.2.1) cN cS nxj25 nsj25).bind fun q13 =>
  if 0 ≤ x3j25 then
  ((q13.2.2.2.2.2 a0 4).bind fun v18 =>
  (g_is q13.2.1 v18 11).bind fun _ =>
  (g_oko q13.2.1 q13.1).bind fun _ =>
  (g_cc (fun c1 c2 => f_X1_rate c1 c2 q13.2.1 q13.2.2.1 q13.2.2.2.1 q13.2.2.2.2.1 q13.2.2.2.2.2 v18 x3j25 x1j25) (fun q : Option Nat × HK × Nat × Nat × GI × GR => q.2.2.1) (fun q : Option Nat × HK × Nat × Nat × GI × GR => q.2.2.2.1) cN cS q13.2.2.1 q13.2.2.2.1).bind fun q22 =>
  f_X0_tries_j47 cN cS a0 x1j25 x2j25 x3j25 q22.2.1 q22.2.2.1 q22.2.2.2.1 q22.2.2.2.2.1 q22.2.2.2.2.2 o4j25 q13.1 q22.1)
  else
  (f_X0_tries_j47 cN cS a0 x1j25 x2j25 x3j25 q13.2.1 q13.2.2.1 q13.2.2.2.1 q13.2.2.2.2.1 q13.2.2.2.2.2 o4j25 q13.1 ((none : Option Nat)))
def f_X0_tries (cN cS : Nat) (hk : HK) (nx ns : Nat) (gi : GI) (gr : GR) (a0 : Nat) (x1 : Int32) (x2 : Int32) (x3 : Int32) : Option (HK × Nat × Nat × GI × GR) :=
  (gr a0 4).bind fun v1 =>
  (g_is hk v1 11).bind fun _ =>
  (g_cc (fun c1 c2 => f_X1_rate c1 c2 hk nx ns gi gr v1 x1 x2) (fun q : Option Nat × HK × Nat × Nat × GI × GR => q.2.2.1) (fun q : Option Nat × HK × Nat × Nat × GI × GR => q.2.2.2.1) cN cS nx ns).bind fun q4 =>
  (q4.2.2.2.2.2 a0 4).bind fun v8 =>
  if 0 ≤ x3 then
  (f_X0_tries_j25 cN cS a0 x1 x2 x3 q4.2.1 q4.2.2.1 q4.2.2.2.1 q4.2.2.2.2.1 q4.2.2.2.2.2 q4.1 x3 x2 v8)
  else
  (f_X0_tries_j25 cN cS a0 x1 x2 x3 q4.2.1 q4.2.2.1 q4.2.2.2.1 q4.2.2.2.2.1 q4.2.2.2.2.2 q4.1 x1 x2 v8)
set_option maxHeartbeats 400000 in
theorem w_X0_tries (l : Launch) (D : va_G) (cA : Nat → ClassId) (ad : Nat → Nat) (cN cS : Nat) (hk : HK) (nx ns : Nat) (gi : GI) (gr : GR) (a0 : Nat) (x1 : Int32) (x2 : Int32) (x3 : Int32) (ht : (hk a0).1 = 10) (hcap : nx ≤ cN ∧ ns ≤ cS) (r : HK × Nat × Nat × GI × GR) (h : f_X0_tries cN cS hk nx ns gi gr a0 x1 x2 x3 = some r) (sz : Nat) : Met l yX0_tries (ws_ yX0_tries cX0_tries 9 (none)) ({ frames := 4, cells := cN - nx, slots := cS - ns, locals := 131 } : Room) (va_Pc [.ref (ad a0), .int x1, .int x2, .int x3] (XPre D cA ad hk nx gi gr sz)) (va_Qv (fun (u : XU) => u.2 = r) (XPostA D cA ad hk nx sz) (XA ad nx sz)) (cN - nx) (cS - ns) (XA ad nx sz) := by
  refine xa_stV (own := RX0) (P := (fun (u : XU) => u.2 = r)) (by decide +kernel) rfl (Nat.le_of_ble_eq_true rfl) hcap (fun p e s m args below meth c R Q A ls C hmn hF hN hRr B hret hL => ?_) sz
  have hx := C.1
  have hb := C.2.1
  have hL : lv_has ls 9 [(0, .ref (ad a0)), (1, .int x1), (2, .int x2), (3, .int x3)] := hL
  unfold f_X0_tries at h
  have hj150 : ∀ (hkj150 : HK) (nxj150 : Nat) (nsj150 : Nat) (gij150 : GI) (grj150 : GR) (x7j150 : Int32) (x8j150 : Int32) (adj150 : Nat → Nat) (H : Heap) (locs : List Loc) (ls : Array Slot), f_X0_tries_j150 cN cS a0 x1 x2 x3 hkj150 nxj150 nsj150 gij150 grj150 x7j150 x8j150 = some r → XBA D cA ad hk nx ns cN cS adj150 hkj150 nxj150 nsj150 A s gij150 grj150 H locs → lv_has ls 9 [(0, .ref (adj150 a0)), (1, .int x1), (2, .int x2), (3, .int x3), (7, .int x7j150), (8, .int x8j150)] → W p l e R s m args below meth c H locs (nxj150 - nx) (nsj150 - ns) Q (F0 m 150 ls []) := by
    intro hkj150 nxj150 nsj150 gij150 grj150 x7j150 x8j150 adj150 H locs ls h B hL
    unfold f_X0_tries_j150 at h
    have ht52 : (hkj150 a0).1 = 10 := by rw [(B.2.1 a0 (by rw [ht]; decide)).2]; exact ht
    refine lv_aload_n hx hb dX0_tries_150 rfl (lv_at hL 0 rfl) ?_
    refine lv_iload hx hb dX0_tries_151 (lv_at hL 4 rfl) ?_
    refine xx_pi (ci := 0) (k := 22) C B.1 xc_0 ht52 (by decide) (Nat.le_of_ble_eq_true rfl) rfl q382 (fun _ h => h) rfl rfl rfl h dX0_tries_153 (fun gi53 h H locs B2 => ?_)
    have B := And.intro B2 B.2
    refine lv_aload_n hx hb dX0_tries_156 rfl (lv_at hL 0 rfl) ?_
    refine lv_iload hx hb dX0_tries_157 (lv_at hL 5 rfl) ?_
    refine xx_pi (ci := 0) (k := 23) C B.1 xc_0 ht52 (by decide) (Nat.le_of_ble_eq_true rfl) rfl q383 (fun _ h => h) rfl rfl rfl h dX0_tries_159 (fun gi54 h H locs B2 => ?_)
    have B := And.intro B2 B.2
    refine lv_aload_n hx hb dX0_tries_162 rfl (lv_at hL 0 rfl) ?_
    refine lv_iload_n hx hb dX0_tries_163 rfl (lv_at hL 3 rfl) ?_
    refine gg_if_ge hx hb 176 h dX0_tries_164 (by decide) (fun h => ?_) (fun h => ?_)
    · refine lv_bipush (v := 100) hx hb dX0_tries_176 (by decide) ?_
      refine lv_iload_n hx hb dX0_tries_178 rfl (lv_at hL 1 rfl) ?_
      refine lv_imul hx hb dX0_tries_179 ?_
      refine lv_bipush (v := 10) hx hb dX0_tries_180 (by decide) ?_
      refine lv_iload_n hx hb dX0_tries_182 rfl (lv_at hL 2 rfl) ?_
      refine lv_imul hx hb dX0_tries_183 ?_
      refine lv_iadd hx hb dX0_tries_184 ?_
      refine lv_iload_n hx hb dX0_tries_185 rfl (lv_at hL 3 rfl) ?_
      refine lv_iadd hx hb dX0_tries_186 ?_
      refine xx_pi (ci := 0) (k := 24) C B.1 xc_0 ht52 (by decide) (Nat.le_of_ble_eq_true rfl) rfl q384 (fun _ h => h) rfl rfl rfl h dX0_tries_187 (fun gi55 h H locs B2 => ?_)
      have B := And.intro B2 B.2
      exact hret (adj150, hkj150, nxj150, nsj150, gi55, grj150) _ _ _ _ (Option.some.inj h) B dX0_tries_190
    · refine lv_bipush (v := 10) hx hb dX0_tries_167 (by decide) ?_
      refine lv_iload_n hx hb dX0_tries_169 rfl (lv_at hL 1 rfl) ?_
      refine lv_imul hx hb dX0_tries_170 ?_
      refine lv_iload_n hx hb dX0_tries_171 rfl (lv_at hL 2 rfl) ?_
      refine lv_iadd hx hb dX0_tries_172 ?_
      refine lv_goto (tgt := 187) hx hb dX0_tries_173 (by decide) ?_
      refine xx_pi (ci := 0) (k := 24) C B.1 xc_0 ht52 (by decide) (Nat.le_of_ble_eq_true rfl) rfl q384 (fun _ h => h) rfl rfl rfl h dX0_tries_187 (fun gi56 h H locs B2 => ?_)
      have B := And.intro B2 B.2
      exact hret (adj150, hkj150, nxj150, nsj150, gi56, grj150) _ _ _ _ (Option.some.inj h) B dX0_tries_190
  have hj122 : ∀ (hkj122 : HK) (nxj122 : Nat) (nsj122 : Nat) (gij122 : GI) (grj122 : GR) (x7j122 : Int32) (t0j122 : Int32) (t1j122 : Int32) (adj122 : Nat → Nat) (H : Heap) (locs : List Loc) (ls : Array Slot), f_X0_tries_j122 cN cS a0 x1 x2 x3 hkj122 nxj122 nsj122 gij122 grj122 x7j122 t0j122 t1j122 = some r → XBA D cA ad hk nx ns cN cS adj122 hkj122 nxj122 nsj122 A s gij122 grj122 H locs → lv_has ls 9 [(0, .ref (adj122 a0)), (1, .int x1), (2, .int x2), (3, .int x3), (7, .int x7j122)] → W p l e R s m args below meth c H locs (nxj122 - nx) (nsj122 - ns) Q (F0 m 122 ls [.int t0j122, .int t1j122]) := by
    intro hkj122 nxj122 nsj122 gij122 grj122 x7j122 t0j122 t1j122 adj122 H locs ls h B hL
    unfold f_X0_tries_j122 at h
    have ht51 : (hkj122 a0).1 = 10 := by rw [(B.2.1 a0 (by rw [ht]; decide)).2]; exact ht
    refine lv_imul hx hb dX0_tries_122 ?_
    refine lv_istore (lv' := [(8, .int (t1j122 * t0j122)), (0, .ref (adj122 a0)), (1, .int x1), (2, .int x2), (3, .int x3), (7, .int x7j122)]) hx hb dX0_tries_123 hL (by decide) rfl (fun ls hL => ?_)
    refine lv_aload_n hx hb dX0_tries_125 rfl (lv_at hL 1 rfl) ?_
    refine xx_gi (ci := 0) (k := 24) C B.1 xc_0 ht51 (by decide) (Nat.le_of_ble_eq_true rfl) rfl q384 (fun _ h => h) dX0_tries_126 ?_
    refine gg_if_lt hx hb 150 h dX0_tries_129 (by decide) (fun h => ?_) (fun h => ?_)
    · exact hj150 _ _ _ _ _ _ _ _ _ _ _ h B (lv_sub hL [1, 2, 3, 4, 5, 0] rfl)
    · refine lv_iload hx hb dX0_tries_132 (lv_at hL 5 rfl) ?_
      refine lv_aload_n hx hb dX0_tries_134 rfl (lv_at hL 1 rfl) ?_
      refine xx_gi (ci := 0) (k := 23) C B.1 xc_0 ht51 (by decide) (Nat.le_of_ble_eq_true rfl) rfl q383 (fun _ h => h) dX0_tries_135 ?_
      refine lv_imul hx hb dX0_tries_138 ?_
      refine lv_aload_n hx hb dX0_tries_139 rfl (lv_at hL 1 rfl) ?_
      refine xx_gi (ci := 0) (k := 22) C B.1 xc_0 ht51 (by decide) (Nat.le_of_ble_eq_true rfl) rfl q382 (fun _ h => h) dX0_tries_140 ?_
      refine lv_iload hx hb dX0_tries_143 (lv_at hL 0 rfl) ?_
      refine lv_imul hx hb dX0_tries_145 ?_
      refine gg_icmp_gt hx hb 150 h dX0_tries_146 (by decide) (fun h => ?_) (fun h => ?_)
      · exact hj150 _ _ _ _ _ _ _ _ _ _ _ h B (lv_sub hL [1, 2, 3, 4, 5, 0] rfl)
      · exact hret (adj122, hkj122, nxj122, nsj122, gij122, grj122) _ _ _ _ (Option.some.inj h) B dX0_tries_149
  have hj94 : ∀ (hkj94 : HK) (nxj94 : Nat) (nsj94 : Nat) (gij94 : GI) (grj94 : GR) (o4j94 : Option Nat) (o5j94 : Option Nat) (o6j94 : Option Nat) (t0j94 : Int32) (t1j94 : Int32) (adj94 : Nat → Nat) (H : Heap) (locs : List Loc) (ls : Array Slot), f_X0_tries_j94 cN cS a0 x1 x2 x3 hkj94 nxj94 nsj94 gij94 grj94 o4j94 o5j94 o6j94 t0j94 t1j94 = some r → XBA D cA ad hk nx ns cN cS adj94 hkj94 nxj94 nsj94 A s gij94 grj94 H locs → lv_has ls 9 [(0, .ref (adj94 a0)), (1, .int x1), (2, .int x2), (3, .int x3), (4, va_rf (o4j94.map adj94)), (5, va_rf (o5j94.map adj94)), (6, va_rf (o6j94.map adj94))] → W p l e R s m args below meth c H locs (nxj94 - nx) (nsj94 - ns) Q (F0 m 94 ls [.int t0j94, .int t1j94]) := by
    intro hkj94 nxj94 nsj94 gij94 grj94 o4j94 o5j94 o6j94 t0j94 t1j94 adj94 H locs ls h B hL
    unfold f_X0_tries_j94 at h
    have ht42 : (hkj94 a0).1 = 10 := by rw [(B.2.1 a0 (by rw [ht]; decide)).2]; exact ht
    refine lv_imul hx hb dX0_tries_94 ?_
    refine lv_istore (lv' := [(7, .int (t1j94 * t0j94)), (0, .ref (adj94 a0)), (1, .int x1), (2, .int x2), (3, .int x3), (4, va_rf (o4j94.map adj94)), (5, va_rf (o5j94.map adj94)), (6, va_rf (o6j94.map adj94))]) hx hb dX0_tries_95 hL (by decide) (by first | rfl | (simp [xx_vcat]; done)) (fun ls hL => ?_)
    refine xx_aloadO (o := o4j94) (ad := adj94) hx hb dX0_tries_97 (lv_at hL 5 rfl) ?_
    refine xx_nn (o := o4j94) (ad := adj94) h (fun v43 ho44 h => ?_)
    refine xx_is h (fun hp45 h => ?_)
    refine xx_gi (ci := 7) (k := 2) C B.1 xc_7 hp45 (by decide) (Nat.le_of_ble_eq_true rfl) rfl q1118 (fun _ h => h) dX0_tries_99 ?_
    refine xx_aloadO (o := o5j94) (ad := adj94) hx hb dX0_tries_102 (lv_at hL 6 rfl) ?_
    refine xx_nn (o := o5j94) (ad := adj94) h (fun v46 ho47 h => ?_)
    refine xx_is h (fun hp48 h => ?_)
    refine xx_gi (ci := 7) (k := 2) C B.1 xc_7 hp48 (by decide) (Nat.le_of_ble_eq_true rfl) rfl q1118 (fun _ h => h) dX0_tries_104 ?_
    refine lv_imul hx hb dX0_tries_107 ?_
    refine xx_aloadO (o := o6j94) (ad := adj94) hx hb dX0_tries_108 (lv_at hL 7 rfl) ?_
    refine xx_ifnonnull (o := o6j94) (ad := adj94) hx hb 117 h dX0_tries_110 (by decide) (fun ho50 h => ?_) (fun v49 ho50 h => ?_)
    · refine lv_iconst (v := 1) hx hb dX0_tries_113 (by decide) ?_
      refine lv_goto (tgt := 122) hx hb dX0_tries_114 (by decide) ?_
      exact hj122 _ _ _ _ _ _ _ _ _ _ _ _ h B (lv_sub hL [1, 2, 3, 4, 0] rfl)
    · refine xx_aloadO (o := o6j94) (ad := adj94) hx hb dX0_tries_117 (lv_at hL 7 rfl) ?_
      refine xx_nn (o := o6j94) (ad := adj94) h (fun v57 ho58 h => ?_)
      refine xx_is h (fun hp59 h => ?_)
      refine xx_gi (ci := 7) (k := 2) C B.1 xc_7 hp59 (by decide) (Nat.le_of_ble_eq_true rfl) rfl q1118 (fun _ h => h) dX0_tries_119 ?_
      exact hj122 _ _ _ _ _ _ _ _ _ _ _ _ h B (lv_sub hL [1, 2, 3, 4, 0] rfl)
  have hj69 : ∀ (hkj69 : HK) (nxj69 : Nat) (nsj69 : Nat) (gij69 : GI) (grj69 : GR) (o4j69 : Option Nat) (o5j69 : Option Nat) (o6j69 : Option Nat) (adj69 : Nat → Nat) (H : Heap) (locs : List Loc) (ls : Array Slot), f_X0_tries_j69 cN cS a0 x1 x2 x3 hkj69 nxj69 nsj69 gij69 grj69 o4j69 o5j69 o6j69 = some r → XBA D cA ad hk nx ns cN cS adj69 hkj69 nxj69 nsj69 A s gij69 grj69 H locs → lv_has ls 9 [(0, .ref (adj69 a0)), (1, .int x1), (2, .int x2), (3, .int x3), (4, va_rf (o4j69.map adj69)), (5, va_rf (o5j69.map adj69)), (6, va_rf (o6j69.map adj69))] → W p l e R s m args below meth c H locs (nxj69 - nx) (nsj69 - ns) Q (F0 m 69 ls []) := by
    intro hkj69 nxj69 nsj69 gij69 grj69 o4j69 o5j69 o6j69 adj69 H locs ls h B hL
    unfold f_X0_tries_j69 at h
    have ht33 : (hkj69 a0).1 = 10 := by rw [(B.2.1 a0 (by rw [ht]; decide)).2]; exact ht
    refine xx_aloadO (o := o4j69) (ad := adj69) hx hb dX0_tries_69 (lv_at hL 4 rfl) ?_
    refine xx_nn (o := o4j69) (ad := adj69) h (fun v34 ho35 h => ?_)
    refine xx_is h (fun hp36 h => ?_)
    refine xx_gi (ci := 7) (k := 3) C B.1 xc_7 hp36 (by decide) (Nat.le_of_ble_eq_true rfl) rfl q1120 (fun _ h => h) dX0_tries_71 ?_
    refine xx_aloadO (o := o5j69) (ad := adj69) hx hb dX0_tries_74 (lv_at hL 5 rfl) ?_
    refine xx_nn (o := o5j69) (ad := adj69) h (fun v37 ho38 h => ?_)
    refine xx_is h (fun hp39 h => ?_)
    refine xx_gi (ci := 7) (k := 3) C B.1 xc_7 hp39 (by decide) (Nat.le_of_ble_eq_true rfl) rfl q1120 (fun _ h => h) dX0_tries_76 ?_
    refine lv_imul hx hb dX0_tries_79 ?_
    refine xx_aloadO (o := o6j69) (ad := adj69) hx hb dX0_tries_80 (lv_at hL 6 rfl) ?_
    refine xx_ifnonnull (o := o6j69) (ad := adj69) hx hb 89 h dX0_tries_82 (by decide) (fun ho41 h => ?_) (fun v40 ho41 h => ?_)
    · refine lv_iconst (v := 1) hx hb dX0_tries_85 (by decide) ?_
      refine lv_goto (tgt := 94) hx hb dX0_tries_86 (by decide) ?_
      exact hj94 _ _ _ _ _ _ _ _ _ _ _ _ _ _ h B (lv_sub hL [0, 1, 2, 3, 4, 5, 6] rfl)
    · refine xx_aloadO (o := o6j69) (ad := adj69) hx hb dX0_tries_89 (lv_at hL 6 rfl) ?_
      refine xx_nn (o := o6j69) (ad := adj69) h (fun v60 ho61 h => ?_)
      refine xx_is h (fun hp62 h => ?_)
      refine xx_gi (ci := 7) (k := 3) C B.1 xc_7 hp62 (by decide) (Nat.le_of_ble_eq_true rfl) rfl q1120 (fun _ h => h) dX0_tries_91 ?_
      exact hj94 _ _ _ _ _ _ _ _ _ _ _ _ _ _ h B (lv_sub hL [0, 1, 2, 3, 4, 5, 6] rfl)
  have hj47 : ∀ (hkj47 : HK) (nxj47 : Nat) (nsj47 : Nat) (gij47 : GI) (grj47 : GR) (o4j47 : Option Nat) (o5j47 : Option Nat) (t0j47 : Option Nat) (adj47 : Nat → Nat) (H : Heap) (locs : List Loc) (ls : Array Slot), f_X0_tries_j47 cN cS a0 x1 x2 x3 hkj47 nxj47 nsj47 gij47 grj47 o4j47 o5j47 t0j47 = some r → XBA D cA ad hk nx ns cN cS adj47 hkj47 nxj47 nsj47 A s gij47 grj47 H locs → lv_has ls 9 [(0, .ref (adj47 a0)), (1, .int x1), (2, .int x2), (3, .int x3), (4, va_rf (o4j47.map adj47)), (5, va_rf (o5j47.map adj47))] → W p l e R s m args below meth c H locs (nxj47 - nx) (nsj47 - ns) Q (F0 m 47 ls [va_rf (t0j47.map adj47)]) := by
    intro hkj47 nxj47 nsj47 gij47 grj47 o4j47 o5j47 t0j47 adj47 H locs ls h B hL
    unfold f_X0_tries_j47 at h
    have ht28 : (hkj47 a0).1 = 10 := by rw [(B.2.1 a0 (by rw [ht]; decide)).2]; exact ht
    refine xx_astoreO (o := t0j47) (ad := adj47) (lv' := [(6, va_rf (t0j47.map adj47)), (0, .ref (adj47 a0)), (1, .int x1), (2, .int x2), (3, .int x3), (4, va_rf (o4j47.map adj47)), (5, va_rf (o5j47.map adj47))]) hx hb dX0_tries_47 hL (by decide) (by first | rfl | (simp [xx_vcat]; done)) (fun ls hL => ?_)
    refine xx_aloadO (o := o4j47) (ad := adj47) hx hb dX0_tries_49 (lv_at hL 5 rfl) ?_
    refine xx_ifnull (o := o4j47) (ad := adj47) hx hb 68 h dX0_tries_51 (by decide) (fun ho30 h => ?_) (fun v29 ho30 h => ?_)
    · exact hret (adj47, hkj47, nxj47, nsj47, gij47, grj47) _ _ _ _ (Option.some.inj h) B dX0_tries_68
    · refine xx_aloadO (o := o5j47) (ad := adj47) hx hb dX0_tries_54 (lv_at hL 6 rfl) ?_
      refine xx_ifnull (o := o5j47) (ad := adj47) hx hb 68 h dX0_tries_56 (by decide) (fun ho32 h => ?_) (fun v31 ho32 h => ?_)
      · exact hret (adj47, hkj47, nxj47, nsj47, gij47, grj47) _ _ _ _ (Option.some.inj h) B dX0_tries_68
      · refine lv_iload_n hx hb dX0_tries_59 rfl (lv_at hL 4 rfl) ?_
        refine gg_if_lt hx hb 69 h dX0_tries_60 (by decide) (fun h => ?_) (fun h => ?_)
        · exact hj69 _ _ _ _ _ _ _ _ _ _ _ _ h B (lv_sub hL [1, 2, 3, 4, 5, 6, 0] rfl)
        · refine xx_aloadO (o := t0j47) (ad := adj47) hx hb dX0_tries_63 (lv_at hL 0 rfl) ?_
          refine xx_ifnonnull (o := t0j47) (ad := adj47) hx hb 69 h dX0_tries_65 (by decide) (fun ho64 h => ?_) (fun v63 ho64 h => ?_)
          · exact hret (adj47, hkj47, nxj47, nsj47, gij47, grj47) _ _ _ _ (Option.some.inj h) B dX0_tries_68
          · exact hj69 _ _ _ _ _ _ _ _ _ _ _ _ h B (lv_sub hL [1, 2, 3, 4, 5, 6, 0] rfl)
  have hj25 : ∀ (hkj25 : HK) (nxj25 : Nat) (nsj25 : Nat) (gij25 : GI) (grj25 : GR) (o4j25 : Option Nat) (t0j25 : Int32) (t1j25 : Int32) (t2j25 : Nat) (adj25 : Nat → Nat) (H : Heap) (locs : List Loc) (ls : Array Slot), f_X0_tries_j25 cN cS a0 x1 x2 x3 hkj25 nxj25 nsj25 gij25 grj25 o4j25 t0j25 t1j25 t2j25 = some r → XBA D cA ad hk nx ns cN cS adj25 hkj25 nxj25 nsj25 A s gij25 grj25 H locs → lv_has ls 9 [(0, .ref (adj25 a0)), (1, .int x1), (2, .int x2), (3, .int x3), (4, va_rf (o4j25.map adj25))] → W p l e R s m args below meth c H locs (nxj25 - nx) (nsj25 - ns) Q (F0 m 25 ls [.int t0j25, .int t1j25, .ref (adj25 t2j25)]) := by
    intro hkj25 nxj25 nsj25 gij25 grj25 o4j25 t0j25 t1j25 t2j25 adj25 H locs ls h B hL
    unfold f_X0_tries_j25 at h
    have ht10 : (hkj25 a0).1 = 10 := by rw [(B.2.1 a0 (by rw [ht]; decide)).2]; exact ht
    refine xx_is h (fun hp11 h => ?_)
    refine xx_oko h (fun ok12 h => ?_)
    refine k_X1_rate hp11 C B hRr q1415 (Nat.le_trans (Nat.le_of_ble_eq_true rfl) hF) (Nat.le_trans (Nat.le_of_ble_eq_true rfl) hN) hL.1 (Nat.le_of_ble_eq_true rfl) h dX0_tries_25 (fun q13 ad14 h hae15 H locs B => ?_)
    rw [← (hae15 a0 (by rw [ht10]; decide)).1] at hL
    have hp16 : (q13.2.1 a0).1 = 10 := by rw [(hae15 a0 (by rw [ht10]; decide)).2]; exact ht10
    rw [← xx_omap (x := o4j25) hae15 ok12] at hL
    have ok17 := xx_okm (x := o4j25) hae15 ok12
    refine xx_astoreO (o := q13.1) (ad := ad14) (lv' := [(5, va_rf (q13.1.map ad14)), (0, .ref (ad14 a0)), (1, .int x1), (2, .int x2), (3, .int x3), (4, va_rf (o4j25.map ad14))]) hx hb dX0_tries_28 hL (by decide) (by first | rfl | (simp [xx_vcat]; done)) (fun ls hL => ?_)
    refine lv_iload_n hx hb dX0_tries_30 rfl (lv_at hL 4 rfl) ?_
    refine gg_if_ge hx hb 38 h dX0_tries_31 (by decide) (fun h => ?_) (fun h => ?_)
    · refine lv_aload_n hx hb dX0_tries_38 rfl (lv_at hL 1 rfl) ?_
      refine xx_gr (ci := 0) (k := 4) C B.1 xc_0 hp16 (by decide) (Nat.le_of_ble_eq_true rfl) rfl q363 (fun _ h => h) h dX0_tries_39 (fun v18 ok19 h => ?_)
      refine lv_iload_n hx hb dX0_tries_42 rfl (lv_at hL 4 rfl) ?_
      refine lv_iload_n hx hb dX0_tries_43 rfl (lv_at hL 2 rfl) ?_
      refine xx_is h (fun hp20 h => ?_)
      refine xx_oko h (fun ok21 h => ?_)
      refine k_X1_rate hp20 C B hRr q1415 (Nat.le_trans (Nat.le_of_ble_eq_true rfl) hF) (Nat.le_trans (Nat.le_of_ble_eq_true rfl) hN) hL.1 (Nat.le_of_ble_eq_true rfl) h dX0_tries_44 (fun q22 ad23 h hae24 H locs B => ?_)
      rw [← (hae24 a0 (by rw [hp16]; decide)).1] at hL
      have hp25 : (q22.2.1 a0).1 = 10 := by rw [(hae24 a0 (by rw [hp16]; decide)).2]; exact hp16
      rw [← xx_omap (x := q13.1) hae24 ok21] at hL
      have ok26 := xx_okm (x := q13.1) hae24 ok21
      rw [← xx_omap (x := o4j25) hae24 ok17] at hL
      have ok27 := xx_okm (x := o4j25) hae24 ok17
      exact hj47 _ _ _ _ _ _ _ _ _ _ _ _ h B (lv_sub hL [1, 2, 3, 4, 5, 0] rfl)
    · refine lv_null hx hb dX0_tries_34 ?_
      refine lv_goto (tgt := 47) hx hb dX0_tries_35 (by decide) ?_
      exact hj47 _ _ _ _ _ _ _ _ _ _ _ _ h B (lv_sub hL [1, 2, 3, 4, 5, 0] rfl)
  refine lv_aload_n hx hb dX0_tries_0 rfl (lv_at hL 0 rfl) ?_
  refine xx_gr (ci := 0) (k := 4) C B.1 xc_0 ht (by decide) (Nat.le_of_ble_eq_true rfl) rfl q363 (fun _ h => h) h dX0_tries_1 (fun v1 ok2 h => ?_)
  refine lv_iload_n hx hb dX0_tries_4 rfl (lv_at hL 1 rfl) ?_
  refine lv_iload_n hx hb dX0_tries_5 rfl (lv_at hL 2 rfl) ?_
  refine xx_is h (fun hp3 h => ?_)
  refine k_X1_rate hp3 C B hRr q1415 (Nat.le_trans (Nat.le_of_ble_eq_true rfl) hF) (Nat.le_trans (Nat.le_of_ble_eq_true rfl) hN) hL.1 (Nat.le_of_ble_eq_true rfl) h dX0_tries_6 (fun q4 ad5 h hae6 H locs B => ?_)
  rw [← (hae6 a0 (by rw [ht]; decide)).1] at hL
  have hp7 : (q4.2.1 a0).1 = 10 := by rw [(hae6 a0 (by rw [ht]; decide)).2]; exact ht
  refine xx_astoreO (o := q4.1) (ad := ad5) (lv' := [(4, va_rf (q4.1.map ad5)), (0, .ref (ad5 a0)), (1, .int x1), (2, .int x2), (3, .int x3)]) hx hb dX0_tries_9 hL (by decide) (by first | rfl | (simp [xx_vcat]; done)) (fun ls hL => ?_)
  refine lv_aload_n hx hb dX0_tries_11 rfl (lv_at hL 1 rfl) ?_
  refine xx_gr (ci := 0) (k := 4) C B.1 xc_0 hp7 (by decide) (Nat.le_of_ble_eq_true rfl) rfl q363 (fun _ h => h) h dX0_tries_12 (fun v8 ok9 h => ?_)
  refine lv_iload_n hx hb dX0_tries_15 rfl (lv_at hL 3 rfl) ?_
  refine lv_iload_n hx hb dX0_tries_16 rfl (lv_at hL 4 rfl) ?_
  refine gg_if_ge hx hb 24 h dX0_tries_17 (by decide) (fun h => ?_) (fun h => ?_)
  · refine lv_iload_n hx hb dX0_tries_24 rfl (lv_at hL 4 rfl) ?_
    exact hj25 _ _ _ _ _ _ _ _ _ _ _ _ _ h B (lv_sub hL [1, 2, 3, 4, 0] rfl)
  · refine lv_iload_n hx hb dX0_tries_20 rfl (lv_at hL 2 rfl) ?_
    refine lv_goto (tgt := 25) hx hb dX0_tries_21 (by decide) ?_
    exact hj25 _ _ _ _ _ _ _ _ _ _ _ _ _ h B (lv_sub hL [1, 2, 3, 4, 0] rfl)
theorem k_X0_tries {p : Program} {l : Launch} {e : Env} {R : Room} {s : State} {m : MethodId} {args : Array Value} {below : List Frame} {meth : Method} {c : Code} {H : Heap} {locs : List Loc} {Q : State → Prop} {pc : Nat} {ls : Array Slot} {rest : List Value} {cc : ByteArray} {nL : Nat} {D : va_G} {cA : Nat → ClassId} {a9 : Nat → Nat} {h9 : HK} {n0 m0 cN cS : Nat} {ad : Nat → Nat} {hk : HK} {nx ns : Nat} {A : Nat → Prop} {gi : GI} {gr : GR} {α : Type} {r : α} {own : String} {idx : Nat} {a0 : Nat} {x1 : Int32} {x2 : Int32} {x3 : Int32} {ff : (HK × Nat × Nat × GI × GR) → Option α} (ht : (hk a0).1 = 10) (C : CallFix p m c cc nL s args lw_all own) (B : XBA D cA a9 h9 n0 m0 cN cS ad hk nx ns A s gi gr H locs) (hRr : R.cells = cN - n0 ∧ R.slots = cS - m0) (hq : Cond.methodLink own idx yX0_tries ∈ lw_all) (hF : 5 ≤ R.frames) (hN : 159 ≤ R.locals) (hs : ls.size = nL) (hw : (rest.map fun v => v.category).sum ≤ 8) (h : (g_cc (fun c1 c2 => f_X0_tries c1 c2 hk nx ns gi gr a0 x1 x2 x3) (fun q : HK × Nat × Nat × GI × GR => q.2.1) (fun q : HK × Nat × Nat × GI × GR => q.2.2.1) cN cS nx ns).bind ff = some r) (hdg : decode cc pc = .ok (.invokevirtual idx, 3)) (kk : ∀ (q : HK × Nat × Nat × GI × GR) (ad' : Nat → Nat), ff q = some r → (∀ i, (hk i).1 < 1000 → ad' i = ad i ∧ q.1 i = hk i) → ∀ (H' : Heap) (locs' : List Loc), XBA D cA a9 h9 n0 m0 cN cS ad' q.1 q.2.1 q.2.2.1 A s q.2.2.2.1 q.2.2.2.2 H' locs' → W p l e R s m args below meth c H' locs' (q.2.1 - n0) (q.2.2.1 - m0) Q (F0 m (pc + 3) ls (rest))) : W p l e R s m args below meth c H locs (nx - n0) (ns - m0) Q (F0 m pc ls (.int x3 :: .int x2 :: .int x1 :: .ref (ad a0) :: rest)) := by
  obtain ⟨q, h1, h2⟩ := g_ob h
  obtain ⟨h3, c1, c2, c3, c4⟩ := g_cc_of h1
  refine xa_cVV (As := [.int x1, .int x2, .int x3]) (rest := rest) (n := 3) (qn := q.2.1) (qs := q.2.2.1) xc_0 ht (by decide) C B hRr (fun sz => w_X0_tries l D cA ad _ _ hk nx ns gi gr a0 x1 x2 x3 ht ⟨c1, c3⟩ q h3 sz) hq q1567 qs59 q141 q1568 (by decide +kernel) ⟨c1, c2, c3, c4⟩ (fun u hp => ?_) ⟨hF, hN⟩ rfl hs hw hdg (fun u H9 locs9 hp hae B9 => ?_)
  · have hp := hp
    subst hp
    exact ⟨rfl, rfl⟩
  · have hp := hp
    subst hp
    exact kk _ u.1 h2 hae H9 locs9 B9
def f_X0_gain_l19 (cN cS : Nat) (a0 : Nat) (x1i19 : Int32) (x2i19 : Int32) (x3l19 : Int32) (hkl19 : HK) (nxl19 : Nat) (nsl19 : Nat) (gil19 : GI) (grl19 : GR) : Option ((Int32 × HK × Nat × Nat × GI × GR) ⊕ (HK × Nat × Nat × GI × GR)) :=
  (f_X0_kinds hkl19 gil19 grl19 a0).bind fun q5 =>
  if q5 ≤ x3l19 then
  (some (.inr (hkl19, nxl19, nsl19, gil19, grl19)))
  else
  ((g_cc (fun c1 c2 => f_X0_tries c1 c2 hkl19 nxl19 nsl19 gil19 grl19 a0 x2i19 x3l19 ((-1))) (fun q : HK × Nat × Nat × GI × GR => q.2.1) (fun q : HK × Nat × Nat × GI × GR => q.2.2.1) cN cS nxl19 nsl19).bind fun q6 =>
  some (.inl (x3l19 + 1, q6.1, q6.2.1, q6.2.2.1, q6.2.2.2.1, q6.2.2.2.2)))
def f_X0_gain_x19 (cN cS : Nat) (a0 : Nat) (x1y19 : Int32) (x2y19 : Int32) (hke19 : HK) (nxe19 : Nat) (nse19 : Nat) (gie19 : GI) (gre19 : GR) : Option ((Int32 × HK × Nat × Nat × GI × GR) ⊕ (HK × Nat × Nat × GI × GR)) :=
  some (.inl (x2y19 + 1, hke19, nxe19, nse19, gie19, gre19))
def f_X0_gain_l7 (cN cS : Nat) (a0 : Nat) (x1i7 : Int32) (x2l7 : Int32) (hkl7 : HK) (nxl7 : Nat) (nsl7 : Nat) (gil7 : GI) (grl7 : GR) : Option ((Int32 × HK × Nat × Nat × GI × GR) ⊕ (HK × Nat × Nat × GI × GR)) :=
  (f_X0_kinds hkl7 gil7 grl7 a0).bind fun q3 =>
  if q3 ≤ x2l7 then
  (some (.inr (hkl7, nxl7, nsl7, gil7, grl7)))
  else
  ((g_loop g_K (fun (s : Int32 × HK × Nat × Nat × GI × GR) => f_X0_gain_l19 cN cS a0 x1i7 x2l7 s.1 s.2.1 s.2.2.1 s.2.2.2.1 s.2.2.2.2.1 s.2.2.2.2.2) (x2l7 + 1, hkl7, nxl7, nsl7, gil7, grl7)).bind fun E19 => f_X0_gain_x19 cN cS a0 x1i7 x2l7 E19.1 E19.2.1 E19.2.2.1 E19.2.2.2.1 E19.2.2.2.2)
def f_X0_gain_l48 (cN cS : Nat) (a0 : Nat) (x1i48 : Int32) (x2l48 : Int32) (hkl48 : HK) (nxl48 : Nat) (nsl48 : Nat) (gil48 : GI) (grl48 : GR) : Option ((Int32 × HK × Nat × Nat × GI × GR) ⊕ (HK × Nat × Nat × GI × GR)) :=
  if 3 ≤ x2l48 then
  (some (.inr (hkl48, nxl48, nsl48, gil48, grl48)))
  else
  ((f_X0_kinds hkl48 gil48 grl48 a0).bind fun q13 =>
  if q13 = 3 then
  ((g_cc (fun c1 c2 => f_X0_tries c1 c2 hkl48 nxl48 nsl48 gil48 grl48 a0 0 x2l48 (3 - x2l48)) (fun q : HK × Nat × Nat × GI × GR => q.2.1) (fun q : HK × Nat × Nat × GI × GR => q.2.2.1) cN cS nxl48 nsl48).bind fun q14 =>
  some (.inl (x2l48 + 1, q14.1, q14.2.1, q14.2.2.1, q14.2.2.2.1, q14.2.2.2.2)))
  else
  (some (.inr (hkl48, nxl48, nsl48, gil48, grl48))))
def f_X0_gain_j121 (cN cS : Nat) (a0 : Nat) (hkj121 : HK) (nxj121 : Nat) (nsj121 : Nat) (gij121 : GI) (grj121 : GR) (t0j121 : Int32) : Option (Int32 × HK × Nat × Nat × GI × GR) :=
  (f_X0_common hkj121 gij121 grj121 (gij121 a0 22) (gij121 a0 23)).bind fun q21 =>
  (g_nz q21).bind fun _ =>
  some (t0j121 / q21, hkj121, nxj121, nsj121, gij121, grj121)
def f_X0_gain_x48 (cN cS : Nat) (a0 : Nat) (x1y48 : Int32) (hke48 : HK) (nxe48 : Nat) (nse48 : Nat) (gie48 : GI) (gre48 : GR) : Option (Int32 × HK × Nat × Nat × GI × GR) :=
  if (gie48 a0 24) < 0 then
  (some ((-1), hke48, nxe48, nse48, gie48, gre48))
  else
  ((f_X0_isIn hke48 gie48 gre48 x1y48 0 2).bind fun q19 =>
  if q19 = 0 then
  (some ((-1), hke48, nxe48, nse48, gie48, gre48))
  else
  (if x1y48 = 2 then
  (some (gie48 a0 24, hke48, nxe48, nse48, gie48, gre48))
  else
  (if x1y48 = 0 then
  (f_X0_gain_j121 cN cS a0 hke48 nxe48 nse48 gie48 gre48 (gie48 a0 22))
  else
  (f_X0_gain_j121 cN cS a0 hke48 nxe48 nse48 gie48 gre48 (gie48 a0 23)))))
def f_X0_gain_x7 (cN cS : Nat) (a0 : Nat) (x1y7 : Int32) (hke7 : HK) (nxe7 : Nat) (nse7 : Nat) (gie7 : GI) (gre7 : GR) : Option (Int32 × HK × Nat × Nat × GI × GR) :=
  (g_loop g_K (fun (s : Int32 × HK × Nat × Nat × GI × GR) => f_X0_gain_l48 cN cS a0 x1y7 s.1 s.2.1 s.2.2.1 s.2.2.2.1 s.2.2.2.2.1 s.2.2.2.2.2) (1, hke7, nxe7, nse7, gie7, gre7)).bind fun E48 => f_X0_gain_x48 cN cS a0 x1y7 E48.1 E48.2.1 E48.2.2.1 E48.2.2.2.1 E48.2.2.2.2
def f_X0_gain (cN cS : Nat) (hk : HK) (nx ns : Nat) (gi : GI) (gr : GR) (a0 : Nat) (x1 : Int32) : Option (Int32 × HK × Nat × Nat × GI × GR) :=
  (some (g_pi gi a0 24 ((-1)))).bind fun gi1 =>
  (g_loop g_K (fun (s : Int32 × HK × Nat × Nat × GI × GR) => f_X0_gain_l7 cN cS a0 x1 s.1 s.2.1 s.2.2.1 s.2.2.2.1 s.2.2.2.2.1 s.2.2.2.2.2) (0, hk, nx, ns, gi1, gr)).bind fun E7 => f_X0_gain_x7 cN cS a0 x1 E7.1 E7.2.1 E7.2.2.1 E7.2.2.2.1 E7.2.2.2.2
set_option maxHeartbeats 400000 in
theorem w_X0_gain (l : Launch) (D : va_G) (cA : Nat → ClassId) (ad : Nat → Nat) (cN cS : Nat) (hk : HK) (nx ns : Nat) (gi : GI) (gr : GR) (a0 : Nat) (x1 : Int32) (ht : (hk a0).1 = 10) (hcap : nx ≤ cN ∧ ns ≤ cS) (r : Int32 × HK × Nat × Nat × GI × GR) (h : f_X0_gain cN cS hk nx ns gi gr a0 x1 = some r) (sz : Nat) : Met l yX0_gain (ws_ yX0_gain cX0_gain 4 (some .int)) ({ frames := 5, cells := cN - nx, slots := cS - ns, locals := 159 } : Room) (va_Pc [.ref (ad a0), .int x1] (XPre D cA ad hk nx gi gr sz)) (va_Qi (fun (v : Int32) (u : XU) => (v, u.2) = r) (XPostA D cA ad hk nx sz) (XA ad nx sz)) (cN - nx) (cS - ns) (XA ad nx sz) := by
  refine xa_stI (own := RX0) (P := (fun (v : Int32) (u : XU) => (v, u.2) = r)) (by decide +kernel) rfl (Nat.le_of_ble_eq_true rfl) hcap (fun p e s m args below meth c R Q A ls C hmn hF hN hRr B hret hL => ?_) sz
  have hx := C.1
  have hb := C.2.1
  have hL : lv_has ls 4 [(0, .ref (ad a0)), (1, .int x1)] := hL
  unfold f_X0_gain at h
  have hj121 : ∀ (hkj121 : HK) (nxj121 : Nat) (nsj121 : Nat) (gij121 : GI) (grj121 : GR) (t0j121 : Int32) (adj121 : Nat → Nat) (H : Heap) (locs : List Loc) (ls : Array Slot), f_X0_gain_j121 cN cS a0 hkj121 nxj121 nsj121 gij121 grj121 t0j121 = some r → XBA D cA ad hk nx ns cN cS adj121 hkj121 nxj121 nsj121 A s gij121 grj121 H locs → lv_has ls 4 [(0, .ref (adj121 a0))] → W p l e R s m args below meth c H locs (nxj121 - nx) (nsj121 - ns) Q (F0 m 121 ls [.int t0j121]) := by
    intro hkj121 nxj121 nsj121 gij121 grj121 t0j121 adj121 H locs ls h B hL
    unfold f_X0_gain_j121 at h
    have ht20 : (hkj121 a0).1 = 10 := by rw [(B.2.1 a0 (by rw [ht]; decide)).2]; exact ht
    refine lv_aload_n hx hb dX0_gain_121 rfl (lv_at hL 0 rfl) ?_
    refine xx_gi (ci := 0) (k := 22) C B.1 xc_0 ht20 (by decide) (Nat.le_of_ble_eq_true rfl) rfl q382 (fun _ h => h) dX0_gain_122 ?_
    refine lv_aload_n hx hb dX0_gain_125 rfl (lv_at hL 0 rfl) ?_
    refine xx_gi (ci := 0) (k := 23) C B.1 xc_0 ht20 (by decide) (Nat.le_of_ble_eq_true rfl) rfl q383 (fun _ h => h) dX0_gain_126 ?_
    refine k_X0_common C B.1 q1569 (Nat.le_trans (Nat.le_of_ble_eq_true rfl) hF) (Nat.le_trans (Nat.le_of_ble_eq_true rfl) hN) hL.1 (Nat.le_of_ble_eq_true rfl) (xa_z hRr B) h dX0_gain_129 (fun q21 h H locs B2 => ?_)
    have B := And.intro B2 B.2
    refine mm_nz h (fun hnz h => ?_)
    refine lv_idiv hx hb dX0_gain_132 hnz ?_
    exact hret _ (adj121, hkj121, nxj121, nsj121, gij121, grj121) _ _ _ _ (Option.some.inj h) B dX0_gain_133
  refine lv_aload_n hx hb dX0_gain_0 rfl (lv_at hL 0 rfl) ?_
  refine lv_iconst (v := (-1)) hx hb dX0_gain_1 (by decide) ?_
  refine xx_pi (ci := 0) (k := 24) C B.1 xc_0 ht (by decide) (Nat.le_of_ble_eq_true rfl) rfl q384 (fun _ h => h) rfl rfl rfl h dX0_gain_2 (fun gi1 h H locs B2 => ?_)
  have B := And.intro B2 B.2
  refine lv_iconst (v := 0) hx hb dX0_gain_5 (by decide) ?_
  refine lv_istore_n (lv' := [(2, .int 0), (0, .ref (ad a0)), (1, .int x1)]) hx hb dX0_gain_6 rfl hL (by decide) rfl (fun ls hL => ?_)
  obtain ⟨E7, h87, h⟩ := g_ob h
  have kx7 : ∀ (hke7 : HK) (nxe7 : Nat) (nse7 : Nat) (gie7 : GI) (gre7 : GR) (ade7 : Nat → Nat) (H : Heap) (locs : List Loc) (ls : Array Slot), (hke7, nxe7, nse7, gie7, gre7) = E7 → XBA D cA ad hk nx ns cN cS ade7 hke7 nxe7 nse7 A s gie7 gre7 H locs → lv_has ls 4 [(0, .ref (ade7 a0)), (1, .int x1)] → W p l e R s m args below meth c H locs (nxe7 - nx) (nse7 - ns) Q (F0 m 46 ls []) := by
    intro hke7 nxe7 nse7 gie7 gre7 ade7 H locs ls he B hL
    subst he
    have h : f_X0_gain_x7 cN cS a0 x1 hke7 nxe7 nse7 gie7 gre7 = some r := h
    unfold f_X0_gain_x7 at h
    have ht11 : (hke7 a0).1 = 10 := by rw [(B.2.1 a0 (by rw [ht]; decide)).2]; exact ht
    refine lv_iconst (v := 1) hx hb dX0_gain_46 (by decide) ?_
    refine lv_istore_n (lv' := [(2, .int 1), (0, .ref (ade7 a0)), (1, .int x1)]) hx hb dX0_gain_47 rfl hL (by decide) rfl (fun ls hL => ?_)
    obtain ⟨E48, h848, h⟩ := g_ob h
    have kx48 : ∀ (hke48 : HK) (nxe48 : Nat) (nse48 : Nat) (gie48 : GI) (gre48 : GR) (ade48 : Nat → Nat) (H : Heap) (locs : List Loc) (ls : Array Slot), (hke48, nxe48, nse48, gie48, gre48) = E48 → XBA D cA ad hk nx ns cN cS ade48 hke48 nxe48 nse48 A s gie48 gre48 H locs → lv_has ls 4 [(0, .ref (ade48 a0)), (1, .int x1)] → W p l e R s m args below meth c H locs (nxe48 - nx) (nse48 - ns) Q (F0 m 76 ls []) := by
      intro hke48 nxe48 nse48 gie48 gre48 ade48 H locs ls he B hL
      subst he
      have h : f_X0_gain_x48 cN cS a0 x1 hke48 nxe48 nse48 gie48 gre48 = some r := h
      unfold f_X0_gain_x48 at h
      have ht18 : (hke48 a0).1 = 10 := by rw [(B.2.1 a0 (by rw [ht]; decide)).2]; exact ht
      refine lv_aload_n hx hb dX0_gain_76 rfl (lv_at hL 0 rfl) ?_
      refine xx_gi (ci := 0) (k := 24) C B.1 xc_0 ht18 (by decide) (Nat.le_of_ble_eq_true rfl) rfl q384 (fun _ h => h) dX0_gain_77 ?_
      refine gg_if_lt hx hb 92 h dX0_gain_80 (by decide) (fun h => ?_) (fun h => ?_)
      · refine lv_iconst (v := (-1)) hx hb dX0_gain_92 (by decide) ?_
        exact hret _ (ade48, hke48, nxe48, nse48, gie48, gre48) _ _ _ _ (Option.some.inj h) B dX0_gain_93
      · refine lv_iload_n hx hb dX0_gain_83 rfl (lv_at hL 1 rfl) ?_
        refine lv_iconst (v := 0) hx hb dX0_gain_84 (by decide) ?_
        refine lv_iconst (v := 2) hx hb dX0_gain_85 (by decide) ?_
        refine k_X0_isIn C B.1 q1247 (Nat.le_trans (Nat.le_of_ble_eq_true rfl) hF) (Nat.le_trans (Nat.le_of_ble_eq_true rfl) hN) hL.1 (Nat.le_of_ble_eq_true rfl) (xa_z hRr B) h dX0_gain_86 (fun q19 h H locs B2 => ?_)
        have B := And.intro B2 B.2
        refine gg_if_ne hx hb 94 h dX0_gain_89 (by decide) (fun h => ?_) (fun h => ?_)
        · refine lv_iload_n hx hb dX0_gain_94 rfl (lv_at hL 1 rfl) ?_
          refine lv_iconst (v := 2) hx hb dX0_gain_95 (by decide) ?_
          refine gg_icmp_ne hx hb 106 h dX0_gain_96 (by decide) (fun h => ?_) (fun h => ?_)
          · refine lv_iload_n hx hb dX0_gain_106 rfl (lv_at hL 1 rfl) ?_
            refine gg_if_ne hx hb 117 h dX0_gain_107 (by decide) (fun h => ?_) (fun h => ?_)
            · refine lv_aload_n hx hb dX0_gain_117 rfl (lv_at hL 0 rfl) ?_
              refine xx_gi (ci := 0) (k := 23) C B.1 xc_0 ht18 (by decide) (Nat.le_of_ble_eq_true rfl) rfl q383 (fun _ h => h) dX0_gain_118 ?_
              exact hj121 _ _ _ _ _ _ _ _ _ _ h B (lv_sub hL [0] rfl)
            · refine lv_aload_n hx hb dX0_gain_110 rfl (lv_at hL 0 rfl) ?_
              refine xx_gi (ci := 0) (k := 22) C B.1 xc_0 ht18 (by decide) (Nat.le_of_ble_eq_true rfl) rfl q382 (fun _ h => h) dX0_gain_111 ?_
              refine lv_goto (tgt := 121) hx hb dX0_gain_114 (by decide) ?_
              exact hj121 _ _ _ _ _ _ _ _ _ _ h B (lv_sub hL [0] rfl)
          · refine lv_aload_n hx hb dX0_gain_99 rfl (lv_at hL 0 rfl) ?_
            refine xx_gi (ci := 0) (k := 24) C B.1 xc_0 ht18 (by decide) (Nat.le_of_ble_eq_true rfl) rfl q384 (fun _ h => h) dX0_gain_100 ?_
            refine lv_goto (tgt := 133) hx hb dX0_gain_103 (by decide) ?_
            exact hret _ (ade48, hke48, nxe48, nse48, gie48, gre48) _ _ _ _ (Option.some.inj h) B dX0_gain_133
        · refine lv_iconst (v := (-1)) hx hb dX0_gain_92 (by decide) ?_
          exact hret _ (ade48, hke48, nxe48, nse48, gie48, gre48) _ _ _ _ (Option.some.inj h) B dX0_gain_93
    have hl48 : ∀ (k : Nat) (x2l48 : Int32) (hkl48 : HK) (nxl48 : Nat) (nsl48 : Nat) (gil48 : GI) (grl48 : GR) (adl48 : Nat → Nat) (H : Heap) (locs : List Loc) (ls : Array Slot), g_loop k (fun (s : Int32 × HK × Nat × Nat × GI × GR) => f_X0_gain_l48 cN cS a0 x1 s.1 s.2.1 s.2.2.1 s.2.2.2.1 s.2.2.2.2.1 s.2.2.2.2.2) (x2l48, hkl48, nxl48, nsl48, gil48, grl48) = some E48 → XBA D cA ad hk nx ns cN cS adl48 hkl48 nxl48 nsl48 A s gil48 grl48 H locs → lv_has ls 4 [(0, .ref (adl48 a0)), (1, .int x1), (2, .int x2l48)] → W p l e R s m args below meth c H locs (nxl48 - nx) (nsl48 - ns) Q (F0 m 48 ls []) := by
      intro k
      induction k with
      | zero => intro x2l48 hkl48 nxl48 nsl48 gil48 grl48 adl48 H locs ls h; exact absurd h (fun z => g_loop_0 z)
      | succ k ih48 =>
        intro x2l48 hkl48 nxl48 nsl48 gil48 grl48 adl48 H locs ls h B hL
        obtain ⟨Z48, h, h948⟩ := g_loop_s h
        have h : f_X0_gain_l48 cN cS a0 x1 x2l48 hkl48 nxl48 nsl48 gil48 grl48 = some Z48 := h
        unfold f_X0_gain_l48 at h
        have ht12 : (hkl48 a0).1 = 10 := by rw [(B.2.1 a0 (by rw [ht]; decide)).2]; exact ht
        refine lv_iload_n hx hb dX0_gain_48 rfl (lv_at hL 2 rfl) ?_
        refine lv_iconst (v := 3) hx hb dX0_gain_49 (by decide) ?_
        refine gg_icmp_ge hx hb 76 h dX0_gain_50 (by decide) (fun h => ?_) (fun h => ?_)
        · exact kx48 _ _ _ _ _ _ _ _ _ (g_exit h h948) B (lv_sub hL [0, 1] rfl)
        · refine lv_aload_n hx hb dX0_gain_53 rfl (lv_at hL 0 rfl) ?_
          refine k_X0_kinds ht12 C B.1 q1345 (Nat.le_trans (Nat.le_of_ble_eq_true rfl) hF) (Nat.le_trans (Nat.le_of_ble_eq_true rfl) hN) hL.1 (Nat.le_of_ble_eq_true rfl) (xa_z hRr B) h dX0_gain_54 (fun q13 h H locs B2 => ?_)
          have B := And.intro B2 B.2
          refine lv_iconst (v := 3) hx hb dX0_gain_57 (by decide) ?_
          refine gg_icmp_ne hx hb 76 h dX0_gain_58 (by decide) (fun h => ?_) (fun h => ?_)
          · exact kx48 _ _ _ _ _ _ _ _ _ (g_exit h h948) B (lv_sub hL [0, 1] rfl)
          · refine lv_aload_n hx hb dX0_gain_61 rfl (lv_at hL 0 rfl) ?_
            refine lv_iconst (v := 0) hx hb dX0_gain_62 (by decide) ?_
            refine lv_iload_n hx hb dX0_gain_63 rfl (lv_at hL 2 rfl) ?_
            refine lv_iconst (v := 3) hx hb dX0_gain_64 (by decide) ?_
            refine lv_iload_n hx hb dX0_gain_65 rfl (lv_at hL 2 rfl) ?_
            refine lv_isub hx hb dX0_gain_66 ?_
            refine k_X0_tries ht12 C B hRr q1565 (Nat.le_trans (Nat.le_of_ble_eq_true rfl) hF) (Nat.le_trans (Nat.le_of_ble_eq_true rfl) hN) hL.1 (Nat.le_of_ble_eq_true rfl) h dX0_gain_67 (fun q14 ad15 h hae16 H locs B => ?_)
            rw [← (hae16 a0 (by rw [ht12]; decide)).1] at hL
            have hp17 : (q14.1 a0).1 = 10 := by rw [(hae16 a0 (by rw [ht12]; decide)).2]; exact ht12
            refine lv_iinc (v := x2l48 + 1) (lv' := [(2, .int (x2l48 + 1)), (0, .ref (ad15 a0)), (1, .int x1)]) hx hb dX0_gain_70 hL (k := 2) rfl rfl (by decide) rfl (fun ls hL => ?_)
            refine lv_goto (tgt := 48) hx hb dX0_gain_73 (by decide) ?_
            exact ih48 _ _ _ _ _ _ _ _ _ _ (g_next h h948) B (lv_sub hL [1, 2, 0] rfl)
    exact hl48 g_K _ _ _ _ _ _ _ _ _ _ h848 B (lv_sub hL [1, 2, 0] rfl)
  have hl7 : ∀ (k : Nat) (x2l7 : Int32) (hkl7 : HK) (nxl7 : Nat) (nsl7 : Nat) (gil7 : GI) (grl7 : GR) (adl7 : Nat → Nat) (H : Heap) (locs : List Loc) (ls : Array Slot), g_loop k (fun (s : Int32 × HK × Nat × Nat × GI × GR) => f_X0_gain_l7 cN cS a0 x1 s.1 s.2.1 s.2.2.1 s.2.2.2.1 s.2.2.2.2.1 s.2.2.2.2.2) (x2l7, hkl7, nxl7, nsl7, gil7, grl7) = some E7 → XBA D cA ad hk nx ns cN cS adl7 hkl7 nxl7 nsl7 A s gil7 grl7 H locs → lv_has ls 4 [(0, .ref (adl7 a0)), (1, .int x1), (2, .int x2l7)] → W p l e R s m args below meth c H locs (nxl7 - nx) (nsl7 - ns) Q (F0 m 7 ls []) := by
    intro k
    induction k with
    | zero => intro x2l7 hkl7 nxl7 nsl7 gil7 grl7 adl7 H locs ls h; exact absurd h (fun z => g_loop_0 z)
    | succ k ih7 =>
      intro x2l7 hkl7 nxl7 nsl7 gil7 grl7 adl7 H locs ls h B hL
      obtain ⟨Z7, h, h97⟩ := g_loop_s h
      have h : f_X0_gain_l7 cN cS a0 x1 x2l7 hkl7 nxl7 nsl7 gil7 grl7 = some Z7 := h
      unfold f_X0_gain_l7 at h
      have ht2 : (hkl7 a0).1 = 10 := by rw [(B.2.1 a0 (by rw [ht]; decide)).2]; exact ht
      refine lv_iload_n hx hb dX0_gain_7 rfl (lv_at hL 2 rfl) ?_
      refine lv_aload_n hx hb dX0_gain_8 rfl (lv_at hL 0 rfl) ?_
      refine k_X0_kinds ht2 C B.1 q1345 (Nat.le_trans (Nat.le_of_ble_eq_true rfl) hF) (Nat.le_trans (Nat.le_of_ble_eq_true rfl) hN) hL.1 (Nat.le_of_ble_eq_true rfl) (xa_z hRr B) h dX0_gain_9 (fun q3 h H locs B2 => ?_)
      have B := And.intro B2 B.2
      refine gg_icmp_ge hx hb 46 h dX0_gain_12 (by decide) (fun h => ?_) (fun h => ?_)
      · exact kx7 _ _ _ _ _ _ _ _ _ (g_exit h h97) B (lv_sub hL [0, 1] rfl)
      · refine lv_iload_n hx hb dX0_gain_15 rfl (lv_at hL 2 rfl) ?_
        refine lv_iconst (v := 1) hx hb dX0_gain_16 (by decide) ?_
        refine lv_iadd hx hb dX0_gain_17 ?_
        refine lv_istore_n (lv' := [(3, .int (x2l7 + 1)), (0, .ref (adl7 a0)), (1, .int x1), (2, .int x2l7)]) hx hb dX0_gain_18 rfl hL (by decide) rfl (fun ls hL => ?_)
        obtain ⟨E19, h819, h⟩ := g_ob h
        have kx19 : ∀ (hke19 : HK) (nxe19 : Nat) (nse19 : Nat) (gie19 : GI) (gre19 : GR) (ade19 : Nat → Nat) (H : Heap) (locs : List Loc) (ls : Array Slot), (hke19, nxe19, nse19, gie19, gre19) = E19 → XBA D cA ad hk nx ns cN cS ade19 hke19 nxe19 nse19 A s gie19 gre19 H locs → lv_has ls 4 [(0, .ref (ade19 a0)), (1, .int x1), (2, .int x2l7)] → W p l e R s m args below meth c H locs (nxe19 - nx) (nse19 - ns) Q (F0 m 40 ls []) := by
          intro hke19 nxe19 nse19 gie19 gre19 ade19 H locs ls he B hL
          subst he
          have h : f_X0_gain_x19 cN cS a0 x1 x2l7 hke19 nxe19 nse19 gie19 gre19 = some Z7 := h
          unfold f_X0_gain_x19 at h
          have ht10 : (hke19 a0).1 = 10 := by rw [(B.2.1 a0 (by rw [ht]; decide)).2]; exact ht
          refine lv_iinc (v := x2l7 + 1) (lv' := [(2, .int (x2l7 + 1)), (0, .ref (ade19 a0)), (1, .int x1)]) hx hb dX0_gain_40 hL (k := 2) rfl rfl (by decide) rfl (fun ls hL => ?_)
          refine lv_goto (tgt := 7) hx hb dX0_gain_43 (by decide) ?_
          exact ih7 _ _ _ _ _ _ _ _ _ _ (g_next h h97) B (lv_sub hL [1, 2, 0] rfl)
        have hl19 : ∀ (k : Nat) (x3l19 : Int32) (hkl19 : HK) (nxl19 : Nat) (nsl19 : Nat) (gil19 : GI) (grl19 : GR) (adl19 : Nat → Nat) (H : Heap) (locs : List Loc) (ls : Array Slot), g_loop k (fun (s : Int32 × HK × Nat × Nat × GI × GR) => f_X0_gain_l19 cN cS a0 x1 x2l7 s.1 s.2.1 s.2.2.1 s.2.2.2.1 s.2.2.2.2.1 s.2.2.2.2.2) (x3l19, hkl19, nxl19, nsl19, gil19, grl19) = some E19 → XBA D cA ad hk nx ns cN cS adl19 hkl19 nxl19 nsl19 A s gil19 grl19 H locs → lv_has ls 4 [(0, .ref (adl19 a0)), (1, .int x1), (2, .int x2l7), (3, .int x3l19)] → W p l e R s m args below meth c H locs (nxl19 - nx) (nsl19 - ns) Q (F0 m 19 ls []) := by
          intro k
          induction k with
          | zero => intro x3l19 hkl19 nxl19 nsl19 gil19 grl19 adl19 H locs ls h; exact absurd h (fun z => g_loop_0 z)
          | succ k ih19 =>
            intro x3l19 hkl19 nxl19 nsl19 gil19 grl19 adl19 H locs ls h B hL
            obtain ⟨Z19, h, h919⟩ := g_loop_s h
            have h : f_X0_gain_l19 cN cS a0 x1 x2l7 x3l19 hkl19 nxl19 nsl19 gil19 grl19 = some Z19 := h
            unfold f_X0_gain_l19 at h
            have ht4 : (hkl19 a0).1 = 10 := by rw [(B.2.1 a0 (by rw [ht]; decide)).2]; exact ht
            refine lv_iload_n hx hb dX0_gain_19 rfl (lv_at hL 3 rfl) ?_
            refine lv_aload_n hx hb dX0_gain_20 rfl (lv_at hL 0 rfl) ?_
            refine k_X0_kinds ht4 C B.1 q1345 (Nat.le_trans (Nat.le_of_ble_eq_true rfl) hF) (Nat.le_trans (Nat.le_of_ble_eq_true rfl) hN) hL.1 (Nat.le_of_ble_eq_true rfl) (xa_z hRr B) h dX0_gain_21 (fun q5 h H locs B2 => ?_)
            have B := And.intro B2 B.2
            refine gg_icmp_ge hx hb 40 h dX0_gain_24 (by decide) (fun h => ?_) (fun h => ?_)
            · exact kx19 _ _ _ _ _ _ _ _ _ (g_exit h h919) B (lv_sub hL [0, 1, 2] rfl)
            · refine lv_aload_n hx hb dX0_gain_27 rfl (lv_at hL 0 rfl) ?_
              refine lv_iload_n hx hb dX0_gain_28 rfl (lv_at hL 2 rfl) ?_
              refine lv_iload_n hx hb dX0_gain_29 rfl (lv_at hL 3 rfl) ?_
              refine lv_iconst (v := (-1)) hx hb dX0_gain_30 (by decide) ?_
              refine k_X0_tries ht4 C B hRr q1565 (Nat.le_trans (Nat.le_of_ble_eq_true rfl) hF) (Nat.le_trans (Nat.le_of_ble_eq_true rfl) hN) hL.1 (Nat.le_of_ble_eq_true rfl) h dX0_gain_31 (fun q6 ad7 h hae8 H locs B => ?_)
              rw [← (hae8 a0 (by rw [ht4]; decide)).1] at hL
              have hp9 : (q6.1 a0).1 = 10 := by rw [(hae8 a0 (by rw [ht4]; decide)).2]; exact ht4
              refine lv_iinc (v := x3l19 + 1) (lv' := [(3, .int (x3l19 + 1)), (0, .ref (ad7 a0)), (1, .int x1), (2, .int x2l7)]) hx hb dX0_gain_34 hL (k := 3) rfl rfl (by decide) rfl (fun ls hL => ?_)
              refine lv_goto (tgt := 19) hx hb dX0_gain_37 (by decide) ?_
              exact ih19 _ _ _ _ _ _ _ _ _ _ (g_next h h919) B (lv_sub hL [1, 2, 3, 0] rfl)
        exact hl19 g_K _ _ _ _ _ _ _ _ _ _ h819 B (lv_sub hL [1, 2, 3, 0] rfl)
  exact hl7 g_K _ _ _ _ _ _ _ _ _ _ h87 B (lv_sub hL [1, 2, 0] rfl)
theorem k_X0_gain {p : Program} {l : Launch} {e : Env} {R : Room} {s : State} {m : MethodId} {args : Array Value} {below : List Frame} {meth : Method} {c : Code} {H : Heap} {locs : List Loc} {Q : State → Prop} {pc : Nat} {ls : Array Slot} {rest : List Value} {cc : ByteArray} {nL : Nat} {D : va_G} {cA : Nat → ClassId} {a9 : Nat → Nat} {h9 : HK} {n0 m0 cN cS : Nat} {ad : Nat → Nat} {hk : HK} {nx ns : Nat} {A : Nat → Prop} {gi : GI} {gr : GR} {α : Type} {r : α} {own : String} {idx : Nat} {a0 : Nat} {x1 : Int32} {ff : (Int32 × HK × Nat × Nat × GI × GR) → Option α} (ht : (hk a0).1 = 10) (C : CallFix p m c cc nL s args lw_all own) (B : XBA D cA a9 h9 n0 m0 cN cS ad hk nx ns A s gi gr H locs) (hRr : R.cells = cN - n0 ∧ R.slots = cS - m0) (hq : Cond.methodLink own idx yX0_gain ∈ lw_all) (hF : 6 ≤ R.frames) (hN : 182 ≤ R.locals) (hs : ls.size = nL) (hw : (rest.map fun v => v.category).sum ≤ 8) (h : (g_cc (fun c1 c2 => f_X0_gain c1 c2 hk nx ns gi gr a0 x1) (fun q : Int32 × HK × Nat × Nat × GI × GR => q.2.2.1) (fun q : Int32 × HK × Nat × Nat × GI × GR => q.2.2.2.1) cN cS nx ns).bind ff = some r) (hdg : decode cc pc = .ok (.invokevirtual idx, 3)) (kk : ∀ (q : Int32 × HK × Nat × Nat × GI × GR) (ad' : Nat → Nat), ff q = some r → (∀ i, (hk i).1 < 1000 → ad' i = ad i ∧ q.2.1 i = hk i) → ∀ (H' : Heap) (locs' : List Loc), XBA D cA a9 h9 n0 m0 cN cS ad' q.2.1 q.2.2.1 q.2.2.2.1 A s q.2.2.2.2.1 q.2.2.2.2.2 H' locs' → W p l e R s m args below meth c H' locs' (q.2.2.1 - n0) (q.2.2.2.1 - m0) Q (F0 m (pc + 3) ls (.int q.1 :: rest))) : W p l e R s m args below meth c H locs (nx - n0) (ns - m0) Q (F0 m pc ls (.int x1 :: .ref (ad a0) :: rest)) := by
  obtain ⟨q, h1, h2⟩ := g_ob h
  obtain ⟨h3, c1, c2, c3, c4⟩ := g_cc_of h1
  refine xa_cVI (As := [.int x1]) (rest := rest) (n := 1) (qn := q.2.2.1) (qs := q.2.2.2.1) xc_0 ht (by decide) C B hRr (fun sz => w_X0_gain l D cA ad _ _ hk nx ns gi gr a0 x1 ht ⟨c1, c3⟩ q h3 sz) hq q1562 q1563 q141 q1564 (by decide +kernel) ⟨c1, c2, c3, c4⟩ (fun v u hp => ?_) ⟨hF, hN⟩ rfl hs hw hdg (fun v u H9 locs9 hp hae B9 => ?_)
  · have hp := hp
    subst hp
    exact ⟨rfl, rfl⟩
  · have hp := hp
    subst hp
    exact kk _ u.1 h2 hae H9 locs9 B9
def f_X0_tell (cN cS : Nat) (hk : HK) (nx ns : Nat) (gi : GI) (gr : GR) (a0 : Nat) (a1 : Nat) : Option (Int32 × HK × Nat × Nat × GI × GR) :=
  (gr a0 25).bind fun v1 =>
  (g_is hk v1 22).bind fun _ =>
  (g_ok hk a1).bind fun _ =>
  (g_cc (fun c1 c2 => f_J2_add c1 c2 hk nx ns gi gr v1 a1) (fun q : Int32 × HK × Nat × Nat × GI × GR => q.2.2.1) (fun q : Int32 × HK × Nat × Nat × GI × GR => q.2.2.2.1) cN cS nx ns).bind fun q5 =>
  (q5.2.2.2.2.2 a0 25).bind fun v10 =>
  (g_is q5.2.1 v10 22).bind fun _ =>
  (f_J2_size q5.2.1 q5.2.2.2.2.1 q5.2.2.2.2.2 v10).bind fun q13 =>
  some (q13 - 1, q5.2.1, q5.2.2.1, q5.2.2.2.1, q5.2.2.2.2.1, q5.2.2.2.2.2)
set_option maxHeartbeats 400000 in
theorem w_X0_tell (l : Launch) (D : va_G) (cA : Nat → ClassId) (ad : Nat → Nat) (cN cS : Nat) (hk : HK) (nx ns : Nat) (gi : GI) (gr : GR) (a0 : Nat) (a1 : Nat) (ht : (hk a0).1 = 10) (hcap : nx ≤ cN ∧ ns ≤ cS) (r : Int32 × HK × Nat × Nat × GI × GR) (h : f_X0_tell cN cS hk nx ns gi gr a0 a1 = some r) (sz : Nat) : Met l yX0_tell (ws_ yX0_tell cX0_tell 2 (some .int)) ({ frames := 7, cells := cN - nx, slots := cS - ns, locals := 196 } : Room) (va_Pc [.ref (ad a0), .ref (ad a1)] (XPre D cA ad hk nx gi gr sz)) (va_Qi (fun (v : Int32) (u : XU) => (v, u.2) = r) (XPostA D cA ad hk nx sz) (XA ad nx sz)) (cN - nx) (cS - ns) (XA ad nx sz) := by
  refine xa_stI (own := RX0) (P := (fun (v : Int32) (u : XU) => (v, u.2) = r)) (by decide +kernel) rfl (Nat.le_of_ble_eq_true rfl) hcap (fun p e s m args below meth c R Q A ls C hmn hF hN hRr B hret hL => ?_) sz
  have hx := C.1
  have hb := C.2.1
  have hL : lv_has ls 2 [(0, .ref (ad a0)), (1, .ref (ad a1))] := hL
  unfold f_X0_tell at h
  refine lv_aload_n hx hb dX0_tell_0 rfl (lv_at hL 0 rfl) ?_
  refine xx_gr (ci := 0) (k := 25) C B.1 xc_0 ht (by decide) (Nat.le_of_ble_eq_true rfl) rfl q385 (fun _ h => h) h dX0_tell_1 (fun v1 ok2 h => ?_)
  refine lv_aload_n hx hb dX0_tell_4 rfl (lv_at hL 1 rfl) ?_
  refine xx_is h (fun hp3 h => ?_)
  refine xx_ok h (fun ok4 h => ?_)
  refine k_J2_add hp3 C B hRr q1620 (Nat.le_trans (Nat.le_of_ble_eq_true rfl) hF) (Nat.le_trans (Nat.le_of_ble_eq_true rfl) hN) hL.1 (Nat.le_of_ble_eq_true rfl) h dX0_tell_5 (fun q5 ad6 h hae7 H locs B => ?_)
  rw [← (hae7 a0 (by rw [ht]; decide)).1] at hL
  have hp8 : (q5.2.1 a0).1 = 10 := by rw [(hae7 a0 (by rw [ht]; decide)).2]; exact ht
  rw [← (hae7 a1 ok4).1] at hL
  have ok9 : (q5.2.1 a1).1 < 1000 := by rw [(hae7 a1 ok4).2]; exact ok4
  refine lv_pop hx hb dX0_tell_8 rfl ?_
  refine lv_aload_n hx hb dX0_tell_9 rfl (lv_at hL 0 rfl) ?_
  refine xx_gr (ci := 0) (k := 25) C B.1 xc_0 hp8 (by decide) (Nat.le_of_ble_eq_true rfl) rfl q385 (fun _ h => h) h dX0_tell_10 (fun v10 ok11 h => ?_)
  refine xx_is h (fun hp12 h => ?_)
  refine k_J2_size hp12 C B.1 q1234 (Nat.le_trans (Nat.le_of_ble_eq_true rfl) hF) (Nat.le_trans (Nat.le_of_ble_eq_true rfl) hN) hL.1 (Nat.le_of_ble_eq_true rfl) (xa_z hRr B) h dX0_tell_13 (fun q13 h H locs B2 => ?_)
  have B := And.intro B2 B.2
  refine lv_iconst (v := 1) hx hb dX0_tell_16 (by decide) ?_
  refine lv_isub hx hb dX0_tell_17 ?_
  exact hret _ (ad6, q5.2.1, q5.2.2.1, q5.2.2.2.1, q5.2.2.2.2.1, q5.2.2.2.2.2) _ _ _ _ (Option.some.inj h) B dX0_tell_18
theorem k_X0_tell {p : Program} {l : Launch} {e : Env} {R : Room} {s : State} {m : MethodId} {args : Array Value} {below : List Frame} {meth : Method} {c : Code} {H : Heap} {locs : List Loc} {Q : State → Prop} {pc : Nat} {ls : Array Slot} {rest : List Value} {cc : ByteArray} {nL : Nat} {D : va_G} {cA : Nat → ClassId} {a9 : Nat → Nat} {h9 : HK} {n0 m0 cN cS : Nat} {ad : Nat → Nat} {hk : HK} {nx ns : Nat} {A : Nat → Prop} {gi : GI} {gr : GR} {α : Type} {r : α} {own : String} {idx : Nat} {a0 : Nat} {a1 : Nat} {ff : (Int32 × HK × Nat × Nat × GI × GR) → Option α} (ht : (hk a0).1 = 10) (C : CallFix p m c cc nL s args lw_all own) (B : XBA D cA a9 h9 n0 m0 cN cS ad hk nx ns A s gi gr H locs) (hRr : R.cells = cN - n0 ∧ R.slots = cS - m0) (hq : Cond.methodLink own idx yX0_tell ∈ lw_all) (hF : 8 ≤ R.frames) (hN : 217 ≤ R.locals) (hs : ls.size = nL) (hw : (rest.map fun v => v.category).sum ≤ 8) (h : (g_cc (fun c1 c2 => f_X0_tell c1 c2 hk nx ns gi gr a0 a1) (fun q : Int32 × HK × Nat × Nat × GI × GR => q.2.2.1) (fun q : Int32 × HK × Nat × Nat × GI × GR => q.2.2.2.1) cN cS nx ns).bind ff = some r) (hdg : decode cc pc = .ok (.invokevirtual idx, 3)) (kk : ∀ (q : Int32 × HK × Nat × Nat × GI × GR) (ad' : Nat → Nat), ff q = some r → (∀ i, (hk i).1 < 1000 → ad' i = ad i ∧ q.2.1 i = hk i) → ∀ (H' : Heap) (locs' : List Loc), XBA D cA a9 h9 n0 m0 cN cS ad' q.2.1 q.2.2.1 q.2.2.2.1 A s q.2.2.2.2.1 q.2.2.2.2.2 H' locs' → W p l e R s m args below meth c H' locs' (q.2.2.1 - n0) (q.2.2.2.1 - m0) Q (F0 m (pc + 3) ls (.int q.1 :: rest))) : W p l e R s m args below meth c H locs (nx - n0) (ns - m0) Q (F0 m pc ls (.ref (ad a1) :: .ref (ad a0) :: rest)) := by
  obtain ⟨q, h1, h2⟩ := g_ob h
  obtain ⟨h3, c1, c2, c3, c4⟩ := g_cc_of h1
  refine xa_cVI (As := [.ref (ad a1)]) (rest := rest) (n := 1) (qn := q.2.2.1) (qs := q.2.2.2.1) xc_0 ht (by decide) C B hRr (fun sz => w_X0_tell l D cA ad _ _ hk nx ns gi gr a0 a1 ht ⟨c1, c3⟩ q h3 sz) hq q1618 qs62 q141 q1619 (by decide +kernel) ⟨c1, c2, c3, c4⟩ (fun v u hp => ?_) ⟨hF, hN⟩ rfl hs hw hdg (fun v u H9 locs9 hp hae B9 => ?_)
  · have hp := hp
    subst hp
    exact ⟨rfl, rfl⟩
  · have hp := hp
    subst hp
    exact kk _ u.1 h2 hae H9 locs9 B9
def f_X12_init (cN cS : Nat) (hk : HK) (nx ns : Nat) (gi : GI) (gr : GR) (a0 : Nat) (a1 : Nat) (x2 : Int32) (x3 : Int32) (x4 : Int32) (x5 : Int32) : Option (HK × Nat × Nat × GI × GR) :=
  (g_ok hk a1).bind fun _ =>
  (some (g_pr gr a0 6 (some a1))).bind fun gr1 =>
  (some (g_pi gi a0 5 ((-1)))).bind fun gi3 =>
  (some (g_pi gi3 a0 0 x2)).bind fun gi4 =>
  (some (g_pi gi4 a0 1 x3)).bind fun gi5 =>
  (some (g_pi gi5 a0 2 x4)).bind fun gi6 =>
  (g_zb x5).bind fun _ =>
  (some (g_pi gi6 a0 4 x5)).bind fun gi7 =>
  (g_is hk a1 10).bind fun _ =>
  (some (g_pi gi7 a0 3 (gi7 a1 9))).bind fun gi9 =>
  some (hk, nx, ns, gi9, gr1)
set_option maxHeartbeats 400000 in
theorem w_X12_init (l : Launch) (D : va_G) (cA : Nat → ClassId) (ad : Nat → Nat) (cN cS : Nat) (hk : HK) (nx ns : Nat) (gi : GI) (gr : GR) (a0 : Nat) (a1 : Nat) (x2 : Int32) (x3 : Int32) (x4 : Int32) (x5 : Int32) (ht : (hk a0).1 = 21) (hcap : nx ≤ cN ∧ ns ≤ cS) (r : HK × Nat × Nat × GI × GR) (h : f_X12_init cN cS hk nx ns gi gr a0 a1 x2 x3 x4 x5 = some r) (sz : Nat) : Met l yX12_init (ws_ yX12_init cX12_init 6 (none)) ({ frames := 1, cells := cN - nx, slots := cS - ns, locals := 64 } : Room) (va_Pc [.ref (ad a0), .ref (ad a1), .int x2, .int x3, .int x4, .int x5] (XPre D cA ad hk nx gi gr sz)) (va_Qv (fun (u : XU) => u.2 = r) (XPostA D cA ad hk nx sz) (XA ad nx sz)) (cN - nx) (cS - ns) (XA ad nx sz) := by
  refine xa_stV (own := RX12) (P := (fun (u : XU) => u.2 = r)) (by decide +kernel) rfl (Nat.le_of_ble_eq_true rfl) hcap (fun p e s m args below meth c R Q A ls C hmn hF hN hRr B hret hL => ?_) sz
  have hx := C.1
  have hb := C.2.1
  have hL : lv_has ls 6 [(0, .ref (ad a0)), (1, .ref (ad a1)), (2, .int x2), (3, .int x3), (4, .int x4), (5, .int x5)] := hL
  unfold f_X12_init at h
  refine lv_aload_n hx hb dX12_init_0 rfl (lv_at hL 0 rfl) ?_
  refine lv_aload_n hx hb dX12_init_1 rfl (lv_at hL 1 rfl) ?_
  refine xx_ok h (fun ok2 h => ?_)
  refine xx_prF (ci := 11) (k := 6) C B.1 xc_11 ht (by decide) ok2 (Nat.le_of_ble_eq_true rfl) rfl q1600 (fun _ h => h) rfl hmn rfl rfl rfl h dX12_init_2 (fun gr1 h H locs B2 => ?_)
  have B := And.intro B2 B.2
  refine lv_aload_n hx hb dX12_init_5 rfl (lv_at hL 0 rfl) ?_
  refine W.objInit hx hb C.2.2.2.1 (C.2.2.2.2 _ q1593) (C.2.2.2.2 _ q179) (C.2.2.2.2 _ q180) rfl (by rw [C.2.2.1]; exact hL.1) rfl dX12_init_6 (Nat.le_trans (Nat.le_of_ble_eq_true rfl) hF) (Nat.le_trans (Nat.le_of_ble_eq_true rfl) hN) ?_
  refine W.eq (g2 := F0 m 9 ls []) rfl ?_
  refine lv_aload_n hx hb dX12_init_9 rfl (lv_at hL 0 rfl) ?_
  refine lv_iconst (v := (-1)) hx hb dX12_init_10 (by decide) ?_
  refine xx_pi (ci := 11) (k := 5) C B.1 xc_11 ht (by decide) (Nat.le_of_ble_eq_true rfl) rfl q1599 (fun _ h => h) rfl rfl rfl h dX12_init_11 (fun gi3 h H locs B2 => ?_)
  have B := And.intro B2 B.2
  refine lv_aload_n hx hb dX12_init_14 rfl (lv_at hL 0 rfl) ?_
  refine lv_iload_n hx hb dX12_init_15 rfl (lv_at hL 2 rfl) ?_
  refine xx_piF (ci := 11) (k := 0) C B.1 xc_11 ht (by decide) (Nat.le_of_ble_eq_true rfl) rfl q1594 (fun _ h => h) rfl hmn rfl rfl rfl h dX12_init_16 (fun gi4 h H locs B2 => ?_)
  have B := And.intro B2 B.2
  refine lv_aload_n hx hb dX12_init_19 rfl (lv_at hL 0 rfl) ?_
  refine lv_iload_n hx hb dX12_init_20 rfl (lv_at hL 3 rfl) ?_
  refine xx_piF (ci := 11) (k := 1) C B.1 xc_11 ht (by decide) (Nat.le_of_ble_eq_true rfl) rfl q1595 (fun _ h => h) rfl hmn rfl rfl rfl h dX12_init_21 (fun gi5 h H locs B2 => ?_)
  have B := And.intro B2 B.2
  refine lv_aload_n hx hb dX12_init_24 rfl (lv_at hL 0 rfl) ?_
  refine lv_iload hx hb dX12_init_25 (lv_at hL 4 rfl) ?_
  refine xx_piF (ci := 11) (k := 2) C B.1 xc_11 ht (by decide) (Nat.le_of_ble_eq_true rfl) rfl q1596 (fun _ h => h) rfl hmn rfl rfl rfl h dX12_init_27 (fun gi6 h H locs B2 => ?_)
  have B := And.intro B2 B.2
  refine lv_aload_n hx hb dX12_init_30 rfl (lv_at hL 0 rfl) ?_
  refine lv_iload hx hb dX12_init_31 (lv_at hL 5 rfl) ?_
  refine mm_zb h (fun hz h => ?_)
  refine xx_piF (ci := 11) (k := 4) C B.1 xc_11 ht (by decide) (Nat.le_of_ble_eq_true rfl) rfl q1598 (fun _ h => h) rfl hmn rfl (by rcases hz with hz | hz <;> rw [hz] <;> rfl) (by rcases hz with hz | hz <;> rw [hz] <;> rfl) h dX12_init_33 (fun gi7 h H locs B2 => ?_)
  have B := And.intro B2 B.2
  refine lv_aload_n hx hb dX12_init_36 rfl (lv_at hL 0 rfl) ?_
  refine lv_aload_n hx hb dX12_init_37 rfl (lv_at hL 1 rfl) ?_
  refine xx_is h (fun hp8 h => ?_)
  refine xx_giN (ci := 0) (k := 9) C B.1 xc_0 hp8 (by decide) (Nat.le_of_ble_eq_true rfl) rfl nw_q368 (fun _ h => h) dX12_init_38 ?_
  refine xx_piF (ci := 11) (k := 3) C B.1 xc_11 ht (by decide) (Nat.le_of_ble_eq_true rfl) rfl q1597 (fun _ h => h) rfl hmn rfl rfl rfl h dX12_init_41 (fun gi9 h H locs B2 => ?_)
  have B := And.intro B2 B.2
  exact hret (ad, hk, nx, ns, gi9, gr1) _ _ _ _ (Option.some.inj h) B dX12_init_44
theorem k_X12_init {p : Program} {l : Launch} {e : Env} {R : Room} {s : State} {m : MethodId} {args : Array Value} {below : List Frame} {meth : Method} {c : Code} {H : Heap} {locs : List Loc} {Q : State → Prop} {pc : Nat} {ls : Array Slot} {rest : List Value} {cc : ByteArray} {nL : Nat} {D : va_G} {cA : Nat → ClassId} {a9 : Nat → Nat} {h9 : HK} {n0 m0 cN cS : Nat} {ad : Nat → Nat} {hk : HK} {nx ns : Nat} {A : Nat → Prop} {gi : GI} {gr : GR} {α : Type} {r : α} {own : String} {idx : Nat} {a0 : Nat} {a1 : Nat} {x2 : Int32} {x3 : Int32} {x4 : Int32} {x5 : Int32} {ff : (HK × Nat × Nat × GI × GR) → Option α} (ht : (hk a0).1 = 21) (C : CallFix p m c cc nL s args lw_all own) (B : XBA D cA a9 h9 n0 m0 cN cS ad hk nx ns A s gi gr H locs) (hRr : R.cells = cN - n0 ∧ R.slots = cS - m0) (hq : Cond.methodLink own idx yX12_init ∈ lw_all) (hF : 2 ≤ R.frames) (hN : 89 ≤ R.locals) (hs : ls.size = nL) (hw : (rest.map fun v => v.category).sum ≤ 8) (h : (g_cc (fun c1 c2 => f_X12_init c1 c2 hk nx ns gi gr a0 a1 x2 x3 x4 x5) (fun q : HK × Nat × Nat × GI × GR => q.2.1) (fun q : HK × Nat × Nat × GI × GR => q.2.2.1) cN cS nx ns).bind ff = some r) (hdg : decode cc pc = .ok (.invokespecial idx, 3)) (kk : ∀ (q : HK × Nat × Nat × GI × GR) (ad' : Nat → Nat), ff q = some r → (∀ i, (hk i).1 < 1000 → ad' i = ad i ∧ q.1 i = hk i) → ∀ (H' : Heap) (locs' : List Loc), XBA D cA a9 h9 n0 m0 cN cS ad' q.1 q.2.1 q.2.2.1 A s q.2.2.2.1 q.2.2.2.2 H' locs' → W p l e R s m args below meth c H' locs' (q.2.1 - n0) (q.2.2.1 - m0) Q (F0 m (pc + 3) ls (rest))) : W p l e R s m args below meth c H locs (nx - n0) (ns - m0) Q (F0 m pc ls (.int x5 :: .int x4 :: .int x3 :: .int x2 :: .ref (ad a1) :: .ref (ad a0) :: rest)) := by
  obtain ⟨q, h1, h2⟩ := g_ob h
  obtain ⟨h3, c1, c2, c3, c4⟩ := g_cc_of h1
  refine xa_cIV (As := [.ref (ad a1), .int x2, .int x3, .int x4, .int x5]) (rest := rest) (n := 5) (qn := q.2.1) (qs := q.2.2.1) (b := a0) C B hRr (fun sz => w_X12_init l D cA ad _ _ hk nx ns gi gr a0 a1 x2 x3 x4 x5 ht ⟨c1, c3⟩ q h3 sz) hq q1591 q172 q1592 rfl (by decide +kernel) ⟨c1, c2, c3, c4⟩ (fun u hp => ?_) ⟨hF, hN⟩ rfl hs hw hdg (fun u H9 locs9 hp hae B9 => ?_)
  · have hp := hp
    subst hp
    exact ⟨rfl, rfl⟩
  · have hp := hp
    subst hp
    exact kk _ u.1 h2 hae H9 locs9 B9
def f_X0_least (cN cS : Nat) (hk : HK) (nx ns : Nat) (gi : GI) (gr : GR) (a0 : Nat) (x1 : Int32) (x2 : Int32) (x3 : Int32) : Option (Int32 × HK × Nat × Nat × GI × GR) :=
  (f_X0_isFirst hk gi gr a0 x1).bind fun q1 =>
  if q1 = 0 then
  (some ((-1), hk, nx, ns, gi, gr))
  else
  ((f_X0_isIn hk gi gr x2 0 99).bind fun q2 =>
  if q2 = 0 then
  (some ((-1), hk, nx, ns, gi, gr))
  else
  ((gr a0 25).bind fun v3 =>
  (g_is hk v3 22).bind fun _ =>
  (f_J2_size hk gi gr v3).bind fun q6 =>
  if q6 = 30 then
  (some ((-1), hk, nx, ns, gi, gr))
  else
  ((g_new cN cS nx ns 21 0 7 hk gi gr).bind fun q7 =>
  (g_cc (fun c1 c2 => f_X12_init c1 c2 q7.1 (nx + 1) (ns + 7) q7.2.1 q7.2.2 nx a0 x1 ((-1)) x2 x3) (fun q : HK × Nat × Nat × GI × GR => q.2.1) (fun q : HK × Nat × Nat × GI × GR => q.2.2.1) cN cS (nx + 1) (ns + 7)).bind fun q12 =>
  (g_cc (fun c1 c2 => f_X0_tell c1 c2 q12.1 q12.2.1 q12.2.2.1 q12.2.2.2.1 q12.2.2.2.2 a0 nx) (fun q : Int32 × HK × Nat × Nat × GI × GR => q.2.2.1) (fun q : Int32 × HK × Nat × Nat × GI × GR => q.2.2.2.1) cN cS q12.2.1 q12.2.2.1).bind fun q17 =>
  some (q17.1, q17.2.1, q17.2.2.1, q17.2.2.2.1, q17.2.2.2.2.1, q17.2.2.2.2.2))))
set_option maxHeartbeats 400000 in
theorem w_X0_least (l : Launch) (D : va_G) (cA : Nat → ClassId) (ad : Nat → Nat) (cN cS : Nat) (hk : HK) (nx ns : Nat) (gi : GI) (gr : GR) (a0 : Nat) (x1 : Int32) (x2 : Int32) (x3 : Int32) (ht : (hk a0).1 = 10) (hcap : nx ≤ cN ∧ ns ≤ cS) (r : Int32 × HK × Nat × Nat × GI × GR) (h : f_X0_least cN cS hk nx ns gi gr a0 x1 x2 x3 = some r) (sz : Nat) : Met l yX0_least (ws_ yX0_least cX0_least 4 (some .int)) ({ frames := 8, cells := cN - nx, slots := cS - ns, locals := 217 } : Room) (va_Pc [.ref (ad a0), .int x1, .int x2, .int x3] (XPre D cA ad hk nx gi gr sz)) (va_Qi (fun (v : Int32) (u : XU) => (v, u.2) = r) (XPostA D cA ad hk nx sz) (XA ad nx sz)) (cN - nx) (cS - ns) (XA ad nx sz) := by
  refine xa_stI (own := RX0) (P := (fun (v : Int32) (u : XU) => (v, u.2) = r)) (by decide +kernel) rfl (Nat.le_of_ble_eq_true rfl) hcap (fun p e s m args below meth c R Q A ls C hmn hF hN hRr B hret hL => ?_) sz
  have hx := C.1
  have hb := C.2.1
  have hL : lv_has ls 4 [(0, .ref (ad a0)), (1, .int x1), (2, .int x2), (3, .int x3)] := hL
  unfold f_X0_least at h
  refine lv_aload_n hx hb dX0_least_0 rfl (lv_at hL 0 rfl) ?_
  refine lv_iload_n hx hb dX0_least_1 rfl (lv_at hL 1 rfl) ?_
  refine k_X0_isFirst ht C B.1 q1580 (Nat.le_trans (Nat.le_of_ble_eq_true rfl) hF) (Nat.le_trans (Nat.le_of_ble_eq_true rfl) hN) hL.1 (Nat.le_of_ble_eq_true rfl) (xa_z hRr B) h dX0_least_2 (fun q1 h H locs B2 => ?_)
  have B := And.intro B2 B.2
  refine gg_if_eq hx hb 30 h dX0_least_5 (by decide) (fun h => ?_) (fun h => ?_)
  · refine lv_iconst (v := (-1)) hx hb dX0_least_30 (by decide) ?_
    refine lv_goto (tgt := 50) hx hb dX0_least_31 (by decide) ?_
    exact hret _ (ad, hk, nx, ns, gi, gr) _ _ _ _ (Option.some.inj h) B dX0_least_50
  · refine lv_iload_n hx hb dX0_least_8 rfl (lv_at hL 2 rfl) ?_
    refine lv_iconst (v := 0) hx hb dX0_least_9 (by decide) ?_
    refine lv_bipush (v := 99) hx hb dX0_least_10 (by decide) ?_
    refine k_X0_isIn C B.1 q1247 (Nat.le_trans (Nat.le_of_ble_eq_true rfl) hF) (Nat.le_trans (Nat.le_of_ble_eq_true rfl) hN) hL.1 (Nat.le_of_ble_eq_true rfl) (xa_z hRr B) h dX0_least_12 (fun q2 h H locs B2 => ?_)
    have B := And.intro B2 B.2
    refine gg_if_eq hx hb 30 h dX0_least_15 (by decide) (fun h => ?_) (fun h => ?_)
    · refine lv_iconst (v := (-1)) hx hb dX0_least_30 (by decide) ?_
      refine lv_goto (tgt := 50) hx hb dX0_least_31 (by decide) ?_
      exact hret _ (ad, hk, nx, ns, gi, gr) _ _ _ _ (Option.some.inj h) B dX0_least_50
    · refine lv_aload_n hx hb dX0_least_18 rfl (lv_at hL 0 rfl) ?_
      refine xx_gr (ci := 0) (k := 25) C B.1 xc_0 ht (by decide) (Nat.le_of_ble_eq_true rfl) rfl q385 (fun _ h => h) h dX0_least_19 (fun v3 ok4 h => ?_)
      refine xx_is h (fun hp5 h => ?_)
      refine k_J2_size hp5 C B.1 q1234 (Nat.le_trans (Nat.le_of_ble_eq_true rfl) hF) (Nat.le_trans (Nat.le_of_ble_eq_true rfl) hN) hL.1 (Nat.le_of_ble_eq_true rfl) (xa_z hRr B) h dX0_least_22 (fun q6 h H locs B2 => ?_)
      have B := And.intro B2 B.2
      refine lv_bipush (v := 30) hx hb dX0_least_25 (by decide) ?_
      refine gg_icmp_ne hx hb 34 h dX0_least_27 (by decide) (fun h => ?_) (fun h => ?_)
      · refine lv_aload_n hx hb dX0_least_34 rfl (lv_at hL 0 rfl) ?_
        refine xa_new C B hRr xc_11 (by decide) xd_11 q1588 q1589 q172 h dX0_least_35 (fun q7 ad8 h hae9 hp10 H B => ?_)
        rw [← (hae9 a0 (by rw [ht]; decide)).1] at hL
        rw [← (hae9 a0 (by rw [ht]; decide)).1]
        have hp11 : (q7.1 a0).1 = 10 := by rw [(hae9 a0 (by rw [ht]; decide)).2]; exact ht
        refine lv_dup hx hb dX0_least_38 rfl ?_
        refine lv_aload_n hx hb dX0_least_39 rfl (lv_at hL 0 rfl) ?_
        refine lv_iload_n hx hb dX0_least_40 rfl (lv_at hL 1 rfl) ?_
        refine lv_iconst (v := (-1)) hx hb dX0_least_41 (by decide) ?_
        refine lv_iload_n hx hb dX0_least_42 rfl (lv_at hL 2 rfl) ?_
        refine lv_iload_n hx hb dX0_least_43 rfl (lv_at hL 3 rfl) ?_
        refine k_X12_init hp10 C B hRr q1590 (Nat.le_trans (Nat.le_of_ble_eq_true rfl) hF) (Nat.le_trans (Nat.le_of_ble_eq_true rfl) hN) hL.1 (Nat.le_of_ble_eq_true rfl) h dX0_least_44 (fun q12 ad13 h hae14 H locs B => ?_)
        rw [← (hae14 a0 (by rw [hp11]; decide)).1] at hL
        rw [← (hae14 a0 (by rw [hp11]; decide)).1]
        have hp15 : (q12.1 a0).1 = 10 := by rw [(hae14 a0 (by rw [hp11]; decide)).2]; exact hp11
        rw [← (hae14 nx (by rw [hp10]; decide)).1]
        have hp16 : (q12.1 nx).1 = 21 := by rw [(hae14 nx (by rw [hp10]; decide)).2]; exact hp10
        refine k_X0_tell hp15 C B hRr q1616 (Nat.le_trans (Nat.le_of_ble_eq_true rfl) hF) (Nat.le_trans (Nat.le_of_ble_eq_true rfl) hN) hL.1 (Nat.le_of_ble_eq_true rfl) h dX0_least_47 (fun q17 ad18 h hae19 H locs B => ?_)
        rw [← (hae19 a0 (by rw [hp15]; decide)).1] at hL
        have hp20 : (q17.2.1 a0).1 = 10 := by rw [(hae19 a0 (by rw [hp15]; decide)).2]; exact hp15
        exact hret _ (ad18, q17.2.1, q17.2.2.1, q17.2.2.2.1, q17.2.2.2.2.1, q17.2.2.2.2.2) _ _ _ _ (Option.some.inj h) B dX0_least_50
      · refine lv_iconst (v := (-1)) hx hb dX0_least_30 (by decide) ?_
        refine lv_goto (tgt := 50) hx hb dX0_least_31 (by decide) ?_
        exact hret _ (ad, hk, nx, ns, gi, gr) _ _ _ _ (Option.some.inj h) B dX0_least_50
theorem k_X0_least {p : Program} {l : Launch} {e : Env} {R : Room} {s : State} {m : MethodId} {args : Array Value} {below : List Frame} {meth : Method} {c : Code} {H : Heap} {locs : List Loc} {Q : State → Prop} {pc : Nat} {ls : Array Slot} {rest : List Value} {cc : ByteArray} {nL : Nat} {D : va_G} {cA : Nat → ClassId} {a9 : Nat → Nat} {h9 : HK} {n0 m0 cN cS : Nat} {ad : Nat → Nat} {hk : HK} {nx ns : Nat} {A : Nat → Prop} {gi : GI} {gr : GR} {α : Type} {r : α} {own : String} {idx : Nat} {a0 : Nat} {x1 : Int32} {x2 : Int32} {x3 : Int32} {ff : (Int32 × HK × Nat × Nat × GI × GR) → Option α} (ht : (hk a0).1 = 10) (C : CallFix p m c cc nL s args lw_all own) (B : XBA D cA a9 h9 n0 m0 cN cS ad hk nx ns A s gi gr H locs) (hRr : R.cells = cN - n0 ∧ R.slots = cS - m0) (hq : Cond.methodLink own idx yX0_least ∈ lw_all) (hF : 9 ≤ R.frames) (hN : 240 ≤ R.locals) (hs : ls.size = nL) (hw : (rest.map fun v => v.category).sum ≤ 8) (h : (g_cc (fun c1 c2 => f_X0_least c1 c2 hk nx ns gi gr a0 x1 x2 x3) (fun q : Int32 × HK × Nat × Nat × GI × GR => q.2.2.1) (fun q : Int32 × HK × Nat × Nat × GI × GR => q.2.2.2.1) cN cS nx ns).bind ff = some r) (hdg : decode cc pc = .ok (.invokevirtual idx, 3)) (kk : ∀ (q : Int32 × HK × Nat × Nat × GI × GR) (ad' : Nat → Nat), ff q = some r → (∀ i, (hk i).1 < 1000 → ad' i = ad i ∧ q.2.1 i = hk i) → ∀ (H' : Heap) (locs' : List Loc), XBA D cA a9 h9 n0 m0 cN cS ad' q.2.1 q.2.2.1 q.2.2.2.1 A s q.2.2.2.2.1 q.2.2.2.2.2 H' locs' → W p l e R s m args below meth c H' locs' (q.2.2.1 - n0) (q.2.2.2.1 - m0) Q (F0 m (pc + 3) ls (.int q.1 :: rest))) : W p l e R s m args below meth c H locs (nx - n0) (ns - m0) Q (F0 m pc ls (.int x3 :: .int x2 :: .int x1 :: .ref (ad a0) :: rest)) := by
  obtain ⟨q, h1, h2⟩ := g_ob h
  obtain ⟨h3, c1, c2, c3, c4⟩ := g_cc_of h1
  refine xa_cVI (As := [.int x1, .int x2, .int x3]) (rest := rest) (n := 3) (qn := q.2.2.1) (qs := q.2.2.2.1) xc_0 ht (by decide) C B hRr (fun sz => w_X0_least l D cA ad _ _ hk nx ns gi gr a0 x1 x2 x3 ht ⟨c1, c3⟩ q h3 sz) hq q1577 q1578 q141 q1579 (by decide +kernel) ⟨c1, c2, c3, c4⟩ (fun v u hp => ?_) ⟨hF, hN⟩ rfl hs hw hdg (fun v u H9 locs9 hp hae B9 => ?_)
  · have hp := hp
    subst hp
    exact ⟨rfl, rfl⟩
  · have hp := hp
    subst hp
    exact kk _ u.1 h2 hae H9 locs9 B9
def f_X0_more (cN cS : Nat) (hk : HK) (nx ns : Nat) (gi : GI) (gr : GR) (a0 : Nat) (x1 : Int32) (x2 : Int32) (x3 : Int32) : Option (Int32 × HK × Nat × Nat × GI × GR) :=
  (f_X0_isFirst hk gi gr a0 x1).bind fun q1 =>
  if q1 = 0 then
  (some ((-1), hk, nx, ns, gi, gr))
  else
  ((f_X0_isFirst hk gi gr a0 x2).bind fun q2 =>
  if q2 = 0 then
  (some ((-1), hk, nx, ns, gi, gr))
  else
  (if x1 = x2 then
  (some ((-1), hk, nx, ns, gi, gr))
  else
  ((gr a0 25).bind fun v3 =>
  (g_is hk v3 22).bind fun _ =>
  (f_J2_size hk gi gr v3).bind fun q6 =>
  if q6 = 30 then
  (some ((-1), hk, nx, ns, gi, gr))
  else
  ((g_new cN cS nx ns 21 0 7 hk gi gr).bind fun q7 =>
  (g_cc (fun c1 c2 => f_X12_init c1 c2 q7.1 (nx + 1) (ns + 7) q7.2.1 q7.2.2 nx a0 x1 x2 ((-1)) x3) (fun q : HK × Nat × Nat × GI × GR => q.2.1) (fun q : HK × Nat × Nat × GI × GR => q.2.2.1) cN cS (nx + 1) (ns + 7)).bind fun q12 =>
  (g_cc (fun c1 c2 => f_X0_tell c1 c2 q12.1 q12.2.1 q12.2.2.1 q12.2.2.2.1 q12.2.2.2.2 a0 nx) (fun q : Int32 × HK × Nat × Nat × GI × GR => q.2.2.1) (fun q : Int32 × HK × Nat × Nat × GI × GR => q.2.2.2.1) cN cS q12.2.1 q12.2.2.1).bind fun q17 =>
  some (q17.1, q17.2.1, q17.2.2.1, q17.2.2.2.1, q17.2.2.2.2.1, q17.2.2.2.2.2)))))
set_option maxHeartbeats 400000 in
theorem w_X0_more (l : Launch) (D : va_G) (cA : Nat → ClassId) (ad : Nat → Nat) (cN cS : Nat) (hk : HK) (nx ns : Nat) (gi : GI) (gr : GR) (a0 : Nat) (x1 : Int32) (x2 : Int32) (x3 : Int32) (ht : (hk a0).1 = 10) (hcap : nx ≤ cN ∧ ns ≤ cS) (r : Int32 × HK × Nat × Nat × GI × GR) (h : f_X0_more cN cS hk nx ns gi gr a0 x1 x2 x3 = some r) (sz : Nat) : Met l yX0_more (ws_ yX0_more cX0_more 4 (some .int)) ({ frames := 8, cells := cN - nx, slots := cS - ns, locals := 217 } : Room) (va_Pc [.ref (ad a0), .int x1, .int x2, .int x3] (XPre D cA ad hk nx gi gr sz)) (va_Qi (fun (v : Int32) (u : XU) => (v, u.2) = r) (XPostA D cA ad hk nx sz) (XA ad nx sz)) (cN - nx) (cS - ns) (XA ad nx sz) := by
  refine xa_stI (own := RX0) (P := (fun (v : Int32) (u : XU) => (v, u.2) = r)) (by decide +kernel) rfl (Nat.le_of_ble_eq_true rfl) hcap (fun p e s m args below meth c R Q A ls C hmn hF hN hRr B hret hL => ?_) sz
  have hx := C.1
  have hb := C.2.1
  have hL : lv_has ls 4 [(0, .ref (ad a0)), (1, .int x1), (2, .int x2), (3, .int x3)] := hL
  unfold f_X0_more at h
  refine lv_aload_n hx hb dX0_more_0 rfl (lv_at hL 0 rfl) ?_
  refine lv_iload_n hx hb dX0_more_1 rfl (lv_at hL 1 rfl) ?_
  refine k_X0_isFirst ht C B.1 q1580 (Nat.le_trans (Nat.le_of_ble_eq_true rfl) hF) (Nat.le_trans (Nat.le_of_ble_eq_true rfl) hN) hL.1 (Nat.le_of_ble_eq_true rfl) (xa_z hRr B) h dX0_more_2 (fun q1 h H locs B2 => ?_)
  have B := And.intro B2 B.2
  refine gg_if_eq hx hb 33 h dX0_more_5 (by decide) (fun h => ?_) (fun h => ?_)
  · refine lv_iconst (v := (-1)) hx hb dX0_more_33 (by decide) ?_
    refine lv_goto (tgt := 53) hx hb dX0_more_34 (by decide) ?_
    exact hret _ (ad, hk, nx, ns, gi, gr) _ _ _ _ (Option.some.inj h) B dX0_more_53
  · refine lv_aload_n hx hb dX0_more_8 rfl (lv_at hL 0 rfl) ?_
    refine lv_iload_n hx hb dX0_more_9 rfl (lv_at hL 2 rfl) ?_
    refine k_X0_isFirst ht C B.1 q1580 (Nat.le_trans (Nat.le_of_ble_eq_true rfl) hF) (Nat.le_trans (Nat.le_of_ble_eq_true rfl) hN) hL.1 (Nat.le_of_ble_eq_true rfl) (xa_z hRr B) h dX0_more_10 (fun q2 h H locs B2 => ?_)
    have B := And.intro B2 B.2
    refine gg_if_eq hx hb 33 h dX0_more_13 (by decide) (fun h => ?_) (fun h => ?_)
    · refine lv_iconst (v := (-1)) hx hb dX0_more_33 (by decide) ?_
      refine lv_goto (tgt := 53) hx hb dX0_more_34 (by decide) ?_
      exact hret _ (ad, hk, nx, ns, gi, gr) _ _ _ _ (Option.some.inj h) B dX0_more_53
    · refine lv_iload_n hx hb dX0_more_16 rfl (lv_at hL 1 rfl) ?_
      refine lv_iload_n hx hb dX0_more_17 rfl (lv_at hL 2 rfl) ?_
      refine gg_icmp_eq hx hb 33 h dX0_more_18 (by decide) (fun h => ?_) (fun h => ?_)
      · refine lv_iconst (v := (-1)) hx hb dX0_more_33 (by decide) ?_
        refine lv_goto (tgt := 53) hx hb dX0_more_34 (by decide) ?_
        exact hret _ (ad, hk, nx, ns, gi, gr) _ _ _ _ (Option.some.inj h) B dX0_more_53
      · refine lv_aload_n hx hb dX0_more_21 rfl (lv_at hL 0 rfl) ?_
        refine xx_gr (ci := 0) (k := 25) C B.1 xc_0 ht (by decide) (Nat.le_of_ble_eq_true rfl) rfl q385 (fun _ h => h) h dX0_more_22 (fun v3 ok4 h => ?_)
        refine xx_is h (fun hp5 h => ?_)
        refine k_J2_size hp5 C B.1 q1234 (Nat.le_trans (Nat.le_of_ble_eq_true rfl) hF) (Nat.le_trans (Nat.le_of_ble_eq_true rfl) hN) hL.1 (Nat.le_of_ble_eq_true rfl) (xa_z hRr B) h dX0_more_25 (fun q6 h H locs B2 => ?_)
        have B := And.intro B2 B.2
        refine lv_bipush (v := 30) hx hb dX0_more_28 (by decide) ?_
        refine gg_icmp_ne hx hb 37 h dX0_more_30 (by decide) (fun h => ?_) (fun h => ?_)
        · refine lv_aload_n hx hb dX0_more_37 rfl (lv_at hL 0 rfl) ?_
          refine xa_new C B hRr xc_11 (by decide) xd_11 q1588 q1589 q172 h dX0_more_38 (fun q7 ad8 h hae9 hp10 H B => ?_)
          rw [← (hae9 a0 (by rw [ht]; decide)).1] at hL
          rw [← (hae9 a0 (by rw [ht]; decide)).1]
          have hp11 : (q7.1 a0).1 = 10 := by rw [(hae9 a0 (by rw [ht]; decide)).2]; exact ht
          refine lv_dup hx hb dX0_more_41 rfl ?_
          refine lv_aload_n hx hb dX0_more_42 rfl (lv_at hL 0 rfl) ?_
          refine lv_iload_n hx hb dX0_more_43 rfl (lv_at hL 1 rfl) ?_
          refine lv_iload_n hx hb dX0_more_44 rfl (lv_at hL 2 rfl) ?_
          refine lv_iconst (v := (-1)) hx hb dX0_more_45 (by decide) ?_
          refine lv_iload_n hx hb dX0_more_46 rfl (lv_at hL 3 rfl) ?_
          refine k_X12_init hp10 C B hRr q1590 (Nat.le_trans (Nat.le_of_ble_eq_true rfl) hF) (Nat.le_trans (Nat.le_of_ble_eq_true rfl) hN) hL.1 (Nat.le_of_ble_eq_true rfl) h dX0_more_47 (fun q12 ad13 h hae14 H locs B => ?_)
          rw [← (hae14 a0 (by rw [hp11]; decide)).1] at hL
          rw [← (hae14 a0 (by rw [hp11]; decide)).1]
          have hp15 : (q12.1 a0).1 = 10 := by rw [(hae14 a0 (by rw [hp11]; decide)).2]; exact hp11
          rw [← (hae14 nx (by rw [hp10]; decide)).1]
          have hp16 : (q12.1 nx).1 = 21 := by rw [(hae14 nx (by rw [hp10]; decide)).2]; exact hp10
          refine k_X0_tell hp15 C B hRr q1616 (Nat.le_trans (Nat.le_of_ble_eq_true rfl) hF) (Nat.le_trans (Nat.le_of_ble_eq_true rfl) hN) hL.1 (Nat.le_of_ble_eq_true rfl) h dX0_more_50 (fun q17 ad18 h hae19 H locs B => ?_)
          rw [← (hae19 a0 (by rw [hp15]; decide)).1] at hL
          have hp20 : (q17.2.1 a0).1 = 10 := by rw [(hae19 a0 (by rw [hp15]; decide)).2]; exact hp15
          exact hret _ (ad18, q17.2.1, q17.2.2.1, q17.2.2.2.1, q17.2.2.2.2.1, q17.2.2.2.2.2) _ _ _ _ (Option.some.inj h) B dX0_more_53
        · refine lv_iconst (v := (-1)) hx hb dX0_more_33 (by decide) ?_
          refine lv_goto (tgt := 53) hx hb dX0_more_34 (by decide) ?_
          exact hret _ (ad, hk, nx, ns, gi, gr) _ _ _ _ (Option.some.inj h) B dX0_more_53
theorem k_X0_more {p : Program} {l : Launch} {e : Env} {R : Room} {s : State} {m : MethodId} {args : Array Value} {below : List Frame} {meth : Method} {c : Code} {H : Heap} {locs : List Loc} {Q : State → Prop} {pc : Nat} {ls : Array Slot} {rest : List Value} {cc : ByteArray} {nL : Nat} {D : va_G} {cA : Nat → ClassId} {a9 : Nat → Nat} {h9 : HK} {n0 m0 cN cS : Nat} {ad : Nat → Nat} {hk : HK} {nx ns : Nat} {A : Nat → Prop} {gi : GI} {gr : GR} {α : Type} {r : α} {own : String} {idx : Nat} {a0 : Nat} {x1 : Int32} {x2 : Int32} {x3 : Int32} {ff : (Int32 × HK × Nat × Nat × GI × GR) → Option α} (ht : (hk a0).1 = 10) (C : CallFix p m c cc nL s args lw_all own) (B : XBA D cA a9 h9 n0 m0 cN cS ad hk nx ns A s gi gr H locs) (hRr : R.cells = cN - n0 ∧ R.slots = cS - m0) (hq : Cond.methodLink own idx yX0_more ∈ lw_all) (hF : 9 ≤ R.frames) (hN : 240 ≤ R.locals) (hs : ls.size = nL) (hw : (rest.map fun v => v.category).sum ≤ 8) (h : (g_cc (fun c1 c2 => f_X0_more c1 c2 hk nx ns gi gr a0 x1 x2 x3) (fun q : Int32 × HK × Nat × Nat × GI × GR => q.2.2.1) (fun q : Int32 × HK × Nat × Nat × GI × GR => q.2.2.2.1) cN cS nx ns).bind ff = some r) (hdg : decode cc pc = .ok (.invokevirtual idx, 3)) (kk : ∀ (q : Int32 × HK × Nat × Nat × GI × GR) (ad' : Nat → Nat), ff q = some r → (∀ i, (hk i).1 < 1000 → ad' i = ad i ∧ q.2.1 i = hk i) → ∀ (H' : Heap) (locs' : List Loc), XBA D cA a9 h9 n0 m0 cN cS ad' q.2.1 q.2.2.1 q.2.2.2.1 A s q.2.2.2.2.1 q.2.2.2.2.2 H' locs' → W p l e R s m args below meth c H' locs' (q.2.2.1 - n0) (q.2.2.2.1 - m0) Q (F0 m (pc + 3) ls (.int q.1 :: rest))) : W p l e R s m args below meth c H locs (nx - n0) (ns - m0) Q (F0 m pc ls (.int x3 :: .int x2 :: .int x1 :: .ref (ad a0) :: rest)) := by
  obtain ⟨q, h1, h2⟩ := g_ob h
  obtain ⟨h3, c1, c2, c3, c4⟩ := g_cc_of h1
  refine xa_cVI (As := [.int x1, .int x2, .int x3]) (rest := rest) (n := 3) (qn := q.2.2.1) (qs := q.2.2.2.1) xc_0 ht (by decide) C B hRr (fun sz => w_X0_more l D cA ad _ _ hk nx ns gi gr a0 x1 x2 x3 ht ⟨c1, c3⟩ q h3 sz) hq q1622 q1623 q141 q1624 (by decide +kernel) ⟨c1, c2, c3, c4⟩ (fun v u hp => ?_) ⟨hF, hN⟩ rfl hs hw hdg (fun v u H9 locs9 hp hae B9 => ?_)
  · have hp := hp
    subst hp
    exact ⟨rfl, rfl⟩
  · have hp := hp
    subst hp
    exact kk _ u.1 h2 hae H9 locs9 B9
def f_X10_init (cN cS : Nat) (hk : HK) (nx ns : Nat) (gi : GI) (gr : GR) (a0 : Nat) (x1 : Int32) : Option (HK × Nat × Nat × GI × GR) :=
  (some (g_pi gi a0 0 x1)).bind fun gi1 =>
  some (hk, nx, ns, gi1, gr)
set_option maxHeartbeats 400000 in
theorem w_X10_init (l : Launch) (D : va_G) (cA : Nat → ClassId) (ad : Nat → Nat) (cN cS : Nat) (hk : HK) (nx ns : Nat) (gi : GI) (gr : GR) (a0 : Nat) (x1 : Int32) (ht : (hk a0).1 = 19) (hcap : nx ≤ cN ∧ ns ≤ cS) (r : HK × Nat × Nat × GI × GR) (h : f_X10_init cN cS hk nx ns gi gr a0 x1 = some r) (sz : Nat) : Met l yX10_init (ws_ yX10_init cX10_init 2 (none)) ({ frames := 1, cells := cN - nx, slots := cS - ns, locals := 64 } : Room) (va_Pc [.ref (ad a0), .int x1] (XPre D cA ad hk nx gi gr sz)) (va_Qv (fun (u : XU) => u.2 = r) (XPostA D cA ad hk nx sz) (XA ad nx sz)) (cN - nx) (cS - ns) (XA ad nx sz) := by
  refine xa_stV (own := RX10) (P := (fun (u : XU) => u.2 = r)) (by decide +kernel) rfl (Nat.le_of_ble_eq_true rfl) hcap (fun p e s m args below meth c R Q A ls C hmn hF hN hRr B hret hL => ?_) sz
  have hx := C.1
  have hb := C.2.1
  have hL : lv_has ls 2 [(0, .ref (ad a0)), (1, .int x1)] := hL
  unfold f_X10_init at h
  refine lv_aload_n hx hb dX10_init_0 rfl (lv_at hL 0 rfl) ?_
  refine W.objInit hx hb C.2.2.2.1 (C.2.2.2.2 _ q1197) (C.2.2.2.2 _ q179) (C.2.2.2.2 _ q180) rfl (by rw [C.2.2.1]; exact hL.1) rfl dX10_init_1 (Nat.le_trans (Nat.le_of_ble_eq_true rfl) hF) (Nat.le_trans (Nat.le_of_ble_eq_true rfl) hN) ?_
  refine W.eq (g2 := F0 m 4 ls []) rfl ?_
  refine lv_aload_n hx hb dX10_init_4 rfl (lv_at hL 0 rfl) ?_
  refine lv_iload_n hx hb dX10_init_5 rfl (lv_at hL 1 rfl) ?_
  refine xx_piF (ci := 9) (k := 0) C B.1 xc_9 ht (by decide) (Nat.le_of_ble_eq_true rfl) rfl q1198 (fun _ h => h) rfl hmn rfl rfl rfl h dX10_init_6 (fun gi1 h H locs B2 => ?_)
  have B := And.intro B2 B.2
  exact hret (ad, hk, nx, ns, gi1, gr) _ _ _ _ (Option.some.inj h) B dX10_init_9
theorem k_X10_init {p : Program} {l : Launch} {e : Env} {R : Room} {s : State} {m : MethodId} {args : Array Value} {below : List Frame} {meth : Method} {c : Code} {H : Heap} {locs : List Loc} {Q : State → Prop} {pc : Nat} {ls : Array Slot} {rest : List Value} {cc : ByteArray} {nL : Nat} {D : va_G} {cA : Nat → ClassId} {a9 : Nat → Nat} {h9 : HK} {n0 m0 cN cS : Nat} {ad : Nat → Nat} {hk : HK} {nx ns : Nat} {A : Nat → Prop} {gi : GI} {gr : GR} {α : Type} {r : α} {own : String} {idx : Nat} {a0 : Nat} {x1 : Int32} {ff : (HK × Nat × Nat × GI × GR) → Option α} (ht : (hk a0).1 = 19) (C : CallFix p m c cc nL s args lw_all own) (B : XBA D cA a9 h9 n0 m0 cN cS ad hk nx ns A s gi gr H locs) (hRr : R.cells = cN - n0 ∧ R.slots = cS - m0) (hq : Cond.methodLink own idx yX10_init ∈ lw_all) (hF : 2 ≤ R.frames) (hN : 85 ≤ R.locals) (hs : ls.size = nL) (hw : (rest.map fun v => v.category).sum ≤ 8) (h : (g_cc (fun c1 c2 => f_X10_init c1 c2 hk nx ns gi gr a0 x1) (fun q : HK × Nat × Nat × GI × GR => q.2.1) (fun q : HK × Nat × Nat × GI × GR => q.2.2.1) cN cS nx ns).bind ff = some r) (hdg : decode cc pc = .ok (.invokespecial idx, 3)) (kk : ∀ (q : HK × Nat × Nat × GI × GR) (ad' : Nat → Nat), ff q = some r → (∀ i, (hk i).1 < 1000 → ad' i = ad i ∧ q.1 i = hk i) → ∀ (H' : Heap) (locs' : List Loc), XBA D cA a9 h9 n0 m0 cN cS ad' q.1 q.2.1 q.2.2.1 A s q.2.2.2.1 q.2.2.2.2 H' locs' → W p l e R s m args below meth c H' locs' (q.2.1 - n0) (q.2.2.1 - m0) Q (F0 m (pc + 3) ls (rest))) : W p l e R s m args below meth c H locs (nx - n0) (ns - m0) Q (F0 m pc ls (.int x1 :: .ref (ad a0) :: rest)) := by
  obtain ⟨q, h1, h2⟩ := g_ob h
  obtain ⟨h3, c1, c2, c3, c4⟩ := g_cc_of h1
  refine xa_cIV (As := [.int x1]) (rest := rest) (n := 1) (qn := q.2.1) (qs := q.2.2.1) (b := a0) C B hRr (fun sz => w_X10_init l D cA ad _ _ hk nx ns gi gr a0 x1 ht ⟨c1, c3⟩ q h3 sz) hq q1195 q170 q1196 rfl (by decide +kernel) ⟨c1, c2, c3, c4⟩ (fun u hp => ?_) ⟨hF, hN⟩ rfl hs hw hdg (fun u H9 locs9 hp hae B9 => ?_)
  · have hp := hp
    subst hp
    exact ⟨rfl, rfl⟩
  · have hp := hp
    subst hp
    exact kk _ u.1 h2 hae H9 locs9 B9
def f_X11_init (cN cS : Nat) (hk : HK) (nx ns : Nat) (gi : GI) (gr : GR) (a0 : Nat) (a1 : Nat) (a2 : Nat) (x3 : Int32) : Option (HK × Nat × Nat × GI × GR) :=
  (g_ok hk a1).bind fun _ =>
  (some (g_pr gr a0 0 (some a1))).bind fun gr1 =>
  (g_ok hk a2).bind fun _ =>
  (some (g_pr gr1 a0 1 (some a2))).bind fun gr3 =>
  (g_nc x3).bind fun _ =>
  (some (g_pi gi a0 2 x3)).bind fun gi5 =>
  some (hk, nx, ns, gi5, gr3)
set_option maxHeartbeats 400000 in
theorem w_X11_init (l : Launch) (D : va_G) (cA : Nat → ClassId) (ad : Nat → Nat) (cN cS : Nat) (hk : HK) (nx ns : Nat) (gi : GI) (gr : GR) (a0 : Nat) (a1 : Nat) (a2 : Nat) (x3 : Int32) (ht : (hk a0).1 = 20) (hcap : nx ≤ cN ∧ ns ≤ cS) (r : HK × Nat × Nat × GI × GR) (h : f_X11_init cN cS hk nx ns gi gr a0 a1 a2 x3 = some r) (sz : Nat) : Met l yX11_init (ws_ yX11_init cX11_init 4 (none)) ({ frames := 1, cells := cN - nx, slots := cS - ns, locals := 64 } : Room) (va_Pc [.ref (ad a0), .ref (ad a1), .ref (ad a2), .int x3] (XPre D cA ad hk nx gi gr sz)) (va_Qv (fun (u : XU) => u.2 = r) (XPostA D cA ad hk nx sz) (XA ad nx sz)) (cN - nx) (cS - ns) (XA ad nx sz) := by
  refine xa_stV (own := RX11) (P := (fun (u : XU) => u.2 = r)) (by decide +kernel) rfl (Nat.le_of_ble_eq_true rfl) hcap (fun p e s m args below meth c R Q A ls C hmn hF hN hRr B hret hL => ?_) sz
  have hx := C.1
  have hb := C.2.1
  have hL : lv_has ls 4 [(0, .ref (ad a0)), (1, .ref (ad a1)), (2, .ref (ad a2)), (3, .int x3)] := hL
  unfold f_X11_init at h
  refine lv_aload_n hx hb dX11_init_0 rfl (lv_at hL 0 rfl) ?_
  refine W.objInit hx hb C.2.2.2.1 (C.2.2.2.2 _ q1207) (C.2.2.2.2 _ q179) (C.2.2.2.2 _ q180) rfl (by rw [C.2.2.1]; exact hL.1) rfl dX11_init_1 (Nat.le_trans (Nat.le_of_ble_eq_true rfl) hF) (Nat.le_trans (Nat.le_of_ble_eq_true rfl) hN) ?_
  refine W.eq (g2 := F0 m 4 ls []) rfl ?_
  refine lv_aload_n hx hb dX11_init_4 rfl (lv_at hL 0 rfl) ?_
  refine lv_aload_n hx hb dX11_init_5 rfl (lv_at hL 1 rfl) ?_
  refine xx_ok h (fun ok2 h => ?_)
  refine xx_prF (ci := 10) (k := 0) C B.1 xc_10 ht (by decide) ok2 (Nat.le_of_ble_eq_true rfl) rfl q1208 (fun _ h => h) rfl hmn rfl rfl rfl h dX11_init_6 (fun gr1 h H locs B2 => ?_)
  have B := And.intro B2 B.2
  refine lv_aload_n hx hb dX11_init_9 rfl (lv_at hL 0 rfl) ?_
  refine lv_aload_n hx hb dX11_init_10 rfl (lv_at hL 2 rfl) ?_
  refine xx_ok h (fun ok4 h => ?_)
  refine xx_prF (ci := 10) (k := 1) C B.1 xc_10 ht (by decide) ok4 (Nat.le_of_ble_eq_true rfl) rfl q1209 (fun _ h => h) rfl hmn rfl rfl rfl h dX11_init_11 (fun gr3 h H locs B2 => ?_)
  have B := And.intro B2 B.2
  refine lv_aload_n hx hb dX11_init_14 rfl (lv_at hL 0 rfl) ?_
  refine lv_iload_n hx hb dX11_init_15 rfl (lv_at hL 3 rfl) ?_
  refine xx_nc h (fun hz h => ?_)
  refine xx_piF (ci := 10) (k := 2) C B.1 xc_10 ht (by decide) (Nat.le_of_ble_eq_true rfl) rfl q1210 (fun _ h => h) rfl hmn rfl (by rw [← hz]; exact pk_nc _) (by rw [← hz]; exact pk_fc _) h dX11_init_16 (fun gi5 h H locs B2 => ?_)
  have B := And.intro B2 B.2
  exact hret (ad, hk, nx, ns, gi5, gr3) _ _ _ _ (Option.some.inj h) B dX11_init_19
theorem k_X11_init {p : Program} {l : Launch} {e : Env} {R : Room} {s : State} {m : MethodId} {args : Array Value} {below : List Frame} {meth : Method} {c : Code} {H : Heap} {locs : List Loc} {Q : State → Prop} {pc : Nat} {ls : Array Slot} {rest : List Value} {cc : ByteArray} {nL : Nat} {D : va_G} {cA : Nat → ClassId} {a9 : Nat → Nat} {h9 : HK} {n0 m0 cN cS : Nat} {ad : Nat → Nat} {hk : HK} {nx ns : Nat} {A : Nat → Prop} {gi : GI} {gr : GR} {α : Type} {r : α} {own : String} {idx : Nat} {a0 : Nat} {a1 : Nat} {a2 : Nat} {x3 : Int32} {ff : (HK × Nat × Nat × GI × GR) → Option α} (ht : (hk a0).1 = 20) (C : CallFix p m c cc nL s args lw_all own) (B : XBA D cA a9 h9 n0 m0 cN cS ad hk nx ns A s gi gr H locs) (hRr : R.cells = cN - n0 ∧ R.slots = cS - m0) (hq : Cond.methodLink own idx yX11_init ∈ lw_all) (hF : 2 ≤ R.frames) (hN : 87 ≤ R.locals) (hs : ls.size = nL) (hw : (rest.map fun v => v.category).sum ≤ 8) (h : (g_cc (fun c1 c2 => f_X11_init c1 c2 hk nx ns gi gr a0 a1 a2 x3) (fun q : HK × Nat × Nat × GI × GR => q.2.1) (fun q : HK × Nat × Nat × GI × GR => q.2.2.1) cN cS nx ns).bind ff = some r) (hdg : decode cc pc = .ok (.invokespecial idx, 3)) (kk : ∀ (q : HK × Nat × Nat × GI × GR) (ad' : Nat → Nat), ff q = some r → (∀ i, (hk i).1 < 1000 → ad' i = ad i ∧ q.1 i = hk i) → ∀ (H' : Heap) (locs' : List Loc), XBA D cA a9 h9 n0 m0 cN cS ad' q.1 q.2.1 q.2.2.1 A s q.2.2.2.1 q.2.2.2.2 H' locs' → W p l e R s m args below meth c H' locs' (q.2.1 - n0) (q.2.2.1 - m0) Q (F0 m (pc + 3) ls (rest))) : W p l e R s m args below meth c H locs (nx - n0) (ns - m0) Q (F0 m pc ls (.int x3 :: .ref (ad a2) :: .ref (ad a1) :: .ref (ad a0) :: rest)) := by
  obtain ⟨q, h1, h2⟩ := g_ob h
  obtain ⟨h3, c1, c2, c3, c4⟩ := g_cc_of h1
  refine xa_cIV (As := [.ref (ad a1), .ref (ad a2), .int x3]) (rest := rest) (n := 3) (qn := q.2.1) (qs := q.2.2.1) (b := a0) C B hRr (fun sz => w_X11_init l D cA ad _ _ hk nx ns gi gr a0 a1 a2 x3 ht ⟨c1, c3⟩ q h3 sz) hq q1205 q171 q1206 rfl (by decide +kernel) ⟨c1, c2, c3, c4⟩ (fun u hp => ?_) ⟨hF, hN⟩ rfl hs hw hdg (fun u H9 locs9 hp hae B9 => ?_)
  · have hp := hp
    subst hp
    exact ⟨rfl, rfl⟩
  · have hp := hp
    subst hp
    exact kk _ u.1 h2 hae H9 locs9 B9
def f_X5_go_j20 (cN cS : Nat) (a0 : Nat) (hkj20 : HK) (nxj20 : Nat) (nsj20 : Nat) (gij20 : GI) (grj20 : GR) : Option ((HK × Nat × Nat × GI × GR) ⊕ (HK × Nat × Nat × GI × GR)) :=
  (some (g_pi gij20 a0 0 ((gij20 a0 0) + 1))).bind fun gi4 =>
  some (.inl (hkj20, nxj20, nsj20, gi4, grj20))
def f_X5_go_l0 (cN cS : Nat) (a0 : Nat) (hkl0 : HK) (nxl0 : Nat) (nsl0 : Nat) (gil0 : GI) (grl0 : GR) : Option ((HK × Nat × Nat × GI × GR) ⊕ (HK × Nat × Nat × GI × GR)) :=
  (f_X5_here hkl0 gil0 grl0 a0 0).bind fun q2 =>
  if q2 = 32 then
  (f_X5_go_j20 cN cS a0 hkl0 nxl0 nsl0 gil0 grl0)
  else
  ((f_X5_here hkl0 gil0 grl0 a0 0).bind fun q5 =>
  if q5 = 10 then
  (f_X5_go_j20 cN cS a0 hkl0 nxl0 nsl0 gil0 grl0)
  else
  (some (.inr (hkl0, nxl0, nsl0, gil0, grl0))))
def f_X5_go_j226 (cN cS : Nat) (a0 : Nat) (hkj226 : HK) (nxj226 : Nat) (nsj226 : Nat) (gij226 : GI) (grj226 : GR) (x2j226 : Int32) : Option (HK × Nat × Nat × GI × GR) :=
  (some (g_pi gij226 a0 0 ((gij226 a0 0) + x2j226))).bind fun gi14 =>
  some (hkj226, nxj226, nsj226, gi14, grj226)
def f_X5_go_l151 (cN cS : Nat) (a0 : Nat) (x2l151 : Int32) (hkl151 : HK) (nxl151 : Nat) (nsl151 : Nat) (gil151 : GI) (grl151 : GR) : Option ((Int32 × HK × Nat × Nat × GI × GR) ⊕ (Int32 × HK × Nat × Nat × GI × GR)) :=
  (f_X5_isDigit hkl151 gil151 grl151 a0 x2l151).bind fun q18 =>
  if q18 = 0 then
  (some (.inr (x2l151, hkl151, nxl151, nsl151, gil151, grl151)))
  else
  (if 4 ≤ x2l151 then
  (some (.inl (x2l151 + 1, hkl151, nxl151, nsl151, gil151, grl151)))
  else
  ((f_X5_here hkl151 gil151 grl151 a0 x2l151).bind fun q19 =>
  (some (g_pi gil151 a0 3 (((10 * (gil151 a0 3)) + q19) - 48))).bind fun gi20 =>
  some (.inl (x2l151 + 1, hkl151, nxl151, nsl151, gi20, grl151))))
def f_X5_go_x151 (cN cS : Nat) (a0 : Nat) (x2e151 : Int32) (hke151 : HK) (nxe151 : Nat) (nse151 : Nat) (gie151 : GI) (gre151 : GR) : Option (HK × Nat × Nat × GI × GR) :=
  if 4 < x2e151 then
  (some (hke151, nxe151, nse151, gie151, gre151))
  else
  ((f_X5_isLetter hke151 gie151 gre151 a0 x2e151).bind fun q22 =>
  if q22 = 0 then
  ((some (g_pi gie151 a0 1 2)).bind fun gi23 =>
  f_X5_go_j226 cN cS a0 hke151 nxe151 nse151 gi23 gre151 x2e151)
  else
  (some (hke151, nxe151, nse151, gie151, gre151)))
def f_X5_go_l84 (cN cS : Nat) (a0 : Nat) (a3i84 : Nat) (x2l84 : Int32) (hkl84 : HK) (nxl84 : Nat) (nsl84 : Nat) (gil84 : GI) (grl84 : GR) : Option ((Int32 × HK × Nat × Nat × GI × GR) ⊕ (Int32 × HK × Nat × Nat × GI × GR)) :=
  (f_X5_isLetter hkl84 gil84 grl84 a0 x2l84).bind fun q35 =>
  if q35 = 0 then
  (some (.inr (x2l84, hkl84, nxl84, nsl84, gil84, grl84)))
  else
  (if 8 ≤ x2l84 then
  (some (.inl (x2l84 + 1, hkl84, nxl84, nsl84, gil84, grl84)))
  else
  ((f_X5_here hkl84 gil84 grl84 a0 x2l84).bind fun q36 =>
  (g_is hkl84 a3i84 24).bind fun _ =>
  (g_cc (fun c1 c2 => f_J6_append c1 c2 hkl84 nxl84 nsl84 gil84 grl84 a3i84 ((q36.toUInt32 % 65536).toInt32)) (fun q : Nat × HK × Nat × Nat × GI × GR => q.2.2.1) (fun q : Nat × HK × Nat × Nat × GI × GR => q.2.2.2.1) cN cS nxl84 nsl84).bind fun q38 =>
  some (.inl (x2l84 + 1, q38.2.1, q38.2.2.1, q38.2.2.2.1, q38.2.2.2.2.1, q38.2.2.2.2.2))))
def f_X5_go_x84 (cN cS : Nat) (a0 : Nat) (a3y84 : Nat) (x2e84 : Int32) (hke84 : HK) (nxe84 : Nat) (nse84 : Nat) (gie84 : GI) (gre84 : GR) : Option (HK × Nat × Nat × GI × GR) :=
  if x2e84 ≤ 8 then
  ((g_is hke84 a3y84 24).bind fun _ =>
  (g_cc (fun c1 c2 => f_J6_toString c1 c2 hke84 nxe84 nse84 gie84 gre84 a3y84) (fun q : Nat × HK × Nat × Nat × GI × GR => q.2.2.1) (fun q : Nat × HK × Nat × Nat × GI × GR => q.2.2.2.1) cN cS nxe84 nse84).bind fun q45 =>
  (g_ok q45.2.1 q45.1).bind fun _ =>
  (some (g_pr q45.2.2.2.2.2 a0 8 (some q45.1))).bind fun gr50 =>
  (some (g_pi q45.2.2.2.2.1 a0 1 1)).bind fun gi52 =>
  f_X5_go_j226 cN cS a0 q45.2.1 q45.2.2.1 q45.2.2.2.1 gi52 gr50 x2e84)
  else
  (some (hke84, nxe84, nse84, gie84, gre84))
def f_X5_go_x0 (cN cS : Nat) (a0 : Nat) (hke0 : HK) (nxe0 : Nat) (nse0 : Nat) (gie0 : GI) (gre0 : GR) : Option (HK × Nat × Nat × GI × GR) :=
  (some (g_pi gie0 a0 2 (gie0 a0 0))).bind fun gi7 =>
  (f_X5_here hke0 gi7 gre0 a0 0).bind fun q8 =>
  (some (g_pi gi7 a0 1 3)).bind fun gi9 =>
  if 0 ≤ q8 then
  ((f_X5_isLetter hke0 gi9 gre0 a0 0).bind fun q10 =>
  if q10 = 0 then
  ((f_X5_isDigit hke0 gi9 gre0 a0 0).bind fun q11 =>
  if q11 = 0 then
  ((f_X5_isSign hke0 gi9 gre0 q8).bind fun q12 =>
  if q12 = 0 then
  (f_X5_go_j226 cN cS a0 hke0 nxe0 nse0 gi9 gre0 0)
  else
  ((some (g_pi gi9 a0 1 q8)).bind fun gi15 =>
  f_X5_go_j226 cN cS a0 hke0 nxe0 nse0 gi15 gre0 1))
  else
  ((some (g_pi gi9 a0 3 0)).bind fun gi16 =>
  (g_loop g_K (fun (s : Int32 × HK × Nat × Nat × GI × GR) => f_X5_go_l151 cN cS a0 s.1 s.2.1 s.2.2.1 s.2.2.2.1 s.2.2.2.2.1 s.2.2.2.2.2) (0, hke0, nxe0, nse0, gi16, gre0)).bind fun E151 => f_X5_go_x151 cN cS a0 E151.1 E151.2.1 E151.2.2.1 E151.2.2.2.1 E151.2.2.2.2.1 E151.2.2.2.2.2))
  else
  ((g_new cN cS nxe0 nse0 24 0 4 hke0 gi9 gre0).bind fun q24 =>
  (g_cc (fun c1 c2 => f_J6_init c1 c2 q24.1 (nxe0 + 1) (nse0 + 4) q24.2.1 q24.2.2 nxe0 8) (fun q : HK × Nat × Nat × GI × GR => q.2.1) (fun q : HK × Nat × Nat × GI × GR => q.2.2.1) cN cS (nxe0 + 1) (nse0 + 4)).bind fun q29 =>
  (g_loop g_K (fun (s : Int32 × HK × Nat × Nat × GI × GR) => f_X5_go_l84 cN cS a0 nxe0 s.1 s.2.1 s.2.2.1 s.2.2.2.1 s.2.2.2.2.1 s.2.2.2.2.2) (0, q29.1, q29.2.1, q29.2.2.1, q29.2.2.2.1, q29.2.2.2.2)).bind fun E84 => f_X5_go_x84 cN cS a0 nxe0 E84.1 E84.2.1 E84.2.2.1 E84.2.2.2.1 E84.2.2.2.2.1 E84.2.2.2.2.2))
  else
  ((some (g_pi gi9 a0 1 0)).bind fun gi53 =>
  f_X5_go_j226 cN cS a0 hke0 nxe0 nse0 gi53 gre0 0)
def f_X5_go (cN cS : Nat) (hk : HK) (nx ns : Nat) (gi : GI) (gr : GR) (a0 : Nat) : Option (HK × Nat × Nat × GI × GR) :=
  (g_loop g_K (fun (s : HK × Nat × Nat × GI × GR) => f_X5_go_l0 cN cS a0 s.1 s.2.1 s.2.2.1 s.2.2.2.1 s.2.2.2.2) (hk, nx, ns, gi, gr)).bind fun E0 => f_X5_go_x0 cN cS a0 E0.1 E0.2.1 E0.2.2.1 E0.2.2.2.1 E0.2.2.2.2
set_option maxHeartbeats 400000 in
theorem w_X5_go (l : Launch) (D : va_G) (cA : Nat → ClassId) (ad : Nat → Nat) (cN cS : Nat) (hk : HK) (nx ns : Nat) (gi : GI) (gr : GR) (a0 : Nat) (ht : (hk a0).1 = 14) (hcap : nx ≤ cN ∧ ns ≤ cS) (r : HK × Nat × Nat × GI × GR) (h : f_X5_go cN cS hk nx ns gi gr a0 = some r) (sz : Nat) : Met l yX5_go (ws_ yX5_go cX5_go 4 (none)) ({ frames := 7, cells := cN - nx, slots := cS - ns, locals := 198 } : Room) (va_Pc [.ref (ad a0)] (XPre D cA ad hk nx gi gr sz)) (va_Qv (fun (u : XU) => u.2 = r) (XPostA D cA ad hk nx sz) (XA ad nx sz)) (cN - nx) (cS - ns) (XA ad nx sz) := by
  refine xa_stV (own := RX5) (P := (fun (u : XU) => u.2 = r)) (by decide +kernel) rfl (Nat.le_of_ble_eq_true rfl) hcap (fun p e s m args below meth c R Q A ls C hmn hF hN hRr B hret hL => ?_) sz
  have hx := C.1
  have hb := C.2.1
  have hL : lv_has ls 4 [(0, .ref (ad a0))] := hL
  unfold f_X5_go at h
  have hj226 : ∀ (hkj226 : HK) (nxj226 : Nat) (nsj226 : Nat) (gij226 : GI) (grj226 : GR) (x2j226 : Int32) (adj226 : Nat → Nat) (H : Heap) (locs : List Loc) (ls : Array Slot), f_X5_go_j226 cN cS a0 hkj226 nxj226 nsj226 gij226 grj226 x2j226 = some r → XBA D cA ad hk nx ns cN cS adj226 hkj226 nxj226 nsj226 A s gij226 grj226 H locs → lv_has ls 4 [(0, .ref (adj226 a0)), (2, .int x2j226)] → W p l e R s m args below meth c H locs (nxj226 - nx) (nsj226 - ns) Q (F0 m 226 ls []) := by
    intro hkj226 nxj226 nsj226 gij226 grj226 x2j226 adj226 H locs ls h B hL
    unfold f_X5_go_j226 at h
    have ht13 : (hkj226 a0).1 = 14 := by rw [(B.2.1 a0 (by rw [ht]; decide)).2]; exact ht
    refine lv_aload_n hx hb dX5_go_226 rfl (lv_at hL 0 rfl) ?_
    refine lv_dup hx hb dX5_go_227 rfl ?_
    refine xx_gi (ci := 4) (k := 0) C B.1 xc_4 ht13 (by decide) (Nat.le_of_ble_eq_true rfl) rfl q474 (fun _ h => h) dX5_go_228 ?_
    refine lv_iload_n hx hb dX5_go_231 rfl (lv_at hL 1 rfl) ?_
    refine lv_iadd hx hb dX5_go_232 ?_
    refine xx_pi (ci := 4) (k := 0) C B.1 xc_4 ht13 (by decide) (Nat.le_of_ble_eq_true rfl) rfl q474 (fun _ h => h) rfl rfl rfl h dX5_go_233 (fun gi14 h H locs B2 => ?_)
    have B := And.intro B2 B.2
    exact hret (adj226, hkj226, nxj226, nsj226, gi14, grj226) _ _ _ _ (Option.some.inj h) B dX5_go_236
  obtain ⟨E0, h80, h⟩ := g_ob h
  have kx0 : ∀ (hke0 : HK) (nxe0 : Nat) (nse0 : Nat) (gie0 : GI) (gre0 : GR) (ade0 : Nat → Nat) (H : Heap) (locs : List Loc) (ls : Array Slot), (hke0, nxe0, nse0, gie0, gre0) = E0 → XBA D cA ad hk nx ns cN cS ade0 hke0 nxe0 nse0 A s gie0 gre0 H locs → lv_has ls 4 [(0, .ref (ade0 a0))] → W p l e R s m args below meth c H locs (nxe0 - nx) (nse0 - ns) Q (F0 m 33 ls []) := by
    intro hke0 nxe0 nse0 gie0 gre0 ade0 H locs ls he B hL
    subst he
    have h : f_X5_go_x0 cN cS a0 hke0 nxe0 nse0 gie0 gre0 = some r := h
    unfold f_X5_go_x0 at h
    have ht6 : (hke0 a0).1 = 14 := by rw [(B.2.1 a0 (by rw [ht]; decide)).2]; exact ht
    refine lv_aload_n hx hb dX5_go_33 rfl (lv_at hL 0 rfl) ?_
    refine lv_aload_n hx hb dX5_go_34 rfl (lv_at hL 0 rfl) ?_
    refine xx_gi (ci := 4) (k := 0) C B.1 xc_4 ht6 (by decide) (Nat.le_of_ble_eq_true rfl) rfl q474 (fun _ h => h) dX5_go_35 ?_
    refine xx_pi (ci := 4) (k := 2) C B.1 xc_4 ht6 (by decide) (Nat.le_of_ble_eq_true rfl) rfl q476 (fun _ h => h) rfl rfl rfl h dX5_go_38 (fun gi7 h H locs B2 => ?_)
    have B := And.intro B2 B.2
    refine lv_aload_n hx hb dX5_go_41 rfl (lv_at hL 0 rfl) ?_
    refine lv_iconst (v := 0) hx hb dX5_go_42 (by decide) ?_
    refine k_X5_here ht6 C B.1 q516 (Nat.le_trans (Nat.le_of_ble_eq_true rfl) hF) (Nat.le_trans (Nat.le_of_ble_eq_true rfl) hN) hL.1 (Nat.le_of_ble_eq_true rfl) (xa_z hRr B) h dX5_go_43 (fun q8 h H locs B2 => ?_)
    have B := And.intro B2 B.2
    refine lv_istore_n (lv' := [(1, .int q8), (0, .ref (ade0 a0))]) hx hb dX5_go_46 rfl hL (by decide) rfl (fun ls hL => ?_)
    refine lv_iconst (v := 0) hx hb dX5_go_47 (by decide) ?_
    refine lv_istore_n (lv' := [(2, .int 0), (1, .int q8), (0, .ref (ade0 a0))]) hx hb dX5_go_48 rfl hL (by decide) rfl (fun ls hL => ?_)
    refine lv_aload_n hx hb dX5_go_49 rfl (lv_at hL 2 rfl) ?_
    refine lv_iconst (v := 3) hx hb dX5_go_50 (by decide) ?_
    refine xx_pi (ci := 4) (k := 1) C B.1 xc_4 ht6 (by decide) (Nat.le_of_ble_eq_true rfl) rfl q475 (fun _ h => h) rfl rfl rfl h dX5_go_51 (fun gi9 h H locs B2 => ?_)
    have B := And.intro B2 B.2
    refine lv_iload_n hx hb dX5_go_54 rfl (lv_at hL 1 rfl) ?_
    refine gg_if_ge hx hb 66 h dX5_go_55 (by decide) (fun h => ?_) (fun h => ?_)
    · refine lv_aload_n hx hb dX5_go_66 rfl (lv_at hL 2 rfl) ?_
      refine lv_iconst (v := 0) hx hb dX5_go_67 (by decide) ?_
      refine k_X5_isLetter ht6 C B.1 q520 (Nat.le_trans (Nat.le_of_ble_eq_true rfl) hF) (Nat.le_trans (Nat.le_of_ble_eq_true rfl) hN) hL.1 (Nat.le_of_ble_eq_true rfl) (xa_z hRr B) h dX5_go_68 (fun q10 h H locs B2 => ?_)
      have B := And.intro B2 B.2
      refine gg_if_eq hx hb 138 h dX5_go_71 (by decide) (fun h => ?_) (fun h => ?_)
      · refine lv_aload_n hx hb dX5_go_138 rfl (lv_at hL 2 rfl) ?_
        refine lv_iconst (v := 0) hx hb dX5_go_139 (by decide) ?_
        refine k_X5_isDigit ht6 C B.1 q711 (Nat.le_trans (Nat.le_of_ble_eq_true rfl) hF) (Nat.le_trans (Nat.le_of_ble_eq_true rfl) hN) hL.1 (Nat.le_of_ble_eq_true rfl) (xa_z hRr B) h dX5_go_140 (fun q11 h H locs B2 => ?_)
        have B := And.intro B2 B.2
        refine gg_if_eq hx hb 212 h dX5_go_143 (by decide) (fun h => ?_) (fun h => ?_)
        · refine lv_iload_n hx hb dX5_go_212 rfl (lv_at hL 1 rfl) ?_
          refine k_X5_isSign C B.1 q715 (Nat.le_trans (Nat.le_of_ble_eq_true rfl) hF) (Nat.le_trans (Nat.le_of_ble_eq_true rfl) hN) hL.1 (Nat.le_of_ble_eq_true rfl) (xa_z hRr B) h dX5_go_213 (fun q12 h H locs B2 => ?_)
          have B := And.intro B2 B.2
          refine gg_if_eq hx hb 226 h dX5_go_216 (by decide) (fun h => ?_) (fun h => ?_)
          · exact hj226 _ _ _ _ _ _ _ _ _ _ h B (lv_sub hL [2, 0] rfl)
          · refine lv_aload_n hx hb dX5_go_219 rfl (lv_at hL 2 rfl) ?_
            refine lv_iload_n hx hb dX5_go_220 rfl (lv_at hL 1 rfl) ?_
            refine xx_pi (ci := 4) (k := 1) C B.1 xc_4 ht6 (by decide) (Nat.le_of_ble_eq_true rfl) rfl q475 (fun _ h => h) rfl rfl rfl h dX5_go_221 (fun gi15 h H locs B2 => ?_)
            have B := And.intro B2 B.2
            refine lv_iconst (v := 1) hx hb dX5_go_224 (by decide) ?_
            refine lv_istore_n (lv' := [(2, .int 1), (1, .int q8), (0, .ref (ade0 a0))]) hx hb dX5_go_225 rfl hL (by decide) rfl (fun ls hL => ?_)
            exact hj226 _ _ _ _ _ _ _ _ _ _ h B (lv_sub hL [2, 0] rfl)
        · refine lv_aload_n hx hb dX5_go_146 rfl (lv_at hL 2 rfl) ?_
          refine lv_iconst (v := 0) hx hb dX5_go_147 (by decide) ?_
          refine xx_pi (ci := 4) (k := 3) C B.1 xc_4 ht6 (by decide) (Nat.le_of_ble_eq_true rfl) rfl q477 (fun _ h => h) rfl rfl rfl h dX5_go_148 (fun gi16 h H locs B2 => ?_)
          have B := And.intro B2 B.2
          obtain ⟨E151, h8151, h⟩ := g_ob h
          have kx151 : ∀ (x2e151 : Int32) (hke151 : HK) (nxe151 : Nat) (nse151 : Nat) (gie151 : GI) (gre151 : GR) (ade151 : Nat → Nat) (H : Heap) (locs : List Loc) (ls : Array Slot), (x2e151, hke151, nxe151, nse151, gie151, gre151) = E151 → XBA D cA ad hk nx ns cN cS ade151 hke151 nxe151 nse151 A s gie151 gre151 H locs → lv_has ls 4 [(0, .ref (ade151 a0)), (2, .int x2e151)] → W p l e R s m args below meth c H locs (nxe151 - nx) (nse151 - ns) Q (F0 m 190 ls []) := by
            intro x2e151 hke151 nxe151 nse151 gie151 gre151 ade151 H locs ls he B hL
            subst he
            have h : f_X5_go_x151 cN cS a0 x2e151 hke151 nxe151 nse151 gie151 gre151 = some r := h
            unfold f_X5_go_x151 at h
            have ht21 : (hke151 a0).1 = 14 := by rw [(B.2.1 a0 (by rw [ht]; decide)).2]; exact ht
            refine lv_iload_n hx hb dX5_go_190 rfl (lv_at hL 1 rfl) ?_
            refine lv_iconst (v := 4) hx hb dX5_go_191 (by decide) ?_
            refine gg_icmp_gt hx hb 203 h dX5_go_192 (by decide) (fun h => ?_) (fun h => ?_)
            · exact hret (ade151, hke151, nxe151, nse151, gie151, gre151) _ _ _ _ (Option.some.inj h) B dX5_go_203
            · refine lv_aload_n hx hb dX5_go_195 rfl (lv_at hL 0 rfl) ?_
              refine lv_iload_n hx hb dX5_go_196 rfl (lv_at hL 1 rfl) ?_
              refine k_X5_isLetter ht21 C B.1 q520 (Nat.le_trans (Nat.le_of_ble_eq_true rfl) hF) (Nat.le_trans (Nat.le_of_ble_eq_true rfl) hN) hL.1 (Nat.le_of_ble_eq_true rfl) (xa_z hRr B) h dX5_go_197 (fun q22 h H locs B2 => ?_)
              have B := And.intro B2 B.2
              refine gg_if_eq hx hb 204 h dX5_go_200 (by decide) (fun h => ?_) (fun h => ?_)
              · refine lv_aload_n hx hb dX5_go_204 rfl (lv_at hL 0 rfl) ?_
                refine lv_iconst (v := 2) hx hb dX5_go_205 (by decide) ?_
                refine xx_pi (ci := 4) (k := 1) C B.1 xc_4 ht21 (by decide) (Nat.le_of_ble_eq_true rfl) rfl q475 (fun _ h => h) rfl rfl rfl h dX5_go_206 (fun gi23 h H locs B2 => ?_)
                have B := And.intro B2 B.2
                refine lv_goto (tgt := 226) hx hb dX5_go_209 (by decide) ?_
                exact hj226 _ _ _ _ _ _ _ _ _ _ h B (lv_sub hL [0, 1] rfl)
              · exact hret (ade151, hke151, nxe151, nse151, gie151, gre151) _ _ _ _ (Option.some.inj h) B dX5_go_203
          have hl151 : ∀ (k : Nat) (x2l151 : Int32) (hkl151 : HK) (nxl151 : Nat) (nsl151 : Nat) (gil151 : GI) (grl151 : GR) (adl151 : Nat → Nat) (H : Heap) (locs : List Loc) (ls : Array Slot), g_loop k (fun (s : Int32 × HK × Nat × Nat × GI × GR) => f_X5_go_l151 cN cS a0 s.1 s.2.1 s.2.2.1 s.2.2.2.1 s.2.2.2.2.1 s.2.2.2.2.2) (x2l151, hkl151, nxl151, nsl151, gil151, grl151) = some E151 → XBA D cA ad hk nx ns cN cS adl151 hkl151 nxl151 nsl151 A s gil151 grl151 H locs → lv_has ls 4 [(0, .ref (adl151 a0)), (2, .int x2l151)] → W p l e R s m args below meth c H locs (nxl151 - nx) (nsl151 - ns) Q (F0 m 151 ls []) := by
            intro k
            induction k with
            | zero => intro x2l151 hkl151 nxl151 nsl151 gil151 grl151 adl151 H locs ls h; exact absurd h (fun z => g_loop_0 z)
            | succ k ih151 =>
              intro x2l151 hkl151 nxl151 nsl151 gil151 grl151 adl151 H locs ls h B hL
              obtain ⟨Z151, h, h9151⟩ := g_loop_s h
              have h : f_X5_go_l151 cN cS a0 x2l151 hkl151 nxl151 nsl151 gil151 grl151 = some Z151 := h
              unfold f_X5_go_l151 at h
              have ht17 : (hkl151 a0).1 = 14 := by rw [(B.2.1 a0 (by rw [ht]; decide)).2]; exact ht
              refine lv_aload_n hx hb dX5_go_151 rfl (lv_at hL 0 rfl) ?_
              refine lv_iload_n hx hb dX5_go_152 rfl (lv_at hL 1 rfl) ?_
              refine k_X5_isDigit ht17 C B.1 q711 (Nat.le_trans (Nat.le_of_ble_eq_true rfl) hF) (Nat.le_trans (Nat.le_of_ble_eq_true rfl) hN) hL.1 (Nat.le_of_ble_eq_true rfl) (xa_z hRr B) h dX5_go_153 (fun q18 h H locs B2 => ?_)
              have B := And.intro B2 B.2
              refine gg_if_eq hx hb 190 h dX5_go_156 (by decide) (fun h => ?_) (fun h => ?_)
              · exact kx151 _ _ _ _ _ _ _ _ _ _ (g_exit h h9151) B (lv_sub hL [0, 1] rfl)
              · refine lv_iload_n hx hb dX5_go_159 rfl (lv_at hL 1 rfl) ?_
                refine lv_iconst (v := 4) hx hb dX5_go_160 (by decide) ?_
                refine gg_icmp_ge hx hb 184 h dX5_go_161 (by decide) (fun h => ?_) (fun h => ?_)
                · refine lv_iinc (v := x2l151 + 1) (lv' := [(2, .int (x2l151 + 1)), (0, .ref (adl151 a0))]) hx hb dX5_go_184 hL (k := 1) rfl rfl (by decide) rfl (fun ls hL => ?_)
                  refine lv_goto (tgt := 151) hx hb dX5_go_187 (by decide) ?_
                  exact ih151 _ _ _ _ _ _ _ _ _ _ (g_next h h9151) B (lv_sub hL [1, 0] rfl)
                · refine lv_aload_n hx hb dX5_go_164 rfl (lv_at hL 0 rfl) ?_
                  refine lv_bipush (v := 10) hx hb dX5_go_165 (by decide) ?_
                  refine lv_aload_n hx hb dX5_go_167 rfl (lv_at hL 0 rfl) ?_
                  refine xx_gi (ci := 4) (k := 3) C B.1 xc_4 ht17 (by decide) (Nat.le_of_ble_eq_true rfl) rfl q477 (fun _ h => h) dX5_go_168 ?_
                  refine lv_imul hx hb dX5_go_171 ?_
                  refine lv_aload_n hx hb dX5_go_172 rfl (lv_at hL 0 rfl) ?_
                  refine lv_iload_n hx hb dX5_go_173 rfl (lv_at hL 1 rfl) ?_
                  refine k_X5_here ht17 C B.1 q516 (Nat.le_trans (Nat.le_of_ble_eq_true rfl) hF) (Nat.le_trans (Nat.le_of_ble_eq_true rfl) hN) hL.1 (Nat.le_of_ble_eq_true rfl) (xa_z hRr B) h dX5_go_174 (fun q19 h H locs B2 => ?_)
                  have B := And.intro B2 B.2
                  refine lv_iadd hx hb dX5_go_177 ?_
                  refine lv_bipush (v := 48) hx hb dX5_go_178 (by decide) ?_
                  refine lv_isub hx hb dX5_go_180 ?_
                  refine xx_pi (ci := 4) (k := 3) C B.1 xc_4 ht17 (by decide) (Nat.le_of_ble_eq_true rfl) rfl q477 (fun _ h => h) rfl rfl rfl h dX5_go_181 (fun gi20 h H locs B2 => ?_)
                  have B := And.intro B2 B.2
                  refine lv_iinc (v := x2l151 + 1) (lv' := [(2, .int (x2l151 + 1)), (0, .ref (adl151 a0))]) hx hb dX5_go_184 hL (k := 1) rfl rfl (by decide) rfl (fun ls hL => ?_)
                  refine lv_goto (tgt := 151) hx hb dX5_go_187 (by decide) ?_
                  exact ih151 _ _ _ _ _ _ _ _ _ _ (g_next h h9151) B (lv_sub hL [1, 0] rfl)
          exact hl151 g_K _ _ _ _ _ _ _ _ _ _ h8151 B (lv_sub hL [2, 0] rfl)
      · refine xa_new C B hRr xc_14 (by decide) xd_14 q524 q525 q153 h dX5_go_74 (fun q24 ad25 h hae26 hp27 H B => ?_)
        rw [← (hae26 a0 (by rw [ht6]; decide)).1] at hL
        have hp28 : (q24.1 a0).1 = 14 := by rw [(hae26 a0 (by rw [ht6]; decide)).2]; exact ht6
        refine lv_dup hx hb dX5_go_77 rfl ?_
        refine lv_bipush (v := 8) hx hb dX5_go_78 (by decide) ?_
        refine k_J6_init hp27 C B hRr q526 (Nat.le_trans (Nat.le_of_ble_eq_true rfl) hF) (Nat.le_trans (Nat.le_of_ble_eq_true rfl) hN) hL.1 (Nat.le_of_ble_eq_true rfl) h dX5_go_80 (fun q29 ad30 h hae31 H locs B => ?_)
        rw [← (hae31 a0 (by rw [hp28]; decide)).1] at hL
        have hp32 : (q29.1 a0).1 = 14 := by rw [(hae31 a0 (by rw [hp28]; decide)).2]; exact hp28
        rw [← (hae31 nxe0 (by rw [hp27]; decide)).1]
        have hp33 : (q29.1 nxe0).1 = 24 := by rw [(hae31 nxe0 (by rw [hp27]; decide)).2]; exact hp27
        refine lv_astore_n (lv' := [(3, .ref (ad30 nxe0)), (2, .int 0), (1, .int q8), (0, .ref (ad30 a0))]) hx hb dX5_go_83 rfl hL (by decide) rfl (fun ls hL => ?_)
        obtain ⟨E84, h884, h⟩ := g_ob h
        have kx84 : ∀ (x2e84 : Int32) (hke84 : HK) (nxe84 : Nat) (nse84 : Nat) (gie84 : GI) (gre84 : GR) (ade84 : Nat → Nat) (H : Heap) (locs : List Loc) (ls : Array Slot), (x2e84, hke84, nxe84, nse84, gie84, gre84) = E84 → XBA D cA ad hk nx ns cN cS ade84 hke84 nxe84 nse84 A s gie84 gre84 H locs → lv_has ls 4 [(0, .ref (ade84 a0)), (2, .int x2e84), (3, .ref (ade84 nxe0))] → W p l e R s m args below meth c H locs (nxe84 - nx) (nse84 - ns) Q (F0 m 115 ls []) := by
          intro x2e84 hke84 nxe84 nse84 gie84 gre84 ade84 H locs ls he B hL
          subst he
          have h : f_X5_go_x84 cN cS a0 nxe0 x2e84 hke84 nxe84 nse84 gie84 gre84 = some r := h
          unfold f_X5_go_x84 at h
          have ht43 : (hke84 a0).1 = 14 := by rw [(B.2.1 a0 (by rw [ht]; decide)).2]; exact ht
          refine lv_iload_n hx hb dX5_go_115 rfl (lv_at hL 1 rfl) ?_
          refine lv_bipush (v := 8) hx hb dX5_go_116 (by decide) ?_
          refine gg_icmp_le hx hb 122 h dX5_go_118 (by decide) (fun h => ?_) (fun h => ?_)
          · refine lv_aload_n hx hb dX5_go_122 rfl (lv_at hL 0 rfl) ?_
            refine lv_aload_n hx hb dX5_go_123 rfl (lv_at hL 2 rfl) ?_
            refine xx_is h (fun hp44 h => ?_)
            refine k_J6_toString hp44 C B hRr q648 (Nat.le_trans (Nat.le_of_ble_eq_true rfl) hF) (Nat.le_trans (Nat.le_of_ble_eq_true rfl) hN) hL.1 (Nat.le_of_ble_eq_true rfl) h dX5_go_124 (fun q45 ad46 h hae47 H locs B => ?_)
            rw [← (hae47 a0 (by rw [ht43]; decide)).1] at hL
            rw [← (hae47 a0 (by rw [ht43]; decide)).1]
            have hp48 : (q45.2.1 a0).1 = 14 := by rw [(hae47 a0 (by rw [ht43]; decide)).2]; exact ht43
            rw [← (hae47 nxe0 (by rw [hp44]; decide)).1] at hL
            have hp49 : (q45.2.1 nxe0).1 = 24 := by rw [(hae47 nxe0 (by rw [hp44]; decide)).2]; exact hp44
            refine xx_ok h (fun ok51 h => ?_)
            refine xx_pr (ci := 4) (k := 8) C B.1 xc_4 hp48 (by decide) ok51 (Nat.le_of_ble_eq_true rfl) rfl q482 (fun _ h => h) rfl rfl rfl h dX5_go_127 (fun gr50 h H locs B2 => ?_)
            have B := And.intro B2 B.2
            refine lv_aload_n hx hb dX5_go_130 rfl (lv_at hL 0 rfl) ?_
            refine lv_iconst (v := 1) hx hb dX5_go_131 (by decide) ?_
            refine xx_pi (ci := 4) (k := 1) C B.1 xc_4 hp48 (by decide) (Nat.le_of_ble_eq_true rfl) rfl q475 (fun _ h => h) rfl rfl rfl h dX5_go_132 (fun gi52 h H locs B2 => ?_)
            have B := And.intro B2 B.2
            refine lv_goto (tgt := 226) hx hb dX5_go_135 (by decide) ?_
            exact hj226 _ _ _ _ _ _ _ _ _ _ h B (lv_sub hL [0, 1] rfl)
          · exact hret (ade84, hke84, nxe84, nse84, gie84, gre84) _ _ _ _ (Option.some.inj h) B dX5_go_121
        have hl84 : ∀ (k : Nat) (x2l84 : Int32) (hkl84 : HK) (nxl84 : Nat) (nsl84 : Nat) (gil84 : GI) (grl84 : GR) (adl84 : Nat → Nat) (H : Heap) (locs : List Loc) (ls : Array Slot), g_loop k (fun (s : Int32 × HK × Nat × Nat × GI × GR) => f_X5_go_l84 cN cS a0 nxe0 s.1 s.2.1 s.2.2.1 s.2.2.2.1 s.2.2.2.2.1 s.2.2.2.2.2) (x2l84, hkl84, nxl84, nsl84, gil84, grl84) = some E84 → XBA D cA ad hk nx ns cN cS adl84 hkl84 nxl84 nsl84 A s gil84 grl84 H locs → lv_has ls 4 [(0, .ref (adl84 a0)), (2, .int x2l84), (3, .ref (adl84 nxe0))] → W p l e R s m args below meth c H locs (nxl84 - nx) (nsl84 - ns) Q (F0 m 84 ls []) := by
          intro k
          induction k with
          | zero => intro x2l84 hkl84 nxl84 nsl84 gil84 grl84 adl84 H locs ls h; exact absurd h (fun z => g_loop_0 z)
          | succ k ih84 =>
            intro x2l84 hkl84 nxl84 nsl84 gil84 grl84 adl84 H locs ls h B hL
            obtain ⟨Z84, h, h984⟩ := g_loop_s h
            have h : f_X5_go_l84 cN cS a0 nxe0 x2l84 hkl84 nxl84 nsl84 gil84 grl84 = some Z84 := h
            unfold f_X5_go_l84 at h
            have ht34 : (hkl84 a0).1 = 14 := by rw [(B.2.1 a0 (by rw [ht]; decide)).2]; exact ht
            refine lv_aload_n hx hb dX5_go_84 rfl (lv_at hL 0 rfl) ?_
            refine lv_iload_n hx hb dX5_go_85 rfl (lv_at hL 1 rfl) ?_
            refine k_X5_isLetter ht34 C B.1 q520 (Nat.le_trans (Nat.le_of_ble_eq_true rfl) hF) (Nat.le_trans (Nat.le_of_ble_eq_true rfl) hN) hL.1 (Nat.le_of_ble_eq_true rfl) (xa_z hRr B) h dX5_go_86 (fun q35 h H locs B2 => ?_)
            have B := And.intro B2 B.2
            refine gg_if_eq hx hb 115 h dX5_go_89 (by decide) (fun h => ?_) (fun h => ?_)
            · exact kx84 _ _ _ _ _ _ _ _ _ _ (g_exit h h984) B (lv_sub hL [0, 1, 2] rfl)
            · refine lv_iload_n hx hb dX5_go_92 rfl (lv_at hL 1 rfl) ?_
              refine lv_bipush (v := 8) hx hb dX5_go_93 (by decide) ?_
              refine gg_icmp_ge hx hb 109 h dX5_go_95 (by decide) (fun h => ?_) (fun h => ?_)
              · refine lv_iinc (v := x2l84 + 1) (lv' := [(2, .int (x2l84 + 1)), (0, .ref (adl84 a0)), (3, .ref (adl84 nxe0))]) hx hb dX5_go_109 hL (k := 1) rfl rfl (by decide) rfl (fun ls hL => ?_)
                refine lv_goto (tgt := 84) hx hb dX5_go_112 (by decide) ?_
                exact ih84 _ _ _ _ _ _ _ _ _ _ (g_next h h984) B (lv_sub hL [1, 0, 2] rfl)
              · refine lv_aload_n hx hb dX5_go_98 rfl (lv_at hL 2 rfl) ?_
                refine lv_aload_n hx hb dX5_go_99 rfl (lv_at hL 0 rfl) ?_
                refine lv_iload_n hx hb dX5_go_100 rfl (lv_at hL 1 rfl) ?_
                refine k_X5_here ht34 C B.1 q516 (Nat.le_trans (Nat.le_of_ble_eq_true rfl) hF) (Nat.le_trans (Nat.le_of_ble_eq_true rfl) hN) hL.1 (Nat.le_of_ble_eq_true rfl) (xa_z hRr B) h dX5_go_101 (fun q36 h H locs B2 => ?_)
                have B := And.intro B2 B.2
                refine lv_i2c hx hb dX5_go_104 rfl ?_
                refine xx_is h (fun hp37 h => ?_)
                refine k_J6_append hp37 C B hRr q555 (Nat.le_trans (Nat.le_of_ble_eq_true rfl) hF) (Nat.le_trans (Nat.le_of_ble_eq_true rfl) hN) hL.1 (Nat.le_of_ble_eq_true rfl) h dX5_go_105 (fun q38 ad39 h hae40 H locs B => ?_)
                rw [← (hae40 a0 (by rw [ht34]; decide)).1] at hL
                have hp41 : (q38.2.1 a0).1 = 14 := by rw [(hae40 a0 (by rw [ht34]; decide)).2]; exact ht34
                rw [← (hae40 nxe0 (by rw [hp37]; decide)).1] at hL
                have hp42 : (q38.2.1 nxe0).1 = 24 := by rw [(hae40 nxe0 (by rw [hp37]; decide)).2]; exact hp37
                refine lv_pop hx hb dX5_go_108 rfl ?_
                refine lv_iinc (v := x2l84 + 1) (lv' := [(2, .int (x2l84 + 1)), (0, .ref (ad39 a0)), (3, .ref (ad39 nxe0))]) hx hb dX5_go_109 hL (k := 1) rfl rfl (by decide) rfl (fun ls hL => ?_)
                refine lv_goto (tgt := 84) hx hb dX5_go_112 (by decide) ?_
                exact ih84 _ _ _ _ _ _ _ _ _ _ (g_next h h984) B (lv_sub hL [1, 0, 2] rfl)
        exact hl84 g_K _ _ _ _ _ _ _ _ _ _ h884 B (lv_sub hL [3, 1, 0] rfl)
    · refine lv_aload_n hx hb dX5_go_58 rfl (lv_at hL 2 rfl) ?_
      refine lv_iconst (v := 0) hx hb dX5_go_59 (by decide) ?_
      refine xx_pi (ci := 4) (k := 1) C B.1 xc_4 ht6 (by decide) (Nat.le_of_ble_eq_true rfl) rfl q475 (fun _ h => h) rfl rfl rfl h dX5_go_60 (fun gi53 h H locs B2 => ?_)
      have B := And.intro B2 B.2
      refine lv_goto (tgt := 226) hx hb dX5_go_63 (by decide) ?_
      exact hj226 _ _ _ _ _ _ _ _ _ _ h B (lv_sub hL [2, 0] rfl)
  have hl0 : ∀ (k : Nat) (hkl0 : HK) (nxl0 : Nat) (nsl0 : Nat) (gil0 : GI) (grl0 : GR) (adl0 : Nat → Nat) (H : Heap) (locs : List Loc) (ls : Array Slot), g_loop k (fun (s : HK × Nat × Nat × GI × GR) => f_X5_go_l0 cN cS a0 s.1 s.2.1 s.2.2.1 s.2.2.2.1 s.2.2.2.2) (hkl0, nxl0, nsl0, gil0, grl0) = some E0 → XBA D cA ad hk nx ns cN cS adl0 hkl0 nxl0 nsl0 A s gil0 grl0 H locs → lv_has ls 4 [(0, .ref (adl0 a0))] → W p l e R s m args below meth c H locs (nxl0 - nx) (nsl0 - ns) Q (F0 m 0 ls []) := by
    intro k
    induction k with
    | zero => intro hkl0 nxl0 nsl0 gil0 grl0 adl0 H locs ls h; exact absurd h (fun z => g_loop_0 z)
    | succ k ih0 =>
      intro hkl0 nxl0 nsl0 gil0 grl0 adl0 H locs ls h B hL
      obtain ⟨Z0, h, h90⟩ := g_loop_s h
      have h : f_X5_go_l0 cN cS a0 hkl0 nxl0 nsl0 gil0 grl0 = some Z0 := h
      unfold f_X5_go_l0 at h
      have hj20 : ∀ (hkj20 : HK) (nxj20 : Nat) (nsj20 : Nat) (gij20 : GI) (grj20 : GR) (adj20 : Nat → Nat) (H : Heap) (locs : List Loc) (ls : Array Slot), f_X5_go_j20 cN cS a0 hkj20 nxj20 nsj20 gij20 grj20 = some Z0 → XBA D cA ad hk nx ns cN cS adj20 hkj20 nxj20 nsj20 A s gij20 grj20 H locs → lv_has ls 4 [(0, .ref (adj20 a0))] → W p l e R s m args below meth c H locs (nxj20 - nx) (nsj20 - ns) Q (F0 m 20 ls []) := by
        intro hkj20 nxj20 nsj20 gij20 grj20 adj20 H locs ls h B hL
        unfold f_X5_go_j20 at h
        have ht3 : (hkj20 a0).1 = 14 := by rw [(B.2.1 a0 (by rw [ht]; decide)).2]; exact ht
        refine lv_aload_n hx hb dX5_go_20 rfl (lv_at hL 0 rfl) ?_
        refine lv_dup hx hb dX5_go_21 rfl ?_
        refine xx_gi (ci := 4) (k := 0) C B.1 xc_4 ht3 (by decide) (Nat.le_of_ble_eq_true rfl) rfl q474 (fun _ h => h) dX5_go_22 ?_
        refine lv_iconst (v := 1) hx hb dX5_go_25 (by decide) ?_
        refine lv_iadd hx hb dX5_go_26 ?_
        refine xx_pi (ci := 4) (k := 0) C B.1 xc_4 ht3 (by decide) (Nat.le_of_ble_eq_true rfl) rfl q474 (fun _ h => h) rfl rfl rfl h dX5_go_27 (fun gi4 h H locs B2 => ?_)
        have B := And.intro B2 B.2
        refine lv_goto (tgt := 0) hx hb dX5_go_30 (by decide) ?_
        exact ih0 _ _ _ _ _ _ _ _ _ (g_next h h90) B (lv_sub hL [0] rfl)
      have ht1 : (hkl0 a0).1 = 14 := by rw [(B.2.1 a0 (by rw [ht]; decide)).2]; exact ht
      refine lv_aload_n hx hb dX5_go_0 rfl (lv_at hL 0 rfl) ?_
      refine lv_iconst (v := 0) hx hb dX5_go_1 (by decide) ?_
      refine k_X5_here ht1 C B.1 q516 (Nat.le_trans (Nat.le_of_ble_eq_true rfl) hF) (Nat.le_trans (Nat.le_of_ble_eq_true rfl) hN) hL.1 (Nat.le_of_ble_eq_true rfl) (xa_z hRr B) h dX5_go_2 (fun q2 h H locs B2 => ?_)
      have B := And.intro B2 B.2
      refine lv_bipush (v := 32) hx hb dX5_go_5 (by decide) ?_
      refine gg_icmp_eq hx hb 20 h dX5_go_7 (by decide) (fun h => ?_) (fun h => ?_)
      · exact hj20 _ _ _ _ _ _ _ _ _ h B (lv_sub hL [0] rfl)
      · refine lv_aload_n hx hb dX5_go_10 rfl (lv_at hL 0 rfl) ?_
        refine lv_iconst (v := 0) hx hb dX5_go_11 (by decide) ?_
        refine k_X5_here ht1 C B.1 q516 (Nat.le_trans (Nat.le_of_ble_eq_true rfl) hF) (Nat.le_trans (Nat.le_of_ble_eq_true rfl) hN) hL.1 (Nat.le_of_ble_eq_true rfl) (xa_z hRr B) h dX5_go_12 (fun q5 h H locs B2 => ?_)
        have B := And.intro B2 B.2
        refine lv_bipush (v := 10) hx hb dX5_go_15 (by decide) ?_
        refine gg_icmp_ne hx hb 33 h dX5_go_17 (by decide) (fun h => ?_) (fun h => ?_)
        · exact kx0 _ _ _ _ _ _ _ _ _ (g_exit h h90) B (lv_sub hL [0] rfl)
        · exact hj20 _ _ _ _ _ _ _ _ _ h B (lv_sub hL [0] rfl)
  exact hl0 g_K _ _ _ _ _ _ _ _ _ h80 B (lv_sub hL [0] rfl)
theorem k_X5_go {p : Program} {l : Launch} {e : Env} {R : Room} {s : State} {m : MethodId} {args : Array Value} {below : List Frame} {meth : Method} {c : Code} {H : Heap} {locs : List Loc} {Q : State → Prop} {pc : Nat} {ls : Array Slot} {rest : List Value} {cc : ByteArray} {nL : Nat} {D : va_G} {cA : Nat → ClassId} {a9 : Nat → Nat} {h9 : HK} {n0 m0 cN cS : Nat} {ad : Nat → Nat} {hk : HK} {nx ns : Nat} {A : Nat → Prop} {gi : GI} {gr : GR} {α : Type} {r : α} {own : String} {idx : Nat} {a0 : Nat} {ff : (HK × Nat × Nat × GI × GR) → Option α} (ht : (hk a0).1 = 14) (C : CallFix p m c cc nL s args lw_all own) (B : XBA D cA a9 h9 n0 m0 cN cS ad hk nx ns A s gi gr H locs) (hRr : R.cells = cN - n0 ∧ R.slots = cS - m0) (hq : Cond.methodLink own idx yX5_go ∈ lw_all) (hF : 8 ≤ R.frames) (hN : 221 ≤ R.locals) (hs : ls.size = nL) (hw : (rest.map fun v => v.category).sum ≤ 8) (h : (g_cc (fun c1 c2 => f_X5_go c1 c2 hk nx ns gi gr a0) (fun q : HK × Nat × Nat × GI × GR => q.2.1) (fun q : HK × Nat × Nat × GI × GR => q.2.2.1) cN cS nx ns).bind ff = some r) (hdg : decode cc pc = .ok (.invokevirtual idx, 3)) (kk : ∀ (q : HK × Nat × Nat × GI × GR) (ad' : Nat → Nat), ff q = some r → (∀ i, (hk i).1 < 1000 → ad' i = ad i ∧ q.1 i = hk i) → ∀ (H' : Heap) (locs' : List Loc), XBA D cA a9 h9 n0 m0 cN cS ad' q.1 q.2.1 q.2.2.1 A s q.2.2.2.1 q.2.2.2.2 H' locs' → W p l e R s m args below meth c H' locs' (q.2.1 - n0) (q.2.2.1 - m0) Q (F0 m (pc + 3) ls (rest))) : W p l e R s m args below meth c H locs (nx - n0) (ns - m0) Q (F0 m pc ls (.ref (ad a0) :: rest)) := by
  obtain ⟨q, h1, h2⟩ := g_ob h
  obtain ⟨h3, c1, c2, c3, c4⟩ := g_cc_of h1
  refine xa_cVV (As := []) (rest := rest) (n := 0) (qn := q.2.1) (qs := q.2.2.1) xc_4 ht (by decide) C B hRr (fun sz => w_X5_go l D cA ad _ _ hk nx ns gi gr a0 ht ⟨c1, c3⟩ q h3 sz) hq q514 qs0 q151 q515 (by decide +kernel) ⟨c1, c2, c3, c4⟩ (fun u hp => ?_) ⟨hF, hN⟩ rfl hs hw hdg (fun u H9 locs9 hp hae B9 => ?_)
  · have hp := hp
    subst hp
    exact ⟨rfl, rfl⟩
  · have hp := hp
    subst hp
    exact kk _ u.1 h2 hae H9 locs9 B9
def f_X7_init (cN cS : Nat) (hk : HK) (nx ns : Nat) (gi : GI) (gr : GR) (a0 : Nat) (a1 : Nat) : Option (HK × Nat × Nat × GI × GR) :=
  (g_ok hk a1).bind fun _ =>
  (g_new cN cS nx ns 0 3 3 hk gi gr).bind fun q2 =>
  (some (g_pr q2.2.2 a0 1 (some nx))).bind fun gr9 =>
  (g_new cN cS (nx + 1) (ns + 3) 0 3 3 q2.1 q2.2.1 gr9).bind fun q10 =>
  (some (g_pr q10.2.2 a0 2 (some (nx + 1)))).bind fun gr17 =>
  (some (g_pi q10.2.1 a0 6 10)).bind fun gi18 =>
  (some (g_pr gr17 a0 0 (some a1))).bind fun gr19 =>
  some (q10.1, (nx + 1) + 1, (ns + 3) + 3, gi18, gr19)
set_option maxHeartbeats 400000 in
theorem w_X7_init (l : Launch) (D : va_G) (cA : Nat → ClassId) (ad : Nat → Nat) (cN cS : Nat) (hk : HK) (nx ns : Nat) (gi : GI) (gr : GR) (a0 : Nat) (a1 : Nat) (ht : (hk a0).1 = 16) (hcap : nx ≤ cN ∧ ns ≤ cS) (r : HK × Nat × Nat × GI × GR) (h : f_X7_init cN cS hk nx ns gi gr a0 a1 = some r) (sz : Nat) : Met l yX7_init (ws_ yX7_init cX7_init 2 (none)) ({ frames := 1, cells := cN - nx, slots := cS - ns, locals := 64 } : Room) (va_Pc [.ref (ad a0), .ref (ad a1)] (XPre D cA ad hk nx gi gr sz)) (va_Qv (fun (u : XU) => u.2 = r) (XPostA D cA ad hk nx sz) (XA ad nx sz)) (cN - nx) (cS - ns) (XA ad nx sz) := by
  refine xa_stV (own := RX7) (P := (fun (u : XU) => u.2 = r)) (by decide +kernel) rfl (Nat.le_of_ble_eq_true rfl) hcap (fun p e s m args below meth c R Q A ls C hmn hF hN hRr B hret hL => ?_) sz
  have hx := C.1
  have hb := C.2.1
  have hL : lv_has ls 2 [(0, .ref (ad a0)), (1, .ref (ad a1))] := hL
  unfold f_X7_init at h
  refine lv_aload_n hx hb dX7_init_0 rfl (lv_at hL 0 rfl) ?_
  refine W.objInit hx hb C.2.2.2.1 (C.2.2.2.2 _ q970) (C.2.2.2.2 _ q179) (C.2.2.2.2 _ q180) rfl (by rw [C.2.2.1]; exact hL.1) rfl dX7_init_1 (Nat.le_trans (Nat.le_of_ble_eq_true rfl) hF) (Nat.le_trans (Nat.le_of_ble_eq_true rfl) hN) ?_
  refine W.eq (g2 := F0 m 4 ls []) rfl ?_
  refine lv_aload_n hx hb dX7_init_4 rfl (lv_at hL 0 rfl) ?_
  refine lv_iconst (v := 3) hx hb dX7_init_5 (by decide) ?_
  refine xx_ok h (fun ok1 h => ?_)
  refine xa_newa (t := 0) (atype := .int) (ty := .int) C B hRr (by decide) rfl rfl (fun _ h => h) rfl q250 (by decide) rfl (Nat.le_of_ble_eq_true rfl) h dX7_init_6 (fun q2 ad3 h hae4 hp5 H B => ?_)
  rw [← (hae4 a0 (by rw [ht]; decide)).1] at hL
  rw [← (hae4 a0 (by rw [ht]; decide)).1]
  have hp7 : (q2.1 a0).1 = 16 := by rw [(hae4 a0 (by rw [ht]; decide)).2]; exact ht
  rw [← (hae4 a1 ok1).1] at hL
  have ok8 : (q2.1 a1).1 < 1000 := by rw [(hae4 a1 ok1).2]; exact ok1
  have hp6 : (q2.1 nx).1 = 0 := by rw [hp5]
  refine xx_prF (ci := 6) (k := 1) C B.1 xc_6 hp7 (by decide) (by rw [hp6]; decide) (Nat.le_of_ble_eq_true rfl) rfl q973 (fun _ h => h) rfl hmn rfl rfl rfl h dX7_init_8 (fun gr9 h H locs B2 => ?_)
  have B := And.intro B2 B.2
  refine lv_aload_n hx hb dX7_init_11 rfl (lv_at hL 0 rfl) ?_
  refine lv_iconst (v := 3) hx hb dX7_init_12 (by decide) ?_
  refine xa_newa (t := 0) (atype := .int) (ty := .int) C B hRr (by decide) rfl rfl (fun _ h => h) rfl q250 (by decide) rfl (Nat.le_of_ble_eq_true rfl) h dX7_init_13 (fun q10 ad11 h hae12 hp13 H B => ?_)
  rw [← (hae12 a0 (by rw [hp7]; decide)).1] at hL
  rw [← (hae12 a0 (by rw [hp7]; decide)).1]
  have hp15 : (q10.1 a0).1 = 16 := by rw [(hae12 a0 (by rw [hp7]; decide)).2]; exact hp7
  rw [← (hae12 a1 ok8).1] at hL
  have ok16 : (q10.1 a1).1 < 1000 := by rw [(hae12 a1 ok8).2]; exact ok8
  have hp14 : (q10.1 (nx + 1)).1 = 0 := by rw [hp13]
  refine xx_prF (ci := 6) (k := 2) C B.1 xc_6 hp15 (by decide) (by rw [hp14]; decide) (Nat.le_of_ble_eq_true rfl) rfl q976 (fun _ h => h) rfl hmn rfl rfl rfl h dX7_init_15 (fun gr17 h H locs B2 => ?_)
  have B := And.intro B2 B.2
  refine lv_aload_n hx hb dX7_init_18 rfl (lv_at hL 0 rfl) ?_
  refine lv_bipush (v := 10) hx hb dX7_init_19 (by decide) ?_
  refine xx_pi (ci := 6) (k := 6) C B.1 xc_6 hp15 (by decide) (Nat.le_of_ble_eq_true rfl) rfl q984 (fun _ h => h) rfl rfl rfl h dX7_init_21 (fun gi18 h H locs B2 => ?_)
  have B := And.intro B2 B.2
  refine lv_aload_n hx hb dX7_init_24 rfl (lv_at hL 0 rfl) ?_
  refine lv_aload_n hx hb dX7_init_25 rfl (lv_at hL 1 rfl) ?_
  refine xx_prF (ci := 6) (k := 0) C B.1 xc_6 hp15 (by decide) ok16 (Nat.le_of_ble_eq_true rfl) rfl q971 (fun _ h => h) rfl hmn rfl rfl rfl h dX7_init_26 (fun gr19 h H locs B2 => ?_)
  have B := And.intro B2 B.2
  exact hret (ad11, q10.1, (nx + 1) + 1, (ns + 3) + 3, gi18, gr19) _ _ _ _ (Option.some.inj h) B dX7_init_29
theorem k_X7_init {p : Program} {l : Launch} {e : Env} {R : Room} {s : State} {m : MethodId} {args : Array Value} {below : List Frame} {meth : Method} {c : Code} {H : Heap} {locs : List Loc} {Q : State → Prop} {pc : Nat} {ls : Array Slot} {rest : List Value} {cc : ByteArray} {nL : Nat} {D : va_G} {cA : Nat → ClassId} {a9 : Nat → Nat} {h9 : HK} {n0 m0 cN cS : Nat} {ad : Nat → Nat} {hk : HK} {nx ns : Nat} {A : Nat → Prop} {gi : GI} {gr : GR} {α : Type} {r : α} {own : String} {idx : Nat} {a0 : Nat} {a1 : Nat} {ff : (HK × Nat × Nat × GI × GR) → Option α} (ht : (hk a0).1 = 16) (C : CallFix p m c cc nL s args lw_all own) (B : XBA D cA a9 h9 n0 m0 cN cS ad hk nx ns A s gi gr H locs) (hRr : R.cells = cN - n0 ∧ R.slots = cS - m0) (hq : Cond.methodLink own idx yX7_init ∈ lw_all) (hF : 2 ≤ R.frames) (hN : 85 ≤ R.locals) (hs : ls.size = nL) (hw : (rest.map fun v => v.category).sum ≤ 8) (h : (g_cc (fun c1 c2 => f_X7_init c1 c2 hk nx ns gi gr a0 a1) (fun q : HK × Nat × Nat × GI × GR => q.2.1) (fun q : HK × Nat × Nat × GI × GR => q.2.2.1) cN cS nx ns).bind ff = some r) (hdg : decode cc pc = .ok (.invokespecial idx, 3)) (kk : ∀ (q : HK × Nat × Nat × GI × GR) (ad' : Nat → Nat), ff q = some r → (∀ i, (hk i).1 < 1000 → ad' i = ad i ∧ q.1 i = hk i) → ∀ (H' : Heap) (locs' : List Loc), XBA D cA a9 h9 n0 m0 cN cS ad' q.1 q.2.1 q.2.2.1 A s q.2.2.2.1 q.2.2.2.2 H' locs' → W p l e R s m args below meth c H' locs' (q.2.1 - n0) (q.2.2.1 - m0) Q (F0 m (pc + 3) ls (rest))) : W p l e R s m args below meth c H locs (nx - n0) (ns - m0) Q (F0 m pc ls (.ref (ad a1) :: .ref (ad a0) :: rest)) := by
  obtain ⟨q, h1, h2⟩ := g_ob h
  obtain ⟨h3, c1, c2, c3, c4⟩ := g_cc_of h1
  refine xa_cIV (As := [.ref (ad a1)]) (rest := rest) (n := 1) (qn := q.2.1) (qs := q.2.2.1) (b := a0) C B hRr (fun sz => w_X7_init l D cA ad _ _ hk nx ns gi gr a0 a1 ht ⟨c1, c3⟩ q h3 sz) hq q968 q164 q969 rfl (by decide +kernel) ⟨c1, c2, c3, c4⟩ (fun u hp => ?_) ⟨hF, hN⟩ rfl hs hw hdg (fun u H9 locs9 hp hae B9 => ?_)
  · have hp := hp
    subst hp
    exact ⟨rfl, rfl⟩
  · have hp := hp
    subst hp
    exact kk _ u.1 h2 hae H9 locs9 B9
def f_X8_init (cN cS : Nat) (hk : HK) (nx ns : Nat) (gi : GI) (gr : GR) (a0 : Nat) (x1 : Int32) (x2 : Int32) (x3 : Int32) (x4 : Int32) : Option (HK × Nat × Nat × GI × GR) :=
  (some (g_pi gi a0 0 x1)).bind fun gi1 =>
  (some (g_pi gi1 a0 1 x2)).bind fun gi2 =>
  (some (g_pi gi2 a0 2 x3)).bind fun gi3 =>
  (some (g_pi gi3 a0 3 x4)).bind fun gi4 =>
  some (hk, nx, ns, gi4, gr)
set_option maxHeartbeats 400000 in
theorem w_X8_init (l : Launch) (D : va_G) (cA : Nat → ClassId) (ad : Nat → Nat) (cN cS : Nat) (hk : HK) (nx ns : Nat) (gi : GI) (gr : GR) (a0 : Nat) (x1 : Int32) (x2 : Int32) (x3 : Int32) (x4 : Int32) (ht : (hk a0).1 = 17) (hcap : nx ≤ cN ∧ ns ≤ cS) (r : HK × Nat × Nat × GI × GR) (h : f_X8_init cN cS hk nx ns gi gr a0 x1 x2 x3 x4 = some r) (sz : Nat) : Met l yX8_init (ws_ yX8_init cX8_init 5 (none)) ({ frames := 1, cells := cN - nx, slots := cS - ns, locals := 64 } : Room) (va_Pc [.ref (ad a0), .int x1, .int x2, .int x3, .int x4] (XPre D cA ad hk nx gi gr sz)) (va_Qv (fun (u : XU) => u.2 = r) (XPostA D cA ad hk nx sz) (XA ad nx sz)) (cN - nx) (cS - ns) (XA ad nx sz) := by
  refine xa_stV (own := RX8) (P := (fun (u : XU) => u.2 = r)) (by decide +kernel) rfl (Nat.le_of_ble_eq_true rfl) hcap (fun p e s m args below meth c R Q A ls C hmn hF hN hRr B hret hL => ?_) sz
  have hx := C.1
  have hb := C.2.1
  have hL : lv_has ls 5 [(0, .ref (ad a0)), (1, .int x1), (2, .int x2), (3, .int x3), (4, .int x4)] := hL
  unfold f_X8_init at h
  refine lv_aload_n hx hb dX8_init_0 rfl (lv_at hL 0 rfl) ?_
  refine W.objInit hx hb C.2.2.2.1 (C.2.2.2.2 _ q1112) (C.2.2.2.2 _ q179) (C.2.2.2.2 _ q180) rfl (by rw [C.2.2.1]; exact hL.1) rfl dX8_init_1 (Nat.le_trans (Nat.le_of_ble_eq_true rfl) hF) (Nat.le_trans (Nat.le_of_ble_eq_true rfl) hN) ?_
  refine W.eq (g2 := F0 m 4 ls []) rfl ?_
  refine lv_aload_n hx hb dX8_init_4 rfl (lv_at hL 0 rfl) ?_
  refine lv_iload_n hx hb dX8_init_5 rfl (lv_at hL 1 rfl) ?_
  refine xx_piF (ci := 7) (k := 0) C B.1 xc_7 ht (by decide) (Nat.le_of_ble_eq_true rfl) rfl q1113 (fun _ h => h) rfl hmn rfl rfl rfl h dX8_init_6 (fun gi1 h H locs B2 => ?_)
  have B := And.intro B2 B.2
  refine lv_aload_n hx hb dX8_init_9 rfl (lv_at hL 0 rfl) ?_
  refine lv_iload_n hx hb dX8_init_10 rfl (lv_at hL 2 rfl) ?_
  refine xx_piF (ci := 7) (k := 1) C B.1 xc_7 ht (by decide) (Nat.le_of_ble_eq_true rfl) rfl q1115 (fun _ h => h) rfl hmn rfl rfl rfl h dX8_init_11 (fun gi2 h H locs B2 => ?_)
  have B := And.intro B2 B.2
  refine lv_aload_n hx hb dX8_init_14 rfl (lv_at hL 0 rfl) ?_
  refine lv_iload_n hx hb dX8_init_15 rfl (lv_at hL 3 rfl) ?_
  refine xx_piF (ci := 7) (k := 2) C B.1 xc_7 ht (by decide) (Nat.le_of_ble_eq_true rfl) rfl q1117 (fun _ h => h) rfl hmn rfl rfl rfl h dX8_init_16 (fun gi3 h H locs B2 => ?_)
  have B := And.intro B2 B.2
  refine lv_aload_n hx hb dX8_init_19 rfl (lv_at hL 0 rfl) ?_
  refine lv_iload hx hb dX8_init_20 (lv_at hL 4 rfl) ?_
  refine xx_piF (ci := 7) (k := 3) C B.1 xc_7 ht (by decide) (Nat.le_of_ble_eq_true rfl) rfl q1119 (fun _ h => h) rfl hmn rfl rfl rfl h dX8_init_22 (fun gi4 h H locs B2 => ?_)
  have B := And.intro B2 B.2
  exact hret (ad, hk, nx, ns, gi4, gr) _ _ _ _ (Option.some.inj h) B dX8_init_25
theorem k_X8_init {p : Program} {l : Launch} {e : Env} {R : Room} {s : State} {m : MethodId} {args : Array Value} {below : List Frame} {meth : Method} {c : Code} {H : Heap} {locs : List Loc} {Q : State → Prop} {pc : Nat} {ls : Array Slot} {rest : List Value} {cc : ByteArray} {nL : Nat} {D : va_G} {cA : Nat → ClassId} {a9 : Nat → Nat} {h9 : HK} {n0 m0 cN cS : Nat} {ad : Nat → Nat} {hk : HK} {nx ns : Nat} {A : Nat → Prop} {gi : GI} {gr : GR} {α : Type} {r : α} {own : String} {idx : Nat} {a0 : Nat} {x1 : Int32} {x2 : Int32} {x3 : Int32} {x4 : Int32} {ff : (HK × Nat × Nat × GI × GR) → Option α} (ht : (hk a0).1 = 17) (C : CallFix p m c cc nL s args lw_all own) (B : XBA D cA a9 h9 n0 m0 cN cS ad hk nx ns A s gi gr H locs) (hRr : R.cells = cN - n0 ∧ R.slots = cS - m0) (hq : Cond.methodLink own idx yX8_init ∈ lw_all) (hF : 2 ≤ R.frames) (hN : 88 ≤ R.locals) (hs : ls.size = nL) (hw : (rest.map fun v => v.category).sum ≤ 8) (h : (g_cc (fun c1 c2 => f_X8_init c1 c2 hk nx ns gi gr a0 x1 x2 x3 x4) (fun q : HK × Nat × Nat × GI × GR => q.2.1) (fun q : HK × Nat × Nat × GI × GR => q.2.2.1) cN cS nx ns).bind ff = some r) (hdg : decode cc pc = .ok (.invokespecial idx, 3)) (kk : ∀ (q : HK × Nat × Nat × GI × GR) (ad' : Nat → Nat), ff q = some r → (∀ i, (hk i).1 < 1000 → ad' i = ad i ∧ q.1 i = hk i) → ∀ (H' : Heap) (locs' : List Loc), XBA D cA a9 h9 n0 m0 cN cS ad' q.1 q.2.1 q.2.2.1 A s q.2.2.2.1 q.2.2.2.2 H' locs' → W p l e R s m args below meth c H' locs' (q.2.1 - n0) (q.2.2.1 - m0) Q (F0 m (pc + 3) ls (rest))) : W p l e R s m args below meth c H locs (nx - n0) (ns - m0) Q (F0 m pc ls (.int x4 :: .int x3 :: .int x2 :: .int x1 :: .ref (ad a0) :: rest)) := by
  obtain ⟨q, h1, h2⟩ := g_ob h
  obtain ⟨h3, c1, c2, c3, c4⟩ := g_cc_of h1
  refine xa_cIV (As := [.int x1, .int x2, .int x3, .int x4]) (rest := rest) (n := 4) (qn := q.2.1) (qs := q.2.2.1) (b := a0) C B hRr (fun sz => w_X8_init l D cA ad _ _ hk nx ns gi gr a0 x1 x2 x3 x4 ht ⟨c1, c3⟩ q h3 sz) hq q1110 q166 q1111 rfl (by decide +kernel) ⟨c1, c2, c3, c4⟩ (fun u hp => ?_) ⟨hF, hN⟩ rfl hs hw hdg (fun u H9 locs9 hp hae B9 => ?_)
  · have hp := hp
    subst hp
    exact ⟨rfl, rfl⟩
  · have hp := hp
    subst hp
    exact kk _ u.1 h2 hae H9 locs9 B9
def f_X9_init (cN cS : Nat) (hk : HK) (nx ns : Nat) (gi : GI) (gr : GR) (a0 : Nat) (a1 : Nat) : Option (HK × Nat × Nat × GI × GR) :=
  (g_ok hk a1).bind fun _ =>
  (some (g_pr gr a0 0 (some a1))).bind fun gr1 =>
  some (hk, nx, ns, gi, gr1)
set_option maxHeartbeats 400000 in
theorem w_X9_init (l : Launch) (D : va_G) (cA : Nat → ClassId) (ad : Nat → Nat) (cN cS : Nat) (hk : HK) (nx ns : Nat) (gi : GI) (gr : GR) (a0 : Nat) (a1 : Nat) (ht : (hk a0).1 = 18) (hcap : nx ≤ cN ∧ ns ≤ cS) (r : HK × Nat × Nat × GI × GR) (h : f_X9_init cN cS hk nx ns gi gr a0 a1 = some r) (sz : Nat) : Met l yX9_init (ws_ yX9_init cX9_init 2 (none)) ({ frames := 1, cells := cN - nx, slots := cS - ns, locals := 64 } : Room) (va_Pc [.ref (ad a0), .ref (ad a1)] (XPre D cA ad hk nx gi gr sz)) (va_Qv (fun (u : XU) => u.2 = r) (XPostA D cA ad hk nx sz) (XA ad nx sz)) (cN - nx) (cS - ns) (XA ad nx sz) := by
  refine xa_stV (own := RX9) (P := (fun (u : XU) => u.2 = r)) (by decide +kernel) rfl (Nat.le_of_ble_eq_true rfl) hcap (fun p e s m args below meth c R Q A ls C hmn hF hN hRr B hret hL => ?_) sz
  have hx := C.1
  have hb := C.2.1
  have hL : lv_has ls 2 [(0, .ref (ad a0)), (1, .ref (ad a1))] := hL
  unfold f_X9_init at h
  refine lv_aload_n hx hb dX9_init_0 rfl (lv_at hL 0 rfl) ?_
  refine W.objInit hx hb C.2.2.2.1 (C.2.2.2.2 _ q1159) (C.2.2.2.2 _ q179) (C.2.2.2.2 _ q180) rfl (by rw [C.2.2.1]; exact hL.1) rfl dX9_init_1 (Nat.le_trans (Nat.le_of_ble_eq_true rfl) hF) (Nat.le_trans (Nat.le_of_ble_eq_true rfl) hN) ?_
  refine W.eq (g2 := F0 m 4 ls []) rfl ?_
  refine lv_aload_n hx hb dX9_init_4 rfl (lv_at hL 0 rfl) ?_
  refine lv_aload_n hx hb dX9_init_5 rfl (lv_at hL 1 rfl) ?_
  refine xx_ok h (fun ok2 h => ?_)
  refine xx_prF (ci := 8) (k := 0) C B.1 xc_8 ht (by decide) ok2 (Nat.le_of_ble_eq_true rfl) rfl q1160 (fun _ h => h) rfl hmn rfl rfl rfl h dX9_init_6 (fun gr1 h H locs B2 => ?_)
  have B := And.intro B2 B.2
  exact hret (ad, hk, nx, ns, gi, gr1) _ _ _ _ (Option.some.inj h) B dX9_init_9
theorem k_X9_init {p : Program} {l : Launch} {e : Env} {R : Room} {s : State} {m : MethodId} {args : Array Value} {below : List Frame} {meth : Method} {c : Code} {H : Heap} {locs : List Loc} {Q : State → Prop} {pc : Nat} {ls : Array Slot} {rest : List Value} {cc : ByteArray} {nL : Nat} {D : va_G} {cA : Nat → ClassId} {a9 : Nat → Nat} {h9 : HK} {n0 m0 cN cS : Nat} {ad : Nat → Nat} {hk : HK} {nx ns : Nat} {A : Nat → Prop} {gi : GI} {gr : GR} {α : Type} {r : α} {own : String} {idx : Nat} {a0 : Nat} {a1 : Nat} {ff : (HK × Nat × Nat × GI × GR) → Option α} (ht : (hk a0).1 = 18) (C : CallFix p m c cc nL s args lw_all own) (B : XBA D cA a9 h9 n0 m0 cN cS ad hk nx ns A s gi gr H locs) (hRr : R.cells = cN - n0 ∧ R.slots = cS - m0) (hq : Cond.methodLink own idx yX9_init ∈ lw_all) (hF : 2 ≤ R.frames) (hN : 85 ≤ R.locals) (hs : ls.size = nL) (hw : (rest.map fun v => v.category).sum ≤ 8) (h : (g_cc (fun c1 c2 => f_X9_init c1 c2 hk nx ns gi gr a0 a1) (fun q : HK × Nat × Nat × GI × GR => q.2.1) (fun q : HK × Nat × Nat × GI × GR => q.2.2.1) cN cS nx ns).bind ff = some r) (hdg : decode cc pc = .ok (.invokespecial idx, 3)) (kk : ∀ (q : HK × Nat × Nat × GI × GR) (ad' : Nat → Nat), ff q = some r → (∀ i, (hk i).1 < 1000 → ad' i = ad i ∧ q.1 i = hk i) → ∀ (H' : Heap) (locs' : List Loc), XBA D cA a9 h9 n0 m0 cN cS ad' q.1 q.2.1 q.2.2.1 A s q.2.2.2.1 q.2.2.2.2 H' locs' → W p l e R s m args below meth c H' locs' (q.2.1 - n0) (q.2.2.1 - m0) Q (F0 m (pc + 3) ls (rest))) : W p l e R s m args below meth c H locs (nx - n0) (ns - m0) Q (F0 m pc ls (.ref (ad a1) :: .ref (ad a0) :: rest)) := by
  obtain ⟨q, h1, h2⟩ := g_ob h
  obtain ⟨h3, c1, c2, c3, c4⟩ := g_cc_of h1
  refine xa_cIV (As := [.ref (ad a1)]) (rest := rest) (n := 1) (qn := q.2.1) (qs := q.2.2.1) (b := a0) C B hRr (fun sz => w_X9_init l D cA ad _ _ hk nx ns gi gr a0 a1 ht ⟨c1, c3⟩ q h3 sz) hq q1157 q167 q1158 rfl (by decide +kernel) ⟨c1, c2, c3, c4⟩ (fun u hp => ?_) ⟨hF, hN⟩ rfl hs hw hdg (fun u H9 locs9 hp hae B9 => ?_)
  · have hp := hp
    subst hp
    exact ⟨rfl, rfl⟩
  · have hp := hp
    subst hp
    exact kk _ u.1 h2 hae H9 locs9 B9

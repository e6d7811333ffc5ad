/-! THE READER: methods that make cells -/
set_option maxRecDepth 100000
theorem g_elr {A B C : Type} {f : A → Option C} {g : B → Option C} {q : B} {r : C} (h : Sum.elim f g (Sum.inr q) = some r) : g q = some r := h
def f_X5_init (cN cS : Nat) (hk : HK) (nx ns : Nat) (gi : GI) (gr : GR) (a0 : Nat) (a1 : Nat) : Option (HK × Nat × Nat × GI × GR) :=
  (g_ok hk a1).bind fun _ =>
  (some (g_pr gr a0 10 (some a1))).bind fun gr1 =>
  (g_ok hk (1000100 + 0)).bind fun _ =>
  (some (g_pr gr1 a0 8 (some (1000100 + 0)))).bind fun gr3 =>
  (g_new cN cS nx ns 11 0 10 hk gi gr3).bind fun q5 =>
  (g_cc (fun c1 c2 => f_X1_init c1 c2 q5.1 (nx + 1) (ns + 10) q5.2.1 q5.2.2 nx) (fun q : HK × Nat × Nat × GI × GR => q.2.1) (fun q : HK × Nat × Nat × GI × GR => q.2.2.1) cN cS (nx + 1) (ns + 10)).bind fun q11 =>
  (some (g_pr q11.2.2.2.2 a0 9 (some nx))).bind fun gr17 =>
  some (q11.1, q11.2.1, q11.2.2.1, q11.2.2.2.1, gr17)
set_option maxHeartbeats 400000 in
theorem w_X5_init (l : Launch) (D : va_G) (cA : Nat → ClassId) (ad : Nat → Nat) (cN cS : Nat) (hk : HK) (nx ns : Nat) (gi : GI) (gr : GR) (a0 : Nat) (a1 : Nat) (ht : (hk a0).1 = 14) (hcap : nx ≤ cN ∧ ns ≤ cS) (r : HK × Nat × Nat × GI × GR) (h : f_X5_init cN cS hk nx ns gi gr a0 a1 = some r) (sz : Nat) : Met l yX5_init (ws_ yX5_init cX5_init 2 (none)) ({ frames := 5, cells := cN - nx, slots := cS - ns, locals := 145 } : Room) (va_Pc [.ref (ad a0), .ref (ad a1)] (XPre D cA ad hk nx gi gr sz)) (va_Qv (fun (u : XU) => u.2 = r) (XPostA D cA ad hk nx sz) (XA ad nx sz)) (cN - nx) (cS - ns) (XA ad nx sz) := by
  refine xa_stV (own := RX5) (P := (fun (u : XU) => u.2 = r)) (by decide +kernel) rfl (Nat.le_of_ble_eq_true rfl) hcap (fun p e s m args below meth c R Q A ls C hmn hF hN hRr B hret hL => ?_) sz
  have hx := C.1
  have hb := C.2.1
  have hL : lv_has ls 2 [(0, .ref (ad a0)), (1, .ref (ad a1))] := hL
  unfold f_X5_init at h
  refine lv_aload_n hx hb dX5_init_0 rfl (lv_at hL 0 rfl) ?_
  refine lv_aload_n hx hb dX5_init_1 rfl (lv_at hL 1 rfl) ?_
  refine xx_ok h (fun ok2 h => ?_)
  refine xx_prF (ci := 4) (k := 10) C B.1 xc_4 ht (by decide) ok2 (Nat.le_of_ble_eq_true rfl) rfl q484 (fun _ h => h) rfl hmn rfl rfl rfl h dX5_init_2 (fun gr1 h H locs B2 => ?_)
  have B := And.intro B2 B.2
  refine lv_aload_n hx hb dX5_init_5 rfl (lv_at hL 0 rfl) ?_
  refine W.objInit hx hb C.2.2.2.1 (C.2.2.2.2 _ q470) (C.2.2.2.2 _ q179) (C.2.2.2.2 _ q180) rfl (by rw [C.2.2.1]; exact hL.1) rfl dX5_init_6 (Nat.le_trans (Nat.le_of_ble_eq_true rfl) hF) (Nat.le_trans (Nat.le_of_ble_eq_true rfl) hN) ?_
  refine W.eq (g2 := F0 m 9 ls []) rfl ?_
  refine lv_aload_n hx hb dX5_init_9 rfl (lv_at hL 0 rfl) ?_
  refine xx_ldcS (i := 0) C B.1 (by decide) rfl dX5_init_10 ?_
  refine xx_ok h (fun ok4 h => ?_)
  refine xx_pr (ci := 4) (k := 8) C B.1 xc_4 ht (by decide) ok4 (Nat.le_of_ble_eq_true rfl) rfl q482 (fun _ h => h) rfl rfl rfl h dX5_init_12 (fun gr3 h H locs B2 => ?_)
  have B := And.intro B2 B.2
  refine lv_aload_n hx hb dX5_init_15 rfl (lv_at hL 0 rfl) ?_
  refine xa_new C B hRr xc_1 (by decide) xd_1 q472 q182 q142 h dX5_init_16 (fun q5 ad6 h hae7 hp8 H B => ?_)
  rw [← (hae7 a0 (by rw [ht]; decide)).1] at hL
  rw [← (hae7 a0 (by rw [ht]; decide)).1]
  have hp9 : (q5.1 a0).1 = 14 := by rw [(hae7 a0 (by rw [ht]; decide)).2]; exact ht
  rw [← (hae7 a1 ok2).1] at hL
  have ok10 : (q5.1 a1).1 < 1000 := by rw [(hae7 a1 ok2).2]; exact ok2
  refine lv_dup hx hb dX5_init_19 rfl ?_
  refine kn_X1_init hp8 C B hRr nw_q473 (Nat.le_trans (Nat.le_of_ble_eq_true rfl) hF) (Nat.le_trans (Nat.le_of_ble_eq_true rfl) hN) hL.1 (Nat.le_of_ble_eq_true rfl) h dX5_init_20 (fun q11 ad12 h hae13 H locs B => ?_)
  rw [← (hae13 a0 (by rw [hp9]; decide)).1] at hL
  rw [← (hae13 a0 (by rw [hp9]; decide)).1]
  have hp14 : (q11.1 a0).1 = 14 := by rw [(hae13 a0 (by rw [hp9]; decide)).2]; exact hp9
  rw [← (hae13 a1 ok10).1] at hL
  have ok15 : (q11.1 a1).1 < 1000 := by rw [(hae13 a1 ok10).2]; exact ok10
  rw [← (hae13 nx (by rw [hp8]; decide)).1]
  have hp16 : (q11.1 nx).1 = 11 := by rw [(hae13 nx (by rw [hp8]; decide)).2]; exact hp8
  refine xx_prF (ci := 4) (k := 9) C B.1 xc_4 hp14 (by decide) (by rw [hp16]; decide) (Nat.le_of_ble_eq_true rfl) rfl q483 (fun _ h => h) rfl hmn rfl rfl rfl h dX5_init_23 (fun gr17 h H locs B2 => ?_)
  have B := And.intro B2 B.2
  exact hret (ad12, q11.1, q11.2.1, q11.2.2.1, q11.2.2.2.1, gr17) _ _ _ _ (Option.some.inj h) B dX5_init_26
theorem kn_X5_init {p : Program} {l : Launch} {e : Env} {R : Room} {s : State} {m : MethodId} {args : Array Value} {below : List Frame} {meth : Method} {c : Code} {H : Heap} {locs : List Loc} {Q : State → Prop} {pc : Nat} {ls : Array Slot} {rest : List Value} {cc : ByteArray} {nL : Nat} {D : va_G} {cA : Nat → ClassId} {a9 : Nat → Nat} {h9 : HK} {n0 m0 cN cS : Nat} {ad : Nat → Nat} {hk : HK} {nx ns : Nat} {A : Nat → Prop} {gi : GI} {gr : GR} {α : Type} {r : α} {own : String} {idx : Nat} {a0 : Nat} {a1 : Nat} {ff : (HK × Nat × Nat × GI × GR) → Option α} (ht : (hk a0).1 = 14) (C : CallFix p m c cc nL s args lw_all own) (B : XBA D cA a9 h9 n0 m0 cN cS ad hk nx ns A s gi gr H locs) (hRr : R.cells = cN - n0 ∧ R.slots = cS - m0) (hq : Cond.methodLinkNest own idx yX5_init "WeatherWages" ∈ nwX) (hF : 6 ≤ R.frames) (hN : 166 ≤ R.locals) (hs : ls.size = nL) (hw : (rest.map fun v => v.category).sum ≤ 8) (h : (g_cc (fun c1 c2 => f_X5_init c1 c2 hk nx ns gi gr a0 a1) (fun q : HK × Nat × Nat × GI × GR => q.2.1) (fun q : HK × Nat × Nat × GI × GR => q.2.2.1) cN cS nx ns).bind ff = some r) (hdg : decode cc pc = .ok (.invokespecial idx, 3)) (kk : ∀ (q : HK × Nat × Nat × GI × GR) (ad' : Nat → Nat), ff q = some r → (∀ i, (hk i).1 < 1000 → ad' i = ad i ∧ q.1 i = hk i) → ∀ (H' : Heap) (locs' : List Loc), XBA D cA a9 h9 n0 m0 cN cS ad' q.1 q.2.1 q.2.2.1 A s q.2.2.2.1 q.2.2.2.2 H' locs' → W p l e R s m args below meth c H' locs' (q.2.1 - n0) (q.2.2.1 - m0) Q (F0 m (pc + 3) ls (rest))) : W p l e R s m args below meth c H locs (nx - n0) (ns - m0) Q (F0 m pc ls (.ref (ad a1) :: .ref (ad a0) :: rest)) := by
  obtain ⟨q, h1, h2⟩ := g_ob h
  obtain ⟨h3, c1, c2, c3, c4⟩ := g_cc_of h1
  refine xa_cINV (As := [.ref (ad a1)]) (rest := rest) (n := 1) (qn := q.2.1) (qs := q.2.2.1) (b := a0) C B hRr (fun sz => w_X5_init l D cA ad _ _ hk nx ns gi gr a0 a1 ht ⟨c1, c3⟩ q h3 sz) hq q468 q151 q469 rfl (by decide +kernel) ⟨c1, c2, c3, c4⟩ (fun u hp => ?_) ⟨hF, hN⟩ rfl hs hw hdg (fun u H9 locs9 hp hae B9 => ?_)
  · have hp := hp
    subst hp
    exact ⟨rfl, rfl⟩
  · have hp := hp
    subst hp
    exact kk _ u.1 h2 hae H9 locs9 B9
def f_X5_wrong_j17 (cN cS : Nat) (a0 : Nat) (hkj17 : HK) (nxj17 : Nat) (nsj17 : Nat) (gij17 : GI) (grj17 : GR) (t0j17 : Int32) (t1j17 : Nat) (t2j17 : Nat) : Option (Nat × HK × Nat × Nat × GI × GR) :=
  (g_is hkj17 t1j17 15).bind fun _ =>
  (g_ok hkj17 t2j17).bind fun _ =>
  (g_cc (fun c1 c2 => f_X6_init c1 c2 hkj17 nxj17 nsj17 gij17 grj17 t1j17 t0j17 (gij17 a0 2)) (fun q : HK × Nat × Nat × GI × GR => q.2.1) (fun q : HK × Nat × Nat × GI × GR => q.2.2.1) cN cS nxj17 nsj17).bind fun q9 =>
  some (t2j17, q9.1, q9.2.1, q9.2.2.1, q9.2.2.2.1, q9.2.2.2.2)
def f_X5_wrong (cN cS : Nat) (hk : HK) (nx ns : Nat) (gi : GI) (gr : GR) (a0 : Nat) : Option (Nat × HK × Nat × Nat × GI × GR) :=
  (g_new cN cS nx ns 15 0 8 hk gi gr).bind fun q1 =>
  if (q1.2.1 a0 1) = 3 then
  (f_X5_wrong_j17 cN cS a0 q1.1 (nx + 1) (ns + 8) q1.2.1 q1.2.2 1 nx nx)
  else
  (f_X5_wrong_j17 cN cS a0 q1.1 (nx + 1) (ns + 8) q1.2.1 q1.2.2 2 nx nx)
set_option maxHeartbeats 400000 in
theorem w_X5_wrong (l : Launch) (D : va_G) (cA : Nat → ClassId) (ad : Nat → Nat) (cN cS : Nat) (hk : HK) (nx ns : Nat) (gi : GI) (gr : GR) (a0 : Nat) (ht : (hk a0).1 = 14) (hcap : nx ≤ cN ∧ ns ≤ cS) (r : Nat × HK × Nat × Nat × GI × GR) (h : f_X5_wrong cN cS hk nx ns gi gr a0 = some r) (sz : Nat) : Met l yX5_wrong (ws_ yX5_wrong cX5_wrong 1 (some (.object "WeatherWages$Wrong"))) ({ frames := 4, cells := cN - nx, slots := cS - ns, locals := 134 } : Room) (va_Pc [.ref (ad a0)] (XPre D cA ad hk nx gi gr sz)) (va_Qq (fun o u => ∃ v : Option Nat, o = v.map u.1 ∧ (fun (v : Option Nat) (u : XU) => ∃ v9, v = some v9 ∧ (v9, u.2) = r) v u) (XPostA D cA ad hk nx sz) (XA ad nx sz)) (cN - nx) (cS - ns) (XA ad nx sz) := by
  refine xa_stR (Or.inl ⟨_, rfl⟩) (own := RX5) (P := (fun (v : Option Nat) (u : XU) => ∃ v9, v = some v9 ∧ (v9, u.2) = r)) (by decide +kernel) rfl (Nat.le_of_ble_eq_true rfl) hcap (fun p e s m args below meth c R Q A ls C hmn hF hN hRr B hret hL => ?_) sz
  have hx := C.1
  have hb := C.2.1
  have hL : lv_has ls 1 [(0, .ref (ad a0))] := hL
  unfold f_X5_wrong at h
  have hj17 : ∀ (hkj17 : HK) (nxj17 : Nat) (nsj17 : Nat) (gij17 : GI) (grj17 : GR) (t0j17 : Int32) (t1j17 : Nat) (t2j17 : Nat) (adj17 : Nat → Nat) (H : Heap) (locs : List Loc) (ls : Array Slot), f_X5_wrong_j17 cN cS a0 hkj17 nxj17 nsj17 gij17 grj17 t0j17 t1j17 t2j17 = some r → XBA D cA ad hk nx ns cN cS adj17 hkj17 nxj17 nsj17 A s gij17 grj17 H locs → lv_has ls 1 [(0, .ref (adj17 a0))] → W p l e R s m args below meth c H locs (nxj17 - nx) (nsj17 - ns) Q (F0 m 17 ls [.int t0j17, .ref (adj17 t1j17), .ref (adj17 t2j17)]) := by
    intro hkj17 nxj17 nsj17 gij17 grj17 t0j17 t1j17 t2j17 adj17 H locs ls h B hL
    unfold f_X5_wrong_j17 at h
    have ht6 : (hkj17 a0).1 = 14 := by rw [(B.2.1 a0 (by rw [ht]; decide)).2]; exact ht
    refine lv_aload_n hx hb dX5_wrong_17 rfl (lv_at hL 0 rfl) ?_
    refine xx_gi (ci := 4) (k := 2) C B.1 xc_4 ht6 (by decide) (Nat.le_of_ble_eq_true rfl) rfl q476 (fun _ h => h) dX5_wrong_18 ?_
    refine xx_is h (fun hp7 h => ?_)
    refine xx_ok h (fun ok8 h => ?_)
    refine k_X6_init hp7 C B hRr q870 (Nat.le_trans (Nat.le_of_ble_eq_true rfl) hF) (Nat.le_trans (Nat.le_of_ble_eq_true rfl) hN) hL.1 (Nat.le_of_ble_eq_true rfl) h dX5_wrong_21 (fun q9 ad10 h hae11 H locs B => ?_)
    rw [← (hae11 a0 (by rw [ht6]; decide)).1] at hL
    have hp12 : (q9.1 a0).1 = 14 := by rw [(hae11 a0 (by rw [ht6]; decide)).2]; exact ht6
    rw [← (hae11 t2j17 ok8).1]
    have ok13 : (q9.1 t2j17).1 < 1000 := by rw [(hae11 t2j17 ok8).2]; exact ok8
    exact hret (some t2j17) (ad10, q9.1, q9.2.1, q9.2.2.1, q9.2.2.2.1, q9.2.2.2.2) _ _ _ _ ⟨_, rfl, Option.some.inj h⟩ B dX5_wrong_24
  refine xa_new C B hRr xc_5 (by decide) xd_5 q833 q834 q163 h dX5_wrong_0 (fun q1 ad2 h hae3 hp4 H B => ?_)
  rw [← (hae3 a0 (by rw [ht]; decide)).1] at hL
  have hp5 : (q1.1 a0).1 = 14 := by rw [(hae3 a0 (by rw [ht]; decide)).2]; exact ht
  refine lv_dup hx hb dX5_wrong_3 rfl ?_
  refine lv_aload_n hx hb dX5_wrong_4 rfl (lv_at hL 0 rfl) ?_
  refine xx_gi (ci := 4) (k := 1) C B.1 xc_4 hp5 (by decide) (Nat.le_of_ble_eq_true rfl) rfl q475 (fun _ h => h) dX5_wrong_5 ?_
  refine lv_iconst (v := 3) hx hb dX5_wrong_8 (by decide) ?_
  refine gg_icmp_ne hx hb 16 h dX5_wrong_9 (by decide) (fun h => ?_) (fun h => ?_)
  · refine lv_iconst (v := 2) hx hb dX5_wrong_16 (by decide) ?_
    exact hj17 _ _ _ _ _ _ _ _ _ _ _ _ h B (lv_sub hL [0] rfl)
  · refine lv_iconst (v := 1) hx hb dX5_wrong_12 (by decide) ?_
    refine lv_goto (tgt := 17) hx hb dX5_wrong_13 (by decide) ?_
    exact hj17 _ _ _ _ _ _ _ _ _ _ _ _ h B (lv_sub hL [0] rfl)
theorem k_X5_wrong {p : Program} {l : Launch} {e : Env} {R : Room} {s : State} {m : MethodId} {args : Array Value} {below : List Frame} {meth : Method} {c : Code} {H : Heap} {locs : List Loc} {Q : State → Prop} {pc : Nat} {ls : Array Slot} {rest : List Value} {cc : ByteArray} {nL : Nat} {D : va_G} {cA : Nat → ClassId} {a9 : Nat → Nat} {h9 : HK} {n0 m0 cN cS : Nat} {ad : Nat → Nat} {hk : HK} {nx ns : Nat} {A : Nat → Prop} {gi : GI} {gr : GR} {α : Type} {r : α} {own : String} {idx : Nat} {a0 : Nat} {ff : (Nat × HK × Nat × Nat × GI × GR) → Option α} (ht : (hk a0).1 = 14) (C : CallFix p m c cc nL s args lw_all own) (B : XBA D cA a9 h9 n0 m0 cN cS ad hk nx ns A s gi gr H locs) (hRr : R.cells = cN - n0 ∧ R.slots = cS - m0) (hq : Cond.methodLink own idx yX5_wrong ∈ lw_all) (hF : 5 ≤ R.frames) (hN : 154 ≤ R.locals) (hs : ls.size = nL) (hw : (rest.map fun v => v.category).sum ≤ 8) (h : (g_cc (fun c1 c2 => f_X5_wrong c1 c2 hk nx ns gi gr a0) (fun q : Nat × HK × Nat × Nat × GI × GR => q.2.2.1) (fun q : Nat × HK × Nat × Nat × GI × GR => q.2.2.2.1) cN cS nx ns).bind ff = some r) (hdg : decode cc pc = .ok (.invokevirtual idx, 3)) (kk : ∀ (q : Nat × HK × Nat × Nat × GI × GR) (ad' : Nat → Nat), ff q = some r → (∀ i, (hk i).1 < 1000 → ad' i = ad i ∧ q.2.1 i = hk i) → ∀ (H' : Heap) (locs' : List Loc), XBA D cA a9 h9 n0 m0 cN cS ad' q.2.1 q.2.2.1 q.2.2.2.1 A s q.2.2.2.2.1 q.2.2.2.2.2 H' locs' → W p l e R s m args below meth c H' locs' (q.2.2.1 - n0) (q.2.2.2.1 - m0) Q (F0 m (pc + 3) ls (.ref (ad' q.1) :: rest))) : W p l e R s m args below meth c H locs (nx - n0) (ns - m0) Q (F0 m pc ls (.ref (ad a0) :: rest)) := by
  obtain ⟨q, h1, h2⟩ := g_ob h
  obtain ⟨h3, c1, c2, c3, c4⟩ := g_cc_of h1
  refine xa_cVR (As := []) (rest := rest) (n := 0) (qn := q.2.2.1) (qs := q.2.2.2.1) xc_4 ht (by decide) C B hRr (fun sz => w_X5_wrong l D cA ad _ _ hk nx ns gi gr a0 ht ⟨c1, c3⟩ q h3 sz) hq q831 qs9 q151 q832 (by decide +kernel) ⟨c1, c2, c3, c4⟩ (fun v u hp => ?_) ⟨hF, hN⟩ rfl hs hw hdg (fun v u H9 locs9 hp hae B9 => ?_)
  · obtain ⟨v9, rfl, rfl⟩ := hp
    exact ⟨rfl, rfl⟩
  · obtain ⟨v9, rfl, rfl⟩ := hp
    exact kk _ u.1 h2 hae H9 locs9 B9
def f_X5_takes (cN cS : Nat) (hk : HK) (nx ns : Nat) (gi : GI) (gr : GR) (a0 : Nat) (a1 : Nat) : Option (Int32 × HK × Nat × Nat × GI × GR) :=
  (f_X5_is hk gi gr a0 a1).bind fun q1 =>
  if q1 = 0 then
  ((g_zb q1).bind fun _ =>
  some (q1, hk, nx, ns, gi, gr))
  else
  ((g_ok hk (1000100 + a1)).bind fun _ =>
  (g_cc (fun c1 c2 => f_X5_go c1 c2 hk nx ns gi gr a0) (fun q : HK × Nat × Nat × GI × GR => q.2.1) (fun q : HK × Nat × Nat × GI × GR => q.2.2.1) cN cS nx ns).bind fun q3 =>
  (g_zb q1).bind fun _ =>
  some (q1, q3.1, q3.2.1, q3.2.2.1, q3.2.2.2.1, q3.2.2.2.2))
set_option maxHeartbeats 400000 in
theorem w_X5_takes (l : Launch) (D : va_G) (cA : Nat → ClassId) (ad : Nat → Nat) (cN cS : Nat) (hk : HK) (nx ns : Nat) (gi : GI) (gr : GR) (a0 : Nat) (a1 : Nat) (ht : (hk a0).1 = 14) (hi : a1 < 22) (hcap : nx ≤ cN ∧ ns ≤ cS) (r : Int32 × HK × Nat × Nat × GI × GR) (h : f_X5_takes cN cS hk nx ns gi gr a0 a1 = some r) (sz : Nat) : Met l yX5_takes (ws_ yX5_takes cX5_takes 3 (some .boolean)) ({ frames := 8, cells := cN - nx, slots := cS - ns, locals := 221 } : Room) (va_Pc [.ref (ad a0), .ref (ad (1000100 + a1))] (XPre D cA ad hk nx gi gr sz)) (va_Qi (fun (v : Int32) (u : XU) => (v, u.2) = r) (XPostA D cA ad hk nx sz) (XA ad nx sz)) (cN - nx) (cS - ns) (XA ad nx sz) := by
  refine xa_stZ (own := RX5) (P := (fun (v : Int32) (u : XU) => (v, u.2) = r)) (by decide +kernel) rfl (Nat.le_of_ble_eq_true rfl) hcap (fun p e s m args below meth c R Q A ls C hmn hF hN hRr B hret hL => ?_) sz
  have hx := C.1
  have hb := C.2.1
  have hL : lv_has ls 3 [(0, .ref (ad a0)), (1, .ref (ad (1000100 + a1)))] := hL
  unfold f_X5_takes at h
  refine lv_aload_n hx hb dX5_takes_0 rfl (lv_at hL 0 rfl) ?_
  refine lv_aload_n hx hb dX5_takes_1 rfl (lv_at hL 1 rfl) ?_
  refine k_X5_is ht hi C B.1 q723 (Nat.le_trans (Nat.le_of_ble_eq_true rfl) hF) (Nat.le_trans (Nat.le_of_ble_eq_true rfl) hN) hL.1 (Nat.le_of_ble_eq_true rfl) (xa_z hRr B) h dX5_takes_2 (fun q1 h H locs B2 => ?_)
  have B := And.intro B2 B.2
  refine lv_istore_n (lv' := [(2, .int q1), (0, .ref (ad a0)), (1, .ref (ad (1000100 + a1)))]) hx hb dX5_takes_5 rfl hL (by decide) rfl (fun ls hL => ?_)
  refine lv_iload_n hx hb dX5_takes_6 rfl (lv_at hL 0 rfl) ?_
  refine gg_if_eq hx hb 14 h dX5_takes_7 (by decide) (fun h => ?_) (fun h => ?_)
  · refine lv_iload_n hx hb dX5_takes_14 rfl (lv_at hL 0 rfl) ?_
    refine mm_zb h (fun hz h => ?_)
    exact hret _ (ad, hk, nx, ns, gi, gr) _ _ _ _ (Option.some.inj h) hz B dX5_takes_15
  · refine lv_aload_n hx hb dX5_takes_10 rfl (lv_at hL 1 rfl) ?_
    refine xx_ok h (fun ok2 h => ?_)
    refine k_X5_go ht C B hRr q512 (Nat.le_trans (Nat.le_of_ble_eq_true rfl) hF) (Nat.le_trans (Nat.le_of_ble_eq_true rfl) hN) hL.1 (Nat.le_of_ble_eq_true rfl) h dX5_takes_11 (fun q3 ad4 h hae5 H locs B => ?_)
    rw [← (hae5 a0 (by rw [ht]; decide)).1] at hL
    have hp6 : (q3.1 a0).1 = 14 := by rw [(hae5 a0 (by rw [ht]; decide)).2]; exact ht
    rw [← (hae5 (1000100 + a1) ok2).1] at hL
    have ok7 : (q3.1 (1000100 + a1)).1 < 1000 := by rw [(hae5 (1000100 + a1) ok2).2]; exact ok2
    refine lv_iload_n hx hb dX5_takes_14 rfl (lv_at hL 0 rfl) ?_
    refine mm_zb h (fun hz h => ?_)
    exact hret _ (ad4, q3.1, q3.2.1, q3.2.2.1, q3.2.2.2.1, q3.2.2.2.2) _ _ _ _ (Option.some.inj h) hz B dX5_takes_15
theorem k_X5_takes {p : Program} {l : Launch} {e : Env} {R : Room} {s : State} {m : MethodId} {args : Array Value} {below : List Frame} {meth : Method} {c : Code} {H : Heap} {locs : List Loc} {Q : State → Prop} {pc : Nat} {ls : Array Slot} {rest : List Value} {cc : ByteArray} {nL : Nat} {D : va_G} {cA : Nat → ClassId} {a9 : Nat → Nat} {h9 : HK} {n0 m0 cN cS : Nat} {ad : Nat → Nat} {hk : HK} {nx ns : Nat} {A : Nat → Prop} {gi : GI} {gr : GR} {α : Type} {r : α} {own : String} {idx : Nat} {a0 : Nat} {a1 : Nat} {ff : (Int32 × HK × Nat × Nat × GI × GR) → Option α} (ht : (hk a0).1 = 14) (hi : a1 < 22) (C : CallFix p m c cc nL s args lw_all own) (B : XBA D cA a9 h9 n0 m0 cN cS ad hk nx ns A s gi gr H locs) (hRr : R.cells = cN - n0 ∧ R.slots = cS - m0) (hq : Cond.methodLink own idx yX5_takes ∈ lw_all) (hF : 9 ≤ R.frames) (hN : 243 ≤ R.locals) (hs : ls.size = nL) (hw : (rest.map fun v => v.category).sum ≤ 8) (h : (g_cc (fun c1 c2 => f_X5_takes c1 c2 hk nx ns gi gr a0 a1) (fun q : Int32 × HK × Nat × Nat × GI × GR => q.2.2.1) (fun q : Int32 × HK × Nat × Nat × GI × GR => q.2.2.2.1) cN cS nx ns).bind ff = some r) (hdg : decode cc pc = .ok (.invokevirtual idx, 3)) (kk : ∀ (q : Int32 × HK × Nat × Nat × GI × GR) (ad' : Nat → Nat), ff q = some r → (∀ i, (hk i).1 < 1000 → ad' i = ad i ∧ q.2.1 i = hk i) → ∀ (H' : Heap) (locs' : List Loc), XBA D cA a9 h9 n0 m0 cN cS ad' q.2.1 q.2.2.1 q.2.2.2.1 A s q.2.2.2.2.1 q.2.2.2.2.2 H' locs' → W p l e R s m args below meth c H' locs' (q.2.2.1 - n0) (q.2.2.2.1 - m0) Q (F0 m (pc + 3) ls (.int q.1 :: rest))) : W p l e R s m args below meth c H locs (nx - n0) (ns - m0) Q (F0 m pc ls (.ref (ad (1000100 + a1)) :: .ref (ad a0) :: rest)) := by
  obtain ⟨q, h1, h2⟩ := g_ob h
  obtain ⟨h3, c1, c2, c3, c4⟩ := g_cc_of h1
  refine xa_cVI (As := [.ref (ad (1000100 + a1))]) (rest := rest) (n := 1) (qn := q.2.2.1) (qs := q.2.2.2.1) xc_4 ht (by decide) C B hRr (fun sz => w_X5_takes l D cA ad _ _ hk nx ns gi gr a0 a1 ht hi ⟨c1, c3⟩ q h3 sz) hq q1017 qs16 q151 q1018 (by decide +kernel) ⟨c1, c2, c3, c4⟩ (fun v u hp => ?_) ⟨hF, hN⟩ rfl hs hw hdg (fun v u H9 locs9 hp hae B9 => ?_)
  · have hp := hp
    subst hp
    exact ⟨rfl, rfl⟩
  · have hp := hp
    subst hp
    exact kk _ u.1 h2 hae H9 locs9 B9
def f_X5_key (cN cS : Nat) (hk : HK) (nx ns : Nat) (gi : GI) (gr : GR) (a0 : Nat) (a1 : Nat) : Option ((Nat × HK × Nat × Nat × GI × GR) ⊕ (HK × Nat × Nat × GI × GR)) :=
  (g_ok hk (1000100 + a1)).bind fun _ =>
  (g_cc (fun c1 c2 => f_X5_takes c1 c2 hk nx ns gi gr a0 a1) (fun q : Int32 × HK × Nat × Nat × GI × GR => q.2.2.1) (fun q : Int32 × HK × Nat × Nat × GI × GR => q.2.2.2.1) cN cS nx ns).bind fun q2 =>
  if q2.1 = 0 then
  ((g_cc (fun c1 c2 => f_X5_wrong c1 c2 q2.2.1 q2.2.2.1 q2.2.2.2.1 q2.2.2.2.2.1 q2.2.2.2.2.2 a0) (fun q : Nat × HK × Nat × Nat × GI × GR => q.2.2.1) (fun q : Nat × HK × Nat × Nat × GI × GR => q.2.2.2.1) cN cS q2.2.2.1 q2.2.2.2.1).bind fun q7 =>
  (g_is q7.2.1 q7.1 15).bind fun _ =>
  some (.inl (q7.1, q7.2.1, q7.2.2.1, q7.2.2.2.1, q7.2.2.2.2.1, q7.2.2.2.2.2)))
  else
  (some (.inr (q2.2.1, q2.2.2.1, q2.2.2.2.1, q2.2.2.2.2.1, q2.2.2.2.2.2)))
set_option maxHeartbeats 400000 in
theorem w_X5_key (l : Launch) (D : va_G) (cA : Nat → ClassId) (ad : Nat → Nat) (cN cS : Nat) (hk : HK) (nx ns : Nat) (gi : GI) (gr : GR) (a0 : Nat) (a1 : Nat) (ht : (hk a0).1 = 14) (hi : a1 < 22) (hcap : nx ≤ cN ∧ ns ≤ cS) (r : (Nat × HK × Nat × Nat × GI × GR) ⊕ (HK × Nat × Nat × GI × GR)) (h : f_X5_key cN cS hk nx ns gi gr a0 a1 = some r) (sz : Nat) : vx_Met l yX5_key (ws_ yX5_key cX5_key 2 (none)) ({ frames := 9, cells := cN - nx, slots := cS - ns, locals := 243 } : Room) (va_Pc [.ref (ad a0), .ref (ad (1000100 + a1))] (XPre D cA ad hk nx gi gr sz)) (va_Qv (fun (u : XU) => Sum.inr u.2 = r) (XPostA D cA ad hk nx sz) (XA ad nx sz)) (vx_X (fun x : XV => Sum.inl (x.1, x.2.2) = r) (XPostX D cA ad hk nx sz) (XA ad nx sz)) (cN - nx) (cS - ns) (XA ad nx sz) := by
  refine xt_stV (own := RX5) (P := (fun (u : XU) => Sum.inr u.2 = r)) (PX := (fun x : XV => Sum.inl (x.1, x.2.2) = r)) (by decide +kernel) rfl (Nat.le_of_ble_eq_true rfl) hcap (fun p e s m args below meth c R Q A ls C hmn hF hN hRr B hret hthr hL => ?_) sz
  have hx := C.1
  have hb := C.2.1
  have hL : lv_has ls 2 [(0, .ref (ad a0)), (1, .ref (ad (1000100 + a1)))] := hL
  unfold f_X5_key at h
  refine lv_aload_n hx hb dX5_key_0 rfl (lv_at hL 0 rfl) ?_
  refine lv_aload_n hx hb dX5_key_1 rfl (lv_at hL 1 rfl) ?_
  refine xx_ok h (fun ok1 h => ?_)
  refine k_X5_takes ht hi C B hRr q1015 (Nat.le_trans (Nat.le_of_ble_eq_true rfl) hF) (Nat.le_trans (Nat.le_of_ble_eq_true rfl) hN) hL.1 (Nat.le_of_ble_eq_true rfl) h dX5_key_2 (fun q2 ad3 h hae4 H locs B => ?_)
  rw [← (hae4 a0 (by rw [ht]; decide)).1] at hL
  have hp5 : (q2.2.1 a0).1 = 14 := by rw [(hae4 a0 (by rw [ht]; decide)).2]; exact ht
  rw [← (hae4 (1000100 + a1) ok1).1] at hL
  have ok6 : (q2.2.1 (1000100 + a1)).1 < 1000 := by rw [(hae4 (1000100 + a1) ok1).2]; exact ok1
  refine gg_if_ne hx hb 13 h dX5_key_5 (by decide) (fun h => ?_) (fun h => ?_)
  · exact hret (ad3, q2.2.1, q2.2.2.1, q2.2.2.2.1, q2.2.2.2.2.1, q2.2.2.2.2.2) _ _ _ _ (Option.some.inj h) B dX5_key_13
  · refine lv_aload_n hx hb dX5_key_8 rfl (lv_at hL 0 rfl) ?_
    refine k_X5_wrong hp5 C B hRr q829 (Nat.le_trans (Nat.le_of_ble_eq_true rfl) hF) (Nat.le_trans (Nat.le_of_ble_eq_true rfl) hN) hL.1 (Nat.le_of_ble_eq_true rfl) h dX5_key_9 (fun q7 ad8 h hae9 H locs B => ?_)
    rw [← (hae9 a0 (by rw [hp5]; decide)).1] at hL
    have hp10 : (q7.2.1 a0).1 = 14 := by rw [(hae9 a0 (by rw [hp5]; decide)).2]; exact hp5
    rw [← (hae9 (1000100 + a1) ok6).1] at hL
    have ok11 : (q7.2.1 (1000100 + a1)).1 < 1000 := by rw [(hae9 (1000100 + a1) ok6).2]; exact ok6
    refine xx_is h (fun hp12 h => ?_)
    refine vx_athrow hx hb dX5_key_12 ?_
    exact hthr q7.1 (ad8, q7.2.1, q7.2.2.1, q7.2.2.2.1, q7.2.2.2.2.1, q7.2.2.2.2.2) _ _ _ _ _ (Option.some.inj h) hp12 B
theorem k_X5_key {p : Program} {l : Launch} {e : Env} {R : Room} {s : State} {m : MethodId} {args : Array Value} {below : List Frame} {meth : Method} {c : Code} {H : Heap} {locs : List Loc} {Q : State → Prop} {pc : Nat} {ls : Array Slot} {rest : List Value} {cc : ByteArray} {nL : Nat} {D : va_G} {cA : Nat → ClassId} {a9 : Nat → Nat} {h9 : HK} {n0 m0 cN cS : Nat} {ad : Nat → Nat} {hk : HK} {nx ns : Nat} {A : Nat → Prop} {gi : GI} {gr : GR} {α : Type} {r : α} {own : String} {idx : Nat} {a0 : Nat} {a1 : Nat} {ff : ((Nat × HK × Nat × Nat × GI × GR) ⊕ (HK × Nat × Nat × GI × GR)) → Option α} (ht : (hk a0).1 = 14) (hi : a1 < 22) (C : CallFix p m c cc nL s args lw_all own) (B : XBA D cA a9 h9 n0 m0 cN cS ad hk nx ns A s gi gr H locs) (hRr : R.cells = cN - n0 ∧ R.slots = cS - m0) (hq : Cond.methodLink own idx yX5_key ∈ lw_all) (hF : 10 ≤ R.frames) (hN : 264 ≤ R.locals) (hs : ls.size = nL) (hw : (rest.map fun v => v.category).sum ≤ 8) (h : (g_cc (fun c1 c2 => f_X5_key c1 c2 hk nx ns gi gr a0 a1) (fun z : (Nat × HK × Nat × Nat × GI × GR) ⊕ (HK × Nat × Nat × GI × GR) => Sum.elim (fun t : Nat × HK × Nat × Nat × GI × GR => t.2.2.1) (fun q : HK × Nat × Nat × GI × GR => q.2.1) z) (fun z : (Nat × HK × Nat × Nat × GI × GR) ⊕ (HK × Nat × Nat × GI × GR) => Sum.elim (fun t : Nat × HK × Nat × Nat × GI × GR => t.2.2.2.1) (fun q : HK × Nat × Nat × GI × GR => q.2.2.1) z) cN cS nx ns).bind ff = some r) (hdg : decode cc pc = .ok (.invokevirtual idx, 3)) (kx : ∀ (t : Nat × HK × Nat × Nat × GI × GR) (ad' : Nat → Nat), ff (.inl t) = some r → (t.2.1 t.1).1 = 15 → (∀ i, (hk i).1 < 1000 → ad' i = ad i ∧ t.2.1 i = hk i) → ∀ (H' : Heap) (locs' : List Loc), XBA D cA a9 h9 n0 m0 cN cS ad' t.2.1 t.2.2.1 t.2.2.2.1 A s t.2.2.2.2.1 t.2.2.2.2.2 H' locs' → vx_W p l e R s m args below meth c H' locs' (t.2.2.1 - n0) (t.2.2.2.1 - m0) Q (F0 m pc ls rest) (ad' t.1)) (kk : ∀ (q : HK × Nat × Nat × GI × GR) (ad' : Nat → Nat), ff (.inr q) = some r → (∀ i, (hk i).1 < 1000 → ad' i = ad i ∧ q.1 i = hk i) → ∀ (H' : Heap) (locs' : List Loc), XBA D cA a9 h9 n0 m0 cN cS ad' q.1 q.2.1 q.2.2.1 A s q.2.2.2.1 q.2.2.2.2 H' locs' → W p l e R s m args below meth c H' locs' (q.2.1 - n0) (q.2.2.1 - m0) Q (F0 m (pc + 3) ls (rest))) : W p l e R s m args below meth c H locs (nx - n0) (ns - m0) Q (F0 m pc ls (.ref (ad (1000100 + a1)) :: .ref (ad a0) :: rest)) := by
  obtain ⟨z, h1, h2⟩ := g_ob h
  obtain ⟨h3, c1, c2, c3, c4⟩ := g_cc_of h1
  refine xt_cVV (As := [.ref (ad (1000100 + a1))]) (rest := rest) (n := 1) (qn := (fun z : (Nat × HK × Nat × Nat × GI × GR) ⊕ (HK × Nat × Nat × GI × GR) => Sum.elim (fun t : Nat × HK × Nat × Nat × GI × GR => t.2.2.1) (fun q : HK × Nat × Nat × GI × GR => q.2.1) z) z) (qs := (fun z : (Nat × HK × Nat × Nat × GI × GR) ⊕ (HK × Nat × Nat × GI × GR) => Sum.elim (fun t : Nat × HK × Nat × Nat × GI × GR => t.2.2.2.1) (fun q : HK × Nat × Nat × GI × GR => q.2.2.1) z) z) xc_4 ht (by decide) C B hRr (fun sz => w_X5_key l D cA ad _ _ hk nx ns gi gr a0 a1 ht hi ⟨c1, c3⟩ z h3 sz) hq q1013 qs15 q151 q1014 (by decide +kernel) ⟨c1, c2, c3, c4⟩ (fun u hp => ?_) (fun x hp => ?_) ⟨hF, hN⟩ rfl hs hw hdg (fun w u H9 locs9 hp hw9 hae B9 => ?_) (fun u H9 locs9 hp hae B9 => ?_)
  · have hp := hp
    subst hp
    exact ⟨rfl, rfl⟩
  · have hp := hp
    subst hp
    exact ⟨rfl, rfl⟩
  · have hp := hp
    subst hp
    exact kx _ u.1 h2 hw9 hae H9 locs9 B9
  · have hp := hp
    subst hp
    exact kk _ u.1 h2 hae H9 locs9 B9
def f_X5_number_j29 (cN cS : Nat) (a0 : Nat) (hkj29 : HK) (nxj29 : Nat) (nsj29 : Nat) (gij29 : GI) (grj29 : GR) : Option ((Nat × HK × Nat × Nat × GI × GR) ⊕ (Int32 × HK × Nat × Nat × GI × GR)) :=
  (g_new cN cS nxj29 nsj29 15 0 8 hkj29 gij29 grj29).bind fun q2 =>
  (g_cc (fun c1 c2 => f_X6_init c1 c2 q2.1 (nxj29 + 1) (nsj29 + 8) q2.2.1 q2.2.2 nxj29 4 (q2.2.1 a0 2)) (fun q : HK × Nat × Nat × GI × GR => q.2.1) (fun q : HK × Nat × Nat × GI × GR => q.2.2.1) cN cS (nxj29 + 1) (nsj29 + 8)).bind fun q7 =>
  some (.inl (nxj29, q7.1, q7.2.1, q7.2.2.1, q7.2.2.2.1, q7.2.2.2.2))
def f_X5_number (cN cS : Nat) (hk : HK) (nx ns : Nat) (gi : GI) (gr : GR) (a0 : Nat) (x1 : Int32) (x2 : Int32) : Option ((Nat × HK × Nat × Nat × GI × GR) ⊕ (Int32 × HK × Nat × Nat × GI × GR)) :=
  if (gi a0 1) = 2 then
  (if (gi a0 3) < x1 then
  (f_X5_number_j29 cN cS a0 hk nx ns gi gr)
  else
  (if (gi a0 3) ≤ x2 then
  ((g_cc (fun c1 c2 => f_X5_go c1 c2 hk nx ns gi gr a0) (fun q : HK × Nat × Nat × GI × GR => q.2.1) (fun q : HK × Nat × Nat × GI × GR => q.2.2.1) cN cS nx ns).bind fun q12 =>
  some (.inr (gi a0 3, q12.1, q12.2.1, q12.2.2.1, q12.2.2.2.1, q12.2.2.2.2)))
  else
  (f_X5_number_j29 cN cS a0 hk nx ns gi gr)))
  else
  ((g_cc (fun c1 c2 => f_X5_wrong c1 c2 hk nx ns gi gr a0) (fun q : Nat × HK × Nat × Nat × GI × GR => q.2.2.1) (fun q : Nat × HK × Nat × Nat × GI × GR => q.2.2.2.1) cN cS nx ns).bind fun q16 =>
  (g_is q16.2.1 q16.1 15).bind fun _ =>
  some (.inl (q16.1, q16.2.1, q16.2.2.1, q16.2.2.2.1, q16.2.2.2.2.1, q16.2.2.2.2.2)))
set_option maxHeartbeats 400000 in
theorem w_X5_number (l : Launch) (D : va_G) (cA : Nat → ClassId) (ad : Nat → Nat) (cN cS : Nat) (hk : HK) (nx ns : Nat) (gi : GI) (gr : GR) (a0 : Nat) (x1 : Int32) (x2 : Int32) (ht : (hk a0).1 = 14) (hcap : nx ≤ cN ∧ ns ≤ cS) (r : (Nat × HK × Nat × Nat × GI × GR) ⊕ (Int32 × HK × Nat × Nat × GI × GR)) (h : f_X5_number cN cS hk nx ns gi gr a0 x1 x2 = some r) (sz : Nat) : vx_Met l yX5_number (ws_ yX5_number cX5_number 4 (some .int)) ({ frames := 8, cells := cN - nx, slots := cS - ns, locals := 221 } : Room) (va_Pc [.ref (ad a0), .int x1, .int x2] (XPre D cA ad hk nx gi gr sz)) (va_Qi (fun (v : Int32) (u : XU) => Sum.inr (v, u.2) = r) (XPostA D cA ad hk nx sz) (XA ad nx sz)) (vx_X (fun x : XV => Sum.inl (x.1, x.2.2) = r) (XPostX D cA ad hk nx sz) (XA ad nx sz)) (cN - nx) (cS - ns) (XA ad nx sz) := by
  refine xt_stI (own := RX5) (P := (fun (v : Int32) (u : XU) => Sum.inr (v, u.2) = r)) (PX := (fun x : XV => Sum.inl (x.1, x.2.2) = r)) (by decide +kernel) rfl (Nat.le_of_ble_eq_true rfl) hcap (fun p e s m args below meth c R Q A ls C hmn hF hN hRr B hret hthr hL => ?_) sz
  have hx := C.1
  have hb := C.2.1
  have hL : lv_has ls 4 [(0, .ref (ad a0)), (1, .int x1), (2, .int x2)] := hL
  unfold f_X5_number at h
  have hj29 : ∀ (hkj29 : HK) (nxj29 : Nat) (nsj29 : Nat) (gij29 : GI) (grj29 : GR) (adj29 : Nat → Nat) (H : Heap) (locs : List Loc) (ls : Array Slot), f_X5_number_j29 cN cS a0 hkj29 nxj29 nsj29 gij29 grj29 = some r → XBA D cA ad hk nx ns cN cS adj29 hkj29 nxj29 nsj29 A s gij29 grj29 H locs → lv_has ls 4 [(0, .ref (adj29 a0))] → W p l e R s m args below meth c H locs (nxj29 - nx) (nsj29 - ns) Q (F0 m 29 ls []) := by
    intro hkj29 nxj29 nsj29 gij29 grj29 adj29 H locs ls h B hL
    unfold f_X5_number_j29 at h
    have ht1 : (hkj29 a0).1 = 14 := by rw [(B.2.1 a0 (by rw [ht]; decide)).2]; exact ht
    refine xa_new C B hRr xc_5 (by decide) xd_5 q833 q834 q163 h dX5_number_29 (fun q2 ad3 h hae4 hp5 H B => ?_)
    rw [← (hae4 a0 (by rw [ht1]; decide)).1] at hL
    have hp6 : (q2.1 a0).1 = 14 := by rw [(hae4 a0 (by rw [ht1]; decide)).2]; exact ht1
    refine lv_dup hx hb dX5_number_32 rfl ?_
    refine lv_iconst (v := 4) hx hb dX5_number_33 (by decide) ?_
    refine lv_aload_n hx hb dX5_number_34 rfl (lv_at hL 0 rfl) ?_
    refine xx_gi (ci := 4) (k := 2) C B.1 xc_4 hp6 (by decide) (Nat.le_of_ble_eq_true rfl) rfl q476 (fun _ h => h) dX5_number_35 ?_
    refine k_X6_init hp5 C B hRr q870 (Nat.le_trans (Nat.le_of_ble_eq_true rfl) hF) (Nat.le_trans (Nat.le_of_ble_eq_true rfl) hN) hL.1 (Nat.le_of_ble_eq_true rfl) h dX5_number_38 (fun q7 ad8 h hae9 H locs B => ?_)
    rw [← (hae9 a0 (by rw [hp6]; decide)).1] at hL
    have hp10 : (q7.1 a0).1 = 14 := by rw [(hae9 a0 (by rw [hp6]; decide)).2]; exact hp6
    rw [← (hae9 nxj29 (by rw [hp5]; decide)).1]
    have hp11 : (q7.1 nxj29).1 = 15 := by rw [(hae9 nxj29 (by rw [hp5]; decide)).2]; exact hp5
    refine vx_athrow hx hb dX5_number_41 ?_
    exact hthr nxj29 (ad8, q7.1, q7.2.1, q7.2.2.1, q7.2.2.2.1, q7.2.2.2.2) _ _ _ _ _ (Option.some.inj h) hp11 B
  refine lv_aload_n hx hb dX5_number_0 rfl (lv_at hL 0 rfl) ?_
  refine xx_gi (ci := 4) (k := 1) C B.1 xc_4 ht (by decide) (Nat.le_of_ble_eq_true rfl) rfl q475 (fun _ h => h) dX5_number_1 ?_
  refine lv_iconst (v := 2) hx hb dX5_number_4 (by decide) ?_
  refine gg_icmp_eq hx hb 13 h dX5_number_5 (by decide) (fun h => ?_) (fun h => ?_)
  · refine lv_aload_n hx hb dX5_number_13 rfl (lv_at hL 0 rfl) ?_
    refine xx_gi (ci := 4) (k := 3) C B.1 xc_4 ht (by decide) (Nat.le_of_ble_eq_true rfl) rfl q477 (fun _ h => h) dX5_number_14 ?_
    refine lv_iload_n hx hb dX5_number_17 rfl (lv_at hL 1 rfl) ?_
    refine gg_icmp_lt hx hb 29 h dX5_number_18 (by decide) (fun h => ?_) (fun h => ?_)
    · exact hj29 _ _ _ _ _ _ _ _ _ h B (lv_sub hL [0] rfl)
    · refine lv_aload_n hx hb dX5_number_21 rfl (lv_at hL 0 rfl) ?_
      refine xx_gi (ci := 4) (k := 3) C B.1 xc_4 ht (by decide) (Nat.le_of_ble_eq_true rfl) rfl q477 (fun _ h => h) dX5_number_22 ?_
      refine lv_iload_n hx hb dX5_number_25 rfl (lv_at hL 2 rfl) ?_
      refine gg_icmp_le hx hb 42 h dX5_number_26 (by decide) (fun h => ?_) (fun h => ?_)
      · refine lv_aload_n hx hb dX5_number_42 rfl (lv_at hL 0 rfl) ?_
        refine xx_gi (ci := 4) (k := 3) C B.1 xc_4 ht (by decide) (Nat.le_of_ble_eq_true rfl) rfl q477 (fun _ h => h) dX5_number_43 ?_
        refine lv_istore_n (lv' := [(3, .int (gi a0 3)), (0, .ref (ad a0)), (1, .int x1), (2, .int x2)]) hx hb dX5_number_46 rfl hL (by decide) rfl (fun ls hL => ?_)
        refine lv_aload_n hx hb dX5_number_47 rfl (lv_at hL 1 rfl) ?_
        refine k_X5_go ht C B hRr q512 (Nat.le_trans (Nat.le_of_ble_eq_true rfl) hF) (Nat.le_trans (Nat.le_of_ble_eq_true rfl) hN) hL.1 (Nat.le_of_ble_eq_true rfl) h dX5_number_48 (fun q12 ad13 h hae14 H locs B => ?_)
        rw [← (hae14 a0 (by rw [ht]; decide)).1] at hL
        have hp15 : (q12.1 a0).1 = 14 := by rw [(hae14 a0 (by rw [ht]; decide)).2]; exact ht
        refine lv_iload_n hx hb dX5_number_51 rfl (lv_at hL 0 rfl) ?_
        exact hret _ (ad13, q12.1, q12.2.1, q12.2.2.1, q12.2.2.2.1, q12.2.2.2.2) _ _ _ _ (Option.some.inj h) B dX5_number_52
      · exact hj29 _ _ _ _ _ _ _ _ _ h B (lv_sub hL [0] rfl)
  · refine lv_aload_n hx hb dX5_number_8 rfl (lv_at hL 0 rfl) ?_
    refine k_X5_wrong ht C B hRr q829 (Nat.le_trans (Nat.le_of_ble_eq_true rfl) hF) (Nat.le_trans (Nat.le_of_ble_eq_true rfl) hN) hL.1 (Nat.le_of_ble_eq_true rfl) h dX5_number_9 (fun q16 ad17 h hae18 H locs B => ?_)
    rw [← (hae18 a0 (by rw [ht]; decide)).1] at hL
    have hp19 : (q16.2.1 a0).1 = 14 := by rw [(hae18 a0 (by rw [ht]; decide)).2]; exact ht
    refine xx_is h (fun hp20 h => ?_)
    refine vx_athrow hx hb dX5_number_12 ?_
    exact hthr q16.1 (ad17, q16.2.1, q16.2.2.1, q16.2.2.2.1, q16.2.2.2.2.1, q16.2.2.2.2.2) _ _ _ _ _ (Option.some.inj h) hp20 B
theorem k_X5_number {p : Program} {l : Launch} {e : Env} {R : Room} {s : State} {m : MethodId} {args : Array Value} {below : List Frame} {meth : Method} {c : Code} {H : Heap} {locs : List Loc} {Q : State → Prop} {pc : Nat} {ls : Array Slot} {rest : List Value} {cc : ByteArray} {nL : Nat} {D : va_G} {cA : Nat → ClassId} {a9 : Nat → Nat} {h9 : HK} {n0 m0 cN cS : Nat} {ad : Nat → Nat} {hk : HK} {nx ns : Nat} {A : Nat → Prop} {gi : GI} {gr : GR} {α : Type} {r : α} {own : String} {idx : Nat} {a0 : Nat} {x1 : Int32} {x2 : Int32} {ff : ((Nat × HK × Nat × Nat × GI × GR) ⊕ (Int32 × HK × Nat × Nat × GI × GR)) → Option α} (ht : (hk a0).1 = 14) (C : CallFix p m c cc nL s args lw_all own) (B : XBA D cA a9 h9 n0 m0 cN cS ad hk nx ns A s gi gr H locs) (hRr : R.cells = cN - n0 ∧ R.slots = cS - m0) (hq : Cond.methodLink own idx yX5_number ∈ lw_all) (hF : 9 ≤ R.frames) (hN : 244 ≤ R.locals) (hs : ls.size = nL) (hw : (rest.map fun v => v.category).sum ≤ 8) (h : (g_cc (fun c1 c2 => f_X5_number c1 c2 hk nx ns gi gr a0 x1 x2) (fun z : (Nat × HK × Nat × Nat × GI × GR) ⊕ (Int32 × HK × Nat × Nat × GI × GR) => Sum.elim (fun t : Nat × HK × Nat × Nat × GI × GR => t.2.2.1) (fun q : Int32 × HK × Nat × Nat × GI × GR => q.2.2.1) z) (fun z : (Nat × HK × Nat × Nat × GI × GR) ⊕ (Int32 × HK × Nat × Nat × GI × GR) => Sum.elim (fun t : Nat × HK × Nat × Nat × GI × GR => t.2.2.2.1) (fun q : Int32 × HK × Nat × Nat × GI × GR => q.2.2.2.1) z) cN cS nx ns).bind ff = some r) (hdg : decode cc pc = .ok (.invokevirtual idx, 3)) (kx : ∀ (t : Nat × HK × Nat × Nat × GI × GR) (ad' : Nat → Nat), ff (.inl t) = some r → (t.2.1 t.1).1 = 15 → (∀ i, (hk i).1 < 1000 → ad' i = ad i ∧ t.2.1 i = hk i) → ∀ (H' : Heap) (locs' : List Loc), XBA D cA a9 h9 n0 m0 cN cS ad' t.2.1 t.2.2.1 t.2.2.2.1 A s t.2.2.2.2.1 t.2.2.2.2.2 H' locs' → vx_W p l e R s m args below meth c H' locs' (t.2.2.1 - n0) (t.2.2.2.1 - m0) Q (F0 m pc ls rest) (ad' t.1)) (kk : ∀ (q : Int32 × HK × Nat × Nat × GI × GR) (ad' : Nat → Nat), ff (.inr q) = some r → (∀ i, (hk i).1 < 1000 → ad' i = ad i ∧ q.2.1 i = hk i) → ∀ (H' : Heap) (locs' : List Loc), XBA D cA a9 h9 n0 m0 cN cS ad' q.2.1 q.2.2.1 q.2.2.2.1 A s q.2.2.2.2.1 q.2.2.2.2.2 H' locs' → W p l e R s m args below meth c H' locs' (q.2.2.1 - n0) (q.2.2.2.1 - m0) Q (F0 m (pc + 3) ls (.int q.1 :: rest))) : W p l e R s m args below meth c H locs (nx - n0) (ns - m0) Q (F0 m pc ls (.int x2 :: .int x1 :: .ref (ad a0) :: rest)) := by
  obtain ⟨z, h1, h2⟩ := g_ob h
  obtain ⟨h3, c1, c2, c3, c4⟩ := g_cc_of h1
  refine xt_cVI (As := [.int x1, .int x2]) (rest := rest) (n := 2) (qn := (fun z : (Nat × HK × Nat × Nat × GI × GR) ⊕ (Int32 × HK × Nat × Nat × GI × GR) => Sum.elim (fun t : Nat × HK × Nat × Nat × GI × GR => t.2.2.1) (fun q : Int32 × HK × Nat × Nat × GI × GR => q.2.2.1) z) z) (qs := (fun z : (Nat × HK × Nat × Nat × GI × GR) ⊕ (Int32 × HK × Nat × Nat × GI × GR) => Sum.elim (fun t : Nat × HK × Nat × Nat × GI × GR => t.2.2.2.1) (fun q : Int32 × HK × Nat × Nat × GI × GR => q.2.2.2.1) z) z) xc_4 ht (by decide) C B hRr (fun sz => w_X5_number l D cA ad _ _ hk nx ns gi gr a0 x1 x2 ht ⟨c1, c3⟩ z h3 sz) hq q1021 qs17 q151 q1022 (by decide +kernel) ⟨c1, c2, c3, c4⟩ (fun v u hp => ?_) (fun x hp => ?_) ⟨hF, hN⟩ rfl hs hw hdg (fun w u H9 locs9 hp hw9 hae B9 => ?_) (fun v u H9 locs9 hp hae B9 => ?_)
  · have hp := hp
    subst hp
    exact ⟨rfl, rfl⟩
  · have hp := hp
    subst hp
    exact ⟨rfl, rfl⟩
  · have hp := hp
    subst hp
    exact kx _ u.1 h2 hw9 hae H9 locs9 B9
  · have hp := hp
    subst hp
    exact kk _ u.1 h2 hae H9 locs9 B9
def f_X5_newName (cN cS : Nat) (hk : HK) (nx ns : Nat) (gi : GI) (gr : GR) (a0 : Nat) (x1 : Int32) : Option ((Nat × HK × Nat × Nat × GI × GR) ⊕ (Nat × HK × Nat × Nat × GI × GR)) :=
  (f_X5_isName hk gi gr a0).bind fun q1 =>
  if q1.1 = 0 then
  ((g_cc (fun c1 c2 => f_X5_wrong c1 c2 hk nx ns q1.2 gr a0) (fun q : Nat × HK × Nat × Nat × GI × GR => q.2.2.1) (fun q : Nat × HK × Nat × Nat × GI × GR => q.2.2.2.1) cN cS nx ns).bind fun q19 =>
  (g_is q19.2.1 q19.1 15).bind fun _ =>
  some (.inl (q19.1, q19.2.1, q19.2.2.1, q19.2.2.2.1, q19.2.2.2.2.1, q19.2.2.2.2.2)))
  else
  (if x1 < 0 then
  ((gr a0 8).bind fun v2 =>
  (g_cc (fun c1 c2 => f_X5_go c1 c2 hk nx ns q1.2 gr a0) (fun q : HK × Nat × Nat × GI × GR => q.2.1) (fun q : HK × Nat × Nat × GI × GR => q.2.2.1) cN cS nx ns).bind fun q4 =>
  some (.inr (v2, q4.1, q4.2.1, q4.2.2.1, q4.2.2.2.1, q4.2.2.2.2)))
  else
  ((g_new cN cS nx ns 15 0 8 hk q1.2 gr).bind fun q9 =>
  (g_cc (fun c1 c2 => f_X6_init c1 c2 q9.1 (nx + 1) (ns + 8) q9.2.1 q9.2.2 nx 3 (q9.2.1 a0 2)) (fun q : HK × Nat × Nat × GI × GR => q.2.1) (fun q : HK × Nat × Nat × GI × GR => q.2.2.1) cN cS (nx + 1) (ns + 8)).bind fun q14 =>
  some (.inl (nx, q14.1, q14.2.1, q14.2.2.1, q14.2.2.2.1, q14.2.2.2.2))))
set_option maxHeartbeats 400000 in
theorem w_X5_newName (l : Launch) (D : va_G) (cA : Nat → ClassId) (ad : Nat → Nat) (cN cS : Nat) (hk : HK) (nx ns : Nat) (gi : GI) (gr : GR) (a0 : Nat) (x1 : Int32) (ht : (hk a0).1 = 14) (hcap : nx ≤ cN ∧ ns ≤ cS) (r : (Nat × HK × Nat × Nat × GI × GR) ⊕ (Nat × HK × Nat × Nat × GI × GR)) (h : f_X5_newName cN cS hk nx ns gi gr a0 x1 = some r) (sz : Nat) : vx_Met l yX5_newName (ws_ yX5_newName cX5_newName 3 (some (.object "java/lang/String"))) ({ frames := 8, cells := cN - nx, slots := cS - ns, locals := 221 } : Room) (va_Pc [.ref (ad a0), .int x1] (XPre D cA ad hk nx gi gr sz)) (va_Qq (fun o u => ∃ v : Option Nat, o = v.map u.1 ∧ (fun (v : Option Nat) (u : XU) => ∃ v9, v = some v9 ∧ Sum.inr (v9, u.2) = r) v u) (XPostA D cA ad hk nx sz) (XA ad nx sz)) (vx_X (fun x : XV => Sum.inl (x.1, x.2.2) = r) (XPostX D cA ad hk nx sz) (XA ad nx sz)) (cN - nx) (cS - ns) (XA ad nx sz) := by
  refine xt_stR (Or.inl ⟨_, rfl⟩) (own := RX5) (P := (fun (v : Option Nat) (u : XU) => ∃ v9, v = some v9 ∧ Sum.inr (v9, u.2) = r)) (PX := (fun x : XV => Sum.inl (x.1, x.2.2) = r)) (by decide +kernel) rfl (Nat.le_of_ble_eq_true rfl) hcap (fun p e s m args below meth c R Q A ls C hmn hF hN hRr B hret hthr hL => ?_) sz
  have hx := C.1
  have hb := C.2.1
  have hL : lv_has ls 3 [(0, .ref (ad a0)), (1, .int x1)] := hL
  unfold f_X5_newName at h
  refine lv_aload_n hx hb dX5_newName_0 rfl (lv_at hL 0 rfl) ?_
  refine k_X5_isName ht C B.1 q752 (Nat.le_trans (Nat.le_of_ble_eq_true rfl) hF) (Nat.le_trans (Nat.le_of_ble_eq_true rfl) hN) hL.1 (Nat.le_of_ble_eq_true rfl) (xa_z hRr B) h dX5_newName_1 (fun q1 h H locs B2 => ?_)
  have B := And.intro B2 B.2
  refine gg_if_ne hx hb 12 h dX5_newName_4 (by decide) (fun h => ?_) (fun h => ?_)
  · refine lv_iload_n hx hb dX5_newName_12 rfl (lv_at hL 1 rfl) ?_
    refine gg_if_lt hx hb 29 h dX5_newName_13 (by decide) (fun h => ?_) (fun h => ?_)
    · refine lv_aload_n hx hb dX5_newName_29 rfl (lv_at hL 0 rfl) ?_
      refine xx_gr (ci := 4) (k := 8) C B.1 xc_4 ht (by decide) (Nat.le_of_ble_eq_true rfl) rfl q482 (fun _ h => h) h dX5_newName_30 (fun v2 ok3 h => ?_)
      refine lv_astore_n (lv' := [(2, .ref (ad v2)), (0, .ref (ad a0)), (1, .int x1)]) hx hb dX5_newName_33 rfl hL (by decide) rfl (fun ls hL => ?_)
      refine lv_aload_n hx hb dX5_newName_34 rfl (lv_at hL 1 rfl) ?_
      refine k_X5_go ht C B hRr q512 (Nat.le_trans (Nat.le_of_ble_eq_true rfl) hF) (Nat.le_trans (Nat.le_of_ble_eq_true rfl) hN) hL.1 (Nat.le_of_ble_eq_true rfl) h dX5_newName_35 (fun q4 ad5 h hae6 H locs B => ?_)
      rw [← (hae6 v2 ok3).1] at hL
      have ok7 : (q4.1 v2).1 < 1000 := by rw [(hae6 v2 ok3).2]; exact ok3
      rw [← (hae6 a0 (by rw [ht]; decide)).1] at hL
      have hp8 : (q4.1 a0).1 = 14 := by rw [(hae6 a0 (by rw [ht]; decide)).2]; exact ht
      refine lv_aload_n hx hb dX5_newName_38 rfl (lv_at hL 0 rfl) ?_
      exact hret (some v2) (ad5, q4.1, q4.2.1, q4.2.2.1, q4.2.2.2.1, q4.2.2.2.2) _ _ _ _ ⟨_, rfl, Option.some.inj h⟩ B dX5_newName_39
    · refine xa_new C B hRr xc_5 (by decide) xd_5 q833 q834 q163 h dX5_newName_16 (fun q9 ad10 h hae11 hp12 H B => ?_)
      rw [← (hae11 a0 (by rw [ht]; decide)).1] at hL
      have hp13 : (q9.1 a0).1 = 14 := by rw [(hae11 a0 (by rw [ht]; decide)).2]; exact ht
      refine lv_dup hx hb dX5_newName_19 rfl ?_
      refine lv_iconst (v := 3) hx hb dX5_newName_20 (by decide) ?_
      refine lv_aload_n hx hb dX5_newName_21 rfl (lv_at hL 0 rfl) ?_
      refine xx_gi (ci := 4) (k := 2) C B.1 xc_4 hp13 (by decide) (Nat.le_of_ble_eq_true rfl) rfl q476 (fun _ h => h) dX5_newName_22 ?_
      refine k_X6_init hp12 C B hRr q870 (Nat.le_trans (Nat.le_of_ble_eq_true rfl) hF) (Nat.le_trans (Nat.le_of_ble_eq_true rfl) hN) hL.1 (Nat.le_of_ble_eq_true rfl) h dX5_newName_25 (fun q14 ad15 h hae16 H locs B => ?_)
      rw [← (hae16 a0 (by rw [hp13]; decide)).1] at hL
      have hp17 : (q14.1 a0).1 = 14 := by rw [(hae16 a0 (by rw [hp13]; decide)).2]; exact hp13
      rw [← (hae16 nx (by rw [hp12]; decide)).1]
      have hp18 : (q14.1 nx).1 = 15 := by rw [(hae16 nx (by rw [hp12]; decide)).2]; exact hp12
      refine vx_athrow hx hb dX5_newName_28 ?_
      exact hthr nx (ad15, q14.1, q14.2.1, q14.2.2.1, q14.2.2.2.1, q14.2.2.2.2) _ _ _ _ _ (Option.some.inj h) hp18 B
  · refine lv_aload_n hx hb dX5_newName_7 rfl (lv_at hL 0 rfl) ?_
    refine k_X5_wrong ht C B hRr q829 (Nat.le_trans (Nat.le_of_ble_eq_true rfl) hF) (Nat.le_trans (Nat.le_of_ble_eq_true rfl) hN) hL.1 (Nat.le_of_ble_eq_true rfl) h dX5_newName_8 (fun q19 ad20 h hae21 H locs B => ?_)
    rw [← (hae21 a0 (by rw [ht]; decide)).1] at hL
    have hp22 : (q19.2.1 a0).1 = 14 := by rw [(hae21 a0 (by rw [ht]; decide)).2]; exact ht
    refine xx_is h (fun hp23 h => ?_)
    refine vx_athrow hx hb dX5_newName_11 ?_
    exact hthr q19.1 (ad20, q19.2.1, q19.2.2.1, q19.2.2.2.1, q19.2.2.2.2.1, q19.2.2.2.2.2) _ _ _ _ _ (Option.some.inj h) hp23 B
theorem k_X5_newName {p : Program} {l : Launch} {e : Env} {R : Room} {s : State} {m : MethodId} {args : Array Value} {below : List Frame} {meth : Method} {c : Code} {H : Heap} {locs : List Loc} {Q : State → Prop} {pc : Nat} {ls : Array Slot} {rest : List Value} {cc : ByteArray} {nL : Nat} {D : va_G} {cA : Nat → ClassId} {a9 : Nat → Nat} {h9 : HK} {n0 m0 cN cS : Nat} {ad : Nat → Nat} {hk : HK} {nx ns : Nat} {A : Nat → Prop} {gi : GI} {gr : GR} {α : Type} {r : α} {own : String} {idx : Nat} {a0 : Nat} {x1 : Int32} {ff : ((Nat × HK × Nat × Nat × GI × GR) ⊕ (Nat × HK × Nat × Nat × GI × GR)) → Option α} (ht : (hk a0).1 = 14) (C : CallFix p m c cc nL s args lw_all own) (B : XBA D cA a9 h9 n0 m0 cN cS ad hk nx ns A s gi gr H locs) (hRr : R.cells = cN - n0 ∧ R.slots = cS - m0) (hq : Cond.methodLink own idx yX5_newName ∈ lw_all) (hF : 9 ≤ R.frames) (hN : 243 ≤ R.locals) (hs : ls.size = nL) (hw : (rest.map fun v => v.category).sum ≤ 8) (h : (g_cc (fun c1 c2 => f_X5_newName c1 c2 hk nx ns gi gr a0 x1) (fun z : (Nat × HK × Nat × Nat × GI × GR) ⊕ (Nat × HK × Nat × Nat × GI × GR) => Sum.elim (fun t : Nat × HK × Nat × Nat × GI × GR => t.2.2.1) (fun q : Nat × HK × Nat × Nat × GI × GR => q.2.2.1) z) (fun z : (Nat × HK × Nat × Nat × GI × GR) ⊕ (Nat × HK × Nat × Nat × GI × GR) => Sum.elim (fun t : Nat × HK × Nat × Nat × GI × GR => t.2.2.2.1) (fun q : Nat × HK × Nat × Nat × GI × GR => q.2.2.2.1) z) cN cS nx ns).bind ff = some r) (hdg : decode cc pc = .ok (.invokevirtual idx, 3)) (kx : ∀ (t : Nat × HK × Nat × Nat × GI × GR) (ad' : Nat → Nat), ff (.inl t) = some r → (t.2.1 t.1).1 = 15 → (∀ i, (hk i).1 < 1000 → ad' i = ad i ∧ t.2.1 i = hk i) → ∀ (H' : Heap) (locs' : List Loc), XBA D cA a9 h9 n0 m0 cN cS ad' t.2.1 t.2.2.1 t.2.2.2.1 A s t.2.2.2.2.1 t.2.2.2.2.2 H' locs' → vx_W p l e R s m args below meth c H' locs' (t.2.2.1 - n0) (t.2.2.2.1 - m0) Q (F0 m pc ls rest) (ad' t.1)) (kk : ∀ (q : Nat × HK × Nat × Nat × GI × GR) (ad' : Nat → Nat), ff (.inr q) = some r → (∀ i, (hk i).1 < 1000 → ad' i = ad i ∧ q.2.1 i = hk i) → ∀ (H' : Heap) (locs' : List Loc), XBA D cA a9 h9 n0 m0 cN cS ad' q.2.1 q.2.2.1 q.2.2.2.1 A s q.2.2.2.2.1 q.2.2.2.2.2 H' locs' → W p l e R s m args below meth c H' locs' (q.2.2.1 - n0) (q.2.2.2.1 - m0) Q (F0 m (pc + 3) ls (.ref (ad' q.1) :: rest))) : W p l e R s m args below meth c H locs (nx - n0) (ns - m0) Q (F0 m pc ls (.int x1 :: .ref (ad a0) :: rest)) := by
  obtain ⟨z, h1, h2⟩ := g_ob h
  obtain ⟨h3, c1, c2, c3, c4⟩ := g_cc_of h1
  refine xt_cVR (As := [.int x1]) (rest := rest) (n := 1) (qn := (fun z : (Nat × HK × Nat × Nat × GI × GR) ⊕ (Nat × HK × Nat × Nat × GI × GR) => Sum.elim (fun t : Nat × HK × Nat × Nat × GI × GR => t.2.2.1) (fun q : Nat × HK × Nat × Nat × GI × GR => q.2.2.1) z) z) (qs := (fun z : (Nat × HK × Nat × Nat × GI × GR) ⊕ (Nat × HK × Nat × Nat × GI × GR) => Sum.elim (fun t : Nat × HK × Nat × Nat × GI × GR => t.2.2.2.1) (fun q : Nat × HK × Nat × Nat × GI × GR => q.2.2.2.1) z) z) xc_4 ht (by decide) C B hRr (fun sz => w_X5_newName l D cA ad _ _ hk nx ns gi gr a0 x1 ht ⟨c1, c3⟩ z h3 sz) hq q750 qs7 q151 q751 (by decide +kernel) ⟨c1, c2, c3, c4⟩ (fun v u hp => ?_) (fun x hp => ?_) ⟨hF, hN⟩ rfl hs hw hdg (fun w u H9 locs9 hp hw9 hae B9 => ?_) (fun v u H9 locs9 hp hae B9 => ?_)
  · have hp := hp
    obtain ⟨v9, rfl, rfl⟩ := hp
    exact ⟨rfl, rfl⟩
  · have hp := hp
    subst hp
    exact ⟨rfl, rfl⟩
  · have hp := hp
    subst hp
    exact kx _ u.1 h2 hw9 hae H9 locs9 B9
  · have hp := hp
    obtain ⟨v9, rfl, rfl⟩ := hp
    exact kk _ u.1 h2 hae H9 locs9 B9
def f_X5_old (cN cS : Nat) (hk : HK) (nx ns : Nat) (gi : GI) (gr : GR) (a0 : Nat) (x1 : Int32) : Option ((Nat × HK × Nat × Nat × GI × GR) ⊕ (Int32 × HK × Nat × Nat × GI × GR)) :=
  (f_X5_isName hk gi gr a0).bind fun q1 =>
  if q1.1 = 0 then
  ((g_cc (fun c1 c2 => f_X5_wrong c1 c2 hk nx ns q1.2 gr a0) (fun q : Nat × HK × Nat × Nat × GI × GR => q.2.2.1) (fun q : Nat × HK × Nat × Nat × GI × GR => q.2.2.2.1) cN cS nx ns).bind fun q12 =>
  (g_is q12.2.1 q12.1 15).bind fun _ =>
  some (.inl (q12.1, q12.2.1, q12.2.2.1, q12.2.2.2.1, q12.2.2.2.2.1, q12.2.2.2.2.2)))
  else
  (if 0 ≤ x1 then
  (some (.inr (x1, hk, nx, ns, q1.2, gr)))
  else
  ((g_new cN cS nx ns 15 0 8 hk q1.2 gr).bind fun q2 =>
  (g_cc (fun c1 c2 => f_X6_init c1 c2 q2.1 (nx + 1) (ns + 8) q2.2.1 q2.2.2 nx 5 (q2.2.1 a0 2)) (fun q : HK × Nat × Nat × GI × GR => q.2.1) (fun q : HK × Nat × Nat × GI × GR => q.2.2.1) cN cS (nx + 1) (ns + 8)).bind fun q7 =>
  some (.inl (nx, q7.1, q7.2.1, q7.2.2.1, q7.2.2.2.1, q7.2.2.2.2))))
set_option maxHeartbeats 400000 in
theorem w_X5_old (l : Launch) (D : va_G) (cA : Nat → ClassId) (ad : Nat → Nat) (cN cS : Nat) (hk : HK) (nx ns : Nat) (gi : GI) (gr : GR) (a0 : Nat) (x1 : Int32) (ht : (hk a0).1 = 14) (hcap : nx ≤ cN ∧ ns ≤ cS) (r : (Nat × HK × Nat × Nat × GI × GR) ⊕ (Int32 × HK × Nat × Nat × GI × GR)) (h : f_X5_old cN cS hk nx ns gi gr a0 x1 = some r) (sz : Nat) : vx_Met l yX5_old (ws_ yX5_old cX5_old 2 (some .int)) ({ frames := 6, cells := cN - nx, slots := cS - ns, locals := 176 } : Room) (va_Pc [.ref (ad a0), .int x1] (XPre D cA ad hk nx gi gr sz)) (va_Qi (fun (v : Int32) (u : XU) => Sum.inr (v, u.2) = r) (XPostA D cA ad hk nx sz) (XA ad nx sz)) (vx_X (fun x : XV => Sum.inl (x.1, x.2.2) = r) (XPostX D cA ad hk nx sz) (XA ad nx sz)) (cN - nx) (cS - ns) (XA ad nx sz) := by
  refine xt_stI (own := RX5) (P := (fun (v : Int32) (u : XU) => Sum.inr (v, u.2) = r)) (PX := (fun x : XV => Sum.inl (x.1, x.2.2) = r)) (by decide +kernel) rfl (Nat.le_of_ble_eq_true rfl) hcap (fun p e s m args below meth c R Q A ls C hmn hF hN hRr B hret hthr hL => ?_) sz
  have hx := C.1
  have hb := C.2.1
  have hL : lv_has ls 2 [(0, .ref (ad a0)), (1, .int x1)] := hL
  unfold f_X5_old at h
  refine lv_aload_n hx hb dX5_old_0 rfl (lv_at hL 0 rfl) ?_
  refine k_X5_isName ht C B.1 q752 (Nat.le_trans (Nat.le_of_ble_eq_true rfl) hF) (Nat.le_trans (Nat.le_of_ble_eq_true rfl) hN) hL.1 (Nat.le_of_ble_eq_true rfl) (xa_z hRr B) h dX5_old_1 (fun q1 h H locs B2 => ?_)
  have B := And.intro B2 B.2
  refine gg_if_ne hx hb 12 h dX5_old_4 (by decide) (fun h => ?_) (fun h => ?_)
  · refine lv_iload_n hx hb dX5_old_12 rfl (lv_at hL 1 rfl) ?_
    refine gg_if_ge hx hb 29 h dX5_old_13 (by decide) (fun h => ?_) (fun h => ?_)
    · refine lv_iload_n hx hb dX5_old_29 rfl (lv_at hL 1 rfl) ?_
      exact hret _ (ad, hk, nx, ns, q1.2, gr) _ _ _ _ (Option.some.inj h) B dX5_old_30
    · refine xa_new C B hRr xc_5 (by decide) xd_5 q833 q834 q163 h dX5_old_16 (fun q2 ad3 h hae4 hp5 H B => ?_)
      rw [← (hae4 a0 (by rw [ht]; decide)).1] at hL
      have hp6 : (q2.1 a0).1 = 14 := by rw [(hae4 a0 (by rw [ht]; decide)).2]; exact ht
      refine lv_dup hx hb dX5_old_19 rfl ?_
      refine lv_iconst (v := 5) hx hb dX5_old_20 (by decide) ?_
      refine lv_aload_n hx hb dX5_old_21 rfl (lv_at hL 0 rfl) ?_
      refine xx_gi (ci := 4) (k := 2) C B.1 xc_4 hp6 (by decide) (Nat.le_of_ble_eq_true rfl) rfl q476 (fun _ h => h) dX5_old_22 ?_
      refine k_X6_init hp5 C B hRr q870 (Nat.le_trans (Nat.le_of_ble_eq_true rfl) hF) (Nat.le_trans (Nat.le_of_ble_eq_true rfl) hN) hL.1 (Nat.le_of_ble_eq_true rfl) h dX5_old_25 (fun q7 ad8 h hae9 H locs B => ?_)
      rw [← (hae9 a0 (by rw [hp6]; decide)).1] at hL
      have hp10 : (q7.1 a0).1 = 14 := by rw [(hae9 a0 (by rw [hp6]; decide)).2]; exact hp6
      rw [← (hae9 nx (by rw [hp5]; decide)).1]
      have hp11 : (q7.1 nx).1 = 15 := by rw [(hae9 nx (by rw [hp5]; decide)).2]; exact hp5
      refine vx_athrow hx hb dX5_old_28 ?_
      exact hthr nx (ad8, q7.1, q7.2.1, q7.2.2.1, q7.2.2.2.1, q7.2.2.2.2) _ _ _ _ _ (Option.some.inj h) hp11 B
  · refine lv_aload_n hx hb dX5_old_7 rfl (lv_at hL 0 rfl) ?_
    refine k_X5_wrong ht C B hRr q829 (Nat.le_trans (Nat.le_of_ble_eq_true rfl) hF) (Nat.le_trans (Nat.le_of_ble_eq_true rfl) hN) hL.1 (Nat.le_of_ble_eq_true rfl) h dX5_old_8 (fun q12 ad13 h hae14 H locs B => ?_)
    rw [← (hae14 a0 (by rw [ht]; decide)).1] at hL
    have hp15 : (q12.2.1 a0).1 = 14 := by rw [(hae14 a0 (by rw [ht]; decide)).2]; exact ht
    refine xx_is h (fun hp16 h => ?_)
    refine vx_athrow hx hb dX5_old_11 ?_
    exact hthr q12.1 (ad13, q12.2.1, q12.2.2.1, q12.2.2.2.1, q12.2.2.2.2.1, q12.2.2.2.2.2) _ _ _ _ _ (Option.some.inj h) hp16 B
theorem k_X5_old {p : Program} {l : Launch} {e : Env} {R : Room} {s : State} {m : MethodId} {args : Array Value} {below : List Frame} {meth : Method} {c : Code} {H : Heap} {locs : List Loc} {Q : State → Prop} {pc : Nat} {ls : Array Slot} {rest : List Value} {cc : ByteArray} {nL : Nat} {D : va_G} {cA : Nat → ClassId} {a9 : Nat → Nat} {h9 : HK} {n0 m0 cN cS : Nat} {ad : Nat → Nat} {hk : HK} {nx ns : Nat} {A : Nat → Prop} {gi : GI} {gr : GR} {α : Type} {r : α} {own : String} {idx : Nat} {a0 : Nat} {x1 : Int32} {ff : ((Nat × HK × Nat × Nat × GI × GR) ⊕ (Int32 × HK × Nat × Nat × GI × GR)) → Option α} (ht : (hk a0).1 = 14) (C : CallFix p m c cc nL s args lw_all own) (B : XBA D cA a9 h9 n0 m0 cN cS ad hk nx ns A s gi gr H locs) (hRr : R.cells = cN - n0 ∧ R.slots = cS - m0) (hq : Cond.methodLink own idx yX5_old ∈ lw_all) (hF : 7 ≤ R.frames) (hN : 197 ≤ R.locals) (hs : ls.size = nL) (hw : (rest.map fun v => v.category).sum ≤ 8) (h : (g_cc (fun c1 c2 => f_X5_old c1 c2 hk nx ns gi gr a0 x1) (fun z : (Nat × HK × Nat × Nat × GI × GR) ⊕ (Int32 × HK × Nat × Nat × GI × GR) => Sum.elim (fun t : Nat × HK × Nat × Nat × GI × GR => t.2.2.1) (fun q : Int32 × HK × Nat × Nat × GI × GR => q.2.2.1) z) (fun z : (Nat × HK × Nat × Nat × GI × GR) ⊕ (Int32 × HK × Nat × Nat × GI × GR) => Sum.elim (fun t : Nat × HK × Nat × Nat × GI × GR => t.2.2.2.1) (fun q : Int32 × HK × Nat × Nat × GI × GR => q.2.2.2.1) z) cN cS nx ns).bind ff = some r) (hdg : decode cc pc = .ok (.invokevirtual idx, 3)) (kx : ∀ (t : Nat × HK × Nat × Nat × GI × GR) (ad' : Nat → Nat), ff (.inl t) = some r → (t.2.1 t.1).1 = 15 → (∀ i, (hk i).1 < 1000 → ad' i = ad i ∧ t.2.1 i = hk i) → ∀ (H' : Heap) (locs' : List Loc), XBA D cA a9 h9 n0 m0 cN cS ad' t.2.1 t.2.2.1 t.2.2.2.1 A s t.2.2.2.2.1 t.2.2.2.2.2 H' locs' → vx_W p l e R s m args below meth c H' locs' (t.2.2.1 - n0) (t.2.2.2.1 - m0) Q (F0 m pc ls rest) (ad' t.1)) (kk : ∀ (q : Int32 × HK × Nat × Nat × GI × GR) (ad' : Nat → Nat), ff (.inr q) = some r → (∀ i, (hk i).1 < 1000 → ad' i = ad i ∧ q.2.1 i = hk i) → ∀ (H' : Heap) (locs' : List Loc), XBA D cA a9 h9 n0 m0 cN cS ad' q.2.1 q.2.2.1 q.2.2.2.1 A s q.2.2.2.2.1 q.2.2.2.2.2 H' locs' → W p l e R s m args below meth c H' locs' (q.2.2.1 - n0) (q.2.2.2.1 - m0) Q (F0 m (pc + 3) ls (.int q.1 :: rest))) : W p l e R s m args below meth c H locs (nx - n0) (ns - m0) Q (F0 m pc ls (.int x1 :: .ref (ad a0) :: rest)) := by
  obtain ⟨z, h1, h2⟩ := g_ob h
  obtain ⟨h3, c1, c2, c3, c4⟩ := g_cc_of h1
  refine xt_cVI (As := [.int x1]) (rest := rest) (n := 1) (qn := (fun z : (Nat × HK × Nat × Nat × GI × GR) ⊕ (Int32 × HK × Nat × Nat × GI × GR) => Sum.elim (fun t : Nat × HK × Nat × Nat × GI × GR => t.2.2.1) (fun q : Int32 × HK × Nat × Nat × GI × GR => q.2.2.1) z) z) (qs := (fun z : (Nat × HK × Nat × Nat × GI × GR) ⊕ (Int32 × HK × Nat × Nat × GI × GR) => Sum.elim (fun t : Nat × HK × Nat × Nat × GI × GR => t.2.2.2.1) (fun q : Int32 × HK × Nat × Nat × GI × GR => q.2.2.2.1) z) z) xc_4 ht (by decide) C B hRr (fun sz => w_X5_old l D cA ad _ _ hk nx ns gi gr a0 x1 ht ⟨c1, c3⟩ z h3 sz) hq q1033 qs20 q151 q1034 (by decide +kernel) ⟨c1, c2, c3, c4⟩ (fun v u hp => ?_) (fun x hp => ?_) ⟨hF, hN⟩ rfl hs hw hdg (fun w u H9 locs9 hp hw9 hae B9 => ?_) (fun v u H9 locs9 hp hae B9 => ?_)
  · have hp := hp
    subst hp
    exact ⟨rfl, rfl⟩
  · have hp := hp
    subst hp
    exact ⟨rfl, rfl⟩
  · have hp := hp
    subst hp
    exact kx _ u.1 h2 hw9 hae H9 locs9 B9
  · have hp := hp
    subst hp
    exact kk _ u.1 h2 hae H9 locs9 B9
def f_X5_oldMan_j31 (cN cS : Nat) (a0 : Nat) (hkj31 : HK) (nxj31 : Nat) (nsj31 : Nat) (gij31 : GI) (grj31 : GR) (t0j31 : Int32) (t1j31 : Nat) (t2j31 : Nat) : Option ((Nat × HK × Nat × Nat × GI × GR) ⊕ (Nat × HK × Nat × Nat × GI × GR)) :=
  (g_is hkj31 t1j31 14).bind fun _ =>
  (g_ok hkj31 t2j31).bind fun _ =>
  (g_cc (fun c1 c2 => f_X5_old c1 c2 hkj31 nxj31 nsj31 gij31 grj31 t1j31 t0j31) (fun z : (Nat × HK × Nat × Nat × GI × GR) ⊕ (Int32 × HK × Nat × Nat × GI × GR) => Sum.elim (fun t : Nat × HK × Nat × Nat × GI × GR => t.2.2.1) (fun q : Int32 × HK × Nat × Nat × GI × GR => q.2.2.1) z) (fun z : (Nat × HK × Nat × Nat × GI × GR) ⊕ (Int32 × HK × Nat × Nat × GI × GR) => Sum.elim (fun t : Nat × HK × Nat × Nat × GI × GR => t.2.2.2.1) (fun q : Int32 × HK × Nat × Nat × GI × GR => q.2.2.2.1) z) cN cS nxj31 nsj31).bind fun q9 => Sum.elim (fun (t10 : Nat × HK × Nat × Nat × GI × GR) => some (.inl (t10.1, t10.2.1, t10.2.2.1, t10.2.2.2.1, t10.2.2.2.2.1, t10.2.2.2.2.2))) (fun (q9 : Int32 × HK × Nat × Nat × GI × GR) =>
  (g_is q9.2.1 t2j31 22).bind fun _ =>
  (f_J2_get q9.2.1 q9.2.2.2.2.1 q9.2.2.2.2.2 t2j31 q9.1).bind fun q17 =>
  (g_is q9.2.1 q17 16).bind fun _ =>
  some (.inr (q17, q9.2.1, q9.2.2.1, q9.2.2.2.1, q9.2.2.2.2.1, q9.2.2.2.2.2))) q9
def f_X5_oldMan (cN cS : Nat) (hk : HK) (nx ns : Nat) (gi : GI) (gr : GR) (a0 : Nat) : Option ((Nat × HK × Nat × Nat × GI × GR) ⊕ (Nat × HK × Nat × Nat × GI × GR)) :=
  (gr a0 9).bind fun v1 =>
  (g_is hk v1 11).bind fun _ =>
  (gr v1 1).bind fun v4 =>
  if (gi a0 1) = 1 then
  ((gr a0 9).bind fun v19 =>
  (gr a0 8).bind fun v21 =>
  (g_is hk v19 11).bind fun _ =>
  (f_X1_man hk gi gr v19 v21).bind fun q24 =>
  f_X5_oldMan_j31 cN cS a0 hk nx ns gi gr q24 a0 v4)
  else
  (f_X5_oldMan_j31 cN cS a0 hk nx ns gi gr ((-1)) a0 v4)
set_option maxHeartbeats 400000 in
theorem w_X5_oldMan (l : Launch) (D : va_G) (cA : Nat → ClassId) (ad : Nat → Nat) (cN cS : Nat) (hk : HK) (nx ns : Nat) (gi : GI) (gr : GR) (a0 : Nat) (ht : (hk a0).1 = 14) (hcap : nx ≤ cN ∧ ns ≤ cS) (r : (Nat × HK × Nat × Nat × GI × GR) ⊕ (Nat × HK × Nat × Nat × GI × GR)) (h : f_X5_oldMan cN cS hk nx ns gi gr a0 = some r) (sz : Nat) : vx_Met l yX5_oldMan (ws_ yX5_oldMan cX5_oldMan 1 (some (.object "WeatherWages$Man"))) ({ frames := 7, cells := cN - nx, slots := cS - ns, locals := 197 } : Room) (va_Pc [.ref (ad a0)] (XPre D cA ad hk nx gi gr sz)) (va_Qq (fun o u => ∃ v : Option Nat, o = v.map u.1 ∧ (fun (v : Option Nat) (u : XU) => ∃ v9, v = some v9 ∧ Sum.inr (v9, u.2) = r) v u) (XPostA D cA ad hk nx sz) (XA ad nx sz)) (vx_X (fun x : XV => Sum.inl (x.1, x.2.2) = r) (XPostX D cA ad hk nx sz) (XA ad nx sz)) (cN - nx) (cS - ns) (XA ad nx sz) := by
  refine xt_stR (Or.inl ⟨_, rfl⟩) (own := RX5) (P := (fun (v : Option Nat) (u : XU) => ∃ v9, v = some v9 ∧ Sum.inr (v9, u.2) = r)) (PX := (fun x : XV => Sum.inl (x.1, x.2.2) = r)) (by decide +kernel) rfl (Nat.le_of_ble_eq_true rfl) hcap (fun p e s m args below meth c R Q A ls C hmn hF hN hRr B hret hthr hL => ?_) sz
  have hx := C.1
  have hb := C.2.1
  have hL : lv_has ls 1 [(0, .ref (ad a0))] := hL
  unfold f_X5_oldMan at h
  have hj31 : ∀ (hkj31 : HK) (nxj31 : Nat) (nsj31 : Nat) (gij31 : GI) (grj31 : GR) (t0j31 : Int32) (t1j31 : Nat) (t2j31 : Nat) (adj31 : Nat → Nat) (H : Heap) (locs : List Loc) (ls : Array Slot), f_X5_oldMan_j31 cN cS a0 hkj31 nxj31 nsj31 gij31 grj31 t0j31 t1j31 t2j31 = some r → XBA D cA ad hk nx ns cN cS adj31 hkj31 nxj31 nsj31 A s gij31 grj31 H locs → lv_has ls 1 [] → W p l e R s m args below meth c H locs (nxj31 - nx) (nsj31 - ns) Q (F0 m 31 ls [.int t0j31, .ref (adj31 t1j31), .ref (adj31 t2j31)]) := by
    intro hkj31 nxj31 nsj31 gij31 grj31 t0j31 t1j31 t2j31 adj31 H locs ls h B hL
    unfold f_X5_oldMan_j31 at h
    have ht6 : (hkj31 a0).1 = 14 := by rw [(B.2.1 a0 (by rw [ht]; decide)).2]; exact ht
    refine xx_is h (fun hp7 h => ?_)
    refine xx_ok h (fun ok8 h => ?_)
    refine k_X5_old hp7 C B hRr q1031 (Nat.le_trans (Nat.le_of_ble_eq_true rfl) hF) (Nat.le_trans (Nat.le_of_ble_eq_true rfl) hN) hL.1 (Nat.le_of_ble_eq_true rfl) h dX5_oldMan_31 (fun t10 ad12 h hw14 _ H locs B => ?_) (fun q9 ad11 h hae13 H locs B => ?_)
    · exact hthr t10.1 (ad12, t10.2.1, t10.2.2.1, t10.2.2.2.1, t10.2.2.2.2.1, t10.2.2.2.2.2) _ _ _ _ _ (Option.some.inj h) hw14 B
    · have h := g_elr h
      rw [← (hae13 t2j31 ok8).1]
      have ok15 : (q9.2.1 t2j31).1 < 1000 := by rw [(hae13 t2j31 ok8).2]; exact ok8
      refine xx_is h (fun hp16 h => ?_)
      refine k_J2_get hp16 C B.1 q1035 (Nat.le_trans (Nat.le_of_ble_eq_true rfl) hF) (Nat.le_trans (Nat.le_of_ble_eq_true rfl) hN) hL.1 (Nat.le_of_ble_eq_true rfl) (xa_z hRr B) h dX5_oldMan_34 (fun q17 h H locs B2 => ?_)
      have B := And.intro B2 B.2
      refine xx_is h (fun hp18 h => ?_)
      refine xx_cast C B.1 xc_6 hp18 (by decide) q960 dX5_oldMan_37 ?_
      exact hret (some q17) (ad11, q9.2.1, q9.2.2.1, q9.2.2.2.1, q9.2.2.2.2.1, q9.2.2.2.2.2) _ _ _ _ ⟨_, rfl, Option.some.inj h⟩ B dX5_oldMan_40
  refine lv_aload_n hx hb dX5_oldMan_0 rfl (lv_at hL 0 rfl) ?_
  refine xx_gr (ci := 4) (k := 9) C B.1 xc_4 ht (by decide) (Nat.le_of_ble_eq_true rfl) rfl q483 (fun _ h => h) h dX5_oldMan_1 (fun v1 ok2 h => ?_)
  refine xx_is h (fun hp3 h => ?_)
  refine xx_gr (ci := 1) (k := 1) C B.1 xc_1 hp3 (by decide) (Nat.le_of_ble_eq_true rfl) rfl q258 (fun _ h => h) h dX5_oldMan_4 (fun v4 ok5 h => ?_)
  refine lv_aload_n hx hb dX5_oldMan_7 rfl (lv_at hL 0 rfl) ?_
  refine lv_aload_n hx hb dX5_oldMan_8 rfl (lv_at hL 0 rfl) ?_
  refine xx_gi (ci := 4) (k := 1) C B.1 xc_4 ht (by decide) (Nat.le_of_ble_eq_true rfl) rfl q475 (fun _ h => h) dX5_oldMan_9 ?_
  refine lv_iconst (v := 1) hx hb dX5_oldMan_12 (by decide) ?_
  refine gg_icmp_ne hx hb 30 h dX5_oldMan_13 (by decide) (fun h => ?_) (fun h => ?_)
  · refine lv_iconst (v := (-1)) hx hb dX5_oldMan_30 (by decide) ?_
    exact hj31 _ _ _ _ _ _ _ _ _ _ _ _ h B (lv_sub hL [] rfl)
  · refine lv_aload_n hx hb dX5_oldMan_16 rfl (lv_at hL 0 rfl) ?_
    refine xx_gr (ci := 4) (k := 9) C B.1 xc_4 ht (by decide) (Nat.le_of_ble_eq_true rfl) rfl q483 (fun _ h => h) h dX5_oldMan_17 (fun v19 ok20 h => ?_)
    refine lv_aload_n hx hb dX5_oldMan_20 rfl (lv_at hL 0 rfl) ?_
    refine xx_gr (ci := 4) (k := 8) C B.1 xc_4 ht (by decide) (Nat.le_of_ble_eq_true rfl) rfl q482 (fun _ h => h) h dX5_oldMan_21 (fun v21 ok22 h => ?_)
    refine xx_is h (fun hp23 h => ?_)
    refine k_X1_man hp23 C B.1 q962 (Nat.le_trans (Nat.le_of_ble_eq_true rfl) hF) (Nat.le_trans (Nat.le_of_ble_eq_true rfl) hN) hL.1 (Nat.le_of_ble_eq_true rfl) (xa_z hRr B) h dX5_oldMan_24 (fun q24 h H locs B2 => ?_)
    have B := And.intro B2 B.2
    refine lv_goto (tgt := 31) hx hb dX5_oldMan_27 (by decide) ?_
    exact hj31 _ _ _ _ _ _ _ _ _ _ _ _ h B (lv_sub hL [] rfl)
theorem k_X5_oldMan {p : Program} {l : Launch} {e : Env} {R : Room} {s : State} {m : MethodId} {args : Array Value} {below : List Frame} {meth : Method} {c : Code} {H : Heap} {locs : List Loc} {Q : State → Prop} {pc : Nat} {ls : Array Slot} {rest : List Value} {cc : ByteArray} {nL : Nat} {D : va_G} {cA : Nat → ClassId} {a9 : Nat → Nat} {h9 : HK} {n0 m0 cN cS : Nat} {ad : Nat → Nat} {hk : HK} {nx ns : Nat} {A : Nat → Prop} {gi : GI} {gr : GR} {α : Type} {r : α} {own : String} {idx : Nat} {a0 : Nat} {ff : ((Nat × HK × Nat × Nat × GI × GR) ⊕ (Nat × HK × Nat × Nat × GI × GR)) → Option α} (ht : (hk a0).1 = 14) (C : CallFix p m c cc nL s args lw_all own) (B : XBA D cA a9 h9 n0 m0 cN cS ad hk nx ns A s gi gr H locs) (hRr : R.cells = cN - n0 ∧ R.slots = cS - m0) (hq : Cond.methodLink own idx yX5_oldMan ∈ lw_all) (hF : 8 ≤ R.frames) (hN : 217 ≤ R.locals) (hs : ls.size = nL) (hw : (rest.map fun v => v.category).sum ≤ 8) (h : (g_cc (fun c1 c2 => f_X5_oldMan c1 c2 hk nx ns gi gr a0) (fun z : (Nat × HK × Nat × Nat × GI × GR) ⊕ (Nat × HK × Nat × Nat × GI × GR) => Sum.elim (fun t : Nat × HK × Nat × Nat × GI × GR => t.2.2.1) (fun q : Nat × HK × Nat × Nat × GI × GR => q.2.2.1) z) (fun z : (Nat × HK × Nat × Nat × GI × GR) ⊕ (Nat × HK × Nat × Nat × GI × GR) => Sum.elim (fun t : Nat × HK × Nat × Nat × GI × GR => t.2.2.2.1) (fun q : Nat × HK × Nat × Nat × GI × GR => q.2.2.2.1) z) cN cS nx ns).bind ff = some r) (hdg : decode cc pc = .ok (.invokevirtual idx, 3)) (kx : ∀ (t : Nat × HK × Nat × Nat × GI × GR) (ad' : Nat → Nat), ff (.inl t) = some r → (t.2.1 t.1).1 = 15 → (∀ i, (hk i).1 < 1000 → ad' i = ad i ∧ t.2.1 i = hk i) → ∀ (H' : Heap) (locs' : List Loc), XBA D cA a9 h9 n0 m0 cN cS ad' t.2.1 t.2.2.1 t.2.2.2.1 A s t.2.2.2.2.1 t.2.2.2.2.2 H' locs' → vx_W p l e R s m args below meth c H' locs' (t.2.2.1 - n0) (t.2.2.2.1 - m0) Q (F0 m pc ls rest) (ad' t.1)) (kk : ∀ (q : Nat × HK × Nat × Nat × GI × GR) (ad' : Nat → Nat), ff (.inr q) = some r → (∀ i, (hk i).1 < 1000 → ad' i = ad i ∧ q.2.1 i = hk i) → ∀ (H' : Heap) (locs' : List Loc), XBA D cA a9 h9 n0 m0 cN cS ad' q.2.1 q.2.2.1 q.2.2.2.1 A s q.2.2.2.2.1 q.2.2.2.2.2 H' locs' → W p l e R s m args below meth c H' locs' (q.2.2.1 - n0) (q.2.2.2.1 - m0) Q (F0 m (pc + 3) ls (.ref (ad' q.1) :: rest))) : W p l e R s m args below meth c H locs (nx - n0) (ns - m0) Q (F0 m pc ls (.ref (ad a0) :: rest)) := by
  obtain ⟨z, h1, h2⟩ := g_ob h
  obtain ⟨h3, c1, c2, c3, c4⟩ := g_cc_of h1
  refine xt_cVR (As := []) (rest := rest) (n := 0) (qn := (fun z : (Nat × HK × Nat × Nat × GI × GR) ⊕ (Nat × HK × Nat × Nat × GI × GR) => Sum.elim (fun t : Nat × HK × Nat × Nat × GI × GR => t.2.2.1) (fun q : Nat × HK × Nat × Nat × GI × GR => q.2.2.1) z) z) (qs := (fun z : (Nat × HK × Nat × Nat × GI × GR) ⊕ (Nat × HK × Nat × Nat × GI × GR) => Sum.elim (fun t : Nat × HK × Nat × Nat × GI × GR => t.2.2.2.1) (fun q : Nat × HK × Nat × Nat × GI × GR => q.2.2.2.1) z) z) xc_4 ht (by decide) C B hRr (fun sz => w_X5_oldMan l D cA ad _ _ hk nx ns gi gr a0 ht ⟨c1, c3⟩ z h3 sz) hq q1029 qs19 q151 q1030 (by decide +kernel) ⟨c1, c2, c3, c4⟩ (fun v u hp => ?_) (fun x hp => ?_) ⟨hF, hN⟩ rfl hs hw hdg (fun w u H9 locs9 hp hw9 hae B9 => ?_) (fun v u H9 locs9 hp hae B9 => ?_)
  · have hp := hp
    obtain ⟨v9, rfl, rfl⟩ := hp
    exact ⟨rfl, rfl⟩
  · have hp := hp
    subst hp
    exact ⟨rfl, rfl⟩
  · have hp := hp
    subst hp
    exact kx _ u.1 h2 hw9 hae H9 locs9 B9
  · have hp := hp
    obtain ⟨v9, rfl, rfl⟩ := hp
    exact kk _ u.1 h2 hae H9 locs9 B9
def f_X5_oldKind_j24 (cN cS : Nat) (a0 : Nat) (hkj24 : HK) (nxj24 : Nat) (nsj24 : Nat) (gij24 : GI) (grj24 : GR) (t0j24 : Int32) (t1j24 : Nat) : Option ((Nat × HK × Nat × Nat × GI × GR) ⊕ (Int32 × HK × Nat × Nat × GI × GR)) :=
  (g_is hkj24 t1j24 14).bind fun _ =>
  (g_cc (fun c1 c2 => f_X5_old c1 c2 hkj24 nxj24 nsj24 gij24 grj24 t1j24 t0j24) (fun z : (Nat × HK × Nat × Nat × GI × GR) ⊕ (Int32 × HK × Nat × Nat × GI × GR) => Sum.elim (fun t : Nat × HK × Nat × Nat × GI × GR => t.2.2.1) (fun q : Int32 × HK × Nat × Nat × GI × GR => q.2.2.1) z) (fun z : (Nat × HK × Nat × Nat × GI × GR) ⊕ (Int32 × HK × Nat × Nat × GI × GR) => Sum.elim (fun t : Nat × HK × Nat × Nat × GI × GR => t.2.2.2.1) (fun q : Int32 × HK × Nat × Nat × GI × GR => q.2.2.2.1) z) cN cS nxj24 nsj24).bind fun q9 => Sum.elim (fun (t4 : Nat × HK × Nat × Nat × GI × GR) => some (.inl (t4.1, t4.2.1, t4.2.2.1, t4.2.2.2.1, t4.2.2.2.2.1, t4.2.2.2.2.2))) (fun (q3 : Int32 × HK × Nat × Nat × GI × GR) =>
  some (.inr (q3.1, q3.2.1, q3.2.2.1, q3.2.2.2.1, q3.2.2.2.2.1, q3.2.2.2.2.2))) q9
def f_X5_oldKind (cN cS : Nat) (hk : HK) (nx ns : Nat) (gi : GI) (gr : GR) (a0 : Nat) : Option ((Nat × HK × Nat × Nat × GI × GR) ⊕ (Int32 × HK × Nat × Nat × GI × GR)) :=
  if (gi a0 1) = 1 then
  ((gr a0 9).bind fun v9 =>
  (gr a0 8).bind fun v11 =>
  (g_is hk v9 11).bind fun _ =>
  (f_X1_kind hk gi gr v9 v11).bind fun q14 =>
  f_X5_oldKind_j24 cN cS a0 hk nx ns gi gr q14 a0)
  else
  (f_X5_oldKind_j24 cN cS a0 hk nx ns gi gr ((-1)) a0)
set_option maxHeartbeats 400000 in
theorem w_X5_oldKind (l : Launch) (D : va_G) (cA : Nat → ClassId) (ad : Nat → Nat) (cN cS : Nat) (hk : HK) (nx ns : Nat) (gi : GI) (gr : GR) (a0 : Nat) (ht : (hk a0).1 = 14) (hcap : nx ≤ cN ∧ ns ≤ cS) (r : (Nat × HK × Nat × Nat × GI × GR) ⊕ (Int32 × HK × Nat × Nat × GI × GR)) (h : f_X5_oldKind cN cS hk nx ns gi gr a0 = some r) (sz : Nat) : vx_Met l yX5_oldKind (ws_ yX5_oldKind cX5_oldKind 1 (some .int)) ({ frames := 7, cells := cN - nx, slots := cS - ns, locals := 197 } : Room) (va_Pc [.ref (ad a0)] (XPre D cA ad hk nx gi gr sz)) (va_Qi (fun (v : Int32) (u : XU) => Sum.inr (v, u.2) = r) (XPostA D cA ad hk nx sz) (XA ad nx sz)) (vx_X (fun x : XV => Sum.inl (x.1, x.2.2) = r) (XPostX D cA ad hk nx sz) (XA ad nx sz)) (cN - nx) (cS - ns) (XA ad nx sz) := by
  refine xt_stI (own := RX5) (P := (fun (v : Int32) (u : XU) => Sum.inr (v, u.2) = r)) (PX := (fun x : XV => Sum.inl (x.1, x.2.2) = r)) (by decide +kernel) rfl (Nat.le_of_ble_eq_true rfl) hcap (fun p e s m args below meth c R Q A ls C hmn hF hN hRr B hret hthr hL => ?_) sz
  have hx := C.1
  have hb := C.2.1
  have hL : lv_has ls 1 [(0, .ref (ad a0))] := hL
  unfold f_X5_oldKind at h
  have hj24 : ∀ (hkj24 : HK) (nxj24 : Nat) (nsj24 : Nat) (gij24 : GI) (grj24 : GR) (t0j24 : Int32) (t1j24 : Nat) (adj24 : Nat → Nat) (H : Heap) (locs : List Loc) (ls : Array Slot), f_X5_oldKind_j24 cN cS a0 hkj24 nxj24 nsj24 gij24 grj24 t0j24 t1j24 = some r → XBA D cA ad hk nx ns cN cS adj24 hkj24 nxj24 nsj24 A s gij24 grj24 H locs → lv_has ls 1 [] → W p l e R s m args below meth c H locs (nxj24 - nx) (nsj24 - ns) Q (F0 m 24 ls [.int t0j24, .ref (adj24 t1j24)]) := by
    intro hkj24 nxj24 nsj24 gij24 grj24 t0j24 t1j24 adj24 H locs ls h B hL
    unfold f_X5_oldKind_j24 at h
    have ht1 : (hkj24 a0).1 = 14 := by rw [(B.2.1 a0 (by rw [ht]; decide)).2]; exact ht
    refine xx_is h (fun hp2 h => ?_)
    refine k_X5_old hp2 C B hRr q1031 (Nat.le_trans (Nat.le_of_ble_eq_true rfl) hF) (Nat.le_trans (Nat.le_of_ble_eq_true rfl) hN) hL.1 (Nat.le_of_ble_eq_true rfl) h dX5_oldKind_24 (fun t4 ad6 h hw8 _ H locs B => ?_) (fun q3 ad5 h hae7 H locs B => ?_)
    · exact hthr t4.1 (ad6, t4.2.1, t4.2.2.1, t4.2.2.2.1, t4.2.2.2.2.1, t4.2.2.2.2.2) _ _ _ _ _ (Option.some.inj h) hw8 B
    · have h := g_elr h
      exact hret _ (ad5, q3.2.1, q3.2.2.1, q3.2.2.2.1, q3.2.2.2.2.1, q3.2.2.2.2.2) _ _ _ _ (Option.some.inj h) B dX5_oldKind_27
  refine lv_aload_n hx hb dX5_oldKind_0 rfl (lv_at hL 0 rfl) ?_
  refine lv_aload_n hx hb dX5_oldKind_1 rfl (lv_at hL 0 rfl) ?_
  refine xx_gi (ci := 4) (k := 1) C B.1 xc_4 ht (by decide) (Nat.le_of_ble_eq_true rfl) rfl q475 (fun _ h => h) dX5_oldKind_2 ?_
  refine lv_iconst (v := 1) hx hb dX5_oldKind_5 (by decide) ?_
  refine gg_icmp_ne hx hb 23 h dX5_oldKind_6 (by decide) (fun h => ?_) (fun h => ?_)
  · refine lv_iconst (v := (-1)) hx hb dX5_oldKind_23 (by decide) ?_
    exact hj24 _ _ _ _ _ _ _ _ _ _ _ h B (lv_sub hL [] rfl)
  · refine lv_aload_n hx hb dX5_oldKind_9 rfl (lv_at hL 0 rfl) ?_
    refine xx_gr (ci := 4) (k := 9) C B.1 xc_4 ht (by decide) (Nat.le_of_ble_eq_true rfl) rfl q483 (fun _ h => h) h dX5_oldKind_10 (fun v9 ok10 h => ?_)
    refine lv_aload_n hx hb dX5_oldKind_13 rfl (lv_at hL 0 rfl) ?_
    refine xx_gr (ci := 4) (k := 8) C B.1 xc_4 ht (by decide) (Nat.le_of_ble_eq_true rfl) rfl q482 (fun _ h => h) h dX5_oldKind_14 (fun v11 ok12 h => ?_)
    refine xx_is h (fun hp13 h => ?_)
    refine k_X1_kind hp13 C B.1 q740 (Nat.le_trans (Nat.le_of_ble_eq_true rfl) hF) (Nat.le_trans (Nat.le_of_ble_eq_true rfl) hN) hL.1 (Nat.le_of_ble_eq_true rfl) (xa_z hRr B) h dX5_oldKind_17 (fun q14 h H locs B2 => ?_)
    have B := And.intro B2 B.2
    refine lv_goto (tgt := 24) hx hb dX5_oldKind_20 (by decide) ?_
    exact hj24 _ _ _ _ _ _ _ _ _ _ _ h B (lv_sub hL [] rfl)
theorem k_X5_oldKind {p : Program} {l : Launch} {e : Env} {R : Room} {s : State} {m : MethodId} {args : Array Value} {below : List Frame} {meth : Method} {c : Code} {H : Heap} {locs : List Loc} {Q : State → Prop} {pc : Nat} {ls : Array Slot} {rest : List Value} {cc : ByteArray} {nL : Nat} {D : va_G} {cA : Nat → ClassId} {a9 : Nat → Nat} {h9 : HK} {n0 m0 cN cS : Nat} {ad : Nat → Nat} {hk : HK} {nx ns : Nat} {A : Nat → Prop} {gi : GI} {gr : GR} {α : Type} {r : α} {own : String} {idx : Nat} {a0 : Nat} {ff : ((Nat × HK × Nat × Nat × GI × GR) ⊕ (Int32 × HK × Nat × Nat × GI × GR)) → Option α} (ht : (hk a0).1 = 14) (C : CallFix p m c cc nL s args lw_all own) (B : XBA D cA a9 h9 n0 m0 cN cS ad hk nx ns A s gi gr H locs) (hRr : R.cells = cN - n0 ∧ R.slots = cS - m0) (hq : Cond.methodLink own idx yX5_oldKind ∈ lw_all) (hF : 8 ≤ R.frames) (hN : 217 ≤ R.locals) (hs : ls.size = nL) (hw : (rest.map fun v => v.category).sum ≤ 8) (h : (g_cc (fun c1 c2 => f_X5_oldKind c1 c2 hk nx ns gi gr a0) (fun z : (Nat × HK × Nat × Nat × GI × GR) ⊕ (Int32 × HK × Nat × Nat × GI × GR) => Sum.elim (fun t : Nat × HK × Nat × Nat × GI × GR => t.2.2.1) (fun q : Int32 × HK × Nat × Nat × GI × GR => q.2.2.1) z) (fun z : (Nat × HK × Nat × Nat × GI × GR) ⊕ (Int32 × HK × Nat × Nat × GI × GR) => Sum.elim (fun t : Nat × HK × Nat × Nat × GI × GR => t.2.2.2.1) (fun q : Int32 × HK × Nat × Nat × GI × GR => q.2.2.2.1) z) cN cS nx ns).bind ff = some r) (hdg : decode cc pc = .ok (.invokevirtual idx, 3)) (kx : ∀ (t : Nat × HK × Nat × Nat × GI × GR) (ad' : Nat → Nat), ff (.inl t) = some r → (t.2.1 t.1).1 = 15 → (∀ i, (hk i).1 < 1000 → ad' i = ad i ∧ t.2.1 i = hk i) → ∀ (H' : Heap) (locs' : List Loc), XBA D cA a9 h9 n0 m0 cN cS ad' t.2.1 t.2.2.1 t.2.2.2.1 A s t.2.2.2.2.1 t.2.2.2.2.2 H' locs' → vx_W p l e R s m args below meth c H' locs' (t.2.2.1 - n0) (t.2.2.2.1 - m0) Q (F0 m pc ls rest) (ad' t.1)) (kk : ∀ (q : Int32 × HK × Nat × Nat × GI × GR) (ad' : Nat → Nat), ff (.inr q) = some r → (∀ i, (hk i).1 < 1000 → ad' i = ad i ∧ q.2.1 i = hk i) → ∀ (H' : Heap) (locs' : List Loc), XBA D cA a9 h9 n0 m0 cN cS ad' q.2.1 q.2.2.1 q.2.2.2.1 A s q.2.2.2.2.1 q.2.2.2.2.2 H' locs' → W p l e R s m args below meth c H' locs' (q.2.2.1 - n0) (q.2.2.2.1 - m0) Q (F0 m (pc + 3) ls (.int q.1 :: rest))) : W p l e R s m args below meth c H locs (nx - n0) (ns - m0) Q (F0 m pc ls (.ref (ad a0) :: rest)) := by
  obtain ⟨z, h1, h2⟩ := g_ob h
  obtain ⟨h3, c1, c2, c3, c4⟩ := g_cc_of h1
  refine xt_cVI (As := []) (rest := rest) (n := 0) (qn := (fun z : (Nat × HK × Nat × Nat × GI × GR) ⊕ (Int32 × HK × Nat × Nat × GI × GR) => Sum.elim (fun t : Nat × HK × Nat × Nat × GI × GR => t.2.2.1) (fun q : Int32 × HK × Nat × Nat × GI × GR => q.2.2.1) z) z) (qs := (fun z : (Nat × HK × Nat × Nat × GI × GR) ⊕ (Int32 × HK × Nat × Nat × GI × GR) => Sum.elim (fun t : Nat × HK × Nat × Nat × GI × GR => t.2.2.2.1) (fun q : Int32 × HK × Nat × Nat × GI × GR => q.2.2.2.1) z) z) xc_4 ht (by decide) C B hRr (fun sz => w_X5_oldKind l D cA ad _ _ hk nx ns gi gr a0 ht ⟨c1, c3⟩ z h3 sz) hq q1042 qs22 q151 q1043 (by decide +kernel) ⟨c1, c2, c3, c4⟩ (fun v u hp => ?_) (fun x hp => ?_) ⟨hF, hN⟩ rfl hs hw hdg (fun w u H9 locs9 hp hw9 hae B9 => ?_) (fun v u H9 locs9 hp hae B9 => ?_)
  · have hp := hp
    subst hp
    exact ⟨rfl, rfl⟩
  · have hp := hp
    subst hp
    exact ⟨rfl, rfl⟩
  · have hp := hp
    subst hp
    exact kx _ u.1 h2 hw9 hae H9 locs9 B9
  · have hp := hp
    subst hp
    exact kk _ u.1 h2 hae H9 locs9 B9
def f_X5_freshKind (cN cS : Nat) (hk : HK) (nx ns : Nat) (gi : GI) (gr : GR) (a0 : Nat) (x1 : Int32) : Option ((Nat × HK × Nat × Nat × GI × GR) ⊕ (Int32 × HK × Nat × Nat × GI × GR)) :=
  (g_cc (fun c1 c2 => f_X5_oldKind c1 c2 hk nx ns gi gr a0) (fun z : (Nat × HK × Nat × Nat × GI × GR) ⊕ (Int32 × HK × Nat × Nat × GI × GR) => Sum.elim (fun t : Nat × HK × Nat × Nat × GI × GR => t.2.2.1) (fun q : Int32 × HK × Nat × Nat × GI × GR => q.2.2.1) z) (fun z : (Nat × HK × Nat × Nat × GI × GR) ⊕ (Int32 × HK × Nat × Nat × GI × GR) => Sum.elim (fun t : Nat × HK × Nat × Nat × GI × GR => t.2.2.2.1) (fun q : Int32 × HK × Nat × Nat × GI × GR => q.2.2.2.1) z) cN cS nx ns).bind fun q9 => Sum.elim (fun (t2 : Nat × HK × Nat × Nat × GI × GR) => some (.inl (t2.1, t2.2.1, t2.2.2.1, t2.2.2.2.1, t2.2.2.2.2.1, t2.2.2.2.2.2))) (fun (q1 : Int32 × HK × Nat × Nat × GI × GR) =>
  if ((x1 >>> (q1.1 &&& 31)) &&& 1) = 1 then
  ((g_new cN cS q1.2.2.1 q1.2.2.2.1 15 0 8 q1.2.1 q1.2.2.2.2.1 q1.2.2.2.2.2).bind fun q12 =>
  (g_cc (fun c1 c2 => f_X6_init c1 c2 q12.1 (q1.2.2.1 + 1) (q1.2.2.2.1 + 8) q12.2.1 q12.2.2 q1.2.2.1 3 (q12.2.1 a0 2)) (fun q : HK × Nat × Nat × GI × GR => q.2.1) (fun q : HK × Nat × Nat × GI × GR => q.2.2.1) cN cS (q1.2.2.1 + 1) (q1.2.2.2.1 + 8)).bind fun q17 =>
  some (.inl (q1.2.2.1, q17.1, q17.2.1, q17.2.2.1, q17.2.2.2.1, q17.2.2.2.2)))
  else
  ((g_cc (fun c1 c2 => f_X5_go c1 c2 q1.2.1 q1.2.2.1 q1.2.2.2.1 q1.2.2.2.2.1 q1.2.2.2.2.2 a0) (fun q : HK × Nat × Nat × GI × GR => q.2.1) (fun q : HK × Nat × Nat × GI × GR => q.2.2.1) cN cS q1.2.2.1 q1.2.2.2.1).bind fun q8 =>
  some (.inr (q1.1, q8.1, q8.2.1, q8.2.2.1, q8.2.2.2.1, q8.2.2.2.2)))) q9
set_option maxHeartbeats 400000 in
theorem w_X5_freshKind (l : Launch) (D : va_G) (cA : Nat → ClassId) (ad : Nat → Nat) (cN cS : Nat) (hk : HK) (nx ns : Nat) (gi : GI) (gr : GR) (a0 : Nat) (x1 : Int32) (ht : (hk a0).1 = 14) (hcap : nx ≤ cN ∧ ns ≤ cS) (r : (Nat × HK × Nat × Nat × GI × GR) ⊕ (Int32 × HK × Nat × Nat × GI × GR)) (h : f_X5_freshKind cN cS hk nx ns gi gr a0 x1 = some r) (sz : Nat) : vx_Met l yX5_freshKind (ws_ yX5_freshKind cX5_freshKind 3 (some .int)) ({ frames := 8, cells := cN - nx, slots := cS - ns, locals := 221 } : Room) (va_Pc [.ref (ad a0), .int x1] (XPre D cA ad hk nx gi gr sz)) (va_Qi (fun (v : Int32) (u : XU) => Sum.inr (v, u.2) = r) (XPostA D cA ad hk nx sz) (XA ad nx sz)) (vx_X (fun x : XV => Sum.inl (x.1, x.2.2) = r) (XPostX D cA ad hk nx sz) (XA ad nx sz)) (cN - nx) (cS - ns) (XA ad nx sz) := by
  refine xt_stI (own := RX5) (P := (fun (v : Int32) (u : XU) => Sum.inr (v, u.2) = r)) (PX := (fun x : XV => Sum.inl (x.1, x.2.2) = r)) (by decide +kernel) rfl (Nat.le_of_ble_eq_true rfl) hcap (fun p e s m args below meth c R Q A ls C hmn hF hN hRr B hret hthr hL => ?_) sz
  have hx := C.1
  have hb := C.2.1
  have hL : lv_has ls 3 [(0, .ref (ad a0)), (1, .int x1)] := hL
  unfold f_X5_freshKind at h
  refine lv_aload_n hx hb dX5_freshKind_0 rfl (lv_at hL 0 rfl) ?_
  refine k_X5_oldKind ht C B hRr q1040 (Nat.le_trans (Nat.le_of_ble_eq_true rfl) hF) (Nat.le_trans (Nat.le_of_ble_eq_true rfl) hN) hL.1 (Nat.le_of_ble_eq_true rfl) h dX5_freshKind_1 (fun t2 ad4 h hw6 _ H locs B => ?_) (fun q1 ad3 h hae5 H locs B => ?_)
  · exact hthr t2.1 (ad4, t2.2.1, t2.2.2.1, t2.2.2.2.1, t2.2.2.2.2.1, t2.2.2.2.2.2) _ _ _ _ _ (Option.some.inj h) hw6 B
  · have h := g_elr h
    rw [← (hae5 a0 (by rw [ht]; decide)).1] at hL
    have hp7 : (q1.2.1 a0).1 = 14 := by rw [(hae5 a0 (by rw [ht]; decide)).2]; exact ht
    refine lv_istore_n (lv' := [(2, .int q1.1), (0, .ref (ad3 a0)), (1, .int x1)]) hx hb dX5_freshKind_4 rfl hL (by decide) rfl (fun ls hL => ?_)
    refine lv_iload_n hx hb dX5_freshKind_5 rfl (lv_at hL 2 rfl) ?_
    refine lv_iload_n hx hb dX5_freshKind_6 rfl (lv_at hL 0 rfl) ?_
    refine lv_ishr hx hb dX5_freshKind_7 ?_
    refine lv_iconst (v := 1) hx hb dX5_freshKind_8 (by decide) ?_
    refine lv_iand hx hb dX5_freshKind_9 ?_
    refine lv_iconst (v := 1) hx hb dX5_freshKind_10 (by decide) ?_
    refine gg_icmp_ne hx hb 27 h dX5_freshKind_11 (by decide) (fun h => ?_) (fun h => ?_)
    · refine lv_aload_n hx hb dX5_freshKind_27 rfl (lv_at hL 1 rfl) ?_
      refine k_X5_go hp7 C B hRr q512 (Nat.le_trans (Nat.le_of_ble_eq_true rfl) hF) (Nat.le_trans (Nat.le_of_ble_eq_true rfl) hN) hL.1 (Nat.le_of_ble_eq_true rfl) h dX5_freshKind_28 (fun q8 ad9 h hae10 H locs B => ?_)
      rw [← (hae10 a0 (by rw [hp7]; decide)).1] at hL
      have hp11 : (q8.1 a0).1 = 14 := by rw [(hae10 a0 (by rw [hp7]; decide)).2]; exact hp7
      refine lv_iload_n hx hb dX5_freshKind_31 rfl (lv_at hL 0 rfl) ?_
      exact hret _ (ad9, q8.1, q8.2.1, q8.2.2.1, q8.2.2.2.1, q8.2.2.2.2) _ _ _ _ (Option.some.inj h) B dX5_freshKind_32
    · refine xa_new C B hRr xc_5 (by decide) xd_5 q833 q834 q163 h dX5_freshKind_14 (fun q12 ad13 h hae14 hp15 H B => ?_)
      rw [← (hae14 a0 (by rw [hp7]; decide)).1] at hL
      have hp16 : (q12.1 a0).1 = 14 := by rw [(hae14 a0 (by rw [hp7]; decide)).2]; exact hp7
      refine lv_dup hx hb dX5_freshKind_17 rfl ?_
      refine lv_iconst (v := 3) hx hb dX5_freshKind_18 (by decide) ?_
      refine lv_aload_n hx hb dX5_freshKind_19 rfl (lv_at hL 1 rfl) ?_
      refine xx_gi (ci := 4) (k := 2) C B.1 xc_4 hp16 (by decide) (Nat.le_of_ble_eq_true rfl) rfl q476 (fun _ h => h) dX5_freshKind_20 ?_
      refine k_X6_init hp15 C B hRr q870 (Nat.le_trans (Nat.le_of_ble_eq_true rfl) hF) (Nat.le_trans (Nat.le_of_ble_eq_true rfl) hN) hL.1 (Nat.le_of_ble_eq_true rfl) h dX5_freshKind_23 (fun q17 ad18 h hae19 H locs B => ?_)
      rw [← (hae19 a0 (by rw [hp16]; decide)).1] at hL
      have hp20 : (q17.1 a0).1 = 14 := by rw [(hae19 a0 (by rw [hp16]; decide)).2]; exact hp16
      rw [← (hae19 q1.2.2.1 (by rw [hp15]; decide)).1]
      have hp21 : (q17.1 q1.2.2.1).1 = 15 := by rw [(hae19 q1.2.2.1 (by rw [hp15]; decide)).2]; exact hp15
      refine vx_athrow hx hb dX5_freshKind_26 ?_
      exact hthr q1.2.2.1 (ad18, q17.1, q17.2.1, q17.2.2.1, q17.2.2.2.1, q17.2.2.2.2) _ _ _ _ _ (Option.some.inj h) hp21 B
theorem k_X5_freshKind {p : Program} {l : Launch} {e : Env} {R : Room} {s : State} {m : MethodId} {args : Array Value} {below : List Frame} {meth : Method} {c : Code} {H : Heap} {locs : List Loc} {Q : State → Prop} {pc : Nat} {ls : Array Slot} {rest : List Value} {cc : ByteArray} {nL : Nat} {D : va_G} {cA : Nat → ClassId} {a9 : Nat → Nat} {h9 : HK} {n0 m0 cN cS : Nat} {ad : Nat → Nat} {hk : HK} {nx ns : Nat} {A : Nat → Prop} {gi : GI} {gr : GR} {α : Type} {r : α} {own : String} {idx : Nat} {a0 : Nat} {x1 : Int32} {ff : ((Nat × HK × Nat × Nat × GI × GR) ⊕ (Int32 × HK × Nat × Nat × GI × GR)) → Option α} (ht : (hk a0).1 = 14) (C : CallFix p m c cc nL s args lw_all own) (B : XBA D cA a9 h9 n0 m0 cN cS ad hk nx ns A s gi gr H locs) (hRr : R.cells = cN - n0 ∧ R.slots = cS - m0) (hq : Cond.methodLink own idx yX5_freshKind ∈ lw_all) (hF : 9 ≤ R.frames) (hN : 243 ≤ R.locals) (hs : ls.size = nL) (hw : (rest.map fun v => v.category).sum ≤ 8) (h : (g_cc (fun c1 c2 => f_X5_freshKind c1 c2 hk nx ns gi gr a0 x1) (fun z : (Nat × HK × Nat × Nat × GI × GR) ⊕ (Int32 × HK × Nat × Nat × GI × GR) => Sum.elim (fun t : Nat × HK × Nat × Nat × GI × GR => t.2.2.1) (fun q : Int32 × HK × Nat × Nat × GI × GR => q.2.2.1) z) (fun z : (Nat × HK × Nat × Nat × GI × GR) ⊕ (Int32 × HK × Nat × Nat × GI × GR) => Sum.elim (fun t : Nat × HK × Nat × Nat × GI × GR => t.2.2.2.1) (fun q : Int32 × HK × Nat × Nat × GI × GR => q.2.2.2.1) z) cN cS nx ns).bind ff = some r) (hdg : decode cc pc = .ok (.invokevirtual idx, 3)) (kx : ∀ (t : Nat × HK × Nat × Nat × GI × GR) (ad' : Nat → Nat), ff (.inl t) = some r → (t.2.1 t.1).1 = 15 → (∀ i, (hk i).1 < 1000 → ad' i = ad i ∧ t.2.1 i = hk i) → ∀ (H' : Heap) (locs' : List Loc), XBA D cA a9 h9 n0 m0 cN cS ad' t.2.1 t.2.2.1 t.2.2.2.1 A s t.2.2.2.2.1 t.2.2.2.2.2 H' locs' → vx_W p l e R s m args below meth c H' locs' (t.2.2.1 - n0) (t.2.2.2.1 - m0) Q (F0 m pc ls rest) (ad' t.1)) (kk : ∀ (q : Int32 × HK × Nat × Nat × GI × GR) (ad' : Nat → Nat), ff (.inr q) = some r → (∀ i, (hk i).1 < 1000 → ad' i = ad i ∧ q.2.1 i = hk i) → ∀ (H' : Heap) (locs' : List Loc), XBA D cA a9 h9 n0 m0 cN cS ad' q.2.1 q.2.2.1 q.2.2.2.1 A s q.2.2.2.2.1 q.2.2.2.2.2 H' locs' → W p l e R s m args below meth c H' locs' (q.2.2.1 - n0) (q.2.2.2.1 - m0) Q (F0 m (pc + 3) ls (.int q.1 :: rest))) : W p l e R s m args below meth c H locs (nx - n0) (ns - m0) Q (F0 m pc ls (.int x1 :: .ref (ad a0) :: rest)) := by
  obtain ⟨z, h1, h2⟩ := g_ob h
  obtain ⟨h3, c1, c2, c3, c4⟩ := g_cc_of h1
  refine xt_cVI (As := [.int x1]) (rest := rest) (n := 1) (qn := (fun z : (Nat × HK × Nat × Nat × GI × GR) ⊕ (Int32 × HK × Nat × Nat × GI × GR) => Sum.elim (fun t : Nat × HK × Nat × Nat × GI × GR => t.2.2.1) (fun q : Int32 × HK × Nat × Nat × GI × GR => q.2.2.1) z) z) (qs := (fun z : (Nat × HK × Nat × Nat × GI × GR) ⊕ (Int32 × HK × Nat × Nat × GI × GR) => Sum.elim (fun t : Nat × HK × Nat × Nat × GI × GR => t.2.2.2.1) (fun q : Int32 × HK × Nat × Nat × GI × GR => q.2.2.2.1) z) z) xc_4 ht (by decide) C B hRr (fun sz => w_X5_freshKind l D cA ad _ _ hk nx ns gi gr a0 x1 ht ⟨c1, c3⟩ z h3 sz) hq q1038 qs21 q151 q1039 (by decide +kernel) ⟨c1, c2, c3, c4⟩ (fun v u hp => ?_) (fun x hp => ?_) ⟨hF, hN⟩ rfl hs hw hdg (fun w u H9 locs9 hp hw9 hae B9 => ?_) (fun v u H9 locs9 hp hae B9 => ?_)
  · have hp := hp
    subst hp
    exact ⟨rfl, rfl⟩
  · have hp := hp
    subst hp
    exact ⟨rfl, rfl⟩
  · have hp := hp
    subst hp
    exact kx _ u.1 h2 hw9 hae H9 locs9 B9
  · have hp := hp
    subst hp
    exact kk _ u.1 h2 hae H9 locs9 B9
def f_X5_kind (cN cS : Nat) (hk : HK) (nx ns : Nat) (gi : GI) (gr : GR) (a0 : Nat) : Option ((Nat × HK × Nat × Nat × GI × GR) ⊕ (HK × Nat × Nat × GI × GR)) :=
  (g_cc (fun c1 c2 => f_X5_go c1 c2 hk nx ns gi gr a0) (fun q : HK × Nat × Nat × GI × GR => q.2.1) (fun q : HK × Nat × Nat × GI × GR => q.2.2.1) cN cS nx ns).bind fun q1 =>
  (q1.2.2.2.2 a0 9).bind fun v5 =>
  (g_is q1.1 v5 11).bind fun _ =>
  (q1.2.2.2.2 v5 0).bind fun v8 =>
  (q1.2.2.2.2 a0 9).bind fun v10 =>
  (q1.2.2.2.2 a0 8).bind fun v12 =>
  (g_is q1.1 v10 11).bind fun _ =>
  (f_X1_kind q1.1 q1.2.2.2.1 q1.2.2.2.2 v10 v12).bind fun q15 =>
  (g_cc (fun c1 c2 => f_X5_newName c1 c2 q1.1 q1.2.1 q1.2.2.1 q1.2.2.2.1 q1.2.2.2.2 a0 q15) (fun z : (Nat × HK × Nat × Nat × GI × GR) ⊕ (Nat × HK × Nat × Nat × GI × GR) => Sum.elim (fun t : Nat × HK × Nat × Nat × GI × GR => t.2.2.1) (fun q : Nat × HK × Nat × Nat × GI × GR => q.2.2.1) z) (fun z : (Nat × HK × Nat × Nat × GI × GR) ⊕ (Nat × HK × Nat × Nat × GI × GR) => Sum.elim (fun t : Nat × HK × Nat × Nat × GI × GR => t.2.2.2.1) (fun q : Nat × HK × Nat × Nat × GI × GR => q.2.2.2.1) z) cN cS q1.2.1 q1.2.2.1).bind fun q9 => Sum.elim (fun (t17 : Nat × HK × Nat × Nat × GI × GR) => some (.inl (t17.1, t17.2.1, t17.2.2.1, t17.2.2.2.1, t17.2.2.2.2.1, t17.2.2.2.2.2))) (fun (q16 : Nat × HK × Nat × Nat × GI × GR) =>
  (g_is q16.2.1 v8 22).bind fun _ =>
  (g_cc (fun c1 c2 => f_J2_add c1 c2 q16.2.1 q16.2.2.1 q16.2.2.2.1 q16.2.2.2.2.1 q16.2.2.2.2.2 v8 q16.1) (fun q : Int32 × HK × Nat × Nat × GI × GR => q.2.2.1) (fun q : Int32 × HK × Nat × Nat × GI × GR => q.2.2.2.1) cN cS q16.2.2.1 q16.2.2.2.1).bind fun q25 =>
  some (.inr (q25.2.1, q25.2.2.1, q25.2.2.2.1, q25.2.2.2.2.1, q25.2.2.2.2.2))) q9
set_option maxHeartbeats 400000 in
theorem w_X5_kind (l : Launch) (D : va_G) (cA : Nat → ClassId) (ad : Nat → Nat) (cN cS : Nat) (hk : HK) (nx ns : Nat) (gi : GI) (gr : GR) (a0 : Nat) (ht : (hk a0).1 = 14) (hcap : nx ≤ cN ∧ ns ≤ cS) (r : (Nat × HK × Nat × Nat × GI × GR) ⊕ (HK × Nat × Nat × GI × GR)) (h : f_X5_kind cN cS hk nx ns gi gr a0 = some r) (sz : Nat) : vx_Met l yX5_kind (ws_ yX5_kind cX5_kind 1 (none)) ({ frames := 9, cells := cN - nx, slots := cS - ns, locals := 243 } : Room) (va_Pc [.ref (ad a0)] (XPre D cA ad hk nx gi gr sz)) (va_Qv (fun (u : XU) => Sum.inr u.2 = r) (XPostA D cA ad hk nx sz) (XA ad nx sz)) (vx_X (fun x : XV => Sum.inl (x.1, x.2.2) = r) (XPostX D cA ad hk nx sz) (XA ad nx sz)) (cN - nx) (cS - ns) (XA ad nx sz) := by
  refine xt_stV (own := RX5) (P := (fun (u : XU) => Sum.inr u.2 = r)) (PX := (fun x : XV => Sum.inl (x.1, x.2.2) = r)) (by decide +kernel) rfl (Nat.le_of_ble_eq_true rfl) hcap (fun p e s m args below meth c R Q A ls C hmn hF hN hRr B hret hthr hL => ?_) sz
  have hx := C.1
  have hb := C.2.1
  have hL : lv_has ls 1 [(0, .ref (ad a0))] := hL
  unfold f_X5_kind at h
  refine lv_aload_n hx hb dX5_kind_0 rfl (lv_at hL 0 rfl) ?_
  refine k_X5_go ht C B hRr q512 (Nat.le_trans (Nat.le_of_ble_eq_true rfl) hF) (Nat.le_trans (Nat.le_of_ble_eq_true rfl) hN) hL.1 (Nat.le_of_ble_eq_true rfl) h dX5_kind_1 (fun q1 ad2 h hae3 H locs B => ?_)
  rw [← (hae3 a0 (by rw [ht]; decide)).1] at hL
  have hp4 : (q1.1 a0).1 = 14 := by rw [(hae3 a0 (by rw [ht]; decide)).2]; exact ht
  refine lv_aload_n hx hb dX5_kind_4 rfl (lv_at hL 0 rfl) ?_
  refine xx_gr (ci := 4) (k := 9) C B.1 xc_4 hp4 (by decide) (Nat.le_of_ble_eq_true rfl) rfl q483 (fun _ h => h) h dX5_kind_5 (fun v5 ok6 h => ?_)
  refine xx_is h (fun hp7 h => ?_)
  refine xx_gr (ci := 1) (k := 0) C B.1 xc_1 hp7 (by decide) (Nat.le_of_ble_eq_true rfl) rfl q254 (fun _ h => h) h dX5_kind_8 (fun v8 ok9 h => ?_)
  refine lv_aload_n hx hb dX5_kind_11 rfl (lv_at hL 0 rfl) ?_
  refine lv_aload_n hx hb dX5_kind_12 rfl (lv_at hL 0 rfl) ?_
  refine xx_gr (ci := 4) (k := 9) C B.1 xc_4 hp4 (by decide) (Nat.le_of_ble_eq_true rfl) rfl q483 (fun _ h => h) h dX5_kind_13 (fun v10 ok11 h => ?_)
  refine lv_aload_n hx hb dX5_kind_16 rfl (lv_at hL 0 rfl) ?_
  refine xx_gr (ci := 4) (k := 8) C B.1 xc_4 hp4 (by decide) (Nat.le_of_ble_eq_true rfl) rfl q482 (fun _ h => h) h dX5_kind_17 (fun v12 ok13 h => ?_)
  refine xx_is h (fun hp14 h => ?_)
  refine k_X1_kind hp14 C B.1 q740 (Nat.le_trans (Nat.le_of_ble_eq_true rfl) hF) (Nat.le_trans (Nat.le_of_ble_eq_true rfl) hN) hL.1 (Nat.le_of_ble_eq_true rfl) (xa_z hRr B) h dX5_kind_20 (fun q15 h H locs B2 => ?_)
  have B := And.intro B2 B.2
  refine k_X5_newName hp4 C B hRr q748 (Nat.le_trans (Nat.le_of_ble_eq_true rfl) hF) (Nat.le_trans (Nat.le_of_ble_eq_true rfl) hN) hL.1 (Nat.le_of_ble_eq_true rfl) h dX5_kind_23 (fun t17 ad19 h hw21 _ H locs B => ?_) (fun q16 ad18 h hae20 H locs B => ?_)
  · exact hthr t17.1 (ad19, t17.2.1, t17.2.2.1, t17.2.2.2.1, t17.2.2.2.2.1, t17.2.2.2.2.2) _ _ _ _ _ (Option.some.inj h) hw21 B
  · have h := g_elr h
    rw [← (hae20 a0 (by rw [hp4]; decide)).1] at hL
    have hp22 : (q16.2.1 a0).1 = 14 := by rw [(hae20 a0 (by rw [hp4]; decide)).2]; exact hp4
    rw [← (hae20 v8 ok9).1]
    have ok23 : (q16.2.1 v8).1 < 1000 := by rw [(hae20 v8 ok9).2]; exact ok9
    refine xx_is h (fun hp24 h => ?_)
    refine k_J2_add hp24 C B hRr q900 (Nat.le_trans (Nat.le_of_ble_eq_true rfl) hF) (Nat.le_trans (Nat.le_of_ble_eq_true rfl) hN) hL.1 (Nat.le_of_ble_eq_true rfl) h dX5_kind_26 (fun q25 ad26 h hae27 H locs B => ?_)
    rw [← (hae27 a0 (by rw [hp22]; decide)).1] at hL
    have hp28 : (q25.2.1 a0).1 = 14 := by rw [(hae27 a0 (by rw [hp22]; decide)).2]; exact hp22
    refine lv_pop hx hb dX5_kind_29 rfl ?_
    exact hret (ad26, q25.2.1, q25.2.2.1, q25.2.2.2.1, q25.2.2.2.2.1, q25.2.2.2.2.2) _ _ _ _ (Option.some.inj h) B dX5_kind_30
theorem k_X5_kind {p : Program} {l : Launch} {e : Env} {R : Room} {s : State} {m : MethodId} {args : Array Value} {below : List Frame} {meth : Method} {c : Code} {H : Heap} {locs : List Loc} {Q : State → Prop} {pc : Nat} {ls : Array Slot} {rest : List Value} {cc : ByteArray} {nL : Nat} {D : va_G} {cA : Nat → ClassId} {a9 : Nat → Nat} {h9 : HK} {n0 m0 cN cS : Nat} {ad : Nat → Nat} {hk : HK} {nx ns : Nat} {A : Nat → Prop} {gi : GI} {gr : GR} {α : Type} {r : α} {own : String} {idx : Nat} {a0 : Nat} {ff : ((Nat × HK × Nat × Nat × GI × GR) ⊕ (HK × Nat × Nat × GI × GR)) → Option α} (ht : (hk a0).1 = 14) (C : CallFix p m c cc nL s args lw_all own) (B : XBA D cA a9 h9 n0 m0 cN cS ad hk nx ns A s gi gr H locs) (hRr : R.cells = cN - n0 ∧ R.slots = cS - m0) (hq : Cond.methodLink own idx yX5_kind ∈ lw_all) (hF : 10 ≤ R.frames) (hN : 263 ≤ R.locals) (hs : ls.size = nL) (hw : (rest.map fun v => v.category).sum ≤ 8) (h : (g_cc (fun c1 c2 => f_X5_kind c1 c2 hk nx ns gi gr a0) (fun z : (Nat × HK × Nat × Nat × GI × GR) ⊕ (HK × Nat × Nat × GI × GR) => Sum.elim (fun t : Nat × HK × Nat × Nat × GI × GR => t.2.2.1) (fun q : HK × Nat × Nat × GI × GR => q.2.1) z) (fun z : (Nat × HK × Nat × Nat × GI × GR) ⊕ (HK × Nat × Nat × GI × GR) => Sum.elim (fun t : Nat × HK × Nat × Nat × GI × GR => t.2.2.2.1) (fun q : HK × Nat × Nat × GI × GR => q.2.2.1) z) cN cS nx ns).bind ff = some r) (hdg : decode cc pc = .ok (.invokevirtual idx, 3)) (kx : ∀ (t : Nat × HK × Nat × Nat × GI × GR) (ad' : Nat → Nat), ff (.inl t) = some r → (t.2.1 t.1).1 = 15 → (∀ i, (hk i).1 < 1000 → ad' i = ad i ∧ t.2.1 i = hk i) → ∀ (H' : Heap) (locs' : List Loc), XBA D cA a9 h9 n0 m0 cN cS ad' t.2.1 t.2.2.1 t.2.2.2.1 A s t.2.2.2.2.1 t.2.2.2.2.2 H' locs' → vx_W p l e R s m args below meth c H' locs' (t.2.2.1 - n0) (t.2.2.2.1 - m0) Q (F0 m pc ls rest) (ad' t.1)) (kk : ∀ (q : HK × Nat × Nat × GI × GR) (ad' : Nat → Nat), ff (.inr q) = some r → (∀ i, (hk i).1 < 1000 → ad' i = ad i ∧ q.1 i = hk i) → ∀ (H' : Heap) (locs' : List Loc), XBA D cA a9 h9 n0 m0 cN cS ad' q.1 q.2.1 q.2.2.1 A s q.2.2.2.1 q.2.2.2.2 H' locs' → W p l e R s m args below meth c H' locs' (q.2.1 - n0) (q.2.2.1 - m0) Q (F0 m (pc + 3) ls (rest))) : W p l e R s m args below meth c H locs (nx - n0) (ns - m0) Q (F0 m pc ls (.ref (ad a0) :: rest)) := by
  obtain ⟨z, h1, h2⟩ := g_ob h
  obtain ⟨h3, c1, c2, c3, c4⟩ := g_cc_of h1
  refine xt_cVV (As := []) (rest := rest) (n := 0) (qn := (fun z : (Nat × HK × Nat × Nat × GI × GR) ⊕ (HK × Nat × Nat × GI × GR) => Sum.elim (fun t : Nat × HK × Nat × Nat × GI × GR => t.2.2.1) (fun q : HK × Nat × Nat × GI × GR => q.2.1) z) z) (qs := (fun z : (Nat × HK × Nat × Nat × GI × GR) ⊕ (HK × Nat × Nat × GI × GR) => Sum.elim (fun t : Nat × HK × Nat × Nat × GI × GR => t.2.2.2.1) (fun q : HK × Nat × Nat × GI × GR => q.2.2.1) z) z) xc_4 ht (by decide) C B hRr (fun sz => w_X5_kind l D cA ad _ _ hk nx ns gi gr a0 ht ⟨c1, c3⟩ z h3 sz) hq q738 qs6 q151 q739 (by decide +kernel) ⟨c1, c2, c3, c4⟩ (fun u hp => ?_) (fun x hp => ?_) ⟨hF, hN⟩ rfl hs hw hdg (fun w u H9 locs9 hp hw9 hae B9 => ?_) (fun u H9 locs9 hp hae B9 => ?_)
  · have hp := hp
    subst hp
    exact ⟨rfl, rfl⟩
  · have hp := hp
    subst hp
    exact ⟨rfl, rfl⟩
  · have hp := hp
    subst hp
    exact kx _ u.1 h2 hw9 hae H9 locs9 B9
  · have hp := hp
    subst hp
    exact kk _ u.1 h2 hae H9 locs9 B9
def f_X5_man (cN cS : Nat) (hk : HK) (nx ns : Nat) (gi : GI) (gr : GR) (a0 : Nat) : Option ((Nat × HK × Nat × Nat × GI × GR) ⊕ (HK × Nat × Nat × GI × GR)) :=
  (g_cc (fun c1 c2 => f_X5_go c1 c2 hk nx ns gi gr a0) (fun q : HK × Nat × Nat × GI × GR => q.2.1) (fun q : HK × Nat × Nat × GI × GR => q.2.2.1) cN cS nx ns).bind fun q1 =>
  (g_new cN cS q1.2.1 q1.2.2.1 16 0 9 q1.1 q1.2.2.2.1 q1.2.2.2.2).bind fun q5 =>
  (q5.2.2 a0 9).bind fun v10 =>
  (q5.2.2 a0 8).bind fun v12 =>
  (g_is q5.1 v10 11).bind fun _ =>
  (f_X1_man q5.1 q5.2.1 q5.2.2 v10 v12).bind fun q15 =>
  (g_cc (fun c1 c2 => f_X5_newName c1 c2 q5.1 (q1.2.1 + 1) (q1.2.2.1 + 9) q5.2.1 q5.2.2 a0 q15) (fun z : (Nat × HK × Nat × Nat × GI × GR) ⊕ (Nat × HK × Nat × Nat × GI × GR) => Sum.elim (fun t : Nat × HK × Nat × Nat × GI × GR => t.2.2.1) (fun q : Nat × HK × Nat × Nat × GI × GR => q.2.2.1) z) (fun z : (Nat × HK × Nat × Nat × GI × GR) ⊕ (Nat × HK × Nat × Nat × GI × GR) => Sum.elim (fun t : Nat × HK × Nat × Nat × GI × GR => t.2.2.2.1) (fun q : Nat × HK × Nat × Nat × GI × GR => q.2.2.2.1) z) cN cS (q1.2.1 + 1) (q1.2.2.1 + 9)).bind fun q9 => Sum.elim (fun (t17 : Nat × HK × Nat × Nat × GI × GR) => some (.inl (t17.1, t17.2.1, t17.2.2.1, t17.2.2.2.1, t17.2.2.2.2.1, t17.2.2.2.2.2))) (fun (q16 : Nat × HK × Nat × Nat × GI × GR) =>
  (g_cc (fun c1 c2 => f_X7_init c1 c2 q16.2.1 q16.2.2.1 q16.2.2.2.1 q16.2.2.2.2.1 q16.2.2.2.2.2 q1.2.1 q16.1) (fun q : HK × Nat × Nat × GI × GR => q.2.1) (fun q : HK × Nat × Nat × GI × GR => q.2.2.1) cN cS q16.2.2.1 q16.2.2.2.1).bind fun q24 =>
  (g_cc (fun c1 c2 => f_X5_key c1 c2 q24.1 q24.2.1 q24.2.2.1 q24.2.2.2.1 q24.2.2.2.2 a0 3) (fun z : (Nat × HK × Nat × Nat × GI × GR) ⊕ (HK × Nat × Nat × GI × GR) => Sum.elim (fun t : Nat × HK × Nat × Nat × GI × GR => t.2.2.1) (fun q : HK × Nat × Nat × GI × GR => q.2.1) z) (fun z : (Nat × HK × Nat × Nat × GI × GR) ⊕ (HK × Nat × Nat × GI × GR) => Sum.elim (fun t : Nat × HK × Nat × Nat × GI × GR => t.2.2.2.1) (fun q : HK × Nat × Nat × GI × GR => q.2.2.1) z) cN cS q24.2.1 q24.2.2.1).bind fun q9 => Sum.elim (fun (t30 : Nat × HK × Nat × Nat × GI × GR) => some (.inl (t30.1, t30.2.1, t30.2.2.1, t30.2.2.2.1, t30.2.2.2.2.1, t30.2.2.2.2.2))) (fun (q29 : HK × Nat × Nat × GI × GR) =>
  (g_cc (fun c1 c2 => f_X5_number c1 c2 q29.1 q29.2.1 q29.2.2.1 q29.2.2.2.1 q29.2.2.2.2 a0 0 99) (fun z : (Nat × HK × Nat × Nat × GI × GR) ⊕ (Int32 × HK × Nat × Nat × GI × GR) => Sum.elim (fun t : Nat × HK × Nat × Nat × GI × GR => t.2.2.1) (fun q : Int32 × HK × Nat × Nat × GI × GR => q.2.2.1) z) (fun z : (Nat × HK × Nat × Nat × GI × GR) ⊕ (Int32 × HK × Nat × Nat × GI × GR) => Sum.elim (fun t : Nat × HK × Nat × Nat × GI × GR => t.2.2.2.1) (fun q : Int32 × HK × Nat × Nat × GI × GR => q.2.2.2.1) z) cN cS q29.2.1 q29.2.2.1).bind fun q9 => Sum.elim (fun (t38 : Nat × HK × Nat × Nat × GI × GR) => some (.inl (t38.1, t38.2.1, t38.2.2.1, t38.2.2.2.1, t38.2.2.2.2.1, t38.2.2.2.2.2))) (fun (q37 : Int32 × HK × Nat × Nat × GI × GR) =>
  (some (g_pi q37.2.2.2.2.1 q1.2.1 3 q37.1)).bind fun gi45 =>
  (g_cc (fun c1 c2 => f_X5_takes c1 c2 q37.2.1 q37.2.2.1 q37.2.2.2.1 gi45 q37.2.2.2.2.2 a0 4) (fun q : Int32 × HK × Nat × Nat × GI × GR => q.2.2.1) (fun q : Int32 × HK × Nat × Nat × GI × GR => q.2.2.2.1) cN cS q37.2.2.1 q37.2.2.2.1).bind fun q46 =>
  (g_zb q46.1).bind fun _ =>
  (some (g_pi q46.2.2.2.2.1 q1.2.1 7 q46.1)).bind fun gi51 =>
  (q46.2.2.2.2.2 a0 9).bind fun v52 =>
  (g_is q46.2.1 v52 11).bind fun _ =>
  (q46.2.2.2.2.2 v52 1).bind fun v55 =>
  (g_is q46.2.1 v55 22).bind fun _ =>
  (g_cc (fun c1 c2 => f_J2_add c1 c2 q46.2.1 q46.2.2.1 q46.2.2.2.1 gi51 q46.2.2.2.2.2 v55 q1.2.1) (fun q : Int32 × HK × Nat × Nat × GI × GR => q.2.2.1) (fun q : Int32 × HK × Nat × Nat × GI × GR => q.2.2.2.1) cN cS q46.2.2.1 q46.2.2.2.1).bind fun q58 =>
  some (.inr (q58.2.1, q58.2.2.1, q58.2.2.2.1, q58.2.2.2.2.1, q58.2.2.2.2.2))) q9) q9) q9
set_option maxHeartbeats 400000 in
theorem w_X5_man (l : Launch) (D : va_G) (cA : Nat → ClassId) (ad : Nat → Nat) (cN cS : Nat) (hk : HK) (nx ns : Nat) (gi : GI) (gr : GR) (a0 : Nat) (ht : (hk a0).1 = 14) (hcap : nx ≤ cN ∧ ns ≤ cS) (r : (Nat × HK × Nat × Nat × GI × GR) ⊕ (HK × Nat × Nat × GI × GR)) (h : f_X5_man cN cS hk nx ns gi gr a0 = some r) (sz : Nat) : vx_Met l yX5_man (ws_ yX5_man cX5_man 2 (none)) ({ frames := 10, cells := cN - nx, slots := cS - ns, locals := 264 } : Room) (va_Pc [.ref (ad a0)] (XPre D cA ad hk nx gi gr sz)) (va_Qv (fun (u : XU) => Sum.inr u.2 = r) (XPostA D cA ad hk nx sz) (XA ad nx sz)) (vx_X (fun x : XV => Sum.inl (x.1, x.2.2) = r) (XPostX D cA ad hk nx sz) (XA ad nx sz)) (cN - nx) (cS - ns) (XA ad nx sz) := by
  refine xt_stV (own := RX5) (P := (fun (u : XU) => Sum.inr u.2 = r)) (PX := (fun x : XV => Sum.inl (x.1, x.2.2) = r)) (by decide +kernel) rfl (Nat.le_of_ble_eq_true rfl) hcap (fun p e s m args below meth c R Q A ls C hmn hF hN hRr B hret hthr hL => ?_) sz
  have hx := C.1
  have hb := C.2.1
  have hL : lv_has ls 2 [(0, .ref (ad a0))] := hL
  unfold f_X5_man at h
  refine lv_aload_n hx hb dX5_man_0 rfl (lv_at hL 0 rfl) ?_
  refine k_X5_go ht C B hRr q512 (Nat.le_trans (Nat.le_of_ble_eq_true rfl) hF) (Nat.le_trans (Nat.le_of_ble_eq_true rfl) hN) hL.1 (Nat.le_of_ble_eq_true rfl) h dX5_man_1 (fun q1 ad2 h hae3 H locs B => ?_)
  rw [← (hae3 a0 (by rw [ht]; decide)).1] at hL
  have hp4 : (q1.1 a0).1 = 14 := by rw [(hae3 a0 (by rw [ht]; decide)).2]; exact ht
  refine xa_new C B hRr xc_6 (by decide) xd_6 q960 q961 q164 h dX5_man_4 (fun q5 ad6 h hae7 hp8 H B => ?_)
  rw [← (hae7 a0 (by rw [hp4]; decide)).1] at hL
  have hp9 : (q5.1 a0).1 = 14 := by rw [(hae7 a0 (by rw [hp4]; decide)).2]; exact hp4
  refine lv_dup hx hb dX5_man_7 rfl ?_
  refine lv_aload_n hx hb dX5_man_8 rfl (lv_at hL 0 rfl) ?_
  refine lv_aload_n hx hb dX5_man_9 rfl (lv_at hL 0 rfl) ?_
  refine xx_gr (ci := 4) (k := 9) C B.1 xc_4 hp9 (by decide) (Nat.le_of_ble_eq_true rfl) rfl q483 (fun _ h => h) h dX5_man_10 (fun v10 ok11 h => ?_)
  refine lv_aload_n hx hb dX5_man_13 rfl (lv_at hL 0 rfl) ?_
  refine xx_gr (ci := 4) (k := 8) C B.1 xc_4 hp9 (by decide) (Nat.le_of_ble_eq_true rfl) rfl q482 (fun _ h => h) h dX5_man_14 (fun v12 ok13 h => ?_)
  refine xx_is h (fun hp14 h => ?_)
  refine k_X1_man hp14 C B.1 q962 (Nat.le_trans (Nat.le_of_ble_eq_true rfl) hF) (Nat.le_trans (Nat.le_of_ble_eq_true rfl) hN) hL.1 (Nat.le_of_ble_eq_true rfl) (xa_z hRr B) h dX5_man_17 (fun q15 h H locs B2 => ?_)
  have B := And.intro B2 B.2
  refine k_X5_newName hp9 C B hRr q748 (Nat.le_trans (Nat.le_of_ble_eq_true rfl) hF) (Nat.le_trans (Nat.le_of_ble_eq_true rfl) hN) hL.1 (Nat.le_of_ble_eq_true rfl) h dX5_man_20 (fun t17 ad19 h hw21 _ H locs B => ?_) (fun q16 ad18 h hae20 H locs B => ?_)
  · exact hthr t17.1 (ad19, t17.2.1, t17.2.2.1, t17.2.2.2.1, t17.2.2.2.2.1, t17.2.2.2.2.2) _ _ _ _ _ (Option.some.inj h) hw21 B
  · have h := g_elr h
    rw [← (hae20 a0 (by rw [hp9]; decide)).1] at hL
    have hp22 : (q16.2.1 a0).1 = 14 := by rw [(hae20 a0 (by rw [hp9]; decide)).2]; exact hp9
    rw [← (hae20 q1.2.1 (by rw [hp8]; decide)).1]
    have hp23 : (q16.2.1 q1.2.1).1 = 16 := by rw [(hae20 q1.2.1 (by rw [hp8]; decide)).2]; exact hp8
    refine k_X7_init hp23 C B hRr q967 (Nat.le_trans (Nat.le_of_ble_eq_true rfl) hF) (Nat.le_trans (Nat.le_of_ble_eq_true rfl) hN) hL.1 (Nat.le_of_ble_eq_true rfl) h dX5_man_23 (fun q24 ad25 h hae26 H locs B => ?_)
    rw [← (hae26 a0 (by rw [hp22]; decide)).1] at hL
    have hp27 : (q24.1 a0).1 = 14 := by rw [(hae26 a0 (by rw [hp22]; decide)).2]; exact hp22
    rw [← (hae26 q1.2.1 (by rw [hp23]; decide)).1]
    have hp28 : (q24.1 q1.2.1).1 = 16 := by rw [(hae26 q1.2.1 (by rw [hp23]; decide)).2]; exact hp23
    refine lv_astore_n (lv' := [(1, .ref (ad25 q1.2.1)), (0, .ref (ad25 a0))]) hx hb dX5_man_26 rfl hL (by decide) rfl (fun ls hL => ?_)
    refine lv_aload_n hx hb dX5_man_27 rfl (lv_at hL 1 rfl) ?_
    refine xx_ldcS (i := 3) C B.1 (by decide) rfl dX5_man_28 ?_
    refine k_X5_key hp27 (by decide) C B hRr q1011 (Nat.le_trans (Nat.le_of_ble_eq_true rfl) hF) (Nat.le_trans (Nat.le_of_ble_eq_true rfl) hN) hL.1 (Nat.le_of_ble_eq_true rfl) h dX5_man_30 (fun t30 ad32 h hw34 _ H locs B => ?_) (fun q29 ad31 h hae33 H locs B => ?_)
    · exact hthr t30.1 (ad32, t30.2.1, t30.2.2.1, t30.2.2.2.1, t30.2.2.2.2.1, t30.2.2.2.2.2) _ _ _ _ _ (Option.some.inj h) hw34 B
    · have h := g_elr h
      rw [← (hae33 q1.2.1 (by rw [hp28]; decide)).1] at hL
      have hp35 : (q29.1 q1.2.1).1 = 16 := by rw [(hae33 q1.2.1 (by rw [hp28]; decide)).2]; exact hp28
      rw [← (hae33 a0 (by rw [hp27]; decide)).1] at hL
      have hp36 : (q29.1 a0).1 = 14 := by rw [(hae33 a0 (by rw [hp27]; decide)).2]; exact hp27
      refine lv_aload_n hx hb dX5_man_33 rfl (lv_at hL 0 rfl) ?_
      refine lv_aload_n hx hb dX5_man_34 rfl (lv_at hL 1 rfl) ?_
      refine lv_iconst (v := 0) hx hb dX5_man_35 (by decide) ?_
      refine lv_bipush (v := 99) hx hb dX5_man_36 (by decide) ?_
      refine k_X5_number hp36 C B hRr q1019 (Nat.le_trans (Nat.le_of_ble_eq_true rfl) hF) (Nat.le_trans (Nat.le_of_ble_eq_true rfl) hN) hL.1 (Nat.le_of_ble_eq_true rfl) h dX5_man_38 (fun t38 ad40 h hw42 _ H locs B => ?_) (fun q37 ad39 h hae41 H locs B => ?_)
      · exact hthr t38.1 (ad40, t38.2.1, t38.2.2.1, t38.2.2.2.1, t38.2.2.2.2.1, t38.2.2.2.2.2) _ _ _ _ _ (Option.some.inj h) hw42 B
      · have h := g_elr h
        rw [← (hae41 q1.2.1 (by rw [hp35]; decide)).1] at hL
        rw [← (hae41 q1.2.1 (by rw [hp35]; decide)).1]
        have hp43 : (q37.2.1 q1.2.1).1 = 16 := by rw [(hae41 q1.2.1 (by rw [hp35]; decide)).2]; exact hp35
        rw [← (hae41 a0 (by rw [hp36]; decide)).1] at hL
        have hp44 : (q37.2.1 a0).1 = 14 := by rw [(hae41 a0 (by rw [hp36]; decide)).2]; exact hp36
        refine xx_pi (ci := 6) (k := 3) C B.1 xc_6 hp43 (by decide) (Nat.le_of_ble_eq_true rfl) rfl q981 (fun _ h => h) rfl rfl rfl h dX5_man_41 (fun gi45 h H locs B2 => ?_)
        have B := And.intro B2 B.2
        refine lv_aload_n hx hb dX5_man_44 rfl (lv_at hL 0 rfl) ?_
        refine lv_aload_n hx hb dX5_man_45 rfl (lv_at hL 1 rfl) ?_
        refine xx_ldcS (i := 4) C B.1 (by decide) rfl dX5_man_46 ?_
        refine k_X5_takes hp44 (by decide) C B hRr q1015 (Nat.le_trans (Nat.le_of_ble_eq_true rfl) hF) (Nat.le_trans (Nat.le_of_ble_eq_true rfl) hN) hL.1 (Nat.le_of_ble_eq_true rfl) h dX5_man_48 (fun q46 ad47 h hae48 H locs B => ?_)
        rw [← (hae48 q1.2.1 (by rw [hp43]; decide)).1] at hL
        rw [← (hae48 q1.2.1 (by rw [hp43]; decide)).1]
        have hp49 : (q46.2.1 q1.2.1).1 = 16 := by rw [(hae48 q1.2.1 (by rw [hp43]; decide)).2]; exact hp43
        rw [← (hae48 a0 (by rw [hp44]; decide)).1] at hL
        have hp50 : (q46.2.1 a0).1 = 14 := by rw [(hae48 a0 (by rw [hp44]; decide)).2]; exact hp44
        refine mm_zb h (fun hz h => ?_)
        refine xx_pi (ci := 6) (k := 7) C B.1 xc_6 hp49 (by decide) (Nat.le_of_ble_eq_true rfl) rfl q990 (fun _ h => h) rfl (by rcases hz with hz | hz <;> rw [hz] <;> rfl) (by rcases hz with hz | hz <;> rw [hz] <;> rfl) h dX5_man_51 (fun gi51 h H locs B2 => ?_)
        have B := And.intro B2 B.2
        refine lv_aload_n hx hb dX5_man_54 rfl (lv_at hL 1 rfl) ?_
        refine xx_gr (ci := 4) (k := 9) C B.1 xc_4 hp50 (by decide) (Nat.le_of_ble_eq_true rfl) rfl q483 (fun _ h => h) h dX5_man_55 (fun v52 ok53 h => ?_)
        refine xx_is h (fun hp54 h => ?_)
        refine xx_gr (ci := 1) (k := 1) C B.1 xc_1 hp54 (by decide) (Nat.le_of_ble_eq_true rfl) rfl q258 (fun _ h => h) h dX5_man_58 (fun v55 ok56 h => ?_)
        refine lv_aload_n hx hb dX5_man_61 rfl (lv_at hL 0 rfl) ?_
        refine xx_is h (fun hp57 h => ?_)
        refine k_J2_add hp57 C B hRr q900 (Nat.le_trans (Nat.le_of_ble_eq_true rfl) hF) (Nat.le_trans (Nat.le_of_ble_eq_true rfl) hN) hL.1 (Nat.le_of_ble_eq_true rfl) h dX5_man_62 (fun q58 ad59 h hae60 H locs B => ?_)
        rw [← (hae60 q1.2.1 (by rw [hp49]; decide)).1] at hL
        have hp61 : (q58.2.1 q1.2.1).1 = 16 := by rw [(hae60 q1.2.1 (by rw [hp49]; decide)).2]; exact hp49
        rw [← (hae60 a0 (by rw [hp50]; decide)).1] at hL
        have hp62 : (q58.2.1 a0).1 = 14 := by rw [(hae60 a0 (by rw [hp50]; decide)).2]; exact hp50
        refine lv_pop hx hb dX5_man_65 rfl ?_
        exact hret (ad59, q58.2.1, q58.2.2.1, q58.2.2.2.1, q58.2.2.2.2.1, q58.2.2.2.2.2) _ _ _ _ (Option.some.inj h) B dX5_man_66
theorem k_X5_man {p : Program} {l : Launch} {e : Env} {R : Room} {s : State} {m : MethodId} {args : Array Value} {below : List Frame} {meth : Method} {c : Code} {H : Heap} {locs : List Loc} {Q : State → Prop} {pc : Nat} {ls : Array Slot} {rest : List Value} {cc : ByteArray} {nL : Nat} {D : va_G} {cA : Nat → ClassId} {a9 : Nat → Nat} {h9 : HK} {n0 m0 cN cS : Nat} {ad : Nat → Nat} {hk : HK} {nx ns : Nat} {A : Nat → Prop} {gi : GI} {gr : GR} {α : Type} {r : α} {own : String} {idx : Nat} {a0 : Nat} {ff : ((Nat × HK × Nat × Nat × GI × GR) ⊕ (HK × Nat × Nat × GI × GR)) → Option α} (ht : (hk a0).1 = 14) (C : CallFix p m c cc nL s args lw_all own) (B : XBA D cA a9 h9 n0 m0 cN cS ad hk nx ns A s gi gr H locs) (hRr : R.cells = cN - n0 ∧ R.slots = cS - m0) (hq : Cond.methodLink own idx yX5_man ∈ lw_all) (hF : 11 ≤ R.frames) (hN : 285 ≤ R.locals) (hs : ls.size = nL) (hw : (rest.map fun v => v.category).sum ≤ 8) (h : (g_cc (fun c1 c2 => f_X5_man c1 c2 hk nx ns gi gr a0) (fun z : (Nat × HK × Nat × Nat × GI × GR) ⊕ (HK × Nat × Nat × GI × GR) => Sum.elim (fun t : Nat × HK × Nat × Nat × GI × GR => t.2.2.1) (fun q : HK × Nat × Nat × GI × GR => q.2.1) z) (fun z : (Nat × HK × Nat × Nat × GI × GR) ⊕ (HK × Nat × Nat × GI × GR) => Sum.elim (fun t : Nat × HK × Nat × Nat × GI × GR => t.2.2.2.1) (fun q : HK × Nat × Nat × GI × GR => q.2.2.1) z) cN cS nx ns).bind ff = some r) (hdg : decode cc pc = .ok (.invokevirtual idx, 3)) (kx : ∀ (t : Nat × HK × Nat × Nat × GI × GR) (ad' : Nat → Nat), ff (.inl t) = some r → (t.2.1 t.1).1 = 15 → (∀ i, (hk i).1 < 1000 → ad' i = ad i ∧ t.2.1 i = hk i) → ∀ (H' : Heap) (locs' : List Loc), XBA D cA a9 h9 n0 m0 cN cS ad' t.2.1 t.2.2.1 t.2.2.2.1 A s t.2.2.2.2.1 t.2.2.2.2.2 H' locs' → vx_W p l e R s m args below meth c H' locs' (t.2.2.1 - n0) (t.2.2.2.1 - m0) Q (F0 m pc ls rest) (ad' t.1)) (kk : ∀ (q : HK × Nat × Nat × GI × GR) (ad' : Nat → Nat), ff (.inr q) = some r → (∀ i, (hk i).1 < 1000 → ad' i = ad i ∧ q.1 i = hk i) → ∀ (H' : Heap) (locs' : List Loc), XBA D cA a9 h9 n0 m0 cN cS ad' q.1 q.2.1 q.2.2.1 A s q.2.2.2.1 q.2.2.2.2 H' locs' → W p l e R s m args below meth c H' locs' (q.2.1 - n0) (q.2.2.1 - m0) Q (F0 m (pc + 3) ls (rest))) : W p l e R s m args below meth c H locs (nx - n0) (ns - m0) Q (F0 m pc ls (.ref (ad a0) :: rest)) := by
  obtain ⟨z, h1, h2⟩ := g_ob h
  obtain ⟨h3, c1, c2, c3, c4⟩ := g_cc_of h1
  refine xt_cVV (As := []) (rest := rest) (n := 0) (qn := (fun z : (Nat × HK × Nat × Nat × GI × GR) ⊕ (HK × Nat × Nat × GI × GR) => Sum.elim (fun t : Nat × HK × Nat × Nat × GI × GR => t.2.2.1) (fun q : HK × Nat × Nat × GI × GR => q.2.1) z) z) (qs := (fun z : (Nat × HK × Nat × Nat × GI × GR) ⊕ (HK × Nat × Nat × GI × GR) => Sum.elim (fun t : Nat × HK × Nat × Nat × GI × GR => t.2.2.2.1) (fun q : HK × Nat × Nat × GI × GR => q.2.2.1) z) z) xc_4 ht (by decide) C B hRr (fun sz => w_X5_man l D cA ad _ _ hk nx ns gi gr a0 ht ⟨c1, c3⟩ z h3 sz) hq q958 qs14 q151 q959 (by decide +kernel) ⟨c1, c2, c3, c4⟩ (fun u hp => ?_) (fun x hp => ?_) ⟨hF, hN⟩ rfl hs hw hdg (fun w u H9 locs9 hp hw9 hae B9 => ?_) (fun u H9 locs9 hp hae B9 => ?_)
  · have hp := hp
    subst hp
    exact ⟨rfl, rfl⟩
  · have hp := hp
    subst hp
    exact ⟨rfl, rfl⟩
  · have hp := hp
    subst hp
    exact kx _ u.1 h2 hw9 hae H9 locs9 B9
  · have hp := hp
    subst hp
    exact kk _ u.1 h2 hae H9 locs9 B9
def f_X5_purse (cN cS : Nat) (hk : HK) (nx ns : Nat) (gi : GI) (gr : GR) (a0 : Nat) : Option ((Nat × HK × Nat × Nat × GI × GR) ⊕ (HK × Nat × Nat × GI × GR)) :=
  (g_cc (fun c1 c2 => f_X5_go c1 c2 hk nx ns gi gr a0) (fun q : HK × Nat × Nat × GI × GR => q.2.1) (fun q : HK × Nat × Nat × GI × GR => q.2.2.1) cN cS nx ns).bind fun q1 =>
  (g_cc (fun c1 c2 => f_X5_oldMan c1 c2 q1.1 q1.2.1 q1.2.2.1 q1.2.2.2.1 q1.2.2.2.2 a0) (fun z : (Nat × HK × Nat × Nat × GI × GR) ⊕ (Nat × HK × Nat × Nat × GI × GR) => Sum.elim (fun t : Nat × HK × Nat × Nat × GI × GR => t.2.2.1) (fun q : Nat × HK × Nat × Nat × GI × GR => q.2.2.1) z) (fun z : (Nat × HK × Nat × Nat × GI × GR) ⊕ (Nat × HK × Nat × Nat × GI × GR) => Sum.elim (fun t : Nat × HK × Nat × Nat × GI × GR => t.2.2.2.1) (fun q : Nat × HK × Nat × Nat × GI × GR => q.2.2.2.1) z) cN cS q1.2.1 q1.2.2.1).bind fun q9 => Sum.elim (fun (t6 : Nat × HK × Nat × Nat × GI × GR) => some (.inl (t6.1, t6.2.1, t6.2.2.1, t6.2.2.2.1, t6.2.2.2.2.1, t6.2.2.2.2.2))) (fun (q5 : Nat × HK × Nat × Nat × GI × GR) =>
  (g_ok q5.2.1 q5.1).bind fun _ =>
  (g_cc (fun c1 c2 => f_X5_go c1 c2 q5.2.1 q5.2.2.1 q5.2.2.2.1 q5.2.2.2.2.1 q5.2.2.2.2.2 a0) (fun q : HK × Nat × Nat × GI × GR => q.2.1) (fun q : HK × Nat × Nat × GI × GR => q.2.2.1) cN cS q5.2.2.1 q5.2.2.2.1).bind fun q13 =>
  (g_is q13.1 q5.1 16).bind fun _ =>
  (g_cc (fun c1 c2 => f_X5_freshKind c1 c2 q13.1 q13.2.1 q13.2.2.1 q13.2.2.2.1 q13.2.2.2.2 a0 (q13.2.2.2.1 q5.1 4)) (fun z : (Nat × HK × Nat × Nat × GI × GR) ⊕ (Int32 × HK × Nat × Nat × GI × GR) => Sum.elim (fun t : Nat × HK × Nat × Nat × GI × GR => t.2.2.1) (fun q : Int32 × HK × Nat × Nat × GI × GR => q.2.2.1) z) (fun z : (Nat × HK × Nat × Nat × GI × GR) ⊕ (Int32 × HK × Nat × Nat × GI × GR) => Sum.elim (fun t : Nat × HK × Nat × Nat × GI × GR => t.2.2.2.1) (fun q : Int32 × HK × Nat × Nat × GI × GR => q.2.2.2.1) z) cN cS q13.2.1 q13.2.2.1).bind fun q9 => Sum.elim (fun (t20 : Nat × HK × Nat × Nat × GI × GR) => some (.inl (t20.1, t20.2.1, t20.2.2.1, t20.2.2.2.1, t20.2.2.2.2.1, t20.2.2.2.2.2))) (fun (q19 : Int32 × HK × Nat × Nat × GI × GR) =>
  (q19.2.2.2.2.2 q5.1 1).bind fun v27 =>
  (g_cc (fun c1 c2 => f_X5_number c1 c2 q19.2.1 q19.2.2.1 q19.2.2.2.1 q19.2.2.2.2.1 q19.2.2.2.2.2 a0 0 60) (fun z : (Nat × HK × Nat × Nat × GI × GR) ⊕ (Int32 × HK × Nat × Nat × GI × GR) => Sum.elim (fun t : Nat × HK × Nat × Nat × GI × GR => t.2.2.1) (fun q : Int32 × HK × Nat × Nat × GI × GR => q.2.2.1) z) (fun z : (Nat × HK × Nat × Nat × GI × GR) ⊕ (Int32 × HK × Nat × Nat × GI × GR) => Sum.elim (fun t : Nat × HK × Nat × Nat × GI × GR => t.2.2.2.1) (fun q : Int32 × HK × Nat × Nat × GI × GR => q.2.2.2.1) z) cN cS q19.2.2.1 q19.2.2.2.1).bind fun q9 => Sum.elim (fun (t30 : Nat × HK × Nat × Nat × GI × GR) => some (.inl (t30.1, t30.2.1, t30.2.2.1, t30.2.2.2.1, t30.2.2.2.2.1, t30.2.2.2.2.2))) (fun (q29 : Int32 × HK × Nat × Nat × GI × GR) =>
  (g_is q29.2.1 v27 0).bind fun _ =>
  (g_st q29.2.2.2.2.1 v27 (q29.2.1 v27).2 q19.1 q29.1).bind fun gi39 =>
  (some (g_pi gi39 q5.1 4 ((gi39 q5.1 4) ||| (1 <<< (q19.1 &&& 31))))).bind fun gi40 =>
  some (.inr (q29.2.1, q29.2.2.1, q29.2.2.2.1, gi40, q29.2.2.2.2.2))) q9) q9) q9
set_option maxHeartbeats 400000 in
theorem w_X5_purse (l : Launch) (D : va_G) (cA : Nat → ClassId) (ad : Nat → Nat) (cN cS : Nat) (hk : HK) (nx ns : Nat) (gi : GI) (gr : GR) (a0 : Nat) (ht : (hk a0).1 = 14) (hcap : nx ≤ cN ∧ ns ≤ cS) (r : (Nat × HK × Nat × Nat × GI × GR) ⊕ (HK × Nat × Nat × GI × GR)) (h : f_X5_purse cN cS hk nx ns gi gr a0 = some r) (sz : Nat) : vx_Met l yX5_purse (ws_ yX5_purse cX5_purse 3 (none)) ({ frames := 9, cells := cN - nx, slots := cS - ns, locals := 244 } : Room) (va_Pc [.ref (ad a0)] (XPre D cA ad hk nx gi gr sz)) (va_Qv (fun (u : XU) => Sum.inr u.2 = r) (XPostA D cA ad hk nx sz) (XA ad nx sz)) (vx_X (fun x : XV => Sum.inl (x.1, x.2.2) = r) (XPostX D cA ad hk nx sz) (XA ad nx sz)) (cN - nx) (cS - ns) (XA ad nx sz) := by
  refine xt_stV (own := RX5) (P := (fun (u : XU) => Sum.inr u.2 = r)) (PX := (fun x : XV => Sum.inl (x.1, x.2.2) = r)) (by decide +kernel) rfl (Nat.le_of_ble_eq_true rfl) hcap (fun p e s m args below meth c R Q A ls C hmn hF hN hRr B hret hthr hL => ?_) sz
  have hx := C.1
  have hb := C.2.1
  have hL : lv_has ls 3 [(0, .ref (ad a0))] := hL
  unfold f_X5_purse at h
  refine lv_aload_n hx hb dX5_purse_0 rfl (lv_at hL 0 rfl) ?_
  refine k_X5_go ht C B hRr q512 (Nat.le_trans (Nat.le_of_ble_eq_true rfl) hF) (Nat.le_trans (Nat.le_of_ble_eq_true rfl) hN) hL.1 (Nat.le_of_ble_eq_true rfl) h dX5_purse_1 (fun q1 ad2 h hae3 H locs B => ?_)
  rw [← (hae3 a0 (by rw [ht]; decide)).1] at hL
  have hp4 : (q1.1 a0).1 = 14 := by rw [(hae3 a0 (by rw [ht]; decide)).2]; exact ht
  refine lv_aload_n hx hb dX5_purse_4 rfl (lv_at hL 0 rfl) ?_
  refine k_X5_oldMan hp4 C B hRr q1027 (Nat.le_trans (Nat.le_of_ble_eq_true rfl) hF) (Nat.le_trans (Nat.le_of_ble_eq_true rfl) hN) hL.1 (Nat.le_of_ble_eq_true rfl) h dX5_purse_5 (fun t6 ad8 h hw10 _ H locs B => ?_) (fun q5 ad7 h hae9 H locs B => ?_)
  · exact hthr t6.1 (ad8, t6.2.1, t6.2.2.1, t6.2.2.2.1, t6.2.2.2.2.1, t6.2.2.2.2.2) _ _ _ _ _ (Option.some.inj h) hw10 B
  · have h := g_elr h
    rw [← (hae9 a0 (by rw [hp4]; decide)).1] at hL
    have hp11 : (q5.2.1 a0).1 = 14 := by rw [(hae9 a0 (by rw [hp4]; decide)).2]; exact hp4
    refine lv_astore_n (lv' := [(1, .ref (ad7 q5.1)), (0, .ref (ad7 a0))]) hx hb dX5_purse_8 rfl hL (by decide) rfl (fun ls hL => ?_)
    refine lv_aload_n hx hb dX5_purse_9 rfl (lv_at hL 1 rfl) ?_
    refine xx_ok h (fun ok12 h => ?_)
    refine k_X5_go hp11 C B hRr q512 (Nat.le_trans (Nat.le_of_ble_eq_true rfl) hF) (Nat.le_trans (Nat.le_of_ble_eq_true rfl) hN) hL.1 (Nat.le_of_ble_eq_true rfl) h dX5_purse_10 (fun q13 ad14 h hae15 H locs B => ?_)
    rw [← (hae15 q5.1 ok12).1] at hL
    have ok16 : (q13.1 q5.1).1 < 1000 := by rw [(hae15 q5.1 ok12).2]; exact ok12
    rw [← (hae15 a0 (by rw [hp11]; decide)).1] at hL
    have hp17 : (q13.1 a0).1 = 14 := by rw [(hae15 a0 (by rw [hp11]; decide)).2]; exact hp11
    refine lv_aload_n hx hb dX5_purse_13 rfl (lv_at hL 1 rfl) ?_
    refine lv_aload_n hx hb dX5_purse_14 rfl (lv_at hL 0 rfl) ?_
    refine xx_is h (fun hp18 h => ?_)
    refine xx_gi (ci := 6) (k := 4) C B.1 xc_6 hp18 (by decide) (Nat.le_of_ble_eq_true rfl) rfl q982 (fun _ h => h) dX5_purse_15 ?_
    refine k_X5_freshKind hp17 C B hRr q1036 (Nat.le_trans (Nat.le_of_ble_eq_true rfl) hF) (Nat.le_trans (Nat.le_of_ble_eq_true rfl) hN) hL.1 (Nat.le_of_ble_eq_true rfl) h dX5_purse_18 (fun t20 ad22 h hw24 _ H locs B => ?_) (fun q19 ad21 h hae23 H locs B => ?_)
    · exact hthr t20.1 (ad22, t20.2.1, t20.2.2.1, t20.2.2.2.1, t20.2.2.2.2.1, t20.2.2.2.2.2) _ _ _ _ _ (Option.some.inj h) hw24 B
    · have h := g_elr h
      rw [← (hae23 q5.1 ok16).1] at hL
      have hp25 : (q19.2.1 q5.1).1 = 16 := by rw [(hae23 q5.1 ok16).2]; exact hp18
      rw [← (hae23 a0 (by rw [hp17]; decide)).1] at hL
      have hp26 : (q19.2.1 a0).1 = 14 := by rw [(hae23 a0 (by rw [hp17]; decide)).2]; exact hp17
      refine lv_istore_n (lv' := [(2, .int q19.1), (1, .ref (ad21 q5.1)), (0, .ref (ad21 a0))]) hx hb dX5_purse_21 rfl hL (by decide) rfl (fun ls hL => ?_)
      refine lv_aload_n hx hb dX5_purse_22 rfl (lv_at hL 1 rfl) ?_
      refine xx_gr (ci := 6) (k := 1) C B.1 xc_6 hp25 (by decide) (Nat.le_of_ble_eq_true rfl) rfl q975 (fun _ h => h) h dX5_purse_23 (fun v27 ok28 h => ?_)
      refine lv_iload_n hx hb dX5_purse_26 rfl (lv_at hL 0 rfl) ?_
      refine lv_aload_n hx hb dX5_purse_27 rfl (lv_at hL 2 rfl) ?_
      refine lv_iconst (v := 0) hx hb dX5_purse_28 (by decide) ?_
      refine lv_bipush (v := 60) hx hb dX5_purse_29 (by decide) ?_
      refine k_X5_number hp26 C B hRr q1019 (Nat.le_trans (Nat.le_of_ble_eq_true rfl) hF) (Nat.le_trans (Nat.le_of_ble_eq_true rfl) hN) hL.1 (Nat.le_of_ble_eq_true rfl) h dX5_purse_31 (fun t30 ad32 h hw34 _ H locs B => ?_) (fun q29 ad31 h hae33 H locs B => ?_)
      · exact hthr t30.1 (ad32, t30.2.1, t30.2.2.1, t30.2.2.2.1, t30.2.2.2.2.1, t30.2.2.2.2.2) _ _ _ _ _ (Option.some.inj h) hw34 B
      · have h := g_elr h
        rw [← (hae33 q5.1 (by rw [hp25]; decide)).1] at hL
        have hp35 : (q29.2.1 q5.1).1 = 16 := by rw [(hae33 q5.1 (by rw [hp25]; decide)).2]; exact hp25
        rw [← (hae33 a0 (by rw [hp26]; decide)).1] at hL
        have hp36 : (q29.2.1 a0).1 = 14 := by rw [(hae33 a0 (by rw [hp26]; decide)).2]; exact hp26
        rw [← (hae33 v27 ok28).1]
        have ok37 : (q29.2.1 v27).1 < 1000 := by rw [(hae33 v27 ok28).2]; exact ok28
        refine xx_is h (fun hp38 h => ?_)
        refine xx_iast C B.1 hp38 h dX5_purse_34 (fun gi39 h H locs B2 => ?_)
        have B := And.intro B2 B.2
        refine lv_aload_n hx hb dX5_purse_35 rfl (lv_at hL 1 rfl) ?_
        refine lv_dup hx hb dX5_purse_36 rfl ?_
        refine xx_gi (ci := 6) (k := 4) C B.1 xc_6 hp35 (by decide) (Nat.le_of_ble_eq_true rfl) rfl q982 (fun _ h => h) dX5_purse_37 ?_
        refine lv_iconst (v := 1) hx hb dX5_purse_40 (by decide) ?_
        refine lv_iload_n hx hb dX5_purse_41 rfl (lv_at hL 0 rfl) ?_
        refine lv_ishl hx hb dX5_purse_42 ?_
        refine lv_ior hx hb dX5_purse_43 ?_
        refine xx_pi (ci := 6) (k := 4) C B.1 xc_6 hp35 (by decide) (Nat.le_of_ble_eq_true rfl) rfl q982 (fun _ h => h) rfl rfl rfl h dX5_purse_44 (fun gi40 h H locs B2 => ?_)
        have B := And.intro B2 B.2
        exact hret (ad31, q29.2.1, q29.2.2.1, q29.2.2.2.1, gi40, q29.2.2.2.2.2) _ _ _ _ (Option.some.inj h) B dX5_purse_47
theorem k_X5_purse {p : Program} {l : Launch} {e : Env} {R : Room} {s : State} {m : MethodId} {args : Array Value} {below : List Frame} {meth : Method} {c : Code} {H : Heap} {locs : List Loc} {Q : State → Prop} {pc : Nat} {ls : Array Slot} {rest : List Value} {cc : ByteArray} {nL : Nat} {D : va_G} {cA : Nat → ClassId} {a9 : Nat → Nat} {h9 : HK} {n0 m0 cN cS : Nat} {ad : Nat → Nat} {hk : HK} {nx ns : Nat} {A : Nat → Prop} {gi : GI} {gr : GR} {α : Type} {r : α} {own : String} {idx : Nat} {a0 : Nat} {ff : ((Nat × HK × Nat × Nat × GI × GR) ⊕ (HK × Nat × Nat × GI × GR)) → Option α} (ht : (hk a0).1 = 14) (C : CallFix p m c cc nL s args lw_all own) (B : XBA D cA a9 h9 n0 m0 cN cS ad hk nx ns A s gi gr H locs) (hRr : R.cells = cN - n0 ∧ R.slots = cS - m0) (hq : Cond.methodLink own idx yX5_purse ∈ lw_all) (hF : 10 ≤ R.frames) (hN : 266 ≤ R.locals) (hs : ls.size = nL) (hw : (rest.map fun v => v.category).sum ≤ 8) (h : (g_cc (fun c1 c2 => f_X5_purse c1 c2 hk nx ns gi gr a0) (fun z : (Nat × HK × Nat × Nat × GI × GR) ⊕ (HK × Nat × Nat × GI × GR) => Sum.elim (fun t : Nat × HK × Nat × Nat × GI × GR => t.2.2.1) (fun q : HK × Nat × Nat × GI × GR => q.2.1) z) (fun z : (Nat × HK × Nat × Nat × GI × GR) ⊕ (HK × Nat × Nat × GI × GR) => Sum.elim (fun t : Nat × HK × Nat × Nat × GI × GR => t.2.2.2.1) (fun q : HK × Nat × Nat × GI × GR => q.2.2.1) z) cN cS nx ns).bind ff = some r) (hdg : decode cc pc = .ok (.invokevirtual idx, 3)) (kx : ∀ (t : Nat × HK × Nat × Nat × GI × GR) (ad' : Nat → Nat), ff (.inl t) = some r → (t.2.1 t.1).1 = 15 → (∀ i, (hk i).1 < 1000 → ad' i = ad i ∧ t.2.1 i = hk i) → ∀ (H' : Heap) (locs' : List Loc), XBA D cA a9 h9 n0 m0 cN cS ad' t.2.1 t.2.2.1 t.2.2.2.1 A s t.2.2.2.2.1 t.2.2.2.2.2 H' locs' → vx_W p l e R s m args below meth c H' locs' (t.2.2.1 - n0) (t.2.2.2.1 - m0) Q (F0 m pc ls rest) (ad' t.1)) (kk : ∀ (q : HK × Nat × Nat × GI × GR) (ad' : Nat → Nat), ff (.inr q) = some r → (∀ i, (hk i).1 < 1000 → ad' i = ad i ∧ q.1 i = hk i) → ∀ (H' : Heap) (locs' : List Loc), XBA D cA a9 h9 n0 m0 cN cS ad' q.1 q.2.1 q.2.2.1 A s q.2.2.2.1 q.2.2.2.2 H' locs' → W p l e R s m args below meth c H' locs' (q.2.1 - n0) (q.2.2.1 - m0) Q (F0 m (pc + 3) ls (rest))) : W p l e R s m args below meth c H locs (nx - n0) (ns - m0) Q (F0 m pc ls (.ref (ad a0) :: rest)) := by
  obtain ⟨z, h1, h2⟩ := g_ob h
  obtain ⟨h3, c1, c2, c3, c4⟩ := g_cc_of h1
  refine xt_cVV (As := []) (rest := rest) (n := 0) (qn := (fun z : (Nat × HK × Nat × Nat × GI × GR) ⊕ (HK × Nat × Nat × GI × GR) => Sum.elim (fun t : Nat × HK × Nat × Nat × GI × GR => t.2.2.1) (fun q : HK × Nat × Nat × GI × GR => q.2.1) z) z) (qs := (fun z : (Nat × HK × Nat × Nat × GI × GR) ⊕ (HK × Nat × Nat × GI × GR) => Sum.elim (fun t : Nat × HK × Nat × Nat × GI × GR => t.2.2.2.1) (fun q : HK × Nat × Nat × GI × GR => q.2.2.1) z) z) xc_4 ht (by decide) C B hRr (fun sz => w_X5_purse l D cA ad _ _ hk nx ns gi gr a0 ht ⟨c1, c3⟩ z h3 sz) hq q1025 qs18 q151 q1026 (by decide +kernel) ⟨c1, c2, c3, c4⟩ (fun u hp => ?_) (fun x hp => ?_) ⟨hF, hN⟩ rfl hs hw hdg (fun w u H9 locs9 hp hw9 hae B9 => ?_) (fun u H9 locs9 hp hae B9 => ?_)
  · have hp := hp
    subst hp
    exact ⟨rfl, rfl⟩
  · have hp := hp
    subst hp
    exact ⟨rfl, rfl⟩
  · have hp := hp
    subst hp
    exact kx _ u.1 h2 hw9 hae H9 locs9 B9
  · have hp := hp
    subst hp
    exact kk _ u.1 h2 hae H9 locs9 B9
def f_X5_pay (cN cS : Nat) (hk : HK) (nx ns : Nat) (gi : GI) (gr : GR) (a0 : Nat) : Option ((Nat × HK × Nat × Nat × GI × GR) ⊕ (HK × Nat × Nat × GI × GR)) :=
  (g_cc (fun c1 c2 => f_X5_go c1 c2 hk nx ns gi gr a0) (fun q : HK × Nat × Nat × GI × GR => q.2.1) (fun q : HK × Nat × Nat × GI × GR => q.2.2.1) cN cS nx ns).bind fun q1 =>
  (g_cc (fun c1 c2 => f_X5_oldMan c1 c2 q1.1 q1.2.1 q1.2.2.1 q1.2.2.2.1 q1.2.2.2.2 a0) (fun z : (Nat × HK × Nat × Nat × GI × GR) ⊕ (Nat × HK × Nat × Nat × GI × GR) => Sum.elim (fun t : Nat × HK × Nat × Nat × GI × GR => t.2.2.1) (fun q : Nat × HK × Nat × Nat × GI × GR => q.2.2.1) z) (fun z : (Nat × HK × Nat × Nat × GI × GR) ⊕ (Nat × HK × Nat × Nat × GI × GR) => Sum.elim (fun t : Nat × HK × Nat × Nat × GI × GR => t.2.2.2.1) (fun q : Nat × HK × Nat × Nat × GI × GR => q.2.2.2.1) z) cN cS q1.2.1 q1.2.2.1).bind fun q9 => Sum.elim (fun (t6 : Nat × HK × Nat × Nat × GI × GR) => some (.inl (t6.1, t6.2.1, t6.2.2.1, t6.2.2.2.1, t6.2.2.2.2.1, t6.2.2.2.2.2))) (fun (q5 : Nat × HK × Nat × Nat × GI × GR) =>
  (g_ok q5.2.1 q5.1).bind fun _ =>
  (g_cc (fun c1 c2 => f_X5_go c1 c2 q5.2.1 q5.2.2.1 q5.2.2.2.1 q5.2.2.2.2.1 q5.2.2.2.2.2 a0) (fun q : HK × Nat × Nat × GI × GR => q.2.1) (fun q : HK × Nat × Nat × GI × GR => q.2.2.1) cN cS q5.2.2.1 q5.2.2.2.1).bind fun q13 =>
  (g_is q13.1 q5.1 16).bind fun _ =>
  (g_cc (fun c1 c2 => f_X5_freshKind c1 c2 q13.1 q13.2.1 q13.2.2.1 q13.2.2.2.1 q13.2.2.2.2 a0 (q13.2.2.2.1 q5.1 5)) (fun z : (Nat × HK × Nat × Nat × GI × GR) ⊕ (Int32 × HK × Nat × Nat × GI × GR) => Sum.elim (fun t : Nat × HK × Nat × Nat × GI × GR => t.2.2.1) (fun q : Int32 × HK × Nat × Nat × GI × GR => q.2.2.1) z) (fun z : (Nat × HK × Nat × Nat × GI × GR) ⊕ (Int32 × HK × Nat × Nat × GI × GR) => Sum.elim (fun t : Nat × HK × Nat × Nat × GI × GR => t.2.2.2.1) (fun q : Int32 × HK × Nat × Nat × GI × GR => q.2.2.2.1) z) cN cS q13.2.1 q13.2.2.1).bind fun q9 => Sum.elim (fun (t20 : Nat × HK × Nat × Nat × GI × GR) => some (.inl (t20.1, t20.2.1, t20.2.2.1, t20.2.2.2.1, t20.2.2.2.2.1, t20.2.2.2.2.2))) (fun (q19 : Int32 × HK × Nat × Nat × GI × GR) =>
  (q19.2.2.2.2.2 q5.1 2).bind fun v27 =>
  (g_cc (fun c1 c2 => f_X5_number c1 c2 q19.2.1 q19.2.2.1 q19.2.2.2.1 q19.2.2.2.2.1 q19.2.2.2.2.2 a0 0 9) (fun z : (Nat × HK × Nat × Nat × GI × GR) ⊕ (Int32 × HK × Nat × Nat × GI × GR) => Sum.elim (fun t : Nat × HK × Nat × Nat × GI × GR => t.2.2.1) (fun q : Int32 × HK × Nat × Nat × GI × GR => q.2.2.1) z) (fun z : (Nat × HK × Nat × Nat × GI × GR) ⊕ (Int32 × HK × Nat × Nat × GI × GR) => Sum.elim (fun t : Nat × HK × Nat × Nat × GI × GR => t.2.2.2.1) (fun q : Int32 × HK × Nat × Nat × GI × GR => q.2.2.2.1) z) cN cS q19.2.2.1 q19.2.2.2.1).bind fun q9 => Sum.elim (fun (t30 : Nat × HK × Nat × Nat × GI × GR) => some (.inl (t30.1, t30.2.1, t30.2.2.1, t30.2.2.2.1, t30.2.2.2.2.1, t30.2.2.2.2.2))) (fun (q29 : Int32 × HK × Nat × Nat × GI × GR) =>
  (g_is q29.2.1 v27 0).bind fun _ =>
  (g_st q29.2.2.2.2.1 v27 (q29.2.1 v27).2 q19.1 q29.1).bind fun gi39 =>
  (some (g_pi gi39 q5.1 5 ((gi39 q5.1 5) ||| (1 <<< (q19.1 &&& 31))))).bind fun gi40 =>
  some (.inr (q29.2.1, q29.2.2.1, q29.2.2.2.1, gi40, q29.2.2.2.2.2))) q9) q9) q9
set_option maxHeartbeats 400000 in
theorem w_X5_pay (l : Launch) (D : va_G) (cA : Nat → ClassId) (ad : Nat → Nat) (cN cS : Nat) (hk : HK) (nx ns : Nat) (gi : GI) (gr : GR) (a0 : Nat) (ht : (hk a0).1 = 14) (hcap : nx ≤ cN ∧ ns ≤ cS) (r : (Nat × HK × Nat × Nat × GI × GR) ⊕ (HK × Nat × Nat × GI × GR)) (h : f_X5_pay cN cS hk nx ns gi gr a0 = some r) (sz : Nat) : vx_Met l yX5_pay (ws_ yX5_pay cX5_pay 3 (none)) ({ frames := 9, cells := cN - nx, slots := cS - ns, locals := 244 } : Room) (va_Pc [.ref (ad a0)] (XPre D cA ad hk nx gi gr sz)) (va_Qv (fun (u : XU) => Sum.inr u.2 = r) (XPostA D cA ad hk nx sz) (XA ad nx sz)) (vx_X (fun x : XV => Sum.inl (x.1, x.2.2) = r) (XPostX D cA ad hk nx sz) (XA ad nx sz)) (cN - nx) (cS - ns) (XA ad nx sz) := by
  refine xt_stV (own := RX5) (P := (fun (u : XU) => Sum.inr u.2 = r)) (PX := (fun x : XV => Sum.inl (x.1, x.2.2) = r)) (by decide +kernel) rfl (Nat.le_of_ble_eq_true rfl) hcap (fun p e s m args below meth c R Q A ls C hmn hF hN hRr B hret hthr hL => ?_) sz
  have hx := C.1
  have hb := C.2.1
  have hL : lv_has ls 3 [(0, .ref (ad a0))] := hL
  unfold f_X5_pay at h
  refine lv_aload_n hx hb dX5_pay_0 rfl (lv_at hL 0 rfl) ?_
  refine k_X5_go ht C B hRr q512 (Nat.le_trans (Nat.le_of_ble_eq_true rfl) hF) (Nat.le_trans (Nat.le_of_ble_eq_true rfl) hN) hL.1 (Nat.le_of_ble_eq_true rfl) h dX5_pay_1 (fun q1 ad2 h hae3 H locs B => ?_)
  rw [← (hae3 a0 (by rw [ht]; decide)).1] at hL
  have hp4 : (q1.1 a0).1 = 14 := by rw [(hae3 a0 (by rw [ht]; decide)).2]; exact ht
  refine lv_aload_n hx hb dX5_pay_4 rfl (lv_at hL 0 rfl) ?_
  refine k_X5_oldMan hp4 C B hRr q1027 (Nat.le_trans (Nat.le_of_ble_eq_true rfl) hF) (Nat.le_trans (Nat.le_of_ble_eq_true rfl) hN) hL.1 (Nat.le_of_ble_eq_true rfl) h dX5_pay_5 (fun t6 ad8 h hw10 _ H locs B => ?_) (fun q5 ad7 h hae9 H locs B => ?_)
  · exact hthr t6.1 (ad8, t6.2.1, t6.2.2.1, t6.2.2.2.1, t6.2.2.2.2.1, t6.2.2.2.2.2) _ _ _ _ _ (Option.some.inj h) hw10 B
  · have h := g_elr h
    rw [← (hae9 a0 (by rw [hp4]; decide)).1] at hL
    have hp11 : (q5.2.1 a0).1 = 14 := by rw [(hae9 a0 (by rw [hp4]; decide)).2]; exact hp4
    refine lv_astore_n (lv' := [(1, .ref (ad7 q5.1)), (0, .ref (ad7 a0))]) hx hb dX5_pay_8 rfl hL (by decide) rfl (fun ls hL => ?_)
    refine lv_aload_n hx hb dX5_pay_9 rfl (lv_at hL 1 rfl) ?_
    refine xx_ok h (fun ok12 h => ?_)
    refine k_X5_go hp11 C B hRr q512 (Nat.le_trans (Nat.le_of_ble_eq_true rfl) hF) (Nat.le_trans (Nat.le_of_ble_eq_true rfl) hN) hL.1 (Nat.le_of_ble_eq_true rfl) h dX5_pay_10 (fun q13 ad14 h hae15 H locs B => ?_)
    rw [← (hae15 q5.1 ok12).1] at hL
    have ok16 : (q13.1 q5.1).1 < 1000 := by rw [(hae15 q5.1 ok12).2]; exact ok12
    rw [← (hae15 a0 (by rw [hp11]; decide)).1] at hL
    have hp17 : (q13.1 a0).1 = 14 := by rw [(hae15 a0 (by rw [hp11]; decide)).2]; exact hp11
    refine lv_aload_n hx hb dX5_pay_13 rfl (lv_at hL 1 rfl) ?_
    refine lv_aload_n hx hb dX5_pay_14 rfl (lv_at hL 0 rfl) ?_
    refine xx_is h (fun hp18 h => ?_)
    refine xx_gi (ci := 6) (k := 5) C B.1 xc_6 hp18 (by decide) (Nat.le_of_ble_eq_true rfl) rfl q983 (fun _ h => h) dX5_pay_15 ?_
    refine k_X5_freshKind hp17 C B hRr q1036 (Nat.le_trans (Nat.le_of_ble_eq_true rfl) hF) (Nat.le_trans (Nat.le_of_ble_eq_true rfl) hN) hL.1 (Nat.le_of_ble_eq_true rfl) h dX5_pay_18 (fun t20 ad22 h hw24 _ H locs B => ?_) (fun q19 ad21 h hae23 H locs B => ?_)
    · exact hthr t20.1 (ad22, t20.2.1, t20.2.2.1, t20.2.2.2.1, t20.2.2.2.2.1, t20.2.2.2.2.2) _ _ _ _ _ (Option.some.inj h) hw24 B
    · have h := g_elr h
      rw [← (hae23 q5.1 ok16).1] at hL
      have hp25 : (q19.2.1 q5.1).1 = 16 := by rw [(hae23 q5.1 ok16).2]; exact hp18
      rw [← (hae23 a0 (by rw [hp17]; decide)).1] at hL
      have hp26 : (q19.2.1 a0).1 = 14 := by rw [(hae23 a0 (by rw [hp17]; decide)).2]; exact hp17
      refine lv_istore_n (lv' := [(2, .int q19.1), (1, .ref (ad21 q5.1)), (0, .ref (ad21 a0))]) hx hb dX5_pay_21 rfl hL (by decide) rfl (fun ls hL => ?_)
      refine lv_aload_n hx hb dX5_pay_22 rfl (lv_at hL 1 rfl) ?_
      refine xx_gr (ci := 6) (k := 2) C B.1 xc_6 hp25 (by decide) (Nat.le_of_ble_eq_true rfl) rfl q979 (fun _ h => h) h dX5_pay_23 (fun v27 ok28 h => ?_)
      refine lv_iload_n hx hb dX5_pay_26 rfl (lv_at hL 0 rfl) ?_
      refine lv_aload_n hx hb dX5_pay_27 rfl (lv_at hL 2 rfl) ?_
      refine lv_iconst (v := 0) hx hb dX5_pay_28 (by decide) ?_
      refine lv_bipush (v := 9) hx hb dX5_pay_29 (by decide) ?_
      refine k_X5_number hp26 C B hRr q1019 (Nat.le_trans (Nat.le_of_ble_eq_true rfl) hF) (Nat.le_trans (Nat.le_of_ble_eq_true rfl) hN) hL.1 (Nat.le_of_ble_eq_true rfl) h dX5_pay_31 (fun t30 ad32 h hw34 _ H locs B => ?_) (fun q29 ad31 h hae33 H locs B => ?_)
      · exact hthr t30.1 (ad32, t30.2.1, t30.2.2.1, t30.2.2.2.1, t30.2.2.2.2.1, t30.2.2.2.2.2) _ _ _ _ _ (Option.some.inj h) hw34 B
      · have h := g_elr h
        rw [← (hae33 q5.1 (by rw [hp25]; decide)).1] at hL
        have hp35 : (q29.2.1 q5.1).1 = 16 := by rw [(hae33 q5.1 (by rw [hp25]; decide)).2]; exact hp25
        rw [← (hae33 a0 (by rw [hp26]; decide)).1] at hL
        have hp36 : (q29.2.1 a0).1 = 14 := by rw [(hae33 a0 (by rw [hp26]; decide)).2]; exact hp26
        rw [← (hae33 v27 ok28).1]
        have ok37 : (q29.2.1 v27).1 < 1000 := by rw [(hae33 v27 ok28).2]; exact ok28
        refine xx_is h (fun hp38 h => ?_)
        refine xx_iast C B.1 hp38 h dX5_pay_34 (fun gi39 h H locs B2 => ?_)
        have B := And.intro B2 B.2
        refine lv_aload_n hx hb dX5_pay_35 rfl (lv_at hL 1 rfl) ?_
        refine lv_dup hx hb dX5_pay_36 rfl ?_
        refine xx_gi (ci := 6) (k := 5) C B.1 xc_6 hp35 (by decide) (Nat.le_of_ble_eq_true rfl) rfl q983 (fun _ h => h) dX5_pay_37 ?_
        refine lv_iconst (v := 1) hx hb dX5_pay_40 (by decide) ?_
        refine lv_iload_n hx hb dX5_pay_41 rfl (lv_at hL 0 rfl) ?_
        refine lv_ishl hx hb dX5_pay_42 ?_
        refine lv_ior hx hb dX5_pay_43 ?_
        refine xx_pi (ci := 6) (k := 5) C B.1 xc_6 hp35 (by decide) (Nat.le_of_ble_eq_true rfl) rfl q983 (fun _ h => h) rfl rfl rfl h dX5_pay_44 (fun gi40 h H locs B2 => ?_)
        have B := And.intro B2 B.2
        exact hret (ad31, q29.2.1, q29.2.2.1, q29.2.2.2.1, gi40, q29.2.2.2.2.2) _ _ _ _ (Option.some.inj h) B dX5_pay_47
theorem k_X5_pay {p : Program} {l : Launch} {e : Env} {R : Room} {s : State} {m : MethodId} {args : Array Value} {below : List Frame} {meth : Method} {c : Code} {H : Heap} {locs : List Loc} {Q : State → Prop} {pc : Nat} {ls : Array Slot} {rest : List Value} {cc : ByteArray} {nL : Nat} {D : va_G} {cA : Nat → ClassId} {a9 : Nat → Nat} {h9 : HK} {n0 m0 cN cS : Nat} {ad : Nat → Nat} {hk : HK} {nx ns : Nat} {A : Nat → Prop} {gi : GI} {gr : GR} {α : Type} {r : α} {own : String} {idx : Nat} {a0 : Nat} {ff : ((Nat × HK × Nat × Nat × GI × GR) ⊕ (HK × Nat × Nat × GI × GR)) → Option α} (ht : (hk a0).1 = 14) (C : CallFix p m c cc nL s args lw_all own) (B : XBA D cA a9 h9 n0 m0 cN cS ad hk nx ns A s gi gr H locs) (hRr : R.cells = cN - n0 ∧ R.slots = cS - m0) (hq : Cond.methodLink own idx yX5_pay ∈ lw_all) (hF : 10 ≤ R.frames) (hN : 266 ≤ R.locals) (hs : ls.size = nL) (hw : (rest.map fun v => v.category).sum ≤ 8) (h : (g_cc (fun c1 c2 => f_X5_pay c1 c2 hk nx ns gi gr a0) (fun z : (Nat × HK × Nat × Nat × GI × GR) ⊕ (HK × Nat × Nat × GI × GR) => Sum.elim (fun t : Nat × HK × Nat × Nat × GI × GR => t.2.2.1) (fun q : HK × Nat × Nat × GI × GR => q.2.1) z) (fun z : (Nat × HK × Nat × Nat × GI × GR) ⊕ (HK × Nat × Nat × GI × GR) => Sum.elim (fun t : Nat × HK × Nat × Nat × GI × GR => t.2.2.2.1) (fun q : HK × Nat × Nat × GI × GR => q.2.2.1) z) cN cS nx ns).bind ff = some r) (hdg : decode cc pc = .ok (.invokevirtual idx, 3)) (kx : ∀ (t : Nat × HK × Nat × Nat × GI × GR) (ad' : Nat → Nat), ff (.inl t) = some r → (t.2.1 t.1).1 = 15 → (∀ i, (hk i).1 < 1000 → ad' i = ad i ∧ t.2.1 i = hk i) → ∀ (H' : Heap) (locs' : List Loc), XBA D cA a9 h9 n0 m0 cN cS ad' t.2.1 t.2.2.1 t.2.2.2.1 A s t.2.2.2.2.1 t.2.2.2.2.2 H' locs' → vx_W p l e R s m args below meth c H' locs' (t.2.2.1 - n0) (t.2.2.2.1 - m0) Q (F0 m pc ls rest) (ad' t.1)) (kk : ∀ (q : HK × Nat × Nat × GI × GR) (ad' : Nat → Nat), ff (.inr q) = some r → (∀ i, (hk i).1 < 1000 → ad' i = ad i ∧ q.1 i = hk i) → ∀ (H' : Heap) (locs' : List Loc), XBA D cA a9 h9 n0 m0 cN cS ad' q.1 q.2.1 q.2.2.1 A s q.2.2.2.1 q.2.2.2.2 H' locs' → W p l e R s m args below meth c H' locs' (q.2.1 - n0) (q.2.2.1 - m0) Q (F0 m (pc + 3) ls (rest))) : W p l e R s m args below meth c H locs (nx - n0) (ns - m0) Q (F0 m pc ls (.ref (ad a0) :: rest)) := by
  obtain ⟨z, h1, h2⟩ := g_ob h
  obtain ⟨h3, c1, c2, c3, c4⟩ := g_cc_of h1
  refine xt_cVV (As := []) (rest := rest) (n := 0) (qn := (fun z : (Nat × HK × Nat × Nat × GI × GR) ⊕ (HK × Nat × Nat × GI × GR) => Sum.elim (fun t : Nat × HK × Nat × Nat × GI × GR => t.2.2.1) (fun q : HK × Nat × Nat × GI × GR => q.2.1) z) z) (qs := (fun z : (Nat × HK × Nat × Nat × GI × GR) ⊕ (HK × Nat × Nat × GI × GR) => Sum.elim (fun t : Nat × HK × Nat × Nat × GI × GR => t.2.2.2.1) (fun q : HK × Nat × Nat × GI × GR => q.2.2.1) z) z) xc_4 ht (by decide) C B hRr (fun sz => w_X5_pay l D cA ad _ _ hk nx ns gi gr a0 ht ⟨c1, c3⟩ z h3 sz) hq q1046 qs23 q151 q1047 (by decide +kernel) ⟨c1, c2, c3, c4⟩ (fun u hp => ?_) (fun x hp => ?_) ⟨hF, hN⟩ rfl hs hw hdg (fun w u H9 locs9 hp hw9 hae B9 => ?_) (fun u H9 locs9 hp hae B9 => ?_)
  · have hp := hp
    subst hp
    exact ⟨rfl, rfl⟩
  · have hp := hp
    subst hp
    exact ⟨rfl, rfl⟩
  · have hp := hp
    subst hp
    exact kx _ u.1 h2 hw9 hae H9 locs9 B9
  · have hp := hp
    subst hp
    exact kk _ u.1 h2 hae H9 locs9 B9
def f_X5_hedge (cN cS : Nat) (hk : HK) (nx ns : Nat) (gi : GI) (gr : GR) (a0 : Nat) : Option ((Nat × HK × Nat × Nat × GI × GR) ⊕ (HK × Nat × Nat × GI × GR)) :=
  (g_cc (fun c1 c2 => f_X5_go c1 c2 hk nx ns gi gr a0) (fun q : HK × Nat × Nat × GI × GR => q.2.1) (fun q : HK × Nat × Nat × GI × GR => q.2.2.1) cN cS nx ns).bind fun q1 =>
  (g_cc (fun c1 c2 => f_X5_oldMan c1 c2 q1.1 q1.2.1 q1.2.2.1 q1.2.2.2.1 q1.2.2.2.2 a0) (fun z : (Nat × HK × Nat × Nat × GI × GR) ⊕ (Nat × HK × Nat × Nat × GI × GR) => Sum.elim (fun t : Nat × HK × Nat × Nat × GI × GR => t.2.2.1) (fun q : Nat × HK × Nat × Nat × GI × GR => q.2.2.1) z) (fun z : (Nat × HK × Nat × Nat × GI × GR) ⊕ (Nat × HK × Nat × Nat × GI × GR) => Sum.elim (fun t : Nat × HK × Nat × Nat × GI × GR => t.2.2.2.1) (fun q : Nat × HK × Nat × Nat × GI × GR => q.2.2.2.1) z) cN cS q1.2.1 q1.2.2.1).bind fun q9 => Sum.elim (fun (t6 : Nat × HK × Nat × Nat × GI × GR) => some (.inl (t6.1, t6.2.1, t6.2.2.1, t6.2.2.2.1, t6.2.2.2.2.1, t6.2.2.2.2.2))) (fun (q5 : Nat × HK × Nat × Nat × GI × GR) =>
  (g_is q5.2.1 q5.1 16).bind fun _ =>
  if (q5.2.2.2.2.1 q5.1 8) = 0 then
  ((g_cc (fun c1 c2 => f_X5_go c1 c2 q5.2.1 q5.2.2.1 q5.2.2.2.1 q5.2.2.2.2.1 q5.2.2.2.2.2 a0) (fun q : HK × Nat × Nat × GI × GR => q.2.1) (fun q : HK × Nat × Nat × GI × GR => q.2.2.1) cN cS q5.2.2.1 q5.2.2.2.1).bind fun q13 =>
  (g_cc (fun c1 c2 => f_X5_number c1 c2 q13.1 q13.2.1 q13.2.2.1 q13.2.2.2.1 q13.2.2.2.2 a0 0 10) (fun z : (Nat × HK × Nat × Nat × GI × GR) ⊕ (Int32 × HK × Nat × Nat × GI × GR) => Sum.elim (fun t : Nat × HK × Nat × Nat × GI × GR => t.2.2.1) (fun q : Int32 × HK × Nat × Nat × GI × GR => q.2.2.1) z) (fun z : (Nat × HK × Nat × Nat × GI × GR) ⊕ (Int32 × HK × Nat × Nat × GI × GR) => Sum.elim (fun t : Nat × HK × Nat × Nat × GI × GR => t.2.2.2.1) (fun q : Int32 × HK × Nat × Nat × GI × GR => q.2.2.2.1) z) cN cS q13.2.1 q13.2.2.1).bind fun q9 => Sum.elim (fun (t19 : Nat × HK × Nat × Nat × GI × GR) => some (.inl (t19.1, t19.2.1, t19.2.2.1, t19.2.2.2.1, t19.2.2.2.2.1, t19.2.2.2.2.2))) (fun (q18 : Int32 × HK × Nat × Nat × GI × GR) =>
  (some (g_pi q18.2.2.2.2.1 q5.1 6 q18.1)).bind fun gi26 =>
  (some (g_pi gi26 q5.1 8 1)).bind fun gi27 =>
  some (.inr (q18.2.1, q18.2.2.1, q18.2.2.2.1, gi27, q18.2.2.2.2.2))) q9)
  else
  ((g_new cN cS q5.2.2.1 q5.2.2.2.1 15 0 8 q5.2.1 q5.2.2.2.2.1 q5.2.2.2.2.2).bind fun q28 =>
  (g_cc (fun c1 c2 => f_X6_init c1 c2 q28.1 (q5.2.2.1 + 1) (q5.2.2.2.1 + 8) q28.2.1 q28.2.2 q5.2.2.1 3 (q28.2.1 a0 2)) (fun q : HK × Nat × Nat × GI × GR => q.2.1) (fun q : HK × Nat × Nat × GI × GR => q.2.2.1) cN cS (q5.2.2.1 + 1) (q5.2.2.2.1 + 8)).bind fun q34 =>
  some (.inl (q5.2.2.1, q34.1, q34.2.1, q34.2.2.1, q34.2.2.2.1, q34.2.2.2.2)))) q9
set_option maxHeartbeats 400000 in
theorem w_X5_hedge (l : Launch) (D : va_G) (cA : Nat → ClassId) (ad : Nat → Nat) (cN cS : Nat) (hk : HK) (nx ns : Nat) (gi : GI) (gr : GR) (a0 : Nat) (ht : (hk a0).1 = 14) (hcap : nx ≤ cN ∧ ns ≤ cS) (r : (Nat × HK × Nat × Nat × GI × GR) ⊕ (HK × Nat × Nat × GI × GR)) (h : f_X5_hedge cN cS hk nx ns gi gr a0 = some r) (sz : Nat) : vx_Met l yX5_hedge (ws_ yX5_hedge cX5_hedge 2 (none)) ({ frames := 9, cells := cN - nx, slots := cS - ns, locals := 244 } : Room) (va_Pc [.ref (ad a0)] (XPre D cA ad hk nx gi gr sz)) (va_Qv (fun (u : XU) => Sum.inr u.2 = r) (XPostA D cA ad hk nx sz) (XA ad nx sz)) (vx_X (fun x : XV => Sum.inl (x.1, x.2.2) = r) (XPostX D cA ad hk nx sz) (XA ad nx sz)) (cN - nx) (cS - ns) (XA ad nx sz) := by
  refine xt_stV (own := RX5) (P := (fun (u : XU) => Sum.inr u.2 = r)) (PX := (fun x : XV => Sum.inl (x.1, x.2.2) = r)) (by decide +kernel) rfl (Nat.le_of_ble_eq_true rfl) hcap (fun p e s m args below meth c R Q A ls C hmn hF hN hRr B hret hthr hL => ?_) sz
  have hx := C.1
  have hb := C.2.1
  have hL : lv_has ls 2 [(0, .ref (ad a0))] := hL
  unfold f_X5_hedge at h
  refine lv_aload_n hx hb dX5_hedge_0 rfl (lv_at hL 0 rfl) ?_
  refine k_X5_go ht C B hRr q512 (Nat.le_trans (Nat.le_of_ble_eq_true rfl) hF) (Nat.le_trans (Nat.le_of_ble_eq_true rfl) hN) hL.1 (Nat.le_of_ble_eq_true rfl) h dX5_hedge_1 (fun q1 ad2 h hae3 H locs B => ?_)
  rw [← (hae3 a0 (by rw [ht]; decide)).1] at hL
  have hp4 : (q1.1 a0).1 = 14 := by rw [(hae3 a0 (by rw [ht]; decide)).2]; exact ht
  refine lv_aload_n hx hb dX5_hedge_4 rfl (lv_at hL 0 rfl) ?_
  refine k_X5_oldMan hp4 C B hRr q1027 (Nat.le_trans (Nat.le_of_ble_eq_true rfl) hF) (Nat.le_trans (Nat.le_of_ble_eq_true rfl) hN) hL.1 (Nat.le_of_ble_eq_true rfl) h dX5_hedge_5 (fun t6 ad8 h hw10 _ H locs B => ?_) (fun q5 ad7 h hae9 H locs B => ?_)
  · exact hthr t6.1 (ad8, t6.2.1, t6.2.2.1, t6.2.2.2.1, t6.2.2.2.2.1, t6.2.2.2.2.2) _ _ _ _ _ (Option.some.inj h) hw10 B
  · have h := g_elr h
    rw [← (hae9 a0 (by rw [hp4]; decide)).1] at hL
    have hp11 : (q5.2.1 a0).1 = 14 := by rw [(hae9 a0 (by rw [hp4]; decide)).2]; exact hp4
    refine lv_astore_n (lv' := [(1, .ref (ad7 q5.1)), (0, .ref (ad7 a0))]) hx hb dX5_hedge_8 rfl hL (by decide) rfl (fun ls hL => ?_)
    refine lv_aload_n hx hb dX5_hedge_9 rfl (lv_at hL 0 rfl) ?_
    refine xx_is h (fun hp12 h => ?_)
    refine xx_gi (ci := 6) (k := 8) C B.1 xc_6 hp12 (by decide) (Nat.le_of_ble_eq_true rfl) rfl q991 (fun _ h => h) dX5_hedge_10 ?_
    refine gg_if_eq hx hb 29 h dX5_hedge_13 (by decide) (fun h => ?_) (fun h => ?_)
    · refine lv_aload_n hx hb dX5_hedge_29 rfl (lv_at hL 1 rfl) ?_
      refine k_X5_go hp11 C B hRr q512 (Nat.le_trans (Nat.le_of_ble_eq_true rfl) hF) (Nat.le_trans (Nat.le_of_ble_eq_true rfl) hN) hL.1 (Nat.le_of_ble_eq_true rfl) h dX5_hedge_30 (fun q13 ad14 h hae15 H locs B => ?_)
      rw [← (hae15 q5.1 (by rw [hp12]; decide)).1] at hL
      have hp16 : (q13.1 q5.1).1 = 16 := by rw [(hae15 q5.1 (by rw [hp12]; decide)).2]; exact hp12
      rw [← (hae15 a0 (by rw [hp11]; decide)).1] at hL
      have hp17 : (q13.1 a0).1 = 14 := by rw [(hae15 a0 (by rw [hp11]; decide)).2]; exact hp11
      refine lv_aload_n hx hb dX5_hedge_33 rfl (lv_at hL 0 rfl) ?_
      refine lv_aload_n hx hb dX5_hedge_34 rfl (lv_at hL 1 rfl) ?_
      refine lv_iconst (v := 0) hx hb dX5_hedge_35 (by decide) ?_
      refine lv_bipush (v := 10) hx hb dX5_hedge_36 (by decide) ?_
      refine k_X5_number hp17 C B hRr q1019 (Nat.le_trans (Nat.le_of_ble_eq_true rfl) hF) (Nat.le_trans (Nat.le_of_ble_eq_true rfl) hN) hL.1 (Nat.le_of_ble_eq_true rfl) h dX5_hedge_38 (fun t19 ad21 h hw23 _ H locs B => ?_) (fun q18 ad20 h hae22 H locs B => ?_)
      · exact hthr t19.1 (ad21, t19.2.1, t19.2.2.1, t19.2.2.2.1, t19.2.2.2.2.1, t19.2.2.2.2.2) _ _ _ _ _ (Option.some.inj h) hw23 B
      · have h := g_elr h
        rw [← (hae22 q5.1 (by rw [hp16]; decide)).1] at hL
        rw [← (hae22 q5.1 (by rw [hp16]; decide)).1]
        have hp24 : (q18.2.1 q5.1).1 = 16 := by rw [(hae22 q5.1 (by rw [hp16]; decide)).2]; exact hp16
        rw [← (hae22 a0 (by rw [hp17]; decide)).1] at hL
        have hp25 : (q18.2.1 a0).1 = 14 := by rw [(hae22 a0 (by rw [hp17]; decide)).2]; exact hp17
        refine xx_pi (ci := 6) (k := 6) C B.1 xc_6 hp24 (by decide) (Nat.le_of_ble_eq_true rfl) rfl q987 (fun _ h => h) rfl rfl rfl h dX5_hedge_41 (fun gi26 h H locs B2 => ?_)
        have B := And.intro B2 B.2
        refine lv_aload_n hx hb dX5_hedge_44 rfl (lv_at hL 0 rfl) ?_
        refine lv_iconst (v := 1) hx hb dX5_hedge_45 (by decide) ?_
        refine xx_pi (ci := 6) (k := 8) C B.1 xc_6 hp24 (by decide) (Nat.le_of_ble_eq_true rfl) rfl q991 (fun _ h => h) rfl rfl rfl h dX5_hedge_46 (fun gi27 h H locs B2 => ?_)
        have B := And.intro B2 B.2
        exact hret (ad20, q18.2.1, q18.2.2.1, q18.2.2.2.1, gi27, q18.2.2.2.2.2) _ _ _ _ (Option.some.inj h) B dX5_hedge_49
    · refine xa_new C B hRr xc_5 (by decide) xd_5 q833 q834 q163 h dX5_hedge_16 (fun q28 ad29 h hae30 hp31 H B => ?_)
      rw [← (hae30 q5.1 (by rw [hp12]; decide)).1] at hL
      have hp32 : (q28.1 q5.1).1 = 16 := by rw [(hae30 q5.1 (by rw [hp12]; decide)).2]; exact hp12
      rw [← (hae30 a0 (by rw [hp11]; decide)).1] at hL
      have hp33 : (q28.1 a0).1 = 14 := by rw [(hae30 a0 (by rw [hp11]; decide)).2]; exact hp11
      refine lv_dup hx hb dX5_hedge_19 rfl ?_
      refine lv_iconst (v := 3) hx hb dX5_hedge_20 (by decide) ?_
      refine lv_aload_n hx hb dX5_hedge_21 rfl (lv_at hL 1 rfl) ?_
      refine xx_gi (ci := 4) (k := 2) C B.1 xc_4 hp33 (by decide) (Nat.le_of_ble_eq_true rfl) rfl q476 (fun _ h => h) dX5_hedge_22 ?_
      refine k_X6_init hp31 C B hRr q870 (Nat.le_trans (Nat.le_of_ble_eq_true rfl) hF) (Nat.le_trans (Nat.le_of_ble_eq_true rfl) hN) hL.1 (Nat.le_of_ble_eq_true rfl) h dX5_hedge_25 (fun q34 ad35 h hae36 H locs B => ?_)
      rw [← (hae36 q5.1 (by rw [hp32]; decide)).1] at hL
      have hp37 : (q34.1 q5.1).1 = 16 := by rw [(hae36 q5.1 (by rw [hp32]; decide)).2]; exact hp32
      rw [← (hae36 a0 (by rw [hp33]; decide)).1] at hL
      have hp38 : (q34.1 a0).1 = 14 := by rw [(hae36 a0 (by rw [hp33]; decide)).2]; exact hp33
      rw [← (hae36 q5.2.2.1 (by rw [hp31]; decide)).1]
      have hp39 : (q34.1 q5.2.2.1).1 = 15 := by rw [(hae36 q5.2.2.1 (by rw [hp31]; decide)).2]; exact hp31
      refine vx_athrow hx hb dX5_hedge_28 ?_
      exact hthr q5.2.2.1 (ad35, q34.1, q34.2.1, q34.2.2.1, q34.2.2.2.1, q34.2.2.2.2) _ _ _ _ _ (Option.some.inj h) hp39 B
theorem k_X5_hedge {p : Program} {l : Launch} {e : Env} {R : Room} {s : State} {m : MethodId} {args : Array Value} {below : List Frame} {meth : Method} {c : Code} {H : Heap} {locs : List Loc} {Q : State → Prop} {pc : Nat} {ls : Array Slot} {rest : List Value} {cc : ByteArray} {nL : Nat} {D : va_G} {cA : Nat → ClassId} {a9 : Nat → Nat} {h9 : HK} {n0 m0 cN cS : Nat} {ad : Nat → Nat} {hk : HK} {nx ns : Nat} {A : Nat → Prop} {gi : GI} {gr : GR} {α : Type} {r : α} {own : String} {idx : Nat} {a0 : Nat} {ff : ((Nat × HK × Nat × Nat × GI × GR) ⊕ (HK × Nat × Nat × GI × GR)) → Option α} (ht : (hk a0).1 = 14) (C : CallFix p m c cc nL s args lw_all own) (B : XBA D cA a9 h9 n0 m0 cN cS ad hk nx ns A s gi gr H locs) (hRr : R.cells = cN - n0 ∧ R.slots = cS - m0) (hq : Cond.methodLink own idx yX5_hedge ∈ lw_all) (hF : 10 ≤ R.frames) (hN : 265 ≤ R.locals) (hs : ls.size = nL) (hw : (rest.map fun v => v.category).sum ≤ 8) (h : (g_cc (fun c1 c2 => f_X5_hedge c1 c2 hk nx ns gi gr a0) (fun z : (Nat × HK × Nat × Nat × GI × GR) ⊕ (HK × Nat × Nat × GI × GR) => Sum.elim (fun t : Nat × HK × Nat × Nat × GI × GR => t.2.2.1) (fun q : HK × Nat × Nat × GI × GR => q.2.1) z) (fun z : (Nat × HK × Nat × Nat × GI × GR) ⊕ (HK × Nat × Nat × GI × GR) => Sum.elim (fun t : Nat × HK × Nat × Nat × GI × GR => t.2.2.2.1) (fun q : HK × Nat × Nat × GI × GR => q.2.2.1) z) cN cS nx ns).bind ff = some r) (hdg : decode cc pc = .ok (.invokevirtual idx, 3)) (kx : ∀ (t : Nat × HK × Nat × Nat × GI × GR) (ad' : Nat → Nat), ff (.inl t) = some r → (t.2.1 t.1).1 = 15 → (∀ i, (hk i).1 < 1000 → ad' i = ad i ∧ t.2.1 i = hk i) → ∀ (H' : Heap) (locs' : List Loc), XBA D cA a9 h9 n0 m0 cN cS ad' t.2.1 t.2.2.1 t.2.2.2.1 A s t.2.2.2.2.1 t.2.2.2.2.2 H' locs' → vx_W p l e R s m args below meth c H' locs' (t.2.2.1 - n0) (t.2.2.2.1 - m0) Q (F0 m pc ls rest) (ad' t.1)) (kk : ∀ (q : HK × Nat × Nat × GI × GR) (ad' : Nat → Nat), ff (.inr q) = some r → (∀ i, (hk i).1 < 1000 → ad' i = ad i ∧ q.1 i = hk i) → ∀ (H' : Heap) (locs' : List Loc), XBA D cA a9 h9 n0 m0 cN cS ad' q.1 q.2.1 q.2.2.1 A s q.2.2.2.1 q.2.2.2.2 H' locs' → W p l e R s m args below meth c H' locs' (q.2.1 - n0) (q.2.2.1 - m0) Q (F0 m (pc + 3) ls (rest))) : W p l e R s m args below meth c H locs (nx - n0) (ns - m0) Q (F0 m pc ls (.ref (ad a0) :: rest)) := by
  obtain ⟨z, h1, h2⟩ := g_ob h
  obtain ⟨h3, c1, c2, c3, c4⟩ := g_cc_of h1
  refine xt_cVV (As := []) (rest := rest) (n := 0) (qn := (fun z : (Nat × HK × Nat × Nat × GI × GR) ⊕ (HK × Nat × Nat × GI × GR) => Sum.elim (fun t : Nat × HK × Nat × Nat × GI × GR => t.2.2.1) (fun q : HK × Nat × Nat × GI × GR => q.2.1) z) z) (qs := (fun z : (Nat × HK × Nat × Nat × GI × GR) ⊕ (HK × Nat × Nat × GI × GR) => Sum.elim (fun t : Nat × HK × Nat × Nat × GI × GR => t.2.2.2.1) (fun q : HK × Nat × Nat × GI × GR => q.2.2.1) z) z) xc_4 ht (by decide) C B hRr (fun sz => w_X5_hedge l D cA ad _ _ hk nx ns gi gr a0 ht ⟨c1, c3⟩ z h3 sz) hq q1050 qs24 q151 q1051 (by decide +kernel) ⟨c1, c2, c3, c4⟩ (fun u hp => ?_) (fun x hp => ?_) ⟨hF, hN⟩ rfl hs hw hdg (fun w u H9 locs9 hp hw9 hae B9 => ?_) (fun u H9 locs9 hp hae B9 => ?_)
  · have hp := hp
    subst hp
    exact ⟨rfl, rfl⟩
  · have hp := hp
    subst hp
    exact ⟨rfl, rfl⟩
  · have hp := hp
    subst hp
    exact kx _ u.1 h2 hw9 hae H9 locs9 B9
  · have hp := hp
    subst hp
    exact kk _ u.1 h2 hae H9 locs9 B9
def f_X5_rate_j49 (cN cS : Nat) (a0 : Nat) (hkj49 : HK) (nxj49 : Nat) (nsj49 : Nat) (gij49 : GI) (grj49 : GR) : Option ((Nat × HK × Nat × Nat × GI × GR) ⊕ (HK × Nat × Nat × GI × GR)) :=
  (g_new cN cS nxj49 nsj49 15 0 8 hkj49 gij49 grj49).bind fun q38 =>
  (g_cc (fun c1 c2 => f_X6_init c1 c2 q38.1 (nxj49 + 1) (nsj49 + 8) q38.2.1 q38.2.2 nxj49 3 (q38.2.1 a0 2)) (fun q : HK × Nat × Nat × GI × GR => q.2.1) (fun q : HK × Nat × Nat × GI × GR => q.2.2.1) cN cS (nxj49 + 1) (nsj49 + 8)).bind fun q43 =>
  some (.inl (nxj49, q43.1, q43.2.1, q43.2.2.1, q43.2.2.2.1, q43.2.2.2.2))
def f_X5_rate (cN cS : Nat) (hk : HK) (nx ns : Nat) (gi : GI) (gr : GR) (a0 : Nat) : Option ((Nat × HK × Nat × Nat × GI × GR) ⊕ (HK × Nat × Nat × GI × GR)) :=
  (g_cc (fun c1 c2 => f_X5_go c1 c2 hk nx ns gi gr a0) (fun q : HK × Nat × Nat × GI × GR => q.2.1) (fun q : HK × Nat × Nat × GI × GR => q.2.2.1) cN cS nx ns).bind fun q1 =>
  (g_cc (fun c1 c2 => f_X5_oldKind c1 c2 q1.1 q1.2.1 q1.2.2.1 q1.2.2.2.1 q1.2.2.2.2 a0) (fun z : (Nat × HK × Nat × Nat × GI × GR) ⊕ (Int32 × HK × Nat × Nat × GI × GR) => Sum.elim (fun t : Nat × HK × Nat × Nat × GI × GR => t.2.2.1) (fun q : Int32 × HK × Nat × Nat × GI × GR => q.2.2.1) z) (fun z : (Nat × HK × Nat × Nat × GI × GR) ⊕ (Int32 × HK × Nat × Nat × GI × GR) => Sum.elim (fun t : Nat × HK × Nat × Nat × GI × GR => t.2.2.2.1) (fun q : Int32 × HK × Nat × Nat × GI × GR => q.2.2.2.1) z) cN cS q1.2.1 q1.2.2.1).bind fun q9 => Sum.elim (fun (t6 : Nat × HK × Nat × Nat × GI × GR) => some (.inl (t6.1, t6.2.1, t6.2.2.1, t6.2.2.2.1, t6.2.2.2.2.1, t6.2.2.2.2.2))) (fun (q5 : Int32 × HK × Nat × Nat × GI × GR) =>
  (g_cc (fun c1 c2 => f_X5_go c1 c2 q5.2.1 q5.2.2.1 q5.2.2.2.1 q5.2.2.2.2.1 q5.2.2.2.2.2 a0) (fun q : HK × Nat × Nat × GI × GR => q.2.1) (fun q : HK × Nat × Nat × GI × GR => q.2.2.1) cN cS q5.2.2.1 q5.2.2.2.1).bind fun q12 =>
  (g_cc (fun c1 c2 => f_X5_number c1 c2 q12.1 q12.2.1 q12.2.2.1 q12.2.2.2.1 q12.2.2.2.2 a0 1 9) (fun z : (Nat × HK × Nat × Nat × GI × GR) ⊕ (Int32 × HK × Nat × Nat × GI × GR) => Sum.elim (fun t : Nat × HK × Nat × Nat × GI × GR => t.2.2.1) (fun q : Int32 × HK × Nat × Nat × GI × GR => q.2.2.1) z) (fun z : (Nat × HK × Nat × Nat × GI × GR) ⊕ (Int32 × HK × Nat × Nat × GI × GR) => Sum.elim (fun t : Nat × HK × Nat × Nat × GI × GR => t.2.2.2.1) (fun q : Int32 × HK × Nat × Nat × GI × GR => q.2.2.2.1) z) cN cS q12.2.1 q12.2.2.1).bind fun q9 => Sum.elim (fun (t17 : Nat × HK × Nat × Nat × GI × GR) => some (.inl (t17.1, t17.2.1, t17.2.2.1, t17.2.2.2.1, t17.2.2.2.2.1, t17.2.2.2.2.2))) (fun (q16 : Int32 × HK × Nat × Nat × GI × GR) =>
  (g_cc (fun c1 c2 => f_X5_key c1 c2 q16.2.1 q16.2.2.1 q16.2.2.2.1 q16.2.2.2.2.1 q16.2.2.2.2.2 a0 9) (fun z : (Nat × HK × Nat × Nat × GI × GR) ⊕ (HK × Nat × Nat × GI × GR) => Sum.elim (fun t : Nat × HK × Nat × Nat × GI × GR => t.2.2.1) (fun q : HK × Nat × Nat × GI × GR => q.2.1) z) (fun z : (Nat × HK × Nat × Nat × GI × GR) ⊕ (HK × Nat × Nat × GI × GR) => Sum.elim (fun t : Nat × HK × Nat × Nat × GI × GR => t.2.2.2.1) (fun q : HK × Nat × Nat × GI × GR => q.2.2.1) z) cN cS q16.2.2.1 q16.2.2.2.1).bind fun q9 => Sum.elim (fun (t24 : Nat × HK × Nat × Nat × GI × GR) => some (.inl (t24.1, t24.2.1, t24.2.2.1, t24.2.2.2.1, t24.2.2.2.2.1, t24.2.2.2.2.2))) (fun (q23 : HK × Nat × Nat × GI × GR) =>
  (g_cc (fun c1 c2 => f_X5_oldKind c1 c2 q23.1 q23.2.1 q23.2.2.1 q23.2.2.2.1 q23.2.2.2.2 a0) (fun z : (Nat × HK × Nat × Nat × GI × GR) ⊕ (Int32 × HK × Nat × Nat × GI × GR) => Sum.elim (fun t : Nat × HK × Nat × Nat × GI × GR => t.2.2.1) (fun q : Int32 × HK × Nat × Nat × GI × GR => q.2.2.1) z) (fun z : (Nat × HK × Nat × Nat × GI × GR) ⊕ (Int32 × HK × Nat × Nat × GI × GR) => Sum.elim (fun t : Nat × HK × Nat × Nat × GI × GR => t.2.2.2.1) (fun q : Int32 × HK × Nat × Nat × GI × GR => q.2.2.2.1) z) cN cS q23.2.1 q23.2.2.1).bind fun q9 => Sum.elim (fun (t31 : Nat × HK × Nat × Nat × GI × GR) => some (.inl (t31.1, t31.2.1, t31.2.2.1, t31.2.2.2.1, t31.2.2.2.2.1, t31.2.2.2.2.2))) (fun (q30 : Int32 × HK × Nat × Nat × GI × GR) =>
  if q5.1 = q30.1 then
  (f_X5_rate_j49 cN cS a0 q30.2.1 q30.2.2.1 q30.2.2.2.1 q30.2.2.2.2.1 q30.2.2.2.2.2)
  else
  ((q30.2.2.2.2.2 a0 9).bind fun v48 =>
  (g_is q30.2.1 v48 11).bind fun _ =>
  (g_cc (fun c1 c2 => f_X1_rate c1 c2 q30.2.1 q30.2.2.1 q30.2.2.2.1 q30.2.2.2.2.1 q30.2.2.2.2.2 v48 q5.1 q30.1) (fun q : Option Nat × HK × Nat × Nat × GI × GR => q.2.2.1) (fun q : Option Nat × HK × Nat × Nat × GI × GR => q.2.2.2.1) cN cS q30.2.2.1 q30.2.2.2.1).bind fun q51 =>
  q51.1.elim
  ((g_cc (fun c1 c2 => f_X5_go c1 c2 q51.2.1 q51.2.2.1 q51.2.2.2.1 q51.2.2.2.2.1 q51.2.2.2.2.2 a0) (fun q : HK × Nat × Nat × GI × GR => q.2.1) (fun q : HK × Nat × Nat × GI × GR => q.2.2.1) cN cS q51.2.2.1 q51.2.2.2.1).bind fun q57 =>
  (q57.2.2.2.2 a0 9).bind fun v61 =>
  (g_is q57.1 v61 11).bind fun _ =>
  (q57.2.2.2.2 v61 2).bind fun v64 =>
  (g_new cN cS q57.2.1 q57.2.2.1 17 0 4 q57.1 q57.2.2.2.1 q57.2.2.2.2).bind fun q66 =>
  (g_cc (fun c1 c2 => f_X5_number c1 c2 q66.1 (q57.2.1 + 1) (q57.2.2.1 + 4) q66.2.1 q66.2.2 a0 1 9) (fun z : (Nat × HK × Nat × Nat × GI × GR) ⊕ (Int32 × HK × Nat × Nat × GI × GR) => Sum.elim (fun t : Nat × HK × Nat × Nat × GI × GR => t.2.2.1) (fun q : Int32 × HK × Nat × Nat × GI × GR => q.2.2.1) z) (fun z : (Nat × HK × Nat × Nat × GI × GR) ⊕ (Int32 × HK × Nat × Nat × GI × GR) => Sum.elim (fun t : Nat × HK × Nat × Nat × GI × GR => t.2.2.2.1) (fun q : Int32 × HK × Nat × Nat × GI × GR => q.2.2.2.1) z) cN cS (q57.2.1 + 1) (q57.2.2.1 + 4)).bind fun q9 => Sum.elim (fun (t73 : Nat × HK × Nat × Nat × GI × GR) => some (.inl (t73.1, t73.2.1, t73.2.2.1, t73.2.2.2.1, t73.2.2.2.2.1, t73.2.2.2.2.2))) (fun (q72 : Int32 × HK × Nat × Nat × GI × GR) =>
  (g_cc (fun c1 c2 => f_X8_init c1 c2 q72.2.1 q72.2.2.1 q72.2.2.2.1 q72.2.2.2.2.1 q72.2.2.2.2.2 q57.2.1 q5.1 q30.1 q16.1 q72.1) (fun q : HK × Nat × Nat × GI × GR => q.2.1) (fun q : HK × Nat × Nat × GI × GR => q.2.2.1) cN cS q72.2.2.1 q72.2.2.2.1).bind fun q81 =>
  (g_is q81.1 v64 22).bind fun _ =>
  (g_cc (fun c1 c2 => f_J2_add c1 c2 q81.1 q81.2.1 q81.2.2.1 q81.2.2.2.1 q81.2.2.2.2 v64 q57.2.1) (fun q : Int32 × HK × Nat × Nat × GI × GR => q.2.2.1) (fun q : Int32 × HK × Nat × Nat × GI × GR => q.2.2.2.1) cN cS q81.2.1 q81.2.2.1).bind fun q88 =>
  some (.inr (q88.2.1, q88.2.2.1, q88.2.2.2.1, q88.2.2.2.2.1, q88.2.2.2.2.2))) q9)
  (fun v55 =>
  f_X5_rate_j49 cN cS a0 q51.2.1 q51.2.2.1 q51.2.2.2.1 q51.2.2.2.2.1 q51.2.2.2.2.2))) q9) q9) q9) q9
set_option maxHeartbeats 400000 in
theorem w_X5_rate (l : Launch) (D : va_G) (cA : Nat → ClassId) (ad : Nat → Nat) (cN cS : Nat) (hk : HK) (nx ns : Nat) (gi : GI) (gr : GR) (a0 : Nat) (ht : (hk a0).1 = 14) (hcap : nx ≤ cN ∧ ns ≤ cS) (r : (Nat × HK × Nat × Nat × GI × GR) ⊕ (HK × Nat × Nat × GI × GR)) (h : f_X5_rate cN cS hk nx ns gi gr a0 = some r) (sz : Nat) : vx_Met l yX5_rate (ws_ yX5_rate cX5_rate 4 (none)) ({ frames := 10, cells := cN - nx, slots := cS - ns, locals := 264 } : Room) (va_Pc [.ref (ad a0)] (XPre D cA ad hk nx gi gr sz)) (va_Qv (fun (u : XU) => Sum.inr u.2 = r) (XPostA D cA ad hk nx sz) (XA ad nx sz)) (vx_X (fun x : XV => Sum.inl (x.1, x.2.2) = r) (XPostX D cA ad hk nx sz) (XA ad nx sz)) (cN - nx) (cS - ns) (XA ad nx sz) := by
  refine xt_stV (own := RX5) (P := (fun (u : XU) => Sum.inr u.2 = r)) (PX := (fun x : XV => Sum.inl (x.1, x.2.2) = r)) (by decide +kernel) rfl (Nat.le_of_ble_eq_true rfl) hcap (fun p e s m args below meth c R Q A ls C hmn hF hN hRr B hret hthr hL => ?_) sz
  have hx := C.1
  have hb := C.2.1
  have hL : lv_has ls 4 [(0, .ref (ad a0))] := hL
  unfold f_X5_rate at h
  have hj49 : ∀ (hkj49 : HK) (nxj49 : Nat) (nsj49 : Nat) (gij49 : GI) (grj49 : GR) (adj49 : Nat → Nat) (H : Heap) (locs : List Loc) (ls : Array Slot), f_X5_rate_j49 cN cS a0 hkj49 nxj49 nsj49 gij49 grj49 = some r → XBA D cA ad hk nx ns cN cS adj49 hkj49 nxj49 nsj49 A s gij49 grj49 H locs → lv_has ls 4 [(0, .ref (adj49 a0))] → W p l e R s m args below meth c H locs (nxj49 - nx) (nsj49 - ns) Q (F0 m 49 ls []) := by
    intro hkj49 nxj49 nsj49 gij49 grj49 adj49 H locs ls h B hL
    unfold f_X5_rate_j49 at h
    have ht37 : (hkj49 a0).1 = 14 := by rw [(B.2.1 a0 (by rw [ht]; decide)).2]; exact ht
    refine xa_new C B hRr xc_5 (by decide) xd_5 q833 q834 q163 h dX5_rate_49 (fun q38 ad39 h hae40 hp41 H B => ?_)
    rw [← (hae40 a0 (by rw [ht37]; decide)).1] at hL
    have hp42 : (q38.1 a0).1 = 14 := by rw [(hae40 a0 (by rw [ht37]; decide)).2]; exact ht37
    refine lv_dup hx hb dX5_rate_52 rfl ?_
    refine lv_iconst (v := 3) hx hb dX5_rate_53 (by decide) ?_
    refine lv_aload_n hx hb dX5_rate_54 rfl (lv_at hL 0 rfl) ?_
    refine xx_gi (ci := 4) (k := 2) C B.1 xc_4 hp42 (by decide) (Nat.le_of_ble_eq_true rfl) rfl q476 (fun _ h => h) dX5_rate_55 ?_
    refine k_X6_init hp41 C B hRr q870 (Nat.le_trans (Nat.le_of_ble_eq_true rfl) hF) (Nat.le_trans (Nat.le_of_ble_eq_true rfl) hN) hL.1 (Nat.le_of_ble_eq_true rfl) h dX5_rate_58 (fun q43 ad44 h hae45 H locs B => ?_)
    rw [← (hae45 a0 (by rw [hp42]; decide)).1] at hL
    have hp46 : (q43.1 a0).1 = 14 := by rw [(hae45 a0 (by rw [hp42]; decide)).2]; exact hp42
    rw [← (hae45 nxj49 (by rw [hp41]; decide)).1]
    have hp47 : (q43.1 nxj49).1 = 15 := by rw [(hae45 nxj49 (by rw [hp41]; decide)).2]; exact hp41
    refine vx_athrow hx hb dX5_rate_61 ?_
    exact hthr nxj49 (ad44, q43.1, q43.2.1, q43.2.2.1, q43.2.2.2.1, q43.2.2.2.2) _ _ _ _ _ (Option.some.inj h) hp47 B
  refine lv_aload_n hx hb dX5_rate_0 rfl (lv_at hL 0 rfl) ?_
  refine k_X5_go ht C B hRr q512 (Nat.le_trans (Nat.le_of_ble_eq_true rfl) hF) (Nat.le_trans (Nat.le_of_ble_eq_true rfl) hN) hL.1 (Nat.le_of_ble_eq_true rfl) h dX5_rate_1 (fun q1 ad2 h hae3 H locs B => ?_)
  rw [← (hae3 a0 (by rw [ht]; decide)).1] at hL
  have hp4 : (q1.1 a0).1 = 14 := by rw [(hae3 a0 (by rw [ht]; decide)).2]; exact ht
  refine lv_aload_n hx hb dX5_rate_4 rfl (lv_at hL 0 rfl) ?_
  refine k_X5_oldKind hp4 C B hRr q1040 (Nat.le_trans (Nat.le_of_ble_eq_true rfl) hF) (Nat.le_trans (Nat.le_of_ble_eq_true rfl) hN) hL.1 (Nat.le_of_ble_eq_true rfl) h dX5_rate_5 (fun t6 ad8 h hw10 _ H locs B => ?_) (fun q5 ad7 h hae9 H locs B => ?_)
  · exact hthr t6.1 (ad8, t6.2.1, t6.2.2.1, t6.2.2.2.1, t6.2.2.2.2.1, t6.2.2.2.2.2) _ _ _ _ _ (Option.some.inj h) hw10 B
  · have h := g_elr h
    rw [← (hae9 a0 (by rw [hp4]; decide)).1] at hL
    have hp11 : (q5.2.1 a0).1 = 14 := by rw [(hae9 a0 (by rw [hp4]; decide)).2]; exact hp4
    refine lv_istore_n (lv' := [(1, .int q5.1), (0, .ref (ad7 a0))]) hx hb dX5_rate_8 rfl hL (by decide) rfl (fun ls hL => ?_)
    refine lv_aload_n hx hb dX5_rate_9 rfl (lv_at hL 1 rfl) ?_
    refine k_X5_go hp11 C B hRr q512 (Nat.le_trans (Nat.le_of_ble_eq_true rfl) hF) (Nat.le_trans (Nat.le_of_ble_eq_true rfl) hN) hL.1 (Nat.le_of_ble_eq_true rfl) h dX5_rate_10 (fun q12 ad13 h hae14 H locs B => ?_)
    rw [← (hae14 a0 (by rw [hp11]; decide)).1] at hL
    have hp15 : (q12.1 a0).1 = 14 := by rw [(hae14 a0 (by rw [hp11]; decide)).2]; exact hp11
    refine lv_aload_n hx hb dX5_rate_13 rfl (lv_at hL 1 rfl) ?_
    refine lv_iconst (v := 1) hx hb dX5_rate_14 (by decide) ?_
    refine lv_bipush (v := 9) hx hb dX5_rate_15 (by decide) ?_
    refine k_X5_number hp15 C B hRr q1019 (Nat.le_trans (Nat.le_of_ble_eq_true rfl) hF) (Nat.le_trans (Nat.le_of_ble_eq_true rfl) hN) hL.1 (Nat.le_of_ble_eq_true rfl) h dX5_rate_17 (fun t17 ad19 h hw21 _ H locs B => ?_) (fun q16 ad18 h hae20 H locs B => ?_)
    · exact hthr t17.1 (ad19, t17.2.1, t17.2.2.1, t17.2.2.2.1, t17.2.2.2.2.1, t17.2.2.2.2.2) _ _ _ _ _ (Option.some.inj h) hw21 B
    · have h := g_elr h
      rw [← (hae20 a0 (by rw [hp15]; decide)).1] at hL
      have hp22 : (q16.2.1 a0).1 = 14 := by rw [(hae20 a0 (by rw [hp15]; decide)).2]; exact hp15
      refine lv_istore_n (lv' := [(2, .int q16.1), (1, .int q5.1), (0, .ref (ad18 a0))]) hx hb dX5_rate_20 rfl hL (by decide) rfl (fun ls hL => ?_)
      refine lv_aload_n hx hb dX5_rate_21 rfl (lv_at hL 2 rfl) ?_
      refine xx_ldcS (i := 9) C B.1 (by decide) rfl dX5_rate_22 ?_
      refine k_X5_key hp22 (by decide) C B hRr q1011 (Nat.le_trans (Nat.le_of_ble_eq_true rfl) hF) (Nat.le_trans (Nat.le_of_ble_eq_true rfl) hN) hL.1 (Nat.le_of_ble_eq_true rfl) h dX5_rate_24 (fun t24 ad26 h hw28 _ H locs B => ?_) (fun q23 ad25 h hae27 H locs B => ?_)
      · exact hthr t24.1 (ad26, t24.2.1, t24.2.2.1, t24.2.2.2.1, t24.2.2.2.2.1, t24.2.2.2.2.2) _ _ _ _ _ (Option.some.inj h) hw28 B
      · have h := g_elr h
        rw [← (hae27 a0 (by rw [hp22]; decide)).1] at hL
        have hp29 : (q23.1 a0).1 = 14 := by rw [(hae27 a0 (by rw [hp22]; decide)).2]; exact hp22
        refine lv_aload_n hx hb dX5_rate_27 rfl (lv_at hL 2 rfl) ?_
        refine k_X5_oldKind hp29 C B hRr q1040 (Nat.le_trans (Nat.le_of_ble_eq_true rfl) hF) (Nat.le_trans (Nat.le_of_ble_eq_true rfl) hN) hL.1 (Nat.le_of_ble_eq_true rfl) h dX5_rate_28 (fun t31 ad33 h hw35 _ H locs B => ?_) (fun q30 ad32 h hae34 H locs B => ?_)
        · exact hthr t31.1 (ad33, t31.2.1, t31.2.2.1, t31.2.2.2.1, t31.2.2.2.2.1, t31.2.2.2.2.2) _ _ _ _ _ (Option.some.inj h) hw35 B
        · have h := g_elr h
          rw [← (hae34 a0 (by rw [hp29]; decide)).1] at hL
          have hp36 : (q30.2.1 a0).1 = 14 := by rw [(hae34 a0 (by rw [hp29]; decide)).2]; exact hp29
          refine lv_istore_n (lv' := [(3, .int q30.1), (2, .int q16.1), (1, .int q5.1), (0, .ref (ad32 a0))]) hx hb dX5_rate_31 rfl hL (by decide) rfl (fun ls hL => ?_)
          refine lv_iload_n hx hb dX5_rate_32 rfl (lv_at hL 2 rfl) ?_
          refine lv_iload_n hx hb dX5_rate_33 rfl (lv_at hL 0 rfl) ?_
          refine gg_icmp_eq hx hb 49 h dX5_rate_34 (by decide) (fun h => ?_) (fun h => ?_)
          · exact hj49 _ _ _ _ _ _ _ _ _ h B (lv_sub hL [3] rfl)
          · refine lv_aload_n hx hb dX5_rate_37 rfl (lv_at hL 3 rfl) ?_
            refine xx_gr (ci := 4) (k := 9) C B.1 xc_4 hp36 (by decide) (Nat.le_of_ble_eq_true rfl) rfl q483 (fun _ h => h) h dX5_rate_38 (fun v48 ok49 h => ?_)
            refine lv_iload_n hx hb dX5_rate_41 rfl (lv_at hL 2 rfl) ?_
            refine lv_iload_n hx hb dX5_rate_42 rfl (lv_at hL 0 rfl) ?_
            refine xx_is h (fun hp50 h => ?_)
            refine k_X1_rate hp50 C B hRr q1056 (Nat.le_trans (Nat.le_of_ble_eq_true rfl) hF) (Nat.le_trans (Nat.le_of_ble_eq_true rfl) hN) hL.1 (Nat.le_of_ble_eq_true rfl) h dX5_rate_43 (fun q51 ad52 h hae53 H locs B => ?_)
            rw [← (hae53 a0 (by rw [hp36]; decide)).1] at hL
            have hp54 : (q51.2.1 a0).1 = 14 := by rw [(hae53 a0 (by rw [hp36]; decide)).2]; exact hp36
            refine xx_ifnull (o := q51.1) (ad := ad52) hx hb 62 h dX5_rate_46 (by decide) (fun ho56 h => ?_) (fun v55 ho56 h => ?_)
            · refine lv_aload_n hx hb dX5_rate_62 rfl (lv_at hL 3 rfl) ?_
              refine k_X5_go hp54 C B hRr q512 (Nat.le_trans (Nat.le_of_ble_eq_true rfl) hF) (Nat.le_trans (Nat.le_of_ble_eq_true rfl) hN) hL.1 (Nat.le_of_ble_eq_true rfl) h dX5_rate_63 (fun q57 ad58 h hae59 H locs B => ?_)
              rw [← (hae59 a0 (by rw [hp54]; decide)).1] at hL
              have hp60 : (q57.1 a0).1 = 14 := by rw [(hae59 a0 (by rw [hp54]; decide)).2]; exact hp54
              refine lv_aload_n hx hb dX5_rate_66 rfl (lv_at hL 3 rfl) ?_
              refine xx_gr (ci := 4) (k := 9) C B.1 xc_4 hp60 (by decide) (Nat.le_of_ble_eq_true rfl) rfl q483 (fun _ h => h) h dX5_rate_67 (fun v61 ok62 h => ?_)
              refine xx_is h (fun hp63 h => ?_)
              refine xx_gr (ci := 1) (k := 2) C B.1 xc_1 hp63 (by decide) (Nat.le_of_ble_eq_true rfl) rfl q260 (fun _ h => h) h dX5_rate_70 (fun v64 ok65 h => ?_)
              refine xa_new C B hRr xc_7 (by decide) xd_7 q1107 q1108 q166 h dX5_rate_73 (fun q66 ad67 h hae68 hp69 H B => ?_)
              rw [← (hae68 a0 (by rw [hp60]; decide)).1] at hL
              have hp70 : (q66.1 a0).1 = 14 := by rw [(hae68 a0 (by rw [hp60]; decide)).2]; exact hp60
              rw [← (hae68 v64 ok65).1]
              have ok71 : (q66.1 v64).1 < 1000 := by rw [(hae68 v64 ok65).2]; exact ok65
              refine lv_dup hx hb dX5_rate_76 rfl ?_
              refine lv_iload_n hx hb dX5_rate_77 rfl (lv_at hL 2 rfl) ?_
              refine lv_iload_n hx hb dX5_rate_78 rfl (lv_at hL 0 rfl) ?_
              refine lv_iload_n hx hb dX5_rate_79 rfl (lv_at hL 1 rfl) ?_
              refine lv_aload_n hx hb dX5_rate_80 rfl (lv_at hL 3 rfl) ?_
              refine lv_iconst (v := 1) hx hb dX5_rate_81 (by decide) ?_
              refine lv_bipush (v := 9) hx hb dX5_rate_82 (by decide) ?_
              refine k_X5_number hp70 C B hRr q1019 (Nat.le_trans (Nat.le_of_ble_eq_true rfl) hF) (Nat.le_trans (Nat.le_of_ble_eq_true rfl) hN) hL.1 (Nat.le_of_ble_eq_true rfl) h dX5_rate_84 (fun t73 ad75 h hw77 _ H locs B => ?_) (fun q72 ad74 h hae76 H locs B => ?_)
              · exact hthr t73.1 (ad75, t73.2.1, t73.2.2.1, t73.2.2.2.1, t73.2.2.2.2.1, t73.2.2.2.2.2) _ _ _ _ _ (Option.some.inj h) hw77 B
              · have h := g_elr h
                rw [← (hae76 a0 (by rw [hp70]; decide)).1] at hL
                have hp78 : (q72.2.1 a0).1 = 14 := by rw [(hae76 a0 (by rw [hp70]; decide)).2]; exact hp70
                rw [← (hae76 q57.2.1 (by rw [hp69]; decide)).1]
                have hp79 : (q72.2.1 q57.2.1).1 = 17 := by rw [(hae76 q57.2.1 (by rw [hp69]; decide)).2]; exact hp69
                rw [← (hae76 v64 ok71).1]
                have ok80 : (q72.2.1 v64).1 < 1000 := by rw [(hae76 v64 ok71).2]; exact ok71
                refine k_X8_init hp79 C B hRr q1109 (Nat.le_trans (Nat.le_of_ble_eq_true rfl) hF) (Nat.le_trans (Nat.le_of_ble_eq_true rfl) hN) hL.1 (Nat.le_of_ble_eq_true rfl) h dX5_rate_87 (fun q81 ad82 h hae83 H locs B => ?_)
                rw [← (hae83 a0 (by rw [hp78]; decide)).1] at hL
                have hp84 : (q81.1 a0).1 = 14 := by rw [(hae83 a0 (by rw [hp78]; decide)).2]; exact hp78
                rw [← (hae83 q57.2.1 (by rw [hp79]; decide)).1]
                have hp85 : (q81.1 q57.2.1).1 = 17 := by rw [(hae83 q57.2.1 (by rw [hp79]; decide)).2]; exact hp79
                rw [← (hae83 v64 ok80).1]
                have ok86 : (q81.1 v64).1 < 1000 := by rw [(hae83 v64 ok80).2]; exact ok80
                refine xx_is h (fun hp87 h => ?_)
                refine k_J2_add hp87 C B hRr q900 (Nat.le_trans (Nat.le_of_ble_eq_true rfl) hF) (Nat.le_trans (Nat.le_of_ble_eq_true rfl) hN) hL.1 (Nat.le_of_ble_eq_true rfl) h dX5_rate_90 (fun q88 ad89 h hae90 H locs B => ?_)
                rw [← (hae90 a0 (by rw [hp84]; decide)).1] at hL
                have hp91 : (q88.2.1 a0).1 = 14 := by rw [(hae90 a0 (by rw [hp84]; decide)).2]; exact hp84
                refine lv_pop hx hb dX5_rate_93 rfl ?_
                exact hret (ad89, q88.2.1, q88.2.2.1, q88.2.2.2.1, q88.2.2.2.2.1, q88.2.2.2.2.2) _ _ _ _ (Option.some.inj h) B dX5_rate_94
            · exact hj49 _ _ _ _ _ _ _ _ _ h B (lv_sub hL [3] rfl)
theorem k_X5_rate {p : Program} {l : Launch} {e : Env} {R : Room} {s : State} {m : MethodId} {args : Array Value} {below : List Frame} {meth : Method} {c : Code} {H : Heap} {locs : List Loc} {Q : State → Prop} {pc : Nat} {ls : Array Slot} {rest : List Value} {cc : ByteArray} {nL : Nat} {D : va_G} {cA : Nat → ClassId} {a9 : Nat → Nat} {h9 : HK} {n0 m0 cN cS : Nat} {ad : Nat → Nat} {hk : HK} {nx ns : Nat} {A : Nat → Prop} {gi : GI} {gr : GR} {α : Type} {r : α} {own : String} {idx : Nat} {a0 : Nat} {ff : ((Nat × HK × Nat × Nat × GI × GR) ⊕ (HK × Nat × Nat × GI × GR)) → Option α} (ht : (hk a0).1 = 14) (C : CallFix p m c cc nL s args lw_all own) (B : XBA D cA a9 h9 n0 m0 cN cS ad hk nx ns A s gi gr H locs) (hRr : R.cells = cN - n0 ∧ R.slots = cS - m0) (hq : Cond.methodLink own idx yX5_rate ∈ lw_all) (hF : 11 ≤ R.frames) (hN : 287 ≤ R.locals) (hs : ls.size = nL) (hw : (rest.map fun v => v.category).sum ≤ 8) (h : (g_cc (fun c1 c2 => f_X5_rate c1 c2 hk nx ns gi gr a0) (fun z : (Nat × HK × Nat × Nat × GI × GR) ⊕ (HK × Nat × Nat × GI × GR) => Sum.elim (fun t : Nat × HK × Nat × Nat × GI × GR => t.2.2.1) (fun q : HK × Nat × Nat × GI × GR => q.2.1) z) (fun z : (Nat × HK × Nat × Nat × GI × GR) ⊕ (HK × Nat × Nat × GI × GR) => Sum.elim (fun t : Nat × HK × Nat × Nat × GI × GR => t.2.2.2.1) (fun q : HK × Nat × Nat × GI × GR => q.2.2.1) z) cN cS nx ns).bind ff = some r) (hdg : decode cc pc = .ok (.invokevirtual idx, 3)) (kx : ∀ (t : Nat × HK × Nat × Nat × GI × GR) (ad' : Nat → Nat), ff (.inl t) = some r → (t.2.1 t.1).1 = 15 → (∀ i, (hk i).1 < 1000 → ad' i = ad i ∧ t.2.1 i = hk i) → ∀ (H' : Heap) (locs' : List Loc), XBA D cA a9 h9 n0 m0 cN cS ad' t.2.1 t.2.2.1 t.2.2.2.1 A s t.2.2.2.2.1 t.2.2.2.2.2 H' locs' → vx_W p l e R s m args below meth c H' locs' (t.2.2.1 - n0) (t.2.2.2.1 - m0) Q (F0 m pc ls rest) (ad' t.1)) (kk : ∀ (q : HK × Nat × Nat × GI × GR) (ad' : Nat → Nat), ff (.inr q) = some r → (∀ i, (hk i).1 < 1000 → ad' i = ad i ∧ q.1 i = hk i) → ∀ (H' : Heap) (locs' : List Loc), XBA D cA a9 h9 n0 m0 cN cS ad' q.1 q.2.1 q.2.2.1 A s q.2.2.2.1 q.2.2.2.2 H' locs' → W p l e R s m args below meth c H' locs' (q.2.1 - n0) (q.2.2.1 - m0) Q (F0 m (pc + 3) ls (rest))) : W p l e R s m args below meth c H locs (nx - n0) (ns - m0) Q (F0 m pc ls (.ref (ad a0) :: rest)) := by
  obtain ⟨z, h1, h2⟩ := g_ob h
  obtain ⟨h3, c1, c2, c3, c4⟩ := g_cc_of h1
  refine xt_cVV (As := []) (rest := rest) (n := 0) (qn := (fun z : (Nat × HK × Nat × Nat × GI × GR) ⊕ (HK × Nat × Nat × GI × GR) => Sum.elim (fun t : Nat × HK × Nat × Nat × GI × GR => t.2.2.1) (fun q : HK × Nat × Nat × GI × GR => q.2.1) z) z) (qs := (fun z : (Nat × HK × Nat × Nat × GI × GR) ⊕ (HK × Nat × Nat × GI × GR) => Sum.elim (fun t : Nat × HK × Nat × Nat × GI × GR => t.2.2.2.1) (fun q : HK × Nat × Nat × GI × GR => q.2.2.1) z) z) xc_4 ht (by decide) C B hRr (fun sz => w_X5_rate l D cA ad _ _ hk nx ns gi gr a0 ht ⟨c1, c3⟩ z h3 sz) hq q1054 qs25 q151 q1055 (by decide +kernel) ⟨c1, c2, c3, c4⟩ (fun u hp => ?_) (fun x hp => ?_) ⟨hF, hN⟩ rfl hs hw hdg (fun w u H9 locs9 hp hw9 hae B9 => ?_) (fun u H9 locs9 hp hae B9 => ?_)
  · have hp := hp
    subst hp
    exact ⟨rfl, rfl⟩
  · have hp := hp
    subst hp
    exact ⟨rfl, rfl⟩
  · have hp := hp
    subst hp
    exact kx _ u.1 h2 hw9 hae H9 locs9 B9
  · have hp := hp
    subst hp
    exact kk _ u.1 h2 hae H9 locs9 B9
def f_X5_book (cN cS : Nat) (hk : HK) (nx ns : Nat) (gi : GI) (gr : GR) (a0 : Nat) : Option ((Nat × HK × Nat × Nat × GI × GR) ⊕ (HK × Nat × Nat × GI × GR)) :=
  (g_cc (fun c1 c2 => f_X5_go c1 c2 hk nx ns gi gr a0) (fun q : HK × Nat × Nat × GI × GR => q.2.1) (fun q : HK × Nat × Nat × GI × GR => q.2.2.1) cN cS nx ns).bind fun q1 =>
  (q1.2.2.2.2 a0 9).bind fun v5 =>
  (g_is q1.1 v5 11).bind fun _ =>
  (q1.2.2.2.2 v5 3).bind fun v8 =>
  (q1.2.2.2.2 a0 9).bind fun v10 =>
  (g_is q1.1 v10 11).bind fun _ =>
  (g_cc (fun c1 c2 => f_X5_number c1 c2 q1.1 q1.2.1 q1.2.2.1 q1.2.2.2.1 q1.2.2.2.2 a0 0 99) (fun z : (Nat × HK × Nat × Nat × GI × GR) ⊕ (Int32 × HK × Nat × Nat × GI × GR) => Sum.elim (fun t : Nat × HK × Nat × Nat × GI × GR => t.2.2.1) (fun q : Int32 × HK × Nat × Nat × GI × GR => q.2.2.1) z) (fun z : (Nat × HK × Nat × Nat × GI × GR) ⊕ (Int32 × HK × Nat × Nat × GI × GR) => Sum.elim (fun t : Nat × HK × Nat × Nat × GI × GR => t.2.2.2.1) (fun q : Int32 × HK × Nat × Nat × GI × GR => q.2.2.2.1) z) cN cS q1.2.1 q1.2.2.1).bind fun q9 => Sum.elim (fun (t14 : Nat × HK × Nat × Nat × GI × GR) => some (.inl (t14.1, t14.2.1, t14.2.2.1, t14.2.2.2.1, t14.2.2.2.2.1, t14.2.2.2.2.2))) (fun (q13 : Int32 × HK × Nat × Nat × GI × GR) =>
  (g_is q13.2.1 v8 0).bind fun _ =>
  (g_st q13.2.2.2.2.1 v8 (q13.2.1 v8).2 (q1.2.2.2.1 v10 6) q13.1).bind fun gi22 =>
  (q13.2.2.2.2.2 a0 9).bind fun v23 =>
  (g_is q13.2.1 v23 11).bind fun _ =>
  (some (g_pi gi22 v23 6 ((gi22 v23 6) + 1))).bind fun gi26 =>
  some (.inr (q13.2.1, q13.2.2.1, q13.2.2.2.1, gi26, q13.2.2.2.2.2))) q9
set_option maxHeartbeats 400000 in
theorem w_X5_book (l : Launch) (D : va_G) (cA : Nat → ClassId) (ad : Nat → Nat) (cN cS : Nat) (hk : HK) (nx ns : Nat) (gi : GI) (gr : GR) (a0 : Nat) (ht : (hk a0).1 = 14) (hcap : nx ≤ cN ∧ ns ≤ cS) (r : (Nat × HK × Nat × Nat × GI × GR) ⊕ (HK × Nat × Nat × GI × GR)) (h : f_X5_book cN cS hk nx ns gi gr a0 = some r) (sz : Nat) : vx_Met l yX5_book (ws_ yX5_book cX5_book 1 (none)) ({ frames := 9, cells := cN - nx, slots := cS - ns, locals := 244 } : Room) (va_Pc [.ref (ad a0)] (XPre D cA ad hk nx gi gr sz)) (va_Qv (fun (u : XU) => Sum.inr u.2 = r) (XPostA D cA ad hk nx sz) (XA ad nx sz)) (vx_X (fun x : XV => Sum.inl (x.1, x.2.2) = r) (XPostX D cA ad hk nx sz) (XA ad nx sz)) (cN - nx) (cS - ns) (XA ad nx sz) := by
  refine xt_stV (own := RX5) (P := (fun (u : XU) => Sum.inr u.2 = r)) (PX := (fun x : XV => Sum.inl (x.1, x.2.2) = r)) (by decide +kernel) rfl (Nat.le_of_ble_eq_true rfl) hcap (fun p e s m args below meth c R Q A ls C hmn hF hN hRr B hret hthr hL => ?_) sz
  have hx := C.1
  have hb := C.2.1
  have hL : lv_has ls 1 [(0, .ref (ad a0))] := hL
  unfold f_X5_book at h
  refine lv_aload_n hx hb dX5_book_0 rfl (lv_at hL 0 rfl) ?_
  refine k_X5_go ht C B hRr q512 (Nat.le_trans (Nat.le_of_ble_eq_true rfl) hF) (Nat.le_trans (Nat.le_of_ble_eq_true rfl) hN) hL.1 (Nat.le_of_ble_eq_true rfl) h dX5_book_1 (fun q1 ad2 h hae3 H locs B => ?_)
  rw [← (hae3 a0 (by rw [ht]; decide)).1] at hL
  have hp4 : (q1.1 a0).1 = 14 := by rw [(hae3 a0 (by rw [ht]; decide)).2]; exact ht
  refine lv_aload_n hx hb dX5_book_4 rfl (lv_at hL 0 rfl) ?_
  refine xx_gr (ci := 4) (k := 9) C B.1 xc_4 hp4 (by decide) (Nat.le_of_ble_eq_true rfl) rfl q483 (fun _ h => h) h dX5_book_5 (fun v5 ok6 h => ?_)
  refine xx_is h (fun hp7 h => ?_)
  refine xx_gr (ci := 1) (k := 3) C B.1 xc_1 hp7 (by decide) (Nat.le_of_ble_eq_true rfl) rfl q263 (fun _ h => h) h dX5_book_8 (fun v8 ok9 h => ?_)
  refine lv_aload_n hx hb dX5_book_11 rfl (lv_at hL 0 rfl) ?_
  refine xx_gr (ci := 4) (k := 9) C B.1 xc_4 hp4 (by decide) (Nat.le_of_ble_eq_true rfl) rfl q483 (fun _ h => h) h dX5_book_12 (fun v10 ok11 h => ?_)
  refine xx_is h (fun hp12 h => ?_)
  refine xx_gi (ci := 1) (k := 6) C B.1 xc_1 hp12 (by decide) (Nat.le_of_ble_eq_true rfl) rfl q268 (fun _ h => h) dX5_book_15 ?_
  refine lv_aload_n hx hb dX5_book_18 rfl (lv_at hL 0 rfl) ?_
  refine lv_iconst (v := 0) hx hb dX5_book_19 (by decide) ?_
  refine lv_bipush (v := 99) hx hb dX5_book_20 (by decide) ?_
  refine k_X5_number hp4 C B hRr q1019 (Nat.le_trans (Nat.le_of_ble_eq_true rfl) hF) (Nat.le_trans (Nat.le_of_ble_eq_true rfl) hN) hL.1 (Nat.le_of_ble_eq_true rfl) h dX5_book_22 (fun t14 ad16 h hw18 _ H locs B => ?_) (fun q13 ad15 h hae17 H locs B => ?_)
  · exact hthr t14.1 (ad16, t14.2.1, t14.2.2.1, t14.2.2.2.1, t14.2.2.2.2.1, t14.2.2.2.2.2) _ _ _ _ _ (Option.some.inj h) hw18 B
  · have h := g_elr h
    rw [← (hae17 a0 (by rw [hp4]; decide)).1] at hL
    have hp19 : (q13.2.1 a0).1 = 14 := by rw [(hae17 a0 (by rw [hp4]; decide)).2]; exact hp4
    rw [← (hae17 v8 ok9).1]
    have ok20 : (q13.2.1 v8).1 < 1000 := by rw [(hae17 v8 ok9).2]; exact ok9
    refine xx_is h (fun hp21 h => ?_)
    refine xx_iast C B.1 hp21 h dX5_book_25 (fun gi22 h H locs B2 => ?_)
    have B := And.intro B2 B.2
    refine lv_aload_n hx hb dX5_book_26 rfl (lv_at hL 0 rfl) ?_
    refine xx_gr (ci := 4) (k := 9) C B.1 xc_4 hp19 (by decide) (Nat.le_of_ble_eq_true rfl) rfl q483 (fun _ h => h) h dX5_book_27 (fun v23 ok24 h => ?_)
    refine lv_dup hx hb dX5_book_30 rfl ?_
    refine xx_is h (fun hp25 h => ?_)
    refine xx_gi (ci := 1) (k := 6) C B.1 xc_1 hp25 (by decide) (Nat.le_of_ble_eq_true rfl) rfl q268 (fun _ h => h) dX5_book_31 ?_
    refine lv_iconst (v := 1) hx hb dX5_book_34 (by decide) ?_
    refine lv_iadd hx hb dX5_book_35 ?_
    refine xx_pi (ci := 1) (k := 6) C B.1 xc_1 hp25 (by decide) (Nat.le_of_ble_eq_true rfl) rfl q268 (fun _ h => h) rfl rfl rfl h dX5_book_36 (fun gi26 h H locs B2 => ?_)
    have B := And.intro B2 B.2
    exact hret (ad15, q13.2.1, q13.2.2.1, q13.2.2.2.1, gi26, q13.2.2.2.2.2) _ _ _ _ (Option.some.inj h) B dX5_book_39
theorem k_X5_book {p : Program} {l : Launch} {e : Env} {R : Room} {s : State} {m : MethodId} {args : Array Value} {below : List Frame} {meth : Method} {c : Code} {H : Heap} {locs : List Loc} {Q : State → Prop} {pc : Nat} {ls : Array Slot} {rest : List Value} {cc : ByteArray} {nL : Nat} {D : va_G} {cA : Nat → ClassId} {a9 : Nat → Nat} {h9 : HK} {n0 m0 cN cS : Nat} {ad : Nat → Nat} {hk : HK} {nx ns : Nat} {A : Nat → Prop} {gi : GI} {gr : GR} {α : Type} {r : α} {own : String} {idx : Nat} {a0 : Nat} {ff : ((Nat × HK × Nat × Nat × GI × GR) ⊕ (HK × Nat × Nat × GI × GR)) → Option α} (ht : (hk a0).1 = 14) (C : CallFix p m c cc nL s args lw_all own) (B : XBA D cA a9 h9 n0 m0 cN cS ad hk nx ns A s gi gr H locs) (hRr : R.cells = cN - n0 ∧ R.slots = cS - m0) (hq : Cond.methodLink own idx yX5_book ∈ lw_all) (hF : 10 ≤ R.frames) (hN : 264 ≤ R.locals) (hs : ls.size = nL) (hw : (rest.map fun v => v.category).sum ≤ 8) (h : (g_cc (fun c1 c2 => f_X5_book c1 c2 hk nx ns gi gr a0) (fun z : (Nat × HK × Nat × Nat × GI × GR) ⊕ (HK × Nat × Nat × GI × GR) => Sum.elim (fun t : Nat × HK × Nat × Nat × GI × GR => t.2.2.1) (fun q : HK × Nat × Nat × GI × GR => q.2.1) z) (fun z : (Nat × HK × Nat × Nat × GI × GR) ⊕ (HK × Nat × Nat × GI × GR) => Sum.elim (fun t : Nat × HK × Nat × Nat × GI × GR => t.2.2.2.1) (fun q : HK × Nat × Nat × GI × GR => q.2.2.1) z) cN cS nx ns).bind ff = some r) (hdg : decode cc pc = .ok (.invokevirtual idx, 3)) (kx : ∀ (t : Nat × HK × Nat × Nat × GI × GR) (ad' : Nat → Nat), ff (.inl t) = some r → (t.2.1 t.1).1 = 15 → (∀ i, (hk i).1 < 1000 → ad' i = ad i ∧ t.2.1 i = hk i) → ∀ (H' : Heap) (locs' : List Loc), XBA D cA a9 h9 n0 m0 cN cS ad' t.2.1 t.2.2.1 t.2.2.2.1 A s t.2.2.2.2.1 t.2.2.2.2.2 H' locs' → vx_W p l e R s m args below meth c H' locs' (t.2.2.1 - n0) (t.2.2.2.1 - m0) Q (F0 m pc ls rest) (ad' t.1)) (kk : ∀ (q : HK × Nat × Nat × GI × GR) (ad' : Nat → Nat), ff (.inr q) = some r → (∀ i, (hk i).1 < 1000 → ad' i = ad i ∧ q.1 i = hk i) → ∀ (H' : Heap) (locs' : List Loc), XBA D cA a9 h9 n0 m0 cN cS ad' q.1 q.2.1 q.2.2.1 A s q.2.2.2.1 q.2.2.2.2 H' locs' → W p l e R s m args below meth c H' locs' (q.2.1 - n0) (q.2.2.1 - m0) Q (F0 m (pc + 3) ls (rest))) : W p l e R s m args below meth c H locs (nx - n0) (ns - m0) Q (F0 m pc ls (.ref (ad a0) :: rest)) := by
  obtain ⟨z, h1, h2⟩ := g_ob h
  obtain ⟨h3, c1, c2, c3, c4⟩ := g_cc_of h1
  refine xt_cVV (As := []) (rest := rest) (n := 0) (qn := (fun z : (Nat × HK × Nat × Nat × GI × GR) ⊕ (HK × Nat × Nat × GI × GR) => Sum.elim (fun t : Nat × HK × Nat × Nat × GI × GR => t.2.2.1) (fun q : HK × Nat × Nat × GI × GR => q.2.1) z) z) (qs := (fun z : (Nat × HK × Nat × Nat × GI × GR) ⊕ (HK × Nat × Nat × GI × GR) => Sum.elim (fun t : Nat × HK × Nat × Nat × GI × GR => t.2.2.2.1) (fun q : HK × Nat × Nat × GI × GR => q.2.2.1) z) z) xc_4 ht (by decide) C B hRr (fun sz => w_X5_book l D cA ad _ _ hk nx ns gi gr a0 ht ⟨c1, c3⟩ z h3 sz) hq q1132 qs26 q151 q1133 (by decide +kernel) ⟨c1, c2, c3, c4⟩ (fun u hp => ?_) (fun x hp => ?_) ⟨hF, hN⟩ rfl hs hw hdg (fun w u H9 locs9 hp hw9 hae B9 => ?_) (fun u H9 locs9 hp hae B9 => ?_)
  · have hp := hp
    subst hp
    exact ⟨rfl, rfl⟩
  · have hp := hp
    subst hp
    exact ⟨rfl, rfl⟩
  · have hp := hp
    subst hp
    exact kx _ u.1 h2 hw9 hae H9 locs9 B9
  · have hp := hp
    subst hp
    exact kk _ u.1 h2 hae H9 locs9 B9
def f_X5_hours (cN cS : Nat) (hk : HK) (nx ns : Nat) (gi : GI) (gr : GR) (a0 : Nat) : Option ((Nat × HK × Nat × Nat × GI × GR) ⊕ (HK × Nat × Nat × GI × GR)) :=
  (g_cc (fun c1 c2 => f_X5_go c1 c2 hk nx ns gi gr a0) (fun q : HK × Nat × Nat × GI × GR => q.2.1) (fun q : HK × Nat × Nat × GI × GR => q.2.2.1) cN cS nx ns).bind fun q1 =>
  (some (g_pi q1.2.2.2.1 a0 6 1)).bind fun gi5 =>
  (q1.2.2.2.2 a0 9).bind fun v6 =>
  (g_cc (fun c1 c2 => f_X5_number c1 c2 q1.1 q1.2.1 q1.2.2.1 gi5 q1.2.2.2.2 a0 1 8) (fun z : (Nat × HK × Nat × Nat × GI × GR) ⊕ (Int32 × HK × Nat × Nat × GI × GR) => Sum.elim (fun t : Nat × HK × Nat × Nat × GI × GR => t.2.2.1) (fun q : Int32 × HK × Nat × Nat × GI × GR => q.2.2.1) z) (fun z : (Nat × HK × Nat × Nat × GI × GR) ⊕ (Int32 × HK × Nat × Nat × GI × GR) => Sum.elim (fun t : Nat × HK × Nat × Nat × GI × GR => t.2.2.2.1) (fun q : Int32 × HK × Nat × Nat × GI × GR => q.2.2.2.1) z) cN cS q1.2.1 q1.2.2.1).bind fun q9 => Sum.elim (fun (t9 : Nat × HK × Nat × Nat × GI × GR) => some (.inl (t9.1, t9.2.1, t9.2.2.1, t9.2.2.2.1, t9.2.2.2.2.1, t9.2.2.2.2.2))) (fun (q8 : Int32 × HK × Nat × Nat × GI × GR) =>
  (g_is q8.2.1 v6 11).bind fun _ =>
  (some (g_pi q8.2.2.2.2.1 v6 7 q8.1)).bind fun gi17 =>
  some (.inr (q8.2.1, q8.2.2.1, q8.2.2.2.1, gi17, q8.2.2.2.2.2))) q9
set_option maxHeartbeats 400000 in
theorem w_X5_hours (l : Launch) (D : va_G) (cA : Nat → ClassId) (ad : Nat → Nat) (cN cS : Nat) (hk : HK) (nx ns : Nat) (gi : GI) (gr : GR) (a0 : Nat) (ht : (hk a0).1 = 14) (hcap : nx ≤ cN ∧ ns ≤ cS) (r : (Nat × HK × Nat × Nat × GI × GR) ⊕ (HK × Nat × Nat × GI × GR)) (h : f_X5_hours cN cS hk nx ns gi gr a0 = some r) (sz : Nat) : vx_Met l yX5_hours (ws_ yX5_hours cX5_hours 1 (none)) ({ frames := 9, cells := cN - nx, slots := cS - ns, locals := 244 } : Room) (va_Pc [.ref (ad a0)] (XPre D cA ad hk nx gi gr sz)) (va_Qv (fun (u : XU) => Sum.inr u.2 = r) (XPostA D cA ad hk nx sz) (XA ad nx sz)) (vx_X (fun x : XV => Sum.inl (x.1, x.2.2) = r) (XPostX D cA ad hk nx sz) (XA ad nx sz)) (cN - nx) (cS - ns) (XA ad nx sz) := by
  refine xt_stV (own := RX5) (P := (fun (u : XU) => Sum.inr u.2 = r)) (PX := (fun x : XV => Sum.inl (x.1, x.2.2) = r)) (by decide +kernel) rfl (Nat.le_of_ble_eq_true rfl) hcap (fun p e s m args below meth c R Q A ls C hmn hF hN hRr B hret hthr hL => ?_) sz
  have hx := C.1
  have hb := C.2.1
  have hL : lv_has ls 1 [(0, .ref (ad a0))] := hL
  unfold f_X5_hours at h
  refine lv_aload_n hx hb dX5_hours_0 rfl (lv_at hL 0 rfl) ?_
  refine k_X5_go ht C B hRr q512 (Nat.le_trans (Nat.le_of_ble_eq_true rfl) hF) (Nat.le_trans (Nat.le_of_ble_eq_true rfl) hN) hL.1 (Nat.le_of_ble_eq_true rfl) h dX5_hours_1 (fun q1 ad2 h hae3 H locs B => ?_)
  rw [← (hae3 a0 (by rw [ht]; decide)).1] at hL
  have hp4 : (q1.1 a0).1 = 14 := by rw [(hae3 a0 (by rw [ht]; decide)).2]; exact ht
  refine lv_aload_n hx hb dX5_hours_4 rfl (lv_at hL 0 rfl) ?_
  refine lv_iconst (v := 1) hx hb dX5_hours_5 (by decide) ?_
  refine xx_pi (ci := 4) (k := 6) C B.1 xc_4 hp4 (by decide) (Nat.le_of_ble_eq_true rfl) rfl q480 (fun _ h => h) rfl rfl rfl h dX5_hours_6 (fun gi5 h H locs B2 => ?_)
  have B := And.intro B2 B.2
  refine lv_aload_n hx hb dX5_hours_9 rfl (lv_at hL 0 rfl) ?_
  refine xx_gr (ci := 4) (k := 9) C B.1 xc_4 hp4 (by decide) (Nat.le_of_ble_eq_true rfl) rfl q483 (fun _ h => h) h dX5_hours_10 (fun v6 ok7 h => ?_)
  refine lv_aload_n hx hb dX5_hours_13 rfl (lv_at hL 0 rfl) ?_
  refine lv_iconst (v := 1) hx hb dX5_hours_14 (by decide) ?_
  refine lv_bipush (v := 8) hx hb dX5_hours_15 (by decide) ?_
  refine k_X5_number hp4 C B hRr q1019 (Nat.le_trans (Nat.le_of_ble_eq_true rfl) hF) (Nat.le_trans (Nat.le_of_ble_eq_true rfl) hN) hL.1 (Nat.le_of_ble_eq_true rfl) h dX5_hours_17 (fun t9 ad11 h hw13 _ H locs B => ?_) (fun q8 ad10 h hae12 H locs B => ?_)
  · exact hthr t9.1 (ad11, t9.2.1, t9.2.2.1, t9.2.2.2.1, t9.2.2.2.2.1, t9.2.2.2.2.2) _ _ _ _ _ (Option.some.inj h) hw13 B
  · have h := g_elr h
    rw [← (hae12 a0 (by rw [hp4]; decide)).1] at hL
    have hp14 : (q8.2.1 a0).1 = 14 := by rw [(hae12 a0 (by rw [hp4]; decide)).2]; exact hp4
    rw [← (hae12 v6 ok7).1]
    have ok15 : (q8.2.1 v6).1 < 1000 := by rw [(hae12 v6 ok7).2]; exact ok7
    refine xx_is h (fun hp16 h => ?_)
    refine xx_pi (ci := 1) (k := 7) C B.1 xc_1 hp16 (by decide) (Nat.le_of_ble_eq_true rfl) rfl q272 (fun _ h => h) rfl rfl rfl h dX5_hours_20 (fun gi17 h H locs B2 => ?_)
    have B := And.intro B2 B.2
    exact hret (ad10, q8.2.1, q8.2.2.1, q8.2.2.2.1, gi17, q8.2.2.2.2.2) _ _ _ _ (Option.some.inj h) B dX5_hours_23
theorem k_X5_hours {p : Program} {l : Launch} {e : Env} {R : Room} {s : State} {m : MethodId} {args : Array Value} {below : List Frame} {meth : Method} {c : Code} {H : Heap} {locs : List Loc} {Q : State → Prop} {pc : Nat} {ls : Array Slot} {rest : List Value} {cc : ByteArray} {nL : Nat} {D : va_G} {cA : Nat → ClassId} {a9 : Nat → Nat} {h9 : HK} {n0 m0 cN cS : Nat} {ad : Nat → Nat} {hk : HK} {nx ns : Nat} {A : Nat → Prop} {gi : GI} {gr : GR} {α : Type} {r : α} {own : String} {idx : Nat} {a0 : Nat} {ff : ((Nat × HK × Nat × Nat × GI × GR) ⊕ (HK × Nat × Nat × GI × GR)) → Option α} (ht : (hk a0).1 = 14) (C : CallFix p m c cc nL s args lw_all own) (B : XBA D cA a9 h9 n0 m0 cN cS ad hk nx ns A s gi gr H locs) (hRr : R.cells = cN - n0 ∧ R.slots = cS - m0) (hq : Cond.methodLink own idx yX5_hours ∈ lw_all) (hF : 10 ≤ R.frames) (hN : 264 ≤ R.locals) (hs : ls.size = nL) (hw : (rest.map fun v => v.category).sum ≤ 8) (h : (g_cc (fun c1 c2 => f_X5_hours c1 c2 hk nx ns gi gr a0) (fun z : (Nat × HK × Nat × Nat × GI × GR) ⊕ (HK × Nat × Nat × GI × GR) => Sum.elim (fun t : Nat × HK × Nat × Nat × GI × GR => t.2.2.1) (fun q : HK × Nat × Nat × GI × GR => q.2.1) z) (fun z : (Nat × HK × Nat × Nat × GI × GR) ⊕ (HK × Nat × Nat × GI × GR) => Sum.elim (fun t : Nat × HK × Nat × Nat × GI × GR => t.2.2.2.1) (fun q : HK × Nat × Nat × GI × GR => q.2.2.1) z) cN cS nx ns).bind ff = some r) (hdg : decode cc pc = .ok (.invokevirtual idx, 3)) (kx : ∀ (t : Nat × HK × Nat × Nat × GI × GR) (ad' : Nat → Nat), ff (.inl t) = some r → (t.2.1 t.1).1 = 15 → (∀ i, (hk i).1 < 1000 → ad' i = ad i ∧ t.2.1 i = hk i) → ∀ (H' : Heap) (locs' : List Loc), XBA D cA a9 h9 n0 m0 cN cS ad' t.2.1 t.2.2.1 t.2.2.2.1 A s t.2.2.2.2.1 t.2.2.2.2.2 H' locs' → vx_W p l e R s m args below meth c H' locs' (t.2.2.1 - n0) (t.2.2.2.1 - m0) Q (F0 m pc ls rest) (ad' t.1)) (kk : ∀ (q : HK × Nat × Nat × GI × GR) (ad' : Nat → Nat), ff (.inr q) = some r → (∀ i, (hk i).1 < 1000 → ad' i = ad i ∧ q.1 i = hk i) → ∀ (H' : Heap) (locs' : List Loc), XBA D cA a9 h9 n0 m0 cN cS ad' q.1 q.2.1 q.2.2.1 A s q.2.2.2.1 q.2.2.2.2 H' locs' → W p l e R s m args below meth c H' locs' (q.2.1 - n0) (q.2.2.1 - m0) Q (F0 m (pc + 3) ls (rest))) : W p l e R s m args below meth c H locs (nx - n0) (ns - m0) Q (F0 m pc ls (.ref (ad a0) :: rest)) := by
  obtain ⟨z, h1, h2⟩ := g_ob h
  obtain ⟨h3, c1, c2, c3, c4⟩ := g_cc_of h1
  refine xt_cVV (As := []) (rest := rest) (n := 0) (qn := (fun z : (Nat × HK × Nat × Nat × GI × GR) ⊕ (HK × Nat × Nat × GI × GR) => Sum.elim (fun t : Nat × HK × Nat × Nat × GI × GR => t.2.2.1) (fun q : HK × Nat × Nat × GI × GR => q.2.1) z) z) (qs := (fun z : (Nat × HK × Nat × Nat × GI × GR) ⊕ (HK × Nat × Nat × GI × GR) => Sum.elim (fun t : Nat × HK × Nat × Nat × GI × GR => t.2.2.2.1) (fun q : HK × Nat × Nat × GI × GR => q.2.2.1) z) z) xc_4 ht (by decide) C B hRr (fun sz => w_X5_hours l D cA ad _ _ hk nx ns gi gr a0 ht ⟨c1, c3⟩ z h3 sz) hq q1220 qs36 q151 q1221 (by decide +kernel) ⟨c1, c2, c3, c4⟩ (fun u hp => ?_) (fun x hp => ?_) ⟨hF, hN⟩ rfl hs hw hdg (fun w u H9 locs9 hp hw9 hae B9 => ?_) (fun u H9 locs9 hp hae B9 => ?_)
  · have hp := hp
    subst hp
    exact ⟨rfl, rfl⟩
  · have hp := hp
    subst hp
    exact ⟨rfl, rfl⟩
  · have hp := hp
    subst hp
    exact kx _ u.1 h2 hw9 hae H9 locs9 B9
  · have hp := hp
    subst hp
    exact kk _ u.1 h2 hae H9 locs9 B9
def f_X5_draw (cN cS : Nat) (hk : HK) (nx ns : Nat) (gi : GI) (gr : GR) (a0 : Nat) : Option ((Nat × HK × Nat × Nat × GI × GR) ⊕ (HK × Nat × Nat × GI × GR)) :=
  (g_cc (fun c1 c2 => f_X5_go c1 c2 hk nx ns gi gr a0) (fun q : HK × Nat × Nat × GI × GR => q.2.1) (fun q : HK × Nat × Nat × GI × GR => q.2.2.1) cN cS nx ns).bind fun q1 =>
  (some (g_pi q1.2.2.2.1 a0 7 1)).bind fun gi5 =>
  (q1.2.2.2.2 a0 9).bind fun v6 =>
  (g_cc (fun c1 c2 => f_X5_number c1 c2 q1.1 q1.2.1 q1.2.2.1 gi5 q1.2.2.2.2 a0 0 999) (fun z : (Nat × HK × Nat × Nat × GI × GR) ⊕ (Int32 × HK × Nat × Nat × GI × GR) => Sum.elim (fun t : Nat × HK × Nat × Nat × GI × GR => t.2.2.1) (fun q : Int32 × HK × Nat × Nat × GI × GR => q.2.2.1) z) (fun z : (Nat × HK × Nat × Nat × GI × GR) ⊕ (Int32 × HK × Nat × Nat × GI × GR) => Sum.elim (fun t : Nat × HK × Nat × Nat × GI × GR => t.2.2.2.1) (fun q : Int32 × HK × Nat × Nat × GI × GR => q.2.2.2.1) z) cN cS q1.2.1 q1.2.2.1).bind fun q9 => Sum.elim (fun (t9 : Nat × HK × Nat × Nat × GI × GR) => some (.inl (t9.1, t9.2.1, t9.2.2.1, t9.2.2.2.1, t9.2.2.2.2.1, t9.2.2.2.2.2))) (fun (q8 : Int32 × HK × Nat × Nat × GI × GR) =>
  (g_is q8.2.1 v6 11).bind fun _ =>
  (some (g_pi q8.2.2.2.2.1 v6 8 q8.1)).bind fun gi17 =>
  some (.inr (q8.2.1, q8.2.2.1, q8.2.2.2.1, gi17, q8.2.2.2.2.2))) q9
set_option maxHeartbeats 400000 in
theorem w_X5_draw (l : Launch) (D : va_G) (cA : Nat → ClassId) (ad : Nat → Nat) (cN cS : Nat) (hk : HK) (nx ns : Nat) (gi : GI) (gr : GR) (a0 : Nat) (ht : (hk a0).1 = 14) (hcap : nx ≤ cN ∧ ns ≤ cS) (r : (Nat × HK × Nat × Nat × GI × GR) ⊕ (HK × Nat × Nat × GI × GR)) (h : f_X5_draw cN cS hk nx ns gi gr a0 = some r) (sz : Nat) : vx_Met l yX5_draw (ws_ yX5_draw cX5_draw 1 (none)) ({ frames := 9, cells := cN - nx, slots := cS - ns, locals := 244 } : Room) (va_Pc [.ref (ad a0)] (XPre D cA ad hk nx gi gr sz)) (va_Qv (fun (u : XU) => Sum.inr u.2 = r) (XPostA D cA ad hk nx sz) (XA ad nx sz)) (vx_X (fun x : XV => Sum.inl (x.1, x.2.2) = r) (XPostX D cA ad hk nx sz) (XA ad nx sz)) (cN - nx) (cS - ns) (XA ad nx sz) := by
  refine xt_stV (own := RX5) (P := (fun (u : XU) => Sum.inr u.2 = r)) (PX := (fun x : XV => Sum.inl (x.1, x.2.2) = r)) (by decide +kernel) rfl (Nat.le_of_ble_eq_true rfl) hcap (fun p e s m args below meth c R Q A ls C hmn hF hN hRr B hret hthr hL => ?_) sz
  have hx := C.1
  have hb := C.2.1
  have hL : lv_has ls 1 [(0, .ref (ad a0))] := hL
  unfold f_X5_draw at h
  refine lv_aload_n hx hb dX5_draw_0 rfl (lv_at hL 0 rfl) ?_
  refine k_X5_go ht C B hRr q512 (Nat.le_trans (Nat.le_of_ble_eq_true rfl) hF) (Nat.le_trans (Nat.le_of_ble_eq_true rfl) hN) hL.1 (Nat.le_of_ble_eq_true rfl) h dX5_draw_1 (fun q1 ad2 h hae3 H locs B => ?_)
  rw [← (hae3 a0 (by rw [ht]; decide)).1] at hL
  have hp4 : (q1.1 a0).1 = 14 := by rw [(hae3 a0 (by rw [ht]; decide)).2]; exact ht
  refine lv_aload_n hx hb dX5_draw_4 rfl (lv_at hL 0 rfl) ?_
  refine lv_iconst (v := 1) hx hb dX5_draw_5 (by decide) ?_
  refine xx_pi (ci := 4) (k := 7) C B.1 xc_4 hp4 (by decide) (Nat.le_of_ble_eq_true rfl) rfl q481 (fun _ h => h) rfl rfl rfl h dX5_draw_6 (fun gi5 h H locs B2 => ?_)
  have B := And.intro B2 B.2
  refine lv_aload_n hx hb dX5_draw_9 rfl (lv_at hL 0 rfl) ?_
  refine xx_gr (ci := 4) (k := 9) C B.1 xc_4 hp4 (by decide) (Nat.le_of_ble_eq_true rfl) rfl q483 (fun _ h => h) h dX5_draw_10 (fun v6 ok7 h => ?_)
  refine lv_aload_n hx hb dX5_draw_13 rfl (lv_at hL 0 rfl) ?_
  refine lv_iconst (v := 0) hx hb dX5_draw_14 (by decide) ?_
  refine lv_sipush (v := 999) hx hb dX5_draw_15 (by decide) ?_
  refine k_X5_number hp4 C B hRr q1019 (Nat.le_trans (Nat.le_of_ble_eq_true rfl) hF) (Nat.le_trans (Nat.le_of_ble_eq_true rfl) hN) hL.1 (Nat.le_of_ble_eq_true rfl) h dX5_draw_18 (fun t9 ad11 h hw13 _ H locs B => ?_) (fun q8 ad10 h hae12 H locs B => ?_)
  · exact hthr t9.1 (ad11, t9.2.1, t9.2.2.1, t9.2.2.2.1, t9.2.2.2.2.1, t9.2.2.2.2.2) _ _ _ _ _ (Option.some.inj h) hw13 B
  · have h := g_elr h
    rw [← (hae12 a0 (by rw [hp4]; decide)).1] at hL
    have hp14 : (q8.2.1 a0).1 = 14 := by rw [(hae12 a0 (by rw [hp4]; decide)).2]; exact hp4
    rw [← (hae12 v6 ok7).1]
    have ok15 : (q8.2.1 v6).1 < 1000 := by rw [(hae12 v6 ok7).2]; exact ok7
    refine xx_is h (fun hp16 h => ?_)
    refine xx_pi (ci := 1) (k := 8) C B.1 xc_1 hp16 (by decide) (Nat.le_of_ble_eq_true rfl) rfl q274 (fun _ h => h) rfl rfl rfl h dX5_draw_21 (fun gi17 h H locs B2 => ?_)
    have B := And.intro B2 B.2
    exact hret (ad10, q8.2.1, q8.2.2.1, q8.2.2.2.1, gi17, q8.2.2.2.2.2) _ _ _ _ (Option.some.inj h) B dX5_draw_24
theorem k_X5_draw {p : Program} {l : Launch} {e : Env} {R : Room} {s : State} {m : MethodId} {args : Array Value} {below : List Frame} {meth : Method} {c : Code} {H : Heap} {locs : List Loc} {Q : State → Prop} {pc : Nat} {ls : Array Slot} {rest : List Value} {cc : ByteArray} {nL : Nat} {D : va_G} {cA : Nat → ClassId} {a9 : Nat → Nat} {h9 : HK} {n0 m0 cN cS : Nat} {ad : Nat → Nat} {hk : HK} {nx ns : Nat} {A : Nat → Prop} {gi : GI} {gr : GR} {α : Type} {r : α} {own : String} {idx : Nat} {a0 : Nat} {ff : ((Nat × HK × Nat × Nat × GI × GR) ⊕ (HK × Nat × Nat × GI × GR)) → Option α} (ht : (hk a0).1 = 14) (C : CallFix p m c cc nL s args lw_all own) (B : XBA D cA a9 h9 n0 m0 cN cS ad hk nx ns A s gi gr H locs) (hRr : R.cells = cN - n0 ∧ R.slots = cS - m0) (hq : Cond.methodLink own idx yX5_draw ∈ lw_all) (hF : 10 ≤ R.frames) (hN : 264 ≤ R.locals) (hs : ls.size = nL) (hw : (rest.map fun v => v.category).sum ≤ 8) (h : (g_cc (fun c1 c2 => f_X5_draw c1 c2 hk nx ns gi gr a0) (fun z : (Nat × HK × Nat × Nat × GI × GR) ⊕ (HK × Nat × Nat × GI × GR) => Sum.elim (fun t : Nat × HK × Nat × Nat × GI × GR => t.2.2.1) (fun q : HK × Nat × Nat × GI × GR => q.2.1) z) (fun z : (Nat × HK × Nat × Nat × GI × GR) ⊕ (HK × Nat × Nat × GI × GR) => Sum.elim (fun t : Nat × HK × Nat × Nat × GI × GR => t.2.2.2.1) (fun q : HK × Nat × Nat × GI × GR => q.2.2.1) z) cN cS nx ns).bind ff = some r) (hdg : decode cc pc = .ok (.invokevirtual idx, 3)) (kx : ∀ (t : Nat × HK × Nat × Nat × GI × GR) (ad' : Nat → Nat), ff (.inl t) = some r → (t.2.1 t.1).1 = 15 → (∀ i, (hk i).1 < 1000 → ad' i = ad i ∧ t.2.1 i = hk i) → ∀ (H' : Heap) (locs' : List Loc), XBA D cA a9 h9 n0 m0 cN cS ad' t.2.1 t.2.2.1 t.2.2.2.1 A s t.2.2.2.2.1 t.2.2.2.2.2 H' locs' → vx_W p l e R s m args below meth c H' locs' (t.2.2.1 - n0) (t.2.2.2.1 - m0) Q (F0 m pc ls rest) (ad' t.1)) (kk : ∀ (q : HK × Nat × Nat × GI × GR) (ad' : Nat → Nat), ff (.inr q) = some r → (∀ i, (hk i).1 < 1000 → ad' i = ad i ∧ q.1 i = hk i) → ∀ (H' : Heap) (locs' : List Loc), XBA D cA a9 h9 n0 m0 cN cS ad' q.1 q.2.1 q.2.2.1 A s q.2.2.2.1 q.2.2.2.2 H' locs' → W p l e R s m args below meth c H' locs' (q.2.1 - n0) (q.2.2.1 - m0) Q (F0 m (pc + 3) ls (rest))) : W p l e R s m args below meth c H locs (nx - n0) (ns - m0) Q (F0 m pc ls (.ref (ad a0) :: rest)) := by
  obtain ⟨z, h1, h2⟩ := g_ob h
  obtain ⟨h3, c1, c2, c3, c4⟩ := g_cc_of h1
  refine xt_cVV (As := []) (rest := rest) (n := 0) (qn := (fun z : (Nat × HK × Nat × Nat × GI × GR) ⊕ (HK × Nat × Nat × GI × GR) => Sum.elim (fun t : Nat × HK × Nat × Nat × GI × GR => t.2.2.1) (fun q : HK × Nat × Nat × GI × GR => q.2.1) z) z) (qs := (fun z : (Nat × HK × Nat × Nat × GI × GR) ⊕ (HK × Nat × Nat × GI × GR) => Sum.elim (fun t : Nat × HK × Nat × Nat × GI × GR => t.2.2.2.1) (fun q : HK × Nat × Nat × GI × GR => q.2.2.1) z) z) xc_4 ht (by decide) C B hRr (fun sz => w_X5_draw l D cA ad _ _ hk nx ns gi gr a0 ht ⟨c1, c3⟩ z h3 sz) hq q1224 qs37 q151 q1225 (by decide +kernel) ⟨c1, c2, c3, c4⟩ (fun u hp => ?_) (fun x hp => ?_) ⟨hF, hN⟩ rfl hs hw hdg (fun w u H9 locs9 hp hw9 hae B9 => ?_) (fun u H9 locs9 hp hae B9 => ?_)
  · have hp := hp
    subst hp
    exact ⟨rfl, rfl⟩
  · have hp := hp
    subst hp
    exact ⟨rfl, rfl⟩
  · have hp := hp
    subst hp
    exact kx _ u.1 h2 hw9 hae H9 locs9 B9
  · have hp := hp
    subst hp
    exact kk _ u.1 h2 hae H9 locs9 B9

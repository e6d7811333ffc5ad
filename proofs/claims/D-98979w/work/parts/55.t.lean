/-! WHAT IS THROWN -/
set_option maxRecDepth 100000
def f_J13_init_2 (cN cS : Nat) (hk : HK) (nx ns : Nat) (gi : GI) (gr : GR) (a0 : Nat) (x3 : Int32) (x4 : Int32) : Option (HK × Nat × Nat × GI × GR) :=
  if x4 = 0 then
  (if x3 = 0 then
  ((g_ok hk 1000301).bind fun _ =>
  (g_ok hk 1000302).bind fun _ =>
  some (hk, nx, ns, gi, g_pr (g_pr (g_pr (g_pr gr a0 0 none) a0 1 none) a0 2 none) a0 3 none))
  else
  (none))
  else
  (none)
set_option maxHeartbeats 400000 in
theorem w_J13_init_2 (l : Launch) (D : va_G) (cA : Nat → ClassId) (ad : Nat → Nat) (cN cS : Nat) (hk : HK) (nx ns : Nat) (gi : GI) (gr : GR) (a0 : Nat) (x3 : Int32) (x4 : Int32) (ht : (hk a0).1 = 15) (hcap : nx ≤ cN ∧ ns ≤ cS) (r : HK × Nat × Nat × GI × GR) (h : f_J13_init_2 cN cS hk nx ns gi gr a0 x3 x4 = some r) (sz : Nat) : Met l yJ13_init_2 (ws_ yJ13_init_2 cJ13_init_2 5 (none)) ({ frames := 1, cells := cN - nx, slots := cS - ns, locals := 64 } : Room) (va_Pc [.ref (ad a0), .null, .null, .int x3, .int x4] (XPre D cA ad hk nx gi gr sz)) (va_Qv (fun (u : XU) => u.2 = r) (XPostA D cA ad hk nx sz) (XA ad nx sz)) (cN - nx) (cS - ns) (XA ad nx sz) := by
  refine xa_stV (own := RJ13) (P := (fun (u : XU) => u.2 = r)) (by decide +kernel) rfl (Nat.le_of_ble_eq_true rfl) hcap (fun p e s m args below meth c R Q A ls C hmn hF hN hRr B hret hL => ?_) sz
  have hx := C.1
  have hb := C.2.1
  have hL : lv_has ls 5 [(0, .ref (ad a0)), (1, .null), (2, .null), (3, .int x3), (4, .int x4)] := hL
  unfold f_J13_init_2 at h
  rcases g_if h with ⟨hx4, h⟩ | ⟨_, h⟩
  · rcases g_if h with ⟨hx3, h⟩ | ⟨_, h⟩
    · refine xx_ok h (fun ok1 h => ?_)
      refine xx_ok h (fun ok2 h => ?_)
      refine lv_aload_n hx hb dJ13_init_2_0 rfl (lv_at hL 0 rfl) ?_
      refine W.objInit hx hb C.2.2.2.1 (C.2.2.2.2 _ q856) (C.2.2.2.2 _ q179) (C.2.2.2.2 _ q180) rfl (by rw [C.2.2.1]; exact hL.1) rfl dJ13_init_2_1 (Nat.le_trans (Nat.le_of_ble_eq_true rfl) hF) (Nat.le_trans (Nat.le_of_ble_eq_true rfl) hN) ?_
      refine W.eq (g2 := F0 m 4 ls []) rfl ?_
      refine lv_aload_n hx hb dJ13_init_2_4 rfl (lv_at hL 0 rfl) ?_
      refine lv_aload_n hx hb dJ13_init_2_5 rfl (lv_at hL 0 rfl) ?_
      refine xx_pO (ci := 5) (k := 0) (o := some a0) C B.1 xc_5 ht (by decide) (fun v hv => by cases hv; rw [ht]; decide) (Nat.le_of_ble_eq_true rfl) rfl q885 (fun _ h => h) rfl ⟨rfl, fun _ => rfl⟩ ⟨rfl, fun _ => rfl⟩ dJ13_init_2_6 (fun H locs B2 => ?_)
      have B := And.intro B2 B.2
      refine lv_aload_n hx hb dJ13_init_2_9 rfl (lv_at hL 0 rfl) ?_
      refine xx_gz (v := 1000301) B.1.2.2.2.2.2.2.2.2.1.2.1 C B.1 q857 dJ13_init_2_10 (fun o1 ho1 => ?_)
      refine xx_pO (ci := 5) (k := 1) (o := o1) C B.1 xc_5 ht (by decide) (fun v hv => by rw [ho1 v hv]; exact ok1) (Nat.le_of_ble_eq_true rfl) rfl q886 (fun _ h => h) rfl ⟨rfl, fun _ => rfl⟩ ⟨rfl, fun _ => rfl⟩ dJ13_init_2_13 (fun H locs B2 => ?_)
      have B := And.intro B2 B.2
      refine lv_aload_n hx hb dJ13_init_2_16 rfl (lv_at hL 0 rfl) ?_
      refine xx_gz (v := 1000302) B.1.2.2.2.2.2.2.2.2.1.2.2 C B.1 q859 dJ13_init_2_17 (fun o2 ho2 => ?_)
      refine xx_pO (ci := 5) (k := 2) (o := o2) C B.1 xc_5 ht (by decide) (fun v hv => by rw [ho2 v hv]; exact ok2) (Nat.le_of_ble_eq_true rfl) rfl q887 (fun _ h => h) rfl ⟨rfl, fun _ => rfl⟩ ⟨rfl, fun _ => rfl⟩ dJ13_init_2_20 (fun H locs B2 => ?_)
      have B := And.intro B2 B.2
      refine lv_iload hx hb dJ13_init_2_23 (lv_at hL 4 rfl) ?_
      refine gg_if_eq (dP := instDecidableEqInt32 x4 0) (X := some ()) (Y := (none : Option Unit)) (r := ()) hx hb 36 (if_pos hx4) dJ13_init_2_25 (by decide) (fun _ => ?_) (fun z => by cases z)
      refine lv_aload_n hx hb dJ13_init_2_36 rfl (lv_at hL 0 rfl) ?_
      refine lv_null hx hb dJ13_init_2_37 ?_
      refine xx_pO (ci := 5) (k := 1) (o := none) C B.1 xc_5 ht (by decide) (fun v hv => by cases hv) (Nat.le_of_ble_eq_true rfl) rfl q886 (fun _ h => h) rfl ⟨rfl, fun _ => rfl⟩ ⟨rfl, fun _ => rfl⟩ dJ13_init_2_38 (fun H locs B2 => ?_)
      have B := And.intro B2 B.2
      refine lv_aload_n hx hb dJ13_init_2_41 rfl (lv_at hL 0 rfl) ?_
      refine lv_aload_nN hx hb dJ13_init_2_42 rfl (lv_at hL 1 rfl) ?_
      refine xx_pO (ci := 5) (k := 3) (o := none) C B.1 xc_5 ht (by decide) (fun v hv => by cases hv) (Nat.le_of_ble_eq_true rfl) rfl q884 (fun _ h => h) rfl ⟨rfl, fun _ => rfl⟩ ⟨rfl, fun _ => rfl⟩ dJ13_init_2_43 (fun H locs B2 => ?_)
      have B := And.intro B2 B.2
      refine lv_aload_n hx hb dJ13_init_2_46 rfl (lv_at hL 0 rfl) ?_
      refine lv_aload_nN hx hb dJ13_init_2_47 rfl (lv_at hL 2 rfl) ?_
      refine xx_pO (ci := 5) (k := 0) (o := none) C B.1 xc_5 ht (by decide) (fun v hv => by cases hv) (Nat.le_of_ble_eq_true rfl) rfl q885 (fun _ h => h) rfl ⟨rfl, fun _ => rfl⟩ ⟨rfl, fun _ => rfl⟩ dJ13_init_2_48 (fun H locs B2 => ?_)
      have B := And.intro B2 B.2
      refine lv_iload_n hx hb dJ13_init_2_51 rfl (lv_at hL 3 rfl) ?_
      refine gg_if_ne (dP := instDecidableEqInt32 x3 0) (X := some ()) (Y := (none : Option Unit)) (r := ()) hx hb 60 (if_pos hx3) dJ13_init_2_52 (by decide) (fun z => by cases z) (fun _ => ?_)
      refine lv_aload_n hx hb dJ13_init_2_55 rfl (lv_at hL 0 rfl) ?_
      refine lv_null hx hb dJ13_init_2_56 ?_
      refine xx_pO (ci := 5) (k := 2) (o := none) C B.1 xc_5 ht (by decide) (fun v hv => by cases hv) (Nat.le_of_ble_eq_true rfl) rfl q887 (fun _ h => h) rfl ⟨rfl, fun _ => rfl⟩ ⟨rfl, fun _ => rfl⟩ dJ13_init_2_57 (fun H locs B2 => ?_)
      have B := And.intro B2 B.2
      rw [g_thr] at B
      exact hret (ad, hk, nx, ns, gi, _) _ _ _ _ (Option.some.inj h) B dJ13_init_2_60
    · cases h
  · cases h
theorem k_J13_init_2 {p : Program} {l : Launch} {e : Env} {R : Room} {s : State} {m : MethodId} {args : Array Value} {below : List Frame} {meth : Method} {c : Code} {H : Heap} {locs : List Loc} {Q : State → Prop} {pc : Nat} {ls : Array Slot} {rest : List Value} {cc : ByteArray} {nL : Nat} {D : va_G} {cA : Nat → ClassId} {a9 : Nat → Nat} {h9 : HK} {n0 m0 cN cS : Nat} {ad : Nat → Nat} {hk : HK} {nx ns : Nat} {A : Nat → Prop} {gi : GI} {gr : GR} {α : Type} {r : α} {own : String} {idx : Nat} {a0 : Nat} {x3 : Int32} {x4 : Int32} {ff : (HK × Nat × Nat × GI × GR) → Option α} (ht : (hk a0).1 = 15) (C : CallFix p m c cc nL s args lw_all own) (B : XBA D cA a9 h9 n0 m0 cN cS ad hk nx ns A s gi gr H locs) (hRr : R.cells = cN - n0 ∧ R.slots = cS - m0) (hq : Cond.methodLink own idx yJ13_init_2 ∈ lw_all) (hF : 2 ≤ R.frames) (hN : 88 ≤ R.locals) (hs : ls.size = nL) (hw : (rest.map fun v => v.category).sum ≤ 8) (h : (g_cc (fun c1 c2 => f_J13_init_2 c1 c2 hk nx ns gi gr a0 x3 x4) (fun q : HK × Nat × Nat × GI × GR => q.2.1) (fun q : HK × Nat × Nat × GI × GR => q.2.2.1) cN cS nx ns).bind ff = some r) (hdg : decode cc pc = .ok (.invokespecial idx, 3)) (kk : ∀ (q : HK × Nat × Nat × GI × GR) (ad' : Nat → Nat), ff q = some r → (∀ i, (hk i).1 < 1000 → ad' i = ad i ∧ q.1 i = hk i) → ∀ (H' : Heap) (locs' : List Loc), XBA D cA a9 h9 n0 m0 cN cS ad' q.1 q.2.1 q.2.2.1 A s q.2.2.2.1 q.2.2.2.2 H' locs' → W p l e R s m args below meth c H' locs' (q.2.1 - n0) (q.2.2.1 - m0) Q (F0 m (pc + 3) ls (rest))) : W p l e R s m args below meth c H locs (nx - n0) (ns - m0) Q (F0 m pc ls (.int x4 :: .int x3 :: .null :: .null :: .ref (ad a0) :: rest)) := by
  obtain ⟨q, h1, h2⟩ := g_ob h
  obtain ⟨h3, c1, c2, c3, c4⟩ := g_cc_of h1
  refine xa_cIV (As := [.null, .null, .int x3, .int x4]) (rest := rest) (n := 4) (qn := q.2.1) (qs := q.2.2.1) (b := a0) C B hRr (fun sz => w_J13_init_2 l D cA ad _ _ hk nx ns gi gr a0 x3 x4 ht ⟨c1, c3⟩ q h3 sz) hq q877 q161 q878 rfl (by decide +kernel) ⟨c1, c2, c3, c4⟩ (fun u hp => ?_) ⟨hF, hN⟩ rfl hs hw hdg (fun u H9 locs9 hp hae B9 => ?_)
  · have hp := hp
    subst hp
    exact ⟨rfl, rfl⟩
  · have hp := hp
    subst hp
    exact kk _ u.1 h2 hae H9 locs9 B9
def f_J14_init (cN cS : Nat) (hk : HK) (nx ns : Nat) (gi : GI) (gr : GR) (a0 : Nat) (x3 : Int32) (x4 : Int32) : Option (HK × Nat × Nat × GI × GR) :=
  (g_cc (fun c1 c2 => f_J13_init_2 c1 c2 hk nx ns gi gr a0 x3 x4) (fun q : HK × Nat × Nat × GI × GR => q.2.1) (fun q : HK × Nat × Nat × GI × GR => q.2.2.1) cN cS nx ns).bind fun q1 =>
  some (q1.1, q1.2.1, q1.2.2.1, q1.2.2.2.1, q1.2.2.2.2)
set_option maxHeartbeats 400000 in
theorem w_J14_init (l : Launch) (D : va_G) (cA : Nat → ClassId) (ad : Nat → Nat) (cN cS : Nat) (hk : HK) (nx ns : Nat) (gi : GI) (gr : GR) (a0 : Nat) (x3 : Int32) (x4 : Int32) (ht : (hk a0).1 = 15) (hcap : nx ≤ cN ∧ ns ≤ cS) (r : HK × Nat × Nat × GI × GR) (h : f_J14_init cN cS hk nx ns gi gr a0 x3 x4 = some r) (sz : Nat) : Met l yJ14_init (ws_ yJ14_init cJ14_init 5 (none)) ({ frames := 2, cells := cN - nx, slots := cS - ns, locals := 88 } : Room) (va_Pc [.ref (ad a0), .null, .null, .int x3, .int x4] (XPre D cA ad hk nx gi gr sz)) (va_Qv (fun (u : XU) => u.2 = r) (XPostA D cA ad hk nx sz) (XA ad nx sz)) (cN - nx) (cS - ns) (XA ad nx sz) := by
  refine xa_stV (own := RJ14) (P := (fun (u : XU) => u.2 = r)) (by decide +kernel) rfl (Nat.le_of_ble_eq_true rfl) hcap (fun p e s m args below meth c R Q A ls C hmn hF hN hRr B hret hL => ?_) sz
  have hx := C.1
  have hb := C.2.1
  have hL : lv_has ls 5 [(0, .ref (ad a0)), (1, .null), (2, .null), (3, .int x3), (4, .int x4)] := hL
  unfold f_J14_init at h
  refine lv_aload_n hx hb dJ14_init_0 rfl (lv_at hL 0 rfl) ?_
  refine lv_aload_nN hx hb dJ14_init_1 rfl (lv_at hL 1 rfl) ?_
  refine lv_aload_nN hx hb dJ14_init_2 rfl (lv_at hL 2 rfl) ?_
  refine lv_iload_n hx hb dJ14_init_3 rfl (lv_at hL 3 rfl) ?_
  refine lv_iload hx hb dJ14_init_4 (lv_at hL 4 rfl) ?_
  refine k_J13_init_2 ht C B hRr q876 (Nat.le_trans (Nat.le_of_ble_eq_true rfl) hF) (Nat.le_trans (Nat.le_of_ble_eq_true rfl) hN) hL.1 (Nat.le_of_ble_eq_true rfl) h dJ14_init_6 (fun q1 ad2 h hae3 H locs B => ?_)
  rw [← (hae3 a0 (by rw [ht]; decide)).1] at hL
  have hp4 : (q1.1 a0).1 = 15 := by rw [(hae3 a0 (by rw [ht]; decide)).2]; exact ht
  exact hret (ad2, q1.1, q1.2.1, q1.2.2.1, q1.2.2.2.1, q1.2.2.2.2) _ _ _ _ (Option.some.inj h) B dJ14_init_9
theorem k_J14_init {p : Program} {l : Launch} {e : Env} {R : Room} {s : State} {m : MethodId} {args : Array Value} {below : List Frame} {meth : Method} {c : Code} {H : Heap} {locs : List Loc} {Q : State → Prop} {pc : Nat} {ls : Array Slot} {rest : List Value} {cc : ByteArray} {nL : Nat} {D : va_G} {cA : Nat → ClassId} {a9 : Nat → Nat} {h9 : HK} {n0 m0 cN cS : Nat} {ad : Nat → Nat} {hk : HK} {nx ns : Nat} {A : Nat → Prop} {gi : GI} {gr : GR} {α : Type} {r : α} {own : String} {idx : Nat} {a0 : Nat} {x3 : Int32} {x4 : Int32} {ff : (HK × Nat × Nat × GI × GR) → Option α} (ht : (hk a0).1 = 15) (C : CallFix p m c cc nL s args lw_all own) (B : XBA D cA a9 h9 n0 m0 cN cS ad hk nx ns A s gi gr H locs) (hRr : R.cells = cN - n0 ∧ R.slots = cS - m0) (hq : Cond.methodLink own idx yJ14_init ∈ lw_all) (hF : 3 ≤ R.frames) (hN : 112 ≤ R.locals) (hs : ls.size = nL) (hw : (rest.map fun v => v.category).sum ≤ 8) (h : (g_cc (fun c1 c2 => f_J14_init c1 c2 hk nx ns gi gr a0 x3 x4) (fun q : HK × Nat × Nat × GI × GR => q.2.1) (fun q : HK × Nat × Nat × GI × GR => q.2.2.1) cN cS nx ns).bind ff = some r) (hdg : decode cc pc = .ok (.invokespecial idx, 3)) (kk : ∀ (q : HK × Nat × Nat × GI × GR) (ad' : Nat → Nat), ff q = some r → (∀ i, (hk i).1 < 1000 → ad' i = ad i ∧ q.1 i = hk i) → ∀ (H' : Heap) (locs' : List Loc), XBA D cA a9 h9 n0 m0 cN cS ad' q.1 q.2.1 q.2.2.1 A s q.2.2.2.1 q.2.2.2.2 H' locs' → W p l e R s m args below meth c H' locs' (q.2.1 - n0) (q.2.2.1 - m0) Q (F0 m (pc + 3) ls (rest))) : W p l e R s m args below meth c H locs (nx - n0) (ns - m0) Q (F0 m pc ls (.int x4 :: .int x3 :: .null :: .null :: .ref (ad a0) :: rest)) := by
  obtain ⟨q, h1, h2⟩ := g_ob h
  obtain ⟨h3, c1, c2, c3, c4⟩ := g_cc_of h1
  refine xa_cIV (As := [.null, .null, .int x3, .int x4]) (rest := rest) (n := 4) (qn := q.2.1) (qs := q.2.2.1) (b := a0) C B hRr (fun sz => w_J14_init l D cA ad _ _ hk nx ns gi gr a0 x3 x4 ht ⟨c1, c3⟩ q h3 sz) hq q874 q162 q875 rfl (by decide +kernel) ⟨c1, c2, c3, c4⟩ (fun u hp => ?_) ⟨hF, hN⟩ rfl hs hw hdg (fun u H9 locs9 hp hae B9 => ?_)
  · have hp := hp
    subst hp
    exact ⟨rfl, rfl⟩
  · have hp := hp
    subst hp
    exact kk _ u.1 h2 hae H9 locs9 B9
def f_X6_init (cN cS : Nat) (hk : HK) (nx ns : Nat) (gi : GI) (gr : GR) (a0 : Nat) (x1 : Int32) (x2 : Int32) : Option (HK × Nat × Nat × GI × GR) :=
  (g_cc (fun c1 c2 => f_J14_init c1 c2 hk nx ns gi gr a0 0 0) (fun q : HK × Nat × Nat × GI × GR => q.2.1) (fun q : HK × Nat × Nat × GI × GR => q.2.2.1) cN cS nx ns).bind fun q1 =>
  (some (g_pi q1.2.2.2.1 a0 6 x1)).bind fun gi5 =>
  (some (g_pi gi5 a0 7 x2)).bind fun gi6 =>
  some (q1.1, q1.2.1, q1.2.2.1, gi6, q1.2.2.2.2)
set_option maxHeartbeats 400000 in
theorem w_X6_init (l : Launch) (D : va_G) (cA : Nat → ClassId) (ad : Nat → Nat) (cN cS : Nat) (hk : HK) (nx ns : Nat) (gi : GI) (gr : GR) (a0 : Nat) (x1 : Int32) (x2 : Int32) (ht : (hk a0).1 = 15) (hcap : nx ≤ cN ∧ ns ≤ cS) (r : HK × Nat × Nat × GI × GR) (h : f_X6_init cN cS hk nx ns gi gr a0 x1 x2 = some r) (sz : Nat) : Met l yX6_init (ws_ yX6_init cX6_init 3 (none)) ({ frames := 3, cells := cN - nx, slots := cS - ns, locals := 112 } : Room) (va_Pc [.ref (ad a0), .int x1, .int x2] (XPre D cA ad hk nx gi gr sz)) (va_Qv (fun (u : XU) => u.2 = r) (XPostA D cA ad hk nx sz) (XA ad nx sz)) (cN - nx) (cS - ns) (XA ad nx sz) := by
  refine xa_stV (own := RX6) (P := (fun (u : XU) => u.2 = r)) (by decide +kernel) rfl (Nat.le_of_ble_eq_true rfl) hcap (fun p e s m args below meth c R Q A ls C hmn hF hN hRr B hret hL => ?_) sz
  have hx := C.1
  have hb := C.2.1
  have hL : lv_has ls 3 [(0, .ref (ad a0)), (1, .int x1), (2, .int x2)] := hL
  unfold f_X6_init at h
  refine lv_aload_n hx hb dX6_init_0 rfl (lv_at hL 0 rfl) ?_
  refine lv_null hx hb dX6_init_1 ?_
  refine lv_null hx hb dX6_init_2 ?_
  refine lv_iconst (v := 0) hx hb dX6_init_3 (by decide) ?_
  refine lv_iconst (v := 0) hx hb dX6_init_4 (by decide) ?_
  refine k_J14_init ht C B hRr q873 (Nat.le_trans (Nat.le_of_ble_eq_true rfl) hF) (Nat.le_trans (Nat.le_of_ble_eq_true rfl) hN) hL.1 (Nat.le_of_ble_eq_true rfl) h dX6_init_5 (fun q1 ad2 h hae3 H locs B => ?_)
  rw [← (hae3 a0 (by rw [ht]; decide)).1] at hL
  have hp4 : (q1.1 a0).1 = 15 := by rw [(hae3 a0 (by rw [ht]; decide)).2]; exact ht
  refine lv_aload_n hx hb dX6_init_8 rfl (lv_at hL 0 rfl) ?_
  refine lv_iload_n hx hb dX6_init_9 rfl (lv_at hL 1 rfl) ?_
  refine xx_piF (ci := 5) (k := 6) C B.1 xc_5 hp4 (by decide) (Nat.le_of_ble_eq_true rfl) rfl q879 (fun _ h => h) rfl hmn rfl rfl rfl h dX6_init_10 (fun gi5 h H locs B2 => ?_)
  have B := And.intro B2 B.2
  refine lv_aload_n hx hb dX6_init_13 rfl (lv_at hL 0 rfl) ?_
  refine lv_iload_n hx hb dX6_init_14 rfl (lv_at hL 2 rfl) ?_
  refine xx_piF (ci := 5) (k := 7) C B.1 xc_5 hp4 (by decide) (Nat.le_of_ble_eq_true rfl) rfl q881 (fun _ h => h) rfl hmn rfl rfl rfl h dX6_init_15 (fun gi6 h H locs B2 => ?_)
  have B := And.intro B2 B.2
  exact hret (ad2, q1.1, q1.2.1, q1.2.2.1, gi6, q1.2.2.2.2) _ _ _ _ (Option.some.inj h) B dX6_init_18
theorem k_X6_init {p : Program} {l : Launch} {e : Env} {R : Room} {s : State} {m : MethodId} {args : Array Value} {below : List Frame} {meth : Method} {c : Code} {H : Heap} {locs : List Loc} {Q : State → Prop} {pc : Nat} {ls : Array Slot} {rest : List Value} {cc : ByteArray} {nL : Nat} {D : va_G} {cA : Nat → ClassId} {a9 : Nat → Nat} {h9 : HK} {n0 m0 cN cS : Nat} {ad : Nat → Nat} {hk : HK} {nx ns : Nat} {A : Nat → Prop} {gi : GI} {gr : GR} {α : Type} {r : α} {own : String} {idx : Nat} {a0 : Nat} {x1 : Int32} {x2 : Int32} {ff : (HK × Nat × Nat × GI × GR) → Option α} (ht : (hk a0).1 = 15) (C : CallFix p m c cc nL s args lw_all own) (B : XBA D cA a9 h9 n0 m0 cN cS ad hk nx ns A s gi gr H locs) (hRr : R.cells = cN - n0 ∧ R.slots = cS - m0) (hq : Cond.methodLink own idx yX6_init ∈ lw_all) (hF : 4 ≤ R.frames) (hN : 134 ≤ R.locals) (hs : ls.size = nL) (hw : (rest.map fun v => v.category).sum ≤ 8) (h : (g_cc (fun c1 c2 => f_X6_init c1 c2 hk nx ns gi gr a0 x1 x2) (fun q : HK × Nat × Nat × GI × GR => q.2.1) (fun q : HK × Nat × Nat × GI × GR => q.2.2.1) cN cS nx ns).bind ff = some r) (hdg : decode cc pc = .ok (.invokespecial idx, 3)) (kk : ∀ (q : HK × Nat × Nat × GI × GR) (ad' : Nat → Nat), ff q = some r → (∀ i, (hk i).1 < 1000 → ad' i = ad i ∧ q.1 i = hk i) → ∀ (H' : Heap) (locs' : List Loc), XBA D cA a9 h9 n0 m0 cN cS ad' q.1 q.2.1 q.2.2.1 A s q.2.2.2.1 q.2.2.2.2 H' locs' → W p l e R s m args below meth c H' locs' (q.2.1 - n0) (q.2.2.1 - m0) Q (F0 m (pc + 3) ls (rest))) : W p l e R s m args below meth c H locs (nx - n0) (ns - m0) Q (F0 m pc ls (.int x2 :: .int x1 :: .ref (ad a0) :: rest)) := by
  obtain ⟨q, h1, h2⟩ := g_ob h
  obtain ⟨h3, c1, c2, c3, c4⟩ := g_cc_of h1
  refine xa_cIV (As := [.int x1, .int x2]) (rest := rest) (n := 2) (qn := q.2.1) (qs := q.2.2.1) (b := a0) C B hRr (fun sz => w_X6_init l D cA ad _ _ hk nx ns gi gr a0 x1 x2 ht ⟨c1, c3⟩ q h3 sz) hq q871 q163 q872 rfl (by decide +kernel) ⟨c1, c2, c3, c4⟩ (fun u hp => ?_) ⟨hF, hN⟩ rfl hs hw hdg (fun u H9 locs9 hp hae B9 => ?_)
  · have hp := hp
    subst hp
    exact ⟨rfl, rfl⟩
  · have hp := hp
    subst hp
    exact kk _ u.1 h2 hae H9 locs9 B9

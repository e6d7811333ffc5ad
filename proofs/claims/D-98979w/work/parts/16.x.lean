/-! THE COMPONENT: methods that make no cells: what each computes (f_..), its contract (w_..), its call row (k_..) -/
set_option maxRecDepth 100000
def f_J11_checkLength (hk : HK) (gi : GI) (gr : GR) (x0 : Int32) (x1 : Int32) : Option (Unit) :=
  if x0 ≤ x1 then
  (some ())
  else
  (none)
set_option maxHeartbeats 400000 in
theorem w_J11_checkLength (l : Launch) (D : va_G) (cA : Nat → ClassId) (ad : Nat → Nat) (hk : HK) (nx : Nat) (gi : GI) (gr : GR) (x0 : Int32) (x1 : Int32) (r : Unit) (h : f_J11_checkLength hk gi gr x0 x1 = some r) (sz : Nat) : Met l yJ11_checkLength (ws_ yJ11_checkLength cJ11_checkLength 2 (none)) ({ frames := 1, cells := 0, slots := 0, locals := 64 } : Room) (va_Pc [.int x0, .int x1] (XPre D cA ad hk nx gi gr sz)) (va_Qv (fun u => True ∧ u.1 = gi ∧ u.2 = gr) (XPost D cA ad hk nx) (XA ad nx sz)) 0 0 (XA ad nx sz) := by
  refine xx_stV (own := RJ11) (P := (fun u => True ∧ u.1 = gi ∧ u.2 = gr)) (by decide +kernel) rfl (Nat.le_of_ble_eq_true rfl) (fun p e s m args below meth c R Q A ls C hF hN B hret hL => ?_) sz
  have hx := C.1
  have hb := C.2.1
  have hL : lv_has ls 2 [(0, .int x0), (1, .int x1)] := hL
  unfold f_J11_checkLength at h
  refine lv_iload_n hx hb dJ11_checkLength_0 rfl (lv_at hL 1 rfl) ?_
  refine lv_iload_n hx hb dJ11_checkLength_1 rfl (lv_at hL 0 rfl) ?_
  refine gg_icmp_ge hx hb 37 h dJ11_checkLength_2 (by decide) (fun h => ?_) (fun h => ?_)
  · exact hret _ _ _ _ _ _ ⟨trivial, rfl, rfl⟩ B dJ11_checkLength_37
  · cases h
theorem k_J11_checkLength {p : Program} {l : Launch} {e : Env} {R : Room} {s : State} {m : MethodId} {args : Array Value} {below : List Frame} {meth : Method} {c : Code} {H : Heap} {locs : List Loc} {Q : State → Prop} {pc : Nat} {ls : Array Slot} {rest : List Value} {cc : ByteArray} {nL cells slots : Nat} {D : va_G} {cA : Nat → ClassId} {ad : Nat → Nat} {hk : HK} {nx : Nat} {A : Nat → Prop} {gi : GI} {gr : GR} {α : Type} {r : α} {own : String} {idx : Nat} {x0 : Int32} {x1 : Int32} {ff : Unit → Option α} (C : CallFix p m c cc nL s args lw_all own) (B : XB D cA ad hk nx A s gi gr H locs) (hq : Cond.methodLink own idx yJ11_checkLength ∈ lw_all) (hF : 2 ≤ R.frames) (hN : 85 ≤ R.locals) (hs : ls.size = nL) (hw : (rest.map fun v => v.category).sum ≤ 8) (hz0 : cells ≤ R.cells ∧ slots ≤ R.slots) (h : (f_J11_checkLength hk gi gr x0 x1).bind ff = some r) (hdg : decode cc pc = .ok (.invokestatic idx, 3)) (kk : ∀ q, ff q = some r → ∀ (H' : Heap) (locs' : List Loc), XB D cA ad hk nx A s gi gr H' locs' → W p l e R s m args below meth c H' locs' cells slots Q (F0 m (pc + 3) ls (rest))) : W p l e R s m args below meth c H locs cells slots Q (F0 m pc ls (.int x1 :: .int x0 :: rest)) := by
  obtain ⟨q, h1, h2⟩ := g_ob h
  refine xx_cSV (As := [.int x0, .int x1]) (rest := rest) (n := 2) C B (fun sz => w_J11_checkLength l D cA ad hk nx gi gr x0 x1 q h1 sz) hq q682 q158 q683 (by decide +kernel) ⟨hF, hN⟩ rfl hs hw hz0 hdg (fun u H9 locs9 hp B9 => ?_)
  obtain ⟨e1, e2, e3⟩ := hp
  rw [e2] at B9
  rw [e3] at B9
  cases q
  exact kk _ h2 H9 locs9 B9
def f_J12_canEncode (hk : HK) (gi : GI) (gr : GR) (x0 : Int32) : Option (Int32) :=
  if 255 < x0 then
  (some 0)
  else
  (some 1)
set_option maxHeartbeats 400000 in
theorem w_J12_canEncode (l : Launch) (D : va_G) (cA : Nat → ClassId) (ad : Nat → Nat) (hk : HK) (nx : Nat) (gi : GI) (gr : GR) (x0 : Int32) (r : Int32) (h : f_J12_canEncode hk gi gr x0 = some r) (sz : Nat) : Met l yJ12_canEncode (ws_ yJ12_canEncode cJ12_canEncode 1 (some .boolean)) ({ frames := 1, cells := 0, slots := 0, locals := 64 } : Room) (va_Pc [.int x0] (XPre D cA ad hk nx gi gr sz)) (va_Qi (fun v u => v = r ∧ u.1 = gi ∧ u.2 = gr) (XPost D cA ad hk nx) (XA ad nx sz)) 0 0 (XA ad nx sz) := by
  refine xx_stZ (own := RJ12) (P := (fun v u => v = r ∧ u.1 = gi ∧ u.2 = gr)) (by decide +kernel) rfl (Nat.le_of_ble_eq_true rfl) (fun p e s m args below meth c R Q A ls C hF hN B hret hL => ?_) sz
  have hx := C.1
  have hb := C.2.1
  have hL : lv_has ls 1 [(0, .int x0)] := hL
  unfold f_J12_canEncode at h
  refine lv_iload_n hx hb dJ12_canEncode_0 rfl (lv_at hL 0 rfl) ?_
  refine lv_sipush (v := 255) hx hb dJ12_canEncode_1 (by decide) ?_
  refine gg_icmp_gt hx hb 11 h dJ12_canEncode_4 (by decide) (fun h => ?_) (fun h => ?_)
  · refine lv_iconst (v := 0) hx hb dJ12_canEncode_11 (by decide) ?_
    exact hret _ _ _ _ _ _ _ ⟨Option.some.inj h, rfl, rfl⟩ (Or.inl rfl) B dJ12_canEncode_12
  · refine lv_iconst (v := 1) hx hb dJ12_canEncode_7 (by decide) ?_
    refine lv_goto (tgt := 12) hx hb dJ12_canEncode_8 (by decide) ?_
    exact hret _ _ _ _ _ _ _ ⟨Option.some.inj h, rfl, rfl⟩ (Or.inr rfl) B dJ12_canEncode_12
theorem k_J12_canEncode {p : Program} {l : Launch} {e : Env} {R : Room} {s : State} {m : MethodId} {args : Array Value} {below : List Frame} {meth : Method} {c : Code} {H : Heap} {locs : List Loc} {Q : State → Prop} {pc : Nat} {ls : Array Slot} {rest : List Value} {cc : ByteArray} {nL cells slots : Nat} {D : va_G} {cA : Nat → ClassId} {ad : Nat → Nat} {hk : HK} {nx : Nat} {A : Nat → Prop} {gi : GI} {gr : GR} {α : Type} {r : α} {own : String} {idx : Nat} {x0 : Int32} {ff : Int32 → Option α} (C : CallFix p m c cc nL s args lw_all own) (B : XB D cA ad hk nx A s gi gr H locs) (hq : Cond.methodLink own idx yJ12_canEncode ∈ lw_all) (hF : 2 ≤ R.frames) (hN : 84 ≤ R.locals) (hs : ls.size = nL) (hw : (rest.map fun v => v.category).sum ≤ 8) (hz0 : cells ≤ R.cells ∧ slots ≤ R.slots) (h : (f_J12_canEncode hk gi gr x0).bind ff = some r) (hdg : decode cc pc = .ok (.invokestatic idx, 3)) (kk : ∀ q, ff q = some r → ∀ (H' : Heap) (locs' : List Loc), XB D cA ad hk nx A s gi gr H' locs' → W p l e R s m args below meth c H' locs' cells slots Q (F0 m (pc + 3) ls (.int q :: rest))) : W p l e R s m args below meth c H locs cells slots Q (F0 m pc ls (.int x0 :: rest)) := by
  obtain ⟨q, h1, h2⟩ := g_ob h
  refine xx_cSI (As := [.int x0]) (rest := rest) (n := 1) C B (fun sz => w_J12_canEncode l D cA ad hk nx gi gr x0 q h1 sz) hq q603 q160 q604 (by decide +kernel) ⟨hF, hN⟩ rfl hs hw hz0 hdg (fun v u H9 locs9 hp B9 => ?_)
  obtain ⟨e1, e2, e3⟩ := hp
  rw [e2] at B9
  rw [e3] at B9
  subst e1
  exact kk _ h2 H9 locs9 B9
def f_J12_equals_l9 (hk : HK) (gii9 : GI) (gri9 : GR) (a0i9 : Nat) (a1i9 : Nat) (x2l9 : Int32) : Option ((Int32) ⊕ ((Unit) ⊕ (Int32))) :=
  if (Int32.ofNat (hk a0i9).2) ≤ x2l9 then
  (some (.inr (.inl ())))
  else
  ((g_ld gii9 a0i9 (hk a0i9).2 x2l9).bind fun v3 =>
  (g_ld gii9 a1i9 (hk a1i9).2 x2l9).bind fun v4 =>
  if v3 = v4 then
  (some (.inl (x2l9 + 1)))
  else
  (some (.inr (.inr 0))))
def f_J12_equals_x9 (hk : HK) (giy9 : GI) (gry9 : GR) : Option (Int32) :=
  some 1
def f_J12_equals (hk : HK) (gi : GI) (gr : GR) (a0 : Nat) (a1 : Nat) : Option (Int32) :=
  (g_is hk a0 1).bind fun _ =>
  (g_is hk a1 1).bind fun _ =>
  if (Int32.ofNat (hk a0).2) = (Int32.ofNat (hk a1).2) then
  ((g_loop g_K (fun (s : Int32) => f_J12_equals_l9 hk gi gr a0 a1 s) (0)).bind fun E9 => Sum.elim (fun (S9 : Unit) => f_J12_equals_x9 hk gi gr) (fun (r9 : Int32) => some r9) E9)
  else
  (some 0)
set_option maxHeartbeats 400000 in
theorem w_J12_equals (l : Launch) (D : va_G) (cA : Nat → ClassId) (ad : Nat → Nat) (hk : HK) (nx : Nat) (gi : GI) (gr : GR) (a0 : Nat) (a1 : Nat) (r : Int32) (h : f_J12_equals hk gi gr a0 a1 = some r) (sz : Nat) : Met l yJ12_equals (ws_ yJ12_equals cJ12_equals 3 (some .boolean)) ({ frames := 1, cells := 0, slots := 0, locals := 64 } : Room) (va_Pc [.ref (ad a0), .ref (ad a1)] (XPre D cA ad hk nx gi gr sz)) (va_Qi (fun v u => v = r ∧ u.1 = gi ∧ u.2 = gr) (XPost D cA ad hk nx) (XA ad nx sz)) 0 0 (XA ad nx sz) := by
  refine xx_stZ (own := RJ12) (P := (fun v u => v = r ∧ u.1 = gi ∧ u.2 = gr)) (by decide +kernel) rfl (Nat.le_of_ble_eq_true rfl) (fun p e s m args below meth c R Q A ls C hF hN B hret hL => ?_) sz
  have hx := C.1
  have hb := C.2.1
  have hL : lv_has ls 3 [(0, .ref (ad a0)), (1, .ref (ad a1))] := hL
  unfold f_J12_equals at h
  refine lv_aload_n hx hb dJ12_equals_0 rfl (lv_at hL 0 rfl) ?_
  refine xx_is h (fun hp1 h => ?_)
  refine xx_alen C B hp1 (by decide) dJ12_equals_1 ?_
  refine lv_aload_n hx hb dJ12_equals_2 rfl (lv_at hL 1 rfl) ?_
  refine xx_is h (fun hp2 h => ?_)
  refine xx_alen C B hp2 (by decide) dJ12_equals_3 ?_
  refine gg_icmp_ne hx hb 34 h dJ12_equals_4 (by decide) (fun h => ?_) (fun h => ?_)
  · refine lv_iconst (v := 0) hx hb dJ12_equals_34 (by decide) ?_
    exact hret _ _ _ _ _ _ _ ⟨Option.some.inj h, rfl, rfl⟩ (Or.inl rfl) B dJ12_equals_35
  · refine lv_iconst (v := 0) hx hb dJ12_equals_7 (by decide) ?_
    refine lv_istore_n (lv' := [(2, .int 0), (0, .ref (ad a0)), (1, .ref (ad a1))]) hx hb dJ12_equals_8 rfl hL (by decide) rfl (fun ls hL => ?_)
    obtain ⟨E9, h89, h⟩ := g_ob h
    have kx9 : ∀  (H : Heap) (locs : List Loc) (ls : Array Slot), Sum.inl () = E9 → XB D cA ad hk nx A s gi gr H locs → lv_has ls 3 [] → W p l e R s m args below meth c H locs 0 0 Q (F0 m 32 ls []) := by
      intro  H locs ls he B hL
      subst he
      have h : f_J12_equals_x9 hk gi gr = some r := h
      unfold f_J12_equals_x9 at h
      refine lv_iconst (v := 1) hx hb dJ12_equals_32 (by decide) ?_
      exact hret _ _ _ _ _ _ _ ⟨Option.some.inj h, rfl, rfl⟩ (Or.inr rfl) B dJ12_equals_33
    have kr9 : ∀ (v : Int32) (H : Heap) (locs : List Loc) (ls : Array Slot) (pc : Nat), Sum.inr v = E9 → (v = 0 ∨ v = 1) → XB D cA ad hk nx A s gi gr H locs → decode cJ12_equals pc = .ok (.ireturn, 1) → W p l e R s m args below meth c H locs 0 0 Q (F0 m pc ls [.int v]) := by
      intro v H locs ls pc he hz B hd
      subst he
      have h := g_er h
      exact hret _ _ _ _ _ _ _ ⟨Option.some.inj h, rfl, rfl⟩ hz B hd
    have hl9 : ∀ (k : Nat) (x2l9 : Int32) (H : Heap) (locs : List Loc) (ls : Array Slot), g_loop k (fun (s : Int32) => f_J12_equals_l9 hk gi gr a0 a1 s) x2l9 = some E9 → XB D cA ad hk nx A s gi gr H locs → lv_has ls 3 [(0, .ref (ad a0)), (1, .ref (ad a1)), (2, .int x2l9)] → W p l e R s m args below meth c H locs 0 0 Q (F0 m 9 ls []) := by
      intro k
      induction k with
      | zero => intro x2l9 H locs ls h; exact absurd h (fun z => g_loop_0 z)
      | succ k ih9 =>
        intro x2l9 H locs ls h B hL
        obtain ⟨Z9, h, h99⟩ := g_loop_s h
        have h : f_J12_equals_l9 hk gi gr a0 a1 x2l9 = some Z9 := h
        unfold f_J12_equals_l9 at h
        refine lv_iload_n hx hb dJ12_equals_9 rfl (lv_at hL 2 rfl) ?_
        refine lv_aload_n hx hb dJ12_equals_10 rfl (lv_at hL 0 rfl) ?_
        refine xx_alen C B hp1 (by decide) dJ12_equals_11 ?_
        refine gg_icmp_ge hx hb 32 h dJ12_equals_12 (by decide) (fun h => ?_) (fun h => ?_)
        · exact kx9  _ _ _ (g_exit h h99) B (lv_sub hL [] rfl)
        · refine lv_aload_n hx hb dJ12_equals_15 rfl (lv_at hL 0 rfl) ?_
          refine lv_iload_n hx hb dJ12_equals_16 rfl (lv_at hL 2 rfl) ?_
          refine xx_bald C B hp1 h dJ12_equals_17 (fun v3 h => ?_)
          refine lv_aload_n hx hb dJ12_equals_18 rfl (lv_at hL 1 rfl) ?_
          refine lv_iload_n hx hb dJ12_equals_19 rfl (lv_at hL 2 rfl) ?_
          refine xx_bald C B hp2 h dJ12_equals_20 (fun v4 h => ?_)
          refine gg_icmp_eq hx hb 26 h dJ12_equals_21 (by decide) (fun h => ?_) (fun h => ?_)
          · refine lv_iinc (v := x2l9 + 1) (lv' := [(2, .int (x2l9 + 1)), (0, .ref (ad a0)), (1, .ref (ad a1))]) hx hb dJ12_equals_26 hL (k := 2) rfl rfl (by decide) rfl (fun ls hL => ?_)
            refine lv_goto (tgt := 9) hx hb dJ12_equals_29 (by decide) ?_
            exact ih9 _ _ _ _ (g_next h h99) B (lv_sub hL [1, 2, 0] rfl)
          · refine lv_iconst (v := 0) hx hb dJ12_equals_24 (by decide) ?_
            exact kr9 _ _ _ _ _ (g_exit h h99) (Or.inl rfl) B dJ12_equals_25
    exact hl9 g_K _ _ _ _ h89 B (lv_sub hL [1, 2, 0] rfl)
theorem k_J12_equals {p : Program} {l : Launch} {e : Env} {R : Room} {s : State} {m : MethodId} {args : Array Value} {below : List Frame} {meth : Method} {c : Code} {H : Heap} {locs : List Loc} {Q : State → Prop} {pc : Nat} {ls : Array Slot} {rest : List Value} {cc : ByteArray} {nL cells slots : Nat} {D : va_G} {cA : Nat → ClassId} {ad : Nat → Nat} {hk : HK} {nx : Nat} {A : Nat → Prop} {gi : GI} {gr : GR} {α : Type} {r : α} {own : String} {idx : Nat} {a0 : Nat} {a1 : Nat} {ff : Int32 → Option α} (C : CallFix p m c cc nL s args lw_all own) (B : XB D cA ad hk nx A s gi gr H locs) (hq : Cond.methodLink own idx yJ12_equals ∈ lw_all) (hF : 2 ≤ R.frames) (hN : 86 ≤ R.locals) (hs : ls.size = nL) (hw : (rest.map fun v => v.category).sum ≤ 8) (hz0 : cells ≤ R.cells ∧ slots ≤ R.slots) (h : (f_J12_equals hk gi gr a0 a1).bind ff = some r) (hdg : decode cc pc = .ok (.invokestatic idx, 3)) (kk : ∀ q, ff q = some r → ∀ (H' : Heap) (locs' : List Loc), XB D cA ad hk nx A s gi gr H' locs' → W p l e R s m args below meth c H' locs' cells slots Q (F0 m (pc + 3) ls (.int q :: rest))) : W p l e R s m args below meth c H locs cells slots Q (F0 m pc ls (.ref (ad a1) :: .ref (ad a0) :: rest)) := by
  obtain ⟨q, h1, h2⟩ := g_ob h
  refine xx_cSI (As := [.ref (ad a0), .ref (ad a1)]) (rest := rest) (n := 2) C B (fun sz => w_J12_equals l D cA ad hk nx gi gr a0 a1 q h1 sz) hq q733 q160 q734 (by decide +kernel) ⟨hF, hN⟩ rfl hs hw hz0 hdg (fun v u H9 locs9 hp B9 => ?_)
  obtain ⟨e1, e2, e3⟩ := hp
  rw [e2] at B9
  rw [e3] at B9
  subst e1
  exact kk _ h2 H9 locs9 B9
def f_J15_hasNext (hk : HK) (gi : GI) (gr : GR) (a0 : Nat) : Option (Int32) :=
  (gr a0 3).bind fun v1 =>
  (g_is hk v1 22).bind fun _ =>
  if (gi a0 0) = (gi v1 2) then
  (some 0)
  else
  (some 1)
set_option maxHeartbeats 400000 in
theorem w_J15_hasNext (l : Launch) (D : va_G) (cA : Nat → ClassId) (ad : Nat → Nat) (hk : HK) (nx : Nat) (gi : GI) (gr : GR) (a0 : Nat) (ht : (hk a0).1 = 23) (r : Int32) (h : f_J15_hasNext hk gi gr a0 = some r) (sz : Nat) : Met l yJ15_hasNext (ws_ yJ15_hasNext cJ15_hasNext 1 (some .boolean)) ({ frames := 1, cells := 0, slots := 0, locals := 64 } : Room) (va_Pc [.ref (ad a0)] (XPre D cA ad hk nx gi gr sz)) (va_Qi (fun v u => v = r ∧ u.1 = gi ∧ u.2 = gr) (XPost D cA ad hk nx) (XA ad nx sz)) 0 0 (XA ad nx sz) := by
  refine xx_stZ (own := RJ15) (P := (fun v u => v = r ∧ u.1 = gi ∧ u.2 = gr)) (by decide +kernel) rfl (Nat.le_of_ble_eq_true rfl) (fun p e s m args below meth c R Q A ls C hF hN B hret hL => ?_) sz
  have hx := C.1
  have hb := C.2.1
  have hL : lv_has ls 1 [(0, .ref (ad a0))] := hL
  unfold f_J15_hasNext at h
  refine lv_aload_n hx hb dJ15_hasNext_0 rfl (lv_at hL 0 rfl) ?_
  refine xx_gi (ci := 13) (k := 0) C B xc_13 ht (by decide) (Nat.le_of_ble_eq_true rfl) rfl q1070 (fun _ h => h) dJ15_hasNext_1 ?_
  refine lv_aload_n hx hb dJ15_hasNext_4 rfl (lv_at hL 0 rfl) ?_
  refine xx_gr (ci := 13) (k := 3) C B xc_13 ht (by decide) (Nat.le_of_ble_eq_true rfl) rfl q1073 (fun _ h => h) h dJ15_hasNext_5 (fun v1 ok2 h => ?_)
  refine xx_is h (fun hp3 h => ?_)
  refine xx_giN (ci := 12) (k := 2) C B xc_12 hp3 (by decide) (Nat.le_of_ble_eq_true rfl) rfl nw_q205 (fun _ h => h) dJ15_hasNext_8 ?_
  refine gg_icmp_eq hx hb 18 h dJ15_hasNext_11 (by decide) (fun h => ?_) (fun h => ?_)
  · refine lv_iconst (v := 0) hx hb dJ15_hasNext_18 (by decide) ?_
    exact hret _ _ _ _ _ _ _ ⟨Option.some.inj h, rfl, rfl⟩ (Or.inl rfl) B dJ15_hasNext_19
  · refine lv_iconst (v := 1) hx hb dJ15_hasNext_14 (by decide) ?_
    refine lv_goto (tgt := 19) hx hb dJ15_hasNext_15 (by decide) ?_
    exact hret _ _ _ _ _ _ _ ⟨Option.some.inj h, rfl, rfl⟩ (Or.inr rfl) B dJ15_hasNext_19
def f_J15_checkForComodification (hk : HK) (gi : GI) (gr : GR) (a0 : Nat) : Option (Unit) :=
  (gr a0 3).bind fun v1 =>
  (g_is hk v1 22).bind fun _ =>
  if (gi v1 0) = (gi a0 2) then
  (some ())
  else
  (none)
set_option maxHeartbeats 400000 in
theorem w_J15_checkForComodification (l : Launch) (D : va_G) (cA : Nat → ClassId) (ad : Nat → Nat) (hk : HK) (nx : Nat) (gi : GI) (gr : GR) (a0 : Nat) (ht : (hk a0).1 = 23) (r : Unit) (h : f_J15_checkForComodification hk gi gr a0 = some r) (sz : Nat) : Met l yJ15_checkForComodification (ws_ yJ15_checkForComodification cJ15_checkForComodification 1 (none)) ({ frames := 1, cells := 0, slots := 0, locals := 64 } : Room) (va_Pc [.ref (ad a0)] (XPre D cA ad hk nx gi gr sz)) (va_Qv (fun u => True ∧ u.1 = gi ∧ u.2 = gr) (XPost D cA ad hk nx) (XA ad nx sz)) 0 0 (XA ad nx sz) := by
  refine xx_stV (own := RJ15) (P := (fun u => True ∧ u.1 = gi ∧ u.2 = gr)) (by decide +kernel) rfl (Nat.le_of_ble_eq_true rfl) (fun p e s m args below meth c R Q A ls C hF hN B hret hL => ?_) sz
  have hx := C.1
  have hb := C.2.1
  have hL : lv_has ls 1 [(0, .ref (ad a0))] := hL
  unfold f_J15_checkForComodification at h
  refine lv_aload_n hx hb dJ15_checkForComodification_0 rfl (lv_at hL 0 rfl) ?_
  refine xx_gr (ci := 13) (k := 3) C B xc_13 ht (by decide) (Nat.le_of_ble_eq_true rfl) rfl q1073 (fun _ h => h) h dJ15_checkForComodification_1 (fun v1 ok2 h => ?_)
  refine xx_is h (fun hp3 h => ?_)
  refine xx_gi (ci := 12) (k := 0) C B xc_12 hp3 (by decide) (Nat.le_of_ble_eq_true rfl) rfl q208 (fun x h => u_same (C.2.2.2.2 _ q209) x h) dJ15_checkForComodification_4 ?_
  refine lv_aload_n hx hb dJ15_checkForComodification_7 rfl (lv_at hL 0 rfl) ?_
  refine xx_gi (ci := 13) (k := 2) C B xc_13 ht (by decide) (Nat.le_of_ble_eq_true rfl) rfl q1072 (fun _ h => h) dJ15_checkForComodification_8 ?_
  refine gg_icmp_eq hx hb 22 h dJ15_checkForComodification_11 (by decide) (fun h => ?_) (fun h => ?_)
  · exact hret _ _ _ _ _ _ ⟨trivial, rfl, rfl⟩ B dJ15_checkForComodification_22
  · cases h
theorem k_J15_checkForComodification {p : Program} {l : Launch} {e : Env} {R : Room} {s : State} {m : MethodId} {args : Array Value} {below : List Frame} {meth : Method} {c : Code} {H : Heap} {locs : List Loc} {Q : State → Prop} {pc : Nat} {ls : Array Slot} {rest : List Value} {cc : ByteArray} {nL cells slots : Nat} {D : va_G} {cA : Nat → ClassId} {ad : Nat → Nat} {hk : HK} {nx : Nat} {A : Nat → Prop} {gi : GI} {gr : GR} {α : Type} {r : α} {own : String} {idx : Nat} {a0 : Nat} {ff : Unit → Option α} (ht : (hk a0).1 = 23) (C : CallFix p m c cc nL s args lw_all own) (B : XB D cA ad hk nx A s gi gr H locs) (hq : Cond.methodLink own idx yJ15_checkForComodification ∈ lw_all) (hF : 2 ≤ R.frames) (hN : 84 ≤ R.locals) (hs : ls.size = nL) (hw : (rest.map fun v => v.category).sum ≤ 8) (hz0 : cells ≤ R.cells ∧ slots ≤ R.slots) (h : (f_J15_checkForComodification hk gi gr a0).bind ff = some r) (hdg : decode cc pc = .ok (.invokevirtual idx, 3)) (kk : ∀ q, ff q = some r → ∀ (H' : Heap) (locs' : List Loc), XB D cA ad hk nx A s gi gr H' locs' → W p l e R s m args below meth c H' locs' cells slots Q (F0 m (pc + 3) ls (rest))) : W p l e R s m args below meth c H locs cells slots Q (F0 m pc ls (.ref (ad a0) :: rest)) := by
  obtain ⟨q, h1, h2⟩ := g_ob h
  refine xx_cVV (As := []) (rest := rest) (n := 0) xc_13 ht (by decide) C B (fun sz => w_J15_checkForComodification l D cA ad hk nx gi gr a0 ht q h1 sz) hq q1103 q1104 q165 q1105 (by decide +kernel) ⟨hF, hN⟩ rfl hs hw hz0 hdg (fun u H9 locs9 hp B9 => ?_)
  obtain ⟨e1, e2, e3⟩ := hp
  rw [e2] at B9
  rw [e3] at B9
  cases q
  exact kk _ h2 H9 locs9 B9
def f_J15_next (hk : HK) (gi : GI) (gr : GR) (a0 : Nat) : Option (Nat × GI) :=
  (f_J15_checkForComodification hk gi gr a0).bind fun q1 =>
  (gr a0 3).bind fun v2 =>
  (g_is hk v2 22).bind fun _ =>
  if (gi a0 0) < (gi v2 2) then
  ((gr a0 3).bind fun v5 =>
  (g_is hk v5 22).bind fun _ =>
  (gr v5 1).bind fun v8 =>
  (g_is hk v8 4).bind fun _ =>
  if (gi a0 0) < (Int32.ofNat (hk v8).2) then
  ((some (g_pi gi a0 0 ((gi a0 0) + 1))).bind fun gi11 =>
  (some (g_pi gi11 a0 1 (gi a0 0))).bind fun gi12 =>
  (g_ldr gr v8 (hk v8).2 (gi a0 0)).bind fun v13 =>
  some (v13, gi12))
  else
  (none))
  else
  (none)
set_option maxHeartbeats 400000 in
theorem w_J15_next (l : Launch) (D : va_G) (cA : Nat → ClassId) (ad : Nat → Nat) (hk : HK) (nx : Nat) (gi : GI) (gr : GR) (a0 : Nat) (ht : (hk a0).1 = 23) (r : Nat × GI) (h : f_J15_next hk gi gr a0 = some r) (sz : Nat) : Met l yJ15_next (ws_ yJ15_next cJ15_next 3 ((some (.object "java/lang/Object")))) ({ frames := 2, cells := 0, slots := 0, locals := 84 } : Room) (va_Pc [.ref (ad a0)] (XPre D cA ad hk nx gi gr sz)) (va_Qq (fun o u => ∃ v : Option Nat, o = v.map ad ∧ (fun v u => ∃ v9, v = some v9 ∧ (v9, u.1) = r ∧ u.2 = gr) v u) (XPost D cA ad hk nx) (XA ad nx sz)) 0 0 (XA ad nx sz) := by
  refine xx_stR (own := RJ15) (P := (fun v u => ∃ v9, v = some v9 ∧ (v9, u.1) = r ∧ u.2 = gr)) (by decide +kernel) rfl (Nat.le_of_ble_eq_true rfl) (fun p e s m args below meth c R Q A ls C hF hN B hret hL => ?_) sz
  have hx := C.1
  have hb := C.2.1
  have hL : lv_has ls 3 [(0, .ref (ad a0))] := hL
  unfold f_J15_next at h
  refine lv_aload_n hx hb dJ15_next_0 rfl (lv_at hL 0 rfl) ?_
  refine k_J15_checkForComodification ht C B q1102 (Nat.le_trans (Nat.le_of_ble_eq_true rfl) hF) (Nat.le_trans (Nat.le_of_ble_eq_true rfl) hN) hL.1 (Nat.le_of_ble_eq_true rfl) ⟨Nat.zero_le _, Nat.zero_le _⟩ h dJ15_next_1 (fun q1 h H locs B => ?_)
  refine lv_aload_n hx hb dJ15_next_4 rfl (lv_at hL 0 rfl) ?_
  refine xx_gi (ci := 13) (k := 0) C B xc_13 ht (by decide) (Nat.le_of_ble_eq_true rfl) rfl q1070 (fun _ h => h) dJ15_next_5 ?_
  refine lv_istore_n (lv' := [(1, .int (gi a0 0)), (0, .ref (ad a0))]) hx hb dJ15_next_8 rfl hL (by decide) rfl (fun ls hL => ?_)
  refine lv_iload_n hx hb dJ15_next_9 rfl (lv_at hL 0 rfl) ?_
  refine lv_aload_n hx hb dJ15_next_10 rfl (lv_at hL 1 rfl) ?_
  refine xx_gr (ci := 13) (k := 3) C B xc_13 ht (by decide) (Nat.le_of_ble_eq_true rfl) rfl q1073 (fun _ h => h) h dJ15_next_11 (fun v2 ok3 h => ?_)
  refine xx_is h (fun hp4 h => ?_)
  refine xx_giN (ci := 12) (k := 2) C B xc_12 hp4 (by decide) (Nat.le_of_ble_eq_true rfl) rfl nw_q205 (fun _ h => h) dJ15_next_14 ?_
  refine gg_icmp_lt hx hb 28 h dJ15_next_17 (by decide) (fun h => ?_) (fun h => ?_)
  · refine lv_aload_n hx hb dJ15_next_28 rfl (lv_at hL 1 rfl) ?_
    refine xx_gr (ci := 13) (k := 3) C B xc_13 ht (by decide) (Nat.le_of_ble_eq_true rfl) rfl q1073 (fun _ h => h) h dJ15_next_29 (fun v5 ok6 h => ?_)
    refine xx_is h (fun hp7 h => ?_)
    refine xx_gr (ci := 12) (k := 1) C B xc_12 hp7 (by decide) (Nat.le_of_ble_eq_true rfl) rfl q204 (fun _ h => h) h dJ15_next_32 (fun v8 ok9 h => ?_)
    refine lv_astore_n (lv' := [(2, .ref (ad v8)), (1, .int (gi a0 0)), (0, .ref (ad a0))]) hx hb dJ15_next_35 rfl hL (by decide) rfl (fun ls hL => ?_)
    refine lv_iload_n hx hb dJ15_next_36 rfl (lv_at hL 1 rfl) ?_
    refine lv_aload_n hx hb dJ15_next_37 rfl (lv_at hL 0 rfl) ?_
    refine xx_is h (fun hp10 h => ?_)
    refine xx_alen C B hp10 (by decide) dJ15_next_38 ?_
    refine gg_icmp_lt hx hb 50 h dJ15_next_39 (by decide) (fun h => ?_) (fun h => ?_)
    · refine lv_aload_n hx hb dJ15_next_50 rfl (lv_at hL 2 rfl) ?_
      refine lv_iload_n hx hb dJ15_next_51 rfl (lv_at hL 1 rfl) ?_
      refine lv_iconst (v := 1) hx hb dJ15_next_52 (by decide) ?_
      refine lv_iadd hx hb dJ15_next_53 ?_
      refine xx_pi (ci := 13) (k := 0) C B xc_13 ht (by decide) (Nat.le_of_ble_eq_true rfl) rfl q1070 (fun _ h => h) rfl rfl rfl h dJ15_next_54 (fun gi11 h H locs B => ?_)
      refine lv_aload_n hx hb dJ15_next_57 rfl (lv_at hL 0 rfl) ?_
      refine lv_aload_n hx hb dJ15_next_58 rfl (lv_at hL 2 rfl) ?_
      refine lv_iload_n hx hb dJ15_next_59 rfl (lv_at hL 1 rfl) ?_
      refine lv_dup_x1 hx hb dJ15_next_60 rfl rfl ?_
      refine xx_pi (ci := 13) (k := 1) C B xc_13 ht (by decide) (Nat.le_of_ble_eq_true rfl) rfl q1071 (fun _ h => h) rfl rfl rfl h dJ15_next_61 (fun gi12 h H locs B => ?_)
      refine xx_aald C B hp10 (by decide) rfl h dJ15_next_64 (fun v13 ok14 h => ?_)
      exact hret (some v13) _ _ _ _ _ _ ⟨_, rfl, Option.some.inj h, rfl⟩ B dJ15_next_65
    · cases h
  · cases h
def f_J2_size (hk : HK) (gi : GI) (gr : GR) (a0 : Nat) : Option (Int32) :=
  some (gi a0 2)
set_option maxHeartbeats 400000 in
theorem w_J2_size (l : Launch) (D : va_G) (cA : Nat → ClassId) (ad : Nat → Nat) (hk : HK) (nx : Nat) (gi : GI) (gr : GR) (a0 : Nat) (ht : (hk a0).1 = 22) (r : Int32) (h : f_J2_size hk gi gr a0 = some r) (sz : Nat) : Met l yJ2_size (ws_ yJ2_size cJ2_size 1 (some .int)) ({ frames := 1, cells := 0, slots := 0, locals := 64 } : Room) (va_Pc [.ref (ad a0)] (XPre D cA ad hk nx gi gr sz)) (va_Qi (fun v u => v = r ∧ u.1 = gi ∧ u.2 = gr) (XPost D cA ad hk nx) (XA ad nx sz)) 0 0 (XA ad nx sz) := by
  refine xx_stI (own := RJ2) (P := (fun v u => v = r ∧ u.1 = gi ∧ u.2 = gr)) (by decide +kernel) rfl (Nat.le_of_ble_eq_true rfl) (fun p e s m args below meth c R Q A ls C hF hN B hret hL => ?_) sz
  have hx := C.1
  have hb := C.2.1
  have hL : lv_has ls 1 [(0, .ref (ad a0))] := hL
  unfold f_J2_size at h
  refine lv_aload_n hx hb dJ2_size_0 rfl (lv_at hL 0 rfl) ?_
  refine xx_gi (ci := 12) (k := 2) C B xc_12 ht (by decide) (Nat.le_of_ble_eq_true rfl) rfl q206 (fun _ h => h) dJ2_size_1 ?_
  exact hret _ _ _ _ _ _ _ ⟨Option.some.inj h, rfl, rfl⟩ B dJ2_size_4
theorem k_J2_size {p : Program} {l : Launch} {e : Env} {R : Room} {s : State} {m : MethodId} {args : Array Value} {below : List Frame} {meth : Method} {c : Code} {H : Heap} {locs : List Loc} {Q : State → Prop} {pc : Nat} {ls : Array Slot} {rest : List Value} {cc : ByteArray} {nL cells slots : Nat} {D : va_G} {cA : Nat → ClassId} {ad : Nat → Nat} {hk : HK} {nx : Nat} {A : Nat → Prop} {gi : GI} {gr : GR} {α : Type} {r : α} {own : String} {idx : Nat} {a0 : Nat} {ff : Int32 → Option α} (ht : (hk a0).1 = 22) (C : CallFix p m c cc nL s args lw_all own) (B : XB D cA ad hk nx A s gi gr H locs) (hq : Cond.methodLink own idx yJ2_size ∈ lw_all) (hF : 2 ≤ R.frames) (hN : 84 ≤ R.locals) (hs : ls.size = nL) (hw : (rest.map fun v => v.category).sum ≤ 8) (hz0 : cells ≤ R.cells ∧ slots ≤ R.slots) (h : (f_J2_size hk gi gr a0).bind ff = some r) (hdg : decode cc pc = .ok (.invokevirtual idx, 3)) (kk : ∀ q, ff q = some r → ∀ (H' : Heap) (locs' : List Loc), XB D cA ad hk nx A s gi gr H' locs' → W p l e R s m args below meth c H' locs' cells slots Q (F0 m (pc + 3) ls (.int q :: rest))) : W p l e R s m args below meth c H locs cells slots Q (F0 m pc ls (.ref (ad a0) :: rest)) := by
  obtain ⟨q, h1, h2⟩ := g_ob h
  refine xx_cVI (As := []) (rest := rest) (n := 0) xc_12 ht (by decide) C B (fun sz => w_J2_size l D cA ad hk nx gi gr a0 ht q h1 sz) hq q334 q335 q145 q336 (by decide +kernel) ⟨hF, hN⟩ rfl hs hw hz0 hdg (fun v u H9 locs9 hp B9 => ?_)
  obtain ⟨e1, e2, e3⟩ := hp
  rw [e2] at B9
  rw [e3] at B9
  subst e1
  exact kk _ h2 H9 locs9 B9
def f_J2_elementData (hk : HK) (gi : GI) (gr : GR) (a0 : Nat) (x1 : Int32) : Option (Nat) :=
  (gr a0 1).bind fun v1 =>
  (g_is hk v1 4).bind fun _ =>
  (g_ldr gr v1 (hk v1).2 x1).bind fun v4 =>
  some v4
set_option maxHeartbeats 400000 in
theorem w_J2_elementData (l : Launch) (D : va_G) (cA : Nat → ClassId) (ad : Nat → Nat) (hk : HK) (nx : Nat) (gi : GI) (gr : GR) (a0 : Nat) (x1 : Int32) (ht : (hk a0).1 = 22) (r : Nat) (h : f_J2_elementData hk gi gr a0 x1 = some r) (sz : Nat) : Met l yJ2_elementData (ws_ yJ2_elementData cJ2_elementData 2 ((some (.object "java/lang/Object")))) ({ frames := 1, cells := 0, slots := 0, locals := 64 } : Room) (va_Pc [.ref (ad a0), .int x1] (XPre D cA ad hk nx gi gr sz)) (va_Qq (fun o u => ∃ v : Option Nat, o = v.map ad ∧ (fun v u => ∃ v9, v = some v9 ∧ v9 = r ∧ u.1 = gi ∧ u.2 = gr) v u) (XPost D cA ad hk nx) (XA ad nx sz)) 0 0 (XA ad nx sz) := by
  refine xx_stR (own := RJ2) (P := (fun v u => ∃ v9, v = some v9 ∧ v9 = r ∧ u.1 = gi ∧ u.2 = gr)) (by decide +kernel) rfl (Nat.le_of_ble_eq_true rfl) (fun p e s m args below meth c R Q A ls C hF hN B hret hL => ?_) sz
  have hx := C.1
  have hb := C.2.1
  have hL : lv_has ls 2 [(0, .ref (ad a0)), (1, .int x1)] := hL
  unfold f_J2_elementData at h
  refine lv_aload_n hx hb dJ2_elementData_0 rfl (lv_at hL 0 rfl) ?_
  refine xx_gr (ci := 12) (k := 1) C B xc_12 ht (by decide) (Nat.le_of_ble_eq_true rfl) rfl q203 (fun _ h => h) h dJ2_elementData_1 (fun v1 ok2 h => ?_)
  refine lv_iload_n hx hb dJ2_elementData_4 rfl (lv_at hL 1 rfl) ?_
  refine xx_is h (fun hp3 h => ?_)
  refine xx_aald C B hp3 (by decide) rfl h dJ2_elementData_5 (fun v4 ok5 h => ?_)
  exact hret (some v4) _ _ _ _ _ _ ⟨_, rfl, Option.some.inj h, rfl, rfl⟩ B dJ2_elementData_6
theorem k_J2_elementData {p : Program} {l : Launch} {e : Env} {R : Room} {s : State} {m : MethodId} {args : Array Value} {below : List Frame} {meth : Method} {c : Code} {H : Heap} {locs : List Loc} {Q : State → Prop} {pc : Nat} {ls : Array Slot} {rest : List Value} {cc : ByteArray} {nL cells slots : Nat} {D : va_G} {cA : Nat → ClassId} {ad : Nat → Nat} {hk : HK} {nx : Nat} {A : Nat → Prop} {gi : GI} {gr : GR} {α : Type} {r : α} {own : String} {idx : Nat} {a0 : Nat} {x1 : Int32} {ff : Nat → Option α} (ht : (hk a0).1 = 22) (C : CallFix p m c cc nL s args lw_all own) (B : XB D cA ad hk nx A s gi gr H locs) (hq : Cond.methodLink own idx yJ2_elementData ∈ lw_all) (hF : 2 ≤ R.frames) (hN : 85 ≤ R.locals) (hs : ls.size = nL) (hw : (rest.map fun v => v.category).sum ≤ 8) (hz0 : cells ≤ R.cells ∧ slots ≤ R.slots) (h : (f_J2_elementData hk gi gr a0 x1).bind ff = some r) (hdg : decode cc pc = .ok (.invokevirtual idx, 3)) (kk : ∀ q, ff q = some r → ∀ (H' : Heap) (locs' : List Loc), XB D cA ad hk nx A s gi gr H' locs' → W p l e R s m args below meth c H' locs' cells slots Q (F0 m (pc + 3) ls (.ref (ad q) :: rest))) : W p l e R s m args below meth c H locs cells slots Q (F0 m pc ls (.int x1 :: .ref (ad a0) :: rest)) := by
  obtain ⟨q, h1, h2⟩ := g_ob h
  refine xx_cVR (As := [.int x1]) (rest := rest) (n := 1) xc_12 ht (by decide) C B (fun sz => w_J2_elementData l D cA ad hk nx gi gr a0 x1 ht q h1 sz) hq q348 q349 q145 q350 (by decide +kernel) ⟨hF, hN⟩ rfl hs hw hz0 hdg (fun v u H9 locs9 hp B9 => ?_)
  obtain ⟨v9, e0, e1, e2, e3⟩ := hp
  subst e0
  rw [e2] at B9
  rw [e3] at B9
  subst e1
  exact kk _ h2 H9 locs9 B9
def f_J4_checkIndex_j9 (hk : HK) (gij9 : GI) (grj9 : GR) (x0j9 : Int32) (x1j9 : Int32) (o2j9 : Option Nat) : Option (Int32) :=
  none
def f_J4_checkIndex (hk : HK) (gi : GI) (gr : GR) (x0 : Int32) (x1 : Int32) : Option (Int32) :=
  if x0 < 0 then
  (f_J4_checkIndex_j9 hk gi gr x0 x1 ((none : Option Nat)))
  else
  (if x0 < x1 then
  (some x0)
  else
  (f_J4_checkIndex_j9 hk gi gr x0 x1 ((none : Option Nat))))
set_option maxHeartbeats 400000 in
theorem w_J4_checkIndex (l : Launch) (D : va_G) (cA : Nat → ClassId) (ad : Nat → Nat) (hk : HK) (nx : Nat) (gi : GI) (gr : GR) (x0 : Int32) (x1 : Int32) (r : Int32) (h : f_J4_checkIndex hk gi gr x0 x1 = some r) (sz : Nat) : Met l yJ4_checkIndex (ws_ yJ4_checkIndex cJ4_checkIndex 3 (some .int)) ({ frames := 1, cells := 0, slots := 0, locals := 64 } : Room) (va_Pc [.int x0, .int x1, .null] (XPre D cA ad hk nx gi gr sz)) (va_Qi (fun v u => v = r ∧ u.1 = gi ∧ u.2 = gr) (XPost D cA ad hk nx) (XA ad nx sz)) 0 0 (XA ad nx sz) := by
  refine xx_stI (own := RJ4) (P := (fun v u => v = r ∧ u.1 = gi ∧ u.2 = gr)) (by decide +kernel) rfl (Nat.le_of_ble_eq_true rfl) (fun p e s m args below meth c R Q A ls C hF hN B hret hL => ?_) sz
  have hx := C.1
  have hb := C.2.1
  have hL : lv_has ls 3 [(0, .int x0), (1, .int x1), (2, .null)] := hL
  unfold f_J4_checkIndex at h
  have hj9 : ∀  (H : Heap) (locs : List Loc) (ls : Array Slot), f_J4_checkIndex_j9 hk gi gr x0 x1 ((none : Option Nat)) = some r → XB D cA ad hk nx A s gi gr H locs → lv_has ls 3 [(0, .int x0), (1, .int x1), (2, va_rf (((none : Option Nat)).map ad))] → W p l e R s m args below meth c H locs 0 0 Q (F0 m 9 ls []) := by
    intro  H locs ls h B hL
    unfold f_J4_checkIndex_j9 at h
    cases h
  refine lv_iload_n hx hb dJ4_checkIndex_0 rfl (lv_at hL 0 rfl) ?_
  refine gg_if_lt hx hb 9 h dJ4_checkIndex_1 (by decide) (fun h => ?_) (fun h => ?_)
  · exact hj9  _ _ _ h B (lv_sub hL [0, 1, 2] rfl)
  · refine lv_iload_n hx hb dJ4_checkIndex_4 rfl (lv_at hL 0 rfl) ?_
    refine lv_iload_n hx hb dJ4_checkIndex_5 rfl (lv_at hL 1 rfl) ?_
    refine gg_icmp_lt hx hb 16 h dJ4_checkIndex_6 (by decide) (fun h => ?_) (fun h => ?_)
    · refine lv_iload_n hx hb dJ4_checkIndex_16 rfl (lv_at hL 0 rfl) ?_
      exact hret _ _ _ _ _ _ _ ⟨Option.some.inj h, rfl, rfl⟩ B dJ4_checkIndex_17
    · exact hj9  _ _ _ h B (lv_sub hL [0, 1, 2] rfl)
theorem k_J4_checkIndex {p : Program} {l : Launch} {e : Env} {R : Room} {s : State} {m : MethodId} {args : Array Value} {below : List Frame} {meth : Method} {c : Code} {H : Heap} {locs : List Loc} {Q : State → Prop} {pc : Nat} {ls : Array Slot} {rest : List Value} {cc : ByteArray} {nL cells slots : Nat} {D : va_G} {cA : Nat → ClassId} {ad : Nat → Nat} {hk : HK} {nx : Nat} {A : Nat → Prop} {gi : GI} {gr : GR} {α : Type} {r : α} {own : String} {idx : Nat} {x0 : Int32} {x1 : Int32} {ff : Int32 → Option α} (C : CallFix p m c cc nL s args lw_all own) (B : XB D cA ad hk nx A s gi gr H locs) (hq : Cond.methodLink own idx yJ4_checkIndex ∈ lw_all) (hF : 2 ≤ R.frames) (hN : 86 ≤ R.locals) (hs : ls.size = nL) (hw : (rest.map fun v => v.category).sum ≤ 8) (hz0 : cells ≤ R.cells ∧ slots ≤ R.slots) (h : (f_J4_checkIndex hk gi gr x0 x1).bind ff = some r) (hdg : decode cc pc = .ok (.invokestatic idx, 3)) (kk : ∀ q, ff q = some r → ∀ (H' : Heap) (locs' : List Loc), XB D cA ad hk nx A s gi gr H' locs' → W p l e R s m args below meth c H' locs' cells slots Q (F0 m (pc + 3) ls (.int q :: rest))) : W p l e R s m args below meth c H locs cells slots Q (F0 m pc ls (.null :: .int x1 :: .int x0 :: rest)) := by
  obtain ⟨q, h1, h2⟩ := g_ob h
  refine xx_cSI (As := [.int x0, .int x1, .null]) (rest := rest) (n := 3) C B (fun sz => w_J4_checkIndex l D cA ad hk nx gi gr x0 x1 q h1 sz) hq q345 q149 q346 (by decide +kernel) ⟨hF, hN⟩ rfl hs hw hz0 hdg (fun v u H9 locs9 hp B9 => ?_)
  obtain ⟨e1, e2, e3⟩ := hp
  rw [e2] at B9
  rw [e3] at B9
  subst e1
  exact kk _ h2 H9 locs9 B9
def f_J3_checkIndex (hk : HK) (gi : GI) (gr : GR) (x0 : Int32) (x1 : Int32) : Option (Int32) :=
  (f_J4_checkIndex hk gi gr x0 x1).bind fun q1 =>
  some q1
set_option maxHeartbeats 400000 in
theorem w_J3_checkIndex (l : Launch) (D : va_G) (cA : Nat → ClassId) (ad : Nat → Nat) (hk : HK) (nx : Nat) (gi : GI) (gr : GR) (x0 : Int32) (x1 : Int32) (r : Int32) (h : f_J3_checkIndex hk gi gr x0 x1 = some r) (sz : Nat) : Met l yJ3_checkIndex (ws_ yJ3_checkIndex cJ3_checkIndex 2 (some .int)) ({ frames := 2, cells := 0, slots := 0, locals := 86 } : Room) (va_Pc [.int x0, .int x1] (XPre D cA ad hk nx gi gr sz)) (va_Qi (fun v u => v = r ∧ u.1 = gi ∧ u.2 = gr) (XPost D cA ad hk nx) (XA ad nx sz)) 0 0 (XA ad nx sz) := by
  refine xx_stI (own := RJ3) (P := (fun v u => v = r ∧ u.1 = gi ∧ u.2 = gr)) (by decide +kernel) rfl (Nat.le_of_ble_eq_true rfl) (fun p e s m args below meth c R Q A ls C hF hN B hret hL => ?_) sz
  have hx := C.1
  have hb := C.2.1
  have hL : lv_has ls 2 [(0, .int x0), (1, .int x1)] := hL
  unfold f_J3_checkIndex at h
  refine lv_iload_n hx hb dJ3_checkIndex_0 rfl (lv_at hL 0 rfl) ?_
  refine lv_iload_n hx hb dJ3_checkIndex_1 rfl (lv_at hL 1 rfl) ?_
  refine lv_null hx hb dJ3_checkIndex_2 ?_
  refine k_J4_checkIndex C B q344 (Nat.le_trans (Nat.le_of_ble_eq_true rfl) hF) (Nat.le_trans (Nat.le_of_ble_eq_true rfl) hN) hL.1 (Nat.le_of_ble_eq_true rfl) ⟨Nat.zero_le _, Nat.zero_le _⟩ h dJ3_checkIndex_3 (fun q1 h H locs B => ?_)
  exact hret _ _ _ _ _ _ _ ⟨Option.some.inj h, rfl, rfl⟩ B dJ3_checkIndex_6
theorem k_J3_checkIndex {p : Program} {l : Launch} {e : Env} {R : Room} {s : State} {m : MethodId} {args : Array Value} {below : List Frame} {meth : Method} {c : Code} {H : Heap} {locs : List Loc} {Q : State → Prop} {pc : Nat} {ls : Array Slot} {rest : List Value} {cc : ByteArray} {nL cells slots : Nat} {D : va_G} {cA : Nat → ClassId} {ad : Nat → Nat} {hk : HK} {nx : Nat} {A : Nat → Prop} {gi : GI} {gr : GR} {α : Type} {r : α} {own : String} {idx : Nat} {x0 : Int32} {x1 : Int32} {ff : Int32 → Option α} (C : CallFix p m c cc nL s args lw_all own) (B : XB D cA ad hk nx A s gi gr H locs) (hq : Cond.methodLink own idx yJ3_checkIndex ∈ lw_all) (hF : 3 ≤ R.frames) (hN : 107 ≤ R.locals) (hs : ls.size = nL) (hw : (rest.map fun v => v.category).sum ≤ 8) (hz0 : cells ≤ R.cells ∧ slots ≤ R.slots) (h : (f_J3_checkIndex hk gi gr x0 x1).bind ff = some r) (hdg : decode cc pc = .ok (.invokestatic idx, 3)) (kk : ∀ q, ff q = some r → ∀ (H' : Heap) (locs' : List Loc), XB D cA ad hk nx A s gi gr H' locs' → W p l e R s m args below meth c H' locs' cells slots Q (F0 m (pc + 3) ls (.int q :: rest))) : W p l e R s m args below meth c H locs cells slots Q (F0 m pc ls (.int x1 :: .int x0 :: rest)) := by
  obtain ⟨q, h1, h2⟩ := g_ob h
  refine xx_cSI (As := [.int x0, .int x1]) (rest := rest) (n := 2) C B (fun sz => w_J3_checkIndex l D cA ad hk nx gi gr x0 x1 q h1 sz) hq q342 q148 q343 (by decide +kernel) ⟨hF, hN⟩ rfl hs hw hz0 hdg (fun v u H9 locs9 hp B9 => ?_)
  obtain ⟨e1, e2, e3⟩ := hp
  rw [e2] at B9
  rw [e3] at B9
  subst e1
  exact kk _ h2 H9 locs9 B9
def f_J2_get (hk : HK) (gi : GI) (gr : GR) (a0 : Nat) (x1 : Int32) : Option (Nat) :=
  (f_J3_checkIndex hk gi gr x1 (gi a0 2)).bind fun q1 =>
  (f_J2_elementData hk gi gr a0 x1).bind fun q2 =>
  some q2
set_option maxHeartbeats 400000 in
theorem w_J2_get (l : Launch) (D : va_G) (cA : Nat → ClassId) (ad : Nat → Nat) (hk : HK) (nx : Nat) (gi : GI) (gr : GR) (a0 : Nat) (x1 : Int32) (ht : (hk a0).1 = 22) (r : Nat) (h : f_J2_get hk gi gr a0 x1 = some r) (sz : Nat) : Met l yJ2_get (ws_ yJ2_get cJ2_get 2 ((some (.object "java/lang/Object")))) ({ frames := 3, cells := 0, slots := 0, locals := 107 } : Room) (va_Pc [.ref (ad a0), .int x1] (XPre D cA ad hk nx gi gr sz)) (va_Qq (fun o u => ∃ v : Option Nat, o = v.map ad ∧ (fun v u => ∃ v9, v = some v9 ∧ v9 = r ∧ u.1 = gi ∧ u.2 = gr) v u) (XPost D cA ad hk nx) (XA ad nx sz)) 0 0 (XA ad nx sz) := by
  refine xx_stR (own := RJ2) (P := (fun v u => ∃ v9, v = some v9 ∧ v9 = r ∧ u.1 = gi ∧ u.2 = gr)) (by decide +kernel) rfl (Nat.le_of_ble_eq_true rfl) (fun p e s m args below meth c R Q A ls C hF hN B hret hL => ?_) sz
  have hx := C.1
  have hb := C.2.1
  have hL : lv_has ls 2 [(0, .ref (ad a0)), (1, .int x1)] := hL
  unfold f_J2_get at h
  refine lv_iload_n hx hb dJ2_get_0 rfl (lv_at hL 1 rfl) ?_
  refine lv_aload_n hx hb dJ2_get_1 rfl (lv_at hL 0 rfl) ?_
  refine xx_gi (ci := 12) (k := 2) C B xc_12 ht (by decide) (Nat.le_of_ble_eq_true rfl) rfl q206 (fun _ h => h) dJ2_get_2 ?_
  refine k_J3_checkIndex C B q341 (Nat.le_trans (Nat.le_of_ble_eq_true rfl) hF) (Nat.le_trans (Nat.le_of_ble_eq_true rfl) hN) hL.1 (Nat.le_of_ble_eq_true rfl) ⟨Nat.zero_le _, Nat.zero_le _⟩ h dJ2_get_5 (fun q1 h H locs B => ?_)
  refine lv_pop hx hb dJ2_get_8 rfl ?_
  refine lv_aload_n hx hb dJ2_get_9 rfl (lv_at hL 0 rfl) ?_
  refine lv_iload_n hx hb dJ2_get_10 rfl (lv_at hL 1 rfl) ?_
  refine k_J2_elementData ht C B q347 (Nat.le_trans (Nat.le_of_ble_eq_true rfl) hF) (Nat.le_trans (Nat.le_of_ble_eq_true rfl) hN) hL.1 (Nat.le_of_ble_eq_true rfl) ⟨Nat.zero_le _, Nat.zero_le _⟩ h dJ2_get_11 (fun q2 h H locs B => ?_)
  exact hret (some q2) _ _ _ _ _ _ ⟨_, rfl, Option.some.inj h, rfl, rfl⟩ B dJ2_get_14
theorem k_J2_get {p : Program} {l : Launch} {e : Env} {R : Room} {s : State} {m : MethodId} {args : Array Value} {below : List Frame} {meth : Method} {c : Code} {H : Heap} {locs : List Loc} {Q : State → Prop} {pc : Nat} {ls : Array Slot} {rest : List Value} {cc : ByteArray} {nL cells slots : Nat} {D : va_G} {cA : Nat → ClassId} {ad : Nat → Nat} {hk : HK} {nx : Nat} {A : Nat → Prop} {gi : GI} {gr : GR} {α : Type} {r : α} {own : String} {idx : Nat} {a0 : Nat} {x1 : Int32} {ff : Nat → Option α} (ht : (hk a0).1 = 22) (C : CallFix p m c cc nL s args lw_all own) (B : XB D cA ad hk nx A s gi gr H locs) (hq : Cond.methodLink own idx yJ2_get ∈ lw_all) (hF : 4 ≤ R.frames) (hN : 128 ≤ R.locals) (hs : ls.size = nL) (hw : (rest.map fun v => v.category).sum ≤ 8) (hz0 : cells ≤ R.cells ∧ slots ≤ R.slots) (h : (f_J2_get hk gi gr a0 x1).bind ff = some r) (hdg : decode cc pc = .ok (.invokevirtual idx, 3)) (kk : ∀ q, ff q = some r → ∀ (H' : Heap) (locs' : List Loc), XB D cA ad hk nx A s gi gr H' locs' → W p l e R s m args below meth c H' locs' cells slots Q (F0 m (pc + 3) ls (.ref (ad q) :: rest))) : W p l e R s m args below meth c H locs cells slots Q (F0 m pc ls (.int x1 :: .ref (ad a0) :: rest)) := by
  obtain ⟨q, h1, h2⟩ := g_ob h
  refine xx_cVR (As := [.int x1]) (rest := rest) (n := 1) xc_12 ht (by decide) C B (fun sz => w_J2_get l D cA ad hk nx gi gr a0 x1 ht q h1 sz) hq q338 q339 q145 q340 (by decide +kernel) ⟨hF, hN⟩ rfl hs hw hz0 hdg (fun v u H9 locs9 hp B9 => ?_)
  obtain ⟨v9, e0, e1, e2, e3⟩ := hp
  subst e0
  rw [e2] at B9
  rw [e3] at B9
  subst e1
  exact kk _ h2 H9 locs9 B9
def f_J2_isEmpty (hk : HK) (gi : GI) (gr : GR) (a0 : Nat) : Option (Int32) :=
  if (gi a0 2) = 0 then
  (some 1)
  else
  (some 0)
set_option maxHeartbeats 400000 in
theorem w_J2_isEmpty (l : Launch) (D : va_G) (cA : Nat → ClassId) (ad : Nat → Nat) (hk : HK) (nx : Nat) (gi : GI) (gr : GR) (a0 : Nat) (ht : (hk a0).1 = 22) (r : Int32) (h : f_J2_isEmpty hk gi gr a0 = some r) (sz : Nat) : Met l yJ2_isEmpty (ws_ yJ2_isEmpty cJ2_isEmpty 1 (some .boolean)) ({ frames := 1, cells := 0, slots := 0, locals := 64 } : Room) (va_Pc [.ref (ad a0)] (XPre D cA ad hk nx gi gr sz)) (va_Qi (fun v u => v = r ∧ u.1 = gi ∧ u.2 = gr) (XPost D cA ad hk nx) (XA ad nx sz)) 0 0 (XA ad nx sz) := by
  refine xx_stZ (own := RJ2) (P := (fun v u => v = r ∧ u.1 = gi ∧ u.2 = gr)) (by decide +kernel) rfl (Nat.le_of_ble_eq_true rfl) (fun p e s m args below meth c R Q A ls C hF hN B hret hL => ?_) sz
  have hx := C.1
  have hb := C.2.1
  have hL : lv_has ls 1 [(0, .ref (ad a0))] := hL
  unfold f_J2_isEmpty at h
  refine lv_aload_n hx hb dJ2_isEmpty_0 rfl (lv_at hL 0 rfl) ?_
  refine xx_gi (ci := 12) (k := 2) C B xc_12 ht (by decide) (Nat.le_of_ble_eq_true rfl) rfl q206 (fun _ h => h) dJ2_isEmpty_1 ?_
  refine gg_if_ne hx hb 11 h dJ2_isEmpty_4 (by decide) (fun h => ?_) (fun h => ?_)
  · refine lv_iconst (v := 0) hx hb dJ2_isEmpty_11 (by decide) ?_
    exact hret _ _ _ _ _ _ _ ⟨Option.some.inj h, rfl, rfl⟩ (Or.inl rfl) B dJ2_isEmpty_12
  · refine lv_iconst (v := 1) hx hb dJ2_isEmpty_7 (by decide) ?_
    refine lv_goto (tgt := 12) hx hb dJ2_isEmpty_8 (by decide) ?_
    exact hret _ _ _ _ _ _ _ ⟨Option.some.inj h, rfl, rfl⟩ (Or.inr rfl) B dJ2_isEmpty_12
theorem k_J2_isEmpty {p : Program} {l : Launch} {e : Env} {R : Room} {s : State} {m : MethodId} {args : Array Value} {below : List Frame} {meth : Method} {c : Code} {H : Heap} {locs : List Loc} {Q : State → Prop} {pc : Nat} {ls : Array Slot} {rest : List Value} {cc : ByteArray} {nL cells slots : Nat} {D : va_G} {cA : Nat → ClassId} {ad : Nat → Nat} {hk : HK} {nx : Nat} {A : Nat → Prop} {gi : GI} {gr : GR} {α : Type} {r : α} {own : String} {idx : Nat} {a0 : Nat} {ff : Int32 → Option α} (ht : (hk a0).1 = 22) (C : CallFix p m c cc nL s args lw_all own) (B : XB D cA ad hk nx A s gi gr H locs) (hq : Cond.methodLink own idx yJ2_isEmpty ∈ lw_all) (hF : 2 ≤ R.frames) (hN : 84 ≤ R.locals) (hs : ls.size = nL) (hw : (rest.map fun v => v.category).sum ≤ 8) (hz0 : cells ≤ R.cells ∧ slots ≤ R.slots) (h : (f_J2_isEmpty hk gi gr a0).bind ff = some r) (hdg : decode cc pc = .ok (.invokevirtual idx, 3)) (kk : ∀ q, ff q = some r → ∀ (H' : Heap) (locs' : List Loc), XB D cA ad hk nx A s gi gr H' locs' → W p l e R s m args below meth c H' locs' cells slots Q (F0 m (pc + 3) ls (.int q :: rest))) : W p l e R s m args below meth c H locs cells slots Q (F0 m pc ls (.ref (ad a0) :: rest)) := by
  obtain ⟨q, h1, h2⟩ := g_ob h
  refine xx_cVI (As := []) (rest := rest) (n := 0) xc_12 ht (by decide) C B (fun sz => w_J2_isEmpty l D cA ad hk nx gi gr a0 ht q h1 sz) hq q1429 q1430 q145 q1431 (by decide +kernel) ⟨hF, hN⟩ rfl hs hw hz0 hdg (fun v u H9 locs9 hp B9 => ?_)
  obtain ⟨e1, e2, e3⟩ := hp
  rw [e2] at B9
  rw [e3] at B9
  subst e1
  exact kk _ h2 H9 locs9 B9
def f_J4_checkFromIndexSize_j15 (hk : HK) (gij15 : GI) (grj15 : GR) (x0j15 : Int32) (x1j15 : Int32) (x2j15 : Int32) (o3j15 : Option Nat) : Option (Int32) :=
  none
def f_J4_checkFromIndexSize (hk : HK) (gi : GI) (gr : GR) (x0 : Int32) (x1 : Int32) (x2 : Int32) : Option (Int32) :=
  if ((x2 ||| x0) ||| x1) < 0 then
  (f_J4_checkFromIndexSize_j15 hk gi gr x0 x1 x2 ((none : Option Nat)))
  else
  (if x1 ≤ (x2 - x0) then
  (some x0)
  else
  (f_J4_checkFromIndexSize_j15 hk gi gr x0 x1 x2 ((none : Option Nat))))
set_option maxHeartbeats 400000 in
theorem w_J4_checkFromIndexSize (l : Launch) (D : va_G) (cA : Nat → ClassId) (ad : Nat → Nat) (hk : HK) (nx : Nat) (gi : GI) (gr : GR) (x0 : Int32) (x1 : Int32) (x2 : Int32) (r : Int32) (h : f_J4_checkFromIndexSize hk gi gr x0 x1 x2 = some r) (sz : Nat) : Met l yJ4_checkFromIndexSize (ws_ yJ4_checkFromIndexSize cJ4_checkFromIndexSize 4 (some .int)) ({ frames := 1, cells := 0, slots := 0, locals := 64 } : Room) (va_Pc [.int x0, .int x1, .int x2, .null] (XPre D cA ad hk nx gi gr sz)) (va_Qi (fun v u => v = r ∧ u.1 = gi ∧ u.2 = gr) (XPost D cA ad hk nx) (XA ad nx sz)) 0 0 (XA ad nx sz) := by
  refine xx_stI (own := RJ4) (P := (fun v u => v = r ∧ u.1 = gi ∧ u.2 = gr)) (by decide +kernel) rfl (Nat.le_of_ble_eq_true rfl) (fun p e s m args below meth c R Q A ls C hF hN B hret hL => ?_) sz
  have hx := C.1
  have hb := C.2.1
  have hL : lv_has ls 4 [(0, .int x0), (1, .int x1), (2, .int x2), (3, .null)] := hL
  unfold f_J4_checkFromIndexSize at h
  have hj15 : ∀  (H : Heap) (locs : List Loc) (ls : Array Slot), f_J4_checkFromIndexSize_j15 hk gi gr x0 x1 x2 ((none : Option Nat)) = some r → XB D cA ad hk nx A s gi gr H locs → lv_has ls 4 [(0, .int x0), (1, .int x1), (2, .int x2), (3, va_rf (((none : Option Nat)).map ad))] → W p l e R s m args below meth c H locs 0 0 Q (F0 m 15 ls []) := by
    intro  H locs ls h B hL
    unfold f_J4_checkFromIndexSize_j15 at h
    cases h
  refine lv_iload_n hx hb dJ4_checkFromIndexSize_0 rfl (lv_at hL 2 rfl) ?_
  refine lv_iload_n hx hb dJ4_checkFromIndexSize_1 rfl (lv_at hL 0 rfl) ?_
  refine lv_ior hx hb dJ4_checkFromIndexSize_2 ?_
  refine lv_iload_n hx hb dJ4_checkFromIndexSize_3 rfl (lv_at hL 1 rfl) ?_
  refine lv_ior hx hb dJ4_checkFromIndexSize_4 ?_
  refine gg_if_lt hx hb 15 h dJ4_checkFromIndexSize_5 (by decide) (fun h => ?_) (fun h => ?_)
  · exact hj15  _ _ _ h B (lv_sub hL [0, 1, 2, 3] rfl)
  · refine lv_iload_n hx hb dJ4_checkFromIndexSize_8 rfl (lv_at hL 1 rfl) ?_
    refine lv_iload_n hx hb dJ4_checkFromIndexSize_9 rfl (lv_at hL 2 rfl) ?_
    refine lv_iload_n hx hb dJ4_checkFromIndexSize_10 rfl (lv_at hL 0 rfl) ?_
    refine lv_isub hx hb dJ4_checkFromIndexSize_11 ?_
    refine gg_icmp_le hx hb 23 h dJ4_checkFromIndexSize_12 (by decide) (fun h => ?_) (fun h => ?_)
    · refine lv_iload_n hx hb dJ4_checkFromIndexSize_23 rfl (lv_at hL 0 rfl) ?_
      exact hret _ _ _ _ _ _ _ ⟨Option.some.inj h, rfl, rfl⟩ B dJ4_checkFromIndexSize_24
    · exact hj15  _ _ _ h B (lv_sub hL [0, 1, 2, 3] rfl)
theorem k_J4_checkFromIndexSize {p : Program} {l : Launch} {e : Env} {R : Room} {s : State} {m : MethodId} {args : Array Value} {below : List Frame} {meth : Method} {c : Code} {H : Heap} {locs : List Loc} {Q : State → Prop} {pc : Nat} {ls : Array Slot} {rest : List Value} {cc : ByteArray} {nL cells slots : Nat} {D : va_G} {cA : Nat → ClassId} {ad : Nat → Nat} {hk : HK} {nx : Nat} {A : Nat → Prop} {gi : GI} {gr : GR} {α : Type} {r : α} {own : String} {idx : Nat} {x0 : Int32} {x1 : Int32} {x2 : Int32} {ff : Int32 → Option α} (C : CallFix p m c cc nL s args lw_all own) (B : XB D cA ad hk nx A s gi gr H locs) (hq : Cond.methodLink own idx yJ4_checkFromIndexSize ∈ lw_all) (hF : 2 ≤ R.frames) (hN : 87 ≤ R.locals) (hs : ls.size = nL) (hw : (rest.map fun v => v.category).sum ≤ 8) (hz0 : cells ≤ R.cells ∧ slots ≤ R.slots) (h : (f_J4_checkFromIndexSize hk gi gr x0 x1 x2).bind ff = some r) (hdg : decode cc pc = .ok (.invokestatic idx, 3)) (kk : ∀ q, ff q = some r → ∀ (H' : Heap) (locs' : List Loc), XB D cA ad hk nx A s gi gr H' locs' → W p l e R s m args below meth c H' locs' cells slots Q (F0 m (pc + 3) ls (.int q :: rest))) : W p l e R s m args below meth c H locs cells slots Q (F0 m pc ls (.null :: .int x2 :: .int x1 :: .int x0 :: rest)) := by
  obtain ⟨q, h1, h2⟩ := g_ob h
  refine xx_cSI (As := [.int x0, .int x1, .int x2, .null]) (rest := rest) (n := 4) C B (fun sz => w_J4_checkFromIndexSize l D cA ad hk nx gi gr x0 x1 x2 q h1 sz) hq q627 q149 q628 (by decide +kernel) ⟨hF, hN⟩ rfl hs hw hz0 hdg (fun v u H9 locs9 hp B9 => ?_)
  obtain ⟨e1, e2, e3⟩ := hp
  rw [e2] at B9
  rw [e3] at B9
  subst e1
  exact kk _ h2 H9 locs9 B9
def f_J9_hugeLength (hk : HK) (gi : GI) (gr : GR) (x0 : Int32) (x1 : Int32) : Option (Int32) :=
  if 0 ≤ (x0 + x1) then
  (if 2147483639 < (x0 + x1) then
  (some (x0 + x1))
  else
  (some 2147483639))
  else
  (none)
set_option maxHeartbeats 400000 in
theorem w_J9_hugeLength (l : Launch) (D : va_G) (cA : Nat → ClassId) (ad : Nat → Nat) (hk : HK) (nx : Nat) (gi : GI) (gr : GR) (x0 : Int32) (x1 : Int32) (r : Int32) (h : f_J9_hugeLength hk gi gr x0 x1 = some r) (sz : Nat) : Met l yJ9_hugeLength (ws_ yJ9_hugeLength cJ9_hugeLength 3 (some .int)) ({ frames := 1, cells := 0, slots := 0, locals := 64 } : Room) (va_Pc [.int x0, .int x1] (XPre D cA ad hk nx gi gr sz)) (va_Qi (fun v u => v = r ∧ u.1 = gi ∧ u.2 = gr) (XPost D cA ad hk nx) (XA ad nx sz)) 0 0 (XA ad nx sz) := by
  refine xx_stI (own := RJ9) (P := (fun v u => v = r ∧ u.1 = gi ∧ u.2 = gr)) (by decide +kernel) rfl (Nat.le_of_ble_eq_true rfl) (fun p e s m args below meth c R Q A ls C hF hN B hret hL => ?_) sz
  have hx := C.1
  have hb := C.2.1
  have hL : lv_has ls 3 [(0, .int x0), (1, .int x1)] := hL
  unfold f_J9_hugeLength at h
  refine lv_iload_n hx hb dJ9_hugeLength_0 rfl (lv_at hL 0 rfl) ?_
  refine lv_iload_n hx hb dJ9_hugeLength_1 rfl (lv_at hL 1 rfl) ?_
  refine lv_iadd hx hb dJ9_hugeLength_2 ?_
  refine lv_istore_n (lv' := [(2, .int (x0 + x1)), (0, .int x0), (1, .int x1)]) hx hb dJ9_hugeLength_3 rfl hL (by decide) rfl (fun ls hL => ?_)
  refine lv_iload_n hx hb dJ9_hugeLength_4 rfl (lv_at hL 0 rfl) ?_
  refine gg_if_ge hx hb 49 h dJ9_hugeLength_5 (by decide) (fun h => ?_) (fun h => ?_)
  · refine lv_iload_n hx hb dJ9_hugeLength_49 rfl (lv_at hL 0 rfl) ?_
    refine lv_ldc (v := 2147483639) hx hb C.2.2.2.1 (C.2.2.2.2 _ q576) dJ9_hugeLength_50 ?_
    refine gg_icmp_gt hx hb 58 h dJ9_hugeLength_52 (by decide) (fun h => ?_) (fun h => ?_)
    · refine lv_iload_n hx hb dJ9_hugeLength_58 rfl (lv_at hL 0 rfl) ?_
      exact hret _ _ _ _ _ _ _ ⟨Option.some.inj h, rfl, rfl⟩ B dJ9_hugeLength_59
    · refine lv_ldc (v := 2147483639) hx hb C.2.2.2.1 (C.2.2.2.2 _ q576) dJ9_hugeLength_55 ?_
      exact hret _ _ _ _ _ _ _ ⟨Option.some.inj h, rfl, rfl⟩ B dJ9_hugeLength_57
  · cases h
theorem k_J9_hugeLength {p : Program} {l : Launch} {e : Env} {R : Room} {s : State} {m : MethodId} {args : Array Value} {below : List Frame} {meth : Method} {c : Code} {H : Heap} {locs : List Loc} {Q : State → Prop} {pc : Nat} {ls : Array Slot} {rest : List Value} {cc : ByteArray} {nL cells slots : Nat} {D : va_G} {cA : Nat → ClassId} {ad : Nat → Nat} {hk : HK} {nx : Nat} {A : Nat → Prop} {gi : GI} {gr : GR} {α : Type} {r : α} {own : String} {idx : Nat} {x0 : Int32} {x1 : Int32} {ff : Int32 → Option α} (C : CallFix p m c cc nL s args lw_all own) (B : XB D cA ad hk nx A s gi gr H locs) (hq : Cond.methodLink own idx yJ9_hugeLength ∈ lw_all) (hF : 2 ≤ R.frames) (hN : 86 ≤ R.locals) (hs : ls.size = nL) (hw : (rest.map fun v => v.category).sum ≤ 8) (hz0 : cells ≤ R.cells ∧ slots ≤ R.slots) (h : (f_J9_hugeLength hk gi gr x0 x1).bind ff = some r) (hdg : decode cc pc = .ok (.invokestatic idx, 3)) (kk : ∀ q, ff q = some r → ∀ (H' : Heap) (locs' : List Loc), XB D cA ad hk nx A s gi gr H' locs' → W p l e R s m args below meth c H' locs' cells slots Q (F0 m (pc + 3) ls (.int q :: rest))) : W p l e R s m args below meth c H locs cells slots Q (F0 m pc ls (.int x1 :: .int x0 :: rest)) := by
  obtain ⟨q, h1, h2⟩ := g_ob h
  refine xx_cSI (As := [.int x0, .int x1]) (rest := rest) (n := 2) C B (fun sz => w_J9_hugeLength l D cA ad hk nx gi gr x0 x1 q h1 sz) hq q578 q156 q579 (by decide +kernel) ⟨hF, hN⟩ rfl hs hw hz0 hdg (fun v u H9 locs9 hp B9 => ?_)
  obtain ⟨e1, e2, e3⟩ := hp
  rw [e2] at B9
  rw [e3] at B9
  subst e1
  exact kk _ h2 H9 locs9 B9
def f_J9_newLength_j21 (hk : HK) (gij21 : GI) (grj21 : GR) (x0j21 : Int32) (x1j21 : Int32) : Option (Int32) :=
  (f_J9_hugeLength hk gij21 grj21 x0j21 x1j21).bind fun q1 =>
  some q1
def f_J9_newLength (hk : HK) (gi : GI) (gr : GR) (x0 : Int32) (x1 : Int32) (x2 : Int32) : Option (Int32) :=
  if (x0 + (if x1 < x2 then x2 else x1)) ≤ 0 then
  (f_J9_newLength_j21 hk gi gr x0 x1)
  else
  (if 2147483639 < (x0 + (if x1 < x2 then x2 else x1)) then
  (f_J9_newLength_j21 hk gi gr x0 x1)
  else
  (some (x0 + (if x1 < x2 then x2 else x1))))
set_option maxHeartbeats 400000 in
theorem w_J9_newLength (l : Launch) (D : va_G) (cA : Nat → ClassId) (ad : Nat → Nat) (hk : HK) (nx : Nat) (gi : GI) (gr : GR) (x0 : Int32) (x1 : Int32) (x2 : Int32) (r : Int32) (h : f_J9_newLength hk gi gr x0 x1 x2 = some r) (sz : Nat) : Met l yJ9_newLength (ws_ yJ9_newLength cJ9_newLength 4 (some .int)) ({ frames := 2, cells := 0, slots := 0, locals := 86 } : Room) (va_Pc [.int x0, .int x1, .int x2] (XPre D cA ad hk nx gi gr sz)) (va_Qi (fun v u => v = r ∧ u.1 = gi ∧ u.2 = gr) (XPost D cA ad hk nx) (XA ad nx sz)) 0 0 (XA ad nx sz) := by
  refine xx_stI (own := RJ9) (P := (fun v u => v = r ∧ u.1 = gi ∧ u.2 = gr)) (by decide +kernel) rfl (Nat.le_of_ble_eq_true rfl) (fun p e s m args below meth c R Q A ls C hF hN B hret hL => ?_) sz
  have hx := C.1
  have hb := C.2.1
  have hL : lv_has ls 4 [(0, .int x0), (1, .int x1), (2, .int x2)] := hL
  unfold f_J9_newLength at h
  have hj21 : ∀  (H : Heap) (locs : List Loc) (ls : Array Slot), f_J9_newLength_j21 hk gi gr x0 x1 = some r → XB D cA ad hk nx A s gi gr H locs → lv_has ls 4 [(0, .int x0), (1, .int x1)] → W p l e R s m args below meth c H locs 0 0 Q (F0 m 21 ls []) := by
    intro  H locs ls h B hL
    unfold f_J9_newLength_j21 at h
    refine lv_iload_n hx hb dJ9_newLength_21 rfl (lv_at hL 0 rfl) ?_
    refine lv_iload_n hx hb dJ9_newLength_22 rfl (lv_at hL 1 rfl) ?_
    refine k_J9_hugeLength C B q577 (Nat.le_trans (Nat.le_of_ble_eq_true rfl) hF) (Nat.le_trans (Nat.le_of_ble_eq_true rfl) hN) hL.1 (Nat.le_of_ble_eq_true rfl) ⟨Nat.zero_le _, Nat.zero_le _⟩ h dJ9_newLength_23 (fun q1 h H locs B => ?_)
    exact hret _ _ _ _ _ _ _ ⟨Option.some.inj h, rfl, rfl⟩ B dJ9_newLength_26
  refine lv_iload_n hx hb dJ9_newLength_0 rfl (lv_at hL 0 rfl) ?_
  refine lv_iload_n hx hb dJ9_newLength_1 rfl (lv_at hL 1 rfl) ?_
  refine lv_iload_n hx hb dJ9_newLength_2 rfl (lv_at hL 2 rfl) ?_
  refine xx_max C q573 q574 q157 q575 (Nat.le_trans (Nat.le_of_ble_eq_true rfl) hF) (Nat.le_trans (Nat.le_of_ble_eq_true rfl) hN) hL.1 (Nat.le_of_ble_eq_true rfl) ⟨Nat.zero_le _, Nat.zero_le _⟩ dJ9_newLength_3 ?_
  refine lv_iadd hx hb dJ9_newLength_6 ?_
  refine lv_istore_n (lv' := [(3, .int (x0 + (if x1 < x2 then x2 else x1))), (0, .int x0), (1, .int x1), (2, .int x2)]) hx hb dJ9_newLength_7 rfl hL (by decide) rfl (fun ls hL => ?_)
  refine lv_iconst (v := 0) hx hb dJ9_newLength_8 (by decide) ?_
  refine lv_iload_n hx hb dJ9_newLength_9 rfl (lv_at hL 0 rfl) ?_
  refine gg_icmp_ge hx hb 21 h dJ9_newLength_10 (by decide) (fun h => ?_) (fun h => ?_)
  · exact hj21  _ _ _ h B (lv_sub hL [1, 2] rfl)
  · refine lv_iload_n hx hb dJ9_newLength_13 rfl (lv_at hL 0 rfl) ?_
    refine lv_ldc (v := 2147483639) hx hb C.2.2.2.1 (C.2.2.2.2 _ q576) dJ9_newLength_14 ?_
    refine gg_icmp_gt hx hb 21 h dJ9_newLength_16 (by decide) (fun h => ?_) (fun h => ?_)
    · exact hj21  _ _ _ h B (lv_sub hL [1, 2] rfl)
    · refine lv_iload_n hx hb dJ9_newLength_19 rfl (lv_at hL 0 rfl) ?_
      exact hret _ _ _ _ _ _ _ ⟨Option.some.inj h, rfl, rfl⟩ B dJ9_newLength_20
theorem k_J9_newLength {p : Program} {l : Launch} {e : Env} {R : Room} {s : State} {m : MethodId} {args : Array Value} {below : List Frame} {meth : Method} {c : Code} {H : Heap} {locs : List Loc} {Q : State → Prop} {pc : Nat} {ls : Array Slot} {rest : List Value} {cc : ByteArray} {nL cells slots : Nat} {D : va_G} {cA : Nat → ClassId} {ad : Nat → Nat} {hk : HK} {nx : Nat} {A : Nat → Prop} {gi : GI} {gr : GR} {α : Type} {r : α} {own : String} {idx : Nat} {x0 : Int32} {x1 : Int32} {x2 : Int32} {ff : Int32 → Option α} (C : CallFix p m c cc nL s args lw_all own) (B : XB D cA ad hk nx A s gi gr H locs) (hq : Cond.methodLink own idx yJ9_newLength ∈ lw_all) (hF : 3 ≤ R.frames) (hN : 109 ≤ R.locals) (hs : ls.size = nL) (hw : (rest.map fun v => v.category).sum ≤ 8) (hz0 : cells ≤ R.cells ∧ slots ≤ R.slots) (h : (f_J9_newLength hk gi gr x0 x1 x2).bind ff = some r) (hdg : decode cc pc = .ok (.invokestatic idx, 3)) (kk : ∀ q, ff q = some r → ∀ (H' : Heap) (locs' : List Loc), XB D cA ad hk nx A s gi gr H' locs' → W p l e R s m args below meth c H' locs' cells slots Q (F0 m (pc + 3) ls (.int q :: rest))) : W p l e R s m args below meth c H locs cells slots Q (F0 m pc ls (.int x2 :: .int x1 :: .int x0 :: rest)) := by
  obtain ⟨q, h1, h2⟩ := g_ob h
  refine xx_cSI (As := [.int x0, .int x1, .int x2]) (rest := rest) (n := 3) C B (fun sz => w_J9_newLength l D cA ad hk nx gi gr x0 x1 x2 q h1 sz) hq q571 q156 q572 (by decide +kernel) ⟨hF, hN⟩ rfl hs hw hz0 hdg (fun v u H9 locs9 hp B9 => ?_)
  obtain ⟨e1, e2, e3⟩ := hp
  rw [e2] at B9
  rw [e3] at B9
  subst e1
  exact kk _ h2 H9 locs9 B9
def f_J5_newCapacity (hk : HK) (gi : GI) (gr : GR) (a0 : Nat) (x1 : Int32) : Option (Int32) :=
  (gr a0 0).bind fun v1 =>
  (g_is hk v1 1).bind fun _ =>
  (f_J9_newLength hk gi gr (Int32.ofNat (hk v1).2) ((x1 <<< ((gi a0 1) &&& 31)) - (Int32.ofNat (hk v1).2)) ((Int32.ofNat (hk v1).2) + (2 <<< ((gi a0 1) &&& 31)))).bind fun q4 =>
  if q4 = 2147483647 then
  (none)
  else
  (some (q4 >>> ((gi a0 1) &&& 31)))
set_option maxHeartbeats 400000 in
theorem w_J5_newCapacity (l : Launch) (D : va_G) (cA : Nat → ClassId) (ad : Nat → Nat) (hk : HK) (nx : Nat) (gi : GI) (gr : GR) (a0 : Nat) (x1 : Int32) (ht : (hk a0).1 = 24) (r : Int32) (h : f_J5_newCapacity hk gi gr a0 x1 = some r) (sz : Nat) : Met l yJ5_newCapacity (ws_ yJ5_newCapacity cJ5_newCapacity 6 (some .int)) ({ frames := 3, cells := 0, slots := 0, locals := 109 } : Room) (va_Pc [.ref (ad a0), .int x1] (XPre D cA ad hk nx gi gr sz)) (va_Qi (fun v u => v = r ∧ u.1 = gi ∧ u.2 = gr) (XPost D cA ad hk nx) (XA ad nx sz)) 0 0 (XA ad nx sz) := by
  refine xx_stI (own := RJ5) (P := (fun v u => v = r ∧ u.1 = gi ∧ u.2 = gr)) (by decide +kernel) rfl (Nat.le_of_ble_eq_true rfl) (fun p e s m args below meth c R Q A ls C hF hN B hret hL => ?_) sz
  have hx := C.1
  have hb := C.2.1
  have hL : lv_has ls 6 [(0, .ref (ad a0)), (1, .int x1)] := hL
  unfold f_J5_newCapacity at h
  refine lv_aload_n hx hb dJ5_newCapacity_0 rfl (lv_at hL 0 rfl) ?_
  refine xx_gr (ci := 14) (k := 0) C B xc_14 ht (by decide) (Nat.le_of_ble_eq_true rfl) rfl q542 (fun _ h => h) h dJ5_newCapacity_1 (fun v1 ok2 h => ?_)
  refine xx_is h (fun hp3 h => ?_)
  refine xx_alen C B hp3 (by decide) dJ5_newCapacity_4 ?_
  refine lv_istore_n (lv' := [(2, .int (Int32.ofNat (hk v1).2)), (0, .ref (ad a0)), (1, .int x1)]) hx hb dJ5_newCapacity_5 rfl hL (by decide) rfl (fun ls hL => ?_)
  refine lv_iload_n hx hb dJ5_newCapacity_6 rfl (lv_at hL 2 rfl) ?_
  refine lv_aload_n hx hb dJ5_newCapacity_7 rfl (lv_at hL 1 rfl) ?_
  refine xx_gi (ci := 14) (k := 1) C B xc_14 ht (by decide) (Nat.le_of_ble_eq_true rfl) rfl q543 (fun _ h => h) dJ5_newCapacity_8 ?_
  refine lv_ishl hx hb dJ5_newCapacity_11 ?_
  refine lv_istore_n (lv' := [(3, .int (x1 <<< ((gi a0 1) &&& 31))), (2, .int (Int32.ofNat (hk v1).2)), (0, .ref (ad a0)), (1, .int x1)]) hx hb dJ5_newCapacity_12 rfl hL (by decide) rfl (fun ls hL => ?_)
  refine lv_iload_n hx hb dJ5_newCapacity_13 rfl (lv_at hL 0 rfl) ?_
  refine lv_iload_n hx hb dJ5_newCapacity_14 rfl (lv_at hL 1 rfl) ?_
  refine lv_isub hx hb dJ5_newCapacity_15 ?_
  refine lv_istore (lv' := [(4, .int ((x1 <<< ((gi a0 1) &&& 31)) - (Int32.ofNat (hk v1).2))), (3, .int (x1 <<< ((gi a0 1) &&& 31))), (2, .int (Int32.ofNat (hk v1).2)), (0, .ref (ad a0)), (1, .int x1)]) hx hb dJ5_newCapacity_16 hL (by decide) rfl (fun ls hL => ?_)
  refine lv_iload_n hx hb dJ5_newCapacity_18 rfl (lv_at hL 2 rfl) ?_
  refine lv_iload hx hb dJ5_newCapacity_19 (lv_at hL 0 rfl) ?_
  refine lv_iload_n hx hb dJ5_newCapacity_21 rfl (lv_at hL 2 rfl) ?_
  refine lv_iconst (v := 2) hx hb dJ5_newCapacity_22 (by decide) ?_
  refine lv_aload_n hx hb dJ5_newCapacity_23 rfl (lv_at hL 3 rfl) ?_
  refine xx_gi (ci := 14) (k := 1) C B xc_14 ht (by decide) (Nat.le_of_ble_eq_true rfl) rfl q543 (fun _ h => h) dJ5_newCapacity_24 ?_
  refine lv_ishl hx hb dJ5_newCapacity_27 ?_
  refine lv_iadd hx hb dJ5_newCapacity_28 ?_
  refine k_J9_newLength C B q570 (Nat.le_trans (Nat.le_of_ble_eq_true rfl) hF) (Nat.le_trans (Nat.le_of_ble_eq_true rfl) hN) hL.1 (Nat.le_of_ble_eq_true rfl) ⟨Nat.zero_le _, Nat.zero_le _⟩ h dJ5_newCapacity_29 (fun q4 h H locs B => ?_)
  refine lv_istore (lv' := [(5, .int q4), (4, .int ((x1 <<< ((gi a0 1) &&& 31)) - (Int32.ofNat (hk v1).2))), (3, .int (x1 <<< ((gi a0 1) &&& 31))), (2, .int (Int32.ofNat (hk v1).2)), (0, .ref (ad a0)), (1, .int x1)]) hx hb dJ5_newCapacity_32 hL (by decide) rfl (fun ls hL => ?_)
  refine lv_iload hx hb dJ5_newCapacity_34 (lv_at hL 0 rfl) ?_
  refine lv_ldc (v := 2147483647) hx hb C.2.2.2.1 (C.2.2.2.2 _ q580) dJ5_newCapacity_36 ?_
  refine gg_icmp_ne hx hb 51 h dJ5_newCapacity_38 (by decide) (fun h => ?_) (fun h => ?_)
  · refine lv_iload hx hb dJ5_newCapacity_51 (lv_at hL 0 rfl) ?_
    refine lv_aload_n hx hb dJ5_newCapacity_53 rfl (lv_at hL 4 rfl) ?_
    refine xx_gi (ci := 14) (k := 1) C B xc_14 ht (by decide) (Nat.le_of_ble_eq_true rfl) rfl q543 (fun _ h => h) dJ5_newCapacity_54 ?_
    refine lv_ishr hx hb dJ5_newCapacity_57 ?_
    exact hret _ _ _ _ _ _ _ ⟨Option.some.inj h, rfl, rfl⟩ B dJ5_newCapacity_58
  · cases h
theorem k_J5_newCapacity {p : Program} {l : Launch} {e : Env} {R : Room} {s : State} {m : MethodId} {args : Array Value} {below : List Frame} {meth : Method} {c : Code} {H : Heap} {locs : List Loc} {Q : State → Prop} {pc : Nat} {ls : Array Slot} {rest : List Value} {cc : ByteArray} {nL cells slots : Nat} {D : va_G} {cA : Nat → ClassId} {ad : Nat → Nat} {hk : HK} {nx : Nat} {A : Nat → Prop} {gi : GI} {gr : GR} {α : Type} {r : α} {own : String} {idx : Nat} {a0 : Nat} {x1 : Int32} {ff : Int32 → Option α} (ht : (hk a0).1 = 24) (C : CallFix p m c cc nL s args lw_all own) (B : XB D cA ad hk nx A s gi gr H locs) (hq : Cond.methodLink own idx yJ5_newCapacity ∈ lw_all) (hF : 4 ≤ R.frames) (hN : 134 ≤ R.locals) (hs : ls.size = nL) (hw : (rest.map fun v => v.category).sum ≤ 8) (hz0 : cells ≤ R.cells ∧ slots ≤ R.slots) (h : (f_J5_newCapacity hk gi gr a0 x1).bind ff = some r) (hdg : decode cc pc = .ok (.invokevirtual idx, 3)) (kk : ∀ q, ff q = some r → ∀ (H' : Heap) (locs' : List Loc), XB D cA ad hk nx A s gi gr H' locs' → W p l e R s m args below meth c H' locs' cells slots Q (F0 m (pc + 3) ls (.int q :: rest))) : W p l e R s m args below meth c H locs cells slots Q (F0 m pc ls (.int x1 :: .ref (ad a0) :: rest)) := by
  obtain ⟨q, h1, h2⟩ := g_ob h
  refine xx_cUI (As := [.int x1]) (rest := rest) (n := 1) xc_14 ht (by decide) C B (fun sz => w_J5_newCapacity l D cA ad hk nx gi gr a0 x1 ht q h1 sz) (g_cwU 1 C.2.2.2.2 hq q2455 (va_tabs rfl rfl (B.2.2.2.2.2.2.1.2.2.2 _ (List.mem_of_getElem? (i := 1) rfl)).1) q568 q152 q569 (by decide +kernel) ⟨hF, hN⟩) ⟨hF, hN⟩ rfl hs hw hz0 hdg (fun v u H9 locs9 hp B9 => ?_)
  obtain ⟨e1, e2, e3⟩ := hp
  rw [e2] at B9
  rw [e3] at B9
  subst e1
  exact kk _ h2 H9 locs9 B9
def f_J5_isLatin1 (hk : HK) (gi : GI) (gr : GR) (a0 : Nat) : Option (Int32) :=
  if ((1 : Int32)) = 0 then
  (some 0)
  else
  (if (gi a0 1) = 0 then
  (some 1)
  else
  (some 0))
set_option maxHeartbeats 400000 in
theorem w_J5_isLatin1 (l : Launch) (D : va_G) (cA : Nat → ClassId) (ad : Nat → Nat) (hk : HK) (nx : Nat) (gi : GI) (gr : GR) (a0 : Nat) (ht : (hk a0).1 = 24) (r : Int32) (h : f_J5_isLatin1 hk gi gr a0 = some r) (sz : Nat) : Met l yJ5_isLatin1 (ws_ yJ5_isLatin1 cJ5_isLatin1 1 (some .boolean)) ({ frames := 1, cells := 0, slots := 0, locals := 64 } : Room) (va_Pc [.ref (ad a0)] (XPre D cA ad hk nx gi gr sz)) (va_Qi (fun v u => v = r ∧ u.1 = gi ∧ u.2 = gr) (XPost D cA ad hk nx) (XA ad nx sz)) 0 0 (XA ad nx sz) := by
  refine xx_stZ (own := RJ5) (P := (fun v u => v = r ∧ u.1 = gi ∧ u.2 = gr)) (by decide +kernel) rfl (Nat.le_of_ble_eq_true rfl) (fun p e s m args below meth c R Q A ls C hF hN B hret hL => ?_) sz
  have hx := C.1
  have hb := C.2.1
  have hL : lv_has ls 1 [(0, .ref (ad a0))] := hL
  unfold f_J5_isLatin1 at h
  refine xx_gs C B q533 dJ5_isLatin1_0 ?_
  refine gg_if_eq hx hb 17 h dJ5_isLatin1_3 (by decide) (fun h => ?_) (fun h => ?_)
  · refine lv_iconst (v := 0) hx hb dJ5_isLatin1_17 (by decide) ?_
    exact hret _ _ _ _ _ _ _ ⟨Option.some.inj h, rfl, rfl⟩ (Or.inl rfl) B dJ5_isLatin1_18
  · refine lv_aload_n hx hb dJ5_isLatin1_6 rfl (lv_at hL 0 rfl) ?_
    refine xx_gi (ci := 14) (k := 1) C B xc_14 ht (by decide) (Nat.le_of_ble_eq_true rfl) rfl q543 (fun _ h => h) dJ5_isLatin1_7 ?_
    refine gg_if_ne hx hb 17 h dJ5_isLatin1_10 (by decide) (fun h => ?_) (fun h => ?_)
    · refine lv_iconst (v := 0) hx hb dJ5_isLatin1_17 (by decide) ?_
      exact hret _ _ _ _ _ _ _ ⟨Option.some.inj h, rfl, rfl⟩ (Or.inl rfl) B dJ5_isLatin1_18
    · refine lv_iconst (v := 1) hx hb dJ5_isLatin1_13 (by decide) ?_
      refine lv_goto (tgt := 18) hx hb dJ5_isLatin1_14 (by decide) ?_
      exact hret _ _ _ _ _ _ _ ⟨Option.some.inj h, rfl, rfl⟩ (Or.inr rfl) B dJ5_isLatin1_18
theorem k_J5_isLatin1 {p : Program} {l : Launch} {e : Env} {R : Room} {s : State} {m : MethodId} {args : Array Value} {below : List Frame} {meth : Method} {c : Code} {H : Heap} {locs : List Loc} {Q : State → Prop} {pc : Nat} {ls : Array Slot} {rest : List Value} {cc : ByteArray} {nL cells slots : Nat} {D : va_G} {cA : Nat → ClassId} {ad : Nat → Nat} {hk : HK} {nx : Nat} {A : Nat → Prop} {gi : GI} {gr : GR} {α : Type} {r : α} {own : String} {idx : Nat} {a0 : Nat} {ff : Int32 → Option α} (ht : (hk a0).1 = 24) (C : CallFix p m c cc nL s args lw_all own) (B : XB D cA ad hk nx A s gi gr H locs) (hq : Cond.methodLink own idx yJ5_isLatin1 ∈ lw_all) (hF : 2 ≤ R.frames) (hN : 84 ≤ R.locals) (hs : ls.size = nL) (hw : (rest.map fun v => v.category).sum ≤ 8) (hz0 : cells ≤ R.cells ∧ slots ≤ R.slots) (h : (f_J5_isLatin1 hk gi gr a0).bind ff = some r) (hdg : decode cc pc = .ok (.invokevirtual idx, 3)) (kk : ∀ q, ff q = some r → ∀ (H' : Heap) (locs' : List Loc), XB D cA ad hk nx A s gi gr H' locs' → W p l e R s m args below meth c H' locs' cells slots Q (F0 m (pc + 3) ls (.int q :: rest))) : W p l e R s m args below meth c H locs cells slots Q (F0 m pc ls (.ref (ad a0) :: rest)) := by
  obtain ⟨q, h1, h2⟩ := g_ob h
  refine xx_cUI (As := []) (rest := rest) (n := 0) xc_14 ht (by decide) C B (fun sz => w_J5_isLatin1 l D cA ad hk nx gi gr a0 ht q h1 sz) (g_cwU 0 C.2.2.2.2 hq q599 (C.2.2.2.2 _ q600) q598 q152 q601 (by decide +kernel) ⟨hF, hN⟩) ⟨hF, hN⟩ rfl hs hw hz0 hdg (fun v u H9 locs9 hp B9 => ?_)
  obtain ⟨e1, e2, e3⟩ := hp
  rw [e2] at B9
  rw [e3] at B9
  subst e1
  exact kk _ h2 H9 locs9 B9
def f_J5_length (hk : HK) (gi : GI) (gr : GR) (a0 : Nat) : Option (Int32) :=
  some (gi a0 3)
set_option maxHeartbeats 400000 in
theorem w_J5_length (l : Launch) (D : va_G) (cA : Nat → ClassId) (ad : Nat → Nat) (hk : HK) (nx : Nat) (gi : GI) (gr : GR) (a0 : Nat) (ht : (hk a0).1 = 24) (r : Int32) (h : f_J5_length hk gi gr a0 = some r) (sz : Nat) : Met l yJ5_length (ws_ yJ5_length cJ5_length 1 (some .int)) ({ frames := 1, cells := 0, slots := 0, locals := 64 } : Room) (va_Pc [.ref (ad a0)] (XPre D cA ad hk nx gi gr sz)) (va_Qi (fun v u => v = r ∧ u.1 = gi ∧ u.2 = gr) (XPost D cA ad hk nx) (XA ad nx sz)) 0 0 (XA ad nx sz) := by
  refine xx_stI (own := RJ5) (P := (fun v u => v = r ∧ u.1 = gi ∧ u.2 = gr)) (by decide +kernel) rfl (Nat.le_of_ble_eq_true rfl) (fun p e s m args below meth c R Q A ls C hF hN B hret hL => ?_) sz
  have hx := C.1
  have hb := C.2.1
  have hL : lv_has ls 1 [(0, .ref (ad a0))] := hL
  unfold f_J5_length at h
  refine lv_aload_n hx hb dJ5_length_0 rfl (lv_at hL 0 rfl) ?_
  refine xx_gi (ci := 14) (k := 3) C B xc_14 ht (by decide) (Nat.le_of_ble_eq_true rfl) rfl q545 (fun _ h => h) dJ5_length_1 ?_
  exact hret _ _ _ _ _ _ _ ⟨Option.some.inj h, rfl, rfl⟩ B dJ5_length_4
theorem kS_J5_length {p : Program} {l : Launch} {e : Env} {R : Room} {s : State} {m : MethodId} {args : Array Value} {below : List Frame} {meth : Method} {c : Code} {H : Heap} {locs : List Loc} {Q : State → Prop} {pc : Nat} {ls : Array Slot} {rest : List Value} {cc : ByteArray} {nL cells slots : Nat} {D : va_G} {cA : Nat → ClassId} {ad : Nat → Nat} {hk : HK} {nx : Nat} {A : Nat → Prop} {gi : GI} {gr : GR} {α : Type} {r : α}  {idx : Nat} {a0 : Nat} {ff : Int32 → Option α} (ht : (hk a0).1 = 24) (C : CallFix p m c cc nL s args lw_all "java/lang/StringBuilder") (B : XB D cA ad hk nx A s gi gr H locs) (hq : Cond.methodLink "java/lang/StringBuilder" idx yJ5_length ∈ lw_all) (hF : 2 ≤ R.frames) (hN : 84 ≤ R.locals) (hs : ls.size = nL) (hw : (rest.map fun v => v.category).sum ≤ 8) (hz0 : cells ≤ R.cells ∧ slots ≤ R.slots) (h : (f_J5_length hk gi gr a0).bind ff = some r) (hdg : decode cc pc = .ok (.invokespecial idx, 3)) (kk : ∀ q, ff q = some r → ∀ (H' : Heap) (locs' : List Loc), XB D cA ad hk nx A s gi gr H' locs' → W p l e R s m args below meth c H' locs' cells slots Q (F0 m (pc + 3) ls (.int q :: rest))) : W p l e R s m args below meth c H locs cells slots Q (F0 m pc ls (.ref (ad a0) :: rest)) := by
  obtain ⟨q, h1, h2⟩ := g_ob h
  refine xx_cSUI (As := []) (rest := rest) (n := 0) xc_14 ht (by decide) C B (fun sz => w_J5_length l D cA ad hk nx gi gr a0 ht q h1 sz) (g_cwSU 0 C.2.2.2.2 hq q668 q554 q667 q152 q673 (by decide +kernel) ⟨hF, hN⟩) ⟨hF, hN⟩ rfl hs hw hz0 hdg (fun v u H9 locs9 hp B9 => ?_)
  obtain ⟨e1, e2, e3⟩ := hp
  rw [e2] at B9
  rw [e3] at B9
  subst e1
  exact kk _ h2 H9 locs9 B9
def f_J6_length (hk : HK) (gi : GI) (gr : GR) (a0 : Nat) : Option (Int32) :=
  (f_J5_length hk gi gr a0).bind fun q1 =>
  some q1
set_option maxHeartbeats 400000 in
theorem w_J6_length (l : Launch) (D : va_G) (cA : Nat → ClassId) (ad : Nat → Nat) (hk : HK) (nx : Nat) (gi : GI) (gr : GR) (a0 : Nat) (ht : (hk a0).1 = 24) (r : Int32) (h : f_J6_length hk gi gr a0 = some r) (sz : Nat) : Met l yJ6_length (ws_ yJ6_length cJ6_length 1 (some .int)) ({ frames := 2, cells := 0, slots := 0, locals := 84 } : Room) (va_Pc [.ref (ad a0)] (XPre D cA ad hk nx gi gr sz)) (va_Qi (fun v u => v = r ∧ u.1 = gi ∧ u.2 = gr) (XPost D cA ad hk nx) (XA ad nx sz)) 0 0 (XA ad nx sz) := by
  refine xx_stI (own := RJ6) (P := (fun v u => v = r ∧ u.1 = gi ∧ u.2 = gr)) (by decide +kernel) rfl (Nat.le_of_ble_eq_true rfl) (fun p e s m args below meth c R Q A ls C hF hN B hret hL => ?_) sz
  have hx := C.1
  have hb := C.2.1
  have hL : lv_has ls 1 [(0, .ref (ad a0))] := hL
  unfold f_J6_length at h
  refine lv_aload_n hx hb dJ6_length_0 rfl (lv_at hL 0 rfl) ?_
  refine kS_J5_length ht C B q672 (Nat.le_trans (Nat.le_of_ble_eq_true rfl) hF) (Nat.le_trans (Nat.le_of_ble_eq_true rfl) hN) hL.1 (Nat.le_of_ble_eq_true rfl) ⟨Nat.zero_le _, Nat.zero_le _⟩ h dJ6_length_1 (fun q1 h H locs B => ?_)
  exact hret _ _ _ _ _ _ _ ⟨Option.some.inj h, rfl, rfl⟩ B dJ6_length_4
theorem k_J6_length {p : Program} {l : Launch} {e : Env} {R : Room} {s : State} {m : MethodId} {args : Array Value} {below : List Frame} {meth : Method} {c : Code} {H : Heap} {locs : List Loc} {Q : State → Prop} {pc : Nat} {ls : Array Slot} {rest : List Value} {cc : ByteArray} {nL cells slots : Nat} {D : va_G} {cA : Nat → ClassId} {ad : Nat → Nat} {hk : HK} {nx : Nat} {A : Nat → Prop} {gi : GI} {gr : GR} {α : Type} {r : α} {own : String} {idx : Nat} {a0 : Nat} {ff : Int32 → Option α} (ht : (hk a0).1 = 24) (C : CallFix p m c cc nL s args lw_all own) (B : XB D cA ad hk nx A s gi gr H locs) (hq : Cond.methodLink own idx yJ5_length ∈ lw_all) (hF : 3 ≤ R.frames) (hN : 104 ≤ R.locals) (hs : ls.size = nL) (hw : (rest.map fun v => v.category).sum ≤ 8) (hz0 : cells ≤ R.cells ∧ slots ≤ R.slots) (h : (f_J6_length hk gi gr a0).bind ff = some r) (hdg : decode cc pc = .ok (.invokevirtual idx, 3)) (kk : ∀ q, ff q = some r → ∀ (H' : Heap) (locs' : List Loc), XB D cA ad hk nx A s gi gr H' locs' → W p l e R s m args below meth c H' locs' cells slots Q (F0 m (pc + 3) ls (.int q :: rest))) : W p l e R s m args below meth c H locs cells slots Q (F0 m pc ls (.ref (ad a0) :: rest)) := by
  obtain ⟨q, h1, h2⟩ := g_ob h
  refine xx_cUI (As := []) (rest := rest) (n := 0) xc_14 ht (by decide) C B (fun sz => w_J6_length l D cA ad hk nx gi gr a0 ht q h1 sz) (g_cwO 0 C.2.2.2.2 hq q668 q669 q670 q667 q153 q671 q673 (by decide +kernel) ⟨hF, hN⟩) ⟨hF, hN⟩ rfl hs hw hz0 hdg (fun v u H9 locs9 hp B9 => ?_)
  obtain ⟨e1, e2, e3⟩ := hp
  rw [e2] at B9
  rw [e3] at B9
  subst e1
  exact kk _ h2 H9 locs9 B9
def f_J7_isLatin1 (hk : HK) (gi : GI) (gr : GR) (a0 : Nat) : Option (Int32) :=
  if ((1 : Int32)) = 0 then
  (some 0)
  else
  (if (gi a0 1) = 0 then
  (some 1)
  else
  (some 0))
set_option maxHeartbeats 400000 in
theorem w_J7_isLatin1 (l : Launch) (D : va_G) (cA : Nat → ClassId) (ad : Nat → Nat) (hk : HK) (nx : Nat) (gi : GI) (gr : GR) (a0 : Nat) (ht : (hk a0).1 = 25) (r : Int32) (h : f_J7_isLatin1 hk gi gr a0 = some r) (sz : Nat) : Met l yJ7_isLatin1 (ws_ yJ7_isLatin1 cJ7_isLatin1 1 (some .boolean)) ({ frames := 1, cells := 0, slots := 0, locals := 64 } : Room) (va_Pc [.ref (ad a0)] (XPre D cA ad hk nx gi gr sz)) (va_Qi (fun v u => v = r ∧ u.1 = gi ∧ u.2 = gr) (XPost D cA ad hk nx) (XA ad nx sz)) 0 0 (XA ad nx sz) := by
  refine xx_stZ (own := RJ7) (P := (fun v u => v = r ∧ u.1 = gi ∧ u.2 = gr)) (by decide +kernel) rfl (Nat.le_of_ble_eq_true rfl) (fun p e s m args below meth c R Q A ls C hF hN B hret hL => ?_) sz
  have hx := C.1
  have hb := C.2.1
  have hL : lv_has ls 1 [(0, .ref (ad a0))] := hL
  unfold f_J7_isLatin1 at h
  refine xx_gs C B q684 dJ7_isLatin1_0 ?_
  refine gg_if_eq hx hb 17 h dJ7_isLatin1_3 (by decide) (fun h => ?_) (fun h => ?_)
  · refine lv_iconst (v := 0) hx hb dJ7_isLatin1_17 (by decide) ?_
    exact hret _ _ _ _ _ _ _ ⟨Option.some.inj h, rfl, rfl⟩ (Or.inl rfl) B dJ7_isLatin1_18
  · refine lv_aload_n hx hb dJ7_isLatin1_6 rfl (lv_at hL 0 rfl) ?_
    refine xx_gi (ci := 15) (k := 1) C B xc_15 ht (by decide) (Nat.le_of_ble_eq_true rfl) rfl q699 (fun _ h => h) dJ7_isLatin1_7 ?_
    refine gg_if_ne hx hb 17 h dJ7_isLatin1_10 (by decide) (fun h => ?_) (fun h => ?_)
    · refine lv_iconst (v := 0) hx hb dJ7_isLatin1_17 (by decide) ?_
      exact hret _ _ _ _ _ _ _ ⟨Option.some.inj h, rfl, rfl⟩ (Or.inl rfl) B dJ7_isLatin1_18
    · refine lv_iconst (v := 1) hx hb dJ7_isLatin1_13 (by decide) ?_
      refine lv_goto (tgt := 18) hx hb dJ7_isLatin1_14 (by decide) ?_
      exact hret _ _ _ _ _ _ _ ⟨Option.some.inj h, rfl, rfl⟩ (Or.inr rfl) B dJ7_isLatin1_18
theorem k_J7_isLatin1 {p : Program} {l : Launch} {e : Env} {R : Room} {s : State} {m : MethodId} {args : Array Value} {below : List Frame} {meth : Method} {c : Code} {H : Heap} {locs : List Loc} {Q : State → Prop} {pc : Nat} {ls : Array Slot} {rest : List Value} {cc : ByteArray} {nL cells slots : Nat} {D : va_G} {cA : Nat → ClassId} {ad : Nat → Nat} {hk : HK} {nx : Nat} {A : Nat → Prop} {gi : GI} {gr : GR} {α : Type} {r : α} {own : String} {idx : Nat} {a0 : Nat} {ff : Int32 → Option α} (ht : (hk a0).1 = 25) (C : CallFix p m c cc nL s args lw_all own) (B : XB D cA ad hk nx A s gi gr H locs) (hq : Cond.methodLink own idx yJ7_isLatin1 ∈ lw_all) (hF : 2 ≤ R.frames) (hN : 84 ≤ R.locals) (hs : ls.size = nL) (hw : (rest.map fun v => v.category).sum ≤ 8) (hz0 : cells ≤ R.cells ∧ slots ≤ R.slots) (h : (f_J7_isLatin1 hk gi gr a0).bind ff = some r) (hdg : decode cc pc = .ok (.invokevirtual idx, 3)) (kk : ∀ q, ff q = some r → ∀ (H' : Heap) (locs' : List Loc), XB D cA ad hk nx A s gi gr H' locs' → W p l e R s m args below meth c H' locs' cells slots Q (F0 m (pc + 3) ls (.int q :: rest))) : W p l e R s m args below meth c H locs cells slots Q (F0 m pc ls (.ref (ad a0) :: rest)) := by
  obtain ⟨q, h1, h2⟩ := g_ob h
  refine xx_cVI (As := []) (rest := rest) (n := 0) xc_15 ht (by decide) C B (fun sz => w_J7_isLatin1 l D cA ad hk nx gi gr a0 ht q h1 sz) hq q761 q762 q154 q763 (by decide +kernel) ⟨hF, hN⟩ rfl hs hw hz0 hdg (fun v u H9 locs9 hp B9 => ?_)
  obtain ⟨e1, e2, e3⟩ := hp
  rw [e2] at B9
  rw [e3] at B9
  subst e1
  exact kk _ h2 H9 locs9 B9
def f_J8_newBytesLength (hk : HK) (gi : GI) (gr : GR) (x0 : Int32) : Option (Int32) :=
  if 0 ≤ x0 then
  (if x0 < 1073741823 then
  (some (x0 <<< (1 &&& 31)))
  else
  (none))
  else
  (none)
set_option maxHeartbeats 400000 in
theorem w_J8_newBytesLength (l : Launch) (D : va_G) (cA : Nat → ClassId) (ad : Nat → Nat) (hk : HK) (nx : Nat) (gi : GI) (gr : GR) (x0 : Int32) (r : Int32) (h : f_J8_newBytesLength hk gi gr x0 = some r) (sz : Nat) : Met l yJ8_newBytesLength (ws_ yJ8_newBytesLength cJ8_newBytesLength 1 (some .int)) ({ frames := 1, cells := 0, slots := 0, locals := 64 } : Room) (va_Pc [.int x0] (XPre D cA ad hk nx gi gr sz)) (va_Qi (fun v u => v = r ∧ u.1 = gi ∧ u.2 = gr) (XPost D cA ad hk nx) (XA ad nx sz)) 0 0 (XA ad nx sz) := by
  refine xx_stI (own := RJ8) (P := (fun v u => v = r ∧ u.1 = gi ∧ u.2 = gr)) (by decide +kernel) rfl (Nat.le_of_ble_eq_true rfl) (fun p e s m args below meth c R Q A ls C hF hN B hret hL => ?_) sz
  have hx := C.1
  have hb := C.2.1
  have hL : lv_has ls 1 [(0, .int x0)] := hL
  unfold f_J8_newBytesLength at h
  refine lv_iload_n hx hb dJ8_newBytesLength_0 rfl (lv_at hL 0 rfl) ?_
  refine gg_if_ge hx hb 12 h dJ8_newBytesLength_1 (by decide) (fun h => ?_) (fun h => ?_)
  · refine lv_iload_n hx hb dJ8_newBytesLength_12 rfl (lv_at hL 0 rfl) ?_
    refine lv_ldc (v := 1073741823) hx hb C.2.2.2.1 (C.2.2.2.2 _ q541) dJ8_newBytesLength_13 ?_
    refine gg_icmp_lt hx hb 55 h dJ8_newBytesLength_15 (by decide) (fun h => ?_) (fun h => ?_)
    · refine lv_iload_n hx hb dJ8_newBytesLength_55 rfl (lv_at hL 0 rfl) ?_
      refine lv_iconst (v := 1) hx hb dJ8_newBytesLength_56 (by decide) ?_
      refine lv_ishl hx hb dJ8_newBytesLength_57 ?_
      exact hret _ _ _ _ _ _ _ ⟨Option.some.inj h, rfl, rfl⟩ B dJ8_newBytesLength_58
    · cases h
  · cases h
theorem k_J8_newBytesLength {p : Program} {l : Launch} {e : Env} {R : Room} {s : State} {m : MethodId} {args : Array Value} {below : List Frame} {meth : Method} {c : Code} {H : Heap} {locs : List Loc} {Q : State → Prop} {pc : Nat} {ls : Array Slot} {rest : List Value} {cc : ByteArray} {nL cells slots : Nat} {D : va_G} {cA : Nat → ClassId} {ad : Nat → Nat} {hk : HK} {nx : Nat} {A : Nat → Prop} {gi : GI} {gr : GR} {α : Type} {r : α} {own : String} {idx : Nat} {x0 : Int32} {ff : Int32 → Option α} (C : CallFix p m c cc nL s args lw_all own) (B : XB D cA ad hk nx A s gi gr H locs) (hq : Cond.methodLink own idx yJ8_newBytesLength ∈ lw_all) (hF : 2 ≤ R.frames) (hN : 84 ≤ R.locals) (hs : ls.size = nL) (hw : (rest.map fun v => v.category).sum ≤ 8) (hz0 : cells ≤ R.cells ∧ slots ≤ R.slots) (h : (f_J8_newBytesLength hk gi gr x0).bind ff = some r) (hdg : decode cc pc = .ok (.invokestatic idx, 3)) (kk : ∀ q, ff q = some r → ∀ (H' : Heap) (locs' : List Loc), XB D cA ad hk nx A s gi gr H' locs' → W p l e R s m args below meth c H' locs' cells slots Q (F0 m (pc + 3) ls (.int q :: rest))) : W p l e R s m args below meth c H locs cells slots Q (F0 m pc ls (.int x0 :: rest)) := by
  obtain ⟨q, h1, h2⟩ := g_ob h
  refine xx_cSI (As := [.int x0]) (rest := rest) (n := 1) C B (fun sz => w_J8_newBytesLength l D cA ad hk nx gi gr x0 q h1 sz) hq q539 q155 q540 (by decide +kernel) ⟨hF, hN⟩ rfl hs hw hz0 hdg (fun v u H9 locs9 hp B9 => ?_)
  obtain ⟨e1, e2, e3⟩ := hp
  rw [e2] at B9
  rw [e3] at B9
  subst e1
  exact kk _ h2 H9 locs9 B9
def f_J8_length (hk : HK) (gi : GI) (gr : GR) (a0 : Nat) : Option (Int32) :=
  (g_is hk a0 1).bind fun _ =>
  some ((Int32.ofNat (hk a0).2) >>> (1 &&& 31))
set_option maxHeartbeats 400000 in
theorem w_J8_length (l : Launch) (D : va_G) (cA : Nat → ClassId) (ad : Nat → Nat) (hk : HK) (nx : Nat) (gi : GI) (gr : GR) (a0 : Nat) (r : Int32) (h : f_J8_length hk gi gr a0 = some r) (sz : Nat) : Met l yJ8_length (ws_ yJ8_length cJ8_length 1 (some .int)) ({ frames := 1, cells := 0, slots := 0, locals := 64 } : Room) (va_Pc [.ref (ad a0)] (XPre D cA ad hk nx gi gr sz)) (va_Qi (fun v u => v = r ∧ u.1 = gi ∧ u.2 = gr) (XPost D cA ad hk nx) (XA ad nx sz)) 0 0 (XA ad nx sz) := by
  refine xx_stI (own := RJ8) (P := (fun v u => v = r ∧ u.1 = gi ∧ u.2 = gr)) (by decide +kernel) rfl (Nat.le_of_ble_eq_true rfl) (fun p e s m args below meth c R Q A ls C hF hN B hret hL => ?_) sz
  have hx := C.1
  have hb := C.2.1
  have hL : lv_has ls 1 [(0, .ref (ad a0))] := hL
  unfold f_J8_length at h
  refine lv_aload_n hx hb dJ8_length_0 rfl (lv_at hL 0 rfl) ?_
  refine xx_is h (fun hp1 h => ?_)
  refine xx_alen C B hp1 (by decide) dJ8_length_1 ?_
  refine lv_iconst (v := 1) hx hb dJ8_length_2 (by decide) ?_
  refine lv_ishr hx hb dJ8_length_3 ?_
  exact hret _ _ _ _ _ _ _ ⟨Option.some.inj h, rfl, rfl⟩ B dJ8_length_4
theorem k_J8_length {p : Program} {l : Launch} {e : Env} {R : Room} {s : State} {m : MethodId} {args : Array Value} {below : List Frame} {meth : Method} {c : Code} {H : Heap} {locs : List Loc} {Q : State → Prop} {pc : Nat} {ls : Array Slot} {rest : List Value} {cc : ByteArray} {nL cells slots : Nat} {D : va_G} {cA : Nat → ClassId} {ad : Nat → Nat} {hk : HK} {nx : Nat} {A : Nat → Prop} {gi : GI} {gr : GR} {α : Type} {r : α} {own : String} {idx : Nat} {a0 : Nat} {ff : Int32 → Option α} (C : CallFix p m c cc nL s args lw_all own) (B : XB D cA ad hk nx A s gi gr H locs) (hq : Cond.methodLink own idx yJ8_length ∈ lw_all) (hF : 2 ≤ R.frames) (hN : 84 ≤ R.locals) (hs : ls.size = nL) (hw : (rest.map fun v => v.category).sum ≤ 8) (hz0 : cells ≤ R.cells ∧ slots ≤ R.slots) (h : (f_J8_length hk gi gr a0).bind ff = some r) (hdg : decode cc pc = .ok (.invokestatic idx, 3)) (kk : ∀ q, ff q = some r → ∀ (H' : Heap) (locs' : List Loc), XB D cA ad hk nx A s gi gr H' locs' → W p l e R s m args below meth c H' locs' cells slots Q (F0 m (pc + 3) ls (.int q :: rest))) : W p l e R s m args below meth c H locs cells slots Q (F0 m pc ls (.ref (ad a0) :: rest)) := by
  obtain ⟨q, h1, h2⟩ := g_ob h
  refine xx_cSI (As := [.ref (ad a0)]) (rest := rest) (n := 1) C B (fun sz => w_J8_length l D cA ad hk nx gi gr a0 q h1 sz) hq q619 q155 q620 (by decide +kernel) ⟨hF, hN⟩ rfl hs hw hz0 hdg (fun v u H9 locs9 hp B9 => ?_)
  obtain ⟨e1, e2, e3⟩ := hp
  rw [e2] at B9
  rw [e3] at B9
  subst e1
  exact kk _ h2 H9 locs9 B9
def f_J9_signedHashCode_l8 (hk : HK) (gii8 : GI) (gri8 : GR) (a1i8 : Nat) (x4i8 : Int32) (x0l8 : Int32) (x5l8 : Int32) : Option ((Int32 × Int32) ⊕ (Int32)) :=
  if x4i8 ≤ x5l8 then
  (some (.inr x0l8))
  else
  ((g_is hk a1i8 1).bind fun _ =>
  (g_ld gii8 a1i8 (hk a1i8).2 x5l8).bind fun v2 =>
  some (.inl (((31 * x0l8) + (v2 &&& 255), x5l8 + 1))))
def f_J9_signedHashCode_x8 (hk : HK) (giy8 : GI) (gry8 : GR) (x0e8 : Int32) : Option (Int32) :=
  some x0e8
def f_J9_signedHashCode (hk : HK) (gi : GI) (gr : GR) (x0 : Int32) (a1 : Nat) (x2 : Int32) (x3 : Int32) : Option (Int32) :=
  (g_loop g_K (fun (s : Int32 × Int32) => f_J9_signedHashCode_l8 hk gi gr a1 (x2 + x3) s.1 s.2) (x0, x2)).bind fun E8 => f_J9_signedHashCode_x8 hk gi gr E8
set_option maxHeartbeats 400000 in
theorem w_J9_signedHashCode (l : Launch) (D : va_G) (cA : Nat → ClassId) (ad : Nat → Nat) (hk : HK) (nx : Nat) (gi : GI) (gr : GR) (x0 : Int32) (a1 : Nat) (x2 : Int32) (x3 : Int32) (r : Int32) (h : f_J9_signedHashCode hk gi gr x0 a1 x2 x3 = some r) (sz : Nat) : Met l yJ9_signedHashCode (ws_ yJ9_signedHashCode cJ9_signedHashCode 6 (some .int)) ({ frames := 1, cells := 0, slots := 0, locals := 64 } : Room) (va_Pc [.int x0, .ref (ad a1), .int x2, .int x3] (XPre D cA ad hk nx gi gr sz)) (va_Qi (fun v u => v = r ∧ u.1 = gi ∧ u.2 = gr) (XPost D cA ad hk nx) (XA ad nx sz)) 0 0 (XA ad nx sz) := by
  refine xx_stI (own := RJ9) (P := (fun v u => v = r ∧ u.1 = gi ∧ u.2 = gr)) (by decide +kernel) rfl (Nat.le_of_ble_eq_true rfl) (fun p e s m args below meth c R Q A ls C hF hN B hret hL => ?_) sz
  have hx := C.1
  have hb := C.2.1
  have hL : lv_has ls 6 [(0, .int x0), (1, .ref (ad a1)), (2, .int x2), (3, .int x3)] := hL
  unfold f_J9_signedHashCode at h
  refine lv_iload_n hx hb dJ9_signedHashCode_0 rfl (lv_at hL 2 rfl) ?_
  refine lv_iload_n hx hb dJ9_signedHashCode_1 rfl (lv_at hL 3 rfl) ?_
  refine lv_iadd hx hb dJ9_signedHashCode_2 ?_
  refine lv_istore (lv' := [(4, .int (x2 + x3)), (0, .int x0), (1, .ref (ad a1)), (2, .int x2), (3, .int x3)]) hx hb dJ9_signedHashCode_3 hL (by decide) rfl (fun ls hL => ?_)
  refine lv_iload_n hx hb dJ9_signedHashCode_5 rfl (lv_at hL 3 rfl) ?_
  refine lv_istore (lv' := [(5, .int x2), (4, .int (x2 + x3)), (0, .int x0), (1, .ref (ad a1)), (2, .int x2), (3, .int x3)]) hx hb dJ9_signedHashCode_6 hL (by decide) rfl (fun ls hL => ?_)
  obtain ⟨E8, h88, h⟩ := g_ob h
  have kx8 : ∀ (x0e8 : Int32) (H : Heap) (locs : List Loc) (ls : Array Slot), x0e8 = E8 → XB D cA ad hk nx A s gi gr H locs → lv_has ls 6 [(0, .int x0e8)] → W p l e R s m args below meth c H locs 0 0 Q (F0 m 35 ls []) := by
    intro x0e8 H locs ls he B hL
    subst he
    have h : f_J9_signedHashCode_x8 hk gi gr x0e8 = some r := h
    unfold f_J9_signedHashCode_x8 at h
    refine lv_iload_n hx hb dJ9_signedHashCode_35 rfl (lv_at hL 0 rfl) ?_
    exact hret _ _ _ _ _ _ _ ⟨Option.some.inj h, rfl, rfl⟩ B dJ9_signedHashCode_36
  have hl8 : ∀ (k : Nat) (x0l8 : Int32) (x5l8 : Int32) (H : Heap) (locs : List Loc) (ls : Array Slot), g_loop k (fun (s : Int32 × Int32) => f_J9_signedHashCode_l8 hk gi gr a1 (x2 + x3) s.1 s.2) (x0l8, x5l8) = some E8 → XB D cA ad hk nx A s gi gr H locs → lv_has ls 6 [(0, .int x0l8), (1, .ref (ad a1)), (4, .int (x2 + x3)), (5, .int x5l8)] → W p l e R s m args below meth c H locs 0 0 Q (F0 m 8 ls []) := by
    intro k
    induction k with
    | zero => intro x0l8 x5l8 H locs ls h; exact absurd h (fun z => g_loop_0 z)
    | succ k ih8 =>
      intro x0l8 x5l8 H locs ls h B hL
      obtain ⟨Z8, h, h98⟩ := g_loop_s h
      have h : f_J9_signedHashCode_l8 hk gi gr a1 (x2 + x3) x0l8 x5l8 = some Z8 := h
      unfold f_J9_signedHashCode_l8 at h
      refine lv_iload hx hb dJ9_signedHashCode_8 (lv_at hL 3 rfl) ?_
      refine lv_iload hx hb dJ9_signedHashCode_10 (lv_at hL 2 rfl) ?_
      refine gg_icmp_ge hx hb 35 h dJ9_signedHashCode_12 (by decide) (fun h => ?_) (fun h => ?_)
      · exact kx8 _ _ _ _ (g_exit h h98) B (lv_sub hL [0] rfl)
      · refine lv_bipush (v := 31) hx hb dJ9_signedHashCode_15 (by decide) ?_
        refine lv_iload_n hx hb dJ9_signedHashCode_17 rfl (lv_at hL 0 rfl) ?_
        refine lv_imul hx hb dJ9_signedHashCode_18 ?_
        refine lv_aload_n hx hb dJ9_signedHashCode_19 rfl (lv_at hL 1 rfl) ?_
        refine lv_iload hx hb dJ9_signedHashCode_20 (lv_at hL 3 rfl) ?_
        refine xx_is h (fun hp1 h => ?_)
        refine xx_bald C B hp1 h dJ9_signedHashCode_22 (fun v2 h => ?_)
        refine lv_sipush (v := 255) hx hb dJ9_signedHashCode_23 (by decide) ?_
        refine lv_iand hx hb dJ9_signedHashCode_26 ?_
        refine lv_iadd hx hb dJ9_signedHashCode_27 ?_
        refine lv_istore_n (lv' := [(0, .int ((31 * x0l8) + (v2 &&& 255))), (1, .ref (ad a1)), (4, .int (x2 + x3)), (5, .int x5l8)]) hx hb dJ9_signedHashCode_28 rfl hL (by decide) rfl (fun ls hL => ?_)
        refine lv_iinc (v := x5l8 + 1) (lv' := [(5, .int (x5l8 + 1)), (0, .int ((31 * x0l8) + (v2 &&& 255))), (1, .ref (ad a1)), (4, .int (x2 + x3))]) hx hb dJ9_signedHashCode_29 hL (k := 3) rfl rfl (by decide) rfl (fun ls hL => ?_)
        refine lv_goto (tgt := 8) hx hb dJ9_signedHashCode_32 (by decide) ?_
        exact ih8 _ _ _ _ _ (g_next h h98) B (lv_sub hL [1, 2, 3, 0] rfl)
  exact hl8 g_K _ _ _ _ _ h88 B (lv_sub hL [2, 3, 1, 0] rfl)
theorem k_J9_signedHashCode {p : Program} {l : Launch} {e : Env} {R : Room} {s : State} {m : MethodId} {args : Array Value} {below : List Frame} {meth : Method} {c : Code} {H : Heap} {locs : List Loc} {Q : State → Prop} {pc : Nat} {ls : Array Slot} {rest : List Value} {cc : ByteArray} {nL cells slots : Nat} {D : va_G} {cA : Nat → ClassId} {ad : Nat → Nat} {hk : HK} {nx : Nat} {A : Nat → Prop} {gi : GI} {gr : GR} {α : Type} {r : α} {own : String} {idx : Nat} {x0 : Int32} {a1 : Nat} {x2 : Int32} {x3 : Int32} {ff : Int32 → Option α} (C : CallFix p m c cc nL s args lw_all own) (B : XB D cA ad hk nx A s gi gr H locs) (hq : Cond.methodLink own idx yJ9_signedHashCode ∈ lw_all) (hF : 2 ≤ R.frames) (hN : 89 ≤ R.locals) (hs : ls.size = nL) (hw : (rest.map fun v => v.category).sum ≤ 8) (hz0 : cells ≤ R.cells ∧ slots ≤ R.slots) (h : (f_J9_signedHashCode hk gi gr x0 a1 x2 x3).bind ff = some r) (hdg : decode cc pc = .ok (.invokestatic idx, 3)) (kk : ∀ q, ff q = some r → ∀ (H' : Heap) (locs' : List Loc), XB D cA ad hk nx A s gi gr H' locs' → W p l e R s m args below meth c H' locs' cells slots Q (F0 m (pc + 3) ls (.int q :: rest))) : W p l e R s m args below meth c H locs cells slots Q (F0 m pc ls (.int x3 :: .int x2 :: .ref (ad a1) :: .int x0 :: rest)) := by
  obtain ⟨q, h1, h2⟩ := g_ob h
  refine xx_cSI (As := [.int x0, .ref (ad a1), .int x2, .int x3]) (rest := rest) (n := 4) C B (fun sz => w_J9_signedHashCode l D cA ad hk nx gi gr x0 a1 x2 x3 q h1 sz) hq q772 q156 q773 (by decide +kernel) ⟨hF, hN⟩ rfl hs hw hz0 hdg (fun v u H9 locs9 hp B9 => ?_)
  obtain ⟨e1, e2, e3⟩ := hp
  rw [e2] at B9
  rw [e3] at B9
  subst e1
  exact kk _ h2 H9 locs9 B9
def f_J9_hashCode_2_l8 (hk : HK) (gii8 : GI) (gri8 : GR) (a1i8 : Nat) (x4i8 : Int32) (x0l8 : Int32) (x5l8 : Int32) : Option ((Int32 × Int32) ⊕ (Int32)) :=
  if x4i8 ≤ x5l8 then
  (some (.inr x0l8))
  else
  ((g_is hk a1i8 1).bind fun _ =>
  (g_ld gii8 a1i8 (hk a1i8).2 x5l8).bind fun v2 =>
  some (.inl (((31 * x0l8) + v2, x5l8 + 1))))
def f_J9_hashCode_2_x8 (hk : HK) (giy8 : GI) (gry8 : GR) (x0e8 : Int32) : Option (Int32) :=
  some x0e8
def f_J9_hashCode_2 (hk : HK) (gi : GI) (gr : GR) (x0 : Int32) (a1 : Nat) (x2 : Int32) (x3 : Int32) : Option (Int32) :=
  (g_loop g_K (fun (s : Int32 × Int32) => f_J9_hashCode_2_l8 hk gi gr a1 (x2 + x3) s.1 s.2) (x0, x2)).bind fun E8 => f_J9_hashCode_2_x8 hk gi gr E8
set_option maxHeartbeats 400000 in
theorem w_J9_hashCode_2 (l : Launch) (D : va_G) (cA : Nat → ClassId) (ad : Nat → Nat) (hk : HK) (nx : Nat) (gi : GI) (gr : GR) (x0 : Int32) (a1 : Nat) (x2 : Int32) (x3 : Int32) (r : Int32) (h : f_J9_hashCode_2 hk gi gr x0 a1 x2 x3 = some r) (sz : Nat) : Met l yJ9_hashCode_2 (ws_ yJ9_hashCode_2 cJ9_hashCode_2 6 (some .int)) ({ frames := 1, cells := 0, slots := 0, locals := 64 } : Room) (va_Pc [.int x0, .ref (ad a1), .int x2, .int x3] (XPre D cA ad hk nx gi gr sz)) (va_Qi (fun v u => v = r ∧ u.1 = gi ∧ u.2 = gr) (XPost D cA ad hk nx) (XA ad nx sz)) 0 0 (XA ad nx sz) := by
  refine xx_stI (own := RJ9) (P := (fun v u => v = r ∧ u.1 = gi ∧ u.2 = gr)) (by decide +kernel) rfl (Nat.le_of_ble_eq_true rfl) (fun p e s m args below meth c R Q A ls C hF hN B hret hL => ?_) sz
  have hx := C.1
  have hb := C.2.1
  have hL : lv_has ls 6 [(0, .int x0), (1, .ref (ad a1)), (2, .int x2), (3, .int x3)] := hL
  unfold f_J9_hashCode_2 at h
  refine lv_iload_n hx hb dJ9_hashCode_2_0 rfl (lv_at hL 2 rfl) ?_
  refine lv_iload_n hx hb dJ9_hashCode_2_1 rfl (lv_at hL 3 rfl) ?_
  refine lv_iadd hx hb dJ9_hashCode_2_2 ?_
  refine lv_istore (lv' := [(4, .int (x2 + x3)), (0, .int x0), (1, .ref (ad a1)), (2, .int x2), (3, .int x3)]) hx hb dJ9_hashCode_2_3 hL (by decide) rfl (fun ls hL => ?_)
  refine lv_iload_n hx hb dJ9_hashCode_2_5 rfl (lv_at hL 3 rfl) ?_
  refine lv_istore (lv' := [(5, .int x2), (4, .int (x2 + x3)), (0, .int x0), (1, .ref (ad a1)), (2, .int x2), (3, .int x3)]) hx hb dJ9_hashCode_2_6 hL (by decide) rfl (fun ls hL => ?_)
  obtain ⟨E8, h88, h⟩ := g_ob h
  have kx8 : ∀ (x0e8 : Int32) (H : Heap) (locs : List Loc) (ls : Array Slot), x0e8 = E8 → XB D cA ad hk nx A s gi gr H locs → lv_has ls 6 [(0, .int x0e8)] → W p l e R s m args below meth c H locs 0 0 Q (F0 m 31 ls []) := by
    intro x0e8 H locs ls he B hL
    subst he
    have h : f_J9_hashCode_2_x8 hk gi gr x0e8 = some r := h
    unfold f_J9_hashCode_2_x8 at h
    refine lv_iload_n hx hb dJ9_hashCode_2_31 rfl (lv_at hL 0 rfl) ?_
    exact hret _ _ _ _ _ _ _ ⟨Option.some.inj h, rfl, rfl⟩ B dJ9_hashCode_2_32
  have hl8 : ∀ (k : Nat) (x0l8 : Int32) (x5l8 : Int32) (H : Heap) (locs : List Loc) (ls : Array Slot), g_loop k (fun (s : Int32 × Int32) => f_J9_hashCode_2_l8 hk gi gr a1 (x2 + x3) s.1 s.2) (x0l8, x5l8) = some E8 → XB D cA ad hk nx A s gi gr H locs → lv_has ls 6 [(0, .int x0l8), (1, .ref (ad a1)), (4, .int (x2 + x3)), (5, .int x5l8)] → W p l e R s m args below meth c H locs 0 0 Q (F0 m 8 ls []) := by
    intro k
    induction k with
    | zero => intro x0l8 x5l8 H locs ls h; exact absurd h (fun z => g_loop_0 z)
    | succ k ih8 =>
      intro x0l8 x5l8 H locs ls h B hL
      obtain ⟨Z8, h, h98⟩ := g_loop_s h
      have h : f_J9_hashCode_2_l8 hk gi gr a1 (x2 + x3) x0l8 x5l8 = some Z8 := h
      unfold f_J9_hashCode_2_l8 at h
      refine lv_iload hx hb dJ9_hashCode_2_8 (lv_at hL 3 rfl) ?_
      refine lv_iload hx hb dJ9_hashCode_2_10 (lv_at hL 2 rfl) ?_
      refine gg_icmp_ge hx hb 31 h dJ9_hashCode_2_12 (by decide) (fun h => ?_) (fun h => ?_)
      · exact kx8 _ _ _ _ (g_exit h h98) B (lv_sub hL [0] rfl)
      · refine lv_bipush (v := 31) hx hb dJ9_hashCode_2_15 (by decide) ?_
        refine lv_iload_n hx hb dJ9_hashCode_2_17 rfl (lv_at hL 0 rfl) ?_
        refine lv_imul hx hb dJ9_hashCode_2_18 ?_
        refine lv_aload_n hx hb dJ9_hashCode_2_19 rfl (lv_at hL 1 rfl) ?_
        refine lv_iload hx hb dJ9_hashCode_2_20 (lv_at hL 3 rfl) ?_
        refine xx_is h (fun hp1 h => ?_)
        refine xx_bald C B hp1 h dJ9_hashCode_2_22 (fun v2 h => ?_)
        refine lv_iadd hx hb dJ9_hashCode_2_23 ?_
        refine lv_istore_n (lv' := [(0, .int ((31 * x0l8) + v2)), (1, .ref (ad a1)), (4, .int (x2 + x3)), (5, .int x5l8)]) hx hb dJ9_hashCode_2_24 rfl hL (by decide) rfl (fun ls hL => ?_)
        refine lv_iinc (v := x5l8 + 1) (lv' := [(5, .int (x5l8 + 1)), (0, .int ((31 * x0l8) + v2)), (1, .ref (ad a1)), (4, .int (x2 + x3))]) hx hb dJ9_hashCode_2_25 hL (k := 3) rfl rfl (by decide) rfl (fun ls hL => ?_)
        refine lv_goto (tgt := 8) hx hb dJ9_hashCode_2_28 (by decide) ?_
        exact ih8 _ _ _ _ _ (g_next h h98) B (lv_sub hL [1, 2, 3, 0] rfl)
  exact hl8 g_K _ _ _ _ _ h88 B (lv_sub hL [2, 3, 1, 0] rfl)
theorem k_J9_hashCode_2 {p : Program} {l : Launch} {e : Env} {R : Room} {s : State} {m : MethodId} {args : Array Value} {below : List Frame} {meth : Method} {c : Code} {H : Heap} {locs : List Loc} {Q : State → Prop} {pc : Nat} {ls : Array Slot} {rest : List Value} {cc : ByteArray} {nL cells slots : Nat} {D : va_G} {cA : Nat → ClassId} {ad : Nat → Nat} {hk : HK} {nx : Nat} {A : Nat → Prop} {gi : GI} {gr : GR} {α : Type} {r : α} {own : String} {idx : Nat} {x0 : Int32} {a1 : Nat} {x2 : Int32} {x3 : Int32} {ff : Int32 → Option α} (C : CallFix p m c cc nL s args lw_all own) (B : XB D cA ad hk nx A s gi gr H locs) (hq : Cond.methodLink own idx yJ9_hashCode_2 ∈ lw_all) (hF : 2 ≤ R.frames) (hN : 89 ≤ R.locals) (hs : ls.size = nL) (hw : (rest.map fun v => v.category).sum ≤ 8) (hz0 : cells ≤ R.cells ∧ slots ≤ R.slots) (h : (f_J9_hashCode_2 hk gi gr x0 a1 x2 x3).bind ff = some r) (hdg : decode cc pc = .ok (.invokestatic idx, 3)) (kk : ∀ q, ff q = some r → ∀ (H' : Heap) (locs' : List Loc), XB D cA ad hk nx A s gi gr H' locs' → W p l e R s m args below meth c H' locs' cells slots Q (F0 m (pc + 3) ls (.int q :: rest))) : W p l e R s m args below meth c H locs cells slots Q (F0 m pc ls (.int x3 :: .int x2 :: .ref (ad a1) :: .int x0 :: rest)) := by
  obtain ⟨q, h1, h2⟩ := g_ob h
  refine xx_cSI (As := [.int x0, .ref (ad a1), .int x2, .int x3]) (rest := rest) (n := 4) C B (fun sz => w_J9_hashCode_2 l D cA ad hk nx gi gr x0 a1 x2 x3 q h1 sz) hq q795 q156 q796 (by decide +kernel) ⟨hF, hN⟩ rfl hs hw hz0 hdg (fun v u H9 locs9 hp B9 => ?_)
  obtain ⟨e1, e2, e3⟩ := hp
  rw [e2] at B9
  rw [e3] at B9
  subst e1
  exact kk _ h2 H9 locs9 B9
def f_J9_hashCode_4_l8 (hk : HK) (gii8 : GI) (gri8 : GR) (a1i8 : Nat) (x4i8 : Int32) (x0l8 : Int32) (x5l8 : Int32) : Option ((Int32 × Int32) ⊕ (Int32)) :=
  if x4i8 ≤ x5l8 then
  (some (.inr x0l8))
  else
  ((g_is hk a1i8 0).bind fun _ =>
  (g_ld gii8 a1i8 (hk a1i8).2 x5l8).bind fun v2 =>
  some (.inl (((31 * x0l8) + v2, x5l8 + 1))))
def f_J9_hashCode_4_x8 (hk : HK) (giy8 : GI) (gry8 : GR) (x0e8 : Int32) : Option (Int32) :=
  some x0e8
def f_J9_hashCode_4 (hk : HK) (gi : GI) (gr : GR) (x0 : Int32) (a1 : Nat) (x2 : Int32) (x3 : Int32) : Option (Int32) :=
  (g_loop g_K (fun (s : Int32 × Int32) => f_J9_hashCode_4_l8 hk gi gr a1 (x2 + x3) s.1 s.2) (x0, x2)).bind fun E8 => f_J9_hashCode_4_x8 hk gi gr E8
set_option maxHeartbeats 400000 in
theorem w_J9_hashCode_4 (l : Launch) (D : va_G) (cA : Nat → ClassId) (ad : Nat → Nat) (hk : HK) (nx : Nat) (gi : GI) (gr : GR) (x0 : Int32) (a1 : Nat) (x2 : Int32) (x3 : Int32) (r : Int32) (h : f_J9_hashCode_4 hk gi gr x0 a1 x2 x3 = some r) (sz : Nat) : Met l yJ9_hashCode_4 (ws_ yJ9_hashCode_4 cJ9_hashCode_4 6 (some .int)) ({ frames := 1, cells := 0, slots := 0, locals := 64 } : Room) (va_Pc [.int x0, .ref (ad a1), .int x2, .int x3] (XPre D cA ad hk nx gi gr sz)) (va_Qi (fun v u => v = r ∧ u.1 = gi ∧ u.2 = gr) (XPost D cA ad hk nx) (XA ad nx sz)) 0 0 (XA ad nx sz) := by
  refine xx_stI (own := RJ9) (P := (fun v u => v = r ∧ u.1 = gi ∧ u.2 = gr)) (by decide +kernel) rfl (Nat.le_of_ble_eq_true rfl) (fun p e s m args below meth c R Q A ls C hF hN B hret hL => ?_) sz
  have hx := C.1
  have hb := C.2.1
  have hL : lv_has ls 6 [(0, .int x0), (1, .ref (ad a1)), (2, .int x2), (3, .int x3)] := hL
  unfold f_J9_hashCode_4 at h
  refine lv_iload_n hx hb dJ9_hashCode_4_0 rfl (lv_at hL 2 rfl) ?_
  refine lv_iload_n hx hb dJ9_hashCode_4_1 rfl (lv_at hL 3 rfl) ?_
  refine lv_iadd hx hb dJ9_hashCode_4_2 ?_
  refine lv_istore (lv' := [(4, .int (x2 + x3)), (0, .int x0), (1, .ref (ad a1)), (2, .int x2), (3, .int x3)]) hx hb dJ9_hashCode_4_3 hL (by decide) rfl (fun ls hL => ?_)
  refine lv_iload_n hx hb dJ9_hashCode_4_5 rfl (lv_at hL 3 rfl) ?_
  refine lv_istore (lv' := [(5, .int x2), (4, .int (x2 + x3)), (0, .int x0), (1, .ref (ad a1)), (2, .int x2), (3, .int x3)]) hx hb dJ9_hashCode_4_6 hL (by decide) rfl (fun ls hL => ?_)
  obtain ⟨E8, h88, h⟩ := g_ob h
  have kx8 : ∀ (x0e8 : Int32) (H : Heap) (locs : List Loc) (ls : Array Slot), x0e8 = E8 → XB D cA ad hk nx A s gi gr H locs → lv_has ls 6 [(0, .int x0e8)] → W p l e R s m args below meth c H locs 0 0 Q (F0 m 31 ls []) := by
    intro x0e8 H locs ls he B hL
    subst he
    have h : f_J9_hashCode_4_x8 hk gi gr x0e8 = some r := h
    unfold f_J9_hashCode_4_x8 at h
    refine lv_iload_n hx hb dJ9_hashCode_4_31 rfl (lv_at hL 0 rfl) ?_
    exact hret _ _ _ _ _ _ _ ⟨Option.some.inj h, rfl, rfl⟩ B dJ9_hashCode_4_32
  have hl8 : ∀ (k : Nat) (x0l8 : Int32) (x5l8 : Int32) (H : Heap) (locs : List Loc) (ls : Array Slot), g_loop k (fun (s : Int32 × Int32) => f_J9_hashCode_4_l8 hk gi gr a1 (x2 + x3) s.1 s.2) (x0l8, x5l8) = some E8 → XB D cA ad hk nx A s gi gr H locs → lv_has ls 6 [(0, .int x0l8), (1, .ref (ad a1)), (4, .int (x2 + x3)), (5, .int x5l8)] → W p l e R s m args below meth c H locs 0 0 Q (F0 m 8 ls []) := by
    intro k
    induction k with
    | zero => intro x0l8 x5l8 H locs ls h; exact absurd h (fun z => g_loop_0 z)
    | succ k ih8 =>
      intro x0l8 x5l8 H locs ls h B hL
      obtain ⟨Z8, h, h98⟩ := g_loop_s h
      have h : f_J9_hashCode_4_l8 hk gi gr a1 (x2 + x3) x0l8 x5l8 = some Z8 := h
      unfold f_J9_hashCode_4_l8 at h
      refine lv_iload hx hb dJ9_hashCode_4_8 (lv_at hL 3 rfl) ?_
      refine lv_iload hx hb dJ9_hashCode_4_10 (lv_at hL 2 rfl) ?_
      refine gg_icmp_ge hx hb 31 h dJ9_hashCode_4_12 (by decide) (fun h => ?_) (fun h => ?_)
      · exact kx8 _ _ _ _ (g_exit h h98) B (lv_sub hL [0] rfl)
      · refine lv_bipush (v := 31) hx hb dJ9_hashCode_4_15 (by decide) ?_
        refine lv_iload_n hx hb dJ9_hashCode_4_17 rfl (lv_at hL 0 rfl) ?_
        refine lv_imul hx hb dJ9_hashCode_4_18 ?_
        refine lv_aload_n hx hb dJ9_hashCode_4_19 rfl (lv_at hL 1 rfl) ?_
        refine lv_iload hx hb dJ9_hashCode_4_20 (lv_at hL 3 rfl) ?_
        refine xx_is h (fun hp1 h => ?_)
        refine xx_iald C B hp1 h dJ9_hashCode_4_22 (fun v2 h => ?_)
        refine lv_iadd hx hb dJ9_hashCode_4_23 ?_
        refine lv_istore_n (lv' := [(0, .int ((31 * x0l8) + v2)), (1, .ref (ad a1)), (4, .int (x2 + x3)), (5, .int x5l8)]) hx hb dJ9_hashCode_4_24 rfl hL (by decide) rfl (fun ls hL => ?_)
        refine lv_iinc (v := x5l8 + 1) (lv' := [(5, .int (x5l8 + 1)), (0, .int ((31 * x0l8) + v2)), (1, .ref (ad a1)), (4, .int (x2 + x3))]) hx hb dJ9_hashCode_4_25 hL (k := 3) rfl rfl (by decide) rfl (fun ls hL => ?_)
        refine lv_goto (tgt := 8) hx hb dJ9_hashCode_4_28 (by decide) ?_
        exact ih8 _ _ _ _ _ (g_next h h98) B (lv_sub hL [1, 2, 3, 0] rfl)
  exact hl8 g_K _ _ _ _ _ h88 B (lv_sub hL [2, 3, 1, 0] rfl)
theorem k_J9_hashCode_4 {p : Program} {l : Launch} {e : Env} {R : Room} {s : State} {m : MethodId} {args : Array Value} {below : List Frame} {meth : Method} {c : Code} {H : Heap} {locs : List Loc} {Q : State → Prop} {pc : Nat} {ls : Array Slot} {rest : List Value} {cc : ByteArray} {nL cells slots : Nat} {D : va_G} {cA : Nat → ClassId} {ad : Nat → Nat} {hk : HK} {nx : Nat} {A : Nat → Prop} {gi : GI} {gr : GR} {α : Type} {r : α} {own : String} {idx : Nat} {x0 : Int32} {a1 : Nat} {x2 : Int32} {x3 : Int32} {ff : Int32 → Option α} (C : CallFix p m c cc nL s args lw_all own) (B : XB D cA ad hk nx A s gi gr H locs) (hq : Cond.methodLink own idx yJ9_hashCode_4 ∈ lw_all) (hF : 2 ≤ R.frames) (hN : 89 ≤ R.locals) (hs : ls.size = nL) (hw : (rest.map fun v => v.category).sum ≤ 8) (hz0 : cells ≤ R.cells ∧ slots ≤ R.slots) (h : (f_J9_hashCode_4 hk gi gr x0 a1 x2 x3).bind ff = some r) (hdg : decode cc pc = .ok (.invokestatic idx, 3)) (kk : ∀ q, ff q = some r → ∀ (H' : Heap) (locs' : List Loc), XB D cA ad hk nx A s gi gr H' locs' → W p l e R s m args below meth c H' locs' cells slots Q (F0 m (pc + 3) ls (.int q :: rest))) : W p l e R s m args below meth c H locs cells slots Q (F0 m pc ls (.int x3 :: .int x2 :: .ref (ad a1) :: .int x0 :: rest)) := by
  obtain ⟨q, h1, h2⟩ := g_ob h
  refine xx_cSI (As := [.int x0, .ref (ad a1), .int x2, .int x3]) (rest := rest) (n := 4) C B (fun sz => w_J9_hashCode_4 l D cA ad hk nx gi gr x0 a1 x2 x3 q h1 sz) hq q803 q156 q804 (by decide +kernel) ⟨hF, hN⟩ rfl hs hw hz0 hdg (fun v u H9 locs9 hp B9 => ?_)
  obtain ⟨e1, e2, e3⟩ := hp
  rw [e2] at B9
  rw [e3] at B9
  subst e1
  exact kk _ h2 H9 locs9 B9
def f_X0_end (hk : HK) (gi : GI) (gr : GR) (a0 : Nat) (x1 : Int32) : Option (Int32 × GI) :=
  if x1 < 0 then
  (some ((-1), gi))
  else
  (if x1 ≤ (gi a0 1) then
  ((some (g_pi gi a0 1 x1)).bind fun gi1 =>
  some (x1, gi1))
  else
  (some ((-1), gi)))
set_option maxHeartbeats 400000 in
theorem w_X0_end (l : Launch) (D : va_G) (cA : Nat → ClassId) (ad : Nat → Nat) (hk : HK) (nx : Nat) (gi : GI) (gr : GR) (a0 : Nat) (x1 : Int32) (ht : (hk a0).1 = 10) (r : Int32 × GI) (h : f_X0_end hk gi gr a0 x1 = some r) (sz : Nat) : Met l yX0_end (ws_ yX0_end cX0_end 2 (some .int)) ({ frames := 1, cells := 0, slots := 0, locals := 64 } : Room) (va_Pc [.ref (ad a0), .int x1] (XPre D cA ad hk nx gi gr sz)) (va_Qi (fun v u => (v, u.1) = r ∧ u.2 = gr) (XPost D cA ad hk nx) (XA ad nx sz)) 0 0 (XA ad nx sz) := by
  refine xx_stI (own := RX0) (P := (fun v u => (v, u.1) = r ∧ u.2 = gr)) (by decide +kernel) rfl (Nat.le_of_ble_eq_true rfl) (fun p e s m args below meth c R Q A ls C hF hN B hret hL => ?_) sz
  have hx := C.1
  have hb := C.2.1
  have hL : lv_has ls 2 [(0, .ref (ad a0)), (1, .int x1)] := hL
  unfold f_X0_end at h
  refine lv_iload_n hx hb dX0_end_0 rfl (lv_at hL 1 rfl) ?_
  refine gg_if_lt hx hb 12 h dX0_end_1 (by decide) (fun h => ?_) (fun h => ?_)
  · refine lv_iconst (v := (-1)) hx hb dX0_end_12 (by decide) ?_
    exact hret _ _ _ _ _ _ _ ⟨Option.some.inj h, rfl⟩ B dX0_end_13
  · refine lv_iload_n hx hb dX0_end_4 rfl (lv_at hL 1 rfl) ?_
    refine lv_aload_n hx hb dX0_end_5 rfl (lv_at hL 0 rfl) ?_
    refine xx_gi (ci := 0) (k := 1) C B xc_0 ht (by decide) (Nat.le_of_ble_eq_true rfl) rfl q360 (fun _ h => h) dX0_end_6 ?_
    refine gg_icmp_le hx hb 14 h dX0_end_9 (by decide) (fun h => ?_) (fun h => ?_)
    · refine lv_aload_n hx hb dX0_end_14 rfl (lv_at hL 0 rfl) ?_
      refine lv_iload_n hx hb dX0_end_15 rfl (lv_at hL 1 rfl) ?_
      refine xx_pi (ci := 0) (k := 1) C B xc_0 ht (by decide) (Nat.le_of_ble_eq_true rfl) rfl q360 (fun _ h => h) rfl rfl rfl h dX0_end_16 (fun gi1 h H locs B => ?_)
      refine lv_iload_n hx hb dX0_end_19 rfl (lv_at hL 1 rfl) ?_
      exact hret _ _ _ _ _ _ _ ⟨Option.some.inj h, rfl⟩ B dX0_end_20
    · refine lv_iconst (v := (-1)) hx hb dX0_end_12 (by decide) ?_
      exact hret _ _ _ _ _ _ _ ⟨Option.some.inj h, rfl⟩ B dX0_end_13
theorem k_X0_end {p : Program} {l : Launch} {e : Env} {R : Room} {s : State} {m : MethodId} {args : Array Value} {below : List Frame} {meth : Method} {c : Code} {H : Heap} {locs : List Loc} {Q : State → Prop} {pc : Nat} {ls : Array Slot} {rest : List Value} {cc : ByteArray} {nL cells slots : Nat} {D : va_G} {cA : Nat → ClassId} {ad : Nat → Nat} {hk : HK} {nx : Nat} {A : Nat → Prop} {gi : GI} {gr : GR} {α : Type} {r : α} {own : String} {idx : Nat} {a0 : Nat} {x1 : Int32} {ff : (Int32 × GI) → Option α} (ht : (hk a0).1 = 10) (C : CallFix p m c cc nL s args lw_all own) (B : XB D cA ad hk nx A s gi gr H locs) (hq : Cond.methodLink own idx yX0_end ∈ lw_all) (hF : 2 ≤ R.frames) (hN : 85 ≤ R.locals) (hs : ls.size = nL) (hw : (rest.map fun v => v.category).sum ≤ 8) (hz0 : cells ≤ R.cells ∧ slots ≤ R.slots) (h : (f_X0_end hk gi gr a0 x1).bind ff = some r) (hdg : decode cc pc = .ok (.invokevirtual idx, 3)) (kk : ∀ q, ff q = some r → ∀ (H' : Heap) (locs' : List Loc), XB D cA ad hk nx A s q.2 gr H' locs' → W p l e R s m args below meth c H' locs' cells slots Q (F0 m (pc + 3) ls (.int q.1 :: rest))) : W p l e R s m args below meth c H locs cells slots Q (F0 m pc ls (.int x1 :: .ref (ad a0) :: rest)) := by
  obtain ⟨q, h1, h2⟩ := g_ob h
  refine xx_cVI (As := [.int x1]) (rest := rest) (n := 1) xc_0 ht (by decide) C B (fun sz => w_X0_end l D cA ad hk nx gi gr a0 x1 ht q h1 sz) hq q457 q458 q141 q459 (by decide +kernel) ⟨hF, hN⟩ rfl hs hw hz0 hdg (fun v u H9 locs9 hp B9 => ?_)
  obtain ⟨e1, e3⟩ := hp
  rw [e3] at B9
  subst e1
  exact kk _ h2 H9 locs9 B9
def f_X0_men (hk : HK) (gi : GI) (gr : GR) (a0 : Nat) : Option (Int32) :=
  (gr a0 4).bind fun v1 =>
  (g_is hk v1 11).bind fun _ =>
  (gr v1 1).bind fun v4 =>
  (g_is hk v4 22).bind fun _ =>
  (f_J2_size hk gi gr v4).bind fun q7 =>
  some q7
set_option maxHeartbeats 400000 in
theorem w_X0_men (l : Launch) (D : va_G) (cA : Nat → ClassId) (ad : Nat → Nat) (hk : HK) (nx : Nat) (gi : GI) (gr : GR) (a0 : Nat) (ht : (hk a0).1 = 10) (r : Int32) (h : f_X0_men hk gi gr a0 = some r) (sz : Nat) : Met l yX0_men (ws_ yX0_men cX0_men 1 (some .int)) ({ frames := 2, cells := 0, slots := 0, locals := 84 } : Room) (va_Pc [.ref (ad a0)] (XPre D cA ad hk nx gi gr sz)) (va_Qi (fun v u => v = r ∧ u.1 = gi ∧ u.2 = gr) (XPost D cA ad hk nx) (XA ad nx sz)) 0 0 (XA ad nx sz) := by
  refine xx_stI (own := RX0) (P := (fun v u => v = r ∧ u.1 = gi ∧ u.2 = gr)) (by decide +kernel) rfl (Nat.le_of_ble_eq_true rfl) (fun p e s m args below meth c R Q A ls C hF hN B hret hL => ?_) sz
  have hx := C.1
  have hb := C.2.1
  have hL : lv_has ls 1 [(0, .ref (ad a0))] := hL
  unfold f_X0_men at h
  refine lv_aload_n hx hb dX0_men_0 rfl (lv_at hL 0 rfl) ?_
  refine xx_gr (ci := 0) (k := 4) C B xc_0 ht (by decide) (Nat.le_of_ble_eq_true rfl) rfl q363 (fun _ h => h) h dX0_men_1 (fun v1 ok2 h => ?_)
  refine xx_is h (fun hp3 h => ?_)
  refine xx_gr (ci := 1) (k := 1) C B xc_1 hp3 (by decide) (Nat.le_of_ble_eq_true rfl) rfl q257 (fun _ h => h) h dX0_men_4 (fun v4 ok5 h => ?_)
  refine xx_is h (fun hp6 h => ?_)
  refine k_J2_size hp6 C B q1234 (Nat.le_trans (Nat.le_of_ble_eq_true rfl) hF) (Nat.le_trans (Nat.le_of_ble_eq_true rfl) hN) hL.1 (Nat.le_of_ble_eq_true rfl) ⟨Nat.zero_le _, Nat.zero_le _⟩ h dX0_men_7 (fun q7 h H locs B => ?_)
  exact hret _ _ _ _ _ _ _ ⟨Option.some.inj h, rfl, rfl⟩ B dX0_men_10
theorem k_X0_men {p : Program} {l : Launch} {e : Env} {R : Room} {s : State} {m : MethodId} {args : Array Value} {below : List Frame} {meth : Method} {c : Code} {H : Heap} {locs : List Loc} {Q : State → Prop} {pc : Nat} {ls : Array Slot} {rest : List Value} {cc : ByteArray} {nL cells slots : Nat} {D : va_G} {cA : Nat → ClassId} {ad : Nat → Nat} {hk : HK} {nx : Nat} {A : Nat → Prop} {gi : GI} {gr : GR} {α : Type} {r : α} {own : String} {idx : Nat} {a0 : Nat} {ff : Int32 → Option α} (ht : (hk a0).1 = 10) (C : CallFix p m c cc nL s args lw_all own) (B : XB D cA ad hk nx A s gi gr H locs) (hq : Cond.methodLink own idx yX0_men ∈ lw_all) (hF : 3 ≤ R.frames) (hN : 104 ≤ R.locals) (hs : ls.size = nL) (hw : (rest.map fun v => v.category).sum ≤ 8) (hz0 : cells ≤ R.cells ∧ slots ≤ R.slots) (h : (f_X0_men hk gi gr a0).bind ff = some r) (hdg : decode cc pc = .ok (.invokevirtual idx, 3)) (kk : ∀ q, ff q = some r → ∀ (H' : Heap) (locs' : List Loc), XB D cA ad hk nx A s gi gr H' locs' → W p l e R s m args below meth c H' locs' cells slots Q (F0 m (pc + 3) ls (.int q :: rest))) : W p l e R s m args below meth c H locs cells slots Q (F0 m pc ls (.ref (ad a0) :: rest)) := by
  obtain ⟨q, h1, h2⟩ := g_ob h
  refine xx_cVI (As := []) (rest := rest) (n := 0) xc_0 ht (by decide) C B (fun sz => w_X0_men l D cA ad hk nx gi gr a0 ht q h1 sz) hq q1232 qs38 q141 q1233 (by decide +kernel) ⟨hF, hN⟩ rfl hs hw hz0 hdg (fun v u H9 locs9 hp B9 => ?_)
  obtain ⟨e1, e2, e3⟩ := hp
  rw [e2] at B9
  rw [e3] at B9
  subst e1
  exact kk _ h2 H9 locs9 B9
def f_X0_fault (hk : HK) (gi : GI) (gr : GR) (a0 : Nat) (x1 : Int32) : Option (Int32) :=
  if x1 = 0 then
  (some (gi a0 2))
  else
  (if x1 = 1 then
  (some (gi a0 3))
  else
  (some ((-1))))
set_option maxHeartbeats 400000 in
theorem w_X0_fault (l : Launch) (D : va_G) (cA : Nat → ClassId) (ad : Nat → Nat) (hk : HK) (nx : Nat) (gi : GI) (gr : GR) (a0 : Nat) (x1 : Int32) (ht : (hk a0).1 = 10) (r : Int32) (h : f_X0_fault hk gi gr a0 x1 = some r) (sz : Nat) : Met l yX0_fault (ws_ yX0_fault cX0_fault 2 (some .int)) ({ frames := 1, cells := 0, slots := 0, locals := 64 } : Room) (va_Pc [.ref (ad a0), .int x1] (XPre D cA ad hk nx gi gr sz)) (va_Qi (fun v u => v = r ∧ u.1 = gi ∧ u.2 = gr) (XPost D cA ad hk nx) (XA ad nx sz)) 0 0 (XA ad nx sz) := by
  refine xx_stI (own := RX0) (P := (fun v u => v = r ∧ u.1 = gi ∧ u.2 = gr)) (by decide +kernel) rfl (Nat.le_of_ble_eq_true rfl) (fun p e s m args below meth c R Q A ls C hF hN B hret hL => ?_) sz
  have hx := C.1
  have hb := C.2.1
  have hL : lv_has ls 2 [(0, .ref (ad a0)), (1, .int x1)] := hL
  unfold f_X0_fault at h
  refine lv_iload_n hx hb dX0_fault_0 rfl (lv_at hL 1 rfl) ?_
  refine gg_if_ne hx hb 11 h dX0_fault_1 (by decide) (fun h => ?_) (fun h => ?_)
  · refine lv_iload_n hx hb dX0_fault_11 rfl (lv_at hL 1 rfl) ?_
    refine lv_iconst (v := 1) hx hb dX0_fault_12 (by decide) ?_
    refine gg_icmp_ne hx hb 23 h dX0_fault_13 (by decide) (fun h => ?_) (fun h => ?_)
    · refine lv_iconst (v := (-1)) hx hb dX0_fault_23 (by decide) ?_
      exact hret _ _ _ _ _ _ _ ⟨Option.some.inj h, rfl, rfl⟩ B dX0_fault_24
    · refine lv_aload_n hx hb dX0_fault_16 rfl (lv_at hL 0 rfl) ?_
      refine xx_gi (ci := 0) (k := 3) C B xc_0 ht (by decide) (Nat.le_of_ble_eq_true rfl) rfl q362 (fun _ h => h) dX0_fault_17 ?_
      refine lv_goto (tgt := 24) hx hb dX0_fault_20 (by decide) ?_
      exact hret _ _ _ _ _ _ _ ⟨Option.some.inj h, rfl, rfl⟩ B dX0_fault_24
  · refine lv_aload_n hx hb dX0_fault_4 rfl (lv_at hL 0 rfl) ?_
    refine xx_gi (ci := 0) (k := 2) C B xc_0 ht (by decide) (Nat.le_of_ble_eq_true rfl) rfl q361 (fun _ h => h) dX0_fault_5 ?_
    refine lv_goto (tgt := 24) hx hb dX0_fault_8 (by decide) ?_
    exact hret _ _ _ _ _ _ _ ⟨Option.some.inj h, rfl, rfl⟩ B dX0_fault_24
theorem k_X0_fault {p : Program} {l : Launch} {e : Env} {R : Room} {s : State} {m : MethodId} {args : Array Value} {below : List Frame} {meth : Method} {c : Code} {H : Heap} {locs : List Loc} {Q : State → Prop} {pc : Nat} {ls : Array Slot} {rest : List Value} {cc : ByteArray} {nL cells slots : Nat} {D : va_G} {cA : Nat → ClassId} {ad : Nat → Nat} {hk : HK} {nx : Nat} {A : Nat → Prop} {gi : GI} {gr : GR} {α : Type} {r : α} {own : String} {idx : Nat} {a0 : Nat} {x1 : Int32} {ff : Int32 → Option α} (ht : (hk a0).1 = 10) (C : CallFix p m c cc nL s args lw_all own) (B : XB D cA ad hk nx A s gi gr H locs) (hq : Cond.methodLink own idx yX0_fault ∈ lw_all) (hF : 2 ≤ R.frames) (hN : 85 ≤ R.locals) (hs : ls.size = nL) (hw : (rest.map fun v => v.category).sum ≤ 8) (hz0 : cells ≤ R.cells ∧ slots ≤ R.slots) (h : (f_X0_fault hk gi gr a0 x1).bind ff = some r) (hdg : decode cc pc = .ok (.invokevirtual idx, 3)) (kk : ∀ q, ff q = some r → ∀ (H' : Heap) (locs' : List Loc), XB D cA ad hk nx A s gi gr H' locs' → W p l e R s m args below meth c H' locs' cells slots Q (F0 m (pc + 3) ls (.int q :: rest))) : W p l e R s m args below meth c H locs cells slots Q (F0 m pc ls (.int x1 :: .ref (ad a0) :: rest)) := by
  obtain ⟨q, h1, h2⟩ := g_ob h
  refine xx_cVI (As := [.int x1]) (rest := rest) (n := 1) xc_0 ht (by decide) C B (fun sz => w_X0_fault l D cA ad hk nx gi gr a0 x1 ht q h1 sz) hq q1236 q1237 q141 q1238 (by decide +kernel) ⟨hF, hN⟩ rfl hs hw hz0 hdg (fun v u H9 locs9 hp B9 => ?_)
  obtain ⟨e1, e2, e3⟩ := hp
  rw [e2] at B9
  rw [e3] at B9
  subst e1
  exact kk _ h2 H9 locs9 B9
def f_X0_isIn (hk : HK) (gi : GI) (gr : GR) (x0 : Int32) (x1 : Int32) (x2 : Int32) : Option (Int32) :=
  if x0 < x1 then
  (some 0)
  else
  (if x2 < x0 then
  (some 0)
  else
  (some 1))
set_option maxHeartbeats 400000 in
theorem w_X0_isIn (l : Launch) (D : va_G) (cA : Nat → ClassId) (ad : Nat → Nat) (hk : HK) (nx : Nat) (gi : GI) (gr : GR) (x0 : Int32) (x1 : Int32) (x2 : Int32) (r : Int32) (h : f_X0_isIn hk gi gr x0 x1 x2 = some r) (sz : Nat) : Met l yX0_isIn (ws_ yX0_isIn cX0_isIn 3 (some .boolean)) ({ frames := 1, cells := 0, slots := 0, locals := 64 } : Room) (va_Pc [.int x0, .int x1, .int x2] (XPre D cA ad hk nx gi gr sz)) (va_Qi (fun v u => v = r ∧ u.1 = gi ∧ u.2 = gr) (XPost D cA ad hk nx) (XA ad nx sz)) 0 0 (XA ad nx sz) := by
  refine xx_stZ (own := RX0) (P := (fun v u => v = r ∧ u.1 = gi ∧ u.2 = gr)) (by decide +kernel) rfl (Nat.le_of_ble_eq_true rfl) (fun p e s m args below meth c R Q A ls C hF hN B hret hL => ?_) sz
  have hx := C.1
  have hb := C.2.1
  have hL : lv_has ls 3 [(0, .int x0), (1, .int x1), (2, .int x2)] := hL
  unfold f_X0_isIn at h
  refine lv_iload_n hx hb dX0_isIn_0 rfl (lv_at hL 0 rfl) ?_
  refine lv_iload_n hx hb dX0_isIn_1 rfl (lv_at hL 1 rfl) ?_
  refine gg_icmp_lt hx hb 14 h dX0_isIn_2 (by decide) (fun h => ?_) (fun h => ?_)
  · refine lv_iconst (v := 0) hx hb dX0_isIn_14 (by decide) ?_
    exact hret _ _ _ _ _ _ _ ⟨Option.some.inj h, rfl, rfl⟩ (Or.inl rfl) B dX0_isIn_15
  · refine lv_iload_n hx hb dX0_isIn_5 rfl (lv_at hL 0 rfl) ?_
    refine lv_iload_n hx hb dX0_isIn_6 rfl (lv_at hL 2 rfl) ?_
    refine gg_icmp_gt hx hb 14 h dX0_isIn_7 (by decide) (fun h => ?_) (fun h => ?_)
    · refine lv_iconst (v := 0) hx hb dX0_isIn_14 (by decide) ?_
      exact hret _ _ _ _ _ _ _ ⟨Option.some.inj h, rfl, rfl⟩ (Or.inl rfl) B dX0_isIn_15
    · refine lv_iconst (v := 1) hx hb dX0_isIn_10 (by decide) ?_
      refine lv_goto (tgt := 15) hx hb dX0_isIn_11 (by decide) ?_
      exact hret _ _ _ _ _ _ _ ⟨Option.some.inj h, rfl, rfl⟩ (Or.inr rfl) B dX0_isIn_15
theorem k_X0_isIn {p : Program} {l : Launch} {e : Env} {R : Room} {s : State} {m : MethodId} {args : Array Value} {below : List Frame} {meth : Method} {c : Code} {H : Heap} {locs : List Loc} {Q : State → Prop} {pc : Nat} {ls : Array Slot} {rest : List Value} {cc : ByteArray} {nL cells slots : Nat} {D : va_G} {cA : Nat → ClassId} {ad : Nat → Nat} {hk : HK} {nx : Nat} {A : Nat → Prop} {gi : GI} {gr : GR} {α : Type} {r : α} {own : String} {idx : Nat} {x0 : Int32} {x1 : Int32} {x2 : Int32} {ff : Int32 → Option α} (C : CallFix p m c cc nL s args lw_all own) (B : XB D cA ad hk nx A s gi gr H locs) (hq : Cond.methodLink own idx yX0_isIn ∈ lw_all) (hF : 2 ≤ R.frames) (hN : 86 ≤ R.locals) (hs : ls.size = nL) (hw : (rest.map fun v => v.category).sum ≤ 8) (hz0 : cells ≤ R.cells ∧ slots ≤ R.slots) (h : (f_X0_isIn hk gi gr x0 x1 x2).bind ff = some r) (hdg : decode cc pc = .ok (.invokestatic idx, 3)) (kk : ∀ q, ff q = some r → ∀ (H' : Heap) (locs' : List Loc), XB D cA ad hk nx A s gi gr H' locs' → W p l e R s m args below meth c H' locs' cells slots Q (F0 m (pc + 3) ls (.int q :: rest))) : W p l e R s m args below meth c H locs cells slots Q (F0 m pc ls (.int x2 :: .int x1 :: .int x0 :: rest)) := by
  obtain ⟨q, h1, h2⟩ := g_ob h
  refine xx_cSI (As := [.int x0, .int x1, .int x2]) (rest := rest) (n := 3) C B (fun sz => w_X0_isIn l D cA ad hk nx gi gr x0 x1 x2 q h1 sz) hq q1248 q141 q1249 (by decide +kernel) ⟨hF, hN⟩ rfl hs hw hz0 hdg (fun v u H9 locs9 hp B9 => ?_)
  obtain ⟨e1, e2, e3⟩ := hp
  rw [e2] at B9
  rw [e3] at B9
  subst e1
  exact kk _ h2 H9 locs9 B9
def f_X0_isMan (hk : HK) (gi : GI) (gr : GR) (a0 : Nat) (x1 : Int32) : Option (Int32) :=
  (f_X0_men hk gi gr a0).bind fun q1 =>
  (f_X0_isIn hk gi gr x1 0 (q1 - 1)).bind fun q2 =>
  (g_zb q2).bind fun _ =>
  some q2
set_option maxHeartbeats 400000 in
theorem w_X0_isMan (l : Launch) (D : va_G) (cA : Nat → ClassId) (ad : Nat → Nat) (hk : HK) (nx : Nat) (gi : GI) (gr : GR) (a0 : Nat) (x1 : Int32) (ht : (hk a0).1 = 10) (r : Int32) (h : f_X0_isMan hk gi gr a0 x1 = some r) (sz : Nat) : Met l yX0_isMan (ws_ yX0_isMan cX0_isMan 2 (some .boolean)) ({ frames := 3, cells := 0, slots := 0, locals := 104 } : Room) (va_Pc [.ref (ad a0), .int x1] (XPre D cA ad hk nx gi gr sz)) (va_Qi (fun v u => v = r ∧ u.1 = gi ∧ u.2 = gr) (XPost D cA ad hk nx) (XA ad nx sz)) 0 0 (XA ad nx sz) := by
  refine xx_stZ (own := RX0) (P := (fun v u => v = r ∧ u.1 = gi ∧ u.2 = gr)) (by decide +kernel) rfl (Nat.le_of_ble_eq_true rfl) (fun p e s m args below meth c R Q A ls C hF hN B hret hL => ?_) sz
  have hx := C.1
  have hb := C.2.1
  have hL : lv_has ls 2 [(0, .ref (ad a0)), (1, .int x1)] := hL
  unfold f_X0_isMan at h
  refine lv_iload_n hx hb dX0_isMan_0 rfl (lv_at hL 1 rfl) ?_
  refine lv_iconst (v := 0) hx hb dX0_isMan_1 (by decide) ?_
  refine lv_aload_n hx hb dX0_isMan_2 rfl (lv_at hL 0 rfl) ?_
  refine k_X0_men ht C B q1230 (Nat.le_trans (Nat.le_of_ble_eq_true rfl) hF) (Nat.le_trans (Nat.le_of_ble_eq_true rfl) hN) hL.1 (Nat.le_of_ble_eq_true rfl) ⟨Nat.zero_le _, Nat.zero_le _⟩ h dX0_isMan_3 (fun q1 h H locs B => ?_)
  refine lv_iconst (v := 1) hx hb dX0_isMan_6 (by decide) ?_
  refine lv_isub hx hb dX0_isMan_7 ?_
  refine k_X0_isIn C B q1247 (Nat.le_trans (Nat.le_of_ble_eq_true rfl) hF) (Nat.le_trans (Nat.le_of_ble_eq_true rfl) hN) hL.1 (Nat.le_of_ble_eq_true rfl) ⟨Nat.zero_le _, Nat.zero_le _⟩ h dX0_isMan_8 (fun q2 h H locs B => ?_)
  refine mm_zb h (fun hz h => ?_)
  exact hret _ _ _ _ _ _ _ ⟨Option.some.inj h, rfl, rfl⟩ hz B dX0_isMan_11
theorem k_X0_isMan {p : Program} {l : Launch} {e : Env} {R : Room} {s : State} {m : MethodId} {args : Array Value} {below : List Frame} {meth : Method} {c : Code} {H : Heap} {locs : List Loc} {Q : State → Prop} {pc : Nat} {ls : Array Slot} {rest : List Value} {cc : ByteArray} {nL cells slots : Nat} {D : va_G} {cA : Nat → ClassId} {ad : Nat → Nat} {hk : HK} {nx : Nat} {A : Nat → Prop} {gi : GI} {gr : GR} {α : Type} {r : α} {own : String} {idx : Nat} {a0 : Nat} {x1 : Int32} {ff : Int32 → Option α} (ht : (hk a0).1 = 10) (C : CallFix p m c cc nL s args lw_all own) (B : XB D cA ad hk nx A s gi gr H locs) (hq : Cond.methodLink own idx yX0_isMan ∈ lw_all) (hF : 4 ≤ R.frames) (hN : 125 ≤ R.locals) (hs : ls.size = nL) (hw : (rest.map fun v => v.category).sum ≤ 8) (hz0 : cells ≤ R.cells ∧ slots ≤ R.slots) (h : (f_X0_isMan hk gi gr a0 x1).bind ff = some r) (hdg : decode cc pc = .ok (.invokevirtual idx, 3)) (kk : ∀ q, ff q = some r → ∀ (H' : Heap) (locs' : List Loc), XB D cA ad hk nx A s gi gr H' locs' → W p l e R s m args below meth c H' locs' cells slots Q (F0 m (pc + 3) ls (.int q :: rest))) : W p l e R s m args below meth c H locs cells slots Q (F0 m pc ls (.int x1 :: .ref (ad a0) :: rest)) := by
  obtain ⟨q, h1, h2⟩ := g_ob h
  refine xx_cVI (As := [.int x1]) (rest := rest) (n := 1) xc_0 ht (by decide) C B (fun sz => w_X0_isMan l D cA ad hk nx gi gr a0 x1 ht q h1 sz) hq q1245 qs39 q141 q1246 (by decide +kernel) ⟨hF, hN⟩ rfl hs hw hz0 hdg (fun v u H9 locs9 hp B9 => ?_)
  obtain ⟨e1, e2, e3⟩ := hp
  rw [e2] at B9
  rw [e3] at B9
  subst e1
  exact kk _ h2 H9 locs9 B9
def f_X7_wages (hk : HK) (gi : GI) (gr : GR) (a0 : Nat) : Option (Int32) :=
  (gr a0 2).bind fun v1 =>
  (g_is hk v1 0).bind fun _ =>
  (g_ld gi v1 (hk v1).2 0).bind fun v4 =>
  (gr a0 2).bind fun v5 =>
  (g_is hk v5 0).bind fun _ =>
  (g_ld gi v5 (hk v5).2 1).bind fun v8 =>
  (gr a0 2).bind fun v9 =>
  (g_is hk v9 0).bind fun _ =>
  (g_ld gi v9 (hk v9).2 2).bind fun v12 =>
  some ((v4 + v8) + v12)
set_option maxHeartbeats 400000 in
theorem w_X7_wages (l : Launch) (D : va_G) (cA : Nat → ClassId) (ad : Nat → Nat) (hk : HK) (nx : Nat) (gi : GI) (gr : GR) (a0 : Nat) (ht : (hk a0).1 = 16) (r : Int32) (h : f_X7_wages hk gi gr a0 = some r) (sz : Nat) : Met l yX7_wages (ws_ yX7_wages cX7_wages 1 (some .int)) ({ frames := 1, cells := 0, slots := 0, locals := 64 } : Room) (va_Pc [.ref (ad a0)] (XPre D cA ad hk nx gi gr sz)) (va_Qi (fun v u => v = r ∧ u.1 = gi ∧ u.2 = gr) (XPost D cA ad hk nx) (XA ad nx sz)) 0 0 (XA ad nx sz) := by
  refine xx_stI (own := RX7) (P := (fun v u => v = r ∧ u.1 = gi ∧ u.2 = gr)) (by decide +kernel) rfl (Nat.le_of_ble_eq_true rfl) (fun p e s m args below meth c R Q A ls C hF hN B hret hL => ?_) sz
  have hx := C.1
  have hb := C.2.1
  have hL : lv_has ls 1 [(0, .ref (ad a0))] := hL
  unfold f_X7_wages at h
  refine lv_aload_n hx hb dX7_wages_0 rfl (lv_at hL 0 rfl) ?_
  refine xx_gr (ci := 6) (k := 2) C B xc_6 ht (by decide) (Nat.le_of_ble_eq_true rfl) rfl q976 (fun _ h => h) h dX7_wages_1 (fun v1 ok2 h => ?_)
  refine lv_iconst (v := 0) hx hb dX7_wages_4 (by decide) ?_
  refine xx_is h (fun hp3 h => ?_)
  refine xx_iald C B hp3 h dX7_wages_5 (fun v4 h => ?_)
  refine lv_aload_n hx hb dX7_wages_6 rfl (lv_at hL 0 rfl) ?_
  refine xx_gr (ci := 6) (k := 2) C B xc_6 ht (by decide) (Nat.le_of_ble_eq_true rfl) rfl q976 (fun _ h => h) h dX7_wages_7 (fun v5 ok6 h => ?_)
  refine lv_iconst (v := 1) hx hb dX7_wages_10 (by decide) ?_
  refine xx_is h (fun hp7 h => ?_)
  refine xx_iald C B hp7 h dX7_wages_11 (fun v8 h => ?_)
  refine lv_iadd hx hb dX7_wages_12 ?_
  refine lv_aload_n hx hb dX7_wages_13 rfl (lv_at hL 0 rfl) ?_
  refine xx_gr (ci := 6) (k := 2) C B xc_6 ht (by decide) (Nat.le_of_ble_eq_true rfl) rfl q976 (fun _ h => h) h dX7_wages_14 (fun v9 ok10 h => ?_)
  refine lv_iconst (v := 2) hx hb dX7_wages_17 (by decide) ?_
  refine xx_is h (fun hp11 h => ?_)
  refine xx_iald C B hp11 h dX7_wages_18 (fun v12 h => ?_)
  refine lv_iadd hx hb dX7_wages_19 ?_
  exact hret _ _ _ _ _ _ _ ⟨Option.some.inj h, rfl, rfl⟩ B dX7_wages_20
theorem k_X7_wages {p : Program} {l : Launch} {e : Env} {R : Room} {s : State} {m : MethodId} {args : Array Value} {below : List Frame} {meth : Method} {c : Code} {H : Heap} {locs : List Loc} {Q : State → Prop} {pc : Nat} {ls : Array Slot} {rest : List Value} {cc : ByteArray} {nL cells slots : Nat} {D : va_G} {cA : Nat → ClassId} {ad : Nat → Nat} {hk : HK} {nx : Nat} {A : Nat → Prop} {gi : GI} {gr : GR} {α : Type} {r : α} {own : String} {idx : Nat} {a0 : Nat} {ff : Int32 → Option α} (ht : (hk a0).1 = 16) (C : CallFix p m c cc nL s args lw_all own) (B : XB D cA ad hk nx A s gi gr H locs) (hq : Cond.methodLink own idx yX7_wages ∈ lw_all) (hF : 2 ≤ R.frames) (hN : 84 ≤ R.locals) (hs : ls.size = nL) (hw : (rest.map fun v => v.category).sum ≤ 8) (hz0 : cells ≤ R.cells ∧ slots ≤ R.slots) (h : (f_X7_wages hk gi gr a0).bind ff = some r) (hdg : decode cc pc = .ok (.invokevirtual idx, 3)) (kk : ∀ q, ff q = some r → ∀ (H' : Heap) (locs' : List Loc), XB D cA ad hk nx A s gi gr H' locs' → W p l e R s m args below meth c H' locs' cells slots Q (F0 m (pc + 3) ls (.int q :: rest))) : W p l e R s m args below meth c H locs cells slots Q (F0 m pc ls (.ref (ad a0) :: rest)) := by
  obtain ⟨q, h1, h2⟩ := g_ob h
  refine xx_cVI (As := []) (rest := rest) (n := 0) xc_6 ht (by decide) C B (fun sz => w_X7_wages l D cA ad hk nx gi gr a0 ht q h1 sz) hq q1334 q1335 q164 q1336 (by decide +kernel) ⟨hF, hN⟩ rfl hs hw hz0 hdg (fun v u H9 locs9 hp B9 => ?_)
  obtain ⟨e1, e2, e3⟩ := hp
  rw [e2] at B9
  rw [e3] at B9
  subst e1
  exact kk _ h2 H9 locs9 B9
def f_X10_of_b (fo : HK → GI → GR → Nat → Nat → Option Int32) (hk : HK) (gi : GI) (gr : GR) (a0 : Nat) (a1 : Nat) : Option (Int32) :=
  some (gi a0 0)
set_option maxHeartbeats 400000 in
theorem wb_X10_of (l : Launch) (D : va_G) (cA : Nat → ClassId) (ad : Nat → Nat) (hk : HK) (nx : Nat) (fo : HK → GI → GR → Nat → Nat → Option Int32) (fr lo : Nat) (hfr : 1 ≤ fr) (hlo : 64 ≤ lo) (gi : GI) (gr : GR) (a0 : Nat) (ht : (hk a0).1 = 19) (hfo : ∀ (q b : Nat) (v : Int32), fo hk gi gr q b = some v → OfOk l D cA ad hk nx gi gr fr lo q b v) (a1 : Nat) (r : Int32) (h : f_X10_of_b fo hk gi gr a0 a1 = some r) (sz : Nat) : Met l yX10_of (ws_ yX10_of cX10_of 2 (some .int)) ({ frames := fr + 1, cells := 0, slots := 0, locals := lo + 30 } : Room) (va_Pc [.ref (ad a0), .ref (ad a1)] (XPre D cA ad hk nx gi gr sz)) (va_Qi (fun v u => v = r ∧ u.1 = gi ∧ u.2 = gr) (XPost D cA ad hk nx) (XA ad nx sz)) 0 0 (XA ad nx sz) := by
  refine xx_stI (own := RX10) (P := (fun v u => v = r ∧ u.1 = gi ∧ u.2 = gr)) (by decide +kernel) rfl (Nat.le_of_ble_eq_true rfl) (fun p e s m args below meth c R Q A ls C hF hN B hret hL => ?_) sz
  have hx := C.1
  have hb := C.2.1
  have hL : lv_has ls 2 [(0, .ref (ad a0)), (1, .ref (ad a1))] := hL
  unfold f_X10_of_b at h
  refine lv_aload_n hx hb dX10_of_0 rfl (lv_at hL 0 rfl) ?_
  refine xx_gi (ci := 9) (k := 0) C B xc_9 ht (by decide) (Nat.le_of_ble_eq_true rfl) rfl q1198 (fun _ h => h) dX10_of_1 ?_
  exact hret _ _ _ _ _ _ _ ⟨Option.some.inj h, rfl, rfl⟩ B dX10_of_4
def f_X11_of_b (fo : HK → GI → GR → Nat → Nat → Option Int32) (hk : HK) (gi : GI) (gr : GR) (a0 : Nat) (a1 : Nat) : Option (Int32) :=
  (gr a0 0).bind fun v1 =>
  (fo hk gi gr v1 a1).bind fun v3 =>
  (gr a0 1).bind fun v4 =>
  (fo hk gi gr v4 a1).bind fun v6 =>
  if (gi a0 2).toInt < 37 ∨ 62 < (gi a0 2).toInt then
  (if v3 = 0 then
  (if v6 = 0 then
  (some 0)
  else
  (some 1))
  else
  (some 1))
  else if (gi a0 2) = 37 then
  (if v6 = 0 then
  (some 0)
  else
  ((g_nz v6).bind fun _ =>
  some (v3 - v3 / v6 * v6)))
  else if (gi a0 2) = 38 then
  (if v3 = 0 then
  (some 0)
  else
  (if v6 = 0 then
  (some 0)
  else
  (some 1)))
  else if (gi a0 2) = 39 then
  (if v3 = 0 then
  (if v6 = 0 then
  (some 0)
  else
  (some 1))
  else
  (some 1))
  else if (gi a0 2) = 40 then
  (if v3 = 0 then
  (if v6 = 0 then
  (some 0)
  else
  (some 1))
  else
  (some 1))
  else if (gi a0 2) = 41 then
  (if v3 = 0 then
  (if v6 = 0 then
  (some 0)
  else
  (some 1))
  else
  (some 1))
  else if (gi a0 2) = 42 then
  (some (v3 * v6))
  else if (gi a0 2) = 43 then
  (some (v3 + v6))
  else if (gi a0 2) = 44 then
  (if v3 = 0 then
  (if v6 = 0 then
  (some 0)
  else
  (some 1))
  else
  (some 1))
  else if (gi a0 2) = 45 then
  (some (v3 - v6))
  else if (gi a0 2) = 46 then
  (if v3 = 0 then
  (if v6 = 0 then
  (some 0)
  else
  (some 1))
  else
  (some 1))
  else if (gi a0 2) = 47 then
  (if v6 = 0 then
  (some 0)
  else
  ((g_nz v6).bind fun _ =>
  some (v3 / v6)))
  else if (gi a0 2) = 48 then
  (if v3 = 0 then
  (if v6 = 0 then
  (some 0)
  else
  (some 1))
  else
  (some 1))
  else if (gi a0 2) = 49 then
  (if v3 = 0 then
  (if v6 = 0 then
  (some 0)
  else
  (some 1))
  else
  (some 1))
  else if (gi a0 2) = 50 then
  (if v3 = 0 then
  (if v6 = 0 then
  (some 0)
  else
  (some 1))
  else
  (some 1))
  else if (gi a0 2) = 51 then
  (if v3 = 0 then
  (if v6 = 0 then
  (some 0)
  else
  (some 1))
  else
  (some 1))
  else if (gi a0 2) = 52 then
  (if v3 = 0 then
  (if v6 = 0 then
  (some 0)
  else
  (some 1))
  else
  (some 1))
  else if (gi a0 2) = 53 then
  (if v3 = 0 then
  (if v6 = 0 then
  (some 0)
  else
  (some 1))
  else
  (some 1))
  else if (gi a0 2) = 54 then
  (if v3 = 0 then
  (if v6 = 0 then
  (some 0)
  else
  (some 1))
  else
  (some 1))
  else if (gi a0 2) = 55 then
  (if v3 = 0 then
  (if v6 = 0 then
  (some 0)
  else
  (some 1))
  else
  (some 1))
  else if (gi a0 2) = 56 then
  (if v3 = 0 then
  (if v6 = 0 then
  (some 0)
  else
  (some 1))
  else
  (some 1))
  else if (gi a0 2) = 57 then
  (if v3 = 0 then
  (if v6 = 0 then
  (some 0)
  else
  (some 1))
  else
  (some 1))
  else if (gi a0 2) = 58 then
  (if v3 = 0 then
  (if v6 = 0 then
  (some 0)
  else
  (some 1))
  else
  (some 1))
  else if (gi a0 2) = 59 then
  (if v3 = 0 then
  (if v6 = 0 then
  (some 0)
  else
  (some 1))
  else
  (some 1))
  else if (gi a0 2) = 60 then
  (if v6 ≤ v3 then
  (some 0)
  else
  (some 1))
  else if (gi a0 2) = 61 then
  (if v3 = v6 then
  (some 1)
  else
  (some 0))
  else if (gi a0 2) = 62 then
  (if v3 ≤ v6 then
  (some 0)
  else
  (some 1))
  else none
set_option maxHeartbeats 400000 in
theorem wb_X11_of (l : Launch) (D : va_G) (cA : Nat → ClassId) (ad : Nat → Nat) (hk : HK) (nx : Nat) (fo : HK → GI → GR → Nat → Nat → Option Int32) (fr lo : Nat) (hfr : 1 ≤ fr) (hlo : 64 ≤ lo) (gi : GI) (gr : GR) (a0 : Nat) (ht : (hk a0).1 = 20) (hfo : ∀ (q b : Nat) (v : Int32), fo hk gi gr q b = some v → OfOk l D cA ad hk nx gi gr fr lo q b v) (a1 : Nat) (r : Int32) (h : f_X11_of_b fo hk gi gr a0 a1 = some r) (sz : Nat) : Met l yX11_of (ws_ yX11_of cX11_of 4 (some .int)) ({ frames := fr + 1, cells := 0, slots := 0, locals := lo + 30 } : Room) (va_Pc [.ref (ad a0), .ref (ad a1)] (XPre D cA ad hk nx gi gr sz)) (va_Qi (fun v u => v = r ∧ u.1 = gi ∧ u.2 = gr) (XPost D cA ad hk nx) (XA ad nx sz)) 0 0 (XA ad nx sz) := by
  refine xx_stI (own := RX11) (P := (fun v u => v = r ∧ u.1 = gi ∧ u.2 = gr)) (by decide +kernel) rfl (Nat.le_of_ble_eq_true rfl) (fun p e s m args below meth c R Q A ls C hF hN B hret hL => ?_) sz
  have hx := C.1
  have hb := C.2.1
  have hL : lv_has ls 4 [(0, .ref (ad a0)), (1, .ref (ad a1))] := hL
  unfold f_X11_of_b at h
  refine lv_aload_n hx hb dX11_of_0 rfl (lv_at hL 0 rfl) ?_
  refine xx_gr (ci := 10) (k := 0) C B xc_10 ht (by decide) (Nat.le_of_ble_eq_true rfl) rfl q1208 (fun _ h => h) h dX11_of_1 (fun v1 ok2 h => ?_)
  refine lv_aload_n hx hb dX11_of_4 rfl (lv_at hL 1 rfl) ?_
  refine k_of C B (fun v h => hfo _ _ v h) q1316 (by omega) (by omega) (by omega) hL.1 (Nat.le_of_ble_eq_true rfl) ⟨Nat.zero_le _, Nat.zero_le _⟩ h dX11_of_5 (fun v3 h H locs B => ?_)
  refine lv_istore_n (lv' := [(2, .int v3), (0, .ref (ad a0)), (1, .ref (ad a1))]) hx hb dX11_of_10 rfl hL (by decide) rfl (fun ls hL => ?_)
  refine lv_aload_n hx hb dX11_of_11 rfl (lv_at hL 1 rfl) ?_
  refine xx_gr (ci := 10) (k := 1) C B xc_10 ht (by decide) (Nat.le_of_ble_eq_true rfl) rfl q1209 (fun _ h => h) h dX11_of_12 (fun v4 ok5 h => ?_)
  refine lv_aload_n hx hb dX11_of_15 rfl (lv_at hL 2 rfl) ?_
  refine k_of C B (fun v h => hfo _ _ v h) q1316 (by omega) (by omega) (by omega) hL.1 (Nat.le_of_ble_eq_true rfl) ⟨Nat.zero_le _, Nat.zero_le _⟩ h dX11_of_16 (fun v6 h H locs B => ?_)
  refine lv_istore_n (lv' := [(3, .int v6), (2, .int v3), (0, .ref (ad a0)), (1, .ref (ad a1))]) hx hb dX11_of_21 rfl hL (by decide) rfl (fun ls hL => ?_)
  refine lv_aload_n hx hb dX11_of_22 rfl (lv_at hL 2 rfl) ?_
  refine xx_gi (ci := 10) (k := 2) C B xc_10 ht (by decide) (Nat.le_of_ble_eq_true rfl) rfl q1210 (fun _ h => h) dX11_of_23 ?_
  rcases g_if h with ⟨hc, h⟩ | ⟨hc, h⟩
  · refine lv_tableOut (tgt := 227) hx hb dX11_of_26 hc (by decide) ?_
    refine lv_iload_n hx hb dX11_of_227 rfl (lv_at hL 1 rfl) ?_
    refine gg_if_ne hx hb 235 h dX11_of_228 (by decide) (fun h => ?_) (fun h => ?_)
    · refine lv_iconst (v := 1) hx hb dX11_of_235 (by decide) ?_
      refine lv_goto (tgt := 240) hx hb dX11_of_236 (by decide) ?_
      exact hret _ _ _ _ _ _ _ ⟨Option.some.inj h, rfl, rfl⟩ B dX11_of_240
    · refine lv_iload_n hx hb dX11_of_231 rfl (lv_at hL 0 rfl) ?_
      refine gg_if_eq hx hb 239 h dX11_of_232 (by decide) (fun h => ?_) (fun h => ?_)
      · refine lv_iconst (v := 0) hx hb dX11_of_239 (by decide) ?_
        exact hret _ _ _ _ _ _ _ ⟨Option.some.inj h, rfl, rfl⟩ B dX11_of_240
      · refine lv_iconst (v := 1) hx hb dX11_of_235 (by decide) ?_
        refine lv_goto (tgt := 240) hx hb dX11_of_236 (by decide) ?_
        exact hret _ _ _ _ _ _ _ ⟨Option.some.inj h, rfl, rfl⟩ B dX11_of_240
  · rcases g_if h with ⟨he, h⟩ | ⟨_, h⟩
    · refine lv_tableIn (off := 142) (tgt := 168) hx hb dX11_of_26 (by rw [he]; decide) (by rw [he]; decide) (by rw [he]; rfl) (by decide) ?_
      refine lv_iload_n hx hb dX11_of_168 rfl (lv_at hL 0 rfl) ?_
      refine gg_if_ne hx hb 176 h dX11_of_169 (by decide) (fun h => ?_) (fun h => ?_)
      · refine lv_iload_n hx hb dX11_of_176 rfl (lv_at hL 1 rfl) ?_
        refine lv_iload_n hx hb dX11_of_177 rfl (lv_at hL 0 rfl) ?_
        refine mm_nz h (fun hnz h => ?_)
        refine lv_irem hx hb dX11_of_178 hnz ?_
        exact hret _ _ _ _ _ _ _ ⟨Option.some.inj h, rfl, rfl⟩ B dX11_of_179
      · refine lv_iconst (v := 0) hx hb dX11_of_172 (by decide) ?_
        refine lv_goto (tgt := 179) hx hb dX11_of_173 (by decide) ?_
        exact hret _ _ _ _ _ _ _ ⟨Option.some.inj h, rfl, rfl⟩ B dX11_of_179
    · rcases g_if h with ⟨he, h⟩ | ⟨_, h⟩
      · refine lv_tableIn (off := 187) (tgt := 213) hx hb dX11_of_26 (by rw [he]; decide) (by rw [he]; decide) (by rw [he]; rfl) (by decide) ?_
        refine lv_iload_n hx hb dX11_of_213 rfl (lv_at hL 1 rfl) ?_
        refine gg_if_eq hx hb 225 h dX11_of_214 (by decide) (fun h => ?_) (fun h => ?_)
        · refine lv_iconst (v := 0) hx hb dX11_of_225 (by decide) ?_
          exact hret _ _ _ _ _ _ _ ⟨Option.some.inj h, rfl, rfl⟩ B dX11_of_226
        · refine lv_iload_n hx hb dX11_of_217 rfl (lv_at hL 0 rfl) ?_
          refine gg_if_eq hx hb 225 h dX11_of_218 (by decide) (fun h => ?_) (fun h => ?_)
          · refine lv_iconst (v := 0) hx hb dX11_of_225 (by decide) ?_
            exact hret _ _ _ _ _ _ _ ⟨Option.some.inj h, rfl, rfl⟩ B dX11_of_226
          · refine lv_iconst (v := 1) hx hb dX11_of_221 (by decide) ?_
            refine lv_goto (tgt := 226) hx hb dX11_of_222 (by decide) ?_
            exact hret _ _ _ _ _ _ _ ⟨Option.some.inj h, rfl, rfl⟩ B dX11_of_226
      · rcases g_if h with ⟨he, h⟩ | ⟨_, h⟩
        · refine lv_tableIn (off := 201) (tgt := 227) hx hb dX11_of_26 (by rw [he]; decide) (by rw [he]; decide) (by rw [he]; rfl) (by decide) ?_
          refine lv_iload_n hx hb dX11_of_227 rfl (lv_at hL 1 rfl) ?_
          refine gg_if_ne hx hb 235 h dX11_of_228 (by decide) (fun h => ?_) (fun h => ?_)
          · refine lv_iconst (v := 1) hx hb dX11_of_235 (by decide) ?_
            refine lv_goto (tgt := 240) hx hb dX11_of_236 (by decide) ?_
            exact hret _ _ _ _ _ _ _ ⟨Option.some.inj h, rfl, rfl⟩ B dX11_of_240
          · refine lv_iload_n hx hb dX11_of_231 rfl (lv_at hL 0 rfl) ?_
            refine gg_if_eq hx hb 239 h dX11_of_232 (by decide) (fun h => ?_) (fun h => ?_)
            · refine lv_iconst (v := 0) hx hb dX11_of_239 (by decide) ?_
              exact hret _ _ _ _ _ _ _ ⟨Option.some.inj h, rfl, rfl⟩ B dX11_of_240
            · refine lv_iconst (v := 1) hx hb dX11_of_235 (by decide) ?_
              refine lv_goto (tgt := 240) hx hb dX11_of_236 (by decide) ?_
              exact hret _ _ _ _ _ _ _ ⟨Option.some.inj h, rfl, rfl⟩ B dX11_of_240
        · rcases g_if h with ⟨he, h⟩ | ⟨_, h⟩
          · refine lv_tableIn (off := 201) (tgt := 227) hx hb dX11_of_26 (by rw [he]; decide) (by rw [he]; decide) (by rw [he]; rfl) (by decide) ?_
            refine lv_iload_n hx hb dX11_of_227 rfl (lv_at hL 1 rfl) ?_
            refine gg_if_ne hx hb 235 h dX11_of_228 (by decide) (fun h => ?_) (fun h => ?_)
            · refine lv_iconst (v := 1) hx hb dX11_of_235 (by decide) ?_
              refine lv_goto (tgt := 240) hx hb dX11_of_236 (by decide) ?_
              exact hret _ _ _ _ _ _ _ ⟨Option.some.inj h, rfl, rfl⟩ B dX11_of_240
            · refine lv_iload_n hx hb dX11_of_231 rfl (lv_at hL 0 rfl) ?_
              refine gg_if_eq hx hb 239 h dX11_of_232 (by decide) (fun h => ?_) (fun h => ?_)
              · refine lv_iconst (v := 0) hx hb dX11_of_239 (by decide) ?_
                exact hret _ _ _ _ _ _ _ ⟨Option.some.inj h, rfl, rfl⟩ B dX11_of_240
              · refine lv_iconst (v := 1) hx hb dX11_of_235 (by decide) ?_
                refine lv_goto (tgt := 240) hx hb dX11_of_236 (by decide) ?_
                exact hret _ _ _ _ _ _ _ ⟨Option.some.inj h, rfl, rfl⟩ B dX11_of_240
          · rcases g_if h with ⟨he, h⟩ | ⟨_, h⟩
            · refine lv_tableIn (off := 201) (tgt := 227) hx hb dX11_of_26 (by rw [he]; decide) (by rw [he]; decide) (by rw [he]; rfl) (by decide) ?_
              refine lv_iload_n hx hb dX11_of_227 rfl (lv_at hL 1 rfl) ?_
              refine gg_if_ne hx hb 235 h dX11_of_228 (by decide) (fun h => ?_) (fun h => ?_)
              · refine lv_iconst (v := 1) hx hb dX11_of_235 (by decide) ?_
                refine lv_goto (tgt := 240) hx hb dX11_of_236 (by decide) ?_
                exact hret _ _ _ _ _ _ _ ⟨Option.some.inj h, rfl, rfl⟩ B dX11_of_240
              · refine lv_iload_n hx hb dX11_of_231 rfl (lv_at hL 0 rfl) ?_
                refine gg_if_eq hx hb 239 h dX11_of_232 (by decide) (fun h => ?_) (fun h => ?_)
                · refine lv_iconst (v := 0) hx hb dX11_of_239 (by decide) ?_
                  exact hret _ _ _ _ _ _ _ ⟨Option.some.inj h, rfl, rfl⟩ B dX11_of_240
                · refine lv_iconst (v := 1) hx hb dX11_of_235 (by decide) ?_
                  refine lv_goto (tgt := 240) hx hb dX11_of_236 (by decide) ?_
                  exact hret _ _ _ _ _ _ _ ⟨Option.some.inj h, rfl, rfl⟩ B dX11_of_240
            · rcases g_if h with ⟨he, h⟩ | ⟨_, h⟩
              · refine lv_tableIn (off := 126) (tgt := 152) hx hb dX11_of_26 (by rw [he]; decide) (by rw [he]; decide) (by rw [he]; rfl) (by decide) ?_
                refine lv_iload_n hx hb dX11_of_152 rfl (lv_at hL 1 rfl) ?_
                refine lv_iload_n hx hb dX11_of_153 rfl (lv_at hL 0 rfl) ?_
                refine lv_imul hx hb dX11_of_154 ?_
                exact hret _ _ _ _ _ _ _ ⟨Option.some.inj h, rfl, rfl⟩ B dX11_of_155
              · rcases g_if h with ⟨he, h⟩ | ⟨_, h⟩
                · refine lv_tableIn (off := 118) (tgt := 144) hx hb dX11_of_26 (by rw [he]; decide) (by rw [he]; decide) (by rw [he]; rfl) (by decide) ?_
                  refine lv_iload_n hx hb dX11_of_144 rfl (lv_at hL 1 rfl) ?_
                  refine lv_iload_n hx hb dX11_of_145 rfl (lv_at hL 0 rfl) ?_
                  refine lv_iadd hx hb dX11_of_146 ?_
                  exact hret _ _ _ _ _ _ _ ⟨Option.some.inj h, rfl, rfl⟩ B dX11_of_147
                · rcases g_if h with ⟨he, h⟩ | ⟨_, h⟩
                  · refine lv_tableIn (off := 201) (tgt := 227) hx hb dX11_of_26 (by rw [he]; decide) (by rw [he]; decide) (by rw [he]; rfl) (by decide) ?_
                    refine lv_iload_n hx hb dX11_of_227 rfl (lv_at hL 1 rfl) ?_
                    refine gg_if_ne hx hb 235 h dX11_of_228 (by decide) (fun h => ?_) (fun h => ?_)
                    · refine lv_iconst (v := 1) hx hb dX11_of_235 (by decide) ?_
                      refine lv_goto (tgt := 240) hx hb dX11_of_236 (by decide) ?_
                      exact hret _ _ _ _ _ _ _ ⟨Option.some.inj h, rfl, rfl⟩ B dX11_of_240
                    · refine lv_iload_n hx hb dX11_of_231 rfl (lv_at hL 0 rfl) ?_
                      refine gg_if_eq hx hb 239 h dX11_of_232 (by decide) (fun h => ?_) (fun h => ?_)
                      · refine lv_iconst (v := 0) hx hb dX11_of_239 (by decide) ?_
                        exact hret _ _ _ _ _ _ _ ⟨Option.some.inj h, rfl, rfl⟩ B dX11_of_240
                      · refine lv_iconst (v := 1) hx hb dX11_of_235 (by decide) ?_
                        refine lv_goto (tgt := 240) hx hb dX11_of_236 (by decide) ?_
                        exact hret _ _ _ _ _ _ _ ⟨Option.some.inj h, rfl, rfl⟩ B dX11_of_240
                  · rcases g_if h with ⟨he, h⟩ | ⟨_, h⟩
                    · refine lv_tableIn (off := 122) (tgt := 148) hx hb dX11_of_26 (by rw [he]; decide) (by rw [he]; decide) (by rw [he]; rfl) (by decide) ?_
                      refine lv_iload_n hx hb dX11_of_148 rfl (lv_at hL 1 rfl) ?_
                      refine lv_iload_n hx hb dX11_of_149 rfl (lv_at hL 0 rfl) ?_
                      refine lv_isub hx hb dX11_of_150 ?_
                      exact hret _ _ _ _ _ _ _ ⟨Option.some.inj h, rfl, rfl⟩ B dX11_of_151
                    · rcases g_if h with ⟨he, h⟩ | ⟨_, h⟩
                      · refine lv_tableIn (off := 201) (tgt := 227) hx hb dX11_of_26 (by rw [he]; decide) (by rw [he]; decide) (by rw [he]; rfl) (by decide) ?_
                        refine lv_iload_n hx hb dX11_of_227 rfl (lv_at hL 1 rfl) ?_
                        refine gg_if_ne hx hb 235 h dX11_of_228 (by decide) (fun h => ?_) (fun h => ?_)
                        · refine lv_iconst (v := 1) hx hb dX11_of_235 (by decide) ?_
                          refine lv_goto (tgt := 240) hx hb dX11_of_236 (by decide) ?_
                          exact hret _ _ _ _ _ _ _ ⟨Option.some.inj h, rfl, rfl⟩ B dX11_of_240
                        · refine lv_iload_n hx hb dX11_of_231 rfl (lv_at hL 0 rfl) ?_
                          refine gg_if_eq hx hb 239 h dX11_of_232 (by decide) (fun h => ?_) (fun h => ?_)
                          · refine lv_iconst (v := 0) hx hb dX11_of_239 (by decide) ?_
                            exact hret _ _ _ _ _ _ _ ⟨Option.some.inj h, rfl, rfl⟩ B dX11_of_240
                          · refine lv_iconst (v := 1) hx hb dX11_of_235 (by decide) ?_
                            refine lv_goto (tgt := 240) hx hb dX11_of_236 (by decide) ?_
                            exact hret _ _ _ _ _ _ _ ⟨Option.some.inj h, rfl, rfl⟩ B dX11_of_240
                      · rcases g_if h with ⟨he, h⟩ | ⟨_, h⟩
                        · refine lv_tableIn (off := 130) (tgt := 156) hx hb dX11_of_26 (by rw [he]; decide) (by rw [he]; decide) (by rw [he]; rfl) (by decide) ?_
                          refine lv_iload_n hx hb dX11_of_156 rfl (lv_at hL 0 rfl) ?_
                          refine gg_if_ne hx hb 164 h dX11_of_157 (by decide) (fun h => ?_) (fun h => ?_)
                          · refine lv_iload_n hx hb dX11_of_164 rfl (lv_at hL 1 rfl) ?_
                            refine lv_iload_n hx hb dX11_of_165 rfl (lv_at hL 0 rfl) ?_
                            refine mm_nz h (fun hnz h => ?_)
                            refine lv_idiv hx hb dX11_of_166 hnz ?_
                            exact hret _ _ _ _ _ _ _ ⟨Option.some.inj h, rfl, rfl⟩ B dX11_of_167
                          · refine lv_iconst (v := 0) hx hb dX11_of_160 (by decide) ?_
                            refine lv_goto (tgt := 167) hx hb dX11_of_161 (by decide) ?_
                            exact hret _ _ _ _ _ _ _ ⟨Option.some.inj h, rfl, rfl⟩ B dX11_of_167
                        · rcases g_if h with ⟨he, h⟩ | ⟨_, h⟩
                          · refine lv_tableIn (off := 201) (tgt := 227) hx hb dX11_of_26 (by rw [he]; decide) (by rw [he]; decide) (by rw [he]; rfl) (by decide) ?_
                            refine lv_iload_n hx hb dX11_of_227 rfl (lv_at hL 1 rfl) ?_
                            refine gg_if_ne hx hb 235 h dX11_of_228 (by decide) (fun h => ?_) (fun h => ?_)
                            · refine lv_iconst (v := 1) hx hb dX11_of_235 (by decide) ?_
                              refine lv_goto (tgt := 240) hx hb dX11_of_236 (by decide) ?_
                              exact hret _ _ _ _ _ _ _ ⟨Option.some.inj h, rfl, rfl⟩ B dX11_of_240
                            · refine lv_iload_n hx hb dX11_of_231 rfl (lv_at hL 0 rfl) ?_
                              refine gg_if_eq hx hb 239 h dX11_of_232 (by decide) (fun h => ?_) (fun h => ?_)
                              · refine lv_iconst (v := 0) hx hb dX11_of_239 (by decide) ?_
                                exact hret _ _ _ _ _ _ _ ⟨Option.some.inj h, rfl, rfl⟩ B dX11_of_240
                              · refine lv_iconst (v := 1) hx hb dX11_of_235 (by decide) ?_
                                refine lv_goto (tgt := 240) hx hb dX11_of_236 (by decide) ?_
                                exact hret _ _ _ _ _ _ _ ⟨Option.some.inj h, rfl, rfl⟩ B dX11_of_240
                          · rcases g_if h with ⟨he, h⟩ | ⟨_, h⟩
                            · refine lv_tableIn (off := 201) (tgt := 227) hx hb dX11_of_26 (by rw [he]; decide) (by rw [he]; decide) (by rw [he]; rfl) (by decide) ?_
                              refine lv_iload_n hx hb dX11_of_227 rfl (lv_at hL 1 rfl) ?_
                              refine gg_if_ne hx hb 235 h dX11_of_228 (by decide) (fun h => ?_) (fun h => ?_)
                              · refine lv_iconst (v := 1) hx hb dX11_of_235 (by decide) ?_
                                refine lv_goto (tgt := 240) hx hb dX11_of_236 (by decide) ?_
                                exact hret _ _ _ _ _ _ _ ⟨Option.some.inj h, rfl, rfl⟩ B dX11_of_240
                              · refine lv_iload_n hx hb dX11_of_231 rfl (lv_at hL 0 rfl) ?_
                                refine gg_if_eq hx hb 239 h dX11_of_232 (by decide) (fun h => ?_) (fun h => ?_)
                                · refine lv_iconst (v := 0) hx hb dX11_of_239 (by decide) ?_
                                  exact hret _ _ _ _ _ _ _ ⟨Option.some.inj h, rfl, rfl⟩ B dX11_of_240
                                · refine lv_iconst (v := 1) hx hb dX11_of_235 (by decide) ?_
                                  refine lv_goto (tgt := 240) hx hb dX11_of_236 (by decide) ?_
                                  exact hret _ _ _ _ _ _ _ ⟨Option.some.inj h, rfl, rfl⟩ B dX11_of_240
                            · rcases g_if h with ⟨he, h⟩ | ⟨_, h⟩
                              · refine lv_tableIn (off := 201) (tgt := 227) hx hb dX11_of_26 (by rw [he]; decide) (by rw [he]; decide) (by rw [he]; rfl) (by decide) ?_
                                refine lv_iload_n hx hb dX11_of_227 rfl (lv_at hL 1 rfl) ?_
                                refine gg_if_ne hx hb 235 h dX11_of_228 (by decide) (fun h => ?_) (fun h => ?_)
                                · refine lv_iconst (v := 1) hx hb dX11_of_235 (by decide) ?_
                                  refine lv_goto (tgt := 240) hx hb dX11_of_236 (by decide) ?_
                                  exact hret _ _ _ _ _ _ _ ⟨Option.some.inj h, rfl, rfl⟩ B dX11_of_240
                                · refine lv_iload_n hx hb dX11_of_231 rfl (lv_at hL 0 rfl) ?_
                                  refine gg_if_eq hx hb 239 h dX11_of_232 (by decide) (fun h => ?_) (fun h => ?_)
                                  · refine lv_iconst (v := 0) hx hb dX11_of_239 (by decide) ?_
                                    exact hret _ _ _ _ _ _ _ ⟨Option.some.inj h, rfl, rfl⟩ B dX11_of_240
                                  · refine lv_iconst (v := 1) hx hb dX11_of_235 (by decide) ?_
                                    refine lv_goto (tgt := 240) hx hb dX11_of_236 (by decide) ?_
                                    exact hret _ _ _ _ _ _ _ ⟨Option.some.inj h, rfl, rfl⟩ B dX11_of_240
                              · rcases g_if h with ⟨he, h⟩ | ⟨_, h⟩
                                · refine lv_tableIn (off := 201) (tgt := 227) hx hb dX11_of_26 (by rw [he]; decide) (by rw [he]; decide) (by rw [he]; rfl) (by decide) ?_
                                  refine lv_iload_n hx hb dX11_of_227 rfl (lv_at hL 1 rfl) ?_
                                  refine gg_if_ne hx hb 235 h dX11_of_228 (by decide) (fun h => ?_) (fun h => ?_)
                                  · refine lv_iconst (v := 1) hx hb dX11_of_235 (by decide) ?_
                                    refine lv_goto (tgt := 240) hx hb dX11_of_236 (by decide) ?_
                                    exact hret _ _ _ _ _ _ _ ⟨Option.some.inj h, rfl, rfl⟩ B dX11_of_240
                                  · refine lv_iload_n hx hb dX11_of_231 rfl (lv_at hL 0 rfl) ?_
                                    refine gg_if_eq hx hb 239 h dX11_of_232 (by decide) (fun h => ?_) (fun h => ?_)
                                    · refine lv_iconst (v := 0) hx hb dX11_of_239 (by decide) ?_
                                      exact hret _ _ _ _ _ _ _ ⟨Option.some.inj h, rfl, rfl⟩ B dX11_of_240
                                    · refine lv_iconst (v := 1) hx hb dX11_of_235 (by decide) ?_
                                      refine lv_goto (tgt := 240) hx hb dX11_of_236 (by decide) ?_
                                      exact hret _ _ _ _ _ _ _ ⟨Option.some.inj h, rfl, rfl⟩ B dX11_of_240
                                · rcases g_if h with ⟨he, h⟩ | ⟨_, h⟩
                                  · refine lv_tableIn (off := 201) (tgt := 227) hx hb dX11_of_26 (by rw [he]; decide) (by rw [he]; decide) (by rw [he]; rfl) (by decide) ?_
                                    refine lv_iload_n hx hb dX11_of_227 rfl (lv_at hL 1 rfl) ?_
                                    refine gg_if_ne hx hb 235 h dX11_of_228 (by decide) (fun h => ?_) (fun h => ?_)
                                    · refine lv_iconst (v := 1) hx hb dX11_of_235 (by decide) ?_
                                      refine lv_goto (tgt := 240) hx hb dX11_of_236 (by decide) ?_
                                      exact hret _ _ _ _ _ _ _ ⟨Option.some.inj h, rfl, rfl⟩ B dX11_of_240
                                    · refine lv_iload_n hx hb dX11_of_231 rfl (lv_at hL 0 rfl) ?_
                                      refine gg_if_eq hx hb 239 h dX11_of_232 (by decide) (fun h => ?_) (fun h => ?_)
                                      · refine lv_iconst (v := 0) hx hb dX11_of_239 (by decide) ?_
                                        exact hret _ _ _ _ _ _ _ ⟨Option.some.inj h, rfl, rfl⟩ B dX11_of_240
                                      · refine lv_iconst (v := 1) hx hb dX11_of_235 (by decide) ?_
                                        refine lv_goto (tgt := 240) hx hb dX11_of_236 (by decide) ?_
                                        exact hret _ _ _ _ _ _ _ ⟨Option.some.inj h, rfl, rfl⟩ B dX11_of_240
                                  · rcases g_if h with ⟨he, h⟩ | ⟨_, h⟩
                                    · refine lv_tableIn (off := 201) (tgt := 227) hx hb dX11_of_26 (by rw [he]; decide) (by rw [he]; decide) (by rw [he]; rfl) (by decide) ?_
                                      refine lv_iload_n hx hb dX11_of_227 rfl (lv_at hL 1 rfl) ?_
                                      refine gg_if_ne hx hb 235 h dX11_of_228 (by decide) (fun h => ?_) (fun h => ?_)
                                      · refine lv_iconst (v := 1) hx hb dX11_of_235 (by decide) ?_
                                        refine lv_goto (tgt := 240) hx hb dX11_of_236 (by decide) ?_
                                        exact hret _ _ _ _ _ _ _ ⟨Option.some.inj h, rfl, rfl⟩ B dX11_of_240
                                      · refine lv_iload_n hx hb dX11_of_231 rfl (lv_at hL 0 rfl) ?_
                                        refine gg_if_eq hx hb 239 h dX11_of_232 (by decide) (fun h => ?_) (fun h => ?_)
                                        · refine lv_iconst (v := 0) hx hb dX11_of_239 (by decide) ?_
                                          exact hret _ _ _ _ _ _ _ ⟨Option.some.inj h, rfl, rfl⟩ B dX11_of_240
                                        · refine lv_iconst (v := 1) hx hb dX11_of_235 (by decide) ?_
                                          refine lv_goto (tgt := 240) hx hb dX11_of_236 (by decide) ?_
                                          exact hret _ _ _ _ _ _ _ ⟨Option.some.inj h, rfl, rfl⟩ B dX11_of_240
                                    · rcases g_if h with ⟨he, h⟩ | ⟨_, h⟩
                                      · refine lv_tableIn (off := 201) (tgt := 227) hx hb dX11_of_26 (by rw [he]; decide) (by rw [he]; decide) (by rw [he]; rfl) (by decide) ?_
                                        refine lv_iload_n hx hb dX11_of_227 rfl (lv_at hL 1 rfl) ?_
                                        refine gg_if_ne hx hb 235 h dX11_of_228 (by decide) (fun h => ?_) (fun h => ?_)
                                        · refine lv_iconst (v := 1) hx hb dX11_of_235 (by decide) ?_
                                          refine lv_goto (tgt := 240) hx hb dX11_of_236 (by decide) ?_
                                          exact hret _ _ _ _ _ _ _ ⟨Option.some.inj h, rfl, rfl⟩ B dX11_of_240
                                        · refine lv_iload_n hx hb dX11_of_231 rfl (lv_at hL 0 rfl) ?_
                                          refine gg_if_eq hx hb 239 h dX11_of_232 (by decide) (fun h => ?_) (fun h => ?_)
                                          · refine lv_iconst (v := 0) hx hb dX11_of_239 (by decide) ?_
                                            exact hret _ _ _ _ _ _ _ ⟨Option.some.inj h, rfl, rfl⟩ B dX11_of_240
                                          · refine lv_iconst (v := 1) hx hb dX11_of_235 (by decide) ?_
                                            refine lv_goto (tgt := 240) hx hb dX11_of_236 (by decide) ?_
                                            exact hret _ _ _ _ _ _ _ ⟨Option.some.inj h, rfl, rfl⟩ B dX11_of_240
                                      · rcases g_if h with ⟨he, h⟩ | ⟨_, h⟩
                                        · refine lv_tableIn (off := 201) (tgt := 227) hx hb dX11_of_26 (by rw [he]; decide) (by rw [he]; decide) (by rw [he]; rfl) (by decide) ?_
                                          refine lv_iload_n hx hb dX11_of_227 rfl (lv_at hL 1 rfl) ?_
                                          refine gg_if_ne hx hb 235 h dX11_of_228 (by decide) (fun h => ?_) (fun h => ?_)
                                          · refine lv_iconst (v := 1) hx hb dX11_of_235 (by decide) ?_
                                            refine lv_goto (tgt := 240) hx hb dX11_of_236 (by decide) ?_
                                            exact hret _ _ _ _ _ _ _ ⟨Option.some.inj h, rfl, rfl⟩ B dX11_of_240
                                          · refine lv_iload_n hx hb dX11_of_231 rfl (lv_at hL 0 rfl) ?_
                                            refine gg_if_eq hx hb 239 h dX11_of_232 (by decide) (fun h => ?_) (fun h => ?_)
                                            · refine lv_iconst (v := 0) hx hb dX11_of_239 (by decide) ?_
                                              exact hret _ _ _ _ _ _ _ ⟨Option.some.inj h, rfl, rfl⟩ B dX11_of_240
                                            · refine lv_iconst (v := 1) hx hb dX11_of_235 (by decide) ?_
                                              refine lv_goto (tgt := 240) hx hb dX11_of_236 (by decide) ?_
                                              exact hret _ _ _ _ _ _ _ ⟨Option.some.inj h, rfl, rfl⟩ B dX11_of_240
                                        · rcases g_if h with ⟨he, h⟩ | ⟨_, h⟩
                                          · refine lv_tableIn (off := 201) (tgt := 227) hx hb dX11_of_26 (by rw [he]; decide) (by rw [he]; decide) (by rw [he]; rfl) (by decide) ?_
                                            refine lv_iload_n hx hb dX11_of_227 rfl (lv_at hL 1 rfl) ?_
                                            refine gg_if_ne hx hb 235 h dX11_of_228 (by decide) (fun h => ?_) (fun h => ?_)
                                            · refine lv_iconst (v := 1) hx hb dX11_of_235 (by decide) ?_
                                              refine lv_goto (tgt := 240) hx hb dX11_of_236 (by decide) ?_
                                              exact hret _ _ _ _ _ _ _ ⟨Option.some.inj h, rfl, rfl⟩ B dX11_of_240
                                            · refine lv_iload_n hx hb dX11_of_231 rfl (lv_at hL 0 rfl) ?_
                                              refine gg_if_eq hx hb 239 h dX11_of_232 (by decide) (fun h => ?_) (fun h => ?_)
                                              · refine lv_iconst (v := 0) hx hb dX11_of_239 (by decide) ?_
                                                exact hret _ _ _ _ _ _ _ ⟨Option.some.inj h, rfl, rfl⟩ B dX11_of_240
                                              · refine lv_iconst (v := 1) hx hb dX11_of_235 (by decide) ?_
                                                refine lv_goto (tgt := 240) hx hb dX11_of_236 (by decide) ?_
                                                exact hret _ _ _ _ _ _ _ ⟨Option.some.inj h, rfl, rfl⟩ B dX11_of_240
                                          · rcases g_if h with ⟨he, h⟩ | ⟨_, h⟩
                                            · refine lv_tableIn (off := 201) (tgt := 227) hx hb dX11_of_26 (by rw [he]; decide) (by rw [he]; decide) (by rw [he]; rfl) (by decide) ?_
                                              refine lv_iload_n hx hb dX11_of_227 rfl (lv_at hL 1 rfl) ?_
                                              refine gg_if_ne hx hb 235 h dX11_of_228 (by decide) (fun h => ?_) (fun h => ?_)
                                              · refine lv_iconst (v := 1) hx hb dX11_of_235 (by decide) ?_
                                                refine lv_goto (tgt := 240) hx hb dX11_of_236 (by decide) ?_
                                                exact hret _ _ _ _ _ _ _ ⟨Option.some.inj h, rfl, rfl⟩ B dX11_of_240
                                              · refine lv_iload_n hx hb dX11_of_231 rfl (lv_at hL 0 rfl) ?_
                                                refine gg_if_eq hx hb 239 h dX11_of_232 (by decide) (fun h => ?_) (fun h => ?_)
                                                · refine lv_iconst (v := 0) hx hb dX11_of_239 (by decide) ?_
                                                  exact hret _ _ _ _ _ _ _ ⟨Option.some.inj h, rfl, rfl⟩ B dX11_of_240
                                                · refine lv_iconst (v := 1) hx hb dX11_of_235 (by decide) ?_
                                                  refine lv_goto (tgt := 240) hx hb dX11_of_236 (by decide) ?_
                                                  exact hret _ _ _ _ _ _ _ ⟨Option.some.inj h, rfl, rfl⟩ B dX11_of_240
                                            · rcases g_if h with ⟨he, h⟩ | ⟨_, h⟩
                                              · refine lv_tableIn (off := 201) (tgt := 227) hx hb dX11_of_26 (by rw [he]; decide) (by rw [he]; decide) (by rw [he]; rfl) (by decide) ?_
                                                refine lv_iload_n hx hb dX11_of_227 rfl (lv_at hL 1 rfl) ?_
                                                refine gg_if_ne hx hb 235 h dX11_of_228 (by decide) (fun h => ?_) (fun h => ?_)
                                                · refine lv_iconst (v := 1) hx hb dX11_of_235 (by decide) ?_
                                                  refine lv_goto (tgt := 240) hx hb dX11_of_236 (by decide) ?_
                                                  exact hret _ _ _ _ _ _ _ ⟨Option.some.inj h, rfl, rfl⟩ B dX11_of_240
                                                · refine lv_iload_n hx hb dX11_of_231 rfl (lv_at hL 0 rfl) ?_
                                                  refine gg_if_eq hx hb 239 h dX11_of_232 (by decide) (fun h => ?_) (fun h => ?_)
                                                  · refine lv_iconst (v := 0) hx hb dX11_of_239 (by decide) ?_
                                                    exact hret _ _ _ _ _ _ _ ⟨Option.some.inj h, rfl, rfl⟩ B dX11_of_240
                                                  · refine lv_iconst (v := 1) hx hb dX11_of_235 (by decide) ?_
                                                    refine lv_goto (tgt := 240) hx hb dX11_of_236 (by decide) ?_
                                                    exact hret _ _ _ _ _ _ _ ⟨Option.some.inj h, rfl, rfl⟩ B dX11_of_240
                                              · rcases g_if h with ⟨he, h⟩ | ⟨_, h⟩
                                                · refine lv_tableIn (off := 201) (tgt := 227) hx hb dX11_of_26 (by rw [he]; decide) (by rw [he]; decide) (by rw [he]; rfl) (by decide) ?_
                                                  refine lv_iload_n hx hb dX11_of_227 rfl (lv_at hL 1 rfl) ?_
                                                  refine gg_if_ne hx hb 235 h dX11_of_228 (by decide) (fun h => ?_) (fun h => ?_)
                                                  · refine lv_iconst (v := 1) hx hb dX11_of_235 (by decide) ?_
                                                    refine lv_goto (tgt := 240) hx hb dX11_of_236 (by decide) ?_
                                                    exact hret _ _ _ _ _ _ _ ⟨Option.some.inj h, rfl, rfl⟩ B dX11_of_240
                                                  · refine lv_iload_n hx hb dX11_of_231 rfl (lv_at hL 0 rfl) ?_
                                                    refine gg_if_eq hx hb 239 h dX11_of_232 (by decide) (fun h => ?_) (fun h => ?_)
                                                    · refine lv_iconst (v := 0) hx hb dX11_of_239 (by decide) ?_
                                                      exact hret _ _ _ _ _ _ _ ⟨Option.some.inj h, rfl, rfl⟩ B dX11_of_240
                                                    · refine lv_iconst (v := 1) hx hb dX11_of_235 (by decide) ?_
                                                      refine lv_goto (tgt := 240) hx hb dX11_of_236 (by decide) ?_
                                                      exact hret _ _ _ _ _ _ _ ⟨Option.some.inj h, rfl, rfl⟩ B dX11_of_240
                                                · rcases g_if h with ⟨he, h⟩ | ⟨_, h⟩
                                                  · refine lv_tableIn (off := 154) (tgt := 180) hx hb dX11_of_26 (by rw [he]; decide) (by rw [he]; decide) (by rw [he]; rfl) (by decide) ?_
                                                    refine lv_iload_n hx hb dX11_of_180 rfl (lv_at hL 1 rfl) ?_
                                                    refine lv_iload_n hx hb dX11_of_181 rfl (lv_at hL 0 rfl) ?_
                                                    refine gg_icmp_ge hx hb 189 h dX11_of_182 (by decide) (fun h => ?_) (fun h => ?_)
                                                    · refine lv_iconst (v := 0) hx hb dX11_of_189 (by decide) ?_
                                                      exact hret _ _ _ _ _ _ _ ⟨Option.some.inj h, rfl, rfl⟩ B dX11_of_190
                                                    · refine lv_iconst (v := 1) hx hb dX11_of_185 (by decide) ?_
                                                      refine lv_goto (tgt := 190) hx hb dX11_of_186 (by decide) ?_
                                                      exact hret _ _ _ _ _ _ _ ⟨Option.some.inj h, rfl, rfl⟩ B dX11_of_190
                                                  · rcases g_if h with ⟨he, h⟩ | ⟨_, h⟩
                                                    · refine lv_tableIn (off := 176) (tgt := 202) hx hb dX11_of_26 (by rw [he]; decide) (by rw [he]; decide) (by rw [he]; rfl) (by decide) ?_
                                                      refine lv_iload_n hx hb dX11_of_202 rfl (lv_at hL 1 rfl) ?_
                                                      refine lv_iload_n hx hb dX11_of_203 rfl (lv_at hL 0 rfl) ?_
                                                      refine gg_icmp_ne hx hb 211 h dX11_of_204 (by decide) (fun h => ?_) (fun h => ?_)
                                                      · refine lv_iconst (v := 0) hx hb dX11_of_211 (by decide) ?_
                                                        exact hret _ _ _ _ _ _ _ ⟨Option.some.inj h, rfl, rfl⟩ B dX11_of_212
                                                      · refine lv_iconst (v := 1) hx hb dX11_of_207 (by decide) ?_
                                                        refine lv_goto (tgt := 212) hx hb dX11_of_208 (by decide) ?_
                                                        exact hret _ _ _ _ _ _ _ ⟨Option.some.inj h, rfl, rfl⟩ B dX11_of_212
                                                    · rcases g_if h with ⟨he, h⟩ | ⟨_, h⟩
                                                      · refine lv_tableIn (off := 165) (tgt := 191) hx hb dX11_of_26 (by rw [he]; decide) (by rw [he]; decide) (by rw [he]; rfl) (by decide) ?_
                                                        refine lv_iload_n hx hb dX11_of_191 rfl (lv_at hL 1 rfl) ?_
                                                        refine lv_iload_n hx hb dX11_of_192 rfl (lv_at hL 0 rfl) ?_
                                                        refine gg_icmp_le hx hb 200 h dX11_of_193 (by decide) (fun h => ?_) (fun h => ?_)
                                                        · refine lv_iconst (v := 0) hx hb dX11_of_200 (by decide) ?_
                                                          exact hret _ _ _ _ _ _ _ ⟨Option.some.inj h, rfl, rfl⟩ B dX11_of_201
                                                        · refine lv_iconst (v := 1) hx hb dX11_of_196 (by decide) ?_
                                                          refine lv_goto (tgt := 201) hx hb dX11_of_197 (by decide) ?_
                                                          exact hret _ _ _ _ _ _ _ ⟨Option.some.inj h, rfl, rfl⟩ B dX11_of_201
                                                      · cases h
def f_X9_of_b (fo : HK → GI → GR → Nat → Nat → Option Int32) (hk : HK) (gi : GI) (gr : GR) (a0 : Nat) (a1 : Nat) : Option (Int32) :=
  (gr a0 0).bind fun v1 =>
  (fo hk gi gr v1 a1).bind fun v3 =>
  if v3 = 0 then
  (some 1)
  else
  (some 0)
set_option maxHeartbeats 400000 in
theorem wb_X9_of (l : Launch) (D : va_G) (cA : Nat → ClassId) (ad : Nat → Nat) (hk : HK) (nx : Nat) (fo : HK → GI → GR → Nat → Nat → Option Int32) (fr lo : Nat) (hfr : 1 ≤ fr) (hlo : 64 ≤ lo) (gi : GI) (gr : GR) (a0 : Nat) (ht : (hk a0).1 = 18) (hfo : ∀ (q b : Nat) (v : Int32), fo hk gi gr q b = some v → OfOk l D cA ad hk nx gi gr fr lo q b v) (a1 : Nat) (r : Int32) (h : f_X9_of_b fo hk gi gr a0 a1 = some r) (sz : Nat) : Met l yX9_of (ws_ yX9_of cX9_of 2 (some .int)) ({ frames := fr + 1, cells := 0, slots := 0, locals := lo + 30 } : Room) (va_Pc [.ref (ad a0), .ref (ad a1)] (XPre D cA ad hk nx gi gr sz)) (va_Qi (fun v u => v = r ∧ u.1 = gi ∧ u.2 = gr) (XPost D cA ad hk nx) (XA ad nx sz)) 0 0 (XA ad nx sz) := by
  refine xx_stI (own := RX9) (P := (fun v u => v = r ∧ u.1 = gi ∧ u.2 = gr)) (by decide +kernel) rfl (Nat.le_of_ble_eq_true rfl) (fun p e s m args below meth c R Q A ls C hF hN B hret hL => ?_) sz
  have hx := C.1
  have hb := C.2.1
  have hL : lv_has ls 2 [(0, .ref (ad a0)), (1, .ref (ad a1))] := hL
  unfold f_X9_of_b at h
  refine lv_aload_n hx hb dX9_of_0 rfl (lv_at hL 0 rfl) ?_
  refine xx_gr (ci := 8) (k := 0) C B xc_8 ht (by decide) (Nat.le_of_ble_eq_true rfl) rfl q1160 (fun _ h => h) h dX9_of_1 (fun v1 ok2 h => ?_)
  refine lv_aload_n hx hb dX9_of_4 rfl (lv_at hL 1 rfl) ?_
  refine k_of C B (fun v h => hfo _ _ v h) q1308 (by omega) (by omega) (by omega) hL.1 (Nat.le_of_ble_eq_true rfl) ⟨Nat.zero_le _, Nat.zero_le _⟩ h dX9_of_5 (fun v3 h H locs B => ?_)
  refine gg_if_ne hx hb 17 h dX9_of_10 (by decide) (fun h => ?_) (fun h => ?_)
  · refine lv_iconst (v := 0) hx hb dX9_of_17 (by decide) ?_
    exact hret _ _ _ _ _ _ _ ⟨Option.some.inj h, rfl, rfl⟩ B dX9_of_18
  · refine lv_iconst (v := 1) hx hb dX9_of_13 (by decide) ?_
    refine lv_goto (tgt := 18) hx hb dX9_of_14 (by decide) ?_
    exact hret _ _ _ _ _ _ _ ⟨Option.some.inj h, rfl, rfl⟩ B dX9_of_18
/-- a node's answer, d deep -/
def f_of_b (fo : HK → GI → GR → Nat → Nat → Option Int32) (hk : HK) (gi : GI) (gr : GR) (q b : Nat) : Option Int32 :=
  if (hk q).1 = 19 then f_X10_of_b fo hk gi gr q b
  else if (hk q).1 = 18 then f_X9_of_b fo hk gi gr q b
  else if (hk q).1 = 20 then f_X11_of_b fo hk gi gr q b
  else if 1000000 ≤ q ∧ q < 1000006 ∧ (hk b).1 = 12 then some (gi b (q - 1000000))
  else none
def f_of : Nat → HK → GI → GR → Nat → Nat → Option Int32
  | 0 => fun _ _ _ _ _ => none
  | d + 1 => f_of_b (f_of d)
theorem w_of (l : Launch) (D : va_G) (cA : Nat → ClassId) (ad : Nat → Nat) (hk : HK) (nx : Nat) (gi : GI) (gr : GR) : ∀ (d q b : Nat) (v : Int32), f_of d hk gi gr q b = some v → OfOk l D cA ad hk nx gi gr (1 + d) (64 + 30 * d) q b v := by
  intro d
  induction d with
  | zero => intro q b v h; cases h
  | succ d ih =>
    intro q b v h
    have h : f_of_b (f_of d) hk gi gr q b = some v := h
    unfold f_of_b at h
    rcases g_if h with ⟨hc, h⟩ | ⟨_, h⟩
    · exact Or.inl ⟨hc, fun sz => wb_X10_of l D cA ad hk nx (f_of d) (1 + d) (64 + 30 * d) (by omega) (by omega) gi gr q hc ih b v h sz⟩
    · rcases g_if h with ⟨hc, h⟩ | ⟨_, h⟩
      · exact Or.inr (Or.inl ⟨hc, fun sz => wb_X9_of l D cA ad hk nx (f_of d) (1 + d) (64 + 30 * d) (by omega) (by omega) gi gr q hc ih b v h sz⟩)
      · rcases g_if h with ⟨hc, h⟩ | ⟨_, h⟩
        · exact Or.inr (Or.inr (Or.inl ⟨hc, fun sz => wb_X11_of l D cA ad hk nx (f_of d) (1 + d) (64 + 30 * d) (by omega) (by omega) gi gr q hc ih b v h sz⟩))
        · rcases g_if h with ⟨hc, h⟩ | ⟨_, h⟩
          · exact Or.inr (Or.inr (Or.inr ⟨q - 1000000, by omega, by omega, hc.2.2, (Option.some.inj h).symm⟩))
          · cases h
def f_X1_growth_j109 (hk : HK) (grj109 : GR) (gij109 : GI) (x6j109 : Int32) : Option (Int32 × GI) :=
  some (if ((-20)) < (if x6j109 < 20 then x6j109 else 20) then (if x6j109 < 20 then x6j109 else 20) else ((-20)), gij109)
def f_X1_growth (hk : HK) (gi : GI) (gr : GR) (a0 : Nat) (a1 : Nat) (x2 : Int32) (x3 : Int32) (x4 : Int32) : Option (Int32 × GI) :=
  (g_is hk a1 0).bind fun _ =>
  (g_ld gi a1 (hk a1).2 (3 * x2)).bind fun v2 =>
  (g_ld gi a1 (hk a1).2 ((3 * x2) + 1)).bind fun v3 =>
  (g_ld gi a1 (hk a1).2 ((3 * x2) + 2)).bind fun v4 =>
  (gr a0 5).elim
  (f_X1_growth_j109 hk gr gi ((v2 + v3) + v4))
  (fun v5 =>
  (gr a0 4).bind fun v7 =>
  (g_ld gi a1 (hk a1).2 (3 * x2)).bind fun v9 =>
  (g_is hk v7 12).bind fun _ =>
  (some (g_pi gi v7 0 v9)).bind fun gi11 =>
  (gr a0 4).bind fun v12 =>
  (g_ld gi11 a1 (hk a1).2 ((3 * x2) + 1)).bind fun v14 =>
  (g_is hk v12 12).bind fun _ =>
  (some (g_pi gi11 v12 1 v14)).bind fun gi16 =>
  (gr a0 4).bind fun v17 =>
  (g_ld gi16 a1 (hk a1).2 ((3 * x2) + 2)).bind fun v19 =>
  (g_is hk v17 12).bind fun _ =>
  (some (g_pi gi16 v17 2 v19)).bind fun gi21 =>
  (gr a0 4).bind fun v22 =>
  (g_is hk v22 12).bind fun _ =>
  (some (g_pi gi21 v22 3 x3)).bind fun gi25 =>
  (gr a0 4).bind fun v26 =>
  (g_is hk v26 12).bind fun _ =>
  (some (g_pi gi25 v26 4 x4)).bind fun gi29 =>
  (gr a0 4).bind fun v30 =>
  (g_is hk v30 12).bind fun _ =>
  (some (g_pi gi29 v30 5 x2)).bind fun gi33 =>
  (gr a0 5).bind fun v34 =>
  (gr a0 4).bind fun v36 =>
  (f_of 100 hk gi33 gr v34 v36).bind fun v38 =>
  f_X1_growth_j109 hk gr gi33 v38)
set_option maxHeartbeats 400000 in
theorem w_X1_growth (l : Launch) (D : va_G) (cA : Nat → ClassId) (ad : Nat → Nat) (hk : HK) (nx : Nat) (gi : GI) (gr : GR) (a0 : Nat) (a1 : Nat) (x2 : Int32) (x3 : Int32) (x4 : Int32) (ht : (hk a0).1 = 11) (r : Int32 × GI) (h : f_X1_growth hk gi gr a0 a1 x2 x3 x4 = some r) (sz : Nat) : Met l yX1_growth (ws_ yX1_growth cX1_growth 7 (some .int)) ({ frames := 103, cells := 0, slots := 0, locals := 3094 } : Room) (va_Pc [.ref (ad a0), .ref (ad a1), .int x2, .int x3, .int x4] (XPre D cA ad hk nx gi gr sz)) (va_Qi (fun v u => (v, u.1) = r ∧ u.2 = gr) (XPost D cA ad hk nx) (XA ad nx sz)) 0 0 (XA ad nx sz) := by
  refine xx_stI (own := RX1) (P := (fun v u => (v, u.1) = r ∧ u.2 = gr)) (by decide +kernel) rfl (Nat.le_of_ble_eq_true rfl) (fun p e s m args below meth c R Q A ls C hF hN B hret hL => ?_) sz
  have hx := C.1
  have hb := C.2.1
  have hL : lv_has ls 7 [(0, .ref (ad a0)), (1, .ref (ad a1)), (2, .int x2), (3, .int x3), (4, .int x4)] := hL
  unfold f_X1_growth at h
  have hj109 : ∀ (gij109 : GI) (x6j109 : Int32) (H : Heap) (locs : List Loc) (ls : Array Slot), f_X1_growth_j109 hk gr gij109 x6j109 = some r → XB D cA ad hk nx A s gij109 gr H locs → lv_has ls 7 [(6, .int x6j109)] → W p l e R s m args below meth c H locs 0 0 Q (F0 m 109 ls []) := by
    intro gij109 x6j109 H locs ls h B hL
    unfold f_X1_growth_j109 at h
    refine lv_bipush (v := (-20)) hx hb dX1_growth_109 (by decide) ?_
    refine lv_bipush (v := 20) hx hb dX1_growth_111 (by decide) ?_
    refine lv_iload hx hb dX1_growth_113 (lv_at hL 0 rfl) ?_
    refine xx_min C q1323 q592 q157 q593 (Nat.le_trans (Nat.le_of_ble_eq_true rfl) hF) (Nat.le_trans (Nat.le_of_ble_eq_true rfl) hN) hL.1 (Nat.le_of_ble_eq_true rfl) ⟨Nat.zero_le _, Nat.zero_le _⟩ dX1_growth_115 ?_
    refine xx_max C q1324 q574 q157 q575 (Nat.le_trans (Nat.le_of_ble_eq_true rfl) hF) (Nat.le_trans (Nat.le_of_ble_eq_true rfl) hN) hL.1 (Nat.le_of_ble_eq_true rfl) ⟨Nat.zero_le _, Nat.zero_le _⟩ dX1_growth_118 ?_
    exact hret _ _ _ _ _ _ _ ⟨Option.some.inj h, rfl⟩ B dX1_growth_121
  refine lv_iconst (v := 3) hx hb dX1_growth_0 (by decide) ?_
  refine lv_iload_n hx hb dX1_growth_1 rfl (lv_at hL 2 rfl) ?_
  refine lv_imul hx hb dX1_growth_2 ?_
  refine lv_istore (lv' := [(5, .int (3 * x2)), (0, .ref (ad a0)), (1, .ref (ad a1)), (2, .int x2), (3, .int x3), (4, .int x4)]) hx hb dX1_growth_3 hL (by decide) rfl (fun ls hL => ?_)
  refine lv_aload_n hx hb dX1_growth_5 rfl (lv_at hL 2 rfl) ?_
  refine lv_iload hx hb dX1_growth_6 (lv_at hL 0 rfl) ?_
  refine xx_is h (fun hp1 h => ?_)
  refine xx_iald C B hp1 h dX1_growth_8 (fun v2 h => ?_)
  refine lv_aload_n hx hb dX1_growth_9 rfl (lv_at hL 2 rfl) ?_
  refine lv_iload hx hb dX1_growth_10 (lv_at hL 0 rfl) ?_
  refine lv_iconst (v := 1) hx hb dX1_growth_12 (by decide) ?_
  refine lv_iadd hx hb dX1_growth_13 ?_
  refine xx_iald C B hp1 h dX1_growth_14 (fun v3 h => ?_)
  refine lv_iadd hx hb dX1_growth_15 ?_
  refine lv_aload_n hx hb dX1_growth_16 rfl (lv_at hL 2 rfl) ?_
  refine lv_iload hx hb dX1_growth_17 (lv_at hL 0 rfl) ?_
  refine lv_iconst (v := 2) hx hb dX1_growth_19 (by decide) ?_
  refine lv_iadd hx hb dX1_growth_20 ?_
  refine xx_iald C B hp1 h dX1_growth_21 (fun v4 h => ?_)
  refine lv_iadd hx hb dX1_growth_22 ?_
  refine lv_istore (lv' := [(6, .int ((v2 + v3) + v4)), (5, .int (3 * x2)), (0, .ref (ad a0)), (1, .ref (ad a1)), (2, .int x2), (3, .int x3), (4, .int x4)]) hx hb dX1_growth_23 hL (by decide) rfl (fun ls hL => ?_)
  refine lv_aload_n hx hb dX1_growth_25 rfl (lv_at hL 2 rfl) ?_
  refine xx_go (ci := 1) (k := 5) C B xc_1 ht (by decide) (Nat.le_of_ble_eq_true rfl) rfl q266 (fun _ h => h) dX1_growth_26 ?_
  refine xx_ifnull (o := gr a0 5) (ad := ad) hx hb 109 h dX1_growth_29 (by decide) (fun _ h => ?_) (fun v5 ho6 h => ?_)
  · exact hj109 _ _ _ _ _ h B (lv_sub hL [0] rfl)
  · refine lv_aload_n hx hb dX1_growth_32 rfl (lv_at hL 2 rfl) ?_
    refine xx_gr (ci := 1) (k := 4) C B xc_1 ht (by decide) (Nat.le_of_ble_eq_true rfl) rfl q265 (fun _ h => h) h dX1_growth_33 (fun v7 ok8 h => ?_)
    refine lv_aload_n hx hb dX1_growth_36 rfl (lv_at hL 3 rfl) ?_
    refine lv_iload hx hb dX1_growth_37 (lv_at hL 1 rfl) ?_
    refine xx_iald C B hp1 h dX1_growth_39 (fun v9 h => ?_)
    refine xx_is h (fun hp10 h => ?_)
    refine xx_pi (ci := 2) (k := 0) C B xc_2 hp10 (by decide) (Nat.le_of_ble_eq_true rfl) rfl q226 (fun _ h => h) rfl rfl rfl h dX1_growth_40 (fun gi11 h H locs B => ?_)
    refine lv_aload_n hx hb dX1_growth_43 rfl (lv_at hL 2 rfl) ?_
    refine xx_gr (ci := 1) (k := 4) C B xc_1 ht (by decide) (Nat.le_of_ble_eq_true rfl) rfl q265 (fun _ h => h) h dX1_growth_44 (fun v12 ok13 h => ?_)
    refine lv_aload_n hx hb dX1_growth_47 rfl (lv_at hL 3 rfl) ?_
    refine lv_iload hx hb dX1_growth_48 (lv_at hL 1 rfl) ?_
    refine lv_iconst (v := 1) hx hb dX1_growth_50 (by decide) ?_
    refine lv_iadd hx hb dX1_growth_51 ?_
    refine xx_iald C B hp1 h dX1_growth_52 (fun v14 h => ?_)
    refine xx_is h (fun hp15 h => ?_)
    refine xx_pi (ci := 2) (k := 1) C B xc_2 hp15 (by decide) (Nat.le_of_ble_eq_true rfl) rfl q228 (fun _ h => h) rfl rfl rfl h dX1_growth_53 (fun gi16 h H locs B => ?_)
    refine lv_aload_n hx hb dX1_growth_56 rfl (lv_at hL 2 rfl) ?_
    refine xx_gr (ci := 1) (k := 4) C B xc_1 ht (by decide) (Nat.le_of_ble_eq_true rfl) rfl q265 (fun _ h => h) h dX1_growth_57 (fun v17 ok18 h => ?_)
    refine lv_aload_n hx hb dX1_growth_60 rfl (lv_at hL 3 rfl) ?_
    refine lv_iload hx hb dX1_growth_61 (lv_at hL 1 rfl) ?_
    refine lv_iconst (v := 2) hx hb dX1_growth_63 (by decide) ?_
    refine lv_iadd hx hb dX1_growth_64 ?_
    refine xx_iald C B hp1 h dX1_growth_65 (fun v19 h => ?_)
    refine xx_is h (fun hp20 h => ?_)
    refine xx_pi (ci := 2) (k := 2) C B xc_2 hp20 (by decide) (Nat.le_of_ble_eq_true rfl) rfl q230 (fun _ h => h) rfl rfl rfl h dX1_growth_66 (fun gi21 h H locs B => ?_)
    refine lv_aload_n hx hb dX1_growth_69 rfl (lv_at hL 2 rfl) ?_
    refine xx_gr (ci := 1) (k := 4) C B xc_1 ht (by decide) (Nat.le_of_ble_eq_true rfl) rfl q265 (fun _ h => h) h dX1_growth_70 (fun v22 ok23 h => ?_)
    refine lv_iload_n hx hb dX1_growth_73 rfl (lv_at hL 5 rfl) ?_
    refine xx_is h (fun hp24 h => ?_)
    refine xx_pi (ci := 2) (k := 3) C B xc_2 hp24 (by decide) (Nat.le_of_ble_eq_true rfl) rfl q232 (fun _ h => h) rfl rfl rfl h dX1_growth_74 (fun gi25 h H locs B => ?_)
    refine lv_aload_n hx hb dX1_growth_77 rfl (lv_at hL 2 rfl) ?_
    refine xx_gr (ci := 1) (k := 4) C B xc_1 ht (by decide) (Nat.le_of_ble_eq_true rfl) rfl q265 (fun _ h => h) h dX1_growth_78 (fun v26 ok27 h => ?_)
    refine lv_iload hx hb dX1_growth_81 (lv_at hL 6 rfl) ?_
    refine xx_is h (fun hp28 h => ?_)
    refine xx_pi (ci := 2) (k := 4) C B xc_2 hp28 (by decide) (Nat.le_of_ble_eq_true rfl) rfl q234 (fun _ h => h) rfl rfl rfl h dX1_growth_83 (fun gi29 h H locs B => ?_)
    refine lv_aload_n hx hb dX1_growth_86 rfl (lv_at hL 2 rfl) ?_
    refine xx_gr (ci := 1) (k := 4) C B xc_1 ht (by decide) (Nat.le_of_ble_eq_true rfl) rfl q265 (fun _ h => h) h dX1_growth_87 (fun v30 ok31 h => ?_)
    refine lv_iload_n hx hb dX1_growth_90 rfl (lv_at hL 4 rfl) ?_
    refine xx_is h (fun hp32 h => ?_)
    refine xx_pi (ci := 2) (k := 5) C B xc_2 hp32 (by decide) (Nat.le_of_ble_eq_true rfl) rfl q236 (fun _ h => h) rfl rfl rfl h dX1_growth_91 (fun gi33 h H locs B => ?_)
    refine lv_aload_n hx hb dX1_growth_94 rfl (lv_at hL 2 rfl) ?_
    refine xx_gr (ci := 1) (k := 5) C B xc_1 ht (by decide) (Nat.le_of_ble_eq_true rfl) rfl q266 (fun _ h => h) h dX1_growth_95 (fun v34 ok35 h => ?_)
    refine lv_aload_n hx hb dX1_growth_98 rfl (lv_at hL 2 rfl) ?_
    refine xx_gr (ci := 1) (k := 4) C B xc_1 ht (by decide) (Nat.le_of_ble_eq_true rfl) rfl q265 (fun _ h => h) h dX1_growth_99 (fun v36 ok37 h => ?_)
    refine k_of C B (fun v h => w_of l D cA ad hk nx _ _ 100 _ _ v h) q1262 (Nat.le_of_ble_eq_true rfl) (Nat.le_trans (Nat.le_of_ble_eq_true rfl) hF) (Nat.le_trans (Nat.le_of_ble_eq_true rfl) hN) hL.1 (Nat.le_of_ble_eq_true rfl) ⟨Nat.zero_le _, Nat.zero_le _⟩ h dX1_growth_102 (fun v38 h H locs B => ?_)
    refine lv_istore (lv' := [(6, .int v38), (5, .int (3 * x2)), (0, .ref (ad a0)), (1, .ref (ad a1)), (2, .int x2), (3, .int x3), (4, .int x4)]) hx hb dX1_growth_107 hL (by decide) rfl (fun ls hL => ?_)
    exact hj109 _ _ _ _ _ h B (lv_sub hL [0] rfl)
theorem k_X1_growth {p : Program} {l : Launch} {e : Env} {R : Room} {s : State} {m : MethodId} {args : Array Value} {below : List Frame} {meth : Method} {c : Code} {H : Heap} {locs : List Loc} {Q : State → Prop} {pc : Nat} {ls : Array Slot} {rest : List Value} {cc : ByteArray} {nL cells slots : Nat} {D : va_G} {cA : Nat → ClassId} {ad : Nat → Nat} {hk : HK} {nx : Nat} {A : Nat → Prop} {gi : GI} {gr : GR} {α : Type} {r : α} {own : String} {idx : Nat} {a0 : Nat} {a1 : Nat} {x2 : Int32} {x3 : Int32} {x4 : Int32} {ff : (Int32 × GI) → Option α} (ht : (hk a0).1 = 11) (C : CallFix p m c cc nL s args lw_all own) (B : XB D cA ad hk nx A s gi gr H locs) (hq : Cond.methodLink own idx yX1_growth ∈ lw_all) (hF : 104 ≤ R.frames) (hN : 3120 ≤ R.locals) (hs : ls.size = nL) (hw : (rest.map fun v => v.category).sum ≤ 8) (hz0 : cells ≤ R.cells ∧ slots ≤ R.slots) (h : (f_X1_growth hk gi gr a0 a1 x2 x3 x4).bind ff = some r) (hdg : decode cc pc = .ok (.invokevirtual idx, 3)) (kk : ∀ q, ff q = some r → ∀ (H' : Heap) (locs' : List Loc), XB D cA ad hk nx A s q.2 gr H' locs' → W p l e R s m args below meth c H' locs' cells slots Q (F0 m (pc + 3) ls (.int q.1 :: rest))) : W p l e R s m args below meth c H locs cells slots Q (F0 m pc ls (.int x4 :: .int x3 :: .int x2 :: .ref (ad a1) :: .ref (ad a0) :: rest)) := by
  obtain ⟨q, h1, h2⟩ := g_ob h
  refine xx_cVI (As := [.ref (ad a1), .int x2, .int x3, .int x4]) (rest := rest) (n := 4) xc_1 ht (by decide) C B (fun sz => w_X1_growth l D cA ad hk nx gi gr a0 a1 x2 x3 x4 ht q h1 sz) hq q1258 q1259 q142 q1260 (by decide +kernel) ⟨hF, hN⟩ rfl hs hw hz0 hdg (fun v u H9 locs9 hp B9 => ?_)
  obtain ⟨e1, e3⟩ := hp
  rw [e3] at B9
  subst e1
  exact kk _ h2 H9 locs9 B9
def f_X3_growth (hk : HK) (gi : GI) (gr : GR) (a0 : Nat) (a1 : Nat) (x2 : Int32) : Option (Int32 × GI) :=
  (gr a0 1).bind fun v1 =>
  (gr a0 2).bind fun v3 =>
  (g_is hk v3 0).bind fun _ =>
  (g_ld gi v3 (hk v3).2 x2).bind fun v6 =>
  (g_is hk a1 11).bind fun _ =>
  (f_X1_growth hk gi gr a1 v1 x2 v6 (gi a0 4)).bind fun q8 =>
  some (q8.1, q8.2)
set_option maxHeartbeats 400000 in
theorem w_X3_growth (l : Launch) (D : va_G) (cA : Nat → ClassId) (ad : Nat → Nat) (hk : HK) (nx : Nat) (gi : GI) (gr : GR) (a0 : Nat) (a1 : Nat) (x2 : Int32) (ht : (hk a0).1 = 13) (r : Int32 × GI) (h : f_X3_growth hk gi gr a0 a1 x2 = some r) (sz : Nat) : Met l yX3_growth (ws_ yX3_growth cX3_growth 3 (some .int)) ({ frames := 104, cells := 0, slots := 0, locals := 3120 } : Room) (va_Pc [.ref (ad a0), .ref (ad a1), .int x2] (XPre D cA ad hk nx gi gr sz)) (va_Qi (fun v u => (v, u.1) = r ∧ u.2 = gr) (XPost D cA ad hk nx) (XA ad nx sz)) 0 0 (XA ad nx sz) := by
  refine xx_stI (own := RX3) (P := (fun v u => (v, u.1) = r ∧ u.2 = gr)) (by decide +kernel) rfl (Nat.le_of_ble_eq_true rfl) (fun p e s m args below meth c R Q A ls C hF hN B hret hL => ?_) sz
  have hx := C.1
  have hb := C.2.1
  have hL : lv_has ls 3 [(0, .ref (ad a0)), (1, .ref (ad a1)), (2, .int x2)] := hL
  unfold f_X3_growth at h
  refine lv_aload_n hx hb dX3_growth_0 rfl (lv_at hL 1 rfl) ?_
  refine lv_aload_n hx hb dX3_growth_1 rfl (lv_at hL 0 rfl) ?_
  refine xx_gr (ci := 3) (k := 1) C B xc_3 ht (by decide) (Nat.le_of_ble_eq_true rfl) rfl q306 (fun _ h => h) h dX3_growth_2 (fun v1 ok2 h => ?_)
  refine lv_iload_n hx hb dX3_growth_5 rfl (lv_at hL 2 rfl) ?_
  refine lv_aload_n hx hb dX3_growth_6 rfl (lv_at hL 0 rfl) ?_
  refine xx_gr (ci := 3) (k := 2) C B xc_3 ht (by decide) (Nat.le_of_ble_eq_true rfl) rfl q308 (fun _ h => h) h dX3_growth_7 (fun v3 ok4 h => ?_)
  refine lv_iload_n hx hb dX3_growth_10 rfl (lv_at hL 2 rfl) ?_
  refine xx_is h (fun hp5 h => ?_)
  refine xx_iald C B hp5 h dX3_growth_11 (fun v6 h => ?_)
  refine lv_aload_n hx hb dX3_growth_12 rfl (lv_at hL 0 rfl) ?_
  refine xx_gi (ci := 3) (k := 4) C B xc_3 ht (by decide) (Nat.le_of_ble_eq_true rfl) rfl q312 (fun _ h => h) dX3_growth_13 ?_
  refine xx_is h (fun hp7 h => ?_)
  refine k_X1_growth hp7 C B q1257 (Nat.le_trans (Nat.le_of_ble_eq_true rfl) hF) (Nat.le_trans (Nat.le_of_ble_eq_true rfl) hN) hL.1 (Nat.le_of_ble_eq_true rfl) ⟨Nat.zero_le _, Nat.zero_le _⟩ h dX3_growth_16 (fun q8 h H locs B => ?_)
  exact hret _ _ _ _ _ _ _ ⟨Option.some.inj h, rfl⟩ B dX3_growth_19
theorem k_X3_growth {p : Program} {l : Launch} {e : Env} {R : Room} {s : State} {m : MethodId} {args : Array Value} {below : List Frame} {meth : Method} {c : Code} {H : Heap} {locs : List Loc} {Q : State → Prop} {pc : Nat} {ls : Array Slot} {rest : List Value} {cc : ByteArray} {nL cells slots : Nat} {D : va_G} {cA : Nat → ClassId} {ad : Nat → Nat} {hk : HK} {nx : Nat} {A : Nat → Prop} {gi : GI} {gr : GR} {α : Type} {r : α} {own : String} {idx : Nat} {a0 : Nat} {a1 : Nat} {x2 : Int32} {ff : (Int32 × GI) → Option α} (ht : (hk a0).1 = 13) (C : CallFix p m c cc nL s args lw_all own) (B : XB D cA ad hk nx A s gi gr H locs) (hq : Cond.methodLink own idx yX3_growth ∈ lw_all) (hF : 105 ≤ R.frames) (hN : 3142 ≤ R.locals) (hs : ls.size = nL) (hw : (rest.map fun v => v.category).sum ≤ 8) (hz0 : cells ≤ R.cells ∧ slots ≤ R.slots) (h : (f_X3_growth hk gi gr a0 a1 x2).bind ff = some r) (hdg : decode cc pc = .ok (.invokevirtual idx, 3)) (kk : ∀ q, ff q = some r → ∀ (H' : Heap) (locs' : List Loc), XB D cA ad hk nx A s q.2 gr H' locs' → W p l e R s m args below meth c H' locs' cells slots Q (F0 m (pc + 3) ls (.int q.1 :: rest))) : W p l e R s m args below meth c H locs cells slots Q (F0 m pc ls (.int x2 :: .ref (ad a1) :: .ref (ad a0) :: rest)) := by
  obtain ⟨q, h1, h2⟩ := g_ob h
  refine xx_cVI (As := [.ref (ad a1), .int x2]) (rest := rest) (n := 2) xc_3 ht (by decide) C B (fun sz => w_X3_growth l D cA ad hk nx gi gr a0 a1 x2 ht q h1 sz) hq q1254 q1255 q147 q1256 (by decide +kernel) ⟨hF, hN⟩ rfl hs hw hz0 hdg (fun v u H9 locs9 hp B9 => ?_)
  obtain ⟨e1, e3⟩ := hp
  rw [e3] at B9
  subst e1
  exact kk _ h2 H9 locs9 B9
def f_X3_purse (hk : HK) (gi : GI) (gr : GR) (a0 : Nat) (x1 : Int32) (x2 : Int32) : Option (Int32) :=
  (gr a0 0).bind fun v1 =>
  (g_is hk v1 0).bind fun _ =>
  (g_ld gi v1 (hk v1).2 ((3 * x1) + x2)).bind fun v4 =>
  some v4
set_option maxHeartbeats 400000 in
theorem w_X3_purse (l : Launch) (D : va_G) (cA : Nat → ClassId) (ad : Nat → Nat) (hk : HK) (nx : Nat) (gi : GI) (gr : GR) (a0 : Nat) (x1 : Int32) (x2 : Int32) (ht : (hk a0).1 = 13) (r : Int32) (h : f_X3_purse hk gi gr a0 x1 x2 = some r) (sz : Nat) : Met l yX3_purse (ws_ yX3_purse cX3_purse 3 (some .int)) ({ frames := 1, cells := 0, slots := 0, locals := 64 } : Room) (va_Pc [.ref (ad a0), .int x1, .int x2] (XPre D cA ad hk nx gi gr sz)) (va_Qi (fun v u => v = r ∧ u.1 = gi ∧ u.2 = gr) (XPost D cA ad hk nx) (XA ad nx sz)) 0 0 (XA ad nx sz) := by
  refine xx_stI (own := RX3) (P := (fun v u => v = r ∧ u.1 = gi ∧ u.2 = gr)) (by decide +kernel) rfl (Nat.le_of_ble_eq_true rfl) (fun p e s m args below meth c R Q A ls C hF hN B hret hL => ?_) sz
  have hx := C.1
  have hb := C.2.1
  have hL : lv_has ls 3 [(0, .ref (ad a0)), (1, .int x1), (2, .int x2)] := hL
  unfold f_X3_purse at h
  refine lv_aload_n hx hb dX3_purse_0 rfl (lv_at hL 0 rfl) ?_
  refine xx_gr (ci := 3) (k := 0) C B xc_3 ht (by decide) (Nat.le_of_ble_eq_true rfl) rfl q304 (fun _ h => h) h dX3_purse_1 (fun v1 ok2 h => ?_)
  refine lv_iconst (v := 3) hx hb dX3_purse_4 (by decide) ?_
  refine lv_iload_n hx hb dX3_purse_5 rfl (lv_at hL 1 rfl) ?_
  refine lv_imul hx hb dX3_purse_6 ?_
  refine lv_iload_n hx hb dX3_purse_7 rfl (lv_at hL 2 rfl) ?_
  refine lv_iadd hx hb dX3_purse_8 ?_
  refine xx_is h (fun hp3 h => ?_)
  refine xx_iald C B hp3 h dX3_purse_9 (fun v4 h => ?_)
  exact hret _ _ _ _ _ _ _ ⟨Option.some.inj h, rfl, rfl⟩ B dX3_purse_10
theorem k_X3_purse {p : Program} {l : Launch} {e : Env} {R : Room} {s : State} {m : MethodId} {args : Array Value} {below : List Frame} {meth : Method} {c : Code} {H : Heap} {locs : List Loc} {Q : State → Prop} {pc : Nat} {ls : Array Slot} {rest : List Value} {cc : ByteArray} {nL cells slots : Nat} {D : va_G} {cA : Nat → ClassId} {ad : Nat → Nat} {hk : HK} {nx : Nat} {A : Nat → Prop} {gi : GI} {gr : GR} {α : Type} {r : α} {own : String} {idx : Nat} {a0 : Nat} {x1 : Int32} {x2 : Int32} {ff : Int32 → Option α} (ht : (hk a0).1 = 13) (C : CallFix p m c cc nL s args lw_all own) (B : XB D cA ad hk nx A s gi gr H locs) (hq : Cond.methodLink own idx yX3_purse ∈ lw_all) (hF : 2 ≤ R.frames) (hN : 86 ≤ R.locals) (hs : ls.size = nL) (hw : (rest.map fun v => v.category).sum ≤ 8) (hz0 : cells ≤ R.cells ∧ slots ≤ R.slots) (h : (f_X3_purse hk gi gr a0 x1 x2).bind ff = some r) (hdg : decode cc pc = .ok (.invokevirtual idx, 3)) (kk : ∀ q, ff q = some r → ∀ (H' : Heap) (locs' : List Loc), XB D cA ad hk nx A s gi gr H' locs' → W p l e R s m args below meth c H' locs' cells slots Q (F0 m (pc + 3) ls (.int q :: rest))) : W p l e R s m args below meth c H locs cells slots Q (F0 m pc ls (.int x2 :: .int x1 :: .ref (ad a0) :: rest)) := by
  obtain ⟨q, h1, h2⟩ := g_ob h
  refine xx_cVI (As := [.int x1, .int x2]) (rest := rest) (n := 2) xc_3 ht (by decide) C B (fun sz => w_X3_purse l D cA ad hk nx gi gr a0 x1 x2 ht q h1 sz) hq q1330 q1331 q147 q1332 (by decide +kernel) ⟨hF, hN⟩ rfl hs hw hz0 hdg (fun v u H9 locs9 hp B9 => ?_)
  obtain ⟨e1, e2, e3⟩ := hp
  rw [e2] at B9
  rw [e3] at B9
  subst e1
  exact kk _ h2 H9 locs9 B9
def f_X3_rich (hk : HK) (gi : GI) (gr : GR) (a0 : Nat) (x1 : Int32) : Option (Int32) :=
  (f_X3_purse hk gi gr a0 x1 0).bind fun q1 =>
  (f_X3_purse hk gi gr a0 x1 1).bind fun q2 =>
  (f_X3_purse hk gi gr a0 x1 2).bind fun q3 =>
  some ((q1 + q2) + q3)
set_option maxHeartbeats 400000 in
theorem w_X3_rich (l : Launch) (D : va_G) (cA : Nat → ClassId) (ad : Nat → Nat) (hk : HK) (nx : Nat) (gi : GI) (gr : GR) (a0 : Nat) (x1 : Int32) (ht : (hk a0).1 = 13) (r : Int32) (h : f_X3_rich hk gi gr a0 x1 = some r) (sz : Nat) : Met l yX3_rich (ws_ yX3_rich cX3_rich 2 (some .int)) ({ frames := 2, cells := 0, slots := 0, locals := 86 } : Room) (va_Pc [.ref (ad a0), .int x1] (XPre D cA ad hk nx gi gr sz)) (va_Qi (fun v u => v = r ∧ u.1 = gi ∧ u.2 = gr) (XPost D cA ad hk nx) (XA ad nx sz)) 0 0 (XA ad nx sz) := by
  refine xx_stI (own := RX3) (P := (fun v u => v = r ∧ u.1 = gi ∧ u.2 = gr)) (by decide +kernel) rfl (Nat.le_of_ble_eq_true rfl) (fun p e s m args below meth c R Q A ls C hF hN B hret hL => ?_) sz
  have hx := C.1
  have hb := C.2.1
  have hL : lv_has ls 2 [(0, .ref (ad a0)), (1, .int x1)] := hL
  unfold f_X3_rich at h
  refine lv_aload_n hx hb dX3_rich_0 rfl (lv_at hL 0 rfl) ?_
  refine lv_iload_n hx hb dX3_rich_1 rfl (lv_at hL 1 rfl) ?_
  refine lv_iconst (v := 0) hx hb dX3_rich_2 (by decide) ?_
  refine k_X3_purse ht C B q1329 (Nat.le_trans (Nat.le_of_ble_eq_true rfl) hF) (Nat.le_trans (Nat.le_of_ble_eq_true rfl) hN) hL.1 (Nat.le_of_ble_eq_true rfl) ⟨Nat.zero_le _, Nat.zero_le _⟩ h dX3_rich_3 (fun q1 h H locs B => ?_)
  refine lv_aload_n hx hb dX3_rich_6 rfl (lv_at hL 0 rfl) ?_
  refine lv_iload_n hx hb dX3_rich_7 rfl (lv_at hL 1 rfl) ?_
  refine lv_iconst (v := 1) hx hb dX3_rich_8 (by decide) ?_
  refine k_X3_purse ht C B q1329 (Nat.le_trans (Nat.le_of_ble_eq_true rfl) hF) (Nat.le_trans (Nat.le_of_ble_eq_true rfl) hN) hL.1 (Nat.le_of_ble_eq_true rfl) ⟨Nat.zero_le _, Nat.zero_le _⟩ h dX3_rich_9 (fun q2 h H locs B => ?_)
  refine lv_iadd hx hb dX3_rich_12 ?_
  refine lv_aload_n hx hb dX3_rich_13 rfl (lv_at hL 0 rfl) ?_
  refine lv_iload_n hx hb dX3_rich_14 rfl (lv_at hL 1 rfl) ?_
  refine lv_iconst (v := 2) hx hb dX3_rich_15 (by decide) ?_
  refine k_X3_purse ht C B q1329 (Nat.le_trans (Nat.le_of_ble_eq_true rfl) hF) (Nat.le_trans (Nat.le_of_ble_eq_true rfl) hN) hL.1 (Nat.le_of_ble_eq_true rfl) ⟨Nat.zero_le _, Nat.zero_le _⟩ h dX3_rich_16 (fun q3 h H locs B => ?_)
  refine lv_iadd hx hb dX3_rich_19 ?_
  exact hret _ _ _ _ _ _ _ ⟨Option.some.inj h, rfl, rfl⟩ B dX3_rich_20
theorem k_X3_rich {p : Program} {l : Launch} {e : Env} {R : Room} {s : State} {m : MethodId} {args : Array Value} {below : List Frame} {meth : Method} {c : Code} {H : Heap} {locs : List Loc} {Q : State → Prop} {pc : Nat} {ls : Array Slot} {rest : List Value} {cc : ByteArray} {nL cells slots : Nat} {D : va_G} {cA : Nat → ClassId} {ad : Nat → Nat} {hk : HK} {nx : Nat} {A : Nat → Prop} {gi : GI} {gr : GR} {α : Type} {r : α} {own : String} {idx : Nat} {a0 : Nat} {x1 : Int32} {ff : Int32 → Option α} (ht : (hk a0).1 = 13) (C : CallFix p m c cc nL s args lw_all own) (B : XB D cA ad hk nx A s gi gr H locs) (hq : Cond.methodLink own idx yX3_rich ∈ lw_all) (hF : 3 ≤ R.frames) (hN : 107 ≤ R.locals) (hs : ls.size = nL) (hw : (rest.map fun v => v.category).sum ≤ 8) (hz0 : cells ≤ R.cells ∧ slots ≤ R.slots) (h : (f_X3_rich hk gi gr a0 x1).bind ff = some r) (hdg : decode cc pc = .ok (.invokevirtual idx, 3)) (kk : ∀ q, ff q = some r → ∀ (H' : Heap) (locs' : List Loc), XB D cA ad hk nx A s gi gr H' locs' → W p l e R s m args below meth c H' locs' cells slots Q (F0 m (pc + 3) ls (.int q :: rest))) : W p l e R s m args below meth c H locs cells slots Q (F0 m pc ls (.int x1 :: .ref (ad a0) :: rest)) := by
  obtain ⟨q, h1, h2⟩ := g_ob h
  refine xx_cVI (As := [.int x1]) (rest := rest) (n := 1) xc_3 ht (by decide) C B (fun sz => w_X3_rich l D cA ad hk nx gi gr a0 x1 ht q h1 sz) hq q1326 q1327 q147 q1328 (by decide +kernel) ⟨hF, hN⟩ rfl hs hw hz0 hdg (fun v u H9 locs9 hp B9 => ?_)
  obtain ⟨e1, e2, e3⟩ := hp
  rw [e2] at B9
  rw [e3] at B9
  subst e1
  exact kk _ h2 H9 locs9 B9
def f_X0_man (hk : HK) (gi : GI) (gr : GR) (a0 : Nat) (x1 : Int32) (x2 : Int32) : Option (Int32 × GI) :=
  (f_X0_isMan hk gi gr a0 x1).bind fun q1 =>
  if q1 = 0 then
  (some ((-1000000), gi))
  else
  ((gr a0 4).bind fun v2 =>
  (g_is hk v2 11).bind fun _ =>
  (gr v2 1).bind fun v5 =>
  (g_is hk v5 22).bind fun _ =>
  (f_J2_get hk gi gr v5 x1).bind fun q8 =>
  (g_is hk q8 16).bind fun _ =>
  if x2.toInt < 0 ∨ 6 < x2.toInt then
  (some ((-1000000), gi))
  else if x2 = 0 then
  ((gr a0 5).bind fun v10 =>
  (g_is hk v10 13).bind fun _ =>
  (gr v10 2).bind fun v13 =>
  (g_is hk v13 0).bind fun _ =>
  (g_ld gi v13 (hk v13).2 x1).bind fun v16 =>
  some (v16, gi))
  else if x2 = 1 then
  ((gr a0 5).bind fun v17 =>
  (g_is hk v17 13).bind fun _ =>
  (gr v17 3).bind fun v20 =>
  (g_is hk v20 0).bind fun _ =>
  (g_ld gi v20 (hk v20).2 x1).bind fun v23 =>
  some (v23, gi))
  else if x2 = 2 then
  ((gr a0 5).bind fun v24 =>
  (gr a0 4).bind fun v26 =>
  (g_is hk v24 13).bind fun _ =>
  (f_X3_growth hk gi gr v24 v26 x1).bind fun q29 =>
  some (q29.1, q29.2))
  else if x2 = 3 then
  ((gr a0 5).bind fun v30 =>
  (g_is hk v30 13).bind fun _ =>
  (f_X3_rich hk gi gr v30 x1).bind fun q33 =>
  some (q33, gi))
  else if x2 = 4 then
  ((f_X7_wages hk gi gr q8).bind fun q34 =>
  some (q34, gi))
  else if x2 = 5 then
  (some (gi q8 6, gi))
  else if x2 = 6 then
  (if (gi q8 7) = 0 then
  (some (0, gi))
  else
  (some (1, gi)))
  else none)
set_option maxHeartbeats 400000 in
theorem w_X0_man (l : Launch) (D : va_G) (cA : Nat → ClassId) (ad : Nat → Nat) (hk : HK) (nx : Nat) (gi : GI) (gr : GR) (a0 : Nat) (x1 : Int32) (x2 : Int32) (ht : (hk a0).1 = 10) (r : Int32 × GI) (h : f_X0_man hk gi gr a0 x1 x2 = some r) (sz : Nat) : Met l yX0_man (ws_ yX0_man cX0_man 4 (some .int)) ({ frames := 105, cells := 0, slots := 0, locals := 3142 } : Room) (va_Pc [.ref (ad a0), .int x1, .int x2] (XPre D cA ad hk nx gi gr sz)) (va_Qi (fun v u => (v, u.1) = r ∧ u.2 = gr) (XPost D cA ad hk nx) (XA ad nx sz)) 0 0 (XA ad nx sz) := by
  refine xx_stI (own := RX0) (P := (fun v u => (v, u.1) = r ∧ u.2 = gr)) (by decide +kernel) rfl (Nat.le_of_ble_eq_true rfl) (fun p e s m args below meth c R Q A ls C hF hN B hret hL => ?_) sz
  have hx := C.1
  have hb := C.2.1
  have hL : lv_has ls 4 [(0, .ref (ad a0)), (1, .int x1), (2, .int x2)] := hL
  unfold f_X0_man at h
  refine lv_aload_n hx hb dX0_man_0 rfl (lv_at hL 0 rfl) ?_
  refine lv_iload_n hx hb dX0_man_1 rfl (lv_at hL 1 rfl) ?_
  refine k_X0_isMan ht C B q1243 (Nat.le_trans (Nat.le_of_ble_eq_true rfl) hF) (Nat.le_trans (Nat.le_of_ble_eq_true rfl) hN) hL.1 (Nat.le_of_ble_eq_true rfl) ⟨Nat.zero_le _, Nat.zero_le _⟩ h dX0_man_2 (fun q1 h H locs B => ?_)
  refine gg_if_ne hx hb 11 h dX0_man_5 (by decide) (fun h => ?_) (fun h => ?_)
  · refine lv_aload_n hx hb dX0_man_11 rfl (lv_at hL 0 rfl) ?_
    refine xx_gr (ci := 0) (k := 4) C B xc_0 ht (by decide) (Nat.le_of_ble_eq_true rfl) rfl q363 (fun _ h => h) h dX0_man_12 (fun v2 ok3 h => ?_)
    refine xx_is h (fun hp4 h => ?_)
    refine xx_gr (ci := 1) (k := 1) C B xc_1 hp4 (by decide) (Nat.le_of_ble_eq_true rfl) rfl q257 (fun _ h => h) h dX0_man_15 (fun v5 ok6 h => ?_)
    refine lv_iload_n hx hb dX0_man_18 rfl (lv_at hL 1 rfl) ?_
    refine xx_is h (fun hp7 h => ?_)
    refine k_J2_get hp7 C B q1251 (Nat.le_trans (Nat.le_of_ble_eq_true rfl) hF) (Nat.le_trans (Nat.le_of_ble_eq_true rfl) hN) hL.1 (Nat.le_of_ble_eq_true rfl) ⟨Nat.zero_le _, Nat.zero_le _⟩ h dX0_man_19 (fun q8 h H locs B => ?_)
    refine xx_is h (fun hp9 h => ?_)
    refine xx_cast C B xc_6 hp9 (by decide) q1252 dX0_man_22 ?_
    refine lv_astore_n (lv' := [(3, .ref (ad q8)), (0, .ref (ad a0)), (1, .int x1), (2, .int x2)]) hx hb dX0_man_25 rfl hL (by decide) rfl (fun ls hL => ?_)
    refine lv_iload_n hx hb dX0_man_26 rfl (lv_at hL 3 rfl) ?_
    rcases g_if h with ⟨hc, h⟩ | ⟨hc, h⟩
    · refine lv_tableOut (tgt := 133) hx hb dX0_man_27 hc (by decide) ?_
      refine lv_ldc (v := (-1000000)) hx hb C.2.2.2.1 (C.2.2.2.2 _ q1250) dX0_man_133 ?_
      exact hret _ _ _ _ _ _ _ ⟨Option.some.inj h, rfl⟩ B dX0_man_135
    · rcases g_if h with ⟨he, h⟩ | ⟨_, h⟩
      · refine lv_tableIn (off := 41) (tgt := 68) hx hb dX0_man_27 (by rw [he]; decide) (by rw [he]; decide) (by rw [he]; rfl) (by decide) ?_
        refine lv_aload_n hx hb dX0_man_68 rfl (lv_at hL 1 rfl) ?_
        refine xx_gr (ci := 0) (k := 5) C B xc_0 ht (by decide) (Nat.le_of_ble_eq_true rfl) rfl q364 (fun _ h => h) h dX0_man_69 (fun v10 ok11 h => ?_)
        refine xx_is h (fun hp12 h => ?_)
        refine xx_gr (ci := 3) (k := 2) C B xc_3 hp12 (by decide) (Nat.le_of_ble_eq_true rfl) rfl q309 (fun _ h => h) h dX0_man_72 (fun v13 ok14 h => ?_)
        refine lv_iload_n hx hb dX0_man_75 rfl (lv_at hL 2 rfl) ?_
        refine xx_is h (fun hp15 h => ?_)
        refine xx_iald C B hp15 h dX0_man_76 (fun v16 h => ?_)
        exact hret _ _ _ _ _ _ _ ⟨Option.some.inj h, rfl⟩ B dX0_man_77
      · rcases g_if h with ⟨he, h⟩ | ⟨_, h⟩
        · refine lv_tableIn (off := 51) (tgt := 78) hx hb dX0_man_27 (by rw [he]; decide) (by rw [he]; decide) (by rw [he]; rfl) (by decide) ?_
          refine lv_aload_n hx hb dX0_man_78 rfl (lv_at hL 1 rfl) ?_
          refine xx_gr (ci := 0) (k := 5) C B xc_0 ht (by decide) (Nat.le_of_ble_eq_true rfl) rfl q364 (fun _ h => h) h dX0_man_79 (fun v17 ok18 h => ?_)
          refine xx_is h (fun hp19 h => ?_)
          refine xx_gr (ci := 3) (k := 3) C B xc_3 hp19 (by decide) (Nat.le_of_ble_eq_true rfl) rfl q311 (fun _ h => h) h dX0_man_82 (fun v20 ok21 h => ?_)
          refine lv_iload_n hx hb dX0_man_85 rfl (lv_at hL 2 rfl) ?_
          refine xx_is h (fun hp22 h => ?_)
          refine xx_iald C B hp22 h dX0_man_86 (fun v23 h => ?_)
          exact hret _ _ _ _ _ _ _ ⟨Option.some.inj h, rfl⟩ B dX0_man_87
        · rcases g_if h with ⟨he, h⟩ | ⟨_, h⟩
          · refine lv_tableIn (off := 61) (tgt := 88) hx hb dX0_man_27 (by rw [he]; decide) (by rw [he]; decide) (by rw [he]; rfl) (by decide) ?_
            refine lv_aload_n hx hb dX0_man_88 rfl (lv_at hL 1 rfl) ?_
            refine xx_gr (ci := 0) (k := 5) C B xc_0 ht (by decide) (Nat.le_of_ble_eq_true rfl) rfl q364 (fun _ h => h) h dX0_man_89 (fun v24 ok25 h => ?_)
            refine lv_aload_n hx hb dX0_man_92 rfl (lv_at hL 1 rfl) ?_
            refine xx_gr (ci := 0) (k := 4) C B xc_0 ht (by decide) (Nat.le_of_ble_eq_true rfl) rfl q363 (fun _ h => h) h dX0_man_93 (fun v26 ok27 h => ?_)
            refine lv_iload_n hx hb dX0_man_96 rfl (lv_at hL 2 rfl) ?_
            refine xx_is h (fun hp28 h => ?_)
            refine k_X3_growth hp28 C B q1253 (Nat.le_trans (Nat.le_of_ble_eq_true rfl) hF) (Nat.le_trans (Nat.le_of_ble_eq_true rfl) hN) hL.1 (Nat.le_of_ble_eq_true rfl) ⟨Nat.zero_le _, Nat.zero_le _⟩ h dX0_man_97 (fun q29 h H locs B => ?_)
            exact hret _ _ _ _ _ _ _ ⟨Option.some.inj h, rfl⟩ B dX0_man_100
          · rcases g_if h with ⟨he, h⟩ | ⟨_, h⟩
            · refine lv_tableIn (off := 74) (tgt := 101) hx hb dX0_man_27 (by rw [he]; decide) (by rw [he]; decide) (by rw [he]; rfl) (by decide) ?_
              refine lv_aload_n hx hb dX0_man_101 rfl (lv_at hL 1 rfl) ?_
              refine xx_gr (ci := 0) (k := 5) C B xc_0 ht (by decide) (Nat.le_of_ble_eq_true rfl) rfl q364 (fun _ h => h) h dX0_man_102 (fun v30 ok31 h => ?_)
              refine lv_iload_n hx hb dX0_man_105 rfl (lv_at hL 2 rfl) ?_
              refine xx_is h (fun hp32 h => ?_)
              refine k_X3_rich hp32 C B q1325 (Nat.le_trans (Nat.le_of_ble_eq_true rfl) hF) (Nat.le_trans (Nat.le_of_ble_eq_true rfl) hN) hL.1 (Nat.le_of_ble_eq_true rfl) ⟨Nat.zero_le _, Nat.zero_le _⟩ h dX0_man_106 (fun q33 h H locs B => ?_)
              exact hret _ _ _ _ _ _ _ ⟨Option.some.inj h, rfl⟩ B dX0_man_109
            · rcases g_if h with ⟨he, h⟩ | ⟨_, h⟩
              · refine lv_tableIn (off := 83) (tgt := 110) hx hb dX0_man_27 (by rw [he]; decide) (by rw [he]; decide) (by rw [he]; rfl) (by decide) ?_
                refine lv_aload_n hx hb dX0_man_110 rfl (lv_at hL 0 rfl) ?_
                refine k_X7_wages hp9 C B q1333 (Nat.le_trans (Nat.le_of_ble_eq_true rfl) hF) (Nat.le_trans (Nat.le_of_ble_eq_true rfl) hN) hL.1 (Nat.le_of_ble_eq_true rfl) ⟨Nat.zero_le _, Nat.zero_le _⟩ h dX0_man_111 (fun q34 h H locs B => ?_)
                exact hret _ _ _ _ _ _ _ ⟨Option.some.inj h, rfl⟩ B dX0_man_114
              · rcases g_if h with ⟨he, h⟩ | ⟨_, h⟩
                · refine lv_tableIn (off := 88) (tgt := 115) hx hb dX0_man_27 (by rw [he]; decide) (by rw [he]; decide) (by rw [he]; rfl) (by decide) ?_
                  refine lv_aload_n hx hb dX0_man_115 rfl (lv_at hL 0 rfl) ?_
                  refine xx_gi (ci := 6) (k := 6) C B xc_6 hp9 (by decide) (Nat.le_of_ble_eq_true rfl) rfl q986 (fun _ h => h) dX0_man_116 ?_
                  exact hret _ _ _ _ _ _ _ ⟨Option.some.inj h, rfl⟩ B dX0_man_119
                · rcases g_if h with ⟨he, h⟩ | ⟨_, h⟩
                  · refine lv_tableIn (off := 93) (tgt := 120) hx hb dX0_man_27 (by rw [he]; decide) (by rw [he]; decide) (by rw [he]; rfl) (by decide) ?_
                    refine lv_aload_n hx hb dX0_man_120 rfl (lv_at hL 0 rfl) ?_
                    refine xx_gi (ci := 6) (k := 7) C B xc_6 hp9 (by decide) (Nat.le_of_ble_eq_true rfl) rfl q988 (fun _ h => h) dX0_man_121 ?_
                    refine gg_if_eq hx hb 131 h dX0_man_124 (by decide) (fun h => ?_) (fun h => ?_)
                    · refine lv_iconst (v := 0) hx hb dX0_man_131 (by decide) ?_
                      exact hret _ _ _ _ _ _ _ ⟨Option.some.inj h, rfl⟩ B dX0_man_132
                    · refine lv_iconst (v := 1) hx hb dX0_man_127 (by decide) ?_
                      refine lv_goto (tgt := 132) hx hb dX0_man_128 (by decide) ?_
                      exact hret _ _ _ _ _ _ _ ⟨Option.some.inj h, rfl⟩ B dX0_man_132
                  · cases h
  · refine lv_ldc (v := (-1000000)) hx hb C.2.2.2.1 (C.2.2.2.2 _ q1250) dX0_man_8 ?_
    exact hret _ _ _ _ _ _ _ ⟨Option.some.inj h, rfl⟩ B dX0_man_10
theorem k_X0_man {p : Program} {l : Launch} {e : Env} {R : Room} {s : State} {m : MethodId} {args : Array Value} {below : List Frame} {meth : Method} {c : Code} {H : Heap} {locs : List Loc} {Q : State → Prop} {pc : Nat} {ls : Array Slot} {rest : List Value} {cc : ByteArray} {nL cells slots : Nat} {D : va_G} {cA : Nat → ClassId} {ad : Nat → Nat} {hk : HK} {nx : Nat} {A : Nat → Prop} {gi : GI} {gr : GR} {α : Type} {r : α} {own : String} {idx : Nat} {a0 : Nat} {x1 : Int32} {x2 : Int32} {ff : (Int32 × GI) → Option α} (ht : (hk a0).1 = 10) (C : CallFix p m c cc nL s args lw_all own) (B : XB D cA ad hk nx A s gi gr H locs) (hq : Cond.methodLink own idx yX0_man ∈ lw_all) (hF : 106 ≤ R.frames) (hN : 3165 ≤ R.locals) (hs : ls.size = nL) (hw : (rest.map fun v => v.category).sum ≤ 8) (hz0 : cells ≤ R.cells ∧ slots ≤ R.slots) (h : (f_X0_man hk gi gr a0 x1 x2).bind ff = some r) (hdg : decode cc pc = .ok (.invokevirtual idx, 3)) (kk : ∀ q, ff q = some r → ∀ (H' : Heap) (locs' : List Loc), XB D cA ad hk nx A s q.2 gr H' locs' → W p l e R s m args below meth c H' locs' cells slots Q (F0 m (pc + 3) ls (.int q.1 :: rest))) : W p l e R s m args below meth c H locs cells slots Q (F0 m pc ls (.int x2 :: .int x1 :: .ref (ad a0) :: rest)) := by
  obtain ⟨q, h1, h2⟩ := g_ob h
  refine xx_cVI (As := [.int x1, .int x2]) (rest := rest) (n := 2) xc_0 ht (by decide) C B (fun sz => w_X0_man l D cA ad hk nx gi gr a0 x1 x2 ht q h1 sz) hq q1240 q1241 q141 q1242 (by decide +kernel) ⟨hF, hN⟩ rfl hs hw hz0 hdg (fun v u H9 locs9 hp B9 => ?_)
  obtain ⟨e1, e3⟩ := hp
  rw [e3] at B9
  subst e1
  exact kk _ h2 H9 locs9 B9
def f_X0_kinds (hk : HK) (gi : GI) (gr : GR) (a0 : Nat) : Option (Int32) :=
  (gr a0 4).bind fun v1 =>
  (g_is hk v1 11).bind fun _ =>
  (gr v1 0).bind fun v4 =>
  (g_is hk v4 22).bind fun _ =>
  (f_J2_size hk gi gr v4).bind fun q7 =>
  some q7
set_option maxHeartbeats 400000 in
theorem w_X0_kinds (l : Launch) (D : va_G) (cA : Nat → ClassId) (ad : Nat → Nat) (hk : HK) (nx : Nat) (gi : GI) (gr : GR) (a0 : Nat) (ht : (hk a0).1 = 10) (r : Int32) (h : f_X0_kinds hk gi gr a0 = some r) (sz : Nat) : Met l yX0_kinds (ws_ yX0_kinds cX0_kinds 1 (some .int)) ({ frames := 2, cells := 0, slots := 0, locals := 84 } : Room) (va_Pc [.ref (ad a0)] (XPre D cA ad hk nx gi gr sz)) (va_Qi (fun v u => v = r ∧ u.1 = gi ∧ u.2 = gr) (XPost D cA ad hk nx) (XA ad nx sz)) 0 0 (XA ad nx sz) := by
  refine xx_stI (own := RX0) (P := (fun v u => v = r ∧ u.1 = gi ∧ u.2 = gr)) (by decide +kernel) rfl (Nat.le_of_ble_eq_true rfl) (fun p e s m args below meth c R Q A ls C hF hN B hret hL => ?_) sz
  have hx := C.1
  have hb := C.2.1
  have hL : lv_has ls 1 [(0, .ref (ad a0))] := hL
  unfold f_X0_kinds at h
  refine lv_aload_n hx hb dX0_kinds_0 rfl (lv_at hL 0 rfl) ?_
  refine xx_gr (ci := 0) (k := 4) C B xc_0 ht (by decide) (Nat.le_of_ble_eq_true rfl) rfl q363 (fun _ h => h) h dX0_kinds_1 (fun v1 ok2 h => ?_)
  refine xx_is h (fun hp3 h => ?_)
  refine xx_gr (ci := 1) (k := 0) C B xc_1 hp3 (by decide) (Nat.le_of_ble_eq_true rfl) rfl q252 (fun _ h => h) h dX0_kinds_4 (fun v4 ok5 h => ?_)
  refine xx_is h (fun hp6 h => ?_)
  refine k_J2_size hp6 C B q1234 (Nat.le_trans (Nat.le_of_ble_eq_true rfl) hF) (Nat.le_trans (Nat.le_of_ble_eq_true rfl) hN) hL.1 (Nat.le_of_ble_eq_true rfl) ⟨Nat.zero_le _, Nat.zero_le _⟩ h dX0_kinds_7 (fun q7 h H locs B => ?_)
  exact hret _ _ _ _ _ _ _ ⟨Option.some.inj h, rfl, rfl⟩ B dX0_kinds_10
theorem k_X0_kinds {p : Program} {l : Launch} {e : Env} {R : Room} {s : State} {m : MethodId} {args : Array Value} {below : List Frame} {meth : Method} {c : Code} {H : Heap} {locs : List Loc} {Q : State → Prop} {pc : Nat} {ls : Array Slot} {rest : List Value} {cc : ByteArray} {nL cells slots : Nat} {D : va_G} {cA : Nat → ClassId} {ad : Nat → Nat} {hk : HK} {nx : Nat} {A : Nat → Prop} {gi : GI} {gr : GR} {α : Type} {r : α} {own : String} {idx : Nat} {a0 : Nat} {ff : Int32 → Option α} (ht : (hk a0).1 = 10) (C : CallFix p m c cc nL s args lw_all own) (B : XB D cA ad hk nx A s gi gr H locs) (hq : Cond.methodLink own idx yX0_kinds ∈ lw_all) (hF : 3 ≤ R.frames) (hN : 104 ≤ R.locals) (hs : ls.size = nL) (hw : (rest.map fun v => v.category).sum ≤ 8) (hz0 : cells ≤ R.cells ∧ slots ≤ R.slots) (h : (f_X0_kinds hk gi gr a0).bind ff = some r) (hdg : decode cc pc = .ok (.invokevirtual idx, 3)) (kk : ∀ q, ff q = some r → ∀ (H' : Heap) (locs' : List Loc), XB D cA ad hk nx A s gi gr H' locs' → W p l e R s m args below meth c H' locs' cells slots Q (F0 m (pc + 3) ls (.int q :: rest))) : W p l e R s m args below meth c H locs cells slots Q (F0 m pc ls (.ref (ad a0) :: rest)) := by
  obtain ⟨q, h1, h2⟩ := g_ob h
  refine xx_cVI (As := []) (rest := rest) (n := 0) xc_0 ht (by decide) C B (fun sz => w_X0_kinds l D cA ad hk nx gi gr a0 ht q h1 sz) hq q1347 qs41 q141 q1348 (by decide +kernel) ⟨hF, hN⟩ rfl hs hw hz0 hdg (fun v u H9 locs9 hp B9 => ?_)
  obtain ⟨e1, e2, e3⟩ := hp
  rw [e2] at B9
  rw [e3] at B9
  subst e1
  exact kk _ h2 H9 locs9 B9
def f_X0_isKind (hk : HK) (gi : GI) (gr : GR) (a0 : Nat) (x1 : Int32) : Option (Int32) :=
  (f_X0_kinds hk gi gr a0).bind fun q1 =>
  (f_X0_isIn hk gi gr x1 0 (q1 - 1)).bind fun q2 =>
  (g_zb q2).bind fun _ =>
  some q2
set_option maxHeartbeats 400000 in
theorem w_X0_isKind (l : Launch) (D : va_G) (cA : Nat → ClassId) (ad : Nat → Nat) (hk : HK) (nx : Nat) (gi : GI) (gr : GR) (a0 : Nat) (x1 : Int32) (ht : (hk a0).1 = 10) (r : Int32) (h : f_X0_isKind hk gi gr a0 x1 = some r) (sz : Nat) : Met l yX0_isKind (ws_ yX0_isKind cX0_isKind 2 (some .boolean)) ({ frames := 3, cells := 0, slots := 0, locals := 104 } : Room) (va_Pc [.ref (ad a0), .int x1] (XPre D cA ad hk nx gi gr sz)) (va_Qi (fun v u => v = r ∧ u.1 = gi ∧ u.2 = gr) (XPost D cA ad hk nx) (XA ad nx sz)) 0 0 (XA ad nx sz) := by
  refine xx_stZ (own := RX0) (P := (fun v u => v = r ∧ u.1 = gi ∧ u.2 = gr)) (by decide +kernel) rfl (Nat.le_of_ble_eq_true rfl) (fun p e s m args below meth c R Q A ls C hF hN B hret hL => ?_) sz
  have hx := C.1
  have hb := C.2.1
  have hL : lv_has ls 2 [(0, .ref (ad a0)), (1, .int x1)] := hL
  unfold f_X0_isKind at h
  refine lv_iload_n hx hb dX0_isKind_0 rfl (lv_at hL 1 rfl) ?_
  refine lv_iconst (v := 0) hx hb dX0_isKind_1 (by decide) ?_
  refine lv_aload_n hx hb dX0_isKind_2 rfl (lv_at hL 0 rfl) ?_
  refine k_X0_kinds ht C B q1345 (Nat.le_trans (Nat.le_of_ble_eq_true rfl) hF) (Nat.le_trans (Nat.le_of_ble_eq_true rfl) hN) hL.1 (Nat.le_of_ble_eq_true rfl) ⟨Nat.zero_le _, Nat.zero_le _⟩ h dX0_isKind_3 (fun q1 h H locs B => ?_)
  refine lv_iconst (v := 1) hx hb dX0_isKind_6 (by decide) ?_
  refine lv_isub hx hb dX0_isKind_7 ?_
  refine k_X0_isIn C B q1247 (Nat.le_trans (Nat.le_of_ble_eq_true rfl) hF) (Nat.le_trans (Nat.le_of_ble_eq_true rfl) hN) hL.1 (Nat.le_of_ble_eq_true rfl) ⟨Nat.zero_le _, Nat.zero_le _⟩ h dX0_isKind_8 (fun q2 h H locs B => ?_)
  refine mm_zb h (fun hz h => ?_)
  exact hret _ _ _ _ _ _ _ ⟨Option.some.inj h, rfl, rfl⟩ hz B dX0_isKind_11
theorem k_X0_isKind {p : Program} {l : Launch} {e : Env} {R : Room} {s : State} {m : MethodId} {args : Array Value} {below : List Frame} {meth : Method} {c : Code} {H : Heap} {locs : List Loc} {Q : State → Prop} {pc : Nat} {ls : Array Slot} {rest : List Value} {cc : ByteArray} {nL cells slots : Nat} {D : va_G} {cA : Nat → ClassId} {ad : Nat → Nat} {hk : HK} {nx : Nat} {A : Nat → Prop} {gi : GI} {gr : GR} {α : Type} {r : α} {own : String} {idx : Nat} {a0 : Nat} {x1 : Int32} {ff : Int32 → Option α} (ht : (hk a0).1 = 10) (C : CallFix p m c cc nL s args lw_all own) (B : XB D cA ad hk nx A s gi gr H locs) (hq : Cond.methodLink own idx yX0_isKind ∈ lw_all) (hF : 4 ≤ R.frames) (hN : 125 ≤ R.locals) (hs : ls.size = nL) (hw : (rest.map fun v => v.category).sum ≤ 8) (hz0 : cells ≤ R.cells ∧ slots ≤ R.slots) (h : (f_X0_isKind hk gi gr a0 x1).bind ff = some r) (hdg : decode cc pc = .ok (.invokevirtual idx, 3)) (kk : ∀ q, ff q = some r → ∀ (H' : Heap) (locs' : List Loc), XB D cA ad hk nx A s gi gr H' locs' → W p l e R s m args below meth c H' locs' cells slots Q (F0 m (pc + 3) ls (.int q :: rest))) : W p l e R s m args below meth c H locs cells slots Q (F0 m pc ls (.int x1 :: .ref (ad a0) :: rest)) := by
  obtain ⟨q, h1, h2⟩ := g_ob h
  refine xx_cVI (As := [.int x1]) (rest := rest) (n := 1) xc_0 ht (by decide) C B (fun sz => w_X0_isKind l D cA ad hk nx gi gr a0 x1 ht q h1 sz) hq q1343 qs40 q141 q1344 (by decide +kernel) ⟨hF, hN⟩ rfl hs hw hz0 hdg (fun v u H9 locs9 hp B9 => ?_)
  obtain ⟨e1, e2, e3⟩ := hp
  rw [e2] at B9
  rw [e3] at B9
  subst e1
  exact kk _ h2 H9 locs9 B9
def f_X0_purse (hk : HK) (gi : GI) (gr : GR) (a0 : Nat) (x1 : Int32) (x2 : Int32) : Option (Int32) :=
  (f_X0_isMan hk gi gr a0 x1).bind fun q1 =>
  if q1 = 0 then
  (some ((-1)))
  else
  ((f_X0_isKind hk gi gr a0 x2).bind fun q2 =>
  if q2 = 0 then
  (some ((-1)))
  else
  ((gr a0 5).bind fun v3 =>
  (g_is hk v3 13).bind fun _ =>
  (f_X3_purse hk gi gr v3 x1 x2).bind fun q6 =>
  some q6))
set_option maxHeartbeats 400000 in
theorem w_X0_purse (l : Launch) (D : va_G) (cA : Nat → ClassId) (ad : Nat → Nat) (hk : HK) (nx : Nat) (gi : GI) (gr : GR) (a0 : Nat) (x1 : Int32) (x2 : Int32) (ht : (hk a0).1 = 10) (r : Int32) (h : f_X0_purse hk gi gr a0 x1 x2 = some r) (sz : Nat) : Met l yX0_purse (ws_ yX0_purse cX0_purse 3 (some .int)) ({ frames := 4, cells := 0, slots := 0, locals := 125 } : Room) (va_Pc [.ref (ad a0), .int x1, .int x2] (XPre D cA ad hk nx gi gr sz)) (va_Qi (fun v u => v = r ∧ u.1 = gi ∧ u.2 = gr) (XPost D cA ad hk nx) (XA ad nx sz)) 0 0 (XA ad nx sz) := by
  refine xx_stI (own := RX0) (P := (fun v u => v = r ∧ u.1 = gi ∧ u.2 = gr)) (by decide +kernel) rfl (Nat.le_of_ble_eq_true rfl) (fun p e s m args below meth c R Q A ls C hF hN B hret hL => ?_) sz
  have hx := C.1
  have hb := C.2.1
  have hL : lv_has ls 3 [(0, .ref (ad a0)), (1, .int x1), (2, .int x2)] := hL
  unfold f_X0_purse at h
  refine lv_aload_n hx hb dX0_purse_0 rfl (lv_at hL 0 rfl) ?_
  refine lv_iload_n hx hb dX0_purse_1 rfl (lv_at hL 1 rfl) ?_
  refine k_X0_isMan ht C B q1243 (Nat.le_trans (Nat.le_of_ble_eq_true rfl) hF) (Nat.le_trans (Nat.le_of_ble_eq_true rfl) hN) hL.1 (Nat.le_of_ble_eq_true rfl) ⟨Nat.zero_le _, Nat.zero_le _⟩ h dX0_purse_2 (fun q1 h H locs B => ?_)
  refine gg_if_eq hx hb 28 h dX0_purse_5 (by decide) (fun h => ?_) (fun h => ?_)
  · refine lv_iconst (v := (-1)) hx hb dX0_purse_28 (by decide) ?_
    exact hret _ _ _ _ _ _ _ ⟨Option.some.inj h, rfl, rfl⟩ B dX0_purse_29
  · refine lv_aload_n hx hb dX0_purse_8 rfl (lv_at hL 0 rfl) ?_
    refine lv_iload_n hx hb dX0_purse_9 rfl (lv_at hL 2 rfl) ?_
    refine k_X0_isKind ht C B q1341 (Nat.le_trans (Nat.le_of_ble_eq_true rfl) hF) (Nat.le_trans (Nat.le_of_ble_eq_true rfl) hN) hL.1 (Nat.le_of_ble_eq_true rfl) ⟨Nat.zero_le _, Nat.zero_le _⟩ h dX0_purse_10 (fun q2 h H locs B => ?_)
    refine gg_if_eq hx hb 28 h dX0_purse_13 (by decide) (fun h => ?_) (fun h => ?_)
    · refine lv_iconst (v := (-1)) hx hb dX0_purse_28 (by decide) ?_
      exact hret _ _ _ _ _ _ _ ⟨Option.some.inj h, rfl, rfl⟩ B dX0_purse_29
    · refine lv_aload_n hx hb dX0_purse_16 rfl (lv_at hL 0 rfl) ?_
      refine xx_gr (ci := 0) (k := 5) C B xc_0 ht (by decide) (Nat.le_of_ble_eq_true rfl) rfl q364 (fun _ h => h) h dX0_purse_17 (fun v3 ok4 h => ?_)
      refine lv_iload_n hx hb dX0_purse_20 rfl (lv_at hL 1 rfl) ?_
      refine lv_iload_n hx hb dX0_purse_21 rfl (lv_at hL 2 rfl) ?_
      refine xx_is h (fun hp5 h => ?_)
      refine k_X3_purse hp5 C B q1349 (Nat.le_trans (Nat.le_of_ble_eq_true rfl) hF) (Nat.le_trans (Nat.le_of_ble_eq_true rfl) hN) hL.1 (Nat.le_of_ble_eq_true rfl) ⟨Nat.zero_le _, Nat.zero_le _⟩ h dX0_purse_22 (fun q6 h H locs B => ?_)
      refine lv_goto (tgt := 29) hx hb dX0_purse_25 (by decide) ?_
      exact hret _ _ _ _ _ _ _ ⟨Option.some.inj h, rfl, rfl⟩ B dX0_purse_29
theorem k_X0_purse {p : Program} {l : Launch} {e : Env} {R : Room} {s : State} {m : MethodId} {args : Array Value} {below : List Frame} {meth : Method} {c : Code} {H : Heap} {locs : List Loc} {Q : State → Prop} {pc : Nat} {ls : Array Slot} {rest : List Value} {cc : ByteArray} {nL cells slots : Nat} {D : va_G} {cA : Nat → ClassId} {ad : Nat → Nat} {hk : HK} {nx : Nat} {A : Nat → Prop} {gi : GI} {gr : GR} {α : Type} {r : α} {own : String} {idx : Nat} {a0 : Nat} {x1 : Int32} {x2 : Int32} {ff : Int32 → Option α} (ht : (hk a0).1 = 10) (C : CallFix p m c cc nL s args lw_all own) (B : XB D cA ad hk nx A s gi gr H locs) (hq : Cond.methodLink own idx yX0_purse ∈ lw_all) (hF : 5 ≤ R.frames) (hN : 147 ≤ R.locals) (hs : ls.size = nL) (hw : (rest.map fun v => v.category).sum ≤ 8) (hz0 : cells ≤ R.cells ∧ slots ≤ R.slots) (h : (f_X0_purse hk gi gr a0 x1 x2).bind ff = some r) (hdg : decode cc pc = .ok (.invokevirtual idx, 3)) (kk : ∀ q, ff q = some r → ∀ (H' : Heap) (locs' : List Loc), XB D cA ad hk nx A s gi gr H' locs' → W p l e R s m args below meth c H' locs' cells slots Q (F0 m (pc + 3) ls (.int q :: rest))) : W p l e R s m args below meth c H locs cells slots Q (F0 m pc ls (.int x2 :: .int x1 :: .ref (ad a0) :: rest)) := by
  obtain ⟨q, h1, h2⟩ := g_ob h
  refine xx_cVI (As := [.int x1, .int x2]) (rest := rest) (n := 2) xc_0 ht (by decide) C B (fun sz => w_X0_purse l D cA ad hk nx gi gr a0 x1 x2 ht q h1 sz) hq q1338 q1339 q141 q1340 (by decide +kernel) ⟨hF, hN⟩ rfl hs hw hz0 hdg (fun v u H9 locs9 hp B9 => ?_)
  obtain ⟨e1, e2, e3⟩ := hp
  rw [e2] at B9
  rw [e3] at B9
  subst e1
  exact kk _ h2 H9 locs9 B9
def f_X0_over (hk : HK) (gi : GI) (gr : GR) (a0 : Nat) (x1 : Int32) (x2 : Int32) : Option (Int32) :=
  (f_X0_isMan hk gi gr a0 x1).bind fun q1 =>
  if q1 = 0 then
  (some ((-1)))
  else
  ((f_X0_isKind hk gi gr a0 x2).bind fun q2 =>
  if q2 = 0 then
  (some ((-1)))
  else
  ((gr a0 5).bind fun v3 =>
  (g_is hk v3 13).bind fun _ =>
  (gr v3 1).bind fun v6 =>
  (g_is hk v6 0).bind fun _ =>
  (g_ld gi v6 (hk v6).2 ((3 * x1) + x2)).bind fun v9 =>
  some v9))
set_option maxHeartbeats 400000 in
theorem w_X0_over (l : Launch) (D : va_G) (cA : Nat → ClassId) (ad : Nat → Nat) (hk : HK) (nx : Nat) (gi : GI) (gr : GR) (a0 : Nat) (x1 : Int32) (x2 : Int32) (ht : (hk a0).1 = 10) (r : Int32) (h : f_X0_over hk gi gr a0 x1 x2 = some r) (sz : Nat) : Met l yX0_over (ws_ yX0_over cX0_over 3 (some .int)) ({ frames := 4, cells := 0, slots := 0, locals := 125 } : Room) (va_Pc [.ref (ad a0), .int x1, .int x2] (XPre D cA ad hk nx gi gr sz)) (va_Qi (fun v u => v = r ∧ u.1 = gi ∧ u.2 = gr) (XPost D cA ad hk nx) (XA ad nx sz)) 0 0 (XA ad nx sz) := by
  refine xx_stI (own := RX0) (P := (fun v u => v = r ∧ u.1 = gi ∧ u.2 = gr)) (by decide +kernel) rfl (Nat.le_of_ble_eq_true rfl) (fun p e s m args below meth c R Q A ls C hF hN B hret hL => ?_) sz
  have hx := C.1
  have hb := C.2.1
  have hL : lv_has ls 3 [(0, .ref (ad a0)), (1, .int x1), (2, .int x2)] := hL
  unfold f_X0_over at h
  refine lv_aload_n hx hb dX0_over_0 rfl (lv_at hL 0 rfl) ?_
  refine lv_iload_n hx hb dX0_over_1 rfl (lv_at hL 1 rfl) ?_
  refine k_X0_isMan ht C B q1243 (Nat.le_trans (Nat.le_of_ble_eq_true rfl) hF) (Nat.le_trans (Nat.le_of_ble_eq_true rfl) hN) hL.1 (Nat.le_of_ble_eq_true rfl) ⟨Nat.zero_le _, Nat.zero_le _⟩ h dX0_over_2 (fun q1 h H locs B => ?_)
  refine gg_if_eq hx hb 32 h dX0_over_5 (by decide) (fun h => ?_) (fun h => ?_)
  · refine lv_iconst (v := (-1)) hx hb dX0_over_32 (by decide) ?_
    exact hret _ _ _ _ _ _ _ ⟨Option.some.inj h, rfl, rfl⟩ B dX0_over_33
  · refine lv_aload_n hx hb dX0_over_8 rfl (lv_at hL 0 rfl) ?_
    refine lv_iload_n hx hb dX0_over_9 rfl (lv_at hL 2 rfl) ?_
    refine k_X0_isKind ht C B q1341 (Nat.le_trans (Nat.le_of_ble_eq_true rfl) hF) (Nat.le_trans (Nat.le_of_ble_eq_true rfl) hN) hL.1 (Nat.le_of_ble_eq_true rfl) ⟨Nat.zero_le _, Nat.zero_le _⟩ h dX0_over_10 (fun q2 h H locs B => ?_)
    refine gg_if_eq hx hb 32 h dX0_over_13 (by decide) (fun h => ?_) (fun h => ?_)
    · refine lv_iconst (v := (-1)) hx hb dX0_over_32 (by decide) ?_
      exact hret _ _ _ _ _ _ _ ⟨Option.some.inj h, rfl, rfl⟩ B dX0_over_33
    · refine lv_aload_n hx hb dX0_over_16 rfl (lv_at hL 0 rfl) ?_
      refine xx_gr (ci := 0) (k := 5) C B xc_0 ht (by decide) (Nat.le_of_ble_eq_true rfl) rfl q364 (fun _ h => h) h dX0_over_17 (fun v3 ok4 h => ?_)
      refine xx_is h (fun hp5 h => ?_)
      refine xx_gr (ci := 3) (k := 1) C B xc_3 hp5 (by decide) (Nat.le_of_ble_eq_true rfl) rfl q307 (fun _ h => h) h dX0_over_20 (fun v6 ok7 h => ?_)
      refine lv_iconst (v := 3) hx hb dX0_over_23 (by decide) ?_
      refine lv_iload_n hx hb dX0_over_24 rfl (lv_at hL 1 rfl) ?_
      refine lv_imul hx hb dX0_over_25 ?_
      refine lv_iload_n hx hb dX0_over_26 rfl (lv_at hL 2 rfl) ?_
      refine lv_iadd hx hb dX0_over_27 ?_
      refine xx_is h (fun hp8 h => ?_)
      refine xx_iald C B hp8 h dX0_over_28 (fun v9 h => ?_)
      refine lv_goto (tgt := 33) hx hb dX0_over_29 (by decide) ?_
      exact hret _ _ _ _ _ _ _ ⟨Option.some.inj h, rfl, rfl⟩ B dX0_over_33
theorem k_X0_over {p : Program} {l : Launch} {e : Env} {R : Room} {s : State} {m : MethodId} {args : Array Value} {below : List Frame} {meth : Method} {c : Code} {H : Heap} {locs : List Loc} {Q : State → Prop} {pc : Nat} {ls : Array Slot} {rest : List Value} {cc : ByteArray} {nL cells slots : Nat} {D : va_G} {cA : Nat → ClassId} {ad : Nat → Nat} {hk : HK} {nx : Nat} {A : Nat → Prop} {gi : GI} {gr : GR} {α : Type} {r : α} {own : String} {idx : Nat} {a0 : Nat} {x1 : Int32} {x2 : Int32} {ff : Int32 → Option α} (ht : (hk a0).1 = 10) (C : CallFix p m c cc nL s args lw_all own) (B : XB D cA ad hk nx A s gi gr H locs) (hq : Cond.methodLink own idx yX0_over ∈ lw_all) (hF : 5 ≤ R.frames) (hN : 147 ≤ R.locals) (hs : ls.size = nL) (hw : (rest.map fun v => v.category).sum ≤ 8) (hz0 : cells ≤ R.cells ∧ slots ≤ R.slots) (h : (f_X0_over hk gi gr a0 x1 x2).bind ff = some r) (hdg : decode cc pc = .ok (.invokevirtual idx, 3)) (kk : ∀ q, ff q = some r → ∀ (H' : Heap) (locs' : List Loc), XB D cA ad hk nx A s gi gr H' locs' → W p l e R s m args below meth c H' locs' cells slots Q (F0 m (pc + 3) ls (.int q :: rest))) : W p l e R s m args below meth c H locs cells slots Q (F0 m pc ls (.int x2 :: .int x1 :: .ref (ad a0) :: rest)) := by
  obtain ⟨q, h1, h2⟩ := g_ob h
  refine xx_cVI (As := [.int x1, .int x2]) (rest := rest) (n := 2) xc_0 ht (by decide) C B (fun sz => w_X0_over l D cA ad hk nx gi gr a0 x1 x2 ht q h1 sz) hq q1351 q1352 q141 q1353 (by decide +kernel) ⟨hF, hN⟩ rfl hs hw hz0 hdg (fun v u H9 locs9 hp B9 => ?_)
  obtain ⟨e1, e2, e3⟩ := hp
  rw [e2] at B9
  rw [e3] at B9
  subst e1
  exact kk _ h2 H9 locs9 B9
def f_X0_pay (hk : HK) (gi : GI) (gr : GR) (a0 : Nat) (x1 : Int32) (x2 : Int32) : Option (Int32) :=
  (f_X0_isMan hk gi gr a0 x1).bind fun q1 =>
  if q1 = 0 then
  (some ((-1)))
  else
  ((f_X0_isKind hk gi gr a0 x2).bind fun q2 =>
  if q2 = 0 then
  (some ((-1)))
  else
  ((gr a0 4).bind fun v3 =>
  (g_is hk v3 11).bind fun _ =>
  (gr v3 1).bind fun v6 =>
  (g_is hk v6 22).bind fun _ =>
  (f_J2_get hk gi gr v6 x1).bind fun q9 =>
  (g_is hk q9 16).bind fun _ =>
  (gr q9 2).bind fun v11 =>
  (g_is hk v11 0).bind fun _ =>
  (g_ld gi v11 (hk v11).2 x2).bind fun v14 =>
  some v14))
set_option maxHeartbeats 400000 in
theorem w_X0_pay (l : Launch) (D : va_G) (cA : Nat → ClassId) (ad : Nat → Nat) (hk : HK) (nx : Nat) (gi : GI) (gr : GR) (a0 : Nat) (x1 : Int32) (x2 : Int32) (ht : (hk a0).1 = 10) (r : Int32) (h : f_X0_pay hk gi gr a0 x1 x2 = some r) (sz : Nat) : Met l yX0_pay (ws_ yX0_pay cX0_pay 3 (some .int)) ({ frames := 4, cells := 0, slots := 0, locals := 128 } : Room) (va_Pc [.ref (ad a0), .int x1, .int x2] (XPre D cA ad hk nx gi gr sz)) (va_Qi (fun v u => v = r ∧ u.1 = gi ∧ u.2 = gr) (XPost D cA ad hk nx) (XA ad nx sz)) 0 0 (XA ad nx sz) := by
  refine xx_stI (own := RX0) (P := (fun v u => v = r ∧ u.1 = gi ∧ u.2 = gr)) (by decide +kernel) rfl (Nat.le_of_ble_eq_true rfl) (fun p e s m args below meth c R Q A ls C hF hN B hret hL => ?_) sz
  have hx := C.1
  have hb := C.2.1
  have hL : lv_has ls 3 [(0, .ref (ad a0)), (1, .int x1), (2, .int x2)] := hL
  unfold f_X0_pay at h
  refine lv_aload_n hx hb dX0_pay_0 rfl (lv_at hL 0 rfl) ?_
  refine lv_iload_n hx hb dX0_pay_1 rfl (lv_at hL 1 rfl) ?_
  refine k_X0_isMan ht C B q1243 (Nat.le_trans (Nat.le_of_ble_eq_true rfl) hF) (Nat.le_trans (Nat.le_of_ble_eq_true rfl) hN) hL.1 (Nat.le_of_ble_eq_true rfl) ⟨Nat.zero_le _, Nat.zero_le _⟩ h dX0_pay_2 (fun q1 h H locs B => ?_)
  refine gg_if_eq hx hb 38 h dX0_pay_5 (by decide) (fun h => ?_) (fun h => ?_)
  · refine lv_iconst (v := (-1)) hx hb dX0_pay_38 (by decide) ?_
    exact hret _ _ _ _ _ _ _ ⟨Option.some.inj h, rfl, rfl⟩ B dX0_pay_39
  · refine lv_aload_n hx hb dX0_pay_8 rfl (lv_at hL 0 rfl) ?_
    refine lv_iload_n hx hb dX0_pay_9 rfl (lv_at hL 2 rfl) ?_
    refine k_X0_isKind ht C B q1341 (Nat.le_trans (Nat.le_of_ble_eq_true rfl) hF) (Nat.le_trans (Nat.le_of_ble_eq_true rfl) hN) hL.1 (Nat.le_of_ble_eq_true rfl) ⟨Nat.zero_le _, Nat.zero_le _⟩ h dX0_pay_10 (fun q2 h H locs B => ?_)
    refine gg_if_eq hx hb 38 h dX0_pay_13 (by decide) (fun h => ?_) (fun h => ?_)
    · refine lv_iconst (v := (-1)) hx hb dX0_pay_38 (by decide) ?_
      exact hret _ _ _ _ _ _ _ ⟨Option.some.inj h, rfl, rfl⟩ B dX0_pay_39
    · refine lv_aload_n hx hb dX0_pay_16 rfl (lv_at hL 0 rfl) ?_
      refine xx_gr (ci := 0) (k := 4) C B xc_0 ht (by decide) (Nat.le_of_ble_eq_true rfl) rfl q363 (fun _ h => h) h dX0_pay_17 (fun v3 ok4 h => ?_)
      refine xx_is h (fun hp5 h => ?_)
      refine xx_gr (ci := 1) (k := 1) C B xc_1 hp5 (by decide) (Nat.le_of_ble_eq_true rfl) rfl q257 (fun _ h => h) h dX0_pay_20 (fun v6 ok7 h => ?_)
      refine lv_iload_n hx hb dX0_pay_23 rfl (lv_at hL 1 rfl) ?_
      refine xx_is h (fun hp8 h => ?_)
      refine k_J2_get hp8 C B q1251 (Nat.le_trans (Nat.le_of_ble_eq_true rfl) hF) (Nat.le_trans (Nat.le_of_ble_eq_true rfl) hN) hL.1 (Nat.le_of_ble_eq_true rfl) ⟨Nat.zero_le _, Nat.zero_le _⟩ h dX0_pay_24 (fun q9 h H locs B => ?_)
      refine xx_is h (fun hp10 h => ?_)
      refine xx_cast C B xc_6 hp10 (by decide) q1252 dX0_pay_27 ?_
      refine xx_gr (ci := 6) (k := 2) C B xc_6 hp10 (by decide) (Nat.le_of_ble_eq_true rfl) rfl q978 (fun _ h => h) h dX0_pay_30 (fun v11 ok12 h => ?_)
      refine lv_iload_n hx hb dX0_pay_33 rfl (lv_at hL 2 rfl) ?_
      refine xx_is h (fun hp13 h => ?_)
      refine xx_iald C B hp13 h dX0_pay_34 (fun v14 h => ?_)
      refine lv_goto (tgt := 39) hx hb dX0_pay_35 (by decide) ?_
      exact hret _ _ _ _ _ _ _ ⟨Option.some.inj h, rfl, rfl⟩ B dX0_pay_39
theorem k_X0_pay {p : Program} {l : Launch} {e : Env} {R : Room} {s : State} {m : MethodId} {args : Array Value} {below : List Frame} {meth : Method} {c : Code} {H : Heap} {locs : List Loc} {Q : State → Prop} {pc : Nat} {ls : Array Slot} {rest : List Value} {cc : ByteArray} {nL cells slots : Nat} {D : va_G} {cA : Nat → ClassId} {ad : Nat → Nat} {hk : HK} {nx : Nat} {A : Nat → Prop} {gi : GI} {gr : GR} {α : Type} {r : α} {own : String} {idx : Nat} {a0 : Nat} {x1 : Int32} {x2 : Int32} {ff : Int32 → Option α} (ht : (hk a0).1 = 10) (C : CallFix p m c cc nL s args lw_all own) (B : XB D cA ad hk nx A s gi gr H locs) (hq : Cond.methodLink own idx yX0_pay ∈ lw_all) (hF : 5 ≤ R.frames) (hN : 150 ≤ R.locals) (hs : ls.size = nL) (hw : (rest.map fun v => v.category).sum ≤ 8) (hz0 : cells ≤ R.cells ∧ slots ≤ R.slots) (h : (f_X0_pay hk gi gr a0 x1 x2).bind ff = some r) (hdg : decode cc pc = .ok (.invokevirtual idx, 3)) (kk : ∀ q, ff q = some r → ∀ (H' : Heap) (locs' : List Loc), XB D cA ad hk nx A s gi gr H' locs' → W p l e R s m args below meth c H' locs' cells slots Q (F0 m (pc + 3) ls (.int q :: rest))) : W p l e R s m args below meth c H locs cells slots Q (F0 m pc ls (.int x2 :: .int x1 :: .ref (ad a0) :: rest)) := by
  obtain ⟨q, h1, h2⟩ := g_ob h
  refine xx_cVI (As := [.int x1, .int x2]) (rest := rest) (n := 2) xc_0 ht (by decide) C B (fun sz => w_X0_pay l D cA ad hk nx gi gr a0 x1 x2 ht q h1 sz) hq q1355 q1356 q141 q1357 (by decide +kernel) ⟨hF, hN⟩ rfl hs hw hz0 hdg (fun v u H9 locs9 hp B9 => ?_)
  obtain ⟨e1, e2, e3⟩ := hp
  rw [e2] at B9
  rw [e3] at B9
  subst e1
  exact kk _ h2 H9 locs9 B9
def f_X0_all_l24 (hk : HK) (gii24 : GI) (gri24 : GR) (a0i24 : Nat) (x1i24 : Int32) (x2i24 : Int32) (x3l24 : Int32) (x4l24 : Int32) : Option ((Int32 × Int32) ⊕ (Int32)) :=
  (f_X0_men hk gii24 gri24 a0i24).bind fun q3 =>
  if q3 ≤ x4l24 then
  (some (.inr x3l24))
  else
  (if x2i24 = 0 then
  ((gri24 a0i24 5).bind fun v5 =>
  (g_is hk v5 13).bind fun _ =>
  (f_X3_purse hk gii24 gri24 v5 x4l24 x1i24).bind fun q8 =>
  some (.inl ((x3l24 + q8, x4l24 + 1))))
  else
  ((f_X0_over hk gii24 gri24 a0i24 x4l24 x1i24).bind fun q4 =>
  some (.inl ((x3l24 + q4, x4l24 + 1)))))
def f_X0_all_x24 (hk : HK) (giy24 : GI) (gry24 : GR) (x3e24 : Int32) : Option (Int32) :=
  some x3e24
def f_X0_all (hk : HK) (gi : GI) (gr : GR) (a0 : Nat) (x1 : Int32) (x2 : Int32) : Option (Int32) :=
  (f_X0_isKind hk gi gr a0 x1).bind fun q1 =>
  if q1 = 0 then
  (some ((-1)))
  else
  ((f_X0_isIn hk gi gr x2 0 1).bind fun q2 =>
  if q2 = 0 then
  (some ((-1)))
  else
  ((g_loop g_K (fun (s : Int32 × Int32) => f_X0_all_l24 hk gi gr a0 x1 x2 s.1 s.2) (0, 0)).bind fun E24 => f_X0_all_x24 hk gi gr E24))
set_option maxHeartbeats 400000 in
theorem w_X0_all (l : Launch) (D : va_G) (cA : Nat → ClassId) (ad : Nat → Nat) (hk : HK) (nx : Nat) (gi : GI) (gr : GR) (a0 : Nat) (x1 : Int32) (x2 : Int32) (ht : (hk a0).1 = 10) (r : Int32) (h : f_X0_all hk gi gr a0 x1 x2 = some r) (sz : Nat) : Met l yX0_all (ws_ yX0_all cX0_all 5 (some .int)) ({ frames := 5, cells := 0, slots := 0, locals := 147 } : Room) (va_Pc [.ref (ad a0), .int x1, .int x2] (XPre D cA ad hk nx gi gr sz)) (va_Qi (fun v u => v = r ∧ u.1 = gi ∧ u.2 = gr) (XPost D cA ad hk nx) (XA ad nx sz)) 0 0 (XA ad nx sz) := by
  refine xx_stI (own := RX0) (P := (fun v u => v = r ∧ u.1 = gi ∧ u.2 = gr)) (by decide +kernel) rfl (Nat.le_of_ble_eq_true rfl) (fun p e s m args below meth c R Q A ls C hF hN B hret hL => ?_) sz
  have hx := C.1
  have hb := C.2.1
  have hL : lv_has ls 5 [(0, .ref (ad a0)), (1, .int x1), (2, .int x2)] := hL
  unfold f_X0_all at h
  refine lv_aload_n hx hb dX0_all_0 rfl (lv_at hL 0 rfl) ?_
  refine lv_iload_n hx hb dX0_all_1 rfl (lv_at hL 1 rfl) ?_
  refine k_X0_isKind ht C B q1341 (Nat.le_trans (Nat.le_of_ble_eq_true rfl) hF) (Nat.le_trans (Nat.le_of_ble_eq_true rfl) hN) hL.1 (Nat.le_of_ble_eq_true rfl) ⟨Nat.zero_le _, Nat.zero_le _⟩ h dX0_all_2 (fun q1 h H locs B => ?_)
  refine gg_if_eq hx hb 17 h dX0_all_5 (by decide) (fun h => ?_) (fun h => ?_)
  · refine lv_iconst (v := (-1)) hx hb dX0_all_17 (by decide) ?_
    exact hret _ _ _ _ _ _ _ ⟨Option.some.inj h, rfl, rfl⟩ B dX0_all_18
  · refine lv_iload_n hx hb dX0_all_8 rfl (lv_at hL 2 rfl) ?_
    refine lv_iconst (v := 0) hx hb dX0_all_9 (by decide) ?_
    refine lv_iconst (v := 1) hx hb dX0_all_10 (by decide) ?_
    refine k_X0_isIn C B q1247 (Nat.le_trans (Nat.le_of_ble_eq_true rfl) hF) (Nat.le_trans (Nat.le_of_ble_eq_true rfl) hN) hL.1 (Nat.le_of_ble_eq_true rfl) ⟨Nat.zero_le _, Nat.zero_le _⟩ h dX0_all_11 (fun q2 h H locs B => ?_)
    refine gg_if_ne hx hb 19 h dX0_all_14 (by decide) (fun h => ?_) (fun h => ?_)
    · refine lv_iconst (v := 0) hx hb dX0_all_19 (by decide) ?_
      refine lv_istore_n (lv' := [(3, .int 0), (0, .ref (ad a0)), (1, .int x1), (2, .int x2)]) hx hb dX0_all_20 rfl hL (by decide) rfl (fun ls hL => ?_)
      refine lv_iconst (v := 0) hx hb dX0_all_21 (by decide) ?_
      refine lv_istore (lv' := [(4, .int 0), (3, .int 0), (0, .ref (ad a0)), (1, .int x1), (2, .int x2)]) hx hb dX0_all_22 hL (by decide) rfl (fun ls hL => ?_)
      obtain ⟨E24, h824, h⟩ := g_ob h
      have kx24 : ∀ (x3e24 : Int32) (H : Heap) (locs : List Loc) (ls : Array Slot), x3e24 = E24 → XB D cA ad hk nx A s gi gr H locs → lv_has ls 5 [(3, .int x3e24)] → W p l e R s m args below meth c H locs 0 0 Q (F0 m 66 ls []) := by
        intro x3e24 H locs ls he B hL
        subst he
        have h : f_X0_all_x24 hk gi gr x3e24 = some r := h
        unfold f_X0_all_x24 at h
        refine lv_iload_n hx hb dX0_all_66 rfl (lv_at hL 0 rfl) ?_
        exact hret _ _ _ _ _ _ _ ⟨Option.some.inj h, rfl, rfl⟩ B dX0_all_67
      have hl24 : ∀ (k : Nat) (x3l24 : Int32) (x4l24 : Int32) (H : Heap) (locs : List Loc) (ls : Array Slot), g_loop k (fun (s : Int32 × Int32) => f_X0_all_l24 hk gi gr a0 x1 x2 s.1 s.2) (x3l24, x4l24) = some E24 → XB D cA ad hk nx A s gi gr H locs → lv_has ls 5 [(0, .ref (ad a0)), (1, .int x1), (2, .int x2), (3, .int x3l24), (4, .int x4l24)] → W p l e R s m args below meth c H locs 0 0 Q (F0 m 24 ls []) := by
        intro k
        induction k with
        | zero => intro x3l24 x4l24 H locs ls h; exact absurd h (fun z => g_loop_0 z)
        | succ k ih24 =>
          intro x3l24 x4l24 H locs ls h B hL
          obtain ⟨Z24, h, h924⟩ := g_loop_s h
          have h : f_X0_all_l24 hk gi gr a0 x1 x2 x3l24 x4l24 = some Z24 := h
          unfold f_X0_all_l24 at h
          refine lv_iload hx hb dX0_all_24 (lv_at hL 4 rfl) ?_
          refine lv_aload_n hx hb dX0_all_26 rfl (lv_at hL 0 rfl) ?_
          refine k_X0_men ht C B q1230 (Nat.le_trans (Nat.le_of_ble_eq_true rfl) hF) (Nat.le_trans (Nat.le_of_ble_eq_true rfl) hN) hL.1 (Nat.le_of_ble_eq_true rfl) ⟨Nat.zero_le _, Nat.zero_le _⟩ h dX0_all_27 (fun q3 h H locs B => ?_)
          refine gg_icmp_ge hx hb 66 h dX0_all_30 (by decide) (fun h => ?_) (fun h => ?_)
          · exact kx24 _ _ _ _ (g_exit h h924) B (lv_sub hL [3] rfl)
          · refine lv_iload_n hx hb dX0_all_33 rfl (lv_at hL 3 rfl) ?_
            refine lv_iload_n hx hb dX0_all_34 rfl (lv_at hL 2 rfl) ?_
            refine gg_if_ne hx hb 51 h dX0_all_35 (by decide) (fun h => ?_) (fun h => ?_)
            · refine lv_aload_n hx hb dX0_all_51 rfl (lv_at hL 0 rfl) ?_
              refine lv_iload hx hb dX0_all_52 (lv_at hL 4 rfl) ?_
              refine lv_iload_n hx hb dX0_all_54 rfl (lv_at hL 1 rfl) ?_
              refine k_X0_over ht C B q1362 (Nat.le_trans (Nat.le_of_ble_eq_true rfl) hF) (Nat.le_trans (Nat.le_of_ble_eq_true rfl) hN) hL.1 (Nat.le_of_ble_eq_true rfl) ⟨Nat.zero_le _, Nat.zero_le _⟩ h dX0_all_55 (fun q4 h H locs B => ?_)
              refine lv_iadd hx hb dX0_all_58 ?_
              refine lv_istore_n (lv' := [(3, .int (x3l24 + q4)), (0, .ref (ad a0)), (1, .int x1), (2, .int x2), (4, .int x4l24)]) hx hb dX0_all_59 rfl hL (by decide) rfl (fun ls hL => ?_)
              refine lv_iinc (v := x4l24 + 1) (lv' := [(4, .int (x4l24 + 1)), (3, .int (x3l24 + q4)), (0, .ref (ad a0)), (1, .int x1), (2, .int x2)]) hx hb dX0_all_60 hL (k := 4) rfl rfl (by decide) rfl (fun ls hL => ?_)
              refine lv_goto (tgt := 24) hx hb dX0_all_63 (by decide) ?_
              exact ih24 _ _ _ _ _ (g_next h h924) B (lv_sub hL [2, 3, 4, 1, 0] rfl)
            · refine lv_aload_n hx hb dX0_all_38 rfl (lv_at hL 0 rfl) ?_
              refine xx_gr (ci := 0) (k := 5) C B xc_0 ht (by decide) (Nat.le_of_ble_eq_true rfl) rfl q364 (fun _ h => h) h dX0_all_39 (fun v5 ok6 h => ?_)
              refine lv_iload hx hb dX0_all_42 (lv_at hL 4 rfl) ?_
              refine lv_iload_n hx hb dX0_all_44 rfl (lv_at hL 1 rfl) ?_
              refine xx_is h (fun hp7 h => ?_)
              refine k_X3_purse hp7 C B q1349 (Nat.le_trans (Nat.le_of_ble_eq_true rfl) hF) (Nat.le_trans (Nat.le_of_ble_eq_true rfl) hN) hL.1 (Nat.le_of_ble_eq_true rfl) ⟨Nat.zero_le _, Nat.zero_le _⟩ h dX0_all_45 (fun q8 h H locs B => ?_)
              refine lv_goto (tgt := 58) hx hb dX0_all_48 (by decide) ?_
              refine lv_iadd hx hb dX0_all_58 ?_
              refine lv_istore_n (lv' := [(3, .int (x3l24 + q8)), (0, .ref (ad a0)), (1, .int x1), (2, .int x2), (4, .int x4l24)]) hx hb dX0_all_59 rfl hL (by decide) rfl (fun ls hL => ?_)
              refine lv_iinc (v := x4l24 + 1) (lv' := [(4, .int (x4l24 + 1)), (3, .int (x3l24 + q8)), (0, .ref (ad a0)), (1, .int x1), (2, .int x2)]) hx hb dX0_all_60 hL (k := 4) rfl rfl (by decide) rfl (fun ls hL => ?_)
              refine lv_goto (tgt := 24) hx hb dX0_all_63 (by decide) ?_
              exact ih24 _ _ _ _ _ (g_next h h924) B (lv_sub hL [2, 3, 4, 1, 0] rfl)
      exact hl24 g_K _ _ _ _ _ h824 B (lv_sub hL [2, 3, 4, 1, 0] rfl)
    · refine lv_iconst (v := (-1)) hx hb dX0_all_17 (by decide) ?_
      exact hret _ _ _ _ _ _ _ ⟨Option.some.inj h, rfl, rfl⟩ B dX0_all_18
theorem k_X0_all {p : Program} {l : Launch} {e : Env} {R : Room} {s : State} {m : MethodId} {args : Array Value} {below : List Frame} {meth : Method} {c : Code} {H : Heap} {locs : List Loc} {Q : State → Prop} {pc : Nat} {ls : Array Slot} {rest : List Value} {cc : ByteArray} {nL cells slots : Nat} {D : va_G} {cA : Nat → ClassId} {ad : Nat → Nat} {hk : HK} {nx : Nat} {A : Nat → Prop} {gi : GI} {gr : GR} {α : Type} {r : α} {own : String} {idx : Nat} {a0 : Nat} {x1 : Int32} {x2 : Int32} {ff : Int32 → Option α} (ht : (hk a0).1 = 10) (C : CallFix p m c cc nL s args lw_all own) (B : XB D cA ad hk nx A s gi gr H locs) (hq : Cond.methodLink own idx yX0_all ∈ lw_all) (hF : 6 ≤ R.frames) (hN : 171 ≤ R.locals) (hs : ls.size = nL) (hw : (rest.map fun v => v.category).sum ≤ 8) (hz0 : cells ≤ R.cells ∧ slots ≤ R.slots) (h : (f_X0_all hk gi gr a0 x1 x2).bind ff = some r) (hdg : decode cc pc = .ok (.invokevirtual idx, 3)) (kk : ∀ q, ff q = some r → ∀ (H' : Heap) (locs' : List Loc), XB D cA ad hk nx A s gi gr H' locs' → W p l e R s m args below meth c H' locs' cells slots Q (F0 m (pc + 3) ls (.int q :: rest))) : W p l e R s m args below meth c H locs cells slots Q (F0 m pc ls (.int x2 :: .int x1 :: .ref (ad a0) :: rest)) := by
  obtain ⟨q, h1, h2⟩ := g_ob h
  refine xx_cVI (As := [.int x1, .int x2]) (rest := rest) (n := 2) xc_0 ht (by decide) C B (fun sz => w_X0_all l D cA ad hk nx gi gr a0 x1 x2 ht q h1 sz) hq q1359 q1360 q141 q1361 (by decide +kernel) ⟨hF, hN⟩ rfl hs hw hz0 hdg (fun v u H9 locs9 hp B9 => ?_)
  obtain ⟨e1, e2, e3⟩ := hp
  rw [e2] at B9
  rw [e3] at B9
  subst e1
  exact kk _ h2 H9 locs9 B9
def f_X0_left_2 (hk : HK) (gi : GI) (gr : GR) (a0 : Nat) (a1 : Nat) (x2 : Int32) : Option (Int32) :=
  (gr a0 4).bind fun v1 =>
  (g_is hk v1 11).bind fun _ =>
  (g_is hk a1 13).bind fun _ =>
  (gr a1 3).bind fun v5 =>
  (g_is hk v5 0).bind fun _ =>
  (g_ld gi v5 (hk v5).2 x2).bind fun v8 =>
  some (if 0 < ((gi v1 7) - v8) then ((gi v1 7) - v8) else 0)
set_option maxHeartbeats 400000 in
theorem w_X0_left_2 (l : Launch) (D : va_G) (cA : Nat → ClassId) (ad : Nat → Nat) (hk : HK) (nx : Nat) (gi : GI) (gr : GR) (a0 : Nat) (a1 : Nat) (x2 : Int32) (ht : (hk a0).1 = 10) (r : Int32) (h : f_X0_left_2 hk gi gr a0 a1 x2 = some r) (sz : Nat) : Met l yX0_left_2 (ws_ yX0_left_2 cX0_left_2 3 (some .int)) ({ frames := 1, cells := 0, slots := 0, locals := 64 } : Room) (va_Pc [.ref (ad a0), .ref (ad a1), .int x2] (XPre D cA ad hk nx gi gr sz)) (va_Qi (fun v u => v = r ∧ u.1 = gi ∧ u.2 = gr) (XPost D cA ad hk nx) (XA ad nx sz)) 0 0 (XA ad nx sz) := by
  refine xx_stI (own := RX0) (P := (fun v u => v = r ∧ u.1 = gi ∧ u.2 = gr)) (by decide +kernel) rfl (Nat.le_of_ble_eq_true rfl) (fun p e s m args below meth c R Q A ls C hF hN B hret hL => ?_) sz
  have hx := C.1
  have hb := C.2.1
  have hL : lv_has ls 3 [(0, .ref (ad a0)), (1, .ref (ad a1)), (2, .int x2)] := hL
  unfold f_X0_left_2 at h
  refine lv_iconst (v := 0) hx hb dX0_left_2_0 (by decide) ?_
  refine lv_aload_n hx hb dX0_left_2_1 rfl (lv_at hL 0 rfl) ?_
  refine xx_gr (ci := 0) (k := 4) C B xc_0 ht (by decide) (Nat.le_of_ble_eq_true rfl) rfl q363 (fun _ h => h) h dX0_left_2_2 (fun v1 ok2 h => ?_)
  refine xx_is h (fun hp3 h => ?_)
  refine xx_gi (ci := 1) (k := 7) C B xc_1 hp3 (by decide) (Nat.le_of_ble_eq_true rfl) rfl q271 (fun _ h => h) dX0_left_2_5 ?_
  refine lv_aload_n hx hb dX0_left_2_8 rfl (lv_at hL 1 rfl) ?_
  refine xx_is h (fun hp4 h => ?_)
  refine xx_gr (ci := 3) (k := 3) C B xc_3 hp4 (by decide) (Nat.le_of_ble_eq_true rfl) rfl q311 (fun _ h => h) h dX0_left_2_9 (fun v5 ok6 h => ?_)
  refine lv_iload_n hx hb dX0_left_2_12 rfl (lv_at hL 2 rfl) ?_
  refine xx_is h (fun hp7 h => ?_)
  refine xx_iald C B hp7 h dX0_left_2_13 (fun v8 h => ?_)
  refine lv_isub hx hb dX0_left_2_14 ?_
  refine xx_max C q1371 q574 q157 q575 (Nat.le_trans (Nat.le_of_ble_eq_true rfl) hF) (Nat.le_trans (Nat.le_of_ble_eq_true rfl) hN) hL.1 (Nat.le_of_ble_eq_true rfl) ⟨Nat.zero_le _, Nat.zero_le _⟩ dX0_left_2_15 ?_
  exact hret _ _ _ _ _ _ _ ⟨Option.some.inj h, rfl, rfl⟩ B dX0_left_2_18
theorem k_X0_left_2 {p : Program} {l : Launch} {e : Env} {R : Room} {s : State} {m : MethodId} {args : Array Value} {below : List Frame} {meth : Method} {c : Code} {H : Heap} {locs : List Loc} {Q : State → Prop} {pc : Nat} {ls : Array Slot} {rest : List Value} {cc : ByteArray} {nL cells slots : Nat} {D : va_G} {cA : Nat → ClassId} {ad : Nat → Nat} {hk : HK} {nx : Nat} {A : Nat → Prop} {gi : GI} {gr : GR} {α : Type} {r : α} {own : String} {idx : Nat} {a0 : Nat} {a1 : Nat} {x2 : Int32} {ff : Int32 → Option α} (ht : (hk a0).1 = 10) (C : CallFix p m c cc nL s args lw_all own) (B : XB D cA ad hk nx A s gi gr H locs) (hq : Cond.methodLink own idx yX0_left_2 ∈ lw_all) (hF : 2 ≤ R.frames) (hN : 86 ≤ R.locals) (hs : ls.size = nL) (hw : (rest.map fun v => v.category).sum ≤ 8) (hz0 : cells ≤ R.cells ∧ slots ≤ R.slots) (h : (f_X0_left_2 hk gi gr a0 a1 x2).bind ff = some r) (hdg : decode cc pc = .ok (.invokevirtual idx, 3)) (kk : ∀ q, ff q = some r → ∀ (H' : Heap) (locs' : List Loc), XB D cA ad hk nx A s gi gr H' locs' → W p l e R s m args below meth c H' locs' cells slots Q (F0 m (pc + 3) ls (.int q :: rest))) : W p l e R s m args below meth c H locs cells slots Q (F0 m pc ls (.int x2 :: .ref (ad a1) :: .ref (ad a0) :: rest)) := by
  obtain ⟨q, h1, h2⟩ := g_ob h
  refine xx_cVI (As := [.ref (ad a1), .int x2]) (rest := rest) (n := 2) xc_0 ht (by decide) C B (fun sz => w_X0_left_2 l D cA ad hk nx gi gr a0 a1 x2 ht q h1 sz) hq q1369 qs42 q141 q1370 (by decide +kernel) ⟨hF, hN⟩ rfl hs hw hz0 hdg (fun v u H9 locs9 hp B9 => ?_)
  obtain ⟨e1, e2, e3⟩ := hp
  rw [e2] at B9
  rw [e3] at B9
  subst e1
  exact kk _ h2 H9 locs9 B9
def f_X0_left (hk : HK) (gi : GI) (gr : GR) (a0 : Nat) (x1 : Int32) : Option (Int32) :=
  (f_X0_isMan hk gi gr a0 x1).bind fun q1 =>
  if q1 = 0 then
  (some ((-1)))
  else
  ((gr a0 5).bind fun v2 =>
  (f_X0_left_2 hk gi gr a0 v2 x1).bind fun q4 =>
  some q4)
set_option maxHeartbeats 400000 in
theorem w_X0_left (l : Launch) (D : va_G) (cA : Nat → ClassId) (ad : Nat → Nat) (hk : HK) (nx : Nat) (gi : GI) (gr : GR) (a0 : Nat) (x1 : Int32) (ht : (hk a0).1 = 10) (r : Int32) (h : f_X0_left hk gi gr a0 x1 = some r) (sz : Nat) : Met l yX0_left (ws_ yX0_left cX0_left 2 (some .int)) ({ frames := 4, cells := 0, slots := 0, locals := 125 } : Room) (va_Pc [.ref (ad a0), .int x1] (XPre D cA ad hk nx gi gr sz)) (va_Qi (fun v u => v = r ∧ u.1 = gi ∧ u.2 = gr) (XPost D cA ad hk nx) (XA ad nx sz)) 0 0 (XA ad nx sz) := by
  refine xx_stI (own := RX0) (P := (fun v u => v = r ∧ u.1 = gi ∧ u.2 = gr)) (by decide +kernel) rfl (Nat.le_of_ble_eq_true rfl) (fun p e s m args below meth c R Q A ls C hF hN B hret hL => ?_) sz
  have hx := C.1
  have hb := C.2.1
  have hL : lv_has ls 2 [(0, .ref (ad a0)), (1, .int x1)] := hL
  unfold f_X0_left at h
  refine lv_aload_n hx hb dX0_left_0 rfl (lv_at hL 0 rfl) ?_
  refine lv_iload_n hx hb dX0_left_1 rfl (lv_at hL 1 rfl) ?_
  refine k_X0_isMan ht C B q1243 (Nat.le_trans (Nat.le_of_ble_eq_true rfl) hF) (Nat.le_trans (Nat.le_of_ble_eq_true rfl) hN) hL.1 (Nat.le_of_ble_eq_true rfl) ⟨Nat.zero_le _, Nat.zero_le _⟩ h dX0_left_2 (fun q1 h H locs B => ?_)
  refine gg_if_eq hx hb 20 h dX0_left_5 (by decide) (fun h => ?_) (fun h => ?_)
  · refine lv_iconst (v := (-1)) hx hb dX0_left_20 (by decide) ?_
    exact hret _ _ _ _ _ _ _ ⟨Option.some.inj h, rfl, rfl⟩ B dX0_left_21
  · refine lv_aload_n hx hb dX0_left_8 rfl (lv_at hL 0 rfl) ?_
    refine lv_aload_n hx hb dX0_left_9 rfl (lv_at hL 0 rfl) ?_
    refine xx_gr (ci := 0) (k := 5) C B xc_0 ht (by decide) (Nat.le_of_ble_eq_true rfl) rfl q364 (fun _ h => h) h dX0_left_10 (fun v2 ok3 h => ?_)
    refine lv_iload_n hx hb dX0_left_13 rfl (lv_at hL 1 rfl) ?_
    refine k_X0_left_2 ht C B q1367 (Nat.le_trans (Nat.le_of_ble_eq_true rfl) hF) (Nat.le_trans (Nat.le_of_ble_eq_true rfl) hN) hL.1 (Nat.le_of_ble_eq_true rfl) ⟨Nat.zero_le _, Nat.zero_le _⟩ h dX0_left_14 (fun q4 h H locs B => ?_)
    refine lv_goto (tgt := 21) hx hb dX0_left_17 (by decide) ?_
    exact hret _ _ _ _ _ _ _ ⟨Option.some.inj h, rfl, rfl⟩ B dX0_left_21
theorem k_X0_left {p : Program} {l : Launch} {e : Env} {R : Room} {s : State} {m : MethodId} {args : Array Value} {below : List Frame} {meth : Method} {c : Code} {H : Heap} {locs : List Loc} {Q : State → Prop} {pc : Nat} {ls : Array Slot} {rest : List Value} {cc : ByteArray} {nL cells slots : Nat} {D : va_G} {cA : Nat → ClassId} {ad : Nat → Nat} {hk : HK} {nx : Nat} {A : Nat → Prop} {gi : GI} {gr : GR} {α : Type} {r : α} {own : String} {idx : Nat} {a0 : Nat} {x1 : Int32} {ff : Int32 → Option α} (ht : (hk a0).1 = 10) (C : CallFix p m c cc nL s args lw_all own) (B : XB D cA ad hk nx A s gi gr H locs) (hq : Cond.methodLink own idx yX0_left ∈ lw_all) (hF : 5 ≤ R.frames) (hN : 146 ≤ R.locals) (hs : ls.size = nL) (hw : (rest.map fun v => v.category).sum ≤ 8) (hz0 : cells ≤ R.cells ∧ slots ≤ R.slots) (h : (f_X0_left hk gi gr a0 x1).bind ff = some r) (hdg : decode cc pc = .ok (.invokevirtual idx, 3)) (kk : ∀ q, ff q = some r → ∀ (H' : Heap) (locs' : List Loc), XB D cA ad hk nx A s gi gr H' locs' → W p l e R s m args below meth c H' locs' cells slots Q (F0 m (pc + 3) ls (.int q :: rest))) : W p l e R s m args below meth c H locs cells slots Q (F0 m pc ls (.int x1 :: .ref (ad a0) :: rest)) := by
  obtain ⟨q, h1, h2⟩ := g_ob h
  refine xx_cVI (As := [.int x1]) (rest := rest) (n := 1) xc_0 ht (by decide) C B (fun sz => w_X0_left l D cA ad hk nx gi gr a0 x1 ht q h1 sz) hq q1364 q1365 q141 q1366 (by decide +kernel) ⟨hF, hN⟩ rfl hs hw hz0 hdg (fun v u H9 locs9 hp B9 => ?_)
  obtain ⟨e1, e2, e3⟩ := hp
  rw [e2] at B9
  rw [e3] at B9
  subst e1
  exact kk _ h2 H9 locs9 B9
def f_X3_copy (hk : HK) (gi : GI) (gr : GR) (a0 : Nat) (a1 : Nat) : Option (Nat × GI) :=
  (g_is hk a1 13).bind fun _ =>
  (gr a1 0).bind fun v2 =>
  (gr a0 0).bind fun v4 =>
  (g_is hk v2 0).bind fun _ =>
  (g_is hk v4 0).bind fun _ =>
  (g_cpi hk gi v2 0 v4 0 15).bind fun gi8 =>
  (gr a1 1).bind fun v9 =>
  (gr a0 1).bind fun v11 =>
  (g_is hk v9 0).bind fun _ =>
  (g_is hk v11 0).bind fun _ =>
  (g_cpi hk gi8 v9 0 v11 0 15).bind fun gi15 =>
  (gr a1 2).bind fun v16 =>
  (gr a0 2).bind fun v18 =>
  (g_is hk v16 0).bind fun _ =>
  (g_is hk v18 0).bind fun _ =>
  (g_cpi hk gi15 v16 0 v18 0 5).bind fun gi22 =>
  (gr a1 3).bind fun v23 =>
  (gr a0 3).bind fun v25 =>
  (g_is hk v23 0).bind fun _ =>
  (g_is hk v25 0).bind fun _ =>
  (g_cpi hk gi22 v23 0 v25 0 5).bind fun gi29 =>
  (some (g_pi gi29 a0 4 (gi29 a1 4))).bind fun gi30 =>
  (some (g_pi gi30 a0 5 (gi30 a1 5))).bind fun gi31 =>
  some (a0, gi31)
set_option maxHeartbeats 400000 in
theorem w_X3_copy (l : Launch) (D : va_G) (cA : Nat → ClassId) (ad : Nat → Nat) (hk : HK) (nx : Nat) (gi : GI) (gr : GR) (a0 : Nat) (a1 : Nat) (ht : (hk a0).1 = 13) (r : Nat × GI) (h : f_X3_copy hk gi gr a0 a1 = some r) (sz : Nat) : Met l yX3_copy (ws_ yX3_copy cX3_copy 2 ((some (.object "WeatherWages$Plots")))) ({ frames := 1, cells := 0, slots := 0, locals := 64 } : Room) (va_Pc [.ref (ad a0), .ref (ad a1)] (XPre D cA ad hk nx gi gr sz)) (va_Qq (fun o u => ∃ v : Option Nat, o = v.map ad ∧ (fun v u => ∃ v9, v = some v9 ∧ (v9, u.1) = r ∧ u.2 = gr) v u) (XPost D cA ad hk nx) (XA ad nx sz)) 0 0 (XA ad nx sz) := by
  refine xx_stR (own := RX3) (P := (fun v u => ∃ v9, v = some v9 ∧ (v9, u.1) = r ∧ u.2 = gr)) (by decide +kernel) rfl (Nat.le_of_ble_eq_true rfl) (fun p e s m args below meth c R Q A ls C hF hN B hret hL => ?_) sz
  have hx := C.1
  have hb := C.2.1
  have hL : lv_has ls 2 [(0, .ref (ad a0)), (1, .ref (ad a1))] := hL
  unfold f_X3_copy at h
  refine lv_aload_n hx hb dX3_copy_0 rfl (lv_at hL 1 rfl) ?_
  refine xx_is h (fun hp1 h => ?_)
  refine xx_gr (ci := 3) (k := 0) C B xc_3 hp1 (by decide) (Nat.le_of_ble_eq_true rfl) rfl q304 (fun _ h => h) h dX3_copy_1 (fun v2 ok3 h => ?_)
  refine lv_iconst (v := 0) hx hb dX3_copy_4 (by decide) ?_
  refine lv_aload_n hx hb dX3_copy_5 rfl (lv_at hL 0 rfl) ?_
  refine xx_gr (ci := 3) (k := 0) C B xc_3 ht (by decide) (Nat.le_of_ble_eq_true rfl) rfl q304 (fun _ h => h) h dX3_copy_6 (fun v4 ok5 h => ?_)
  refine lv_iconst (v := 0) hx hb dX3_copy_9 (by decide) ?_
  refine lv_bipush (v := 15) hx hb dX3_copy_10 (by decide) ?_
  refine xx_is h (fun hp6 h => ?_)
  refine xx_is h (fun hp7 h => ?_)
  refine xx_cpi C B q1385 q596 q595 q159 hp6 hp7 (Nat.le_trans (Nat.le_of_ble_eq_true rfl) hF) (Nat.le_trans (Nat.le_of_ble_eq_true rfl) hN) hL.1 (Nat.le_of_ble_eq_true rfl) h dX3_copy_12 (fun gi8 h H locs B => ?_)
  refine lv_aload_n hx hb dX3_copy_15 rfl (lv_at hL 1 rfl) ?_
  refine xx_gr (ci := 3) (k := 1) C B xc_3 hp1 (by decide) (Nat.le_of_ble_eq_true rfl) rfl q306 (fun _ h => h) h dX3_copy_16 (fun v9 ok10 h => ?_)
  refine lv_iconst (v := 0) hx hb dX3_copy_19 (by decide) ?_
  refine lv_aload_n hx hb dX3_copy_20 rfl (lv_at hL 0 rfl) ?_
  refine xx_gr (ci := 3) (k := 1) C B xc_3 ht (by decide) (Nat.le_of_ble_eq_true rfl) rfl q306 (fun _ h => h) h dX3_copy_21 (fun v11 ok12 h => ?_)
  refine lv_iconst (v := 0) hx hb dX3_copy_24 (by decide) ?_
  refine lv_bipush (v := 15) hx hb dX3_copy_25 (by decide) ?_
  refine xx_is h (fun hp13 h => ?_)
  refine xx_is h (fun hp14 h => ?_)
  refine xx_cpi C B q1385 q596 q595 q159 hp13 hp14 (Nat.le_trans (Nat.le_of_ble_eq_true rfl) hF) (Nat.le_trans (Nat.le_of_ble_eq_true rfl) hN) hL.1 (Nat.le_of_ble_eq_true rfl) h dX3_copy_27 (fun gi15 h H locs B => ?_)
  refine lv_aload_n hx hb dX3_copy_30 rfl (lv_at hL 1 rfl) ?_
  refine xx_gr (ci := 3) (k := 2) C B xc_3 hp1 (by decide) (Nat.le_of_ble_eq_true rfl) rfl q308 (fun _ h => h) h dX3_copy_31 (fun v16 ok17 h => ?_)
  refine lv_iconst (v := 0) hx hb dX3_copy_34 (by decide) ?_
  refine lv_aload_n hx hb dX3_copy_35 rfl (lv_at hL 0 rfl) ?_
  refine xx_gr (ci := 3) (k := 2) C B xc_3 ht (by decide) (Nat.le_of_ble_eq_true rfl) rfl q308 (fun _ h => h) h dX3_copy_36 (fun v18 ok19 h => ?_)
  refine lv_iconst (v := 0) hx hb dX3_copy_39 (by decide) ?_
  refine lv_iconst (v := 5) hx hb dX3_copy_40 (by decide) ?_
  refine xx_is h (fun hp20 h => ?_)
  refine xx_is h (fun hp21 h => ?_)
  refine xx_cpi C B q1385 q596 q595 q159 hp20 hp21 (Nat.le_trans (Nat.le_of_ble_eq_true rfl) hF) (Nat.le_trans (Nat.le_of_ble_eq_true rfl) hN) hL.1 (Nat.le_of_ble_eq_true rfl) h dX3_copy_41 (fun gi22 h H locs B => ?_)
  refine lv_aload_n hx hb dX3_copy_44 rfl (lv_at hL 1 rfl) ?_
  refine xx_gr (ci := 3) (k := 3) C B xc_3 hp1 (by decide) (Nat.le_of_ble_eq_true rfl) rfl q310 (fun _ h => h) h dX3_copy_45 (fun v23 ok24 h => ?_)
  refine lv_iconst (v := 0) hx hb dX3_copy_48 (by decide) ?_
  refine lv_aload_n hx hb dX3_copy_49 rfl (lv_at hL 0 rfl) ?_
  refine xx_gr (ci := 3) (k := 3) C B xc_3 ht (by decide) (Nat.le_of_ble_eq_true rfl) rfl q310 (fun _ h => h) h dX3_copy_50 (fun v25 ok26 h => ?_)
  refine lv_iconst (v := 0) hx hb dX3_copy_53 (by decide) ?_
  refine lv_iconst (v := 5) hx hb dX3_copy_54 (by decide) ?_
  refine xx_is h (fun hp27 h => ?_)
  refine xx_is h (fun hp28 h => ?_)
  refine xx_cpi C B q1385 q596 q595 q159 hp27 hp28 (Nat.le_trans (Nat.le_of_ble_eq_true rfl) hF) (Nat.le_trans (Nat.le_of_ble_eq_true rfl) hN) hL.1 (Nat.le_of_ble_eq_true rfl) h dX3_copy_55 (fun gi29 h H locs B => ?_)
  refine lv_aload_n hx hb dX3_copy_58 rfl (lv_at hL 0 rfl) ?_
  refine lv_aload_n hx hb dX3_copy_59 rfl (lv_at hL 1 rfl) ?_
  refine xx_gi (ci := 3) (k := 4) C B xc_3 hp1 (by decide) (Nat.le_of_ble_eq_true rfl) rfl q312 (fun _ h => h) dX3_copy_60 ?_
  refine xx_pi (ci := 3) (k := 4) C B xc_3 ht (by decide) (Nat.le_of_ble_eq_true rfl) rfl q312 (fun _ h => h) rfl rfl rfl h dX3_copy_63 (fun gi30 h H locs B => ?_)
  refine lv_aload_n hx hb dX3_copy_66 rfl (lv_at hL 0 rfl) ?_
  refine lv_aload_n hx hb dX3_copy_67 rfl (lv_at hL 1 rfl) ?_
  refine xx_gi (ci := 3) (k := 5) C B xc_3 hp1 (by decide) (Nat.le_of_ble_eq_true rfl) rfl q314 (fun _ h => h) dX3_copy_68 ?_
  refine xx_pi (ci := 3) (k := 5) C B xc_3 ht (by decide) (Nat.le_of_ble_eq_true rfl) rfl q314 (fun _ h => h) rfl rfl rfl h dX3_copy_71 (fun gi31 h H locs B => ?_)
  refine lv_aload_n hx hb dX3_copy_74 rfl (lv_at hL 0 rfl) ?_
  exact hret (some a0) _ _ _ _ _ _ ⟨_, rfl, Option.some.inj h, rfl⟩ B dX3_copy_75
theorem k_X3_copy {p : Program} {l : Launch} {e : Env} {R : Room} {s : State} {m : MethodId} {args : Array Value} {below : List Frame} {meth : Method} {c : Code} {H : Heap} {locs : List Loc} {Q : State → Prop} {pc : Nat} {ls : Array Slot} {rest : List Value} {cc : ByteArray} {nL cells slots : Nat} {D : va_G} {cA : Nat → ClassId} {ad : Nat → Nat} {hk : HK} {nx : Nat} {A : Nat → Prop} {gi : GI} {gr : GR} {α : Type} {r : α} {own : String} {idx : Nat} {a0 : Nat} {a1 : Nat} {ff : (Nat × GI) → Option α} (ht : (hk a0).1 = 13) (C : CallFix p m c cc nL s args lw_all own) (B : XB D cA ad hk nx A s gi gr H locs) (hq : Cond.methodLink own idx yX3_copy ∈ lw_all) (hF : 2 ≤ R.frames) (hN : 85 ≤ R.locals) (hs : ls.size = nL) (hw : (rest.map fun v => v.category).sum ≤ 8) (hz0 : cells ≤ R.cells ∧ slots ≤ R.slots) (h : (f_X3_copy hk gi gr a0 a1).bind ff = some r) (hdg : decode cc pc = .ok (.invokevirtual idx, 3)) (kk : ∀ q, ff q = some r → ∀ (H' : Heap) (locs' : List Loc), XB D cA ad hk nx A s q.2 gr H' locs' → W p l e R s m args below meth c H' locs' cells slots Q (F0 m (pc + 3) ls (.ref (ad q.1) :: rest))) : W p l e R s m args below meth c H locs cells slots Q (F0 m pc ls (.ref (ad a1) :: .ref (ad a0) :: rest)) := by
  obtain ⟨q, h1, h2⟩ := g_ob h
  refine xx_cVR (As := [.ref (ad a1)]) (rest := rest) (n := 1) xc_3 ht (by decide) C B (fun sz => w_X3_copy l D cA ad hk nx gi gr a0 a1 ht q h1 sz) hq q1382 q1383 q147 q1384 (by decide +kernel) ⟨hF, hN⟩ rfl hs hw hz0 hdg (fun v u H9 locs9 hp B9 => ?_)
  obtain ⟨v9, e0, e1, e3⟩ := hp
  subst e0
  rw [e3] at B9
  subst e1
  exact kk _ h2 H9 locs9 B9
def f_X0_act_j49 (hk : HK) (a0j49 : Nat) (gij49 : GI) (grj49 : GR) : Option (GI × GR) :=
  (grj49 a0j49 10).bind fun v1 =>
  (g_is hk v1 5).bind fun _ =>
  (g_ldr grj49 v1 (hk v1).2 (gij49 a0j49 11)).bind fun v4 =>
  (grj49 a0j49 5).bind fun v6 =>
  (g_is hk v4 13).bind fun _ =>
  (f_X3_copy hk gij49 grj49 v4 v6).bind fun q9 =>
  (some (g_pi q9.2 a0j49 11 ((q9.2 a0j49 11) + 1))).bind fun gi10 =>
  (some (g_pi gi10 a0j49 12 0)).bind fun gi11 =>
  some (gi11, grj49)
def f_X0_act (hk : HK) (gi : GI) (gr : GR) (a0 : Nat) : Option (GI × GR) :=
  if (gi a0 11) = 40 then
  ((gr a0 10).bind fun v12 =>
  (g_is hk v12 5).bind fun _ =>
  (g_ldr gr v12 (hk v12).2 0).bind fun v15 =>
  (gr a0 10).bind fun v17 =>
  (gr a0 10).bind fun v19 =>
  (g_is hk v17 5).bind fun _ =>
  (g_is hk v19 5).bind fun _ =>
  (g_cprP hk gr v17 1 v19 0 39).bind fun gr23 =>
  (gr23 a0 10).bind fun v24 =>
  (g_is hk v24 5).bind fun _ =>
  (g_is hk v15 13).bind fun _ =>
  (g_str gr23 v24 (hk v24).2 39 (some v15)).bind fun gr28 =>
  (some (g_pi gi a0 11 ((gi a0 11) - 1))).bind fun gi29 =>
  f_X0_act_j49 hk a0 gi29 gr28)
  else
  (f_X0_act_j49 hk a0 gi gr)
set_option maxHeartbeats 400000 in
theorem w_X0_act (l : Launch) (D : va_G) (cA : Nat → ClassId) (ad : Nat → Nat) (hk : HK) (nx : Nat) (gi : GI) (gr : GR) (a0 : Nat) (ht : (hk a0).1 = 10) (r : GI × GR) (h : f_X0_act hk gi gr a0 = some r) (sz : Nat) : Met l yX0_act (ws_ yX0_act cX0_act 2 (none)) ({ frames := 2, cells := 0, slots := 0, locals := 85 } : Room) (va_Pc [.ref (ad a0)] (XPre D cA ad hk nx gi gr sz)) (va_Qv (fun u => (u.1, u.2) = r) (XPost D cA ad hk nx) (XA ad nx sz)) 0 0 (XA ad nx sz) := by
  refine xx_stV (own := RX0) (P := (fun u => (u.1, u.2) = r)) (by decide +kernel) rfl (Nat.le_of_ble_eq_true rfl) (fun p e s m args below meth c R Q A ls C hF hN B hret hL => ?_) sz
  have hx := C.1
  have hb := C.2.1
  have hL : lv_has ls 2 [(0, .ref (ad a0))] := hL
  unfold f_X0_act at h
  have hj49 : ∀ (gij49 : GI) (grj49 : GR) (H : Heap) (locs : List Loc) (ls : Array Slot), f_X0_act_j49 hk a0 gij49 grj49 = some r → XB D cA ad hk nx A s gij49 grj49 H locs → lv_has ls 2 [(0, .ref (ad a0))] → W p l e R s m args below meth c H locs 0 0 Q (F0 m 49 ls []) := by
    intro gij49 grj49 H locs ls h B hL
    unfold f_X0_act_j49 at h
    refine lv_aload_n hx hb dX0_act_49 rfl (lv_at hL 0 rfl) ?_
    refine xx_gr (ci := 0) (k := 10) C B xc_0 ht (by decide) (Nat.le_of_ble_eq_true rfl) rfl q370 (fun _ h => h) h dX0_act_50 (fun v1 ok2 h => ?_)
    refine lv_aload_n hx hb dX0_act_53 rfl (lv_at hL 0 rfl) ?_
    refine xx_gi (ci := 0) (k := 11) C B xc_0 ht (by decide) (Nat.le_of_ble_eq_true rfl) rfl q371 (fun _ h => h) dX0_act_54 ?_
    refine xx_is h (fun hp3 h => ?_)
    refine xx_aald C B hp3 (by decide) rfl h dX0_act_57 (fun v4 ok5 h => ?_)
    refine lv_aload_n hx hb dX0_act_58 rfl (lv_at hL 0 rfl) ?_
    refine xx_gr (ci := 0) (k := 5) C B xc_0 ht (by decide) (Nat.le_of_ble_eq_true rfl) rfl q364 (fun _ h => h) h dX0_act_59 (fun v6 ok7 h => ?_)
    refine xx_is h (fun hp8 h => ?_)
    refine k_X3_copy hp8 C B q1381 (Nat.le_trans (Nat.le_of_ble_eq_true rfl) hF) (Nat.le_trans (Nat.le_of_ble_eq_true rfl) hN) hL.1 (Nat.le_of_ble_eq_true rfl) ⟨Nat.zero_le _, Nat.zero_le _⟩ h dX0_act_62 (fun q9 h H locs B => ?_)
    refine lv_pop hx hb dX0_act_65 rfl ?_
    refine lv_aload_n hx hb dX0_act_66 rfl (lv_at hL 0 rfl) ?_
    refine lv_dup hx hb dX0_act_67 rfl ?_
    refine xx_gi (ci := 0) (k := 11) C B xc_0 ht (by decide) (Nat.le_of_ble_eq_true rfl) rfl q371 (fun _ h => h) dX0_act_68 ?_
    refine lv_iconst (v := 1) hx hb dX0_act_71 (by decide) ?_
    refine lv_iadd hx hb dX0_act_72 ?_
    refine xx_pi (ci := 0) (k := 11) C B xc_0 ht (by decide) (Nat.le_of_ble_eq_true rfl) rfl q371 (fun _ h => h) rfl rfl rfl h dX0_act_73 (fun gi10 h H locs B => ?_)
    refine lv_aload_n hx hb dX0_act_76 rfl (lv_at hL 0 rfl) ?_
    refine lv_iconst (v := 0) hx hb dX0_act_77 (by decide) ?_
    refine xx_pi (ci := 0) (k := 12) C B xc_0 ht (by decide) (Nat.le_of_ble_eq_true rfl) rfl q372 (fun _ h => h) rfl rfl rfl h dX0_act_78 (fun gi11 h H locs B => ?_)
    exact hret _ _ _ _ _ _ (Option.some.inj h) B dX0_act_81
  refine lv_aload_n hx hb dX0_act_0 rfl (lv_at hL 0 rfl) ?_
  refine xx_gi (ci := 0) (k := 11) C B xc_0 ht (by decide) (Nat.le_of_ble_eq_true rfl) rfl q371 (fun _ h => h) dX0_act_1 ?_
  refine lv_bipush (v := 40) hx hb dX0_act_4 (by decide) ?_
  refine gg_icmp_ne hx hb 49 h dX0_act_6 (by decide) (fun h => ?_) (fun h => ?_)
  · exact hj49 _ _ _ _ _ h B (lv_sub hL [0] rfl)
  · refine lv_aload_n hx hb dX0_act_9 rfl (lv_at hL 0 rfl) ?_
    refine xx_gr (ci := 0) (k := 10) C B xc_0 ht (by decide) (Nat.le_of_ble_eq_true rfl) rfl q370 (fun _ h => h) h dX0_act_10 (fun v12 ok13 h => ?_)
    refine lv_iconst (v := 0) hx hb dX0_act_13 (by decide) ?_
    refine xx_is h (fun hp14 h => ?_)
    refine xx_aald C B hp14 (by decide) rfl h dX0_act_14 (fun v15 ok16 h => ?_)
    refine lv_astore_n (lv' := [(1, .ref (ad v15)), (0, .ref (ad a0))]) hx hb dX0_act_15 rfl hL (by decide) rfl (fun ls hL => ?_)
    refine lv_aload_n hx hb dX0_act_16 rfl (lv_at hL 1 rfl) ?_
    refine xx_gr (ci := 0) (k := 10) C B xc_0 ht (by decide) (Nat.le_of_ble_eq_true rfl) rfl q370 (fun _ h => h) h dX0_act_17 (fun v17 ok18 h => ?_)
    refine lv_iconst (v := 1) hx hb dX0_act_20 (by decide) ?_
    refine lv_aload_n hx hb dX0_act_21 rfl (lv_at hL 1 rfl) ?_
    refine xx_gr (ci := 0) (k := 10) C B xc_0 ht (by decide) (Nat.le_of_ble_eq_true rfl) rfl q370 (fun _ h => h) h dX0_act_22 (fun v19 ok20 h => ?_)
    refine lv_iconst (v := 0) hx hb dX0_act_25 (by decide) ?_
    refine lv_bipush (v := 39) hx hb dX0_act_26 (by decide) ?_
    refine xx_is h (fun hp21 h => ?_)
    refine xx_is h (fun hp22 h => ?_)
    refine xx_cpr C B q1380 q596 q595 q159 hp21 hp22 (Nat.le_trans (Nat.le_of_ble_eq_true rfl) hF) (Nat.le_trans (Nat.le_of_ble_eq_true rfl) hN) hL.1 (Nat.le_of_ble_eq_true rfl) h dX0_act_28 (fun gr23 h H locs B => ?_)
    refine lv_aload_n hx hb dX0_act_31 rfl (lv_at hL 1 rfl) ?_
    refine xx_gr (ci := 0) (k := 10) C B xc_0 ht (by decide) (Nat.le_of_ble_eq_true rfl) rfl q370 (fun _ h => h) h dX0_act_32 (fun v24 ok25 h => ?_)
    refine lv_bipush (v := 39) hx hb dX0_act_35 (by decide) ?_
    refine lv_aload_n hx hb dX0_act_37 rfl (lv_at hL 0 rfl) ?_
    refine xx_is h (fun hp26 h => ?_)
    refine xx_is h (fun hp27 h => ?_)
    refine xx_aast C B xc_3 hp26 (by decide) rfl hp27 (by decide) h dX0_act_38 (fun gr28 h H locs B => ?_)
    refine lv_aload_n hx hb dX0_act_39 rfl (lv_at hL 1 rfl) ?_
    refine lv_dup hx hb dX0_act_40 rfl ?_
    refine xx_gi (ci := 0) (k := 11) C B xc_0 ht (by decide) (Nat.le_of_ble_eq_true rfl) rfl q371 (fun _ h => h) dX0_act_41 ?_
    refine lv_iconst (v := 1) hx hb dX0_act_44 (by decide) ?_
    refine lv_isub hx hb dX0_act_45 ?_
    refine xx_pi (ci := 0) (k := 11) C B xc_0 ht (by decide) (Nat.le_of_ble_eq_true rfl) rfl q371 (fun _ h => h) rfl rfl rfl h dX0_act_46 (fun gi29 h H locs B => ?_)
    exact hj49 _ _ _ _ _ h B (lv_sub hL [1] rfl)
theorem k_X0_act {p : Program} {l : Launch} {e : Env} {R : Room} {s : State} {m : MethodId} {args : Array Value} {below : List Frame} {meth : Method} {c : Code} {H : Heap} {locs : List Loc} {Q : State → Prop} {pc : Nat} {ls : Array Slot} {rest : List Value} {cc : ByteArray} {nL cells slots : Nat} {D : va_G} {cA : Nat → ClassId} {ad : Nat → Nat} {hk : HK} {nx : Nat} {A : Nat → Prop} {gi : GI} {gr : GR} {α : Type} {r : α} {own : String} {idx : Nat} {a0 : Nat} {ff : (GI × GR) → Option α} (ht : (hk a0).1 = 10) (C : CallFix p m c cc nL s args lw_all own) (B : XB D cA ad hk nx A s gi gr H locs) (hq : Cond.methodLink own idx yX0_act ∈ lw_all) (hF : 3 ≤ R.frames) (hN : 106 ≤ R.locals) (hs : ls.size = nL) (hw : (rest.map fun v => v.category).sum ≤ 8) (hz0 : cells ≤ R.cells ∧ slots ≤ R.slots) (h : (f_X0_act hk gi gr a0).bind ff = some r) (hdg : decode cc pc = .ok (.invokevirtual idx, 3)) (kk : ∀ q, ff q = some r → ∀ (H' : Heap) (locs' : List Loc), XB D cA ad hk nx A s q.1 q.2 H' locs' → W p l e R s m args below meth c H' locs' cells slots Q (F0 m (pc + 3) ls (rest))) : W p l e R s m args below meth c H locs cells slots Q (F0 m pc ls (.ref (ad a0) :: rest)) := by
  obtain ⟨q, h1, h2⟩ := g_ob h
  refine xx_cVV (As := []) (rest := rest) (n := 0) xc_0 ht (by decide) C B (fun sz => w_X0_act l D cA ad hk nx gi gr a0 ht q h1 sz) hq q1378 qs43 q141 q1379 (by decide +kernel) ⟨hF, hN⟩ rfl hs hw hz0 hdg (fun u H9 locs9 hp B9 => ?_)
  have e1 := hp
  subst e1
  exact kk _ h2 H9 locs9 B9
def f_X1_hedge (hk : HK) (gi : GI) (gr : GR) (a0 : Nat) (x1 : Int32) : Option (Int32) :=
  (gr a0 1).bind fun v1 =>
  (g_is hk v1 22).bind fun _ =>
  (f_J2_get hk gi gr v1 x1).bind fun q4 =>
  (g_is hk q4 16).bind fun _ =>
  some (gi q4 6)
set_option maxHeartbeats 400000 in
theorem w_X1_hedge (l : Launch) (D : va_G) (cA : Nat → ClassId) (ad : Nat → Nat) (hk : HK) (nx : Nat) (gi : GI) (gr : GR) (a0 : Nat) (x1 : Int32) (ht : (hk a0).1 = 11) (r : Int32) (h : f_X1_hedge hk gi gr a0 x1 = some r) (sz : Nat) : Met l yX1_hedge (ws_ yX1_hedge cX1_hedge 2 (some .int)) ({ frames := 4, cells := 0, slots := 0, locals := 128 } : Room) (va_Pc [.ref (ad a0), .int x1] (XPre D cA ad hk nx gi gr sz)) (va_Qi (fun v u => v = r ∧ u.1 = gi ∧ u.2 = gr) (XPost D cA ad hk nx) (XA ad nx sz)) 0 0 (XA ad nx sz) := by
  refine xx_stI (own := RX1) (P := (fun v u => v = r ∧ u.1 = gi ∧ u.2 = gr)) (by decide +kernel) rfl (Nat.le_of_ble_eq_true rfl) (fun p e s m args below meth c R Q A ls C hF hN B hret hL => ?_) sz
  have hx := C.1
  have hb := C.2.1
  have hL : lv_has ls 2 [(0, .ref (ad a0)), (1, .int x1)] := hL
  unfold f_X1_hedge at h
  refine lv_aload_n hx hb dX1_hedge_0 rfl (lv_at hL 0 rfl) ?_
  refine xx_gr (ci := 1) (k := 1) C B xc_1 ht (by decide) (Nat.le_of_ble_eq_true rfl) rfl q255 (fun _ h => h) h dX1_hedge_1 (fun v1 ok2 h => ?_)
  refine lv_iload_n hx hb dX1_hedge_4 rfl (lv_at hL 1 rfl) ?_
  refine xx_is h (fun hp3 h => ?_)
  refine k_J2_get hp3 C B q745 (Nat.le_trans (Nat.le_of_ble_eq_true rfl) hF) (Nat.le_trans (Nat.le_of_ble_eq_true rfl) hN) hL.1 (Nat.le_of_ble_eq_true rfl) ⟨Nat.zero_le _, Nat.zero_le _⟩ h dX1_hedge_5 (fun q4 h H locs B => ?_)
  refine xx_is h (fun hp5 h => ?_)
  refine xx_cast C B xc_6 hp5 (by decide) q966 dX1_hedge_8 ?_
  refine xx_gi (ci := 6) (k := 6) C B xc_6 hp5 (by decide) (Nat.le_of_ble_eq_true rfl) rfl q985 (fun _ h => h) dX1_hedge_11 ?_
  exact hret _ _ _ _ _ _ _ ⟨Option.some.inj h, rfl, rfl⟩ B dX1_hedge_14
theorem k_X1_hedge {p : Program} {l : Launch} {e : Env} {R : Room} {s : State} {m : MethodId} {args : Array Value} {below : List Frame} {meth : Method} {c : Code} {H : Heap} {locs : List Loc} {Q : State → Prop} {pc : Nat} {ls : Array Slot} {rest : List Value} {cc : ByteArray} {nL cells slots : Nat} {D : va_G} {cA : Nat → ClassId} {ad : Nat → Nat} {hk : HK} {nx : Nat} {A : Nat → Prop} {gi : GI} {gr : GR} {α : Type} {r : α} {own : String} {idx : Nat} {a0 : Nat} {x1 : Int32} {ff : Int32 → Option α} (ht : (hk a0).1 = 11) (C : CallFix p m c cc nL s args lw_all own) (B : XB D cA ad hk nx A s gi gr H locs) (hq : Cond.methodLink own idx yX1_hedge ∈ lw_all) (hF : 5 ≤ R.frames) (hN : 149 ≤ R.locals) (hs : ls.size = nL) (hw : (rest.map fun v => v.category).sum ≤ 8) (hz0 : cells ≤ R.cells ∧ slots ≤ R.slots) (h : (f_X1_hedge hk gi gr a0 x1).bind ff = some r) (hdg : decode cc pc = .ok (.invokevirtual idx, 3)) (kk : ∀ q, ff q = some r → ∀ (H' : Heap) (locs' : List Loc), XB D cA ad hk nx A s gi gr H' locs' → W p l e R s m args below meth c H' locs' cells slots Q (F0 m (pc + 3) ls (.int q :: rest))) : W p l e R s m args below meth c H locs cells slots Q (F0 m pc ls (.int x1 :: .ref (ad a0) :: rest)) := by
  obtain ⟨q, h1, h2⟩ := g_ob h
  refine xx_cVI (As := [.int x1]) (rest := rest) (n := 1) xc_1 ht (by decide) C B (fun sz => w_X1_hedge l D cA ad hk nx gi gr a0 x1 ht q h1 sz) hq q1395 q1396 q142 q1397 (by decide +kernel) ⟨hF, hN⟩ rfl hs hw hz0 hdg (fun v u H9 locs9 hp B9 => ?_)
  obtain ⟨e1, e2, e3⟩ := hp
  rw [e2] at B9
  rw [e3] at B9
  subst e1
  exact kk _ h2 H9 locs9 B9
def f_X3_pours_j50 (hk : HK) (grj50 : GR) (a0j50 : Nat) (a1j50 : Nat) (x2j50 : Int32) (x3j50 : Int32) (x4j50 : Int32) (gij50 : GI) : Option (GI) :=
  (g_is hk a1j50 11).bind fun _ =>
  (grj50 a1j50 1).bind fun v7 =>
  (g_is hk v7 22).bind fun _ =>
  (f_J2_size hk gij50 grj50 v7).bind fun q10 =>
  if q10 ≤ (x2j50 + 1) then
  (some gij50)
  else
  ((grj50 a0j50 1).bind fun v11 =>
  (g_is hk v11 0).bind fun _ =>
  (g_ld gij50 v11 (hk v11).2 ((3 * (x2j50 + 1)) + x3j50)).bind fun v14 =>
  (f_X1_hedge hk gij50 grj50 a1j50 x2j50).bind fun q15 =>
  (g_st gij50 v11 (hk v11).2 ((3 * (x2j50 + 1)) + x3j50) (v14 + ((x4j50 * (10 - q15)) / 10))).bind fun gi16 =>
  some gi16)
def f_X3_pours (hk : HK) (gi : GI) (gr : GR) (a0 : Nat) (a1 : Nat) (x2 : Int32) (x3 : Int32) (x4 : Int32) : Option (GI) :=
  (gr a0 1).bind fun v1 =>
  (g_is hk v1 0).bind fun _ =>
  (g_ld gi v1 (hk v1).2 ((3 * x2) + x3)).bind fun v4 =>
  (g_st gi v1 (hk v1).2 ((3 * x2) + x3) (v4 + x4)).bind fun gi5 =>
  if x2 ≤ 0 then
  (f_X3_pours_j50 hk gr a0 a1 x2 x3 x4 gi5)
  else
  ((gr a0 1).bind fun v17 =>
  (g_is hk v17 0).bind fun _ =>
  (g_ld gi5 v17 (hk v17).2 ((3 * (x2 - 1)) + x3)).bind fun v20 =>
  (g_is hk a1 11).bind fun _ =>
  (f_X1_hedge hk gi5 gr a1 (x2 - 1)).bind fun q22 =>
  (g_st gi5 v17 (hk v17).2 ((3 * (x2 - 1)) + x3) (v20 + ((x4 * (10 - q22)) / 10))).bind fun gi23 =>
  f_X3_pours_j50 hk gr a0 a1 x2 x3 x4 gi23)
set_option maxHeartbeats 400000 in
theorem w_X3_pours (l : Launch) (D : va_G) (cA : Nat → ClassId) (ad : Nat → Nat) (hk : HK) (nx : Nat) (gi : GI) (gr : GR) (a0 : Nat) (a1 : Nat) (x2 : Int32) (x3 : Int32) (x4 : Int32) (ht : (hk a0).1 = 13) (r : GI) (h : f_X3_pours hk gi gr a0 a1 x2 x3 x4 = some r) (sz : Nat) : Met l yX3_pours (ws_ yX3_pours cX3_pours 5 (none)) ({ frames := 5, cells := 0, slots := 0, locals := 149 } : Room) (va_Pc [.ref (ad a0), .ref (ad a1), .int x2, .int x3, .int x4] (XPre D cA ad hk nx gi gr sz)) (va_Qv (fun u => u.1 = r ∧ u.2 = gr) (XPost D cA ad hk nx) (XA ad nx sz)) 0 0 (XA ad nx sz) := by
  refine xx_stV (own := RX3) (P := (fun u => u.1 = r ∧ u.2 = gr)) (by decide +kernel) rfl (Nat.le_of_ble_eq_true rfl) (fun p e s m args below meth c R Q A ls C hF hN B hret hL => ?_) sz
  have hx := C.1
  have hb := C.2.1
  have hL : lv_has ls 5 [(0, .ref (ad a0)), (1, .ref (ad a1)), (2, .int x2), (3, .int x3), (4, .int x4)] := hL
  unfold f_X3_pours at h
  have hj50 : ∀ (gij50 : GI) (H : Heap) (locs : List Loc) (ls : Array Slot), f_X3_pours_j50 hk gr a0 a1 x2 x3 x4 gij50 = some r → XB D cA ad hk nx A s gij50 gr H locs → lv_has ls 5 [(0, .ref (ad a0)), (1, .ref (ad a1)), (2, .int x2), (3, .int x3), (4, .int x4)] → W p l e R s m args below meth c H locs 0 0 Q (F0 m 50 ls []) := by
    intro gij50 H locs ls h B hL
    unfold f_X3_pours_j50 at h
    refine lv_iload_n hx hb dX3_pours_50 rfl (lv_at hL 2 rfl) ?_
    refine lv_iconst (v := 1) hx hb dX3_pours_51 (by decide) ?_
    refine lv_iadd hx hb dX3_pours_52 ?_
    refine lv_aload_n hx hb dX3_pours_53 rfl (lv_at hL 1 rfl) ?_
    refine xx_is h (fun hp6 h => ?_)
    refine xx_gr (ci := 1) (k := 1) C B xc_1 hp6 (by decide) (Nat.le_of_ble_eq_true rfl) rfl q256 (fun _ h => h) h dX3_pours_54 (fun v7 ok8 h => ?_)
    refine xx_is h (fun hp9 h => ?_)
    refine k_J2_size hp9 C B q333 (Nat.le_trans (Nat.le_of_ble_eq_true rfl) hF) (Nat.le_trans (Nat.le_of_ble_eq_true rfl) hN) hL.1 (Nat.le_of_ble_eq_true rfl) ⟨Nat.zero_le _, Nat.zero_le _⟩ h dX3_pours_57 (fun q10 h H locs B => ?_)
    refine gg_icmp_ge hx hb 92 h dX3_pours_60 (by decide) (fun h => ?_) (fun h => ?_)
    · exact hret _ _ _ _ _ _ ⟨Option.some.inj h, rfl⟩ B dX3_pours_92
    · refine lv_aload_n hx hb dX3_pours_63 rfl (lv_at hL 0 rfl) ?_
      refine xx_gr (ci := 3) (k := 1) C B xc_3 ht (by decide) (Nat.le_of_ble_eq_true rfl) rfl q306 (fun _ h => h) h dX3_pours_64 (fun v11 ok12 h => ?_)
      refine lv_iconst (v := 3) hx hb dX3_pours_67 (by decide) ?_
      refine lv_iload_n hx hb dX3_pours_68 rfl (lv_at hL 2 rfl) ?_
      refine lv_iconst (v := 1) hx hb dX3_pours_69 (by decide) ?_
      refine lv_iadd hx hb dX3_pours_70 ?_
      refine lv_imul hx hb dX3_pours_71 ?_
      refine lv_iload_n hx hb dX3_pours_72 rfl (lv_at hL 3 rfl) ?_
      refine lv_iadd hx hb dX3_pours_73 ?_
      refine lv_dup2_11 hx hb dX3_pours_74 rfl rfl ?_
      refine xx_is h (fun hp13 h => ?_)
      refine xx_iald C B hp13 h dX3_pours_75 (fun v14 h => ?_)
      refine lv_iload hx hb dX3_pours_76 (lv_at hL 4 rfl) ?_
      refine lv_bipush (v := 10) hx hb dX3_pours_78 (by decide) ?_
      refine lv_aload_n hx hb dX3_pours_80 rfl (lv_at hL 1 rfl) ?_
      refine lv_iload_n hx hb dX3_pours_81 rfl (lv_at hL 2 rfl) ?_
      refine k_X1_hedge hp6 C B q1394 (Nat.le_trans (Nat.le_of_ble_eq_true rfl) hF) (Nat.le_trans (Nat.le_of_ble_eq_true rfl) hN) hL.1 (Nat.le_of_ble_eq_true rfl) ⟨Nat.zero_le _, Nat.zero_le _⟩ h dX3_pours_82 (fun q15 h H locs B => ?_)
      refine lv_isub hx hb dX3_pours_85 ?_
      refine lv_imul hx hb dX3_pours_86 ?_
      refine lv_bipush (v := 10) hx hb dX3_pours_87 (by decide) ?_
      refine lv_idiv hx hb dX3_pours_89 (by decide) ?_
      refine lv_iadd hx hb dX3_pours_90 ?_
      refine xx_iast C B hp13 h dX3_pours_91 (fun gi16 h H locs B => ?_)
      exact hret _ _ _ _ _ _ ⟨Option.some.inj h, rfl⟩ B dX3_pours_92
  refine lv_aload_n hx hb dX3_pours_0 rfl (lv_at hL 0 rfl) ?_
  refine xx_gr (ci := 3) (k := 1) C B xc_3 ht (by decide) (Nat.le_of_ble_eq_true rfl) rfl q306 (fun _ h => h) h dX3_pours_1 (fun v1 ok2 h => ?_)
  refine lv_iconst (v := 3) hx hb dX3_pours_4 (by decide) ?_
  refine lv_iload_n hx hb dX3_pours_5 rfl (lv_at hL 2 rfl) ?_
  refine lv_imul hx hb dX3_pours_6 ?_
  refine lv_iload_n hx hb dX3_pours_7 rfl (lv_at hL 3 rfl) ?_
  refine lv_iadd hx hb dX3_pours_8 ?_
  refine lv_dup2_11 hx hb dX3_pours_9 rfl rfl ?_
  refine xx_is h (fun hp3 h => ?_)
  refine xx_iald C B hp3 h dX3_pours_10 (fun v4 h => ?_)
  refine lv_iload hx hb dX3_pours_11 (lv_at hL 4 rfl) ?_
  refine lv_iadd hx hb dX3_pours_13 ?_
  refine xx_iast C B hp3 h dX3_pours_14 (fun gi5 h H locs B => ?_)
  refine lv_iload_n hx hb dX3_pours_15 rfl (lv_at hL 2 rfl) ?_
  refine gg_if_le hx hb 50 h dX3_pours_16 (by decide) (fun h => ?_) (fun h => ?_)
  · exact hj50 _ _ _ _ h B (lv_sub hL [0, 1, 2, 3, 4] rfl)
  · refine lv_aload_n hx hb dX3_pours_19 rfl (lv_at hL 0 rfl) ?_
    refine xx_gr (ci := 3) (k := 1) C B xc_3 ht (by decide) (Nat.le_of_ble_eq_true rfl) rfl q306 (fun _ h => h) h dX3_pours_20 (fun v17 ok18 h => ?_)
    refine lv_iconst (v := 3) hx hb dX3_pours_23 (by decide) ?_
    refine lv_iload_n hx hb dX3_pours_24 rfl (lv_at hL 2 rfl) ?_
    refine lv_iconst (v := 1) hx hb dX3_pours_25 (by decide) ?_
    refine lv_isub hx hb dX3_pours_26 ?_
    refine lv_imul hx hb dX3_pours_27 ?_
    refine lv_iload_n hx hb dX3_pours_28 rfl (lv_at hL 3 rfl) ?_
    refine lv_iadd hx hb dX3_pours_29 ?_
    refine lv_dup2_11 hx hb dX3_pours_30 rfl rfl ?_
    refine xx_is h (fun hp19 h => ?_)
    refine xx_iald C B hp19 h dX3_pours_31 (fun v20 h => ?_)
    refine lv_iload hx hb dX3_pours_32 (lv_at hL 4 rfl) ?_
    refine lv_bipush (v := 10) hx hb dX3_pours_34 (by decide) ?_
    refine lv_aload_n hx hb dX3_pours_36 rfl (lv_at hL 1 rfl) ?_
    refine lv_iload_n hx hb dX3_pours_37 rfl (lv_at hL 2 rfl) ?_
    refine lv_iconst (v := 1) hx hb dX3_pours_38 (by decide) ?_
    refine lv_isub hx hb dX3_pours_39 ?_
    refine xx_is h (fun hp21 h => ?_)
    refine k_X1_hedge hp21 C B q1394 (Nat.le_trans (Nat.le_of_ble_eq_true rfl) hF) (Nat.le_trans (Nat.le_of_ble_eq_true rfl) hN) hL.1 (Nat.le_of_ble_eq_true rfl) ⟨Nat.zero_le _, Nat.zero_le _⟩ h dX3_pours_40 (fun q22 h H locs B => ?_)
    refine lv_isub hx hb dX3_pours_43 ?_
    refine lv_imul hx hb dX3_pours_44 ?_
    refine lv_bipush (v := 10) hx hb dX3_pours_45 (by decide) ?_
    refine lv_idiv hx hb dX3_pours_47 (by decide) ?_
    refine lv_iadd hx hb dX3_pours_48 ?_
    refine xx_iast C B hp19 h dX3_pours_49 (fun gi23 h H locs B => ?_)
    exact hj50 _ _ _ _ h B (lv_sub hL [0, 1, 2, 3, 4] rfl)
theorem k_X3_pours {p : Program} {l : Launch} {e : Env} {R : Room} {s : State} {m : MethodId} {args : Array Value} {below : List Frame} {meth : Method} {c : Code} {H : Heap} {locs : List Loc} {Q : State → Prop} {pc : Nat} {ls : Array Slot} {rest : List Value} {cc : ByteArray} {nL cells slots : Nat} {D : va_G} {cA : Nat → ClassId} {ad : Nat → Nat} {hk : HK} {nx : Nat} {A : Nat → Prop} {gi : GI} {gr : GR} {α : Type} {r : α} {own : String} {idx : Nat} {a0 : Nat} {a1 : Nat} {x2 : Int32} {x3 : Int32} {x4 : Int32} {ff : GI → Option α} (ht : (hk a0).1 = 13) (C : CallFix p m c cc nL s args lw_all own) (B : XB D cA ad hk nx A s gi gr H locs) (hq : Cond.methodLink own idx yX3_pours ∈ lw_all) (hF : 6 ≤ R.frames) (hN : 173 ≤ R.locals) (hs : ls.size = nL) (hw : (rest.map fun v => v.category).sum ≤ 8) (hz0 : cells ≤ R.cells ∧ slots ≤ R.slots) (h : (f_X3_pours hk gi gr a0 a1 x2 x3 x4).bind ff = some r) (hdg : decode cc pc = .ok (.invokevirtual idx, 3)) (kk : ∀ q, ff q = some r → ∀ (H' : Heap) (locs' : List Loc), XB D cA ad hk nx A s q gr H' locs' → W p l e R s m args below meth c H' locs' cells slots Q (F0 m (pc + 3) ls (rest))) : W p l e R s m args below meth c H locs cells slots Q (F0 m pc ls (.int x4 :: .int x3 :: .int x2 :: .ref (ad a1) :: .ref (ad a0) :: rest)) := by
  obtain ⟨q, h1, h2⟩ := g_ob h
  refine xx_cVV (As := [.ref (ad a1), .int x2, .int x3, .int x4]) (rest := rest) (n := 4) xc_3 ht (by decide) C B (fun sz => w_X3_pours l D cA ad hk nx gi gr a0 a1 x2 x3 x4 ht q h1 sz) hq q1392 qs44 q147 q1393 (by decide +kernel) ⟨hF, hN⟩ rfl hs hw hz0 hdg (fun u H9 locs9 hp B9 => ?_)
  obtain ⟨e1, e3⟩ := hp
  rw [e3] at B9
  subst e1
  exact kk _ h2 H9 locs9 B9
def f_X3_spends (hk : HK) (gi : GI) (gr : GR) (a0 : Nat) (a1 : Nat) (x2 : Int32) (x3 : Int32) (x4 : Int32) : Option (GI) :=
  (gr a0 0).bind fun v1 =>
  (g_is hk v1 0).bind fun _ =>
  (g_ld gi v1 (hk v1).2 ((3 * x2) + x3)).bind fun v4 =>
  (g_st gi v1 (hk v1).2 ((3 * x2) + x3) (v4 - x4)).bind fun gi5 =>
  (gr a0 3).bind fun v6 =>
  (g_is hk v6 0).bind fun _ =>
  (g_ld gi5 v6 (hk v6).2 x2).bind fun v9 =>
  (g_st gi5 v6 (hk v6).2 x2 (v9 + x4)).bind fun gi10 =>
  (f_X3_pours hk gi10 gr a0 a1 x2 x3 x4).bind fun q11 =>
  some q11
set_option maxHeartbeats 400000 in
theorem w_X3_spends (l : Launch) (D : va_G) (cA : Nat → ClassId) (ad : Nat → Nat) (hk : HK) (nx : Nat) (gi : GI) (gr : GR) (a0 : Nat) (a1 : Nat) (x2 : Int32) (x3 : Int32) (x4 : Int32) (ht : (hk a0).1 = 13) (r : GI) (h : f_X3_spends hk gi gr a0 a1 x2 x3 x4 = some r) (sz : Nat) : Met l yX3_spends (ws_ yX3_spends cX3_spends 5 (none)) ({ frames := 6, cells := 0, slots := 0, locals := 173 } : Room) (va_Pc [.ref (ad a0), .ref (ad a1), .int x2, .int x3, .int x4] (XPre D cA ad hk nx gi gr sz)) (va_Qv (fun u => u.1 = r ∧ u.2 = gr) (XPost D cA ad hk nx) (XA ad nx sz)) 0 0 (XA ad nx sz) := by
  refine xx_stV (own := RX3) (P := (fun u => u.1 = r ∧ u.2 = gr)) (by decide +kernel) rfl (Nat.le_of_ble_eq_true rfl) (fun p e s m args below meth c R Q A ls C hF hN B hret hL => ?_) sz
  have hx := C.1
  have hb := C.2.1
  have hL : lv_has ls 5 [(0, .ref (ad a0)), (1, .ref (ad a1)), (2, .int x2), (3, .int x3), (4, .int x4)] := hL
  unfold f_X3_spends at h
  refine lv_aload_n hx hb dX3_spends_0 rfl (lv_at hL 0 rfl) ?_
  refine xx_gr (ci := 3) (k := 0) C B xc_3 ht (by decide) (Nat.le_of_ble_eq_true rfl) rfl q304 (fun _ h => h) h dX3_spends_1 (fun v1 ok2 h => ?_)
  refine lv_iconst (v := 3) hx hb dX3_spends_4 (by decide) ?_
  refine lv_iload_n hx hb dX3_spends_5 rfl (lv_at hL 2 rfl) ?_
  refine lv_imul hx hb dX3_spends_6 ?_
  refine lv_iload_n hx hb dX3_spends_7 rfl (lv_at hL 3 rfl) ?_
  refine lv_iadd hx hb dX3_spends_8 ?_
  refine lv_dup2_11 hx hb dX3_spends_9 rfl rfl ?_
  refine xx_is h (fun hp3 h => ?_)
  refine xx_iald C B hp3 h dX3_spends_10 (fun v4 h => ?_)
  refine lv_iload hx hb dX3_spends_11 (lv_at hL 4 rfl) ?_
  refine lv_isub hx hb dX3_spends_13 ?_
  refine xx_iast C B hp3 h dX3_spends_14 (fun gi5 h H locs B => ?_)
  refine lv_aload_n hx hb dX3_spends_15 rfl (lv_at hL 0 rfl) ?_
  refine xx_gr (ci := 3) (k := 3) C B xc_3 ht (by decide) (Nat.le_of_ble_eq_true rfl) rfl q310 (fun _ h => h) h dX3_spends_16 (fun v6 ok7 h => ?_)
  refine lv_iload_n hx hb dX3_spends_19 rfl (lv_at hL 2 rfl) ?_
  refine lv_dup2_11 hx hb dX3_spends_20 rfl rfl ?_
  refine xx_is h (fun hp8 h => ?_)
  refine xx_iald C B hp8 h dX3_spends_21 (fun v9 h => ?_)
  refine lv_iload hx hb dX3_spends_22 (lv_at hL 4 rfl) ?_
  refine lv_iadd hx hb dX3_spends_24 ?_
  refine xx_iast C B hp8 h dX3_spends_25 (fun gi10 h H locs B => ?_)
  refine lv_aload_n hx hb dX3_spends_26 rfl (lv_at hL 0 rfl) ?_
  refine lv_aload_n hx hb dX3_spends_27 rfl (lv_at hL 1 rfl) ?_
  refine lv_iload_n hx hb dX3_spends_28 rfl (lv_at hL 2 rfl) ?_
  refine lv_iload_n hx hb dX3_spends_29 rfl (lv_at hL 3 rfl) ?_
  refine lv_iload hx hb dX3_spends_30 (lv_at hL 4 rfl) ?_
  refine k_X3_pours ht C B q1390 (Nat.le_trans (Nat.le_of_ble_eq_true rfl) hF) (Nat.le_trans (Nat.le_of_ble_eq_true rfl) hN) hL.1 (Nat.le_of_ble_eq_true rfl) ⟨Nat.zero_le _, Nat.zero_le _⟩ h dX3_spends_32 (fun q11 h H locs B => ?_)
  exact hret _ _ _ _ _ _ ⟨Option.some.inj h, rfl⟩ B dX3_spends_35
theorem k_X3_spends {p : Program} {l : Launch} {e : Env} {R : Room} {s : State} {m : MethodId} {args : Array Value} {below : List Frame} {meth : Method} {c : Code} {H : Heap} {locs : List Loc} {Q : State → Prop} {pc : Nat} {ls : Array Slot} {rest : List Value} {cc : ByteArray} {nL cells slots : Nat} {D : va_G} {cA : Nat → ClassId} {ad : Nat → Nat} {hk : HK} {nx : Nat} {A : Nat → Prop} {gi : GI} {gr : GR} {α : Type} {r : α} {own : String} {idx : Nat} {a0 : Nat} {a1 : Nat} {x2 : Int32} {x3 : Int32} {x4 : Int32} {ff : GI → Option α} (ht : (hk a0).1 = 13) (C : CallFix p m c cc nL s args lw_all own) (B : XB D cA ad hk nx A s gi gr H locs) (hq : Cond.methodLink own idx yX3_spends ∈ lw_all) (hF : 7 ≤ R.frames) (hN : 197 ≤ R.locals) (hs : ls.size = nL) (hw : (rest.map fun v => v.category).sum ≤ 8) (hz0 : cells ≤ R.cells ∧ slots ≤ R.slots) (h : (f_X3_spends hk gi gr a0 a1 x2 x3 x4).bind ff = some r) (hdg : decode cc pc = .ok (.invokevirtual idx, 3)) (kk : ∀ q, ff q = some r → ∀ (H' : Heap) (locs' : List Loc), XB D cA ad hk nx A s q gr H' locs' → W p l e R s m args below meth c H' locs' cells slots Q (F0 m (pc + 3) ls (rest))) : W p l e R s m args below meth c H locs cells slots Q (F0 m pc ls (.int x4 :: .int x3 :: .int x2 :: .ref (ad a1) :: .ref (ad a0) :: rest)) := by
  obtain ⟨q, h1, h2⟩ := g_ob h
  refine xx_cVV (As := [.ref (ad a1), .int x2, .int x3, .int x4]) (rest := rest) (n := 4) xc_3 ht (by decide) C B (fun sz => w_X3_spends l D cA ad hk nx gi gr a0 a1 x2 x3 x4 ht q h1 sz) hq q1387 q1388 q147 q1389 (by decide +kernel) ⟨hF, hN⟩ rfl hs hw hz0 hdg (fun u H9 locs9 hp B9 => ?_)
  obtain ⟨e1, e3⟩ := hp
  rw [e3] at B9
  subst e1
  exact kk _ h2 H9 locs9 B9
def f_X0_spend (hk : HK) (gi : GI) (gr : GR) (a0 : Nat) (x1 : Int32) (x2 : Int32) (x3 : Int32) : Option (Int32 × GI × GR) :=
  (f_X0_isMan hk gi gr a0 x1).bind fun q1 =>
  if q1 = 0 then
  (some ((-1), gi, gr))
  else
  ((f_X0_isKind hk gi gr a0 x2).bind fun q2 =>
  if q2 = 0 then
  (some ((-1), gi, gr))
  else
  ((f_X0_isIn hk gi gr x3 1 8).bind fun q3 =>
  if q3 = 0 then
  (some ((-1), gi, gr))
  else
  ((gr a0 5).bind fun v4 =>
  (g_is hk v4 13).bind fun _ =>
  (f_X3_purse hk gi gr v4 x1 x2).bind fun q7 =>
  if q7 < x3 then
  (some ((-1), gi, gr))
  else
  ((gr a0 5).bind fun v8 =>
  (f_X0_left_2 hk gi gr a0 v8 x1).bind fun q10 =>
  if x3 ≤ q10 then
  ((f_X0_act hk gi gr a0).bind fun q11 =>
  (q11.2 a0 5).bind fun v12 =>
  (q11.2 a0 4).bind fun v14 =>
  (g_is hk v12 13).bind fun _ =>
  (f_X3_spends hk q11.1 q11.2 v12 v14 x1 x2 x3).bind fun q17 =>
  (f_X0_over hk q17 q11.2 a0 x1 x2).bind fun q18 =>
  some (q18, q17, q11.2))
  else
  (some ((-1), gi, gr))))))
set_option maxHeartbeats 400000 in
theorem w_X0_spend (l : Launch) (D : va_G) (cA : Nat → ClassId) (ad : Nat → Nat) (hk : HK) (nx : Nat) (gi : GI) (gr : GR) (a0 : Nat) (x1 : Int32) (x2 : Int32) (x3 : Int32) (ht : (hk a0).1 = 10) (r : Int32 × GI × GR) (h : f_X0_spend hk gi gr a0 x1 x2 x3 = some r) (sz : Nat) : Met l yX0_spend (ws_ yX0_spend cX0_spend 4 (some .int)) ({ frames := 7, cells := 0, slots := 0, locals := 197 } : Room) (va_Pc [.ref (ad a0), .int x1, .int x2, .int x3] (XPre D cA ad hk nx gi gr sz)) (va_Qi (fun v u => (v, u.1, u.2) = r) (XPost D cA ad hk nx) (XA ad nx sz)) 0 0 (XA ad nx sz) := by
  refine xx_stI (own := RX0) (P := (fun v u => (v, u.1, u.2) = r)) (by decide +kernel) rfl (Nat.le_of_ble_eq_true rfl) (fun p e s m args below meth c R Q A ls C hF hN B hret hL => ?_) sz
  have hx := C.1
  have hb := C.2.1
  have hL : lv_has ls 4 [(0, .ref (ad a0)), (1, .int x1), (2, .int x2), (3, .int x3)] := hL
  unfold f_X0_spend at h
  refine lv_aload_n hx hb dX0_spend_0 rfl (lv_at hL 0 rfl) ?_
  refine lv_iload_n hx hb dX0_spend_1 rfl (lv_at hL 1 rfl) ?_
  refine k_X0_isMan ht C B q1243 (Nat.le_trans (Nat.le_of_ble_eq_true rfl) hF) (Nat.le_trans (Nat.le_of_ble_eq_true rfl) hN) hL.1 (Nat.le_of_ble_eq_true rfl) ⟨Nat.zero_le _, Nat.zero_le _⟩ h dX0_spend_2 (fun q1 h H locs B => ?_)
  refine gg_if_eq hx hb 52 h dX0_spend_5 (by decide) (fun h => ?_) (fun h => ?_)
  · refine lv_iconst (v := (-1)) hx hb dX0_spend_52 (by decide) ?_
    exact hret _ _ _ _ _ _ _ (Option.some.inj h) B dX0_spend_53
  · refine lv_aload_n hx hb dX0_spend_8 rfl (lv_at hL 0 rfl) ?_
    refine lv_iload_n hx hb dX0_spend_9 rfl (lv_at hL 2 rfl) ?_
    refine k_X0_isKind ht C B q1341 (Nat.le_trans (Nat.le_of_ble_eq_true rfl) hF) (Nat.le_trans (Nat.le_of_ble_eq_true rfl) hN) hL.1 (Nat.le_of_ble_eq_true rfl) ⟨Nat.zero_le _, Nat.zero_le _⟩ h dX0_spend_10 (fun q2 h H locs B => ?_)
    refine gg_if_eq hx hb 52 h dX0_spend_13 (by decide) (fun h => ?_) (fun h => ?_)
    · refine lv_iconst (v := (-1)) hx hb dX0_spend_52 (by decide) ?_
      exact hret _ _ _ _ _ _ _ (Option.some.inj h) B dX0_spend_53
    · refine lv_iload_n hx hb dX0_spend_16 rfl (lv_at hL 3 rfl) ?_
      refine lv_iconst (v := 1) hx hb dX0_spend_17 (by decide) ?_
      refine lv_bipush (v := 8) hx hb dX0_spend_18 (by decide) ?_
      refine k_X0_isIn C B q1247 (Nat.le_trans (Nat.le_of_ble_eq_true rfl) hF) (Nat.le_trans (Nat.le_of_ble_eq_true rfl) hN) hL.1 (Nat.le_of_ble_eq_true rfl) ⟨Nat.zero_le _, Nat.zero_le _⟩ h dX0_spend_20 (fun q3 h H locs B => ?_)
      refine gg_if_eq hx hb 52 h dX0_spend_23 (by decide) (fun h => ?_) (fun h => ?_)
      · refine lv_iconst (v := (-1)) hx hb dX0_spend_52 (by decide) ?_
        exact hret _ _ _ _ _ _ _ (Option.some.inj h) B dX0_spend_53
      · refine lv_iload_n hx hb dX0_spend_26 rfl (lv_at hL 3 rfl) ?_
        refine lv_aload_n hx hb dX0_spend_27 rfl (lv_at hL 0 rfl) ?_
        refine xx_gr (ci := 0) (k := 5) C B xc_0 ht (by decide) (Nat.le_of_ble_eq_true rfl) rfl q364 (fun _ h => h) h dX0_spend_28 (fun v4 ok5 h => ?_)
        refine lv_iload_n hx hb dX0_spend_31 rfl (lv_at hL 1 rfl) ?_
        refine lv_iload_n hx hb dX0_spend_32 rfl (lv_at hL 2 rfl) ?_
        refine xx_is h (fun hp6 h => ?_)
        refine k_X3_purse hp6 C B q1349 (Nat.le_trans (Nat.le_of_ble_eq_true rfl) hF) (Nat.le_trans (Nat.le_of_ble_eq_true rfl) hN) hL.1 (Nat.le_of_ble_eq_true rfl) ⟨Nat.zero_le _, Nat.zero_le _⟩ h dX0_spend_33 (fun q7 h H locs B => ?_)
        refine gg_icmp_gt hx hb 52 h dX0_spend_36 (by decide) (fun h => ?_) (fun h => ?_)
        · refine lv_iconst (v := (-1)) hx hb dX0_spend_52 (by decide) ?_
          exact hret _ _ _ _ _ _ _ (Option.some.inj h) B dX0_spend_53
        · refine lv_iload_n hx hb dX0_spend_39 rfl (lv_at hL 3 rfl) ?_
          refine lv_aload_n hx hb dX0_spend_40 rfl (lv_at hL 0 rfl) ?_
          refine lv_aload_n hx hb dX0_spend_41 rfl (lv_at hL 0 rfl) ?_
          refine xx_gr (ci := 0) (k := 5) C B xc_0 ht (by decide) (Nat.le_of_ble_eq_true rfl) rfl q364 (fun _ h => h) h dX0_spend_42 (fun v8 ok9 h => ?_)
          refine lv_iload_n hx hb dX0_spend_45 rfl (lv_at hL 1 rfl) ?_
          refine k_X0_left_2 ht C B q1367 (Nat.le_trans (Nat.le_of_ble_eq_true rfl) hF) (Nat.le_trans (Nat.le_of_ble_eq_true rfl) hN) hL.1 (Nat.le_of_ble_eq_true rfl) ⟨Nat.zero_le _, Nat.zero_le _⟩ h dX0_spend_46 (fun q10 h H locs B => ?_)
          refine gg_icmp_le hx hb 54 h dX0_spend_49 (by decide) (fun h => ?_) (fun h => ?_)
          · refine lv_aload_n hx hb dX0_spend_54 rfl (lv_at hL 0 rfl) ?_
            refine k_X0_act ht C B q1376 (Nat.le_trans (Nat.le_of_ble_eq_true rfl) hF) (Nat.le_trans (Nat.le_of_ble_eq_true rfl) hN) hL.1 (Nat.le_of_ble_eq_true rfl) ⟨Nat.zero_le _, Nat.zero_le _⟩ h dX0_spend_55 (fun q11 h H locs B => ?_)
            refine lv_aload_n hx hb dX0_spend_58 rfl (lv_at hL 0 rfl) ?_
            refine xx_gr (ci := 0) (k := 5) C B xc_0 ht (by decide) (Nat.le_of_ble_eq_true rfl) rfl q364 (fun _ h => h) h dX0_spend_59 (fun v12 ok13 h => ?_)
            refine lv_aload_n hx hb dX0_spend_62 rfl (lv_at hL 0 rfl) ?_
            refine xx_gr (ci := 0) (k := 4) C B xc_0 ht (by decide) (Nat.le_of_ble_eq_true rfl) rfl q363 (fun _ h => h) h dX0_spend_63 (fun v14 ok15 h => ?_)
            refine lv_iload_n hx hb dX0_spend_66 rfl (lv_at hL 1 rfl) ?_
            refine lv_iload_n hx hb dX0_spend_67 rfl (lv_at hL 2 rfl) ?_
            refine lv_iload_n hx hb dX0_spend_68 rfl (lv_at hL 3 rfl) ?_
            refine xx_is h (fun hp16 h => ?_)
            refine k_X3_spends hp16 C B q1386 (Nat.le_trans (Nat.le_of_ble_eq_true rfl) hF) (Nat.le_trans (Nat.le_of_ble_eq_true rfl) hN) hL.1 (Nat.le_of_ble_eq_true rfl) ⟨Nat.zero_le _, Nat.zero_le _⟩ h dX0_spend_69 (fun q17 h H locs B => ?_)
            refine lv_aload_n hx hb dX0_spend_72 rfl (lv_at hL 0 rfl) ?_
            refine lv_iload_n hx hb dX0_spend_73 rfl (lv_at hL 1 rfl) ?_
            refine lv_iload_n hx hb dX0_spend_74 rfl (lv_at hL 2 rfl) ?_
            refine k_X0_over ht C B q1362 (Nat.le_trans (Nat.le_of_ble_eq_true rfl) hF) (Nat.le_trans (Nat.le_of_ble_eq_true rfl) hN) hL.1 (Nat.le_of_ble_eq_true rfl) ⟨Nat.zero_le _, Nat.zero_le _⟩ h dX0_spend_75 (fun q18 h H locs B => ?_)
            exact hret _ _ _ _ _ _ _ (Option.some.inj h) B dX0_spend_78
          · refine lv_iconst (v := (-1)) hx hb dX0_spend_52 (by decide) ?_
            exact hret _ _ _ _ _ _ _ (Option.some.inj h) B dX0_spend_53
theorem k_X0_spend {p : Program} {l : Launch} {e : Env} {R : Room} {s : State} {m : MethodId} {args : Array Value} {below : List Frame} {meth : Method} {c : Code} {H : Heap} {locs : List Loc} {Q : State → Prop} {pc : Nat} {ls : Array Slot} {rest : List Value} {cc : ByteArray} {nL cells slots : Nat} {D : va_G} {cA : Nat → ClassId} {ad : Nat → Nat} {hk : HK} {nx : Nat} {A : Nat → Prop} {gi : GI} {gr : GR} {α : Type} {r : α} {own : String} {idx : Nat} {a0 : Nat} {x1 : Int32} {x2 : Int32} {x3 : Int32} {ff : (Int32 × GI × GR) → Option α} (ht : (hk a0).1 = 10) (C : CallFix p m c cc nL s args lw_all own) (B : XB D cA ad hk nx A s gi gr H locs) (hq : Cond.methodLink own idx yX0_spend ∈ lw_all) (hF : 8 ≤ R.frames) (hN : 220 ≤ R.locals) (hs : ls.size = nL) (hw : (rest.map fun v => v.category).sum ≤ 8) (hz0 : cells ≤ R.cells ∧ slots ≤ R.slots) (h : (f_X0_spend hk gi gr a0 x1 x2 x3).bind ff = some r) (hdg : decode cc pc = .ok (.invokevirtual idx, 3)) (kk : ∀ q, ff q = some r → ∀ (H' : Heap) (locs' : List Loc), XB D cA ad hk nx A s q.2.1 q.2.2 H' locs' → W p l e R s m args below meth c H' locs' cells slots Q (F0 m (pc + 3) ls (.int q.1 :: rest))) : W p l e R s m args below meth c H locs cells slots Q (F0 m pc ls (.int x3 :: .int x2 :: .int x1 :: .ref (ad a0) :: rest)) := by
  obtain ⟨q, h1, h2⟩ := g_ob h
  refine xx_cVI (As := [.int x1, .int x2, .int x3]) (rest := rest) (n := 3) xc_0 ht (by decide) C B (fun sz => w_X0_spend l D cA ad hk nx gi gr a0 x1 x2 x3 ht q h1 sz) hq q1373 q1374 q141 q1375 (by decide +kernel) ⟨hF, hN⟩ rfl hs hw hz0 hdg (fun v u H9 locs9 hp B9 => ?_)
  have e1 := hp
  subst e1
  exact kk _ h2 H9 locs9 B9
def f_X0_areTwo (hk : HK) (gi : GI) (gr : GR) (a0 : Nat) (x1 : Int32) (x2 : Int32) : Option (Int32) :=
  (f_X0_isMan hk gi gr a0 x1).bind fun q1 =>
  if q1 = 0 then
  (some 0)
  else
  ((f_X0_isMan hk gi gr a0 x2).bind fun q2 =>
  if q2 = 0 then
  (some 0)
  else
  (if x1 = x2 then
  (some 0)
  else
  (some 1)))
set_option maxHeartbeats 400000 in
theorem w_X0_areTwo (l : Launch) (D : va_G) (cA : Nat → ClassId) (ad : Nat → Nat) (hk : HK) (nx : Nat) (gi : GI) (gr : GR) (a0 : Nat) (x1 : Int32) (x2 : Int32) (ht : (hk a0).1 = 10) (r : Int32) (h : f_X0_areTwo hk gi gr a0 x1 x2 = some r) (sz : Nat) : Met l yX0_areTwo (ws_ yX0_areTwo cX0_areTwo 3 (some .boolean)) ({ frames := 4, cells := 0, slots := 0, locals := 125 } : Room) (va_Pc [.ref (ad a0), .int x1, .int x2] (XPre D cA ad hk nx gi gr sz)) (va_Qi (fun v u => v = r ∧ u.1 = gi ∧ u.2 = gr) (XPost D cA ad hk nx) (XA ad nx sz)) 0 0 (XA ad nx sz) := by
  refine xx_stZ (own := RX0) (P := (fun v u => v = r ∧ u.1 = gi ∧ u.2 = gr)) (by decide +kernel) rfl (Nat.le_of_ble_eq_true rfl) (fun p e s m args below meth c R Q A ls C hF hN B hret hL => ?_) sz
  have hx := C.1
  have hb := C.2.1
  have hL : lv_has ls 3 [(0, .ref (ad a0)), (1, .int x1), (2, .int x2)] := hL
  unfold f_X0_areTwo at h
  refine lv_aload_n hx hb dX0_areTwo_0 rfl (lv_at hL 0 rfl) ?_
  refine lv_iload_n hx hb dX0_areTwo_1 rfl (lv_at hL 1 rfl) ?_
  refine k_X0_isMan ht C B q1243 (Nat.le_trans (Nat.le_of_ble_eq_true rfl) hF) (Nat.le_trans (Nat.le_of_ble_eq_true rfl) hN) hL.1 (Nat.le_of_ble_eq_true rfl) ⟨Nat.zero_le _, Nat.zero_le _⟩ h dX0_areTwo_2 (fun q1 h H locs B => ?_)
  refine gg_if_eq hx hb 25 h dX0_areTwo_5 (by decide) (fun h => ?_) (fun h => ?_)
  · refine lv_iconst (v := 0) hx hb dX0_areTwo_25 (by decide) ?_
    exact hret _ _ _ _ _ _ _ ⟨Option.some.inj h, rfl, rfl⟩ (Or.inl rfl) B dX0_areTwo_26
  · refine lv_aload_n hx hb dX0_areTwo_8 rfl (lv_at hL 0 rfl) ?_
    refine lv_iload_n hx hb dX0_areTwo_9 rfl (lv_at hL 2 rfl) ?_
    refine k_X0_isMan ht C B q1243 (Nat.le_trans (Nat.le_of_ble_eq_true rfl) hF) (Nat.le_trans (Nat.le_of_ble_eq_true rfl) hN) hL.1 (Nat.le_of_ble_eq_true rfl) ⟨Nat.zero_le _, Nat.zero_le _⟩ h dX0_areTwo_10 (fun q2 h H locs B => ?_)
    refine gg_if_eq hx hb 25 h dX0_areTwo_13 (by decide) (fun h => ?_) (fun h => ?_)
    · refine lv_iconst (v := 0) hx hb dX0_areTwo_25 (by decide) ?_
      exact hret _ _ _ _ _ _ _ ⟨Option.some.inj h, rfl, rfl⟩ (Or.inl rfl) B dX0_areTwo_26
    · refine lv_iload_n hx hb dX0_areTwo_16 rfl (lv_at hL 1 rfl) ?_
      refine lv_iload_n hx hb dX0_areTwo_17 rfl (lv_at hL 2 rfl) ?_
      refine gg_icmp_eq hx hb 25 h dX0_areTwo_18 (by decide) (fun h => ?_) (fun h => ?_)
      · refine lv_iconst (v := 0) hx hb dX0_areTwo_25 (by decide) ?_
        exact hret _ _ _ _ _ _ _ ⟨Option.some.inj h, rfl, rfl⟩ (Or.inl rfl) B dX0_areTwo_26
      · refine lv_iconst (v := 1) hx hb dX0_areTwo_21 (by decide) ?_
        refine lv_goto (tgt := 26) hx hb dX0_areTwo_22 (by decide) ?_
        exact hret _ _ _ _ _ _ _ ⟨Option.some.inj h, rfl, rfl⟩ (Or.inr rfl) B dX0_areTwo_26
theorem k_X0_areTwo {p : Program} {l : Launch} {e : Env} {R : Room} {s : State} {m : MethodId} {args : Array Value} {below : List Frame} {meth : Method} {c : Code} {H : Heap} {locs : List Loc} {Q : State → Prop} {pc : Nat} {ls : Array Slot} {rest : List Value} {cc : ByteArray} {nL cells slots : Nat} {D : va_G} {cA : Nat → ClassId} {ad : Nat → Nat} {hk : HK} {nx : Nat} {A : Nat → Prop} {gi : GI} {gr : GR} {α : Type} {r : α} {own : String} {idx : Nat} {a0 : Nat} {x1 : Int32} {x2 : Int32} {ff : Int32 → Option α} (ht : (hk a0).1 = 10) (C : CallFix p m c cc nL s args lw_all own) (B : XB D cA ad hk nx A s gi gr H locs) (hq : Cond.methodLink own idx yX0_areTwo ∈ lw_all) (hF : 5 ≤ R.frames) (hN : 147 ≤ R.locals) (hs : ls.size = nL) (hw : (rest.map fun v => v.category).sum ≤ 8) (hz0 : cells ≤ R.cells ∧ slots ≤ R.slots) (h : (f_X0_areTwo hk gi gr a0 x1 x2).bind ff = some r) (hdg : decode cc pc = .ok (.invokevirtual idx, 3)) (kk : ∀ q, ff q = some r → ∀ (H' : Heap) (locs' : List Loc), XB D cA ad hk nx A s gi gr H' locs' → W p l e R s m args below meth c H' locs' cells slots Q (F0 m (pc + 3) ls (.int q :: rest))) : W p l e R s m args below meth c H locs cells slots Q (F0 m pc ls (.int x2 :: .int x1 :: .ref (ad a0) :: rest)) := by
  obtain ⟨q, h1, h2⟩ := g_ob h
  refine xx_cVI (As := [.int x1, .int x2]) (rest := rest) (n := 2) xc_0 ht (by decide) C B (fun sz => w_X0_areTwo l D cA ad hk nx gi gr a0 x1 x2 ht q h1 sz) hq q1404 qs45 q141 q1405 (by decide +kernel) ⟨hF, hN⟩ rfl hs hw hz0 hdg (fun v u H9 locs9 hp B9 => ?_)
  obtain ⟨e1, e2, e3⟩ := hp
  rw [e2] at B9
  rw [e3] at B9
  subst e1
  exact kk _ h2 H9 locs9 B9
def f_X3_gets (hk : HK) (gi : GI) (gr : GR) (a0 : Nat) (x1 : Int32) (x2 : Int32) (x3 : Int32) : Option (GI) :=
  (gr a0 0).bind fun v1 =>
  (gr a0 0).bind fun v3 =>
  (g_is hk v3 0).bind fun _ =>
  (g_ld gi v3 (hk v3).2 ((3 * x1) + x2)).bind fun v6 =>
  (g_is hk v1 0).bind fun _ =>
  (g_st gi v1 (hk v1).2 ((3 * x1) + x2) (if (v6 + x3) < 99 then (v6 + x3) else 99)).bind fun gi8 =>
  some gi8
set_option maxHeartbeats 400000 in
theorem w_X3_gets (l : Launch) (D : va_G) (cA : Nat → ClassId) (ad : Nat → Nat) (hk : HK) (nx : Nat) (gi : GI) (gr : GR) (a0 : Nat) (x1 : Int32) (x2 : Int32) (x3 : Int32) (ht : (hk a0).1 = 13) (r : GI) (h : f_X3_gets hk gi gr a0 x1 x2 x3 = some r) (sz : Nat) : Met l yX3_gets (ws_ yX3_gets cX3_gets 4 (none)) ({ frames := 1, cells := 0, slots := 0, locals := 64 } : Room) (va_Pc [.ref (ad a0), .int x1, .int x2, .int x3] (XPre D cA ad hk nx gi gr sz)) (va_Qv (fun u => u.1 = r ∧ u.2 = gr) (XPost D cA ad hk nx) (XA ad nx sz)) 0 0 (XA ad nx sz) := by
  refine xx_stV (own := RX3) (P := (fun u => u.1 = r ∧ u.2 = gr)) (by decide +kernel) rfl (Nat.le_of_ble_eq_true rfl) (fun p e s m args below meth c R Q A ls C hF hN B hret hL => ?_) sz
  have hx := C.1
  have hb := C.2.1
  have hL : lv_has ls 4 [(0, .ref (ad a0)), (1, .int x1), (2, .int x2), (3, .int x3)] := hL
  unfold f_X3_gets at h
  refine lv_aload_n hx hb dX3_gets_0 rfl (lv_at hL 0 rfl) ?_
  refine xx_gr (ci := 3) (k := 0) C B xc_3 ht (by decide) (Nat.le_of_ble_eq_true rfl) rfl q304 (fun _ h => h) h dX3_gets_1 (fun v1 ok2 h => ?_)
  refine lv_iconst (v := 3) hx hb dX3_gets_4 (by decide) ?_
  refine lv_iload_n hx hb dX3_gets_5 rfl (lv_at hL 1 rfl) ?_
  refine lv_imul hx hb dX3_gets_6 ?_
  refine lv_iload_n hx hb dX3_gets_7 rfl (lv_at hL 2 rfl) ?_
  refine lv_iadd hx hb dX3_gets_8 ?_
  refine lv_bipush (v := 99) hx hb dX3_gets_9 (by decide) ?_
  refine lv_aload_n hx hb dX3_gets_11 rfl (lv_at hL 0 rfl) ?_
  refine xx_gr (ci := 3) (k := 0) C B xc_3 ht (by decide) (Nat.le_of_ble_eq_true rfl) rfl q304 (fun _ h => h) h dX3_gets_12 (fun v3 ok4 h => ?_)
  refine lv_iconst (v := 3) hx hb dX3_gets_15 (by decide) ?_
  refine lv_iload_n hx hb dX3_gets_16 rfl (lv_at hL 1 rfl) ?_
  refine lv_imul hx hb dX3_gets_17 ?_
  refine lv_iload_n hx hb dX3_gets_18 rfl (lv_at hL 2 rfl) ?_
  refine lv_iadd hx hb dX3_gets_19 ?_
  refine xx_is h (fun hp5 h => ?_)
  refine xx_iald C B hp5 h dX3_gets_20 (fun v6 h => ?_)
  refine lv_iload_n hx hb dX3_gets_21 rfl (lv_at hL 3 rfl) ?_
  refine lv_iadd hx hb dX3_gets_22 ?_
  refine xx_min C q1410 q592 q157 q593 (Nat.le_trans (Nat.le_of_ble_eq_true rfl) hF) (Nat.le_trans (Nat.le_of_ble_eq_true rfl) hN) hL.1 (Nat.le_of_ble_eq_true rfl) ⟨Nat.zero_le _, Nat.zero_le _⟩ dX3_gets_23 ?_
  refine xx_is h (fun hp7 h => ?_)
  refine xx_iast C B hp7 h dX3_gets_26 (fun gi8 h H locs B => ?_)
  exact hret _ _ _ _ _ _ ⟨Option.some.inj h, rfl⟩ B dX3_gets_27
theorem k_X3_gets {p : Program} {l : Launch} {e : Env} {R : Room} {s : State} {m : MethodId} {args : Array Value} {below : List Frame} {meth : Method} {c : Code} {H : Heap} {locs : List Loc} {Q : State → Prop} {pc : Nat} {ls : Array Slot} {rest : List Value} {cc : ByteArray} {nL cells slots : Nat} {D : va_G} {cA : Nat → ClassId} {ad : Nat → Nat} {hk : HK} {nx : Nat} {A : Nat → Prop} {gi : GI} {gr : GR} {α : Type} {r : α} {own : String} {idx : Nat} {a0 : Nat} {x1 : Int32} {x2 : Int32} {x3 : Int32} {ff : GI → Option α} (ht : (hk a0).1 = 13) (C : CallFix p m c cc nL s args lw_all own) (B : XB D cA ad hk nx A s gi gr H locs) (hq : Cond.methodLink own idx yX3_gets ∈ lw_all) (hF : 2 ≤ R.frames) (hN : 87 ≤ R.locals) (hs : ls.size = nL) (hw : (rest.map fun v => v.category).sum ≤ 8) (hz0 : cells ≤ R.cells ∧ slots ≤ R.slots) (h : (f_X3_gets hk gi gr a0 x1 x2 x3).bind ff = some r) (hdg : decode cc pc = .ok (.invokevirtual idx, 3)) (kk : ∀ q, ff q = some r → ∀ (H' : Heap) (locs' : List Loc), XB D cA ad hk nx A s q gr H' locs' → W p l e R s m args below meth c H' locs' cells slots Q (F0 m (pc + 3) ls (rest))) : W p l e R s m args below meth c H locs cells slots Q (F0 m pc ls (.int x3 :: .int x2 :: .int x1 :: .ref (ad a0) :: rest)) := by
  obtain ⟨q, h1, h2⟩ := g_ob h
  refine xx_cVV (As := [.int x1, .int x2, .int x3]) (rest := rest) (n := 3) xc_3 ht (by decide) C B (fun sz => w_X3_gets l D cA ad hk nx gi gr a0 x1 x2 x3 ht q h1 sz) hq q1407 q1408 q147 q1409 (by decide +kernel) ⟨hF, hN⟩ rfl hs hw hz0 hdg (fun u H9 locs9 hp B9 => ?_)
  obtain ⟨e1, e3⟩ := hp
  rw [e3] at B9
  subst e1
  exact kk _ h2 H9 locs9 B9
def f_X0_give (hk : HK) (gi : GI) (gr : GR) (a0 : Nat) (x1 : Int32) (x2 : Int32) (x3 : Int32) (x4 : Int32) : Option (Int32 × GI × GR) :=
  (f_X0_areTwo hk gi gr a0 x1 x2).bind fun q1 =>
  if q1 = 0 then
  (some ((-1), gi, gr))
  else
  ((f_X0_isKind hk gi gr a0 x3).bind fun q2 =>
  if q2 = 0 then
  (some ((-1), gi, gr))
  else
  ((f_X0_isIn hk gi gr x4 1 99).bind fun q3 =>
  if q3 = 0 then
  (some ((-1), gi, gr))
  else
  ((gr a0 5).bind fun v4 =>
  (g_is hk v4 13).bind fun _ =>
  (f_X3_purse hk gi gr v4 x1 x3).bind fun q7 =>
  if x4 ≤ q7 then
  ((f_X0_act hk gi gr a0).bind fun q8 =>
  (q8.2 a0 5).bind fun v9 =>
  (g_is hk v9 13).bind fun _ =>
  (q8.2 v9 0).bind fun v12 =>
  (g_is hk v12 0).bind fun _ =>
  (g_ld q8.1 v12 (hk v12).2 ((3 * x1) + x3)).bind fun v15 =>
  (g_st q8.1 v12 (hk v12).2 ((3 * x1) + x3) (v15 - x4)).bind fun gi16 =>
  (q8.2 a0 5).bind fun v17 =>
  (g_is hk v17 13).bind fun _ =>
  (f_X3_gets hk gi16 q8.2 v17 x2 x3 x4).bind fun q20 =>
  (q8.2 a0 5).bind fun v21 =>
  (g_is hk v21 13).bind fun _ =>
  (f_X3_purse hk q20 q8.2 v21 x2 x3).bind fun q24 =>
  some (q24, q20, q8.2))
  else
  (some ((-1), gi, gr)))))
set_option maxHeartbeats 400000 in
theorem w_X0_give (l : Launch) (D : va_G) (cA : Nat → ClassId) (ad : Nat → Nat) (hk : HK) (nx : Nat) (gi : GI) (gr : GR) (a0 : Nat) (x1 : Int32) (x2 : Int32) (x3 : Int32) (x4 : Int32) (ht : (hk a0).1 = 10) (r : Int32 × GI × GR) (h : f_X0_give hk gi gr a0 x1 x2 x3 x4 = some r) (sz : Nat) : Met l yX0_give (ws_ yX0_give cX0_give 5 (some .int)) ({ frames := 5, cells := 0, slots := 0, locals := 147 } : Room) (va_Pc [.ref (ad a0), .int x1, .int x2, .int x3, .int x4] (XPre D cA ad hk nx gi gr sz)) (va_Qi (fun v u => (v, u.1, u.2) = r) (XPost D cA ad hk nx) (XA ad nx sz)) 0 0 (XA ad nx sz) := by
  refine xx_stI (own := RX0) (P := (fun v u => (v, u.1, u.2) = r)) (by decide +kernel) rfl (Nat.le_of_ble_eq_true rfl) (fun p e s m args below meth c R Q A ls C hF hN B hret hL => ?_) sz
  have hx := C.1
  have hb := C.2.1
  have hL : lv_has ls 5 [(0, .ref (ad a0)), (1, .int x1), (2, .int x2), (3, .int x3), (4, .int x4)] := hL
  unfold f_X0_give at h
  refine lv_aload_n hx hb dX0_give_0 rfl (lv_at hL 0 rfl) ?_
  refine lv_iload_n hx hb dX0_give_1 rfl (lv_at hL 1 rfl) ?_
  refine lv_iload_n hx hb dX0_give_2 rfl (lv_at hL 2 rfl) ?_
  refine k_X0_areTwo ht C B q1402 (Nat.le_trans (Nat.le_of_ble_eq_true rfl) hF) (Nat.le_trans (Nat.le_of_ble_eq_true rfl) hN) hL.1 (Nat.le_of_ble_eq_true rfl) ⟨Nat.zero_le _, Nat.zero_le _⟩ h dX0_give_3 (fun q1 h H locs B => ?_)
  refine gg_if_eq hx hb 42 h dX0_give_6 (by decide) (fun h => ?_) (fun h => ?_)
  · refine lv_iconst (v := (-1)) hx hb dX0_give_42 (by decide) ?_
    exact hret _ _ _ _ _ _ _ (Option.some.inj h) B dX0_give_43
  · refine lv_aload_n hx hb dX0_give_9 rfl (lv_at hL 0 rfl) ?_
    refine lv_iload_n hx hb dX0_give_10 rfl (lv_at hL 3 rfl) ?_
    refine k_X0_isKind ht C B q1341 (Nat.le_trans (Nat.le_of_ble_eq_true rfl) hF) (Nat.le_trans (Nat.le_of_ble_eq_true rfl) hN) hL.1 (Nat.le_of_ble_eq_true rfl) ⟨Nat.zero_le _, Nat.zero_le _⟩ h dX0_give_11 (fun q2 h H locs B => ?_)
    refine gg_if_eq hx hb 42 h dX0_give_14 (by decide) (fun h => ?_) (fun h => ?_)
    · refine lv_iconst (v := (-1)) hx hb dX0_give_42 (by decide) ?_
      exact hret _ _ _ _ _ _ _ (Option.some.inj h) B dX0_give_43
    · refine lv_iload hx hb dX0_give_17 (lv_at hL 4 rfl) ?_
      refine lv_iconst (v := 1) hx hb dX0_give_19 (by decide) ?_
      refine lv_bipush (v := 99) hx hb dX0_give_20 (by decide) ?_
      refine k_X0_isIn C B q1247 (Nat.le_trans (Nat.le_of_ble_eq_true rfl) hF) (Nat.le_trans (Nat.le_of_ble_eq_true rfl) hN) hL.1 (Nat.le_of_ble_eq_true rfl) ⟨Nat.zero_le _, Nat.zero_le _⟩ h dX0_give_22 (fun q3 h H locs B => ?_)
      refine gg_if_eq hx hb 42 h dX0_give_25 (by decide) (fun h => ?_) (fun h => ?_)
      · refine lv_iconst (v := (-1)) hx hb dX0_give_42 (by decide) ?_
        exact hret _ _ _ _ _ _ _ (Option.some.inj h) B dX0_give_43
      · refine lv_iload hx hb dX0_give_28 (lv_at hL 4 rfl) ?_
        refine lv_aload_n hx hb dX0_give_30 rfl (lv_at hL 0 rfl) ?_
        refine xx_gr (ci := 0) (k := 5) C B xc_0 ht (by decide) (Nat.le_of_ble_eq_true rfl) rfl q364 (fun _ h => h) h dX0_give_31 (fun v4 ok5 h => ?_)
        refine lv_iload_n hx hb dX0_give_34 rfl (lv_at hL 1 rfl) ?_
        refine lv_iload_n hx hb dX0_give_35 rfl (lv_at hL 3 rfl) ?_
        refine xx_is h (fun hp6 h => ?_)
        refine k_X3_purse hp6 C B q1349 (Nat.le_trans (Nat.le_of_ble_eq_true rfl) hF) (Nat.le_trans (Nat.le_of_ble_eq_true rfl) hN) hL.1 (Nat.le_of_ble_eq_true rfl) ⟨Nat.zero_le _, Nat.zero_le _⟩ h dX0_give_36 (fun q7 h H locs B => ?_)
        refine gg_icmp_le hx hb 44 h dX0_give_39 (by decide) (fun h => ?_) (fun h => ?_)
        · refine lv_aload_n hx hb dX0_give_44 rfl (lv_at hL 0 rfl) ?_
          refine k_X0_act ht C B q1376 (Nat.le_trans (Nat.le_of_ble_eq_true rfl) hF) (Nat.le_trans (Nat.le_of_ble_eq_true rfl) hN) hL.1 (Nat.le_of_ble_eq_true rfl) ⟨Nat.zero_le _, Nat.zero_le _⟩ h dX0_give_45 (fun q8 h H locs B => ?_)
          refine lv_aload_n hx hb dX0_give_48 rfl (lv_at hL 0 rfl) ?_
          refine xx_gr (ci := 0) (k := 5) C B xc_0 ht (by decide) (Nat.le_of_ble_eq_true rfl) rfl q364 (fun _ h => h) h dX0_give_49 (fun v9 ok10 h => ?_)
          refine xx_is h (fun hp11 h => ?_)
          refine xx_gr (ci := 3) (k := 0) C B xc_3 hp11 (by decide) (Nat.le_of_ble_eq_true rfl) rfl q305 (fun _ h => h) h dX0_give_52 (fun v12 ok13 h => ?_)
          refine lv_iconst (v := 3) hx hb dX0_give_55 (by decide) ?_
          refine lv_iload_n hx hb dX0_give_56 rfl (lv_at hL 1 rfl) ?_
          refine lv_imul hx hb dX0_give_57 ?_
          refine lv_iload_n hx hb dX0_give_58 rfl (lv_at hL 3 rfl) ?_
          refine lv_iadd hx hb dX0_give_59 ?_
          refine lv_dup2_11 hx hb dX0_give_60 rfl rfl ?_
          refine xx_is h (fun hp14 h => ?_)
          refine xx_iald C B hp14 h dX0_give_61 (fun v15 h => ?_)
          refine lv_iload hx hb dX0_give_62 (lv_at hL 4 rfl) ?_
          refine lv_isub hx hb dX0_give_64 ?_
          refine xx_iast C B hp14 h dX0_give_65 (fun gi16 h H locs B => ?_)
          refine lv_aload_n hx hb dX0_give_66 rfl (lv_at hL 0 rfl) ?_
          refine xx_gr (ci := 0) (k := 5) C B xc_0 ht (by decide) (Nat.le_of_ble_eq_true rfl) rfl q364 (fun _ h => h) h dX0_give_67 (fun v17 ok18 h => ?_)
          refine lv_iload_n hx hb dX0_give_70 rfl (lv_at hL 2 rfl) ?_
          refine lv_iload_n hx hb dX0_give_71 rfl (lv_at hL 3 rfl) ?_
          refine lv_iload hx hb dX0_give_72 (lv_at hL 4 rfl) ?_
          refine xx_is h (fun hp19 h => ?_)
          refine k_X3_gets hp19 C B q1406 (Nat.le_trans (Nat.le_of_ble_eq_true rfl) hF) (Nat.le_trans (Nat.le_of_ble_eq_true rfl) hN) hL.1 (Nat.le_of_ble_eq_true rfl) ⟨Nat.zero_le _, Nat.zero_le _⟩ h dX0_give_74 (fun q20 h H locs B => ?_)
          refine lv_aload_n hx hb dX0_give_77 rfl (lv_at hL 0 rfl) ?_
          refine xx_gr (ci := 0) (k := 5) C B xc_0 ht (by decide) (Nat.le_of_ble_eq_true rfl) rfl q364 (fun _ h => h) h dX0_give_78 (fun v21 ok22 h => ?_)
          refine lv_iload_n hx hb dX0_give_81 rfl (lv_at hL 2 rfl) ?_
          refine lv_iload_n hx hb dX0_give_82 rfl (lv_at hL 3 rfl) ?_
          refine xx_is h (fun hp23 h => ?_)
          refine k_X3_purse hp23 C B q1349 (Nat.le_trans (Nat.le_of_ble_eq_true rfl) hF) (Nat.le_trans (Nat.le_of_ble_eq_true rfl) hN) hL.1 (Nat.le_of_ble_eq_true rfl) ⟨Nat.zero_le _, Nat.zero_le _⟩ h dX0_give_83 (fun q24 h H locs B => ?_)
          exact hret _ _ _ _ _ _ _ (Option.some.inj h) B dX0_give_86
        · refine lv_iconst (v := (-1)) hx hb dX0_give_42 (by decide) ?_
          exact hret _ _ _ _ _ _ _ (Option.some.inj h) B dX0_give_43
theorem k_X0_give {p : Program} {l : Launch} {e : Env} {R : Room} {s : State} {m : MethodId} {args : Array Value} {below : List Frame} {meth : Method} {c : Code} {H : Heap} {locs : List Loc} {Q : State → Prop} {pc : Nat} {ls : Array Slot} {rest : List Value} {cc : ByteArray} {nL cells slots : Nat} {D : va_G} {cA : Nat → ClassId} {ad : Nat → Nat} {hk : HK} {nx : Nat} {A : Nat → Prop} {gi : GI} {gr : GR} {α : Type} {r : α} {own : String} {idx : Nat} {a0 : Nat} {x1 : Int32} {x2 : Int32} {x3 : Int32} {x4 : Int32} {ff : (Int32 × GI × GR) → Option α} (ht : (hk a0).1 = 10) (C : CallFix p m c cc nL s args lw_all own) (B : XB D cA ad hk nx A s gi gr H locs) (hq : Cond.methodLink own idx yX0_give ∈ lw_all) (hF : 6 ≤ R.frames) (hN : 171 ≤ R.locals) (hs : ls.size = nL) (hw : (rest.map fun v => v.category).sum ≤ 8) (hz0 : cells ≤ R.cells ∧ slots ≤ R.slots) (h : (f_X0_give hk gi gr a0 x1 x2 x3 x4).bind ff = some r) (hdg : decode cc pc = .ok (.invokevirtual idx, 3)) (kk : ∀ q, ff q = some r → ∀ (H' : Heap) (locs' : List Loc), XB D cA ad hk nx A s q.2.1 q.2.2 H' locs' → W p l e R s m args below meth c H' locs' cells slots Q (F0 m (pc + 3) ls (.int q.1 :: rest))) : W p l e R s m args below meth c H locs cells slots Q (F0 m pc ls (.int x4 :: .int x3 :: .int x2 :: .int x1 :: .ref (ad a0) :: rest)) := by
  obtain ⟨q, h1, h2⟩ := g_ob h
  refine xx_cVI (As := [.int x1, .int x2, .int x3, .int x4]) (rest := rest) (n := 4) xc_0 ht (by decide) C B (fun sz => w_X0_give l D cA ad hk nx gi gr a0 x1 x2 x3 x4 ht q h1 sz) hq q1399 q1400 q141 q1401 (by decide +kernel) ⟨hF, hN⟩ rfl hs hw hz0 hdg (fun v u H9 locs9 hp B9 => ?_)
  have e1 := hp
  subst e1
  exact kk _ h2 H9 locs9 B9
def f_X3_drinks (hk : HK) (gi : GI) (gr : GR) (a0 : Nat) (a1 : Nat) (x2 : Int32) : Option (GI) :=
  (some (g_pi gi a0 5 ((((gi a0 5) * 137) + 71) - (((gi a0 5) * 137) + 71) / 1000 * 1000))).bind fun gi1 =>
  (g_is hk a1 11).bind fun _ =>
  (gr a1 0).bind fun v3 =>
  (g_is hk v3 22).bind fun _ =>
  (f_J2_isEmpty hk gi1 gr v3).bind fun q6 =>
  if q6 = 0 then
  ((gr a1 0).bind fun v7 =>
  (g_is hk v7 22).bind fun _ =>
  (f_J2_size hk gi1 gr v7).bind fun q10 =>
  (g_nz q10).bind fun _ =>
  (f_X3_purse hk gi1 gr a0 x2 ((gi1 a0 5) - (gi1 a0 5) / q10 * q10)).bind fun q11 =>
  if q11 ≤ 0 then
  (some gi1)
  else
  ((f_X3_spends hk gi1 gr a0 a1 x2 ((gi1 a0 5) - (gi1 a0 5) / q10 * q10) 1).bind fun q12 =>
  some q12))
  else
  (some gi1)
set_option maxHeartbeats 400000 in
theorem w_X3_drinks (l : Launch) (D : va_G) (cA : Nat → ClassId) (ad : Nat → Nat) (hk : HK) (nx : Nat) (gi : GI) (gr : GR) (a0 : Nat) (a1 : Nat) (x2 : Int32) (ht : (hk a0).1 = 13) (r : GI) (h : f_X3_drinks hk gi gr a0 a1 x2 = some r) (sz : Nat) : Met l yX3_drinks (ws_ yX3_drinks cX3_drinks 4 (none)) ({ frames := 7, cells := 0, slots := 0, locals := 197 } : Room) (va_Pc [.ref (ad a0), .ref (ad a1), .int x2] (XPre D cA ad hk nx gi gr sz)) (va_Qv (fun u => u.1 = r ∧ u.2 = gr) (XPost D cA ad hk nx) (XA ad nx sz)) 0 0 (XA ad nx sz) := by
  refine xx_stV (own := RX3) (P := (fun u => u.1 = r ∧ u.2 = gr)) (by decide +kernel) rfl (Nat.le_of_ble_eq_true rfl) (fun p e s m args below meth c R Q A ls C hF hN B hret hL => ?_) sz
  have hx := C.1
  have hb := C.2.1
  have hL : lv_has ls 4 [(0, .ref (ad a0)), (1, .ref (ad a1)), (2, .int x2)] := hL
  unfold f_X3_drinks at h
  refine lv_aload_n hx hb dX3_drinks_0 rfl (lv_at hL 0 rfl) ?_
  refine lv_aload_n hx hb dX3_drinks_1 rfl (lv_at hL 0 rfl) ?_
  refine xx_gi (ci := 3) (k := 5) C B xc_3 ht (by decide) (Nat.le_of_ble_eq_true rfl) rfl q314 (fun _ h => h) dX3_drinks_2 ?_
  refine lv_sipush (v := 137) hx hb dX3_drinks_5 (by decide) ?_
  refine lv_imul hx hb dX3_drinks_8 ?_
  refine lv_bipush (v := 71) hx hb dX3_drinks_9 (by decide) ?_
  refine lv_iadd hx hb dX3_drinks_11 ?_
  refine lv_sipush (v := 1000) hx hb dX3_drinks_12 (by decide) ?_
  refine lv_irem hx hb dX3_drinks_15 (by decide) ?_
  refine xx_pi (ci := 3) (k := 5) C B xc_3 ht (by decide) (Nat.le_of_ble_eq_true rfl) rfl q314 (fun _ h => h) rfl rfl rfl h dX3_drinks_16 (fun gi1 h H locs B => ?_)
  refine lv_aload_n hx hb dX3_drinks_19 rfl (lv_at hL 1 rfl) ?_
  refine xx_is h (fun hp2 h => ?_)
  refine xx_gr (ci := 1) (k := 0) C B xc_1 hp2 (by decide) (Nat.le_of_ble_eq_true rfl) rfl q253 (fun _ h => h) h dX3_drinks_20 (fun v3 ok4 h => ?_)
  refine xx_is h (fun hp5 h => ?_)
  refine k_J2_isEmpty hp5 C B q1428 (Nat.le_trans (Nat.le_of_ble_eq_true rfl) hF) (Nat.le_trans (Nat.le_of_ble_eq_true rfl) hN) hL.1 (Nat.le_of_ble_eq_true rfl) ⟨Nat.zero_le _, Nat.zero_le _⟩ h dX3_drinks_23 (fun q6 h H locs B => ?_)
  refine gg_if_eq hx hb 30 h dX3_drinks_26 (by decide) (fun h => ?_) (fun h => ?_)
  · refine lv_aload_n hx hb dX3_drinks_30 rfl (lv_at hL 0 rfl) ?_
    refine xx_gi (ci := 3) (k := 5) C B xc_3 ht (by decide) (Nat.le_of_ble_eq_true rfl) rfl q314 (fun _ h => h) dX3_drinks_31 ?_
    refine lv_aload_n hx hb dX3_drinks_34 rfl (lv_at hL 1 rfl) ?_
    refine xx_gr (ci := 1) (k := 0) C B xc_1 hp2 (by decide) (Nat.le_of_ble_eq_true rfl) rfl q253 (fun _ h => h) h dX3_drinks_35 (fun v7 ok8 h => ?_)
    refine xx_is h (fun hp9 h => ?_)
    refine k_J2_size hp9 C B q333 (Nat.le_trans (Nat.le_of_ble_eq_true rfl) hF) (Nat.le_trans (Nat.le_of_ble_eq_true rfl) hN) hL.1 (Nat.le_of_ble_eq_true rfl) ⟨Nat.zero_le _, Nat.zero_le _⟩ h dX3_drinks_38 (fun q10 h H locs B => ?_)
    refine mm_nz h (fun hnz h => ?_)
    refine lv_irem hx hb dX3_drinks_41 hnz ?_
    refine lv_istore_n (lv' := [(3, .int ((gi1 a0 5) - (gi1 a0 5) / q10 * q10)), (0, .ref (ad a0)), (1, .ref (ad a1)), (2, .int x2)]) hx hb dX3_drinks_42 rfl hL (by decide) rfl (fun ls hL => ?_)
    refine lv_aload_n hx hb dX3_drinks_43 rfl (lv_at hL 1 rfl) ?_
    refine lv_iload_n hx hb dX3_drinks_44 rfl (lv_at hL 3 rfl) ?_
    refine lv_iload_n hx hb dX3_drinks_45 rfl (lv_at hL 0 rfl) ?_
    refine k_X3_purse ht C B q1329 (Nat.le_trans (Nat.le_of_ble_eq_true rfl) hF) (Nat.le_trans (Nat.le_of_ble_eq_true rfl) hN) hL.1 (Nat.le_of_ble_eq_true rfl) ⟨Nat.zero_le _, Nat.zero_le _⟩ h dX3_drinks_46 (fun q11 h H locs B => ?_)
    refine gg_if_le hx hb 60 h dX3_drinks_49 (by decide) (fun h => ?_) (fun h => ?_)
    · exact hret _ _ _ _ _ _ ⟨Option.some.inj h, rfl⟩ B dX3_drinks_60
    · refine lv_aload_n hx hb dX3_drinks_52 rfl (lv_at hL 1 rfl) ?_
      refine lv_aload_n hx hb dX3_drinks_53 rfl (lv_at hL 2 rfl) ?_
      refine lv_iload_n hx hb dX3_drinks_54 rfl (lv_at hL 3 rfl) ?_
      refine lv_iload_n hx hb dX3_drinks_55 rfl (lv_at hL 0 rfl) ?_
      refine lv_iconst (v := 1) hx hb dX3_drinks_56 (by decide) ?_
      refine k_X3_spends ht C B q1432 (Nat.le_trans (Nat.le_of_ble_eq_true rfl) hF) (Nat.le_trans (Nat.le_of_ble_eq_true rfl) hN) hL.1 (Nat.le_of_ble_eq_true rfl) ⟨Nat.zero_le _, Nat.zero_le _⟩ h dX3_drinks_57 (fun q12 h H locs B => ?_)
      exact hret _ _ _ _ _ _ ⟨Option.some.inj h, rfl⟩ B dX3_drinks_60
  · exact hret _ _ _ _ _ _ ⟨Option.some.inj h, rfl⟩ B dX3_drinks_29
theorem k_X3_drinks {p : Program} {l : Launch} {e : Env} {R : Room} {s : State} {m : MethodId} {args : Array Value} {below : List Frame} {meth : Method} {c : Code} {H : Heap} {locs : List Loc} {Q : State → Prop} {pc : Nat} {ls : Array Slot} {rest : List Value} {cc : ByteArray} {nL cells slots : Nat} {D : va_G} {cA : Nat → ClassId} {ad : Nat → Nat} {hk : HK} {nx : Nat} {A : Nat → Prop} {gi : GI} {gr : GR} {α : Type} {r : α} {own : String} {idx : Nat} {a0 : Nat} {a1 : Nat} {x2 : Int32} {ff : GI → Option α} (ht : (hk a0).1 = 13) (C : CallFix p m c cc nL s args lw_all own) (B : XB D cA ad hk nx A s gi gr H locs) (hq : Cond.methodLink own idx yX3_drinks ∈ lw_all) (hF : 8 ≤ R.frames) (hN : 220 ≤ R.locals) (hs : ls.size = nL) (hw : (rest.map fun v => v.category).sum ≤ 8) (hz0 : cells ≤ R.cells ∧ slots ≤ R.slots) (h : (f_X3_drinks hk gi gr a0 a1 x2).bind ff = some r) (hdg : decode cc pc = .ok (.invokevirtual idx, 3)) (kk : ∀ q, ff q = some r → ∀ (H' : Heap) (locs' : List Loc), XB D cA ad hk nx A s q gr H' locs' → W p l e R s m args below meth c H' locs' cells slots Q (F0 m (pc + 3) ls (rest))) : W p l e R s m args below meth c H locs cells slots Q (F0 m pc ls (.int x2 :: .ref (ad a1) :: .ref (ad a0) :: rest)) := by
  obtain ⟨q, h1, h2⟩ := g_ob h
  refine xx_cVV (As := [.ref (ad a1), .int x2]) (rest := rest) (n := 2) xc_3 ht (by decide) C B (fun sz => w_X3_drinks l D cA ad hk nx gi gr a0 a1 x2 ht q h1 sz) hq q1426 qs46 q147 q1427 (by decide +kernel) ⟨hF, hN⟩ rfl hs hw hz0 hdg (fun u H9 locs9 hp B9 => ?_)
  obtain ⟨e1, e3⟩ := hp
  rw [e3] at B9
  subst e1
  exact kk _ h2 H9 locs9 B9
def f_X3_growths_l4 (hk : HK) (gri4 : GR) (a0i4 : Nat) (a1i4 : Nat) (x2l4 : Int32) (x3l4 : Int32) (gil4 : GI) : Option ((Int32 × Int32 × GI) ⊕ (Int32 × GI)) :=
  (g_is hk a1i4 11).bind fun _ =>
  (gri4 a1i4 1).bind fun v2 =>
  (g_is hk v2 22).bind fun _ =>
  (f_J2_size hk gil4 gri4 v2).bind fun q5 =>
  if q5 ≤ x3l4 then
  (some (.inr ((x2l4, gil4))))
  else
  ((f_X3_growth hk gil4 gri4 a0i4 a1i4 x3l4).bind fun q6 =>
  some (.inl ((x2l4 + q6.1, x3l4 + 1, q6.2))))
def f_X3_growths_x4 (hk : HK) (gry4 : GR) (x2e4 : Int32) (gie4 : GI) : Option (Int32 × GI) :=
  some (x2e4, gie4)
def f_X3_growths (hk : HK) (gi : GI) (gr : GR) (a0 : Nat) (a1 : Nat) : Option (Int32 × GI) :=
  (g_loop g_K (fun (s : Int32 × Int32 × GI) => f_X3_growths_l4 hk gr a0 a1 s.1 s.2.1 s.2.2) (0, 0, gi)).bind fun E4 => f_X3_growths_x4 hk gr E4.1 E4.2
set_option maxHeartbeats 400000 in
theorem w_X3_growths (l : Launch) (D : va_G) (cA : Nat → ClassId) (ad : Nat → Nat) (hk : HK) (nx : Nat) (gi : GI) (gr : GR) (a0 : Nat) (a1 : Nat) (ht : (hk a0).1 = 13) (r : Int32 × GI) (h : f_X3_growths hk gi gr a0 a1 = some r) (sz : Nat) : Met l yX3_growths (ws_ yX3_growths cX3_growths 4 (some .int)) ({ frames := 105, cells := 0, slots := 0, locals := 3142 } : Room) (va_Pc [.ref (ad a0), .ref (ad a1)] (XPre D cA ad hk nx gi gr sz)) (va_Qi (fun v u => (v, u.1) = r ∧ u.2 = gr) (XPost D cA ad hk nx) (XA ad nx sz)) 0 0 (XA ad nx sz) := by
  refine xx_stI (own := RX3) (P := (fun v u => (v, u.1) = r ∧ u.2 = gr)) (by decide +kernel) rfl (Nat.le_of_ble_eq_true rfl) (fun p e s m args below meth c R Q A ls C hF hN B hret hL => ?_) sz
  have hx := C.1
  have hb := C.2.1
  have hL : lv_has ls 4 [(0, .ref (ad a0)), (1, .ref (ad a1))] := hL
  unfold f_X3_growths at h
  refine lv_iconst (v := 0) hx hb dX3_growths_0 (by decide) ?_
  refine lv_istore_n (lv' := [(2, .int 0), (0, .ref (ad a0)), (1, .ref (ad a1))]) hx hb dX3_growths_1 rfl hL (by decide) rfl (fun ls hL => ?_)
  refine lv_iconst (v := 0) hx hb dX3_growths_2 (by decide) ?_
  refine lv_istore_n (lv' := [(3, .int 0), (2, .int 0), (0, .ref (ad a0)), (1, .ref (ad a1))]) hx hb dX3_growths_3 rfl hL (by decide) rfl (fun ls hL => ?_)
  obtain ⟨E4, h84, h⟩ := g_ob h
  have kx4 : ∀ (x2e4 : Int32) (gie4 : GI) (H : Heap) (locs : List Loc) (ls : Array Slot), (x2e4, gie4) = E4 → XB D cA ad hk nx A s gie4 gr H locs → lv_has ls 4 [(2, .int x2e4)] → W p l e R s m args below meth c H locs 0 0 Q (F0 m 30 ls []) := by
    intro x2e4 gie4 H locs ls he B hL
    subst he
    have h : f_X3_growths_x4 hk gr x2e4 gie4 = some r := h
    unfold f_X3_growths_x4 at h
    refine lv_iload_n hx hb dX3_growths_30 rfl (lv_at hL 0 rfl) ?_
    exact hret _ _ _ _ _ _ _ ⟨Option.some.inj h, rfl⟩ B dX3_growths_31
  have hl4 : ∀ (k : Nat) (x2l4 : Int32) (x3l4 : Int32) (gil4 : GI) (H : Heap) (locs : List Loc) (ls : Array Slot), g_loop k (fun (s : Int32 × Int32 × GI) => f_X3_growths_l4 hk gr a0 a1 s.1 s.2.1 s.2.2) (x2l4, x3l4, gil4) = some E4 → XB D cA ad hk nx A s gil4 gr H locs → lv_has ls 4 [(0, .ref (ad a0)), (1, .ref (ad a1)), (2, .int x2l4), (3, .int x3l4)] → W p l e R s m args below meth c H locs 0 0 Q (F0 m 4 ls []) := by
    intro k
    induction k with
    | zero => intro x2l4 x3l4 gil4 H locs ls h; exact absurd h (fun z => g_loop_0 z)
    | succ k ih4 =>
      intro x2l4 x3l4 gil4 H locs ls h B hL
      obtain ⟨Z4, h, h94⟩ := g_loop_s h
      have h : f_X3_growths_l4 hk gr a0 a1 x2l4 x3l4 gil4 = some Z4 := h
      unfold f_X3_growths_l4 at h
      refine lv_iload_n hx hb dX3_growths_4 rfl (lv_at hL 3 rfl) ?_
      refine lv_aload_n hx hb dX3_growths_5 rfl (lv_at hL 1 rfl) ?_
      refine xx_is h (fun hp1 h => ?_)
      refine xx_gr (ci := 1) (k := 1) C B xc_1 hp1 (by decide) (Nat.le_of_ble_eq_true rfl) rfl q256 (fun _ h => h) h dX3_growths_6 (fun v2 ok3 h => ?_)
      refine xx_is h (fun hp4 h => ?_)
      refine k_J2_size hp4 C B q333 (Nat.le_trans (Nat.le_of_ble_eq_true rfl) hF) (Nat.le_trans (Nat.le_of_ble_eq_true rfl) hN) hL.1 (Nat.le_of_ble_eq_true rfl) ⟨Nat.zero_le _, Nat.zero_le _⟩ h dX3_growths_9 (fun q5 h H locs B => ?_)
      refine gg_icmp_ge hx hb 30 h dX3_growths_12 (by decide) (fun h => ?_) (fun h => ?_)
      · exact kx4 _ _ _ _ _ (g_exit h h94) B (lv_sub hL [2] rfl)
      · refine lv_iload_n hx hb dX3_growths_15 rfl (lv_at hL 2 rfl) ?_
        refine lv_aload_n hx hb dX3_growths_16 rfl (lv_at hL 0 rfl) ?_
        refine lv_aload_n hx hb dX3_growths_17 rfl (lv_at hL 1 rfl) ?_
        refine lv_iload_n hx hb dX3_growths_18 rfl (lv_at hL 3 rfl) ?_
        refine k_X3_growth ht C B q1437 (Nat.le_trans (Nat.le_of_ble_eq_true rfl) hF) (Nat.le_trans (Nat.le_of_ble_eq_true rfl) hN) hL.1 (Nat.le_of_ble_eq_true rfl) ⟨Nat.zero_le _, Nat.zero_le _⟩ h dX3_growths_19 (fun q6 h H locs B => ?_)
        refine lv_iadd hx hb dX3_growths_22 ?_
        refine lv_istore_n (lv' := [(2, .int (x2l4 + q6.1)), (0, .ref (ad a0)), (1, .ref (ad a1)), (3, .int x3l4)]) hx hb dX3_growths_23 rfl hL (by decide) rfl (fun ls hL => ?_)
        refine lv_iinc (v := x3l4 + 1) (lv' := [(3, .int (x3l4 + 1)), (2, .int (x2l4 + q6.1)), (0, .ref (ad a0)), (1, .ref (ad a1))]) hx hb dX3_growths_24 hL (k := 3) rfl rfl (by decide) rfl (fun ls hL => ?_)
        refine lv_goto (tgt := 4) hx hb dX3_growths_27 (by decide) ?_
        exact ih4 _ _ _ _ _ _ (g_next h h94) B (lv_sub hL [2, 3, 1, 0] rfl)
  exact hl4 g_K _ _ _ _ _ _ h84 B (lv_sub hL [2, 3, 1, 0] rfl)
theorem k_X3_growths {p : Program} {l : Launch} {e : Env} {R : Room} {s : State} {m : MethodId} {args : Array Value} {below : List Frame} {meth : Method} {c : Code} {H : Heap} {locs : List Loc} {Q : State → Prop} {pc : Nat} {ls : Array Slot} {rest : List Value} {cc : ByteArray} {nL cells slots : Nat} {D : va_G} {cA : Nat → ClassId} {ad : Nat → Nat} {hk : HK} {nx : Nat} {A : Nat → Prop} {gi : GI} {gr : GR} {α : Type} {r : α} {own : String} {idx : Nat} {a0 : Nat} {a1 : Nat} {ff : (Int32 × GI) → Option α} (ht : (hk a0).1 = 13) (C : CallFix p m c cc nL s args lw_all own) (B : XB D cA ad hk nx A s gi gr H locs) (hq : Cond.methodLink own idx yX3_growths ∈ lw_all) (hF : 106 ≤ R.frames) (hN : 3165 ≤ R.locals) (hs : ls.size = nL) (hw : (rest.map fun v => v.category).sum ≤ 8) (hz0 : cells ≤ R.cells ∧ slots ≤ R.slots) (h : (f_X3_growths hk gi gr a0 a1).bind ff = some r) (hdg : decode cc pc = .ok (.invokevirtual idx, 3)) (kk : ∀ q, ff q = some r → ∀ (H' : Heap) (locs' : List Loc), XB D cA ad hk nx A s q.2 gr H' locs' → W p l e R s m args below meth c H' locs' cells slots Q (F0 m (pc + 3) ls (.int q.1 :: rest))) : W p l e R s m args below meth c H locs cells slots Q (F0 m pc ls (.ref (ad a1) :: .ref (ad a0) :: rest)) := by
  obtain ⟨q, h1, h2⟩ := g_ob h
  refine xx_cVI (As := [.ref (ad a1)]) (rest := rest) (n := 1) xc_3 ht (by decide) C B (fun sz => w_X3_growths l D cA ad hk nx gi gr a0 a1 ht q h1 sz) hq q1434 q1435 q147 q1436 (by decide +kernel) ⟨hF, hN⟩ rfl hs hw hz0 hdg (fun v u H9 locs9 hp B9 => ?_)
  obtain ⟨e1, e3⟩ := hp
  rw [e3] at B9
  subst e1
  exact kk _ h2 H9 locs9 B9
def f_X3_goWeek_l2 (hk : HK) (gri2 : GR) (a0i2 : Nat) (a1i2 : Nat) (x2l2 : Int32) (gil2 : GI) : Option ((Int32 × GI) ⊕ (GI)) :=
  (g_is hk a1i2 11).bind fun _ =>
  (gri2 a1i2 1).bind fun v2 =>
  (g_is hk v2 22).bind fun _ =>
  (f_J2_size hk gil2 gri2 v2).bind fun q5 =>
  if q5 ≤ x2l2 then
  (some (.inr gil2))
  else
  ((gri2 a1i2 1).bind fun v6 =>
  (g_is hk v6 22).bind fun _ =>
  (f_J2_get hk gil2 gri2 v6 x2l2).bind fun q9 =>
  (g_is hk q9 16).bind fun _ =>
  if (gil2 q9 7) = 0 then
  (some (.inl ((x2l2 + 1, gil2))))
  else
  ((f_X3_drinks hk gil2 gri2 a0i2 a1i2 x2l2).bind fun q11 =>
  some (.inl ((x2l2 + 1, q11)))))
def f_X3_goWeek_l50 (hk : HK) (gri50 : GR) (a0i50 : Nat) (a1i50 : Nat) (x2i50 : Int32) (x3l50 : Int32) (gil50 : GI) : Option ((Int32 × GI) ⊕ (GI)) :=
  (g_is hk a1i50 11).bind fun _ =>
  (gri50 a1i50 1).bind fun v14 =>
  (g_is hk v14 22).bind fun _ =>
  (f_J2_size hk gil50 gri50 v14).bind fun q17 =>
  if q17 ≤ x3l50 then
  (some (.inr gil50))
  else
  ((gri50 a0i50 2).bind fun v18 =>
  (gri50 a0i50 2).bind fun v20 =>
  (g_is hk v20 0).bind fun _ =>
  (g_ld gil50 v20 (hk v20).2 x3l50).bind fun v23 =>
  (f_X3_growth hk gil50 gri50 a0i50 a1i50 x3l50).bind fun q24 =>
  (g_is hk v18 0).bind fun _ =>
  (g_st q24.2 v18 (hk v18).2 x3l50 (if 0 < (if (v23 + q24.1) < 99 then (v23 + q24.1) else 99) then (if (v23 + q24.1) < 99 then (v23 + q24.1) else 99) else 0)).bind fun gi26 =>
  some (.inl ((x3l50 + 1, gi26))))
def f_X3_goWeek_l118 (hk : HK) (gri118 : GR) (a0i118 : Nat) (a1i118 : Nat) (x2i118 : Int32) (x3i118 : Int32) (x4l118 : Int32) (gil118 : GI) : Option ((Int32 × GI) ⊕ (GI)) :=
  if 3 ≤ x4l118 then
  (some (.inr gil118))
  else
  ((gri118 a0i118 1).bind fun v36 =>
  (g_is hk v36 0).bind fun _ =>
  (g_st gil118 v36 (hk v36).2 ((3 * x3i118) + x4l118) 0).bind fun gi39 =>
  (gri118 a1i118 1).bind fun v40 =>
  (g_is hk v40 22).bind fun _ =>
  (f_J2_get hk gi39 gri118 v40 x3i118).bind fun q43 =>
  (g_is hk q43 16).bind fun _ =>
  (gri118 q43 2).bind fun v45 =>
  (g_is hk v45 0).bind fun _ =>
  (g_ld gi39 v45 (hk v45).2 x4l118).bind fun v48 =>
  (f_X3_gets hk gi39 gri118 a0i118 x3i118 x4l118 v48).bind fun q49 =>
  some (.inl ((x4l118 + 1, q49))))
def f_X3_goWeek_x118 (hk : HK) (gry118 : GR) (a0y118 : Nat) (a1y118 : Nat) (x2y118 : Int32) (x3y118 : Int32) (gie118 : GI) : Option ((Int32 × GI) ⊕ (GI)) :=
  some (.inl ((x3y118 + 1, gie118)))
def f_X3_goWeek_l97 (hk : HK) (gri97 : GR) (a0i97 : Nat) (a1i97 : Nat) (x2i97 : Int32) (x3l97 : Int32) (gil97 : GI) : Option ((Int32 × GI) ⊕ (GI)) :=
  (g_is hk a1i97 11).bind fun _ =>
  (gri97 a1i97 1).bind fun v28 =>
  (g_is hk v28 22).bind fun _ =>
  (f_J2_size hk gil97 gri97 v28).bind fun q31 =>
  if q31 ≤ x3l97 then
  (some (.inr gil97))
  else
  ((gri97 a0i97 3).bind fun v32 =>
  (g_is hk v32 0).bind fun _ =>
  (g_st gil97 v32 (hk v32).2 x3l97 0).bind fun gi35 =>
  (g_loop g_K (fun (s : Int32 × GI) => f_X3_goWeek_l118 hk gri97 a0i97 a1i97 x2i97 x3l97 s.1 s.2) (0, gi35)).bind fun E118 => f_X3_goWeek_x118 hk gri97 a0i97 a1i97 x2i97 x3l97 E118)
def f_X3_goWeek_x97 (hk : HK) (gry97 : GR) (a0y97 : Nat) (x2y97 : Int32) (gie97 : GI) : Option (Int32 × GI) :=
  (some (g_pi gie97 a0y97 4 ((gie97 a0y97 4) + 1))).bind fun gi50 =>
  some (x2y97, gi50)
def f_X3_goWeek_x50 (hk : HK) (gry50 : GR) (a0y50 : Nat) (a1y50 : Nat) (x2y50 : Int32) (gie50 : GI) : Option (Int32 × GI) :=
  (g_loop g_K (fun (s : Int32 × GI) => f_X3_goWeek_l97 hk gry50 a0y50 a1y50 x2y50 s.1 s.2) (0, gie50)).bind fun E97 => f_X3_goWeek_x97 hk gry50 a0y50 x2y50 E97
def f_X3_goWeek_x2 (hk : HK) (gry2 : GR) (a0y2 : Nat) (a1y2 : Nat) (gie2 : GI) : Option (Int32 × GI) :=
  (f_X3_growths hk gie2 gry2 a0y2 a1y2).bind fun q12 =>
  (g_loop g_K (fun (s : Int32 × GI) => f_X3_goWeek_l50 hk gry2 a0y2 a1y2 q12.1 s.1 s.2) (0, q12.2)).bind fun E50 => f_X3_goWeek_x50 hk gry2 a0y2 a1y2 q12.1 E50
def f_X3_goWeek (hk : HK) (gi : GI) (gr : GR) (a0 : Nat) (a1 : Nat) : Option (Int32 × GI) :=
  (g_loop g_K (fun (s : Int32 × GI) => f_X3_goWeek_l2 hk gr a0 a1 s.1 s.2) (0, gi)).bind fun E2 => f_X3_goWeek_x2 hk gr a0 a1 E2
set_option maxHeartbeats 400000 in
theorem w_X3_goWeek (l : Launch) (D : va_G) (cA : Nat → ClassId) (ad : Nat → Nat) (hk : HK) (nx : Nat) (gi : GI) (gr : GR) (a0 : Nat) (a1 : Nat) (ht : (hk a0).1 = 13) (r : Int32 × GI) (h : f_X3_goWeek hk gi gr a0 a1 = some r) (sz : Nat) : Met l yX3_goWeek (ws_ yX3_goWeek cX3_goWeek 5 (some .int)) ({ frames := 106, cells := 0, slots := 0, locals := 3165 } : Room) (va_Pc [.ref (ad a0), .ref (ad a1)] (XPre D cA ad hk nx gi gr sz)) (va_Qi (fun v u => (v, u.1) = r ∧ u.2 = gr) (XPost D cA ad hk nx) (XA ad nx sz)) 0 0 (XA ad nx sz) := by
  refine xx_stI (own := RX3) (P := (fun v u => (v, u.1) = r ∧ u.2 = gr)) (by decide +kernel) rfl (Nat.le_of_ble_eq_true rfl) (fun p e s m args below meth c R Q A ls C hF hN B hret hL => ?_) sz
  have hx := C.1
  have hb := C.2.1
  have hL : lv_has ls 5 [(0, .ref (ad a0)), (1, .ref (ad a1))] := hL
  unfold f_X3_goWeek at h
  refine lv_iconst (v := 0) hx hb dX3_goWeek_0 (by decide) ?_
  refine lv_istore_n (lv' := [(2, .int 0), (0, .ref (ad a0)), (1, .ref (ad a1))]) hx hb dX3_goWeek_1 rfl hL (by decide) rfl (fun ls hL => ?_)
  obtain ⟨E2, h82, h⟩ := g_ob h
  have kx2 : ∀ (gie2 : GI) (H : Heap) (locs : List Loc) (ls : Array Slot), gie2 = E2 → XB D cA ad hk nx A s gie2 gr H locs → lv_has ls 5 [(0, .ref (ad a0)), (1, .ref (ad a1))] → W p l e R s m args below meth c H locs 0 0 Q (F0 m 42 ls []) := by
    intro gie2 H locs ls he B hL
    subst he
    have h : f_X3_goWeek_x2 hk gr a0 a1 gie2 = some r := h
    unfold f_X3_goWeek_x2 at h
    refine lv_aload_n hx hb dX3_goWeek_42 rfl (lv_at hL 0 rfl) ?_
    refine lv_aload_n hx hb dX3_goWeek_43 rfl (lv_at hL 1 rfl) ?_
    refine k_X3_growths ht C B q1433 (Nat.le_trans (Nat.le_of_ble_eq_true rfl) hF) (Nat.le_trans (Nat.le_of_ble_eq_true rfl) hN) hL.1 (Nat.le_of_ble_eq_true rfl) ⟨Nat.zero_le _, Nat.zero_le _⟩ h dX3_goWeek_44 (fun q12 h H locs B => ?_)
    refine lv_istore_n (lv' := [(2, .int q12.1), (0, .ref (ad a0)), (1, .ref (ad a1))]) hx hb dX3_goWeek_47 rfl hL (by decide) rfl (fun ls hL => ?_)
    refine lv_iconst (v := 0) hx hb dX3_goWeek_48 (by decide) ?_
    refine lv_istore_n (lv' := [(3, .int 0), (2, .int q12.1), (0, .ref (ad a0)), (1, .ref (ad a1))]) hx hb dX3_goWeek_49 rfl hL (by decide) rfl (fun ls hL => ?_)
    obtain ⟨E50, h850, h⟩ := g_ob h
    have kx50 : ∀ (gie50 : GI) (H : Heap) (locs : List Loc) (ls : Array Slot), gie50 = E50 → XB D cA ad hk nx A s gie50 gr H locs → lv_has ls 5 [(0, .ref (ad a0)), (1, .ref (ad a1)), (2, .int q12.1)] → W p l e R s m args below meth c H locs 0 0 Q (F0 m 95 ls []) := by
      intro gie50 H locs ls he B hL
      subst he
      have h : f_X3_goWeek_x50 hk gr a0 a1 q12.1 gie50 = some r := h
      unfold f_X3_goWeek_x50 at h
      refine lv_iconst (v := 0) hx hb dX3_goWeek_95 (by decide) ?_
      refine lv_istore_n (lv' := [(3, .int 0), (0, .ref (ad a0)), (1, .ref (ad a1)), (2, .int q12.1)]) hx hb dX3_goWeek_96 rfl hL (by decide) rfl (fun ls hL => ?_)
      obtain ⟨E97, h897, h⟩ := g_ob h
      have kx97 : ∀ (gie97 : GI) (H : Heap) (locs : List Loc) (ls : Array Slot), gie97 = E97 → XB D cA ad hk nx A s gie97 gr H locs → lv_has ls 5 [(0, .ref (ad a0)), (2, .int q12.1)] → W p l e R s m args below meth c H locs 0 0 Q (F0 m 172 ls []) := by
        intro gie97 H locs ls he B hL
        subst he
        have h : f_X3_goWeek_x97 hk gr a0 q12.1 gie97 = some r := h
        unfold f_X3_goWeek_x97 at h
        refine lv_aload_n hx hb dX3_goWeek_172 rfl (lv_at hL 0 rfl) ?_
        refine lv_dup hx hb dX3_goWeek_173 rfl ?_
        refine xx_gi (ci := 3) (k := 4) C B xc_3 ht (by decide) (Nat.le_of_ble_eq_true rfl) rfl q312 (fun _ h => h) dX3_goWeek_174 ?_
        refine lv_iconst (v := 1) hx hb dX3_goWeek_177 (by decide) ?_
        refine lv_iadd hx hb dX3_goWeek_178 ?_
        refine xx_pi (ci := 3) (k := 4) C B xc_3 ht (by decide) (Nat.le_of_ble_eq_true rfl) rfl q312 (fun _ h => h) rfl rfl rfl h dX3_goWeek_179 (fun gi50 h H locs B => ?_)
        refine lv_iload_n hx hb dX3_goWeek_182 rfl (lv_at hL 1 rfl) ?_
        exact hret _ _ _ _ _ _ _ ⟨Option.some.inj h, rfl⟩ B dX3_goWeek_183
      have hl97 : ∀ (k : Nat) (x3l97 : Int32) (gil97 : GI) (H : Heap) (locs : List Loc) (ls : Array Slot), g_loop k (fun (s : Int32 × GI) => f_X3_goWeek_l97 hk gr a0 a1 q12.1 s.1 s.2) (x3l97, gil97) = some E97 → XB D cA ad hk nx A s gil97 gr H locs → lv_has ls 5 [(0, .ref (ad a0)), (1, .ref (ad a1)), (2, .int q12.1), (3, .int x3l97)] → W p l e R s m args below meth c H locs 0 0 Q (F0 m 97 ls []) := by
        intro k
        induction k with
        | zero => intro x3l97 gil97 H locs ls h; exact absurd h (fun z => g_loop_0 z)
        | succ k ih97 =>
          intro x3l97 gil97 H locs ls h B hL
          obtain ⟨Z97, h, h997⟩ := g_loop_s h
          have h : f_X3_goWeek_l97 hk gr a0 a1 q12.1 x3l97 gil97 = some Z97 := h
          unfold f_X3_goWeek_l97 at h
          refine lv_iload_n hx hb dX3_goWeek_97 rfl (lv_at hL 3 rfl) ?_
          refine lv_aload_n hx hb dX3_goWeek_98 rfl (lv_at hL 1 rfl) ?_
          refine xx_is h (fun hp27 h => ?_)
          refine xx_gr (ci := 1) (k := 1) C B xc_1 hp27 (by decide) (Nat.le_of_ble_eq_true rfl) rfl q256 (fun _ h => h) h dX3_goWeek_99 (fun v28 ok29 h => ?_)
          refine xx_is h (fun hp30 h => ?_)
          refine k_J2_size hp30 C B q333 (Nat.le_trans (Nat.le_of_ble_eq_true rfl) hF) (Nat.le_trans (Nat.le_of_ble_eq_true rfl) hN) hL.1 (Nat.le_of_ble_eq_true rfl) ⟨Nat.zero_le _, Nat.zero_le _⟩ h dX3_goWeek_102 (fun q31 h H locs B => ?_)
          refine gg_icmp_ge hx hb 172 h dX3_goWeek_105 (by decide) (fun h => ?_) (fun h => ?_)
          · exact kx97 _ _ _ _ (g_exit h h997) B (lv_sub hL [0, 2] rfl)
          · refine lv_aload_n hx hb dX3_goWeek_108 rfl (lv_at hL 0 rfl) ?_
            refine xx_gr (ci := 3) (k := 3) C B xc_3 ht (by decide) (Nat.le_of_ble_eq_true rfl) rfl q310 (fun _ h => h) h dX3_goWeek_109 (fun v32 ok33 h => ?_)
            refine lv_iload_n hx hb dX3_goWeek_112 rfl (lv_at hL 3 rfl) ?_
            refine lv_iconst (v := 0) hx hb dX3_goWeek_113 (by decide) ?_
            refine xx_is h (fun hp34 h => ?_)
            refine xx_iast C B hp34 h dX3_goWeek_114 (fun gi35 h H locs B => ?_)
            refine lv_iconst (v := 0) hx hb dX3_goWeek_115 (by decide) ?_
            refine lv_istore (lv' := [(4, .int 0), (0, .ref (ad a0)), (1, .ref (ad a1)), (2, .int q12.1), (3, .int x3l97)]) hx hb dX3_goWeek_116 hL (by decide) rfl (fun ls hL => ?_)
            obtain ⟨E118, h8118, h⟩ := g_ob h
            have kx118 : ∀ (gie118 : GI) (H : Heap) (locs : List Loc) (ls : Array Slot), gie118 = E118 → XB D cA ad hk nx A s gie118 gr H locs → lv_has ls 5 [(0, .ref (ad a0)), (1, .ref (ad a1)), (2, .int q12.1), (3, .int x3l97)] → W p l e R s m args below meth c H locs 0 0 Q (F0 m 166 ls []) := by
              intro gie118 H locs ls he B hL
              subst he
              have h : f_X3_goWeek_x118 hk gr a0 a1 q12.1 x3l97 gie118 = some Z97 := h
              unfold f_X3_goWeek_x118 at h
              refine lv_iinc (v := x3l97 + 1) (lv' := [(3, .int (x3l97 + 1)), (0, .ref (ad a0)), (1, .ref (ad a1)), (2, .int q12.1)]) hx hb dX3_goWeek_166 hL (k := 3) rfl rfl (by decide) rfl (fun ls hL => ?_)
              refine lv_goto (tgt := 97) hx hb dX3_goWeek_169 (by decide) ?_
              exact ih97 _ _ _ _ _ (g_next h h997) B (lv_sub hL [1, 2, 3, 0] rfl)
            have hl118 : ∀ (k : Nat) (x4l118 : Int32) (gil118 : GI) (H : Heap) (locs : List Loc) (ls : Array Slot), g_loop k (fun (s : Int32 × GI) => f_X3_goWeek_l118 hk gr a0 a1 q12.1 x3l97 s.1 s.2) (x4l118, gil118) = some E118 → XB D cA ad hk nx A s gil118 gr H locs → lv_has ls 5 [(0, .ref (ad a0)), (1, .ref (ad a1)), (2, .int q12.1), (3, .int x3l97), (4, .int x4l118)] → W p l e R s m args below meth c H locs 0 0 Q (F0 m 118 ls []) := by
              intro k
              induction k with
              | zero => intro x4l118 gil118 H locs ls h; exact absurd h (fun z => g_loop_0 z)
              | succ k ih118 =>
                intro x4l118 gil118 H locs ls h B hL
                obtain ⟨Z118, h, h9118⟩ := g_loop_s h
                have h : f_X3_goWeek_l118 hk gr a0 a1 q12.1 x3l97 x4l118 gil118 = some Z118 := h
                unfold f_X3_goWeek_l118 at h
                refine lv_iload hx hb dX3_goWeek_118 (lv_at hL 4 rfl) ?_
                refine lv_iconst (v := 3) hx hb dX3_goWeek_120 (by decide) ?_
                refine gg_icmp_ge hx hb 166 h dX3_goWeek_121 (by decide) (fun h => ?_) (fun h => ?_)
                · exact kx118 _ _ _ _ (g_exit h h9118) B (lv_sub hL [0, 1, 2, 3] rfl)
                · refine lv_aload_n hx hb dX3_goWeek_124 rfl (lv_at hL 0 rfl) ?_
                  refine xx_gr (ci := 3) (k := 1) C B xc_3 ht (by decide) (Nat.le_of_ble_eq_true rfl) rfl q306 (fun _ h => h) h dX3_goWeek_125 (fun v36 ok37 h => ?_)
                  refine lv_iconst (v := 3) hx hb dX3_goWeek_128 (by decide) ?_
                  refine lv_iload_n hx hb dX3_goWeek_129 rfl (lv_at hL 3 rfl) ?_
                  refine lv_imul hx hb dX3_goWeek_130 ?_
                  refine lv_iload hx hb dX3_goWeek_131 (lv_at hL 4 rfl) ?_
                  refine lv_iadd hx hb dX3_goWeek_133 ?_
                  refine lv_iconst (v := 0) hx hb dX3_goWeek_134 (by decide) ?_
                  refine xx_is h (fun hp38 h => ?_)
                  refine xx_iast C B hp38 h dX3_goWeek_135 (fun gi39 h H locs B => ?_)
                  refine lv_aload_n hx hb dX3_goWeek_136 rfl (lv_at hL 0 rfl) ?_
                  refine lv_iload_n hx hb dX3_goWeek_137 rfl (lv_at hL 3 rfl) ?_
                  refine lv_iload hx hb dX3_goWeek_138 (lv_at hL 4 rfl) ?_
                  refine lv_aload_n hx hb dX3_goWeek_140 rfl (lv_at hL 1 rfl) ?_
                  refine xx_gr (ci := 1) (k := 1) C B xc_1 hp27 (by decide) (Nat.le_of_ble_eq_true rfl) rfl q256 (fun _ h => h) h dX3_goWeek_141 (fun v40 ok41 h => ?_)
                  refine lv_iload_n hx hb dX3_goWeek_144 rfl (lv_at hL 3 rfl) ?_
                  refine xx_is h (fun hp42 h => ?_)
                  refine k_J2_get hp42 C B q337 (Nat.le_trans (Nat.le_of_ble_eq_true rfl) hF) (Nat.le_trans (Nat.le_of_ble_eq_true rfl) hN) hL.1 (Nat.le_of_ble_eq_true rfl) ⟨Nat.zero_le _, Nat.zero_le _⟩ h dX3_goWeek_145 (fun q43 h H locs B => ?_)
                  refine xx_is h (fun hp44 h => ?_)
                  refine xx_cast C B xc_6 hp44 (by decide) q351 dX3_goWeek_148 ?_
                  refine xx_gr (ci := 6) (k := 2) C B xc_6 hp44 (by decide) (Nat.le_of_ble_eq_true rfl) rfl q977 (fun _ h => h) h dX3_goWeek_151 (fun v45 ok46 h => ?_)
                  refine lv_iload hx hb dX3_goWeek_154 (lv_at hL 4 rfl) ?_
                  refine xx_is h (fun hp47 h => ?_)
                  refine xx_iald C B hp47 h dX3_goWeek_156 (fun v48 h => ?_)
                  refine k_X3_gets ht C B q1439 (Nat.le_trans (Nat.le_of_ble_eq_true rfl) hF) (Nat.le_trans (Nat.le_of_ble_eq_true rfl) hN) hL.1 (Nat.le_of_ble_eq_true rfl) ⟨Nat.zero_le _, Nat.zero_le _⟩ h dX3_goWeek_157 (fun q49 h H locs B => ?_)
                  refine lv_iinc (v := x4l118 + 1) (lv' := [(4, .int (x4l118 + 1)), (0, .ref (ad a0)), (1, .ref (ad a1)), (2, .int q12.1), (3, .int x3l97)]) hx hb dX3_goWeek_160 hL (k := 4) rfl rfl (by decide) rfl (fun ls hL => ?_)
                  refine lv_goto (tgt := 118) hx hb dX3_goWeek_163 (by decide) ?_
                  exact ih118 _ _ _ _ _ (g_next h h9118) B (lv_sub hL [1, 2, 3, 4, 0] rfl)
            exact hl118 g_K _ _ _ _ _ h8118 B (lv_sub hL [1, 2, 3, 4, 0] rfl)
      exact hl97 g_K _ _ _ _ _ h897 B (lv_sub hL [1, 2, 3, 0] rfl)
    have hl50 : ∀ (k : Nat) (x3l50 : Int32) (gil50 : GI) (H : Heap) (locs : List Loc) (ls : Array Slot), g_loop k (fun (s : Int32 × GI) => f_X3_goWeek_l50 hk gr a0 a1 q12.1 s.1 s.2) (x3l50, gil50) = some E50 → XB D cA ad hk nx A s gil50 gr H locs → lv_has ls 5 [(0, .ref (ad a0)), (1, .ref (ad a1)), (2, .int q12.1), (3, .int x3l50)] → W p l e R s m args below meth c H locs 0 0 Q (F0 m 50 ls []) := by
      intro k
      induction k with
      | zero => intro x3l50 gil50 H locs ls h; exact absurd h (fun z => g_loop_0 z)
      | succ k ih50 =>
        intro x3l50 gil50 H locs ls h B hL
        obtain ⟨Z50, h, h950⟩ := g_loop_s h
        have h : f_X3_goWeek_l50 hk gr a0 a1 q12.1 x3l50 gil50 = some Z50 := h
        unfold f_X3_goWeek_l50 at h
        refine lv_iload_n hx hb dX3_goWeek_50 rfl (lv_at hL 3 rfl) ?_
        refine lv_aload_n hx hb dX3_goWeek_51 rfl (lv_at hL 1 rfl) ?_
        refine xx_is h (fun hp13 h => ?_)
        refine xx_gr (ci := 1) (k := 1) C B xc_1 hp13 (by decide) (Nat.le_of_ble_eq_true rfl) rfl q256 (fun _ h => h) h dX3_goWeek_52 (fun v14 ok15 h => ?_)
        refine xx_is h (fun hp16 h => ?_)
        refine k_J2_size hp16 C B q333 (Nat.le_trans (Nat.le_of_ble_eq_true rfl) hF) (Nat.le_trans (Nat.le_of_ble_eq_true rfl) hN) hL.1 (Nat.le_of_ble_eq_true rfl) ⟨Nat.zero_le _, Nat.zero_le _⟩ h dX3_goWeek_55 (fun q17 h H locs B => ?_)
        refine gg_icmp_ge hx hb 95 h dX3_goWeek_58 (by decide) (fun h => ?_) (fun h => ?_)
        · exact kx50 _ _ _ _ (g_exit h h950) B (lv_sub hL [0, 1, 2] rfl)
        · refine lv_aload_n hx hb dX3_goWeek_61 rfl (lv_at hL 0 rfl) ?_
          refine xx_gr (ci := 3) (k := 2) C B xc_3 ht (by decide) (Nat.le_of_ble_eq_true rfl) rfl q308 (fun _ h => h) h dX3_goWeek_62 (fun v18 ok19 h => ?_)
          refine lv_iload_n hx hb dX3_goWeek_65 rfl (lv_at hL 3 rfl) ?_
          refine lv_iconst (v := 0) hx hb dX3_goWeek_66 (by decide) ?_
          refine lv_bipush (v := 99) hx hb dX3_goWeek_67 (by decide) ?_
          refine lv_aload_n hx hb dX3_goWeek_69 rfl (lv_at hL 0 rfl) ?_
          refine xx_gr (ci := 3) (k := 2) C B xc_3 ht (by decide) (Nat.le_of_ble_eq_true rfl) rfl q308 (fun _ h => h) h dX3_goWeek_70 (fun v20 ok21 h => ?_)
          refine lv_iload_n hx hb dX3_goWeek_73 rfl (lv_at hL 3 rfl) ?_
          refine xx_is h (fun hp22 h => ?_)
          refine xx_iald C B hp22 h dX3_goWeek_74 (fun v23 h => ?_)
          refine lv_aload_n hx hb dX3_goWeek_75 rfl (lv_at hL 0 rfl) ?_
          refine lv_aload_n hx hb dX3_goWeek_76 rfl (lv_at hL 1 rfl) ?_
          refine lv_iload_n hx hb dX3_goWeek_77 rfl (lv_at hL 3 rfl) ?_
          refine k_X3_growth ht C B q1437 (Nat.le_trans (Nat.le_of_ble_eq_true rfl) hF) (Nat.le_trans (Nat.le_of_ble_eq_true rfl) hN) hL.1 (Nat.le_of_ble_eq_true rfl) ⟨Nat.zero_le _, Nat.zero_le _⟩ h dX3_goWeek_78 (fun q24 h H locs B => ?_)
          refine lv_iadd hx hb dX3_goWeek_81 ?_
          refine xx_min C q1410 q592 q157 q593 (Nat.le_trans (Nat.le_of_ble_eq_true rfl) hF) (Nat.le_trans (Nat.le_of_ble_eq_true rfl) hN) hL.1 (Nat.le_of_ble_eq_true rfl) ⟨Nat.zero_le _, Nat.zero_le _⟩ dX3_goWeek_82 ?_
          refine xx_max C q1438 q574 q157 q575 (Nat.le_trans (Nat.le_of_ble_eq_true rfl) hF) (Nat.le_trans (Nat.le_of_ble_eq_true rfl) hN) hL.1 (Nat.le_of_ble_eq_true rfl) ⟨Nat.zero_le _, Nat.zero_le _⟩ dX3_goWeek_85 ?_
          refine xx_is h (fun hp25 h => ?_)
          refine xx_iast C B hp25 h dX3_goWeek_88 (fun gi26 h H locs B => ?_)
          refine lv_iinc (v := x3l50 + 1) (lv' := [(3, .int (x3l50 + 1)), (0, .ref (ad a0)), (1, .ref (ad a1)), (2, .int q12.1)]) hx hb dX3_goWeek_89 hL (k := 3) rfl rfl (by decide) rfl (fun ls hL => ?_)
          refine lv_goto (tgt := 50) hx hb dX3_goWeek_92 (by decide) ?_
          exact ih50 _ _ _ _ _ (g_next h h950) B (lv_sub hL [1, 2, 3, 0] rfl)
    exact hl50 g_K _ _ _ _ _ h850 B (lv_sub hL [2, 3, 1, 0] rfl)
  have hl2 : ∀ (k : Nat) (x2l2 : Int32) (gil2 : GI) (H : Heap) (locs : List Loc) (ls : Array Slot), g_loop k (fun (s : Int32 × GI) => f_X3_goWeek_l2 hk gr a0 a1 s.1 s.2) (x2l2, gil2) = some E2 → XB D cA ad hk nx A s gil2 gr H locs → lv_has ls 5 [(0, .ref (ad a0)), (1, .ref (ad a1)), (2, .int x2l2)] → W p l e R s m args below meth c H locs 0 0 Q (F0 m 2 ls []) := by
    intro k
    induction k with
    | zero => intro x2l2 gil2 H locs ls h; exact absurd h (fun z => g_loop_0 z)
    | succ k ih2 =>
      intro x2l2 gil2 H locs ls h B hL
      obtain ⟨Z2, h, h92⟩ := g_loop_s h
      have h : f_X3_goWeek_l2 hk gr a0 a1 x2l2 gil2 = some Z2 := h
      unfold f_X3_goWeek_l2 at h
      refine lv_iload_n hx hb dX3_goWeek_2 rfl (lv_at hL 2 rfl) ?_
      refine lv_aload_n hx hb dX3_goWeek_3 rfl (lv_at hL 1 rfl) ?_
      refine xx_is h (fun hp1 h => ?_)
      refine xx_gr (ci := 1) (k := 1) C B xc_1 hp1 (by decide) (Nat.le_of_ble_eq_true rfl) rfl q256 (fun _ h => h) h dX3_goWeek_4 (fun v2 ok3 h => ?_)
      refine xx_is h (fun hp4 h => ?_)
      refine k_J2_size hp4 C B q333 (Nat.le_trans (Nat.le_of_ble_eq_true rfl) hF) (Nat.le_trans (Nat.le_of_ble_eq_true rfl) hN) hL.1 (Nat.le_of_ble_eq_true rfl) ⟨Nat.zero_le _, Nat.zero_le _⟩ h dX3_goWeek_7 (fun q5 h H locs B => ?_)
      refine gg_icmp_ge hx hb 42 h dX3_goWeek_10 (by decide) (fun h => ?_) (fun h => ?_)
      · exact kx2 _ _ _ _ (g_exit h h92) B (lv_sub hL [0, 1] rfl)
      · refine lv_aload_n hx hb dX3_goWeek_13 rfl (lv_at hL 1 rfl) ?_
        refine xx_gr (ci := 1) (k := 1) C B xc_1 hp1 (by decide) (Nat.le_of_ble_eq_true rfl) rfl q256 (fun _ h => h) h dX3_goWeek_14 (fun v6 ok7 h => ?_)
        refine lv_iload_n hx hb dX3_goWeek_17 rfl (lv_at hL 2 rfl) ?_
        refine xx_is h (fun hp8 h => ?_)
        refine k_J2_get hp8 C B q337 (Nat.le_trans (Nat.le_of_ble_eq_true rfl) hF) (Nat.le_trans (Nat.le_of_ble_eq_true rfl) hN) hL.1 (Nat.le_of_ble_eq_true rfl) ⟨Nat.zero_le _, Nat.zero_le _⟩ h dX3_goWeek_18 (fun q9 h H locs B => ?_)
        refine xx_is h (fun hp10 h => ?_)
        refine xx_cast C B xc_6 hp10 (by decide) q351 dX3_goWeek_21 ?_
        refine xx_gi (ci := 6) (k := 7) C B xc_6 hp10 (by decide) (Nat.le_of_ble_eq_true rfl) rfl q989 (fun _ h => h) dX3_goWeek_24 ?_
        refine gg_if_eq hx hb 36 h dX3_goWeek_27 (by decide) (fun h => ?_) (fun h => ?_)
        · refine lv_iinc (v := x2l2 + 1) (lv' := [(2, .int (x2l2 + 1)), (0, .ref (ad a0)), (1, .ref (ad a1))]) hx hb dX3_goWeek_36 hL (k := 2) rfl rfl (by decide) rfl (fun ls hL => ?_)
          refine lv_goto (tgt := 2) hx hb dX3_goWeek_39 (by decide) ?_
          exact ih2 _ _ _ _ _ (g_next h h92) B (lv_sub hL [1, 2, 0] rfl)
        · refine lv_aload_n hx hb dX3_goWeek_30 rfl (lv_at hL 0 rfl) ?_
          refine lv_aload_n hx hb dX3_goWeek_31 rfl (lv_at hL 1 rfl) ?_
          refine lv_iload_n hx hb dX3_goWeek_32 rfl (lv_at hL 2 rfl) ?_
          refine k_X3_drinks ht C B q1424 (Nat.le_trans (Nat.le_of_ble_eq_true rfl) hF) (Nat.le_trans (Nat.le_of_ble_eq_true rfl) hN) hL.1 (Nat.le_of_ble_eq_true rfl) ⟨Nat.zero_le _, Nat.zero_le _⟩ h dX3_goWeek_33 (fun q11 h H locs B => ?_)
          refine lv_iinc (v := x2l2 + 1) (lv' := [(2, .int (x2l2 + 1)), (0, .ref (ad a0)), (1, .ref (ad a1))]) hx hb dX3_goWeek_36 hL (k := 2) rfl rfl (by decide) rfl (fun ls hL => ?_)
          refine lv_goto (tgt := 2) hx hb dX3_goWeek_39 (by decide) ?_
          exact ih2 _ _ _ _ _ (g_next h h92) B (lv_sub hL [1, 2, 0] rfl)
  exact hl2 g_K _ _ _ _ _ h82 B (lv_sub hL [1, 2, 0] rfl)
theorem k_X3_goWeek {p : Program} {l : Launch} {e : Env} {R : Room} {s : State} {m : MethodId} {args : Array Value} {below : List Frame} {meth : Method} {c : Code} {H : Heap} {locs : List Loc} {Q : State → Prop} {pc : Nat} {ls : Array Slot} {rest : List Value} {cc : ByteArray} {nL cells slots : Nat} {D : va_G} {cA : Nat → ClassId} {ad : Nat → Nat} {hk : HK} {nx : Nat} {A : Nat → Prop} {gi : GI} {gr : GR} {α : Type} {r : α} {own : String} {idx : Nat} {a0 : Nat} {a1 : Nat} {ff : (Int32 × GI) → Option α} (ht : (hk a0).1 = 13) (C : CallFix p m c cc nL s args lw_all own) (B : XB D cA ad hk nx A s gi gr H locs) (hq : Cond.methodLink own idx yX3_goWeek ∈ lw_all) (hF : 107 ≤ R.frames) (hN : 3189 ≤ R.locals) (hs : ls.size = nL) (hw : (rest.map fun v => v.category).sum ≤ 8) (hz0 : cells ≤ R.cells ∧ slots ≤ R.slots) (h : (f_X3_goWeek hk gi gr a0 a1).bind ff = some r) (hdg : decode cc pc = .ok (.invokevirtual idx, 3)) (kk : ∀ q, ff q = some r → ∀ (H' : Heap) (locs' : List Loc), XB D cA ad hk nx A s q.2 gr H' locs' → W p l e R s m args below meth c H' locs' cells slots Q (F0 m (pc + 3) ls (.int q.1 :: rest))) : W p l e R s m args below meth c H locs cells slots Q (F0 m pc ls (.ref (ad a1) :: .ref (ad a0) :: rest)) := by
  obtain ⟨q, h1, h2⟩ := g_ob h
  refine xx_cVI (As := [.ref (ad a1)]) (rest := rest) (n := 1) xc_3 ht (by decide) C B (fun sz => w_X3_goWeek l D cA ad hk nx gi gr a0 a1 ht q h1 sz) hq q1421 q1422 q147 q1423 (by decide +kernel) ⟨hF, hN⟩ rfl hs hw hz0 hdg (fun v u H9 locs9 hp B9 => ?_)
  obtain ⟨e1, e3⟩ := hp
  rw [e3] at B9
  subst e1
  exact kk _ h2 H9 locs9 B9
def f_X0_week (hk : HK) (gi : GI) (gr : GR) (a0 : Nat) : Option (Int32 × GI × GR) :=
  (gr a0 5).bind fun v1 =>
  (g_is hk v1 13).bind fun _ =>
  if (gi v1 4) = 999 then
  (some ((-1000000), gi, gr))
  else
  ((f_X0_act hk gi gr a0).bind fun q4 =>
  (q4.2 a0 5).bind fun v5 =>
  (q4.2 a0 4).bind fun v7 =>
  (g_is hk v5 13).bind fun _ =>
  (f_X3_goWeek hk q4.1 q4.2 v5 v7).bind fun q10 =>
  some (q10.1, q10.2, q4.2))
set_option maxHeartbeats 400000 in
theorem w_X0_week (l : Launch) (D : va_G) (cA : Nat → ClassId) (ad : Nat → Nat) (hk : HK) (nx : Nat) (gi : GI) (gr : GR) (a0 : Nat) (ht : (hk a0).1 = 10) (r : Int32 × GI × GR) (h : f_X0_week hk gi gr a0 = some r) (sz : Nat) : Met l yX0_week (ws_ yX0_week cX0_week 1 (some .int)) ({ frames := 107, cells := 0, slots := 0, locals := 3189 } : Room) (va_Pc [.ref (ad a0)] (XPre D cA ad hk nx gi gr sz)) (va_Qi (fun v u => (v, u.1, u.2) = r) (XPost D cA ad hk nx) (XA ad nx sz)) 0 0 (XA ad nx sz) := by
  refine xx_stI (own := RX0) (P := (fun v u => (v, u.1, u.2) = r)) (by decide +kernel) rfl (Nat.le_of_ble_eq_true rfl) (fun p e s m args below meth c R Q A ls C hF hN B hret hL => ?_) sz
  have hx := C.1
  have hb := C.2.1
  have hL : lv_has ls 1 [(0, .ref (ad a0))] := hL
  unfold f_X0_week at h
  refine lv_aload_n hx hb dX0_week_0 rfl (lv_at hL 0 rfl) ?_
  refine xx_gr (ci := 0) (k := 5) C B xc_0 ht (by decide) (Nat.le_of_ble_eq_true rfl) rfl q364 (fun _ h => h) h dX0_week_1 (fun v1 ok2 h => ?_)
  refine xx_is h (fun hp3 h => ?_)
  refine xx_gi (ci := 3) (k := 4) C B xc_3 hp3 (by decide) (Nat.le_of_ble_eq_true rfl) rfl q313 (fun _ h => h) dX0_week_4 ?_
  refine lv_sipush (v := 999) hx hb dX0_week_7 (by decide) ?_
  refine gg_icmp_ne hx hb 16 h dX0_week_10 (by decide) (fun h => ?_) (fun h => ?_)
  · refine lv_aload_n hx hb dX0_week_16 rfl (lv_at hL 0 rfl) ?_
    refine k_X0_act ht C B q1376 (Nat.le_trans (Nat.le_of_ble_eq_true rfl) hF) (Nat.le_trans (Nat.le_of_ble_eq_true rfl) hN) hL.1 (Nat.le_of_ble_eq_true rfl) ⟨Nat.zero_le _, Nat.zero_le _⟩ h dX0_week_17 (fun q4 h H locs B => ?_)
    refine lv_aload_n hx hb dX0_week_20 rfl (lv_at hL 0 rfl) ?_
    refine xx_gr (ci := 0) (k := 5) C B xc_0 ht (by decide) (Nat.le_of_ble_eq_true rfl) rfl q364 (fun _ h => h) h dX0_week_21 (fun v5 ok6 h => ?_)
    refine lv_aload_n hx hb dX0_week_24 rfl (lv_at hL 0 rfl) ?_
    refine xx_gr (ci := 0) (k := 4) C B xc_0 ht (by decide) (Nat.le_of_ble_eq_true rfl) rfl q363 (fun _ h => h) h dX0_week_25 (fun v7 ok8 h => ?_)
    refine xx_is h (fun hp9 h => ?_)
    refine k_X3_goWeek hp9 C B q1420 (Nat.le_trans (Nat.le_of_ble_eq_true rfl) hF) (Nat.le_trans (Nat.le_of_ble_eq_true rfl) hN) hL.1 (Nat.le_of_ble_eq_true rfl) ⟨Nat.zero_le _, Nat.zero_le _⟩ h dX0_week_28 (fun q10 h H locs B => ?_)
    exact hret _ _ _ _ _ _ _ (Option.some.inj h) B dX0_week_31
  · refine lv_ldc (v := (-1000000)) hx hb C.2.2.2.1 (C.2.2.2.2 _ q1250) dX0_week_13 ?_
    exact hret _ _ _ _ _ _ _ (Option.some.inj h) B dX0_week_15
theorem k_X0_week {p : Program} {l : Launch} {e : Env} {R : Room} {s : State} {m : MethodId} {args : Array Value} {below : List Frame} {meth : Method} {c : Code} {H : Heap} {locs : List Loc} {Q : State → Prop} {pc : Nat} {ls : Array Slot} {rest : List Value} {cc : ByteArray} {nL cells slots : Nat} {D : va_G} {cA : Nat → ClassId} {ad : Nat → Nat} {hk : HK} {nx : Nat} {A : Nat → Prop} {gi : GI} {gr : GR} {α : Type} {r : α} {own : String} {idx : Nat} {a0 : Nat} {ff : (Int32 × GI × GR) → Option α} (ht : (hk a0).1 = 10) (C : CallFix p m c cc nL s args lw_all own) (B : XB D cA ad hk nx A s gi gr H locs) (hq : Cond.methodLink own idx yX0_week ∈ lw_all) (hF : 108 ≤ R.frames) (hN : 3209 ≤ R.locals) (hs : ls.size = nL) (hw : (rest.map fun v => v.category).sum ≤ 8) (hz0 : cells ≤ R.cells ∧ slots ≤ R.slots) (h : (f_X0_week hk gi gr a0).bind ff = some r) (hdg : decode cc pc = .ok (.invokevirtual idx, 3)) (kk : ∀ q, ff q = some r → ∀ (H' : Heap) (locs' : List Loc), XB D cA ad hk nx A s q.2.1 q.2.2 H' locs' → W p l e R s m args below meth c H' locs' cells slots Q (F0 m (pc + 3) ls (.int q.1 :: rest))) : W p l e R s m args below meth c H locs cells slots Q (F0 m pc ls (.ref (ad a0) :: rest)) := by
  obtain ⟨q, h1, h2⟩ := g_ob h
  refine xx_cVI (As := []) (rest := rest) (n := 0) xc_0 ht (by decide) C B (fun sz => w_X0_week l D cA ad hk nx gi gr a0 ht q h1 sz) hq q1417 q1418 q141 q1419 (by decide +kernel) ⟨hF, hN⟩ rfl hs hw hz0 hdg (fun v u H9 locs9 hp B9 => ?_)
  have e1 := hp
  subst e1
  exact kk _ h2 H9 locs9 B9
def f_X0_exchange (hk : HK) (gi : GI) (gr : GR) (a0 : Nat) (a1 : Nat) : Option (GI) :=
  (gr a0 6).bind fun v1 =>
  (g_is hk v1 13).bind fun _ =>
  (f_X3_copy hk gi gr v1 a1).bind fun q4 =>
  (gr a0 5).bind fun v5 =>
  (g_is hk a1 13).bind fun _ =>
  (f_X3_copy hk q4.2 gr a1 v5).bind fun q8 =>
  (gr a0 5).bind fun v9 =>
  (gr a0 6).bind fun v11 =>
  (g_is hk v9 13).bind fun _ =>
  (f_X3_copy hk q8.2 gr v9 v11).bind fun q14 =>
  some q14.2
set_option maxHeartbeats 400000 in
theorem w_X0_exchange (l : Launch) (D : va_G) (cA : Nat → ClassId) (ad : Nat → Nat) (hk : HK) (nx : Nat) (gi : GI) (gr : GR) (a0 : Nat) (a1 : Nat) (ht : (hk a0).1 = 10) (r : GI) (h : f_X0_exchange hk gi gr a0 a1 = some r) (sz : Nat) : Met l yX0_exchange (ws_ yX0_exchange cX0_exchange 2 (none)) ({ frames := 2, cells := 0, slots := 0, locals := 85 } : Room) (va_Pc [.ref (ad a0), .ref (ad a1)] (XPre D cA ad hk nx gi gr sz)) (va_Qv (fun u => u.1 = r ∧ u.2 = gr) (XPost D cA ad hk nx) (XA ad nx sz)) 0 0 (XA ad nx sz) := by
  refine xx_stV (own := RX0) (P := (fun u => u.1 = r ∧ u.2 = gr)) (by decide +kernel) rfl (Nat.le_of_ble_eq_true rfl) (fun p e s m args below meth c R Q A ls C hF hN B hret hL => ?_) sz
  have hx := C.1
  have hb := C.2.1
  have hL : lv_has ls 2 [(0, .ref (ad a0)), (1, .ref (ad a1))] := hL
  unfold f_X0_exchange at h
  refine lv_aload_n hx hb dX0_exchange_0 rfl (lv_at hL 0 rfl) ?_
  refine xx_gr (ci := 0) (k := 6) C B xc_0 ht (by decide) (Nat.le_of_ble_eq_true rfl) rfl q365 (fun _ h => h) h dX0_exchange_1 (fun v1 ok2 h => ?_)
  refine lv_aload_n hx hb dX0_exchange_4 rfl (lv_at hL 1 rfl) ?_
  refine xx_is h (fun hp3 h => ?_)
  refine k_X3_copy hp3 C B q1381 (Nat.le_trans (Nat.le_of_ble_eq_true rfl) hF) (Nat.le_trans (Nat.le_of_ble_eq_true rfl) hN) hL.1 (Nat.le_of_ble_eq_true rfl) ⟨Nat.zero_le _, Nat.zero_le _⟩ h dX0_exchange_5 (fun q4 h H locs B => ?_)
  refine lv_pop hx hb dX0_exchange_8 rfl ?_
  refine lv_aload_n hx hb dX0_exchange_9 rfl (lv_at hL 1 rfl) ?_
  refine lv_aload_n hx hb dX0_exchange_10 rfl (lv_at hL 0 rfl) ?_
  refine xx_gr (ci := 0) (k := 5) C B xc_0 ht (by decide) (Nat.le_of_ble_eq_true rfl) rfl q364 (fun _ h => h) h dX0_exchange_11 (fun v5 ok6 h => ?_)
  refine xx_is h (fun hp7 h => ?_)
  refine k_X3_copy hp7 C B q1381 (Nat.le_trans (Nat.le_of_ble_eq_true rfl) hF) (Nat.le_trans (Nat.le_of_ble_eq_true rfl) hN) hL.1 (Nat.le_of_ble_eq_true rfl) ⟨Nat.zero_le _, Nat.zero_le _⟩ h dX0_exchange_14 (fun q8 h H locs B => ?_)
  refine lv_pop hx hb dX0_exchange_17 rfl ?_
  refine lv_aload_n hx hb dX0_exchange_18 rfl (lv_at hL 0 rfl) ?_
  refine xx_gr (ci := 0) (k := 5) C B xc_0 ht (by decide) (Nat.le_of_ble_eq_true rfl) rfl q364 (fun _ h => h) h dX0_exchange_19 (fun v9 ok10 h => ?_)
  refine lv_aload_n hx hb dX0_exchange_22 rfl (lv_at hL 0 rfl) ?_
  refine xx_gr (ci := 0) (k := 6) C B xc_0 ht (by decide) (Nat.le_of_ble_eq_true rfl) rfl q365 (fun _ h => h) h dX0_exchange_23 (fun v11 ok12 h => ?_)
  refine xx_is h (fun hp13 h => ?_)
  refine k_X3_copy hp13 C B q1381 (Nat.le_trans (Nat.le_of_ble_eq_true rfl) hF) (Nat.le_trans (Nat.le_of_ble_eq_true rfl) hN) hL.1 (Nat.le_of_ble_eq_true rfl) ⟨Nat.zero_le _, Nat.zero_le _⟩ h dX0_exchange_26 (fun q14 h H locs B => ?_)
  refine lv_pop hx hb dX0_exchange_29 rfl ?_
  exact hret _ _ _ _ _ _ ⟨Option.some.inj h, rfl⟩ B dX0_exchange_30
theorem k_X0_exchange {p : Program} {l : Launch} {e : Env} {R : Room} {s : State} {m : MethodId} {args : Array Value} {below : List Frame} {meth : Method} {c : Code} {H : Heap} {locs : List Loc} {Q : State → Prop} {pc : Nat} {ls : Array Slot} {rest : List Value} {cc : ByteArray} {nL cells slots : Nat} {D : va_G} {cA : Nat → ClassId} {ad : Nat → Nat} {hk : HK} {nx : Nat} {A : Nat → Prop} {gi : GI} {gr : GR} {α : Type} {r : α} {own : String} {idx : Nat} {a0 : Nat} {a1 : Nat} {ff : GI → Option α} (ht : (hk a0).1 = 10) (C : CallFix p m c cc nL s args lw_all own) (B : XB D cA ad hk nx A s gi gr H locs) (hq : Cond.methodLink own idx yX0_exchange ∈ lw_all) (hF : 3 ≤ R.frames) (hN : 106 ≤ R.locals) (hs : ls.size = nL) (hw : (rest.map fun v => v.category).sum ≤ 8) (hz0 : cells ≤ R.cells ∧ slots ≤ R.slots) (h : (f_X0_exchange hk gi gr a0 a1).bind ff = some r) (hdg : decode cc pc = .ok (.invokevirtual idx, 3)) (kk : ∀ q, ff q = some r → ∀ (H' : Heap) (locs' : List Loc), XB D cA ad hk nx A s q gr H' locs' → W p l e R s m args below meth c H' locs' cells slots Q (F0 m (pc + 3) ls (rest))) : W p l e R s m args below meth c H locs cells slots Q (F0 m pc ls (.ref (ad a1) :: .ref (ad a0) :: rest)) := by
  obtain ⟨q, h1, h2⟩ := g_ob h
  refine xx_cVV (As := [.ref (ad a1)]) (rest := rest) (n := 1) xc_0 ht (by decide) C B (fun sz => w_X0_exchange l D cA ad hk nx gi gr a0 a1 ht q h1 sz) hq q1446 qs47 q141 q1447 (by decide +kernel) ⟨hF, hN⟩ rfl hs hw hz0 hdg (fun u H9 locs9 hp B9 => ?_)
  obtain ⟨e1, e3⟩ := hp
  rw [e3] at B9
  subst e1
  exact kk _ h2 H9 locs9 B9
def f_X0_undo (hk : HK) (gi : GI) (gr : GR) (a0 : Nat) : Option (Int32 × GI) :=
  if (gi a0 11) = 0 then
  (some (0, gi))
  else
  ((some (g_pi gi a0 11 ((gi a0 11) - 1))).bind fun gi1 =>
  (some (g_pi gi1 a0 12 ((gi1 a0 12) + 1))).bind fun gi2 =>
  (gr a0 10).bind fun v3 =>
  (g_is hk v3 5).bind fun _ =>
  (g_ldr gr v3 (hk v3).2 (gi2 a0 11)).bind fun v6 =>
  (f_X0_exchange hk gi2 gr a0 v6).bind fun q8 =>
  some (1, q8))
set_option maxHeartbeats 400000 in
theorem w_X0_undo (l : Launch) (D : va_G) (cA : Nat → ClassId) (ad : Nat → Nat) (hk : HK) (nx : Nat) (gi : GI) (gr : GR) (a0 : Nat) (ht : (hk a0).1 = 10) (r : Int32 × GI) (h : f_X0_undo hk gi gr a0 = some r) (sz : Nat) : Met l yX0_undo (ws_ yX0_undo cX0_undo 1 (some .boolean)) ({ frames := 3, cells := 0, slots := 0, locals := 106 } : Room) (va_Pc [.ref (ad a0)] (XPre D cA ad hk nx gi gr sz)) (va_Qi (fun v u => (v, u.1) = r ∧ u.2 = gr) (XPost D cA ad hk nx) (XA ad nx sz)) 0 0 (XA ad nx sz) := by
  refine xx_stZ (own := RX0) (P := (fun v u => (v, u.1) = r ∧ u.2 = gr)) (by decide +kernel) rfl (Nat.le_of_ble_eq_true rfl) (fun p e s m args below meth c R Q A ls C hF hN B hret hL => ?_) sz
  have hx := C.1
  have hb := C.2.1
  have hL : lv_has ls 1 [(0, .ref (ad a0))] := hL
  unfold f_X0_undo at h
  refine lv_aload_n hx hb dX0_undo_0 rfl (lv_at hL 0 rfl) ?_
  refine xx_gi (ci := 0) (k := 11) C B xc_0 ht (by decide) (Nat.le_of_ble_eq_true rfl) rfl q371 (fun _ h => h) dX0_undo_1 ?_
  refine gg_if_ne hx hb 9 h dX0_undo_4 (by decide) (fun h => ?_) (fun h => ?_)
  · refine lv_aload_n hx hb dX0_undo_9 rfl (lv_at hL 0 rfl) ?_
    refine lv_dup hx hb dX0_undo_10 rfl ?_
    refine xx_gi (ci := 0) (k := 11) C B xc_0 ht (by decide) (Nat.le_of_ble_eq_true rfl) rfl q371 (fun _ h => h) dX0_undo_11 ?_
    refine lv_iconst (v := 1) hx hb dX0_undo_14 (by decide) ?_
    refine lv_isub hx hb dX0_undo_15 ?_
    refine xx_pi (ci := 0) (k := 11) C B xc_0 ht (by decide) (Nat.le_of_ble_eq_true rfl) rfl q371 (fun _ h => h) rfl rfl rfl h dX0_undo_16 (fun gi1 h H locs B => ?_)
    refine lv_aload_n hx hb dX0_undo_19 rfl (lv_at hL 0 rfl) ?_
    refine lv_dup hx hb dX0_undo_20 rfl ?_
    refine xx_gi (ci := 0) (k := 12) C B xc_0 ht (by decide) (Nat.le_of_ble_eq_true rfl) rfl q372 (fun _ h => h) dX0_undo_21 ?_
    refine lv_iconst (v := 1) hx hb dX0_undo_24 (by decide) ?_
    refine lv_iadd hx hb dX0_undo_25 ?_
    refine xx_pi (ci := 0) (k := 12) C B xc_0 ht (by decide) (Nat.le_of_ble_eq_true rfl) rfl q372 (fun _ h => h) rfl rfl rfl h dX0_undo_26 (fun gi2 h H locs B => ?_)
    refine lv_aload_n hx hb dX0_undo_29 rfl (lv_at hL 0 rfl) ?_
    refine lv_aload_n hx hb dX0_undo_30 rfl (lv_at hL 0 rfl) ?_
    refine xx_gr (ci := 0) (k := 10) C B xc_0 ht (by decide) (Nat.le_of_ble_eq_true rfl) rfl q370 (fun _ h => h) h dX0_undo_31 (fun v3 ok4 h => ?_)
    refine lv_aload_n hx hb dX0_undo_34 rfl (lv_at hL 0 rfl) ?_
    refine xx_gi (ci := 0) (k := 11) C B xc_0 ht (by decide) (Nat.le_of_ble_eq_true rfl) rfl q371 (fun _ h => h) dX0_undo_35 ?_
    refine xx_is h (fun hp5 h => ?_)
    refine xx_aald C B hp5 (by decide) rfl h dX0_undo_38 (fun v6 ok7 h => ?_)
    refine k_X0_exchange ht C B q1444 (Nat.le_trans (Nat.le_of_ble_eq_true rfl) hF) (Nat.le_trans (Nat.le_of_ble_eq_true rfl) hN) hL.1 (Nat.le_of_ble_eq_true rfl) ⟨Nat.zero_le _, Nat.zero_le _⟩ h dX0_undo_39 (fun q8 h H locs B => ?_)
    refine lv_iconst (v := 1) hx hb dX0_undo_42 (by decide) ?_
    exact hret _ _ _ _ _ _ _ ⟨Option.some.inj h, rfl⟩ (Or.inr rfl) B dX0_undo_43
  · refine lv_iconst (v := 0) hx hb dX0_undo_7 (by decide) ?_
    exact hret _ _ _ _ _ _ _ ⟨Option.some.inj h, rfl⟩ (Or.inl rfl) B dX0_undo_8
theorem k_X0_undo {p : Program} {l : Launch} {e : Env} {R : Room} {s : State} {m : MethodId} {args : Array Value} {below : List Frame} {meth : Method} {c : Code} {H : Heap} {locs : List Loc} {Q : State → Prop} {pc : Nat} {ls : Array Slot} {rest : List Value} {cc : ByteArray} {nL cells slots : Nat} {D : va_G} {cA : Nat → ClassId} {ad : Nat → Nat} {hk : HK} {nx : Nat} {A : Nat → Prop} {gi : GI} {gr : GR} {α : Type} {r : α} {own : String} {idx : Nat} {a0 : Nat} {ff : (Int32 × GI) → Option α} (ht : (hk a0).1 = 10) (C : CallFix p m c cc nL s args lw_all own) (B : XB D cA ad hk nx A s gi gr H locs) (hq : Cond.methodLink own idx yX0_undo ∈ lw_all) (hF : 4 ≤ R.frames) (hN : 126 ≤ R.locals) (hs : ls.size = nL) (hw : (rest.map fun v => v.category).sum ≤ 8) (hz0 : cells ≤ R.cells ∧ slots ≤ R.slots) (h : (f_X0_undo hk gi gr a0).bind ff = some r) (hdg : decode cc pc = .ok (.invokevirtual idx, 3)) (kk : ∀ q, ff q = some r → ∀ (H' : Heap) (locs' : List Loc), XB D cA ad hk nx A s q.2 gr H' locs' → W p l e R s m args below meth c H' locs' cells slots Q (F0 m (pc + 3) ls (.int q.1 :: rest))) : W p l e R s m args below meth c H locs cells slots Q (F0 m pc ls (.ref (ad a0) :: rest)) := by
  obtain ⟨q, h1, h2⟩ := g_ob h
  refine xx_cVI (As := []) (rest := rest) (n := 0) xc_0 ht (by decide) C B (fun sz => w_X0_undo l D cA ad hk nx gi gr a0 ht q h1 sz) hq q1441 q1442 q141 q1443 (by decide +kernel) ⟨hF, hN⟩ rfl hs hw hz0 hdg (fun v u H9 locs9 hp B9 => ?_)
  obtain ⟨e1, e3⟩ := hp
  rw [e3] at B9
  subst e1
  exact kk _ h2 H9 locs9 B9
def f_X0_redo (hk : HK) (gi : GI) (gr : GR) (a0 : Nat) : Option (Int32 × GI) :=
  if (gi a0 12) = 0 then
  (some (0, gi))
  else
  ((gr a0 10).bind fun v1 =>
  (g_is hk v1 5).bind fun _ =>
  (g_ldr gr v1 (hk v1).2 (gi a0 11)).bind fun v4 =>
  (f_X0_exchange hk gi gr a0 v4).bind fun q6 =>
  (some (g_pi q6 a0 11 ((q6 a0 11) + 1))).bind fun gi7 =>
  (some (g_pi gi7 a0 12 ((gi7 a0 12) - 1))).bind fun gi8 =>
  some (1, gi8))
set_option maxHeartbeats 400000 in
theorem w_X0_redo (l : Launch) (D : va_G) (cA : Nat → ClassId) (ad : Nat → Nat) (hk : HK) (nx : Nat) (gi : GI) (gr : GR) (a0 : Nat) (ht : (hk a0).1 = 10) (r : Int32 × GI) (h : f_X0_redo hk gi gr a0 = some r) (sz : Nat) : Met l yX0_redo (ws_ yX0_redo cX0_redo 1 (some .boolean)) ({ frames := 3, cells := 0, slots := 0, locals := 106 } : Room) (va_Pc [.ref (ad a0)] (XPre D cA ad hk nx gi gr sz)) (va_Qi (fun v u => (v, u.1) = r ∧ u.2 = gr) (XPost D cA ad hk nx) (XA ad nx sz)) 0 0 (XA ad nx sz) := by
  refine xx_stZ (own := RX0) (P := (fun v u => (v, u.1) = r ∧ u.2 = gr)) (by decide +kernel) rfl (Nat.le_of_ble_eq_true rfl) (fun p e s m args below meth c R Q A ls C hF hN B hret hL => ?_) sz
  have hx := C.1
  have hb := C.2.1
  have hL : lv_has ls 1 [(0, .ref (ad a0))] := hL
  unfold f_X0_redo at h
  refine lv_aload_n hx hb dX0_redo_0 rfl (lv_at hL 0 rfl) ?_
  refine xx_gi (ci := 0) (k := 12) C B xc_0 ht (by decide) (Nat.le_of_ble_eq_true rfl) rfl q372 (fun _ h => h) dX0_redo_1 ?_
  refine gg_if_ne hx hb 9 h dX0_redo_4 (by decide) (fun h => ?_) (fun h => ?_)
  · refine lv_aload_n hx hb dX0_redo_9 rfl (lv_at hL 0 rfl) ?_
    refine lv_aload_n hx hb dX0_redo_10 rfl (lv_at hL 0 rfl) ?_
    refine xx_gr (ci := 0) (k := 10) C B xc_0 ht (by decide) (Nat.le_of_ble_eq_true rfl) rfl q370 (fun _ h => h) h dX0_redo_11 (fun v1 ok2 h => ?_)
    refine lv_aload_n hx hb dX0_redo_14 rfl (lv_at hL 0 rfl) ?_
    refine xx_gi (ci := 0) (k := 11) C B xc_0 ht (by decide) (Nat.le_of_ble_eq_true rfl) rfl q371 (fun _ h => h) dX0_redo_15 ?_
    refine xx_is h (fun hp3 h => ?_)
    refine xx_aald C B hp3 (by decide) rfl h dX0_redo_18 (fun v4 ok5 h => ?_)
    refine k_X0_exchange ht C B q1444 (Nat.le_trans (Nat.le_of_ble_eq_true rfl) hF) (Nat.le_trans (Nat.le_of_ble_eq_true rfl) hN) hL.1 (Nat.le_of_ble_eq_true rfl) ⟨Nat.zero_le _, Nat.zero_le _⟩ h dX0_redo_19 (fun q6 h H locs B => ?_)
    refine lv_aload_n hx hb dX0_redo_22 rfl (lv_at hL 0 rfl) ?_
    refine lv_dup hx hb dX0_redo_23 rfl ?_
    refine xx_gi (ci := 0) (k := 11) C B xc_0 ht (by decide) (Nat.le_of_ble_eq_true rfl) rfl q371 (fun _ h => h) dX0_redo_24 ?_
    refine lv_iconst (v := 1) hx hb dX0_redo_27 (by decide) ?_
    refine lv_iadd hx hb dX0_redo_28 ?_
    refine xx_pi (ci := 0) (k := 11) C B xc_0 ht (by decide) (Nat.le_of_ble_eq_true rfl) rfl q371 (fun _ h => h) rfl rfl rfl h dX0_redo_29 (fun gi7 h H locs B => ?_)
    refine lv_aload_n hx hb dX0_redo_32 rfl (lv_at hL 0 rfl) ?_
    refine lv_dup hx hb dX0_redo_33 rfl ?_
    refine xx_gi (ci := 0) (k := 12) C B xc_0 ht (by decide) (Nat.le_of_ble_eq_true rfl) rfl q372 (fun _ h => h) dX0_redo_34 ?_
    refine lv_iconst (v := 1) hx hb dX0_redo_37 (by decide) ?_
    refine lv_isub hx hb dX0_redo_38 ?_
    refine xx_pi (ci := 0) (k := 12) C B xc_0 ht (by decide) (Nat.le_of_ble_eq_true rfl) rfl q372 (fun _ h => h) rfl rfl rfl h dX0_redo_39 (fun gi8 h H locs B => ?_)
    refine lv_iconst (v := 1) hx hb dX0_redo_42 (by decide) ?_
    exact hret _ _ _ _ _ _ _ ⟨Option.some.inj h, rfl⟩ (Or.inr rfl) B dX0_redo_43
  · refine lv_iconst (v := 0) hx hb dX0_redo_7 (by decide) ?_
    exact hret _ _ _ _ _ _ _ ⟨Option.some.inj h, rfl⟩ (Or.inl rfl) B dX0_redo_8
theorem k_X0_redo {p : Program} {l : Launch} {e : Env} {R : Room} {s : State} {m : MethodId} {args : Array Value} {below : List Frame} {meth : Method} {c : Code} {H : Heap} {locs : List Loc} {Q : State → Prop} {pc : Nat} {ls : Array Slot} {rest : List Value} {cc : ByteArray} {nL cells slots : Nat} {D : va_G} {cA : Nat → ClassId} {ad : Nat → Nat} {hk : HK} {nx : Nat} {A : Nat → Prop} {gi : GI} {gr : GR} {α : Type} {r : α} {own : String} {idx : Nat} {a0 : Nat} {ff : (Int32 × GI) → Option α} (ht : (hk a0).1 = 10) (C : CallFix p m c cc nL s args lw_all own) (B : XB D cA ad hk nx A s gi gr H locs) (hq : Cond.methodLink own idx yX0_redo ∈ lw_all) (hF : 4 ≤ R.frames) (hN : 126 ≤ R.locals) (hs : ls.size = nL) (hw : (rest.map fun v => v.category).sum ≤ 8) (hz0 : cells ≤ R.cells ∧ slots ≤ R.slots) (h : (f_X0_redo hk gi gr a0).bind ff = some r) (hdg : decode cc pc = .ok (.invokevirtual idx, 3)) (kk : ∀ q, ff q = some r → ∀ (H' : Heap) (locs' : List Loc), XB D cA ad hk nx A s q.2 gr H' locs' → W p l e R s m args below meth c H' locs' cells slots Q (F0 m (pc + 3) ls (.int q.1 :: rest))) : W p l e R s m args below meth c H locs cells slots Q (F0 m pc ls (.ref (ad a0) :: rest)) := by
  obtain ⟨q, h1, h2⟩ := g_ob h
  refine xx_cVI (As := []) (rest := rest) (n := 0) xc_0 ht (by decide) C B (fun sz => w_X0_redo l D cA ad hk nx gi gr a0 ht q h1 sz) hq q1449 q1450 q141 q1451 (by decide +kernel) ⟨hF, hN⟩ rfl hs hw hz0 hdg (fun v u H9 locs9 hp B9 => ?_)
  obtain ⟨e1, e3⟩ := hp
  rw [e3] at B9
  subst e1
  exact kk _ h2 H9 locs9 B9
def f_X0_clearRow_l2 (hk : HK) (gri2 : GR) (a0i2 : Nat) (x1l2 : Int32) (gil2 : GI) : Option ((Int32 × GI) ⊕ (GI)) :=
  if 3 ≤ x1l2 then
  (some (.inr gil2))
  else
  ((gri2 a0i2 13).bind fun v1 =>
  (g_is hk v1 0).bind fun _ =>
  (g_st gil2 v1 (hk v1).2 x1l2 0).bind fun gi4 =>
  some (.inl ((x1l2 + 1, gi4))))
def f_X0_clearRow_x2 (hk : HK) (gry2 : GR) (gie2 : GI) : Option (GI) :=
  some gie2
def f_X0_clearRow (hk : HK) (gi : GI) (gr : GR) (a0 : Nat) : Option (GI) :=
  (g_loop g_K (fun (s : Int32 × GI) => f_X0_clearRow_l2 hk gr a0 s.1 s.2) (0, gi)).bind fun E2 => f_X0_clearRow_x2 hk gr E2
set_option maxHeartbeats 400000 in
theorem w_X0_clearRow (l : Launch) (D : va_G) (cA : Nat → ClassId) (ad : Nat → Nat) (hk : HK) (nx : Nat) (gi : GI) (gr : GR) (a0 : Nat) (ht : (hk a0).1 = 10) (r : GI) (h : f_X0_clearRow hk gi gr a0 = some r) (sz : Nat) : Met l yX0_clearRow (ws_ yX0_clearRow cX0_clearRow 2 (none)) ({ frames := 1, cells := 0, slots := 0, locals := 64 } : Room) (va_Pc [.ref (ad a0)] (XPre D cA ad hk nx gi gr sz)) (va_Qv (fun u => u.1 = r ∧ u.2 = gr) (XPost D cA ad hk nx) (XA ad nx sz)) 0 0 (XA ad nx sz) := by
  refine xx_stV (own := RX0) (P := (fun u => u.1 = r ∧ u.2 = gr)) (by decide +kernel) rfl (Nat.le_of_ble_eq_true rfl) (fun p e s m args below meth c R Q A ls C hF hN B hret hL => ?_) sz
  have hx := C.1
  have hb := C.2.1
  have hL : lv_has ls 2 [(0, .ref (ad a0))] := hL
  unfold f_X0_clearRow at h
  refine lv_iconst (v := 0) hx hb dX0_clearRow_0 (by decide) ?_
  refine lv_istore_n (lv' := [(1, .int 0), (0, .ref (ad a0))]) hx hb dX0_clearRow_1 rfl hL (by decide) rfl (fun ls hL => ?_)
  obtain ⟨E2, h82, h⟩ := g_ob h
  have kx2 : ∀ (gie2 : GI) (H : Heap) (locs : List Loc) (ls : Array Slot), gie2 = E2 → XB D cA ad hk nx A s gie2 gr H locs → lv_has ls 2 [] → W p l e R s m args below meth c H locs 0 0 Q (F0 m 20 ls []) := by
    intro gie2 H locs ls he B hL
    subst he
    have h : f_X0_clearRow_x2 hk gr gie2 = some r := h
    unfold f_X0_clearRow_x2 at h
    exact hret _ _ _ _ _ _ ⟨Option.some.inj h, rfl⟩ B dX0_clearRow_20
  have hl2 : ∀ (k : Nat) (x1l2 : Int32) (gil2 : GI) (H : Heap) (locs : List Loc) (ls : Array Slot), g_loop k (fun (s : Int32 × GI) => f_X0_clearRow_l2 hk gr a0 s.1 s.2) (x1l2, gil2) = some E2 → XB D cA ad hk nx A s gil2 gr H locs → lv_has ls 2 [(0, .ref (ad a0)), (1, .int x1l2)] → W p l e R s m args below meth c H locs 0 0 Q (F0 m 2 ls []) := by
    intro k
    induction k with
    | zero => intro x1l2 gil2 H locs ls h; exact absurd h (fun z => g_loop_0 z)
    | succ k ih2 =>
      intro x1l2 gil2 H locs ls h B hL
      obtain ⟨Z2, h, h92⟩ := g_loop_s h
      have h : f_X0_clearRow_l2 hk gr a0 x1l2 gil2 = some Z2 := h
      unfold f_X0_clearRow_l2 at h
      refine lv_iload_n hx hb dX0_clearRow_2 rfl (lv_at hL 1 rfl) ?_
      refine lv_iconst (v := 3) hx hb dX0_clearRow_3 (by decide) ?_
      refine gg_icmp_ge hx hb 20 h dX0_clearRow_4 (by decide) (fun h => ?_) (fun h => ?_)
      · exact kx2 _ _ _ _ (g_exit h h92) B (lv_sub hL [] rfl)
      · refine lv_aload_n hx hb dX0_clearRow_7 rfl (lv_at hL 0 rfl) ?_
        refine xx_gr (ci := 0) (k := 13) C B xc_0 ht (by decide) (Nat.le_of_ble_eq_true rfl) rfl q373 (fun _ h => h) h dX0_clearRow_8 (fun v1 ok2 h => ?_)
        refine lv_iload_n hx hb dX0_clearRow_11 rfl (lv_at hL 1 rfl) ?_
        refine lv_iconst (v := 0) hx hb dX0_clearRow_12 (by decide) ?_
        refine xx_is h (fun hp3 h => ?_)
        refine xx_iast C B hp3 h dX0_clearRow_13 (fun gi4 h H locs B => ?_)
        refine lv_iinc (v := x1l2 + 1) (lv' := [(1, .int (x1l2 + 1)), (0, .ref (ad a0))]) hx hb dX0_clearRow_14 hL (k := 1) rfl rfl (by decide) rfl (fun ls hL => ?_)
        refine lv_goto (tgt := 2) hx hb dX0_clearRow_17 (by decide) ?_
        exact ih2 _ _ _ _ _ (g_next h h92) B (lv_sub hL [1, 0] rfl)
  exact hl2 g_K _ _ _ _ _ h82 B (lv_sub hL [1, 0] rfl)
theorem k_X0_clearRow {p : Program} {l : Launch} {e : Env} {R : Room} {s : State} {m : MethodId} {args : Array Value} {below : List Frame} {meth : Method} {c : Code} {H : Heap} {locs : List Loc} {Q : State → Prop} {pc : Nat} {ls : Array Slot} {rest : List Value} {cc : ByteArray} {nL cells slots : Nat} {D : va_G} {cA : Nat → ClassId} {ad : Nat → Nat} {hk : HK} {nx : Nat} {A : Nat → Prop} {gi : GI} {gr : GR} {α : Type} {r : α} {own : String} {idx : Nat} {a0 : Nat} {ff : GI → Option α} (ht : (hk a0).1 = 10) (C : CallFix p m c cc nL s args lw_all own) (B : XB D cA ad hk nx A s gi gr H locs) (hq : Cond.methodLink own idx yX0_clearRow ∈ lw_all) (hF : 2 ≤ R.frames) (hN : 85 ≤ R.locals) (hs : ls.size = nL) (hw : (rest.map fun v => v.category).sum ≤ 8) (hz0 : cells ≤ R.cells ∧ slots ≤ R.slots) (h : (f_X0_clearRow hk gi gr a0).bind ff = some r) (hdg : decode cc pc = .ok (.invokevirtual idx, 3)) (kk : ∀ q, ff q = some r → ∀ (H' : Heap) (locs' : List Loc), XB D cA ad hk nx A s q gr H' locs' → W p l e R s m args below meth c H' locs' cells slots Q (F0 m (pc + 3) ls (rest))) : W p l e R s m args below meth c H locs cells slots Q (F0 m pc ls (.ref (ad a0) :: rest)) := by
  obtain ⟨q, h1, h2⟩ := g_ob h
  refine xx_cVV (As := []) (rest := rest) (n := 0) xc_0 ht (by decide) C B (fun sz => w_X0_clearRow l D cA ad hk nx gi gr a0 ht q h1 sz) hq q1462 qs49 q141 q1463 (by decide +kernel) ⟨hF, hN⟩ rfl hs hw hz0 hdg (fun u H9 locs9 hp B9 => ?_)
  obtain ⟨e1, e3⟩ := hp
  rw [e3] at B9
  subst e1
  exact kk _ h2 H9 locs9 B9
def f_X3_poursRow_l3 (hk : HK) (gri3 : GR) (a0i3 : Nat) (a1i3 : Nat) (x2i3 : Int32) (a3i3 : Nat) (x4i3 : Int32) (x5l3 : Int32) (gil3 : GI) : Option ((Int32 × GI) ⊕ (GI)) :=
  if 3 ≤ x5l3 then
  (some (.inr gil3))
  else
  ((g_is hk a3i3 0).bind fun _ =>
  (g_ld gil3 a3i3 (hk a3i3).2 (x4i3 + x5l3)).bind fun v2 =>
  (f_X3_pours hk gil3 gri3 a0i3 a1i3 x2i3 x5l3 v2).bind fun q3 =>
  some (.inl ((x5l3 + 1, q3))))
def f_X3_poursRow_x3 (hk : HK) (gry3 : GR) (a0y3 : Nat) (gie3 : GI) : Option (Nat × GI) :=
  some (a0y3, gie3)
def f_X3_poursRow (hk : HK) (gi : GI) (gr : GR) (a0 : Nat) (a1 : Nat) (x2 : Int32) (a3 : Nat) (x4 : Int32) : Option (Nat × GI) :=
  (g_loop g_K (fun (s : Int32 × GI) => f_X3_poursRow_l3 hk gr a0 a1 x2 a3 x4 s.1 s.2) (0, gi)).bind fun E3 => f_X3_poursRow_x3 hk gr a0 E3
set_option maxHeartbeats 400000 in
theorem w_X3_poursRow (l : Launch) (D : va_G) (cA : Nat → ClassId) (ad : Nat → Nat) (hk : HK) (nx : Nat) (gi : GI) (gr : GR) (a0 : Nat) (a1 : Nat) (x2 : Int32) (a3 : Nat) (x4 : Int32) (ht : (hk a0).1 = 13) (r : Nat × GI) (h : f_X3_poursRow hk gi gr a0 a1 x2 a3 x4 = some r) (sz : Nat) : Met l yX3_poursRow (ws_ yX3_poursRow cX3_poursRow 6 ((some (.object "WeatherWages$Plots")))) ({ frames := 6, cells := 0, slots := 0, locals := 173 } : Room) (va_Pc [.ref (ad a0), .ref (ad a1), .int x2, .ref (ad a3), .int x4] (XPre D cA ad hk nx gi gr sz)) (va_Qq (fun o u => ∃ v : Option Nat, o = v.map ad ∧ (fun v u => ∃ v9, v = some v9 ∧ (v9, u.1) = r ∧ u.2 = gr) v u) (XPost D cA ad hk nx) (XA ad nx sz)) 0 0 (XA ad nx sz) := by
  refine xx_stR (own := RX3) (P := (fun v u => ∃ v9, v = some v9 ∧ (v9, u.1) = r ∧ u.2 = gr)) (by decide +kernel) rfl (Nat.le_of_ble_eq_true rfl) (fun p e s m args below meth c R Q A ls C hF hN B hret hL => ?_) sz
  have hx := C.1
  have hb := C.2.1
  have hL : lv_has ls 6 [(0, .ref (ad a0)), (1, .ref (ad a1)), (2, .int x2), (3, .ref (ad a3)), (4, .int x4)] := hL
  unfold f_X3_poursRow at h
  refine lv_iconst (v := 0) hx hb dX3_poursRow_0 (by decide) ?_
  refine lv_istore (lv' := [(5, .int 0), (0, .ref (ad a0)), (1, .ref (ad a1)), (2, .int x2), (3, .ref (ad a3)), (4, .int x4)]) hx hb dX3_poursRow_1 hL (by decide) rfl (fun ls hL => ?_)
  obtain ⟨E3, h83, h⟩ := g_ob h
  have kx3 : ∀ (gie3 : GI) (H : Heap) (locs : List Loc) (ls : Array Slot), gie3 = E3 → XB D cA ad hk nx A s gie3 gr H locs → lv_has ls 6 [(0, .ref (ad a0))] → W p l e R s m args below meth c H locs 0 0 Q (F0 m 30 ls []) := by
    intro gie3 H locs ls he B hL
    subst he
    have h : f_X3_poursRow_x3 hk gr a0 gie3 = some r := h
    unfold f_X3_poursRow_x3 at h
    refine lv_aload_n hx hb dX3_poursRow_30 rfl (lv_at hL 0 rfl) ?_
    exact hret (some a0) _ _ _ _ _ _ ⟨_, rfl, Option.some.inj h, rfl⟩ B dX3_poursRow_31
  have hl3 : ∀ (k : Nat) (x5l3 : Int32) (gil3 : GI) (H : Heap) (locs : List Loc) (ls : Array Slot), g_loop k (fun (s : Int32 × GI) => f_X3_poursRow_l3 hk gr a0 a1 x2 a3 x4 s.1 s.2) (x5l3, gil3) = some E3 → XB D cA ad hk nx A s gil3 gr H locs → lv_has ls 6 [(0, .ref (ad a0)), (1, .ref (ad a1)), (2, .int x2), (3, .ref (ad a3)), (4, .int x4), (5, .int x5l3)] → W p l e R s m args below meth c H locs 0 0 Q (F0 m 3 ls []) := by
    intro k
    induction k with
    | zero => intro x5l3 gil3 H locs ls h; exact absurd h (fun z => g_loop_0 z)
    | succ k ih3 =>
      intro x5l3 gil3 H locs ls h B hL
      obtain ⟨Z3, h, h93⟩ := g_loop_s h
      have h : f_X3_poursRow_l3 hk gr a0 a1 x2 a3 x4 x5l3 gil3 = some Z3 := h
      unfold f_X3_poursRow_l3 at h
      refine lv_iload hx hb dX3_poursRow_3 (lv_at hL 5 rfl) ?_
      refine lv_iconst (v := 3) hx hb dX3_poursRow_5 (by decide) ?_
      refine gg_icmp_ge hx hb 30 h dX3_poursRow_6 (by decide) (fun h => ?_) (fun h => ?_)
      · exact kx3 _ _ _ _ (g_exit h h93) B (lv_sub hL [0] rfl)
      · refine lv_aload_n hx hb dX3_poursRow_9 rfl (lv_at hL 0 rfl) ?_
        refine lv_aload_n hx hb dX3_poursRow_10 rfl (lv_at hL 1 rfl) ?_
        refine lv_iload_n hx hb dX3_poursRow_11 rfl (lv_at hL 2 rfl) ?_
        refine lv_iload hx hb dX3_poursRow_12 (lv_at hL 5 rfl) ?_
        refine lv_aload_n hx hb dX3_poursRow_14 rfl (lv_at hL 3 rfl) ?_
        refine lv_iload hx hb dX3_poursRow_15 (lv_at hL 4 rfl) ?_
        refine lv_iload hx hb dX3_poursRow_17 (lv_at hL 5 rfl) ?_
        refine lv_iadd hx hb dX3_poursRow_19 ?_
        refine xx_is h (fun hp1 h => ?_)
        refine xx_iald C B hp1 h dX3_poursRow_20 (fun v2 h => ?_)
        refine k_X3_pours ht C B q1390 (Nat.le_trans (Nat.le_of_ble_eq_true rfl) hF) (Nat.le_trans (Nat.le_of_ble_eq_true rfl) hN) hL.1 (Nat.le_of_ble_eq_true rfl) ⟨Nat.zero_le _, Nat.zero_le _⟩ h dX3_poursRow_21 (fun q3 h H locs B => ?_)
        refine lv_iinc (v := x5l3 + 1) (lv' := [(5, .int (x5l3 + 1)), (0, .ref (ad a0)), (1, .ref (ad a1)), (2, .int x2), (3, .ref (ad a3)), (4, .int x4)]) hx hb dX3_poursRow_24 hL (k := 5) rfl rfl (by decide) rfl (fun ls hL => ?_)
        refine lv_goto (tgt := 3) hx hb dX3_poursRow_27 (by decide) ?_
        exact ih3 _ _ _ _ _ (g_next h h93) B (lv_sub hL [1, 2, 3, 4, 5, 0] rfl)
  exact hl3 g_K _ _ _ _ _ h83 B (lv_sub hL [1, 2, 3, 4, 5, 0] rfl)
theorem k_X3_poursRow {p : Program} {l : Launch} {e : Env} {R : Room} {s : State} {m : MethodId} {args : Array Value} {below : List Frame} {meth : Method} {c : Code} {H : Heap} {locs : List Loc} {Q : State → Prop} {pc : Nat} {ls : Array Slot} {rest : List Value} {cc : ByteArray} {nL cells slots : Nat} {D : va_G} {cA : Nat → ClassId} {ad : Nat → Nat} {hk : HK} {nx : Nat} {A : Nat → Prop} {gi : GI} {gr : GR} {α : Type} {r : α} {own : String} {idx : Nat} {a0 : Nat} {a1 : Nat} {x2 : Int32} {a3 : Nat} {x4 : Int32} {ff : (Nat × GI) → Option α} (ht : (hk a0).1 = 13) (C : CallFix p m c cc nL s args lw_all own) (B : XB D cA ad hk nx A s gi gr H locs) (hq : Cond.methodLink own idx yX3_poursRow ∈ lw_all) (hF : 7 ≤ R.frames) (hN : 198 ≤ R.locals) (hs : ls.size = nL) (hw : (rest.map fun v => v.category).sum ≤ 8) (hz0 : cells ≤ R.cells ∧ slots ≤ R.slots) (h : (f_X3_poursRow hk gi gr a0 a1 x2 a3 x4).bind ff = some r) (hdg : decode cc pc = .ok (.invokevirtual idx, 3)) (kk : ∀ q, ff q = some r → ∀ (H' : Heap) (locs' : List Loc), XB D cA ad hk nx A s q.2 gr H' locs' → W p l e R s m args below meth c H' locs' cells slots Q (F0 m (pc + 3) ls (.ref (ad q.1) :: rest))) : W p l e R s m args below meth c H locs cells slots Q (F0 m pc ls (.int x4 :: .ref (ad a3) :: .int x2 :: .ref (ad a1) :: .ref (ad a0) :: rest)) := by
  obtain ⟨q, h1, h2⟩ := g_ob h
  refine xx_cVR (As := [.ref (ad a1), .int x2, .ref (ad a3), .int x4]) (rest := rest) (n := 4) xc_3 ht (by decide) C B (fun sz => w_X3_poursRow l D cA ad hk nx gi gr a0 a1 x2 a3 x4 ht q h1 sz) hq q1473 q1474 q147 q1475 (by decide +kernel) ⟨hF, hN⟩ rfl hs hw hz0 hdg (fun v u H9 locs9 hp B9 => ?_)
  obtain ⟨v9, e0, e1, e3⟩ := hp
  subst e0
  rw [e3] at B9
  subst e1
  exact kk _ h2 H9 locs9 B9
def f_X0_growthBy (hk : HK) (gi : GI) (gr : GR) (a0 : Nat) (a1 : Nat) (x2 : Int32) (x3 : Int32) : Option (Int32 × GI) :=
  (gr a0 7).bind fun v1 =>
  (g_is hk v1 13).bind fun _ =>
  (f_X3_copy hk gi gr v1 a1).bind fun q4 =>
  (gr a0 4).bind fun v5 =>
  (gr a0 13).bind fun v7 =>
  (g_is hk q4.1 13).bind fun _ =>
  (f_X3_poursRow hk q4.2 gr q4.1 v5 x2 v7 0).bind fun q10 =>
  if x3 = 0 then
  ((gr a0 7).bind fun v11 =>
  (gr a0 4).bind fun v13 =>
  (g_is hk v11 13).bind fun _ =>
  (f_X3_growth hk q10.2 gr v11 v13 x2).bind fun q16 =>
  some (q16.1, q16.2))
  else
  ((gr a0 7).bind fun v17 =>
  (gr a0 4).bind fun v19 =>
  (g_is hk v17 13).bind fun _ =>
  (f_X3_growths hk q10.2 gr v17 v19).bind fun q22 =>
  some (q22.1, q22.2))
set_option maxHeartbeats 400000 in
theorem w_X0_growthBy (l : Launch) (D : va_G) (cA : Nat → ClassId) (ad : Nat → Nat) (hk : HK) (nx : Nat) (gi : GI) (gr : GR) (a0 : Nat) (a1 : Nat) (x2 : Int32) (x3 : Int32) (ht : (hk a0).1 = 10) (r : Int32 × GI) (h : f_X0_growthBy hk gi gr a0 a1 x2 x3 = some r) (sz : Nat) : Met l yX0_growthBy (ws_ yX0_growthBy cX0_growthBy 4 (some .int)) ({ frames := 106, cells := 0, slots := 0, locals := 3165 } : Room) (va_Pc [.ref (ad a0), .ref (ad a1), .int x2, .int x3] (XPre D cA ad hk nx gi gr sz)) (va_Qi (fun v u => (v, u.1) = r ∧ u.2 = gr) (XPost D cA ad hk nx) (XA ad nx sz)) 0 0 (XA ad nx sz) := by
  refine xx_stI (own := RX0) (P := (fun v u => (v, u.1) = r ∧ u.2 = gr)) (by decide +kernel) rfl (Nat.le_of_ble_eq_true rfl) (fun p e s m args below meth c R Q A ls C hF hN B hret hL => ?_) sz
  have hx := C.1
  have hb := C.2.1
  have hL : lv_has ls 4 [(0, .ref (ad a0)), (1, .ref (ad a1)), (2, .int x2), (3, .int x3)] := hL
  unfold f_X0_growthBy at h
  refine lv_aload_n hx hb dX0_growthBy_0 rfl (lv_at hL 0 rfl) ?_
  refine xx_gr (ci := 0) (k := 7) C B xc_0 ht (by decide) (Nat.le_of_ble_eq_true rfl) rfl q366 (fun _ h => h) h dX0_growthBy_1 (fun v1 ok2 h => ?_)
  refine lv_aload_n hx hb dX0_growthBy_4 rfl (lv_at hL 1 rfl) ?_
  refine xx_is h (fun hp3 h => ?_)
  refine k_X3_copy hp3 C B q1381 (Nat.le_trans (Nat.le_of_ble_eq_true rfl) hF) (Nat.le_trans (Nat.le_of_ble_eq_true rfl) hN) hL.1 (Nat.le_of_ble_eq_true rfl) ⟨Nat.zero_le _, Nat.zero_le _⟩ h dX0_growthBy_5 (fun q4 h H locs B => ?_)
  refine lv_aload_n hx hb dX0_growthBy_8 rfl (lv_at hL 0 rfl) ?_
  refine xx_gr (ci := 0) (k := 4) C B xc_0 ht (by decide) (Nat.le_of_ble_eq_true rfl) rfl q363 (fun _ h => h) h dX0_growthBy_9 (fun v5 ok6 h => ?_)
  refine lv_iload_n hx hb dX0_growthBy_12 rfl (lv_at hL 2 rfl) ?_
  refine lv_aload_n hx hb dX0_growthBy_13 rfl (lv_at hL 0 rfl) ?_
  refine xx_gr (ci := 0) (k := 13) C B xc_0 ht (by decide) (Nat.le_of_ble_eq_true rfl) rfl q373 (fun _ h => h) h dX0_growthBy_14 (fun v7 ok8 h => ?_)
  refine lv_iconst (v := 0) hx hb dX0_growthBy_17 (by decide) ?_
  refine xx_is h (fun hp9 h => ?_)
  refine k_X3_poursRow hp9 C B q1472 (Nat.le_trans (Nat.le_of_ble_eq_true rfl) hF) (Nat.le_trans (Nat.le_of_ble_eq_true rfl) hN) hL.1 (Nat.le_of_ble_eq_true rfl) ⟨Nat.zero_le _, Nat.zero_le _⟩ h dX0_growthBy_18 (fun q10 h H locs B => ?_)
  refine lv_pop hx hb dX0_growthBy_21 rfl ?_
  refine lv_iload_n hx hb dX0_growthBy_22 rfl (lv_at hL 3 rfl) ?_
  refine gg_if_eq hx hb 40 h dX0_growthBy_23 (by decide) (fun h => ?_) (fun h => ?_)
  · refine lv_aload_n hx hb dX0_growthBy_40 rfl (lv_at hL 0 rfl) ?_
    refine xx_gr (ci := 0) (k := 7) C B xc_0 ht (by decide) (Nat.le_of_ble_eq_true rfl) rfl q366 (fun _ h => h) h dX0_growthBy_41 (fun v11 ok12 h => ?_)
    refine lv_aload_n hx hb dX0_growthBy_44 rfl (lv_at hL 0 rfl) ?_
    refine xx_gr (ci := 0) (k := 4) C B xc_0 ht (by decide) (Nat.le_of_ble_eq_true rfl) rfl q363 (fun _ h => h) h dX0_growthBy_45 (fun v13 ok14 h => ?_)
    refine lv_iload_n hx hb dX0_growthBy_48 rfl (lv_at hL 2 rfl) ?_
    refine xx_is h (fun hp15 h => ?_)
    refine k_X3_growth hp15 C B q1253 (Nat.le_trans (Nat.le_of_ble_eq_true rfl) hF) (Nat.le_trans (Nat.le_of_ble_eq_true rfl) hN) hL.1 (Nat.le_of_ble_eq_true rfl) ⟨Nat.zero_le _, Nat.zero_le _⟩ h dX0_growthBy_49 (fun q16 h H locs B => ?_)
    exact hret _ _ _ _ _ _ _ ⟨Option.some.inj h, rfl⟩ B dX0_growthBy_52
  · refine lv_aload_n hx hb dX0_growthBy_26 rfl (lv_at hL 0 rfl) ?_
    refine xx_gr (ci := 0) (k := 7) C B xc_0 ht (by decide) (Nat.le_of_ble_eq_true rfl) rfl q366 (fun _ h => h) h dX0_growthBy_27 (fun v17 ok18 h => ?_)
    refine lv_aload_n hx hb dX0_growthBy_30 rfl (lv_at hL 0 rfl) ?_
    refine xx_gr (ci := 0) (k := 4) C B xc_0 ht (by decide) (Nat.le_of_ble_eq_true rfl) rfl q363 (fun _ h => h) h dX0_growthBy_31 (fun v19 ok20 h => ?_)
    refine xx_is h (fun hp21 h => ?_)
    refine k_X3_growths hp21 C B q1476 (Nat.le_trans (Nat.le_of_ble_eq_true rfl) hF) (Nat.le_trans (Nat.le_of_ble_eq_true rfl) hN) hL.1 (Nat.le_of_ble_eq_true rfl) ⟨Nat.zero_le _, Nat.zero_le _⟩ h dX0_growthBy_34 (fun q22 h H locs B => ?_)
    refine lv_goto (tgt := 52) hx hb dX0_growthBy_37 (by decide) ?_
    exact hret _ _ _ _ _ _ _ ⟨Option.some.inj h, rfl⟩ B dX0_growthBy_52
theorem k_X0_growthBy {p : Program} {l : Launch} {e : Env} {R : Room} {s : State} {m : MethodId} {args : Array Value} {below : List Frame} {meth : Method} {c : Code} {H : Heap} {locs : List Loc} {Q : State → Prop} {pc : Nat} {ls : Array Slot} {rest : List Value} {cc : ByteArray} {nL cells slots : Nat} {D : va_G} {cA : Nat → ClassId} {ad : Nat → Nat} {hk : HK} {nx : Nat} {A : Nat → Prop} {gi : GI} {gr : GR} {α : Type} {r : α} {own : String} {idx : Nat} {a0 : Nat} {a1 : Nat} {x2 : Int32} {x3 : Int32} {ff : (Int32 × GI) → Option α} (ht : (hk a0).1 = 10) (C : CallFix p m c cc nL s args lw_all own) (B : XB D cA ad hk nx A s gi gr H locs) (hq : Cond.methodLink own idx yX0_growthBy ∈ lw_all) (hF : 107 ≤ R.frames) (hN : 3188 ≤ R.locals) (hs : ls.size = nL) (hw : (rest.map fun v => v.category).sum ≤ 8) (hz0 : cells ≤ R.cells ∧ slots ≤ R.slots) (h : (f_X0_growthBy hk gi gr a0 a1 x2 x3).bind ff = some r) (hdg : decode cc pc = .ok (.invokevirtual idx, 3)) (kk : ∀ q, ff q = some r → ∀ (H' : Heap) (locs' : List Loc), XB D cA ad hk nx A s q.2 gr H' locs' → W p l e R s m args below meth c H' locs' cells slots Q (F0 m (pc + 3) ls (.int q.1 :: rest))) : W p l e R s m args below meth c H locs cells slots Q (F0 m pc ls (.int x3 :: .int x2 :: .ref (ad a1) :: .ref (ad a0) :: rest)) := by
  obtain ⟨q, h1, h2⟩ := g_ob h
  refine xx_cVI (As := [.ref (ad a1), .int x2, .int x3]) (rest := rest) (n := 3) xc_0 ht (by decide) C B (fun sz => w_X0_growthBy l D cA ad hk nx gi gr a0 a1 x2 x3 ht q h1 sz) hq q1470 qs51 q141 q1471 (by decide +kernel) ⟨hF, hN⟩ rfl hs hw hz0 hdg (fun v u H9 locs9 hp B9 => ?_)
  obtain ⟨e1, e3⟩ := hp
  rw [e3] at B9
  subst e1
  exact kk _ h2 H9 locs9 B9
def f_X0_isRowOf_l5 (hk : HK) (gii5 : GI) (gri5 : GR) (a0i5 : Nat) (a1i5 : Nat) (x2i5 : Int32) (x3l5 : Int32) (x4l5 : Int32) : Option ((Int32 × Int32) ⊕ (Int32)) :=
  if 3 ≤ x4l5 then
  (some (.inr x3l5))
  else
  (if x3l5 = 0 then
  (some (.inl ((0, x4l5 + 1))))
  else
  ((gri5 a0i5 13).bind fun v1 =>
  (g_is hk v1 0).bind fun _ =>
  (g_ld gii5 v1 (hk v1).2 x4l5).bind fun v4 =>
  (g_is hk a1i5 13).bind fun _ =>
  (f_X3_purse hk gii5 gri5 a1i5 x2i5 x4l5).bind fun q6 =>
  if q6 < v4 then
  (some (.inl ((0, x4l5 + 1))))
  else
  (some (.inl ((1, x4l5 + 1))))))
def f_X0_isRowOf_x5 (hk : HK) (giy5 : GI) (gry5 : GR) (x3e5 : Int32) : Option (Int32) :=
  (g_zb x3e5).bind fun _ =>
  some x3e5
def f_X0_isRowOf (hk : HK) (gi : GI) (gr : GR) (a0 : Nat) (a1 : Nat) (x2 : Int32) : Option (Int32) :=
  (g_loop g_K (fun (s : Int32 × Int32) => f_X0_isRowOf_l5 hk gi gr a0 a1 x2 s.1 s.2) (1, 0)).bind fun E5 => f_X0_isRowOf_x5 hk gi gr E5
set_option maxHeartbeats 400000 in
theorem w_X0_isRowOf (l : Launch) (D : va_G) (cA : Nat → ClassId) (ad : Nat → Nat) (hk : HK) (nx : Nat) (gi : GI) (gr : GR) (a0 : Nat) (a1 : Nat) (x2 : Int32) (ht : (hk a0).1 = 10) (r : Int32) (h : f_X0_isRowOf hk gi gr a0 a1 x2 = some r) (sz : Nat) : Met l yX0_isRowOf (ws_ yX0_isRowOf cX0_isRowOf 5 (some .boolean)) ({ frames := 2, cells := 0, slots := 0, locals := 86 } : Room) (va_Pc [.ref (ad a0), .ref (ad a1), .int x2] (XPre D cA ad hk nx gi gr sz)) (va_Qi (fun v u => v = r ∧ u.1 = gi ∧ u.2 = gr) (XPost D cA ad hk nx) (XA ad nx sz)) 0 0 (XA ad nx sz) := by
  refine xx_stZ (own := RX0) (P := (fun v u => v = r ∧ u.1 = gi ∧ u.2 = gr)) (by decide +kernel) rfl (Nat.le_of_ble_eq_true rfl) (fun p e s m args below meth c R Q A ls C hF hN B hret hL => ?_) sz
  have hx := C.1
  have hb := C.2.1
  have hL : lv_has ls 5 [(0, .ref (ad a0)), (1, .ref (ad a1)), (2, .int x2)] := hL
  unfold f_X0_isRowOf at h
  refine lv_iconst (v := 1) hx hb dX0_isRowOf_0 (by decide) ?_
  refine lv_istore_n (lv' := [(3, .int 1), (0, .ref (ad a0)), (1, .ref (ad a1)), (2, .int x2)]) hx hb dX0_isRowOf_1 rfl hL (by decide) rfl (fun ls hL => ?_)
  refine lv_iconst (v := 0) hx hb dX0_isRowOf_2 (by decide) ?_
  refine lv_istore (lv' := [(4, .int 0), (3, .int 1), (0, .ref (ad a0)), (1, .ref (ad a1)), (2, .int x2)]) hx hb dX0_isRowOf_3 hL (by decide) rfl (fun ls hL => ?_)
  obtain ⟨E5, h85, h⟩ := g_ob h
  have kx5 : ∀ (x3e5 : Int32) (H : Heap) (locs : List Loc) (ls : Array Slot), x3e5 = E5 → XB D cA ad hk nx A s gi gr H locs → lv_has ls 5 [(3, .int x3e5)] → W p l e R s m args below meth c H locs 0 0 Q (F0 m 44 ls []) := by
    intro x3e5 H locs ls he B hL
    subst he
    have h : f_X0_isRowOf_x5 hk gi gr x3e5 = some r := h
    unfold f_X0_isRowOf_x5 at h
    refine lv_iload_n hx hb dX0_isRowOf_44 rfl (lv_at hL 0 rfl) ?_
    refine mm_zb h (fun hz h => ?_)
    exact hret _ _ _ _ _ _ _ ⟨Option.some.inj h, rfl, rfl⟩ hz B dX0_isRowOf_45
  have hl5 : ∀ (k : Nat) (x3l5 : Int32) (x4l5 : Int32) (H : Heap) (locs : List Loc) (ls : Array Slot), g_loop k (fun (s : Int32 × Int32) => f_X0_isRowOf_l5 hk gi gr a0 a1 x2 s.1 s.2) (x3l5, x4l5) = some E5 → XB D cA ad hk nx A s gi gr H locs → lv_has ls 5 [(0, .ref (ad a0)), (1, .ref (ad a1)), (2, .int x2), (3, .int x3l5), (4, .int x4l5)] → W p l e R s m args below meth c H locs 0 0 Q (F0 m 5 ls []) := by
    intro k
    induction k with
    | zero => intro x3l5 x4l5 H locs ls h; exact absurd h (fun z => g_loop_0 z)
    | succ k ih5 =>
      intro x3l5 x4l5 H locs ls h B hL
      obtain ⟨Z5, h, h95⟩ := g_loop_s h
      have h : f_X0_isRowOf_l5 hk gi gr a0 a1 x2 x3l5 x4l5 = some Z5 := h
      unfold f_X0_isRowOf_l5 at h
      refine lv_iload hx hb dX0_isRowOf_5 (lv_at hL 4 rfl) ?_
      refine lv_iconst (v := 3) hx hb dX0_isRowOf_7 (by decide) ?_
      refine gg_icmp_ge hx hb 44 h dX0_isRowOf_8 (by decide) (fun h => ?_) (fun h => ?_)
      · exact kx5 _ _ _ _ (g_exit h h95) B (lv_sub hL [3] rfl)
      · refine lv_iload_n hx hb dX0_isRowOf_11 rfl (lv_at hL 3 rfl) ?_
        refine gg_if_eq hx hb 36 h dX0_isRowOf_12 (by decide) (fun h => ?_) (fun h => ?_)
        · refine lv_iconst (v := 0) hx hb dX0_isRowOf_36 (by decide) ?_
          refine lv_istore_n (lv' := [(3, .int 0), (0, .ref (ad a0)), (1, .ref (ad a1)), (2, .int x2), (4, .int x4l5)]) hx hb dX0_isRowOf_37 rfl hL (by decide) rfl (fun ls hL => ?_)
          refine lv_iinc (v := x4l5 + 1) (lv' := [(4, .int (x4l5 + 1)), (3, .int 0), (0, .ref (ad a0)), (1, .ref (ad a1)), (2, .int x2)]) hx hb dX0_isRowOf_38 hL (k := 4) rfl rfl (by decide) rfl (fun ls hL => ?_)
          refine lv_goto (tgt := 5) hx hb dX0_isRowOf_41 (by decide) ?_
          exact ih5 _ _ _ _ _ (g_next h h95) B (lv_sub hL [2, 3, 4, 1, 0] rfl)
        · refine lv_aload_n hx hb dX0_isRowOf_15 rfl (lv_at hL 0 rfl) ?_
          refine xx_gr (ci := 0) (k := 13) C B xc_0 ht (by decide) (Nat.le_of_ble_eq_true rfl) rfl q373 (fun _ h => h) h dX0_isRowOf_16 (fun v1 ok2 h => ?_)
          refine lv_iload hx hb dX0_isRowOf_19 (lv_at hL 4 rfl) ?_
          refine xx_is h (fun hp3 h => ?_)
          refine xx_iald C B hp3 h dX0_isRowOf_21 (fun v4 h => ?_)
          refine lv_aload_n hx hb dX0_isRowOf_22 rfl (lv_at hL 1 rfl) ?_
          refine lv_iload_n hx hb dX0_isRowOf_23 rfl (lv_at hL 2 rfl) ?_
          refine lv_iload hx hb dX0_isRowOf_24 (lv_at hL 4 rfl) ?_
          refine xx_is h (fun hp5 h => ?_)
          refine k_X3_purse hp5 C B q1349 (Nat.le_trans (Nat.le_of_ble_eq_true rfl) hF) (Nat.le_trans (Nat.le_of_ble_eq_true rfl) hN) hL.1 (Nat.le_of_ble_eq_true rfl) ⟨Nat.zero_le _, Nat.zero_le _⟩ h dX0_isRowOf_26 (fun q6 h H locs B => ?_)
          refine gg_icmp_gt hx hb 36 h dX0_isRowOf_29 (by decide) (fun h => ?_) (fun h => ?_)
          · refine lv_iconst (v := 0) hx hb dX0_isRowOf_36 (by decide) ?_
            refine lv_istore_n (lv' := [(3, .int 0), (0, .ref (ad a0)), (1, .ref (ad a1)), (2, .int x2), (4, .int x4l5)]) hx hb dX0_isRowOf_37 rfl hL (by decide) rfl (fun ls hL => ?_)
            refine lv_iinc (v := x4l5 + 1) (lv' := [(4, .int (x4l5 + 1)), (3, .int 0), (0, .ref (ad a0)), (1, .ref (ad a1)), (2, .int x2)]) hx hb dX0_isRowOf_38 hL (k := 4) rfl rfl (by decide) rfl (fun ls hL => ?_)
            refine lv_goto (tgt := 5) hx hb dX0_isRowOf_41 (by decide) ?_
            exact ih5 _ _ _ _ _ (g_next h h95) B (lv_sub hL [2, 3, 4, 1, 0] rfl)
          · refine lv_iconst (v := 1) hx hb dX0_isRowOf_32 (by decide) ?_
            refine lv_goto (tgt := 37) hx hb dX0_isRowOf_33 (by decide) ?_
            refine lv_istore_n (lv' := [(3, .int 1), (0, .ref (ad a0)), (1, .ref (ad a1)), (2, .int x2), (4, .int x4l5)]) hx hb dX0_isRowOf_37 rfl hL (by decide) rfl (fun ls hL => ?_)
            refine lv_iinc (v := x4l5 + 1) (lv' := [(4, .int (x4l5 + 1)), (3, .int 1), (0, .ref (ad a0)), (1, .ref (ad a1)), (2, .int x2)]) hx hb dX0_isRowOf_38 hL (k := 4) rfl rfl (by decide) rfl (fun ls hL => ?_)
            refine lv_goto (tgt := 5) hx hb dX0_isRowOf_41 (by decide) ?_
            exact ih5 _ _ _ _ _ (g_next h h95) B (lv_sub hL [2, 3, 4, 1, 0] rfl)
  exact hl5 g_K _ _ _ _ _ h85 B (lv_sub hL [2, 3, 4, 1, 0] rfl)
theorem k_X0_isRowOf {p : Program} {l : Launch} {e : Env} {R : Room} {s : State} {m : MethodId} {args : Array Value} {below : List Frame} {meth : Method} {c : Code} {H : Heap} {locs : List Loc} {Q : State → Prop} {pc : Nat} {ls : Array Slot} {rest : List Value} {cc : ByteArray} {nL cells slots : Nat} {D : va_G} {cA : Nat → ClassId} {ad : Nat → Nat} {hk : HK} {nx : Nat} {A : Nat → Prop} {gi : GI} {gr : GR} {α : Type} {r : α} {own : String} {idx : Nat} {a0 : Nat} {a1 : Nat} {x2 : Int32} {ff : Int32 → Option α} (ht : (hk a0).1 = 10) (C : CallFix p m c cc nL s args lw_all own) (B : XB D cA ad hk nx A s gi gr H locs) (hq : Cond.methodLink own idx yX0_isRowOf ∈ lw_all) (hF : 3 ≤ R.frames) (hN : 110 ≤ R.locals) (hs : ls.size = nL) (hw : (rest.map fun v => v.category).sum ≤ 8) (hz0 : cells ≤ R.cells ∧ slots ≤ R.slots) (h : (f_X0_isRowOf hk gi gr a0 a1 x2).bind ff = some r) (hdg : decode cc pc = .ok (.invokevirtual idx, 3)) (kk : ∀ q, ff q = some r → ∀ (H' : Heap) (locs' : List Loc), XB D cA ad hk nx A s gi gr H' locs' → W p l e R s m args below meth c H' locs' cells slots Q (F0 m (pc + 3) ls (.int q :: rest))) : W p l e R s m args below meth c H locs cells slots Q (F0 m pc ls (.int x2 :: .ref (ad a1) :: .ref (ad a0) :: rest)) := by
  obtain ⟨q, h1, h2⟩ := g_ob h
  refine xx_cVI (As := [.ref (ad a1), .int x2]) (rest := rest) (n := 2) xc_0 ht (by decide) C B (fun sz => w_X0_isRowOf l D cA ad hk nx gi gr a0 a1 x2 ht q h1 sz) hq q1466 qs50 q141 q1467 (by decide +kernel) ⟨hF, hN⟩ rfl hs hw hz0 hdg (fun v u H9 locs9 hp B9 => ?_)
  obtain ⟨e1, e2, e3⟩ := hp
  rw [e2] at B9
  rw [e3] at B9
  subst e1
  exact kk _ h2 H9 locs9 B9
def f_X0_sum (hk : HK) (gi : GI) (gr : GR) (a0 : Nat) (x1 : Int32) : Option (Int32) :=
  (g_is hk a0 0).bind fun _ =>
  (g_ld gi a0 (hk a0).2 x1).bind fun v2 =>
  (g_ld gi a0 (hk a0).2 (x1 + 1)).bind fun v3 =>
  (g_ld gi a0 (hk a0).2 (x1 + 2)).bind fun v4 =>
  some ((v2 + v3) + v4)
set_option maxHeartbeats 400000 in
theorem w_X0_sum (l : Launch) (D : va_G) (cA : Nat → ClassId) (ad : Nat → Nat) (hk : HK) (nx : Nat) (gi : GI) (gr : GR) (a0 : Nat) (x1 : Int32) (r : Int32) (h : f_X0_sum hk gi gr a0 x1 = some r) (sz : Nat) : Met l yX0_sum (ws_ yX0_sum cX0_sum 2 (some .int)) ({ frames := 1, cells := 0, slots := 0, locals := 64 } : Room) (va_Pc [.ref (ad a0), .int x1] (XPre D cA ad hk nx gi gr sz)) (va_Qi (fun v u => v = r ∧ u.1 = gi ∧ u.2 = gr) (XPost D cA ad hk nx) (XA ad nx sz)) 0 0 (XA ad nx sz) := by
  refine xx_stI (own := RX0) (P := (fun v u => v = r ∧ u.1 = gi ∧ u.2 = gr)) (by decide +kernel) rfl (Nat.le_of_ble_eq_true rfl) (fun p e s m args below meth c R Q A ls C hF hN B hret hL => ?_) sz
  have hx := C.1
  have hb := C.2.1
  have hL : lv_has ls 2 [(0, .ref (ad a0)), (1, .int x1)] := hL
  unfold f_X0_sum at h
  refine lv_aload_n hx hb dX0_sum_0 rfl (lv_at hL 0 rfl) ?_
  refine lv_iload_n hx hb dX0_sum_1 rfl (lv_at hL 1 rfl) ?_
  refine xx_is h (fun hp1 h => ?_)
  refine xx_iald C B hp1 h dX0_sum_2 (fun v2 h => ?_)
  refine lv_aload_n hx hb dX0_sum_3 rfl (lv_at hL 0 rfl) ?_
  refine lv_iload_n hx hb dX0_sum_4 rfl (lv_at hL 1 rfl) ?_
  refine lv_iconst (v := 1) hx hb dX0_sum_5 (by decide) ?_
  refine lv_iadd hx hb dX0_sum_6 ?_
  refine xx_iald C B hp1 h dX0_sum_7 (fun v3 h => ?_)
  refine lv_iadd hx hb dX0_sum_8 ?_
  refine lv_aload_n hx hb dX0_sum_9 rfl (lv_at hL 0 rfl) ?_
  refine lv_iload_n hx hb dX0_sum_10 rfl (lv_at hL 1 rfl) ?_
  refine lv_iconst (v := 2) hx hb dX0_sum_11 (by decide) ?_
  refine lv_iadd hx hb dX0_sum_12 ?_
  refine xx_iald C B hp1 h dX0_sum_13 (fun v4 h => ?_)
  refine lv_iadd hx hb dX0_sum_14 ?_
  exact hret _ _ _ _ _ _ _ ⟨Option.some.inj h, rfl, rfl⟩ B dX0_sum_15
theorem k_X0_sum {p : Program} {l : Launch} {e : Env} {R : Room} {s : State} {m : MethodId} {args : Array Value} {below : List Frame} {meth : Method} {c : Code} {H : Heap} {locs : List Loc} {Q : State → Prop} {pc : Nat} {ls : Array Slot} {rest : List Value} {cc : ByteArray} {nL cells slots : Nat} {D : va_G} {cA : Nat → ClassId} {ad : Nat → Nat} {hk : HK} {nx : Nat} {A : Nat → Prop} {gi : GI} {gr : GR} {α : Type} {r : α} {own : String} {idx : Nat} {a0 : Nat} {x1 : Int32} {ff : Int32 → Option α} (C : CallFix p m c cc nL s args lw_all own) (B : XB D cA ad hk nx A s gi gr H locs) (hq : Cond.methodLink own idx yX0_sum ∈ lw_all) (hF : 2 ≤ R.frames) (hN : 85 ≤ R.locals) (hs : ls.size = nL) (hw : (rest.map fun v => v.category).sum ≤ 8) (hz0 : cells ≤ R.cells ∧ slots ≤ R.slots) (h : (f_X0_sum hk gi gr a0 x1).bind ff = some r) (hdg : decode cc pc = .ok (.invokestatic idx, 3)) (kk : ∀ q, ff q = some r → ∀ (H' : Heap) (locs' : List Loc), XB D cA ad hk nx A s gi gr H' locs' → W p l e R s m args below meth c H' locs' cells slots Q (F0 m (pc + 3) ls (.int q :: rest))) : W p l e R s m args below meth c H locs cells slots Q (F0 m pc ls (.int x1 :: .ref (ad a0) :: rest)) := by
  obtain ⟨q, h1, h2⟩ := g_ob h
  refine xx_cSI (As := [.ref (ad a0), .int x1]) (rest := rest) (n := 2) C B (fun sz => w_X0_sum l D cA ad hk nx gi gr a0 x1 q h1 sz) hq q1478 q141 q1479 (by decide +kernel) ⟨hF, hN⟩ rfl hs hw hz0 hdg (fun v u H9 locs9 hp B9 => ?_)
  obtain ⟨e1, e2, e3⟩ := hp
  rw [e2] at B9
  rw [e3] at B9
  subst e1
  exact kk _ h2 H9 locs9 B9
def f_X0_nextRow_l25 (hk : HK) (gii25 : GI) (gri25 : GR) (a0i25 : Nat) (x1i25 : Int32) (x2i25 : Int32) (x4i25 : Int32) (x3l25 : Int32) : Option ((Int32) ⊕ (Int32)) :=
  if x3l25 ≤ 0 then
  (some (.inr x3l25))
  else
  ((gri25 a0i25 13).bind fun v5 =>
  (g_is hk v5 0).bind fun _ =>
  (g_ld gii25 v5 (hk v5).2 x3l25).bind fun v8 =>
  if v8 = 0 then
  (some (.inl (x3l25 + (-1))))
  else
  (some (.inr x3l25)))
def f_X0_nextRow_x25 (hk : HK) (giy25 : GI) (gry25 : GR) (a0y25 : Nat) (x1y25 : Int32) (x2y25 : Int32) (x4y25 : Int32) (x3e25 : Int32) : Option (Int32 × GI) :=
  if x3e25 = 0 then
  ((f_X0_clearRow hk giy25 gry25 a0y25).bind fun q26 =>
  (gry25 a0y25 13).bind fun v27 =>
  (g_is hk v27 0).bind fun _ =>
  (g_st q26 v27 (hk v27).2 x2y25 (x4y25 + 1)).bind fun gi30 =>
  if x1y25 ≤ x4y25 then
  (some (0, gi30))
  else
  (some (1, gi30)))
  else
  ((gry25 a0y25 13).bind fun v9 =>
  (g_is hk v9 0).bind fun _ =>
  (g_ld giy25 v9 (hk v9).2 x3e25).bind fun v12 =>
  (gry25 a0y25 13).bind fun v13 =>
  (g_is hk v13 0).bind fun _ =>
  (g_st giy25 v13 (hk v13).2 x3e25 0).bind fun gi16 =>
  (gry25 a0y25 13).bind fun v17 =>
  (g_is hk v17 0).bind fun _ =>
  (g_ld gi16 v17 (hk v17).2 (x3e25 - 1)).bind fun v20 =>
  (g_st gi16 v17 (hk v17).2 (x3e25 - 1) (v20 + 1)).bind fun gi21 =>
  (gry25 a0y25 13).bind fun v22 =>
  (g_is hk v22 0).bind fun _ =>
  (g_st gi21 v22 (hk v22).2 x2y25 (v12 - 1)).bind fun gi25 =>
  some (1, gi25))
def f_X0_nextRow (hk : HK) (gi : GI) (gr : GR) (a0 : Nat) (x1 : Int32) : Option (Int32 × GI) :=
  (f_X0_kinds hk gi gr a0).bind fun q1 =>
  (gr a0 13).bind fun v2 =>
  (f_X0_sum hk gi gr v2 0).bind fun q4 =>
  if 0 ≤ (q1 - 1) then
  ((g_loop g_K (fun (s : Int32) => f_X0_nextRow_l25 hk gi gr a0 x1 (q1 - 1) q4 s) (q1 - 1)).bind fun E25 => f_X0_nextRow_x25 hk gi gr a0 x1 (q1 - 1) q4 E25)
  else
  (some (0, gi))
set_option maxHeartbeats 400000 in
theorem w_X0_nextRow (l : Launch) (D : va_G) (cA : Nat → ClassId) (ad : Nat → Nat) (hk : HK) (nx : Nat) (gi : GI) (gr : GR) (a0 : Nat) (x1 : Int32) (ht : (hk a0).1 = 10) (r : Int32 × GI) (h : f_X0_nextRow hk gi gr a0 x1 = some r) (sz : Nat) : Met l yX0_nextRow (ws_ yX0_nextRow cX0_nextRow 6 (some .boolean)) ({ frames := 3, cells := 0, slots := 0, locals := 104 } : Room) (va_Pc [.ref (ad a0), .int x1] (XPre D cA ad hk nx gi gr sz)) (va_Qi (fun v u => (v, u.1) = r ∧ u.2 = gr) (XPost D cA ad hk nx) (XA ad nx sz)) 0 0 (XA ad nx sz) := by
  refine xx_stZ (own := RX0) (P := (fun v u => (v, u.1) = r ∧ u.2 = gr)) (by decide +kernel) rfl (Nat.le_of_ble_eq_true rfl) (fun p e s m args below meth c R Q A ls C hF hN B hret hL => ?_) sz
  have hx := C.1
  have hb := C.2.1
  have hL : lv_has ls 6 [(0, .ref (ad a0)), (1, .int x1)] := hL
  unfold f_X0_nextRow at h
  refine lv_aload_n hx hb dX0_nextRow_0 rfl (lv_at hL 0 rfl) ?_
  refine k_X0_kinds ht C B q1345 (Nat.le_trans (Nat.le_of_ble_eq_true rfl) hF) (Nat.le_trans (Nat.le_of_ble_eq_true rfl) hN) hL.1 (Nat.le_of_ble_eq_true rfl) ⟨Nat.zero_le _, Nat.zero_le _⟩ h dX0_nextRow_1 (fun q1 h H locs B => ?_)
  refine lv_iconst (v := 1) hx hb dX0_nextRow_4 (by decide) ?_
  refine lv_isub hx hb dX0_nextRow_5 ?_
  refine lv_istore_n (lv' := [(2, .int (q1 - 1)), (0, .ref (ad a0)), (1, .int x1)]) hx hb dX0_nextRow_6 rfl hL (by decide) rfl (fun ls hL => ?_)
  refine lv_iload_n hx hb dX0_nextRow_7 rfl (lv_at hL 0 rfl) ?_
  refine lv_istore_n (lv' := [(3, .int (q1 - 1)), (2, .int (q1 - 1)), (0, .ref (ad a0)), (1, .int x1)]) hx hb dX0_nextRow_8 rfl hL (by decide) rfl (fun ls hL => ?_)
  refine lv_aload_n hx hb dX0_nextRow_9 rfl (lv_at hL 2 rfl) ?_
  refine xx_gr (ci := 0) (k := 13) C B xc_0 ht (by decide) (Nat.le_of_ble_eq_true rfl) rfl q373 (fun _ h => h) h dX0_nextRow_10 (fun v2 ok3 h => ?_)
  refine lv_iconst (v := 0) hx hb dX0_nextRow_13 (by decide) ?_
  refine k_X0_sum C B q1477 (Nat.le_trans (Nat.le_of_ble_eq_true rfl) hF) (Nat.le_trans (Nat.le_of_ble_eq_true rfl) hN) hL.1 (Nat.le_of_ble_eq_true rfl) ⟨Nat.zero_le _, Nat.zero_le _⟩ h dX0_nextRow_14 (fun q4 h H locs B => ?_)
  refine lv_istore (lv' := [(4, .int q4), (3, .int (q1 - 1)), (2, .int (q1 - 1)), (0, .ref (ad a0)), (1, .int x1)]) hx hb dX0_nextRow_17 hL (by decide) rfl (fun ls hL => ?_)
  refine lv_iload_n hx hb dX0_nextRow_19 rfl (lv_at hL 2 rfl) ?_
  refine gg_if_ge hx hb 25 h dX0_nextRow_20 (by decide) (fun h => ?_) (fun h => ?_)
  · obtain ⟨E25, h825, h⟩ := g_ob h
    have kx25 : ∀ (x3e25 : Int32) (H : Heap) (locs : List Loc) (ls : Array Slot), x3e25 = E25 → XB D cA ad hk nx A s gi gr H locs → lv_has ls 6 [(0, .ref (ad a0)), (1, .int x1), (2, .int (q1 - 1)), (3, .int x3e25), (4, .int q4)] → W p l e R s m args below meth c H locs 0 0 Q (F0 m 44 ls []) := by
      intro x3e25 H locs ls he B hL
      subst he
      have h : f_X0_nextRow_x25 hk gi gr a0 x1 (q1 - 1) q4 x3e25 = some r := h
      unfold f_X0_nextRow_x25 at h
      refine lv_iload_n hx hb dX0_nextRow_44 rfl (lv_at hL 3 rfl) ?_
      refine gg_if_ne hx hb 74 h dX0_nextRow_45 (by decide) (fun h => ?_) (fun h => ?_)
      · refine lv_aload_n hx hb dX0_nextRow_74 rfl (lv_at hL 0 rfl) ?_
        refine xx_gr (ci := 0) (k := 13) C B xc_0 ht (by decide) (Nat.le_of_ble_eq_true rfl) rfl q373 (fun _ h => h) h dX0_nextRow_75 (fun v9 ok10 h => ?_)
        refine lv_iload_n hx hb dX0_nextRow_78 rfl (lv_at hL 3 rfl) ?_
        refine xx_is h (fun hp11 h => ?_)
        refine xx_iald C B hp11 h dX0_nextRow_79 (fun v12 h => ?_)
        refine lv_iconst (v := 1) hx hb dX0_nextRow_80 (by decide) ?_
        refine lv_isub hx hb dX0_nextRow_81 ?_
        refine lv_istore (lv' := [(5, .int (v12 - 1)), (0, .ref (ad a0)), (1, .int x1), (2, .int (q1 - 1)), (3, .int x3e25), (4, .int q4)]) hx hb dX0_nextRow_82 hL (by decide) rfl (fun ls hL => ?_)
        refine lv_aload_n hx hb dX0_nextRow_84 rfl (lv_at hL 1 rfl) ?_
        refine xx_gr (ci := 0) (k := 13) C B xc_0 ht (by decide) (Nat.le_of_ble_eq_true rfl) rfl q373 (fun _ h => h) h dX0_nextRow_85 (fun v13 ok14 h => ?_)
        refine lv_iload_n hx hb dX0_nextRow_88 rfl (lv_at hL 4 rfl) ?_
        refine lv_iconst (v := 0) hx hb dX0_nextRow_89 (by decide) ?_
        refine xx_is h (fun hp15 h => ?_)
        refine xx_iast C B hp15 h dX0_nextRow_90 (fun gi16 h H locs B => ?_)
        refine lv_aload_n hx hb dX0_nextRow_91 rfl (lv_at hL 1 rfl) ?_
        refine xx_gr (ci := 0) (k := 13) C B xc_0 ht (by decide) (Nat.le_of_ble_eq_true rfl) rfl q373 (fun _ h => h) h dX0_nextRow_92 (fun v17 ok18 h => ?_)
        refine lv_iload_n hx hb dX0_nextRow_95 rfl (lv_at hL 4 rfl) ?_
        refine lv_iconst (v := 1) hx hb dX0_nextRow_96 (by decide) ?_
        refine lv_isub hx hb dX0_nextRow_97 ?_
        refine lv_dup2_11 hx hb dX0_nextRow_98 rfl rfl ?_
        refine xx_is h (fun hp19 h => ?_)
        refine xx_iald C B hp19 h dX0_nextRow_99 (fun v20 h => ?_)
        refine lv_iconst (v := 1) hx hb dX0_nextRow_100 (by decide) ?_
        refine lv_iadd hx hb dX0_nextRow_101 ?_
        refine xx_iast C B hp19 h dX0_nextRow_102 (fun gi21 h H locs B => ?_)
        refine lv_aload_n hx hb dX0_nextRow_103 rfl (lv_at hL 1 rfl) ?_
        refine xx_gr (ci := 0) (k := 13) C B xc_0 ht (by decide) (Nat.le_of_ble_eq_true rfl) rfl q373 (fun _ h => h) h dX0_nextRow_104 (fun v22 ok23 h => ?_)
        refine lv_iload_n hx hb dX0_nextRow_107 rfl (lv_at hL 3 rfl) ?_
        refine lv_iload hx hb dX0_nextRow_108 (lv_at hL 0 rfl) ?_
        refine xx_is h (fun hp24 h => ?_)
        refine xx_iast C B hp24 h dX0_nextRow_110 (fun gi25 h H locs B => ?_)
        refine lv_iconst (v := 1) hx hb dX0_nextRow_111 (by decide) ?_
        exact hret _ _ _ _ _ _ _ ⟨Option.some.inj h, rfl⟩ (Or.inr rfl) B dX0_nextRow_112
      · refine lv_aload_n hx hb dX0_nextRow_48 rfl (lv_at hL 0 rfl) ?_
        refine k_X0_clearRow ht C B q1460 (Nat.le_trans (Nat.le_of_ble_eq_true rfl) hF) (Nat.le_trans (Nat.le_of_ble_eq_true rfl) hN) hL.1 (Nat.le_of_ble_eq_true rfl) ⟨Nat.zero_le _, Nat.zero_le _⟩ h dX0_nextRow_49 (fun q26 h H locs B => ?_)
        refine lv_aload_n hx hb dX0_nextRow_52 rfl (lv_at hL 0 rfl) ?_
        refine xx_gr (ci := 0) (k := 13) C B xc_0 ht (by decide) (Nat.le_of_ble_eq_true rfl) rfl q373 (fun _ h => h) h dX0_nextRow_53 (fun v27 ok28 h => ?_)
        refine lv_iload_n hx hb dX0_nextRow_56 rfl (lv_at hL 2 rfl) ?_
        refine lv_iload hx hb dX0_nextRow_57 (lv_at hL 4 rfl) ?_
        refine lv_iconst (v := 1) hx hb dX0_nextRow_59 (by decide) ?_
        refine lv_iadd hx hb dX0_nextRow_60 ?_
        refine xx_is h (fun hp29 h => ?_)
        refine xx_iast C B hp29 h dX0_nextRow_61 (fun gi30 h H locs B => ?_)
        refine lv_iload hx hb dX0_nextRow_62 (lv_at hL 4 rfl) ?_
        refine lv_iload_n hx hb dX0_nextRow_64 rfl (lv_at hL 1 rfl) ?_
        refine gg_icmp_ge hx hb 72 h dX0_nextRow_65 (by decide) (fun h => ?_) (fun h => ?_)
        · refine lv_iconst (v := 0) hx hb dX0_nextRow_72 (by decide) ?_
          exact hret _ _ _ _ _ _ _ ⟨Option.some.inj h, rfl⟩ (Or.inl rfl) B dX0_nextRow_73
        · refine lv_iconst (v := 1) hx hb dX0_nextRow_68 (by decide) ?_
          refine lv_goto (tgt := 73) hx hb dX0_nextRow_69 (by decide) ?_
          exact hret _ _ _ _ _ _ _ ⟨Option.some.inj h, rfl⟩ (Or.inr rfl) B dX0_nextRow_73
    have hl25 : ∀ (k : Nat) (x3l25 : Int32) (H : Heap) (locs : List Loc) (ls : Array Slot), g_loop k (fun (s : Int32) => f_X0_nextRow_l25 hk gi gr a0 x1 (q1 - 1) q4 s) x3l25 = some E25 → XB D cA ad hk nx A s gi gr H locs → lv_has ls 6 [(0, .ref (ad a0)), (1, .int x1), (2, .int (q1 - 1)), (3, .int x3l25), (4, .int q4)] → W p l e R s m args below meth c H locs 0 0 Q (F0 m 25 ls []) := by
      intro k
      induction k with
      | zero => intro x3l25 H locs ls h; exact absurd h (fun z => g_loop_0 z)
      | succ k ih25 =>
        intro x3l25 H locs ls h B hL
        obtain ⟨Z25, h, h925⟩ := g_loop_s h
        have h : f_X0_nextRow_l25 hk gi gr a0 x1 (q1 - 1) q4 x3l25 = some Z25 := h
        unfold f_X0_nextRow_l25 at h
        refine lv_iload_n hx hb dX0_nextRow_25 rfl (lv_at hL 3 rfl) ?_
        refine gg_if_le hx hb 44 h dX0_nextRow_26 (by decide) (fun h => ?_) (fun h => ?_)
        · exact kx25 _ _ _ _ (g_exit h h925) B (lv_sub hL [0, 1, 2, 3, 4] rfl)
        · refine lv_aload_n hx hb dX0_nextRow_29 rfl (lv_at hL 0 rfl) ?_
          refine xx_gr (ci := 0) (k := 13) C B xc_0 ht (by decide) (Nat.le_of_ble_eq_true rfl) rfl q373 (fun _ h => h) h dX0_nextRow_30 (fun v5 ok6 h => ?_)
          refine lv_iload_n hx hb dX0_nextRow_33 rfl (lv_at hL 3 rfl) ?_
          refine xx_is h (fun hp7 h => ?_)
          refine xx_iald C B hp7 h dX0_nextRow_34 (fun v8 h => ?_)
          refine gg_if_ne hx hb 44 h dX0_nextRow_35 (by decide) (fun h => ?_) (fun h => ?_)
          · exact kx25 _ _ _ _ (g_exit h h925) B (lv_sub hL [0, 1, 2, 3, 4] rfl)
          · refine lv_iinc (v := x3l25 + (-1)) (lv' := [(3, .int (x3l25 + (-1))), (0, .ref (ad a0)), (1, .int x1), (2, .int (q1 - 1)), (4, .int q4)]) hx hb dX0_nextRow_38 hL (k := 3) rfl rfl (by decide) rfl (fun ls hL => ?_)
            refine lv_goto (tgt := 25) hx hb dX0_nextRow_41 (by decide) ?_
            exact ih25 _ _ _ _ (g_next h h925) B (lv_sub hL [1, 2, 3, 0, 4] rfl)
    exact hl25 g_K _ _ _ _ h825 B (lv_sub hL [3, 4, 2, 1, 0] rfl)
  · refine lv_iconst (v := 0) hx hb dX0_nextRow_23 (by decide) ?_
    exact hret _ _ _ _ _ _ _ ⟨Option.some.inj h, rfl⟩ (Or.inl rfl) B dX0_nextRow_24
theorem k_X0_nextRow {p : Program} {l : Launch} {e : Env} {R : Room} {s : State} {m : MethodId} {args : Array Value} {below : List Frame} {meth : Method} {c : Code} {H : Heap} {locs : List Loc} {Q : State → Prop} {pc : Nat} {ls : Array Slot} {rest : List Value} {cc : ByteArray} {nL cells slots : Nat} {D : va_G} {cA : Nat → ClassId} {ad : Nat → Nat} {hk : HK} {nx : Nat} {A : Nat → Prop} {gi : GI} {gr : GR} {α : Type} {r : α} {own : String} {idx : Nat} {a0 : Nat} {x1 : Int32} {ff : (Int32 × GI) → Option α} (ht : (hk a0).1 = 10) (C : CallFix p m c cc nL s args lw_all own) (B : XB D cA ad hk nx A s gi gr H locs) (hq : Cond.methodLink own idx yX0_nextRow ∈ lw_all) (hF : 4 ≤ R.frames) (hN : 129 ≤ R.locals) (hs : ls.size = nL) (hw : (rest.map fun v => v.category).sum ≤ 8) (hz0 : cells ≤ R.cells ∧ slots ≤ R.slots) (h : (f_X0_nextRow hk gi gr a0 x1).bind ff = some r) (hdg : decode cc pc = .ok (.invokevirtual idx, 3)) (kk : ∀ q, ff q = some r → ∀ (H' : Heap) (locs' : List Loc), XB D cA ad hk nx A s q.2 gr H' locs' → W p l e R s m args below meth c H' locs' cells slots Q (F0 m (pc + 3) ls (.int q.1 :: rest))) : W p l e R s m args below meth c H locs cells slots Q (F0 m pc ls (.int x1 :: .ref (ad a0) :: rest)) := by
  obtain ⟨q, h1, h2⟩ := g_ob h
  refine xx_cVI (As := [.int x1]) (rest := rest) (n := 1) xc_0 ht (by decide) C B (fun sz => w_X0_nextRow l D cA ad hk nx gi gr a0 x1 ht q h1 sz) hq q1482 qs52 q141 q1483 (by decide +kernel) ⟨hF, hN⟩ rfl hs hw hz0 hdg (fun v u H9 locs9 hp B9 => ?_)
  obtain ⟨e1, e3⟩ := hp
  rw [e3] at B9
  subst e1
  exact kk _ h2 H9 locs9 B9
def f_X0_layBest_j90 (hk : HK) (grj90 : GR) (a0j90 : Nat) (a1j90 : Nat) (x2j90 : Int32) (x3j90 : Int32) (x4j90 : Int32) (gij90 : GI) : Option ((Int32 × GI) ⊕ (GI)) :=
  (f_X0_nextRow hk gij90 grj90 a0j90 x4j90).bind fun q5 =>
  some (.inl ((q5.1, q5.2)))
def f_X0_layBest_j47 (hk : HK) (grj47 : GR) (a0j47 : Nat) (a1j47 : Nat) (x2j47 : Int32) (x3j47 : Int32) (x4j47 : Int32) (gij47 : GI) (t0j47 : Int32) : Option ((Int32 × GI) ⊕ (GI)) :=
  if t0j47 ≤ (gij47 a0j47 17) then
  (f_X0_layBest_j90 hk grj47 a0j47 a1j47 x2j47 x3j47 x4j47 gij47)
  else
  ((some (g_pi gij47 a0j47 17 t0j47)).bind fun gi6 =>
  (grj47 a0j47 13).bind fun v7 =>
  (f_X0_sum hk gi6 grj47 v7 0).bind fun q9 =>
  (some (g_pi gi6 a0j47 16 q9)).bind fun gi10 =>
  (grj47 a0j47 13).bind fun v11 =>
  (grj47 a0j47 14).bind fun v13 =>
  (g_is hk v11 0).bind fun _ =>
  (g_is hk v13 0).bind fun _ =>
  (g_cpi hk gi10 v11 0 v13 0 3).bind fun gi17 =>
  f_X0_layBest_j90 hk grj47 a0j47 a1j47 x2j47 x3j47 x4j47 gi17)
def f_X0_layBest_l21 (hk : HK) (gri21 : GR) (a0i21 : Nat) (a1i21 : Nat) (x2i21 : Int32) (x3i21 : Int32) (x4i21 : Int32) (x5l21 : Int32) (gil21 : GI) : Option ((Int32 × GI) ⊕ (GI)) :=
  if x5l21 = 0 then
  (some (.inr gil21))
  else
  ((f_X0_isRowOf hk gil21 gri21 a0i21 a1i21 x2i21).bind fun q4 =>
  if q4 = 0 then
  (f_X0_layBest_j47 hk gri21 a0i21 a1i21 x2i21 x3i21 x4i21 gil21 ((-1000000)))
  else
  ((f_X0_growthBy hk gil21 gri21 a0i21 a1i21 x2i21 x3i21).bind fun q18 =>
  f_X0_layBest_j47 hk gri21 a0i21 a1i21 x2i21 x3i21 x4i21 q18.2 q18.1))
def f_X0_layBest_x21 (hk : HK) (gry21 : GR) (gie21 : GI) : Option (GI) :=
  some gie21
def f_X0_layBest (hk : HK) (gi : GI) (gr : GR) (a0 : Nat) (a1 : Nat) (x2 : Int32) (x3 : Int32) : Option (GI) :=
  (f_X0_left_2 hk gi gr a0 a1 x2).bind fun q1 =>
  (f_X0_clearRow hk gi gr a0).bind fun q2 =>
  (some (g_pi q2 a0 17 ((-1000000)))).bind fun gi3 =>
  (g_loop g_K (fun (s : Int32 × GI) => f_X0_layBest_l21 hk gr a0 a1 x2 x3 q1 s.1 s.2) (1, gi3)).bind fun E21 => f_X0_layBest_x21 hk gr E21
set_option maxHeartbeats 400000 in
theorem w_X0_layBest (l : Launch) (D : va_G) (cA : Nat → ClassId) (ad : Nat → Nat) (hk : HK) (nx : Nat) (gi : GI) (gr : GR) (a0 : Nat) (a1 : Nat) (x2 : Int32) (x3 : Int32) (ht : (hk a0).1 = 10) (r : GI) (h : f_X0_layBest hk gi gr a0 a1 x2 x3 = some r) (sz : Nat) : Met l yX0_layBest (ws_ yX0_layBest cX0_layBest 7 (none)) ({ frames := 107, cells := 0, slots := 0, locals := 3188 } : Room) (va_Pc [.ref (ad a0), .ref (ad a1), .int x2, .int x3] (XPre D cA ad hk nx gi gr sz)) (va_Qv (fun u => u.1 = r ∧ u.2 = gr) (XPost D cA ad hk nx) (XA ad nx sz)) 0 0 (XA ad nx sz) := by
  refine xx_stV (own := RX0) (P := (fun u => u.1 = r ∧ u.2 = gr)) (by decide +kernel) rfl (Nat.le_of_ble_eq_true rfl) (fun p e s m args below meth c R Q A ls C hF hN B hret hL => ?_) sz
  have hx := C.1
  have hb := C.2.1
  have hL : lv_has ls 7 [(0, .ref (ad a0)), (1, .ref (ad a1)), (2, .int x2), (3, .int x3)] := hL
  unfold f_X0_layBest at h
  refine lv_aload_n hx hb dX0_layBest_0 rfl (lv_at hL 0 rfl) ?_
  refine lv_aload_n hx hb dX0_layBest_1 rfl (lv_at hL 1 rfl) ?_
  refine lv_iload_n hx hb dX0_layBest_2 rfl (lv_at hL 2 rfl) ?_
  refine k_X0_left_2 ht C B q1367 (Nat.le_trans (Nat.le_of_ble_eq_true rfl) hF) (Nat.le_trans (Nat.le_of_ble_eq_true rfl) hN) hL.1 (Nat.le_of_ble_eq_true rfl) ⟨Nat.zero_le _, Nat.zero_le _⟩ h dX0_layBest_3 (fun q1 h H locs B => ?_)
  refine lv_istore (lv' := [(4, .int q1), (0, .ref (ad a0)), (1, .ref (ad a1)), (2, .int x2), (3, .int x3)]) hx hb dX0_layBest_6 hL (by decide) rfl (fun ls hL => ?_)
  refine lv_aload_n hx hb dX0_layBest_8 rfl (lv_at hL 1 rfl) ?_
  refine k_X0_clearRow ht C B q1460 (Nat.le_trans (Nat.le_of_ble_eq_true rfl) hF) (Nat.le_trans (Nat.le_of_ble_eq_true rfl) hN) hL.1 (Nat.le_of_ble_eq_true rfl) ⟨Nat.zero_le _, Nat.zero_le _⟩ h dX0_layBest_9 (fun q2 h H locs B => ?_)
  refine lv_aload_n hx hb dX0_layBest_12 rfl (lv_at hL 1 rfl) ?_
  refine lv_ldc (v := (-1000000)) hx hb C.2.2.2.1 (C.2.2.2.2 _ q1250) dX0_layBest_13 ?_
  refine xx_pi (ci := 0) (k := 17) C B xc_0 ht (by decide) (Nat.le_of_ble_eq_true rfl) rfl q377 (fun _ h => h) rfl rfl rfl h dX0_layBest_15 (fun gi3 h H locs B => ?_)
  refine lv_iconst (v := 1) hx hb dX0_layBest_18 (by decide) ?_
  refine lv_istore (lv' := [(5, .int 1), (4, .int q1), (0, .ref (ad a0)), (1, .ref (ad a1)), (2, .int x2), (3, .int x3)]) hx hb dX0_layBest_19 hL (by decide) rfl (fun ls hL => ?_)
  obtain ⟨E21, h821, h⟩ := g_ob h
  have kx21 : ∀ (gie21 : GI) (H : Heap) (locs : List Loc) (ls : Array Slot), gie21 = E21 → XB D cA ad hk nx A s gie21 gr H locs → lv_has ls 7 [] → W p l e R s m args below meth c H locs 0 0 Q (F0 m 101 ls []) := by
    intro gie21 H locs ls he B hL
    subst he
    have h : f_X0_layBest_x21 hk gr gie21 = some r := h
    unfold f_X0_layBest_x21 at h
    exact hret _ _ _ _ _ _ ⟨Option.some.inj h, rfl⟩ B dX0_layBest_101
  have hl21 : ∀ (k : Nat) (x5l21 : Int32) (gil21 : GI) (H : Heap) (locs : List Loc) (ls : Array Slot), g_loop k (fun (s : Int32 × GI) => f_X0_layBest_l21 hk gr a0 a1 x2 x3 q1 s.1 s.2) (x5l21, gil21) = some E21 → XB D cA ad hk nx A s gil21 gr H locs → lv_has ls 7 [(0, .ref (ad a0)), (1, .ref (ad a1)), (2, .int x2), (3, .int x3), (4, .int q1), (5, .int x5l21)] → W p l e R s m args below meth c H locs 0 0 Q (F0 m 21 ls []) := by
    intro k
    induction k with
    | zero => intro x5l21 gil21 H locs ls h; exact absurd h (fun z => g_loop_0 z)
    | succ k ih21 =>
      intro x5l21 gil21 H locs ls h B hL
      obtain ⟨Z21, h, h921⟩ := g_loop_s h
      have h : f_X0_layBest_l21 hk gr a0 a1 x2 x3 q1 x5l21 gil21 = some Z21 := h
      unfold f_X0_layBest_l21 at h
      have hj90 : ∀ (gij90 : GI) (H : Heap) (locs : List Loc) (ls : Array Slot), f_X0_layBest_j90 hk gr a0 a1 x2 x3 q1 gij90 = some Z21 → XB D cA ad hk nx A s gij90 gr H locs → lv_has ls 7 [(0, .ref (ad a0)), (1, .ref (ad a1)), (2, .int x2), (3, .int x3), (4, .int q1)] → W p l e R s m args below meth c H locs 0 0 Q (F0 m 90 ls []) := by
        intro gij90 H locs ls h B hL
        unfold f_X0_layBest_j90 at h
        refine lv_aload_n hx hb dX0_layBest_90 rfl (lv_at hL 0 rfl) ?_
        refine lv_iload hx hb dX0_layBest_91 (lv_at hL 4 rfl) ?_
        refine k_X0_nextRow ht C B q1480 (Nat.le_trans (Nat.le_of_ble_eq_true rfl) hF) (Nat.le_trans (Nat.le_of_ble_eq_true rfl) hN) hL.1 (Nat.le_of_ble_eq_true rfl) ⟨Nat.zero_le _, Nat.zero_le _⟩ h dX0_layBest_93 (fun q5 h H locs B => ?_)
        refine lv_istore (lv' := [(5, .int q5.1), (0, .ref (ad a0)), (1, .ref (ad a1)), (2, .int x2), (3, .int x3), (4, .int q1)]) hx hb dX0_layBest_96 hL (by decide) rfl (fun ls hL => ?_)
        refine lv_goto (tgt := 21) hx hb dX0_layBest_98 (by decide) ?_
        exact ih21 _ _ _ _ _ (g_next h h921) B (lv_sub hL [1, 2, 3, 4, 5, 0] rfl)
      have hj47 : ∀ (gij47 : GI) (t0j47 : Int32) (H : Heap) (locs : List Loc) (ls : Array Slot), f_X0_layBest_j47 hk gr a0 a1 x2 x3 q1 gij47 t0j47 = some Z21 → XB D cA ad hk nx A s gij47 gr H locs → lv_has ls 7 [(0, .ref (ad a0)), (1, .ref (ad a1)), (2, .int x2), (3, .int x3), (4, .int q1)] → W p l e R s m args below meth c H locs 0 0 Q (F0 m 47 ls [.int t0j47]) := by
        intro gij47 t0j47 H locs ls h B hL
        unfold f_X0_layBest_j47 at h
        refine lv_istore (lv' := [(6, .int t0j47), (0, .ref (ad a0)), (1, .ref (ad a1)), (2, .int x2), (3, .int x3), (4, .int q1)]) hx hb dX0_layBest_47 hL (by decide) rfl (fun ls hL => ?_)
        refine lv_iload hx hb dX0_layBest_49 (lv_at hL 0 rfl) ?_
        refine lv_aload_n hx hb dX0_layBest_51 rfl (lv_at hL 1 rfl) ?_
        refine xx_gi (ci := 0) (k := 17) C B xc_0 ht (by decide) (Nat.le_of_ble_eq_true rfl) rfl q377 (fun _ h => h) dX0_layBest_52 ?_
        refine gg_icmp_le hx hb 90 h dX0_layBest_55 (by decide) (fun h => ?_) (fun h => ?_)
        · exact hj90 _ _ _ _ h B (lv_sub hL [1, 2, 3, 4, 5] rfl)
        · refine lv_aload_n hx hb dX0_layBest_58 rfl (lv_at hL 1 rfl) ?_
          refine lv_iload hx hb dX0_layBest_59 (lv_at hL 0 rfl) ?_
          refine xx_pi (ci := 0) (k := 17) C B xc_0 ht (by decide) (Nat.le_of_ble_eq_true rfl) rfl q377 (fun _ h => h) rfl rfl rfl h dX0_layBest_61 (fun gi6 h H locs B => ?_)
          refine lv_aload_n hx hb dX0_layBest_64 rfl (lv_at hL 1 rfl) ?_
          refine lv_aload_n hx hb dX0_layBest_65 rfl (lv_at hL 1 rfl) ?_
          refine xx_gr (ci := 0) (k := 13) C B xc_0 ht (by decide) (Nat.le_of_ble_eq_true rfl) rfl q373 (fun _ h => h) h dX0_layBest_66 (fun v7 ok8 h => ?_)
          refine lv_iconst (v := 0) hx hb dX0_layBest_69 (by decide) ?_
          refine k_X0_sum C B q1477 (Nat.le_trans (Nat.le_of_ble_eq_true rfl) hF) (Nat.le_trans (Nat.le_of_ble_eq_true rfl) hN) hL.1 (Nat.le_of_ble_eq_true rfl) ⟨Nat.zero_le _, Nat.zero_le _⟩ h dX0_layBest_70 (fun q9 h H locs B => ?_)
          refine xx_pi (ci := 0) (k := 16) C B xc_0 ht (by decide) (Nat.le_of_ble_eq_true rfl) rfl q376 (fun _ h => h) rfl rfl rfl h dX0_layBest_73 (fun gi10 h H locs B => ?_)
          refine lv_aload_n hx hb dX0_layBest_76 rfl (lv_at hL 1 rfl) ?_
          refine xx_gr (ci := 0) (k := 13) C B xc_0 ht (by decide) (Nat.le_of_ble_eq_true rfl) rfl q373 (fun _ h => h) h dX0_layBest_77 (fun v11 ok12 h => ?_)
          refine lv_iconst (v := 0) hx hb dX0_layBest_80 (by decide) ?_
          refine lv_aload_n hx hb dX0_layBest_81 rfl (lv_at hL 1 rfl) ?_
          refine xx_gr (ci := 0) (k := 14) C B xc_0 ht (by decide) (Nat.le_of_ble_eq_true rfl) rfl q374 (fun _ h => h) h dX0_layBest_82 (fun v13 ok14 h => ?_)
          refine lv_iconst (v := 0) hx hb dX0_layBest_85 (by decide) ?_
          refine lv_iconst (v := 3) hx hb dX0_layBest_86 (by decide) ?_
          refine xx_is h (fun hp15 h => ?_)
          refine xx_is h (fun hp16 h => ?_)
          refine xx_cpi C B q1380 q596 q595 q159 hp15 hp16 (Nat.le_trans (Nat.le_of_ble_eq_true rfl) hF) (Nat.le_trans (Nat.le_of_ble_eq_true rfl) hN) hL.1 (Nat.le_of_ble_eq_true rfl) h dX0_layBest_87 (fun gi17 h H locs B => ?_)
          exact hj90 _ _ _ _ h B (lv_sub hL [1, 2, 3, 4, 5] rfl)
      refine lv_iload hx hb dX0_layBest_21 (lv_at hL 5 rfl) ?_
      refine gg_if_eq hx hb 101 h dX0_layBest_23 (by decide) (fun h => ?_) (fun h => ?_)
      · exact kx21 _ _ _ _ (g_exit h h921) B (lv_sub hL [] rfl)
      · refine lv_aload_n hx hb dX0_layBest_26 rfl (lv_at hL 0 rfl) ?_
        refine lv_aload_n hx hb dX0_layBest_27 rfl (lv_at hL 1 rfl) ?_
        refine lv_iload_n hx hb dX0_layBest_28 rfl (lv_at hL 2 rfl) ?_
        refine k_X0_isRowOf ht C B q1464 (Nat.le_trans (Nat.le_of_ble_eq_true rfl) hF) (Nat.le_trans (Nat.le_of_ble_eq_true rfl) hN) hL.1 (Nat.le_of_ble_eq_true rfl) ⟨Nat.zero_le _, Nat.zero_le _⟩ h dX0_layBest_29 (fun q4 h H locs B => ?_)
        refine gg_if_eq hx hb 45 h dX0_layBest_32 (by decide) (fun h => ?_) (fun h => ?_)
        · refine lv_ldc (v := (-1000000)) hx hb C.2.2.2.1 (C.2.2.2.2 _ q1250) dX0_layBest_45 ?_
          exact hj47 _ _ _ _ _ h B (lv_sub hL [0, 1, 2, 3, 4] rfl)
        · refine lv_aload_n hx hb dX0_layBest_35 rfl (lv_at hL 0 rfl) ?_
          refine lv_aload_n hx hb dX0_layBest_36 rfl (lv_at hL 1 rfl) ?_
          refine lv_iload_n hx hb dX0_layBest_37 rfl (lv_at hL 2 rfl) ?_
          refine lv_iload_n hx hb dX0_layBest_38 rfl (lv_at hL 3 rfl) ?_
          refine k_X0_growthBy ht C B q1468 (Nat.le_trans (Nat.le_of_ble_eq_true rfl) hF) (Nat.le_trans (Nat.le_of_ble_eq_true rfl) hN) hL.1 (Nat.le_of_ble_eq_true rfl) ⟨Nat.zero_le _, Nat.zero_le _⟩ h dX0_layBest_39 (fun q18 h H locs B => ?_)
          refine lv_goto (tgt := 47) hx hb dX0_layBest_42 (by decide) ?_
          exact hj47 _ _ _ _ _ h B (lv_sub hL [0, 1, 2, 3, 4] rfl)
  exact hl21 g_K _ _ _ _ _ h821 B (lv_sub hL [2, 3, 4, 5, 1, 0] rfl)
theorem k_X0_layBest {p : Program} {l : Launch} {e : Env} {R : Room} {s : State} {m : MethodId} {args : Array Value} {below : List Frame} {meth : Method} {c : Code} {H : Heap} {locs : List Loc} {Q : State → Prop} {pc : Nat} {ls : Array Slot} {rest : List Value} {cc : ByteArray} {nL cells slots : Nat} {D : va_G} {cA : Nat → ClassId} {ad : Nat → Nat} {hk : HK} {nx : Nat} {A : Nat → Prop} {gi : GI} {gr : GR} {α : Type} {r : α} {own : String} {idx : Nat} {a0 : Nat} {a1 : Nat} {x2 : Int32} {x3 : Int32} {ff : GI → Option α} (ht : (hk a0).1 = 10) (C : CallFix p m c cc nL s args lw_all own) (B : XB D cA ad hk nx A s gi gr H locs) (hq : Cond.methodLink own idx yX0_layBest ∈ lw_all) (hF : 108 ≤ R.frames) (hN : 3214 ≤ R.locals) (hs : ls.size = nL) (hw : (rest.map fun v => v.category).sum ≤ 8) (hz0 : cells ≤ R.cells ∧ slots ≤ R.slots) (h : (f_X0_layBest hk gi gr a0 a1 x2 x3).bind ff = some r) (hdg : decode cc pc = .ok (.invokevirtual idx, 3)) (kk : ∀ q, ff q = some r → ∀ (H' : Heap) (locs' : List Loc), XB D cA ad hk nx A s q gr H' locs' → W p l e R s m args below meth c H' locs' cells slots Q (F0 m (pc + 3) ls (rest))) : W p l e R s m args below meth c H locs cells slots Q (F0 m pc ls (.int x3 :: .int x2 :: .ref (ad a1) :: .ref (ad a0) :: rest)) := by
  obtain ⟨q, h1, h2⟩ := g_ob h
  refine xx_cVV (As := [.ref (ad a1), .int x2, .int x3]) (rest := rest) (n := 3) xc_0 ht (by decide) C B (fun sz => w_X0_layBest l D cA ad hk nx gi gr a0 a1 x2 x3 ht q h1 sz) hq q1458 qs48 q141 q1459 (by decide +kernel) ⟨hF, hN⟩ rfl hs hw hz0 hdg (fun u H9 locs9 hp B9 => ?_)
  obtain ⟨e1, e3⟩ := hp
  rw [e3] at B9
  subst e1
  exact kk _ h2 H9 locs9 B9
def f_X0_putBest (hk : HK) (gi : GI) (gr : GR) (a0 : Nat) (x1 : Int32) : Option (Int32 × GI) :=
  (gr a0 14).bind fun v1 =>
  (gr a0 15).bind fun v3 =>
  (f_X0_kinds hk gi gr a0).bind fun q5 =>
  (g_is hk v1 0).bind fun _ =>
  (g_is hk v3 0).bind fun _ =>
  (g_cpi hk gi v1 0 v3 0 q5).bind fun gi8 =>
  (f_X0_kinds hk gi8 gr a0).bind fun q9 =>
  (some (g_pi gi8 a0 18 q9)).bind fun gi10 =>
  if x1 = 0 then
  (some (gi10 a0 17, gi10))
  else
  (some (gi10 a0 16, gi10))
set_option maxHeartbeats 400000 in
theorem w_X0_putBest (l : Launch) (D : va_G) (cA : Nat → ClassId) (ad : Nat → Nat) (hk : HK) (nx : Nat) (gi : GI) (gr : GR) (a0 : Nat) (x1 : Int32) (ht : (hk a0).1 = 10) (r : Int32 × GI) (h : f_X0_putBest hk gi gr a0 x1 = some r) (sz : Nat) : Met l yX0_putBest (ws_ yX0_putBest cX0_putBest 2 (some .int)) ({ frames := 3, cells := 0, slots := 0, locals := 104 } : Room) (va_Pc [.ref (ad a0), .int x1] (XPre D cA ad hk nx gi gr sz)) (va_Qi (fun v u => (v, u.1) = r ∧ u.2 = gr) (XPost D cA ad hk nx) (XA ad nx sz)) 0 0 (XA ad nx sz) := by
  refine xx_stI (own := RX0) (P := (fun v u => (v, u.1) = r ∧ u.2 = gr)) (by decide +kernel) rfl (Nat.le_of_ble_eq_true rfl) (fun p e s m args below meth c R Q A ls C hF hN B hret hL => ?_) sz
  have hx := C.1
  have hb := C.2.1
  have hL : lv_has ls 2 [(0, .ref (ad a0)), (1, .int x1)] := hL
  unfold f_X0_putBest at h
  refine lv_aload_n hx hb dX0_putBest_0 rfl (lv_at hL 0 rfl) ?_
  refine xx_gr (ci := 0) (k := 14) C B xc_0 ht (by decide) (Nat.le_of_ble_eq_true rfl) rfl q374 (fun _ h => h) h dX0_putBest_1 (fun v1 ok2 h => ?_)
  refine lv_iconst (v := 0) hx hb dX0_putBest_4 (by decide) ?_
  refine lv_aload_n hx hb dX0_putBest_5 rfl (lv_at hL 0 rfl) ?_
  refine xx_gr (ci := 0) (k := 15) C B xc_0 ht (by decide) (Nat.le_of_ble_eq_true rfl) rfl q375 (fun _ h => h) h dX0_putBest_6 (fun v3 ok4 h => ?_)
  refine lv_iconst (v := 0) hx hb dX0_putBest_9 (by decide) ?_
  refine lv_aload_n hx hb dX0_putBest_10 rfl (lv_at hL 0 rfl) ?_
  refine k_X0_kinds ht C B q1345 (Nat.le_trans (Nat.le_of_ble_eq_true rfl) hF) (Nat.le_trans (Nat.le_of_ble_eq_true rfl) hN) hL.1 (Nat.le_of_ble_eq_true rfl) ⟨Nat.zero_le _, Nat.zero_le _⟩ h dX0_putBest_11 (fun q5 h H locs B => ?_)
  refine xx_is h (fun hp6 h => ?_)
  refine xx_is h (fun hp7 h => ?_)
  refine xx_cpi C B q1380 q596 q595 q159 hp6 hp7 (Nat.le_trans (Nat.le_of_ble_eq_true rfl) hF) (Nat.le_trans (Nat.le_of_ble_eq_true rfl) hN) hL.1 (Nat.le_of_ble_eq_true rfl) h dX0_putBest_14 (fun gi8 h H locs B => ?_)
  refine lv_aload_n hx hb dX0_putBest_17 rfl (lv_at hL 0 rfl) ?_
  refine lv_aload_n hx hb dX0_putBest_18 rfl (lv_at hL 0 rfl) ?_
  refine k_X0_kinds ht C B q1345 (Nat.le_trans (Nat.le_of_ble_eq_true rfl) hF) (Nat.le_trans (Nat.le_of_ble_eq_true rfl) hN) hL.1 (Nat.le_of_ble_eq_true rfl) ⟨Nat.zero_le _, Nat.zero_le _⟩ h dX0_putBest_19 (fun q9 h H locs B => ?_)
  refine xx_pi (ci := 0) (k := 18) C B xc_0 ht (by decide) (Nat.le_of_ble_eq_true rfl) rfl q378 (fun _ h => h) rfl rfl rfl h dX0_putBest_22 (fun gi10 h H locs B => ?_)
  refine lv_iload_n hx hb dX0_putBest_25 rfl (lv_at hL 1 rfl) ?_
  refine gg_if_ne hx hb 36 h dX0_putBest_26 (by decide) (fun h => ?_) (fun h => ?_)
  · refine lv_aload_n hx hb dX0_putBest_36 rfl (lv_at hL 0 rfl) ?_
    refine xx_gi (ci := 0) (k := 16) C B xc_0 ht (by decide) (Nat.le_of_ble_eq_true rfl) rfl q376 (fun _ h => h) dX0_putBest_37 ?_
    exact hret _ _ _ _ _ _ _ ⟨Option.some.inj h, rfl⟩ B dX0_putBest_40
  · refine lv_aload_n hx hb dX0_putBest_29 rfl (lv_at hL 0 rfl) ?_
    refine xx_gi (ci := 0) (k := 17) C B xc_0 ht (by decide) (Nat.le_of_ble_eq_true rfl) rfl q377 (fun _ h => h) dX0_putBest_30 ?_
    refine lv_goto (tgt := 40) hx hb dX0_putBest_33 (by decide) ?_
    exact hret _ _ _ _ _ _ _ ⟨Option.some.inj h, rfl⟩ B dX0_putBest_40
theorem k_X0_putBest {p : Program} {l : Launch} {e : Env} {R : Room} {s : State} {m : MethodId} {args : Array Value} {below : List Frame} {meth : Method} {c : Code} {H : Heap} {locs : List Loc} {Q : State → Prop} {pc : Nat} {ls : Array Slot} {rest : List Value} {cc : ByteArray} {nL cells slots : Nat} {D : va_G} {cA : Nat → ClassId} {ad : Nat → Nat} {hk : HK} {nx : Nat} {A : Nat → Prop} {gi : GI} {gr : GR} {α : Type} {r : α} {own : String} {idx : Nat} {a0 : Nat} {x1 : Int32} {ff : (Int32 × GI) → Option α} (ht : (hk a0).1 = 10) (C : CallFix p m c cc nL s args lw_all own) (B : XB D cA ad hk nx A s gi gr H locs) (hq : Cond.methodLink own idx yX0_putBest ∈ lw_all) (hF : 4 ≤ R.frames) (hN : 125 ≤ R.locals) (hs : ls.size = nL) (hw : (rest.map fun v => v.category).sum ≤ 8) (hz0 : cells ≤ R.cells ∧ slots ≤ R.slots) (h : (f_X0_putBest hk gi gr a0 x1).bind ff = some r) (hdg : decode cc pc = .ok (.invokevirtual idx, 3)) (kk : ∀ q, ff q = some r → ∀ (H' : Heap) (locs' : List Loc), XB D cA ad hk nx A s q.2 gr H' locs' → W p l e R s m args below meth c H' locs' cells slots Q (F0 m (pc + 3) ls (.int q.1 :: rest))) : W p l e R s m args below meth c H locs cells slots Q (F0 m pc ls (.int x1 :: .ref (ad a0) :: rest)) := by
  obtain ⟨q, h1, h2⟩ := g_ob h
  refine xx_cVI (As := [.int x1]) (rest := rest) (n := 1) xc_0 ht (by decide) C B (fun sz => w_X0_putBest l D cA ad hk nx gi gr a0 x1 ht q h1 sz) hq q1486 qs53 q141 q1487 (by decide +kernel) ⟨hF, hN⟩ rfl hs hw hz0 hdg (fun v u H9 locs9 hp B9 => ?_)
  obtain ⟨e1, e3⟩ := hp
  rw [e3] at B9
  subst e1
  exact kk _ h2 H9 locs9 B9
def f_X0_best (hk : HK) (gi : GI) (gr : GR) (a0 : Nat) (x1 : Int32) (x2 : Int32) : Option (Int32 × GI) :=
  (some (g_pi gi a0 18 0)).bind fun gi1 =>
  (f_X0_isMan hk gi1 gr a0 x1).bind fun q2 =>
  if q2 = 0 then
  (some ((-1000000), gi1))
  else
  ((f_X0_isIn hk gi1 gr x2 0 1).bind fun q3 =>
  if q3 = 0 then
  (some ((-1000000), gi1))
  else
  ((gr a0 5).bind fun v4 =>
  (f_X0_layBest hk gi1 gr a0 v4 x1 0).bind fun q6 =>
  (f_X0_putBest hk q6 gr a0 x2).bind fun q7 =>
  some (q7.1, q7.2)))
set_option maxHeartbeats 400000 in
theorem w_X0_best (l : Launch) (D : va_G) (cA : Nat → ClassId) (ad : Nat → Nat) (hk : HK) (nx : Nat) (gi : GI) (gr : GR) (a0 : Nat) (x1 : Int32) (x2 : Int32) (ht : (hk a0).1 = 10) (r : Int32 × GI) (h : f_X0_best hk gi gr a0 x1 x2 = some r) (sz : Nat) : Met l yX0_best (ws_ yX0_best cX0_best 3 (some .int)) ({ frames := 108, cells := 0, slots := 0, locals := 3214 } : Room) (va_Pc [.ref (ad a0), .int x1, .int x2] (XPre D cA ad hk nx gi gr sz)) (va_Qi (fun v u => (v, u.1) = r ∧ u.2 = gr) (XPost D cA ad hk nx) (XA ad nx sz)) 0 0 (XA ad nx sz) := by
  refine xx_stI (own := RX0) (P := (fun v u => (v, u.1) = r ∧ u.2 = gr)) (by decide +kernel) rfl (Nat.le_of_ble_eq_true rfl) (fun p e s m args below meth c R Q A ls C hF hN B hret hL => ?_) sz
  have hx := C.1
  have hb := C.2.1
  have hL : lv_has ls 3 [(0, .ref (ad a0)), (1, .int x1), (2, .int x2)] := hL
  unfold f_X0_best at h
  refine lv_aload_n hx hb dX0_best_0 rfl (lv_at hL 0 rfl) ?_
  refine lv_iconst (v := 0) hx hb dX0_best_1 (by decide) ?_
  refine xx_pi (ci := 0) (k := 18) C B xc_0 ht (by decide) (Nat.le_of_ble_eq_true rfl) rfl q378 (fun _ h => h) rfl rfl rfl h dX0_best_2 (fun gi1 h H locs B => ?_)
  refine lv_aload_n hx hb dX0_best_5 rfl (lv_at hL 0 rfl) ?_
  refine lv_iload_n hx hb dX0_best_6 rfl (lv_at hL 1 rfl) ?_
  refine k_X0_isMan ht C B q1243 (Nat.le_trans (Nat.le_of_ble_eq_true rfl) hF) (Nat.le_trans (Nat.le_of_ble_eq_true rfl) hN) hL.1 (Nat.le_of_ble_eq_true rfl) ⟨Nat.zero_le _, Nat.zero_le _⟩ h dX0_best_7 (fun q2 h H locs B => ?_)
  refine gg_if_eq hx hb 22 h dX0_best_10 (by decide) (fun h => ?_) (fun h => ?_)
  · refine lv_ldc (v := (-1000000)) hx hb C.2.2.2.1 (C.2.2.2.2 _ q1250) dX0_best_22 ?_
    exact hret _ _ _ _ _ _ _ ⟨Option.some.inj h, rfl⟩ B dX0_best_24
  · refine lv_iload_n hx hb dX0_best_13 rfl (lv_at hL 2 rfl) ?_
    refine lv_iconst (v := 0) hx hb dX0_best_14 (by decide) ?_
    refine lv_iconst (v := 1) hx hb dX0_best_15 (by decide) ?_
    refine k_X0_isIn C B q1247 (Nat.le_trans (Nat.le_of_ble_eq_true rfl) hF) (Nat.le_trans (Nat.le_of_ble_eq_true rfl) hN) hL.1 (Nat.le_of_ble_eq_true rfl) ⟨Nat.zero_le _, Nat.zero_le _⟩ h dX0_best_16 (fun q3 h H locs B => ?_)
    refine gg_if_ne hx hb 25 h dX0_best_19 (by decide) (fun h => ?_) (fun h => ?_)
    · refine lv_aload_n hx hb dX0_best_25 rfl (lv_at hL 0 rfl) ?_
      refine lv_aload_n hx hb dX0_best_26 rfl (lv_at hL 0 rfl) ?_
      refine xx_gr (ci := 0) (k := 5) C B xc_0 ht (by decide) (Nat.le_of_ble_eq_true rfl) rfl q364 (fun _ h => h) h dX0_best_27 (fun v4 ok5 h => ?_)
      refine lv_iload_n hx hb dX0_best_30 rfl (lv_at hL 1 rfl) ?_
      refine lv_iconst (v := 0) hx hb dX0_best_31 (by decide) ?_
      refine k_X0_layBest ht C B q1456 (Nat.le_trans (Nat.le_of_ble_eq_true rfl) hF) (Nat.le_trans (Nat.le_of_ble_eq_true rfl) hN) hL.1 (Nat.le_of_ble_eq_true rfl) ⟨Nat.zero_le _, Nat.zero_le _⟩ h dX0_best_32 (fun q6 h H locs B => ?_)
      refine lv_aload_n hx hb dX0_best_35 rfl (lv_at hL 0 rfl) ?_
      refine lv_iload_n hx hb dX0_best_36 rfl (lv_at hL 2 rfl) ?_
      refine k_X0_putBest ht C B q1484 (Nat.le_trans (Nat.le_of_ble_eq_true rfl) hF) (Nat.le_trans (Nat.le_of_ble_eq_true rfl) hN) hL.1 (Nat.le_of_ble_eq_true rfl) ⟨Nat.zero_le _, Nat.zero_le _⟩ h dX0_best_37 (fun q7 h H locs B => ?_)
      exact hret _ _ _ _ _ _ _ ⟨Option.some.inj h, rfl⟩ B dX0_best_40
    · refine lv_ldc (v := (-1000000)) hx hb C.2.2.2.1 (C.2.2.2.2 _ q1250) dX0_best_22 ?_
      exact hret _ _ _ _ _ _ _ ⟨Option.some.inj h, rfl⟩ B dX0_best_24
theorem k_X0_best {p : Program} {l : Launch} {e : Env} {R : Room} {s : State} {m : MethodId} {args : Array Value} {below : List Frame} {meth : Method} {c : Code} {H : Heap} {locs : List Loc} {Q : State → Prop} {pc : Nat} {ls : Array Slot} {rest : List Value} {cc : ByteArray} {nL cells slots : Nat} {D : va_G} {cA : Nat → ClassId} {ad : Nat → Nat} {hk : HK} {nx : Nat} {A : Nat → Prop} {gi : GI} {gr : GR} {α : Type} {r : α} {own : String} {idx : Nat} {a0 : Nat} {x1 : Int32} {x2 : Int32} {ff : (Int32 × GI) → Option α} (ht : (hk a0).1 = 10) (C : CallFix p m c cc nL s args lw_all own) (B : XB D cA ad hk nx A s gi gr H locs) (hq : Cond.methodLink own idx yX0_best ∈ lw_all) (hF : 109 ≤ R.frames) (hN : 3236 ≤ R.locals) (hs : ls.size = nL) (hw : (rest.map fun v => v.category).sum ≤ 8) (hz0 : cells ≤ R.cells ∧ slots ≤ R.slots) (h : (f_X0_best hk gi gr a0 x1 x2).bind ff = some r) (hdg : decode cc pc = .ok (.invokevirtual idx, 3)) (kk : ∀ q, ff q = some r → ∀ (H' : Heap) (locs' : List Loc), XB D cA ad hk nx A s q.2 gr H' locs' → W p l e R s m args below meth c H' locs' cells slots Q (F0 m (pc + 3) ls (.int q.1 :: rest))) : W p l e R s m args below meth c H locs cells slots Q (F0 m pc ls (.int x2 :: .int x1 :: .ref (ad a0) :: rest)) := by
  obtain ⟨q, h1, h2⟩ := g_ob h
  refine xx_cVI (As := [.int x1, .int x2]) (rest := rest) (n := 2) xc_0 ht (by decide) C B (fun sz => w_X0_best l D cA ad hk nx gi gr a0 x1 x2 ht q h1 sz) hq q1453 q1454 q141 q1455 (by decide +kernel) ⟨hF, hN⟩ rfl hs hw hz0 hdg (fun v u H9 locs9 hp B9 => ?_)
  obtain ⟨e1, e3⟩ := hp
  rw [e3] at B9
  subst e1
  exact kk _ h2 H9 locs9 B9
def f_X0_good (hk : HK) (gi : GI) (gr : GR) (a0 : Nat) (x1 : Int32) (x2 : Int32) : Option (Int32 × GI) :=
  (some (g_pi gi a0 18 0)).bind fun gi1 =>
  (f_X0_isMan hk gi1 gr a0 x1).bind fun q2 =>
  if q2 = 0 then
  (some ((-1000000), gi1))
  else
  ((f_X0_isIn hk gi1 gr x2 0 1).bind fun q3 =>
  if q3 = 0 then
  (some ((-1000000), gi1))
  else
  ((gr a0 5).bind fun v4 =>
  (f_X0_layBest hk gi1 gr a0 v4 x1 1).bind fun q6 =>
  (f_X0_putBest hk q6 gr a0 x2).bind fun q7 =>
  some (q7.1, q7.2)))
set_option maxHeartbeats 400000 in
theorem w_X0_good (l : Launch) (D : va_G) (cA : Nat → ClassId) (ad : Nat → Nat) (hk : HK) (nx : Nat) (gi : GI) (gr : GR) (a0 : Nat) (x1 : Int32) (x2 : Int32) (ht : (hk a0).1 = 10) (r : Int32 × GI) (h : f_X0_good hk gi gr a0 x1 x2 = some r) (sz : Nat) : Met l yX0_good (ws_ yX0_good cX0_good 3 (some .int)) ({ frames := 108, cells := 0, slots := 0, locals := 3214 } : Room) (va_Pc [.ref (ad a0), .int x1, .int x2] (XPre D cA ad hk nx gi gr sz)) (va_Qi (fun v u => (v, u.1) = r ∧ u.2 = gr) (XPost D cA ad hk nx) (XA ad nx sz)) 0 0 (XA ad nx sz) := by
  refine xx_stI (own := RX0) (P := (fun v u => (v, u.1) = r ∧ u.2 = gr)) (by decide +kernel) rfl (Nat.le_of_ble_eq_true rfl) (fun p e s m args below meth c R Q A ls C hF hN B hret hL => ?_) sz
  have hx := C.1
  have hb := C.2.1
  have hL : lv_has ls 3 [(0, .ref (ad a0)), (1, .int x1), (2, .int x2)] := hL
  unfold f_X0_good at h
  refine lv_aload_n hx hb dX0_good_0 rfl (lv_at hL 0 rfl) ?_
  refine lv_iconst (v := 0) hx hb dX0_good_1 (by decide) ?_
  refine xx_pi (ci := 0) (k := 18) C B xc_0 ht (by decide) (Nat.le_of_ble_eq_true rfl) rfl q378 (fun _ h => h) rfl rfl rfl h dX0_good_2 (fun gi1 h H locs B => ?_)
  refine lv_aload_n hx hb dX0_good_5 rfl (lv_at hL 0 rfl) ?_
  refine lv_iload_n hx hb dX0_good_6 rfl (lv_at hL 1 rfl) ?_
  refine k_X0_isMan ht C B q1243 (Nat.le_trans (Nat.le_of_ble_eq_true rfl) hF) (Nat.le_trans (Nat.le_of_ble_eq_true rfl) hN) hL.1 (Nat.le_of_ble_eq_true rfl) ⟨Nat.zero_le _, Nat.zero_le _⟩ h dX0_good_7 (fun q2 h H locs B => ?_)
  refine gg_if_eq hx hb 22 h dX0_good_10 (by decide) (fun h => ?_) (fun h => ?_)
  · refine lv_ldc (v := (-1000000)) hx hb C.2.2.2.1 (C.2.2.2.2 _ q1250) dX0_good_22 ?_
    exact hret _ _ _ _ _ _ _ ⟨Option.some.inj h, rfl⟩ B dX0_good_24
  · refine lv_iload_n hx hb dX0_good_13 rfl (lv_at hL 2 rfl) ?_
    refine lv_iconst (v := 0) hx hb dX0_good_14 (by decide) ?_
    refine lv_iconst (v := 1) hx hb dX0_good_15 (by decide) ?_
    refine k_X0_isIn C B q1247 (Nat.le_trans (Nat.le_of_ble_eq_true rfl) hF) (Nat.le_trans (Nat.le_of_ble_eq_true rfl) hN) hL.1 (Nat.le_of_ble_eq_true rfl) ⟨Nat.zero_le _, Nat.zero_le _⟩ h dX0_good_16 (fun q3 h H locs B => ?_)
    refine gg_if_ne hx hb 25 h dX0_good_19 (by decide) (fun h => ?_) (fun h => ?_)
    · refine lv_aload_n hx hb dX0_good_25 rfl (lv_at hL 0 rfl) ?_
      refine lv_aload_n hx hb dX0_good_26 rfl (lv_at hL 0 rfl) ?_
      refine xx_gr (ci := 0) (k := 5) C B xc_0 ht (by decide) (Nat.le_of_ble_eq_true rfl) rfl q364 (fun _ h => h) h dX0_good_27 (fun v4 ok5 h => ?_)
      refine lv_iload_n hx hb dX0_good_30 rfl (lv_at hL 1 rfl) ?_
      refine lv_iconst (v := 1) hx hb dX0_good_31 (by decide) ?_
      refine k_X0_layBest ht C B q1456 (Nat.le_trans (Nat.le_of_ble_eq_true rfl) hF) (Nat.le_trans (Nat.le_of_ble_eq_true rfl) hN) hL.1 (Nat.le_of_ble_eq_true rfl) ⟨Nat.zero_le _, Nat.zero_le _⟩ h dX0_good_32 (fun q6 h H locs B => ?_)
      refine lv_aload_n hx hb dX0_good_35 rfl (lv_at hL 0 rfl) ?_
      refine lv_iload_n hx hb dX0_good_36 rfl (lv_at hL 2 rfl) ?_
      refine k_X0_putBest ht C B q1484 (Nat.le_trans (Nat.le_of_ble_eq_true rfl) hF) (Nat.le_trans (Nat.le_of_ble_eq_true rfl) hN) hL.1 (Nat.le_of_ble_eq_true rfl) ⟨Nat.zero_le _, Nat.zero_le _⟩ h dX0_good_37 (fun q7 h H locs B => ?_)
      exact hret _ _ _ _ _ _ _ ⟨Option.some.inj h, rfl⟩ B dX0_good_40
    · refine lv_ldc (v := (-1000000)) hx hb C.2.2.2.1 (C.2.2.2.2 _ q1250) dX0_good_22 ?_
      exact hret _ _ _ _ _ _ _ ⟨Option.some.inj h, rfl⟩ B dX0_good_24
theorem k_X0_good {p : Program} {l : Launch} {e : Env} {R : Room} {s : State} {m : MethodId} {args : Array Value} {below : List Frame} {meth : Method} {c : Code} {H : Heap} {locs : List Loc} {Q : State → Prop} {pc : Nat} {ls : Array Slot} {rest : List Value} {cc : ByteArray} {nL cells slots : Nat} {D : va_G} {cA : Nat → ClassId} {ad : Nat → Nat} {hk : HK} {nx : Nat} {A : Nat → Prop} {gi : GI} {gr : GR} {α : Type} {r : α} {own : String} {idx : Nat} {a0 : Nat} {x1 : Int32} {x2 : Int32} {ff : (Int32 × GI) → Option α} (ht : (hk a0).1 = 10) (C : CallFix p m c cc nL s args lw_all own) (B : XB D cA ad hk nx A s gi gr H locs) (hq : Cond.methodLink own idx yX0_good ∈ lw_all) (hF : 109 ≤ R.frames) (hN : 3236 ≤ R.locals) (hs : ls.size = nL) (hw : (rest.map fun v => v.category).sum ≤ 8) (hz0 : cells ≤ R.cells ∧ slots ≤ R.slots) (h : (f_X0_good hk gi gr a0 x1 x2).bind ff = some r) (hdg : decode cc pc = .ok (.invokevirtual idx, 3)) (kk : ∀ q, ff q = some r → ∀ (H' : Heap) (locs' : List Loc), XB D cA ad hk nx A s q.2 gr H' locs' → W p l e R s m args below meth c H' locs' cells slots Q (F0 m (pc + 3) ls (.int q.1 :: rest))) : W p l e R s m args below meth c H locs cells slots Q (F0 m pc ls (.int x2 :: .int x1 :: .ref (ad a0) :: rest)) := by
  obtain ⟨q, h1, h2⟩ := g_ob h
  refine xx_cVI (As := [.int x1, .int x2]) (rest := rest) (n := 2) xc_0 ht (by decide) C B (fun sz => w_X0_good l D cA ad hk nx gi gr a0 x1 x2 ht q h1 sz) hq q1489 q1490 q141 q1491 (by decide +kernel) ⟨hF, hN⟩ rfl hs hw hz0 hdg (fun v u H9 locs9 hp B9 => ?_)
  obtain ⟨e1, e3⟩ := hp
  rw [e3] at B9
  subst e1
  exact kk _ h2 H9 locs9 B9
def f_X0_leaks (hk : HK) (gi : GI) (gr : GR) (a0 : Nat) (x1 : Int32) : Option (Int32 × GI) :=
  (f_X0_isMan hk gi gr a0 x1).bind fun q1 =>
  if q1 = 0 then
  (some ((-1000000), gi))
  else
  ((gr a0 5).bind fun v2 =>
  (f_X0_layBest hk gi gr a0 v2 x1 0).bind fun q4 =>
  (gr a0 7).bind fun v5 =>
  (gr a0 5).bind fun v7 =>
  (g_is hk v5 13).bind fun _ =>
  (f_X3_copy hk q4 gr v5 v7).bind fun q10 =>
  (gr a0 4).bind fun v11 =>
  (gr a0 14).bind fun v13 =>
  (g_is hk q10.1 13).bind fun _ =>
  (f_X3_poursRow hk q10.2 gr q10.1 v11 x1 v13 0).bind fun q16 =>
  (gr a0 7).bind fun v17 =>
  (gr a0 4).bind fun v19 =>
  (g_is hk v17 13).bind fun _ =>
  (f_X3_growths hk q16.2 gr v17 v19).bind fun q22 =>
  (gr a0 7).bind fun v23 =>
  (gr a0 4).bind fun v25 =>
  (g_is hk v23 13).bind fun _ =>
  (f_X3_growth hk q22.2 gr v23 v25 x1).bind fun q28 =>
  (gr a0 5).bind fun v29 =>
  (gr a0 4).bind fun v31 =>
  (g_is hk v29 13).bind fun _ =>
  (f_X3_growths hk q28.2 gr v29 v31).bind fun q34 =>
  (gr a0 5).bind fun v35 =>
  (gr a0 4).bind fun v37 =>
  (g_is hk v35 13).bind fun _ =>
  (f_X3_growth hk q34.2 gr v35 v37 x1).bind fun q40 =>
  some (((q22.1 - q28.1) - q34.1) + q40.1, q40.2))
set_option maxHeartbeats 400000 in
theorem w_X0_leaks (l : Launch) (D : va_G) (cA : Nat → ClassId) (ad : Nat → Nat) (hk : HK) (nx : Nat) (gi : GI) (gr : GR) (a0 : Nat) (x1 : Int32) (ht : (hk a0).1 = 10) (r : Int32 × GI) (h : f_X0_leaks hk gi gr a0 x1 = some r) (sz : Nat) : Met l yX0_leaks (ws_ yX0_leaks cX0_leaks 2 (some .int)) ({ frames := 108, cells := 0, slots := 0, locals := 3214 } : Room) (va_Pc [.ref (ad a0), .int x1] (XPre D cA ad hk nx gi gr sz)) (va_Qi (fun v u => (v, u.1) = r ∧ u.2 = gr) (XPost D cA ad hk nx) (XA ad nx sz)) 0 0 (XA ad nx sz) := by
  refine xx_stI (own := RX0) (P := (fun v u => (v, u.1) = r ∧ u.2 = gr)) (by decide +kernel) rfl (Nat.le_of_ble_eq_true rfl) (fun p e s m args below meth c R Q A ls C hF hN B hret hL => ?_) sz
  have hx := C.1
  have hb := C.2.1
  have hL : lv_has ls 2 [(0, .ref (ad a0)), (1, .int x1)] := hL
  unfold f_X0_leaks at h
  refine lv_aload_n hx hb dX0_leaks_0 rfl (lv_at hL 0 rfl) ?_
  refine lv_iload_n hx hb dX0_leaks_1 rfl (lv_at hL 1 rfl) ?_
  refine k_X0_isMan ht C B q1243 (Nat.le_trans (Nat.le_of_ble_eq_true rfl) hF) (Nat.le_trans (Nat.le_of_ble_eq_true rfl) hN) hL.1 (Nat.le_of_ble_eq_true rfl) ⟨Nat.zero_le _, Nat.zero_le _⟩ h dX0_leaks_2 (fun q1 h H locs B => ?_)
  refine gg_if_ne hx hb 11 h dX0_leaks_5 (by decide) (fun h => ?_) (fun h => ?_)
  · refine lv_aload_n hx hb dX0_leaks_11 rfl (lv_at hL 0 rfl) ?_
    refine lv_aload_n hx hb dX0_leaks_12 rfl (lv_at hL 0 rfl) ?_
    refine xx_gr (ci := 0) (k := 5) C B xc_0 ht (by decide) (Nat.le_of_ble_eq_true rfl) rfl q364 (fun _ h => h) h dX0_leaks_13 (fun v2 ok3 h => ?_)
    refine lv_iload_n hx hb dX0_leaks_16 rfl (lv_at hL 1 rfl) ?_
    refine lv_iconst (v := 0) hx hb dX0_leaks_17 (by decide) ?_
    refine k_X0_layBest ht C B q1456 (Nat.le_trans (Nat.le_of_ble_eq_true rfl) hF) (Nat.le_trans (Nat.le_of_ble_eq_true rfl) hN) hL.1 (Nat.le_of_ble_eq_true rfl) ⟨Nat.zero_le _, Nat.zero_le _⟩ h dX0_leaks_18 (fun q4 h H locs B => ?_)
    refine lv_aload_n hx hb dX0_leaks_21 rfl (lv_at hL 0 rfl) ?_
    refine xx_gr (ci := 0) (k := 7) C B xc_0 ht (by decide) (Nat.le_of_ble_eq_true rfl) rfl q366 (fun _ h => h) h dX0_leaks_22 (fun v5 ok6 h => ?_)
    refine lv_aload_n hx hb dX0_leaks_25 rfl (lv_at hL 0 rfl) ?_
    refine xx_gr (ci := 0) (k := 5) C B xc_0 ht (by decide) (Nat.le_of_ble_eq_true rfl) rfl q364 (fun _ h => h) h dX0_leaks_26 (fun v7 ok8 h => ?_)
    refine xx_is h (fun hp9 h => ?_)
    refine k_X3_copy hp9 C B q1381 (Nat.le_trans (Nat.le_of_ble_eq_true rfl) hF) (Nat.le_trans (Nat.le_of_ble_eq_true rfl) hN) hL.1 (Nat.le_of_ble_eq_true rfl) ⟨Nat.zero_le _, Nat.zero_le _⟩ h dX0_leaks_29 (fun q10 h H locs B => ?_)
    refine lv_aload_n hx hb dX0_leaks_32 rfl (lv_at hL 0 rfl) ?_
    refine xx_gr (ci := 0) (k := 4) C B xc_0 ht (by decide) (Nat.le_of_ble_eq_true rfl) rfl q363 (fun _ h => h) h dX0_leaks_33 (fun v11 ok12 h => ?_)
    refine lv_iload_n hx hb dX0_leaks_36 rfl (lv_at hL 1 rfl) ?_
    refine lv_aload_n hx hb dX0_leaks_37 rfl (lv_at hL 0 rfl) ?_
    refine xx_gr (ci := 0) (k := 14) C B xc_0 ht (by decide) (Nat.le_of_ble_eq_true rfl) rfl q374 (fun _ h => h) h dX0_leaks_38 (fun v13 ok14 h => ?_)
    refine lv_iconst (v := 0) hx hb dX0_leaks_41 (by decide) ?_
    refine xx_is h (fun hp15 h => ?_)
    refine k_X3_poursRow hp15 C B q1472 (Nat.le_trans (Nat.le_of_ble_eq_true rfl) hF) (Nat.le_trans (Nat.le_of_ble_eq_true rfl) hN) hL.1 (Nat.le_of_ble_eq_true rfl) ⟨Nat.zero_le _, Nat.zero_le _⟩ h dX0_leaks_42 (fun q16 h H locs B => ?_)
    refine lv_pop hx hb dX0_leaks_45 rfl ?_
    refine lv_aload_n hx hb dX0_leaks_46 rfl (lv_at hL 0 rfl) ?_
    refine xx_gr (ci := 0) (k := 7) C B xc_0 ht (by decide) (Nat.le_of_ble_eq_true rfl) rfl q366 (fun _ h => h) h dX0_leaks_47 (fun v17 ok18 h => ?_)
    refine lv_aload_n hx hb dX0_leaks_50 rfl (lv_at hL 0 rfl) ?_
    refine xx_gr (ci := 0) (k := 4) C B xc_0 ht (by decide) (Nat.le_of_ble_eq_true rfl) rfl q363 (fun _ h => h) h dX0_leaks_51 (fun v19 ok20 h => ?_)
    refine xx_is h (fun hp21 h => ?_)
    refine k_X3_growths hp21 C B q1476 (Nat.le_trans (Nat.le_of_ble_eq_true rfl) hF) (Nat.le_trans (Nat.le_of_ble_eq_true rfl) hN) hL.1 (Nat.le_of_ble_eq_true rfl) ⟨Nat.zero_le _, Nat.zero_le _⟩ h dX0_leaks_54 (fun q22 h H locs B => ?_)
    refine lv_aload_n hx hb dX0_leaks_57 rfl (lv_at hL 0 rfl) ?_
    refine xx_gr (ci := 0) (k := 7) C B xc_0 ht (by decide) (Nat.le_of_ble_eq_true rfl) rfl q366 (fun _ h => h) h dX0_leaks_58 (fun v23 ok24 h => ?_)
    refine lv_aload_n hx hb dX0_leaks_61 rfl (lv_at hL 0 rfl) ?_
    refine xx_gr (ci := 0) (k := 4) C B xc_0 ht (by decide) (Nat.le_of_ble_eq_true rfl) rfl q363 (fun _ h => h) h dX0_leaks_62 (fun v25 ok26 h => ?_)
    refine lv_iload_n hx hb dX0_leaks_65 rfl (lv_at hL 1 rfl) ?_
    refine xx_is h (fun hp27 h => ?_)
    refine k_X3_growth hp27 C B q1253 (Nat.le_trans (Nat.le_of_ble_eq_true rfl) hF) (Nat.le_trans (Nat.le_of_ble_eq_true rfl) hN) hL.1 (Nat.le_of_ble_eq_true rfl) ⟨Nat.zero_le _, Nat.zero_le _⟩ h dX0_leaks_66 (fun q28 h H locs B => ?_)
    refine lv_isub hx hb dX0_leaks_69 ?_
    refine lv_aload_n hx hb dX0_leaks_70 rfl (lv_at hL 0 rfl) ?_
    refine xx_gr (ci := 0) (k := 5) C B xc_0 ht (by decide) (Nat.le_of_ble_eq_true rfl) rfl q364 (fun _ h => h) h dX0_leaks_71 (fun v29 ok30 h => ?_)
    refine lv_aload_n hx hb dX0_leaks_74 rfl (lv_at hL 0 rfl) ?_
    refine xx_gr (ci := 0) (k := 4) C B xc_0 ht (by decide) (Nat.le_of_ble_eq_true rfl) rfl q363 (fun _ h => h) h dX0_leaks_75 (fun v31 ok32 h => ?_)
    refine xx_is h (fun hp33 h => ?_)
    refine k_X3_growths hp33 C B q1476 (Nat.le_trans (Nat.le_of_ble_eq_true rfl) hF) (Nat.le_trans (Nat.le_of_ble_eq_true rfl) hN) hL.1 (Nat.le_of_ble_eq_true rfl) ⟨Nat.zero_le _, Nat.zero_le _⟩ h dX0_leaks_78 (fun q34 h H locs B => ?_)
    refine lv_isub hx hb dX0_leaks_81 ?_
    refine lv_aload_n hx hb dX0_leaks_82 rfl (lv_at hL 0 rfl) ?_
    refine xx_gr (ci := 0) (k := 5) C B xc_0 ht (by decide) (Nat.le_of_ble_eq_true rfl) rfl q364 (fun _ h => h) h dX0_leaks_83 (fun v35 ok36 h => ?_)
    refine lv_aload_n hx hb dX0_leaks_86 rfl (lv_at hL 0 rfl) ?_
    refine xx_gr (ci := 0) (k := 4) C B xc_0 ht (by decide) (Nat.le_of_ble_eq_true rfl) rfl q363 (fun _ h => h) h dX0_leaks_87 (fun v37 ok38 h => ?_)
    refine lv_iload_n hx hb dX0_leaks_90 rfl (lv_at hL 1 rfl) ?_
    refine xx_is h (fun hp39 h => ?_)
    refine k_X3_growth hp39 C B q1253 (Nat.le_trans (Nat.le_of_ble_eq_true rfl) hF) (Nat.le_trans (Nat.le_of_ble_eq_true rfl) hN) hL.1 (Nat.le_of_ble_eq_true rfl) ⟨Nat.zero_le _, Nat.zero_le _⟩ h dX0_leaks_91 (fun q40 h H locs B => ?_)
    refine lv_iadd hx hb dX0_leaks_94 ?_
    exact hret _ _ _ _ _ _ _ ⟨Option.some.inj h, rfl⟩ B dX0_leaks_95
  · refine lv_ldc (v := (-1000000)) hx hb C.2.2.2.1 (C.2.2.2.2 _ q1250) dX0_leaks_8 ?_
    exact hret _ _ _ _ _ _ _ ⟨Option.some.inj h, rfl⟩ B dX0_leaks_10
theorem k_X0_leaks {p : Program} {l : Launch} {e : Env} {R : Room} {s : State} {m : MethodId} {args : Array Value} {below : List Frame} {meth : Method} {c : Code} {H : Heap} {locs : List Loc} {Q : State → Prop} {pc : Nat} {ls : Array Slot} {rest : List Value} {cc : ByteArray} {nL cells slots : Nat} {D : va_G} {cA : Nat → ClassId} {ad : Nat → Nat} {hk : HK} {nx : Nat} {A : Nat → Prop} {gi : GI} {gr : GR} {α : Type} {r : α} {own : String} {idx : Nat} {a0 : Nat} {x1 : Int32} {ff : (Int32 × GI) → Option α} (ht : (hk a0).1 = 10) (C : CallFix p m c cc nL s args lw_all own) (B : XB D cA ad hk nx A s gi gr H locs) (hq : Cond.methodLink own idx yX0_leaks ∈ lw_all) (hF : 109 ≤ R.frames) (hN : 3235 ≤ R.locals) (hs : ls.size = nL) (hw : (rest.map fun v => v.category).sum ≤ 8) (hz0 : cells ≤ R.cells ∧ slots ≤ R.slots) (h : (f_X0_leaks hk gi gr a0 x1).bind ff = some r) (hdg : decode cc pc = .ok (.invokevirtual idx, 3)) (kk : ∀ q, ff q = some r → ∀ (H' : Heap) (locs' : List Loc), XB D cA ad hk nx A s q.2 gr H' locs' → W p l e R s m args below meth c H' locs' cells slots Q (F0 m (pc + 3) ls (.int q.1 :: rest))) : W p l e R s m args below meth c H locs cells slots Q (F0 m pc ls (.int x1 :: .ref (ad a0) :: rest)) := by
  obtain ⟨q, h1, h2⟩ := g_ob h
  refine xx_cVI (As := [.int x1]) (rest := rest) (n := 1) xc_0 ht (by decide) C B (fun sz => w_X0_leaks l D cA ad hk nx gi gr a0 x1 ht q h1 sz) hq q1493 q1494 q141 q1495 (by decide +kernel) ⟨hF, hN⟩ rfl hs hw hz0 hdg (fun v u H9 locs9 hp B9 => ?_)
  obtain ⟨e1, e3⟩ := hp
  rw [e3] at B9
  subst e1
  exact kk _ h2 H9 locs9 B9
def f_X0_needs_j96 (hk : HK) (grj96 : GR) (a0j96 : Nat) (x1j96 : Int32) (x2j96 : Int32) (gij96 : GI) : Option ((Int32 × GI) ⊕ ((GI) ⊕ (Int32 × GI))) :=
  (grj96 a0j96 5).bind fun v8 =>
  (f_X0_left_2 hk gij96 grj96 a0j96 v8 x1j96).bind fun q10 =>
  (f_X0_nextRow hk gij96 grj96 a0j96 q10).bind fun q11 =>
  some (.inl ((q11.1, q11.2)))
def f_X0_needs_l32 (hk : HK) (gri32 : GR) (a0i32 : Nat) (x1i32 : Int32) (x2i32 : Int32) (x3l32 : Int32) (gil32 : GI) : Option ((Int32 × GI) ⊕ ((GI) ⊕ (Int32 × GI))) :=
  if x3l32 = 0 then
  (some (.inr (.inl gil32)))
  else
  ((gri32 a0i32 5).bind fun v5 =>
  (f_X0_isRowOf hk gil32 gri32 a0i32 v5 x1i32).bind fun q7 =>
  if q7 = 0 then
  (f_X0_needs_j96 hk gri32 a0i32 x1i32 x2i32 gil32)
  else
  ((gri32 a0i32 5).bind fun v12 =>
  (f_X0_growthBy hk gil32 gri32 a0i32 v12 x1i32 0).bind fun q14 =>
  if q14.1 < x2i32 then
  (f_X0_needs_j96 hk gri32 a0i32 x1i32 x2i32 q14.2)
  else
  ((gri32 a0i32 13).bind fun v15 =>
  (gri32 a0i32 15).bind fun v17 =>
  (f_X0_kinds hk q14.2 gri32 a0i32).bind fun q19 =>
  (g_is hk v15 0).bind fun _ =>
  (g_is hk v17 0).bind fun _ =>
  (g_cpi hk q14.2 v15 0 v17 0 q19).bind fun gi22 =>
  (f_X0_kinds hk gi22 gri32 a0i32).bind fun q23 =>
  (some (g_pi gi22 a0i32 18 q23)).bind fun gi24 =>
  (gri32 a0i32 13).bind fun v25 =>
  (f_X0_sum hk gi24 gri32 v25 0).bind fun q27 =>
  some (.inr (.inr (q27, gi24))))))
def f_X0_needs_x32 (hk : HK) (gry32 : GR) (gie32 : GI) : Option (Int32 × GI) :=
  some ((-1), gie32)
def f_X0_needs (hk : HK) (gi : GI) (gr : GR) (a0 : Nat) (x1 : Int32) (x2 : Int32) : Option (Int32 × GI) :=
  (some (g_pi gi a0 18 0)).bind fun gi1 =>
  (f_X0_isMan hk gi1 gr a0 x1).bind fun q2 =>
  if q2 = 0 then
  (some ((-1), gi1))
  else
  ((f_X0_isIn hk gi1 gr x2 ((-20)) 20).bind fun q3 =>
  if q3 = 0 then
  (some ((-1), gi1))
  else
  ((f_X0_clearRow hk gi1 gr a0).bind fun q4 =>
  (g_loop g_K (fun (s : Int32 × GI) => f_X0_needs_l32 hk gr a0 x1 x2 s.1 s.2) (1, q4)).bind fun E32 => Sum.elim (fun (S32 : GI) => f_X0_needs_x32 hk gr S32) (fun (r32 : Int32 × GI) => some r32) E32))
set_option maxHeartbeats 400000 in
theorem w_X0_needs (l : Launch) (D : va_G) (cA : Nat → ClassId) (ad : Nat → Nat) (hk : HK) (nx : Nat) (gi : GI) (gr : GR) (a0 : Nat) (x1 : Int32) (x2 : Int32) (ht : (hk a0).1 = 10) (r : Int32 × GI) (h : f_X0_needs hk gi gr a0 x1 x2 = some r) (sz : Nat) : Met l yX0_needs (ws_ yX0_needs cX0_needs 4 (some .int)) ({ frames := 107, cells := 0, slots := 0, locals := 3188 } : Room) (va_Pc [.ref (ad a0), .int x1, .int x2] (XPre D cA ad hk nx gi gr sz)) (va_Qi (fun v u => (v, u.1) = r ∧ u.2 = gr) (XPost D cA ad hk nx) (XA ad nx sz)) 0 0 (XA ad nx sz) := by
  refine xx_stI (own := RX0) (P := (fun v u => (v, u.1) = r ∧ u.2 = gr)) (by decide +kernel) rfl (Nat.le_of_ble_eq_true rfl) (fun p e s m args below meth c R Q A ls C hF hN B hret hL => ?_) sz
  have hx := C.1
  have hb := C.2.1
  have hL : lv_has ls 4 [(0, .ref (ad a0)), (1, .int x1), (2, .int x2)] := hL
  unfold f_X0_needs at h
  refine lv_aload_n hx hb dX0_needs_0 rfl (lv_at hL 0 rfl) ?_
  refine lv_iconst (v := 0) hx hb dX0_needs_1 (by decide) ?_
  refine xx_pi (ci := 0) (k := 18) C B xc_0 ht (by decide) (Nat.le_of_ble_eq_true rfl) rfl q378 (fun _ h => h) rfl rfl rfl h dX0_needs_2 (fun gi1 h H locs B => ?_)
  refine lv_aload_n hx hb dX0_needs_5 rfl (lv_at hL 0 rfl) ?_
  refine lv_iload_n hx hb dX0_needs_6 rfl (lv_at hL 1 rfl) ?_
  refine k_X0_isMan ht C B q1243 (Nat.le_trans (Nat.le_of_ble_eq_true rfl) hF) (Nat.le_trans (Nat.le_of_ble_eq_true rfl) hN) hL.1 (Nat.le_of_ble_eq_true rfl) ⟨Nat.zero_le _, Nat.zero_le _⟩ h dX0_needs_7 (fun q2 h H locs B => ?_)
  refine gg_if_eq hx hb 24 h dX0_needs_10 (by decide) (fun h => ?_) (fun h => ?_)
  · refine lv_iconst (v := (-1)) hx hb dX0_needs_24 (by decide) ?_
    exact hret _ _ _ _ _ _ _ ⟨Option.some.inj h, rfl⟩ B dX0_needs_25
  · refine lv_iload_n hx hb dX0_needs_13 rfl (lv_at hL 2 rfl) ?_
    refine lv_bipush (v := (-20)) hx hb dX0_needs_14 (by decide) ?_
    refine lv_bipush (v := 20) hx hb dX0_needs_16 (by decide) ?_
    refine k_X0_isIn C B q1247 (Nat.le_trans (Nat.le_of_ble_eq_true rfl) hF) (Nat.le_trans (Nat.le_of_ble_eq_true rfl) hN) hL.1 (Nat.le_of_ble_eq_true rfl) ⟨Nat.zero_le _, Nat.zero_le _⟩ h dX0_needs_18 (fun q3 h H locs B => ?_)
    refine gg_if_ne hx hb 26 h dX0_needs_21 (by decide) (fun h => ?_) (fun h => ?_)
    · refine lv_aload_n hx hb dX0_needs_26 rfl (lv_at hL 0 rfl) ?_
      refine k_X0_clearRow ht C B q1460 (Nat.le_trans (Nat.le_of_ble_eq_true rfl) hF) (Nat.le_trans (Nat.le_of_ble_eq_true rfl) hN) hL.1 (Nat.le_of_ble_eq_true rfl) ⟨Nat.zero_le _, Nat.zero_le _⟩ h dX0_needs_27 (fun q4 h H locs B => ?_)
      refine lv_iconst (v := 1) hx hb dX0_needs_30 (by decide) ?_
      refine lv_istore_n (lv' := [(3, .int 1), (0, .ref (ad a0)), (1, .int x1), (2, .int x2)]) hx hb dX0_needs_31 rfl hL (by decide) rfl (fun ls hL => ?_)
      obtain ⟨E32, h832, h⟩ := g_ob h
      have kx32 : ∀ (gie32 : GI) (H : Heap) (locs : List Loc) (ls : Array Slot), Sum.inl gie32 = E32 → XB D cA ad hk nx A s gie32 gr H locs → lv_has ls 4 [] → W p l e R s m args below meth c H locs 0 0 Q (F0 m 113 ls []) := by
        intro gie32 H locs ls he B hL
        subst he
        have h : f_X0_needs_x32 hk gr gie32 = some r := h
        unfold f_X0_needs_x32 at h
        refine lv_iconst (v := (-1)) hx hb dX0_needs_113 (by decide) ?_
        exact hret _ _ _ _ _ _ _ ⟨Option.some.inj h, rfl⟩ B dX0_needs_114
      have kr32 : ∀ (v : Int32) (g' : GI) (H : Heap) (locs : List Loc) (ls : Array Slot) (pc : Nat), Sum.inr (v, g') = E32 → XB D cA ad hk nx A s g' gr H locs → decode cX0_needs pc = .ok (.ireturn, 1) → W p l e R s m args below meth c H locs 0 0 Q (F0 m pc ls [.int v]) := by
        intro v g' H locs ls pc he B hd
        subst he
        have h := g_er h
        exact hret _ _ _ _ _ _ _ ⟨Option.some.inj h, rfl⟩ B hd
      have hl32 : ∀ (k : Nat) (x3l32 : Int32) (gil32 : GI) (H : Heap) (locs : List Loc) (ls : Array Slot), g_loop k (fun (s : Int32 × GI) => f_X0_needs_l32 hk gr a0 x1 x2 s.1 s.2) (x3l32, gil32) = some E32 → XB D cA ad hk nx A s gil32 gr H locs → lv_has ls 4 [(0, .ref (ad a0)), (1, .int x1), (2, .int x2), (3, .int x3l32)] → W p l e R s m args below meth c H locs 0 0 Q (F0 m 32 ls []) := by
        intro k
        induction k with
        | zero => intro x3l32 gil32 H locs ls h; exact absurd h (fun z => g_loop_0 z)
        | succ k ih32 =>
          intro x3l32 gil32 H locs ls h B hL
          obtain ⟨Z32, h, h932⟩ := g_loop_s h
          have h : f_X0_needs_l32 hk gr a0 x1 x2 x3l32 gil32 = some Z32 := h
          unfold f_X0_needs_l32 at h
          have hj96 : ∀ (gij96 : GI) (H : Heap) (locs : List Loc) (ls : Array Slot), f_X0_needs_j96 hk gr a0 x1 x2 gij96 = some Z32 → XB D cA ad hk nx A s gij96 gr H locs → lv_has ls 4 [(0, .ref (ad a0)), (1, .int x1), (2, .int x2)] → W p l e R s m args below meth c H locs 0 0 Q (F0 m 96 ls []) := by
            intro gij96 H locs ls h B hL
            unfold f_X0_needs_j96 at h
            refine lv_aload_n hx hb dX0_needs_96 rfl (lv_at hL 0 rfl) ?_
            refine lv_aload_n hx hb dX0_needs_97 rfl (lv_at hL 0 rfl) ?_
            refine lv_aload_n hx hb dX0_needs_98 rfl (lv_at hL 0 rfl) ?_
            refine xx_gr (ci := 0) (k := 5) C B xc_0 ht (by decide) (Nat.le_of_ble_eq_true rfl) rfl q364 (fun _ h => h) h dX0_needs_99 (fun v8 ok9 h => ?_)
            refine lv_iload_n hx hb dX0_needs_102 rfl (lv_at hL 1 rfl) ?_
            refine k_X0_left_2 ht C B q1367 (Nat.le_trans (Nat.le_of_ble_eq_true rfl) hF) (Nat.le_trans (Nat.le_of_ble_eq_true rfl) hN) hL.1 (Nat.le_of_ble_eq_true rfl) ⟨Nat.zero_le _, Nat.zero_le _⟩ h dX0_needs_103 (fun q10 h H locs B => ?_)
            refine k_X0_nextRow ht C B q1480 (Nat.le_trans (Nat.le_of_ble_eq_true rfl) hF) (Nat.le_trans (Nat.le_of_ble_eq_true rfl) hN) hL.1 (Nat.le_of_ble_eq_true rfl) ⟨Nat.zero_le _, Nat.zero_le _⟩ h dX0_needs_106 (fun q11 h H locs B => ?_)
            refine lv_istore_n (lv' := [(3, .int q11.1), (0, .ref (ad a0)), (1, .int x1), (2, .int x2)]) hx hb dX0_needs_109 rfl hL (by decide) rfl (fun ls hL => ?_)
            refine lv_goto (tgt := 32) hx hb dX0_needs_110 (by decide) ?_
            exact ih32 _ _ _ _ _ (g_next h h932) B (lv_sub hL [1, 2, 3, 0] rfl)
          refine lv_iload_n hx hb dX0_needs_32 rfl (lv_at hL 3 rfl) ?_
          refine gg_if_eq hx hb 113 h dX0_needs_33 (by decide) (fun h => ?_) (fun h => ?_)
          · exact kx32 _ _ _ _ (g_exit h h932) B (lv_sub hL [] rfl)
          · refine lv_aload_n hx hb dX0_needs_36 rfl (lv_at hL 0 rfl) ?_
            refine lv_aload_n hx hb dX0_needs_37 rfl (lv_at hL 0 rfl) ?_
            refine xx_gr (ci := 0) (k := 5) C B xc_0 ht (by decide) (Nat.le_of_ble_eq_true rfl) rfl q364 (fun _ h => h) h dX0_needs_38 (fun v5 ok6 h => ?_)
            refine lv_iload_n hx hb dX0_needs_41 rfl (lv_at hL 1 rfl) ?_
            refine k_X0_isRowOf ht C B q1464 (Nat.le_trans (Nat.le_of_ble_eq_true rfl) hF) (Nat.le_trans (Nat.le_of_ble_eq_true rfl) hN) hL.1 (Nat.le_of_ble_eq_true rfl) ⟨Nat.zero_le _, Nat.zero_le _⟩ h dX0_needs_42 (fun q7 h H locs B => ?_)
            refine gg_if_eq hx hb 96 h dX0_needs_45 (by decide) (fun h => ?_) (fun h => ?_)
            · exact hj96 _ _ _ _ h B (lv_sub hL [0, 1, 2] rfl)
            · refine lv_aload_n hx hb dX0_needs_48 rfl (lv_at hL 0 rfl) ?_
              refine lv_aload_n hx hb dX0_needs_49 rfl (lv_at hL 0 rfl) ?_
              refine xx_gr (ci := 0) (k := 5) C B xc_0 ht (by decide) (Nat.le_of_ble_eq_true rfl) rfl q364 (fun _ h => h) h dX0_needs_50 (fun v12 ok13 h => ?_)
              refine lv_iload_n hx hb dX0_needs_53 rfl (lv_at hL 1 rfl) ?_
              refine lv_iconst (v := 0) hx hb dX0_needs_54 (by decide) ?_
              refine k_X0_growthBy ht C B q1468 (Nat.le_trans (Nat.le_of_ble_eq_true rfl) hF) (Nat.le_trans (Nat.le_of_ble_eq_true rfl) hN) hL.1 (Nat.le_of_ble_eq_true rfl) ⟨Nat.zero_le _, Nat.zero_le _⟩ h dX0_needs_55 (fun q14 h H locs B => ?_)
              refine lv_iload_n hx hb dX0_needs_58 rfl (lv_at hL 2 rfl) ?_
              refine gg_icmp_lt hx hb 96 h dX0_needs_59 (by decide) (fun h => ?_) (fun h => ?_)
              · exact hj96 _ _ _ _ h B (lv_sub hL [0, 1, 2] rfl)
              · refine lv_aload_n hx hb dX0_needs_62 rfl (lv_at hL 0 rfl) ?_
                refine xx_gr (ci := 0) (k := 13) C B xc_0 ht (by decide) (Nat.le_of_ble_eq_true rfl) rfl q373 (fun _ h => h) h dX0_needs_63 (fun v15 ok16 h => ?_)
                refine lv_iconst (v := 0) hx hb dX0_needs_66 (by decide) ?_
                refine lv_aload_n hx hb dX0_needs_67 rfl (lv_at hL 0 rfl) ?_
                refine xx_gr (ci := 0) (k := 15) C B xc_0 ht (by decide) (Nat.le_of_ble_eq_true rfl) rfl q375 (fun _ h => h) h dX0_needs_68 (fun v17 ok18 h => ?_)
                refine lv_iconst (v := 0) hx hb dX0_needs_71 (by decide) ?_
                refine lv_aload_n hx hb dX0_needs_72 rfl (lv_at hL 0 rfl) ?_
                refine k_X0_kinds ht C B q1345 (Nat.le_trans (Nat.le_of_ble_eq_true rfl) hF) (Nat.le_trans (Nat.le_of_ble_eq_true rfl) hN) hL.1 (Nat.le_of_ble_eq_true rfl) ⟨Nat.zero_le _, Nat.zero_le _⟩ h dX0_needs_73 (fun q19 h H locs B => ?_)
                refine xx_is h (fun hp20 h => ?_)
                refine xx_is h (fun hp21 h => ?_)
                refine xx_cpi C B q1380 q596 q595 q159 hp20 hp21 (Nat.le_trans (Nat.le_of_ble_eq_true rfl) hF) (Nat.le_trans (Nat.le_of_ble_eq_true rfl) hN) hL.1 (Nat.le_of_ble_eq_true rfl) h dX0_needs_76 (fun gi22 h H locs B => ?_)
                refine lv_aload_n hx hb dX0_needs_79 rfl (lv_at hL 0 rfl) ?_
                refine lv_aload_n hx hb dX0_needs_80 rfl (lv_at hL 0 rfl) ?_
                refine k_X0_kinds ht C B q1345 (Nat.le_trans (Nat.le_of_ble_eq_true rfl) hF) (Nat.le_trans (Nat.le_of_ble_eq_true rfl) hN) hL.1 (Nat.le_of_ble_eq_true rfl) ⟨Nat.zero_le _, Nat.zero_le _⟩ h dX0_needs_81 (fun q23 h H locs B => ?_)
                refine xx_pi (ci := 0) (k := 18) C B xc_0 ht (by decide) (Nat.le_of_ble_eq_true rfl) rfl q378 (fun _ h => h) rfl rfl rfl h dX0_needs_84 (fun gi24 h H locs B => ?_)
                refine lv_aload_n hx hb dX0_needs_87 rfl (lv_at hL 0 rfl) ?_
                refine xx_gr (ci := 0) (k := 13) C B xc_0 ht (by decide) (Nat.le_of_ble_eq_true rfl) rfl q373 (fun _ h => h) h dX0_needs_88 (fun v25 ok26 h => ?_)
                refine lv_iconst (v := 0) hx hb dX0_needs_91 (by decide) ?_
                refine k_X0_sum C B q1477 (Nat.le_trans (Nat.le_of_ble_eq_true rfl) hF) (Nat.le_trans (Nat.le_of_ble_eq_true rfl) hN) hL.1 (Nat.le_of_ble_eq_true rfl) ⟨Nat.zero_le _, Nat.zero_le _⟩ h dX0_needs_92 (fun q27 h H locs B => ?_)
                exact kr32 _ _ _ _ _ _ (g_exit h h932) B dX0_needs_95
      exact hl32 g_K _ _ _ _ _ h832 B (lv_sub hL [1, 2, 3, 0] rfl)
    · refine lv_iconst (v := (-1)) hx hb dX0_needs_24 (by decide) ?_
      exact hret _ _ _ _ _ _ _ ⟨Option.some.inj h, rfl⟩ B dX0_needs_25
theorem k_X0_needs {p : Program} {l : Launch} {e : Env} {R : Room} {s : State} {m : MethodId} {args : Array Value} {below : List Frame} {meth : Method} {c : Code} {H : Heap} {locs : List Loc} {Q : State → Prop} {pc : Nat} {ls : Array Slot} {rest : List Value} {cc : ByteArray} {nL cells slots : Nat} {D : va_G} {cA : Nat → ClassId} {ad : Nat → Nat} {hk : HK} {nx : Nat} {A : Nat → Prop} {gi : GI} {gr : GR} {α : Type} {r : α} {own : String} {idx : Nat} {a0 : Nat} {x1 : Int32} {x2 : Int32} {ff : (Int32 × GI) → Option α} (ht : (hk a0).1 = 10) (C : CallFix p m c cc nL s args lw_all own) (B : XB D cA ad hk nx A s gi gr H locs) (hq : Cond.methodLink own idx yX0_needs ∈ lw_all) (hF : 108 ≤ R.frames) (hN : 3211 ≤ R.locals) (hs : ls.size = nL) (hw : (rest.map fun v => v.category).sum ≤ 8) (hz0 : cells ≤ R.cells ∧ slots ≤ R.slots) (h : (f_X0_needs hk gi gr a0 x1 x2).bind ff = some r) (hdg : decode cc pc = .ok (.invokevirtual idx, 3)) (kk : ∀ q, ff q = some r → ∀ (H' : Heap) (locs' : List Loc), XB D cA ad hk nx A s q.2 gr H' locs' → W p l e R s m args below meth c H' locs' cells slots Q (F0 m (pc + 3) ls (.int q.1 :: rest))) : W p l e R s m args below meth c H locs cells slots Q (F0 m pc ls (.int x2 :: .int x1 :: .ref (ad a0) :: rest)) := by
  obtain ⟨q, h1, h2⟩ := g_ob h
  refine xx_cVI (As := [.int x1, .int x2]) (rest := rest) (n := 2) xc_0 ht (by decide) C B (fun sz => w_X0_needs l D cA ad hk nx gi gr a0 x1 x2 ht q h1 sz) hq q1497 q1498 q141 q1499 (by decide +kernel) ⟨hF, hN⟩ rfl hs hw hz0 hdg (fun v u H9 locs9 hp B9 => ?_)
  obtain ⟨e1, e3⟩ := hp
  rw [e3] at B9
  subst e1
  exact kk _ h2 H9 locs9 B9
def f_X0_arePooled_l5 (hk : HK) (gii5 : GI) (gri5 : GR) (a0i5 : Nat) (x1i5 : Int32) (x2i5 : Int32) (x3l5 : Int32) (x4l5 : Int32) : Option ((Int32 × Int32) ⊕ (Int32)) :=
  if 3 ≤ x4l5 then
  (some (.inr x3l5))
  else
  (if x3l5 = 0 then
  (some (.inl ((0, x4l5 + 1))))
  else
  ((gri5 a0i5 19).bind fun v1 =>
  (g_is hk v1 0).bind fun _ =>
  (g_ld gii5 v1 (hk v1).2 x4l5).bind fun v4 =>
  (gri5 a0i5 19).bind fun v5 =>
  (g_is hk v5 0).bind fun _ =>
  (g_ld gii5 v5 (hk v5).2 (3 + x4l5)).bind fun v8 =>
  (gri5 a0i5 5).bind fun v9 =>
  (g_is hk v9 13).bind fun _ =>
  (f_X3_purse hk gii5 gri5 v9 x1i5 x4l5).bind fun q12 =>
  (gri5 a0i5 5).bind fun v13 =>
  (g_is hk v13 13).bind fun _ =>
  (f_X3_purse hk gii5 gri5 v13 x2i5 x4l5).bind fun q16 =>
  if (q12 + q16) < (v4 + v8) then
  (some (.inl ((0, x4l5 + 1))))
  else
  (some (.inl ((1, x4l5 + 1))))))
def f_X0_arePooled_x5 (hk : HK) (giy5 : GI) (gry5 : GR) (x3e5 : Int32) : Option (Int32) :=
  (g_zb x3e5).bind fun _ =>
  some x3e5
def f_X0_arePooled (hk : HK) (gi : GI) (gr : GR) (a0 : Nat) (x1 : Int32) (x2 : Int32) : Option (Int32) :=
  (g_loop g_K (fun (s : Int32 × Int32) => f_X0_arePooled_l5 hk gi gr a0 x1 x2 s.1 s.2) (1, 0)).bind fun E5 => f_X0_arePooled_x5 hk gi gr E5
set_option maxHeartbeats 400000 in
theorem w_X0_arePooled (l : Launch) (D : va_G) (cA : Nat → ClassId) (ad : Nat → Nat) (hk : HK) (nx : Nat) (gi : GI) (gr : GR) (a0 : Nat) (x1 : Int32) (x2 : Int32) (ht : (hk a0).1 = 10) (r : Int32) (h : f_X0_arePooled hk gi gr a0 x1 x2 = some r) (sz : Nat) : Met l yX0_arePooled (ws_ yX0_arePooled cX0_arePooled 5 (some .boolean)) ({ frames := 2, cells := 0, slots := 0, locals := 86 } : Room) (va_Pc [.ref (ad a0), .int x1, .int x2] (XPre D cA ad hk nx gi gr sz)) (va_Qi (fun v u => v = r ∧ u.1 = gi ∧ u.2 = gr) (XPost D cA ad hk nx) (XA ad nx sz)) 0 0 (XA ad nx sz) := by
  refine xx_stZ (own := RX0) (P := (fun v u => v = r ∧ u.1 = gi ∧ u.2 = gr)) (by decide +kernel) rfl (Nat.le_of_ble_eq_true rfl) (fun p e s m args below meth c R Q A ls C hF hN B hret hL => ?_) sz
  have hx := C.1
  have hb := C.2.1
  have hL : lv_has ls 5 [(0, .ref (ad a0)), (1, .int x1), (2, .int x2)] := hL
  unfold f_X0_arePooled at h
  refine lv_iconst (v := 1) hx hb dX0_arePooled_0 (by decide) ?_
  refine lv_istore_n (lv' := [(3, .int 1), (0, .ref (ad a0)), (1, .int x1), (2, .int x2)]) hx hb dX0_arePooled_1 rfl hL (by decide) rfl (fun ls hL => ?_)
  refine lv_iconst (v := 0) hx hb dX0_arePooled_2 (by decide) ?_
  refine lv_istore (lv' := [(4, .int 0), (3, .int 1), (0, .ref (ad a0)), (1, .int x1), (2, .int x2)]) hx hb dX0_arePooled_3 hL (by decide) rfl (fun ls hL => ?_)
  obtain ⟨E5, h85, h⟩ := g_ob h
  have kx5 : ∀ (x3e5 : Int32) (H : Heap) (locs : List Loc) (ls : Array Slot), x3e5 = E5 → XB D cA ad hk nx A s gi gr H locs → lv_has ls 5 [(3, .int x3e5)] → W p l e R s m args below meth c H locs 0 0 Q (F0 m 68 ls []) := by
    intro x3e5 H locs ls he B hL
    subst he
    have h : f_X0_arePooled_x5 hk gi gr x3e5 = some r := h
    unfold f_X0_arePooled_x5 at h
    refine lv_iload_n hx hb dX0_arePooled_68 rfl (lv_at hL 0 rfl) ?_
    refine mm_zb h (fun hz h => ?_)
    exact hret _ _ _ _ _ _ _ ⟨Option.some.inj h, rfl, rfl⟩ hz B dX0_arePooled_69
  have hl5 : ∀ (k : Nat) (x3l5 : Int32) (x4l5 : Int32) (H : Heap) (locs : List Loc) (ls : Array Slot), g_loop k (fun (s : Int32 × Int32) => f_X0_arePooled_l5 hk gi gr a0 x1 x2 s.1 s.2) (x3l5, x4l5) = some E5 → XB D cA ad hk nx A s gi gr H locs → lv_has ls 5 [(0, .ref (ad a0)), (1, .int x1), (2, .int x2), (3, .int x3l5), (4, .int x4l5)] → W p l e R s m args below meth c H locs 0 0 Q (F0 m 5 ls []) := by
    intro k
    induction k with
    | zero => intro x3l5 x4l5 H locs ls h; exact absurd h (fun z => g_loop_0 z)
    | succ k ih5 =>
      intro x3l5 x4l5 H locs ls h B hL
      obtain ⟨Z5, h, h95⟩ := g_loop_s h
      have h : f_X0_arePooled_l5 hk gi gr a0 x1 x2 x3l5 x4l5 = some Z5 := h
      unfold f_X0_arePooled_l5 at h
      refine lv_iload hx hb dX0_arePooled_5 (lv_at hL 4 rfl) ?_
      refine lv_iconst (v := 3) hx hb dX0_arePooled_7 (by decide) ?_
      refine gg_icmp_ge hx hb 68 h dX0_arePooled_8 (by decide) (fun h => ?_) (fun h => ?_)
      · exact kx5 _ _ _ _ (g_exit h h95) B (lv_sub hL [3] rfl)
      · refine lv_iload_n hx hb dX0_arePooled_11 rfl (lv_at hL 3 rfl) ?_
        refine gg_if_eq hx hb 60 h dX0_arePooled_12 (by decide) (fun h => ?_) (fun h => ?_)
        · refine lv_iconst (v := 0) hx hb dX0_arePooled_60 (by decide) ?_
          refine lv_istore_n (lv' := [(3, .int 0), (0, .ref (ad a0)), (1, .int x1), (2, .int x2), (4, .int x4l5)]) hx hb dX0_arePooled_61 rfl hL (by decide) rfl (fun ls hL => ?_)
          refine lv_iinc (v := x4l5 + 1) (lv' := [(4, .int (x4l5 + 1)), (3, .int 0), (0, .ref (ad a0)), (1, .int x1), (2, .int x2)]) hx hb dX0_arePooled_62 hL (k := 4) rfl rfl (by decide) rfl (fun ls hL => ?_)
          refine lv_goto (tgt := 5) hx hb dX0_arePooled_65 (by decide) ?_
          exact ih5 _ _ _ _ _ (g_next h h95) B (lv_sub hL [2, 3, 4, 1, 0] rfl)
        · refine lv_aload_n hx hb dX0_arePooled_15 rfl (lv_at hL 0 rfl) ?_
          refine xx_gr (ci := 0) (k := 19) C B xc_0 ht (by decide) (Nat.le_of_ble_eq_true rfl) rfl q379 (fun _ h => h) h dX0_arePooled_16 (fun v1 ok2 h => ?_)
          refine lv_iload hx hb dX0_arePooled_19 (lv_at hL 4 rfl) ?_
          refine xx_is h (fun hp3 h => ?_)
          refine xx_iald C B hp3 h dX0_arePooled_21 (fun v4 h => ?_)
          refine lv_aload_n hx hb dX0_arePooled_22 rfl (lv_at hL 0 rfl) ?_
          refine xx_gr (ci := 0) (k := 19) C B xc_0 ht (by decide) (Nat.le_of_ble_eq_true rfl) rfl q379 (fun _ h => h) h dX0_arePooled_23 (fun v5 ok6 h => ?_)
          refine lv_iconst (v := 3) hx hb dX0_arePooled_26 (by decide) ?_
          refine lv_iload hx hb dX0_arePooled_27 (lv_at hL 4 rfl) ?_
          refine lv_iadd hx hb dX0_arePooled_29 ?_
          refine xx_is h (fun hp7 h => ?_)
          refine xx_iald C B hp7 h dX0_arePooled_30 (fun v8 h => ?_)
          refine lv_iadd hx hb dX0_arePooled_31 ?_
          refine lv_aload_n hx hb dX0_arePooled_32 rfl (lv_at hL 0 rfl) ?_
          refine xx_gr (ci := 0) (k := 5) C B xc_0 ht (by decide) (Nat.le_of_ble_eq_true rfl) rfl q364 (fun _ h => h) h dX0_arePooled_33 (fun v9 ok10 h => ?_)
          refine lv_iload_n hx hb dX0_arePooled_36 rfl (lv_at hL 1 rfl) ?_
          refine lv_iload hx hb dX0_arePooled_37 (lv_at hL 4 rfl) ?_
          refine xx_is h (fun hp11 h => ?_)
          refine k_X3_purse hp11 C B q1349 (Nat.le_trans (Nat.le_of_ble_eq_true rfl) hF) (Nat.le_trans (Nat.le_of_ble_eq_true rfl) hN) hL.1 (Nat.le_of_ble_eq_true rfl) ⟨Nat.zero_le _, Nat.zero_le _⟩ h dX0_arePooled_39 (fun q12 h H locs B => ?_)
          refine lv_aload_n hx hb dX0_arePooled_42 rfl (lv_at hL 0 rfl) ?_
          refine xx_gr (ci := 0) (k := 5) C B xc_0 ht (by decide) (Nat.le_of_ble_eq_true rfl) rfl q364 (fun _ h => h) h dX0_arePooled_43 (fun v13 ok14 h => ?_)
          refine lv_iload_n hx hb dX0_arePooled_46 rfl (lv_at hL 2 rfl) ?_
          refine lv_iload hx hb dX0_arePooled_47 (lv_at hL 4 rfl) ?_
          refine xx_is h (fun hp15 h => ?_)
          refine k_X3_purse hp15 C B q1349 (Nat.le_trans (Nat.le_of_ble_eq_true rfl) hF) (Nat.le_trans (Nat.le_of_ble_eq_true rfl) hN) hL.1 (Nat.le_of_ble_eq_true rfl) ⟨Nat.zero_le _, Nat.zero_le _⟩ h dX0_arePooled_49 (fun q16 h H locs B => ?_)
          refine lv_iadd hx hb dX0_arePooled_52 ?_
          refine gg_icmp_gt hx hb 60 h dX0_arePooled_53 (by decide) (fun h => ?_) (fun h => ?_)
          · refine lv_iconst (v := 0) hx hb dX0_arePooled_60 (by decide) ?_
            refine lv_istore_n (lv' := [(3, .int 0), (0, .ref (ad a0)), (1, .int x1), (2, .int x2), (4, .int x4l5)]) hx hb dX0_arePooled_61 rfl hL (by decide) rfl (fun ls hL => ?_)
            refine lv_iinc (v := x4l5 + 1) (lv' := [(4, .int (x4l5 + 1)), (3, .int 0), (0, .ref (ad a0)), (1, .int x1), (2, .int x2)]) hx hb dX0_arePooled_62 hL (k := 4) rfl rfl (by decide) rfl (fun ls hL => ?_)
            refine lv_goto (tgt := 5) hx hb dX0_arePooled_65 (by decide) ?_
            exact ih5 _ _ _ _ _ (g_next h h95) B (lv_sub hL [2, 3, 4, 1, 0] rfl)
          · refine lv_iconst (v := 1) hx hb dX0_arePooled_56 (by decide) ?_
            refine lv_goto (tgt := 61) hx hb dX0_arePooled_57 (by decide) ?_
            refine lv_istore_n (lv' := [(3, .int 1), (0, .ref (ad a0)), (1, .int x1), (2, .int x2), (4, .int x4l5)]) hx hb dX0_arePooled_61 rfl hL (by decide) rfl (fun ls hL => ?_)
            refine lv_iinc (v := x4l5 + 1) (lv' := [(4, .int (x4l5 + 1)), (3, .int 1), (0, .ref (ad a0)), (1, .int x1), (2, .int x2)]) hx hb dX0_arePooled_62 hL (k := 4) rfl rfl (by decide) rfl (fun ls hL => ?_)
            refine lv_goto (tgt := 5) hx hb dX0_arePooled_65 (by decide) ?_
            exact ih5 _ _ _ _ _ (g_next h h95) B (lv_sub hL [2, 3, 4, 1, 0] rfl)
  exact hl5 g_K _ _ _ _ _ h85 B (lv_sub hL [2, 3, 4, 1, 0] rfl)
theorem k_X0_arePooled {p : Program} {l : Launch} {e : Env} {R : Room} {s : State} {m : MethodId} {args : Array Value} {below : List Frame} {meth : Method} {c : Code} {H : Heap} {locs : List Loc} {Q : State → Prop} {pc : Nat} {ls : Array Slot} {rest : List Value} {cc : ByteArray} {nL cells slots : Nat} {D : va_G} {cA : Nat → ClassId} {ad : Nat → Nat} {hk : HK} {nx : Nat} {A : Nat → Prop} {gi : GI} {gr : GR} {α : Type} {r : α} {own : String} {idx : Nat} {a0 : Nat} {x1 : Int32} {x2 : Int32} {ff : Int32 → Option α} (ht : (hk a0).1 = 10) (C : CallFix p m c cc nL s args lw_all own) (B : XB D cA ad hk nx A s gi gr H locs) (hq : Cond.methodLink own idx yX0_arePooled ∈ lw_all) (hF : 3 ≤ R.frames) (hN : 110 ≤ R.locals) (hs : ls.size = nL) (hw : (rest.map fun v => v.category).sum ≤ 8) (hz0 : cells ≤ R.cells ∧ slots ≤ R.slots) (h : (f_X0_arePooled hk gi gr a0 x1 x2).bind ff = some r) (hdg : decode cc pc = .ok (.invokevirtual idx, 3)) (kk : ∀ q, ff q = some r → ∀ (H' : Heap) (locs' : List Loc), XB D cA ad hk nx A s gi gr H' locs' → W p l e R s m args below meth c H' locs' cells slots Q (F0 m (pc + 3) ls (.int q :: rest))) : W p l e R s m args below meth c H locs cells slots Q (F0 m pc ls (.int x2 :: .int x1 :: .ref (ad a0) :: rest)) := by
  obtain ⟨q, h1, h2⟩ := g_ob h
  refine xx_cVI (As := [.int x1, .int x2]) (rest := rest) (n := 2) xc_0 ht (by decide) C B (fun sz => w_X0_arePooled l D cA ad hk nx gi gr a0 x1 x2 ht q h1 sz) hq q1515 qs56 q141 q1516 (by decide +kernel) ⟨hF, hN⟩ rfl hs hw hz0 hdg (fun v u H9 locs9 hp B9 => ?_)
  obtain ⟨e1, e2, e3⟩ := hp
  rw [e2] at B9
  rw [e3] at B9
  subst e1
  exact kk _ h2 H9 locs9 B9
def f_X0_laysRow_l6 (hk : HK) (gri6 : GR) (a0i6 : Nat) (x2i6 : Int32) (x3i6 : Int32) (x4l6 : Int32) (x5l6 : Int32) (gil6 : GI) : Option ((Int32 × Int32 × GI) ⊕ (GI)) :=
  if x5l6 < 0 then
  (some (.inr gil6))
  else
  ((gri6 a0i6 19).bind fun v1 =>
  (g_is hk v1 0).bind fun _ =>
  (g_st gil6 v1 (hk v1).2 (x2i6 + x5l6) (x4l6 - x4l6 / 4 * 4)).bind fun gi4 =>
  some (.inl ((x4l6 / 4, x5l6 + (-1), gi4))))
def f_X0_laysRow_l61 (hk : HK) (gii61 : GI) (gri61 : GR) (a0i61 : Nat) (x2i61 : Int32) (x5l61 : Int32) (x6l61 : Int32) : Option ((Int32 × Int32) ⊕ (Int32)) :=
  if 3 ≤ x6l61 then
  (some (.inr x5l61))
  else
  (if x5l61 = 0 then
  (some (.inl ((0, x6l61 + 1))))
  else
  ((gri61 a0i61 19).bind fun v9 =>
  (g_is hk v9 0).bind fun _ =>
  (g_ld gii61 v9 (hk v9).2 (x2i61 + x6l61)).bind fun v12 =>
  if v12 = 0 then
  (some (.inl ((1, x6l61 + 1))))
  else
  (some (.inl ((0, x6l61 + 1))))))
def f_X0_laysRow_x61 (hk : HK) (giy61 : GI) (gry61 : GR) (x5e61 : Int32) : Option (Int32 × GI) :=
  (g_zb x5e61).bind fun _ =>
  some (x5e61, giy61)
def f_X0_laysRow_j53 (hk : HK) (grj53 : GR) (a0j53 : Nat) (x2j53 : Int32) (gij53 : GI) (t0j53 : Int32) : Option (Int32 × GI) :=
  (f_X0_kinds hk gij53 grj53 a0j53).bind fun q8 =>
  (g_loop g_K (fun (s : Int32 × Int32) => f_X0_laysRow_l61 hk gij53 grj53 a0j53 x2j53 s.1 s.2) (t0j53, q8)).bind fun E61 => f_X0_laysRow_x61 hk gij53 grj53 E61
def f_X0_laysRow_x6 (hk : HK) (gry6 : GR) (a0y6 : Nat) (x2y6 : Int32) (x3y6 : Int32) (gie6 : GI) : Option (Int32 × GI) :=
  (gry6 a0y6 19).bind fun v5 =>
  (f_X0_sum hk gie6 gry6 v5 x2y6).bind fun q7 =>
  if x3y6 < q7 then
  (f_X0_laysRow_j53 hk gry6 a0y6 x2y6 gie6 0)
  else
  (f_X0_laysRow_j53 hk gry6 a0y6 x2y6 gie6 1)
def f_X0_laysRow (hk : HK) (gi : GI) (gr : GR) (a0 : Nat) (x1 : Int32) (x2 : Int32) (x3 : Int32) : Option (Int32 × GI) :=
  (g_loop g_K (fun (s : Int32 × Int32 × GI) => f_X0_laysRow_l6 hk gr a0 x2 x3 s.1 s.2.1 s.2.2) (x1, 2, gi)).bind fun E6 => f_X0_laysRow_x6 hk gr a0 x2 x3 E6
set_option maxHeartbeats 400000 in
theorem w_X0_laysRow (l : Launch) (D : va_G) (cA : Nat → ClassId) (ad : Nat → Nat) (hk : HK) (nx : Nat) (gi : GI) (gr : GR) (a0 : Nat) (x1 : Int32) (x2 : Int32) (x3 : Int32) (ht : (hk a0).1 = 10) (r : Int32 × GI) (h : f_X0_laysRow hk gi gr a0 x1 x2 x3 = some r) (sz : Nat) : Met l yX0_laysRow (ws_ yX0_laysRow cX0_laysRow 7 (some .boolean)) ({ frames := 3, cells := 0, slots := 0, locals := 104 } : Room) (va_Pc [.ref (ad a0), .int x1, .int x2, .int x3] (XPre D cA ad hk nx gi gr sz)) (va_Qi (fun v u => (v, u.1) = r ∧ u.2 = gr) (XPost D cA ad hk nx) (XA ad nx sz)) 0 0 (XA ad nx sz) := by
  refine xx_stZ (own := RX0) (P := (fun v u => (v, u.1) = r ∧ u.2 = gr)) (by decide +kernel) rfl (Nat.le_of_ble_eq_true rfl) (fun p e s m args below meth c R Q A ls C hF hN B hret hL => ?_) sz
  have hx := C.1
  have hb := C.2.1
  have hL : lv_has ls 7 [(0, .ref (ad a0)), (1, .int x1), (2, .int x2), (3, .int x3)] := hL
  unfold f_X0_laysRow at h
  have hj53 : ∀ (gij53 : GI) (t0j53 : Int32) (H : Heap) (locs : List Loc) (ls : Array Slot), f_X0_laysRow_j53 hk gr a0 x2 gij53 t0j53 = some r → XB D cA ad hk nx A s gij53 gr H locs → lv_has ls 7 [(0, .ref (ad a0)), (2, .int x2)] → W p l e R s m args below meth c H locs 0 0 Q (F0 m 53 ls [.int t0j53]) := by
    intro gij53 t0j53 H locs ls h B hL
    unfold f_X0_laysRow_j53 at h
    refine lv_istore (lv' := [(5, .int t0j53), (0, .ref (ad a0)), (2, .int x2)]) hx hb dX0_laysRow_53 hL (by decide) rfl (fun ls hL => ?_)
    refine lv_aload_n hx hb dX0_laysRow_55 rfl (lv_at hL 1 rfl) ?_
    refine k_X0_kinds ht C B q1345 (Nat.le_trans (Nat.le_of_ble_eq_true rfl) hF) (Nat.le_trans (Nat.le_of_ble_eq_true rfl) hN) hL.1 (Nat.le_of_ble_eq_true rfl) ⟨Nat.zero_le _, Nat.zero_le _⟩ h dX0_laysRow_56 (fun q8 h H locs B => ?_)
    refine lv_istore (lv' := [(6, .int q8), (5, .int t0j53), (0, .ref (ad a0)), (2, .int x2)]) hx hb dX0_laysRow_59 hL (by decide) rfl (fun ls hL => ?_)
    obtain ⟨E61, h861, h⟩ := g_ob h
    have kx61 : ∀ (x5e61 : Int32) (H : Heap) (locs : List Loc) (ls : Array Slot), x5e61 = E61 → XB D cA ad hk nx A s gij53 gr H locs → lv_has ls 7 [(5, .int x5e61)] → W p l e R s m args below meth c H locs 0 0 Q (F0 m 97 ls []) := by
      intro x5e61 H locs ls he B hL
      subst he
      have h : f_X0_laysRow_x61 hk gij53 gr x5e61 = some r := h
      unfold f_X0_laysRow_x61 at h
      refine lv_iload hx hb dX0_laysRow_97 (lv_at hL 0 rfl) ?_
      refine mm_zb h (fun hz h => ?_)
      exact hret _ _ _ _ _ _ _ ⟨Option.some.inj h, rfl⟩ hz B dX0_laysRow_99
    have hl61 : ∀ (k : Nat) (x5l61 : Int32) (x6l61 : Int32) (H : Heap) (locs : List Loc) (ls : Array Slot), g_loop k (fun (s : Int32 × Int32) => f_X0_laysRow_l61 hk gij53 gr a0 x2 s.1 s.2) (x5l61, x6l61) = some E61 → XB D cA ad hk nx A s gij53 gr H locs → lv_has ls 7 [(0, .ref (ad a0)), (2, .int x2), (5, .int x5l61), (6, .int x6l61)] → W p l e R s m args below meth c H locs 0 0 Q (F0 m 61 ls []) := by
      intro k
      induction k with
      | zero => intro x5l61 x6l61 H locs ls h; exact absurd h (fun z => g_loop_0 z)
      | succ k ih61 =>
        intro x5l61 x6l61 H locs ls h B hL
        obtain ⟨Z61, h, h961⟩ := g_loop_s h
        have h : f_X0_laysRow_l61 hk gij53 gr a0 x2 x5l61 x6l61 = some Z61 := h
        unfold f_X0_laysRow_l61 at h
        refine lv_iload hx hb dX0_laysRow_61 (lv_at hL 3 rfl) ?_
        refine lv_iconst (v := 3) hx hb dX0_laysRow_63 (by decide) ?_
        refine gg_icmp_ge hx hb 97 h dX0_laysRow_64 (by decide) (fun h => ?_) (fun h => ?_)
        · exact kx61 _ _ _ _ (g_exit h h961) B (lv_sub hL [2] rfl)
        · refine lv_iload hx hb dX0_laysRow_67 (lv_at hL 2 rfl) ?_
          refine gg_if_eq hx hb 88 h dX0_laysRow_69 (by decide) (fun h => ?_) (fun h => ?_)
          · refine lv_iconst (v := 0) hx hb dX0_laysRow_88 (by decide) ?_
            refine lv_istore (lv' := [(5, .int 0), (0, .ref (ad a0)), (2, .int x2), (6, .int x6l61)]) hx hb dX0_laysRow_89 hL (by decide) rfl (fun ls hL => ?_)
            refine lv_iinc (v := x6l61 + 1) (lv' := [(6, .int (x6l61 + 1)), (5, .int 0), (0, .ref (ad a0)), (2, .int x2)]) hx hb dX0_laysRow_91 hL (k := 3) rfl rfl (by decide) rfl (fun ls hL => ?_)
            refine lv_goto (tgt := 61) hx hb dX0_laysRow_94 (by decide) ?_
            exact ih61 _ _ _ _ _ (g_next h h961) B (lv_sub hL [2, 3, 1, 0] rfl)
          · refine lv_aload_n hx hb dX0_laysRow_72 rfl (lv_at hL 0 rfl) ?_
            refine xx_gr (ci := 0) (k := 19) C B xc_0 ht (by decide) (Nat.le_of_ble_eq_true rfl) rfl q379 (fun _ h => h) h dX0_laysRow_73 (fun v9 ok10 h => ?_)
            refine lv_iload_n hx hb dX0_laysRow_76 rfl (lv_at hL 1 rfl) ?_
            refine lv_iload hx hb dX0_laysRow_77 (lv_at hL 3 rfl) ?_
            refine lv_iadd hx hb dX0_laysRow_79 ?_
            refine xx_is h (fun hp11 h => ?_)
            refine xx_iald C B hp11 h dX0_laysRow_80 (fun v12 h => ?_)
            refine gg_if_ne hx hb 88 h dX0_laysRow_81 (by decide) (fun h => ?_) (fun h => ?_)
            · refine lv_iconst (v := 0) hx hb dX0_laysRow_88 (by decide) ?_
              refine lv_istore (lv' := [(5, .int 0), (0, .ref (ad a0)), (2, .int x2), (6, .int x6l61)]) hx hb dX0_laysRow_89 hL (by decide) rfl (fun ls hL => ?_)
              refine lv_iinc (v := x6l61 + 1) (lv' := [(6, .int (x6l61 + 1)), (5, .int 0), (0, .ref (ad a0)), (2, .int x2)]) hx hb dX0_laysRow_91 hL (k := 3) rfl rfl (by decide) rfl (fun ls hL => ?_)
              refine lv_goto (tgt := 61) hx hb dX0_laysRow_94 (by decide) ?_
              exact ih61 _ _ _ _ _ (g_next h h961) B (lv_sub hL [2, 3, 1, 0] rfl)
            · refine lv_iconst (v := 1) hx hb dX0_laysRow_84 (by decide) ?_
              refine lv_goto (tgt := 89) hx hb dX0_laysRow_85 (by decide) ?_
              refine lv_istore (lv' := [(5, .int 1), (0, .ref (ad a0)), (2, .int x2), (6, .int x6l61)]) hx hb dX0_laysRow_89 hL (by decide) rfl (fun ls hL => ?_)
              refine lv_iinc (v := x6l61 + 1) (lv' := [(6, .int (x6l61 + 1)), (5, .int 1), (0, .ref (ad a0)), (2, .int x2)]) hx hb dX0_laysRow_91 hL (k := 3) rfl rfl (by decide) rfl (fun ls hL => ?_)
              refine lv_goto (tgt := 61) hx hb dX0_laysRow_94 (by decide) ?_
              exact ih61 _ _ _ _ _ (g_next h h961) B (lv_sub hL [2, 3, 1, 0] rfl)
    exact hl61 g_K _ _ _ _ _ h861 B (lv_sub hL [2, 3, 1, 0] rfl)
  refine lv_iload_n hx hb dX0_laysRow_0 rfl (lv_at hL 1 rfl) ?_
  refine lv_istore (lv' := [(4, .int x1), (0, .ref (ad a0)), (1, .int x1), (2, .int x2), (3, .int x3)]) hx hb dX0_laysRow_1 hL (by decide) rfl (fun ls hL => ?_)
  refine lv_iconst (v := 2) hx hb dX0_laysRow_3 (by decide) ?_
  refine lv_istore (lv' := [(5, .int 2), (4, .int x1), (0, .ref (ad a0)), (1, .int x1), (2, .int x2), (3, .int x3)]) hx hb dX0_laysRow_4 hL (by decide) rfl (fun ls hL => ?_)
  obtain ⟨E6, h86, h⟩ := g_ob h
  have kx6 : ∀ (gie6 : GI) (H : Heap) (locs : List Loc) (ls : Array Slot), gie6 = E6 → XB D cA ad hk nx A s gie6 gr H locs → lv_has ls 7 [(0, .ref (ad a0)), (2, .int x2), (3, .int x3)] → W p l e R s m args below meth c H locs 0 0 Q (F0 m 36 ls []) := by
    intro gie6 H locs ls he B hL
    subst he
    have h : f_X0_laysRow_x6 hk gr a0 x2 x3 gie6 = some r := h
    unfold f_X0_laysRow_x6 at h
    refine lv_aload_n hx hb dX0_laysRow_36 rfl (lv_at hL 0 rfl) ?_
    refine xx_gr (ci := 0) (k := 19) C B xc_0 ht (by decide) (Nat.le_of_ble_eq_true rfl) rfl q379 (fun _ h => h) h dX0_laysRow_37 (fun v5 ok6 h => ?_)
    refine lv_iload_n hx hb dX0_laysRow_40 rfl (lv_at hL 1 rfl) ?_
    refine k_X0_sum C B q1477 (Nat.le_trans (Nat.le_of_ble_eq_true rfl) hF) (Nat.le_trans (Nat.le_of_ble_eq_true rfl) hN) hL.1 (Nat.le_of_ble_eq_true rfl) ⟨Nat.zero_le _, Nat.zero_le _⟩ h dX0_laysRow_41 (fun q7 h H locs B => ?_)
    refine lv_iload_n hx hb dX0_laysRow_44 rfl (lv_at hL 2 rfl) ?_
    refine gg_icmp_gt hx hb 52 h dX0_laysRow_45 (by decide) (fun h => ?_) (fun h => ?_)
    · refine lv_iconst (v := 0) hx hb dX0_laysRow_52 (by decide) ?_
      exact hj53 _ _ _ _ _ h B (lv_sub hL [0, 1] rfl)
    · refine lv_iconst (v := 1) hx hb dX0_laysRow_48 (by decide) ?_
      refine lv_goto (tgt := 53) hx hb dX0_laysRow_49 (by decide) ?_
      exact hj53 _ _ _ _ _ h B (lv_sub hL [0, 1] rfl)
  have hl6 : ∀ (k : Nat) (x4l6 : Int32) (x5l6 : Int32) (gil6 : GI) (H : Heap) (locs : List Loc) (ls : Array Slot), g_loop k (fun (s : Int32 × Int32 × GI) => f_X0_laysRow_l6 hk gr a0 x2 x3 s.1 s.2.1 s.2.2) (x4l6, x5l6, gil6) = some E6 → XB D cA ad hk nx A s gil6 gr H locs → lv_has ls 7 [(0, .ref (ad a0)), (2, .int x2), (3, .int x3), (4, .int x4l6), (5, .int x5l6)] → W p l e R s m args below meth c H locs 0 0 Q (F0 m 6 ls []) := by
    intro k
    induction k with
    | zero => intro x4l6 x5l6 gil6 H locs ls h; exact absurd h (fun z => g_loop_0 z)
    | succ k ih6 =>
      intro x4l6 x5l6 gil6 H locs ls h B hL
      obtain ⟨Z6, h, h96⟩ := g_loop_s h
      have h : f_X0_laysRow_l6 hk gr a0 x2 x3 x4l6 x5l6 gil6 = some Z6 := h
      unfold f_X0_laysRow_l6 at h
      refine lv_iload hx hb dX0_laysRow_6 (lv_at hL 4 rfl) ?_
      refine gg_if_lt hx hb 36 h dX0_laysRow_8 (by decide) (fun h => ?_) (fun h => ?_)
      · exact kx6 _ _ _ _ (g_exit h h96) B (lv_sub hL [0, 1, 2] rfl)
      · refine lv_aload_n hx hb dX0_laysRow_11 rfl (lv_at hL 0 rfl) ?_
        refine xx_gr (ci := 0) (k := 19) C B xc_0 ht (by decide) (Nat.le_of_ble_eq_true rfl) rfl q379 (fun _ h => h) h dX0_laysRow_12 (fun v1 ok2 h => ?_)
        refine lv_iload_n hx hb dX0_laysRow_15 rfl (lv_at hL 1 rfl) ?_
        refine lv_iload hx hb dX0_laysRow_16 (lv_at hL 4 rfl) ?_
        refine lv_iadd hx hb dX0_laysRow_18 ?_
        refine lv_iload hx hb dX0_laysRow_19 (lv_at hL 3 rfl) ?_
        refine lv_iconst (v := 4) hx hb dX0_laysRow_21 (by decide) ?_
        refine lv_irem hx hb dX0_laysRow_22 (by decide) ?_
        refine xx_is h (fun hp3 h => ?_)
        refine xx_iast C B hp3 h dX0_laysRow_23 (fun gi4 h H locs B => ?_)
        refine lv_iload hx hb dX0_laysRow_24 (lv_at hL 3 rfl) ?_
        refine lv_iconst (v := 4) hx hb dX0_laysRow_26 (by decide) ?_
        refine lv_idiv hx hb dX0_laysRow_27 (by decide) ?_
        refine lv_istore (lv' := [(4, .int (x4l6 / 4)), (0, .ref (ad a0)), (2, .int x2), (3, .int x3), (5, .int x5l6)]) hx hb dX0_laysRow_28 hL (by decide) rfl (fun ls hL => ?_)
        refine lv_iinc (v := x5l6 + (-1)) (lv' := [(5, .int (x5l6 + (-1))), (4, .int (x4l6 / 4)), (0, .ref (ad a0)), (2, .int x2), (3, .int x3)]) hx hb dX0_laysRow_30 hL (k := 4) rfl rfl (by decide) rfl (fun ls hL => ?_)
        refine lv_goto (tgt := 6) hx hb dX0_laysRow_33 (by decide) ?_
        exact ih6 _ _ _ _ _ _ (g_next h h96) B (lv_sub hL [2, 3, 4, 1, 0] rfl)
  exact hl6 g_K _ _ _ _ _ _ h86 B (lv_sub hL [2, 4, 5, 1, 0] rfl)
theorem k_X0_laysRow {p : Program} {l : Launch} {e : Env} {R : Room} {s : State} {m : MethodId} {args : Array Value} {below : List Frame} {meth : Method} {c : Code} {H : Heap} {locs : List Loc} {Q : State → Prop} {pc : Nat} {ls : Array Slot} {rest : List Value} {cc : ByteArray} {nL cells slots : Nat} {D : va_G} {cA : Nat → ClassId} {ad : Nat → Nat} {hk : HK} {nx : Nat} {A : Nat → Prop} {gi : GI} {gr : GR} {α : Type} {r : α} {own : String} {idx : Nat} {a0 : Nat} {x1 : Int32} {x2 : Int32} {x3 : Int32} {ff : (Int32 × GI) → Option α} (ht : (hk a0).1 = 10) (C : CallFix p m c cc nL s args lw_all own) (B : XB D cA ad hk nx A s gi gr H locs) (hq : Cond.methodLink own idx yX0_laysRow ∈ lw_all) (hF : 4 ≤ R.frames) (hN : 130 ≤ R.locals) (hs : ls.size = nL) (hw : (rest.map fun v => v.category).sum ≤ 8) (hz0 : cells ≤ R.cells ∧ slots ≤ R.slots) (h : (f_X0_laysRow hk gi gr a0 x1 x2 x3).bind ff = some r) (hdg : decode cc pc = .ok (.invokevirtual idx, 3)) (kk : ∀ q, ff q = some r → ∀ (H' : Heap) (locs' : List Loc), XB D cA ad hk nx A s q.2 gr H' locs' → W p l e R s m args below meth c H' locs' cells slots Q (F0 m (pc + 3) ls (.int q.1 :: rest))) : W p l e R s m args below meth c H locs cells slots Q (F0 m pc ls (.int x3 :: .int x2 :: .int x1 :: .ref (ad a0) :: rest)) := by
  obtain ⟨q, h1, h2⟩ := g_ob h
  refine xx_cVI (As := [.int x1, .int x2, .int x3]) (rest := rest) (n := 3) xc_0 ht (by decide) C B (fun sz => w_X0_laysRow l D cA ad hk nx gi gr a0 x1 x2 x3 ht q h1 sz) hq q1511 qs55 q141 q1512 (by decide +kernel) ⟨hF, hN⟩ rfl hs hw hz0 hdg (fun v u H9 locs9 hp B9 => ?_)
  obtain ⟨e1, e3⟩ := hp
  rw [e3] at B9
  subst e1
  exact kk _ h2 H9 locs9 B9
def f_X0_pooled_j197 (hk : HK) (grj197 : GR) (a0j197 : Nat) (x1j197 : Int32) (x2j197 : Int32) (x3j197 : Int32) (x6j197 : Int32) (gij197 : GI) (x7j197 : Int32) (x8j197 : Int32) (x9j197 : Int32) : Option ((Int32 × Int32 × Int32 × GI) ⊕ (Int32 × Int32 × GI)) :=
  (grj197 a0j197 19).bind fun v46 =>
  (grj197 a0j197 20).bind fun v48 =>
  (g_is hk v46 0).bind fun _ =>
  (g_is hk v48 0).bind fun _ =>
  (g_cpi hk gij197 v46 0 v48 0 6).bind fun gi52 =>
  some (.inl ((x8j197, x9j197, x7j197 + 1, gi52)))
def f_X0_pooled_l48 (hk : HK) (gri48 : GR) (a0i48 : Nat) (x1i48 : Int32) (x2i48 : Int32) (x3i48 : Int32) (x6i48 : Int32) (x4l48 : Int32) (x5l48 : Int32) (x7l48 : Int32) (gil48 : GI) : Option ((Int32 × Int32 × Int32 × GI) ⊕ (Int32 × Int32 × GI)) :=
  if x3i48 ≤ x7l48 then
  (some (.inr ((x4l48, x5l48, gil48))))
  else
  ((gri48 a0i48 5).bind fun v5 =>
  (f_X0_left_2 hk gil48 gri48 a0i48 v5 x2i48).bind fun q7 =>
  (f_X0_laysRow hk gil48 gri48 a0i48 x7l48 3 (if q7 < 3 then q7 else 3)).bind fun q8 =>
  if q8.1 = 0 then
  (some (.inl ((x4l48, x5l48, x7l48 + 1, q8.2))))
  else
  ((f_X0_arePooled hk q8.2 gri48 a0i48 x1i48 x2i48).bind fun q9 =>
  if q9 = 0 then
  (some (.inl ((x4l48, x5l48, x7l48 + 1, q8.2))))
  else
  ((gri48 a0i48 7).bind fun v10 =>
  (gri48 a0i48 5).bind fun v12 =>
  (g_is hk v10 13).bind fun _ =>
  (f_X3_copy hk q8.2 gri48 v10 v12).bind fun q15 =>
  (gri48 a0i48 4).bind fun v16 =>
  (gri48 a0i48 19).bind fun v18 =>
  (g_is hk q15.1 13).bind fun _ =>
  (f_X3_poursRow hk q15.2 gri48 q15.1 v16 x1i48 v18 0).bind fun q21 =>
  (gri48 a0i48 4).bind fun v22 =>
  (gri48 a0i48 19).bind fun v24 =>
  (g_is hk q21.1 13).bind fun _ =>
  (f_X3_poursRow hk q21.2 gri48 q21.1 v22 x2i48 v24 3).bind fun q27 =>
  (gri48 a0i48 7).bind fun v28 =>
  (gri48 a0i48 4).bind fun v30 =>
  (g_is hk v28 13).bind fun _ =>
  (f_X3_growth hk q27.2 gri48 v28 v30 x1i48).bind fun q33 =>
  (gri48 a0i48 7).bind fun v34 =>
  (gri48 a0i48 4).bind fun v36 =>
  (g_is hk v34 13).bind fun _ =>
  (f_X3_growth hk q33.2 gri48 v34 v36 x2i48).bind fun q39 =>
  (gri48 a0i48 19).bind fun v40 =>
  (f_X0_sum hk q39.2 gri48 v40 0).bind fun q42 =>
  (gri48 a0i48 19).bind fun v43 =>
  (f_X0_sum hk q39.2 gri48 v43 3).bind fun q45 =>
  if (q33.1 + q39.1) < x4l48 then
  (some (.inl ((x4l48, x5l48, x7l48 + 1, q39.2))))
  else
  (if (q33.1 + q39.1) = x4l48 then
  (if (q42 + q45) < x5l48 then
  (f_X0_pooled_j197 hk gri48 a0i48 x1i48 x2i48 x3i48 x6i48 q39.2 x7l48 (q33.1 + q39.1) (q42 + q45))
  else
  (some (.inl ((x4l48, x5l48, x7l48 + 1, q39.2)))))
  else
  (f_X0_pooled_j197 hk gri48 a0i48 x1i48 x2i48 x3i48 x6i48 q39.2 x7l48 (q33.1 + q39.1) (q42 + q45))))))
def f_X0_pooled_x48 (hk : HK) (gry48 : GR) (a0y48 : Nat) (x1y48 : Int32) (x2y48 : Int32) (x3y48 : Int32) (x6y48 : Int32) (x4e48 : Int32) (x5e48 : Int32) (gie48 : GI) : Option ((Int32 × Int32 × Int32 × GI) ⊕ (Int32 × GI)) :=
  some (.inl ((x4e48, x5e48, x6y48 + 1, gie48)))
def f_X0_pooled_l13 (hk : HK) (gri13 : GR) (a0i13 : Nat) (x1i13 : Int32) (x2i13 : Int32) (x3i13 : Int32) (x4l13 : Int32) (x5l13 : Int32) (x6l13 : Int32) (gil13 : GI) : Option ((Int32 × Int32 × Int32 × GI) ⊕ (Int32 × GI)) :=
  if x3i13 ≤ x6l13 then
  (some (.inr ((x4l13, gil13))))
  else
  ((gri13 a0i13 5).bind fun v1 =>
  (f_X0_left_2 hk gil13 gri13 a0i13 v1 x1i13).bind fun q3 =>
  (f_X0_laysRow hk gil13 gri13 a0i13 x6l13 0 (if q3 < 3 then q3 else 3)).bind fun q4 =>
  if q4.1 = 0 then
  (some (.inl ((x4l13, x5l13, x6l13 + 1, q4.2))))
  else
  ((g_loop g_K (fun (s : Int32 × Int32 × Int32 × GI) => f_X0_pooled_l48 hk gri13 a0i13 x1i13 x2i13 x3i13 x6l13 s.1 s.2.1 s.2.2.1 s.2.2.2) (x4l13, x5l13, 0, q4.2)).bind fun E48 => f_X0_pooled_x48 hk gri13 a0i13 x1i13 x2i13 x3i13 x6l13 E48.1 E48.2.1 E48.2.2))
def f_X0_pooled_x13 (hk : HK) (gry13 : GR) (x4e13 : Int32) (gie13 : GI) : Option (Int32 × GI) :=
  some (x4e13, gie13)
def f_X0_pooled (hk : HK) (gi : GI) (gr : GR) (a0 : Nat) (x1 : Int32) (x2 : Int32) : Option (Int32 × GI) :=
  (g_loop g_K (fun (s : Int32 × Int32 × Int32 × GI) => f_X0_pooled_l13 hk gr a0 x1 x2 64 s.1 s.2.1 s.2.2.1 s.2.2.2) ((-1000000), 0, 0, gi)).bind fun E13 => f_X0_pooled_x13 hk gr E13.1 E13.2
set_option maxHeartbeats 400000 in
theorem w_X0_pooled (l : Launch) (D : va_G) (cA : Nat → ClassId) (ad : Nat → Nat) (hk : HK) (nx : Nat) (gi : GI) (gr : GR) (a0 : Nat) (x1 : Int32) (x2 : Int32) (ht : (hk a0).1 = 10) (r : Int32 × GI) (h : f_X0_pooled hk gi gr a0 x1 x2 = some r) (sz : Nat) : Met l yX0_pooled (ws_ yX0_pooled cX0_pooled 10 (some .int)) ({ frames := 105, cells := 0, slots := 0, locals := 3142 } : Room) (va_Pc [.ref (ad a0), .int x1, .int x2] (XPre D cA ad hk nx gi gr sz)) (va_Qi (fun v u => (v, u.1) = r ∧ u.2 = gr) (XPost D cA ad hk nx) (XA ad nx sz)) 0 0 (XA ad nx sz) := by
  refine xx_stI (own := RX0) (P := (fun v u => (v, u.1) = r ∧ u.2 = gr)) (by decide +kernel) rfl (Nat.le_of_ble_eq_true rfl) (fun p e s m args below meth c R Q A ls C hF hN B hret hL => ?_) sz
  have hx := C.1
  have hb := C.2.1
  have hL : lv_has ls 10 [(0, .ref (ad a0)), (1, .int x1), (2, .int x2)] := hL
  unfold f_X0_pooled at h
  refine lv_bipush (v := 64) hx hb dX0_pooled_0 (by decide) ?_
  refine lv_istore_n (lv' := [(3, .int 64), (0, .ref (ad a0)), (1, .int x1), (2, .int x2)]) hx hb dX0_pooled_2 rfl hL (by decide) rfl (fun ls hL => ?_)
  refine lv_ldc (v := (-1000000)) hx hb C.2.2.2.1 (C.2.2.2.2 _ q1250) dX0_pooled_3 ?_
  refine lv_istore (lv' := [(4, .int ((-1000000))), (3, .int 64), (0, .ref (ad a0)), (1, .int x1), (2, .int x2)]) hx hb dX0_pooled_5 hL (by decide) rfl (fun ls hL => ?_)
  refine lv_iconst (v := 0) hx hb dX0_pooled_7 (by decide) ?_
  refine lv_istore (lv' := [(5, .int 0), (4, .int ((-1000000))), (3, .int 64), (0, .ref (ad a0)), (1, .int x1), (2, .int x2)]) hx hb dX0_pooled_8 hL (by decide) rfl (fun ls hL => ?_)
  refine lv_iconst (v := 0) hx hb dX0_pooled_10 (by decide) ?_
  refine lv_istore (lv' := [(6, .int 0), (5, .int 0), (4, .int ((-1000000))), (3, .int 64), (0, .ref (ad a0)), (1, .int x1), (2, .int x2)]) hx hb dX0_pooled_11 hL (by decide) rfl (fun ls hL => ?_)
  obtain ⟨E13, h813, h⟩ := g_ob h
  have kx13 : ∀ (x4e13 : Int32) (gie13 : GI) (H : Heap) (locs : List Loc) (ls : Array Slot), (x4e13, gie13) = E13 → XB D cA ad hk nx A s gie13 gr H locs → lv_has ls 10 [(4, .int x4e13)] → W p l e R s m args below meth c H locs 0 0 Q (F0 m 232 ls []) := by
    intro x4e13 gie13 H locs ls he B hL
    subst he
    have h : f_X0_pooled_x13 hk gr x4e13 gie13 = some r := h
    unfold f_X0_pooled_x13 at h
    refine lv_iload hx hb dX0_pooled_232 (lv_at hL 0 rfl) ?_
    exact hret _ _ _ _ _ _ _ ⟨Option.some.inj h, rfl⟩ B dX0_pooled_234
  have hl13 : ∀ (k : Nat) (x4l13 : Int32) (x5l13 : Int32) (x6l13 : Int32) (gil13 : GI) (H : Heap) (locs : List Loc) (ls : Array Slot), g_loop k (fun (s : Int32 × Int32 × Int32 × GI) => f_X0_pooled_l13 hk gr a0 x1 x2 64 s.1 s.2.1 s.2.2.1 s.2.2.2) (x4l13, x5l13, x6l13, gil13) = some E13 → XB D cA ad hk nx A s gil13 gr H locs → lv_has ls 10 [(0, .ref (ad a0)), (1, .int x1), (2, .int x2), (3, .int 64), (4, .int x4l13), (5, .int x5l13), (6, .int x6l13)] → W p l e R s m args below meth c H locs 0 0 Q (F0 m 13 ls []) := by
    intro k
    induction k with
    | zero => intro x4l13 x5l13 x6l13 gil13 H locs ls h; exact absurd h (fun z => g_loop_0 z)
    | succ k ih13 =>
      intro x4l13 x5l13 x6l13 gil13 H locs ls h B hL
      obtain ⟨Z13, h, h913⟩ := g_loop_s h
      have h : f_X0_pooled_l13 hk gr a0 x1 x2 64 x4l13 x5l13 x6l13 gil13 = some Z13 := h
      unfold f_X0_pooled_l13 at h
      refine lv_iload hx hb dX0_pooled_13 (lv_at hL 6 rfl) ?_
      refine lv_iload_n hx hb dX0_pooled_15 rfl (lv_at hL 3 rfl) ?_
      refine gg_icmp_ge hx hb 232 h dX0_pooled_16 (by decide) (fun h => ?_) (fun h => ?_)
      · exact kx13 _ _ _ _ _ (g_exit h h913) B (lv_sub hL [4] rfl)
      · refine lv_aload_n hx hb dX0_pooled_19 rfl (lv_at hL 0 rfl) ?_
        refine lv_iload hx hb dX0_pooled_20 (lv_at hL 6 rfl) ?_
        refine lv_iconst (v := 0) hx hb dX0_pooled_22 (by decide) ?_
        refine lv_iconst (v := 3) hx hb dX0_pooled_23 (by decide) ?_
        refine lv_aload_n hx hb dX0_pooled_24 rfl (lv_at hL 0 rfl) ?_
        refine lv_aload_n hx hb dX0_pooled_25 rfl (lv_at hL 0 rfl) ?_
        refine xx_gr (ci := 0) (k := 5) C B xc_0 ht (by decide) (Nat.le_of_ble_eq_true rfl) rfl q364 (fun _ h => h) h dX0_pooled_26 (fun v1 ok2 h => ?_)
        refine lv_iload_n hx hb dX0_pooled_29 rfl (lv_at hL 1 rfl) ?_
        refine k_X0_left_2 ht C B q1367 (Nat.le_trans (Nat.le_of_ble_eq_true rfl) hF) (Nat.le_trans (Nat.le_of_ble_eq_true rfl) hN) hL.1 (Nat.le_of_ble_eq_true rfl) ⟨Nat.zero_le _, Nat.zero_le _⟩ h dX0_pooled_30 (fun q3 h H locs B => ?_)
        refine xx_min C q1508 q592 q157 q593 (Nat.le_trans (Nat.le_of_ble_eq_true rfl) hF) (Nat.le_trans (Nat.le_of_ble_eq_true rfl) hN) hL.1 (Nat.le_of_ble_eq_true rfl) ⟨Nat.zero_le _, Nat.zero_le _⟩ dX0_pooled_33 ?_
        refine k_X0_laysRow ht C B q1509 (Nat.le_trans (Nat.le_of_ble_eq_true rfl) hF) (Nat.le_trans (Nat.le_of_ble_eq_true rfl) hN) hL.1 (Nat.le_of_ble_eq_true rfl) ⟨Nat.zero_le _, Nat.zero_le _⟩ h dX0_pooled_36 (fun q4 h H locs B => ?_)
        refine gg_if_ne hx hb 45 h dX0_pooled_39 (by decide) (fun h => ?_) (fun h => ?_)
        · refine lv_iconst (v := 0) hx hb dX0_pooled_45 (by decide) ?_
          refine lv_istore (lv' := [(7, .int 0), (0, .ref (ad a0)), (1, .int x1), (2, .int x2), (3, .int 64), (4, .int x4l13), (5, .int x5l13), (6, .int x6l13)]) hx hb dX0_pooled_46 hL (by decide) rfl (fun ls hL => ?_)
          obtain ⟨E48, h848, h⟩ := g_ob h
          have kx48 : ∀ (x4e48 : Int32) (x5e48 : Int32) (gie48 : GI) (H : Heap) (locs : List Loc) (ls : Array Slot), (x4e48, x5e48, gie48) = E48 → XB D cA ad hk nx A s gie48 gr H locs → lv_has ls 10 [(0, .ref (ad a0)), (1, .int x1), (2, .int x2), (3, .int 64), (4, .int x4e48), (5, .int x5e48), (6, .int x6l13)] → W p l e R s m args below meth c H locs 0 0 Q (F0 m 226 ls []) := by
            intro x4e48 x5e48 gie48 H locs ls he B hL
            subst he
            have h : f_X0_pooled_x48 hk gr a0 x1 x2 64 x6l13 x4e48 x5e48 gie48 = some Z13 := h
            unfold f_X0_pooled_x48 at h
            refine lv_iinc (v := x6l13 + 1) (lv' := [(6, .int (x6l13 + 1)), (0, .ref (ad a0)), (1, .int x1), (2, .int x2), (3, .int 64), (4, .int x4e48), (5, .int x5e48)]) hx hb dX0_pooled_226 hL (k := 6) rfl rfl (by decide) rfl (fun ls hL => ?_)
            refine lv_goto (tgt := 13) hx hb dX0_pooled_229 (by decide) ?_
            exact ih13 _ _ _ _ _ _ _ (g_next h h913) B (lv_sub hL [1, 2, 3, 4, 5, 6, 0] rfl)
          have hl48 : ∀ (k : Nat) (x4l48 : Int32) (x5l48 : Int32) (x7l48 : Int32) (gil48 : GI) (H : Heap) (locs : List Loc) (ls : Array Slot), g_loop k (fun (s : Int32 × Int32 × Int32 × GI) => f_X0_pooled_l48 hk gr a0 x1 x2 64 x6l13 s.1 s.2.1 s.2.2.1 s.2.2.2) (x4l48, x5l48, x7l48, gil48) = some E48 → XB D cA ad hk nx A s gil48 gr H locs → lv_has ls 10 [(0, .ref (ad a0)), (1, .int x1), (2, .int x2), (3, .int 64), (4, .int x4l48), (5, .int x5l48), (6, .int x6l13), (7, .int x7l48)] → W p l e R s m args below meth c H locs 0 0 Q (F0 m 48 ls []) := by
            intro k
            induction k with
            | zero => intro x4l48 x5l48 x7l48 gil48 H locs ls h; exact absurd h (fun z => g_loop_0 z)
            | succ k ih48 =>
              intro x4l48 x5l48 x7l48 gil48 H locs ls h B hL
              obtain ⟨Z48, h, h948⟩ := g_loop_s h
              have h : f_X0_pooled_l48 hk gr a0 x1 x2 64 x6l13 x4l48 x5l48 x7l48 gil48 = some Z48 := h
              unfold f_X0_pooled_l48 at h
              have hj197 : ∀ (gij197 : GI) (x7j197 : Int32) (x8j197 : Int32) (x9j197 : Int32) (H : Heap) (locs : List Loc) (ls : Array Slot), f_X0_pooled_j197 hk gr a0 x1 x2 64 x6l13 gij197 x7j197 x8j197 x9j197 = some Z48 → XB D cA ad hk nx A s gij197 gr H locs → lv_has ls 10 [(0, .ref (ad a0)), (1, .int x1), (2, .int x2), (3, .int 64), (6, .int x6l13), (7, .int x7j197), (8, .int x8j197), (9, .int x9j197)] → W p l e R s m args below meth c H locs 0 0 Q (F0 m 197 ls []) := by
                intro gij197 x7j197 x8j197 x9j197 H locs ls h B hL
                unfold f_X0_pooled_j197 at h
                refine lv_iload hx hb dX0_pooled_197 (lv_at hL 6 rfl) ?_
                refine lv_istore (lv' := [(4, .int x8j197), (0, .ref (ad a0)), (1, .int x1), (2, .int x2), (3, .int 64), (6, .int x6l13), (7, .int x7j197), (8, .int x8j197), (9, .int x9j197)]) hx hb dX0_pooled_199 hL (by decide) rfl (fun ls hL => ?_)
                refine lv_iload hx hb dX0_pooled_201 (lv_at hL 8 rfl) ?_
                refine lv_istore (lv' := [(5, .int x9j197), (4, .int x8j197), (0, .ref (ad a0)), (1, .int x1), (2, .int x2), (3, .int 64), (6, .int x6l13), (7, .int x7j197), (8, .int x8j197), (9, .int x9j197)]) hx hb dX0_pooled_203 hL (by decide) rfl (fun ls hL => ?_)
                refine lv_aload_n hx hb dX0_pooled_205 rfl (lv_at hL 2 rfl) ?_
                refine xx_gr (ci := 0) (k := 19) C B xc_0 ht (by decide) (Nat.le_of_ble_eq_true rfl) rfl q379 (fun _ h => h) h dX0_pooled_206 (fun v46 ok47 h => ?_)
                refine lv_iconst (v := 0) hx hb dX0_pooled_209 (by decide) ?_
                refine lv_aload_n hx hb dX0_pooled_210 rfl (lv_at hL 2 rfl) ?_
                refine xx_gr (ci := 0) (k := 20) C B xc_0 ht (by decide) (Nat.le_of_ble_eq_true rfl) rfl q380 (fun _ h => h) h dX0_pooled_211 (fun v48 ok49 h => ?_)
                refine lv_iconst (v := 0) hx hb dX0_pooled_214 (by decide) ?_
                refine lv_bipush (v := 6) hx hb dX0_pooled_215 (by decide) ?_
                refine xx_is h (fun hp50 h => ?_)
                refine xx_is h (fun hp51 h => ?_)
                refine xx_cpi C B q1380 q596 q595 q159 hp50 hp51 (Nat.le_trans (Nat.le_of_ble_eq_true rfl) hF) (Nat.le_trans (Nat.le_of_ble_eq_true rfl) hN) hL.1 (Nat.le_of_ble_eq_true rfl) h dX0_pooled_217 (fun gi52 h H locs B => ?_)
                refine lv_iinc (v := x7j197 + 1) (lv' := [(7, .int (x7j197 + 1)), (5, .int x9j197), (4, .int x8j197), (0, .ref (ad a0)), (1, .int x1), (2, .int x2), (3, .int 64), (6, .int x6l13), (8, .int x8j197), (9, .int x9j197)]) hx hb dX0_pooled_220 hL (k := 7) rfl rfl (by decide) rfl (fun ls hL => ?_)
                refine lv_goto (tgt := 48) hx hb dX0_pooled_223 (by decide) ?_
                exact ih48 _ _ _ _ _ _ _ (g_next h h948) B (lv_sub hL [3, 4, 5, 6, 2, 1, 7, 0] rfl)
              refine lv_iload hx hb dX0_pooled_48 (lv_at hL 7 rfl) ?_
              refine lv_iload_n hx hb dX0_pooled_50 rfl (lv_at hL 3 rfl) ?_
              refine gg_icmp_ge hx hb 226 h dX0_pooled_51 (by decide) (fun h => ?_) (fun h => ?_)
              · exact kx48 _ _ _ _ _ _ (g_exit h h948) B (lv_sub hL [0, 1, 2, 3, 4, 5, 6] rfl)
              · refine lv_aload_n hx hb dX0_pooled_54 rfl (lv_at hL 0 rfl) ?_
                refine lv_iload hx hb dX0_pooled_55 (lv_at hL 7 rfl) ?_
                refine lv_iconst (v := 3) hx hb dX0_pooled_57 (by decide) ?_
                refine lv_iconst (v := 3) hx hb dX0_pooled_58 (by decide) ?_
                refine lv_aload_n hx hb dX0_pooled_59 rfl (lv_at hL 0 rfl) ?_
                refine lv_aload_n hx hb dX0_pooled_60 rfl (lv_at hL 0 rfl) ?_
                refine xx_gr (ci := 0) (k := 5) C B xc_0 ht (by decide) (Nat.le_of_ble_eq_true rfl) rfl q364 (fun _ h => h) h dX0_pooled_61 (fun v5 ok6 h => ?_)
                refine lv_iload_n hx hb dX0_pooled_64 rfl (lv_at hL 2 rfl) ?_
                refine k_X0_left_2 ht C B q1367 (Nat.le_trans (Nat.le_of_ble_eq_true rfl) hF) (Nat.le_trans (Nat.le_of_ble_eq_true rfl) hN) hL.1 (Nat.le_of_ble_eq_true rfl) ⟨Nat.zero_le _, Nat.zero_le _⟩ h dX0_pooled_65 (fun q7 h H locs B => ?_)
                refine xx_min C q1508 q592 q157 q593 (Nat.le_trans (Nat.le_of_ble_eq_true rfl) hF) (Nat.le_trans (Nat.le_of_ble_eq_true rfl) hN) hL.1 (Nat.le_of_ble_eq_true rfl) ⟨Nat.zero_le _, Nat.zero_le _⟩ dX0_pooled_68 ?_
                refine k_X0_laysRow ht C B q1509 (Nat.le_trans (Nat.le_of_ble_eq_true rfl) hF) (Nat.le_trans (Nat.le_of_ble_eq_true rfl) hN) hL.1 (Nat.le_of_ble_eq_true rfl) ⟨Nat.zero_le _, Nat.zero_le _⟩ h dX0_pooled_71 (fun q8 h H locs B => ?_)
                refine gg_if_eq hx hb 220 h dX0_pooled_74 (by decide) (fun h => ?_) (fun h => ?_)
                · refine lv_iinc (v := x7l48 + 1) (lv' := [(7, .int (x7l48 + 1)), (0, .ref (ad a0)), (1, .int x1), (2, .int x2), (3, .int 64), (4, .int x4l48), (5, .int x5l48), (6, .int x6l13)]) hx hb dX0_pooled_220 hL (k := 7) rfl rfl (by decide) rfl (fun ls hL => ?_)
                  refine lv_goto (tgt := 48) hx hb dX0_pooled_223 (by decide) ?_
                  exact ih48 _ _ _ _ _ _ _ (g_next h h948) B (lv_sub hL [1, 2, 3, 4, 5, 6, 7, 0] rfl)
                · refine lv_aload_n hx hb dX0_pooled_77 rfl (lv_at hL 0 rfl) ?_
                  refine lv_iload_n hx hb dX0_pooled_78 rfl (lv_at hL 1 rfl) ?_
                  refine lv_iload_n hx hb dX0_pooled_79 rfl (lv_at hL 2 rfl) ?_
                  refine k_X0_arePooled ht C B q1513 (Nat.le_trans (Nat.le_of_ble_eq_true rfl) hF) (Nat.le_trans (Nat.le_of_ble_eq_true rfl) hN) hL.1 (Nat.le_of_ble_eq_true rfl) ⟨Nat.zero_le _, Nat.zero_le _⟩ h dX0_pooled_80 (fun q9 h H locs B => ?_)
                  refine gg_if_ne hx hb 89 h dX0_pooled_83 (by decide) (fun h => ?_) (fun h => ?_)
                  · refine lv_aload_n hx hb dX0_pooled_89 rfl (lv_at hL 0 rfl) ?_
                    refine xx_gr (ci := 0) (k := 7) C B xc_0 ht (by decide) (Nat.le_of_ble_eq_true rfl) rfl q366 (fun _ h => h) h dX0_pooled_90 (fun v10 ok11 h => ?_)
                    refine lv_aload_n hx hb dX0_pooled_93 rfl (lv_at hL 0 rfl) ?_
                    refine xx_gr (ci := 0) (k := 5) C B xc_0 ht (by decide) (Nat.le_of_ble_eq_true rfl) rfl q364 (fun _ h => h) h dX0_pooled_94 (fun v12 ok13 h => ?_)
                    refine xx_is h (fun hp14 h => ?_)
                    refine k_X3_copy hp14 C B q1381 (Nat.le_trans (Nat.le_of_ble_eq_true rfl) hF) (Nat.le_trans (Nat.le_of_ble_eq_true rfl) hN) hL.1 (Nat.le_of_ble_eq_true rfl) ⟨Nat.zero_le _, Nat.zero_le _⟩ h dX0_pooled_97 (fun q15 h H locs B => ?_)
                    refine lv_aload_n hx hb dX0_pooled_100 rfl (lv_at hL 0 rfl) ?_
                    refine xx_gr (ci := 0) (k := 4) C B xc_0 ht (by decide) (Nat.le_of_ble_eq_true rfl) rfl q363 (fun _ h => h) h dX0_pooled_101 (fun v16 ok17 h => ?_)
                    refine lv_iload_n hx hb dX0_pooled_104 rfl (lv_at hL 1 rfl) ?_
                    refine lv_aload_n hx hb dX0_pooled_105 rfl (lv_at hL 0 rfl) ?_
                    refine xx_gr (ci := 0) (k := 19) C B xc_0 ht (by decide) (Nat.le_of_ble_eq_true rfl) rfl q379 (fun _ h => h) h dX0_pooled_106 (fun v18 ok19 h => ?_)
                    refine lv_iconst (v := 0) hx hb dX0_pooled_109 (by decide) ?_
                    refine xx_is h (fun hp20 h => ?_)
                    refine k_X3_poursRow hp20 C B q1472 (Nat.le_trans (Nat.le_of_ble_eq_true rfl) hF) (Nat.le_trans (Nat.le_of_ble_eq_true rfl) hN) hL.1 (Nat.le_of_ble_eq_true rfl) ⟨Nat.zero_le _, Nat.zero_le _⟩ h dX0_pooled_110 (fun q21 h H locs B => ?_)
                    refine lv_aload_n hx hb dX0_pooled_113 rfl (lv_at hL 0 rfl) ?_
                    refine xx_gr (ci := 0) (k := 4) C B xc_0 ht (by decide) (Nat.le_of_ble_eq_true rfl) rfl q363 (fun _ h => h) h dX0_pooled_114 (fun v22 ok23 h => ?_)
                    refine lv_iload_n hx hb dX0_pooled_117 rfl (lv_at hL 2 rfl) ?_
                    refine lv_aload_n hx hb dX0_pooled_118 rfl (lv_at hL 0 rfl) ?_
                    refine xx_gr (ci := 0) (k := 19) C B xc_0 ht (by decide) (Nat.le_of_ble_eq_true rfl) rfl q379 (fun _ h => h) h dX0_pooled_119 (fun v24 ok25 h => ?_)
                    refine lv_iconst (v := 3) hx hb dX0_pooled_122 (by decide) ?_
                    refine xx_is h (fun hp26 h => ?_)
                    refine k_X3_poursRow hp26 C B q1472 (Nat.le_trans (Nat.le_of_ble_eq_true rfl) hF) (Nat.le_trans (Nat.le_of_ble_eq_true rfl) hN) hL.1 (Nat.le_of_ble_eq_true rfl) ⟨Nat.zero_le _, Nat.zero_le _⟩ h dX0_pooled_123 (fun q27 h H locs B => ?_)
                    refine lv_pop hx hb dX0_pooled_126 rfl ?_
                    refine lv_aload_n hx hb dX0_pooled_127 rfl (lv_at hL 0 rfl) ?_
                    refine xx_gr (ci := 0) (k := 7) C B xc_0 ht (by decide) (Nat.le_of_ble_eq_true rfl) rfl q366 (fun _ h => h) h dX0_pooled_128 (fun v28 ok29 h => ?_)
                    refine lv_aload_n hx hb dX0_pooled_131 rfl (lv_at hL 0 rfl) ?_
                    refine xx_gr (ci := 0) (k := 4) C B xc_0 ht (by decide) (Nat.le_of_ble_eq_true rfl) rfl q363 (fun _ h => h) h dX0_pooled_132 (fun v30 ok31 h => ?_)
                    refine lv_iload_n hx hb dX0_pooled_135 rfl (lv_at hL 1 rfl) ?_
                    refine xx_is h (fun hp32 h => ?_)
                    refine k_X3_growth hp32 C B q1253 (Nat.le_trans (Nat.le_of_ble_eq_true rfl) hF) (Nat.le_trans (Nat.le_of_ble_eq_true rfl) hN) hL.1 (Nat.le_of_ble_eq_true rfl) ⟨Nat.zero_le _, Nat.zero_le _⟩ h dX0_pooled_136 (fun q33 h H locs B => ?_)
                    refine lv_aload_n hx hb dX0_pooled_139 rfl (lv_at hL 0 rfl) ?_
                    refine xx_gr (ci := 0) (k := 7) C B xc_0 ht (by decide) (Nat.le_of_ble_eq_true rfl) rfl q366 (fun _ h => h) h dX0_pooled_140 (fun v34 ok35 h => ?_)
                    refine lv_aload_n hx hb dX0_pooled_143 rfl (lv_at hL 0 rfl) ?_
                    refine xx_gr (ci := 0) (k := 4) C B xc_0 ht (by decide) (Nat.le_of_ble_eq_true rfl) rfl q363 (fun _ h => h) h dX0_pooled_144 (fun v36 ok37 h => ?_)
                    refine lv_iload_n hx hb dX0_pooled_147 rfl (lv_at hL 2 rfl) ?_
                    refine xx_is h (fun hp38 h => ?_)
                    refine k_X3_growth hp38 C B q1253 (Nat.le_trans (Nat.le_of_ble_eq_true rfl) hF) (Nat.le_trans (Nat.le_of_ble_eq_true rfl) hN) hL.1 (Nat.le_of_ble_eq_true rfl) ⟨Nat.zero_le _, Nat.zero_le _⟩ h dX0_pooled_148 (fun q39 h H locs B => ?_)
                    refine lv_iadd hx hb dX0_pooled_151 ?_
                    refine lv_istore (lv' := [(8, .int (q33.1 + q39.1)), (0, .ref (ad a0)), (1, .int x1), (2, .int x2), (3, .int 64), (4, .int x4l48), (5, .int x5l48), (6, .int x6l13), (7, .int x7l48)]) hx hb dX0_pooled_152 hL (by decide) rfl (fun ls hL => ?_)
                    refine lv_aload_n hx hb dX0_pooled_154 rfl (lv_at hL 1 rfl) ?_
                    refine xx_gr (ci := 0) (k := 19) C B xc_0 ht (by decide) (Nat.le_of_ble_eq_true rfl) rfl q379 (fun _ h => h) h dX0_pooled_155 (fun v40 ok41 h => ?_)
                    refine lv_iconst (v := 0) hx hb dX0_pooled_158 (by decide) ?_
                    refine k_X0_sum C B q1477 (Nat.le_trans (Nat.le_of_ble_eq_true rfl) hF) (Nat.le_trans (Nat.le_of_ble_eq_true rfl) hN) hL.1 (Nat.le_of_ble_eq_true rfl) ⟨Nat.zero_le _, Nat.zero_le _⟩ h dX0_pooled_159 (fun q42 h H locs B => ?_)
                    refine lv_aload_n hx hb dX0_pooled_162 rfl (lv_at hL 1 rfl) ?_
                    refine xx_gr (ci := 0) (k := 19) C B xc_0 ht (by decide) (Nat.le_of_ble_eq_true rfl) rfl q379 (fun _ h => h) h dX0_pooled_163 (fun v43 ok44 h => ?_)
                    refine lv_iconst (v := 3) hx hb dX0_pooled_166 (by decide) ?_
                    refine k_X0_sum C B q1477 (Nat.le_trans (Nat.le_of_ble_eq_true rfl) hF) (Nat.le_trans (Nat.le_of_ble_eq_true rfl) hN) hL.1 (Nat.le_of_ble_eq_true rfl) ⟨Nat.zero_le _, Nat.zero_le _⟩ h dX0_pooled_167 (fun q45 h H locs B => ?_)
                    refine lv_iadd hx hb dX0_pooled_170 ?_
                    refine lv_istore (lv' := [(9, .int (q42 + q45)), (8, .int (q33.1 + q39.1)), (0, .ref (ad a0)), (1, .int x1), (2, .int x2), (3, .int 64), (4, .int x4l48), (5, .int x5l48), (6, .int x6l13), (7, .int x7l48)]) hx hb dX0_pooled_171 hL (by decide) rfl (fun ls hL => ?_)
                    refine lv_iload hx hb dX0_pooled_173 (lv_at hL 1 rfl) ?_
                    refine lv_iload hx hb dX0_pooled_175 (lv_at hL 6 rfl) ?_
                    refine gg_icmp_lt hx hb 220 h dX0_pooled_177 (by decide) (fun h => ?_) (fun h => ?_)
                    · refine lv_iinc (v := x7l48 + 1) (lv' := [(7, .int (x7l48 + 1)), (9, .int (q42 + q45)), (8, .int (q33.1 + q39.1)), (0, .ref (ad a0)), (1, .int x1), (2, .int x2), (3, .int 64), (4, .int x4l48), (5, .int x5l48), (6, .int x6l13)]) hx hb dX0_pooled_220 hL (k := 9) rfl rfl (by decide) rfl (fun ls hL => ?_)
                      refine lv_goto (tgt := 48) hx hb dX0_pooled_223 (by decide) ?_
                      exact ih48 _ _ _ _ _ _ _ (g_next h h948) B (lv_sub hL [3, 4, 5, 6, 7, 8, 9, 0] rfl)
                    · refine lv_iload hx hb dX0_pooled_180 (lv_at hL 1 rfl) ?_
                      refine lv_iload hx hb dX0_pooled_182 (lv_at hL 6 rfl) ?_
                      refine gg_icmp_ne hx hb 197 h dX0_pooled_184 (by decide) (fun h => ?_) (fun h => ?_)
                      · exact hj197 _ _ _ _ _ _ _ h B (lv_sub hL [2, 3, 4, 5, 8, 9, 1, 0] rfl)
                      · refine lv_iload hx hb dX0_pooled_187 (lv_at hL 0 rfl) ?_
                        refine lv_iload hx hb dX0_pooled_189 (lv_at hL 7 rfl) ?_
                        refine gg_icmp_lt hx hb 197 h dX0_pooled_191 (by decide) (fun h => ?_) (fun h => ?_)
                        · exact hj197 _ _ _ _ _ _ _ h B (lv_sub hL [2, 3, 4, 5, 8, 9, 1, 0] rfl)
                        · refine lv_goto (tgt := 220) hx hb dX0_pooled_194 (by decide) ?_
                          refine lv_iinc (v := x7l48 + 1) (lv' := [(7, .int (x7l48 + 1)), (9, .int (q42 + q45)), (8, .int (q33.1 + q39.1)), (0, .ref (ad a0)), (1, .int x1), (2, .int x2), (3, .int 64), (4, .int x4l48), (5, .int x5l48), (6, .int x6l13)]) hx hb dX0_pooled_220 hL (k := 9) rfl rfl (by decide) rfl (fun ls hL => ?_)
                          refine lv_goto (tgt := 48) hx hb dX0_pooled_223 (by decide) ?_
                          exact ih48 _ _ _ _ _ _ _ (g_next h h948) B (lv_sub hL [3, 4, 5, 6, 7, 8, 9, 0] rfl)
                  · refine lv_goto (tgt := 220) hx hb dX0_pooled_86 (by decide) ?_
                    refine lv_iinc (v := x7l48 + 1) (lv' := [(7, .int (x7l48 + 1)), (0, .ref (ad a0)), (1, .int x1), (2, .int x2), (3, .int 64), (4, .int x4l48), (5, .int x5l48), (6, .int x6l13)]) hx hb dX0_pooled_220 hL (k := 7) rfl rfl (by decide) rfl (fun ls hL => ?_)
                    refine lv_goto (tgt := 48) hx hb dX0_pooled_223 (by decide) ?_
                    exact ih48 _ _ _ _ _ _ _ (g_next h h948) B (lv_sub hL [1, 2, 3, 4, 5, 6, 7, 0] rfl)
          exact hl48 g_K _ _ _ _ _ _ _ h848 B (lv_sub hL [1, 2, 3, 4, 5, 6, 7, 0] rfl)
        · refine lv_goto (tgt := 226) hx hb dX0_pooled_42 (by decide) ?_
          refine lv_iinc (v := x6l13 + 1) (lv' := [(6, .int (x6l13 + 1)), (0, .ref (ad a0)), (1, .int x1), (2, .int x2), (3, .int 64), (4, .int x4l13), (5, .int x5l13)]) hx hb dX0_pooled_226 hL (k := 6) rfl rfl (by decide) rfl (fun ls hL => ?_)
          refine lv_goto (tgt := 13) hx hb dX0_pooled_229 (by decide) ?_
          exact ih13 _ _ _ _ _ _ _ (g_next h h913) B (lv_sub hL [1, 2, 3, 4, 5, 6, 0] rfl)
  exact hl13 g_K _ _ _ _ _ _ _ h813 B (lv_sub hL [4, 5, 6, 3, 2, 1, 0] rfl)
theorem k_X0_pooled {p : Program} {l : Launch} {e : Env} {R : Room} {s : State} {m : MethodId} {args : Array Value} {below : List Frame} {meth : Method} {c : Code} {H : Heap} {locs : List Loc} {Q : State → Prop} {pc : Nat} {ls : Array Slot} {rest : List Value} {cc : ByteArray} {nL cells slots : Nat} {D : va_G} {cA : Nat → ClassId} {ad : Nat → Nat} {hk : HK} {nx : Nat} {A : Nat → Prop} {gi : GI} {gr : GR} {α : Type} {r : α} {own : String} {idx : Nat} {a0 : Nat} {x1 : Int32} {x2 : Int32} {ff : (Int32 × GI) → Option α} (ht : (hk a0).1 = 10) (C : CallFix p m c cc nL s args lw_all own) (B : XB D cA ad hk nx A s gi gr H locs) (hq : Cond.methodLink own idx yX0_pooled ∈ lw_all) (hF : 106 ≤ R.frames) (hN : 3171 ≤ R.locals) (hs : ls.size = nL) (hw : (rest.map fun v => v.category).sum ≤ 8) (hz0 : cells ≤ R.cells ∧ slots ≤ R.slots) (h : (f_X0_pooled hk gi gr a0 x1 x2).bind ff = some r) (hdg : decode cc pc = .ok (.invokevirtual idx, 3)) (kk : ∀ q, ff q = some r → ∀ (H' : Heap) (locs' : List Loc), XB D cA ad hk nx A s q.2 gr H' locs' → W p l e R s m args below meth c H' locs' cells slots Q (F0 m (pc + 3) ls (.int q.1 :: rest))) : W p l e R s m args below meth c H locs cells slots Q (F0 m pc ls (.int x2 :: .int x1 :: .ref (ad a0) :: rest)) := by
  obtain ⟨q, h1, h2⟩ := g_ob h
  refine xx_cVI (As := [.int x1, .int x2]) (rest := rest) (n := 2) xc_0 ht (by decide) C B (fun sz => w_X0_pooled l D cA ad hk nx gi gr a0 x1 x2 ht q h1 sz) hq q1506 qs54 q141 q1507 (by decide +kernel) ⟨hF, hN⟩ rfl hs hw hz0 hdg (fun v u H9 locs9 hp B9 => ?_)
  obtain ⟨e1, e3⟩ := hp
  rw [e3] at B9
  subst e1
  exact kk _ h2 H9 locs9 B9
def f_X0_pool_l27 (hk : HK) (gri27 : GR) (a0i27 : Nat) (x3i27 : Int32) (x4l27 : Int32) (gil27 : GI) : Option ((Int32 × GI) ⊕ (GI)) :=
  (f_X0_kinds hk gil27 gri27 a0i27).bind fun q4 =>
  if q4 ≤ x4l27 then
  (some (.inr gil27))
  else
  ((gri27 a0i27 15).bind fun v5 =>
  (gri27 a0i27 20).bind fun v7 =>
  (g_is hk v7 0).bind fun _ =>
  (g_ld gil27 v7 (hk v7).2 x4l27).bind fun v10 =>
  (g_is hk v5 0).bind fun _ =>
  (g_st gil27 v5 (hk v5).2 x4l27 v10).bind fun gi12 =>
  (gri27 a0i27 15).bind fun v13 =>
  (f_X0_kinds hk gi12 gri27 a0i27).bind fun q15 =>
  (gri27 a0i27 20).bind fun v16 =>
  (g_is hk v16 0).bind fun _ =>
  (g_ld gi12 v16 (hk v16).2 (3 + x4l27)).bind fun v19 =>
  (g_is hk v13 0).bind fun _ =>
  (g_st gi12 v13 (hk v13).2 (q15 + x4l27) v19).bind fun gi21 =>
  some (.inl ((x4l27 + 1, gi21))))
def f_X0_pool_x27 (hk : HK) (gry27 : GR) (a0y27 : Nat) (x3y27 : Int32) (gie27 : GI) : Option (Int32 × GI) :=
  (f_X0_kinds hk gie27 gry27 a0y27).bind fun q22 =>
  (some (g_pi gie27 a0y27 18 (2 * q22))).bind fun gi23 =>
  some (x3y27, gi23)
def f_X0_pool (hk : HK) (gi : GI) (gr : GR) (a0 : Nat) (x1 : Int32) (x2 : Int32) : Option (Int32 × GI) :=
  (some (g_pi gi a0 18 0)).bind fun gi1 =>
  (f_X0_areTwo hk gi1 gr a0 x1 x2).bind fun q2 =>
  if q2 = 0 then
  (some ((-1000000), gi1))
  else
  ((f_X0_pooled hk gi1 gr a0 x1 x2).bind fun q3 =>
  (g_loop g_K (fun (s : Int32 × GI) => f_X0_pool_l27 hk gr a0 q3.1 s.1 s.2) (0, q3.2)).bind fun E27 => f_X0_pool_x27 hk gr a0 q3.1 E27)
set_option maxHeartbeats 400000 in
theorem w_X0_pool (l : Launch) (D : va_G) (cA : Nat → ClassId) (ad : Nat → Nat) (hk : HK) (nx : Nat) (gi : GI) (gr : GR) (a0 : Nat) (x1 : Int32) (x2 : Int32) (ht : (hk a0).1 = 10) (r : Int32 × GI) (h : f_X0_pool hk gi gr a0 x1 x2 = some r) (sz : Nat) : Met l yX0_pool (ws_ yX0_pool cX0_pool 5 (some .int)) ({ frames := 106, cells := 0, slots := 0, locals := 3171 } : Room) (va_Pc [.ref (ad a0), .int x1, .int x2] (XPre D cA ad hk nx gi gr sz)) (va_Qi (fun v u => (v, u.1) = r ∧ u.2 = gr) (XPost D cA ad hk nx) (XA ad nx sz)) 0 0 (XA ad nx sz) := by
  refine xx_stI (own := RX0) (P := (fun v u => (v, u.1) = r ∧ u.2 = gr)) (by decide +kernel) rfl (Nat.le_of_ble_eq_true rfl) (fun p e s m args below meth c R Q A ls C hF hN B hret hL => ?_) sz
  have hx := C.1
  have hb := C.2.1
  have hL : lv_has ls 5 [(0, .ref (ad a0)), (1, .int x1), (2, .int x2)] := hL
  unfold f_X0_pool at h
  refine lv_aload_n hx hb dX0_pool_0 rfl (lv_at hL 0 rfl) ?_
  refine lv_iconst (v := 0) hx hb dX0_pool_1 (by decide) ?_
  refine xx_pi (ci := 0) (k := 18) C B xc_0 ht (by decide) (Nat.le_of_ble_eq_true rfl) rfl q378 (fun _ h => h) rfl rfl rfl h dX0_pool_2 (fun gi1 h H locs B => ?_)
  refine lv_aload_n hx hb dX0_pool_5 rfl (lv_at hL 0 rfl) ?_
  refine lv_iload_n hx hb dX0_pool_6 rfl (lv_at hL 1 rfl) ?_
  refine lv_iload_n hx hb dX0_pool_7 rfl (lv_at hL 2 rfl) ?_
  refine k_X0_areTwo ht C B q1402 (Nat.le_trans (Nat.le_of_ble_eq_true rfl) hF) (Nat.le_trans (Nat.le_of_ble_eq_true rfl) hN) hL.1 (Nat.le_of_ble_eq_true rfl) ⟨Nat.zero_le _, Nat.zero_le _⟩ h dX0_pool_8 (fun q2 h H locs B => ?_)
  refine gg_if_ne hx hb 17 h dX0_pool_11 (by decide) (fun h => ?_) (fun h => ?_)
  · refine lv_aload_n hx hb dX0_pool_17 rfl (lv_at hL 0 rfl) ?_
    refine lv_iload_n hx hb dX0_pool_18 rfl (lv_at hL 1 rfl) ?_
    refine lv_iload_n hx hb dX0_pool_19 rfl (lv_at hL 2 rfl) ?_
    refine k_X0_pooled ht C B q1504 (Nat.le_trans (Nat.le_of_ble_eq_true rfl) hF) (Nat.le_trans (Nat.le_of_ble_eq_true rfl) hN) hL.1 (Nat.le_of_ble_eq_true rfl) ⟨Nat.zero_le _, Nat.zero_le _⟩ h dX0_pool_20 (fun q3 h H locs B => ?_)
    refine lv_istore_n (lv' := [(3, .int q3.1), (0, .ref (ad a0)), (1, .int x1), (2, .int x2)]) hx hb dX0_pool_23 rfl hL (by decide) rfl (fun ls hL => ?_)
    refine lv_iconst (v := 0) hx hb dX0_pool_24 (by decide) ?_
    refine lv_istore (lv' := [(4, .int 0), (3, .int q3.1), (0, .ref (ad a0)), (1, .int x1), (2, .int x2)]) hx hb dX0_pool_25 hL (by decide) rfl (fun ls hL => ?_)
    obtain ⟨E27, h827, h⟩ := g_ob h
    have kx27 : ∀ (gie27 : GI) (H : Heap) (locs : List Loc) (ls : Array Slot), gie27 = E27 → XB D cA ad hk nx A s gie27 gr H locs → lv_has ls 5 [(0, .ref (ad a0)), (3, .int q3.1)] → W p l e R s m args below meth c H locs 0 0 Q (F0 m 77 ls []) := by
      intro gie27 H locs ls he B hL
      subst he
      have h : f_X0_pool_x27 hk gr a0 q3.1 gie27 = some r := h
      unfold f_X0_pool_x27 at h
      refine lv_aload_n hx hb dX0_pool_77 rfl (lv_at hL 0 rfl) ?_
      refine lv_iconst (v := 2) hx hb dX0_pool_78 (by decide) ?_
      refine lv_aload_n hx hb dX0_pool_79 rfl (lv_at hL 0 rfl) ?_
      refine k_X0_kinds ht C B q1345 (Nat.le_trans (Nat.le_of_ble_eq_true rfl) hF) (Nat.le_trans (Nat.le_of_ble_eq_true rfl) hN) hL.1 (Nat.le_of_ble_eq_true rfl) ⟨Nat.zero_le _, Nat.zero_le _⟩ h dX0_pool_80 (fun q22 h H locs B => ?_)
      refine lv_imul hx hb dX0_pool_83 ?_
      refine xx_pi (ci := 0) (k := 18) C B xc_0 ht (by decide) (Nat.le_of_ble_eq_true rfl) rfl q378 (fun _ h => h) rfl rfl rfl h dX0_pool_84 (fun gi23 h H locs B => ?_)
      refine lv_iload_n hx hb dX0_pool_87 rfl (lv_at hL 1 rfl) ?_
      exact hret _ _ _ _ _ _ _ ⟨Option.some.inj h, rfl⟩ B dX0_pool_88
    have hl27 : ∀ (k : Nat) (x4l27 : Int32) (gil27 : GI) (H : Heap) (locs : List Loc) (ls : Array Slot), g_loop k (fun (s : Int32 × GI) => f_X0_pool_l27 hk gr a0 q3.1 s.1 s.2) (x4l27, gil27) = some E27 → XB D cA ad hk nx A s gil27 gr H locs → lv_has ls 5 [(0, .ref (ad a0)), (3, .int q3.1), (4, .int x4l27)] → W p l e R s m args below meth c H locs 0 0 Q (F0 m 27 ls []) := by
      intro k
      induction k with
      | zero => intro x4l27 gil27 H locs ls h; exact absurd h (fun z => g_loop_0 z)
      | succ k ih27 =>
        intro x4l27 gil27 H locs ls h B hL
        obtain ⟨Z27, h, h927⟩ := g_loop_s h
        have h : f_X0_pool_l27 hk gr a0 q3.1 x4l27 gil27 = some Z27 := h
        unfold f_X0_pool_l27 at h
        refine lv_iload hx hb dX0_pool_27 (lv_at hL 2 rfl) ?_
        refine lv_aload_n hx hb dX0_pool_29 rfl (lv_at hL 0 rfl) ?_
        refine k_X0_kinds ht C B q1345 (Nat.le_trans (Nat.le_of_ble_eq_true rfl) hF) (Nat.le_trans (Nat.le_of_ble_eq_true rfl) hN) hL.1 (Nat.le_of_ble_eq_true rfl) ⟨Nat.zero_le _, Nat.zero_le _⟩ h dX0_pool_30 (fun q4 h H locs B => ?_)
        refine gg_icmp_ge hx hb 77 h dX0_pool_33 (by decide) (fun h => ?_) (fun h => ?_)
        · exact kx27 _ _ _ _ (g_exit h h927) B (lv_sub hL [0, 1] rfl)
        · refine lv_aload_n hx hb dX0_pool_36 rfl (lv_at hL 0 rfl) ?_
          refine xx_gr (ci := 0) (k := 15) C B xc_0 ht (by decide) (Nat.le_of_ble_eq_true rfl) rfl q375 (fun _ h => h) h dX0_pool_37 (fun v5 ok6 h => ?_)
          refine lv_iload hx hb dX0_pool_40 (lv_at hL 2 rfl) ?_
          refine lv_aload_n hx hb dX0_pool_42 rfl (lv_at hL 0 rfl) ?_
          refine xx_gr (ci := 0) (k := 20) C B xc_0 ht (by decide) (Nat.le_of_ble_eq_true rfl) rfl q380 (fun _ h => h) h dX0_pool_43 (fun v7 ok8 h => ?_)
          refine lv_iload hx hb dX0_pool_46 (lv_at hL 2 rfl) ?_
          refine xx_is h (fun hp9 h => ?_)
          refine xx_iald C B hp9 h dX0_pool_48 (fun v10 h => ?_)
          refine xx_is h (fun hp11 h => ?_)
          refine xx_iast C B hp11 h dX0_pool_49 (fun gi12 h H locs B => ?_)
          refine lv_aload_n hx hb dX0_pool_50 rfl (lv_at hL 0 rfl) ?_
          refine xx_gr (ci := 0) (k := 15) C B xc_0 ht (by decide) (Nat.le_of_ble_eq_true rfl) rfl q375 (fun _ h => h) h dX0_pool_51 (fun v13 ok14 h => ?_)
          refine lv_aload_n hx hb dX0_pool_54 rfl (lv_at hL 0 rfl) ?_
          refine k_X0_kinds ht C B q1345 (Nat.le_trans (Nat.le_of_ble_eq_true rfl) hF) (Nat.le_trans (Nat.le_of_ble_eq_true rfl) hN) hL.1 (Nat.le_of_ble_eq_true rfl) ⟨Nat.zero_le _, Nat.zero_le _⟩ h dX0_pool_55 (fun q15 h H locs B => ?_)
          refine lv_iload hx hb dX0_pool_58 (lv_at hL 2 rfl) ?_
          refine lv_iadd hx hb dX0_pool_60 ?_
          refine lv_aload_n hx hb dX0_pool_61 rfl (lv_at hL 0 rfl) ?_
          refine xx_gr (ci := 0) (k := 20) C B xc_0 ht (by decide) (Nat.le_of_ble_eq_true rfl) rfl q380 (fun _ h => h) h dX0_pool_62 (fun v16 ok17 h => ?_)
          refine lv_iconst (v := 3) hx hb dX0_pool_65 (by decide) ?_
          refine lv_iload hx hb dX0_pool_66 (lv_at hL 2 rfl) ?_
          refine lv_iadd hx hb dX0_pool_68 ?_
          refine xx_is h (fun hp18 h => ?_)
          refine xx_iald C B hp18 h dX0_pool_69 (fun v19 h => ?_)
          refine xx_is h (fun hp20 h => ?_)
          refine xx_iast C B hp20 h dX0_pool_70 (fun gi21 h H locs B => ?_)
          refine lv_iinc (v := x4l27 + 1) (lv' := [(4, .int (x4l27 + 1)), (0, .ref (ad a0)), (3, .int q3.1)]) hx hb dX0_pool_71 hL (k := 2) rfl rfl (by decide) rfl (fun ls hL => ?_)
          refine lv_goto (tgt := 27) hx hb dX0_pool_74 (by decide) ?_
          exact ih27 _ _ _ _ _ (g_next h h927) B (lv_sub hL [1, 2, 0] rfl)
    exact hl27 g_K _ _ _ _ _ h827 B (lv_sub hL [2, 1, 0] rfl)
  · refine lv_ldc (v := (-1000000)) hx hb C.2.2.2.1 (C.2.2.2.2 _ q1250) dX0_pool_14 ?_
    exact hret _ _ _ _ _ _ _ ⟨Option.some.inj h, rfl⟩ B dX0_pool_16
theorem k_X0_pool {p : Program} {l : Launch} {e : Env} {R : Room} {s : State} {m : MethodId} {args : Array Value} {below : List Frame} {meth : Method} {c : Code} {H : Heap} {locs : List Loc} {Q : State → Prop} {pc : Nat} {ls : Array Slot} {rest : List Value} {cc : ByteArray} {nL cells slots : Nat} {D : va_G} {cA : Nat → ClassId} {ad : Nat → Nat} {hk : HK} {nx : Nat} {A : Nat → Prop} {gi : GI} {gr : GR} {α : Type} {r : α} {own : String} {idx : Nat} {a0 : Nat} {x1 : Int32} {x2 : Int32} {ff : (Int32 × GI) → Option α} (ht : (hk a0).1 = 10) (C : CallFix p m c cc nL s args lw_all own) (B : XB D cA ad hk nx A s gi gr H locs) (hq : Cond.methodLink own idx yX0_pool ∈ lw_all) (hF : 107 ≤ R.frames) (hN : 3195 ≤ R.locals) (hs : ls.size = nL) (hw : (rest.map fun v => v.category).sum ≤ 8) (hz0 : cells ≤ R.cells ∧ slots ≤ R.slots) (h : (f_X0_pool hk gi gr a0 x1 x2).bind ff = some r) (hdg : decode cc pc = .ok (.invokevirtual idx, 3)) (kk : ∀ q, ff q = some r → ∀ (H' : Heap) (locs' : List Loc), XB D cA ad hk nx A s q.2 gr H' locs' → W p l e R s m args below meth c H' locs' cells slots Q (F0 m (pc + 3) ls (.int q.1 :: rest))) : W p l e R s m args below meth c H locs cells slots Q (F0 m pc ls (.int x2 :: .int x1 :: .ref (ad a0) :: rest)) := by
  obtain ⟨q, h1, h2⟩ := g_ob h
  refine xx_cVI (As := [.int x1, .int x2]) (rest := rest) (n := 2) xc_0 ht (by decide) C B (fun sz => w_X0_pool l D cA ad hk nx gi gr a0 x1 x2 ht q h1 sz) hq q1501 q1502 q141 q1503 (by decide +kernel) ⟨hF, hN⟩ rfl hs hw hz0 hdg (fun v u H9 locs9 hp B9 => ?_)
  obtain ⟨e1, e3⟩ := hp
  rw [e3] at B9
  subst e1
  exact kk _ h2 H9 locs9 B9
def f_X0_joint (hk : HK) (gi : GI) (gr : GR) (a0 : Nat) (x1 : Int32) (x2 : Int32) : Option (Int32 × GI) :=
  (f_X0_areTwo hk gi gr a0 x1 x2).bind fun q1 =>
  if q1 = 0 then
  (some ((-1000000), gi))
  else
  ((gr a0 8).bind fun v2 =>
  (gr a0 5).bind fun v4 =>
  (g_is hk v2 13).bind fun _ =>
  (f_X3_copy hk gi gr v2 v4).bind fun q7 =>
  (gr a0 8).bind fun v8 =>
  (f_X0_layBest hk q7.2 gr a0 v8 x1 0).bind fun q10 =>
  (gr a0 8).bind fun v11 =>
  (gr a0 4).bind fun v13 =>
  (gr a0 14).bind fun v15 =>
  (g_is hk v11 13).bind fun _ =>
  (f_X3_poursRow hk q10 gr v11 v13 x1 v15 0).bind fun q18 =>
  (gr a0 8).bind fun v19 =>
  (f_X0_layBest hk q18.2 gr a0 v19 x2 0).bind fun q21 =>
  (gr a0 8).bind fun v22 =>
  (gr a0 4).bind fun v24 =>
  (gr a0 14).bind fun v26 =>
  (g_is hk v22 13).bind fun _ =>
  (f_X3_poursRow hk q21 gr v22 v24 x2 v26 0).bind fun q29 =>
  (f_X0_pooled hk q29.2 gr a0 x1 x2).bind fun q30 =>
  (gr a0 8).bind fun v31 =>
  (gr a0 4).bind fun v33 =>
  (g_is hk v31 13).bind fun _ =>
  (f_X3_growth hk q30.2 gr v31 v33 x1).bind fun q36 =>
  (gr a0 8).bind fun v37 =>
  (gr a0 4).bind fun v39 =>
  (g_is hk v37 13).bind fun _ =>
  (f_X3_growth hk q36.2 gr v37 v39 x2).bind fun q42 =>
  some ((q30.1 - q36.1) - q42.1, q42.2))
set_option maxHeartbeats 400000 in
theorem w_X0_joint (l : Launch) (D : va_G) (cA : Nat → ClassId) (ad : Nat → Nat) (hk : HK) (nx : Nat) (gi : GI) (gr : GR) (a0 : Nat) (x1 : Int32) (x2 : Int32) (ht : (hk a0).1 = 10) (r : Int32 × GI) (h : f_X0_joint hk gi gr a0 x1 x2 = some r) (sz : Nat) : Met l yX0_joint (ws_ yX0_joint cX0_joint 3 (some .int)) ({ frames := 108, cells := 0, slots := 0, locals := 3214 } : Room) (va_Pc [.ref (ad a0), .int x1, .int x2] (XPre D cA ad hk nx gi gr sz)) (va_Qi (fun v u => (v, u.1) = r ∧ u.2 = gr) (XPost D cA ad hk nx) (XA ad nx sz)) 0 0 (XA ad nx sz) := by
  refine xx_stI (own := RX0) (P := (fun v u => (v, u.1) = r ∧ u.2 = gr)) (by decide +kernel) rfl (Nat.le_of_ble_eq_true rfl) (fun p e s m args below meth c R Q A ls C hF hN B hret hL => ?_) sz
  have hx := C.1
  have hb := C.2.1
  have hL : lv_has ls 3 [(0, .ref (ad a0)), (1, .int x1), (2, .int x2)] := hL
  unfold f_X0_joint at h
  refine lv_aload_n hx hb dX0_joint_0 rfl (lv_at hL 0 rfl) ?_
  refine lv_iload_n hx hb dX0_joint_1 rfl (lv_at hL 1 rfl) ?_
  refine lv_iload_n hx hb dX0_joint_2 rfl (lv_at hL 2 rfl) ?_
  refine k_X0_areTwo ht C B q1402 (Nat.le_trans (Nat.le_of_ble_eq_true rfl) hF) (Nat.le_trans (Nat.le_of_ble_eq_true rfl) hN) hL.1 (Nat.le_of_ble_eq_true rfl) ⟨Nat.zero_le _, Nat.zero_le _⟩ h dX0_joint_3 (fun q1 h H locs B => ?_)
  refine gg_if_ne hx hb 12 h dX0_joint_6 (by decide) (fun h => ?_) (fun h => ?_)
  · refine lv_aload_n hx hb dX0_joint_12 rfl (lv_at hL 0 rfl) ?_
    refine xx_gr (ci := 0) (k := 8) C B xc_0 ht (by decide) (Nat.le_of_ble_eq_true rfl) rfl q367 (fun _ h => h) h dX0_joint_13 (fun v2 ok3 h => ?_)
    refine lv_aload_n hx hb dX0_joint_16 rfl (lv_at hL 0 rfl) ?_
    refine xx_gr (ci := 0) (k := 5) C B xc_0 ht (by decide) (Nat.le_of_ble_eq_true rfl) rfl q364 (fun _ h => h) h dX0_joint_17 (fun v4 ok5 h => ?_)
    refine xx_is h (fun hp6 h => ?_)
    refine k_X3_copy hp6 C B q1381 (Nat.le_trans (Nat.le_of_ble_eq_true rfl) hF) (Nat.le_trans (Nat.le_of_ble_eq_true rfl) hN) hL.1 (Nat.le_of_ble_eq_true rfl) ⟨Nat.zero_le _, Nat.zero_le _⟩ h dX0_joint_20 (fun q7 h H locs B => ?_)
    refine lv_pop hx hb dX0_joint_23 rfl ?_
    refine lv_aload_n hx hb dX0_joint_24 rfl (lv_at hL 0 rfl) ?_
    refine lv_aload_n hx hb dX0_joint_25 rfl (lv_at hL 0 rfl) ?_
    refine xx_gr (ci := 0) (k := 8) C B xc_0 ht (by decide) (Nat.le_of_ble_eq_true rfl) rfl q367 (fun _ h => h) h dX0_joint_26 (fun v8 ok9 h => ?_)
    refine lv_iload_n hx hb dX0_joint_29 rfl (lv_at hL 1 rfl) ?_
    refine lv_iconst (v := 0) hx hb dX0_joint_30 (by decide) ?_
    refine k_X0_layBest ht C B q1456 (Nat.le_trans (Nat.le_of_ble_eq_true rfl) hF) (Nat.le_trans (Nat.le_of_ble_eq_true rfl) hN) hL.1 (Nat.le_of_ble_eq_true rfl) ⟨Nat.zero_le _, Nat.zero_le _⟩ h dX0_joint_31 (fun q10 h H locs B => ?_)
    refine lv_aload_n hx hb dX0_joint_34 rfl (lv_at hL 0 rfl) ?_
    refine xx_gr (ci := 0) (k := 8) C B xc_0 ht (by decide) (Nat.le_of_ble_eq_true rfl) rfl q367 (fun _ h => h) h dX0_joint_35 (fun v11 ok12 h => ?_)
    refine lv_aload_n hx hb dX0_joint_38 rfl (lv_at hL 0 rfl) ?_
    refine xx_gr (ci := 0) (k := 4) C B xc_0 ht (by decide) (Nat.le_of_ble_eq_true rfl) rfl q363 (fun _ h => h) h dX0_joint_39 (fun v13 ok14 h => ?_)
    refine lv_iload_n hx hb dX0_joint_42 rfl (lv_at hL 1 rfl) ?_
    refine lv_aload_n hx hb dX0_joint_43 rfl (lv_at hL 0 rfl) ?_
    refine xx_gr (ci := 0) (k := 14) C B xc_0 ht (by decide) (Nat.le_of_ble_eq_true rfl) rfl q374 (fun _ h => h) h dX0_joint_44 (fun v15 ok16 h => ?_)
    refine lv_iconst (v := 0) hx hb dX0_joint_47 (by decide) ?_
    refine xx_is h (fun hp17 h => ?_)
    refine k_X3_poursRow hp17 C B q1472 (Nat.le_trans (Nat.le_of_ble_eq_true rfl) hF) (Nat.le_trans (Nat.le_of_ble_eq_true rfl) hN) hL.1 (Nat.le_of_ble_eq_true rfl) ⟨Nat.zero_le _, Nat.zero_le _⟩ h dX0_joint_48 (fun q18 h H locs B => ?_)
    refine lv_pop hx hb dX0_joint_51 rfl ?_
    refine lv_aload_n hx hb dX0_joint_52 rfl (lv_at hL 0 rfl) ?_
    refine lv_aload_n hx hb dX0_joint_53 rfl (lv_at hL 0 rfl) ?_
    refine xx_gr (ci := 0) (k := 8) C B xc_0 ht (by decide) (Nat.le_of_ble_eq_true rfl) rfl q367 (fun _ h => h) h dX0_joint_54 (fun v19 ok20 h => ?_)
    refine lv_iload_n hx hb dX0_joint_57 rfl (lv_at hL 2 rfl) ?_
    refine lv_iconst (v := 0) hx hb dX0_joint_58 (by decide) ?_
    refine k_X0_layBest ht C B q1456 (Nat.le_trans (Nat.le_of_ble_eq_true rfl) hF) (Nat.le_trans (Nat.le_of_ble_eq_true rfl) hN) hL.1 (Nat.le_of_ble_eq_true rfl) ⟨Nat.zero_le _, Nat.zero_le _⟩ h dX0_joint_59 (fun q21 h H locs B => ?_)
    refine lv_aload_n hx hb dX0_joint_62 rfl (lv_at hL 0 rfl) ?_
    refine xx_gr (ci := 0) (k := 8) C B xc_0 ht (by decide) (Nat.le_of_ble_eq_true rfl) rfl q367 (fun _ h => h) h dX0_joint_63 (fun v22 ok23 h => ?_)
    refine lv_aload_n hx hb dX0_joint_66 rfl (lv_at hL 0 rfl) ?_
    refine xx_gr (ci := 0) (k := 4) C B xc_0 ht (by decide) (Nat.le_of_ble_eq_true rfl) rfl q363 (fun _ h => h) h dX0_joint_67 (fun v24 ok25 h => ?_)
    refine lv_iload_n hx hb dX0_joint_70 rfl (lv_at hL 2 rfl) ?_
    refine lv_aload_n hx hb dX0_joint_71 rfl (lv_at hL 0 rfl) ?_
    refine xx_gr (ci := 0) (k := 14) C B xc_0 ht (by decide) (Nat.le_of_ble_eq_true rfl) rfl q374 (fun _ h => h) h dX0_joint_72 (fun v26 ok27 h => ?_)
    refine lv_iconst (v := 0) hx hb dX0_joint_75 (by decide) ?_
    refine xx_is h (fun hp28 h => ?_)
    refine k_X3_poursRow hp28 C B q1472 (Nat.le_trans (Nat.le_of_ble_eq_true rfl) hF) (Nat.le_trans (Nat.le_of_ble_eq_true rfl) hN) hL.1 (Nat.le_of_ble_eq_true rfl) ⟨Nat.zero_le _, Nat.zero_le _⟩ h dX0_joint_76 (fun q29 h H locs B => ?_)
    refine lv_pop hx hb dX0_joint_79 rfl ?_
    refine lv_aload_n hx hb dX0_joint_80 rfl (lv_at hL 0 rfl) ?_
    refine lv_iload_n hx hb dX0_joint_81 rfl (lv_at hL 1 rfl) ?_
    refine lv_iload_n hx hb dX0_joint_82 rfl (lv_at hL 2 rfl) ?_
    refine k_X0_pooled ht C B q1504 (Nat.le_trans (Nat.le_of_ble_eq_true rfl) hF) (Nat.le_trans (Nat.le_of_ble_eq_true rfl) hN) hL.1 (Nat.le_of_ble_eq_true rfl) ⟨Nat.zero_le _, Nat.zero_le _⟩ h dX0_joint_83 (fun q30 h H locs B => ?_)
    refine lv_aload_n hx hb dX0_joint_86 rfl (lv_at hL 0 rfl) ?_
    refine xx_gr (ci := 0) (k := 8) C B xc_0 ht (by decide) (Nat.le_of_ble_eq_true rfl) rfl q367 (fun _ h => h) h dX0_joint_87 (fun v31 ok32 h => ?_)
    refine lv_aload_n hx hb dX0_joint_90 rfl (lv_at hL 0 rfl) ?_
    refine xx_gr (ci := 0) (k := 4) C B xc_0 ht (by decide) (Nat.le_of_ble_eq_true rfl) rfl q363 (fun _ h => h) h dX0_joint_91 (fun v33 ok34 h => ?_)
    refine lv_iload_n hx hb dX0_joint_94 rfl (lv_at hL 1 rfl) ?_
    refine xx_is h (fun hp35 h => ?_)
    refine k_X3_growth hp35 C B q1253 (Nat.le_trans (Nat.le_of_ble_eq_true rfl) hF) (Nat.le_trans (Nat.le_of_ble_eq_true rfl) hN) hL.1 (Nat.le_of_ble_eq_true rfl) ⟨Nat.zero_le _, Nat.zero_le _⟩ h dX0_joint_95 (fun q36 h H locs B => ?_)
    refine lv_isub hx hb dX0_joint_98 ?_
    refine lv_aload_n hx hb dX0_joint_99 rfl (lv_at hL 0 rfl) ?_
    refine xx_gr (ci := 0) (k := 8) C B xc_0 ht (by decide) (Nat.le_of_ble_eq_true rfl) rfl q367 (fun _ h => h) h dX0_joint_100 (fun v37 ok38 h => ?_)
    refine lv_aload_n hx hb dX0_joint_103 rfl (lv_at hL 0 rfl) ?_
    refine xx_gr (ci := 0) (k := 4) C B xc_0 ht (by decide) (Nat.le_of_ble_eq_true rfl) rfl q363 (fun _ h => h) h dX0_joint_104 (fun v39 ok40 h => ?_)
    refine lv_iload_n hx hb dX0_joint_107 rfl (lv_at hL 2 rfl) ?_
    refine xx_is h (fun hp41 h => ?_)
    refine k_X3_growth hp41 C B q1253 (Nat.le_trans (Nat.le_of_ble_eq_true rfl) hF) (Nat.le_trans (Nat.le_of_ble_eq_true rfl) hN) hL.1 (Nat.le_of_ble_eq_true rfl) ⟨Nat.zero_le _, Nat.zero_le _⟩ h dX0_joint_108 (fun q42 h H locs B => ?_)
    refine lv_isub hx hb dX0_joint_111 ?_
    exact hret _ _ _ _ _ _ _ ⟨Option.some.inj h, rfl⟩ B dX0_joint_112
  · refine lv_ldc (v := (-1000000)) hx hb C.2.2.2.1 (C.2.2.2.2 _ q1250) dX0_joint_9 ?_
    exact hret _ _ _ _ _ _ _ ⟨Option.some.inj h, rfl⟩ B dX0_joint_11
theorem k_X0_joint {p : Program} {l : Launch} {e : Env} {R : Room} {s : State} {m : MethodId} {args : Array Value} {below : List Frame} {meth : Method} {c : Code} {H : Heap} {locs : List Loc} {Q : State → Prop} {pc : Nat} {ls : Array Slot} {rest : List Value} {cc : ByteArray} {nL cells slots : Nat} {D : va_G} {cA : Nat → ClassId} {ad : Nat → Nat} {hk : HK} {nx : Nat} {A : Nat → Prop} {gi : GI} {gr : GR} {α : Type} {r : α} {own : String} {idx : Nat} {a0 : Nat} {x1 : Int32} {x2 : Int32} {ff : (Int32 × GI) → Option α} (ht : (hk a0).1 = 10) (C : CallFix p m c cc nL s args lw_all own) (B : XB D cA ad hk nx A s gi gr H locs) (hq : Cond.methodLink own idx yX0_joint ∈ lw_all) (hF : 109 ≤ R.frames) (hN : 3236 ≤ R.locals) (hs : ls.size = nL) (hw : (rest.map fun v => v.category).sum ≤ 8) (hz0 : cells ≤ R.cells ∧ slots ≤ R.slots) (h : (f_X0_joint hk gi gr a0 x1 x2).bind ff = some r) (hdg : decode cc pc = .ok (.invokevirtual idx, 3)) (kk : ∀ q, ff q = some r → ∀ (H' : Heap) (locs' : List Loc), XB D cA ad hk nx A s q.2 gr H' locs' → W p l e R s m args below meth c H' locs' cells slots Q (F0 m (pc + 3) ls (.int q.1 :: rest))) : W p l e R s m args below meth c H locs cells slots Q (F0 m pc ls (.int x2 :: .int x1 :: .ref (ad a0) :: rest)) := by
  obtain ⟨q, h1, h2⟩ := g_ob h
  refine xx_cVI (As := [.int x1, .int x2]) (rest := rest) (n := 2) xc_0 ht (by decide) C B (fun sz => w_X0_joint l D cA ad hk nx gi gr a0 x1 x2 ht q h1 sz) hq q1518 q1519 q141 q1520 (by decide +kernel) ⟨hF, hN⟩ rfl hs hw hz0 hdg (fun v u H9 locs9 hp B9 => ?_)
  obtain ⟨e1, e3⟩ := hp
  rw [e3] at B9
  subst e1
  exact kk _ h2 H9 locs9 B9
def f_X0_layWithout_l14 (hk : HK) (gri14 : GR) (a0i14 : Nat) (x1i14 : Int32) (x2l14 : Int32) (gil14 : GI) : Option ((Int32 × GI) ⊕ (GI)) :=
  (f_X0_men hk gil14 gri14 a0i14).bind fun q7 =>
  if q7 ≤ x2l14 then
  (some (.inr gil14))
  else
  (if x2l14 = x1i14 then
  (some (.inl ((x2l14 + 1, gil14))))
  else
  ((gri14 a0i14 8).bind fun v8 =>
  (gri14 a0i14 4).bind fun v10 =>
  (gri14 a0i14 21).bind fun v12 =>
  (g_is hk v8 13).bind fun _ =>
  (f_X3_poursRow hk gil14 gri14 v8 v10 x2l14 v12 (3 * x2l14)).bind fun q15 =>
  some (.inl ((x2l14 + 1, q15.2)))))
def f_X0_layWithout_x14 (hk : HK) (gry14 : GR) (gie14 : GI) : Option (GI) :=
  some gie14
def f_X0_layWithout (hk : HK) (gi : GI) (gr : GR) (a0 : Nat) (x1 : Int32) : Option (GI) :=
  (gr a0 8).bind fun v1 =>
  (gr a0 5).bind fun v3 =>
  (g_is hk v1 13).bind fun _ =>
  (f_X3_copy hk gi gr v1 v3).bind fun q6 =>
  (g_loop g_K (fun (s : Int32 × GI) => f_X0_layWithout_l14 hk gr a0 x1 s.1 s.2) (0, q6.2)).bind fun E14 => f_X0_layWithout_x14 hk gr E14
set_option maxHeartbeats 400000 in
theorem w_X0_layWithout (l : Launch) (D : va_G) (cA : Nat → ClassId) (ad : Nat → Nat) (hk : HK) (nx : Nat) (gi : GI) (gr : GR) (a0 : Nat) (x1 : Int32) (ht : (hk a0).1 = 10) (r : GI) (h : f_X0_layWithout hk gi gr a0 x1 = some r) (sz : Nat) : Met l yX0_layWithout (ws_ yX0_layWithout cX0_layWithout 3 (none)) ({ frames := 7, cells := 0, slots := 0, locals := 198 } : Room) (va_Pc [.ref (ad a0), .int x1] (XPre D cA ad hk nx gi gr sz)) (va_Qv (fun u => u.1 = r ∧ u.2 = gr) (XPost D cA ad hk nx) (XA ad nx sz)) 0 0 (XA ad nx sz) := by
  refine xx_stV (own := RX0) (P := (fun u => u.1 = r ∧ u.2 = gr)) (by decide +kernel) rfl (Nat.le_of_ble_eq_true rfl) (fun p e s m args below meth c R Q A ls C hF hN B hret hL => ?_) sz
  have hx := C.1
  have hb := C.2.1
  have hL : lv_has ls 3 [(0, .ref (ad a0)), (1, .int x1)] := hL
  unfold f_X0_layWithout at h
  refine lv_aload_n hx hb dX0_layWithout_0 rfl (lv_at hL 0 rfl) ?_
  refine xx_gr (ci := 0) (k := 8) C B xc_0 ht (by decide) (Nat.le_of_ble_eq_true rfl) rfl q367 (fun _ h => h) h dX0_layWithout_1 (fun v1 ok2 h => ?_)
  refine lv_aload_n hx hb dX0_layWithout_4 rfl (lv_at hL 0 rfl) ?_
  refine xx_gr (ci := 0) (k := 5) C B xc_0 ht (by decide) (Nat.le_of_ble_eq_true rfl) rfl q364 (fun _ h => h) h dX0_layWithout_5 (fun v3 ok4 h => ?_)
  refine xx_is h (fun hp5 h => ?_)
  refine k_X3_copy hp5 C B q1381 (Nat.le_trans (Nat.le_of_ble_eq_true rfl) hF) (Nat.le_trans (Nat.le_of_ble_eq_true rfl) hN) hL.1 (Nat.le_of_ble_eq_true rfl) ⟨Nat.zero_le _, Nat.zero_le _⟩ h dX0_layWithout_8 (fun q6 h H locs B => ?_)
  refine lv_pop hx hb dX0_layWithout_11 rfl ?_
  refine lv_iconst (v := 0) hx hb dX0_layWithout_12 (by decide) ?_
  refine lv_istore_n (lv' := [(2, .int 0), (0, .ref (ad a0)), (1, .int x1)]) hx hb dX0_layWithout_13 rfl hL (by decide) rfl (fun ls hL => ?_)
  obtain ⟨E14, h814, h⟩ := g_ob h
  have kx14 : ∀ (gie14 : GI) (H : Heap) (locs : List Loc) (ls : Array Slot), gie14 = E14 → XB D cA ad hk nx A s gie14 gr H locs → lv_has ls 3 [] → W p l e R s m args below meth c H locs 0 0 Q (F0 m 53 ls []) := by
    intro gie14 H locs ls he B hL
    subst he
    have h : f_X0_layWithout_x14 hk gr gie14 = some r := h
    unfold f_X0_layWithout_x14 at h
    exact hret _ _ _ _ _ _ ⟨Option.some.inj h, rfl⟩ B dX0_layWithout_53
  have hl14 : ∀ (k : Nat) (x2l14 : Int32) (gil14 : GI) (H : Heap) (locs : List Loc) (ls : Array Slot), g_loop k (fun (s : Int32 × GI) => f_X0_layWithout_l14 hk gr a0 x1 s.1 s.2) (x2l14, gil14) = some E14 → XB D cA ad hk nx A s gil14 gr H locs → lv_has ls 3 [(0, .ref (ad a0)), (1, .int x1), (2, .int x2l14)] → W p l e R s m args below meth c H locs 0 0 Q (F0 m 14 ls []) := by
    intro k
    induction k with
    | zero => intro x2l14 gil14 H locs ls h; exact absurd h (fun z => g_loop_0 z)
    | succ k ih14 =>
      intro x2l14 gil14 H locs ls h B hL
      obtain ⟨Z14, h, h914⟩ := g_loop_s h
      have h : f_X0_layWithout_l14 hk gr a0 x1 x2l14 gil14 = some Z14 := h
      unfold f_X0_layWithout_l14 at h
      refine lv_iload_n hx hb dX0_layWithout_14 rfl (lv_at hL 2 rfl) ?_
      refine lv_aload_n hx hb dX0_layWithout_15 rfl (lv_at hL 0 rfl) ?_
      refine k_X0_men ht C B q1230 (Nat.le_trans (Nat.le_of_ble_eq_true rfl) hF) (Nat.le_trans (Nat.le_of_ble_eq_true rfl) hN) hL.1 (Nat.le_of_ble_eq_true rfl) ⟨Nat.zero_le _, Nat.zero_le _⟩ h dX0_layWithout_16 (fun q7 h H locs B => ?_)
      refine gg_icmp_ge hx hb 53 h dX0_layWithout_19 (by decide) (fun h => ?_) (fun h => ?_)
      · exact kx14 _ _ _ _ (g_exit h h914) B (lv_sub hL [] rfl)
      · refine lv_iload_n hx hb dX0_layWithout_22 rfl (lv_at hL 2 rfl) ?_
        refine lv_iload_n hx hb dX0_layWithout_23 rfl (lv_at hL 1 rfl) ?_
        refine gg_icmp_eq hx hb 47 h dX0_layWithout_24 (by decide) (fun h => ?_) (fun h => ?_)
        · refine lv_iinc (v := x2l14 + 1) (lv' := [(2, .int (x2l14 + 1)), (0, .ref (ad a0)), (1, .int x1)]) hx hb dX0_layWithout_47 hL (k := 2) rfl rfl (by decide) rfl (fun ls hL => ?_)
          refine lv_goto (tgt := 14) hx hb dX0_layWithout_50 (by decide) ?_
          exact ih14 _ _ _ _ _ (g_next h h914) B (lv_sub hL [1, 2, 0] rfl)
        · refine lv_aload_n hx hb dX0_layWithout_27 rfl (lv_at hL 0 rfl) ?_
          refine xx_gr (ci := 0) (k := 8) C B xc_0 ht (by decide) (Nat.le_of_ble_eq_true rfl) rfl q367 (fun _ h => h) h dX0_layWithout_28 (fun v8 ok9 h => ?_)
          refine lv_aload_n hx hb dX0_layWithout_31 rfl (lv_at hL 0 rfl) ?_
          refine xx_gr (ci := 0) (k := 4) C B xc_0 ht (by decide) (Nat.le_of_ble_eq_true rfl) rfl q363 (fun _ h => h) h dX0_layWithout_32 (fun v10 ok11 h => ?_)
          refine lv_iload_n hx hb dX0_layWithout_35 rfl (lv_at hL 2 rfl) ?_
          refine lv_aload_n hx hb dX0_layWithout_36 rfl (lv_at hL 0 rfl) ?_
          refine xx_gr (ci := 0) (k := 21) C B xc_0 ht (by decide) (Nat.le_of_ble_eq_true rfl) rfl q381 (fun _ h => h) h dX0_layWithout_37 (fun v12 ok13 h => ?_)
          refine lv_iconst (v := 3) hx hb dX0_layWithout_40 (by decide) ?_
          refine lv_iload_n hx hb dX0_layWithout_41 rfl (lv_at hL 2 rfl) ?_
          refine lv_imul hx hb dX0_layWithout_42 ?_
          refine xx_is h (fun hp14 h => ?_)
          refine k_X3_poursRow hp14 C B q1472 (Nat.le_trans (Nat.le_of_ble_eq_true rfl) hF) (Nat.le_trans (Nat.le_of_ble_eq_true rfl) hN) hL.1 (Nat.le_of_ble_eq_true rfl) ⟨Nat.zero_le _, Nat.zero_le _⟩ h dX0_layWithout_43 (fun q15 h H locs B => ?_)
          refine lv_pop hx hb dX0_layWithout_46 rfl ?_
          refine lv_iinc (v := x2l14 + 1) (lv' := [(2, .int (x2l14 + 1)), (0, .ref (ad a0)), (1, .int x1)]) hx hb dX0_layWithout_47 hL (k := 2) rfl rfl (by decide) rfl (fun ls hL => ?_)
          refine lv_goto (tgt := 14) hx hb dX0_layWithout_50 (by decide) ?_
          exact ih14 _ _ _ _ _ (g_next h h914) B (lv_sub hL [1, 2, 0] rfl)
  exact hl14 g_K _ _ _ _ _ h814 B (lv_sub hL [1, 2, 0] rfl)
theorem k_X0_layWithout {p : Program} {l : Launch} {e : Env} {R : Room} {s : State} {m : MethodId} {args : Array Value} {below : List Frame} {meth : Method} {c : Code} {H : Heap} {locs : List Loc} {Q : State → Prop} {pc : Nat} {ls : Array Slot} {rest : List Value} {cc : ByteArray} {nL cells slots : Nat} {D : va_G} {cA : Nat → ClassId} {ad : Nat → Nat} {hk : HK} {nx : Nat} {A : Nat → Prop} {gi : GI} {gr : GR} {α : Type} {r : α} {own : String} {idx : Nat} {a0 : Nat} {x1 : Int32} {ff : GI → Option α} (ht : (hk a0).1 = 10) (C : CallFix p m c cc nL s args lw_all own) (B : XB D cA ad hk nx A s gi gr H locs) (hq : Cond.methodLink own idx yX0_layWithout ∈ lw_all) (hF : 8 ≤ R.frames) (hN : 220 ≤ R.locals) (hs : ls.size = nL) (hw : (rest.map fun v => v.category).sum ≤ 8) (hz0 : cells ≤ R.cells ∧ slots ≤ R.slots) (h : (f_X0_layWithout hk gi gr a0 x1).bind ff = some r) (hdg : decode cc pc = .ok (.invokevirtual idx, 3)) (kk : ∀ q, ff q = some r → ∀ (H' : Heap) (locs' : List Loc), XB D cA ad hk nx A s q gr H' locs' → W p l e R s m args below meth c H' locs' cells slots Q (F0 m (pc + 3) ls (rest))) : W p l e R s m args below meth c H locs cells slots Q (F0 m pc ls (.int x1 :: .ref (ad a0) :: rest)) := by
  obtain ⟨q, h1, h2⟩ := g_ob h
  refine xx_cVV (As := [.int x1]) (rest := rest) (n := 1) xc_0 ht (by decide) C B (fun sz => w_X0_layWithout l D cA ad hk nx gi gr a0 x1 ht q h1 sz) hq q1531 qs58 q141 q1532 (by decide +kernel) ⟨hF, hN⟩ rfl hs hw hz0 hdg (fun u H9 locs9 hp B9 => ?_)
  obtain ⟨e1, e3⟩ := hp
  rw [e3] at B9
  subst e1
  exact kk _ h2 H9 locs9 B9
def f_X0_goRound_j62 (hk : HK) (grj62 : GR) (a0j62 : Nat) (x2j62 : Int32) (gij62 : GI) (x3j62 : Int32) (t0j62 : Int32) : Option ((Int32 × Int32 × GI) ⊕ (Int32 × GI)) :=
  (grj62 a0j62 21).bind fun v6 =>
  (grj62 a0j62 14).bind fun v8 =>
  (g_is hk v8 0).bind fun _ =>
  (g_ld gij62 v8 (hk v8).2 x3j62).bind fun v11 =>
  (g_is hk v6 0).bind fun _ =>
  (g_st gij62 v6 (hk v6).2 ((3 * x2j62) + x3j62) v11).bind fun gi13 =>
  some (.inl ((t0j62, x3j62 + 1, gi13)))
def f_X0_goRound_j57 (hk : HK) (grj57 : GR) (a0j57 : Nat) (x2j57 : Int32) (gij57 : GI) (x3j57 : Int32) : Option ((Int32 × Int32 × GI) ⊕ (Int32 × GI)) :=
  f_X0_goRound_j62 hk grj57 a0j57 x2j57 gij57 x3j57 1
def f_X0_goRound_l29 (hk : HK) (gri29 : GR) (a0i29 : Nat) (x2i29 : Int32) (x1l29 : Int32) (x3l29 : Int32) (gil29 : GI) : Option ((Int32 × Int32 × GI) ⊕ (Int32 × GI)) :=
  if 3 ≤ x3l29 then
  (some (.inr ((x1l29, gil29))))
  else
  (if x1l29 = 0 then
  ((gri29 a0i29 21).bind fun v14 =>
  (g_is hk v14 0).bind fun _ =>
  (g_ld gil29 v14 (hk v14).2 ((3 * x2i29) + x3l29)).bind fun v17 =>
  (gri29 a0i29 14).bind fun v18 =>
  (g_is hk v18 0).bind fun _ =>
  (g_ld gil29 v18 (hk v18).2 x3l29).bind fun v21 =>
  if v17 = v21 then
  (f_X0_goRound_j62 hk gri29 a0i29 x2i29 gil29 x3l29 0)
  else
  (f_X0_goRound_j57 hk gri29 a0i29 x2i29 gil29 x3l29))
  else
  (f_X0_goRound_j57 hk gri29 a0i29 x2i29 gil29 x3l29))
def f_X0_goRound_x29 (hk : HK) (gry29 : GR) (a0y29 : Nat) (x2y29 : Int32) (x1e29 : Int32) (gie29 : GI) : Option ((Int32 × Int32 × GI) ⊕ (Int32 × GI)) :=
  some (.inl ((x1e29, x2y29 + 1, gie29)))
def f_X0_goRound_l4 (hk : HK) (gri4 : GR) (a0i4 : Nat) (x1l4 : Int32) (x2l4 : Int32) (gil4 : GI) : Option ((Int32 × Int32 × GI) ⊕ (Int32 × GI)) :=
  (f_X0_men hk gil4 gri4 a0i4).bind fun q1 =>
  if q1 ≤ x2l4 then
  (some (.inr ((x1l4, gil4))))
  else
  ((f_X0_layWithout hk gil4 gri4 a0i4 x2l4).bind fun q2 =>
  (gri4 a0i4 8).bind fun v3 =>
  (f_X0_layBest hk q2 gri4 a0i4 v3 x2l4 0).bind fun q5 =>
  (g_loop g_K (fun (s : Int32 × Int32 × GI) => f_X0_goRound_l29 hk gri4 a0i4 x2l4 s.1 s.2.1 s.2.2) (x1l4, 0, q5)).bind fun E29 => f_X0_goRound_x29 hk gri4 a0i4 x2l4 E29.1 E29.2)
def f_X0_goRound_x4 (hk : HK) (gry4 : GR) (x1e4 : Int32) (gie4 : GI) : Option (Int32 × GI) :=
  (g_zb x1e4).bind fun _ =>
  some (x1e4, gie4)
def f_X0_goRound (hk : HK) (gi : GI) (gr : GR) (a0 : Nat) : Option (Int32 × GI) :=
  (g_loop g_K (fun (s : Int32 × Int32 × GI) => f_X0_goRound_l4 hk gr a0 s.1 s.2.1 s.2.2) (0, 0, gi)).bind fun E4 => f_X0_goRound_x4 hk gr E4.1 E4.2
set_option maxHeartbeats 400000 in
theorem w_X0_goRound (l : Launch) (D : va_G) (cA : Nat → ClassId) (ad : Nat → Nat) (hk : HK) (nx : Nat) (gi : GI) (gr : GR) (a0 : Nat) (ht : (hk a0).1 = 10) (r : Int32 × GI) (h : f_X0_goRound hk gi gr a0 = some r) (sz : Nat) : Met l yX0_goRound (ws_ yX0_goRound cX0_goRound 4 (some .boolean)) ({ frames := 108, cells := 0, slots := 0, locals := 3214 } : Room) (va_Pc [.ref (ad a0)] (XPre D cA ad hk nx gi gr sz)) (va_Qi (fun v u => (v, u.1) = r ∧ u.2 = gr) (XPost D cA ad hk nx) (XA ad nx sz)) 0 0 (XA ad nx sz) := by
  refine xx_stZ (own := RX0) (P := (fun v u => (v, u.1) = r ∧ u.2 = gr)) (by decide +kernel) rfl (Nat.le_of_ble_eq_true rfl) (fun p e s m args below meth c R Q A ls C hF hN B hret hL => ?_) sz
  have hx := C.1
  have hb := C.2.1
  have hL : lv_has ls 4 [(0, .ref (ad a0))] := hL
  unfold f_X0_goRound at h
  refine lv_iconst (v := 0) hx hb dX0_goRound_0 (by decide) ?_
  refine lv_istore_n (lv' := [(1, .int 0), (0, .ref (ad a0))]) hx hb dX0_goRound_1 rfl hL (by decide) rfl (fun ls hL => ?_)
  refine lv_iconst (v := 0) hx hb dX0_goRound_2 (by decide) ?_
  refine lv_istore_n (lv' := [(2, .int 0), (1, .int 0), (0, .ref (ad a0))]) hx hb dX0_goRound_3 rfl hL (by decide) rfl (fun ls hL => ?_)
  obtain ⟨E4, h84, h⟩ := g_ob h
  have kx4 : ∀ (x1e4 : Int32) (gie4 : GI) (H : Heap) (locs : List Loc) (ls : Array Slot), (x1e4, gie4) = E4 → XB D cA ad hk nx A s gie4 gr H locs → lv_has ls 4 [(1, .int x1e4)] → W p l e R s m args below meth c H locs 0 0 Q (F0 m 91 ls []) := by
    intro x1e4 gie4 H locs ls he B hL
    subst he
    have h : f_X0_goRound_x4 hk gr x1e4 gie4 = some r := h
    unfold f_X0_goRound_x4 at h
    refine lv_iload_n hx hb dX0_goRound_91 rfl (lv_at hL 0 rfl) ?_
    refine mm_zb h (fun hz h => ?_)
    exact hret _ _ _ _ _ _ _ ⟨Option.some.inj h, rfl⟩ hz B dX0_goRound_92
  have hl4 : ∀ (k : Nat) (x1l4 : Int32) (x2l4 : Int32) (gil4 : GI) (H : Heap) (locs : List Loc) (ls : Array Slot), g_loop k (fun (s : Int32 × Int32 × GI) => f_X0_goRound_l4 hk gr a0 s.1 s.2.1 s.2.2) (x1l4, x2l4, gil4) = some E4 → XB D cA ad hk nx A s gil4 gr H locs → lv_has ls 4 [(0, .ref (ad a0)), (1, .int x1l4), (2, .int x2l4)] → W p l e R s m args below meth c H locs 0 0 Q (F0 m 4 ls []) := by
    intro k
    induction k with
    | zero => intro x1l4 x2l4 gil4 H locs ls h; exact absurd h (fun z => g_loop_0 z)
    | succ k ih4 =>
      intro x1l4 x2l4 gil4 H locs ls h B hL
      obtain ⟨Z4, h, h94⟩ := g_loop_s h
      have h : f_X0_goRound_l4 hk gr a0 x1l4 x2l4 gil4 = some Z4 := h
      unfold f_X0_goRound_l4 at h
      refine lv_iload_n hx hb dX0_goRound_4 rfl (lv_at hL 2 rfl) ?_
      refine lv_aload_n hx hb dX0_goRound_5 rfl (lv_at hL 0 rfl) ?_
      refine k_X0_men ht C B q1230 (Nat.le_trans (Nat.le_of_ble_eq_true rfl) hF) (Nat.le_trans (Nat.le_of_ble_eq_true rfl) hN) hL.1 (Nat.le_of_ble_eq_true rfl) ⟨Nat.zero_le _, Nat.zero_le _⟩ h dX0_goRound_6 (fun q1 h H locs B => ?_)
      refine gg_icmp_ge hx hb 91 h dX0_goRound_9 (by decide) (fun h => ?_) (fun h => ?_)
      · exact kx4 _ _ _ _ _ (g_exit h h94) B (lv_sub hL [1] rfl)
      · refine lv_aload_n hx hb dX0_goRound_12 rfl (lv_at hL 0 rfl) ?_
        refine lv_iload_n hx hb dX0_goRound_13 rfl (lv_at hL 2 rfl) ?_
        refine k_X0_layWithout ht C B q1529 (Nat.le_trans (Nat.le_of_ble_eq_true rfl) hF) (Nat.le_trans (Nat.le_of_ble_eq_true rfl) hN) hL.1 (Nat.le_of_ble_eq_true rfl) ⟨Nat.zero_le _, Nat.zero_le _⟩ h dX0_goRound_14 (fun q2 h H locs B => ?_)
        refine lv_aload_n hx hb dX0_goRound_17 rfl (lv_at hL 0 rfl) ?_
        refine lv_aload_n hx hb dX0_goRound_18 rfl (lv_at hL 0 rfl) ?_
        refine xx_gr (ci := 0) (k := 8) C B xc_0 ht (by decide) (Nat.le_of_ble_eq_true rfl) rfl q367 (fun _ h => h) h dX0_goRound_19 (fun v3 ok4 h => ?_)
        refine lv_iload_n hx hb dX0_goRound_22 rfl (lv_at hL 2 rfl) ?_
        refine lv_iconst (v := 0) hx hb dX0_goRound_23 (by decide) ?_
        refine k_X0_layBest ht C B q1456 (Nat.le_trans (Nat.le_of_ble_eq_true rfl) hF) (Nat.le_trans (Nat.le_of_ble_eq_true rfl) hN) hL.1 (Nat.le_of_ble_eq_true rfl) ⟨Nat.zero_le _, Nat.zero_le _⟩ h dX0_goRound_24 (fun q5 h H locs B => ?_)
        refine lv_iconst (v := 0) hx hb dX0_goRound_27 (by decide) ?_
        refine lv_istore_n (lv' := [(3, .int 0), (0, .ref (ad a0)), (1, .int x1l4), (2, .int x2l4)]) hx hb dX0_goRound_28 rfl hL (by decide) rfl (fun ls hL => ?_)
        obtain ⟨E29, h829, h⟩ := g_ob h
        have kx29 : ∀ (x1e29 : Int32) (gie29 : GI) (H : Heap) (locs : List Loc) (ls : Array Slot), (x1e29, gie29) = E29 → XB D cA ad hk nx A s gie29 gr H locs → lv_has ls 4 [(0, .ref (ad a0)), (1, .int x1e29), (2, .int x2l4)] → W p l e R s m args below meth c H locs 0 0 Q (F0 m 85 ls []) := by
          intro x1e29 gie29 H locs ls he B hL
          subst he
          have h : f_X0_goRound_x29 hk gr a0 x2l4 x1e29 gie29 = some Z4 := h
          unfold f_X0_goRound_x29 at h
          refine lv_iinc (v := x2l4 + 1) (lv' := [(2, .int (x2l4 + 1)), (0, .ref (ad a0)), (1, .int x1e29)]) hx hb dX0_goRound_85 hL (k := 2) rfl rfl (by decide) rfl (fun ls hL => ?_)
          refine lv_goto (tgt := 4) hx hb dX0_goRound_88 (by decide) ?_
          exact ih4 _ _ _ _ _ _ (g_next h h94) B (lv_sub hL [1, 2, 0] rfl)
        have hl29 : ∀ (k : Nat) (x1l29 : Int32) (x3l29 : Int32) (gil29 : GI) (H : Heap) (locs : List Loc) (ls : Array Slot), g_loop k (fun (s : Int32 × Int32 × GI) => f_X0_goRound_l29 hk gr a0 x2l4 s.1 s.2.1 s.2.2) (x1l29, x3l29, gil29) = some E29 → XB D cA ad hk nx A s gil29 gr H locs → lv_has ls 4 [(0, .ref (ad a0)), (1, .int x1l29), (2, .int x2l4), (3, .int x3l29)] → W p l e R s m args below meth c H locs 0 0 Q (F0 m 29 ls []) := by
          intro k
          induction k with
          | zero => intro x1l29 x3l29 gil29 H locs ls h; exact absurd h (fun z => g_loop_0 z)
          | succ k ih29 =>
            intro x1l29 x3l29 gil29 H locs ls h B hL
            obtain ⟨Z29, h, h929⟩ := g_loop_s h
            have h : f_X0_goRound_l29 hk gr a0 x2l4 x1l29 x3l29 gil29 = some Z29 := h
            unfold f_X0_goRound_l29 at h
            have hj62 : ∀ (gij62 : GI) (x3j62 : Int32) (t0j62 : Int32) (H : Heap) (locs : List Loc) (ls : Array Slot), f_X0_goRound_j62 hk gr a0 x2l4 gij62 x3j62 t0j62 = some Z29 → XB D cA ad hk nx A s gij62 gr H locs → lv_has ls 4 [(0, .ref (ad a0)), (2, .int x2l4), (3, .int x3j62)] → W p l e R s m args below meth c H locs 0 0 Q (F0 m 62 ls [.int t0j62]) := by
              intro gij62 x3j62 t0j62 H locs ls h B hL
              unfold f_X0_goRound_j62 at h
              refine lv_istore_n (lv' := [(1, .int t0j62), (0, .ref (ad a0)), (2, .int x2l4), (3, .int x3j62)]) hx hb dX0_goRound_62 rfl hL (by decide) rfl (fun ls hL => ?_)
              refine lv_aload_n hx hb dX0_goRound_63 rfl (lv_at hL 1 rfl) ?_
              refine xx_gr (ci := 0) (k := 21) C B xc_0 ht (by decide) (Nat.le_of_ble_eq_true rfl) rfl q381 (fun _ h => h) h dX0_goRound_64 (fun v6 ok7 h => ?_)
              refine lv_iconst (v := 3) hx hb dX0_goRound_67 (by decide) ?_
              refine lv_iload_n hx hb dX0_goRound_68 rfl (lv_at hL 2 rfl) ?_
              refine lv_imul hx hb dX0_goRound_69 ?_
              refine lv_iload_n hx hb dX0_goRound_70 rfl (lv_at hL 3 rfl) ?_
              refine lv_iadd hx hb dX0_goRound_71 ?_
              refine lv_aload_n hx hb dX0_goRound_72 rfl (lv_at hL 1 rfl) ?_
              refine xx_gr (ci := 0) (k := 14) C B xc_0 ht (by decide) (Nat.le_of_ble_eq_true rfl) rfl q374 (fun _ h => h) h dX0_goRound_73 (fun v8 ok9 h => ?_)
              refine lv_iload_n hx hb dX0_goRound_76 rfl (lv_at hL 3 rfl) ?_
              refine xx_is h (fun hp10 h => ?_)
              refine xx_iald C B hp10 h dX0_goRound_77 (fun v11 h => ?_)
              refine xx_is h (fun hp12 h => ?_)
              refine xx_iast C B hp12 h dX0_goRound_78 (fun gi13 h H locs B => ?_)
              refine lv_iinc (v := x3j62 + 1) (lv' := [(3, .int (x3j62 + 1)), (1, .int t0j62), (0, .ref (ad a0)), (2, .int x2l4)]) hx hb dX0_goRound_79 hL (k := 3) rfl rfl (by decide) rfl (fun ls hL => ?_)
              refine lv_goto (tgt := 29) hx hb dX0_goRound_82 (by decide) ?_
              exact ih29 _ _ _ _ _ _ (g_next h h929) B (lv_sub hL [2, 1, 3, 0] rfl)
            have hj57 : ∀ (gij57 : GI) (x3j57 : Int32) (H : Heap) (locs : List Loc) (ls : Array Slot), f_X0_goRound_j57 hk gr a0 x2l4 gij57 x3j57 = some Z29 → XB D cA ad hk nx A s gij57 gr H locs → lv_has ls 4 [(0, .ref (ad a0)), (2, .int x2l4), (3, .int x3j57)] → W p l e R s m args below meth c H locs 0 0 Q (F0 m 57 ls []) := by
              intro gij57 x3j57 H locs ls h B hL
              unfold f_X0_goRound_j57 at h
              refine lv_iconst (v := 1) hx hb dX0_goRound_57 (by decide) ?_
              refine lv_goto (tgt := 62) hx hb dX0_goRound_58 (by decide) ?_
              exact hj62 _ _ _ _ _ _ h B (lv_sub hL [0, 1, 2] rfl)
            refine lv_iload_n hx hb dX0_goRound_29 rfl (lv_at hL 3 rfl) ?_
            refine lv_iconst (v := 3) hx hb dX0_goRound_30 (by decide) ?_
            refine gg_icmp_ge hx hb 85 h dX0_goRound_31 (by decide) (fun h => ?_) (fun h => ?_)
            · exact kx29 _ _ _ _ _ (g_exit h h929) B (lv_sub hL [0, 1, 2] rfl)
            · refine lv_iload_n hx hb dX0_goRound_34 rfl (lv_at hL 1 rfl) ?_
              refine gg_if_ne hx hb 57 h dX0_goRound_35 (by decide) (fun h => ?_) (fun h => ?_)
              · exact hj57 _ _ _ _ _ h B (lv_sub hL [0, 2, 3] rfl)
              · refine lv_aload_n hx hb dX0_goRound_38 rfl (lv_at hL 0 rfl) ?_
                refine xx_gr (ci := 0) (k := 21) C B xc_0 ht (by decide) (Nat.le_of_ble_eq_true rfl) rfl q381 (fun _ h => h) h dX0_goRound_39 (fun v14 ok15 h => ?_)
                refine lv_iconst (v := 3) hx hb dX0_goRound_42 (by decide) ?_
                refine lv_iload_n hx hb dX0_goRound_43 rfl (lv_at hL 2 rfl) ?_
                refine lv_imul hx hb dX0_goRound_44 ?_
                refine lv_iload_n hx hb dX0_goRound_45 rfl (lv_at hL 3 rfl) ?_
                refine lv_iadd hx hb dX0_goRound_46 ?_
                refine xx_is h (fun hp16 h => ?_)
                refine xx_iald C B hp16 h dX0_goRound_47 (fun v17 h => ?_)
                refine lv_aload_n hx hb dX0_goRound_48 rfl (lv_at hL 0 rfl) ?_
                refine xx_gr (ci := 0) (k := 14) C B xc_0 ht (by decide) (Nat.le_of_ble_eq_true rfl) rfl q374 (fun _ h => h) h dX0_goRound_49 (fun v18 ok19 h => ?_)
                refine lv_iload_n hx hb dX0_goRound_52 rfl (lv_at hL 3 rfl) ?_
                refine xx_is h (fun hp20 h => ?_)
                refine xx_iald C B hp20 h dX0_goRound_53 (fun v21 h => ?_)
                refine gg_icmp_eq hx hb 61 h dX0_goRound_54 (by decide) (fun h => ?_) (fun h => ?_)
                · refine lv_iconst (v := 0) hx hb dX0_goRound_61 (by decide) ?_
                  exact hj62 _ _ _ _ _ _ h B (lv_sub hL [0, 2, 3] rfl)
                · exact hj57 _ _ _ _ _ h B (lv_sub hL [0, 2, 3] rfl)
        exact hl29 g_K _ _ _ _ _ _ h829 B (lv_sub hL [1, 2, 3, 0] rfl)
  exact hl4 g_K _ _ _ _ _ _ h84 B (lv_sub hL [2, 1, 0] rfl)
theorem k_X0_goRound {p : Program} {l : Launch} {e : Env} {R : Room} {s : State} {m : MethodId} {args : Array Value} {below : List Frame} {meth : Method} {c : Code} {H : Heap} {locs : List Loc} {Q : State → Prop} {pc : Nat} {ls : Array Slot} {rest : List Value} {cc : ByteArray} {nL cells slots : Nat} {D : va_G} {cA : Nat → ClassId} {ad : Nat → Nat} {hk : HK} {nx : Nat} {A : Nat → Prop} {gi : GI} {gr : GR} {α : Type} {r : α} {own : String} {idx : Nat} {a0 : Nat} {ff : (Int32 × GI) → Option α} (ht : (hk a0).1 = 10) (C : CallFix p m c cc nL s args lw_all own) (B : XB D cA ad hk nx A s gi gr H locs) (hq : Cond.methodLink own idx yX0_goRound ∈ lw_all) (hF : 109 ≤ R.frames) (hN : 3237 ≤ R.locals) (hs : ls.size = nL) (hw : (rest.map fun v => v.category).sum ≤ 8) (hz0 : cells ≤ R.cells ∧ slots ≤ R.slots) (h : (f_X0_goRound hk gi gr a0).bind ff = some r) (hdg : decode cc pc = .ok (.invokevirtual idx, 3)) (kk : ∀ q, ff q = some r → ∀ (H' : Heap) (locs' : List Loc), XB D cA ad hk nx A s q.2 gr H' locs' → W p l e R s m args below meth c H' locs' cells slots Q (F0 m (pc + 3) ls (.int q.1 :: rest))) : W p l e R s m args below meth c H locs cells slots Q (F0 m pc ls (.ref (ad a0) :: rest)) := by
  obtain ⟨q, h1, h2⟩ := g_ob h
  refine xx_cVI (As := []) (rest := rest) (n := 0) xc_0 ht (by decide) C B (fun sz => w_X0_goRound l D cA ad hk nx gi gr a0 ht q h1 sz) hq q1527 qs57 q141 q1528 (by decide +kernel) ⟨hF, hN⟩ rfl hs hw hz0 hdg (fun v u H9 locs9 hp B9 => ?_)
  obtain ⟨e1, e3⟩ := hp
  rw [e3] at B9
  subst e1
  exact kk _ h2 H9 locs9 B9
def f_X0_rest_l7 (hk : HK) (gri7 : GR) (a0i7 : Nat) (x1l7 : Int32) (gil7 : GI) : Option ((Int32 × GI) ⊕ (GI)) :=
  if 15 ≤ x1l7 then
  (some (.inr gil7))
  else
  ((gri7 a0i7 21).bind fun v2 =>
  (g_is hk v2 0).bind fun _ =>
  (g_st gil7 v2 (hk v2).2 x1l7 0).bind fun gi5 =>
  some (.inl ((x1l7 + 1, gi5))))
def f_X0_rest_l46 (hk : HK) (gri46 : GR) (a0i46 : Nat) (x1i46 : Int32) (x2l46 : Int32) (gil46 : GI) : Option ((Int32 × GI) ⊕ (GI)) :=
  (f_X0_men hk gil46 gri46 a0i46).bind fun q7 =>
  if q7 ≤ x2l46 then
  (some (.inr gil46))
  else
  ((gri46 a0i46 15).bind fun v8 =>
  (gri46 a0i46 21).bind fun v10 =>
  (f_X0_sum hk gil46 gri46 v10 (3 * x2l46)).bind fun q12 =>
  (g_is hk v8 0).bind fun _ =>
  (g_st gil46 v8 (hk v8).2 x2l46 q12).bind fun gi14 =>
  some (.inl ((x2l46 + 1, gi14))))
def f_X0_rest_x46 (hk : HK) (gry46 : GR) (a0y46 : Nat) (x1y46 : Int32) (gie46 : GI) : Option ((Int32 × GI) ⊕ ((GI) ⊕ (Int32 × GI))) :=
  (f_X0_men hk gie46 gry46 a0y46).bind fun q15 =>
  (some (g_pi gie46 a0y46 18 q15)).bind fun gi16 =>
  some (.inr (.inr (x1y46, gi16)))
def f_X0_rest_l28 (hk : HK) (gri28 : GR) (a0i28 : Nat) (x1l28 : Int32) (gil28 : GI) : Option ((Int32 × GI) ⊕ ((GI) ⊕ (Int32 × GI))) :=
  if 20 < x1l28 then
  (some (.inr (.inl gil28)))
  else
  ((f_X0_goRound hk gil28 gri28 a0i28).bind fun q6 =>
  if q6.1 = 0 then
  ((g_loop g_K (fun (s : Int32 × GI) => f_X0_rest_l46 hk gri28 a0i28 x1l28 s.1 s.2) (0, q6.2)).bind fun E46 => f_X0_rest_x46 hk gri28 a0i28 x1l28 E46)
  else
  (some (.inl ((x1l28 + 1, q6.2)))))
def f_X0_rest_x28 (hk : HK) (gry28 : GR) (gie28 : GI) : Option (Int32 × GI) :=
  some ((-1), gie28)
def f_X0_rest_x7 (hk : HK) (gry7 : GR) (a0y7 : Nat) (gie7 : GI) : Option (Int32 × GI) :=
  (g_loop g_K (fun (s : Int32 × GI) => f_X0_rest_l28 hk gry7 a0y7 s.1 s.2) (0, gie7)).bind fun E28 => Sum.elim (fun (S28 : GI) => f_X0_rest_x28 hk gry7 S28) (fun (r28 : Int32 × GI) => some r28) E28
def f_X0_rest (hk : HK) (gi : GI) (gr : GR) (a0 : Nat) : Option (Int32 × GI) :=
  (some (g_pi gi a0 18 0)).bind fun gi1 =>
  (g_loop g_K (fun (s : Int32 × GI) => f_X0_rest_l7 hk gr a0 s.1 s.2) (0, gi1)).bind fun E7 => f_X0_rest_x7 hk gr a0 E7
set_option maxHeartbeats 400000 in
theorem w_X0_rest (l : Launch) (D : va_G) (cA : Nat → ClassId) (ad : Nat → Nat) (hk : HK) (nx : Nat) (gi : GI) (gr : GR) (a0 : Nat) (ht : (hk a0).1 = 10) (r : Int32 × GI) (h : f_X0_rest hk gi gr a0 = some r) (sz : Nat) : Met l yX0_rest (ws_ yX0_rest cX0_rest 3 (some .int)) ({ frames := 109, cells := 0, slots := 0, locals := 3237 } : Room) (va_Pc [.ref (ad a0)] (XPre D cA ad hk nx gi gr sz)) (va_Qi (fun v u => (v, u.1) = r ∧ u.2 = gr) (XPost D cA ad hk nx) (XA ad nx sz)) 0 0 (XA ad nx sz) := by
  refine xx_stI (own := RX0) (P := (fun v u => (v, u.1) = r ∧ u.2 = gr)) (by decide +kernel) rfl (Nat.le_of_ble_eq_true rfl) (fun p e s m args below meth c R Q A ls C hF hN B hret hL => ?_) sz
  have hx := C.1
  have hb := C.2.1
  have hL : lv_has ls 3 [(0, .ref (ad a0))] := hL
  unfold f_X0_rest at h
  refine lv_aload_n hx hb dX0_rest_0 rfl (lv_at hL 0 rfl) ?_
  refine lv_iconst (v := 0) hx hb dX0_rest_1 (by decide) ?_
  refine xx_pi (ci := 0) (k := 18) C B xc_0 ht (by decide) (Nat.le_of_ble_eq_true rfl) rfl q378 (fun _ h => h) rfl rfl rfl h dX0_rest_2 (fun gi1 h H locs B => ?_)
  refine lv_iconst (v := 0) hx hb dX0_rest_5 (by decide) ?_
  refine lv_istore_n (lv' := [(1, .int 0), (0, .ref (ad a0))]) hx hb dX0_rest_6 rfl hL (by decide) rfl (fun ls hL => ?_)
  obtain ⟨E7, h87, h⟩ := g_ob h
  have kx7 : ∀ (gie7 : GI) (H : Heap) (locs : List Loc) (ls : Array Slot), gie7 = E7 → XB D cA ad hk nx A s gie7 gr H locs → lv_has ls 3 [(0, .ref (ad a0))] → W p l e R s m args below meth c H locs 0 0 Q (F0 m 26 ls []) := by
    intro gie7 H locs ls he B hL
    subst he
    have h : f_X0_rest_x7 hk gr a0 gie7 = some r := h
    unfold f_X0_rest_x7 at h
    refine lv_iconst (v := 0) hx hb dX0_rest_26 (by decide) ?_
    refine lv_istore_n (lv' := [(1, .int 0), (0, .ref (ad a0))]) hx hb dX0_rest_27 rfl hL (by decide) rfl (fun ls hL => ?_)
    obtain ⟨E28, h828, h⟩ := g_ob h
    have kx28 : ∀ (gie28 : GI) (H : Heap) (locs : List Loc) (ls : Array Slot), Sum.inl gie28 = E28 → XB D cA ad hk nx A s gie28 gr H locs → lv_has ls 3 [] → W p l e R s m args below meth c H locs 0 0 Q (F0 m 92 ls []) := by
      intro gie28 H locs ls he B hL
      subst he
      have h : f_X0_rest_x28 hk gr gie28 = some r := h
      unfold f_X0_rest_x28 at h
      refine lv_iconst (v := (-1)) hx hb dX0_rest_92 (by decide) ?_
      exact hret _ _ _ _ _ _ _ ⟨Option.some.inj h, rfl⟩ B dX0_rest_93
    have kr28 : ∀ (v : Int32) (g' : GI) (H : Heap) (locs : List Loc) (ls : Array Slot) (pc : Nat), Sum.inr (v, g') = E28 → XB D cA ad hk nx A s g' gr H locs → decode cX0_rest pc = .ok (.ireturn, 1) → W p l e R s m args below meth c H locs 0 0 Q (F0 m pc ls [.int v]) := by
      intro v g' H locs ls pc he B hd
      subst he
      have h := g_er h
      exact hret _ _ _ _ _ _ _ ⟨Option.some.inj h, rfl⟩ B hd
    have hl28 : ∀ (k : Nat) (x1l28 : Int32) (gil28 : GI) (H : Heap) (locs : List Loc) (ls : Array Slot), g_loop k (fun (s : Int32 × GI) => f_X0_rest_l28 hk gr a0 s.1 s.2) (x1l28, gil28) = some E28 → XB D cA ad hk nx A s gil28 gr H locs → lv_has ls 3 [(0, .ref (ad a0)), (1, .int x1l28)] → W p l e R s m args below meth c H locs 0 0 Q (F0 m 28 ls []) := by
      intro k
      induction k with
      | zero => intro x1l28 gil28 H locs ls h; exact absurd h (fun z => g_loop_0 z)
      | succ k ih28 =>
        intro x1l28 gil28 H locs ls h B hL
        obtain ⟨Z28, h, h928⟩ := g_loop_s h
        have h : f_X0_rest_l28 hk gr a0 x1l28 gil28 = some Z28 := h
        unfold f_X0_rest_l28 at h
        refine lv_iload_n hx hb dX0_rest_28 rfl (lv_at hL 1 rfl) ?_
        refine lv_bipush (v := 20) hx hb dX0_rest_29 (by decide) ?_
        refine gg_icmp_gt hx hb 92 h dX0_rest_31 (by decide) (fun h => ?_) (fun h => ?_)
        · exact kx28 _ _ _ _ (g_exit h h928) B (lv_sub hL [] rfl)
        · refine lv_aload_n hx hb dX0_rest_34 rfl (lv_at hL 0 rfl) ?_
          refine k_X0_goRound ht C B q1525 (Nat.le_trans (Nat.le_of_ble_eq_true rfl) hF) (Nat.le_trans (Nat.le_of_ble_eq_true rfl) hN) hL.1 (Nat.le_of_ble_eq_true rfl) ⟨Nat.zero_le _, Nat.zero_le _⟩ h dX0_rest_35 (fun q6 h H locs B => ?_)
          refine gg_if_eq hx hb 44 h dX0_rest_38 (by decide) (fun h => ?_) (fun h => ?_)
          · refine lv_iconst (v := 0) hx hb dX0_rest_44 (by decide) ?_
            refine lv_istore_n (lv' := [(2, .int 0), (0, .ref (ad a0)), (1, .int x1l28)]) hx hb dX0_rest_45 rfl hL (by decide) rfl (fun ls hL => ?_)
            obtain ⟨E46, h846, h⟩ := g_ob h
            have kx46 : ∀ (gie46 : GI) (H : Heap) (locs : List Loc) (ls : Array Slot), gie46 = E46 → XB D cA ad hk nx A s gie46 gr H locs → lv_has ls 3 [(0, .ref (ad a0)), (1, .int x1l28)] → W p l e R s m args below meth c H locs 0 0 Q (F0 m 76 ls []) := by
              intro gie46 H locs ls he B hL
              subst he
              have h : f_X0_rest_x46 hk gr a0 x1l28 gie46 = some Z28 := h
              unfold f_X0_rest_x46 at h
              refine lv_aload_n hx hb dX0_rest_76 rfl (lv_at hL 0 rfl) ?_
              refine lv_aload_n hx hb dX0_rest_77 rfl (lv_at hL 0 rfl) ?_
              refine k_X0_men ht C B q1230 (Nat.le_trans (Nat.le_of_ble_eq_true rfl) hF) (Nat.le_trans (Nat.le_of_ble_eq_true rfl) hN) hL.1 (Nat.le_of_ble_eq_true rfl) ⟨Nat.zero_le _, Nat.zero_le _⟩ h dX0_rest_78 (fun q15 h H locs B => ?_)
              refine xx_pi (ci := 0) (k := 18) C B xc_0 ht (by decide) (Nat.le_of_ble_eq_true rfl) rfl q378 (fun _ h => h) rfl rfl rfl h dX0_rest_81 (fun gi16 h H locs B => ?_)
              refine lv_iload_n hx hb dX0_rest_84 rfl (lv_at hL 1 rfl) ?_
              exact kr28 _ _ _ _ _ _ (g_exit h h928) B dX0_rest_85
            have hl46 : ∀ (k : Nat) (x2l46 : Int32) (gil46 : GI) (H : Heap) (locs : List Loc) (ls : Array Slot), g_loop k (fun (s : Int32 × GI) => f_X0_rest_l46 hk gr a0 x1l28 s.1 s.2) (x2l46, gil46) = some E46 → XB D cA ad hk nx A s gil46 gr H locs → lv_has ls 3 [(0, .ref (ad a0)), (1, .int x1l28), (2, .int x2l46)] → W p l e R s m args below meth c H locs 0 0 Q (F0 m 46 ls []) := by
              intro k
              induction k with
              | zero => intro x2l46 gil46 H locs ls h; exact absurd h (fun z => g_loop_0 z)
              | succ k ih46 =>
                intro x2l46 gil46 H locs ls h B hL
                obtain ⟨Z46, h, h946⟩ := g_loop_s h
                have h : f_X0_rest_l46 hk gr a0 x1l28 x2l46 gil46 = some Z46 := h
                unfold f_X0_rest_l46 at h
                refine lv_iload_n hx hb dX0_rest_46 rfl (lv_at hL 2 rfl) ?_
                refine lv_aload_n hx hb dX0_rest_47 rfl (lv_at hL 0 rfl) ?_
                refine k_X0_men ht C B q1230 (Nat.le_trans (Nat.le_of_ble_eq_true rfl) hF) (Nat.le_trans (Nat.le_of_ble_eq_true rfl) hN) hL.1 (Nat.le_of_ble_eq_true rfl) ⟨Nat.zero_le _, Nat.zero_le _⟩ h dX0_rest_48 (fun q7 h H locs B => ?_)
                refine gg_icmp_ge hx hb 76 h dX0_rest_51 (by decide) (fun h => ?_) (fun h => ?_)
                · exact kx46 _ _ _ _ (g_exit h h946) B (lv_sub hL [0, 1] rfl)
                · refine lv_aload_n hx hb dX0_rest_54 rfl (lv_at hL 0 rfl) ?_
                  refine xx_gr (ci := 0) (k := 15) C B xc_0 ht (by decide) (Nat.le_of_ble_eq_true rfl) rfl q375 (fun _ h => h) h dX0_rest_55 (fun v8 ok9 h => ?_)
                  refine lv_iload_n hx hb dX0_rest_58 rfl (lv_at hL 2 rfl) ?_
                  refine lv_aload_n hx hb dX0_rest_59 rfl (lv_at hL 0 rfl) ?_
                  refine xx_gr (ci := 0) (k := 21) C B xc_0 ht (by decide) (Nat.le_of_ble_eq_true rfl) rfl q381 (fun _ h => h) h dX0_rest_60 (fun v10 ok11 h => ?_)
                  refine lv_iconst (v := 3) hx hb dX0_rest_63 (by decide) ?_
                  refine lv_iload_n hx hb dX0_rest_64 rfl (lv_at hL 2 rfl) ?_
                  refine lv_imul hx hb dX0_rest_65 ?_
                  refine k_X0_sum C B q1477 (Nat.le_trans (Nat.le_of_ble_eq_true rfl) hF) (Nat.le_trans (Nat.le_of_ble_eq_true rfl) hN) hL.1 (Nat.le_of_ble_eq_true rfl) ⟨Nat.zero_le _, Nat.zero_le _⟩ h dX0_rest_66 (fun q12 h H locs B => ?_)
                  refine xx_is h (fun hp13 h => ?_)
                  refine xx_iast C B hp13 h dX0_rest_69 (fun gi14 h H locs B => ?_)
                  refine lv_iinc (v := x2l46 + 1) (lv' := [(2, .int (x2l46 + 1)), (0, .ref (ad a0)), (1, .int x1l28)]) hx hb dX0_rest_70 hL (k := 2) rfl rfl (by decide) rfl (fun ls hL => ?_)
                  refine lv_goto (tgt := 46) hx hb dX0_rest_73 (by decide) ?_
                  exact ih46 _ _ _ _ _ (g_next h h946) B (lv_sub hL [1, 2, 0] rfl)
            exact hl46 g_K _ _ _ _ _ h846 B (lv_sub hL [1, 2, 0] rfl)
          · refine lv_goto (tgt := 86) hx hb dX0_rest_41 (by decide) ?_
            refine lv_iinc (v := x1l28 + 1) (lv' := [(1, .int (x1l28 + 1)), (0, .ref (ad a0))]) hx hb dX0_rest_86 hL (k := 1) rfl rfl (by decide) rfl (fun ls hL => ?_)
            refine lv_goto (tgt := 28) hx hb dX0_rest_89 (by decide) ?_
            exact ih28 _ _ _ _ _ (g_next h h928) B (lv_sub hL [1, 0] rfl)
    exact hl28 g_K _ _ _ _ _ h828 B (lv_sub hL [1, 0] rfl)
  have hl7 : ∀ (k : Nat) (x1l7 : Int32) (gil7 : GI) (H : Heap) (locs : List Loc) (ls : Array Slot), g_loop k (fun (s : Int32 × GI) => f_X0_rest_l7 hk gr a0 s.1 s.2) (x1l7, gil7) = some E7 → XB D cA ad hk nx A s gil7 gr H locs → lv_has ls 3 [(0, .ref (ad a0)), (1, .int x1l7)] → W p l e R s m args below meth c H locs 0 0 Q (F0 m 7 ls []) := by
    intro k
    induction k with
    | zero => intro x1l7 gil7 H locs ls h; exact absurd h (fun z => g_loop_0 z)
    | succ k ih7 =>
      intro x1l7 gil7 H locs ls h B hL
      obtain ⟨Z7, h, h97⟩ := g_loop_s h
      have h : f_X0_rest_l7 hk gr a0 x1l7 gil7 = some Z7 := h
      unfold f_X0_rest_l7 at h
      refine lv_iload_n hx hb dX0_rest_7 rfl (lv_at hL 1 rfl) ?_
      refine lv_bipush (v := 15) hx hb dX0_rest_8 (by decide) ?_
      refine gg_icmp_ge hx hb 26 h dX0_rest_10 (by decide) (fun h => ?_) (fun h => ?_)
      · exact kx7 _ _ _ _ (g_exit h h97) B (lv_sub hL [0] rfl)
      · refine lv_aload_n hx hb dX0_rest_13 rfl (lv_at hL 0 rfl) ?_
        refine xx_gr (ci := 0) (k := 21) C B xc_0 ht (by decide) (Nat.le_of_ble_eq_true rfl) rfl q381 (fun _ h => h) h dX0_rest_14 (fun v2 ok3 h => ?_)
        refine lv_iload_n hx hb dX0_rest_17 rfl (lv_at hL 1 rfl) ?_
        refine lv_iconst (v := 0) hx hb dX0_rest_18 (by decide) ?_
        refine xx_is h (fun hp4 h => ?_)
        refine xx_iast C B hp4 h dX0_rest_19 (fun gi5 h H locs B => ?_)
        refine lv_iinc (v := x1l7 + 1) (lv' := [(1, .int (x1l7 + 1)), (0, .ref (ad a0))]) hx hb dX0_rest_20 hL (k := 1) rfl rfl (by decide) rfl (fun ls hL => ?_)
        refine lv_goto (tgt := 7) hx hb dX0_rest_23 (by decide) ?_
        exact ih7 _ _ _ _ _ (g_next h h97) B (lv_sub hL [1, 0] rfl)
  exact hl7 g_K _ _ _ _ _ h87 B (lv_sub hL [1, 0] rfl)
theorem k_X0_rest {p : Program} {l : Launch} {e : Env} {R : Room} {s : State} {m : MethodId} {args : Array Value} {below : List Frame} {meth : Method} {c : Code} {H : Heap} {locs : List Loc} {Q : State → Prop} {pc : Nat} {ls : Array Slot} {rest : List Value} {cc : ByteArray} {nL cells slots : Nat} {D : va_G} {cA : Nat → ClassId} {ad : Nat → Nat} {hk : HK} {nx : Nat} {A : Nat → Prop} {gi : GI} {gr : GR} {α : Type} {r : α} {own : String} {idx : Nat} {a0 : Nat} {ff : (Int32 × GI) → Option α} (ht : (hk a0).1 = 10) (C : CallFix p m c cc nL s args lw_all own) (B : XB D cA ad hk nx A s gi gr H locs) (hq : Cond.methodLink own idx yX0_rest ∈ lw_all) (hF : 110 ≤ R.frames) (hN : 3259 ≤ R.locals) (hs : ls.size = nL) (hw : (rest.map fun v => v.category).sum ≤ 8) (hz0 : cells ≤ R.cells ∧ slots ≤ R.slots) (h : (f_X0_rest hk gi gr a0).bind ff = some r) (hdg : decode cc pc = .ok (.invokevirtual idx, 3)) (kk : ∀ q, ff q = some r → ∀ (H' : Heap) (locs' : List Loc), XB D cA ad hk nx A s q.2 gr H' locs' → W p l e R s m args below meth c H' locs' cells slots Q (F0 m (pc + 3) ls (.int q.1 :: rest))) : W p l e R s m args below meth c H locs cells slots Q (F0 m pc ls (.ref (ad a0) :: rest)) := by
  obtain ⟨q, h1, h2⟩ := g_ob h
  refine xx_cVI (As := []) (rest := rest) (n := 0) xc_0 ht (by decide) C B (fun sz => w_X0_rest l D cA ad hk nx gi gr a0 ht q h1 sz) hq q1522 q1523 q141 q1524 (by decide +kernel) ⟨hF, hN⟩ rfl hs hw hz0 hdg (fun v u H9 locs9 hp B9 => ?_)
  obtain ⟨e1, e3⟩ := hp
  rw [e3] at B9
  subst e1
  exact kk _ h2 H9 locs9 B9
def f_X0_will_l34 (hk : HK) (gri34 : GR) (a0i34 : Nat) (x1i34 : Int32) (x2i34 : Int32) (x3l34 : Int32) (gil34 : GI) : Option ((Int32 × GI) ⊕ (GI)) :=
  if x2i34 ≤ x3l34 then
  (some (.inr gil34))
  else
  ((gri34 a0i34 8).bind fun v9 =>
  (gri34 a0i34 4).bind fun v11 =>
  (g_is hk v9 13).bind fun _ =>
  (f_X3_goWeek hk gil34 gri34 v9 v11).bind fun q14 =>
  some (.inl ((x3l34 + 1, q14.2))))
def f_X0_will_x34 (hk : HK) (gry34 : GR) (a0y34 : Nat) (x1y34 : Int32) (gie34 : GI) : Option (Int32 × GI) :=
  (gry34 a0y34 8).bind fun v15 =>
  (g_is hk v15 13).bind fun _ =>
  (gry34 v15 2).bind fun v18 =>
  (g_is hk v18 0).bind fun _ =>
  (g_ld gie34 v18 (hk v18).2 x1y34).bind fun v21 =>
  some (v21, gie34)
def f_X0_will (hk : HK) (gi : GI) (gr : GR) (a0 : Nat) (x1 : Int32) (x2 : Int32) : Option (Int32 × GI) :=
  (f_X0_isMan hk gi gr a0 x1).bind fun q1 =>
  if q1 = 0 then
  (some ((-1), gi))
  else
  ((f_X0_isIn hk gi gr x2 0 30).bind fun q2 =>
  if q2 = 0 then
  (some ((-1), gi))
  else
  ((gr a0 8).bind fun v3 =>
  (gr a0 5).bind fun v5 =>
  (g_is hk v3 13).bind fun _ =>
  (f_X3_copy hk gi gr v3 v5).bind fun q8 =>
  (g_loop g_K (fun (s : Int32 × GI) => f_X0_will_l34 hk gr a0 x1 x2 s.1 s.2) (0, q8.2)).bind fun E34 => f_X0_will_x34 hk gr a0 x1 E34))
set_option maxHeartbeats 400000 in
theorem w_X0_will (l : Launch) (D : va_G) (cA : Nat → ClassId) (ad : Nat → Nat) (hk : HK) (nx : Nat) (gi : GI) (gr : GR) (a0 : Nat) (x1 : Int32) (x2 : Int32) (ht : (hk a0).1 = 10) (r : Int32 × GI) (h : f_X0_will hk gi gr a0 x1 x2 = some r) (sz : Nat) : Met l yX0_will (ws_ yX0_will cX0_will 4 (some .int)) ({ frames := 107, cells := 0, slots := 0, locals := 3189 } : Room) (va_Pc [.ref (ad a0), .int x1, .int x2] (XPre D cA ad hk nx gi gr sz)) (va_Qi (fun v u => (v, u.1) = r ∧ u.2 = gr) (XPost D cA ad hk nx) (XA ad nx sz)) 0 0 (XA ad nx sz) := by
  refine xx_stI (own := RX0) (P := (fun v u => (v, u.1) = r ∧ u.2 = gr)) (by decide +kernel) rfl (Nat.le_of_ble_eq_true rfl) (fun p e s m args below meth c R Q A ls C hF hN B hret hL => ?_) sz
  have hx := C.1
  have hb := C.2.1
  have hL : lv_has ls 4 [(0, .ref (ad a0)), (1, .int x1), (2, .int x2)] := hL
  unfold f_X0_will at h
  refine lv_aload_n hx hb dX0_will_0 rfl (lv_at hL 0 rfl) ?_
  refine lv_iload_n hx hb dX0_will_1 rfl (lv_at hL 1 rfl) ?_
  refine k_X0_isMan ht C B q1243 (Nat.le_trans (Nat.le_of_ble_eq_true rfl) hF) (Nat.le_trans (Nat.le_of_ble_eq_true rfl) hN) hL.1 (Nat.le_of_ble_eq_true rfl) ⟨Nat.zero_le _, Nat.zero_le _⟩ h dX0_will_2 (fun q1 h H locs B => ?_)
  refine gg_if_eq hx hb 18 h dX0_will_5 (by decide) (fun h => ?_) (fun h => ?_)
  · refine lv_iconst (v := (-1)) hx hb dX0_will_18 (by decide) ?_
    exact hret _ _ _ _ _ _ _ ⟨Option.some.inj h, rfl⟩ B dX0_will_19
  · refine lv_iload_n hx hb dX0_will_8 rfl (lv_at hL 2 rfl) ?_
    refine lv_iconst (v := 0) hx hb dX0_will_9 (by decide) ?_
    refine lv_bipush (v := 30) hx hb dX0_will_10 (by decide) ?_
    refine k_X0_isIn C B q1247 (Nat.le_trans (Nat.le_of_ble_eq_true rfl) hF) (Nat.le_trans (Nat.le_of_ble_eq_true rfl) hN) hL.1 (Nat.le_of_ble_eq_true rfl) ⟨Nat.zero_le _, Nat.zero_le _⟩ h dX0_will_12 (fun q2 h H locs B => ?_)
    refine gg_if_ne hx hb 20 h dX0_will_15 (by decide) (fun h => ?_) (fun h => ?_)
    · refine lv_aload_n hx hb dX0_will_20 rfl (lv_at hL 0 rfl) ?_
      refine xx_gr (ci := 0) (k := 8) C B xc_0 ht (by decide) (Nat.le_of_ble_eq_true rfl) rfl q367 (fun _ h => h) h dX0_will_21 (fun v3 ok4 h => ?_)
      refine lv_aload_n hx hb dX0_will_24 rfl (lv_at hL 0 rfl) ?_
      refine xx_gr (ci := 0) (k := 5) C B xc_0 ht (by decide) (Nat.le_of_ble_eq_true rfl) rfl q364 (fun _ h => h) h dX0_will_25 (fun v5 ok6 h => ?_)
      refine xx_is h (fun hp7 h => ?_)
      refine k_X3_copy hp7 C B q1381 (Nat.le_trans (Nat.le_of_ble_eq_true rfl) hF) (Nat.le_trans (Nat.le_of_ble_eq_true rfl) hN) hL.1 (Nat.le_of_ble_eq_true rfl) ⟨Nat.zero_le _, Nat.zero_le _⟩ h dX0_will_28 (fun q8 h H locs B => ?_)
      refine lv_pop hx hb dX0_will_31 rfl ?_
      refine lv_iconst (v := 0) hx hb dX0_will_32 (by decide) ?_
      refine lv_istore_n (lv' := [(3, .int 0), (0, .ref (ad a0)), (1, .int x1), (2, .int x2)]) hx hb dX0_will_33 rfl hL (by decide) rfl (fun ls hL => ?_)
      obtain ⟨E34, h834, h⟩ := g_ob h
      have kx34 : ∀ (gie34 : GI) (H : Heap) (locs : List Loc) (ls : Array Slot), gie34 = E34 → XB D cA ad hk nx A s gie34 gr H locs → lv_has ls 4 [(0, .ref (ad a0)), (1, .int x1)] → W p l e R s m args below meth c H locs 0 0 Q (F0 m 57 ls []) := by
        intro gie34 H locs ls he B hL
        subst he
        have h : f_X0_will_x34 hk gr a0 x1 gie34 = some r := h
        unfold f_X0_will_x34 at h
        refine lv_aload_n hx hb dX0_will_57 rfl (lv_at hL 0 rfl) ?_
        refine xx_gr (ci := 0) (k := 8) C B xc_0 ht (by decide) (Nat.le_of_ble_eq_true rfl) rfl q367 (fun _ h => h) h dX0_will_58 (fun v15 ok16 h => ?_)
        refine xx_is h (fun hp17 h => ?_)
        refine xx_gr (ci := 3) (k := 2) C B xc_3 hp17 (by decide) (Nat.le_of_ble_eq_true rfl) rfl q309 (fun _ h => h) h dX0_will_61 (fun v18 ok19 h => ?_)
        refine lv_iload_n hx hb dX0_will_64 rfl (lv_at hL 1 rfl) ?_
        refine xx_is h (fun hp20 h => ?_)
        refine xx_iald C B hp20 h dX0_will_65 (fun v21 h => ?_)
        exact hret _ _ _ _ _ _ _ ⟨Option.some.inj h, rfl⟩ B dX0_will_66
      have hl34 : ∀ (k : Nat) (x3l34 : Int32) (gil34 : GI) (H : Heap) (locs : List Loc) (ls : Array Slot), g_loop k (fun (s : Int32 × GI) => f_X0_will_l34 hk gr a0 x1 x2 s.1 s.2) (x3l34, gil34) = some E34 → XB D cA ad hk nx A s gil34 gr H locs → lv_has ls 4 [(0, .ref (ad a0)), (1, .int x1), (2, .int x2), (3, .int x3l34)] → W p l e R s m args below meth c H locs 0 0 Q (F0 m 34 ls []) := by
        intro k
        induction k with
        | zero => intro x3l34 gil34 H locs ls h; exact absurd h (fun z => g_loop_0 z)
        | succ k ih34 =>
          intro x3l34 gil34 H locs ls h B hL
          obtain ⟨Z34, h, h934⟩ := g_loop_s h
          have h : f_X0_will_l34 hk gr a0 x1 x2 x3l34 gil34 = some Z34 := h
          unfold f_X0_will_l34 at h
          refine lv_iload_n hx hb dX0_will_34 rfl (lv_at hL 3 rfl) ?_
          refine lv_iload_n hx hb dX0_will_35 rfl (lv_at hL 2 rfl) ?_
          refine gg_icmp_ge hx hb 57 h dX0_will_36 (by decide) (fun h => ?_) (fun h => ?_)
          · exact kx34 _ _ _ _ (g_exit h h934) B (lv_sub hL [0, 1] rfl)
          · refine lv_aload_n hx hb dX0_will_39 rfl (lv_at hL 0 rfl) ?_
            refine xx_gr (ci := 0) (k := 8) C B xc_0 ht (by decide) (Nat.le_of_ble_eq_true rfl) rfl q367 (fun _ h => h) h dX0_will_40 (fun v9 ok10 h => ?_)
            refine lv_aload_n hx hb dX0_will_43 rfl (lv_at hL 0 rfl) ?_
            refine xx_gr (ci := 0) (k := 4) C B xc_0 ht (by decide) (Nat.le_of_ble_eq_true rfl) rfl q363 (fun _ h => h) h dX0_will_44 (fun v11 ok12 h => ?_)
            refine xx_is h (fun hp13 h => ?_)
            refine k_X3_goWeek hp13 C B q1420 (Nat.le_trans (Nat.le_of_ble_eq_true rfl) hF) (Nat.le_trans (Nat.le_of_ble_eq_true rfl) hN) hL.1 (Nat.le_of_ble_eq_true rfl) ⟨Nat.zero_le _, Nat.zero_le _⟩ h dX0_will_47 (fun q14 h H locs B => ?_)
            refine lv_pop hx hb dX0_will_50 rfl ?_
            refine lv_iinc (v := x3l34 + 1) (lv' := [(3, .int (x3l34 + 1)), (0, .ref (ad a0)), (1, .int x1), (2, .int x2)]) hx hb dX0_will_51 hL (k := 3) rfl rfl (by decide) rfl (fun ls hL => ?_)
            refine lv_goto (tgt := 34) hx hb dX0_will_54 (by decide) ?_
            exact ih34 _ _ _ _ _ (g_next h h934) B (lv_sub hL [1, 2, 3, 0] rfl)
      exact hl34 g_K _ _ _ _ _ h834 B (lv_sub hL [1, 2, 3, 0] rfl)
    · refine lv_iconst (v := (-1)) hx hb dX0_will_18 (by decide) ?_
      exact hret _ _ _ _ _ _ _ ⟨Option.some.inj h, rfl⟩ B dX0_will_19
theorem k_X0_will {p : Program} {l : Launch} {e : Env} {R : Room} {s : State} {m : MethodId} {args : Array Value} {below : List Frame} {meth : Method} {c : Code} {H : Heap} {locs : List Loc} {Q : State → Prop} {pc : Nat} {ls : Array Slot} {rest : List Value} {cc : ByteArray} {nL cells slots : Nat} {D : va_G} {cA : Nat → ClassId} {ad : Nat → Nat} {hk : HK} {nx : Nat} {A : Nat → Prop} {gi : GI} {gr : GR} {α : Type} {r : α} {own : String} {idx : Nat} {a0 : Nat} {x1 : Int32} {x2 : Int32} {ff : (Int32 × GI) → Option α} (ht : (hk a0).1 = 10) (C : CallFix p m c cc nL s args lw_all own) (B : XB D cA ad hk nx A s gi gr H locs) (hq : Cond.methodLink own idx yX0_will ∈ lw_all) (hF : 108 ≤ R.frames) (hN : 3212 ≤ R.locals) (hs : ls.size = nL) (hw : (rest.map fun v => v.category).sum ≤ 8) (hz0 : cells ≤ R.cells ∧ slots ≤ R.slots) (h : (f_X0_will hk gi gr a0 x1 x2).bind ff = some r) (hdg : decode cc pc = .ok (.invokevirtual idx, 3)) (kk : ∀ q, ff q = some r → ∀ (H' : Heap) (locs' : List Loc), XB D cA ad hk nx A s q.2 gr H' locs' → W p l e R s m args below meth c H' locs' cells slots Q (F0 m (pc + 3) ls (.int q.1 :: rest))) : W p l e R s m args below meth c H locs cells slots Q (F0 m pc ls (.int x2 :: .int x1 :: .ref (ad a0) :: rest)) := by
  obtain ⟨q, h1, h2⟩ := g_ob h
  refine xx_cVI (As := [.int x1, .int x2]) (rest := rest) (n := 2) xc_0 ht (by decide) C B (fun sz => w_X0_will l D cA ad hk nx gi gr a0 x1 x2 ht q h1 sz) hq q1534 q1535 q141 q1536 (by decide +kernel) ⟨hF, hN⟩ rfl hs hw hz0 hdg (fun v u H9 locs9 hp B9 => ?_)
  obtain ⟨e1, e3⟩ := hp
  rw [e3] at B9
  subst e1
  exact kk _ h2 H9 locs9 B9
def f_X3_spendsRow_l3 (hk : HK) (gri3 : GR) (a0i3 : Nat) (a1i3 : Nat) (x2i3 : Int32) (a3i3 : Nat) (x4l3 : Int32) (gil3 : GI) : Option ((Int32 × GI) ⊕ (GI)) :=
  if 3 ≤ x4l3 then
  (some (.inr gil3))
  else
  ((g_is hk a3i3 0).bind fun _ =>
  (g_ld gil3 a3i3 (hk a3i3).2 x4l3).bind fun v2 =>
  (f_X3_spends hk gil3 gri3 a0i3 a1i3 x2i3 x4l3 v2).bind fun q3 =>
  some (.inl ((x4l3 + 1, q3))))
def f_X3_spendsRow_x3 (hk : HK) (gry3 : GR) (gie3 : GI) : Option (GI) :=
  some gie3
def f_X3_spendsRow (hk : HK) (gi : GI) (gr : GR) (a0 : Nat) (a1 : Nat) (x2 : Int32) (a3 : Nat) : Option (GI) :=
  (g_loop g_K (fun (s : Int32 × GI) => f_X3_spendsRow_l3 hk gr a0 a1 x2 a3 s.1 s.2) (0, gi)).bind fun E3 => f_X3_spendsRow_x3 hk gr E3
set_option maxHeartbeats 400000 in
theorem w_X3_spendsRow (l : Launch) (D : va_G) (cA : Nat → ClassId) (ad : Nat → Nat) (hk : HK) (nx : Nat) (gi : GI) (gr : GR) (a0 : Nat) (a1 : Nat) (x2 : Int32) (a3 : Nat) (ht : (hk a0).1 = 13) (r : GI) (h : f_X3_spendsRow hk gi gr a0 a1 x2 a3 = some r) (sz : Nat) : Met l yX3_spendsRow (ws_ yX3_spendsRow cX3_spendsRow 5 (none)) ({ frames := 7, cells := 0, slots := 0, locals := 197 } : Room) (va_Pc [.ref (ad a0), .ref (ad a1), .int x2, .ref (ad a3)] (XPre D cA ad hk nx gi gr sz)) (va_Qv (fun u => u.1 = r ∧ u.2 = gr) (XPost D cA ad hk nx) (XA ad nx sz)) 0 0 (XA ad nx sz) := by
  refine xx_stV (own := RX3) (P := (fun u => u.1 = r ∧ u.2 = gr)) (by decide +kernel) rfl (Nat.le_of_ble_eq_true rfl) (fun p e s m args below meth c R Q A ls C hF hN B hret hL => ?_) sz
  have hx := C.1
  have hb := C.2.1
  have hL : lv_has ls 5 [(0, .ref (ad a0)), (1, .ref (ad a1)), (2, .int x2), (3, .ref (ad a3))] := hL
  unfold f_X3_spendsRow at h
  refine lv_iconst (v := 0) hx hb dX3_spendsRow_0 (by decide) ?_
  refine lv_istore (lv' := [(4, .int 0), (0, .ref (ad a0)), (1, .ref (ad a1)), (2, .int x2), (3, .ref (ad a3))]) hx hb dX3_spendsRow_1 hL (by decide) rfl (fun ls hL => ?_)
  obtain ⟨E3, h83, h⟩ := g_ob h
  have kx3 : ∀ (gie3 : GI) (H : Heap) (locs : List Loc) (ls : Array Slot), gie3 = E3 → XB D cA ad hk nx A s gie3 gr H locs → lv_has ls 5 [] → W p l e R s m args below meth c H locs 0 0 Q (F0 m 27 ls []) := by
    intro gie3 H locs ls he B hL
    subst he
    have h : f_X3_spendsRow_x3 hk gr gie3 = some r := h
    unfold f_X3_spendsRow_x3 at h
    exact hret _ _ _ _ _ _ ⟨Option.some.inj h, rfl⟩ B dX3_spendsRow_27
  have hl3 : ∀ (k : Nat) (x4l3 : Int32) (gil3 : GI) (H : Heap) (locs : List Loc) (ls : Array Slot), g_loop k (fun (s : Int32 × GI) => f_X3_spendsRow_l3 hk gr a0 a1 x2 a3 s.1 s.2) (x4l3, gil3) = some E3 → XB D cA ad hk nx A s gil3 gr H locs → lv_has ls 5 [(0, .ref (ad a0)), (1, .ref (ad a1)), (2, .int x2), (3, .ref (ad a3)), (4, .int x4l3)] → W p l e R s m args below meth c H locs 0 0 Q (F0 m 3 ls []) := by
    intro k
    induction k with
    | zero => intro x4l3 gil3 H locs ls h; exact absurd h (fun z => g_loop_0 z)
    | succ k ih3 =>
      intro x4l3 gil3 H locs ls h B hL
      obtain ⟨Z3, h, h93⟩ := g_loop_s h
      have h : f_X3_spendsRow_l3 hk gr a0 a1 x2 a3 x4l3 gil3 = some Z3 := h
      unfold f_X3_spendsRow_l3 at h
      refine lv_iload hx hb dX3_spendsRow_3 (lv_at hL 4 rfl) ?_
      refine lv_iconst (v := 3) hx hb dX3_spendsRow_5 (by decide) ?_
      refine gg_icmp_ge hx hb 27 h dX3_spendsRow_6 (by decide) (fun h => ?_) (fun h => ?_)
      · exact kx3 _ _ _ _ (g_exit h h93) B (lv_sub hL [] rfl)
      · refine lv_aload_n hx hb dX3_spendsRow_9 rfl (lv_at hL 0 rfl) ?_
        refine lv_aload_n hx hb dX3_spendsRow_10 rfl (lv_at hL 1 rfl) ?_
        refine lv_iload_n hx hb dX3_spendsRow_11 rfl (lv_at hL 2 rfl) ?_
        refine lv_iload hx hb dX3_spendsRow_12 (lv_at hL 4 rfl) ?_
        refine lv_aload_n hx hb dX3_spendsRow_14 rfl (lv_at hL 3 rfl) ?_
        refine lv_iload hx hb dX3_spendsRow_15 (lv_at hL 4 rfl) ?_
        refine xx_is h (fun hp1 h => ?_)
        refine xx_iald C B hp1 h dX3_spendsRow_17 (fun v2 h => ?_)
        refine k_X3_spends ht C B q1432 (Nat.le_trans (Nat.le_of_ble_eq_true rfl) hF) (Nat.le_trans (Nat.le_of_ble_eq_true rfl) hN) hL.1 (Nat.le_of_ble_eq_true rfl) ⟨Nat.zero_le _, Nat.zero_le _⟩ h dX3_spendsRow_18 (fun q3 h H locs B => ?_)
        refine lv_iinc (v := x4l3 + 1) (lv' := [(4, .int (x4l3 + 1)), (0, .ref (ad a0)), (1, .ref (ad a1)), (2, .int x2), (3, .ref (ad a3))]) hx hb dX3_spendsRow_21 hL (k := 4) rfl rfl (by decide) rfl (fun ls hL => ?_)
        refine lv_goto (tgt := 3) hx hb dX3_spendsRow_24 (by decide) ?_
        exact ih3 _ _ _ _ _ (g_next h h93) B (lv_sub hL [1, 2, 3, 4, 0] rfl)
  exact hl3 g_K _ _ _ _ _ h83 B (lv_sub hL [1, 2, 3, 4, 0] rfl)
theorem k_X3_spendsRow {p : Program} {l : Launch} {e : Env} {R : Room} {s : State} {m : MethodId} {args : Array Value} {below : List Frame} {meth : Method} {c : Code} {H : Heap} {locs : List Loc} {Q : State → Prop} {pc : Nat} {ls : Array Slot} {rest : List Value} {cc : ByteArray} {nL cells slots : Nat} {D : va_G} {cA : Nat → ClassId} {ad : Nat → Nat} {hk : HK} {nx : Nat} {A : Nat → Prop} {gi : GI} {gr : GR} {α : Type} {r : α} {own : String} {idx : Nat} {a0 : Nat} {a1 : Nat} {x2 : Int32} {a3 : Nat} {ff : GI → Option α} (ht : (hk a0).1 = 13) (C : CallFix p m c cc nL s args lw_all own) (B : XB D cA ad hk nx A s gi gr H locs) (hq : Cond.methodLink own idx yX3_spendsRow ∈ lw_all) (hF : 8 ≤ R.frames) (hN : 221 ≤ R.locals) (hs : ls.size = nL) (hw : (rest.map fun v => v.category).sum ≤ 8) (hz0 : cells ≤ R.cells ∧ slots ≤ R.slots) (h : (f_X3_spendsRow hk gi gr a0 a1 x2 a3).bind ff = some r) (hdg : decode cc pc = .ok (.invokevirtual idx, 3)) (kk : ∀ q, ff q = some r → ∀ (H' : Heap) (locs' : List Loc), XB D cA ad hk nx A s q gr H' locs' → W p l e R s m args below meth c H' locs' cells slots Q (F0 m (pc + 3) ls (rest))) : W p l e R s m args below meth c H locs cells slots Q (F0 m pc ls (.ref (ad a3) :: .int x2 :: .ref (ad a1) :: .ref (ad a0) :: rest)) := by
  obtain ⟨q, h1, h2⟩ := g_ob h
  refine xx_cVV (As := [.ref (ad a1), .int x2, .ref (ad a3)]) (rest := rest) (n := 3) xc_3 ht (by decide) C B (fun sz => w_X3_spendsRow l D cA ad hk nx gi gr a0 a1 x2 a3 ht q h1 sz) hq q1542 q1543 q147 q1544 (by decide +kernel) ⟨hF, hN⟩ rfl hs hw hz0 hdg (fun u H9 locs9 hp B9 => ?_)
  obtain ⟨e1, e3⟩ := hp
  rw [e3] at B9
  subst e1
  exact kk _ h2 H9 locs9 B9
def f_X0_thrive_l34 (hk : HK) (gri34 : GR) (a0i34 : Nat) (x1i34 : Int32) (x2i34 : Int32) (x3l34 : Int32) (gil34 : GI) : Option ((Int32 × GI) ⊕ (GI)) :=
  if x2i34 ≤ x3l34 then
  (some (.inr gil34))
  else
  ((gri34 a0i34 8).bind fun v9 =>
  (f_X0_layBest hk gil34 gri34 a0i34 v9 x1i34 0).bind fun q11 =>
  (gri34 a0i34 8).bind fun v12 =>
  (gri34 a0i34 4).bind fun v14 =>
  (gri34 a0i34 14).bind fun v16 =>
  (g_is hk v12 13).bind fun _ =>
  (f_X3_spendsRow hk q11 gri34 v12 v14 x1i34 v16).bind fun q19 =>
  (gri34 a0i34 8).bind fun v20 =>
  (gri34 a0i34 4).bind fun v22 =>
  (g_is hk v20 13).bind fun _ =>
  (f_X3_goWeek hk q19 gri34 v20 v22).bind fun q25 =>
  some (.inl ((x3l34 + 1, q25.2))))
def f_X0_thrive_x34 (hk : HK) (gry34 : GR) (a0y34 : Nat) (x1y34 : Int32) (gie34 : GI) : Option (Int32 × GI) :=
  (gry34 a0y34 8).bind fun v26 =>
  (g_is hk v26 13).bind fun _ =>
  (gry34 v26 2).bind fun v29 =>
  (g_is hk v29 0).bind fun _ =>
  (g_ld gie34 v29 (hk v29).2 x1y34).bind fun v32 =>
  some (v32, gie34)
def f_X0_thrive (hk : HK) (gi : GI) (gr : GR) (a0 : Nat) (x1 : Int32) (x2 : Int32) : Option (Int32 × GI) :=
  (f_X0_isMan hk gi gr a0 x1).bind fun q1 =>
  if q1 = 0 then
  (some ((-1), gi))
  else
  ((f_X0_isIn hk gi gr x2 0 12).bind fun q2 =>
  if q2 = 0 then
  (some ((-1), gi))
  else
  ((gr a0 8).bind fun v3 =>
  (gr a0 5).bind fun v5 =>
  (g_is hk v3 13).bind fun _ =>
  (f_X3_copy hk gi gr v3 v5).bind fun q8 =>
  (g_loop g_K (fun (s : Int32 × GI) => f_X0_thrive_l34 hk gr a0 x1 x2 s.1 s.2) (0, q8.2)).bind fun E34 => f_X0_thrive_x34 hk gr a0 x1 E34))
set_option maxHeartbeats 400000 in
theorem w_X0_thrive (l : Launch) (D : va_G) (cA : Nat → ClassId) (ad : Nat → Nat) (hk : HK) (nx : Nat) (gi : GI) (gr : GR) (a0 : Nat) (x1 : Int32) (x2 : Int32) (ht : (hk a0).1 = 10) (r : Int32 × GI) (h : f_X0_thrive hk gi gr a0 x1 x2 = some r) (sz : Nat) : Met l yX0_thrive (ws_ yX0_thrive cX0_thrive 4 (some .int)) ({ frames := 108, cells := 0, slots := 0, locals := 3214 } : Room) (va_Pc [.ref (ad a0), .int x1, .int x2] (XPre D cA ad hk nx gi gr sz)) (va_Qi (fun v u => (v, u.1) = r ∧ u.2 = gr) (XPost D cA ad hk nx) (XA ad nx sz)) 0 0 (XA ad nx sz) := by
  refine xx_stI (own := RX0) (P := (fun v u => (v, u.1) = r ∧ u.2 = gr)) (by decide +kernel) rfl (Nat.le_of_ble_eq_true rfl) (fun p e s m args below meth c R Q A ls C hF hN B hret hL => ?_) sz
  have hx := C.1
  have hb := C.2.1
  have hL : lv_has ls 4 [(0, .ref (ad a0)), (1, .int x1), (2, .int x2)] := hL
  unfold f_X0_thrive at h
  refine lv_aload_n hx hb dX0_thrive_0 rfl (lv_at hL 0 rfl) ?_
  refine lv_iload_n hx hb dX0_thrive_1 rfl (lv_at hL 1 rfl) ?_
  refine k_X0_isMan ht C B q1243 (Nat.le_trans (Nat.le_of_ble_eq_true rfl) hF) (Nat.le_trans (Nat.le_of_ble_eq_true rfl) hN) hL.1 (Nat.le_of_ble_eq_true rfl) ⟨Nat.zero_le _, Nat.zero_le _⟩ h dX0_thrive_2 (fun q1 h H locs B => ?_)
  refine gg_if_eq hx hb 18 h dX0_thrive_5 (by decide) (fun h => ?_) (fun h => ?_)
  · refine lv_iconst (v := (-1)) hx hb dX0_thrive_18 (by decide) ?_
    exact hret _ _ _ _ _ _ _ ⟨Option.some.inj h, rfl⟩ B dX0_thrive_19
  · refine lv_iload_n hx hb dX0_thrive_8 rfl (lv_at hL 2 rfl) ?_
    refine lv_iconst (v := 0) hx hb dX0_thrive_9 (by decide) ?_
    refine lv_bipush (v := 12) hx hb dX0_thrive_10 (by decide) ?_
    refine k_X0_isIn C B q1247 (Nat.le_trans (Nat.le_of_ble_eq_true rfl) hF) (Nat.le_trans (Nat.le_of_ble_eq_true rfl) hN) hL.1 (Nat.le_of_ble_eq_true rfl) ⟨Nat.zero_le _, Nat.zero_le _⟩ h dX0_thrive_12 (fun q2 h H locs B => ?_)
    refine gg_if_ne hx hb 20 h dX0_thrive_15 (by decide) (fun h => ?_) (fun h => ?_)
    · refine lv_aload_n hx hb dX0_thrive_20 rfl (lv_at hL 0 rfl) ?_
      refine xx_gr (ci := 0) (k := 8) C B xc_0 ht (by decide) (Nat.le_of_ble_eq_true rfl) rfl q367 (fun _ h => h) h dX0_thrive_21 (fun v3 ok4 h => ?_)
      refine lv_aload_n hx hb dX0_thrive_24 rfl (lv_at hL 0 rfl) ?_
      refine xx_gr (ci := 0) (k := 5) C B xc_0 ht (by decide) (Nat.le_of_ble_eq_true rfl) rfl q364 (fun _ h => h) h dX0_thrive_25 (fun v5 ok6 h => ?_)
      refine xx_is h (fun hp7 h => ?_)
      refine k_X3_copy hp7 C B q1381 (Nat.le_trans (Nat.le_of_ble_eq_true rfl) hF) (Nat.le_trans (Nat.le_of_ble_eq_true rfl) hN) hL.1 (Nat.le_of_ble_eq_true rfl) ⟨Nat.zero_le _, Nat.zero_le _⟩ h dX0_thrive_28 (fun q8 h H locs B => ?_)
      refine lv_pop hx hb dX0_thrive_31 rfl ?_
      refine lv_iconst (v := 0) hx hb dX0_thrive_32 (by decide) ?_
      refine lv_istore_n (lv' := [(3, .int 0), (0, .ref (ad a0)), (1, .int x1), (2, .int x2)]) hx hb dX0_thrive_33 rfl hL (by decide) rfl (fun ls hL => ?_)
      obtain ⟨E34, h834, h⟩ := g_ob h
      have kx34 : ∀ (gie34 : GI) (H : Heap) (locs : List Loc) (ls : Array Slot), gie34 = E34 → XB D cA ad hk nx A s gie34 gr H locs → lv_has ls 4 [(0, .ref (ad a0)), (1, .int x1)] → W p l e R s m args below meth c H locs 0 0 Q (F0 m 83 ls []) := by
        intro gie34 H locs ls he B hL
        subst he
        have h : f_X0_thrive_x34 hk gr a0 x1 gie34 = some r := h
        unfold f_X0_thrive_x34 at h
        refine lv_aload_n hx hb dX0_thrive_83 rfl (lv_at hL 0 rfl) ?_
        refine xx_gr (ci := 0) (k := 8) C B xc_0 ht (by decide) (Nat.le_of_ble_eq_true rfl) rfl q367 (fun _ h => h) h dX0_thrive_84 (fun v26 ok27 h => ?_)
        refine xx_is h (fun hp28 h => ?_)
        refine xx_gr (ci := 3) (k := 2) C B xc_3 hp28 (by decide) (Nat.le_of_ble_eq_true rfl) rfl q309 (fun _ h => h) h dX0_thrive_87 (fun v29 ok30 h => ?_)
        refine lv_iload_n hx hb dX0_thrive_90 rfl (lv_at hL 1 rfl) ?_
        refine xx_is h (fun hp31 h => ?_)
        refine xx_iald C B hp31 h dX0_thrive_91 (fun v32 h => ?_)
        exact hret _ _ _ _ _ _ _ ⟨Option.some.inj h, rfl⟩ B dX0_thrive_92
      have hl34 : ∀ (k : Nat) (x3l34 : Int32) (gil34 : GI) (H : Heap) (locs : List Loc) (ls : Array Slot), g_loop k (fun (s : Int32 × GI) => f_X0_thrive_l34 hk gr a0 x1 x2 s.1 s.2) (x3l34, gil34) = some E34 → XB D cA ad hk nx A s gil34 gr H locs → lv_has ls 4 [(0, .ref (ad a0)), (1, .int x1), (2, .int x2), (3, .int x3l34)] → W p l e R s m args below meth c H locs 0 0 Q (F0 m 34 ls []) := by
        intro k
        induction k with
        | zero => intro x3l34 gil34 H locs ls h; exact absurd h (fun z => g_loop_0 z)
        | succ k ih34 =>
          intro x3l34 gil34 H locs ls h B hL
          obtain ⟨Z34, h, h934⟩ := g_loop_s h
          have h : f_X0_thrive_l34 hk gr a0 x1 x2 x3l34 gil34 = some Z34 := h
          unfold f_X0_thrive_l34 at h
          refine lv_iload_n hx hb dX0_thrive_34 rfl (lv_at hL 3 rfl) ?_
          refine lv_iload_n hx hb dX0_thrive_35 rfl (lv_at hL 2 rfl) ?_
          refine gg_icmp_ge hx hb 83 h dX0_thrive_36 (by decide) (fun h => ?_) (fun h => ?_)
          · exact kx34 _ _ _ _ (g_exit h h934) B (lv_sub hL [0, 1] rfl)
          · refine lv_aload_n hx hb dX0_thrive_39 rfl (lv_at hL 0 rfl) ?_
            refine lv_aload_n hx hb dX0_thrive_40 rfl (lv_at hL 0 rfl) ?_
            refine xx_gr (ci := 0) (k := 8) C B xc_0 ht (by decide) (Nat.le_of_ble_eq_true rfl) rfl q367 (fun _ h => h) h dX0_thrive_41 (fun v9 ok10 h => ?_)
            refine lv_iload_n hx hb dX0_thrive_44 rfl (lv_at hL 1 rfl) ?_
            refine lv_iconst (v := 0) hx hb dX0_thrive_45 (by decide) ?_
            refine k_X0_layBest ht C B q1456 (Nat.le_trans (Nat.le_of_ble_eq_true rfl) hF) (Nat.le_trans (Nat.le_of_ble_eq_true rfl) hN) hL.1 (Nat.le_of_ble_eq_true rfl) ⟨Nat.zero_le _, Nat.zero_le _⟩ h dX0_thrive_46 (fun q11 h H locs B => ?_)
            refine lv_aload_n hx hb dX0_thrive_49 rfl (lv_at hL 0 rfl) ?_
            refine xx_gr (ci := 0) (k := 8) C B xc_0 ht (by decide) (Nat.le_of_ble_eq_true rfl) rfl q367 (fun _ h => h) h dX0_thrive_50 (fun v12 ok13 h => ?_)
            refine lv_aload_n hx hb dX0_thrive_53 rfl (lv_at hL 0 rfl) ?_
            refine xx_gr (ci := 0) (k := 4) C B xc_0 ht (by decide) (Nat.le_of_ble_eq_true rfl) rfl q363 (fun _ h => h) h dX0_thrive_54 (fun v14 ok15 h => ?_)
            refine lv_iload_n hx hb dX0_thrive_57 rfl (lv_at hL 1 rfl) ?_
            refine lv_aload_n hx hb dX0_thrive_58 rfl (lv_at hL 0 rfl) ?_
            refine xx_gr (ci := 0) (k := 14) C B xc_0 ht (by decide) (Nat.le_of_ble_eq_true rfl) rfl q374 (fun _ h => h) h dX0_thrive_59 (fun v16 ok17 h => ?_)
            refine xx_is h (fun hp18 h => ?_)
            refine k_X3_spendsRow hp18 C B q1541 (Nat.le_trans (Nat.le_of_ble_eq_true rfl) hF) (Nat.le_trans (Nat.le_of_ble_eq_true rfl) hN) hL.1 (Nat.le_of_ble_eq_true rfl) ⟨Nat.zero_le _, Nat.zero_le _⟩ h dX0_thrive_62 (fun q19 h H locs B => ?_)
            refine lv_aload_n hx hb dX0_thrive_65 rfl (lv_at hL 0 rfl) ?_
            refine xx_gr (ci := 0) (k := 8) C B xc_0 ht (by decide) (Nat.le_of_ble_eq_true rfl) rfl q367 (fun _ h => h) h dX0_thrive_66 (fun v20 ok21 h => ?_)
            refine lv_aload_n hx hb dX0_thrive_69 rfl (lv_at hL 0 rfl) ?_
            refine xx_gr (ci := 0) (k := 4) C B xc_0 ht (by decide) (Nat.le_of_ble_eq_true rfl) rfl q363 (fun _ h => h) h dX0_thrive_70 (fun v22 ok23 h => ?_)
            refine xx_is h (fun hp24 h => ?_)
            refine k_X3_goWeek hp24 C B q1420 (Nat.le_trans (Nat.le_of_ble_eq_true rfl) hF) (Nat.le_trans (Nat.le_of_ble_eq_true rfl) hN) hL.1 (Nat.le_of_ble_eq_true rfl) ⟨Nat.zero_le _, Nat.zero_le _⟩ h dX0_thrive_73 (fun q25 h H locs B => ?_)
            refine lv_pop hx hb dX0_thrive_76 rfl ?_
            refine lv_iinc (v := x3l34 + 1) (lv' := [(3, .int (x3l34 + 1)), (0, .ref (ad a0)), (1, .int x1), (2, .int x2)]) hx hb dX0_thrive_77 hL (k := 3) rfl rfl (by decide) rfl (fun ls hL => ?_)
            refine lv_goto (tgt := 34) hx hb dX0_thrive_80 (by decide) ?_
            exact ih34 _ _ _ _ _ (g_next h h934) B (lv_sub hL [1, 2, 3, 0] rfl)
      exact hl34 g_K _ _ _ _ _ h834 B (lv_sub hL [1, 2, 3, 0] rfl)
    · refine lv_iconst (v := (-1)) hx hb dX0_thrive_18 (by decide) ?_
      exact hret _ _ _ _ _ _ _ ⟨Option.some.inj h, rfl⟩ B dX0_thrive_19
theorem k_X0_thrive {p : Program} {l : Launch} {e : Env} {R : Room} {s : State} {m : MethodId} {args : Array Value} {below : List Frame} {meth : Method} {c : Code} {H : Heap} {locs : List Loc} {Q : State → Prop} {pc : Nat} {ls : Array Slot} {rest : List Value} {cc : ByteArray} {nL cells slots : Nat} {D : va_G} {cA : Nat → ClassId} {ad : Nat → Nat} {hk : HK} {nx : Nat} {A : Nat → Prop} {gi : GI} {gr : GR} {α : Type} {r : α} {own : String} {idx : Nat} {a0 : Nat} {x1 : Int32} {x2 : Int32} {ff : (Int32 × GI) → Option α} (ht : (hk a0).1 = 10) (C : CallFix p m c cc nL s args lw_all own) (B : XB D cA ad hk nx A s gi gr H locs) (hq : Cond.methodLink own idx yX0_thrive ∈ lw_all) (hF : 109 ≤ R.frames) (hN : 3237 ≤ R.locals) (hs : ls.size = nL) (hw : (rest.map fun v => v.category).sum ≤ 8) (hz0 : cells ≤ R.cells ∧ slots ≤ R.slots) (h : (f_X0_thrive hk gi gr a0 x1 x2).bind ff = some r) (hdg : decode cc pc = .ok (.invokevirtual idx, 3)) (kk : ∀ q, ff q = some r → ∀ (H' : Heap) (locs' : List Loc), XB D cA ad hk nx A s q.2 gr H' locs' → W p l e R s m args below meth c H' locs' cells slots Q (F0 m (pc + 3) ls (.int q.1 :: rest))) : W p l e R s m args below meth c H locs cells slots Q (F0 m pc ls (.int x2 :: .int x1 :: .ref (ad a0) :: rest)) := by
  obtain ⟨q, h1, h2⟩ := g_ob h
  refine xx_cVI (As := [.int x1, .int x2]) (rest := rest) (n := 2) xc_0 ht (by decide) C B (fun sz => w_X0_thrive l D cA ad hk nx gi gr a0 x1 x2 ht q h1 sz) hq q1538 q1539 q141 q1540 (by decide +kernel) ⟨hF, hN⟩ rfl hs hw hz0 hdg (fun v u H9 locs9 hp B9 => ?_)
  obtain ⟨e1, e3⟩ := hp
  rw [e3] at B9
  subst e1
  exact kk _ h2 H9 locs9 B9
def f_X0_saves_l31 (hk : HK) (gii31 : GI) (gri31 : GR) (a0i31 : Nat) (x1i31 : Int32) (x2i31 : Int32) (x3i31 : Int32) (x4l31 : Int32) : Option ((Int32) ⊕ ((Unit) ⊕ (Int32))) :=
  if 60 < x4l31 then
  (some (.inr (.inl ())))
  else
  ((gri31 a0i31 5).bind fun v4 =>
  (g_is hk v4 13).bind fun _ =>
  (f_X3_purse hk gii31 gri31 v4 x1i31 x2i31).bind fun q7 =>
  (gri31 a0i31 4).bind fun v8 =>
  (g_is hk v8 11).bind fun _ =>
  (gri31 v8 1).bind fun v11 =>
  (g_is hk v11 22).bind fun _ =>
  (f_J2_get hk gii31 gri31 v11 x1i31).bind fun q14 =>
  (g_is hk q14 16).bind fun _ =>
  (gri31 q14 2).bind fun v16 =>
  (g_is hk v16 0).bind fun _ =>
  (g_ld gii31 v16 (hk v16).2 x2i31).bind fun v19 =>
  if (q7 + (x4l31 * v19)) < x3i31 then
  (some (.inl (x4l31 + 1)))
  else
  (some (.inr (.inr x4l31))))
def f_X0_saves_x31 (hk : HK) (giy31 : GI) (gry31 : GR) : Option (Int32) :=
  some ((-1))
def f_X0_saves (hk : HK) (gi : GI) (gr : GR) (a0 : Nat) (x1 : Int32) (x2 : Int32) (x3 : Int32) : Option (Int32) :=
  (f_X0_isMan hk gi gr a0 x1).bind fun q1 =>
  if q1 = 0 then
  (some ((-1)))
  else
  ((f_X0_isKind hk gi gr a0 x2).bind fun q2 =>
  if q2 = 0 then
  (some ((-1)))
  else
  ((f_X0_isIn hk gi gr x3 0 99).bind fun q3 =>
  if q3 = 0 then
  (some ((-1)))
  else
  ((g_loop g_K (fun (s : Int32) => f_X0_saves_l31 hk gi gr a0 x1 x2 x3 s) (0)).bind fun E31 => Sum.elim (fun (S31 : Unit) => f_X0_saves_x31 hk gi gr) (fun (r31 : Int32) => some r31) E31)))
set_option maxHeartbeats 400000 in
theorem w_X0_saves (l : Launch) (D : va_G) (cA : Nat → ClassId) (ad : Nat → Nat) (hk : HK) (nx : Nat) (gi : GI) (gr : GR) (a0 : Nat) (x1 : Int32) (x2 : Int32) (x3 : Int32) (ht : (hk a0).1 = 10) (r : Int32) (h : f_X0_saves hk gi gr a0 x1 x2 x3 = some r) (sz : Nat) : Met l yX0_saves (ws_ yX0_saves cX0_saves 5 (some .int)) ({ frames := 4, cells := 0, slots := 0, locals := 128 } : Room) (va_Pc [.ref (ad a0), .int x1, .int x2, .int x3] (XPre D cA ad hk nx gi gr sz)) (va_Qi (fun v u => v = r ∧ u.1 = gi ∧ u.2 = gr) (XPost D cA ad hk nx) (XA ad nx sz)) 0 0 (XA ad nx sz) := by
  refine xx_stI (own := RX0) (P := (fun v u => v = r ∧ u.1 = gi ∧ u.2 = gr)) (by decide +kernel) rfl (Nat.le_of_ble_eq_true rfl) (fun p e s m args below meth c R Q A ls C hF hN B hret hL => ?_) sz
  have hx := C.1
  have hb := C.2.1
  have hL : lv_has ls 5 [(0, .ref (ad a0)), (1, .int x1), (2, .int x2), (3, .int x3)] := hL
  unfold f_X0_saves at h
  refine lv_aload_n hx hb dX0_saves_0 rfl (lv_at hL 0 rfl) ?_
  refine lv_iload_n hx hb dX0_saves_1 rfl (lv_at hL 1 rfl) ?_
  refine k_X0_isMan ht C B q1243 (Nat.le_trans (Nat.le_of_ble_eq_true rfl) hF) (Nat.le_trans (Nat.le_of_ble_eq_true rfl) hN) hL.1 (Nat.le_of_ble_eq_true rfl) ⟨Nat.zero_le _, Nat.zero_le _⟩ h dX0_saves_2 (fun q1 h H locs B => ?_)
  refine gg_if_eq hx hb 26 h dX0_saves_5 (by decide) (fun h => ?_) (fun h => ?_)
  · refine lv_iconst (v := (-1)) hx hb dX0_saves_26 (by decide) ?_
    exact hret _ _ _ _ _ _ _ ⟨Option.some.inj h, rfl, rfl⟩ B dX0_saves_27
  · refine lv_aload_n hx hb dX0_saves_8 rfl (lv_at hL 0 rfl) ?_
    refine lv_iload_n hx hb dX0_saves_9 rfl (lv_at hL 2 rfl) ?_
    refine k_X0_isKind ht C B q1341 (Nat.le_trans (Nat.le_of_ble_eq_true rfl) hF) (Nat.le_trans (Nat.le_of_ble_eq_true rfl) hN) hL.1 (Nat.le_of_ble_eq_true rfl) ⟨Nat.zero_le _, Nat.zero_le _⟩ h dX0_saves_10 (fun q2 h H locs B => ?_)
    refine gg_if_eq hx hb 26 h dX0_saves_13 (by decide) (fun h => ?_) (fun h => ?_)
    · refine lv_iconst (v := (-1)) hx hb dX0_saves_26 (by decide) ?_
      exact hret _ _ _ _ _ _ _ ⟨Option.some.inj h, rfl, rfl⟩ B dX0_saves_27
    · refine lv_iload_n hx hb dX0_saves_16 rfl (lv_at hL 3 rfl) ?_
      refine lv_iconst (v := 0) hx hb dX0_saves_17 (by decide) ?_
      refine lv_bipush (v := 99) hx hb dX0_saves_18 (by decide) ?_
      refine k_X0_isIn C B q1247 (Nat.le_trans (Nat.le_of_ble_eq_true rfl) hF) (Nat.le_trans (Nat.le_of_ble_eq_true rfl) hN) hL.1 (Nat.le_of_ble_eq_true rfl) ⟨Nat.zero_le _, Nat.zero_le _⟩ h dX0_saves_20 (fun q3 h H locs B => ?_)
      refine gg_if_ne hx hb 28 h dX0_saves_23 (by decide) (fun h => ?_) (fun h => ?_)
      · refine lv_iconst (v := 0) hx hb dX0_saves_28 (by decide) ?_
        refine lv_istore (lv' := [(4, .int 0), (0, .ref (ad a0)), (1, .int x1), (2, .int x2), (3, .int x3)]) hx hb dX0_saves_29 hL (by decide) rfl (fun ls hL => ?_)
        obtain ⟨E31, h831, h⟩ := g_ob h
        have kx31 : ∀  (H : Heap) (locs : List Loc) (ls : Array Slot), Sum.inl () = E31 → XB D cA ad hk nx A s gi gr H locs → lv_has ls 5 [] → W p l e R s m args below meth c H locs 0 0 Q (F0 m 83 ls []) := by
          intro  H locs ls he B hL
          subst he
          have h : f_X0_saves_x31 hk gi gr = some r := h
          unfold f_X0_saves_x31 at h
          refine lv_iconst (v := (-1)) hx hb dX0_saves_83 (by decide) ?_
          exact hret _ _ _ _ _ _ _ ⟨Option.some.inj h, rfl, rfl⟩ B dX0_saves_84
        have kr31 : ∀ (v : Int32) (H : Heap) (locs : List Loc) (ls : Array Slot) (pc : Nat), Sum.inr v = E31 → XB D cA ad hk nx A s gi gr H locs → decode cX0_saves pc = .ok (.ireturn, 1) → W p l e R s m args below meth c H locs 0 0 Q (F0 m pc ls [.int v]) := by
          intro v H locs ls pc he B hd
          subst he
          have h := g_er h
          exact hret _ _ _ _ _ _ _ ⟨Option.some.inj h, rfl, rfl⟩ B hd
        have hl31 : ∀ (k : Nat) (x4l31 : Int32) (H : Heap) (locs : List Loc) (ls : Array Slot), g_loop k (fun (s : Int32) => f_X0_saves_l31 hk gi gr a0 x1 x2 x3 s) x4l31 = some E31 → XB D cA ad hk nx A s gi gr H locs → lv_has ls 5 [(0, .ref (ad a0)), (1, .int x1), (2, .int x2), (3, .int x3), (4, .int x4l31)] → W p l e R s m args below meth c H locs 0 0 Q (F0 m 31 ls []) := by
          intro k
          induction k with
          | zero => intro x4l31 H locs ls h; exact absurd h (fun z => g_loop_0 z)
          | succ k ih31 =>
            intro x4l31 H locs ls h B hL
            obtain ⟨Z31, h, h931⟩ := g_loop_s h
            have h : f_X0_saves_l31 hk gi gr a0 x1 x2 x3 x4l31 = some Z31 := h
            unfold f_X0_saves_l31 at h
            refine lv_iload hx hb dX0_saves_31 (lv_at hL 4 rfl) ?_
            refine lv_bipush (v := 60) hx hb dX0_saves_33 (by decide) ?_
            refine gg_icmp_gt hx hb 83 h dX0_saves_35 (by decide) (fun h => ?_) (fun h => ?_)
            · exact kx31  _ _ _ (g_exit h h931) B (lv_sub hL [] rfl)
            · refine lv_aload_n hx hb dX0_saves_38 rfl (lv_at hL 0 rfl) ?_
              refine xx_gr (ci := 0) (k := 5) C B xc_0 ht (by decide) (Nat.le_of_ble_eq_true rfl) rfl q364 (fun _ h => h) h dX0_saves_39 (fun v4 ok5 h => ?_)
              refine lv_iload_n hx hb dX0_saves_42 rfl (lv_at hL 1 rfl) ?_
              refine lv_iload_n hx hb dX0_saves_43 rfl (lv_at hL 2 rfl) ?_
              refine xx_is h (fun hp6 h => ?_)
              refine k_X3_purse hp6 C B q1349 (Nat.le_trans (Nat.le_of_ble_eq_true rfl) hF) (Nat.le_trans (Nat.le_of_ble_eq_true rfl) hN) hL.1 (Nat.le_of_ble_eq_true rfl) ⟨Nat.zero_le _, Nat.zero_le _⟩ h dX0_saves_44 (fun q7 h H locs B => ?_)
              refine lv_iload hx hb dX0_saves_47 (lv_at hL 4 rfl) ?_
              refine lv_aload_n hx hb dX0_saves_49 rfl (lv_at hL 0 rfl) ?_
              refine xx_gr (ci := 0) (k := 4) C B xc_0 ht (by decide) (Nat.le_of_ble_eq_true rfl) rfl q363 (fun _ h => h) h dX0_saves_50 (fun v8 ok9 h => ?_)
              refine xx_is h (fun hp10 h => ?_)
              refine xx_gr (ci := 1) (k := 1) C B xc_1 hp10 (by decide) (Nat.le_of_ble_eq_true rfl) rfl q257 (fun _ h => h) h dX0_saves_53 (fun v11 ok12 h => ?_)
              refine lv_iload_n hx hb dX0_saves_56 rfl (lv_at hL 1 rfl) ?_
              refine xx_is h (fun hp13 h => ?_)
              refine k_J2_get hp13 C B q1251 (Nat.le_trans (Nat.le_of_ble_eq_true rfl) hF) (Nat.le_trans (Nat.le_of_ble_eq_true rfl) hN) hL.1 (Nat.le_of_ble_eq_true rfl) ⟨Nat.zero_le _, Nat.zero_le _⟩ h dX0_saves_57 (fun q14 h H locs B => ?_)
              refine xx_is h (fun hp15 h => ?_)
              refine xx_cast C B xc_6 hp15 (by decide) q1252 dX0_saves_60 ?_
              refine xx_gr (ci := 6) (k := 2) C B xc_6 hp15 (by decide) (Nat.le_of_ble_eq_true rfl) rfl q978 (fun _ h => h) h dX0_saves_63 (fun v16 ok17 h => ?_)
              refine lv_iload_n hx hb dX0_saves_66 rfl (lv_at hL 2 rfl) ?_
              refine xx_is h (fun hp18 h => ?_)
              refine xx_iald C B hp18 h dX0_saves_67 (fun v19 h => ?_)
              refine lv_imul hx hb dX0_saves_68 ?_
              refine lv_iadd hx hb dX0_saves_69 ?_
              refine lv_iload_n hx hb dX0_saves_70 rfl (lv_at hL 3 rfl) ?_
              refine gg_icmp_lt hx hb 77 h dX0_saves_71 (by decide) (fun h => ?_) (fun h => ?_)
              · refine lv_iinc (v := x4l31 + 1) (lv' := [(4, .int (x4l31 + 1)), (0, .ref (ad a0)), (1, .int x1), (2, .int x2), (3, .int x3)]) hx hb dX0_saves_77 hL (k := 4) rfl rfl (by decide) rfl (fun ls hL => ?_)
                refine lv_goto (tgt := 31) hx hb dX0_saves_80 (by decide) ?_
                exact ih31 _ _ _ _ (g_next h h931) B (lv_sub hL [1, 2, 3, 4, 0] rfl)
              · refine lv_iload hx hb dX0_saves_74 (lv_at hL 4 rfl) ?_
                exact kr31 _ _ _ _ _ (g_exit h h931) B dX0_saves_76
        exact hl31 g_K _ _ _ _ h831 B (lv_sub hL [1, 2, 3, 4, 0] rfl)
      · refine lv_iconst (v := (-1)) hx hb dX0_saves_26 (by decide) ?_
        exact hret _ _ _ _ _ _ _ ⟨Option.some.inj h, rfl, rfl⟩ B dX0_saves_27
theorem k_X0_saves {p : Program} {l : Launch} {e : Env} {R : Room} {s : State} {m : MethodId} {args : Array Value} {below : List Frame} {meth : Method} {c : Code} {H : Heap} {locs : List Loc} {Q : State → Prop} {pc : Nat} {ls : Array Slot} {rest : List Value} {cc : ByteArray} {nL cells slots : Nat} {D : va_G} {cA : Nat → ClassId} {ad : Nat → Nat} {hk : HK} {nx : Nat} {A : Nat → Prop} {gi : GI} {gr : GR} {α : Type} {r : α} {own : String} {idx : Nat} {a0 : Nat} {x1 : Int32} {x2 : Int32} {x3 : Int32} {ff : Int32 → Option α} (ht : (hk a0).1 = 10) (C : CallFix p m c cc nL s args lw_all own) (B : XB D cA ad hk nx A s gi gr H locs) (hq : Cond.methodLink own idx yX0_saves ∈ lw_all) (hF : 5 ≤ R.frames) (hN : 152 ≤ R.locals) (hs : ls.size = nL) (hw : (rest.map fun v => v.category).sum ≤ 8) (hz0 : cells ≤ R.cells ∧ slots ≤ R.slots) (h : (f_X0_saves hk gi gr a0 x1 x2 x3).bind ff = some r) (hdg : decode cc pc = .ok (.invokevirtual idx, 3)) (kk : ∀ q, ff q = some r → ∀ (H' : Heap) (locs' : List Loc), XB D cA ad hk nx A s gi gr H' locs' → W p l e R s m args below meth c H' locs' cells slots Q (F0 m (pc + 3) ls (.int q :: rest))) : W p l e R s m args below meth c H locs cells slots Q (F0 m pc ls (.int x3 :: .int x2 :: .int x1 :: .ref (ad a0) :: rest)) := by
  obtain ⟨q, h1, h2⟩ := g_ob h
  refine xx_cVI (As := [.int x1, .int x2, .int x3]) (rest := rest) (n := 3) xc_0 ht (by decide) C B (fun sz => w_X0_saves l D cA ad hk nx gi gr a0 x1 x2 x3 ht q h1 sz) hq q1546 q1547 q141 q1548 (by decide +kernel) ⟨hF, hN⟩ rfl hs hw hz0 hdg (fun v u H9 locs9 hp B9 => ?_)
  obtain ⟨e1, e2, e3⟩ := hp
  rw [e2] at B9
  rw [e3] at B9
  subst e1
  exact kk _ h2 H9 locs9 B9
def f_X0_richest_l4 (hk : HK) (gii4 : GI) (gri4 : GR) (a0i4 : Nat) (x1l4 : Int32) (x2l4 : Int32) : Option ((Int32 × Int32) ⊕ (Int32)) :=
  (f_X0_men hk gii4 gri4 a0i4).bind fun q1 =>
  if q1 ≤ x2l4 then
  (some (.inr x1l4))
  else
  (if x1l4 < 0 then
  (some (.inl ((x2l4, x2l4 + 1))))
  else
  ((gri4 a0i4 5).bind fun v2 =>
  (g_is hk v2 13).bind fun _ =>
  (f_X3_rich hk gii4 gri4 v2 x2l4).bind fun q5 =>
  (gri4 a0i4 5).bind fun v6 =>
  (g_is hk v6 13).bind fun _ =>
  (f_X3_rich hk gii4 gri4 v6 x1l4).bind fun q9 =>
  if q5 ≤ q9 then
  (some (.inl ((x1l4, x2l4 + 1))))
  else
  (some (.inl ((x2l4, x2l4 + 1))))))
def f_X0_richest_x4 (hk : HK) (giy4 : GI) (gry4 : GR) (x1e4 : Int32) : Option (Int32) :=
  some x1e4
def f_X0_richest (hk : HK) (gi : GI) (gr : GR) (a0 : Nat) : Option (Int32) :=
  (g_loop g_K (fun (s : Int32 × Int32) => f_X0_richest_l4 hk gi gr a0 s.1 s.2) ((-1), 0)).bind fun E4 => f_X0_richest_x4 hk gi gr E4
set_option maxHeartbeats 400000 in
theorem w_X0_richest (l : Launch) (D : va_G) (cA : Nat → ClassId) (ad : Nat → Nat) (hk : HK) (nx : Nat) (gi : GI) (gr : GR) (a0 : Nat) (ht : (hk a0).1 = 10) (r : Int32) (h : f_X0_richest hk gi gr a0 = some r) (sz : Nat) : Met l yX0_richest (ws_ yX0_richest cX0_richest 3 (some .int)) ({ frames := 3, cells := 0, slots := 0, locals := 107 } : Room) (va_Pc [.ref (ad a0)] (XPre D cA ad hk nx gi gr sz)) (va_Qi (fun v u => v = r ∧ u.1 = gi ∧ u.2 = gr) (XPost D cA ad hk nx) (XA ad nx sz)) 0 0 (XA ad nx sz) := by
  refine xx_stI (own := RX0) (P := (fun v u => v = r ∧ u.1 = gi ∧ u.2 = gr)) (by decide +kernel) rfl (Nat.le_of_ble_eq_true rfl) (fun p e s m args below meth c R Q A ls C hF hN B hret hL => ?_) sz
  have hx := C.1
  have hb := C.2.1
  have hL : lv_has ls 3 [(0, .ref (ad a0))] := hL
  unfold f_X0_richest at h
  refine lv_iconst (v := (-1)) hx hb dX0_richest_0 (by decide) ?_
  refine lv_istore_n (lv' := [(1, .int ((-1))), (0, .ref (ad a0))]) hx hb dX0_richest_1 rfl hL (by decide) rfl (fun ls hL => ?_)
  refine lv_iconst (v := 0) hx hb dX0_richest_2 (by decide) ?_
  refine lv_istore_n (lv' := [(2, .int 0), (1, .int ((-1))), (0, .ref (ad a0))]) hx hb dX0_richest_3 rfl hL (by decide) rfl (fun ls hL => ?_)
  obtain ⟨E4, h84, h⟩ := g_ob h
  have kx4 : ∀ (x1e4 : Int32) (H : Heap) (locs : List Loc) (ls : Array Slot), x1e4 = E4 → XB D cA ad hk nx A s gi gr H locs → lv_has ls 3 [(1, .int x1e4)] → W p l e R s m args below meth c H locs 0 0 Q (F0 m 47 ls []) := by
    intro x1e4 H locs ls he B hL
    subst he
    have h : f_X0_richest_x4 hk gi gr x1e4 = some r := h
    unfold f_X0_richest_x4 at h
    refine lv_iload_n hx hb dX0_richest_47 rfl (lv_at hL 0 rfl) ?_
    exact hret _ _ _ _ _ _ _ ⟨Option.some.inj h, rfl, rfl⟩ B dX0_richest_48
  have hl4 : ∀ (k : Nat) (x1l4 : Int32) (x2l4 : Int32) (H : Heap) (locs : List Loc) (ls : Array Slot), g_loop k (fun (s : Int32 × Int32) => f_X0_richest_l4 hk gi gr a0 s.1 s.2) (x1l4, x2l4) = some E4 → XB D cA ad hk nx A s gi gr H locs → lv_has ls 3 [(0, .ref (ad a0)), (1, .int x1l4), (2, .int x2l4)] → W p l e R s m args below meth c H locs 0 0 Q (F0 m 4 ls []) := by
    intro k
    induction k with
    | zero => intro x1l4 x2l4 H locs ls h; exact absurd h (fun z => g_loop_0 z)
    | succ k ih4 =>
      intro x1l4 x2l4 H locs ls h B hL
      obtain ⟨Z4, h, h94⟩ := g_loop_s h
      have h : f_X0_richest_l4 hk gi gr a0 x1l4 x2l4 = some Z4 := h
      unfold f_X0_richest_l4 at h
      refine lv_iload_n hx hb dX0_richest_4 rfl (lv_at hL 2 rfl) ?_
      refine lv_aload_n hx hb dX0_richest_5 rfl (lv_at hL 0 rfl) ?_
      refine k_X0_men ht C B q1230 (Nat.le_trans (Nat.le_of_ble_eq_true rfl) hF) (Nat.le_trans (Nat.le_of_ble_eq_true rfl) hN) hL.1 (Nat.le_of_ble_eq_true rfl) ⟨Nat.zero_le _, Nat.zero_le _⟩ h dX0_richest_6 (fun q1 h H locs B => ?_)
      refine gg_icmp_ge hx hb 47 h dX0_richest_9 (by decide) (fun h => ?_) (fun h => ?_)
      · exact kx4 _ _ _ _ (g_exit h h94) B (lv_sub hL [1] rfl)
      · refine lv_iload_n hx hb dX0_richest_12 rfl (lv_at hL 1 rfl) ?_
        refine gg_if_lt hx hb 35 h dX0_richest_13 (by decide) (fun h => ?_) (fun h => ?_)
        · refine lv_iload_n hx hb dX0_richest_35 rfl (lv_at hL 2 rfl) ?_
          refine lv_goto (tgt := 40) hx hb dX0_richest_36 (by decide) ?_
          refine lv_istore_n (lv' := [(1, .int x2l4), (0, .ref (ad a0)), (2, .int x2l4)]) hx hb dX0_richest_40 rfl hL (by decide) rfl (fun ls hL => ?_)
          refine lv_iinc (v := x2l4 + 1) (lv' := [(2, .int (x2l4 + 1)), (1, .int x2l4), (0, .ref (ad a0))]) hx hb dX0_richest_41 hL (k := 2) rfl rfl (by decide) rfl (fun ls hL => ?_)
          refine lv_goto (tgt := 4) hx hb dX0_richest_44 (by decide) ?_
          exact ih4 _ _ _ _ _ (g_next h h94) B (lv_sub hL [2, 1, 0] rfl)
        · refine lv_aload_n hx hb dX0_richest_16 rfl (lv_at hL 0 rfl) ?_
          refine xx_gr (ci := 0) (k := 5) C B xc_0 ht (by decide) (Nat.le_of_ble_eq_true rfl) rfl q364 (fun _ h => h) h dX0_richest_17 (fun v2 ok3 h => ?_)
          refine lv_iload_n hx hb dX0_richest_20 rfl (lv_at hL 2 rfl) ?_
          refine xx_is h (fun hp4 h => ?_)
          refine k_X3_rich hp4 C B q1325 (Nat.le_trans (Nat.le_of_ble_eq_true rfl) hF) (Nat.le_trans (Nat.le_of_ble_eq_true rfl) hN) hL.1 (Nat.le_of_ble_eq_true rfl) ⟨Nat.zero_le _, Nat.zero_le _⟩ h dX0_richest_21 (fun q5 h H locs B => ?_)
          refine lv_aload_n hx hb dX0_richest_24 rfl (lv_at hL 0 rfl) ?_
          refine xx_gr (ci := 0) (k := 5) C B xc_0 ht (by decide) (Nat.le_of_ble_eq_true rfl) rfl q364 (fun _ h => h) h dX0_richest_25 (fun v6 ok7 h => ?_)
          refine lv_iload_n hx hb dX0_richest_28 rfl (lv_at hL 1 rfl) ?_
          refine xx_is h (fun hp8 h => ?_)
          refine k_X3_rich hp8 C B q1325 (Nat.le_trans (Nat.le_of_ble_eq_true rfl) hF) (Nat.le_trans (Nat.le_of_ble_eq_true rfl) hN) hL.1 (Nat.le_of_ble_eq_true rfl) ⟨Nat.zero_le _, Nat.zero_le _⟩ h dX0_richest_29 (fun q9 h H locs B => ?_)
          refine gg_icmp_le hx hb 39 h dX0_richest_32 (by decide) (fun h => ?_) (fun h => ?_)
          · refine lv_iload_n hx hb dX0_richest_39 rfl (lv_at hL 1 rfl) ?_
            refine lv_istore_n (lv' := [(1, .int x1l4), (0, .ref (ad a0)), (2, .int x2l4)]) hx hb dX0_richest_40 rfl hL (by decide) rfl (fun ls hL => ?_)
            refine lv_iinc (v := x2l4 + 1) (lv' := [(2, .int (x2l4 + 1)), (1, .int x1l4), (0, .ref (ad a0))]) hx hb dX0_richest_41 hL (k := 2) rfl rfl (by decide) rfl (fun ls hL => ?_)
            refine lv_goto (tgt := 4) hx hb dX0_richest_44 (by decide) ?_
            exact ih4 _ _ _ _ _ (g_next h h94) B (lv_sub hL [2, 1, 0] rfl)
          · refine lv_iload_n hx hb dX0_richest_35 rfl (lv_at hL 2 rfl) ?_
            refine lv_goto (tgt := 40) hx hb dX0_richest_36 (by decide) ?_
            refine lv_istore_n (lv' := [(1, .int x2l4), (0, .ref (ad a0)), (2, .int x2l4)]) hx hb dX0_richest_40 rfl hL (by decide) rfl (fun ls hL => ?_)
            refine lv_iinc (v := x2l4 + 1) (lv' := [(2, .int (x2l4 + 1)), (1, .int x2l4), (0, .ref (ad a0))]) hx hb dX0_richest_41 hL (k := 2) rfl rfl (by decide) rfl (fun ls hL => ?_)
            refine lv_goto (tgt := 4) hx hb dX0_richest_44 (by decide) ?_
            exact ih4 _ _ _ _ _ (g_next h h94) B (lv_sub hL [2, 1, 0] rfl)
  exact hl4 g_K _ _ _ _ _ h84 B (lv_sub hL [2, 1, 0] rfl)
theorem k_X0_richest {p : Program} {l : Launch} {e : Env} {R : Room} {s : State} {m : MethodId} {args : Array Value} {below : List Frame} {meth : Method} {c : Code} {H : Heap} {locs : List Loc} {Q : State → Prop} {pc : Nat} {ls : Array Slot} {rest : List Value} {cc : ByteArray} {nL cells slots : Nat} {D : va_G} {cA : Nat → ClassId} {ad : Nat → Nat} {hk : HK} {nx : Nat} {A : Nat → Prop} {gi : GI} {gr : GR} {α : Type} {r : α} {own : String} {idx : Nat} {a0 : Nat} {ff : Int32 → Option α} (ht : (hk a0).1 = 10) (C : CallFix p m c cc nL s args lw_all own) (B : XB D cA ad hk nx A s gi gr H locs) (hq : Cond.methodLink own idx yX0_richest ∈ lw_all) (hF : 4 ≤ R.frames) (hN : 129 ≤ R.locals) (hs : ls.size = nL) (hw : (rest.map fun v => v.category).sum ≤ 8) (hz0 : cells ≤ R.cells ∧ slots ≤ R.slots) (h : (f_X0_richest hk gi gr a0).bind ff = some r) (hdg : decode cc pc = .ok (.invokevirtual idx, 3)) (kk : ∀ q, ff q = some r → ∀ (H' : Heap) (locs' : List Loc), XB D cA ad hk nx A s gi gr H' locs' → W p l e R s m args below meth c H' locs' cells slots Q (F0 m (pc + 3) ls (.int q :: rest))) : W p l e R s m args below meth c H locs cells slots Q (F0 m pc ls (.ref (ad a0) :: rest)) := by
  obtain ⟨q, h1, h2⟩ := g_ob h
  refine xx_cVI (As := []) (rest := rest) (n := 0) xc_0 ht (by decide) C B (fun sz => w_X0_richest l D cA ad hk nx gi gr a0 ht q h1 sz) hq q1550 q1551 q141 q1552 (by decide +kernel) ⟨hF, hN⟩ rfl hs hw hz0 hdg (fun v u H9 locs9 hp B9 => ?_)
  obtain ⟨e1, e2, e3⟩ := hp
  rw [e2] at B9
  rw [e3] at B9
  subst e1
  exact kk _ h2 H9 locs9 B9
def f_X0_gulf_l8 (hk : HK) (gii8 : GI) (gri8 : GR) (a0i8 : Nat) (x1l8 : Int32) (x2l8 : Int32) (x3l8 : Int32) : Option ((Int32 × Int32 × Int32) ⊕ (Int32 × Int32)) :=
  (f_X0_men hk gii8 gri8 a0i8).bind fun q1 =>
  if q1 ≤ x3l8 then
  (some (.inr ((x1l8, x2l8))))
  else
  ((gri8 a0i8 5).bind fun v2 =>
  (g_is hk v2 13).bind fun _ =>
  (f_X3_rich hk gii8 gri8 v2 x3l8).bind fun q5 =>
  (gri8 a0i8 5).bind fun v6 =>
  (g_is hk v6 13).bind fun _ =>
  (f_X3_rich hk gii8 gri8 v6 x3l8).bind fun q9 =>
  some (.inl ((if x1l8 < q5 then q5 else x1l8, if q9 < x2l8 then q9 else x2l8, x3l8 + 1))))
def f_X0_gulf_x8 (hk : HK) (giy8 : GI) (gry8 : GR) (a0y8 : Nat) (x1e8 : Int32) (x2e8 : Int32) : Option (Int32) :=
  (f_X0_men hk giy8 gry8 a0y8).bind fun q10 =>
  if q10 = 0 then
  (some ((-1)))
  else
  (some (x1e8 - x2e8))
def f_X0_gulf (hk : HK) (gi : GI) (gr : GR) (a0 : Nat) : Option (Int32) :=
  (g_loop g_K (fun (s : Int32 × Int32 × Int32) => f_X0_gulf_l8 hk gi gr a0 s.1 s.2.1 s.2.2) ((-1), 297, 0)).bind fun E8 => f_X0_gulf_x8 hk gi gr a0 E8.1 E8.2
set_option maxHeartbeats 400000 in
theorem w_X0_gulf (l : Launch) (D : va_G) (cA : Nat → ClassId) (ad : Nat → Nat) (hk : HK) (nx : Nat) (gi : GI) (gr : GR) (a0 : Nat) (ht : (hk a0).1 = 10) (r : Int32) (h : f_X0_gulf hk gi gr a0 = some r) (sz : Nat) : Met l yX0_gulf (ws_ yX0_gulf cX0_gulf 4 (some .int)) ({ frames := 3, cells := 0, slots := 0, locals := 107 } : Room) (va_Pc [.ref (ad a0)] (XPre D cA ad hk nx gi gr sz)) (va_Qi (fun v u => v = r ∧ u.1 = gi ∧ u.2 = gr) (XPost D cA ad hk nx) (XA ad nx sz)) 0 0 (XA ad nx sz) := by
  refine xx_stI (own := RX0) (P := (fun v u => v = r ∧ u.1 = gi ∧ u.2 = gr)) (by decide +kernel) rfl (Nat.le_of_ble_eq_true rfl) (fun p e s m args below meth c R Q A ls C hF hN B hret hL => ?_) sz
  have hx := C.1
  have hb := C.2.1
  have hL : lv_has ls 4 [(0, .ref (ad a0))] := hL
  unfold f_X0_gulf at h
  refine lv_iconst (v := (-1)) hx hb dX0_gulf_0 (by decide) ?_
  refine lv_istore_n (lv' := [(1, .int ((-1))), (0, .ref (ad a0))]) hx hb dX0_gulf_1 rfl hL (by decide) rfl (fun ls hL => ?_)
  refine lv_sipush (v := 297) hx hb dX0_gulf_2 (by decide) ?_
  refine lv_istore_n (lv' := [(2, .int 297), (1, .int ((-1))), (0, .ref (ad a0))]) hx hb dX0_gulf_5 rfl hL (by decide) rfl (fun ls hL => ?_)
  refine lv_iconst (v := 0) hx hb dX0_gulf_6 (by decide) ?_
  refine lv_istore_n (lv' := [(3, .int 0), (2, .int 297), (1, .int ((-1))), (0, .ref (ad a0))]) hx hb dX0_gulf_7 rfl hL (by decide) rfl (fun ls hL => ?_)
  obtain ⟨E8, h88, h⟩ := g_ob h
  have kx8 : ∀ (x1e8 : Int32) (x2e8 : Int32) (H : Heap) (locs : List Loc) (ls : Array Slot), (x1e8, x2e8) = E8 → XB D cA ad hk nx A s gi gr H locs → lv_has ls 4 [(0, .ref (ad a0)), (1, .int x1e8), (2, .int x2e8)] → W p l e R s m args below meth c H locs 0 0 Q (F0 m 48 ls []) := by
    intro x1e8 x2e8 H locs ls he B hL
    subst he
    have h : f_X0_gulf_x8 hk gi gr a0 x1e8 x2e8 = some r := h
    unfold f_X0_gulf_x8 at h
    refine lv_aload_n hx hb dX0_gulf_48 rfl (lv_at hL 0 rfl) ?_
    refine k_X0_men ht C B q1230 (Nat.le_trans (Nat.le_of_ble_eq_true rfl) hF) (Nat.le_trans (Nat.le_of_ble_eq_true rfl) hN) hL.1 (Nat.le_of_ble_eq_true rfl) ⟨Nat.zero_le _, Nat.zero_le _⟩ h dX0_gulf_49 (fun q10 h H locs B => ?_)
    refine gg_if_ne hx hb 59 h dX0_gulf_52 (by decide) (fun h => ?_) (fun h => ?_)
    · refine lv_iload_n hx hb dX0_gulf_59 rfl (lv_at hL 1 rfl) ?_
      refine lv_iload_n hx hb dX0_gulf_60 rfl (lv_at hL 2 rfl) ?_
      refine lv_isub hx hb dX0_gulf_61 ?_
      exact hret _ _ _ _ _ _ _ ⟨Option.some.inj h, rfl, rfl⟩ B dX0_gulf_62
    · refine lv_iconst (v := (-1)) hx hb dX0_gulf_55 (by decide) ?_
      refine lv_goto (tgt := 62) hx hb dX0_gulf_56 (by decide) ?_
      exact hret _ _ _ _ _ _ _ ⟨Option.some.inj h, rfl, rfl⟩ B dX0_gulf_62
  have hl8 : ∀ (k : Nat) (x1l8 : Int32) (x2l8 : Int32) (x3l8 : Int32) (H : Heap) (locs : List Loc) (ls : Array Slot), g_loop k (fun (s : Int32 × Int32 × Int32) => f_X0_gulf_l8 hk gi gr a0 s.1 s.2.1 s.2.2) (x1l8, x2l8, x3l8) = some E8 → XB D cA ad hk nx A s gi gr H locs → lv_has ls 4 [(0, .ref (ad a0)), (1, .int x1l8), (2, .int x2l8), (3, .int x3l8)] → W p l e R s m args below meth c H locs 0 0 Q (F0 m 8 ls []) := by
    intro k
    induction k with
    | zero => intro x1l8 x2l8 x3l8 H locs ls h; exact absurd h (fun z => g_loop_0 z)
    | succ k ih8 =>
      intro x1l8 x2l8 x3l8 H locs ls h B hL
      obtain ⟨Z8, h, h98⟩ := g_loop_s h
      have h : f_X0_gulf_l8 hk gi gr a0 x1l8 x2l8 x3l8 = some Z8 := h
      unfold f_X0_gulf_l8 at h
      refine lv_iload_n hx hb dX0_gulf_8 rfl (lv_at hL 3 rfl) ?_
      refine lv_aload_n hx hb dX0_gulf_9 rfl (lv_at hL 0 rfl) ?_
      refine k_X0_men ht C B q1230 (Nat.le_trans (Nat.le_of_ble_eq_true rfl) hF) (Nat.le_trans (Nat.le_of_ble_eq_true rfl) hN) hL.1 (Nat.le_of_ble_eq_true rfl) ⟨Nat.zero_le _, Nat.zero_le _⟩ h dX0_gulf_10 (fun q1 h H locs B => ?_)
      refine gg_icmp_ge hx hb 48 h dX0_gulf_13 (by decide) (fun h => ?_) (fun h => ?_)
      · exact kx8 _ _ _ _ _ (g_exit h h98) B (lv_sub hL [0, 1, 2] rfl)
      · refine lv_iload_n hx hb dX0_gulf_16 rfl (lv_at hL 1 rfl) ?_
        refine lv_aload_n hx hb dX0_gulf_17 rfl (lv_at hL 0 rfl) ?_
        refine xx_gr (ci := 0) (k := 5) C B xc_0 ht (by decide) (Nat.le_of_ble_eq_true rfl) rfl q364 (fun _ h => h) h dX0_gulf_18 (fun v2 ok3 h => ?_)
        refine lv_iload_n hx hb dX0_gulf_21 rfl (lv_at hL 3 rfl) ?_
        refine xx_is h (fun hp4 h => ?_)
        refine k_X3_rich hp4 C B q1325 (Nat.le_trans (Nat.le_of_ble_eq_true rfl) hF) (Nat.le_trans (Nat.le_of_ble_eq_true rfl) hN) hL.1 (Nat.le_of_ble_eq_true rfl) ⟨Nat.zero_le _, Nat.zero_le _⟩ h dX0_gulf_22 (fun q5 h H locs B => ?_)
        refine xx_max C q1371 q574 q157 q575 (Nat.le_trans (Nat.le_of_ble_eq_true rfl) hF) (Nat.le_trans (Nat.le_of_ble_eq_true rfl) hN) hL.1 (Nat.le_of_ble_eq_true rfl) ⟨Nat.zero_le _, Nat.zero_le _⟩ dX0_gulf_25 ?_
        refine lv_istore_n (lv' := [(1, .int (if x1l8 < q5 then q5 else x1l8)), (0, .ref (ad a0)), (2, .int x2l8), (3, .int x3l8)]) hx hb dX0_gulf_28 rfl hL (by decide) rfl (fun ls hL => ?_)
        refine lv_iload_n hx hb dX0_gulf_29 rfl (lv_at hL 2 rfl) ?_
        refine lv_aload_n hx hb dX0_gulf_30 rfl (lv_at hL 1 rfl) ?_
        refine xx_gr (ci := 0) (k := 5) C B xc_0 ht (by decide) (Nat.le_of_ble_eq_true rfl) rfl q364 (fun _ h => h) h dX0_gulf_31 (fun v6 ok7 h => ?_)
        refine lv_iload_n hx hb dX0_gulf_34 rfl (lv_at hL 3 rfl) ?_
        refine xx_is h (fun hp8 h => ?_)
        refine k_X3_rich hp8 C B q1325 (Nat.le_trans (Nat.le_of_ble_eq_true rfl) hF) (Nat.le_trans (Nat.le_of_ble_eq_true rfl) hN) hL.1 (Nat.le_of_ble_eq_true rfl) ⟨Nat.zero_le _, Nat.zero_le _⟩ h dX0_gulf_35 (fun q9 h H locs B => ?_)
        refine xx_min C q1508 q592 q157 q593 (Nat.le_trans (Nat.le_of_ble_eq_true rfl) hF) (Nat.le_trans (Nat.le_of_ble_eq_true rfl) hN) hL.1 (Nat.le_of_ble_eq_true rfl) ⟨Nat.zero_le _, Nat.zero_le _⟩ dX0_gulf_38 ?_
        refine lv_istore_n (lv' := [(2, .int (if q9 < x2l8 then q9 else x2l8)), (1, .int (if x1l8 < q5 then q5 else x1l8)), (0, .ref (ad a0)), (3, .int x3l8)]) hx hb dX0_gulf_41 rfl hL (by decide) rfl (fun ls hL => ?_)
        refine lv_iinc (v := x3l8 + 1) (lv' := [(3, .int (x3l8 + 1)), (2, .int (if q9 < x2l8 then q9 else x2l8)), (1, .int (if x1l8 < q5 then q5 else x1l8)), (0, .ref (ad a0))]) hx hb dX0_gulf_42 hL (k := 3) rfl rfl (by decide) rfl (fun ls hL => ?_)
        refine lv_goto (tgt := 8) hx hb dX0_gulf_45 (by decide) ?_
        exact ih8 _ _ _ _ _ _ (g_next h h98) B (lv_sub hL [3, 2, 1, 0] rfl)
  exact hl8 g_K _ _ _ _ _ _ h88 B (lv_sub hL [3, 2, 1, 0] rfl)
theorem k_X0_gulf {p : Program} {l : Launch} {e : Env} {R : Room} {s : State} {m : MethodId} {args : Array Value} {below : List Frame} {meth : Method} {c : Code} {H : Heap} {locs : List Loc} {Q : State → Prop} {pc : Nat} {ls : Array Slot} {rest : List Value} {cc : ByteArray} {nL cells slots : Nat} {D : va_G} {cA : Nat → ClassId} {ad : Nat → Nat} {hk : HK} {nx : Nat} {A : Nat → Prop} {gi : GI} {gr : GR} {α : Type} {r : α} {own : String} {idx : Nat} {a0 : Nat} {ff : Int32 → Option α} (ht : (hk a0).1 = 10) (C : CallFix p m c cc nL s args lw_all own) (B : XB D cA ad hk nx A s gi gr H locs) (hq : Cond.methodLink own idx yX0_gulf ∈ lw_all) (hF : 4 ≤ R.frames) (hN : 130 ≤ R.locals) (hs : ls.size = nL) (hw : (rest.map fun v => v.category).sum ≤ 8) (hz0 : cells ≤ R.cells ∧ slots ≤ R.slots) (h : (f_X0_gulf hk gi gr a0).bind ff = some r) (hdg : decode cc pc = .ok (.invokevirtual idx, 3)) (kk : ∀ q, ff q = some r → ∀ (H' : Heap) (locs' : List Loc), XB D cA ad hk nx A s gi gr H' locs' → W p l e R s m args below meth c H' locs' cells slots Q (F0 m (pc + 3) ls (.int q :: rest))) : W p l e R s m args below meth c H locs cells slots Q (F0 m pc ls (.ref (ad a0) :: rest)) := by
  obtain ⟨q, h1, h2⟩ := g_ob h
  refine xx_cVI (As := []) (rest := rest) (n := 0) xc_0 ht (by decide) C B (fun sz => w_X0_gulf l D cA ad hk nx gi gr a0 ht q h1 sz) hq q1554 q1555 q141 q1556 (by decide +kernel) ⟨hF, hN⟩ rfl hs hw hz0 hdg (fun v u H9 locs9 hp B9 => ?_)
  obtain ⟨e1, e2, e3⟩ := hp
  rw [e2] at B9
  rw [e3] at B9
  subst e1
  exact kk _ h2 H9 locs9 B9
def f_X0_most_l14 (hk : HK) (gii14 : GI) (gri14 : GR) (a0i14 : Nat) (x1i14 : Int32) (x2l14 : Int32) (x3l14 : Int32) : Option ((Int32 × Int32) ⊕ (Int32)) :=
  (f_X0_kinds hk gii14 gri14 a0i14).bind fun q2 =>
  if q2 ≤ x3l14 then
  (some (.inr x2l14))
  else
  (if x2l14 < 0 then
  (some (.inl ((x3l14, x3l14 + 1))))
  else
  ((gri14 a0i14 5).bind fun v3 =>
  (g_is hk v3 13).bind fun _ =>
  (f_X3_purse hk gii14 gri14 v3 x1i14 x3l14).bind fun q6 =>
  (gri14 a0i14 5).bind fun v7 =>
  (g_is hk v7 13).bind fun _ =>
  (f_X3_purse hk gii14 gri14 v7 x1i14 x2l14).bind fun q10 =>
  if q6 ≤ q10 then
  (some (.inl ((x2l14, x3l14 + 1))))
  else
  (some (.inl ((x3l14, x3l14 + 1))))))
def f_X0_most_x14 (hk : HK) (giy14 : GI) (gry14 : GR) (x2e14 : Int32) : Option (Int32) :=
  some x2e14
def f_X0_most (hk : HK) (gi : GI) (gr : GR) (a0 : Nat) (x1 : Int32) : Option (Int32) :=
  (f_X0_isMan hk gi gr a0 x1).bind fun q1 =>
  if q1 = 0 then
  (some ((-1)))
  else
  ((g_loop g_K (fun (s : Int32 × Int32) => f_X0_most_l14 hk gi gr a0 x1 s.1 s.2) ((-1), 0)).bind fun E14 => f_X0_most_x14 hk gi gr E14)
set_option maxHeartbeats 400000 in
theorem w_X0_most (l : Launch) (D : va_G) (cA : Nat → ClassId) (ad : Nat → Nat) (hk : HK) (nx : Nat) (gi : GI) (gr : GR) (a0 : Nat) (x1 : Int32) (ht : (hk a0).1 = 10) (r : Int32) (h : f_X0_most hk gi gr a0 x1 = some r) (sz : Nat) : Met l yX0_most (ws_ yX0_most cX0_most 4 (some .int)) ({ frames := 4, cells := 0, slots := 0, locals := 125 } : Room) (va_Pc [.ref (ad a0), .int x1] (XPre D cA ad hk nx gi gr sz)) (va_Qi (fun v u => v = r ∧ u.1 = gi ∧ u.2 = gr) (XPost D cA ad hk nx) (XA ad nx sz)) 0 0 (XA ad nx sz) := by
  refine xx_stI (own := RX0) (P := (fun v u => v = r ∧ u.1 = gi ∧ u.2 = gr)) (by decide +kernel) rfl (Nat.le_of_ble_eq_true rfl) (fun p e s m args below meth c R Q A ls C hF hN B hret hL => ?_) sz
  have hx := C.1
  have hb := C.2.1
  have hL : lv_has ls 4 [(0, .ref (ad a0)), (1, .int x1)] := hL
  unfold f_X0_most at h
  refine lv_aload_n hx hb dX0_most_0 rfl (lv_at hL 0 rfl) ?_
  refine lv_iload_n hx hb dX0_most_1 rfl (lv_at hL 1 rfl) ?_
  refine k_X0_isMan ht C B q1243 (Nat.le_trans (Nat.le_of_ble_eq_true rfl) hF) (Nat.le_trans (Nat.le_of_ble_eq_true rfl) hN) hL.1 (Nat.le_of_ble_eq_true rfl) ⟨Nat.zero_le _, Nat.zero_le _⟩ h dX0_most_2 (fun q1 h H locs B => ?_)
  refine gg_if_ne hx hb 10 h dX0_most_5 (by decide) (fun h => ?_) (fun h => ?_)
  · refine lv_iconst (v := (-1)) hx hb dX0_most_10 (by decide) ?_
    refine lv_istore_n (lv' := [(2, .int ((-1))), (0, .ref (ad a0)), (1, .int x1)]) hx hb dX0_most_11 rfl hL (by decide) rfl (fun ls hL => ?_)
    refine lv_iconst (v := 0) hx hb dX0_most_12 (by decide) ?_
    refine lv_istore_n (lv' := [(3, .int 0), (2, .int ((-1))), (0, .ref (ad a0)), (1, .int x1)]) hx hb dX0_most_13 rfl hL (by decide) rfl (fun ls hL => ?_)
    obtain ⟨E14, h814, h⟩ := g_ob h
    have kx14 : ∀ (x2e14 : Int32) (H : Heap) (locs : List Loc) (ls : Array Slot), x2e14 = E14 → XB D cA ad hk nx A s gi gr H locs → lv_has ls 4 [(2, .int x2e14)] → W p l e R s m args below meth c H locs 0 0 Q (F0 m 59 ls []) := by
      intro x2e14 H locs ls he B hL
      subst he
      have h : f_X0_most_x14 hk gi gr x2e14 = some r := h
      unfold f_X0_most_x14 at h
      refine lv_iload_n hx hb dX0_most_59 rfl (lv_at hL 0 rfl) ?_
      exact hret _ _ _ _ _ _ _ ⟨Option.some.inj h, rfl, rfl⟩ B dX0_most_60
    have hl14 : ∀ (k : Nat) (x2l14 : Int32) (x3l14 : Int32) (H : Heap) (locs : List Loc) (ls : Array Slot), g_loop k (fun (s : Int32 × Int32) => f_X0_most_l14 hk gi gr a0 x1 s.1 s.2) (x2l14, x3l14) = some E14 → XB D cA ad hk nx A s gi gr H locs → lv_has ls 4 [(0, .ref (ad a0)), (1, .int x1), (2, .int x2l14), (3, .int x3l14)] → W p l e R s m args below meth c H locs 0 0 Q (F0 m 14 ls []) := by
      intro k
      induction k with
      | zero => intro x2l14 x3l14 H locs ls h; exact absurd h (fun z => g_loop_0 z)
      | succ k ih14 =>
        intro x2l14 x3l14 H locs ls h B hL
        obtain ⟨Z14, h, h914⟩ := g_loop_s h
        have h : f_X0_most_l14 hk gi gr a0 x1 x2l14 x3l14 = some Z14 := h
        unfold f_X0_most_l14 at h
        refine lv_iload_n hx hb dX0_most_14 rfl (lv_at hL 3 rfl) ?_
        refine lv_aload_n hx hb dX0_most_15 rfl (lv_at hL 0 rfl) ?_
        refine k_X0_kinds ht C B q1345 (Nat.le_trans (Nat.le_of_ble_eq_true rfl) hF) (Nat.le_trans (Nat.le_of_ble_eq_true rfl) hN) hL.1 (Nat.le_of_ble_eq_true rfl) ⟨Nat.zero_le _, Nat.zero_le _⟩ h dX0_most_16 (fun q2 h H locs B => ?_)
        refine gg_icmp_ge hx hb 59 h dX0_most_19 (by decide) (fun h => ?_) (fun h => ?_)
        · exact kx14 _ _ _ _ (g_exit h h914) B (lv_sub hL [2] rfl)
        · refine lv_iload_n hx hb dX0_most_22 rfl (lv_at hL 2 rfl) ?_
          refine gg_if_lt hx hb 47 h dX0_most_23 (by decide) (fun h => ?_) (fun h => ?_)
          · refine lv_iload_n hx hb dX0_most_47 rfl (lv_at hL 3 rfl) ?_
            refine lv_goto (tgt := 52) hx hb dX0_most_48 (by decide) ?_
            refine lv_istore_n (lv' := [(2, .int x3l14), (0, .ref (ad a0)), (1, .int x1), (3, .int x3l14)]) hx hb dX0_most_52 rfl hL (by decide) rfl (fun ls hL => ?_)
            refine lv_iinc (v := x3l14 + 1) (lv' := [(3, .int (x3l14 + 1)), (2, .int x3l14), (0, .ref (ad a0)), (1, .int x1)]) hx hb dX0_most_53 hL (k := 3) rfl rfl (by decide) rfl (fun ls hL => ?_)
            refine lv_goto (tgt := 14) hx hb dX0_most_56 (by decide) ?_
            exact ih14 _ _ _ _ _ (g_next h h914) B (lv_sub hL [2, 3, 1, 0] rfl)
          · refine lv_aload_n hx hb dX0_most_26 rfl (lv_at hL 0 rfl) ?_
            refine xx_gr (ci := 0) (k := 5) C B xc_0 ht (by decide) (Nat.le_of_ble_eq_true rfl) rfl q364 (fun _ h => h) h dX0_most_27 (fun v3 ok4 h => ?_)
            refine lv_iload_n hx hb dX0_most_30 rfl (lv_at hL 1 rfl) ?_
            refine lv_iload_n hx hb dX0_most_31 rfl (lv_at hL 3 rfl) ?_
            refine xx_is h (fun hp5 h => ?_)
            refine k_X3_purse hp5 C B q1349 (Nat.le_trans (Nat.le_of_ble_eq_true rfl) hF) (Nat.le_trans (Nat.le_of_ble_eq_true rfl) hN) hL.1 (Nat.le_of_ble_eq_true rfl) ⟨Nat.zero_le _, Nat.zero_le _⟩ h dX0_most_32 (fun q6 h H locs B => ?_)
            refine lv_aload_n hx hb dX0_most_35 rfl (lv_at hL 0 rfl) ?_
            refine xx_gr (ci := 0) (k := 5) C B xc_0 ht (by decide) (Nat.le_of_ble_eq_true rfl) rfl q364 (fun _ h => h) h dX0_most_36 (fun v7 ok8 h => ?_)
            refine lv_iload_n hx hb dX0_most_39 rfl (lv_at hL 1 rfl) ?_
            refine lv_iload_n hx hb dX0_most_40 rfl (lv_at hL 2 rfl) ?_
            refine xx_is h (fun hp9 h => ?_)
            refine k_X3_purse hp9 C B q1349 (Nat.le_trans (Nat.le_of_ble_eq_true rfl) hF) (Nat.le_trans (Nat.le_of_ble_eq_true rfl) hN) hL.1 (Nat.le_of_ble_eq_true rfl) ⟨Nat.zero_le _, Nat.zero_le _⟩ h dX0_most_41 (fun q10 h H locs B => ?_)
            refine gg_icmp_le hx hb 51 h dX0_most_44 (by decide) (fun h => ?_) (fun h => ?_)
            · refine lv_iload_n hx hb dX0_most_51 rfl (lv_at hL 2 rfl) ?_
              refine lv_istore_n (lv' := [(2, .int x2l14), (0, .ref (ad a0)), (1, .int x1), (3, .int x3l14)]) hx hb dX0_most_52 rfl hL (by decide) rfl (fun ls hL => ?_)
              refine lv_iinc (v := x3l14 + 1) (lv' := [(3, .int (x3l14 + 1)), (2, .int x2l14), (0, .ref (ad a0)), (1, .int x1)]) hx hb dX0_most_53 hL (k := 3) rfl rfl (by decide) rfl (fun ls hL => ?_)
              refine lv_goto (tgt := 14) hx hb dX0_most_56 (by decide) ?_
              exact ih14 _ _ _ _ _ (g_next h h914) B (lv_sub hL [2, 3, 1, 0] rfl)
            · refine lv_iload_n hx hb dX0_most_47 rfl (lv_at hL 3 rfl) ?_
              refine lv_goto (tgt := 52) hx hb dX0_most_48 (by decide) ?_
              refine lv_istore_n (lv' := [(2, .int x3l14), (0, .ref (ad a0)), (1, .int x1), (3, .int x3l14)]) hx hb dX0_most_52 rfl hL (by decide) rfl (fun ls hL => ?_)
              refine lv_iinc (v := x3l14 + 1) (lv' := [(3, .int (x3l14 + 1)), (2, .int x3l14), (0, .ref (ad a0)), (1, .int x1)]) hx hb dX0_most_53 hL (k := 3) rfl rfl (by decide) rfl (fun ls hL => ?_)
              refine lv_goto (tgt := 14) hx hb dX0_most_56 (by decide) ?_
              exact ih14 _ _ _ _ _ (g_next h h914) B (lv_sub hL [2, 3, 1, 0] rfl)
    exact hl14 g_K _ _ _ _ _ h814 B (lv_sub hL [2, 3, 1, 0] rfl)
  · refine lv_iconst (v := (-1)) hx hb dX0_most_8 (by decide) ?_
    exact hret _ _ _ _ _ _ _ ⟨Option.some.inj h, rfl, rfl⟩ B dX0_most_9
theorem k_X0_most {p : Program} {l : Launch} {e : Env} {R : Room} {s : State} {m : MethodId} {args : Array Value} {below : List Frame} {meth : Method} {c : Code} {H : Heap} {locs : List Loc} {Q : State → Prop} {pc : Nat} {ls : Array Slot} {rest : List Value} {cc : ByteArray} {nL cells slots : Nat} {D : va_G} {cA : Nat → ClassId} {ad : Nat → Nat} {hk : HK} {nx : Nat} {A : Nat → Prop} {gi : GI} {gr : GR} {α : Type} {r : α} {own : String} {idx : Nat} {a0 : Nat} {x1 : Int32} {ff : Int32 → Option α} (ht : (hk a0).1 = 10) (C : CallFix p m c cc nL s args lw_all own) (B : XB D cA ad hk nx A s gi gr H locs) (hq : Cond.methodLink own idx yX0_most ∈ lw_all) (hF : 5 ≤ R.frames) (hN : 148 ≤ R.locals) (hs : ls.size = nL) (hw : (rest.map fun v => v.category).sum ≤ 8) (hz0 : cells ≤ R.cells ∧ slots ≤ R.slots) (h : (f_X0_most hk gi gr a0 x1).bind ff = some r) (hdg : decode cc pc = .ok (.invokevirtual idx, 3)) (kk : ∀ q, ff q = some r → ∀ (H' : Heap) (locs' : List Loc), XB D cA ad hk nx A s gi gr H' locs' → W p l e R s m args below meth c H' locs' cells slots Q (F0 m (pc + 3) ls (.int q :: rest))) : W p l e R s m args below meth c H locs cells slots Q (F0 m pc ls (.int x1 :: .ref (ad a0) :: rest)) := by
  obtain ⟨q, h1, h2⟩ := g_ob h
  refine xx_cVI (As := [.int x1]) (rest := rest) (n := 1) xc_0 ht (by decide) C B (fun sz => w_X0_most l D cA ad hk nx gi gr a0 x1 ht q h1 sz) hq q1558 q1559 q141 q1560 (by decide +kernel) ⟨hF, hN⟩ rfl hs hw hz0 hdg (fun v u H9 locs9 hp B9 => ?_)
  obtain ⟨e1, e2, e3⟩ := hp
  rw [e2] at B9
  rw [e3] at B9
  subst e1
  exact kk _ h2 H9 locs9 B9
def f_X0_common_l4 (hk : HK) (gii4 : GI) (gri4 : GR) (x2l4 : Int32) (x3l4 : Int32) : Option ((Int32 × Int32) ⊕ (Int32)) :=
  if x3l4 = 0 then
  (some (.inr x2l4))
  else
  ((g_nz x3l4).bind fun _ =>
  some (.inl ((x3l4, x2l4 - x2l4 / x3l4 * x3l4))))
def f_X0_common_x4 (hk : HK) (giy4 : GI) (gry4 : GR) (x2e4 : Int32) : Option (Int32) :=
  some x2e4
def f_X0_common (hk : HK) (gi : GI) (gr : GR) (x0 : Int32) (x1 : Int32) : Option (Int32) :=
  (g_loop g_K (fun (s : Int32 × Int32) => f_X0_common_l4 hk gi gr s.1 s.2) (x0, x1)).bind fun E4 => f_X0_common_x4 hk gi gr E4
set_option maxHeartbeats 400000 in
theorem w_X0_common (l : Launch) (D : va_G) (cA : Nat → ClassId) (ad : Nat → Nat) (hk : HK) (nx : Nat) (gi : GI) (gr : GR) (x0 : Int32) (x1 : Int32) (r : Int32) (h : f_X0_common hk gi gr x0 x1 = some r) (sz : Nat) : Met l yX0_common (ws_ yX0_common cX0_common 5 (some .int)) ({ frames := 1, cells := 0, slots := 0, locals := 64 } : Room) (va_Pc [.int x0, .int x1] (XPre D cA ad hk nx gi gr sz)) (va_Qi (fun v u => v = r ∧ u.1 = gi ∧ u.2 = gr) (XPost D cA ad hk nx) (XA ad nx sz)) 0 0 (XA ad nx sz) := by
  refine xx_stI (own := RX0) (P := (fun v u => v = r ∧ u.1 = gi ∧ u.2 = gr)) (by decide +kernel) rfl (Nat.le_of_ble_eq_true rfl) (fun p e s m args below meth c R Q A ls C hF hN B hret hL => ?_) sz
  have hx := C.1
  have hb := C.2.1
  have hL : lv_has ls 5 [(0, .int x0), (1, .int x1)] := hL
  unfold f_X0_common at h
  refine lv_iload_n hx hb dX0_common_0 rfl (lv_at hL 0 rfl) ?_
  refine lv_istore_n (lv' := [(2, .int x0), (0, .int x0), (1, .int x1)]) hx hb dX0_common_1 rfl hL (by decide) rfl (fun ls hL => ?_)
  refine lv_iload_n hx hb dX0_common_2 rfl (lv_at hL 2 rfl) ?_
  refine lv_istore_n (lv' := [(3, .int x1), (2, .int x0), (0, .int x0), (1, .int x1)]) hx hb dX0_common_3 rfl hL (by decide) rfl (fun ls hL => ?_)
  obtain ⟨E4, h84, h⟩ := g_ob h
  have kx4 : ∀ (x2e4 : Int32) (H : Heap) (locs : List Loc) (ls : Array Slot), x2e4 = E4 → XB D cA ad hk nx A s gi gr H locs → lv_has ls 5 [(2, .int x2e4)] → W p l e R s m args below meth c H locs 0 0 Q (F0 m 21 ls []) := by
    intro x2e4 H locs ls he B hL
    subst he
    have h : f_X0_common_x4 hk gi gr x2e4 = some r := h
    unfold f_X0_common_x4 at h
    refine lv_iload_n hx hb dX0_common_21 rfl (lv_at hL 0 rfl) ?_
    exact hret _ _ _ _ _ _ _ ⟨Option.some.inj h, rfl, rfl⟩ B dX0_common_22
  have hl4 : ∀ (k : Nat) (x2l4 : Int32) (x3l4 : Int32) (H : Heap) (locs : List Loc) (ls : Array Slot), g_loop k (fun (s : Int32 × Int32) => f_X0_common_l4 hk gi gr s.1 s.2) (x2l4, x3l4) = some E4 → XB D cA ad hk nx A s gi gr H locs → lv_has ls 5 [(2, .int x2l4), (3, .int x3l4)] → W p l e R s m args below meth c H locs 0 0 Q (F0 m 4 ls []) := by
    intro k
    induction k with
    | zero => intro x2l4 x3l4 H locs ls h; exact absurd h (fun z => g_loop_0 z)
    | succ k ih4 =>
      intro x2l4 x3l4 H locs ls h B hL
      obtain ⟨Z4, h, h94⟩ := g_loop_s h
      have h : f_X0_common_l4 hk gi gr x2l4 x3l4 = some Z4 := h
      unfold f_X0_common_l4 at h
      refine lv_iload_n hx hb dX0_common_4 rfl (lv_at hL 1 rfl) ?_
      refine gg_if_eq hx hb 21 h dX0_common_5 (by decide) (fun h => ?_) (fun h => ?_)
      · exact kx4 _ _ _ _ (g_exit h h94) B (lv_sub hL [0] rfl)
      · refine lv_iload_n hx hb dX0_common_8 rfl (lv_at hL 0 rfl) ?_
        refine lv_iload_n hx hb dX0_common_9 rfl (lv_at hL 1 rfl) ?_
        refine mm_nz h (fun hnz h => ?_)
        refine lv_irem hx hb dX0_common_10 hnz ?_
        refine lv_istore (lv' := [(4, .int (x2l4 - x2l4 / x3l4 * x3l4)), (2, .int x2l4), (3, .int x3l4)]) hx hb dX0_common_11 hL (by decide) rfl (fun ls hL => ?_)
        refine lv_iload_n hx hb dX0_common_13 rfl (lv_at hL 2 rfl) ?_
        refine lv_istore_n (lv' := [(2, .int x3l4), (4, .int (x2l4 - x2l4 / x3l4 * x3l4)), (3, .int x3l4)]) hx hb dX0_common_14 rfl hL (by decide) rfl (fun ls hL => ?_)
        refine lv_iload hx hb dX0_common_15 (lv_at hL 1 rfl) ?_
        refine lv_istore_n (lv' := [(3, .int (x2l4 - x2l4 / x3l4 * x3l4)), (2, .int x3l4), (4, .int (x2l4 - x2l4 / x3l4 * x3l4))]) hx hb dX0_common_17 rfl hL (by decide) rfl (fun ls hL => ?_)
        refine lv_goto (tgt := 4) hx hb dX0_common_18 (by decide) ?_
        exact ih4 _ _ _ _ _ (g_next h h94) B (lv_sub hL [1, 0] rfl)
  exact hl4 g_K _ _ _ _ _ h84 B (lv_sub hL [1, 0] rfl)
theorem k_X0_common {p : Program} {l : Launch} {e : Env} {R : Room} {s : State} {m : MethodId} {args : Array Value} {below : List Frame} {meth : Method} {c : Code} {H : Heap} {locs : List Loc} {Q : State → Prop} {pc : Nat} {ls : Array Slot} {rest : List Value} {cc : ByteArray} {nL cells slots : Nat} {D : va_G} {cA : Nat → ClassId} {ad : Nat → Nat} {hk : HK} {nx : Nat} {A : Nat → Prop} {gi : GI} {gr : GR} {α : Type} {r : α} {own : String} {idx : Nat} {x0 : Int32} {x1 : Int32} {ff : Int32 → Option α} (C : CallFix p m c cc nL s args lw_all own) (B : XB D cA ad hk nx A s gi gr H locs) (hq : Cond.methodLink own idx yX0_common ∈ lw_all) (hF : 2 ≤ R.frames) (hN : 88 ≤ R.locals) (hs : ls.size = nL) (hw : (rest.map fun v => v.category).sum ≤ 8) (hz0 : cells ≤ R.cells ∧ slots ≤ R.slots) (h : (f_X0_common hk gi gr x0 x1).bind ff = some r) (hdg : decode cc pc = .ok (.invokestatic idx, 3)) (kk : ∀ q, ff q = some r → ∀ (H' : Heap) (locs' : List Loc), XB D cA ad hk nx A s gi gr H' locs' → W p l e R s m args below meth c H' locs' cells slots Q (F0 m (pc + 3) ls (.int q :: rest))) : W p l e R s m args below meth c H locs cells slots Q (F0 m pc ls (.int x1 :: .int x0 :: rest)) := by
  obtain ⟨q, h1, h2⟩ := g_ob h
  refine xx_cSI (As := [.int x0, .int x1]) (rest := rest) (n := 2) C B (fun sz => w_X0_common l D cA ad hk nx gi gr x0 x1 q h1 sz) hq q1570 q141 q1571 (by decide +kernel) ⟨hF, hN⟩ rfl hs hw hz0 hdg (fun v u H9 locs9 hp B9 => ?_)
  obtain ⟨e1, e2, e3⟩ := hp
  rw [e2] at B9
  rw [e3] at B9
  subst e1
  exact kk _ h2 H9 locs9 B9
def f_X0_lies (hk : HK) (gi : GI) (gr : GR) (a0 : Nat) (x1 : Int32) : Option (Int32) :=
  (f_X0_isIn hk gi gr x1 0 ((gi a0 18) - 1)).bind fun q1 =>
  if q1 = 0 then
  (some ((-1)))
  else
  ((gr a0 15).bind fun v2 =>
  (g_is hk v2 0).bind fun _ =>
  (g_ld gi v2 (hk v2).2 x1).bind fun v5 =>
  some v5)
set_option maxHeartbeats 400000 in
theorem w_X0_lies (l : Launch) (D : va_G) (cA : Nat → ClassId) (ad : Nat → Nat) (hk : HK) (nx : Nat) (gi : GI) (gr : GR) (a0 : Nat) (x1 : Int32) (ht : (hk a0).1 = 10) (r : Int32) (h : f_X0_lies hk gi gr a0 x1 = some r) (sz : Nat) : Met l yX0_lies (ws_ yX0_lies cX0_lies 2 (some .int)) ({ frames := 2, cells := 0, slots := 0, locals := 86 } : Room) (va_Pc [.ref (ad a0), .int x1] (XPre D cA ad hk nx gi gr sz)) (va_Qi (fun v u => v = r ∧ u.1 = gi ∧ u.2 = gr) (XPost D cA ad hk nx) (XA ad nx sz)) 0 0 (XA ad nx sz) := by
  refine xx_stI (own := RX0) (P := (fun v u => v = r ∧ u.1 = gi ∧ u.2 = gr)) (by decide +kernel) rfl (Nat.le_of_ble_eq_true rfl) (fun p e s m args below meth c R Q A ls C hF hN B hret hL => ?_) sz
  have hx := C.1
  have hb := C.2.1
  have hL : lv_has ls 2 [(0, .ref (ad a0)), (1, .int x1)] := hL
  unfold f_X0_lies at h
  refine lv_iload_n hx hb dX0_lies_0 rfl (lv_at hL 1 rfl) ?_
  refine lv_iconst (v := 0) hx hb dX0_lies_1 (by decide) ?_
  refine lv_aload_n hx hb dX0_lies_2 rfl (lv_at hL 0 rfl) ?_
  refine xx_gi (ci := 0) (k := 18) C B xc_0 ht (by decide) (Nat.le_of_ble_eq_true rfl) rfl q378 (fun _ h => h) dX0_lies_3 ?_
  refine lv_iconst (v := 1) hx hb dX0_lies_6 (by decide) ?_
  refine lv_isub hx hb dX0_lies_7 ?_
  refine k_X0_isIn C B q1247 (Nat.le_trans (Nat.le_of_ble_eq_true rfl) hF) (Nat.le_trans (Nat.le_of_ble_eq_true rfl) hN) hL.1 (Nat.le_of_ble_eq_true rfl) ⟨Nat.zero_le _, Nat.zero_le _⟩ h dX0_lies_8 (fun q1 h H locs B => ?_)
  refine gg_if_eq hx hb 23 h dX0_lies_11 (by decide) (fun h => ?_) (fun h => ?_)
  · refine lv_iconst (v := (-1)) hx hb dX0_lies_23 (by decide) ?_
    exact hret _ _ _ _ _ _ _ ⟨Option.some.inj h, rfl, rfl⟩ B dX0_lies_24
  · refine lv_aload_n hx hb dX0_lies_14 rfl (lv_at hL 0 rfl) ?_
    refine xx_gr (ci := 0) (k := 15) C B xc_0 ht (by decide) (Nat.le_of_ble_eq_true rfl) rfl q375 (fun _ h => h) h dX0_lies_15 (fun v2 ok3 h => ?_)
    refine lv_iload_n hx hb dX0_lies_18 rfl (lv_at hL 1 rfl) ?_
    refine xx_is h (fun hp4 h => ?_)
    refine xx_iald C B hp4 h dX0_lies_19 (fun v5 h => ?_)
    refine lv_goto (tgt := 24) hx hb dX0_lies_20 (by decide) ?_
    exact hret _ _ _ _ _ _ _ ⟨Option.some.inj h, rfl, rfl⟩ B dX0_lies_24
theorem k_X0_lies {p : Program} {l : Launch} {e : Env} {R : Room} {s : State} {m : MethodId} {args : Array Value} {below : List Frame} {meth : Method} {c : Code} {H : Heap} {locs : List Loc} {Q : State → Prop} {pc : Nat} {ls : Array Slot} {rest : List Value} {cc : ByteArray} {nL cells slots : Nat} {D : va_G} {cA : Nat → ClassId} {ad : Nat → Nat} {hk : HK} {nx : Nat} {A : Nat → Prop} {gi : GI} {gr : GR} {α : Type} {r : α} {own : String} {idx : Nat} {a0 : Nat} {x1 : Int32} {ff : Int32 → Option α} (ht : (hk a0).1 = 10) (C : CallFix p m c cc nL s args lw_all own) (B : XB D cA ad hk nx A s gi gr H locs) (hq : Cond.methodLink own idx yX0_lies ∈ lw_all) (hF : 3 ≤ R.frames) (hN : 107 ≤ R.locals) (hs : ls.size = nL) (hw : (rest.map fun v => v.category).sum ≤ 8) (hz0 : cells ≤ R.cells ∧ slots ≤ R.slots) (h : (f_X0_lies hk gi gr a0 x1).bind ff = some r) (hdg : decode cc pc = .ok (.invokevirtual idx, 3)) (kk : ∀ q, ff q = some r → ∀ (H' : Heap) (locs' : List Loc), XB D cA ad hk nx A s gi gr H' locs' → W p l e R s m args below meth c H' locs' cells slots Q (F0 m (pc + 3) ls (.int q :: rest))) : W p l e R s m args below meth c H locs cells slots Q (F0 m pc ls (.int x1 :: .ref (ad a0) :: rest)) := by
  obtain ⟨q, h1, h2⟩ := g_ob h
  refine xx_cVI (As := [.int x1]) (rest := rest) (n := 1) xc_0 ht (by decide) C B (fun sz => w_X0_lies l D cA ad hk nx gi gr a0 x1 ht q h1 sz) hq q1573 q1574 q141 q1575 (by decide +kernel) ⟨hF, hN⟩ rfl hs hw hz0 hdg (fun v u H9 locs9 hp B9 => ?_)
  obtain ⟨e1, e2, e3⟩ := hp
  rw [e2] at B9
  rw [e3] at B9
  subst e1
  exact kk _ h2 H9 locs9 B9
def f_X0_firstMen (hk : HK) (gi : GI) (gr : GR) (a0 : Nat) : Option (Int32) :=
  (f_X0_men hk gi gr a0).bind fun q1 =>
  (gr a0 4).bind fun v2 =>
  (g_is hk v2 11).bind fun _ =>
  some (if (gi v2 6) < q1 then (gi v2 6) else q1)
set_option maxHeartbeats 400000 in
theorem w_X0_firstMen (l : Launch) (D : va_G) (cA : Nat → ClassId) (ad : Nat → Nat) (hk : HK) (nx : Nat) (gi : GI) (gr : GR) (a0 : Nat) (ht : (hk a0).1 = 10) (r : Int32) (h : f_X0_firstMen hk gi gr a0 = some r) (sz : Nat) : Met l yX0_firstMen (ws_ yX0_firstMen cX0_firstMen 1 (some .int)) ({ frames := 3, cells := 0, slots := 0, locals := 104 } : Room) (va_Pc [.ref (ad a0)] (XPre D cA ad hk nx gi gr sz)) (va_Qi (fun v u => v = r ∧ u.1 = gi ∧ u.2 = gr) (XPost D cA ad hk nx) (XA ad nx sz)) 0 0 (XA ad nx sz) := by
  refine xx_stI (own := RX0) (P := (fun v u => v = r ∧ u.1 = gi ∧ u.2 = gr)) (by decide +kernel) rfl (Nat.le_of_ble_eq_true rfl) (fun p e s m args below meth c R Q A ls C hF hN B hret hL => ?_) sz
  have hx := C.1
  have hb := C.2.1
  have hL : lv_has ls 1 [(0, .ref (ad a0))] := hL
  unfold f_X0_firstMen at h
  refine lv_aload_n hx hb dX0_firstMen_0 rfl (lv_at hL 0 rfl) ?_
  refine k_X0_men ht C B q1230 (Nat.le_trans (Nat.le_of_ble_eq_true rfl) hF) (Nat.le_trans (Nat.le_of_ble_eq_true rfl) hN) hL.1 (Nat.le_of_ble_eq_true rfl) ⟨Nat.zero_le _, Nat.zero_le _⟩ h dX0_firstMen_1 (fun q1 h H locs B => ?_)
  refine lv_aload_n hx hb dX0_firstMen_4 rfl (lv_at hL 0 rfl) ?_
  refine xx_gr (ci := 0) (k := 4) C B xc_0 ht (by decide) (Nat.le_of_ble_eq_true rfl) rfl q363 (fun _ h => h) h dX0_firstMen_5 (fun v2 ok3 h => ?_)
  refine xx_is h (fun hp4 h => ?_)
  refine xx_gi (ci := 1) (k := 6) C B xc_1 hp4 (by decide) (Nat.le_of_ble_eq_true rfl) rfl q269 (fun _ h => h) dX0_firstMen_8 ?_
  refine xx_min C q1508 q592 q157 q593 (Nat.le_trans (Nat.le_of_ble_eq_true rfl) hF) (Nat.le_trans (Nat.le_of_ble_eq_true rfl) hN) hL.1 (Nat.le_of_ble_eq_true rfl) ⟨Nat.zero_le _, Nat.zero_le _⟩ dX0_firstMen_11 ?_
  exact hret _ _ _ _ _ _ _ ⟨Option.some.inj h, rfl, rfl⟩ B dX0_firstMen_14
theorem k_X0_firstMen {p : Program} {l : Launch} {e : Env} {R : Room} {s : State} {m : MethodId} {args : Array Value} {below : List Frame} {meth : Method} {c : Code} {H : Heap} {locs : List Loc} {Q : State → Prop} {pc : Nat} {ls : Array Slot} {rest : List Value} {cc : ByteArray} {nL cells slots : Nat} {D : va_G} {cA : Nat → ClassId} {ad : Nat → Nat} {hk : HK} {nx : Nat} {A : Nat → Prop} {gi : GI} {gr : GR} {α : Type} {r : α} {own : String} {idx : Nat} {a0 : Nat} {ff : Int32 → Option α} (ht : (hk a0).1 = 10) (C : CallFix p m c cc nL s args lw_all own) (B : XB D cA ad hk nx A s gi gr H locs) (hq : Cond.methodLink own idx yX0_firstMen ∈ lw_all) (hF : 4 ≤ R.frames) (hN : 124 ≤ R.locals) (hs : ls.size = nL) (hw : (rest.map fun v => v.category).sum ≤ 8) (hz0 : cells ≤ R.cells ∧ slots ≤ R.slots) (h : (f_X0_firstMen hk gi gr a0).bind ff = some r) (hdg : decode cc pc = .ok (.invokevirtual idx, 3)) (kk : ∀ q, ff q = some r → ∀ (H' : Heap) (locs' : List Loc), XB D cA ad hk nx A s gi gr H' locs' → W p l e R s m args below meth c H' locs' cells slots Q (F0 m (pc + 3) ls (.int q :: rest))) : W p l e R s m args below meth c H locs cells slots Q (F0 m pc ls (.ref (ad a0) :: rest)) := by
  obtain ⟨q, h1, h2⟩ := g_ob h
  refine xx_cVI (As := []) (rest := rest) (n := 0) xc_0 ht (by decide) C B (fun sz => w_X0_firstMen l D cA ad hk nx gi gr a0 ht q h1 sz) hq q1586 qs61 q141 q1587 (by decide +kernel) ⟨hF, hN⟩ rfl hs hw hz0 hdg (fun v u H9 locs9 hp B9 => ?_)
  obtain ⟨e1, e2, e3⟩ := hp
  rw [e2] at B9
  rw [e3] at B9
  subst e1
  exact kk _ h2 H9 locs9 B9
def f_X0_isFirst (hk : HK) (gi : GI) (gr : GR) (a0 : Nat) (x1 : Int32) : Option (Int32) :=
  (f_X0_firstMen hk gi gr a0).bind fun q1 =>
  (f_X0_isIn hk gi gr x1 0 (q1 - 1)).bind fun q2 =>
  (g_zb q2).bind fun _ =>
  some q2
set_option maxHeartbeats 400000 in
theorem w_X0_isFirst (l : Launch) (D : va_G) (cA : Nat → ClassId) (ad : Nat → Nat) (hk : HK) (nx : Nat) (gi : GI) (gr : GR) (a0 : Nat) (x1 : Int32) (ht : (hk a0).1 = 10) (r : Int32) (h : f_X0_isFirst hk gi gr a0 x1 = some r) (sz : Nat) : Met l yX0_isFirst (ws_ yX0_isFirst cX0_isFirst 2 (some .boolean)) ({ frames := 4, cells := 0, slots := 0, locals := 124 } : Room) (va_Pc [.ref (ad a0), .int x1] (XPre D cA ad hk nx gi gr sz)) (va_Qi (fun v u => v = r ∧ u.1 = gi ∧ u.2 = gr) (XPost D cA ad hk nx) (XA ad nx sz)) 0 0 (XA ad nx sz) := by
  refine xx_stZ (own := RX0) (P := (fun v u => v = r ∧ u.1 = gi ∧ u.2 = gr)) (by decide +kernel) rfl (Nat.le_of_ble_eq_true rfl) (fun p e s m args below meth c R Q A ls C hF hN B hret hL => ?_) sz
  have hx := C.1
  have hb := C.2.1
  have hL : lv_has ls 2 [(0, .ref (ad a0)), (1, .int x1)] := hL
  unfold f_X0_isFirst at h
  refine lv_iload_n hx hb dX0_isFirst_0 rfl (lv_at hL 1 rfl) ?_
  refine lv_iconst (v := 0) hx hb dX0_isFirst_1 (by decide) ?_
  refine lv_aload_n hx hb dX0_isFirst_2 rfl (lv_at hL 0 rfl) ?_
  refine k_X0_firstMen ht C B q1584 (Nat.le_trans (Nat.le_of_ble_eq_true rfl) hF) (Nat.le_trans (Nat.le_of_ble_eq_true rfl) hN) hL.1 (Nat.le_of_ble_eq_true rfl) ⟨Nat.zero_le _, Nat.zero_le _⟩ h dX0_isFirst_3 (fun q1 h H locs B => ?_)
  refine lv_iconst (v := 1) hx hb dX0_isFirst_6 (by decide) ?_
  refine lv_isub hx hb dX0_isFirst_7 ?_
  refine k_X0_isIn C B q1247 (Nat.le_trans (Nat.le_of_ble_eq_true rfl) hF) (Nat.le_trans (Nat.le_of_ble_eq_true rfl) hN) hL.1 (Nat.le_of_ble_eq_true rfl) ⟨Nat.zero_le _, Nat.zero_le _⟩ h dX0_isFirst_8 (fun q2 h H locs B => ?_)
  refine mm_zb h (fun hz h => ?_)
  exact hret _ _ _ _ _ _ _ ⟨Option.some.inj h, rfl, rfl⟩ hz B dX0_isFirst_11
theorem k_X0_isFirst {p : Program} {l : Launch} {e : Env} {R : Room} {s : State} {m : MethodId} {args : Array Value} {below : List Frame} {meth : Method} {c : Code} {H : Heap} {locs : List Loc} {Q : State → Prop} {pc : Nat} {ls : Array Slot} {rest : List Value} {cc : ByteArray} {nL cells slots : Nat} {D : va_G} {cA : Nat → ClassId} {ad : Nat → Nat} {hk : HK} {nx : Nat} {A : Nat → Prop} {gi : GI} {gr : GR} {α : Type} {r : α} {own : String} {idx : Nat} {a0 : Nat} {x1 : Int32} {ff : Int32 → Option α} (ht : (hk a0).1 = 10) (C : CallFix p m c cc nL s args lw_all own) (B : XB D cA ad hk nx A s gi gr H locs) (hq : Cond.methodLink own idx yX0_isFirst ∈ lw_all) (hF : 5 ≤ R.frames) (hN : 145 ≤ R.locals) (hs : ls.size = nL) (hw : (rest.map fun v => v.category).sum ≤ 8) (hz0 : cells ≤ R.cells ∧ slots ≤ R.slots) (h : (f_X0_isFirst hk gi gr a0 x1).bind ff = some r) (hdg : decode cc pc = .ok (.invokevirtual idx, 3)) (kk : ∀ q, ff q = some r → ∀ (H' : Heap) (locs' : List Loc), XB D cA ad hk nx A s gi gr H' locs' → W p l e R s m args below meth c H' locs' cells slots Q (F0 m (pc + 3) ls (.int q :: rest))) : W p l e R s m args below meth c H locs cells slots Q (F0 m pc ls (.int x1 :: .ref (ad a0) :: rest)) := by
  obtain ⟨q, h1, h2⟩ := g_ob h
  refine xx_cVI (As := [.int x1]) (rest := rest) (n := 1) xc_0 ht (by decide) C B (fun sz => w_X0_isFirst l D cA ad hk nx gi gr a0 x1 ht q h1 sz) hq q1582 qs60 q141 q1583 (by decide +kernel) ⟨hF, hN⟩ rfl hs hw hz0 hdg (fun v u H9 locs9 hp B9 => ?_)
  obtain ⟨e1, e2, e3⟩ := hp
  rw [e2] at B9
  rw [e3] at B9
  subst e1
  exact kk _ h2 H9 locs9 B9
def f_X12_untell (hk : HK) (gi : GI) (gr : GR) (a0 : Nat) : Option (Int32 × GI) :=
  if (gi a0 5) < 0 then
  ((gr a0 6).bind fun v1 =>
  (g_is hk v1 10).bind fun _ =>
  (some (g_pi gi a0 5 (gi v1 9))).bind fun gi4 =>
  some (1, gi4))
  else
  (some (0, gi))
set_option maxHeartbeats 400000 in
theorem w_X12_untell (l : Launch) (D : va_G) (cA : Nat → ClassId) (ad : Nat → Nat) (hk : HK) (nx : Nat) (gi : GI) (gr : GR) (a0 : Nat) (ht : (hk a0).1 = 21) (r : Int32 × GI) (h : f_X12_untell hk gi gr a0 = some r) (sz : Nat) : Met l yX12_untell (ws_ yX12_untell cX12_untell 1 (some .boolean)) ({ frames := 1, cells := 0, slots := 0, locals := 64 } : Room) (va_Pc [.ref (ad a0)] (XPre D cA ad hk nx gi gr sz)) (va_Qi (fun v u => (v, u.1) = r ∧ u.2 = gr) (XPost D cA ad hk nx) (XA ad nx sz)) 0 0 (XA ad nx sz) := by
  refine xx_stZ (own := RX12) (P := (fun v u => (v, u.1) = r ∧ u.2 = gr)) (by decide +kernel) rfl (Nat.le_of_ble_eq_true rfl) (fun p e s m args below meth c R Q A ls C hF hN B hret hL => ?_) sz
  have hx := C.1
  have hb := C.2.1
  have hL : lv_has ls 1 [(0, .ref (ad a0))] := hL
  unfold f_X12_untell at h
  refine lv_aload_n hx hb dX12_untell_0 rfl (lv_at hL 0 rfl) ?_
  refine xx_gi (ci := 11) (k := 5) C B xc_11 ht (by decide) (Nat.le_of_ble_eq_true rfl) rfl q1599 (fun _ h => h) dX12_untell_1 ?_
  refine gg_if_lt hx hb 9 h dX12_untell_4 (by decide) (fun h => ?_) (fun h => ?_)
  · refine lv_aload_n hx hb dX12_untell_9 rfl (lv_at hL 0 rfl) ?_
    refine lv_aload_n hx hb dX12_untell_10 rfl (lv_at hL 0 rfl) ?_
    refine xx_gr (ci := 11) (k := 6) C B xc_11 ht (by decide) (Nat.le_of_ble_eq_true rfl) rfl q1600 (fun _ h => h) h dX12_untell_11 (fun v1 ok2 h => ?_)
    refine xx_is h (fun hp3 h => ?_)
    refine xx_giN (ci := 0) (k := 9) C B xc_0 hp3 (by decide) (Nat.le_of_ble_eq_true rfl) rfl nw_q368 (fun _ h => h) dX12_untell_14 ?_
    refine xx_pi (ci := 11) (k := 5) C B xc_11 ht (by decide) (Nat.le_of_ble_eq_true rfl) rfl q1599 (fun _ h => h) rfl rfl rfl h dX12_untell_17 (fun gi4 h H locs B => ?_)
    refine lv_iconst (v := 1) hx hb dX12_untell_20 (by decide) ?_
    exact hret _ _ _ _ _ _ _ ⟨Option.some.inj h, rfl⟩ (Or.inr rfl) B dX12_untell_21
  · refine lv_iconst (v := 0) hx hb dX12_untell_7 (by decide) ?_
    exact hret _ _ _ _ _ _ _ ⟨Option.some.inj h, rfl⟩ (Or.inl rfl) B dX12_untell_8
theorem k_X12_untell {p : Program} {l : Launch} {e : Env} {R : Room} {s : State} {m : MethodId} {args : Array Value} {below : List Frame} {meth : Method} {c : Code} {H : Heap} {locs : List Loc} {Q : State → Prop} {pc : Nat} {ls : Array Slot} {rest : List Value} {cc : ByteArray} {nL cells slots : Nat} {D : va_G} {cA : Nat → ClassId} {ad : Nat → Nat} {hk : HK} {nx : Nat} {A : Nat → Prop} {gi : GI} {gr : GR} {α : Type} {r : α} {own : String} {idx : Nat} {a0 : Nat} {ff : (Int32 × GI) → Option α} (ht : (hk a0).1 = 21) (C : CallFix p m c cc nL s args lw_all own) (B : XB D cA ad hk nx A s gi gr H locs) (hq : Cond.methodLink own idx yX12_untell ∈ lw_all) (hF : 2 ≤ R.frames) (hN : 84 ≤ R.locals) (hs : ls.size = nL) (hw : (rest.map fun v => v.category).sum ≤ 8) (hz0 : cells ≤ R.cells ∧ slots ≤ R.slots) (h : (f_X12_untell hk gi gr a0).bind ff = some r) (hdg : decode cc pc = .ok (.invokevirtual idx, 3)) (kk : ∀ q, ff q = some r → ∀ (H' : Heap) (locs' : List Loc), XB D cA ad hk nx A s q.2 gr H' locs' → W p l e R s m args below meth c H' locs' cells slots Q (F0 m (pc + 3) ls (.int q.1 :: rest))) : W p l e R s m args below meth c H locs cells slots Q (F0 m pc ls (.ref (ad a0) :: rest)) := by
  obtain ⟨q, h1, h2⟩ := g_ob h
  refine xx_cVI (As := []) (rest := rest) (n := 0) xc_11 ht (by decide) C B (fun sz => w_X12_untell l D cA ad hk nx gi gr a0 ht q h1 sz) hq q1630 q1631 q172 q1632 (by decide +kernel) ⟨hF, hN⟩ rfl hs hw hz0 hdg (fun v u H9 locs9 hp B9 => ?_)
  obtain ⟨e1, e3⟩ := hp
  rw [e3] at B9
  subst e1
  exact kk _ h2 H9 locs9 B9
def f_X0_untell (hk : HK) (gi : GI) (gr : GR) (a0 : Nat) (x1 : Int32) : Option (Int32 × GI) :=
  (gr a0 25).bind fun v1 =>
  (g_is hk v1 22).bind fun _ =>
  (f_J2_size hk gi gr v1).bind fun q4 =>
  (f_X0_isIn hk gi gr x1 0 (q4 - 1)).bind fun q5 =>
  if q5 = 0 then
  (some (0, gi))
  else
  ((gr a0 25).bind fun v6 =>
  (g_is hk v6 22).bind fun _ =>
  (f_J2_get hk gi gr v6 x1).bind fun q9 =>
  (g_is hk q9 21).bind fun _ =>
  (f_X12_untell hk gi gr q9).bind fun q11 =>
  if q11.1 = 0 then
  (some (0, q11.2))
  else
  (some (1, q11.2)))
set_option maxHeartbeats 400000 in
theorem w_X0_untell (l : Launch) (D : va_G) (cA : Nat → ClassId) (ad : Nat → Nat) (hk : HK) (nx : Nat) (gi : GI) (gr : GR) (a0 : Nat) (x1 : Int32) (ht : (hk a0).1 = 10) (r : Int32 × GI) (h : f_X0_untell hk gi gr a0 x1 = some r) (sz : Nat) : Met l yX0_untell (ws_ yX0_untell cX0_untell 2 (some .boolean)) ({ frames := 4, cells := 0, slots := 0, locals := 128 } : Room) (va_Pc [.ref (ad a0), .int x1] (XPre D cA ad hk nx gi gr sz)) (va_Qi (fun v u => (v, u.1) = r ∧ u.2 = gr) (XPost D cA ad hk nx) (XA ad nx sz)) 0 0 (XA ad nx sz) := by
  refine xx_stZ (own := RX0) (P := (fun v u => (v, u.1) = r ∧ u.2 = gr)) (by decide +kernel) rfl (Nat.le_of_ble_eq_true rfl) (fun p e s m args below meth c R Q A ls C hF hN B hret hL => ?_) sz
  have hx := C.1
  have hb := C.2.1
  have hL : lv_has ls 2 [(0, .ref (ad a0)), (1, .int x1)] := hL
  unfold f_X0_untell at h
  refine lv_iload_n hx hb dX0_untell_0 rfl (lv_at hL 1 rfl) ?_
  refine lv_iconst (v := 0) hx hb dX0_untell_1 (by decide) ?_
  refine lv_aload_n hx hb dX0_untell_2 rfl (lv_at hL 0 rfl) ?_
  refine xx_gr (ci := 0) (k := 25) C B xc_0 ht (by decide) (Nat.le_of_ble_eq_true rfl) rfl q385 (fun _ h => h) h dX0_untell_3 (fun v1 ok2 h => ?_)
  refine xx_is h (fun hp3 h => ?_)
  refine k_J2_size hp3 C B q1234 (Nat.le_trans (Nat.le_of_ble_eq_true rfl) hF) (Nat.le_trans (Nat.le_of_ble_eq_true rfl) hN) hL.1 (Nat.le_of_ble_eq_true rfl) ⟨Nat.zero_le _, Nat.zero_le _⟩ h dX0_untell_6 (fun q4 h H locs B => ?_)
  refine lv_iconst (v := 1) hx hb dX0_untell_9 (by decide) ?_
  refine lv_isub hx hb dX0_untell_10 ?_
  refine k_X0_isIn C B q1247 (Nat.le_trans (Nat.le_of_ble_eq_true rfl) hF) (Nat.le_trans (Nat.le_of_ble_eq_true rfl) hN) hL.1 (Nat.le_of_ble_eq_true rfl) ⟨Nat.zero_le _, Nat.zero_le _⟩ h dX0_untell_11 (fun q5 h H locs B => ?_)
  refine gg_if_eq hx hb 38 h dX0_untell_14 (by decide) (fun h => ?_) (fun h => ?_)
  · refine lv_iconst (v := 0) hx hb dX0_untell_38 (by decide) ?_
    exact hret _ _ _ _ _ _ _ ⟨Option.some.inj h, rfl⟩ (Or.inl rfl) B dX0_untell_39
  · refine lv_aload_n hx hb dX0_untell_17 rfl (lv_at hL 0 rfl) ?_
    refine xx_gr (ci := 0) (k := 25) C B xc_0 ht (by decide) (Nat.le_of_ble_eq_true rfl) rfl q385 (fun _ h => h) h dX0_untell_18 (fun v6 ok7 h => ?_)
    refine lv_iload_n hx hb dX0_untell_21 rfl (lv_at hL 1 rfl) ?_
    refine xx_is h (fun hp8 h => ?_)
    refine k_J2_get hp8 C B q1251 (Nat.le_trans (Nat.le_of_ble_eq_true rfl) hF) (Nat.le_trans (Nat.le_of_ble_eq_true rfl) hN) hL.1 (Nat.le_of_ble_eq_true rfl) ⟨Nat.zero_le _, Nat.zero_le _⟩ h dX0_untell_22 (fun q9 h H locs B => ?_)
    refine xx_is h (fun hp10 h => ?_)
    refine xx_cast C B xc_11 hp10 (by decide) q1588 dX0_untell_25 ?_
    refine k_X12_untell hp10 C B q1629 (Nat.le_trans (Nat.le_of_ble_eq_true rfl) hF) (Nat.le_trans (Nat.le_of_ble_eq_true rfl) hN) hL.1 (Nat.le_of_ble_eq_true rfl) ⟨Nat.zero_le _, Nat.zero_le _⟩ h dX0_untell_28 (fun q11 h H locs B => ?_)
    refine gg_if_eq hx hb 38 h dX0_untell_31 (by decide) (fun h => ?_) (fun h => ?_)
    · refine lv_iconst (v := 0) hx hb dX0_untell_38 (by decide) ?_
      exact hret _ _ _ _ _ _ _ ⟨Option.some.inj h, rfl⟩ (Or.inl rfl) B dX0_untell_39
    · refine lv_iconst (v := 1) hx hb dX0_untell_34 (by decide) ?_
      refine lv_goto (tgt := 39) hx hb dX0_untell_35 (by decide) ?_
      exact hret _ _ _ _ _ _ _ ⟨Option.some.inj h, rfl⟩ (Or.inr rfl) B dX0_untell_39
theorem k_X0_untell {p : Program} {l : Launch} {e : Env} {R : Room} {s : State} {m : MethodId} {args : Array Value} {below : List Frame} {meth : Method} {c : Code} {H : Heap} {locs : List Loc} {Q : State → Prop} {pc : Nat} {ls : Array Slot} {rest : List Value} {cc : ByteArray} {nL cells slots : Nat} {D : va_G} {cA : Nat → ClassId} {ad : Nat → Nat} {hk : HK} {nx : Nat} {A : Nat → Prop} {gi : GI} {gr : GR} {α : Type} {r : α} {own : String} {idx : Nat} {a0 : Nat} {x1 : Int32} {ff : (Int32 × GI) → Option α} (ht : (hk a0).1 = 10) (C : CallFix p m c cc nL s args lw_all own) (B : XB D cA ad hk nx A s gi gr H locs) (hq : Cond.methodLink own idx yX0_untell ∈ lw_all) (hF : 5 ≤ R.frames) (hN : 149 ≤ R.locals) (hs : ls.size = nL) (hw : (rest.map fun v => v.category).sum ≤ 8) (hz0 : cells ≤ R.cells ∧ slots ≤ R.slots) (h : (f_X0_untell hk gi gr a0 x1).bind ff = some r) (hdg : decode cc pc = .ok (.invokevirtual idx, 3)) (kk : ∀ q, ff q = some r → ∀ (H' : Heap) (locs' : List Loc), XB D cA ad hk nx A s q.2 gr H' locs' → W p l e R s m args below meth c H' locs' cells slots Q (F0 m (pc + 3) ls (.int q.1 :: rest))) : W p l e R s m args below meth c H locs cells slots Q (F0 m pc ls (.int x1 :: .ref (ad a0) :: rest)) := by
  obtain ⟨q, h1, h2⟩ := g_ob h
  refine xx_cVI (As := [.int x1]) (rest := rest) (n := 1) xc_0 ht (by decide) C B (fun sz => w_X0_untell l D cA ad hk nx gi gr a0 x1 ht q h1 sz) hq q1626 q1627 q141 q1628 (by decide +kernel) ⟨hF, hN⟩ rfl hs hw hz0 hdg (fun v u H9 locs9 hp B9 => ?_)
  obtain ⟨e1, e3⟩ := hp
  rw [e3] at B9
  subst e1
  exact kk _ h2 H9 locs9 B9
def f_X0_later (hk : HK) (gi : GI) (gr : GR) (a0 : Nat) (x1 : Int32) : Option (Int32 × GI) :=
  if x1 < 0 then
  (some ((-1), gi))
  else
  (if 1000 < x1 then
  (some ((-1), gi))
  else
  (if ((gi a0 9) + x1) ≤ 100000 then
  ((some (g_pi gi a0 9 ((gi a0 9) + x1))).bind fun gi1 =>
  some (gi1 a0 9, gi1))
  else
  (some ((-1), gi))))
set_option maxHeartbeats 400000 in
theorem w_X0_later (l : Launch) (D : va_G) (cA : Nat → ClassId) (ad : Nat → Nat) (hk : HK) (nx : Nat) (gi : GI) (gr : GR) (a0 : Nat) (x1 : Int32) (ht : (hk a0).1 = 10) (r : Int32 × GI) (h : f_X0_later hk gi gr a0 x1 = some r) (sz : Nat) : Met l yX0_later (ws_ yX0_later cX0_later 2 (some .int)) ({ frames := 1, cells := 0, slots := 0, locals := 64 } : Room) (va_Pc [.ref (ad a0), .int x1] (XPre D cA ad hk nx gi gr sz)) (va_Qi (fun v u => (v, u.1) = r ∧ u.2 = gr) (XPost D cA ad hk nx) (XA ad nx sz)) 0 0 (XA ad nx sz) := by
  refine xx_stI (own := RX0) (P := (fun v u => (v, u.1) = r ∧ u.2 = gr)) (by decide +kernel) rfl (Nat.le_of_ble_eq_true rfl) (fun p e s m args below meth c R Q A ls C hF hN B hret hL => ?_) sz
  have hx := C.1
  have hb := C.2.1
  have hL : lv_has ls 2 [(0, .ref (ad a0)), (1, .int x1)] := hL
  unfold f_X0_later at h
  refine lv_iload_n hx hb dX0_later_0 rfl (lv_at hL 1 rfl) ?_
  refine gg_if_lt hx hb 23 h dX0_later_1 (by decide) (fun h => ?_) (fun h => ?_)
  · refine lv_iconst (v := (-1)) hx hb dX0_later_23 (by decide) ?_
    exact hret _ _ _ _ _ _ _ ⟨Option.some.inj h, rfl⟩ B dX0_later_24
  · refine lv_iload_n hx hb dX0_later_4 rfl (lv_at hL 1 rfl) ?_
    refine lv_sipush (v := 1000) hx hb dX0_later_5 (by decide) ?_
    refine gg_icmp_gt hx hb 23 h dX0_later_8 (by decide) (fun h => ?_) (fun h => ?_)
    · refine lv_iconst (v := (-1)) hx hb dX0_later_23 (by decide) ?_
      exact hret _ _ _ _ _ _ _ ⟨Option.some.inj h, rfl⟩ B dX0_later_24
    · refine lv_aload_n hx hb dX0_later_11 rfl (lv_at hL 0 rfl) ?_
      refine xx_gi (ci := 0) (k := 9) C B xc_0 ht (by decide) (Nat.le_of_ble_eq_true rfl) rfl q369 (fun _ h => h) dX0_later_12 ?_
      refine lv_iload_n hx hb dX0_later_15 rfl (lv_at hL 1 rfl) ?_
      refine lv_iadd hx hb dX0_later_16 ?_
      refine lv_ldcw (v := 100000) hx hb C.2.2.2.1 (C.2.2.2.2 _ q1637) dX0_later_17 ?_
      refine gg_icmp_le hx hb 25 h dX0_later_20 (by decide) (fun h => ?_) (fun h => ?_)
      · refine lv_aload_n hx hb dX0_later_25 rfl (lv_at hL 0 rfl) ?_
        refine lv_dup hx hb dX0_later_26 rfl ?_
        refine xx_gi (ci := 0) (k := 9) C B xc_0 ht (by decide) (Nat.le_of_ble_eq_true rfl) rfl q369 (fun _ h => h) dX0_later_27 ?_
        refine lv_iload_n hx hb dX0_later_30 rfl (lv_at hL 1 rfl) ?_
        refine lv_iadd hx hb dX0_later_31 ?_
        refine xx_pi (ci := 0) (k := 9) C B xc_0 ht (by decide) (Nat.le_of_ble_eq_true rfl) rfl q369 (fun _ h => h) rfl rfl rfl h dX0_later_32 (fun gi1 h H locs B => ?_)
        refine lv_aload_n hx hb dX0_later_35 rfl (lv_at hL 0 rfl) ?_
        refine xx_gi (ci := 0) (k := 9) C B xc_0 ht (by decide) (Nat.le_of_ble_eq_true rfl) rfl q369 (fun _ h => h) dX0_later_36 ?_
        exact hret _ _ _ _ _ _ _ ⟨Option.some.inj h, rfl⟩ B dX0_later_39
      · refine lv_iconst (v := (-1)) hx hb dX0_later_23 (by decide) ?_
        exact hret _ _ _ _ _ _ _ ⟨Option.some.inj h, rfl⟩ B dX0_later_24
theorem k_X0_later {p : Program} {l : Launch} {e : Env} {R : Room} {s : State} {m : MethodId} {args : Array Value} {below : List Frame} {meth : Method} {c : Code} {H : Heap} {locs : List Loc} {Q : State → Prop} {pc : Nat} {ls : Array Slot} {rest : List Value} {cc : ByteArray} {nL cells slots : Nat} {D : va_G} {cA : Nat → ClassId} {ad : Nat → Nat} {hk : HK} {nx : Nat} {A : Nat → Prop} {gi : GI} {gr : GR} {α : Type} {r : α} {own : String} {idx : Nat} {a0 : Nat} {x1 : Int32} {ff : (Int32 × GI) → Option α} (ht : (hk a0).1 = 10) (C : CallFix p m c cc nL s args lw_all own) (B : XB D cA ad hk nx A s gi gr H locs) (hq : Cond.methodLink own idx yX0_later ∈ lw_all) (hF : 2 ≤ R.frames) (hN : 85 ≤ R.locals) (hs : ls.size = nL) (hw : (rest.map fun v => v.category).sum ≤ 8) (hz0 : cells ≤ R.cells ∧ slots ≤ R.slots) (h : (f_X0_later hk gi gr a0 x1).bind ff = some r) (hdg : decode cc pc = .ok (.invokevirtual idx, 3)) (kk : ∀ q, ff q = some r → ∀ (H' : Heap) (locs' : List Loc), XB D cA ad hk nx A s q.2 gr H' locs' → W p l e R s m args below meth c H' locs' cells slots Q (F0 m (pc + 3) ls (.int q.1 :: rest))) : W p l e R s m args below meth c H locs cells slots Q (F0 m pc ls (.int x1 :: .ref (ad a0) :: rest)) := by
  obtain ⟨q, h1, h2⟩ := g_ob h
  refine xx_cVI (As := [.int x1]) (rest := rest) (n := 1) xc_0 ht (by decide) C B (fun sz => w_X0_later l D cA ad hk nx gi gr a0 x1 ht q h1 sz) hq q1634 q1635 q141 q1636 (by decide +kernel) ⟨hF, hN⟩ rfl hs hw hz0 hdg (fun v u H9 locs9 hp B9 => ?_)
  obtain ⟨e1, e3⟩ := hp
  rw [e3] at B9
  subst e1
  exact kk _ h2 H9 locs9 B9
def f_X12_isKnown (hk : HK) (gi : GI) (gr : GR) (a0 : Nat) (x1 : Int32) : Option (Int32) :=
  if x1 < (gi a0 3) then
  (some 0)
  else
  (if (gi a0 5) < 0 then
  (some 1)
  else
  (if (gi a0 5) ≤ x1 then
  (some 0)
  else
  (some 1)))
set_option maxHeartbeats 400000 in
theorem w_X12_isKnown (l : Launch) (D : va_G) (cA : Nat → ClassId) (ad : Nat → Nat) (hk : HK) (nx : Nat) (gi : GI) (gr : GR) (a0 : Nat) (x1 : Int32) (ht : (hk a0).1 = 21) (r : Int32) (h : f_X12_isKnown hk gi gr a0 x1 = some r) (sz : Nat) : Met l yX12_isKnown (ws_ yX12_isKnown cX12_isKnown 2 (some .boolean)) ({ frames := 1, cells := 0, slots := 0, locals := 64 } : Room) (va_Pc [.ref (ad a0), .int x1] (XPre D cA ad hk nx gi gr sz)) (va_Qi (fun v u => v = r ∧ u.1 = gi ∧ u.2 = gr) (XPost D cA ad hk nx) (XA ad nx sz)) 0 0 (XA ad nx sz) := by
  refine xx_stZ (own := RX12) (P := (fun v u => v = r ∧ u.1 = gi ∧ u.2 = gr)) (by decide +kernel) rfl (Nat.le_of_ble_eq_true rfl) (fun p e s m args below meth c R Q A ls C hF hN B hret hL => ?_) sz
  have hx := C.1
  have hb := C.2.1
  have hL : lv_has ls 2 [(0, .ref (ad a0)), (1, .int x1)] := hL
  unfold f_X12_isKnown at h
  refine lv_aload_n hx hb dX12_isKnown_0 rfl (lv_at hL 0 rfl) ?_
  refine xx_gi (ci := 11) (k := 3) C B xc_11 ht (by decide) (Nat.le_of_ble_eq_true rfl) rfl q1597 (fun _ h => h) dX12_isKnown_1 ?_
  refine lv_iload_n hx hb dX12_isKnown_4 rfl (lv_at hL 1 rfl) ?_
  refine gg_icmp_gt hx hb 27 h dX12_isKnown_5 (by decide) (fun h => ?_) (fun h => ?_)
  · refine lv_iconst (v := 0) hx hb dX12_isKnown_27 (by decide) ?_
    exact hret _ _ _ _ _ _ _ ⟨Option.some.inj h, rfl, rfl⟩ (Or.inl rfl) B dX12_isKnown_28
  · refine lv_aload_n hx hb dX12_isKnown_8 rfl (lv_at hL 0 rfl) ?_
    refine xx_gi (ci := 11) (k := 5) C B xc_11 ht (by decide) (Nat.le_of_ble_eq_true rfl) rfl q1599 (fun _ h => h) dX12_isKnown_9 ?_
    refine gg_if_lt hx hb 23 h dX12_isKnown_12 (by decide) (fun h => ?_) (fun h => ?_)
    · refine lv_iconst (v := 1) hx hb dX12_isKnown_23 (by decide) ?_
      refine lv_goto (tgt := 28) hx hb dX12_isKnown_24 (by decide) ?_
      exact hret _ _ _ _ _ _ _ ⟨Option.some.inj h, rfl, rfl⟩ (Or.inr rfl) B dX12_isKnown_28
    · refine lv_aload_n hx hb dX12_isKnown_15 rfl (lv_at hL 0 rfl) ?_
      refine xx_gi (ci := 11) (k := 5) C B xc_11 ht (by decide) (Nat.le_of_ble_eq_true rfl) rfl q1599 (fun _ h => h) dX12_isKnown_16 ?_
      refine lv_iload_n hx hb dX12_isKnown_19 rfl (lv_at hL 1 rfl) ?_
      refine gg_icmp_le hx hb 27 h dX12_isKnown_20 (by decide) (fun h => ?_) (fun h => ?_)
      · refine lv_iconst (v := 0) hx hb dX12_isKnown_27 (by decide) ?_
        exact hret _ _ _ _ _ _ _ ⟨Option.some.inj h, rfl, rfl⟩ (Or.inl rfl) B dX12_isKnown_28
      · refine lv_iconst (v := 1) hx hb dX12_isKnown_23 (by decide) ?_
        refine lv_goto (tgt := 28) hx hb dX12_isKnown_24 (by decide) ?_
        exact hret _ _ _ _ _ _ _ ⟨Option.some.inj h, rfl, rfl⟩ (Or.inr rfl) B dX12_isKnown_28
theorem k_X12_isKnown {p : Program} {l : Launch} {e : Env} {R : Room} {s : State} {m : MethodId} {args : Array Value} {below : List Frame} {meth : Method} {c : Code} {H : Heap} {locs : List Loc} {Q : State → Prop} {pc : Nat} {ls : Array Slot} {rest : List Value} {cc : ByteArray} {nL cells slots : Nat} {D : va_G} {cA : Nat → ClassId} {ad : Nat → Nat} {hk : HK} {nx : Nat} {A : Nat → Prop} {gi : GI} {gr : GR} {α : Type} {r : α} {own : String} {idx : Nat} {a0 : Nat} {x1 : Int32} {ff : Int32 → Option α} (ht : (hk a0).1 = 21) (C : CallFix p m c cc nL s args lw_all own) (B : XB D cA ad hk nx A s gi gr H locs) (hq : Cond.methodLink own idx yX12_isKnown ∈ lw_all) (hF : 2 ≤ R.frames) (hN : 85 ≤ R.locals) (hs : ls.size = nL) (hw : (rest.map fun v => v.category).sum ≤ 8) (hz0 : cells ≤ R.cells ∧ slots ≤ R.slots) (h : (f_X12_isKnown hk gi gr a0 x1).bind ff = some r) (hdg : decode cc pc = .ok (.invokevirtual idx, 3)) (kk : ∀ q, ff q = some r → ∀ (H' : Heap) (locs' : List Loc), XB D cA ad hk nx A s gi gr H' locs' → W p l e R s m args below meth c H' locs' cells slots Q (F0 m (pc + 3) ls (.int q :: rest))) : W p l e R s m args below meth c H locs cells slots Q (F0 m pc ls (.int x1 :: .ref (ad a0) :: rest)) := by
  obtain ⟨q, h1, h2⟩ := g_ob h
  refine xx_cVI (As := [.int x1]) (rest := rest) (n := 1) xc_11 ht (by decide) C B (fun sz => w_X12_isKnown l D cA ad hk nx gi gr a0 x1 ht q h1 sz) hq q1651 q1652 q172 q1653 (by decide +kernel) ⟨hF, hN⟩ rfl hs hw hz0 hdg (fun v u H9 locs9 hp B9 => ?_)
  obtain ⟨e1, e2, e3⟩ := hp
  rw [e2] at B9
  rw [e3] at B9
  subst e1
  exact kk _ h2 H9 locs9 B9
def f_X0_bookOf (hk : HK) (gi : GI) (gr : GR) (a0 : Nat) (x1 : Int32) : Option (Int32) :=
  (gr a0 4).bind fun v1 =>
  (g_is hk v1 11).bind fun _ =>
  (gr v1 3).bind fun v4 =>
  (gr a0 26).bind fun v6 =>
  (g_is hk v6 0).bind fun _ =>
  (g_ld gi v6 (hk v6).2 x1).bind fun v9 =>
  (g_is hk v4 0).bind fun _ =>
  (g_ld gi v4 (hk v4).2 v9).bind fun v11 =>
  some v11
set_option maxHeartbeats 400000 in
theorem w_X0_bookOf (l : Launch) (D : va_G) (cA : Nat → ClassId) (ad : Nat → Nat) (hk : HK) (nx : Nat) (gi : GI) (gr : GR) (a0 : Nat) (x1 : Int32) (ht : (hk a0).1 = 10) (r : Int32) (h : f_X0_bookOf hk gi gr a0 x1 = some r) (sz : Nat) : Met l yX0_bookOf (ws_ yX0_bookOf cX0_bookOf 2 (some .int)) ({ frames := 1, cells := 0, slots := 0, locals := 64 } : Room) (va_Pc [.ref (ad a0), .int x1] (XPre D cA ad hk nx gi gr sz)) (va_Qi (fun v u => v = r ∧ u.1 = gi ∧ u.2 = gr) (XPost D cA ad hk nx) (XA ad nx sz)) 0 0 (XA ad nx sz) := by
  refine xx_stI (own := RX0) (P := (fun v u => v = r ∧ u.1 = gi ∧ u.2 = gr)) (by decide +kernel) rfl (Nat.le_of_ble_eq_true rfl) (fun p e s m args below meth c R Q A ls C hF hN B hret hL => ?_) sz
  have hx := C.1
  have hb := C.2.1
  have hL : lv_has ls 2 [(0, .ref (ad a0)), (1, .int x1)] := hL
  unfold f_X0_bookOf at h
  refine lv_aload_n hx hb dX0_bookOf_0 rfl (lv_at hL 0 rfl) ?_
  refine xx_gr (ci := 0) (k := 4) C B xc_0 ht (by decide) (Nat.le_of_ble_eq_true rfl) rfl q363 (fun _ h => h) h dX0_bookOf_1 (fun v1 ok2 h => ?_)
  refine xx_is h (fun hp3 h => ?_)
  refine xx_gr (ci := 1) (k := 3) C B xc_1 hp3 (by decide) (Nat.le_of_ble_eq_true rfl) rfl q264 (fun _ h => h) h dX0_bookOf_4 (fun v4 ok5 h => ?_)
  refine lv_aload_n hx hb dX0_bookOf_7 rfl (lv_at hL 0 rfl) ?_
  refine xx_gr (ci := 0) (k := 26) C B xc_0 ht (by decide) (Nat.le_of_ble_eq_true rfl) rfl q386 (fun _ h => h) h dX0_bookOf_8 (fun v6 ok7 h => ?_)
  refine lv_iload_n hx hb dX0_bookOf_11 rfl (lv_at hL 1 rfl) ?_
  refine xx_is h (fun hp8 h => ?_)
  refine xx_iald C B hp8 h dX0_bookOf_12 (fun v9 h => ?_)
  refine xx_is h (fun hp10 h => ?_)
  refine xx_iald C B hp10 h dX0_bookOf_13 (fun v11 h => ?_)
  exact hret _ _ _ _ _ _ _ ⟨Option.some.inj h, rfl, rfl⟩ B dX0_bookOf_14
theorem kn_X0_bookOf {p : Program} {l : Launch} {e : Env} {R : Room} {s : State} {m : MethodId} {args : Array Value} {below : List Frame} {meth : Method} {c : Code} {H : Heap} {locs : List Loc} {Q : State → Prop} {pc : Nat} {ls : Array Slot} {rest : List Value} {cc : ByteArray} {nL cells slots : Nat} {D : va_G} {cA : Nat → ClassId} {ad : Nat → Nat} {hk : HK} {nx : Nat} {A : Nat → Prop} {gi : GI} {gr : GR} {α : Type} {r : α} {own : String} {idx : Nat} {a0 : Nat} {x1 : Int32} {ff : Int32 → Option α} (ht : (hk a0).1 = 10) (C : CallFix p m c cc nL s args lw_all own) (B : XB D cA ad hk nx A s gi gr H locs) (hq : Cond.methodLinkNest own idx yX0_bookOf "WeatherWages" ∈ nwX) (hF : 2 ≤ R.frames) (hN : 85 ≤ R.locals) (hs : ls.size = nL) (hw : (rest.map fun v => v.category).sum ≤ 8) (hz0 : cells ≤ R.cells ∧ slots ≤ R.slots) (h : (f_X0_bookOf hk gi gr a0 x1).bind ff = some r) (hdg : decode cc pc = .ok (.invokevirtual idx, 3)) (kk : ∀ q, ff q = some r → ∀ (H' : Heap) (locs' : List Loc), XB D cA ad hk nx A s gi gr H' locs' → W p l e R s m args below meth c H' locs' cells slots Q (F0 m (pc + 3) ls (.int q :: rest))) : W p l e R s m args below meth c H locs cells slots Q (F0 m pc ls (.int x1 :: .ref (ad a0) :: rest)) := by
  obtain ⟨q, h1, h2⟩ := g_ob h
  refine xx_cNI (As := [.int x1]) (rest := rest) (n := 1) xc_0 ht (by decide) C B (fun sz => w_X0_bookOf l D cA ad hk nx gi gr a0 x1 ht q h1 sz) hq q1660 qs65 q141 q1661 (by decide +kernel) ⟨hF, hN⟩ rfl hs hw hz0 hdg (fun v u H9 locs9 hp B9 => ?_)
  obtain ⟨e1, e2, e3⟩ := hp
  rw [e2] at B9
  rw [e3] at B9
  subst e1
  exact kk _ h2 H9 locs9 B9
def f_X12_isSo_j63 (hk : HK) (gij63 : GI) (grj63 : GR) (a0j63 : Nat) (t0j63 : Int32) : Option (Int32) :=
  if t0j63 = (gij63 a0j63 4) then
  (some 1)
  else
  (some 0)
def f_X12_isSo (hk : HK) (gi : GI) (gr : GR) (a0 : Nat) : Option (Int32) :=
  if 0 ≤ (gi a0 1) then
  ((gr a0 6).bind fun v1 =>
  (g_is hk v1 10).bind fun _ =>
  (f_X0_bookOf hk gi gr v1 (gi a0 0)).bind fun q4 =>
  (gr a0 6).bind fun v5 =>
  (g_is hk v5 10).bind fun _ =>
  (f_X0_bookOf hk gi gr v5 (gi a0 1)).bind fun q8 =>
  if q4 ≤ q8 then
  (f_X12_isSo_j63 hk gi gr a0 0)
  else
  (f_X12_isSo_j63 hk gi gr a0 1))
  else
  ((gr a0 6).bind fun v9 =>
  (g_is hk v9 10).bind fun _ =>
  (f_X0_bookOf hk gi gr v9 (gi a0 0)).bind fun q12 =>
  if q12 < (gi a0 2) then
  (f_X12_isSo_j63 hk gi gr a0 0)
  else
  (f_X12_isSo_j63 hk gi gr a0 1))
set_option maxHeartbeats 400000 in
theorem w_X12_isSo (l : Launch) (D : va_G) (cA : Nat → ClassId) (ad : Nat → Nat) (hk : HK) (nx : Nat) (gi : GI) (gr : GR) (a0 : Nat) (ht : (hk a0).1 = 21) (r : Int32) (h : f_X12_isSo hk gi gr a0 = some r) (sz : Nat) : Met l yX12_isSo (ws_ yX12_isSo cX12_isSo 1 (some .boolean)) ({ frames := 2, cells := 0, slots := 0, locals := 85 } : Room) (va_Pc [.ref (ad a0)] (XPre D cA ad hk nx gi gr sz)) (va_Qi (fun v u => v = r ∧ u.1 = gi ∧ u.2 = gr) (XPost D cA ad hk nx) (XA ad nx sz)) 0 0 (XA ad nx sz) := by
  refine xx_stZ (own := RX12) (P := (fun v u => v = r ∧ u.1 = gi ∧ u.2 = gr)) (by decide +kernel) rfl (Nat.le_of_ble_eq_true rfl) (fun p e s m args below meth c R Q A ls C hF hN B hret hL => ?_) sz
  have hx := C.1
  have hb := C.2.1
  have hL : lv_has ls 1 [(0, .ref (ad a0))] := hL
  unfold f_X12_isSo at h
  have hj63 : ∀ (t0j63 : Int32) (H : Heap) (locs : List Loc) (ls : Array Slot), f_X12_isSo_j63 hk gi gr a0 t0j63 = some r → XB D cA ad hk nx A s gi gr H locs → lv_has ls 1 [(0, .ref (ad a0))] → W p l e R s m args below meth c H locs 0 0 Q (F0 m 63 ls [.int t0j63]) := by
    intro t0j63 H locs ls h B hL
    unfold f_X12_isSo_j63 at h
    refine lv_aload_n hx hb dX12_isSo_63 rfl (lv_at hL 0 rfl) ?_
    refine xx_gi (ci := 11) (k := 4) C B xc_11 ht (by decide) (Nat.le_of_ble_eq_true rfl) rfl q1598 (fun _ h => h) dX12_isSo_64 ?_
    refine gg_icmp_ne hx hb 74 h dX12_isSo_67 (by decide) (fun h => ?_) (fun h => ?_)
    · refine lv_iconst (v := 0) hx hb dX12_isSo_74 (by decide) ?_
      exact hret _ _ _ _ _ _ _ ⟨Option.some.inj h, rfl, rfl⟩ (Or.inl rfl) B dX12_isSo_75
    · refine lv_iconst (v := 1) hx hb dX12_isSo_70 (by decide) ?_
      refine lv_goto (tgt := 75) hx hb dX12_isSo_71 (by decide) ?_
      exact hret _ _ _ _ _ _ _ ⟨Option.some.inj h, rfl, rfl⟩ (Or.inr rfl) B dX12_isSo_75
  refine lv_aload_n hx hb dX12_isSo_0 rfl (lv_at hL 0 rfl) ?_
  refine xx_gi (ci := 11) (k := 1) C B xc_11 ht (by decide) (Nat.le_of_ble_eq_true rfl) rfl q1595 (fun _ h => h) dX12_isSo_1 ?_
  refine gg_if_ge hx hb 33 h dX12_isSo_4 (by decide) (fun h => ?_) (fun h => ?_)
  · refine lv_aload_n hx hb dX12_isSo_33 rfl (lv_at hL 0 rfl) ?_
    refine xx_gr (ci := 11) (k := 6) C B xc_11 ht (by decide) (Nat.le_of_ble_eq_true rfl) rfl q1600 (fun _ h => h) h dX12_isSo_34 (fun v1 ok2 h => ?_)
    refine lv_aload_n hx hb dX12_isSo_37 rfl (lv_at hL 0 rfl) ?_
    refine xx_gi (ci := 11) (k := 0) C B xc_11 ht (by decide) (Nat.le_of_ble_eq_true rfl) rfl q1594 (fun _ h => h) dX12_isSo_38 ?_
    refine xx_is h (fun hp3 h => ?_)
    refine kn_X0_bookOf hp3 C B nw_q1658 (Nat.le_trans (Nat.le_of_ble_eq_true rfl) hF) (Nat.le_trans (Nat.le_of_ble_eq_true rfl) hN) hL.1 (Nat.le_of_ble_eq_true rfl) ⟨Nat.zero_le _, Nat.zero_le _⟩ h dX12_isSo_41 (fun q4 h H locs B => ?_)
    refine lv_aload_n hx hb dX12_isSo_44 rfl (lv_at hL 0 rfl) ?_
    refine xx_gr (ci := 11) (k := 6) C B xc_11 ht (by decide) (Nat.le_of_ble_eq_true rfl) rfl q1600 (fun _ h => h) h dX12_isSo_45 (fun v5 ok6 h => ?_)
    refine lv_aload_n hx hb dX12_isSo_48 rfl (lv_at hL 0 rfl) ?_
    refine xx_gi (ci := 11) (k := 1) C B xc_11 ht (by decide) (Nat.le_of_ble_eq_true rfl) rfl q1595 (fun _ h => h) dX12_isSo_49 ?_
    refine xx_is h (fun hp7 h => ?_)
    refine kn_X0_bookOf hp7 C B nw_q1658 (Nat.le_trans (Nat.le_of_ble_eq_true rfl) hF) (Nat.le_trans (Nat.le_of_ble_eq_true rfl) hN) hL.1 (Nat.le_of_ble_eq_true rfl) ⟨Nat.zero_le _, Nat.zero_le _⟩ h dX12_isSo_52 (fun q8 h H locs B => ?_)
    refine gg_icmp_le hx hb 62 h dX12_isSo_55 (by decide) (fun h => ?_) (fun h => ?_)
    · refine lv_iconst (v := 0) hx hb dX12_isSo_62 (by decide) ?_
      exact hj63 _ _ _ _ h B (lv_sub hL [0] rfl)
    · refine lv_iconst (v := 1) hx hb dX12_isSo_58 (by decide) ?_
      refine lv_goto (tgt := 63) hx hb dX12_isSo_59 (by decide) ?_
      exact hj63 _ _ _ _ h B (lv_sub hL [0] rfl)
  · refine lv_aload_n hx hb dX12_isSo_7 rfl (lv_at hL 0 rfl) ?_
    refine xx_gr (ci := 11) (k := 6) C B xc_11 ht (by decide) (Nat.le_of_ble_eq_true rfl) rfl q1600 (fun _ h => h) h dX12_isSo_8 (fun v9 ok10 h => ?_)
    refine lv_aload_n hx hb dX12_isSo_11 rfl (lv_at hL 0 rfl) ?_
    refine xx_gi (ci := 11) (k := 0) C B xc_11 ht (by decide) (Nat.le_of_ble_eq_true rfl) rfl q1594 (fun _ h => h) dX12_isSo_12 ?_
    refine xx_is h (fun hp11 h => ?_)
    refine kn_X0_bookOf hp11 C B nw_q1658 (Nat.le_trans (Nat.le_of_ble_eq_true rfl) hF) (Nat.le_trans (Nat.le_of_ble_eq_true rfl) hN) hL.1 (Nat.le_of_ble_eq_true rfl) ⟨Nat.zero_le _, Nat.zero_le _⟩ h dX12_isSo_15 (fun q12 h H locs B => ?_)
    refine lv_aload_n hx hb dX12_isSo_18 rfl (lv_at hL 0 rfl) ?_
    refine xx_gi (ci := 11) (k := 2) C B xc_11 ht (by decide) (Nat.le_of_ble_eq_true rfl) rfl q1596 (fun _ h => h) dX12_isSo_19 ?_
    refine gg_icmp_lt hx hb 29 h dX12_isSo_22 (by decide) (fun h => ?_) (fun h => ?_)
    · refine lv_iconst (v := 0) hx hb dX12_isSo_29 (by decide) ?_
      refine lv_goto (tgt := 63) hx hb dX12_isSo_30 (by decide) ?_
      exact hj63 _ _ _ _ h B (lv_sub hL [0] rfl)
    · refine lv_iconst (v := 1) hx hb dX12_isSo_25 (by decide) ?_
      refine lv_goto (tgt := 63) hx hb dX12_isSo_26 (by decide) ?_
      exact hj63 _ _ _ _ h B (lv_sub hL [0] rfl)
theorem k_X12_isSo {p : Program} {l : Launch} {e : Env} {R : Room} {s : State} {m : MethodId} {args : Array Value} {below : List Frame} {meth : Method} {c : Code} {H : Heap} {locs : List Loc} {Q : State → Prop} {pc : Nat} {ls : Array Slot} {rest : List Value} {cc : ByteArray} {nL cells slots : Nat} {D : va_G} {cA : Nat → ClassId} {ad : Nat → Nat} {hk : HK} {nx : Nat} {A : Nat → Prop} {gi : GI} {gr : GR} {α : Type} {r : α} {own : String} {idx : Nat} {a0 : Nat} {ff : Int32 → Option α} (ht : (hk a0).1 = 21) (C : CallFix p m c cc nL s args lw_all own) (B : XB D cA ad hk nx A s gi gr H locs) (hq : Cond.methodLink own idx yX12_isSo ∈ lw_all) (hF : 3 ≤ R.frames) (hN : 105 ≤ R.locals) (hs : ls.size = nL) (hw : (rest.map fun v => v.category).sum ≤ 8) (hz0 : cells ≤ R.cells ∧ slots ≤ R.slots) (h : (f_X12_isSo hk gi gr a0).bind ff = some r) (hdg : decode cc pc = .ok (.invokevirtual idx, 3)) (kk : ∀ q, ff q = some r → ∀ (H' : Heap) (locs' : List Loc), XB D cA ad hk nx A s gi gr H' locs' → W p l e R s m args below meth c H' locs' cells slots Q (F0 m (pc + 3) ls (.int q :: rest))) : W p l e R s m args below meth c H locs cells slots Q (F0 m pc ls (.ref (ad a0) :: rest)) := by
  obtain ⟨q, h1, h2⟩ := g_ob h
  refine xx_cVI (As := []) (rest := rest) (n := 0) xc_11 ht (by decide) C B (fun sz => w_X12_isSo l D cA ad hk nx gi gr a0 ht q h1 sz) hq q1655 q1656 q172 q1657 (by decide +kernel) ⟨hF, hN⟩ rfl hs hw hz0 hdg (fun v u H9 locs9 hp B9 => ?_)
  obtain ⟨e1, e2, e3⟩ := hp
  rw [e2] at B9
  rw [e3] at B9
  subst e1
  exact kk _ h2 H9 locs9 B9
def f_X0_giveFrom_l110 (rc : HK → GI → GR → Nat → Int32 → Int32 → Int32 → Option (Int32 × GI)) (hk : HK) (gri110 : GR) (a0i110 : Nat) (x1i110 : Int32) (x2i110 : Int32) (x3i110 : Int32) (x4l110 : Int32) (x5l110 : Int32) (gil110 : GI) : Option ((Int32 × Int32 × GI) ⊕ (Int32 × GI)) :=
  (f_X0_firstMen hk gil110 gri110 a0i110).bind fun q2 =>
  if q2 ≤ x5l110 then
  (some (.inr ((x4l110, gil110))))
  else
  (if ((x2i110 >>> (x5l110 &&& 31)) &&& 1) = 1 then
  (some (.inl ((x4l110, x5l110 + 1, gil110))))
  else
  ((gri110 a0i110 26).bind fun v3 =>
  (g_is hk v3 0).bind fun _ =>
  (g_st gil110 v3 (hk v3).2 x1i110 x5l110).bind fun gi6 =>
  (rc hk gi6 gri110 a0i110 (x1i110 + 1) (x2i110 ||| (1 <<< (x5l110 &&& 31))) x3i110).bind fun q7 =>
  some (.inl ((x4l110 + q7.1, x5l110 + 1, q7.2)))))
def f_X0_giveFrom_x110 (rc : HK → GI → GR → Nat → Int32 → Int32 → Int32 → Option (Int32 × GI)) (hk : HK) (gry110 : GR) (x4e110 : Int32) (gie110 : GI) : Option (Int32 × GI) :=
  some (x4e110, gie110)
def f_X0_giveFrom_l11 (rc : HK → GI → GR → Nat → Int32 → Int32 → Int32 → Option (Int32 × GI)) (hk : HK) (gii11 : GI) (gri11 : GR) (a0i11 : Nat) (x1i11 : Int32) (x3i11 : Int32) (x4l11 : Int32) : Option ((Int32) ⊕ ((Unit) ⊕ (Int32 × GI))) :=
  (gri11 a0i11 25).bind fun v8 =>
  (g_is hk v8 22).bind fun _ =>
  (f_J2_size hk gii11 gri11 v8).bind fun q11 =>
  if q11 ≤ x4l11 then
  (some (.inr (.inl ())))
  else
  ((gri11 a0i11 25).bind fun v12 =>
  (g_is hk v12 22).bind fun _ =>
  (f_J2_get hk gii11 gri11 v12 x4l11).bind fun q15 =>
  (g_is hk q15 21).bind fun _ =>
  (f_X12_isKnown hk gii11 gri11 q15 x3i11).bind fun q17 =>
  if q17 = 0 then
  (some (.inl (x4l11 + 1)))
  else
  ((gri11 a0i11 25).bind fun v18 =>
  (g_is hk v18 22).bind fun _ =>
  (f_J2_get hk gii11 gri11 v18 x4l11).bind fun q21 =>
  (g_is hk q21 21).bind fun _ =>
  (f_X12_isSo hk gii11 gri11 q21).bind fun q23 =>
  if q23 = 0 then
  (some (.inr (.inr (0, gii11))))
  else
  (some (.inl (x4l11 + 1)))))
def f_X0_giveFrom_l71 (rc : HK → GI → GR → Nat → Int32 → Int32 → Int32 → Option (Int32 × GI)) (hk : HK) (gri71 : GR) (a0i71 : Nat) (x1i71 : Int32) (x4l71 : Int32) (gil71 : GI) : Option ((Int32 × GI) ⊕ (GI)) :=
  if x1i71 ≤ x4l71 then
  (some (.inr gil71))
  else
  ((gri71 a0i71 27).bind fun v24 =>
  (g_is hk v24 6).bind fun _ =>
  (g_ldr gri71 v24 (hk v24).2 x4l71).bind fun v27 =>
  (gri71 a0i71 26).bind fun v29 =>
  (g_is hk v29 0).bind fun _ =>
  (g_ld gil71 v29 (hk v29).2 x4l71).bind fun v32 =>
  (g_is hk v27 0).bind fun _ =>
  (g_ld gil71 v27 (hk v27).2 v32).bind fun v34 =>
  (g_st gil71 v27 (hk v27).2 v32 (v34 + 1)).bind fun gi35 =>
  some (.inl ((x4l71 + 1, gi35))))
def f_X0_giveFrom_x71 (rc : HK → GI → GR → Nat → Int32 → Int32 → Int32 → Option (Int32 × GI)) (hk : HK) (gry71 : GR) (gie71 : GI) : Option (Int32 × GI) :=
  some (1, gie71)
def f_X0_giveFrom_x11 (rc : HK → GI → GR → Nat → Int32 → Int32 → Int32 → Option (Int32 × GI)) (hk : HK) (giy11 : GI) (gry11 : GR) (a0y11 : Nat) (x1y11 : Int32) : Option (Int32 × GI) :=
  (g_loop g_K (fun (s : Int32 × GI) => f_X0_giveFrom_l71 rc hk gry11 a0y11 x1y11 s.1 s.2) (0, giy11)).bind fun E71 => f_X0_giveFrom_x71 rc hk gry11 E71
def f_X0_giveFrom_b (rc : HK → GI → GR → Nat → Int32 → Int32 → Int32 → Option (Int32 × GI)) (hk : HK) (gi : GI) (gr : GR) (a0 : Nat) (x1 : Int32) (x2 : Int32) (x3 : Int32) : Option (Int32 × GI) :=
  (f_X0_firstMen hk gi gr a0).bind fun q1 =>
  if x1 = q1 then
  ((g_loop g_K (fun (s : Int32) => f_X0_giveFrom_l11 rc hk gi gr a0 x1 x3 s) (0)).bind fun E11 => Sum.elim (fun (S11 : Unit) => f_X0_giveFrom_x11 rc hk gi gr a0 x1) (fun (r11 : Int32 × GI) => some r11) E11)
  else
  ((g_loop g_K (fun (s : Int32 × Int32 × GI) => f_X0_giveFrom_l110 rc hk gr a0 x1 x2 x3 s.1 s.2.1 s.2.2) (0, 0, gi)).bind fun E110 => f_X0_giveFrom_x110 rc hk gr E110.1 E110.2)
theorem kb_X0_giveFrom {p : Program} {l : Launch} {e : Env} {R : Room} {s : State} {m : MethodId} {args : Array Value} {below : List Frame} {meth : Method} {c : Code} {H : Heap} {locs : List Loc} {Q : State → Prop} {pc : Nat} {ls : Array Slot} {rest : List Value} {cc : ByteArray} {nL cells slots : Nat} {D : va_G} {cA : Nat → ClassId} {ad : Nat → Nat} {hk : HK} {nx : Nat} {A : Nat → Prop} {gi : GI} {gr : GR} {α : Type} {r : α} {own : String} {rc : HK → GI → GR → Nat → Int32 → Int32 → Int32 → Option (Int32 × GI)} {fr lo : Nat} {idx : Nat} {a0 : Nat} {x1 : Int32} {x2 : Int32} {x3 : Int32} {ff : (Int32 × GI) → Option α} (ht : (hk a0).1 = 10) (hrc : ∀ (gi : GI) (gr : GR) (x1 : Int32) (x2 : Int32) (x3 : Int32) (r : Int32 × GI), rc hk gi gr a0 x1 x2 x3 = some r → ∀ sz, Met l yX0_giveFrom (ws_ yX0_giveFrom cX0_giveFrom 6 (some .int)) ({ frames := fr, cells := 0, slots := 0, locals := lo } : Room) (va_Pc [.ref (ad a0), .int x1, .int x2, .int x3] (XPre D cA ad hk nx gi gr sz)) (va_Qi (fun v u => (v, u.1) = r ∧ u.2 = gr) (XPost D cA ad hk nx) (XA ad nx sz)) 0 0 (XA ad nx sz)) (C : CallFix p m c cc nL s args lw_all own) (B : XB D cA ad hk nx A s gi gr H locs) (hq : Cond.methodLink own idx yX0_giveFrom ∈ lw_all) (hF : fr + 1 ≤ R.frames) (hN : 8 + (6 + 11) + lo ≤ R.locals) (hs : ls.size = nL) (hw : (rest.map fun v => v.category).sum ≤ 8) (hz0 : cells ≤ R.cells ∧ slots ≤ R.slots) (h : (rc hk gi gr a0 x1 x2 x3).bind ff = some r) (hdg : decode cc pc = .ok (.invokevirtual idx, 3)) (kk : ∀ q, ff q = some r → ∀ (H' : Heap) (locs' : List Loc), XB D cA ad hk nx A s q.2 gr H' locs' → W p l e R s m args below meth c H' locs' cells slots Q (F0 m (pc + 3) ls (.int q.1 :: rest))) : W p l e R s m args below meth c H locs cells slots Q (F0 m pc ls (.int x3 :: .int x2 :: .int x1 :: .ref (ad a0) :: rest)) := by
  obtain ⟨q, h1, h2⟩ := g_ob h
  refine xx_cVI (As := [.int x1, .int x2, .int x3]) (rest := rest) (n := 3) xc_0 ht (by decide) C B (fun sz => hrc gi gr x1 x2 x3 q h1 sz) hq q1648 qs64 q141 q1649 (by decide +kernel) ⟨hF, hN⟩ rfl hs hw hz0 hdg (fun v u H9 locs9 hp B9 => ?_)
  obtain ⟨e1, e3⟩ := hp
  rw [e3] at B9
  subst e1
  exact kk _ h2 H9 locs9 B9
set_option maxHeartbeats 400000 in
theorem wb_X0_giveFrom (l : Launch) (D : va_G) (cA : Nat → ClassId) (ad : Nat → Nat) (hk : HK) (nx : Nat) (rc : HK → GI → GR → Nat → Int32 → Int32 → Int32 → Option (Int32 × GI)) (fr lo : Nat) (hfr : 4 ≤ fr) (hlo : 128 ≤ lo) (a0 : Nat) (ht : (hk a0).1 = 10) (hrc : ∀ (gi : GI) (gr : GR) (x1 : Int32) (x2 : Int32) (x3 : Int32) (r : Int32 × GI), rc hk gi gr a0 x1 x2 x3 = some r → ∀ sz, Met l yX0_giveFrom (ws_ yX0_giveFrom cX0_giveFrom 6 (some .int)) ({ frames := fr, cells := 0, slots := 0, locals := lo } : Room) (va_Pc [.ref (ad a0), .int x1, .int x2, .int x3] (XPre D cA ad hk nx gi gr sz)) (va_Qi (fun v u => (v, u.1) = r ∧ u.2 = gr) (XPost D cA ad hk nx) (XA ad nx sz)) 0 0 (XA ad nx sz)) (gi : GI) (gr : GR) (x1 : Int32) (x2 : Int32) (x3 : Int32) (r : Int32 × GI) (h : f_X0_giveFrom_b rc hk gi gr a0 x1 x2 x3 = some r) (sz : Nat) : Met l yX0_giveFrom (ws_ yX0_giveFrom cX0_giveFrom 6 (some .int)) ({ frames := fr + 1, cells := 0, slots := 0, locals := lo + 30 } : Room) (va_Pc [.ref (ad a0), .int x1, .int x2, .int x3] (XPre D cA ad hk nx gi gr sz)) (va_Qi (fun v u => (v, u.1) = r ∧ u.2 = gr) (XPost D cA ad hk nx) (XA ad nx sz)) 0 0 (XA ad nx sz) := by
  refine xx_stI (own := RX0) (P := (fun v u => (v, u.1) = r ∧ u.2 = gr)) (by decide +kernel) rfl (Nat.le_of_ble_eq_true rfl) (fun p e s m args below meth c R Q A ls C hF hN B hret hL => ?_) sz
  have hx := C.1
  have hb := C.2.1
  have hL : lv_has ls 6 [(0, .ref (ad a0)), (1, .int x1), (2, .int x2), (3, .int x3)] := hL
  unfold f_X0_giveFrom_b at h
  refine lv_iload_n hx hb dX0_giveFrom_0 rfl (lv_at hL 1 rfl) ?_
  refine lv_aload_n hx hb dX0_giveFrom_1 rfl (lv_at hL 0 rfl) ?_
  refine k_X0_firstMen ht C B q1584 (by omega) (by omega) hL.1 (Nat.le_of_ble_eq_true rfl) ⟨Nat.zero_le _, Nat.zero_le _⟩ h dX0_giveFrom_2 (fun q1 h H locs B => ?_)
  refine gg_icmp_ne hx hb 104 h dX0_giveFrom_5 (by decide) (fun h => ?_) (fun h => ?_)
  · refine lv_iconst (v := 0) hx hb dX0_giveFrom_104 (by decide) ?_
    refine lv_istore (lv' := [(4, .int 0), (0, .ref (ad a0)), (1, .int x1), (2, .int x2), (3, .int x3)]) hx hb dX0_giveFrom_105 hL (by decide) rfl (fun ls hL => ?_)
    refine lv_iconst (v := 0) hx hb dX0_giveFrom_107 (by decide) ?_
    refine lv_istore (lv' := [(5, .int 0), (4, .int 0), (0, .ref (ad a0)), (1, .int x1), (2, .int x2), (3, .int x3)]) hx hb dX0_giveFrom_108 hL (by decide) rfl (fun ls hL => ?_)
    obtain ⟨E110, h8110, h⟩ := g_ob h
    have kx110 : ∀ (x4e110 : Int32) (gie110 : GI) (H : Heap) (locs : List Loc) (ls : Array Slot), (x4e110, gie110) = E110 → XB D cA ad hk nx A s gie110 gr H locs → lv_has ls 6 [(4, .int x4e110)] → W p l e R s m args below meth c H locs 0 0 Q (F0 m 165 ls []) := by
      intro x4e110 gie110 H locs ls he B hL
      subst he
      have h : f_X0_giveFrom_x110 rc hk gr x4e110 gie110 = some r := h
      unfold f_X0_giveFrom_x110 at h
      refine lv_iload hx hb dX0_giveFrom_165 (lv_at hL 0 rfl) ?_
      exact hret _ _ _ _ _ _ _ ⟨Option.some.inj h, rfl⟩ B dX0_giveFrom_167
    have hl110 : ∀ (k : Nat) (x4l110 : Int32) (x5l110 : Int32) (gil110 : GI) (H : Heap) (locs : List Loc) (ls : Array Slot), g_loop k (fun (s : Int32 × Int32 × GI) => f_X0_giveFrom_l110 rc hk gr a0 x1 x2 x3 s.1 s.2.1 s.2.2) (x4l110, x5l110, gil110) = some E110 → XB D cA ad hk nx A s gil110 gr H locs → lv_has ls 6 [(0, .ref (ad a0)), (1, .int x1), (2, .int x2), (3, .int x3), (4, .int x4l110), (5, .int x5l110)] → W p l e R s m args below meth c H locs 0 0 Q (F0 m 110 ls []) := by
      intro k
      induction k with
      | zero => intro x4l110 x5l110 gil110 H locs ls h; exact absurd h (fun z => g_loop_0 z)
      | succ k ih110 =>
        intro x4l110 x5l110 gil110 H locs ls h B hL
        obtain ⟨Z110, h, h9110⟩ := g_loop_s h
        have h : f_X0_giveFrom_l110 rc hk gr a0 x1 x2 x3 x4l110 x5l110 gil110 = some Z110 := h
        unfold f_X0_giveFrom_l110 at h
        refine lv_iload hx hb dX0_giveFrom_110 (lv_at hL 5 rfl) ?_
        refine lv_aload_n hx hb dX0_giveFrom_112 rfl (lv_at hL 0 rfl) ?_
        refine k_X0_firstMen ht C B q1584 (by omega) (by omega) hL.1 (Nat.le_of_ble_eq_true rfl) ⟨Nat.zero_le _, Nat.zero_le _⟩ h dX0_giveFrom_113 (fun q2 h H locs B => ?_)
        refine gg_icmp_ge hx hb 165 h dX0_giveFrom_116 (by decide) (fun h => ?_) (fun h => ?_)
        · exact kx110 _ _ _ _ _ (g_exit h h9110) B (lv_sub hL [4] rfl)
        · refine lv_iload_n hx hb dX0_giveFrom_119 rfl (lv_at hL 2 rfl) ?_
          refine lv_iload hx hb dX0_giveFrom_120 (lv_at hL 5 rfl) ?_
          refine lv_ishr hx hb dX0_giveFrom_122 ?_
          refine lv_iconst (v := 1) hx hb dX0_giveFrom_123 (by decide) ?_
          refine lv_iand hx hb dX0_giveFrom_124 ?_
          refine lv_iconst (v := 1) hx hb dX0_giveFrom_125 (by decide) ?_
          refine gg_icmp_ne hx hb 132 h dX0_giveFrom_126 (by decide) (fun h => ?_) (fun h => ?_)
          · refine lv_aload_n hx hb dX0_giveFrom_132 rfl (lv_at hL 0 rfl) ?_
            refine xx_gr (ci := 0) (k := 26) C B xc_0 ht (by decide) (Nat.le_of_ble_eq_true rfl) rfl q386 (fun _ h => h) h dX0_giveFrom_133 (fun v3 ok4 h => ?_)
            refine lv_iload_n hx hb dX0_giveFrom_136 rfl (lv_at hL 1 rfl) ?_
            refine lv_iload hx hb dX0_giveFrom_137 (lv_at hL 5 rfl) ?_
            refine xx_is h (fun hp5 h => ?_)
            refine xx_iast C B hp5 h dX0_giveFrom_139 (fun gi6 h H locs B => ?_)
            refine lv_iload hx hb dX0_giveFrom_140 (lv_at hL 4 rfl) ?_
            refine lv_aload_n hx hb dX0_giveFrom_142 rfl (lv_at hL 0 rfl) ?_
            refine lv_iload_n hx hb dX0_giveFrom_143 rfl (lv_at hL 1 rfl) ?_
            refine lv_iconst (v := 1) hx hb dX0_giveFrom_144 (by decide) ?_
            refine lv_iadd hx hb dX0_giveFrom_145 ?_
            refine lv_iload_n hx hb dX0_giveFrom_146 rfl (lv_at hL 2 rfl) ?_
            refine lv_iconst (v := 1) hx hb dX0_giveFrom_147 (by decide) ?_
            refine lv_iload hx hb dX0_giveFrom_148 (lv_at hL 5 rfl) ?_
            refine lv_ishl hx hb dX0_giveFrom_150 ?_
            refine lv_ior hx hb dX0_giveFrom_151 ?_
            refine lv_iload_n hx hb dX0_giveFrom_152 rfl (lv_at hL 3 rfl) ?_
            refine kb_X0_giveFrom ht hrc C B q1646 (by omega) (by omega) hL.1 (Nat.le_of_ble_eq_true rfl) ⟨Nat.zero_le _, Nat.zero_le _⟩ h dX0_giveFrom_153 (fun q7 h H locs B => ?_)
            refine lv_iadd hx hb dX0_giveFrom_156 ?_
            refine lv_istore (lv' := [(4, .int (x4l110 + q7.1)), (0, .ref (ad a0)), (1, .int x1), (2, .int x2), (3, .int x3), (5, .int x5l110)]) hx hb dX0_giveFrom_157 hL (by decide) rfl (fun ls hL => ?_)
            refine lv_iinc (v := x5l110 + 1) (lv' := [(5, .int (x5l110 + 1)), (4, .int (x4l110 + q7.1)), (0, .ref (ad a0)), (1, .int x1), (2, .int x2), (3, .int x3)]) hx hb dX0_giveFrom_159 hL (k := 5) rfl rfl (by decide) rfl (fun ls hL => ?_)
            refine lv_goto (tgt := 110) hx hb dX0_giveFrom_162 (by decide) ?_
            exact ih110 _ _ _ _ _ _ (g_next h h9110) B (lv_sub hL [2, 3, 4, 5, 1, 0] rfl)
          · refine lv_goto (tgt := 159) hx hb dX0_giveFrom_129 (by decide) ?_
            refine lv_iinc (v := x5l110 + 1) (lv' := [(5, .int (x5l110 + 1)), (0, .ref (ad a0)), (1, .int x1), (2, .int x2), (3, .int x3), (4, .int x4l110)]) hx hb dX0_giveFrom_159 hL (k := 5) rfl rfl (by decide) rfl (fun ls hL => ?_)
            refine lv_goto (tgt := 110) hx hb dX0_giveFrom_162 (by decide) ?_
            exact ih110 _ _ _ _ _ _ (g_next h h9110) B (lv_sub hL [1, 2, 3, 4, 5, 0] rfl)
    exact hl110 g_K _ _ _ _ _ _ h8110 B (lv_sub hL [2, 3, 4, 5, 1, 0] rfl)
  · refine lv_iconst (v := 0) hx hb dX0_giveFrom_8 (by decide) ?_
    refine lv_istore (lv' := [(4, .int 0), (0, .ref (ad a0)), (1, .int x1), (2, .int x2), (3, .int x3)]) hx hb dX0_giveFrom_9 hL (by decide) rfl (fun ls hL => ?_)
    obtain ⟨E11, h811, h⟩ := g_ob h
    have kx11 : ∀  (H : Heap) (locs : List Loc) (ls : Array Slot), Sum.inl () = E11 → XB D cA ad hk nx A s gi gr H locs → lv_has ls 6 [(0, .ref (ad a0)), (1, .int x1)] → W p l e R s m args below meth c H locs 0 0 Q (F0 m 68 ls []) := by
      intro  H locs ls he B hL
      subst he
      have h : f_X0_giveFrom_x11 rc hk gi gr a0 x1 = some r := h
      unfold f_X0_giveFrom_x11 at h
      refine lv_iconst (v := 0) hx hb dX0_giveFrom_68 (by decide) ?_
      refine lv_istore (lv' := [(4, .int 0), (0, .ref (ad a0)), (1, .int x1)]) hx hb dX0_giveFrom_69 hL (by decide) rfl (fun ls hL => ?_)
      obtain ⟨E71, h871, h⟩ := g_ob h
      have kx71 : ∀ (gie71 : GI) (H : Heap) (locs : List Loc) (ls : Array Slot), gie71 = E71 → XB D cA ad hk nx A s gie71 gr H locs → lv_has ls 6 [] → W p l e R s m args below meth c H locs 0 0 Q (F0 m 102 ls []) := by
        intro gie71 H locs ls he B hL
        subst he
        have h : f_X0_giveFrom_x71 rc hk gr gie71 = some r := h
        unfold f_X0_giveFrom_x71 at h
        refine lv_iconst (v := 1) hx hb dX0_giveFrom_102 (by decide) ?_
        exact hret _ _ _ _ _ _ _ ⟨Option.some.inj h, rfl⟩ B dX0_giveFrom_103
      have hl71 : ∀ (k : Nat) (x4l71 : Int32) (gil71 : GI) (H : Heap) (locs : List Loc) (ls : Array Slot), g_loop k (fun (s : Int32 × GI) => f_X0_giveFrom_l71 rc hk gr a0 x1 s.1 s.2) (x4l71, gil71) = some E71 → XB D cA ad hk nx A s gil71 gr H locs → lv_has ls 6 [(0, .ref (ad a0)), (1, .int x1), (4, .int x4l71)] → W p l e R s m args below meth c H locs 0 0 Q (F0 m 71 ls []) := by
        intro k
        induction k with
        | zero => intro x4l71 gil71 H locs ls h; exact absurd h (fun z => g_loop_0 z)
        | succ k ih71 =>
          intro x4l71 gil71 H locs ls h B hL
          obtain ⟨Z71, h, h971⟩ := g_loop_s h
          have h : f_X0_giveFrom_l71 rc hk gr a0 x1 x4l71 gil71 = some Z71 := h
          unfold f_X0_giveFrom_l71 at h
          refine lv_iload hx hb dX0_giveFrom_71 (lv_at hL 2 rfl) ?_
          refine lv_iload_n hx hb dX0_giveFrom_73 rfl (lv_at hL 1 rfl) ?_
          refine gg_icmp_ge hx hb 102 h dX0_giveFrom_74 (by decide) (fun h => ?_) (fun h => ?_)
          · exact kx71 _ _ _ _ (g_exit h h971) B (lv_sub hL [] rfl)
          · refine lv_aload_n hx hb dX0_giveFrom_77 rfl (lv_at hL 0 rfl) ?_
            refine xx_gr (ci := 0) (k := 27) C B xc_0 ht (by decide) (Nat.le_of_ble_eq_true rfl) rfl q387 (fun _ h => h) h dX0_giveFrom_78 (fun v24 ok25 h => ?_)
            refine lv_iload hx hb dX0_giveFrom_81 (lv_at hL 2 rfl) ?_
            refine xx_is h (fun hp26 h => ?_)
            refine xx_aaldA C B hp26 h dX0_giveFrom_83 (fun v27 ok28 h => ?_)
            refine lv_aload_n hx hb dX0_giveFrom_84 rfl (lv_at hL 0 rfl) ?_
            refine xx_gr (ci := 0) (k := 26) C B xc_0 ht (by decide) (Nat.le_of_ble_eq_true rfl) rfl q386 (fun _ h => h) h dX0_giveFrom_85 (fun v29 ok30 h => ?_)
            refine lv_iload hx hb dX0_giveFrom_88 (lv_at hL 2 rfl) ?_
            refine xx_is h (fun hp31 h => ?_)
            refine xx_iald C B hp31 h dX0_giveFrom_90 (fun v32 h => ?_)
            refine lv_dup2_11 hx hb dX0_giveFrom_91 rfl rfl ?_
            refine xx_is h (fun hp33 h => ?_)
            refine xx_iald C B hp33 h dX0_giveFrom_92 (fun v34 h => ?_)
            refine lv_iconst (v := 1) hx hb dX0_giveFrom_93 (by decide) ?_
            refine lv_iadd hx hb dX0_giveFrom_94 ?_
            refine xx_iast C B hp33 h dX0_giveFrom_95 (fun gi35 h H locs B => ?_)
            refine lv_iinc (v := x4l71 + 1) (lv' := [(4, .int (x4l71 + 1)), (0, .ref (ad a0)), (1, .int x1)]) hx hb dX0_giveFrom_96 hL (k := 2) rfl rfl (by decide) rfl (fun ls hL => ?_)
            refine lv_goto (tgt := 71) hx hb dX0_giveFrom_99 (by decide) ?_
            exact ih71 _ _ _ _ _ (g_next h h971) B (lv_sub hL [1, 2, 0] rfl)
      exact hl71 g_K _ _ _ _ _ h871 B (lv_sub hL [1, 2, 0] rfl)
    have kr11 : ∀ (v : Int32) (g' : GI) (H : Heap) (locs : List Loc) (ls : Array Slot) (pc : Nat), Sum.inr (v, g') = E11 → XB D cA ad hk nx A s g' gr H locs → decode cX0_giveFrom pc = .ok (.ireturn, 1) → W p l e R s m args below meth c H locs 0 0 Q (F0 m pc ls [.int v]) := by
      intro v g' H locs ls pc he B hd
      subst he
      have h := g_er h
      exact hret _ _ _ _ _ _ _ ⟨Option.some.inj h, rfl⟩ B hd
    have hl11 : ∀ (k : Nat) (x4l11 : Int32) (H : Heap) (locs : List Loc) (ls : Array Slot), g_loop k (fun (s : Int32) => f_X0_giveFrom_l11 rc hk gi gr a0 x1 x3 s) x4l11 = some E11 → XB D cA ad hk nx A s gi gr H locs → lv_has ls 6 [(0, .ref (ad a0)), (1, .int x1), (3, .int x3), (4, .int x4l11)] → W p l e R s m args below meth c H locs 0 0 Q (F0 m 11 ls []) := by
      intro k
      induction k with
      | zero => intro x4l11 H locs ls h; exact absurd h (fun z => g_loop_0 z)
      | succ k ih11 =>
        intro x4l11 H locs ls h B hL
        obtain ⟨Z11, h, h911⟩ := g_loop_s h
        have h : f_X0_giveFrom_l11 rc hk gi gr a0 x1 x3 x4l11 = some Z11 := h
        unfold f_X0_giveFrom_l11 at h
        refine lv_iload hx hb dX0_giveFrom_11 (lv_at hL 3 rfl) ?_
        refine lv_aload_n hx hb dX0_giveFrom_13 rfl (lv_at hL 0 rfl) ?_
        refine xx_gr (ci := 0) (k := 25) C B xc_0 ht (by decide) (Nat.le_of_ble_eq_true rfl) rfl q385 (fun _ h => h) h dX0_giveFrom_14 (fun v8 ok9 h => ?_)
        refine xx_is h (fun hp10 h => ?_)
        refine k_J2_size hp10 C B q1234 (by omega) (by omega) hL.1 (Nat.le_of_ble_eq_true rfl) ⟨Nat.zero_le _, Nat.zero_le _⟩ h dX0_giveFrom_17 (fun q11 h H locs B => ?_)
        refine gg_icmp_ge hx hb 68 h dX0_giveFrom_20 (by decide) (fun h => ?_) (fun h => ?_)
        · exact kx11  _ _ _ (g_exit h h911) B (lv_sub hL [0, 1] rfl)
        · refine lv_aload_n hx hb dX0_giveFrom_23 rfl (lv_at hL 0 rfl) ?_
          refine xx_gr (ci := 0) (k := 25) C B xc_0 ht (by decide) (Nat.le_of_ble_eq_true rfl) rfl q385 (fun _ h => h) h dX0_giveFrom_24 (fun v12 ok13 h => ?_)
          refine lv_iload hx hb dX0_giveFrom_27 (lv_at hL 3 rfl) ?_
          refine xx_is h (fun hp14 h => ?_)
          refine k_J2_get hp14 C B q1251 (by omega) (by omega) hL.1 (Nat.le_of_ble_eq_true rfl) ⟨Nat.zero_le _, Nat.zero_le _⟩ h dX0_giveFrom_29 (fun q15 h H locs B => ?_)
          refine xx_is h (fun hp16 h => ?_)
          refine xx_cast C B xc_11 hp16 (by decide) q1588 dX0_giveFrom_32 ?_
          refine lv_iload_n hx hb dX0_giveFrom_35 rfl (lv_at hL 2 rfl) ?_
          refine k_X12_isKnown hp16 C B q1650 (by omega) (by omega) hL.1 (Nat.le_of_ble_eq_true rfl) ⟨Nat.zero_le _, Nat.zero_le _⟩ h dX0_giveFrom_36 (fun q17 h H locs B => ?_)
          refine gg_if_eq hx hb 62 h dX0_giveFrom_39 (by decide) (fun h => ?_) (fun h => ?_)
          · refine lv_iinc (v := x4l11 + 1) (lv' := [(4, .int (x4l11 + 1)), (0, .ref (ad a0)), (1, .int x1), (3, .int x3)]) hx hb dX0_giveFrom_62 hL (k := 3) rfl rfl (by decide) rfl (fun ls hL => ?_)
            refine lv_goto (tgt := 11) hx hb dX0_giveFrom_65 (by decide) ?_
            exact ih11 _ _ _ _ (g_next h h911) B (lv_sub hL [1, 2, 3, 0] rfl)
          · refine lv_aload_n hx hb dX0_giveFrom_42 rfl (lv_at hL 0 rfl) ?_
            refine xx_gr (ci := 0) (k := 25) C B xc_0 ht (by decide) (Nat.le_of_ble_eq_true rfl) rfl q385 (fun _ h => h) h dX0_giveFrom_43 (fun v18 ok19 h => ?_)
            refine lv_iload hx hb dX0_giveFrom_46 (lv_at hL 3 rfl) ?_
            refine xx_is h (fun hp20 h => ?_)
            refine k_J2_get hp20 C B q1251 (by omega) (by omega) hL.1 (Nat.le_of_ble_eq_true rfl) ⟨Nat.zero_le _, Nat.zero_le _⟩ h dX0_giveFrom_48 (fun q21 h H locs B => ?_)
            refine xx_is h (fun hp22 h => ?_)
            refine xx_cast C B xc_11 hp22 (by decide) q1588 dX0_giveFrom_51 ?_
            refine k_X12_isSo hp22 C B q1654 (by omega) (by omega) hL.1 (Nat.le_of_ble_eq_true rfl) ⟨Nat.zero_le _, Nat.zero_le _⟩ h dX0_giveFrom_54 (fun q23 h H locs B => ?_)
            refine gg_if_ne hx hb 62 h dX0_giveFrom_57 (by decide) (fun h => ?_) (fun h => ?_)
            · refine lv_iinc (v := x4l11 + 1) (lv' := [(4, .int (x4l11 + 1)), (0, .ref (ad a0)), (1, .int x1), (3, .int x3)]) hx hb dX0_giveFrom_62 hL (k := 3) rfl rfl (by decide) rfl (fun ls hL => ?_)
              refine lv_goto (tgt := 11) hx hb dX0_giveFrom_65 (by decide) ?_
              exact ih11 _ _ _ _ (g_next h h911) B (lv_sub hL [1, 2, 3, 0] rfl)
            · refine lv_iconst (v := 0) hx hb dX0_giveFrom_60 (by decide) ?_
              exact kr11 _ _ _ _ _ _ (g_exit h h911) B dX0_giveFrom_61
    exact hl11 g_K _ _ _ _ h811 B (lv_sub hL [1, 2, 4, 0] rfl)
def f_X0_giveFrom : Nat → HK → GI → GR → Nat → Int32 → Int32 → Int32 → Option (Int32 × GI)
  | 0 => fun _ _ _ _ _ _ _ => none
  | d + 1 => f_X0_giveFrom_b (f_X0_giveFrom d)
theorem wd_X0_giveFrom (l : Launch) (D : va_G) (cA : Nat → ClassId) (ad : Nat → Nat) (hk : HK) (nx : Nat) (a0 : Nat) (ht : (hk a0).1 = 10) : ∀ (d : Nat) (gi : GI) (gr : GR) (x1 : Int32) (x2 : Int32) (x3 : Int32) (r : Int32 × GI), f_X0_giveFrom d hk gi gr a0 x1 x2 x3 = some r → ∀ sz, Met l yX0_giveFrom (ws_ yX0_giveFrom cX0_giveFrom 6 (some .int)) ({ frames := 4 + d, cells := 0, slots := 0, locals := 128 + 30 * d } : Room) (va_Pc [.ref (ad a0), .int x1, .int x2, .int x3] (XPre D cA ad hk nx gi gr sz)) (va_Qi (fun v u => (v, u.1) = r ∧ u.2 = gr) (XPost D cA ad hk nx) (XA ad nx sz)) 0 0 (XA ad nx sz) := by
  intro d
  induction d with
  | zero => intro gi gr x1 x2 x3 r h; cases h
  | succ d ih =>
    intro gi gr x1 x2 x3 r h sz
    have h1 := wb_X0_giveFrom l D cA ad hk nx (f_X0_giveFrom d) (4 + d) (128 + 30 * d) (by omega) (by omega) a0 ht ih gi gr x1 x2 x3 r h sz
    exact h1
theorem w_X0_giveFrom (l : Launch) (D : va_G) (cA : Nat → ClassId) (ad : Nat → Nat) (hk : HK) (nx : Nat) (gi : GI) (gr : GR) (a0 : Nat) (x1 : Int32) (x2 : Int32) (x3 : Int32) (ht : (hk a0).1 = 10) (r : Int32 × GI) (h : f_X0_giveFrom 8 hk gi gr a0 x1 x2 x3 = some r) (sz : Nat) : Met l yX0_giveFrom (ws_ yX0_giveFrom cX0_giveFrom 6 (some .int)) ({ frames := 12, cells := 0, slots := 0, locals := 368 } : Room) (va_Pc [.ref (ad a0), .int x1, .int x2, .int x3] (XPre D cA ad hk nx gi gr sz)) (va_Qi (fun v u => (v, u.1) = r ∧ u.2 = gr) (XPost D cA ad hk nx) (XA ad nx sz)) 0 0 (XA ad nx sz) := wd_X0_giveFrom l D cA ad hk nx a0 ht 8 gi gr x1 x2 x3 r h sz
theorem k_X0_giveFrom {p : Program} {l : Launch} {e : Env} {R : Room} {s : State} {m : MethodId} {args : Array Value} {below : List Frame} {meth : Method} {c : Code} {H : Heap} {locs : List Loc} {Q : State → Prop} {pc : Nat} {ls : Array Slot} {rest : List Value} {cc : ByteArray} {nL cells slots : Nat} {D : va_G} {cA : Nat → ClassId} {ad : Nat → Nat} {hk : HK} {nx : Nat} {A : Nat → Prop} {gi : GI} {gr : GR} {α : Type} {r : α} {own : String} {idx : Nat} {a0 : Nat} {x1 : Int32} {x2 : Int32} {x3 : Int32} {ff : (Int32 × GI) → Option α} (ht : (hk a0).1 = 10) (C : CallFix p m c cc nL s args lw_all own) (B : XB D cA ad hk nx A s gi gr H locs) (hq : Cond.methodLink own idx yX0_giveFrom ∈ lw_all) (hF : 13 ≤ R.frames) (hN : 393 ≤ R.locals) (hs : ls.size = nL) (hw : (rest.map fun v => v.category).sum ≤ 8) (hz0 : cells ≤ R.cells ∧ slots ≤ R.slots) (h : (f_X0_giveFrom 8 hk gi gr a0 x1 x2 x3).bind ff = some r) (hdg : decode cc pc = .ok (.invokevirtual idx, 3)) (kk : ∀ q, ff q = some r → ∀ (H' : Heap) (locs' : List Loc), XB D cA ad hk nx A s q.2 gr H' locs' → W p l e R s m args below meth c H' locs' cells slots Q (F0 m (pc + 3) ls (.int q.1 :: rest))) : W p l e R s m args below meth c H locs cells slots Q (F0 m pc ls (.int x3 :: .int x2 :: .int x1 :: .ref (ad a0) :: rest)) := by
  obtain ⟨q, h1, h2⟩ := g_ob h
  refine xx_cVI (As := [.int x1, .int x2, .int x3]) (rest := rest) (n := 3) xc_0 ht (by decide) C B (fun sz => w_X0_giveFrom l D cA ad hk nx gi gr a0 x1 x2 x3 ht q h1 sz) hq q1648 qs64 q141 q1649 (by decide +kernel) ⟨hF, hN⟩ rfl hs hw hz0 hdg (fun v u H9 locs9 hp B9 => ?_)
  obtain ⟨e1, e3⟩ := hp
  rw [e3] at B9
  subst e1
  exact kk _ h2 H9 locs9 B9
def f_X0_layOrders_l26 (hk : HK) (gri26 : GR) (a0i26 : Nat) (x1i26 : Int32) (a2i26 : Nat) (x3i26 : Int32) (x4i26 : Int32) (a5i26 : Nat) (x6l26 : Int32) (gil26 : GI) : Option ((Int32 × GI) ⊕ (GI)) :=
  if 5 ≤ x6l26 then
  (some (.inr gil26))
  else
  ((g_is hk a5i26 0).bind fun _ =>
  (g_st gil26 a5i26 (hk a5i26).2 x6l26 0).bind fun gi7 =>
  some (.inl ((x6l26 + 1, gi7))))
def f_X0_layOrders_x26 (hk : HK) (gry26 : GR) (a0y26 : Nat) (x1y26 : Int32) (a2y26 : Nat) (x3y26 : Int32) (x4y26 : Int32) (gie26 : GI) : Option ((Int32 × GI) ⊕ (GI)) :=
  some (.inl ((x4y26 + 1, gie26)))
def f_X0_layOrders_l11 (hk : HK) (gri11 : GR) (a0i11 : Nat) (x1i11 : Int32) (a2i11 : Nat) (x3i11 : Int32) (x4l11 : Int32) (gil11 : GI) : Option ((Int32 × GI) ⊕ (GI)) :=
  if x3i11 ≤ x4l11 then
  (some (.inr gil11))
  else
  ((g_ldr gri11 a2i11 (hk a2i11).2 x4l11).bind fun v4 =>
  (g_loop g_K (fun (s : Int32 × GI) => f_X0_layOrders_l26 hk gri11 a0i11 x1i11 a2i11 x3i11 x4l11 v4 s.1 s.2) (0, gil11)).bind fun E26 => f_X0_layOrders_x26 hk gri11 a0i11 x1i11 a2i11 x3i11 x4l11 E26)
def f_X0_layOrders_x11 (hk : HK) (gry11 : GR) (a0y11 : Nat) (x1y11 : Int32) (gie11 : GI) : Option (Int32 × GI) :=
  (f_X0_giveFrom 8 hk gie11 gry11 a0y11 0 0 x1y11).bind fun q8 =>
  some (q8.1, q8.2)
def f_X0_layOrders (hk : HK) (gi : GI) (gr : GR) (a0 : Nat) (x1 : Int32) : Option (Int32 × GI) :=
  (gr a0 27).bind fun v1 =>
  (g_is hk v1 6).bind fun _ =>
  (g_loop g_K (fun (s : Int32 × GI) => f_X0_layOrders_l11 hk gr a0 x1 v1 (Int32.ofNat (hk v1).2) s.1 s.2) (0, gi)).bind fun E11 => f_X0_layOrders_x11 hk gr a0 x1 E11
set_option maxHeartbeats 400000 in
theorem w_X0_layOrders (l : Launch) (D : va_G) (cA : Nat → ClassId) (ad : Nat → Nat) (hk : HK) (nx : Nat) (gi : GI) (gr : GR) (a0 : Nat) (x1 : Int32) (ht : (hk a0).1 = 10) (r : Int32 × GI) (h : f_X0_layOrders hk gi gr a0 x1 = some r) (sz : Nat) : Met l yX0_layOrders (ws_ yX0_layOrders cX0_layOrders 7 (some .int)) ({ frames := 13, cells := 0, slots := 0, locals := 393 } : Room) (va_Pc [.ref (ad a0), .int x1] (XPre D cA ad hk nx gi gr sz)) (va_Qi (fun v u => (v, u.1) = r ∧ u.2 = gr) (XPost D cA ad hk nx) (XA ad nx sz)) 0 0 (XA ad nx sz) := by
  refine xx_stI (own := RX0) (P := (fun v u => (v, u.1) = r ∧ u.2 = gr)) (by decide +kernel) rfl (Nat.le_of_ble_eq_true rfl) (fun p e s m args below meth c R Q A ls C hF hN B hret hL => ?_) sz
  have hx := C.1
  have hb := C.2.1
  have hL : lv_has ls 7 [(0, .ref (ad a0)), (1, .int x1)] := hL
  unfold f_X0_layOrders at h
  refine lv_aload_n hx hb dX0_layOrders_0 rfl (lv_at hL 0 rfl) ?_
  refine xx_gr (ci := 0) (k := 27) C B xc_0 ht (by decide) (Nat.le_of_ble_eq_true rfl) rfl q387 (fun _ h => h) h dX0_layOrders_1 (fun v1 ok2 h => ?_)
  refine lv_astore_n (lv' := [(2, .ref (ad v1)), (0, .ref (ad a0)), (1, .int x1)]) hx hb dX0_layOrders_4 rfl hL (by decide) rfl (fun ls hL => ?_)
  refine lv_aload_n hx hb dX0_layOrders_5 rfl (lv_at hL 0 rfl) ?_
  refine xx_is h (fun hp3 h => ?_)
  refine xx_alen C B hp3 (by decide) dX0_layOrders_6 ?_
  refine lv_istore_n (lv' := [(3, .int (Int32.ofNat (hk v1).2)), (2, .ref (ad v1)), (0, .ref (ad a0)), (1, .int x1)]) hx hb dX0_layOrders_7 rfl hL (by decide) rfl (fun ls hL => ?_)
  refine lv_iconst (v := 0) hx hb dX0_layOrders_8 (by decide) ?_
  refine lv_istore (lv' := [(4, .int 0), (3, .int (Int32.ofNat (hk v1).2)), (2, .ref (ad v1)), (0, .ref (ad a0)), (1, .int x1)]) hx hb dX0_layOrders_9 hL (by decide) rfl (fun ls hL => ?_)
  obtain ⟨E11, h811, h⟩ := g_ob h
  have kx11 : ∀ (gie11 : GI) (H : Heap) (locs : List Loc) (ls : Array Slot), gie11 = E11 → XB D cA ad hk nx A s gie11 gr H locs → lv_has ls 7 [(0, .ref (ad a0)), (1, .int x1)] → W p l e R s m args below meth c H locs 0 0 Q (F0 m 50 ls []) := by
    intro gie11 H locs ls he B hL
    subst he
    have h : f_X0_layOrders_x11 hk gr a0 x1 gie11 = some r := h
    unfold f_X0_layOrders_x11 at h
    refine lv_aload_n hx hb dX0_layOrders_50 rfl (lv_at hL 0 rfl) ?_
    refine lv_iconst (v := 0) hx hb dX0_layOrders_51 (by decide) ?_
    refine lv_iconst (v := 0) hx hb dX0_layOrders_52 (by decide) ?_
    refine lv_iload_n hx hb dX0_layOrders_53 rfl (lv_at hL 1 rfl) ?_
    refine k_X0_giveFrom ht C B q1646 (Nat.le_trans (Nat.le_of_ble_eq_true rfl) hF) (Nat.le_trans (Nat.le_of_ble_eq_true rfl) hN) hL.1 (Nat.le_of_ble_eq_true rfl) ⟨Nat.zero_le _, Nat.zero_le _⟩ h dX0_layOrders_54 (fun q8 h H locs B => ?_)
    exact hret _ _ _ _ _ _ _ ⟨Option.some.inj h, rfl⟩ B dX0_layOrders_57
  have hl11 : ∀ (k : Nat) (x4l11 : Int32) (gil11 : GI) (H : Heap) (locs : List Loc) (ls : Array Slot), g_loop k (fun (s : Int32 × GI) => f_X0_layOrders_l11 hk gr a0 x1 v1 (Int32.ofNat (hk v1).2) s.1 s.2) (x4l11, gil11) = some E11 → XB D cA ad hk nx A s gil11 gr H locs → lv_has ls 7 [(0, .ref (ad a0)), (1, .int x1), (2, .ref (ad v1)), (3, .int (Int32.ofNat (hk v1).2)), (4, .int x4l11)] → W p l e R s m args below meth c H locs 0 0 Q (F0 m 11 ls []) := by
    intro k
    induction k with
    | zero => intro x4l11 gil11 H locs ls h; exact absurd h (fun z => g_loop_0 z)
    | succ k ih11 =>
      intro x4l11 gil11 H locs ls h B hL
      obtain ⟨Z11, h, h911⟩ := g_loop_s h
      have h : f_X0_layOrders_l11 hk gr a0 x1 v1 (Int32.ofNat (hk v1).2) x4l11 gil11 = some Z11 := h
      unfold f_X0_layOrders_l11 at h
      refine lv_iload hx hb dX0_layOrders_11 (lv_at hL 4 rfl) ?_
      refine lv_iload_n hx hb dX0_layOrders_13 rfl (lv_at hL 3 rfl) ?_
      refine gg_icmp_ge hx hb 50 h dX0_layOrders_14 (by decide) (fun h => ?_) (fun h => ?_)
      · exact kx11 _ _ _ _ (g_exit h h911) B (lv_sub hL [0, 1] rfl)
      · refine lv_aload_n hx hb dX0_layOrders_17 rfl (lv_at hL 2 rfl) ?_
        refine lv_iload hx hb dX0_layOrders_18 (lv_at hL 4 rfl) ?_
        refine xx_aaldA C B hp3 h dX0_layOrders_20 (fun v4 ok5 h => ?_)
        refine lv_astore (lv' := [(5, .ref (ad v4)), (0, .ref (ad a0)), (1, .int x1), (2, .ref (ad v1)), (3, .int (Int32.ofNat (hk v1).2)), (4, .int x4l11)]) hx hb dX0_layOrders_21 hL (by decide) rfl (fun ls hL => ?_)
        refine lv_iconst (v := 0) hx hb dX0_layOrders_23 (by decide) ?_
        refine lv_istore (lv' := [(6, .int 0), (5, .ref (ad v4)), (0, .ref (ad a0)), (1, .int x1), (2, .ref (ad v1)), (3, .int (Int32.ofNat (hk v1).2)), (4, .int x4l11)]) hx hb dX0_layOrders_24 hL (by decide) rfl (fun ls hL => ?_)
        obtain ⟨E26, h826, h⟩ := g_ob h
        have kx26 : ∀ (gie26 : GI) (H : Heap) (locs : List Loc) (ls : Array Slot), gie26 = E26 → XB D cA ad hk nx A s gie26 gr H locs → lv_has ls 7 [(0, .ref (ad a0)), (1, .int x1), (2, .ref (ad v1)), (3, .int (Int32.ofNat (hk v1).2)), (4, .int x4l11)] → W p l e R s m args below meth c H locs 0 0 Q (F0 m 44 ls []) := by
          intro gie26 H locs ls he B hL
          subst he
          have h : f_X0_layOrders_x26 hk gr a0 x1 v1 (Int32.ofNat (hk v1).2) x4l11 gie26 = some Z11 := h
          unfold f_X0_layOrders_x26 at h
          refine lv_iinc (v := x4l11 + 1) (lv' := [(4, .int (x4l11 + 1)), (0, .ref (ad a0)), (1, .int x1), (2, .ref (ad v1)), (3, .int (Int32.ofNat (hk v1).2))]) hx hb dX0_layOrders_44 hL (k := 4) rfl rfl (by decide) rfl (fun ls hL => ?_)
          refine lv_goto (tgt := 11) hx hb dX0_layOrders_47 (by decide) ?_
          exact ih11 _ _ _ _ _ (g_next h h911) B (lv_sub hL [1, 2, 3, 4, 0] rfl)
        have hl26 : ∀ (k : Nat) (x6l26 : Int32) (gil26 : GI) (H : Heap) (locs : List Loc) (ls : Array Slot), g_loop k (fun (s : Int32 × GI) => f_X0_layOrders_l26 hk gr a0 x1 v1 (Int32.ofNat (hk v1).2) x4l11 v4 s.1 s.2) (x6l26, gil26) = some E26 → XB D cA ad hk nx A s gil26 gr H locs → lv_has ls 7 [(0, .ref (ad a0)), (1, .int x1), (2, .ref (ad v1)), (3, .int (Int32.ofNat (hk v1).2)), (4, .int x4l11), (5, .ref (ad v4)), (6, .int x6l26)] → W p l e R s m args below meth c H locs 0 0 Q (F0 m 26 ls []) := by
          intro k
          induction k with
          | zero => intro x6l26 gil26 H locs ls h; exact absurd h (fun z => g_loop_0 z)
          | succ k ih26 =>
            intro x6l26 gil26 H locs ls h B hL
            obtain ⟨Z26, h, h926⟩ := g_loop_s h
            have h : f_X0_layOrders_l26 hk gr a0 x1 v1 (Int32.ofNat (hk v1).2) x4l11 v4 x6l26 gil26 = some Z26 := h
            unfold f_X0_layOrders_l26 at h
            refine lv_iload hx hb dX0_layOrders_26 (lv_at hL 6 rfl) ?_
            refine lv_iconst (v := 5) hx hb dX0_layOrders_28 (by decide) ?_
            refine gg_icmp_ge hx hb 44 h dX0_layOrders_29 (by decide) (fun h => ?_) (fun h => ?_)
            · exact kx26 _ _ _ _ (g_exit h h926) B (lv_sub hL [0, 1, 2, 3, 4] rfl)
            · refine lv_aload hx hb dX0_layOrders_32 (lv_at hL 5 rfl) ?_
              refine lv_iload hx hb dX0_layOrders_34 (lv_at hL 6 rfl) ?_
              refine lv_iconst (v := 0) hx hb dX0_layOrders_36 (by decide) ?_
              refine xx_is h (fun hp6 h => ?_)
              refine xx_iast C B hp6 h dX0_layOrders_37 (fun gi7 h H locs B => ?_)
              refine lv_iinc (v := x6l26 + 1) (lv' := [(6, .int (x6l26 + 1)), (0, .ref (ad a0)), (1, .int x1), (2, .ref (ad v1)), (3, .int (Int32.ofNat (hk v1).2)), (4, .int x4l11), (5, .ref (ad v4))]) hx hb dX0_layOrders_38 hL (k := 6) rfl rfl (by decide) rfl (fun ls hL => ?_)
              refine lv_goto (tgt := 26) hx hb dX0_layOrders_41 (by decide) ?_
              exact ih26 _ _ _ _ _ (g_next h h926) B (lv_sub hL [1, 2, 3, 4, 5, 6, 0] rfl)
        exact hl26 g_K _ _ _ _ _ h826 B (lv_sub hL [2, 3, 4, 5, 6, 1, 0] rfl)
  exact hl11 g_K _ _ _ _ _ h811 B (lv_sub hL [3, 4, 2, 1, 0] rfl)
theorem k_X0_layOrders {p : Program} {l : Launch} {e : Env} {R : Room} {s : State} {m : MethodId} {args : Array Value} {below : List Frame} {meth : Method} {c : Code} {H : Heap} {locs : List Loc} {Q : State → Prop} {pc : Nat} {ls : Array Slot} {rest : List Value} {cc : ByteArray} {nL cells slots : Nat} {D : va_G} {cA : Nat → ClassId} {ad : Nat → Nat} {hk : HK} {nx : Nat} {A : Nat → Prop} {gi : GI} {gr : GR} {α : Type} {r : α} {own : String} {idx : Nat} {a0 : Nat} {x1 : Int32} {ff : (Int32 × GI) → Option α} (ht : (hk a0).1 = 10) (C : CallFix p m c cc nL s args lw_all own) (B : XB D cA ad hk nx A s gi gr H locs) (hq : Cond.methodLink own idx yX0_layOrders ∈ lw_all) (hF : 14 ≤ R.frames) (hN : 419 ≤ R.locals) (hs : ls.size = nL) (hw : (rest.map fun v => v.category).sum ≤ 8) (hz0 : cells ≤ R.cells ∧ slots ≤ R.slots) (h : (f_X0_layOrders hk gi gr a0 x1).bind ff = some r) (hdg : decode cc pc = .ok (.invokevirtual idx, 3)) (kk : ∀ q, ff q = some r → ∀ (H' : Heap) (locs' : List Loc), XB D cA ad hk nx A s q.2 gr H' locs' → W p l e R s m args below meth c H' locs' cells slots Q (F0 m (pc + 3) ls (.int q.1 :: rest))) : W p l e R s m args below meth c H locs cells slots Q (F0 m pc ls (.int x1 :: .ref (ad a0) :: rest)) := by
  obtain ⟨q, h1, h2⟩ := g_ob h
  refine xx_cVI (As := [.int x1]) (rest := rest) (n := 1) xc_0 ht (by decide) C B (fun sz => w_X0_layOrders l D cA ad hk nx gi gr a0 x1 ht q h1 sz) hq q1644 qs63 q141 q1645 (by decide +kernel) ⟨hF, hN⟩ rfl hs hw hz0 hdg (fun v u H9 locs9 hp B9 => ?_)
  obtain ⟨e1, e3⟩ := hp
  rw [e3] at B9
  subst e1
  exact kk _ h2 H9 locs9 B9
def f_X0_orders (hk : HK) (gi : GI) (gr : GR) (a0 : Nat) (x1 : Int32) : Option (Int32 × GI) :=
  (f_X0_layOrders hk gi gr a0 x1).bind fun q1 =>
  some (q1.1, q1.2)
set_option maxHeartbeats 400000 in
theorem w_X0_orders (l : Launch) (D : va_G) (cA : Nat → ClassId) (ad : Nat → Nat) (hk : HK) (nx : Nat) (gi : GI) (gr : GR) (a0 : Nat) (x1 : Int32) (ht : (hk a0).1 = 10) (r : Int32 × GI) (h : f_X0_orders hk gi gr a0 x1 = some r) (sz : Nat) : Met l yX0_orders (ws_ yX0_orders cX0_orders 2 (some .int)) ({ frames := 14, cells := 0, slots := 0, locals := 419 } : Room) (va_Pc [.ref (ad a0), .int x1] (XPre D cA ad hk nx gi gr sz)) (va_Qi (fun v u => (v, u.1) = r ∧ u.2 = gr) (XPost D cA ad hk nx) (XA ad nx sz)) 0 0 (XA ad nx sz) := by
  refine xx_stI (own := RX0) (P := (fun v u => (v, u.1) = r ∧ u.2 = gr)) (by decide +kernel) rfl (Nat.le_of_ble_eq_true rfl) (fun p e s m args below meth c R Q A ls C hF hN B hret hL => ?_) sz
  have hx := C.1
  have hb := C.2.1
  have hL : lv_has ls 2 [(0, .ref (ad a0)), (1, .int x1)] := hL
  unfold f_X0_orders at h
  refine lv_aload_n hx hb dX0_orders_0 rfl (lv_at hL 0 rfl) ?_
  refine lv_iload_n hx hb dX0_orders_1 rfl (lv_at hL 1 rfl) ?_
  refine k_X0_layOrders ht C B q1642 (Nat.le_trans (Nat.le_of_ble_eq_true rfl) hF) (Nat.le_trans (Nat.le_of_ble_eq_true rfl) hN) hL.1 (Nat.le_of_ble_eq_true rfl) ⟨Nat.zero_le _, Nat.zero_le _⟩ h dX0_orders_2 (fun q1 h H locs B => ?_)
  exact hret _ _ _ _ _ _ _ ⟨Option.some.inj h, rfl⟩ B dX0_orders_5
theorem k_X0_orders {p : Program} {l : Launch} {e : Env} {R : Room} {s : State} {m : MethodId} {args : Array Value} {below : List Frame} {meth : Method} {c : Code} {H : Heap} {locs : List Loc} {Q : State → Prop} {pc : Nat} {ls : Array Slot} {rest : List Value} {cc : ByteArray} {nL cells slots : Nat} {D : va_G} {cA : Nat → ClassId} {ad : Nat → Nat} {hk : HK} {nx : Nat} {A : Nat → Prop} {gi : GI} {gr : GR} {α : Type} {r : α} {own : String} {idx : Nat} {a0 : Nat} {x1 : Int32} {ff : (Int32 × GI) → Option α} (ht : (hk a0).1 = 10) (C : CallFix p m c cc nL s args lw_all own) (B : XB D cA ad hk nx A s gi gr H locs) (hq : Cond.methodLink own idx yX0_orders ∈ lw_all) (hF : 15 ≤ R.frames) (hN : 440 ≤ R.locals) (hs : ls.size = nL) (hw : (rest.map fun v => v.category).sum ≤ 8) (hz0 : cells ≤ R.cells ∧ slots ≤ R.slots) (h : (f_X0_orders hk gi gr a0 x1).bind ff = some r) (hdg : decode cc pc = .ok (.invokevirtual idx, 3)) (kk : ∀ q, ff q = some r → ∀ (H' : Heap) (locs' : List Loc), XB D cA ad hk nx A s q.2 gr H' locs' → W p l e R s m args below meth c H' locs' cells slots Q (F0 m (pc + 3) ls (.int q.1 :: rest))) : W p l e R s m args below meth c H locs cells slots Q (F0 m pc ls (.int x1 :: .ref (ad a0) :: rest)) := by
  obtain ⟨q, h1, h2⟩ := g_ob h
  refine xx_cVI (As := [.int x1]) (rest := rest) (n := 1) xc_0 ht (by decide) C B (fun sz => w_X0_orders l D cA ad hk nx gi gr a0 x1 ht q h1 sz) hq q1639 q1640 q141 q1641 (by decide +kernel) ⟨hF, hN⟩ rfl hs hw hz0 hdg (fun v u H9 locs9 hp B9 => ?_)
  obtain ⟨e1, e3⟩ := hp
  rw [e3] at B9
  subst e1
  exact kk _ h2 H9 locs9 B9
def f_X0_sure_l23 (hk : HK) (gii23 : GI) (gri23 : GR) (a0i23 : Nat) (x1i23 : Int32) (x3i23 : Int32) (x4l23 : Int32) (x5l23 : Int32) : Option ((Int32 × Int32) ⊕ (Int32)) :=
  if 5 ≤ x5l23 then
  (some (.inr x4l23))
  else
  ((gri23 a0i23 27).bind fun v3 =>
  (g_is hk v3 6).bind fun _ =>
  (g_ldr gri23 v3 (hk v3).2 x1i23).bind fun v6 =>
  (g_is hk v6 0).bind fun _ =>
  (g_ld gii23 v6 (hk v6).2 x5l23).bind fun v9 =>
  if v9 = x3i23 then
  (some (.inl ((x5l23, x5l23 + 1))))
  else
  (some (.inl ((x4l23, x5l23 + 1)))))
def f_X0_sure_x23 (hk : HK) (giy23 : GI) (gry23 : GR) (x3y23 : Int32) (x4e23 : Int32) : Option (Int32 × GI) :=
  if x3y23 = 0 then
  (some ((-1), giy23))
  else
  (some (x4e23, giy23))
def f_X0_sure (hk : HK) (gi : GI) (gr : GR) (a0 : Nat) (x1 : Int32) (x2 : Int32) : Option (Int32 × GI) :=
  (f_X0_isFirst hk gi gr a0 x1).bind fun q1 =>
  if q1 = 0 then
  (some ((-1), gi))
  else
  ((f_X0_layOrders hk gi gr a0 x2).bind fun q2 =>
  (g_loop g_K (fun (s : Int32 × Int32) => f_X0_sure_l23 hk q2.2 gr a0 x1 q2.1 s.1 s.2) ((-2), 0)).bind fun E23 => f_X0_sure_x23 hk q2.2 gr q2.1 E23)
set_option maxHeartbeats 400000 in
theorem w_X0_sure (l : Launch) (D : va_G) (cA : Nat → ClassId) (ad : Nat → Nat) (hk : HK) (nx : Nat) (gi : GI) (gr : GR) (a0 : Nat) (x1 : Int32) (x2 : Int32) (ht : (hk a0).1 = 10) (r : Int32 × GI) (h : f_X0_sure hk gi gr a0 x1 x2 = some r) (sz : Nat) : Met l yX0_sure (ws_ yX0_sure cX0_sure 6 (some .int)) ({ frames := 14, cells := 0, slots := 0, locals := 419 } : Room) (va_Pc [.ref (ad a0), .int x1, .int x2] (XPre D cA ad hk nx gi gr sz)) (va_Qi (fun v u => (v, u.1) = r ∧ u.2 = gr) (XPost D cA ad hk nx) (XA ad nx sz)) 0 0 (XA ad nx sz) := by
  refine xx_stI (own := RX0) (P := (fun v u => (v, u.1) = r ∧ u.2 = gr)) (by decide +kernel) rfl (Nat.le_of_ble_eq_true rfl) (fun p e s m args below meth c R Q A ls C hF hN B hret hL => ?_) sz
  have hx := C.1
  have hb := C.2.1
  have hL : lv_has ls 6 [(0, .ref (ad a0)), (1, .int x1), (2, .int x2)] := hL
  unfold f_X0_sure at h
  refine lv_aload_n hx hb dX0_sure_0 rfl (lv_at hL 0 rfl) ?_
  refine lv_iload_n hx hb dX0_sure_1 rfl (lv_at hL 1 rfl) ?_
  refine k_X0_isFirst ht C B q1580 (Nat.le_trans (Nat.le_of_ble_eq_true rfl) hF) (Nat.le_trans (Nat.le_of_ble_eq_true rfl) hN) hL.1 (Nat.le_of_ble_eq_true rfl) ⟨Nat.zero_le _, Nat.zero_le _⟩ h dX0_sure_2 (fun q1 h H locs B => ?_)
  refine gg_if_ne hx hb 10 h dX0_sure_5 (by decide) (fun h => ?_) (fun h => ?_)
  · refine lv_aload_n hx hb dX0_sure_10 rfl (lv_at hL 0 rfl) ?_
    refine lv_iload_n hx hb dX0_sure_11 rfl (lv_at hL 2 rfl) ?_
    refine k_X0_layOrders ht C B q1642 (Nat.le_trans (Nat.le_of_ble_eq_true rfl) hF) (Nat.le_trans (Nat.le_of_ble_eq_true rfl) hN) hL.1 (Nat.le_of_ble_eq_true rfl) ⟨Nat.zero_le _, Nat.zero_le _⟩ h dX0_sure_12 (fun q2 h H locs B => ?_)
    refine lv_istore_n (lv' := [(3, .int q2.1), (0, .ref (ad a0)), (1, .int x1), (2, .int x2)]) hx hb dX0_sure_15 rfl hL (by decide) rfl (fun ls hL => ?_)
    refine lv_bipush (v := (-2)) hx hb dX0_sure_16 (by decide) ?_
    refine lv_istore (lv' := [(4, .int ((-2))), (3, .int q2.1), (0, .ref (ad a0)), (1, .int x1), (2, .int x2)]) hx hb dX0_sure_18 hL (by decide) rfl (fun ls hL => ?_)
    refine lv_iconst (v := 0) hx hb dX0_sure_20 (by decide) ?_
    refine lv_istore (lv' := [(5, .int 0), (4, .int ((-2))), (3, .int q2.1), (0, .ref (ad a0)), (1, .int x1), (2, .int x2)]) hx hb dX0_sure_21 hL (by decide) rfl (fun ls hL => ?_)
    obtain ⟨E23, h823, h⟩ := g_ob h
    have kx23 : ∀ (x4e23 : Int32) (H : Heap) (locs : List Loc) (ls : Array Slot), x4e23 = E23 → XB D cA ad hk nx A s q2.2 gr H locs → lv_has ls 6 [(3, .int q2.1), (4, .int x4e23)] → W p l e R s m args below meth c H locs 0 0 Q (F0 m 57 ls []) := by
      intro x4e23 H locs ls he B hL
      subst he
      have h : f_X0_sure_x23 hk q2.2 gr q2.1 x4e23 = some r := h
      unfold f_X0_sure_x23 at h
      refine lv_iload_n hx hb dX0_sure_57 rfl (lv_at hL 0 rfl) ?_
      refine gg_if_ne hx hb 65 h dX0_sure_58 (by decide) (fun h => ?_) (fun h => ?_)
      · refine lv_iload hx hb dX0_sure_65 (lv_at hL 1 rfl) ?_
        exact hret _ _ _ _ _ _ _ ⟨Option.some.inj h, rfl⟩ B dX0_sure_67
      · refine lv_iconst (v := (-1)) hx hb dX0_sure_61 (by decide) ?_
        refine lv_goto (tgt := 67) hx hb dX0_sure_62 (by decide) ?_
        exact hret _ _ _ _ _ _ _ ⟨Option.some.inj h, rfl⟩ B dX0_sure_67
    have hl23 : ∀ (k : Nat) (x4l23 : Int32) (x5l23 : Int32) (H : Heap) (locs : List Loc) (ls : Array Slot), g_loop k (fun (s : Int32 × Int32) => f_X0_sure_l23 hk q2.2 gr a0 x1 q2.1 s.1 s.2) (x4l23, x5l23) = some E23 → XB D cA ad hk nx A s q2.2 gr H locs → lv_has ls 6 [(0, .ref (ad a0)), (1, .int x1), (3, .int q2.1), (4, .int x4l23), (5, .int x5l23)] → W p l e R s m args below meth c H locs 0 0 Q (F0 m 23 ls []) := by
      intro k
      induction k with
      | zero => intro x4l23 x5l23 H locs ls h; exact absurd h (fun z => g_loop_0 z)
      | succ k ih23 =>
        intro x4l23 x5l23 H locs ls h B hL
        obtain ⟨Z23, h, h923⟩ := g_loop_s h
        have h : f_X0_sure_l23 hk q2.2 gr a0 x1 q2.1 x4l23 x5l23 = some Z23 := h
        unfold f_X0_sure_l23 at h
        refine lv_iload hx hb dX0_sure_23 (lv_at hL 4 rfl) ?_
        refine lv_iconst (v := 5) hx hb dX0_sure_25 (by decide) ?_
        refine gg_icmp_ge hx hb 57 h dX0_sure_26 (by decide) (fun h => ?_) (fun h => ?_)
        · exact kx23 _ _ _ _ (g_exit h h923) B (lv_sub hL [2, 3] rfl)
        · refine lv_aload_n hx hb dX0_sure_29 rfl (lv_at hL 0 rfl) ?_
          refine xx_gr (ci := 0) (k := 27) C B xc_0 ht (by decide) (Nat.le_of_ble_eq_true rfl) rfl q387 (fun _ h => h) h dX0_sure_30 (fun v3 ok4 h => ?_)
          refine lv_iload_n hx hb dX0_sure_33 rfl (lv_at hL 1 rfl) ?_
          refine xx_is h (fun hp5 h => ?_)
          refine xx_aaldA C B hp5 h dX0_sure_34 (fun v6 ok7 h => ?_)
          refine lv_iload hx hb dX0_sure_35 (lv_at hL 4 rfl) ?_
          refine xx_is h (fun hp8 h => ?_)
          refine xx_iald C B hp8 h dX0_sure_37 (fun v9 h => ?_)
          refine lv_iload_n hx hb dX0_sure_38 rfl (lv_at hL 2 rfl) ?_
          refine gg_icmp_ne hx hb 47 h dX0_sure_39 (by decide) (fun h => ?_) (fun h => ?_)
          · refine lv_iload hx hb dX0_sure_47 (lv_at hL 3 rfl) ?_
            refine lv_istore (lv' := [(4, .int x4l23), (0, .ref (ad a0)), (1, .int x1), (3, .int q2.1), (5, .int x5l23)]) hx hb dX0_sure_49 hL (by decide) rfl (fun ls hL => ?_)
            refine lv_iinc (v := x5l23 + 1) (lv' := [(5, .int (x5l23 + 1)), (4, .int x4l23), (0, .ref (ad a0)), (1, .int x1), (3, .int q2.1)]) hx hb dX0_sure_51 hL (k := 4) rfl rfl (by decide) rfl (fun ls hL => ?_)
            refine lv_goto (tgt := 23) hx hb dX0_sure_54 (by decide) ?_
            exact ih23 _ _ _ _ _ (g_next h h923) B (lv_sub hL [2, 3, 4, 1, 0] rfl)
          · refine lv_iload hx hb dX0_sure_42 (lv_at hL 4 rfl) ?_
            refine lv_goto (tgt := 49) hx hb dX0_sure_44 (by decide) ?_
            refine lv_istore (lv' := [(4, .int x5l23), (0, .ref (ad a0)), (1, .int x1), (3, .int q2.1), (5, .int x5l23)]) hx hb dX0_sure_49 hL (by decide) rfl (fun ls hL => ?_)
            refine lv_iinc (v := x5l23 + 1) (lv' := [(5, .int (x5l23 + 1)), (4, .int x5l23), (0, .ref (ad a0)), (1, .int x1), (3, .int q2.1)]) hx hb dX0_sure_51 hL (k := 4) rfl rfl (by decide) rfl (fun ls hL => ?_)
            refine lv_goto (tgt := 23) hx hb dX0_sure_54 (by decide) ?_
            exact ih23 _ _ _ _ _ (g_next h h923) B (lv_sub hL [2, 3, 4, 1, 0] rfl)
    exact hl23 g_K _ _ _ _ _ h823 B (lv_sub hL [3, 4, 2, 1, 0] rfl)
  · refine lv_iconst (v := (-1)) hx hb dX0_sure_8 (by decide) ?_
    exact hret _ _ _ _ _ _ _ ⟨Option.some.inj h, rfl⟩ B dX0_sure_9
theorem k_X0_sure {p : Program} {l : Launch} {e : Env} {R : Room} {s : State} {m : MethodId} {args : Array Value} {below : List Frame} {meth : Method} {c : Code} {H : Heap} {locs : List Loc} {Q : State → Prop} {pc : Nat} {ls : Array Slot} {rest : List Value} {cc : ByteArray} {nL cells slots : Nat} {D : va_G} {cA : Nat → ClassId} {ad : Nat → Nat} {hk : HK} {nx : Nat} {A : Nat → Prop} {gi : GI} {gr : GR} {α : Type} {r : α} {own : String} {idx : Nat} {a0 : Nat} {x1 : Int32} {x2 : Int32} {ff : (Int32 × GI) → Option α} (ht : (hk a0).1 = 10) (C : CallFix p m c cc nL s args lw_all own) (B : XB D cA ad hk nx A s gi gr H locs) (hq : Cond.methodLink own idx yX0_sure ∈ lw_all) (hF : 15 ≤ R.frames) (hN : 444 ≤ R.locals) (hs : ls.size = nL) (hw : (rest.map fun v => v.category).sum ≤ 8) (hz0 : cells ≤ R.cells ∧ slots ≤ R.slots) (h : (f_X0_sure hk gi gr a0 x1 x2).bind ff = some r) (hdg : decode cc pc = .ok (.invokevirtual idx, 3)) (kk : ∀ q, ff q = some r → ∀ (H' : Heap) (locs' : List Loc), XB D cA ad hk nx A s q.2 gr H' locs' → W p l e R s m args below meth c H' locs' cells slots Q (F0 m (pc + 3) ls (.int q.1 :: rest))) : W p l e R s m args below meth c H locs cells slots Q (F0 m pc ls (.int x2 :: .int x1 :: .ref (ad a0) :: rest)) := by
  obtain ⟨q, h1, h2⟩ := g_ob h
  refine xx_cVI (As := [.int x1, .int x2]) (rest := rest) (n := 2) xc_0 ht (by decide) C B (fun sz => w_X0_sure l D cA ad hk nx gi gr a0 x1 x2 ht q h1 sz) hq q1663 q1664 q141 q1665 (by decide +kernel) ⟨hF, hN⟩ rfl hs hw hz0 hdg (fun v u H9 locs9 hp B9 => ?_)
  obtain ⟨e1, e3⟩ := hp
  rw [e3] at B9
  subst e1
  exact kk _ h2 H9 locs9 B9
def f_X0_ask_l61 (hk : HK) (gii61 : GI) (gri61 : GR) (a0i61 : Nat) (x1i61 : Int32) (x4i61 : Int32) (x5i61 : Int32) (x6i61 : Int32) (a8i61 : Nat) (x9i61 : Int32) (x7l61 : Int32) (x10l61 : Int32) : Option ((Int32 × Int32) ⊕ (Int32)) :=
  if x9i61 ≤ x10l61 then
  (some (.inr x7l61))
  else
  ((g_ld gii61 a8i61 (hk a8i61).2 x10l61).bind fun v10 =>
  some (.inl ((if x7l61 < v10 then v10 else x7l61, x10l61 + 1))))
def f_X0_ask_x61 (hk : HK) (giy61 : GI) (gry61 : GR) (a0y61 : Nat) (x1y61 : Int32) (x4y61 : Int32) (x5y61 : Int32) (x6y61 : Int32) (x7e61 : Int32) : Option ((Int32 × Int32 × Int32) ⊕ (Int32 × Int32)) :=
  if x7e61 < x5y61 then
  (some (.inl ((x6y61, x7e61, x6y61 + 1))))
  else
  (some (.inl ((x4y61, x5y61, x6y61 + 1))))
def f_X0_ask_l32 (hk : HK) (gii32 : GI) (gri32 : GR) (a0i32 : Nat) (x1i32 : Int32) (x4l32 : Int32) (x5l32 : Int32) (x6l32 : Int32) : Option ((Int32 × Int32 × Int32) ⊕ (Int32 × Int32)) :=
  (f_X0_firstMen hk gii32 gri32 a0i32).bind fun q3 =>
  if q3 ≤ x6l32 then
  (some (.inr ((x4l32, x5l32))))
  else
  ((gri32 a0i32 27).bind fun v4 =>
  (g_is hk v4 6).bind fun _ =>
  (g_ldr gri32 v4 (hk v4).2 x6l32).bind fun v7 =>
  (g_is hk v7 0).bind fun _ =>
  (g_loop g_K (fun (s : Int32 × Int32) => f_X0_ask_l61 hk gii32 gri32 a0i32 x1i32 x4l32 x5l32 x6l32 v7 (Int32.ofNat (hk v7).2) s.1 s.2) (0, 0)).bind fun E61 => f_X0_ask_x61 hk gii32 gri32 a0i32 x1i32 x4l32 x5l32 x6l32 E61)
def f_X0_ask_x32 (hk : HK) (giy32 : GI) (gry32 : GR) (x1y32 : Int32) (x4e32 : Int32) (x5e32 : Int32) : Option (Int32 × GI) :=
  if 0 ≤ x4e32 then
  (if x1y32 = 0 then
  (some (x4e32, giy32))
  else
  (some (x5e32, giy32)))
  else
  (some ((-1), giy32))
def f_X0_ask (hk : HK) (gi : GI) (gr : GR) (a0 : Nat) (x1 : Int32) (x2 : Int32) : Option (Int32 × GI) :=
  (f_X0_layOrders hk gi gr a0 x2).bind fun q1 =>
  (f_X0_isIn hk q1.2 gr x1 0 1).bind fun q2 =>
  if q2 = 0 then
  (some ((-1), q1.2))
  else
  (if q1.1 = 0 then
  (some ((-1), q1.2))
  else
  ((g_loop g_K (fun (s : Int32 × Int32 × Int32) => f_X0_ask_l32 hk q1.2 gr a0 x1 s.1 s.2.1 s.2.2) ((-1), q1.1 + 1, 0)).bind fun E32 => f_X0_ask_x32 hk q1.2 gr x1 E32.1 E32.2))
set_option maxHeartbeats 400000 in
theorem w_X0_ask (l : Launch) (D : va_G) (cA : Nat → ClassId) (ad : Nat → Nat) (hk : HK) (nx : Nat) (gi : GI) (gr : GR) (a0 : Nat) (x1 : Int32) (x2 : Int32) (ht : (hk a0).1 = 10) (r : Int32 × GI) (h : f_X0_ask hk gi gr a0 x1 x2 = some r) (sz : Nat) : Met l yX0_ask (ws_ yX0_ask cX0_ask 12 (some .int)) ({ frames := 14, cells := 0, slots := 0, locals := 419 } : Room) (va_Pc [.ref (ad a0), .int x1, .int x2] (XPre D cA ad hk nx gi gr sz)) (va_Qi (fun v u => (v, u.1) = r ∧ u.2 = gr) (XPost D cA ad hk nx) (XA ad nx sz)) 0 0 (XA ad nx sz) := by
  refine xx_stI (own := RX0) (P := (fun v u => (v, u.1) = r ∧ u.2 = gr)) (by decide +kernel) rfl (Nat.le_of_ble_eq_true rfl) (fun p e s m args below meth c R Q A ls C hF hN B hret hL => ?_) sz
  have hx := C.1
  have hb := C.2.1
  have hL : lv_has ls 12 [(0, .ref (ad a0)), (1, .int x1), (2, .int x2)] := hL
  unfold f_X0_ask at h
  refine lv_aload_n hx hb dX0_ask_0 rfl (lv_at hL 0 rfl) ?_
  refine lv_iload_n hx hb dX0_ask_1 rfl (lv_at hL 2 rfl) ?_
  refine k_X0_layOrders ht C B q1642 (Nat.le_trans (Nat.le_of_ble_eq_true rfl) hF) (Nat.le_trans (Nat.le_of_ble_eq_true rfl) hN) hL.1 (Nat.le_of_ble_eq_true rfl) ⟨Nat.zero_le _, Nat.zero_le _⟩ h dX0_ask_2 (fun q1 h H locs B => ?_)
  refine lv_istore_n (lv' := [(3, .int q1.1), (0, .ref (ad a0)), (1, .int x1), (2, .int x2)]) hx hb dX0_ask_5 rfl hL (by decide) rfl (fun ls hL => ?_)
  refine lv_iconst (v := (-1)) hx hb dX0_ask_6 (by decide) ?_
  refine lv_istore (lv' := [(4, .int ((-1))), (3, .int q1.1), (0, .ref (ad a0)), (1, .int x1), (2, .int x2)]) hx hb dX0_ask_7 hL (by decide) rfl (fun ls hL => ?_)
  refine lv_iload_n hx hb dX0_ask_9 rfl (lv_at hL 1 rfl) ?_
  refine lv_iconst (v := 1) hx hb dX0_ask_10 (by decide) ?_
  refine lv_iadd hx hb dX0_ask_11 ?_
  refine lv_istore (lv' := [(5, .int (q1.1 + 1)), (4, .int ((-1))), (3, .int q1.1), (0, .ref (ad a0)), (1, .int x1), (2, .int x2)]) hx hb dX0_ask_12 hL (by decide) rfl (fun ls hL => ?_)
  refine lv_iload_n hx hb dX0_ask_14 rfl (lv_at hL 4 rfl) ?_
  refine lv_iconst (v := 0) hx hb dX0_ask_15 (by decide) ?_
  refine lv_iconst (v := 1) hx hb dX0_ask_16 (by decide) ?_
  refine k_X0_isIn C B q1247 (Nat.le_trans (Nat.le_of_ble_eq_true rfl) hF) (Nat.le_trans (Nat.le_of_ble_eq_true rfl) hN) hL.1 (Nat.le_of_ble_eq_true rfl) ⟨Nat.zero_le _, Nat.zero_le _⟩ h dX0_ask_17 (fun q2 h H locs B => ?_)
  refine gg_if_eq hx hb 27 h dX0_ask_20 (by decide) (fun h => ?_) (fun h => ?_)
  · refine lv_iconst (v := (-1)) hx hb dX0_ask_27 (by decide) ?_
    exact hret _ _ _ _ _ _ _ ⟨Option.some.inj h, rfl⟩ B dX0_ask_28
  · refine lv_iload_n hx hb dX0_ask_23 rfl (lv_at hL 2 rfl) ?_
    refine gg_if_ne hx hb 29 h dX0_ask_24 (by decide) (fun h => ?_) (fun h => ?_)
    · refine lv_iconst (v := 0) hx hb dX0_ask_29 (by decide) ?_
      refine lv_istore (lv' := [(6, .int 0), (5, .int (q1.1 + 1)), (4, .int ((-1))), (3, .int q1.1), (0, .ref (ad a0)), (1, .int x1), (2, .int x2)]) hx hb dX0_ask_30 hL (by decide) rfl (fun ls hL => ?_)
      obtain ⟨E32, h832, h⟩ := g_ob h
      have kx32 : ∀ (x4e32 : Int32) (x5e32 : Int32) (H : Heap) (locs : List Loc) (ls : Array Slot), (x4e32, x5e32) = E32 → XB D cA ad hk nx A s q1.2 gr H locs → lv_has ls 12 [(1, .int x1), (4, .int x4e32), (5, .int x5e32)] → W p l e R s m args below meth c H locs 0 0 Q (F0 m 114 ls []) := by
        intro x4e32 x5e32 H locs ls he B hL
        subst he
        have h : f_X0_ask_x32 hk q1.2 gr x1 x4e32 x5e32 = some r := h
        unfold f_X0_ask_x32 at h
        refine lv_iload hx hb dX0_ask_114 (lv_at hL 1 rfl) ?_
        refine gg_if_ge hx hb 123 h dX0_ask_116 (by decide) (fun h => ?_) (fun h => ?_)
        · refine lv_iload_n hx hb dX0_ask_123 rfl (lv_at hL 0 rfl) ?_
          refine gg_if_ne hx hb 132 h dX0_ask_124 (by decide) (fun h => ?_) (fun h => ?_)
          · refine lv_iload hx hb dX0_ask_132 (lv_at hL 2 rfl) ?_
            exact hret _ _ _ _ _ _ _ ⟨Option.some.inj h, rfl⟩ B dX0_ask_134
          · refine lv_iload hx hb dX0_ask_127 (lv_at hL 1 rfl) ?_
            refine lv_goto (tgt := 134) hx hb dX0_ask_129 (by decide) ?_
            exact hret _ _ _ _ _ _ _ ⟨Option.some.inj h, rfl⟩ B dX0_ask_134
        · refine lv_iconst (v := (-1)) hx hb dX0_ask_119 (by decide) ?_
          refine lv_goto (tgt := 134) hx hb dX0_ask_120 (by decide) ?_
          exact hret _ _ _ _ _ _ _ ⟨Option.some.inj h, rfl⟩ B dX0_ask_134
      have hl32 : ∀ (k : Nat) (x4l32 : Int32) (x5l32 : Int32) (x6l32 : Int32) (H : Heap) (locs : List Loc) (ls : Array Slot), g_loop k (fun (s : Int32 × Int32 × Int32) => f_X0_ask_l32 hk q1.2 gr a0 x1 s.1 s.2.1 s.2.2) (x4l32, x5l32, x6l32) = some E32 → XB D cA ad hk nx A s q1.2 gr H locs → lv_has ls 12 [(0, .ref (ad a0)), (1, .int x1), (4, .int x4l32), (5, .int x5l32), (6, .int x6l32)] → W p l e R s m args below meth c H locs 0 0 Q (F0 m 32 ls []) := by
        intro k
        induction k with
        | zero => intro x4l32 x5l32 x6l32 H locs ls h; exact absurd h (fun z => g_loop_0 z)
        | succ k ih32 =>
          intro x4l32 x5l32 x6l32 H locs ls h B hL
          obtain ⟨Z32, h, h932⟩ := g_loop_s h
          have h : f_X0_ask_l32 hk q1.2 gr a0 x1 x4l32 x5l32 x6l32 = some Z32 := h
          unfold f_X0_ask_l32 at h
          refine lv_iload hx hb dX0_ask_32 (lv_at hL 4 rfl) ?_
          refine lv_aload_n hx hb dX0_ask_34 rfl (lv_at hL 0 rfl) ?_
          refine k_X0_firstMen ht C B q1584 (Nat.le_trans (Nat.le_of_ble_eq_true rfl) hF) (Nat.le_trans (Nat.le_of_ble_eq_true rfl) hN) hL.1 (Nat.le_of_ble_eq_true rfl) ⟨Nat.zero_le _, Nat.zero_le _⟩ h dX0_ask_35 (fun q3 h H locs B => ?_)
          refine gg_icmp_ge hx hb 114 h dX0_ask_38 (by decide) (fun h => ?_) (fun h => ?_)
          · exact kx32 _ _ _ _ _ (g_exit h h932) B (lv_sub hL [1, 2, 3] rfl)
          · refine lv_iconst (v := 0) hx hb dX0_ask_41 (by decide) ?_
            refine lv_istore (lv' := [(7, .int 0), (0, .ref (ad a0)), (1, .int x1), (4, .int x4l32), (5, .int x5l32), (6, .int x6l32)]) hx hb dX0_ask_42 hL (by decide) rfl (fun ls hL => ?_)
            refine lv_aload_n hx hb dX0_ask_44 rfl (lv_at hL 1 rfl) ?_
            refine xx_gr (ci := 0) (k := 27) C B xc_0 ht (by decide) (Nat.le_of_ble_eq_true rfl) rfl q387 (fun _ h => h) h dX0_ask_45 (fun v4 ok5 h => ?_)
            refine lv_iload hx hb dX0_ask_48 (lv_at hL 5 rfl) ?_
            refine xx_is h (fun hp6 h => ?_)
            refine xx_aaldA C B hp6 h dX0_ask_50 (fun v7 ok8 h => ?_)
            refine lv_astore (lv' := [(8, .ref (ad v7)), (7, .int 0), (0, .ref (ad a0)), (1, .int x1), (4, .int x4l32), (5, .int x5l32), (6, .int x6l32)]) hx hb dX0_ask_51 hL (by decide) rfl (fun ls hL => ?_)
            refine lv_aload hx hb dX0_ask_53 (lv_at hL 0 rfl) ?_
            refine xx_is h (fun hp9 h => ?_)
            refine xx_alen C B hp9 (by decide) dX0_ask_55 ?_
            refine lv_istore (lv' := [(9, .int (Int32.ofNat (hk v7).2)), (8, .ref (ad v7)), (7, .int 0), (0, .ref (ad a0)), (1, .int x1), (4, .int x4l32), (5, .int x5l32), (6, .int x6l32)]) hx hb dX0_ask_56 hL (by decide) rfl (fun ls hL => ?_)
            refine lv_iconst (v := 0) hx hb dX0_ask_58 (by decide) ?_
            refine lv_istore (lv' := [(10, .int 0), (9, .int (Int32.ofNat (hk v7).2)), (8, .ref (ad v7)), (7, .int 0), (0, .ref (ad a0)), (1, .int x1), (4, .int x4l32), (5, .int x5l32), (6, .int x6l32)]) hx hb dX0_ask_59 hL (by decide) rfl (fun ls hL => ?_)
            obtain ⟨E61, h861, h⟩ := g_ob h
            have kx61 : ∀ (x7e61 : Int32) (H : Heap) (locs : List Loc) (ls : Array Slot), x7e61 = E61 → XB D cA ad hk nx A s q1.2 gr H locs → lv_has ls 12 [(0, .ref (ad a0)), (1, .int x1), (4, .int x4l32), (5, .int x5l32), (6, .int x6l32), (7, .int x7e61)] → W p l e R s m args below meth c H locs 0 0 Q (F0 m 90 ls []) := by
              intro x7e61 H locs ls he B hL
              subst he
              have h : f_X0_ask_x61 hk q1.2 gr a0 x1 x4l32 x5l32 x6l32 x7e61 = some Z32 := h
              unfold f_X0_ask_x61 at h
              refine lv_iload hx hb dX0_ask_90 (lv_at hL 5 rfl) ?_
              refine lv_iload hx hb dX0_ask_92 (lv_at hL 3 rfl) ?_
              refine gg_icmp_lt hx hb 100 h dX0_ask_94 (by decide) (fun h => ?_) (fun h => ?_)
              · refine lv_iload hx hb dX0_ask_100 (lv_at hL 4 rfl) ?_
                refine lv_istore (lv' := [(4, .int x6l32), (0, .ref (ad a0)), (1, .int x1), (5, .int x5l32), (6, .int x6l32), (7, .int x7e61)]) hx hb dX0_ask_102 hL (by decide) rfl (fun ls hL => ?_)
                refine lv_iload hx hb dX0_ask_104 (lv_at hL 5 rfl) ?_
                refine lv_istore (lv' := [(5, .int x7e61), (4, .int x6l32), (0, .ref (ad a0)), (1, .int x1), (6, .int x6l32), (7, .int x7e61)]) hx hb dX0_ask_106 hL (by decide) rfl (fun ls hL => ?_)
                refine lv_iinc (v := x6l32 + 1) (lv' := [(6, .int (x6l32 + 1)), (5, .int x7e61), (4, .int x6l32), (0, .ref (ad a0)), (1, .int x1), (7, .int x7e61)]) hx hb dX0_ask_108 hL (k := 4) rfl rfl (by decide) rfl (fun ls hL => ?_)
                refine lv_goto (tgt := 32) hx hb dX0_ask_111 (by decide) ?_
                exact ih32 _ _ _ _ _ _ (g_next h h932) B (lv_sub hL [3, 4, 2, 1, 0] rfl)
              · refine lv_goto (tgt := 108) hx hb dX0_ask_97 (by decide) ?_
                refine lv_iinc (v := x6l32 + 1) (lv' := [(6, .int (x6l32 + 1)), (0, .ref (ad a0)), (1, .int x1), (4, .int x4l32), (5, .int x5l32), (7, .int x7e61)]) hx hb dX0_ask_108 hL (k := 4) rfl rfl (by decide) rfl (fun ls hL => ?_)
                refine lv_goto (tgt := 32) hx hb dX0_ask_111 (by decide) ?_
                exact ih32 _ _ _ _ _ _ (g_next h h932) B (lv_sub hL [1, 2, 3, 4, 0] rfl)
            have hl61 : ∀ (k : Nat) (x7l61 : Int32) (x10l61 : Int32) (H : Heap) (locs : List Loc) (ls : Array Slot), g_loop k (fun (s : Int32 × Int32) => f_X0_ask_l61 hk q1.2 gr a0 x1 x4l32 x5l32 x6l32 v7 (Int32.ofNat (hk v7).2) s.1 s.2) (x7l61, x10l61) = some E61 → XB D cA ad hk nx A s q1.2 gr H locs → lv_has ls 12 [(0, .ref (ad a0)), (1, .int x1), (4, .int x4l32), (5, .int x5l32), (6, .int x6l32), (7, .int x7l61), (8, .ref (ad v7)), (9, .int (Int32.ofNat (hk v7).2)), (10, .int x10l61)] → W p l e R s m args below meth c H locs 0 0 Q (F0 m 61 ls []) := by
              intro k
              induction k with
              | zero => intro x7l61 x10l61 H locs ls h; exact absurd h (fun z => g_loop_0 z)
              | succ k ih61 =>
                intro x7l61 x10l61 H locs ls h B hL
                obtain ⟨Z61, h, h961⟩ := g_loop_s h
                have h : f_X0_ask_l61 hk q1.2 gr a0 x1 x4l32 x5l32 x6l32 v7 (Int32.ofNat (hk v7).2) x7l61 x10l61 = some Z61 := h
                unfold f_X0_ask_l61 at h
                refine lv_iload hx hb dX0_ask_61 (lv_at hL 8 rfl) ?_
                refine lv_iload hx hb dX0_ask_63 (lv_at hL 7 rfl) ?_
                refine gg_icmp_ge hx hb 90 h dX0_ask_65 (by decide) (fun h => ?_) (fun h => ?_)
                · exact kx61 _ _ _ _ (g_exit h h961) B (lv_sub hL [0, 1, 2, 3, 4, 5] rfl)
                · refine lv_aload hx hb dX0_ask_68 (lv_at hL 6 rfl) ?_
                  refine lv_iload hx hb dX0_ask_70 (lv_at hL 8 rfl) ?_
                  refine xx_iald C B hp9 h dX0_ask_72 (fun v10 h => ?_)
                  refine lv_istore (lv' := [(11, .int v10), (0, .ref (ad a0)), (1, .int x1), (4, .int x4l32), (5, .int x5l32), (6, .int x6l32), (7, .int x7l61), (8, .ref (ad v7)), (9, .int (Int32.ofNat (hk v7).2)), (10, .int x10l61)]) hx hb dX0_ask_73 hL (by decide) rfl (fun ls hL => ?_)
                  refine lv_iload hx hb dX0_ask_75 (lv_at hL 6 rfl) ?_
                  refine lv_iload hx hb dX0_ask_77 (lv_at hL 0 rfl) ?_
                  refine xx_max C q1371 q574 q157 q575 (Nat.le_trans (Nat.le_of_ble_eq_true rfl) hF) (Nat.le_trans (Nat.le_of_ble_eq_true rfl) hN) hL.1 (Nat.le_of_ble_eq_true rfl) ⟨Nat.zero_le _, Nat.zero_le _⟩ dX0_ask_79 ?_
                  refine lv_istore (lv' := [(7, .int (if x7l61 < v10 then v10 else x7l61)), (11, .int v10), (0, .ref (ad a0)), (1, .int x1), (4, .int x4l32), (5, .int x5l32), (6, .int x6l32), (8, .ref (ad v7)), (9, .int (Int32.ofNat (hk v7).2)), (10, .int x10l61)]) hx hb dX0_ask_82 hL (by decide) rfl (fun ls hL => ?_)
                  refine lv_iinc (v := x10l61 + 1) (lv' := [(10, .int (x10l61 + 1)), (7, .int (if x7l61 < v10 then v10 else x7l61)), (11, .int v10), (0, .ref (ad a0)), (1, .int x1), (4, .int x4l32), (5, .int x5l32), (6, .int x6l32), (8, .ref (ad v7)), (9, .int (Int32.ofNat (hk v7).2))]) hx hb dX0_ask_84 hL (k := 9) rfl rfl (by decide) rfl (fun ls hL => ?_)
                  refine lv_goto (tgt := 61) hx hb dX0_ask_87 (by decide) ?_
                  exact ih61 _ _ _ _ _ (g_next h h961) B (lv_sub hL [3, 4, 5, 6, 7, 1, 8, 9, 0] rfl)
            exact hl61 g_K _ _ _ _ _ h861 B (lv_sub hL [4, 5, 6, 7, 8, 3, 2, 1, 0] rfl)
      exact hl32 g_K _ _ _ _ _ _ h832 B (lv_sub hL [4, 5, 2, 1, 0] rfl)
    · refine lv_iconst (v := (-1)) hx hb dX0_ask_27 (by decide) ?_
      exact hret _ _ _ _ _ _ _ ⟨Option.some.inj h, rfl⟩ B dX0_ask_28
theorem k_X0_ask {p : Program} {l : Launch} {e : Env} {R : Room} {s : State} {m : MethodId} {args : Array Value} {below : List Frame} {meth : Method} {c : Code} {H : Heap} {locs : List Loc} {Q : State → Prop} {pc : Nat} {ls : Array Slot} {rest : List Value} {cc : ByteArray} {nL cells slots : Nat} {D : va_G} {cA : Nat → ClassId} {ad : Nat → Nat} {hk : HK} {nx : Nat} {A : Nat → Prop} {gi : GI} {gr : GR} {α : Type} {r : α} {own : String} {idx : Nat} {a0 : Nat} {x1 : Int32} {x2 : Int32} {ff : (Int32 × GI) → Option α} (ht : (hk a0).1 = 10) (C : CallFix p m c cc nL s args lw_all own) (B : XB D cA ad hk nx A s gi gr H locs) (hq : Cond.methodLink own idx yX0_ask ∈ lw_all) (hF : 15 ≤ R.frames) (hN : 450 ≤ R.locals) (hs : ls.size = nL) (hw : (rest.map fun v => v.category).sum ≤ 8) (hz0 : cells ≤ R.cells ∧ slots ≤ R.slots) (h : (f_X0_ask hk gi gr a0 x1 x2).bind ff = some r) (hdg : decode cc pc = .ok (.invokevirtual idx, 3)) (kk : ∀ q, ff q = some r → ∀ (H' : Heap) (locs' : List Loc), XB D cA ad hk nx A s q.2 gr H' locs' → W p l e R s m args below meth c H' locs' cells slots Q (F0 m (pc + 3) ls (.int q.1 :: rest))) : W p l e R s m args below meth c H locs cells slots Q (F0 m pc ls (.int x2 :: .int x1 :: .ref (ad a0) :: rest)) := by
  obtain ⟨q, h1, h2⟩ := g_ob h
  refine xx_cVI (As := [.int x1, .int x2]) (rest := rest) (n := 2) xc_0 ht (by decide) C B (fun sz => w_X0_ask l D cA ad hk nx gi gr a0 x1 x2 ht q h1 sz) hq q1667 q1668 q141 q1669 (by decide +kernel) ⟨hF, hN⟩ rfl hs hw hz0 hdg (fun v u H9 locs9 hp B9 => ?_)
  obtain ⟨e1, e3⟩ := hp
  rw [e3] at B9
  subst e1
  exact kk _ h2 H9 locs9 B9
def f_X0_isBox (hk : HK) (gi : GI) (gr : GR) (x0 : Int32) : Option (Int32) :=
  (f_X0_isIn hk gi gr x0 0 2).bind fun q1 =>
  (g_zb q1).bind fun _ =>
  some q1
set_option maxHeartbeats 400000 in
theorem w_X0_isBox (l : Launch) (D : va_G) (cA : Nat → ClassId) (ad : Nat → Nat) (hk : HK) (nx : Nat) (gi : GI) (gr : GR) (x0 : Int32) (r : Int32) (h : f_X0_isBox hk gi gr x0 = some r) (sz : Nat) : Met l yX0_isBox (ws_ yX0_isBox cX0_isBox 1 (some .boolean)) ({ frames := 2, cells := 0, slots := 0, locals := 86 } : Room) (va_Pc [.int x0] (XPre D cA ad hk nx gi gr sz)) (va_Qi (fun v u => v = r ∧ u.1 = gi ∧ u.2 = gr) (XPost D cA ad hk nx) (XA ad nx sz)) 0 0 (XA ad nx sz) := by
  refine xx_stZ (own := RX0) (P := (fun v u => v = r ∧ u.1 = gi ∧ u.2 = gr)) (by decide +kernel) rfl (Nat.le_of_ble_eq_true rfl) (fun p e s m args below meth c R Q A ls C hF hN B hret hL => ?_) sz
  have hx := C.1
  have hb := C.2.1
  have hL : lv_has ls 1 [(0, .int x0)] := hL
  unfold f_X0_isBox at h
  refine lv_iload_n hx hb dX0_isBox_0 rfl (lv_at hL 0 rfl) ?_
  refine lv_iconst (v := 0) hx hb dX0_isBox_1 (by decide) ?_
  refine lv_iconst (v := 2) hx hb dX0_isBox_2 (by decide) ?_
  refine k_X0_isIn C B q1247 (Nat.le_trans (Nat.le_of_ble_eq_true rfl) hF) (Nat.le_trans (Nat.le_of_ble_eq_true rfl) hN) hL.1 (Nat.le_of_ble_eq_true rfl) ⟨Nat.zero_le _, Nat.zero_le _⟩ h dX0_isBox_3 (fun q1 h H locs B => ?_)
  refine mm_zb h (fun hz h => ?_)
  exact hret _ _ _ _ _ _ _ ⟨Option.some.inj h, rfl, rfl⟩ hz B dX0_isBox_6
theorem k_X0_isBox {p : Program} {l : Launch} {e : Env} {R : Room} {s : State} {m : MethodId} {args : Array Value} {below : List Frame} {meth : Method} {c : Code} {H : Heap} {locs : List Loc} {Q : State → Prop} {pc : Nat} {ls : Array Slot} {rest : List Value} {cc : ByteArray} {nL cells slots : Nat} {D : va_G} {cA : Nat → ClassId} {ad : Nat → Nat} {hk : HK} {nx : Nat} {A : Nat → Prop} {gi : GI} {gr : GR} {α : Type} {r : α} {own : String} {idx : Nat} {x0 : Int32} {ff : Int32 → Option α} (C : CallFix p m c cc nL s args lw_all own) (B : XB D cA ad hk nx A s gi gr H locs) (hq : Cond.methodLink own idx yX0_isBox ∈ lw_all) (hF : 3 ≤ R.frames) (hN : 106 ≤ R.locals) (hs : ls.size = nL) (hw : (rest.map fun v => v.category).sum ≤ 8) (hz0 : cells ≤ R.cells ∧ slots ≤ R.slots) (h : (f_X0_isBox hk gi gr x0).bind ff = some r) (hdg : decode cc pc = .ok (.invokestatic idx, 3)) (kk : ∀ q, ff q = some r → ∀ (H' : Heap) (locs' : List Loc), XB D cA ad hk nx A s gi gr H' locs' → W p l e R s m args below meth c H' locs' cells slots Q (F0 m (pc + 3) ls (.int q :: rest))) : W p l e R s m args below meth c H locs cells slots Q (F0 m pc ls (.int x0 :: rest)) := by
  obtain ⟨q, h1, h2⟩ := g_ob h
  refine xx_cSI (As := [.int x0]) (rest := rest) (n := 1) C B (fun sz => w_X0_isBox l D cA ad hk nx gi gr x0 q h1 sz) hq q1675 q141 q1676 (by decide +kernel) ⟨hF, hN⟩ rfl hs hw hz0 hdg (fun v u H9 locs9 hp B9 => ?_)
  obtain ⟨e1, e2, e3⟩ := hp
  rw [e2] at B9
  rw [e3] at B9
  subst e1
  exact kk _ h2 H9 locs9 B9
def f_X0_image (hk : HK) (gi : GI) (gr : GR) (a0 : Nat) (x1 : Int32) : Option (Int32 × GI) :=
  (f_X0_isBox hk gi gr x1).bind fun q1 =>
  if q1 = 0 then
  (some ((-1), gi))
  else
  ((gr a0 28).bind fun v2 =>
  (g_is hk v2 5).bind fun _ =>
  (g_ldr gr v2 (hk v2).2 x1).bind fun v5 =>
  (gr a0 5).bind fun v7 =>
  (g_is hk v5 13).bind fun _ =>
  (f_X3_copy hk gi gr v5 v7).bind fun q10 =>
  (gr a0 29).bind fun v11 =>
  (g_is hk v11 2).bind fun _ =>
  (g_st q10.2 v11 (hk v11).2 x1 (vp_nar .boolean 1)).bind fun gi14 =>
  (gr a0 5).bind fun v15 =>
  (g_is hk v15 13).bind fun _ =>
  some (gi14 v15 4, gi14))
set_option maxHeartbeats 400000 in
theorem w_X0_image (l : Launch) (D : va_G) (cA : Nat → ClassId) (ad : Nat → Nat) (hk : HK) (nx : Nat) (gi : GI) (gr : GR) (a0 : Nat) (x1 : Int32) (ht : (hk a0).1 = 10) (r : Int32 × GI) (h : f_X0_image hk gi gr a0 x1 = some r) (sz : Nat) : Met l yX0_image (ws_ yX0_image cX0_image 2 (some .int)) ({ frames := 3, cells := 0, slots := 0, locals := 106 } : Room) (va_Pc [.ref (ad a0), .int x1] (XPre D cA ad hk nx gi gr sz)) (va_Qi (fun v u => (v, u.1) = r ∧ u.2 = gr) (XPost D cA ad hk nx) (XA ad nx sz)) 0 0 (XA ad nx sz) := by
  refine xx_stI (own := RX0) (P := (fun v u => (v, u.1) = r ∧ u.2 = gr)) (by decide +kernel) rfl (Nat.le_of_ble_eq_true rfl) (fun p e s m args below meth c R Q A ls C hF hN B hret hL => ?_) sz
  have hx := C.1
  have hb := C.2.1
  have hL : lv_has ls 2 [(0, .ref (ad a0)), (1, .int x1)] := hL
  unfold f_X0_image at h
  refine lv_iload_n hx hb dX0_image_0 rfl (lv_at hL 1 rfl) ?_
  refine k_X0_isBox C B q1674 (Nat.le_trans (Nat.le_of_ble_eq_true rfl) hF) (Nat.le_trans (Nat.le_of_ble_eq_true rfl) hN) hL.1 (Nat.le_of_ble_eq_true rfl) ⟨Nat.zero_le _, Nat.zero_le _⟩ h dX0_image_1 (fun q1 h H locs B => ?_)
  refine gg_if_ne hx hb 9 h dX0_image_4 (by decide) (fun h => ?_) (fun h => ?_)
  · refine lv_aload_n hx hb dX0_image_9 rfl (lv_at hL 0 rfl) ?_
    refine xx_gr (ci := 0) (k := 28) C B xc_0 ht (by decide) (Nat.le_of_ble_eq_true rfl) rfl q388 (fun _ h => h) h dX0_image_10 (fun v2 ok3 h => ?_)
    refine lv_iload_n hx hb dX0_image_13 rfl (lv_at hL 1 rfl) ?_
    refine xx_is h (fun hp4 h => ?_)
    refine xx_aald C B hp4 (by decide) rfl h dX0_image_14 (fun v5 ok6 h => ?_)
    refine lv_aload_n hx hb dX0_image_15 rfl (lv_at hL 0 rfl) ?_
    refine xx_gr (ci := 0) (k := 5) C B xc_0 ht (by decide) (Nat.le_of_ble_eq_true rfl) rfl q364 (fun _ h => h) h dX0_image_16 (fun v7 ok8 h => ?_)
    refine xx_is h (fun hp9 h => ?_)
    refine k_X3_copy hp9 C B q1381 (Nat.le_trans (Nat.le_of_ble_eq_true rfl) hF) (Nat.le_trans (Nat.le_of_ble_eq_true rfl) hN) hL.1 (Nat.le_of_ble_eq_true rfl) ⟨Nat.zero_le _, Nat.zero_le _⟩ h dX0_image_19 (fun q10 h H locs B => ?_)
    refine lv_pop hx hb dX0_image_22 rfl ?_
    refine lv_aload_n hx hb dX0_image_23 rfl (lv_at hL 0 rfl) ?_
    refine xx_gr (ci := 0) (k := 29) C B xc_0 ht (by decide) (Nat.le_of_ble_eq_true rfl) rfl q389 (fun _ h => h) h dX0_image_24 (fun v11 ok12 h => ?_)
    refine lv_iload_n hx hb dX0_image_27 rfl (lv_at hL 1 rfl) ?_
    refine lv_iconst (v := 1) hx hb dX0_image_28 (by decide) ?_
    refine xx_is h (fun hp13 h => ?_)
    refine xx_zast C B hp13 h dX0_image_29 (fun gi14 h H locs B => ?_)
    refine lv_aload_n hx hb dX0_image_30 rfl (lv_at hL 0 rfl) ?_
    refine xx_gr (ci := 0) (k := 5) C B xc_0 ht (by decide) (Nat.le_of_ble_eq_true rfl) rfl q364 (fun _ h => h) h dX0_image_31 (fun v15 ok16 h => ?_)
    refine xx_is h (fun hp17 h => ?_)
    refine xx_gi (ci := 3) (k := 4) C B xc_3 hp17 (by decide) (Nat.le_of_ble_eq_true rfl) rfl q313 (fun _ h => h) dX0_image_34 ?_
    exact hret _ _ _ _ _ _ _ ⟨Option.some.inj h, rfl⟩ B dX0_image_37
  · refine lv_iconst (v := (-1)) hx hb dX0_image_7 (by decide) ?_
    exact hret _ _ _ _ _ _ _ ⟨Option.some.inj h, rfl⟩ B dX0_image_8
theorem k_X0_image {p : Program} {l : Launch} {e : Env} {R : Room} {s : State} {m : MethodId} {args : Array Value} {below : List Frame} {meth : Method} {c : Code} {H : Heap} {locs : List Loc} {Q : State → Prop} {pc : Nat} {ls : Array Slot} {rest : List Value} {cc : ByteArray} {nL cells slots : Nat} {D : va_G} {cA : Nat → ClassId} {ad : Nat → Nat} {hk : HK} {nx : Nat} {A : Nat → Prop} {gi : GI} {gr : GR} {α : Type} {r : α} {own : String} {idx : Nat} {a0 : Nat} {x1 : Int32} {ff : (Int32 × GI) → Option α} (ht : (hk a0).1 = 10) (C : CallFix p m c cc nL s args lw_all own) (B : XB D cA ad hk nx A s gi gr H locs) (hq : Cond.methodLink own idx yX0_image ∈ lw_all) (hF : 4 ≤ R.frames) (hN : 127 ≤ R.locals) (hs : ls.size = nL) (hw : (rest.map fun v => v.category).sum ≤ 8) (hz0 : cells ≤ R.cells ∧ slots ≤ R.slots) (h : (f_X0_image hk gi gr a0 x1).bind ff = some r) (hdg : decode cc pc = .ok (.invokevirtual idx, 3)) (kk : ∀ q, ff q = some r → ∀ (H' : Heap) (locs' : List Loc), XB D cA ad hk nx A s q.2 gr H' locs' → W p l e R s m args below meth c H' locs' cells slots Q (F0 m (pc + 3) ls (.int q.1 :: rest))) : W p l e R s m args below meth c H locs cells slots Q (F0 m pc ls (.int x1 :: .ref (ad a0) :: rest)) := by
  obtain ⟨q, h1, h2⟩ := g_ob h
  refine xx_cVI (As := [.int x1]) (rest := rest) (n := 1) xc_0 ht (by decide) C B (fun sz => w_X0_image l D cA ad hk nx gi gr a0 x1 ht q h1 sz) hq q1671 q1672 q141 q1673 (by decide +kernel) ⟨hF, hN⟩ rfl hs hw hz0 hdg (fun v u H9 locs9 hp B9 => ?_)
  obtain ⟨e1, e3⟩ := hp
  rw [e3] at B9
  subst e1
  exact kk _ h2 H9 locs9 B9
def f_X0_back (hk : HK) (gi : GI) (gr : GR) (a0 : Nat) (x1 : Int32) : Option (Int32 × GI) :=
  (f_X0_isBox hk gi gr x1).bind fun q1 =>
  if q1 = 0 then
  (some ((-1), gi))
  else
  ((gr a0 29).bind fun v2 =>
  (g_is hk v2 2).bind fun _ =>
  (g_ld gi v2 (hk v2).2 x1).bind fun v5 =>
  if v5 = 0 then
  (some ((-1), gi))
  else
  ((gr a0 5).bind fun v6 =>
  (gr a0 28).bind fun v8 =>
  (g_is hk v8 5).bind fun _ =>
  (g_ldr gr v8 (hk v8).2 x1).bind fun v11 =>
  (g_is hk v6 13).bind fun _ =>
  (f_X3_copy hk gi gr v6 v11).bind fun q14 =>
  (some (g_pi q14.2 a0 11 0)).bind fun gi15 =>
  (some (g_pi gi15 a0 12 0)).bind fun gi16 =>
  (gr a0 5).bind fun v17 =>
  (g_is hk v17 13).bind fun _ =>
  some (gi16 v17 4, gi16)))
set_option maxHeartbeats 400000 in
theorem w_X0_back (l : Launch) (D : va_G) (cA : Nat → ClassId) (ad : Nat → Nat) (hk : HK) (nx : Nat) (gi : GI) (gr : GR) (a0 : Nat) (x1 : Int32) (ht : (hk a0).1 = 10) (r : Int32 × GI) (h : f_X0_back hk gi gr a0 x1 = some r) (sz : Nat) : Met l yX0_back (ws_ yX0_back cX0_back 2 (some .int)) ({ frames := 3, cells := 0, slots := 0, locals := 106 } : Room) (va_Pc [.ref (ad a0), .int x1] (XPre D cA ad hk nx gi gr sz)) (va_Qi (fun v u => (v, u.1) = r ∧ u.2 = gr) (XPost D cA ad hk nx) (XA ad nx sz)) 0 0 (XA ad nx sz) := by
  refine xx_stI (own := RX0) (P := (fun v u => (v, u.1) = r ∧ u.2 = gr)) (by decide +kernel) rfl (Nat.le_of_ble_eq_true rfl) (fun p e s m args below meth c R Q A ls C hF hN B hret hL => ?_) sz
  have hx := C.1
  have hb := C.2.1
  have hL : lv_has ls 2 [(0, .ref (ad a0)), (1, .int x1)] := hL
  unfold f_X0_back at h
  refine lv_iload_n hx hb dX0_back_0 rfl (lv_at hL 1 rfl) ?_
  refine k_X0_isBox C B q1674 (Nat.le_trans (Nat.le_of_ble_eq_true rfl) hF) (Nat.le_trans (Nat.le_of_ble_eq_true rfl) hN) hL.1 (Nat.le_of_ble_eq_true rfl) ⟨Nat.zero_le _, Nat.zero_le _⟩ h dX0_back_1 (fun q1 h H locs B => ?_)
  refine gg_if_eq hx hb 16 h dX0_back_4 (by decide) (fun h => ?_) (fun h => ?_)
  · refine lv_iconst (v := (-1)) hx hb dX0_back_16 (by decide) ?_
    exact hret _ _ _ _ _ _ _ ⟨Option.some.inj h, rfl⟩ B dX0_back_17
  · refine lv_aload_n hx hb dX0_back_7 rfl (lv_at hL 0 rfl) ?_
    refine xx_gr (ci := 0) (k := 29) C B xc_0 ht (by decide) (Nat.le_of_ble_eq_true rfl) rfl q389 (fun _ h => h) h dX0_back_8 (fun v2 ok3 h => ?_)
    refine lv_iload_n hx hb dX0_back_11 rfl (lv_at hL 1 rfl) ?_
    refine xx_is h (fun hp4 h => ?_)
    refine xx_zald C B hp4 h dX0_back_12 (fun v5 h => ?_)
    refine gg_if_ne hx hb 18 h dX0_back_13 (by decide) (fun h => ?_) (fun h => ?_)
    · refine lv_aload_n hx hb dX0_back_18 rfl (lv_at hL 0 rfl) ?_
      refine xx_gr (ci := 0) (k := 5) C B xc_0 ht (by decide) (Nat.le_of_ble_eq_true rfl) rfl q364 (fun _ h => h) h dX0_back_19 (fun v6 ok7 h => ?_)
      refine lv_aload_n hx hb dX0_back_22 rfl (lv_at hL 0 rfl) ?_
      refine xx_gr (ci := 0) (k := 28) C B xc_0 ht (by decide) (Nat.le_of_ble_eq_true rfl) rfl q388 (fun _ h => h) h dX0_back_23 (fun v8 ok9 h => ?_)
      refine lv_iload_n hx hb dX0_back_26 rfl (lv_at hL 1 rfl) ?_
      refine xx_is h (fun hp10 h => ?_)
      refine xx_aald C B hp10 (by decide) rfl h dX0_back_27 (fun v11 ok12 h => ?_)
      refine xx_is h (fun hp13 h => ?_)
      refine k_X3_copy hp13 C B q1381 (Nat.le_trans (Nat.le_of_ble_eq_true rfl) hF) (Nat.le_trans (Nat.le_of_ble_eq_true rfl) hN) hL.1 (Nat.le_of_ble_eq_true rfl) ⟨Nat.zero_le _, Nat.zero_le _⟩ h dX0_back_28 (fun q14 h H locs B => ?_)
      refine lv_pop hx hb dX0_back_31 rfl ?_
      refine lv_aload_n hx hb dX0_back_32 rfl (lv_at hL 0 rfl) ?_
      refine lv_iconst (v := 0) hx hb dX0_back_33 (by decide) ?_
      refine xx_pi (ci := 0) (k := 11) C B xc_0 ht (by decide) (Nat.le_of_ble_eq_true rfl) rfl q371 (fun _ h => h) rfl rfl rfl h dX0_back_34 (fun gi15 h H locs B => ?_)
      refine lv_aload_n hx hb dX0_back_37 rfl (lv_at hL 0 rfl) ?_
      refine lv_iconst (v := 0) hx hb dX0_back_38 (by decide) ?_
      refine xx_pi (ci := 0) (k := 12) C B xc_0 ht (by decide) (Nat.le_of_ble_eq_true rfl) rfl q372 (fun _ h => h) rfl rfl rfl h dX0_back_39 (fun gi16 h H locs B => ?_)
      refine lv_aload_n hx hb dX0_back_42 rfl (lv_at hL 0 rfl) ?_
      refine xx_gr (ci := 0) (k := 5) C B xc_0 ht (by decide) (Nat.le_of_ble_eq_true rfl) rfl q364 (fun _ h => h) h dX0_back_43 (fun v17 ok18 h => ?_)
      refine xx_is h (fun hp19 h => ?_)
      refine xx_gi (ci := 3) (k := 4) C B xc_3 hp19 (by decide) (Nat.le_of_ble_eq_true rfl) rfl q313 (fun _ h => h) dX0_back_46 ?_
      exact hret _ _ _ _ _ _ _ ⟨Option.some.inj h, rfl⟩ B dX0_back_49
    · refine lv_iconst (v := (-1)) hx hb dX0_back_16 (by decide) ?_
      exact hret _ _ _ _ _ _ _ ⟨Option.some.inj h, rfl⟩ B dX0_back_17
theorem k_X0_back {p : Program} {l : Launch} {e : Env} {R : Room} {s : State} {m : MethodId} {args : Array Value} {below : List Frame} {meth : Method} {c : Code} {H : Heap} {locs : List Loc} {Q : State → Prop} {pc : Nat} {ls : Array Slot} {rest : List Value} {cc : ByteArray} {nL cells slots : Nat} {D : va_G} {cA : Nat → ClassId} {ad : Nat → Nat} {hk : HK} {nx : Nat} {A : Nat → Prop} {gi : GI} {gr : GR} {α : Type} {r : α} {own : String} {idx : Nat} {a0 : Nat} {x1 : Int32} {ff : (Int32 × GI) → Option α} (ht : (hk a0).1 = 10) (C : CallFix p m c cc nL s args lw_all own) (B : XB D cA ad hk nx A s gi gr H locs) (hq : Cond.methodLink own idx yX0_back ∈ lw_all) (hF : 4 ≤ R.frames) (hN : 127 ≤ R.locals) (hs : ls.size = nL) (hw : (rest.map fun v => v.category).sum ≤ 8) (hz0 : cells ≤ R.cells ∧ slots ≤ R.slots) (h : (f_X0_back hk gi gr a0 x1).bind ff = some r) (hdg : decode cc pc = .ok (.invokevirtual idx, 3)) (kk : ∀ q, ff q = some r → ∀ (H' : Heap) (locs' : List Loc), XB D cA ad hk nx A s q.2 gr H' locs' → W p l e R s m args below meth c H' locs' cells slots Q (F0 m (pc + 3) ls (.int q.1 :: rest))) : W p l e R s m args below meth c H locs cells slots Q (F0 m pc ls (.int x1 :: .ref (ad a0) :: rest)) := by
  obtain ⟨q, h1, h2⟩ := g_ob h
  refine xx_cVI (As := [.int x1]) (rest := rest) (n := 1) xc_0 ht (by decide) C B (fun sz => w_X0_back l D cA ad hk nx gi gr a0 x1 ht q h1 sz) hq q1678 q1679 q141 q1680 (by decide +kernel) ⟨hF, hN⟩ rfl hs hw hz0 hdg (fun v u H9 locs9 hp B9 => ?_)
  obtain ⟨e1, e3⟩ := hp
  rw [e3] at B9
  subst e1
  exact kk _ h2 H9 locs9 B9
def f_X0_about (hk : HK) (gi : GI) (gr : GR) (a0 : Nat) (x1 : Int32) : Option (Int32) :=
  if x1.toInt < 0 ∨ 13 < x1.toInt then
  (some ((-1)))
  else if x1 = 0 then
  ((f_X0_men hk gi gr a0).bind fun q1 =>
  some q1)
  else if x1 = 1 then
  ((f_X0_kinds hk gi gr a0).bind fun q2 =>
  some q2)
  else if x1 = 2 then
  ((gr a0 4).bind fun v3 =>
  (g_is hk v3 11).bind fun _ =>
  some (gi v3 6))
  else if x1 = 3 then
  ((gr a0 4).bind fun v6 =>
  (g_is hk v6 11).bind fun _ =>
  (gr v6 2).bind fun v9 =>
  (g_is hk v9 22).bind fun _ =>
  (f_J2_size hk gi gr v9).bind fun q12 =>
  some q12)
  else if x1 = 4 then
  ((gr a0 5).bind fun v13 =>
  (g_is hk v13 13).bind fun _ =>
  some (gi v13 4))
  else if x1 = 5 then
  ((gr a0 5).bind fun v16 =>
  (g_is hk v16 13).bind fun _ =>
  some (gi v16 5))
  else if x1 = 6 then
  ((gr a0 4).bind fun v19 =>
  (g_is hk v19 11).bind fun _ =>
  some (gi v19 7))
  else if x1 = 7 then
  (some (gi a0 11))
  else if x1 = 8 then
  (some (gi a0 12))
  else if x1 = 9 then
  ((gr a0 25).bind fun v22 =>
  (g_is hk v22 22).bind fun _ =>
  (f_J2_size hk gi gr v22).bind fun q25 =>
  some q25)
  else if x1 = 10 then
  (some (gi a0 9))
  else if x1 = 11 then
  (some (gi a0 1))
  else if x1 = 12 then
  ((gr a0 4).bind fun v26 =>
  (g_is hk v26 11).bind fun _ =>
  some (gi v26 9))
  else if x1 = 13 then
  (some (gi a0 18))
  else none
set_option maxHeartbeats 400000 in
theorem w_X0_about (l : Launch) (D : va_G) (cA : Nat → ClassId) (ad : Nat → Nat) (hk : HK) (nx : Nat) (gi : GI) (gr : GR) (a0 : Nat) (x1 : Int32) (ht : (hk a0).1 = 10) (r : Int32) (h : f_X0_about hk gi gr a0 x1 = some r) (sz : Nat) : Met l yX0_about (ws_ yX0_about cX0_about 2 (some .int)) ({ frames := 3, cells := 0, slots := 0, locals := 104 } : Room) (va_Pc [.ref (ad a0), .int x1] (XPre D cA ad hk nx gi gr sz)) (va_Qi (fun v u => v = r ∧ u.1 = gi ∧ u.2 = gr) (XPost D cA ad hk nx) (XA ad nx sz)) 0 0 (XA ad nx sz) := by
  refine xx_stI (own := RX0) (P := (fun v u => v = r ∧ u.1 = gi ∧ u.2 = gr)) (by decide +kernel) rfl (Nat.le_of_ble_eq_true rfl) (fun p e s m args below meth c R Q A ls C hF hN B hret hL => ?_) sz
  have hx := C.1
  have hb := C.2.1
  have hL : lv_has ls 2 [(0, .ref (ad a0)), (1, .int x1)] := hL
  unfold f_X0_about at h
  refine lv_iload_n hx hb dX0_about_0 rfl (lv_at hL 1 rfl) ?_
  rcases g_if h with ⟨hc, h⟩ | ⟨hc, h⟩
  · refine lv_tableOut (tgt := 166) hx hb dX0_about_1 hc (by decide) ?_
    refine lv_iconst (v := (-1)) hx hb dX0_about_166 (by decide) ?_
    exact hret _ _ _ _ _ _ _ ⟨Option.some.inj h, rfl, rfl⟩ B dX0_about_167
  · rcases g_if h with ⟨he, h⟩ | ⟨_, h⟩
    · refine lv_tableIn (off := 71) (tgt := 72) hx hb dX0_about_1 (by rw [he]; decide) (by rw [he]; decide) (by rw [he]; rfl) (by decide) ?_
      refine lv_aload_n hx hb dX0_about_72 rfl (lv_at hL 0 rfl) ?_
      refine k_X0_men ht C B q1230 (Nat.le_trans (Nat.le_of_ble_eq_true rfl) hF) (Nat.le_trans (Nat.le_of_ble_eq_true rfl) hN) hL.1 (Nat.le_of_ble_eq_true rfl) ⟨Nat.zero_le _, Nat.zero_le _⟩ h dX0_about_73 (fun q1 h H locs B => ?_)
      exact hret _ _ _ _ _ _ _ ⟨Option.some.inj h, rfl, rfl⟩ B dX0_about_76
    · rcases g_if h with ⟨he, h⟩ | ⟨_, h⟩
      · refine lv_tableIn (off := 76) (tgt := 77) hx hb dX0_about_1 (by rw [he]; decide) (by rw [he]; decide) (by rw [he]; rfl) (by decide) ?_
        refine lv_aload_n hx hb dX0_about_77 rfl (lv_at hL 0 rfl) ?_
        refine k_X0_kinds ht C B q1345 (Nat.le_trans (Nat.le_of_ble_eq_true rfl) hF) (Nat.le_trans (Nat.le_of_ble_eq_true rfl) hN) hL.1 (Nat.le_of_ble_eq_true rfl) ⟨Nat.zero_le _, Nat.zero_le _⟩ h dX0_about_78 (fun q2 h H locs B => ?_)
        exact hret _ _ _ _ _ _ _ ⟨Option.some.inj h, rfl, rfl⟩ B dX0_about_81
      · rcases g_if h with ⟨he, h⟩ | ⟨_, h⟩
        · refine lv_tableIn (off := 81) (tgt := 82) hx hb dX0_about_1 (by rw [he]; decide) (by rw [he]; decide) (by rw [he]; rfl) (by decide) ?_
          refine lv_aload_n hx hb dX0_about_82 rfl (lv_at hL 0 rfl) ?_
          refine xx_gr (ci := 0) (k := 4) C B xc_0 ht (by decide) (Nat.le_of_ble_eq_true rfl) rfl q363 (fun _ h => h) h dX0_about_83 (fun v3 ok4 h => ?_)
          refine xx_is h (fun hp5 h => ?_)
          refine xx_gi (ci := 1) (k := 6) C B xc_1 hp5 (by decide) (Nat.le_of_ble_eq_true rfl) rfl q269 (fun _ h => h) dX0_about_86 ?_
          exact hret _ _ _ _ _ _ _ ⟨Option.some.inj h, rfl, rfl⟩ B dX0_about_89
        · rcases g_if h with ⟨he, h⟩ | ⟨_, h⟩
          · refine lv_tableIn (off := 89) (tgt := 90) hx hb dX0_about_1 (by rw [he]; decide) (by rw [he]; decide) (by rw [he]; rfl) (by decide) ?_
            refine lv_aload_n hx hb dX0_about_90 rfl (lv_at hL 0 rfl) ?_
            refine xx_gr (ci := 0) (k := 4) C B xc_0 ht (by decide) (Nat.le_of_ble_eq_true rfl) rfl q363 (fun _ h => h) h dX0_about_91 (fun v6 ok7 h => ?_)
            refine xx_is h (fun hp8 h => ?_)
            refine xx_gr (ci := 1) (k := 2) C B xc_1 hp8 (by decide) (Nat.le_of_ble_eq_true rfl) rfl q261 (fun _ h => h) h dX0_about_94 (fun v9 ok10 h => ?_)
            refine xx_is h (fun hp11 h => ?_)
            refine k_J2_size hp11 C B q1234 (Nat.le_trans (Nat.le_of_ble_eq_true rfl) hF) (Nat.le_trans (Nat.le_of_ble_eq_true rfl) hN) hL.1 (Nat.le_of_ble_eq_true rfl) ⟨Nat.zero_le _, Nat.zero_le _⟩ h dX0_about_97 (fun q12 h H locs B => ?_)
            exact hret _ _ _ _ _ _ _ ⟨Option.some.inj h, rfl, rfl⟩ B dX0_about_100
          · rcases g_if h with ⟨he, h⟩ | ⟨_, h⟩
            · refine lv_tableIn (off := 100) (tgt := 101) hx hb dX0_about_1 (by rw [he]; decide) (by rw [he]; decide) (by rw [he]; rfl) (by decide) ?_
              refine lv_aload_n hx hb dX0_about_101 rfl (lv_at hL 0 rfl) ?_
              refine xx_gr (ci := 0) (k := 5) C B xc_0 ht (by decide) (Nat.le_of_ble_eq_true rfl) rfl q364 (fun _ h => h) h dX0_about_102 (fun v13 ok14 h => ?_)
              refine xx_is h (fun hp15 h => ?_)
              refine xx_gi (ci := 3) (k := 4) C B xc_3 hp15 (by decide) (Nat.le_of_ble_eq_true rfl) rfl q313 (fun _ h => h) dX0_about_105 ?_
              exact hret _ _ _ _ _ _ _ ⟨Option.some.inj h, rfl, rfl⟩ B dX0_about_108
            · rcases g_if h with ⟨he, h⟩ | ⟨_, h⟩
              · refine lv_tableIn (off := 108) (tgt := 109) hx hb dX0_about_1 (by rw [he]; decide) (by rw [he]; decide) (by rw [he]; rfl) (by decide) ?_
                refine lv_aload_n hx hb dX0_about_109 rfl (lv_at hL 0 rfl) ?_
                refine xx_gr (ci := 0) (k := 5) C B xc_0 ht (by decide) (Nat.le_of_ble_eq_true rfl) rfl q364 (fun _ h => h) h dX0_about_110 (fun v16 ok17 h => ?_)
                refine xx_is h (fun hp18 h => ?_)
                refine xx_gi (ci := 3) (k := 5) C B xc_3 hp18 (by decide) (Nat.le_of_ble_eq_true rfl) rfl q315 (fun _ h => h) dX0_about_113 ?_
                exact hret _ _ _ _ _ _ _ ⟨Option.some.inj h, rfl, rfl⟩ B dX0_about_116
              · rcases g_if h with ⟨he, h⟩ | ⟨_, h⟩
                · refine lv_tableIn (off := 116) (tgt := 117) hx hb dX0_about_1 (by rw [he]; decide) (by rw [he]; decide) (by rw [he]; rfl) (by decide) ?_
                  refine lv_aload_n hx hb dX0_about_117 rfl (lv_at hL 0 rfl) ?_
                  refine xx_gr (ci := 0) (k := 4) C B xc_0 ht (by decide) (Nat.le_of_ble_eq_true rfl) rfl q363 (fun _ h => h) h dX0_about_118 (fun v19 ok20 h => ?_)
                  refine xx_is h (fun hp21 h => ?_)
                  refine xx_gi (ci := 1) (k := 7) C B xc_1 hp21 (by decide) (Nat.le_of_ble_eq_true rfl) rfl q271 (fun _ h => h) dX0_about_121 ?_
                  exact hret _ _ _ _ _ _ _ ⟨Option.some.inj h, rfl, rfl⟩ B dX0_about_124
                · rcases g_if h with ⟨he, h⟩ | ⟨_, h⟩
                  · refine lv_tableIn (off := 124) (tgt := 125) hx hb dX0_about_1 (by rw [he]; decide) (by rw [he]; decide) (by rw [he]; rfl) (by decide) ?_
                    refine lv_aload_n hx hb dX0_about_125 rfl (lv_at hL 0 rfl) ?_
                    refine xx_gi (ci := 0) (k := 11) C B xc_0 ht (by decide) (Nat.le_of_ble_eq_true rfl) rfl q371 (fun _ h => h) dX0_about_126 ?_
                    exact hret _ _ _ _ _ _ _ ⟨Option.some.inj h, rfl, rfl⟩ B dX0_about_129
                  · rcases g_if h with ⟨he, h⟩ | ⟨_, h⟩
                    · refine lv_tableIn (off := 129) (tgt := 130) hx hb dX0_about_1 (by rw [he]; decide) (by rw [he]; decide) (by rw [he]; rfl) (by decide) ?_
                      refine lv_aload_n hx hb dX0_about_130 rfl (lv_at hL 0 rfl) ?_
                      refine xx_gi (ci := 0) (k := 12) C B xc_0 ht (by decide) (Nat.le_of_ble_eq_true rfl) rfl q372 (fun _ h => h) dX0_about_131 ?_
                      exact hret _ _ _ _ _ _ _ ⟨Option.some.inj h, rfl, rfl⟩ B dX0_about_134
                    · rcases g_if h with ⟨he, h⟩ | ⟨_, h⟩
                      · refine lv_tableIn (off := 134) (tgt := 135) hx hb dX0_about_1 (by rw [he]; decide) (by rw [he]; decide) (by rw [he]; rfl) (by decide) ?_
                        refine lv_aload_n hx hb dX0_about_135 rfl (lv_at hL 0 rfl) ?_
                        refine xx_gr (ci := 0) (k := 25) C B xc_0 ht (by decide) (Nat.le_of_ble_eq_true rfl) rfl q385 (fun _ h => h) h dX0_about_136 (fun v22 ok23 h => ?_)
                        refine xx_is h (fun hp24 h => ?_)
                        refine k_J2_size hp24 C B q1234 (Nat.le_trans (Nat.le_of_ble_eq_true rfl) hF) (Nat.le_trans (Nat.le_of_ble_eq_true rfl) hN) hL.1 (Nat.le_of_ble_eq_true rfl) ⟨Nat.zero_le _, Nat.zero_le _⟩ h dX0_about_139 (fun q25 h H locs B => ?_)
                        exact hret _ _ _ _ _ _ _ ⟨Option.some.inj h, rfl, rfl⟩ B dX0_about_142
                      · rcases g_if h with ⟨he, h⟩ | ⟨_, h⟩
                        · refine lv_tableIn (off := 142) (tgt := 143) hx hb dX0_about_1 (by rw [he]; decide) (by rw [he]; decide) (by rw [he]; rfl) (by decide) ?_
                          refine lv_aload_n hx hb dX0_about_143 rfl (lv_at hL 0 rfl) ?_
                          refine xx_gi (ci := 0) (k := 9) C B xc_0 ht (by decide) (Nat.le_of_ble_eq_true rfl) rfl q369 (fun _ h => h) dX0_about_144 ?_
                          exact hret _ _ _ _ _ _ _ ⟨Option.some.inj h, rfl, rfl⟩ B dX0_about_147
                        · rcases g_if h with ⟨he, h⟩ | ⟨_, h⟩
                          · refine lv_tableIn (off := 147) (tgt := 148) hx hb dX0_about_1 (by rw [he]; decide) (by rw [he]; decide) (by rw [he]; rfl) (by decide) ?_
                            refine lv_aload_n hx hb dX0_about_148 rfl (lv_at hL 0 rfl) ?_
                            refine xx_gi (ci := 0) (k := 1) C B xc_0 ht (by decide) (Nat.le_of_ble_eq_true rfl) rfl q360 (fun _ h => h) dX0_about_149 ?_
                            exact hret _ _ _ _ _ _ _ ⟨Option.some.inj h, rfl, rfl⟩ B dX0_about_152
                          · rcases g_if h with ⟨he, h⟩ | ⟨_, h⟩
                            · refine lv_tableIn (off := 152) (tgt := 153) hx hb dX0_about_1 (by rw [he]; decide) (by rw [he]; decide) (by rw [he]; rfl) (by decide) ?_
                              refine lv_aload_n hx hb dX0_about_153 rfl (lv_at hL 0 rfl) ?_
                              refine xx_gr (ci := 0) (k := 4) C B xc_0 ht (by decide) (Nat.le_of_ble_eq_true rfl) rfl q363 (fun _ h => h) h dX0_about_154 (fun v26 ok27 h => ?_)
                              refine xx_is h (fun hp28 h => ?_)
                              refine xx_gi (ci := 1) (k := 9) C B xc_1 hp28 (by decide) (Nat.le_of_ble_eq_true rfl) rfl q276 (fun _ h => h) dX0_about_157 ?_
                              exact hret _ _ _ _ _ _ _ ⟨Option.some.inj h, rfl, rfl⟩ B dX0_about_160
                            · rcases g_if h with ⟨he, h⟩ | ⟨_, h⟩
                              · refine lv_tableIn (off := 160) (tgt := 161) hx hb dX0_about_1 (by rw [he]; decide) (by rw [he]; decide) (by rw [he]; rfl) (by decide) ?_
                                refine lv_aload_n hx hb dX0_about_161 rfl (lv_at hL 0 rfl) ?_
                                refine xx_gi (ci := 0) (k := 18) C B xc_0 ht (by decide) (Nat.le_of_ble_eq_true rfl) rfl q378 (fun _ h => h) dX0_about_162 ?_
                                exact hret _ _ _ _ _ _ _ ⟨Option.some.inj h, rfl, rfl⟩ B dX0_about_165
                              · cases h
theorem k_X0_about {p : Program} {l : Launch} {e : Env} {R : Room} {s : State} {m : MethodId} {args : Array Value} {below : List Frame} {meth : Method} {c : Code} {H : Heap} {locs : List Loc} {Q : State → Prop} {pc : Nat} {ls : Array Slot} {rest : List Value} {cc : ByteArray} {nL cells slots : Nat} {D : va_G} {cA : Nat → ClassId} {ad : Nat → Nat} {hk : HK} {nx : Nat} {A : Nat → Prop} {gi : GI} {gr : GR} {α : Type} {r : α} {own : String} {idx : Nat} {a0 : Nat} {x1 : Int32} {ff : Int32 → Option α} (ht : (hk a0).1 = 10) (C : CallFix p m c cc nL s args lw_all own) (B : XB D cA ad hk nx A s gi gr H locs) (hq : Cond.methodLink own idx yX0_about ∈ lw_all) (hF : 4 ≤ R.frames) (hN : 125 ≤ R.locals) (hs : ls.size = nL) (hw : (rest.map fun v => v.category).sum ≤ 8) (hz0 : cells ≤ R.cells ∧ slots ≤ R.slots) (h : (f_X0_about hk gi gr a0 x1).bind ff = some r) (hdg : decode cc pc = .ok (.invokevirtual idx, 3)) (kk : ∀ q, ff q = some r → ∀ (H' : Heap) (locs' : List Loc), XB D cA ad hk nx A s gi gr H' locs' → W p l e R s m args below meth c H' locs' cells slots Q (F0 m (pc + 3) ls (.int q :: rest))) : W p l e R s m args below meth c H locs cells slots Q (F0 m pc ls (.int x1 :: .ref (ad a0) :: rest)) := by
  obtain ⟨q, h1, h2⟩ := g_ob h
  refine xx_cVI (As := [.int x1]) (rest := rest) (n := 1) xc_0 ht (by decide) C B (fun sz => w_X0_about l D cA ad hk nx gi gr a0 x1 ht q h1 sz) hq q1682 q1683 q141 q1684 (by decide +kernel) ⟨hF, hN⟩ rfl hs hw hz0 hdg (fun v u H9 locs9 hp B9 => ?_)
  obtain ⟨e1, e2, e3⟩ := hp
  rw [e2] at B9
  rw [e3] at B9
  subst e1
  exact kk _ h2 H9 locs9 B9
def f_X3_begin_j96 (hk : HK) (grj96 : GR) (a0j96 : Nat) (a1j96 : Nat) (x2j96 : Int32) (gij96 : GI) (x3j96 : Int32) (t0j96 : Int32) (t1j96 : Int32) (t2j96 : Nat) : Option ((Int32 × GI) ⊕ (GI)) :=
  (g_is hk t2j96 0).bind fun _ =>
  (g_st gij96 t2j96 (hk t2j96).2 t1j96 t0j96).bind fun gi22 =>
  (grj96 a0j96 1).bind fun v23 =>
  (g_is hk v23 0).bind fun _ =>
  (g_st gi22 v23 (hk v23).2 ((3 * x2j96) + x3j96) 0).bind fun gi26 =>
  some (.inl ((x3j96 + 1, gi26)))
def f_X3_begin_l51 (hk : HK) (gri51 : GR) (a0i51 : Nat) (a1i51 : Nat) (x2i51 : Int32) (x3l51 : Int32) (gil51 : GI) : Option ((Int32 × GI) ⊕ (GI)) :=
  if 3 ≤ x3l51 then
  (some (.inr gil51))
  else
  ((gri51 a0i51 0).bind fun v14 =>
  (g_is hk a1i51 11).bind fun _ =>
  (gri51 a1i51 1).bind fun v17 =>
  (g_is hk v17 22).bind fun _ =>
  (f_J2_size hk gil51 gri51 v17).bind fun q20 =>
  if q20 ≤ x2i51 then
  (f_X3_begin_j96 hk gri51 a0i51 a1i51 x2i51 gil51 x3l51 0 ((3 * x2i51) + x3l51) v14)
  else
  ((gri51 a1i51 1).bind fun v27 =>
  (g_is hk v27 22).bind fun _ =>
  (f_J2_get hk gil51 gri51 v27 x2i51).bind fun q30 =>
  (g_is hk q30 16).bind fun _ =>
  (gri51 q30 1).bind fun v32 =>
  (g_is hk v32 0).bind fun _ =>
  (g_ld gil51 v32 (hk v32).2 x3l51).bind fun v35 =>
  f_X3_begin_j96 hk gri51 a0i51 a1i51 x2i51 gil51 x3l51 v35 ((3 * x2i51) + x3l51) v14))
def f_X3_begin_x51 (hk : HK) (gry51 : GR) (a0y51 : Nat) (a1y51 : Nat) (x2y51 : Int32) (gie51 : GI) : Option ((Int32 × GI) ⊕ (GI)) :=
  some (.inl ((x2y51 + 1, gie51)))
def f_X3_begin_j41 (hk : HK) (grj41 : GR) (a0j41 : Nat) (a1j41 : Nat) (gij41 : GI) (x2j41 : Int32) (t0j41 : Int32) (t1j41 : Int32) (t2j41 : Nat) : Option ((Int32 × GI) ⊕ (GI)) :=
  (g_is hk t2j41 0).bind fun _ =>
  (g_st gij41 t2j41 (hk t2j41).2 t1j41 t0j41).bind fun gi9 =>
  (grj41 a0j41 3).bind fun v10 =>
  (g_is hk v10 0).bind fun _ =>
  (g_st gi9 v10 (hk v10).2 x2j41 0).bind fun gi13 =>
  (g_loop g_K (fun (s : Int32 × GI) => f_X3_begin_l51 hk grj41 a0j41 a1j41 x2j41 s.1 s.2) (0, gi13)).bind fun E51 => f_X3_begin_x51 hk grj41 a0j41 a1j41 x2j41 E51
def f_X3_begin_l2 (hk : HK) (gri2 : GR) (a0i2 : Nat) (a1i2 : Nat) (x2l2 : Int32) (gil2 : GI) : Option ((Int32 × GI) ⊕ (GI)) :=
  if 5 ≤ x2l2 then
  (some (.inr gil2))
  else
  ((gri2 a0i2 2).bind fun v1 =>
  (g_is hk a1i2 11).bind fun _ =>
  (gri2 a1i2 1).bind fun v4 =>
  (g_is hk v4 22).bind fun _ =>
  (f_J2_size hk gil2 gri2 v4).bind fun q7 =>
  if q7 ≤ x2l2 then
  (f_X3_begin_j41 hk gri2 a0i2 a1i2 gil2 x2l2 0 x2l2 v1)
  else
  ((gri2 a1i2 1).bind fun v36 =>
  (g_is hk v36 22).bind fun _ =>
  (f_J2_get hk gil2 gri2 v36 x2l2).bind fun q39 =>
  (g_is hk q39 16).bind fun _ =>
  f_X3_begin_j41 hk gri2 a0i2 a1i2 gil2 x2l2 (gil2 q39 3) x2l2 v1))
def f_X3_begin_x2 (hk : HK) (gry2 : GR) (a0y2 : Nat) (a1y2 : Nat) (gie2 : GI) : Option (Nat × GI) :=
  (some (g_pi gie2 a0y2 4 0)).bind fun gi41 =>
  (g_is hk a1y2 11).bind fun _ =>
  (some (g_pi gi41 a0y2 5 (gi41 a1y2 8))).bind fun gi43 =>
  some (a0y2, gi43)
def f_X3_begin (hk : HK) (gi : GI) (gr : GR) (a0 : Nat) (a1 : Nat) : Option (Nat × GI) :=
  (g_loop g_K (fun (s : Int32 × GI) => f_X3_begin_l2 hk gr a0 a1 s.1 s.2) (0, gi)).bind fun E2 => f_X3_begin_x2 hk gr a0 a1 E2
set_option maxHeartbeats 400000 in
theorem w_X3_begin (l : Launch) (D : va_G) (cA : Nat → ClassId) (ad : Nat → Nat) (hk : HK) (nx : Nat) (gi : GI) (gr : GR) (a0 : Nat) (a1 : Nat) (ht : (hk a0).1 = 13) (r : Nat × GI) (h : f_X3_begin hk gi gr a0 a1 = some r) (sz : Nat) : Met l yX3_begin (ws_ yX3_begin cX3_begin 4 ((some (.object "WeatherWages$Plots")))) ({ frames := 4, cells := 0, slots := 0, locals := 128 } : Room) (va_Pc [.ref (ad a0), .ref (ad a1)] (XPre D cA ad hk nx gi gr sz)) (va_Qq (fun o u => ∃ v : Option Nat, o = v.map ad ∧ (fun v u => ∃ v9, v = some v9 ∧ (v9, u.1) = r ∧ u.2 = gr) v u) (XPost D cA ad hk nx) (XA ad nx sz)) 0 0 (XA ad nx sz) := by
  refine xx_stR (own := RX3) (P := (fun v u => ∃ v9, v = some v9 ∧ (v9, u.1) = r ∧ u.2 = gr)) (by decide +kernel) rfl (Nat.le_of_ble_eq_true rfl) (fun p e s m args below meth c R Q A ls C hF hN B hret hL => ?_) sz
  have hx := C.1
  have hb := C.2.1
  have hL : lv_has ls 4 [(0, .ref (ad a0)), (1, .ref (ad a1))] := hL
  unfold f_X3_begin at h
  refine lv_iconst (v := 0) hx hb dX3_begin_0 (by decide) ?_
  refine lv_istore_n (lv' := [(2, .int 0), (0, .ref (ad a0)), (1, .ref (ad a1))]) hx hb dX3_begin_1 rfl hL (by decide) rfl (fun ls hL => ?_)
  obtain ⟨E2, h82, h⟩ := g_ob h
  have kx2 : ∀ (gie2 : GI) (H : Heap) (locs : List Loc) (ls : Array Slot), gie2 = E2 → XB D cA ad hk nx A s gie2 gr H locs → lv_has ls 4 [(0, .ref (ad a0)), (1, .ref (ad a1))] → W p l e R s m args below meth c H locs 0 0 Q (F0 m 120 ls []) := by
    intro gie2 H locs ls he B hL
    subst he
    have h : f_X3_begin_x2 hk gr a0 a1 gie2 = some r := h
    unfold f_X3_begin_x2 at h
    refine lv_aload_n hx hb dX3_begin_120 rfl (lv_at hL 0 rfl) ?_
    refine lv_iconst (v := 0) hx hb dX3_begin_121 (by decide) ?_
    refine xx_pi (ci := 3) (k := 4) C B xc_3 ht (by decide) (Nat.le_of_ble_eq_true rfl) rfl q312 (fun _ h => h) rfl rfl rfl h dX3_begin_122 (fun gi41 h H locs B => ?_)
    refine lv_aload_n hx hb dX3_begin_125 rfl (lv_at hL 0 rfl) ?_
    refine lv_aload_n hx hb dX3_begin_126 rfl (lv_at hL 1 rfl) ?_
    refine xx_is h (fun hp42 h => ?_)
    refine xx_gi (ci := 1) (k := 8) C B xc_1 hp42 (by decide) (Nat.le_of_ble_eq_true rfl) rfl q273 (fun _ h => h) dX3_begin_127 ?_
    refine xx_pi (ci := 3) (k := 5) C B xc_3 ht (by decide) (Nat.le_of_ble_eq_true rfl) rfl q314 (fun _ h => h) rfl rfl rfl h dX3_begin_130 (fun gi43 h H locs B => ?_)
    refine lv_aload_n hx hb dX3_begin_133 rfl (lv_at hL 0 rfl) ?_
    exact hret (some a0) _ _ _ _ _ _ ⟨_, rfl, Option.some.inj h, rfl⟩ B dX3_begin_134
  have hl2 : ∀ (k : Nat) (x2l2 : Int32) (gil2 : GI) (H : Heap) (locs : List Loc) (ls : Array Slot), g_loop k (fun (s : Int32 × GI) => f_X3_begin_l2 hk gr a0 a1 s.1 s.2) (x2l2, gil2) = some E2 → XB D cA ad hk nx A s gil2 gr H locs → lv_has ls 4 [(0, .ref (ad a0)), (1, .ref (ad a1)), (2, .int x2l2)] → W p l e R s m args below meth c H locs 0 0 Q (F0 m 2 ls []) := by
    intro k
    induction k with
    | zero => intro x2l2 gil2 H locs ls h; exact absurd h (fun z => g_loop_0 z)
    | succ k ih2 =>
      intro x2l2 gil2 H locs ls h B hL
      obtain ⟨Z2, h, h92⟩ := g_loop_s h
      have h : f_X3_begin_l2 hk gr a0 a1 x2l2 gil2 = some Z2 := h
      unfold f_X3_begin_l2 at h
      have hj41 : ∀ (gij41 : GI) (x2j41 : Int32) (t0j41 : Int32) (t1j41 : Int32) (t2j41 : Nat) (H : Heap) (locs : List Loc) (ls : Array Slot), f_X3_begin_j41 hk gr a0 a1 gij41 x2j41 t0j41 t1j41 t2j41 = some Z2 → XB D cA ad hk nx A s gij41 gr H locs → lv_has ls 4 [(0, .ref (ad a0)), (1, .ref (ad a1)), (2, .int x2j41)] → W p l e R s m args below meth c H locs 0 0 Q (F0 m 41 ls [.int t0j41, .int t1j41, .ref (ad t2j41)]) := by
        intro gij41 x2j41 t0j41 t1j41 t2j41 H locs ls h B hL
        unfold f_X3_begin_j41 at h
        refine xx_is h (fun hp8 h => ?_)
        refine xx_iast C B hp8 h dX3_begin_41 (fun gi9 h H locs B => ?_)
        refine lv_aload_n hx hb dX3_begin_42 rfl (lv_at hL 0 rfl) ?_
        refine xx_gr (ci := 3) (k := 3) C B xc_3 ht (by decide) (Nat.le_of_ble_eq_true rfl) rfl q310 (fun _ h => h) h dX3_begin_43 (fun v10 ok11 h => ?_)
        refine lv_iload_n hx hb dX3_begin_46 rfl (lv_at hL 2 rfl) ?_
        refine lv_iconst (v := 0) hx hb dX3_begin_47 (by decide) ?_
        refine xx_is h (fun hp12 h => ?_)
        refine xx_iast C B hp12 h dX3_begin_48 (fun gi13 h H locs B => ?_)
        refine lv_iconst (v := 0) hx hb dX3_begin_49 (by decide) ?_
        refine lv_istore_n (lv' := [(3, .int 0), (0, .ref (ad a0)), (1, .ref (ad a1)), (2, .int x2j41)]) hx hb dX3_begin_50 rfl hL (by decide) rfl (fun ls hL => ?_)
        obtain ⟨E51, h851, h⟩ := g_ob h
        have kx51 : ∀ (gie51 : GI) (H : Heap) (locs : List Loc) (ls : Array Slot), gie51 = E51 → XB D cA ad hk nx A s gie51 gr H locs → lv_has ls 4 [(0, .ref (ad a0)), (1, .ref (ad a1)), (2, .int x2j41)] → W p l e R s m args below meth c H locs 0 0 Q (F0 m 114 ls []) := by
          intro gie51 H locs ls he B hL
          subst he
          have h : f_X3_begin_x51 hk gr a0 a1 x2j41 gie51 = some Z2 := h
          unfold f_X3_begin_x51 at h
          refine lv_iinc (v := x2j41 + 1) (lv' := [(2, .int (x2j41 + 1)), (0, .ref (ad a0)), (1, .ref (ad a1))]) hx hb dX3_begin_114 hL (k := 2) rfl rfl (by decide) rfl (fun ls hL => ?_)
          refine lv_goto (tgt := 2) hx hb dX3_begin_117 (by decide) ?_
          exact ih2 _ _ _ _ _ (g_next h h92) B (lv_sub hL [1, 2, 0] rfl)
        have hl51 : ∀ (k : Nat) (x3l51 : Int32) (gil51 : GI) (H : Heap) (locs : List Loc) (ls : Array Slot), g_loop k (fun (s : Int32 × GI) => f_X3_begin_l51 hk gr a0 a1 x2j41 s.1 s.2) (x3l51, gil51) = some E51 → XB D cA ad hk nx A s gil51 gr H locs → lv_has ls 4 [(0, .ref (ad a0)), (1, .ref (ad a1)), (2, .int x2j41), (3, .int x3l51)] → W p l e R s m args below meth c H locs 0 0 Q (F0 m 51 ls []) := by
          intro k
          induction k with
          | zero => intro x3l51 gil51 H locs ls h; exact absurd h (fun z => g_loop_0 z)
          | succ k ih51 =>
            intro x3l51 gil51 H locs ls h B hL
            obtain ⟨Z51, h, h951⟩ := g_loop_s h
            have h : f_X3_begin_l51 hk gr a0 a1 x2j41 x3l51 gil51 = some Z51 := h
            unfold f_X3_begin_l51 at h
            have hj96 : ∀ (gij96 : GI) (x3j96 : Int32) (t0j96 : Int32) (t1j96 : Int32) (t2j96 : Nat) (H : Heap) (locs : List Loc) (ls : Array Slot), f_X3_begin_j96 hk gr a0 a1 x2j41 gij96 x3j96 t0j96 t1j96 t2j96 = some Z51 → XB D cA ad hk nx A s gij96 gr H locs → lv_has ls 4 [(0, .ref (ad a0)), (1, .ref (ad a1)), (2, .int x2j41), (3, .int x3j96)] → W p l e R s m args below meth c H locs 0 0 Q (F0 m 96 ls [.int t0j96, .int t1j96, .ref (ad t2j96)]) := by
              intro gij96 x3j96 t0j96 t1j96 t2j96 H locs ls h B hL
              unfold f_X3_begin_j96 at h
              refine xx_is h (fun hp21 h => ?_)
              refine xx_iast C B hp21 h dX3_begin_96 (fun gi22 h H locs B => ?_)
              refine lv_aload_n hx hb dX3_begin_97 rfl (lv_at hL 0 rfl) ?_
              refine xx_gr (ci := 3) (k := 1) C B xc_3 ht (by decide) (Nat.le_of_ble_eq_true rfl) rfl q306 (fun _ h => h) h dX3_begin_98 (fun v23 ok24 h => ?_)
              refine lv_iconst (v := 3) hx hb dX3_begin_101 (by decide) ?_
              refine lv_iload_n hx hb dX3_begin_102 rfl (lv_at hL 2 rfl) ?_
              refine lv_imul hx hb dX3_begin_103 ?_
              refine lv_iload_n hx hb dX3_begin_104 rfl (lv_at hL 3 rfl) ?_
              refine lv_iadd hx hb dX3_begin_105 ?_
              refine lv_iconst (v := 0) hx hb dX3_begin_106 (by decide) ?_
              refine xx_is h (fun hp25 h => ?_)
              refine xx_iast C B hp25 h dX3_begin_107 (fun gi26 h H locs B => ?_)
              refine lv_iinc (v := x3j96 + 1) (lv' := [(3, .int (x3j96 + 1)), (0, .ref (ad a0)), (1, .ref (ad a1)), (2, .int x2j41)]) hx hb dX3_begin_108 hL (k := 3) rfl rfl (by decide) rfl (fun ls hL => ?_)
              refine lv_goto (tgt := 51) hx hb dX3_begin_111 (by decide) ?_
              exact ih51 _ _ _ _ _ (g_next h h951) B (lv_sub hL [1, 2, 3, 0] rfl)
            refine lv_iload_n hx hb dX3_begin_51 rfl (lv_at hL 3 rfl) ?_
            refine lv_iconst (v := 3) hx hb dX3_begin_52 (by decide) ?_
            refine gg_icmp_ge hx hb 114 h dX3_begin_53 (by decide) (fun h => ?_) (fun h => ?_)
            · exact kx51 _ _ _ _ (g_exit h h951) B (lv_sub hL [0, 1, 2] rfl)
            · refine lv_aload_n hx hb dX3_begin_56 rfl (lv_at hL 0 rfl) ?_
              refine xx_gr (ci := 3) (k := 0) C B xc_3 ht (by decide) (Nat.le_of_ble_eq_true rfl) rfl q304 (fun _ h => h) h dX3_begin_57 (fun v14 ok15 h => ?_)
              refine lv_iconst (v := 3) hx hb dX3_begin_60 (by decide) ?_
              refine lv_iload_n hx hb dX3_begin_61 rfl (lv_at hL 2 rfl) ?_
              refine lv_imul hx hb dX3_begin_62 ?_
              refine lv_iload_n hx hb dX3_begin_63 rfl (lv_at hL 3 rfl) ?_
              refine lv_iadd hx hb dX3_begin_64 ?_
              refine lv_iload_n hx hb dX3_begin_65 rfl (lv_at hL 2 rfl) ?_
              refine lv_aload_n hx hb dX3_begin_66 rfl (lv_at hL 1 rfl) ?_
              refine xx_is h (fun hp16 h => ?_)
              refine xx_gr (ci := 1) (k := 1) C B xc_1 hp16 (by decide) (Nat.le_of_ble_eq_true rfl) rfl q256 (fun _ h => h) h dX3_begin_67 (fun v17 ok18 h => ?_)
              refine xx_is h (fun hp19 h => ?_)
              refine k_J2_size hp19 C B q333 (Nat.le_trans (Nat.le_of_ble_eq_true rfl) hF) (Nat.le_trans (Nat.le_of_ble_eq_true rfl) hN) hL.1 (Nat.le_of_ble_eq_true rfl) ⟨Nat.zero_le _, Nat.zero_le _⟩ h dX3_begin_70 (fun q20 h H locs B => ?_)
              refine gg_icmp_ge hx hb 95 h dX3_begin_73 (by decide) (fun h => ?_) (fun h => ?_)
              · refine lv_iconst (v := 0) hx hb dX3_begin_95 (by decide) ?_
                exact hj96 _ _ _ _ _ _ _ _ h B (lv_sub hL [0, 1, 2, 3] rfl)
              · refine lv_aload_n hx hb dX3_begin_76 rfl (lv_at hL 1 rfl) ?_
                refine xx_gr (ci := 1) (k := 1) C B xc_1 hp16 (by decide) (Nat.le_of_ble_eq_true rfl) rfl q256 (fun _ h => h) h dX3_begin_77 (fun v27 ok28 h => ?_)
                refine lv_iload_n hx hb dX3_begin_80 rfl (lv_at hL 2 rfl) ?_
                refine xx_is h (fun hp29 h => ?_)
                refine k_J2_get hp29 C B q337 (Nat.le_trans (Nat.le_of_ble_eq_true rfl) hF) (Nat.le_trans (Nat.le_of_ble_eq_true rfl) hN) hL.1 (Nat.le_of_ble_eq_true rfl) ⟨Nat.zero_le _, Nat.zero_le _⟩ h dX3_begin_81 (fun q30 h H locs B => ?_)
                refine xx_is h (fun hp31 h => ?_)
                refine xx_cast C B xc_6 hp31 (by decide) q351 dX3_begin_84 ?_
                refine xx_gr (ci := 6) (k := 1) C B xc_6 hp31 (by decide) (Nat.le_of_ble_eq_true rfl) rfl q974 (fun _ h => h) h dX3_begin_87 (fun v32 ok33 h => ?_)
                refine lv_iload_n hx hb dX3_begin_90 rfl (lv_at hL 3 rfl) ?_
                refine xx_is h (fun hp34 h => ?_)
                refine xx_iald C B hp34 h dX3_begin_91 (fun v35 h => ?_)
                refine lv_goto (tgt := 96) hx hb dX3_begin_92 (by decide) ?_
                exact hj96 _ _ _ _ _ _ _ _ h B (lv_sub hL [0, 1, 2, 3] rfl)
        exact hl51 g_K _ _ _ _ _ h851 B (lv_sub hL [1, 2, 3, 0] rfl)
      refine lv_iload_n hx hb dX3_begin_2 rfl (lv_at hL 2 rfl) ?_
      refine lv_iconst (v := 5) hx hb dX3_begin_3 (by decide) ?_
      refine gg_icmp_ge hx hb 120 h dX3_begin_4 (by decide) (fun h => ?_) (fun h => ?_)
      · exact kx2 _ _ _ _ (g_exit h h92) B (lv_sub hL [0, 1] rfl)
      · refine lv_aload_n hx hb dX3_begin_7 rfl (lv_at hL 0 rfl) ?_
        refine xx_gr (ci := 3) (k := 2) C B xc_3 ht (by decide) (Nat.le_of_ble_eq_true rfl) rfl q308 (fun _ h => h) h dX3_begin_8 (fun v1 ok2 h => ?_)
        refine lv_iload_n hx hb dX3_begin_11 rfl (lv_at hL 2 rfl) ?_
        refine lv_iload_n hx hb dX3_begin_12 rfl (lv_at hL 2 rfl) ?_
        refine lv_aload_n hx hb dX3_begin_13 rfl (lv_at hL 1 rfl) ?_
        refine xx_is h (fun hp3 h => ?_)
        refine xx_gr (ci := 1) (k := 1) C B xc_1 hp3 (by decide) (Nat.le_of_ble_eq_true rfl) rfl q256 (fun _ h => h) h dX3_begin_14 (fun v4 ok5 h => ?_)
        refine xx_is h (fun hp6 h => ?_)
        refine k_J2_size hp6 C B q333 (Nat.le_trans (Nat.le_of_ble_eq_true rfl) hF) (Nat.le_trans (Nat.le_of_ble_eq_true rfl) hN) hL.1 (Nat.le_of_ble_eq_true rfl) ⟨Nat.zero_le _, Nat.zero_le _⟩ h dX3_begin_17 (fun q7 h H locs B => ?_)
        refine gg_icmp_ge hx hb 40 h dX3_begin_20 (by decide) (fun h => ?_) (fun h => ?_)
        · refine lv_iconst (v := 0) hx hb dX3_begin_40 (by decide) ?_
          exact hj41 _ _ _ _ _ _ _ _ h B (lv_sub hL [0, 1, 2] rfl)
        · refine lv_aload_n hx hb dX3_begin_23 rfl (lv_at hL 1 rfl) ?_
          refine xx_gr (ci := 1) (k := 1) C B xc_1 hp3 (by decide) (Nat.le_of_ble_eq_true rfl) rfl q256 (fun _ h => h) h dX3_begin_24 (fun v36 ok37 h => ?_)
          refine lv_iload_n hx hb dX3_begin_27 rfl (lv_at hL 2 rfl) ?_
          refine xx_is h (fun hp38 h => ?_)
          refine k_J2_get hp38 C B q337 (Nat.le_trans (Nat.le_of_ble_eq_true rfl) hF) (Nat.le_trans (Nat.le_of_ble_eq_true rfl) hN) hL.1 (Nat.le_of_ble_eq_true rfl) ⟨Nat.zero_le _, Nat.zero_le _⟩ h dX3_begin_28 (fun q39 h H locs B => ?_)
          refine xx_is h (fun hp40 h => ?_)
          refine xx_cast C B xc_6 hp40 (by decide) q351 dX3_begin_31 ?_
          refine xx_gi (ci := 6) (k := 3) C B xc_6 hp40 (by decide) (Nat.le_of_ble_eq_true rfl) rfl q980 (fun _ h => h) dX3_begin_34 ?_
          refine lv_goto (tgt := 41) hx hb dX3_begin_37 (by decide) ?_
          exact hj41 _ _ _ _ _ _ _ _ h B (lv_sub hL [0, 1, 2] rfl)
  exact hl2 g_K _ _ _ _ _ h82 B (lv_sub hL [1, 2, 0] rfl)
theorem k_X3_begin {p : Program} {l : Launch} {e : Env} {R : Room} {s : State} {m : MethodId} {args : Array Value} {below : List Frame} {meth : Method} {c : Code} {H : Heap} {locs : List Loc} {Q : State → Prop} {pc : Nat} {ls : Array Slot} {rest : List Value} {cc : ByteArray} {nL cells slots : Nat} {D : va_G} {cA : Nat → ClassId} {ad : Nat → Nat} {hk : HK} {nx : Nat} {A : Nat → Prop} {gi : GI} {gr : GR} {α : Type} {r : α} {own : String} {idx : Nat} {a0 : Nat} {a1 : Nat} {ff : (Nat × GI) → Option α} (ht : (hk a0).1 = 13) (C : CallFix p m c cc nL s args lw_all own) (B : XB D cA ad hk nx A s gi gr H locs) (hq : Cond.methodLink own idx yX3_begin ∈ lw_all) (hF : 5 ≤ R.frames) (hN : 151 ≤ R.locals) (hs : ls.size = nL) (hw : (rest.map fun v => v.category).sum ≤ 8) (hz0 : cells ≤ R.cells ∧ slots ≤ R.slots) (h : (f_X3_begin hk gi gr a0 a1).bind ff = some r) (hdg : decode cc pc = .ok (.invokevirtual idx, 3)) (kk : ∀ q, ff q = some r → ∀ (H' : Heap) (locs' : List Loc), XB D cA ad hk nx A s q.2 gr H' locs' → W p l e R s m args below meth c H' locs' cells slots Q (F0 m (pc + 3) ls (.ref (ad q.1) :: rest))) : W p l e R s m args below meth c H locs cells slots Q (F0 m pc ls (.ref (ad a1) :: .ref (ad a0) :: rest)) := by
  obtain ⟨q, h1, h2⟩ := g_ob h
  refine xx_cVR (As := [.ref (ad a1)]) (rest := rest) (n := 1) xc_3 ht (by decide) C B (fun sz => w_X3_begin l D cA ad hk nx gi gr a0 a1 ht q h1 sz) hq q330 q331 q147 q332 (by decide +kernel) ⟨hF, hN⟩ rfl hs hw hz0 hdg (fun v u H9 locs9 hp B9 => ?_)
  obtain ⟨v9, e0, e1, e3⟩ := hp
  subst e0
  rw [e3] at B9
  subst e1
  exact kk _ h2 H9 locs9 B9
def f_X5_here (hk : HK) (gi : GI) (gr : GR) (a0 : Nat) (x1 : Int32) : Option (Int32) :=
  (gr a0 10).bind fun v1 =>
  (g_is hk v1 10).bind fun _ =>
  if (gi v1 1) ≤ ((gi a0 0) + x1) then
  (some ((-1)))
  else
  ((gr a0 10).bind fun v4 =>
  (g_is hk v4 10).bind fun _ =>
  (gr v4 0).bind fun v7 =>
  (g_is hk v7 1).bind fun _ =>
  (g_ld gi v7 (hk v7).2 ((gi a0 0) + x1)).bind fun v10 =>
  some (v10 &&& 255))
set_option maxHeartbeats 400000 in
theorem w_X5_here (l : Launch) (D : va_G) (cA : Nat → ClassId) (ad : Nat → Nat) (hk : HK) (nx : Nat) (gi : GI) (gr : GR) (a0 : Nat) (x1 : Int32) (ht : (hk a0).1 = 14) (r : Int32) (h : f_X5_here hk gi gr a0 x1 = some r) (sz : Nat) : Met l yX5_here (ws_ yX5_here cX5_here 2 (some .int)) ({ frames := 1, cells := 0, slots := 0, locals := 64 } : Room) (va_Pc [.ref (ad a0), .int x1] (XPre D cA ad hk nx gi gr sz)) (va_Qi (fun v u => v = r ∧ u.1 = gi ∧ u.2 = gr) (XPost D cA ad hk nx) (XA ad nx sz)) 0 0 (XA ad nx sz) := by
  refine xx_stI (own := RX5) (P := (fun v u => v = r ∧ u.1 = gi ∧ u.2 = gr)) (by decide +kernel) rfl (Nat.le_of_ble_eq_true rfl) (fun p e s m args below meth c R Q A ls C hF hN B hret hL => ?_) sz
  have hx := C.1
  have hb := C.2.1
  have hL : lv_has ls 2 [(0, .ref (ad a0)), (1, .int x1)] := hL
  unfold f_X5_here at h
  refine lv_aload_n hx hb dX5_here_0 rfl (lv_at hL 0 rfl) ?_
  refine xx_gi (ci := 4) (k := 0) C B xc_4 ht (by decide) (Nat.le_of_ble_eq_true rfl) rfl q474 (fun _ h => h) dX5_here_1 ?_
  refine lv_iload_n hx hb dX5_here_4 rfl (lv_at hL 1 rfl) ?_
  refine lv_iadd hx hb dX5_here_5 ?_
  refine lv_aload_n hx hb dX5_here_6 rfl (lv_at hL 0 rfl) ?_
  refine xx_gr (ci := 4) (k := 10) C B xc_4 ht (by decide) (Nat.le_of_ble_eq_true rfl) rfl q484 (fun _ h => h) h dX5_here_7 (fun v1 ok2 h => ?_)
  refine xx_is h (fun hp3 h => ?_)
  refine xx_giN (ci := 0) (k := 1) C B xc_0 hp3 (by decide) (Nat.le_of_ble_eq_true rfl) rfl nw_q359 (fun _ h => h) dX5_here_10 ?_
  refine gg_icmp_ge hx hb 37 h dX5_here_13 (by decide) (fun h => ?_) (fun h => ?_)
  · refine lv_iconst (v := (-1)) hx hb dX5_here_37 (by decide) ?_
    exact hret _ _ _ _ _ _ _ ⟨Option.some.inj h, rfl, rfl⟩ B dX5_here_38
  · refine lv_aload_n hx hb dX5_here_16 rfl (lv_at hL 0 rfl) ?_
    refine xx_gr (ci := 4) (k := 10) C B xc_4 ht (by decide) (Nat.le_of_ble_eq_true rfl) rfl q484 (fun _ h => h) h dX5_here_17 (fun v4 ok5 h => ?_)
    refine xx_is h (fun hp6 h => ?_)
    refine xx_grN (ci := 0) (k := 0) C B xc_0 hp6 (by decide) (Nat.le_of_ble_eq_true rfl) rfl nw_q358 (fun _ h => h) h dX5_here_20 (fun v7 ok8 h => ?_)
    refine lv_aload_n hx hb dX5_here_23 rfl (lv_at hL 0 rfl) ?_
    refine xx_gi (ci := 4) (k := 0) C B xc_4 ht (by decide) (Nat.le_of_ble_eq_true rfl) rfl q474 (fun _ h => h) dX5_here_24 ?_
    refine lv_iload_n hx hb dX5_here_27 rfl (lv_at hL 1 rfl) ?_
    refine lv_iadd hx hb dX5_here_28 ?_
    refine xx_is h (fun hp9 h => ?_)
    refine xx_bald C B hp9 h dX5_here_29 (fun v10 h => ?_)
    refine lv_sipush (v := 255) hx hb dX5_here_30 (by decide) ?_
    refine lv_iand hx hb dX5_here_33 ?_
    refine lv_goto (tgt := 38) hx hb dX5_here_34 (by decide) ?_
    exact hret _ _ _ _ _ _ _ ⟨Option.some.inj h, rfl, rfl⟩ B dX5_here_38
theorem k_X5_here {p : Program} {l : Launch} {e : Env} {R : Room} {s : State} {m : MethodId} {args : Array Value} {below : List Frame} {meth : Method} {c : Code} {H : Heap} {locs : List Loc} {Q : State → Prop} {pc : Nat} {ls : Array Slot} {rest : List Value} {cc : ByteArray} {nL cells slots : Nat} {D : va_G} {cA : Nat → ClassId} {ad : Nat → Nat} {hk : HK} {nx : Nat} {A : Nat → Prop} {gi : GI} {gr : GR} {α : Type} {r : α} {own : String} {idx : Nat} {a0 : Nat} {x1 : Int32} {ff : Int32 → Option α} (ht : (hk a0).1 = 14) (C : CallFix p m c cc nL s args lw_all own) (B : XB D cA ad hk nx A s gi gr H locs) (hq : Cond.methodLink own idx yX5_here ∈ lw_all) (hF : 2 ≤ R.frames) (hN : 85 ≤ R.locals) (hs : ls.size = nL) (hw : (rest.map fun v => v.category).sum ≤ 8) (hz0 : cells ≤ R.cells ∧ slots ≤ R.slots) (h : (f_X5_here hk gi gr a0 x1).bind ff = some r) (hdg : decode cc pc = .ok (.invokevirtual idx, 3)) (kk : ∀ q, ff q = some r → ∀ (H' : Heap) (locs' : List Loc), XB D cA ad hk nx A s gi gr H' locs' → W p l e R s m args below meth c H' locs' cells slots Q (F0 m (pc + 3) ls (.int q :: rest))) : W p l e R s m args below meth c H locs cells slots Q (F0 m pc ls (.int x1 :: .ref (ad a0) :: rest)) := by
  obtain ⟨q, h1, h2⟩ := g_ob h
  refine xx_cVI (As := [.int x1]) (rest := rest) (n := 1) xc_4 ht (by decide) C B (fun sz => w_X5_here l D cA ad hk nx gi gr a0 x1 ht q h1 sz) hq q518 qs1 q151 q519 (by decide +kernel) ⟨hF, hN⟩ rfl hs hw hz0 hdg (fun v u H9 locs9 hp B9 => ?_)
  obtain ⟨e1, e2, e3⟩ := hp
  rw [e2] at B9
  rw [e3] at B9
  subst e1
  exact kk _ h2 H9 locs9 B9
def f_X5_isLetter (hk : HK) (gi : GI) (gr : GR) (a0 : Nat) (x1 : Int32) : Option (Int32) :=
  (f_X5_here hk gi gr a0 x1).bind fun q1 =>
  if q1 < 97 then
  (some 0)
  else
  ((f_X5_here hk gi gr a0 x1).bind fun q2 =>
  if 122 < q2 then
  (some 0)
  else
  (some 1))
set_option maxHeartbeats 400000 in
theorem w_X5_isLetter (l : Launch) (D : va_G) (cA : Nat → ClassId) (ad : Nat → Nat) (hk : HK) (nx : Nat) (gi : GI) (gr : GR) (a0 : Nat) (x1 : Int32) (ht : (hk a0).1 = 14) (r : Int32) (h : f_X5_isLetter hk gi gr a0 x1 = some r) (sz : Nat) : Met l yX5_isLetter (ws_ yX5_isLetter cX5_isLetter 2 (some .boolean)) ({ frames := 2, cells := 0, slots := 0, locals := 85 } : Room) (va_Pc [.ref (ad a0), .int x1] (XPre D cA ad hk nx gi gr sz)) (va_Qi (fun v u => v = r ∧ u.1 = gi ∧ u.2 = gr) (XPost D cA ad hk nx) (XA ad nx sz)) 0 0 (XA ad nx sz) := by
  refine xx_stZ (own := RX5) (P := (fun v u => v = r ∧ u.1 = gi ∧ u.2 = gr)) (by decide +kernel) rfl (Nat.le_of_ble_eq_true rfl) (fun p e s m args below meth c R Q A ls C hF hN B hret hL => ?_) sz
  have hx := C.1
  have hb := C.2.1
  have hL : lv_has ls 2 [(0, .ref (ad a0)), (1, .int x1)] := hL
  unfold f_X5_isLetter at h
  refine lv_aload_n hx hb dX5_isLetter_0 rfl (lv_at hL 0 rfl) ?_
  refine lv_iload_n hx hb dX5_isLetter_1 rfl (lv_at hL 1 rfl) ?_
  refine k_X5_here ht C B q516 (Nat.le_trans (Nat.le_of_ble_eq_true rfl) hF) (Nat.le_trans (Nat.le_of_ble_eq_true rfl) hN) hL.1 (Nat.le_of_ble_eq_true rfl) ⟨Nat.zero_le _, Nat.zero_le _⟩ h dX5_isLetter_2 (fun q1 h H locs B => ?_)
  refine lv_bipush (v := 97) hx hb dX5_isLetter_5 (by decide) ?_
  refine gg_icmp_lt hx hb 24 h dX5_isLetter_7 (by decide) (fun h => ?_) (fun h => ?_)
  · refine lv_iconst (v := 0) hx hb dX5_isLetter_24 (by decide) ?_
    exact hret _ _ _ _ _ _ _ ⟨Option.some.inj h, rfl, rfl⟩ (Or.inl rfl) B dX5_isLetter_25
  · refine lv_aload_n hx hb dX5_isLetter_10 rfl (lv_at hL 0 rfl) ?_
    refine lv_iload_n hx hb dX5_isLetter_11 rfl (lv_at hL 1 rfl) ?_
    refine k_X5_here ht C B q516 (Nat.le_trans (Nat.le_of_ble_eq_true rfl) hF) (Nat.le_trans (Nat.le_of_ble_eq_true rfl) hN) hL.1 (Nat.le_of_ble_eq_true rfl) ⟨Nat.zero_le _, Nat.zero_le _⟩ h dX5_isLetter_12 (fun q2 h H locs B => ?_)
    refine lv_bipush (v := 122) hx hb dX5_isLetter_15 (by decide) ?_
    refine gg_icmp_gt hx hb 24 h dX5_isLetter_17 (by decide) (fun h => ?_) (fun h => ?_)
    · refine lv_iconst (v := 0) hx hb dX5_isLetter_24 (by decide) ?_
      exact hret _ _ _ _ _ _ _ ⟨Option.some.inj h, rfl, rfl⟩ (Or.inl rfl) B dX5_isLetter_25
    · refine lv_iconst (v := 1) hx hb dX5_isLetter_20 (by decide) ?_
      refine lv_goto (tgt := 25) hx hb dX5_isLetter_21 (by decide) ?_
      exact hret _ _ _ _ _ _ _ ⟨Option.some.inj h, rfl, rfl⟩ (Or.inr rfl) B dX5_isLetter_25
theorem k_X5_isLetter {p : Program} {l : Launch} {e : Env} {R : Room} {s : State} {m : MethodId} {args : Array Value} {below : List Frame} {meth : Method} {c : Code} {H : Heap} {locs : List Loc} {Q : State → Prop} {pc : Nat} {ls : Array Slot} {rest : List Value} {cc : ByteArray} {nL cells slots : Nat} {D : va_G} {cA : Nat → ClassId} {ad : Nat → Nat} {hk : HK} {nx : Nat} {A : Nat → Prop} {gi : GI} {gr : GR} {α : Type} {r : α} {own : String} {idx : Nat} {a0 : Nat} {x1 : Int32} {ff : Int32 → Option α} (ht : (hk a0).1 = 14) (C : CallFix p m c cc nL s args lw_all own) (B : XB D cA ad hk nx A s gi gr H locs) (hq : Cond.methodLink own idx yX5_isLetter ∈ lw_all) (hF : 3 ≤ R.frames) (hN : 106 ≤ R.locals) (hs : ls.size = nL) (hw : (rest.map fun v => v.category).sum ≤ 8) (hz0 : cells ≤ R.cells ∧ slots ≤ R.slots) (h : (f_X5_isLetter hk gi gr a0 x1).bind ff = some r) (hdg : decode cc pc = .ok (.invokevirtual idx, 3)) (kk : ∀ q, ff q = some r → ∀ (H' : Heap) (locs' : List Loc), XB D cA ad hk nx A s gi gr H' locs' → W p l e R s m args below meth c H' locs' cells slots Q (F0 m (pc + 3) ls (.int q :: rest))) : W p l e R s m args below meth c H locs cells slots Q (F0 m pc ls (.int x1 :: .ref (ad a0) :: rest)) := by
  obtain ⟨q, h1, h2⟩ := g_ob h
  refine xx_cVI (As := [.int x1]) (rest := rest) (n := 1) xc_4 ht (by decide) C B (fun sz => w_X5_isLetter l D cA ad hk nx gi gr a0 x1 ht q h1 sz) hq q522 qs2 q151 q523 (by decide +kernel) ⟨hF, hN⟩ rfl hs hw hz0 hdg (fun v u H9 locs9 hp B9 => ?_)
  obtain ⟨e1, e2, e3⟩ := hp
  rw [e2] at B9
  rw [e3] at B9
  subst e1
  exact kk _ h2 H9 locs9 B9
def f_X5_isDigit (hk : HK) (gi : GI) (gr : GR) (a0 : Nat) (x1 : Int32) : Option (Int32) :=
  (f_X5_here hk gi gr a0 x1).bind fun q1 =>
  if q1 < 48 then
  (some 0)
  else
  ((f_X5_here hk gi gr a0 x1).bind fun q2 =>
  if 57 < q2 then
  (some 0)
  else
  (some 1))
set_option maxHeartbeats 400000 in
theorem w_X5_isDigit (l : Launch) (D : va_G) (cA : Nat → ClassId) (ad : Nat → Nat) (hk : HK) (nx : Nat) (gi : GI) (gr : GR) (a0 : Nat) (x1 : Int32) (ht : (hk a0).1 = 14) (r : Int32) (h : f_X5_isDigit hk gi gr a0 x1 = some r) (sz : Nat) : Met l yX5_isDigit (ws_ yX5_isDigit cX5_isDigit 2 (some .boolean)) ({ frames := 2, cells := 0, slots := 0, locals := 85 } : Room) (va_Pc [.ref (ad a0), .int x1] (XPre D cA ad hk nx gi gr sz)) (va_Qi (fun v u => v = r ∧ u.1 = gi ∧ u.2 = gr) (XPost D cA ad hk nx) (XA ad nx sz)) 0 0 (XA ad nx sz) := by
  refine xx_stZ (own := RX5) (P := (fun v u => v = r ∧ u.1 = gi ∧ u.2 = gr)) (by decide +kernel) rfl (Nat.le_of_ble_eq_true rfl) (fun p e s m args below meth c R Q A ls C hF hN B hret hL => ?_) sz
  have hx := C.1
  have hb := C.2.1
  have hL : lv_has ls 2 [(0, .ref (ad a0)), (1, .int x1)] := hL
  unfold f_X5_isDigit at h
  refine lv_aload_n hx hb dX5_isDigit_0 rfl (lv_at hL 0 rfl) ?_
  refine lv_iload_n hx hb dX5_isDigit_1 rfl (lv_at hL 1 rfl) ?_
  refine k_X5_here ht C B q516 (Nat.le_trans (Nat.le_of_ble_eq_true rfl) hF) (Nat.le_trans (Nat.le_of_ble_eq_true rfl) hN) hL.1 (Nat.le_of_ble_eq_true rfl) ⟨Nat.zero_le _, Nat.zero_le _⟩ h dX5_isDigit_2 (fun q1 h H locs B => ?_)
  refine lv_bipush (v := 48) hx hb dX5_isDigit_5 (by decide) ?_
  refine gg_icmp_lt hx hb 24 h dX5_isDigit_7 (by decide) (fun h => ?_) (fun h => ?_)
  · refine lv_iconst (v := 0) hx hb dX5_isDigit_24 (by decide) ?_
    exact hret _ _ _ _ _ _ _ ⟨Option.some.inj h, rfl, rfl⟩ (Or.inl rfl) B dX5_isDigit_25
  · refine lv_aload_n hx hb dX5_isDigit_10 rfl (lv_at hL 0 rfl) ?_
    refine lv_iload_n hx hb dX5_isDigit_11 rfl (lv_at hL 1 rfl) ?_
    refine k_X5_here ht C B q516 (Nat.le_trans (Nat.le_of_ble_eq_true rfl) hF) (Nat.le_trans (Nat.le_of_ble_eq_true rfl) hN) hL.1 (Nat.le_of_ble_eq_true rfl) ⟨Nat.zero_le _, Nat.zero_le _⟩ h dX5_isDigit_12 (fun q2 h H locs B => ?_)
    refine lv_bipush (v := 57) hx hb dX5_isDigit_15 (by decide) ?_
    refine gg_icmp_gt hx hb 24 h dX5_isDigit_17 (by decide) (fun h => ?_) (fun h => ?_)
    · refine lv_iconst (v := 0) hx hb dX5_isDigit_24 (by decide) ?_
      exact hret _ _ _ _ _ _ _ ⟨Option.some.inj h, rfl, rfl⟩ (Or.inl rfl) B dX5_isDigit_25
    · refine lv_iconst (v := 1) hx hb dX5_isDigit_20 (by decide) ?_
      refine lv_goto (tgt := 25) hx hb dX5_isDigit_21 (by decide) ?_
      exact hret _ _ _ _ _ _ _ ⟨Option.some.inj h, rfl, rfl⟩ (Or.inr rfl) B dX5_isDigit_25
theorem k_X5_isDigit {p : Program} {l : Launch} {e : Env} {R : Room} {s : State} {m : MethodId} {args : Array Value} {below : List Frame} {meth : Method} {c : Code} {H : Heap} {locs : List Loc} {Q : State → Prop} {pc : Nat} {ls : Array Slot} {rest : List Value} {cc : ByteArray} {nL cells slots : Nat} {D : va_G} {cA : Nat → ClassId} {ad : Nat → Nat} {hk : HK} {nx : Nat} {A : Nat → Prop} {gi : GI} {gr : GR} {α : Type} {r : α} {own : String} {idx : Nat} {a0 : Nat} {x1 : Int32} {ff : Int32 → Option α} (ht : (hk a0).1 = 14) (C : CallFix p m c cc nL s args lw_all own) (B : XB D cA ad hk nx A s gi gr H locs) (hq : Cond.methodLink own idx yX5_isDigit ∈ lw_all) (hF : 3 ≤ R.frames) (hN : 106 ≤ R.locals) (hs : ls.size = nL) (hw : (rest.map fun v => v.category).sum ≤ 8) (hz0 : cells ≤ R.cells ∧ slots ≤ R.slots) (h : (f_X5_isDigit hk gi gr a0 x1).bind ff = some r) (hdg : decode cc pc = .ok (.invokevirtual idx, 3)) (kk : ∀ q, ff q = some r → ∀ (H' : Heap) (locs' : List Loc), XB D cA ad hk nx A s gi gr H' locs' → W p l e R s m args below meth c H' locs' cells slots Q (F0 m (pc + 3) ls (.int q :: rest))) : W p l e R s m args below meth c H locs cells slots Q (F0 m pc ls (.int x1 :: .ref (ad a0) :: rest)) := by
  obtain ⟨q, h1, h2⟩ := g_ob h
  refine xx_cVI (As := [.int x1]) (rest := rest) (n := 1) xc_4 ht (by decide) C B (fun sz => w_X5_isDigit l D cA ad hk nx gi gr a0 x1 ht q h1 sz) hq q713 qs3 q151 q714 (by decide +kernel) ⟨hF, hN⟩ rfl hs hw hz0 hdg (fun v u H9 locs9 hp B9 => ?_)
  obtain ⟨e1, e2, e3⟩ := hp
  rw [e2] at B9
  rw [e3] at B9
  subst e1
  exact kk _ h2 H9 locs9 B9
def f_X5_isSign (hk : HK) (gi : GI) (gr : GR) (x0 : Int32) : Option (Int32) :=
  if x0 = 59 then
  (some 1)
  else
  (if x0 = 40 then
  (some 1)
  else
  (if x0 = 41 then
  (some 1)
  else
  (if x0 = 60 then
  (some 1)
  else
  (if x0 = 62 then
  (some 1)
  else
  (if x0 = 61 then
  (some 1)
  else
  (if x0 = 43 then
  (some 1)
  else
  (if x0 = 45 then
  (some 1)
  else
  (if x0 = 42 then
  (some 1)
  else
  (if x0 = 47 then
  (some 1)
  else
  (if x0 = 37 then
  (some 1)
  else
  (some 0)))))))))))
set_option maxHeartbeats 400000 in
theorem w_X5_isSign (l : Launch) (D : va_G) (cA : Nat → ClassId) (ad : Nat → Nat) (hk : HK) (nx : Nat) (gi : GI) (gr : GR) (x0 : Int32) (r : Int32) (h : f_X5_isSign hk gi gr x0 = some r) (sz : Nat) : Met l yX5_isSign (ws_ yX5_isSign cX5_isSign 1 (some .boolean)) ({ frames := 1, cells := 0, slots := 0, locals := 64 } : Room) (va_Pc [.int x0] (XPre D cA ad hk nx gi gr sz)) (va_Qi (fun v u => v = r ∧ u.1 = gi ∧ u.2 = gr) (XPost D cA ad hk nx) (XA ad nx sz)) 0 0 (XA ad nx sz) := by
  refine xx_stZ (own := RX5) (P := (fun v u => v = r ∧ u.1 = gi ∧ u.2 = gr)) (by decide +kernel) rfl (Nat.le_of_ble_eq_true rfl) (fun p e s m args below meth c R Q A ls C hF hN B hret hL => ?_) sz
  have hx := C.1
  have hb := C.2.1
  have hL : lv_has ls 1 [(0, .int x0)] := hL
  unfold f_X5_isSign at h
  refine lv_iload_n hx hb dX5_isSign_0 rfl (lv_at hL 0 rfl) ?_
  refine lv_bipush (v := 59) hx hb dX5_isSign_1 (by decide) ?_
  refine gg_icmp_eq hx hb 66 h dX5_isSign_3 (by decide) (fun h => ?_) (fun h => ?_)
  · refine lv_iconst (v := 1) hx hb dX5_isSign_66 (by decide) ?_
    refine lv_goto (tgt := 71) hx hb dX5_isSign_67 (by decide) ?_
    exact hret _ _ _ _ _ _ _ ⟨Option.some.inj h, rfl, rfl⟩ (Or.inr rfl) B dX5_isSign_71
  · refine lv_iload_n hx hb dX5_isSign_6 rfl (lv_at hL 0 rfl) ?_
    refine lv_bipush (v := 40) hx hb dX5_isSign_7 (by decide) ?_
    refine gg_icmp_eq hx hb 66 h dX5_isSign_9 (by decide) (fun h => ?_) (fun h => ?_)
    · refine lv_iconst (v := 1) hx hb dX5_isSign_66 (by decide) ?_
      refine lv_goto (tgt := 71) hx hb dX5_isSign_67 (by decide) ?_
      exact hret _ _ _ _ _ _ _ ⟨Option.some.inj h, rfl, rfl⟩ (Or.inr rfl) B dX5_isSign_71
    · refine lv_iload_n hx hb dX5_isSign_12 rfl (lv_at hL 0 rfl) ?_
      refine lv_bipush (v := 41) hx hb dX5_isSign_13 (by decide) ?_
      refine gg_icmp_eq hx hb 66 h dX5_isSign_15 (by decide) (fun h => ?_) (fun h => ?_)
      · refine lv_iconst (v := 1) hx hb dX5_isSign_66 (by decide) ?_
        refine lv_goto (tgt := 71) hx hb dX5_isSign_67 (by decide) ?_
        exact hret _ _ _ _ _ _ _ ⟨Option.some.inj h, rfl, rfl⟩ (Or.inr rfl) B dX5_isSign_71
      · refine lv_iload_n hx hb dX5_isSign_18 rfl (lv_at hL 0 rfl) ?_
        refine lv_bipush (v := 60) hx hb dX5_isSign_19 (by decide) ?_
        refine gg_icmp_eq hx hb 66 h dX5_isSign_21 (by decide) (fun h => ?_) (fun h => ?_)
        · refine lv_iconst (v := 1) hx hb dX5_isSign_66 (by decide) ?_
          refine lv_goto (tgt := 71) hx hb dX5_isSign_67 (by decide) ?_
          exact hret _ _ _ _ _ _ _ ⟨Option.some.inj h, rfl, rfl⟩ (Or.inr rfl) B dX5_isSign_71
        · refine lv_iload_n hx hb dX5_isSign_24 rfl (lv_at hL 0 rfl) ?_
          refine lv_bipush (v := 62) hx hb dX5_isSign_25 (by decide) ?_
          refine gg_icmp_eq hx hb 66 h dX5_isSign_27 (by decide) (fun h => ?_) (fun h => ?_)
          · refine lv_iconst (v := 1) hx hb dX5_isSign_66 (by decide) ?_
            refine lv_goto (tgt := 71) hx hb dX5_isSign_67 (by decide) ?_
            exact hret _ _ _ _ _ _ _ ⟨Option.some.inj h, rfl, rfl⟩ (Or.inr rfl) B dX5_isSign_71
          · refine lv_iload_n hx hb dX5_isSign_30 rfl (lv_at hL 0 rfl) ?_
            refine lv_bipush (v := 61) hx hb dX5_isSign_31 (by decide) ?_
            refine gg_icmp_eq hx hb 66 h dX5_isSign_33 (by decide) (fun h => ?_) (fun h => ?_)
            · refine lv_iconst (v := 1) hx hb dX5_isSign_66 (by decide) ?_
              refine lv_goto (tgt := 71) hx hb dX5_isSign_67 (by decide) ?_
              exact hret _ _ _ _ _ _ _ ⟨Option.some.inj h, rfl, rfl⟩ (Or.inr rfl) B dX5_isSign_71
            · refine lv_iload_n hx hb dX5_isSign_36 rfl (lv_at hL 0 rfl) ?_
              refine lv_bipush (v := 43) hx hb dX5_isSign_37 (by decide) ?_
              refine gg_icmp_eq hx hb 66 h dX5_isSign_39 (by decide) (fun h => ?_) (fun h => ?_)
              · refine lv_iconst (v := 1) hx hb dX5_isSign_66 (by decide) ?_
                refine lv_goto (tgt := 71) hx hb dX5_isSign_67 (by decide) ?_
                exact hret _ _ _ _ _ _ _ ⟨Option.some.inj h, rfl, rfl⟩ (Or.inr rfl) B dX5_isSign_71
              · refine lv_iload_n hx hb dX5_isSign_42 rfl (lv_at hL 0 rfl) ?_
                refine lv_bipush (v := 45) hx hb dX5_isSign_43 (by decide) ?_
                refine gg_icmp_eq hx hb 66 h dX5_isSign_45 (by decide) (fun h => ?_) (fun h => ?_)
                · refine lv_iconst (v := 1) hx hb dX5_isSign_66 (by decide) ?_
                  refine lv_goto (tgt := 71) hx hb dX5_isSign_67 (by decide) ?_
                  exact hret _ _ _ _ _ _ _ ⟨Option.some.inj h, rfl, rfl⟩ (Or.inr rfl) B dX5_isSign_71
                · refine lv_iload_n hx hb dX5_isSign_48 rfl (lv_at hL 0 rfl) ?_
                  refine lv_bipush (v := 42) hx hb dX5_isSign_49 (by decide) ?_
                  refine gg_icmp_eq hx hb 66 h dX5_isSign_51 (by decide) (fun h => ?_) (fun h => ?_)
                  · refine lv_iconst (v := 1) hx hb dX5_isSign_66 (by decide) ?_
                    refine lv_goto (tgt := 71) hx hb dX5_isSign_67 (by decide) ?_
                    exact hret _ _ _ _ _ _ _ ⟨Option.some.inj h, rfl, rfl⟩ (Or.inr rfl) B dX5_isSign_71
                  · refine lv_iload_n hx hb dX5_isSign_54 rfl (lv_at hL 0 rfl) ?_
                    refine lv_bipush (v := 47) hx hb dX5_isSign_55 (by decide) ?_
                    refine gg_icmp_eq hx hb 66 h dX5_isSign_57 (by decide) (fun h => ?_) (fun h => ?_)
                    · refine lv_iconst (v := 1) hx hb dX5_isSign_66 (by decide) ?_
                      refine lv_goto (tgt := 71) hx hb dX5_isSign_67 (by decide) ?_
                      exact hret _ _ _ _ _ _ _ ⟨Option.some.inj h, rfl, rfl⟩ (Or.inr rfl) B dX5_isSign_71
                    · refine lv_iload_n hx hb dX5_isSign_60 rfl (lv_at hL 0 rfl) ?_
                      refine lv_bipush (v := 37) hx hb dX5_isSign_61 (by decide) ?_
                      refine gg_icmp_ne hx hb 70 h dX5_isSign_63 (by decide) (fun h => ?_) (fun h => ?_)
                      · refine lv_iconst (v := 0) hx hb dX5_isSign_70 (by decide) ?_
                        exact hret _ _ _ _ _ _ _ ⟨Option.some.inj h, rfl, rfl⟩ (Or.inl rfl) B dX5_isSign_71
                      · refine lv_iconst (v := 1) hx hb dX5_isSign_66 (by decide) ?_
                        refine lv_goto (tgt := 71) hx hb dX5_isSign_67 (by decide) ?_
                        exact hret _ _ _ _ _ _ _ ⟨Option.some.inj h, rfl, rfl⟩ (Or.inr rfl) B dX5_isSign_71
theorem k_X5_isSign {p : Program} {l : Launch} {e : Env} {R : Room} {s : State} {m : MethodId} {args : Array Value} {below : List Frame} {meth : Method} {c : Code} {H : Heap} {locs : List Loc} {Q : State → Prop} {pc : Nat} {ls : Array Slot} {rest : List Value} {cc : ByteArray} {nL cells slots : Nat} {D : va_G} {cA : Nat → ClassId} {ad : Nat → Nat} {hk : HK} {nx : Nat} {A : Nat → Prop} {gi : GI} {gr : GR} {α : Type} {r : α} {own : String} {idx : Nat} {x0 : Int32} {ff : Int32 → Option α} (C : CallFix p m c cc nL s args lw_all own) (B : XB D cA ad hk nx A s gi gr H locs) (hq : Cond.methodLink own idx yX5_isSign ∈ lw_all) (hF : 2 ≤ R.frames) (hN : 84 ≤ R.locals) (hs : ls.size = nL) (hw : (rest.map fun v => v.category).sum ≤ 8) (hz0 : cells ≤ R.cells ∧ slots ≤ R.slots) (h : (f_X5_isSign hk gi gr x0).bind ff = some r) (hdg : decode cc pc = .ok (.invokestatic idx, 3)) (kk : ∀ q, ff q = some r → ∀ (H' : Heap) (locs' : List Loc), XB D cA ad hk nx A s gi gr H' locs' → W p l e R s m args below meth c H' locs' cells slots Q (F0 m (pc + 3) ls (.int q :: rest))) : W p l e R s m args below meth c H locs cells slots Q (F0 m pc ls (.int x0 :: rest)) := by
  obtain ⟨q, h1, h2⟩ := g_ob h
  refine xx_cSI (As := [.int x0]) (rest := rest) (n := 1) C B (fun sz => w_X5_isSign l D cA ad hk nx gi gr x0 q h1 sz) hq q716 q151 q717 (by decide +kernel) ⟨hF, hN⟩ rfl hs hw hz0 hdg (fun v u H9 locs9 hp B9 => ?_)
  obtain ⟨e1, e2, e3⟩ := hp
  rw [e2] at B9
  rw [e3] at B9
  subst e1
  exact kk _ h2 H9 locs9 B9

/-! TEXTS; what a Reader asks of its token -/
set_option maxRecDepth 100000
def f_J12_equals_L_l9 (hk : HK) (gii9 : GI) (gri9 : GR) (a0i9 : Nat) (a1i9 : Nat) (x2l9 : Int32) : Option ((Int32) ⊕ ((Unit) ⊕ (Int32))) :=
  if (Int32.ofNat (hk a0i9).2) ≤ x2l9 then
  (some (.inr (.inl ())))
  else
  ((g_ld gii9 a0i9 (hk a0i9).2 x2l9).bind fun v2 =>
  (g_ldB a1i9 x2l9).bind fun v3 =>
  if v2 = v3 then
  (some (.inl (x2l9 + 1)))
  else
  (some (.inr (.inr 0))))
def f_J12_equals_L_x9 (hk : HK) (giy9 : GI) (gry9 : GR) : Option (Int32) :=
  some 1
def f_J12_equals_L (hk : HK) (gi : GI) (gr : GR) (a0 : Nat) (a1 : Nat) : Option (Int32) :=
  (g_is hk a0 1).bind fun _ =>
  if (Int32.ofNat (hk a0).2) = (Int32.ofNat (stL.getD a1 0)) then
  ((g_loop g_K (fun (s : Int32) => f_J12_equals_L_l9 hk gi gr a0 a1 s) (0)).bind fun E9 => Sum.elim (fun (S9 : Unit) => f_J12_equals_L_x9 hk gi gr) (fun (r9 : Int32) => some r9) E9)
  else
  (some 0)
set_option maxHeartbeats 400000 in
theorem w_J12_equals_L (l : Launch) (D : va_G) (cA : Nat → ClassId) (ad : Nat → Nat) (hk : HK) (nx : Nat) (gi : GI) (gr : GR) (a0 : Nat) (a1 : Nat) (hi : a1 < 22) (r : Int32) (h : f_J12_equals_L hk gi gr a0 a1 = some r) (sz : Nat) : Met l yJ12_equals (ws_ yJ12_equals cJ12_equals 3 (some .boolean)) ({ frames := 1, cells := 0, slots := 0, locals := 64 } : Room) (va_Pc [.ref (ad a0), .ref (ad (1000200 + a1))] (XPre D cA ad hk nx gi gr sz)) (va_Qi (fun v u => v = r ∧ u.1 = gi ∧ u.2 = gr) (XPost D cA ad hk nx) (XA ad nx sz)) 0 0 (XA ad nx sz) := by
  refine xx_stZ (own := RJ12) (P := (fun v u => v = r ∧ u.1 = gi ∧ u.2 = gr)) (by decide +kernel) rfl (Nat.le_of_ble_eq_true rfl) (fun p e s m args below meth c R Q A ls C hF hN B hret hL => ?_) sz
  have hx := C.1
  have hb := C.2.1
  have hL : lv_has ls 3 [(0, .ref (ad a0)), (1, .ref (ad (1000200 + a1)))] := hL
  unfold f_J12_equals_L at h
  refine lv_aload_n hx hb dJ12_equals_0 rfl (lv_at hL 0 rfl) ?_
  refine xx_is h (fun hp1 h => ?_)
  refine xx_alen C B hp1 (by decide) dJ12_equals_1 ?_
  refine lv_aload_n hx hb dJ12_equals_2 rfl (lv_at hL 1 rfl) ?_
  refine xx_Blen C B hi dJ12_equals_3 ?_
  refine gg_icmp_ne hx hb 34 h dJ12_equals_4 (by decide) (fun h => ?_) (fun h => ?_)
  · refine lv_iconst (v := 0) hx hb dJ12_equals_34 (by decide) ?_
    exact hret _ _ _ _ _ _ _ ⟨Option.some.inj h, rfl, rfl⟩ (Or.inl rfl) B dJ12_equals_35
  · refine lv_iconst (v := 0) hx hb dJ12_equals_7 (by decide) ?_
    refine lv_istore_n (lv' := [(2, .int 0), (0, .ref (ad a0)), (1, .ref (ad (1000200 + a1)))]) hx hb dJ12_equals_8 rfl hL (by decide) rfl (fun ls hL => ?_)
    obtain ⟨E9, h89, h⟩ := g_ob h
    have kx9 : ∀  (H : Heap) (locs : List Loc) (ls : Array Slot), Sum.inl () = E9 → XB D cA ad hk nx A s gi gr H locs → lv_has ls 3 [] → W p l e R s m args below meth c H locs 0 0 Q (F0 m 32 ls []) := by
      intro  H locs ls he B hL
      subst he
      have h : f_J12_equals_L_x9 hk gi gr = some r := h
      unfold f_J12_equals_L_x9 at h
      refine lv_iconst (v := 1) hx hb dJ12_equals_32 (by decide) ?_
      exact hret _ _ _ _ _ _ _ ⟨Option.some.inj h, rfl, rfl⟩ (Or.inr rfl) B dJ12_equals_33
    have kr9 : ∀ (v : Int32) (H : Heap) (locs : List Loc) (ls : Array Slot) (pc : Nat), Sum.inr v = E9 → (v = 0 ∨ v = 1) → XB D cA ad hk nx A s gi gr H locs → decode cJ12_equals pc = .ok (.ireturn, 1) → W p l e R s m args below meth c H locs 0 0 Q (F0 m pc ls [.int v]) := by
      intro v H locs ls pc he hz B hd
      subst he
      have h := g_er h
      exact hret _ _ _ _ _ _ _ ⟨Option.some.inj h, rfl, rfl⟩ hz B hd
    have hl9 : ∀ (k : Nat) (x2l9 : Int32) (H : Heap) (locs : List Loc) (ls : Array Slot), g_loop k (fun (s : Int32) => f_J12_equals_L_l9 hk gi gr a0 a1 s) x2l9 = some E9 → XB D cA ad hk nx A s gi gr H locs → lv_has ls 3 [(0, .ref (ad a0)), (1, .ref (ad (1000200 + a1))), (2, .int x2l9)] → W p l e R s m args below meth c H locs 0 0 Q (F0 m 9 ls []) := by
      intro k
      induction k with
      | zero => intro x2l9 H locs ls h; exact absurd h (fun z => g_loop_0 z)
      | succ k ih9 =>
        intro x2l9 H locs ls h B hL
        obtain ⟨Z9, h, h99⟩ := g_loop_s h
        have h : f_J12_equals_L_l9 hk gi gr a0 a1 x2l9 = some Z9 := h
        unfold f_J12_equals_L_l9 at h
        refine lv_iload_n hx hb dJ12_equals_9 rfl (lv_at hL 2 rfl) ?_
        refine lv_aload_n hx hb dJ12_equals_10 rfl (lv_at hL 0 rfl) ?_
        refine xx_alen C B hp1 (by decide) dJ12_equals_11 ?_
        refine gg_icmp_ge hx hb 32 h dJ12_equals_12 (by decide) (fun h => ?_) (fun h => ?_)
        · exact kx9  _ _ _ (g_exit h h99) B (lv_sub hL [] rfl)
        · refine lv_aload_n hx hb dJ12_equals_15 rfl (lv_at hL 0 rfl) ?_
          refine lv_iload_n hx hb dJ12_equals_16 rfl (lv_at hL 2 rfl) ?_
          refine xx_bald C B hp1 h dJ12_equals_17 (fun v2 h => ?_)
          refine lv_aload_n hx hb dJ12_equals_18 rfl (lv_at hL 1 rfl) ?_
          refine lv_iload_n hx hb dJ12_equals_19 rfl (lv_at hL 2 rfl) ?_
          refine xx_Bald C B hi h dJ12_equals_20 (fun v3 h => ?_)
          refine gg_icmp_eq hx hb 26 h dJ12_equals_21 (by decide) (fun h => ?_) (fun h => ?_)
          · refine lv_iinc (v := x2l9 + 1) (lv' := [(2, .int (x2l9 + 1)), (0, .ref (ad a0)), (1, .ref (ad (1000200 + a1)))]) hx hb dJ12_equals_26 hL (k := 2) rfl rfl (by decide) rfl (fun ls hL => ?_)
            refine lv_goto (tgt := 9) hx hb dJ12_equals_29 (by decide) ?_
            exact ih9 _ _ _ _ (g_next h h99) B (lv_sub hL [1, 2, 0] rfl)
          · refine lv_iconst (v := 0) hx hb dJ12_equals_24 (by decide) ?_
            exact kr9 _ _ _ _ _ (g_exit h h99) (Or.inl rfl) B dJ12_equals_25
    exact hl9 g_K _ _ _ _ h89 B (lv_sub hL [1, 2, 0] rfl)
theorem k_J12_equals_L {p : Program} {l : Launch} {e : Env} {R : Room} {s : State} {m : MethodId} {args : Array Value} {below : List Frame} {meth : Method} {c : Code} {H : Heap} {locs : List Loc} {Q : State → Prop} {pc : Nat} {ls : Array Slot} {rest : List Value} {cc : ByteArray} {nL cells slots : Nat} {D : va_G} {cA : Nat → ClassId} {ad : Nat → Nat} {hk : HK} {nx : Nat} {A : Nat → Prop} {gi : GI} {gr : GR} {α : Type} {r : α} {own : String} {idx : Nat} {a0 : Nat} {a1 : Nat} {ff : Int32 → Option α} (hi : a1 < 22) (C : CallFix p m c cc nL s args lw_all own) (B : XB D cA ad hk nx A s gi gr H locs) (hq : Cond.methodLink own idx yJ12_equals ∈ lw_all) (hF : 2 ≤ R.frames) (hN : 86 ≤ R.locals) (hs : ls.size = nL) (hw : (rest.map fun v => v.category).sum ≤ 8) (hz0 : cells ≤ R.cells ∧ slots ≤ R.slots) (h : (f_J12_equals_L hk gi gr a0 a1).bind ff = some r) (hdg : decode cc pc = .ok (.invokestatic idx, 3)) (kk : ∀ q, ff q = some r → ∀ (H' : Heap) (locs' : List Loc), XB D cA ad hk nx A s gi gr H' locs' → W p l e R s m args below meth c H' locs' cells slots Q (F0 m (pc + 3) ls (.int q :: rest))) : W p l e R s m args below meth c H locs cells slots Q (F0 m pc ls (.ref (ad (1000200 + a1)) :: .ref (ad a0) :: rest)) := by
  obtain ⟨q, h1, h2⟩ := g_ob h
  refine xx_cSI (As := [.ref (ad a0), .ref (ad (1000200 + a1))]) (rest := rest) (n := 2) C B (fun sz => w_J12_equals_L l D cA ad hk nx gi gr a0 a1 hi q h1 sz) hq q733 q160 q734 (by decide +kernel) ⟨hF, hN⟩ rfl hs hw hz0 hdg (fun v u H9 locs9 hp B9 => ?_)
  obtain ⟨e1, e2, e3⟩ := hp
  rw [e2] at B9
  rw [e3] at B9
  subst e1
  exact kk _ h2 H9 locs9 B9
def f_J7_equals_j36 (hk : HK) (gij36 : GI) (grj36 : GR) (a0j36 : Nat) (a2j36 : Nat) : Option (Int32) :=
  (grj36 a0j36 0).bind fun v2 =>
  (g_is hk a2j36 25).bind fun _ =>
  (grj36 a2j36 0).bind fun v5 =>
  (f_J12_equals hk gij36 grj36 v2 v5).bind fun q7 =>
  if q7 = 0 then
  (some 0)
  else
  (some 1)
def f_J7_equals (hk : HK) (gi : GI) (gr : GR) (a0 : Nat) (a1 : Nat) : Option (Int32) :=
  (g_is hk a1 25).bind fun _ =>
  if a0 = a1 then
  (some 1)
  else
  (if ((1 : Int32)) = 0 then
  (some 0)
  else
  (if ((1 : Int32)) = 0 then
  (f_J7_equals_j36 hk gi gr a0 a1)
  else
  (if (gi a0 1) = (gi a1 1) then
  (f_J7_equals_j36 hk gi gr a0 a1)
  else
  (some 0))))
set_option maxHeartbeats 400000 in
theorem w_J7_equals (l : Launch) (D : va_G) (cA : Nat → ClassId) (ad : Nat → Nat) (hk : HK) (nx : Nat) (gi : GI) (gr : GR) (a0 : Nat) (a1 : Nat) (ht : (hk a0).1 = 25) (r : Int32) (h : f_J7_equals hk gi gr a0 a1 = some r) (sz : Nat) : Met l yJ7_equals (ws_ yJ7_equals cJ7_equals 3 (some .boolean)) ({ frames := 2, cells := 0, slots := 0, locals := 86 } : Room) (va_Pc [.ref (ad a0), .ref (ad a1)] (XPre D cA ad hk nx gi gr sz)) (va_Qi (fun v u => v = r ∧ u.1 = gi ∧ u.2 = gr) (XPost D cA ad hk nx) (XA ad nx sz)) 0 0 (XA ad nx sz) := by
  refine xx_stZ (own := RJ7) (P := (fun v u => v = r ∧ u.1 = gi ∧ u.2 = gr)) (by decide +kernel) rfl (Nat.le_of_ble_eq_true rfl) (fun p e s m args below meth c R Q A ls C hF hN B hret hL => ?_) sz
  have hx := C.1
  have hb := C.2.1
  have hL : lv_has ls 3 [(0, .ref (ad a0)), (1, .ref (ad a1))] := hL
  unfold f_J7_equals at h
  have hj36 : ∀ (a2j36 : Nat) (H : Heap) (locs : List Loc) (ls : Array Slot), f_J7_equals_j36 hk gi gr a0 a2j36 = some r → XB D cA ad hk nx A s gi gr H locs → lv_has ls 3 [(0, .ref (ad a0)), (2, .ref (ad a2j36))] → W p l e R s m args below meth c H locs 0 0 Q (F0 m 36 ls []) := by
    intro a2j36 H locs ls h B hL
    unfold f_J7_equals_j36 at h
    refine lv_aload_n hx hb dJ7_equals_36 rfl (lv_at hL 0 rfl) ?_
    refine xx_gr (ci := 15) (k := 0) C B xc_15 ht (by decide) (Nat.le_of_ble_eq_true rfl) rfl q698 (fun _ h => h) h dJ7_equals_37 (fun v2 ok3 h => ?_)
    refine lv_aload_n hx hb dJ7_equals_40 rfl (lv_at hL 1 rfl) ?_
    refine xx_is h (fun hp4 h => ?_)
    refine xx_gr (ci := 15) (k := 0) C B xc_15 hp4 (by decide) (Nat.le_of_ble_eq_true rfl) rfl q698 (fun _ h => h) h dJ7_equals_41 (fun v5 ok6 h => ?_)
    refine k_J12_equals C B q732 (Nat.le_trans (Nat.le_of_ble_eq_true rfl) hF) (Nat.le_trans (Nat.le_of_ble_eq_true rfl) hN) hL.1 (Nat.le_of_ble_eq_true rfl) ⟨Nat.zero_le _, Nat.zero_le _⟩ h dJ7_equals_44 (fun q7 h H locs B => ?_)
    refine gg_if_eq hx hb 54 h dJ7_equals_47 (by decide) (fun h => ?_) (fun h => ?_)
    · refine lv_iconst (v := 0) hx hb dJ7_equals_54 (by decide) ?_
      exact hret _ _ _ _ _ _ _ ⟨Option.some.inj h, rfl, rfl⟩ (Or.inl rfl) B dJ7_equals_55
    · refine lv_iconst (v := 1) hx hb dJ7_equals_50 (by decide) ?_
      refine lv_goto (tgt := 55) hx hb dJ7_equals_51 (by decide) ?_
      exact hret _ _ _ _ _ _ _ ⟨Option.some.inj h, rfl, rfl⟩ (Or.inr rfl) B dJ7_equals_55
  refine lv_aload_n hx hb dJ7_equals_0 rfl (lv_at hL 0 rfl) ?_
  refine lv_aload_n hx hb dJ7_equals_1 rfl (lv_at hL 1 rfl) ?_
  refine xx_is h (fun hp1 h => ?_)
  refine xx_acmpM C B (by rw [hp1]; decide) (by rw [ht]; decide) 7 h dJ7_equals_2 (by decide) (fun h => ?_) (fun h => ?_)
  · refine lv_iconst (v := 1) hx hb dJ7_equals_5 (by decide) ?_
    exact hret _ _ _ _ _ _ _ ⟨Option.some.inj h, rfl, rfl⟩ (Or.inr rfl) B dJ7_equals_6
  · refine lv_aload_n hx hb dJ7_equals_7 rfl (lv_at hL 1 rfl) ?_
    refine xx_instM C B xc_15 hp1 (by decide) q731 dJ7_equals_8 ?_
    refine gg_if_eq hx hb 54 h dJ7_equals_11 (by decide) (fun h => ?_) (fun h => ?_)
    · refine lv_iconst (v := 0) hx hb dJ7_equals_54 (by decide) ?_
      exact hret _ _ _ _ _ _ _ ⟨Option.some.inj h, rfl, rfl⟩ (Or.inl rfl) B dJ7_equals_55
    · refine lv_aload_n hx hb dJ7_equals_14 rfl (lv_at hL 1 rfl) ?_
      refine xx_cast C B xc_15 hp1 (by decide) q731 dJ7_equals_15 ?_
      refine lv_astore_n (lv' := [(2, .ref (ad a1)), (0, .ref (ad a0)), (1, .ref (ad a1))]) hx hb dJ7_equals_18 rfl hL (by decide) rfl (fun ls hL => ?_)
      refine xx_gs C B q684 dJ7_equals_19 ?_
      refine gg_if_eq hx hb 36 h dJ7_equals_22 (by decide) (fun h => ?_) (fun h => ?_)
      · exact hj36 _ _ _ _ h B (lv_sub hL [1, 0] rfl)
      · refine lv_aload_n hx hb dJ7_equals_25 rfl (lv_at hL 1 rfl) ?_
        refine xx_gi (ci := 15) (k := 1) C B xc_15 ht (by decide) (Nat.le_of_ble_eq_true rfl) rfl q699 (fun _ h => h) dJ7_equals_26 ?_
        refine lv_aload_n hx hb dJ7_equals_29 rfl (lv_at hL 0 rfl) ?_
        refine xx_gi (ci := 15) (k := 1) C B xc_15 hp1 (by decide) (Nat.le_of_ble_eq_true rfl) rfl q699 (fun _ h => h) dJ7_equals_30 ?_
        refine gg_icmp_ne hx hb 54 h dJ7_equals_33 (by decide) (fun h => ?_) (fun h => ?_)
        · refine lv_iconst (v := 0) hx hb dJ7_equals_54 (by decide) ?_
          exact hret _ _ _ _ _ _ _ ⟨Option.some.inj h, rfl, rfl⟩ (Or.inl rfl) B dJ7_equals_55
        · exact hj36 _ _ _ _ h B (lv_sub hL [1, 0] rfl)
theorem k_J7_equals {p : Program} {l : Launch} {e : Env} {R : Room} {s : State} {m : MethodId} {args : Array Value} {below : List Frame} {meth : Method} {c : Code} {H : Heap} {locs : List Loc} {Q : State → Prop} {pc : Nat} {ls : Array Slot} {rest : List Value} {cc : ByteArray} {nL cells slots : Nat} {D : va_G} {cA : Nat → ClassId} {ad : Nat → Nat} {hk : HK} {nx : Nat} {A : Nat → Prop} {gi : GI} {gr : GR} {α : Type} {r : α} {own : String} {idx : Nat} {a0 : Nat} {a1 : Nat} {ff : Int32 → Option α} (ht : (hk a0).1 = 25) (C : CallFix p m c cc nL s args lw_all own) (B : XB D cA ad hk nx A s gi gr H locs) (hq : Cond.methodLink own idx yJ7_equals ∈ lw_all) (hF : 3 ≤ R.frames) (hN : 108 ≤ R.locals) (hs : ls.size = nL) (hw : (rest.map fun v => v.category).sum ≤ 8) (hz0 : cells ≤ R.cells ∧ slots ≤ R.slots) (h : (f_J7_equals hk gi gr a0 a1).bind ff = some r) (hdg : decode cc pc = .ok (.invokevirtual idx, 3)) (kk : ∀ q, ff q = some r → ∀ (H' : Heap) (locs' : List Loc), XB D cA ad hk nx A s gi gr H' locs' → W p l e R s m args below meth c H' locs' cells slots Q (F0 m (pc + 3) ls (.int q :: rest))) : W p l e R s m args below meth c H locs cells slots Q (F0 m pc ls (.ref (ad a1) :: .ref (ad a0) :: rest)) := by
  obtain ⟨q, h1, h2⟩ := g_ob h
  refine xx_cVI (As := [.ref (ad a1)]) (rest := rest) (n := 1) xc_15 ht (by decide) C B (fun sz => w_J7_equals l D cA ad hk nx gi gr a0 a1 ht q h1 sz) hq q728 q729 q154 q730 (by decide +kernel) ⟨hF, hN⟩ rfl hs hw hz0 hdg (fun v u H9 locs9 hp B9 => ?_)
  obtain ⟨e1, e2, e3⟩ := hp
  rw [e2] at B9
  rw [e3] at B9
  subst e1
  exact kk _ h2 H9 locs9 B9
def f_J7_equals_L_j36 (hk : HK) (gij36 : GI) (grj36 : GR) (a0j36 : Nat) (a2j36 : Nat) : Option (Int32) :=
  (grj36 a0j36 0).bind fun v1 =>
  (g_lit a2j36).bind fun _ =>
  (f_J12_equals_L hk gij36 grj36 v1 a2j36).bind fun q4 =>
  if q4 = 0 then
  (some 0)
  else
  (some 1)
def f_J7_equals_L (hk : HK) (gi : GI) (gr : GR) (a0 : Nat) (a1 : Nat) : Option (Int32) :=
  if ((1 : Int32)) = 0 then
  (some 0)
  else
  (if ((1 : Int32)) = 0 then
  (f_J7_equals_L_j36 hk gi gr a0 a1)
  else
  (if (gi a0 1) = 0 then
  (f_J7_equals_L_j36 hk gi gr a0 a1)
  else
  (some 0)))
set_option maxHeartbeats 400000 in
theorem w_J7_equals_L (l : Launch) (D : va_G) (cA : Nat → ClassId) (ad : Nat → Nat) (hk : HK) (nx : Nat) (gi : GI) (gr : GR) (a0 : Nat) (a1 : Nat) (ht : (hk a0).1 = 25) (hi : a1 < 22) (r : Int32) (h : f_J7_equals_L hk gi gr a0 a1 = some r) (sz : Nat) : Met l yJ7_equals (ws_ yJ7_equals cJ7_equals 3 (some .boolean)) ({ frames := 2, cells := 0, slots := 0, locals := 86 } : Room) (va_Pc [.ref (ad a0), .ref (ad (1000100 + a1))] (XPre D cA ad hk nx gi gr sz)) (va_Qi (fun v u => v = r ∧ u.1 = gi ∧ u.2 = gr) (XPost D cA ad hk nx) (XA ad nx sz)) 0 0 (XA ad nx sz) := by
  refine xx_stZ (own := RJ7) (P := (fun v u => v = r ∧ u.1 = gi ∧ u.2 = gr)) (by decide +kernel) rfl (Nat.le_of_ble_eq_true rfl) (fun p e s m args below meth c R Q A ls C hF hN B hret hL => ?_) sz
  have hx := C.1
  have hb := C.2.1
  have hL : lv_has ls 3 [(0, .ref (ad a0)), (1, .ref (ad (1000100 + a1)))] := hL
  unfold f_J7_equals_L at h
  have hj36 : ∀ (a2j36 : Nat) (H : Heap) (locs : List Loc) (ls : Array Slot), f_J7_equals_L_j36 hk gi gr a0 a2j36 = some r → XB D cA ad hk nx A s gi gr H locs → lv_has ls 3 [(0, .ref (ad a0)), (2, .ref (ad (1000100 + a2j36)))] → W p l e R s m args below meth c H locs 0 0 Q (F0 m 36 ls []) := by
    intro a2j36 H locs ls h B hL
    unfold f_J7_equals_L_j36 at h
    refine lv_aload_n hx hb dJ7_equals_36 rfl (lv_at hL 0 rfl) ?_
    refine xx_gr (ci := 15) (k := 0) C B xc_15 ht (by decide) (Nat.le_of_ble_eq_true rfl) rfl q698 (fun _ h => h) h dJ7_equals_37 (fun v1 ok2 h => ?_)
    refine lv_aload_n hx hb dJ7_equals_40 rfl (lv_at hL 1 rfl) ?_
    refine xx_lit h (fun hl3 h => ?_)
    refine xx_gLv C B hl3 q698 dJ7_equals_41 ?_
    refine k_J12_equals_L hl3 C B q732 (Nat.le_trans (Nat.le_of_ble_eq_true rfl) hF) (Nat.le_trans (Nat.le_of_ble_eq_true rfl) hN) hL.1 (Nat.le_of_ble_eq_true rfl) ⟨Nat.zero_le _, Nat.zero_le _⟩ h dJ7_equals_44 (fun q4 h H locs B => ?_)
    refine gg_if_eq hx hb 54 h dJ7_equals_47 (by decide) (fun h => ?_) (fun h => ?_)
    · refine lv_iconst (v := 0) hx hb dJ7_equals_54 (by decide) ?_
      exact hret _ _ _ _ _ _ _ ⟨Option.some.inj h, rfl, rfl⟩ (Or.inl rfl) B dJ7_equals_55
    · refine lv_iconst (v := 1) hx hb dJ7_equals_50 (by decide) ?_
      refine lv_goto (tgt := 55) hx hb dJ7_equals_51 (by decide) ?_
      exact hret _ _ _ _ _ _ _ ⟨Option.some.inj h, rfl, rfl⟩ (Or.inr rfl) B dJ7_equals_55
  refine lv_aload_n hx hb dJ7_equals_0 rfl (lv_at hL 0 rfl) ?_
  refine lv_aload_n hx hb dJ7_equals_1 rfl (lv_at hL 1 rfl) ?_
  refine xx_acmpL C B hi (by rw [ht]; decide) 7 dJ7_equals_2 (by decide) ?_
  refine lv_aload_n hx hb dJ7_equals_7 rfl (lv_at hL 1 rfl) ?_
  refine xx_instL C B hi q731 dJ7_equals_8 ?_
  refine gg_if_eq hx hb 54 h dJ7_equals_11 (by decide) (fun h => ?_) (fun h => ?_)
  · refine lv_iconst (v := 0) hx hb dJ7_equals_54 (by decide) ?_
    exact hret _ _ _ _ _ _ _ ⟨Option.some.inj h, rfl, rfl⟩ (Or.inl rfl) B dJ7_equals_55
  · refine lv_aload_n hx hb dJ7_equals_14 rfl (lv_at hL 1 rfl) ?_
    refine xx_castL C B hi q731 dJ7_equals_15 ?_
    refine lv_astore_n (lv' := [(2, .ref (ad (1000100 + a1))), (0, .ref (ad a0)), (1, .ref (ad (1000100 + a1)))]) hx hb dJ7_equals_18 rfl hL (by decide) rfl (fun ls hL => ?_)
    refine xx_gs C B q684 dJ7_equals_19 ?_
    refine gg_if_eq hx hb 36 h dJ7_equals_22 (by decide) (fun h => ?_) (fun h => ?_)
    · exact hj36 _ _ _ _ h B (lv_sub hL [1, 0] rfl)
    · refine lv_aload_n hx hb dJ7_equals_25 rfl (lv_at hL 1 rfl) ?_
      refine xx_gi (ci := 15) (k := 1) C B xc_15 ht (by decide) (Nat.le_of_ble_eq_true rfl) rfl q699 (fun _ h => h) dJ7_equals_26 ?_
      refine lv_aload_n hx hb dJ7_equals_29 rfl (lv_at hL 0 rfl) ?_
      refine xx_gLc C B hi q699 dJ7_equals_30 ?_
      refine gg_icmp_ne hx hb 54 h dJ7_equals_33 (by decide) (fun h => ?_) (fun h => ?_)
      · refine lv_iconst (v := 0) hx hb dJ7_equals_54 (by decide) ?_
        exact hret _ _ _ _ _ _ _ ⟨Option.some.inj h, rfl, rfl⟩ (Or.inl rfl) B dJ7_equals_55
      · exact hj36 _ _ _ _ h B (lv_sub hL [1, 0] rfl)
theorem k_J7_equals_L {p : Program} {l : Launch} {e : Env} {R : Room} {s : State} {m : MethodId} {args : Array Value} {below : List Frame} {meth : Method} {c : Code} {H : Heap} {locs : List Loc} {Q : State → Prop} {pc : Nat} {ls : Array Slot} {rest : List Value} {cc : ByteArray} {nL cells slots : Nat} {D : va_G} {cA : Nat → ClassId} {ad : Nat → Nat} {hk : HK} {nx : Nat} {A : Nat → Prop} {gi : GI} {gr : GR} {α : Type} {r : α} {own : String} {idx : Nat} {a0 : Nat} {a1 : Nat} {ff : Int32 → Option α} (ht : (hk a0).1 = 25) (hi : a1 < 22) (C : CallFix p m c cc nL s args lw_all own) (B : XB D cA ad hk nx A s gi gr H locs) (hq : Cond.methodLink own idx yJ7_equals ∈ lw_all) (hF : 3 ≤ R.frames) (hN : 108 ≤ R.locals) (hs : ls.size = nL) (hw : (rest.map fun v => v.category).sum ≤ 8) (hz0 : cells ≤ R.cells ∧ slots ≤ R.slots) (h : (f_J7_equals_L hk gi gr a0 a1).bind ff = some r) (hdg : decode cc pc = .ok (.invokevirtual idx, 3)) (kk : ∀ q, ff q = some r → ∀ (H' : Heap) (locs' : List Loc), XB D cA ad hk nx A s gi gr H' locs' → W p l e R s m args below meth c H' locs' cells slots Q (F0 m (pc + 3) ls (.int q :: rest))) : W p l e R s m args below meth c H locs cells slots Q (F0 m pc ls (.ref (ad (1000100 + a1)) :: .ref (ad a0) :: rest)) := by
  obtain ⟨q, h1, h2⟩ := g_ob h
  refine xx_cVI (As := [.ref (ad (1000100 + a1))]) (rest := rest) (n := 1) xc_15 ht (by decide) C B (fun sz => w_J7_equals_L l D cA ad hk nx gi gr a0 a1 ht hi q h1 sz) hq q728 q729 q154 q730 (by decide +kernel) ⟨hF, hN⟩ rfl hs hw hz0 hdg (fun v u H9 locs9 hp B9 => ?_)
  obtain ⟨e1, e2, e3⟩ := hp
  rw [e2] at B9
  rw [e3] at B9
  subst e1
  exact kk _ h2 H9 locs9 B9
def f_J9_vectorizedHashCode (hk : HK) (gi : GI) (gr : GR) (a0 : Nat) (x1 : Int32) (x2 : Int32) (x3 : Int32) (x4 : Int32) : Option (Int32) :=
  if x4.toInt < 4 ∨ 10 < x4.toInt then
  (none)
  else if x4 = 4 then
  ((g_is hk a0 1).bind fun _ =>
  (f_J9_signedHashCode hk gi gr x3 a0 x1 x2).bind fun q2 =>
  some q2)
  else if x4 = 5 then
  (none)
  else if x4 = 6 then
  (none)
  else if x4 = 7 then
  (none)
  else if x4 = 8 then
  (none)
  else if x4 = 9 then
  (none)
  else if x4 = 10 then
  (none)
  else none
set_option maxHeartbeats 400000 in
theorem w_J9_vectorizedHashCode (l : Launch) (D : va_G) (cA : Nat → ClassId) (ad : Nat → Nat) (hk : HK) (nx : Nat) (gi : GI) (gr : GR) (a0 : Nat) (x1 : Int32) (x2 : Int32) (x3 : Int32) (x4 : Int32) (r : Int32) (h : f_J9_vectorizedHashCode hk gi gr a0 x1 x2 x3 x4 = some r) (sz : Nat) : Met l yJ9_vectorizedHashCode (ws_ yJ9_vectorizedHashCode cJ9_vectorizedHashCode 5 (some .int)) ({ frames := 2, cells := 0, slots := 0, locals := 89 } : Room) (va_Pc [.ref (ad a0), .int x1, .int x2, .int x3, .int x4] (XPre D cA ad hk nx gi gr sz)) (va_Qi (fun v u => v = r ∧ u.1 = gi ∧ u.2 = gr) (XPost D cA ad hk nx) (XA ad nx sz)) 0 0 (XA ad nx sz) := by
  refine xx_stI (own := RJ9) (P := (fun v u => v = r ∧ u.1 = gi ∧ u.2 = gr)) (by decide +kernel) rfl (Nat.le_of_ble_eq_true rfl) (fun p e s m args below meth c R Q A ls C hF hN B hret hL => ?_) sz
  have hx := C.1
  have hb := C.2.1
  have hL : lv_has ls 5 [(0, .ref (ad a0)), (1, .int x1), (2, .int x2), (3, .int x3), (4, .int x4)] := hL
  unfold f_J9_vectorizedHashCode at h
  refine lv_iload hx hb dJ9_vectorizedHashCode_0 (lv_at hL 4 rfl) ?_
  rcases g_if h with ⟨hc, h⟩ | ⟨hc, h⟩
  · refine lv_tableOut (tgt := 129) hx hb dJ9_vectorizedHashCode_2 hc (by decide) ?_
    cases h
  · rcases g_if h with ⟨he, h⟩ | ⟨_, h⟩
    · refine lv_tableIn (off := 42) (tgt := 44) hx hb dJ9_vectorizedHashCode_2 (by rw [he]; decide) (by rw [he]; decide) (by rw [he]; rfl) (by decide) ?_
      refine lv_iload_n hx hb dJ9_vectorizedHashCode_44 rfl (lv_at hL 3 rfl) ?_
      refine lv_aload_n hx hb dJ9_vectorizedHashCode_45 rfl (lv_at hL 0 rfl) ?_
      refine xx_is h (fun hp1 h => ?_)
      refine xx_castB C B hp1 q770 dJ9_vectorizedHashCode_46 ?_
      refine lv_iload_n hx hb dJ9_vectorizedHashCode_49 rfl (lv_at hL 1 rfl) ?_
      refine lv_iload_n hx hb dJ9_vectorizedHashCode_50 rfl (lv_at hL 2 rfl) ?_
      refine k_J9_signedHashCode C B q771 (Nat.le_trans (Nat.le_of_ble_eq_true rfl) hF) (Nat.le_trans (Nat.le_of_ble_eq_true rfl) hN) hL.1 (Nat.le_of_ble_eq_true rfl) ⟨Nat.zero_le _, Nat.zero_le _⟩ h dJ9_vectorizedHashCode_51 (fun q2 h H locs B => ?_)
      refine lv_goto (tgt := 157) hx hb dJ9_vectorizedHashCode_54 (by decide) ?_
      exact hret _ _ _ _ _ _ _ ⟨Option.some.inj h, rfl, rfl⟩ B dJ9_vectorizedHashCode_157
    · rcases g_if h with ⟨he, h⟩ | ⟨_, h⟩
      · refine lv_tableIn (off := 55) (tgt := 57) hx hb dJ9_vectorizedHashCode_2 (by rw [he]; decide) (by rw [he]; decide) (by rw [he]; rfl) (by decide) ?_
        cases h
      · rcases g_if h with ⟨he, h⟩ | ⟨_, h⟩
        · refine lv_tableIn (off := 127) (tgt := 129) hx hb dJ9_vectorizedHashCode_2 (by rw [he]; decide) (by rw [he]; decide) (by rw [he]; rfl) (by decide) ?_
          cases h
        · rcases g_if h with ⟨he, h⟩ | ⟨_, h⟩
          · refine lv_tableIn (off := 127) (tgt := 129) hx hb dJ9_vectorizedHashCode_2 (by rw [he]; decide) (by rw [he]; decide) (by rw [he]; rfl) (by decide) ?_
            cases h
          · rcases g_if h with ⟨he, h⟩ | ⟨_, h⟩
            · refine lv_tableIn (off := 88) (tgt := 90) hx hb dJ9_vectorizedHashCode_2 (by rw [he]; decide) (by rw [he]; decide) (by rw [he]; rfl) (by decide) ?_
              cases h
            · rcases g_if h with ⟨he, h⟩ | ⟨_, h⟩
              · refine lv_tableIn (off := 101) (tgt := 103) hx hb dJ9_vectorizedHashCode_2 (by rw [he]; decide) (by rw [he]; decide) (by rw [he]; rfl) (by decide) ?_
                cases h
              · rcases g_if h with ⟨he, h⟩ | ⟨_, h⟩
                · refine lv_tableIn (off := 114) (tgt := 116) hx hb dJ9_vectorizedHashCode_2 (by rw [he]; decide) (by rw [he]; decide) (by rw [he]; rfl) (by decide) ?_
                  cases h
                · cases h
theorem k_J9_vectorizedHashCode {p : Program} {l : Launch} {e : Env} {R : Room} {s : State} {m : MethodId} {args : Array Value} {below : List Frame} {meth : Method} {c : Code} {H : Heap} {locs : List Loc} {Q : State → Prop} {pc : Nat} {ls : Array Slot} {rest : List Value} {cc : ByteArray} {nL cells slots : Nat} {D : va_G} {cA : Nat → ClassId} {ad : Nat → Nat} {hk : HK} {nx : Nat} {A : Nat → Prop} {gi : GI} {gr : GR} {α : Type} {r : α} {own : String} {idx : Nat} {a0 : Nat} {x1 : Int32} {x2 : Int32} {x3 : Int32} {x4 : Int32} {ff : Int32 → Option α} (C : CallFix p m c cc nL s args lw_all own) (B : XB D cA ad hk nx A s gi gr H locs) (hq : Cond.methodLink own idx yJ9_vectorizedHashCode ∈ lw_all) (hF : 3 ≤ R.frames) (hN : 113 ≤ R.locals) (hs : ls.size = nL) (hw : (rest.map fun v => v.category).sum ≤ 8) (hz0 : cells ≤ R.cells ∧ slots ≤ R.slots) (h : (f_J9_vectorizedHashCode hk gi gr a0 x1 x2 x3 x4).bind ff = some r) (hdg : decode cc pc = .ok (.invokestatic idx, 3)) (kk : ∀ q, ff q = some r → ∀ (H' : Heap) (locs' : List Loc), XB D cA ad hk nx A s gi gr H' locs' → W p l e R s m args below meth c H' locs' cells slots Q (F0 m (pc + 3) ls (.int q :: rest))) : W p l e R s m args below meth c H locs cells slots Q (F0 m pc ls (.int x4 :: .int x3 :: .int x2 :: .int x1 :: .ref (ad a0) :: rest)) := by
  obtain ⟨q, h1, h2⟩ := g_ob h
  refine xx_cSI (As := [.ref (ad a0), .int x1, .int x2, .int x3, .int x4]) (rest := rest) (n := 5) C B (fun sz => w_J9_vectorizedHashCode l D cA ad hk nx gi gr a0 x1 x2 x3 x4 q h1 sz) hq q768 q156 q769 (by decide +kernel) ⟨hF, hN⟩ rfl hs hw hz0 hdg (fun v u H9 locs9 hp B9 => ?_)
  obtain ⟨e1, e2, e3⟩ := hp
  rw [e2] at B9
  rw [e3] at B9
  subst e1
  exact kk _ h2 H9 locs9 B9
def f_J12_hashCode (hk : HK) (gi : GI) (gr : GR) (a0 : Nat) : Option (Int32) :=
  (g_is hk a0 1).bind fun _ =>
  if (Int32.ofNat (hk a0).2) = 0 then
  (some 0)
  else if (Int32.ofNat (hk a0).2) = 1 then
  ((g_ld gi a0 (hk a0).2 0).bind fun v2 =>
  some (v2 &&& 255))
  else ((f_J9_vectorizedHashCode hk gi gr a0 0 (Int32.ofNat (hk a0).2) 0 4).bind fun q3 =>
  some q3)
set_option maxHeartbeats 400000 in
theorem w_J12_hashCode (l : Launch) (D : va_G) (cA : Nat → ClassId) (ad : Nat → Nat) (hk : HK) (nx : Nat) (gi : GI) (gr : GR) (a0 : Nat) (r : Int32) (h : f_J12_hashCode hk gi gr a0 = some r) (sz : Nat) : Met l yJ12_hashCode (ws_ yJ12_hashCode cJ12_hashCode 1 (some .int)) ({ frames := 3, cells := 0, slots := 0, locals := 113 } : Room) (va_Pc [.ref (ad a0)] (XPre D cA ad hk nx gi gr sz)) (va_Qi (fun v u => v = r ∧ u.1 = gi ∧ u.2 = gr) (XPost D cA ad hk nx) (XA ad nx sz)) 0 0 (XA ad nx sz) := by
  refine xx_stI (own := RJ12) (P := (fun v u => v = r ∧ u.1 = gi ∧ u.2 = gr)) (by decide +kernel) rfl (Nat.le_of_ble_eq_true rfl) (fun p e s m args below meth c R Q A ls C hF hN B hret hL => ?_) sz
  have hx := C.1
  have hb := C.2.1
  have hL : lv_has ls 1 [(0, .ref (ad a0))] := hL
  unfold f_J12_hashCode at h
  refine lv_aload_n hx hb dJ12_hashCode_0 rfl (lv_at hL 0 rfl) ?_
  refine xx_is h (fun hp1 h => ?_)
  refine xx_alen C B hp1 (by decide) dJ12_hashCode_1 ?_
  rcases g_if h with ⟨he0, h⟩ | ⟨he0, h⟩
  · refine lv_lookup (off := 26) (tgt := 28) hx hb dJ12_hashCode_2 (by decide) (by rw [he0]; rfl) (by decide) ?_
    refine lv_iconst (v := 0) hx hb dJ12_hashCode_28 (by decide) ?_
    refine lv_goto (tgt := 51) hx hb dJ12_hashCode_29 (by decide) ?_
    exact hret _ _ _ _ _ _ _ ⟨Option.some.inj h, rfl, rfl⟩ B dJ12_hashCode_51
  · rcases g_if h with ⟨he1, h⟩ | ⟨he1, h⟩
    · refine lv_lookup (off := 30) (tgt := 32) hx hb dJ12_hashCode_2 (by decide) (by rw [he1]; rfl) (by decide) ?_
      refine lv_aload_n hx hb dJ12_hashCode_32 rfl (lv_at hL 0 rfl) ?_
      refine lv_iconst (v := 0) hx hb dJ12_hashCode_33 (by decide) ?_
      refine xx_bald C B hp1 h dJ12_hashCode_34 (fun v2 h => ?_)
      refine lv_sipush (v := 255) hx hb dJ12_hashCode_35 (by decide) ?_
      refine lv_iand hx hb dJ12_hashCode_38 ?_
      refine lv_goto (tgt := 51) hx hb dJ12_hashCode_39 (by decide) ?_
      exact hret _ _ _ _ _ _ _ ⟨Option.some.inj h, rfl, rfl⟩ B dJ12_hashCode_51
    · refine lv_lookup (off := 40) (tgt := 42) hx hb dJ12_hashCode_2 (by decide) ((lv_osw he0 rfl).trans ((lv_osw he1 rfl).trans rfl)) (by decide) ?_
      refine lv_aload_n hx hb dJ12_hashCode_42 rfl (lv_at hL 0 rfl) ?_
      refine lv_iconst (v := 0) hx hb dJ12_hashCode_43 (by decide) ?_
      refine lv_aload_n hx hb dJ12_hashCode_44 rfl (lv_at hL 0 rfl) ?_
      refine xx_alen C B hp1 (by decide) dJ12_hashCode_45 ?_
      refine lv_iconst (v := 0) hx hb dJ12_hashCode_46 (by decide) ?_
      refine lv_iconst (v := 4) hx hb dJ12_hashCode_47 (by decide) ?_
      refine k_J9_vectorizedHashCode C B q767 (Nat.le_trans (Nat.le_of_ble_eq_true rfl) hF) (Nat.le_trans (Nat.le_of_ble_eq_true rfl) hN) hL.1 (Nat.le_of_ble_eq_true rfl) ⟨Nat.zero_le _, Nat.zero_le _⟩ h dJ12_hashCode_48 (fun q3 h H locs B => ?_)
      exact hret _ _ _ _ _ _ _ ⟨Option.some.inj h, rfl, rfl⟩ B dJ12_hashCode_51
theorem k_J12_hashCode {p : Program} {l : Launch} {e : Env} {R : Room} {s : State} {m : MethodId} {args : Array Value} {below : List Frame} {meth : Method} {c : Code} {H : Heap} {locs : List Loc} {Q : State → Prop} {pc : Nat} {ls : Array Slot} {rest : List Value} {cc : ByteArray} {nL cells slots : Nat} {D : va_G} {cA : Nat → ClassId} {ad : Nat → Nat} {hk : HK} {nx : Nat} {A : Nat → Prop} {gi : GI} {gr : GR} {α : Type} {r : α} {own : String} {idx : Nat} {a0 : Nat} {ff : Int32 → Option α} (C : CallFix p m c cc nL s args lw_all own) (B : XB D cA ad hk nx A s gi gr H locs) (hq : Cond.methodLink own idx yJ12_hashCode ∈ lw_all) (hF : 4 ≤ R.frames) (hN : 133 ≤ R.locals) (hs : ls.size = nL) (hw : (rest.map fun v => v.category).sum ≤ 8) (hz0 : cells ≤ R.cells ∧ slots ≤ R.slots) (h : (f_J12_hashCode hk gi gr a0).bind ff = some r) (hdg : decode cc pc = .ok (.invokestatic idx, 3)) (kk : ∀ q, ff q = some r → ∀ (H' : Heap) (locs' : List Loc), XB D cA ad hk nx A s gi gr H' locs' → W p l e R s m args below meth c H' locs' cells slots Q (F0 m (pc + 3) ls (.int q :: rest))) : W p l e R s m args below meth c H locs cells slots Q (F0 m pc ls (.ref (ad a0) :: rest)) := by
  obtain ⟨q, h1, h2⟩ := g_ob h
  refine xx_cSI (As := [.ref (ad a0)]) (rest := rest) (n := 1) C B (fun sz => w_J12_hashCode l D cA ad hk nx gi gr a0 q h1 sz) hq q765 q160 q766 (by decide +kernel) ⟨hF, hN⟩ rfl hs hw hz0 hdg (fun v u H9 locs9 hp B9 => ?_)
  obtain ⟨e1, e2, e3⟩ := hp
  rw [e2] at B9
  rw [e3] at B9
  subst e1
  exact kk _ h2 H9 locs9 B9
def f_J7_hashCode_j40 (hk : HK) (grj40 : GR) (a0j40 : Nat) (gij40 : GI) (t0j40 : Int32) : Option (Int32 × GI) :=
  if t0j40 = 0 then
  ((some (g_pi gij40 a0j40 3 1)).bind fun gi6 =>
  some (t0j40, gi6))
  else
  ((some (g_pi gij40 a0j40 2 t0j40)).bind fun gi5 =>
  some (t0j40, gi5))
def f_J7_hashCode (hk : HK) (gi : GI) (gr : GR) (a0 : Nat) : Option (Int32 × GI) :=
  if (gi a0 2) = 0 then
  (if (gi a0 3) = 0 then
  ((f_J7_isLatin1 hk gi gr a0).bind fun q1 =>
  if q1 = 0 then
  (none)
  else
  ((gr a0 0).bind fun v2 =>
  (f_J12_hashCode hk gi gr v2).bind fun q4 =>
  f_J7_hashCode_j40 hk gr a0 gi q4))
  else
  (some (gi a0 2, gi)))
  else
  (some (gi a0 2, gi))
set_option maxHeartbeats 400000 in
theorem w_J7_hashCode (l : Launch) (D : va_G) (cA : Nat → ClassId) (ad : Nat → Nat) (hk : HK) (nx : Nat) (gi : GI) (gr : GR) (a0 : Nat) (ht : (hk a0).1 = 25) (r : Int32 × GI) (h : f_J7_hashCode hk gi gr a0 = some r) (sz : Nat) : Met l yJ7_hashCode (ws_ yJ7_hashCode cJ7_hashCode 2 (some .int)) ({ frames := 4, cells := 0, slots := 0, locals := 133 } : Room) (va_Pc [.ref (ad a0)] (XPre D cA ad hk nx gi gr sz)) (va_Qi (fun v u => (v, u.1) = r ∧ u.2 = gr) (XPost D cA ad hk nx) (XA ad nx sz)) 0 0 (XA ad nx sz) := by
  refine xx_stI (own := RJ7) (P := (fun v u => (v, u.1) = r ∧ u.2 = gr)) (by decide +kernel) rfl (Nat.le_of_ble_eq_true rfl) (fun p e s m args below meth c R Q A ls C hF hN B hret hL => ?_) sz
  have hx := C.1
  have hb := C.2.1
  have hL : lv_has ls 2 [(0, .ref (ad a0))] := hL
  unfold f_J7_hashCode at h
  have hj40 : ∀ (gij40 : GI) (t0j40 : Int32) (H : Heap) (locs : List Loc) (ls : Array Slot), f_J7_hashCode_j40 hk gr a0 gij40 t0j40 = some r → XB D cA ad hk nx A s gij40 gr H locs → lv_has ls 2 [(0, .ref (ad a0))] → W p l e R s m args below meth c H locs 0 0 Q (F0 m 40 ls [.int t0j40]) := by
    intro gij40 t0j40 H locs ls h B hL
    unfold f_J7_hashCode_j40 at h
    refine lv_istore_n (lv' := [(1, .int t0j40), (0, .ref (ad a0))]) hx hb dJ7_hashCode_40 rfl hL (by decide) rfl (fun ls hL => ?_)
    refine lv_iload_n hx hb dJ7_hashCode_41 rfl (lv_at hL 0 rfl) ?_
    refine gg_if_ne hx hb 53 h dJ7_hashCode_42 (by decide) (fun h => ?_) (fun h => ?_)
    · refine lv_aload_n hx hb dJ7_hashCode_53 rfl (lv_at hL 1 rfl) ?_
      refine lv_iload_n hx hb dJ7_hashCode_54 rfl (lv_at hL 0 rfl) ?_
      refine xx_pi (ci := 15) (k := 2) C B xc_15 ht (by decide) (Nat.le_of_ble_eq_true rfl) rfl q700 (fun _ h => h) rfl rfl rfl h dJ7_hashCode_55 (fun gi5 h H locs B => ?_)
      refine lv_iload_n hx hb dJ7_hashCode_58 rfl (lv_at hL 0 rfl) ?_
      exact hret _ _ _ _ _ _ _ ⟨Option.some.inj h, rfl⟩ B dJ7_hashCode_59
    · refine lv_aload_n hx hb dJ7_hashCode_45 rfl (lv_at hL 1 rfl) ?_
      refine lv_iconst (v := 1) hx hb dJ7_hashCode_46 (by decide) ?_
      refine xx_pi (ci := 15) (k := 3) C B xc_15 ht (by decide) (Nat.le_of_ble_eq_true rfl) rfl q701 (fun _ h => h) rfl rfl rfl h dJ7_hashCode_47 (fun gi6 h H locs B => ?_)
      refine lv_goto (tgt := 58) hx hb dJ7_hashCode_50 (by decide) ?_
      refine lv_iload_n hx hb dJ7_hashCode_58 rfl (lv_at hL 0 rfl) ?_
      exact hret _ _ _ _ _ _ _ ⟨Option.some.inj h, rfl⟩ B dJ7_hashCode_59
  refine lv_aload_n hx hb dJ7_hashCode_0 rfl (lv_at hL 0 rfl) ?_
  refine xx_gi (ci := 15) (k := 2) C B xc_15 ht (by decide) (Nat.le_of_ble_eq_true rfl) rfl q700 (fun _ h => h) dJ7_hashCode_1 ?_
  refine lv_istore_n (lv' := [(1, .int (gi a0 2)), (0, .ref (ad a0))]) hx hb dJ7_hashCode_4 rfl hL (by decide) rfl (fun ls hL => ?_)
  refine lv_iload_n hx hb dJ7_hashCode_5 rfl (lv_at hL 0 rfl) ?_
  refine gg_if_ne hx hb 58 h dJ7_hashCode_6 (by decide) (fun h => ?_) (fun h => ?_)
  · refine lv_iload_n hx hb dJ7_hashCode_58 rfl (lv_at hL 0 rfl) ?_
    exact hret _ _ _ _ _ _ _ ⟨Option.some.inj h, rfl⟩ B dJ7_hashCode_59
  · refine lv_aload_n hx hb dJ7_hashCode_9 rfl (lv_at hL 1 rfl) ?_
    refine xx_gi (ci := 15) (k := 3) C B xc_15 ht (by decide) (Nat.le_of_ble_eq_true rfl) rfl q701 (fun _ h => h) dJ7_hashCode_10 ?_
    refine gg_if_ne hx hb 58 h dJ7_hashCode_13 (by decide) (fun h => ?_) (fun h => ?_)
    · refine lv_iload_n hx hb dJ7_hashCode_58 rfl (lv_at hL 0 rfl) ?_
      exact hret _ _ _ _ _ _ _ ⟨Option.some.inj h, rfl⟩ B dJ7_hashCode_59
    · refine lv_aload_n hx hb dJ7_hashCode_16 rfl (lv_at hL 1 rfl) ?_
      refine k_J7_isLatin1 ht C B q760 (Nat.le_trans (Nat.le_of_ble_eq_true rfl) hF) (Nat.le_trans (Nat.le_of_ble_eq_true rfl) hN) hL.1 (Nat.le_of_ble_eq_true rfl) ⟨Nat.zero_le _, Nat.zero_le _⟩ h dJ7_hashCode_17 (fun q1 h H locs B => ?_)
      refine gg_if_eq hx hb 33 h dJ7_hashCode_20 (by decide) (fun h => ?_) (fun h => ?_)
      · cases h
      · refine lv_aload_n hx hb dJ7_hashCode_23 rfl (lv_at hL 1 rfl) ?_
        refine xx_gr (ci := 15) (k := 0) C B xc_15 ht (by decide) (Nat.le_of_ble_eq_true rfl) rfl q698 (fun _ h => h) h dJ7_hashCode_24 (fun v2 ok3 h => ?_)
        refine k_J12_hashCode C B q764 (Nat.le_trans (Nat.le_of_ble_eq_true rfl) hF) (Nat.le_trans (Nat.le_of_ble_eq_true rfl) hN) hL.1 (Nat.le_of_ble_eq_true rfl) ⟨Nat.zero_le _, Nat.zero_le _⟩ h dJ7_hashCode_27 (fun q4 h H locs B => ?_)
        refine lv_goto (tgt := 40) hx hb dJ7_hashCode_30 (by decide) ?_
        exact hj40 _ _ _ _ _ h B (lv_sub hL [1] rfl)
theorem k_J7_hashCode {p : Program} {l : Launch} {e : Env} {R : Room} {s : State} {m : MethodId} {args : Array Value} {below : List Frame} {meth : Method} {c : Code} {H : Heap} {locs : List Loc} {Q : State → Prop} {pc : Nat} {ls : Array Slot} {rest : List Value} {cc : ByteArray} {nL cells slots : Nat} {D : va_G} {cA : Nat → ClassId} {ad : Nat → Nat} {hk : HK} {nx : Nat} {A : Nat → Prop} {gi : GI} {gr : GR} {α : Type} {r : α} {own : String} {idx : Nat} {a0 : Nat} {ff : (Int32 × GI) → Option α} (ht : (hk a0).1 = 25) (C : CallFix p m c cc nL s args lw_all own) (B : XB D cA ad hk nx A s gi gr H locs) (hq : Cond.methodLink own idx yJ7_hashCode ∈ lw_all) (hF : 5 ≤ R.frames) (hN : 154 ≤ R.locals) (hs : ls.size = nL) (hw : (rest.map fun v => v.category).sum ≤ 8) (hz0 : cells ≤ R.cells ∧ slots ≤ R.slots) (h : (f_J7_hashCode hk gi gr a0).bind ff = some r) (hdg : decode cc pc = .ok (.invokevirtual idx, 3)) (kk : ∀ q, ff q = some r → ∀ (H' : Heap) (locs' : List Loc), XB D cA ad hk nx A s q.2 gr H' locs' → W p l e R s m args below meth c H' locs' cells slots Q (F0 m (pc + 3) ls (.int q.1 :: rest))) : W p l e R s m args below meth c H locs cells slots Q (F0 m pc ls (.ref (ad a0) :: rest)) := by
  obtain ⟨q, h1, h2⟩ := g_ob h
  refine xx_cVI (As := []) (rest := rest) (n := 0) xc_15 ht (by decide) C B (fun sz => w_J7_hashCode l D cA ad hk nx gi gr a0 ht q h1 sz) hq q757 q758 q154 q759 (by decide +kernel) ⟨hF, hN⟩ rfl hs hw hz0 hdg (fun v u H9 locs9 hp B9 => ?_)
  obtain ⟨e1, e3⟩ := hp
  rw [e3] at B9
  subst e1
  exact kk _ h2 H9 locs9 B9
def f_X1_kind_l4 (hk : HK) (gii4 : GI) (gri4 : GR) (a0i4 : Nat) (a1i4 : Nat) (x2l4 : Int32) (x3l4 : Int32) : Option ((Int32 × Int32) ⊕ (Int32)) :=
  (gri4 a0i4 0).bind fun v1 =>
  (g_is hk v1 22).bind fun _ =>
  (f_J2_size hk gii4 gri4 v1).bind fun q4 =>
  if q4 ≤ x3l4 then
  (some (.inr x2l4))
  else
  ((gri4 a0i4 0).bind fun v5 =>
  (g_is hk v5 22).bind fun _ =>
  (f_J2_get hk gii4 gri4 v5 x3l4).bind fun q8 =>
  (g_is hk q8 25).bind fun _ =>
  (f_J7_equals hk gii4 gri4 q8 a1i4).bind fun q10 =>
  if q10 = 0 then
  (some (.inl ((x2l4, x3l4 + 1))))
  else
  (some (.inl ((x3l4, x3l4 + 1)))))
def f_X1_kind_x4 (hk : HK) (giy4 : GI) (gry4 : GR) (x2e4 : Int32) : Option (Int32) :=
  some x2e4
def f_X1_kind (hk : HK) (gi : GI) (gr : GR) (a0 : Nat) (a1 : Nat) : Option (Int32) :=
  (g_loop g_K (fun (s : Int32 × Int32) => f_X1_kind_l4 hk gi gr a0 a1 s.1 s.2) ((-1), 0)).bind fun E4 => f_X1_kind_x4 hk gi gr E4
set_option maxHeartbeats 400000 in
theorem w_X1_kind (l : Launch) (D : va_G) (cA : Nat → ClassId) (ad : Nat → Nat) (hk : HK) (nx : Nat) (gi : GI) (gr : GR) (a0 : Nat) (a1 : Nat) (ht : (hk a0).1 = 11) (r : Int32) (h : f_X1_kind hk gi gr a0 a1 = some r) (sz : Nat) : Met l yX1_kind (ws_ yX1_kind cX1_kind 4 (some .int)) ({ frames := 4, cells := 0, slots := 0, locals := 128 } : Room) (va_Pc [.ref (ad a0), .ref (ad a1)] (XPre D cA ad hk nx gi gr sz)) (va_Qi (fun v u => v = r ∧ u.1 = gi ∧ u.2 = gr) (XPost D cA ad hk nx) (XA ad nx sz)) 0 0 (XA ad nx sz) := by
  refine xx_stI (own := RX1) (P := (fun v u => v = r ∧ u.1 = gi ∧ u.2 = gr)) (by decide +kernel) rfl (Nat.le_of_ble_eq_true rfl) (fun p e s m args below meth c R Q A ls C hF hN B hret hL => ?_) sz
  have hx := C.1
  have hb := C.2.1
  have hL : lv_has ls 4 [(0, .ref (ad a0)), (1, .ref (ad a1))] := hL
  unfold f_X1_kind at h
  refine lv_iconst (v := (-1)) hx hb dX1_kind_0 (by decide) ?_
  refine lv_istore_n (lv' := [(2, .int ((-1))), (0, .ref (ad a0)), (1, .ref (ad a1))]) hx hb dX1_kind_1 rfl hL (by decide) rfl (fun ls hL => ?_)
  refine lv_iconst (v := 0) hx hb dX1_kind_2 (by decide) ?_
  refine lv_istore_n (lv' := [(3, .int 0), (2, .int ((-1))), (0, .ref (ad a0)), (1, .ref (ad a1))]) hx hb dX1_kind_3 rfl hL (by decide) rfl (fun ls hL => ?_)
  obtain ⟨E4, h84, h⟩ := g_ob h
  have kx4 : ∀ (x2e4 : Int32) (H : Heap) (locs : List Loc) (ls : Array Slot), x2e4 = E4 → XB D cA ad hk nx A s gi gr H locs → lv_has ls 4 [(2, .int x2e4)] → W p l e R s m args below meth c H locs 0 0 Q (F0 m 45 ls []) := by
    intro x2e4 H locs ls he B hL
    subst he
    have h : f_X1_kind_x4 hk gi gr x2e4 = some r := h
    unfold f_X1_kind_x4 at h
    refine lv_iload_n hx hb dX1_kind_45 rfl (lv_at hL 0 rfl) ?_
    exact hret _ _ _ _ _ _ _ ⟨Option.some.inj h, rfl, rfl⟩ B dX1_kind_46
  have hl4 : ∀ (k : Nat) (x2l4 : Int32) (x3l4 : Int32) (H : Heap) (locs : List Loc) (ls : Array Slot), g_loop k (fun (s : Int32 × Int32) => f_X1_kind_l4 hk gi gr a0 a1 s.1 s.2) (x2l4, x3l4) = some E4 → XB D cA ad hk nx A s gi gr H locs → lv_has ls 4 [(0, .ref (ad a0)), (1, .ref (ad a1)), (2, .int x2l4), (3, .int x3l4)] → W p l e R s m args below meth c H locs 0 0 Q (F0 m 4 ls []) := by
    intro k
    induction k with
    | zero => intro x2l4 x3l4 H locs ls h; exact absurd h (fun z => g_loop_0 z)
    | succ k ih4 =>
      intro x2l4 x3l4 H locs ls h B hL
      obtain ⟨Z4, h, h94⟩ := g_loop_s h
      have h : f_X1_kind_l4 hk gi gr a0 a1 x2l4 x3l4 = some Z4 := h
      unfold f_X1_kind_l4 at h
      refine lv_iload_n hx hb dX1_kind_4 rfl (lv_at hL 3 rfl) ?_
      refine lv_aload_n hx hb dX1_kind_5 rfl (lv_at hL 0 rfl) ?_
      refine xx_gr (ci := 1) (k := 0) C B xc_1 ht (by decide) (Nat.le_of_ble_eq_true rfl) rfl q251 (fun _ h => h) h dX1_kind_6 (fun v1 ok2 h => ?_)
      refine xx_is h (fun hp3 h => ?_)
      refine k_J2_size hp3 C B q744 (Nat.le_trans (Nat.le_of_ble_eq_true rfl) hF) (Nat.le_trans (Nat.le_of_ble_eq_true rfl) hN) hL.1 (Nat.le_of_ble_eq_true rfl) ⟨Nat.zero_le _, Nat.zero_le _⟩ h dX1_kind_9 (fun q4 h H locs B => ?_)
      refine gg_icmp_ge hx hb 45 h dX1_kind_12 (by decide) (fun h => ?_) (fun h => ?_)
      · exact kx4 _ _ _ _ (g_exit h h94) B (lv_sub hL [2] rfl)
      · refine lv_aload_n hx hb dX1_kind_15 rfl (lv_at hL 0 rfl) ?_
        refine xx_gr (ci := 1) (k := 0) C B xc_1 ht (by decide) (Nat.le_of_ble_eq_true rfl) rfl q251 (fun _ h => h) h dX1_kind_16 (fun v5 ok6 h => ?_)
        refine lv_iload_n hx hb dX1_kind_19 rfl (lv_at hL 3 rfl) ?_
        refine xx_is h (fun hp7 h => ?_)
        refine k_J2_get hp7 C B q745 (Nat.le_trans (Nat.le_of_ble_eq_true rfl) hF) (Nat.le_trans (Nat.le_of_ble_eq_true rfl) hN) hL.1 (Nat.le_of_ble_eq_true rfl) ⟨Nat.zero_le _, Nat.zero_le _⟩ h dX1_kind_20 (fun q8 h H locs B => ?_)
        refine xx_is h (fun hp9 h => ?_)
        refine xx_cast C B xc_15 hp9 (by decide) q746 dX1_kind_23 ?_
        refine lv_aload_n hx hb dX1_kind_26 rfl (lv_at hL 1 rfl) ?_
        refine k_J7_equals hp9 C B q747 (Nat.le_trans (Nat.le_of_ble_eq_true rfl) hF) (Nat.le_trans (Nat.le_of_ble_eq_true rfl) hN) hL.1 (Nat.le_of_ble_eq_true rfl) ⟨Nat.zero_le _, Nat.zero_le _⟩ h dX1_kind_27 (fun q10 h H locs B => ?_)
        refine gg_if_eq hx hb 37 h dX1_kind_30 (by decide) (fun h => ?_) (fun h => ?_)
        · refine lv_iload_n hx hb dX1_kind_37 rfl (lv_at hL 2 rfl) ?_
          refine lv_istore_n (lv' := [(2, .int x2l4), (0, .ref (ad a0)), (1, .ref (ad a1)), (3, .int x3l4)]) hx hb dX1_kind_38 rfl hL (by decide) rfl (fun ls hL => ?_)
          refine lv_iinc (v := x3l4 + 1) (lv' := [(3, .int (x3l4 + 1)), (2, .int x2l4), (0, .ref (ad a0)), (1, .ref (ad a1))]) hx hb dX1_kind_39 hL (k := 3) rfl rfl (by decide) rfl (fun ls hL => ?_)
          refine lv_goto (tgt := 4) hx hb dX1_kind_42 (by decide) ?_
          exact ih4 _ _ _ _ _ (g_next h h94) B (lv_sub hL [2, 3, 1, 0] rfl)
        · refine lv_iload_n hx hb dX1_kind_33 rfl (lv_at hL 3 rfl) ?_
          refine lv_goto (tgt := 38) hx hb dX1_kind_34 (by decide) ?_
          refine lv_istore_n (lv' := [(2, .int x3l4), (0, .ref (ad a0)), (1, .ref (ad a1)), (3, .int x3l4)]) hx hb dX1_kind_38 rfl hL (by decide) rfl (fun ls hL => ?_)
          refine lv_iinc (v := x3l4 + 1) (lv' := [(3, .int (x3l4 + 1)), (2, .int x3l4), (0, .ref (ad a0)), (1, .ref (ad a1))]) hx hb dX1_kind_39 hL (k := 3) rfl rfl (by decide) rfl (fun ls hL => ?_)
          refine lv_goto (tgt := 4) hx hb dX1_kind_42 (by decide) ?_
          exact ih4 _ _ _ _ _ (g_next h h94) B (lv_sub hL [2, 3, 1, 0] rfl)
  exact hl4 g_K _ _ _ _ _ h84 B (lv_sub hL [2, 3, 1, 0] rfl)
theorem k_X1_kind {p : Program} {l : Launch} {e : Env} {R : Room} {s : State} {m : MethodId} {args : Array Value} {below : List Frame} {meth : Method} {c : Code} {H : Heap} {locs : List Loc} {Q : State → Prop} {pc : Nat} {ls : Array Slot} {rest : List Value} {cc : ByteArray} {nL cells slots : Nat} {D : va_G} {cA : Nat → ClassId} {ad : Nat → Nat} {hk : HK} {nx : Nat} {A : Nat → Prop} {gi : GI} {gr : GR} {α : Type} {r : α} {own : String} {idx : Nat} {a0 : Nat} {a1 : Nat} {ff : Int32 → Option α} (ht : (hk a0).1 = 11) (C : CallFix p m c cc nL s args lw_all own) (B : XB D cA ad hk nx A s gi gr H locs) (hq : Cond.methodLink own idx yX1_kind ∈ lw_all) (hF : 5 ≤ R.frames) (hN : 151 ≤ R.locals) (hs : ls.size = nL) (hw : (rest.map fun v => v.category).sum ≤ 8) (hz0 : cells ≤ R.cells ∧ slots ≤ R.slots) (h : (f_X1_kind hk gi gr a0 a1).bind ff = some r) (hdg : decode cc pc = .ok (.invokevirtual idx, 3)) (kk : ∀ q, ff q = some r → ∀ (H' : Heap) (locs' : List Loc), XB D cA ad hk nx A s gi gr H' locs' → W p l e R s m args below meth c H' locs' cells slots Q (F0 m (pc + 3) ls (.int q :: rest))) : W p l e R s m args below meth c H locs cells slots Q (F0 m pc ls (.ref (ad a1) :: .ref (ad a0) :: rest)) := by
  obtain ⟨q, h1, h2⟩ := g_ob h
  refine xx_cVI (As := [.ref (ad a1)]) (rest := rest) (n := 1) xc_1 ht (by decide) C B (fun sz => w_X1_kind l D cA ad hk nx gi gr a0 a1 ht q h1 sz) hq q741 q742 q142 q743 (by decide +kernel) ⟨hF, hN⟩ rfl hs hw hz0 hdg (fun v u H9 locs9 hp B9 => ?_)
  obtain ⟨e1, e2, e3⟩ := hp
  rw [e2] at B9
  rw [e3] at B9
  subst e1
  exact kk _ h2 H9 locs9 B9
def f_X1_man_l4 (hk : HK) (gii4 : GI) (gri4 : GR) (a0i4 : Nat) (a1i4 : Nat) (x2l4 : Int32) (x3l4 : Int32) : Option ((Int32 × Int32) ⊕ (Int32)) :=
  (gri4 a0i4 1).bind fun v1 =>
  (g_is hk v1 22).bind fun _ =>
  (f_J2_size hk gii4 gri4 v1).bind fun q4 =>
  if q4 ≤ x3l4 then
  (some (.inr x2l4))
  else
  ((gri4 a0i4 1).bind fun v5 =>
  (g_is hk v5 22).bind fun _ =>
  (f_J2_get hk gii4 gri4 v5 x3l4).bind fun q8 =>
  (g_is hk q8 16).bind fun _ =>
  (gri4 q8 0).bind fun v10 =>
  (g_is hk v10 25).bind fun _ =>
  (f_J7_equals hk gii4 gri4 v10 a1i4).bind fun q13 =>
  if q13 = 0 then
  (some (.inl ((x2l4, x3l4 + 1))))
  else
  (some (.inl ((x3l4, x3l4 + 1)))))
def f_X1_man_x4 (hk : HK) (giy4 : GI) (gry4 : GR) (x2e4 : Int32) : Option (Int32) :=
  some x2e4
def f_X1_man (hk : HK) (gi : GI) (gr : GR) (a0 : Nat) (a1 : Nat) : Option (Int32) :=
  (g_loop g_K (fun (s : Int32 × Int32) => f_X1_man_l4 hk gi gr a0 a1 s.1 s.2) ((-1), 0)).bind fun E4 => f_X1_man_x4 hk gi gr E4
set_option maxHeartbeats 400000 in
theorem w_X1_man (l : Launch) (D : va_G) (cA : Nat → ClassId) (ad : Nat → Nat) (hk : HK) (nx : Nat) (gi : GI) (gr : GR) (a0 : Nat) (a1 : Nat) (ht : (hk a0).1 = 11) (r : Int32) (h : f_X1_man hk gi gr a0 a1 = some r) (sz : Nat) : Met l yX1_man (ws_ yX1_man cX1_man 4 (some .int)) ({ frames := 4, cells := 0, slots := 0, locals := 128 } : Room) (va_Pc [.ref (ad a0), .ref (ad a1)] (XPre D cA ad hk nx gi gr sz)) (va_Qi (fun v u => v = r ∧ u.1 = gi ∧ u.2 = gr) (XPost D cA ad hk nx) (XA ad nx sz)) 0 0 (XA ad nx sz) := by
  refine xx_stI (own := RX1) (P := (fun v u => v = r ∧ u.1 = gi ∧ u.2 = gr)) (by decide +kernel) rfl (Nat.le_of_ble_eq_true rfl) (fun p e s m args below meth c R Q A ls C hF hN B hret hL => ?_) sz
  have hx := C.1
  have hb := C.2.1
  have hL : lv_has ls 4 [(0, .ref (ad a0)), (1, .ref (ad a1))] := hL
  unfold f_X1_man at h
  refine lv_iconst (v := (-1)) hx hb dX1_man_0 (by decide) ?_
  refine lv_istore_n (lv' := [(2, .int ((-1))), (0, .ref (ad a0)), (1, .ref (ad a1))]) hx hb dX1_man_1 rfl hL (by decide) rfl (fun ls hL => ?_)
  refine lv_iconst (v := 0) hx hb dX1_man_2 (by decide) ?_
  refine lv_istore_n (lv' := [(3, .int 0), (2, .int ((-1))), (0, .ref (ad a0)), (1, .ref (ad a1))]) hx hb dX1_man_3 rfl hL (by decide) rfl (fun ls hL => ?_)
  obtain ⟨E4, h84, h⟩ := g_ob h
  have kx4 : ∀ (x2e4 : Int32) (H : Heap) (locs : List Loc) (ls : Array Slot), x2e4 = E4 → XB D cA ad hk nx A s gi gr H locs → lv_has ls 4 [(2, .int x2e4)] → W p l e R s m args below meth c H locs 0 0 Q (F0 m 48 ls []) := by
    intro x2e4 H locs ls he B hL
    subst he
    have h : f_X1_man_x4 hk gi gr x2e4 = some r := h
    unfold f_X1_man_x4 at h
    refine lv_iload_n hx hb dX1_man_48 rfl (lv_at hL 0 rfl) ?_
    exact hret _ _ _ _ _ _ _ ⟨Option.some.inj h, rfl, rfl⟩ B dX1_man_49
  have hl4 : ∀ (k : Nat) (x2l4 : Int32) (x3l4 : Int32) (H : Heap) (locs : List Loc) (ls : Array Slot), g_loop k (fun (s : Int32 × Int32) => f_X1_man_l4 hk gi gr a0 a1 s.1 s.2) (x2l4, x3l4) = some E4 → XB D cA ad hk nx A s gi gr H locs → lv_has ls 4 [(0, .ref (ad a0)), (1, .ref (ad a1)), (2, .int x2l4), (3, .int x3l4)] → W p l e R s m args below meth c H locs 0 0 Q (F0 m 4 ls []) := by
    intro k
    induction k with
    | zero => intro x2l4 x3l4 H locs ls h; exact absurd h (fun z => g_loop_0 z)
    | succ k ih4 =>
      intro x2l4 x3l4 H locs ls h B hL
      obtain ⟨Z4, h, h94⟩ := g_loop_s h
      have h : f_X1_man_l4 hk gi gr a0 a1 x2l4 x3l4 = some Z4 := h
      unfold f_X1_man_l4 at h
      refine lv_iload_n hx hb dX1_man_4 rfl (lv_at hL 3 rfl) ?_
      refine lv_aload_n hx hb dX1_man_5 rfl (lv_at hL 0 rfl) ?_
      refine xx_gr (ci := 1) (k := 1) C B xc_1 ht (by decide) (Nat.le_of_ble_eq_true rfl) rfl q255 (fun _ h => h) h dX1_man_6 (fun v1 ok2 h => ?_)
      refine xx_is h (fun hp3 h => ?_)
      refine k_J2_size hp3 C B q744 (Nat.le_trans (Nat.le_of_ble_eq_true rfl) hF) (Nat.le_trans (Nat.le_of_ble_eq_true rfl) hN) hL.1 (Nat.le_of_ble_eq_true rfl) ⟨Nat.zero_le _, Nat.zero_le _⟩ h dX1_man_9 (fun q4 h H locs B => ?_)
      refine gg_icmp_ge hx hb 48 h dX1_man_12 (by decide) (fun h => ?_) (fun h => ?_)
      · exact kx4 _ _ _ _ (g_exit h h94) B (lv_sub hL [2] rfl)
      · refine lv_aload_n hx hb dX1_man_15 rfl (lv_at hL 0 rfl) ?_
        refine xx_gr (ci := 1) (k := 1) C B xc_1 ht (by decide) (Nat.le_of_ble_eq_true rfl) rfl q255 (fun _ h => h) h dX1_man_16 (fun v5 ok6 h => ?_)
        refine lv_iload_n hx hb dX1_man_19 rfl (lv_at hL 3 rfl) ?_
        refine xx_is h (fun hp7 h => ?_)
        refine k_J2_get hp7 C B q745 (Nat.le_trans (Nat.le_of_ble_eq_true rfl) hF) (Nat.le_trans (Nat.le_of_ble_eq_true rfl) hN) hL.1 (Nat.le_of_ble_eq_true rfl) ⟨Nat.zero_le _, Nat.zero_le _⟩ h dX1_man_20 (fun q8 h H locs B => ?_)
        refine xx_is h (fun hp9 h => ?_)
        refine xx_cast C B xc_6 hp9 (by decide) q966 dX1_man_23 ?_
        refine xx_gr (ci := 6) (k := 0) C B xc_6 hp9 (by decide) (Nat.le_of_ble_eq_true rfl) rfl q972 (fun _ h => h) h dX1_man_26 (fun v10 ok11 h => ?_)
        refine lv_aload_n hx hb dX1_man_29 rfl (lv_at hL 1 rfl) ?_
        refine xx_is h (fun hp12 h => ?_)
        refine k_J7_equals hp12 C B q747 (Nat.le_trans (Nat.le_of_ble_eq_true rfl) hF) (Nat.le_trans (Nat.le_of_ble_eq_true rfl) hN) hL.1 (Nat.le_of_ble_eq_true rfl) ⟨Nat.zero_le _, Nat.zero_le _⟩ h dX1_man_30 (fun q13 h H locs B => ?_)
        refine gg_if_eq hx hb 40 h dX1_man_33 (by decide) (fun h => ?_) (fun h => ?_)
        · refine lv_iload_n hx hb dX1_man_40 rfl (lv_at hL 2 rfl) ?_
          refine lv_istore_n (lv' := [(2, .int x2l4), (0, .ref (ad a0)), (1, .ref (ad a1)), (3, .int x3l4)]) hx hb dX1_man_41 rfl hL (by decide) rfl (fun ls hL => ?_)
          refine lv_iinc (v := x3l4 + 1) (lv' := [(3, .int (x3l4 + 1)), (2, .int x2l4), (0, .ref (ad a0)), (1, .ref (ad a1))]) hx hb dX1_man_42 hL (k := 3) rfl rfl (by decide) rfl (fun ls hL => ?_)
          refine lv_goto (tgt := 4) hx hb dX1_man_45 (by decide) ?_
          exact ih4 _ _ _ _ _ (g_next h h94) B (lv_sub hL [2, 3, 1, 0] rfl)
        · refine lv_iload_n hx hb dX1_man_36 rfl (lv_at hL 3 rfl) ?_
          refine lv_goto (tgt := 41) hx hb dX1_man_37 (by decide) ?_
          refine lv_istore_n (lv' := [(2, .int x3l4), (0, .ref (ad a0)), (1, .ref (ad a1)), (3, .int x3l4)]) hx hb dX1_man_41 rfl hL (by decide) rfl (fun ls hL => ?_)
          refine lv_iinc (v := x3l4 + 1) (lv' := [(3, .int (x3l4 + 1)), (2, .int x3l4), (0, .ref (ad a0)), (1, .ref (ad a1))]) hx hb dX1_man_42 hL (k := 3) rfl rfl (by decide) rfl (fun ls hL => ?_)
          refine lv_goto (tgt := 4) hx hb dX1_man_45 (by decide) ?_
          exact ih4 _ _ _ _ _ (g_next h h94) B (lv_sub hL [2, 3, 1, 0] rfl)
  exact hl4 g_K _ _ _ _ _ h84 B (lv_sub hL [2, 3, 1, 0] rfl)
theorem k_X1_man {p : Program} {l : Launch} {e : Env} {R : Room} {s : State} {m : MethodId} {args : Array Value} {below : List Frame} {meth : Method} {c : Code} {H : Heap} {locs : List Loc} {Q : State → Prop} {pc : Nat} {ls : Array Slot} {rest : List Value} {cc : ByteArray} {nL cells slots : Nat} {D : va_G} {cA : Nat → ClassId} {ad : Nat → Nat} {hk : HK} {nx : Nat} {A : Nat → Prop} {gi : GI} {gr : GR} {α : Type} {r : α} {own : String} {idx : Nat} {a0 : Nat} {a1 : Nat} {ff : Int32 → Option α} (ht : (hk a0).1 = 11) (C : CallFix p m c cc nL s args lw_all own) (B : XB D cA ad hk nx A s gi gr H locs) (hq : Cond.methodLink own idx yX1_man ∈ lw_all) (hF : 5 ≤ R.frames) (hN : 151 ≤ R.locals) (hs : ls.size = nL) (hw : (rest.map fun v => v.category).sum ≤ 8) (hz0 : cells ≤ R.cells ∧ slots ≤ R.slots) (h : (f_X1_man hk gi gr a0 a1).bind ff = some r) (hdg : decode cc pc = .ok (.invokevirtual idx, 3)) (kk : ∀ q, ff q = some r → ∀ (H' : Heap) (locs' : List Loc), XB D cA ad hk nx A s gi gr H' locs' → W p l e R s m args below meth c H' locs' cells slots Q (F0 m (pc + 3) ls (.int q :: rest))) : W p l e R s m args below meth c H locs cells slots Q (F0 m pc ls (.ref (ad a1) :: .ref (ad a0) :: rest)) := by
  obtain ⟨q, h1, h2⟩ := g_ob h
  refine xx_cVI (As := [.ref (ad a1)]) (rest := rest) (n := 1) xc_1 ht (by decide) C B (fun sz => w_X1_man l D cA ad hk nx gi gr a0 a1 ht q h1 sz) hq q963 q964 q142 q965 (by decide +kernel) ⟨hF, hN⟩ rfl hs hw hz0 hdg (fun v u H9 locs9 hp B9 => ?_)
  obtain ⟨e1, e2, e3⟩ := hp
  rw [e2] at B9
  rw [e3] at B9
  subst e1
  exact kk _ h2 H9 locs9 B9
def f_X5_is (hk : HK) (gi : GI) (gr : GR) (a0 : Nat) (a1 : Nat) : Option (Int32) :=
  if (gi a0 1) = 1 then
  ((gr a0 8).bind fun v1 =>
  (g_is hk v1 25).bind fun _ =>
  (f_J7_equals_L hk gi gr v1 a1).bind fun q4 =>
  if q4 = 0 then
  (some 0)
  else
  (some 1))
  else
  (some 0)
set_option maxHeartbeats 400000 in
theorem w_X5_is (l : Launch) (D : va_G) (cA : Nat → ClassId) (ad : Nat → Nat) (hk : HK) (nx : Nat) (gi : GI) (gr : GR) (a0 : Nat) (a1 : Nat) (ht : (hk a0).1 = 14) (hi : a1 < 22) (r : Int32) (h : f_X5_is hk gi gr a0 a1 = some r) (sz : Nat) : Met l yX5_is (ws_ yX5_is cX5_is 2 (some .boolean)) ({ frames := 3, cells := 0, slots := 0, locals := 108 } : Room) (va_Pc [.ref (ad a0), .ref (ad (1000100 + a1))] (XPre D cA ad hk nx gi gr sz)) (va_Qi (fun v u => v = r ∧ u.1 = gi ∧ u.2 = gr) (XPost D cA ad hk nx) (XA ad nx sz)) 0 0 (XA ad nx sz) := by
  refine xx_stZ (own := RX5) (P := (fun v u => v = r ∧ u.1 = gi ∧ u.2 = gr)) (by decide +kernel) rfl (Nat.le_of_ble_eq_true rfl) (fun p e s m args below meth c R Q A ls C hF hN B hret hL => ?_) sz
  have hx := C.1
  have hb := C.2.1
  have hL : lv_has ls 2 [(0, .ref (ad a0)), (1, .ref (ad (1000100 + a1)))] := hL
  unfold f_X5_is at h
  refine lv_aload_n hx hb dX5_is_0 rfl (lv_at hL 0 rfl) ?_
  refine xx_gi (ci := 4) (k := 1) C B xc_4 ht (by decide) (Nat.le_of_ble_eq_true rfl) rfl q475 (fun _ h => h) dX5_is_1 ?_
  refine lv_iconst (v := 1) hx hb dX5_is_4 (by decide) ?_
  refine gg_icmp_ne hx hb 23 h dX5_is_5 (by decide) (fun h => ?_) (fun h => ?_)
  · refine lv_iconst (v := 0) hx hb dX5_is_23 (by decide) ?_
    exact hret _ _ _ _ _ _ _ ⟨Option.some.inj h, rfl, rfl⟩ (Or.inl rfl) B dX5_is_24
  · refine lv_aload_n hx hb dX5_is_8 rfl (lv_at hL 0 rfl) ?_
    refine xx_gr (ci := 4) (k := 8) C B xc_4 ht (by decide) (Nat.le_of_ble_eq_true rfl) rfl q482 (fun _ h => h) h dX5_is_9 (fun v1 ok2 h => ?_)
    refine lv_aload_n hx hb dX5_is_12 rfl (lv_at hL 1 rfl) ?_
    refine xx_is h (fun hp3 h => ?_)
    refine k_J7_equals_L hp3 hi C B q727 (Nat.le_trans (Nat.le_of_ble_eq_true rfl) hF) (Nat.le_trans (Nat.le_of_ble_eq_true rfl) hN) hL.1 (Nat.le_of_ble_eq_true rfl) ⟨Nat.zero_le _, Nat.zero_le _⟩ h dX5_is_13 (fun q4 h H locs B => ?_)
    refine gg_if_eq hx hb 23 h dX5_is_16 (by decide) (fun h => ?_) (fun h => ?_)
    · refine lv_iconst (v := 0) hx hb dX5_is_23 (by decide) ?_
      exact hret _ _ _ _ _ _ _ ⟨Option.some.inj h, rfl, rfl⟩ (Or.inl rfl) B dX5_is_24
    · refine lv_iconst (v := 1) hx hb dX5_is_19 (by decide) ?_
      refine lv_goto (tgt := 24) hx hb dX5_is_20 (by decide) ?_
      exact hret _ _ _ _ _ _ _ ⟨Option.some.inj h, rfl, rfl⟩ (Or.inr rfl) B dX5_is_24
theorem k_X5_is {p : Program} {l : Launch} {e : Env} {R : Room} {s : State} {m : MethodId} {args : Array Value} {below : List Frame} {meth : Method} {c : Code} {H : Heap} {locs : List Loc} {Q : State → Prop} {pc : Nat} {ls : Array Slot} {rest : List Value} {cc : ByteArray} {nL cells slots : Nat} {D : va_G} {cA : Nat → ClassId} {ad : Nat → Nat} {hk : HK} {nx : Nat} {A : Nat → Prop} {gi : GI} {gr : GR} {α : Type} {r : α} {own : String} {idx : Nat} {a0 : Nat} {a1 : Nat} {ff : Int32 → Option α} (ht : (hk a0).1 = 14) (hi : a1 < 22) (C : CallFix p m c cc nL s args lw_all own) (B : XB D cA ad hk nx A s gi gr H locs) (hq : Cond.methodLink own idx yX5_is ∈ lw_all) (hF : 4 ≤ R.frames) (hN : 129 ≤ R.locals) (hs : ls.size = nL) (hw : (rest.map fun v => v.category).sum ≤ 8) (hz0 : cells ≤ R.cells ∧ slots ≤ R.slots) (h : (f_X5_is hk gi gr a0 a1).bind ff = some r) (hdg : decode cc pc = .ok (.invokevirtual idx, 3)) (kk : ∀ q, ff q = some r → ∀ (H' : Heap) (locs' : List Loc), XB D cA ad hk nx A s gi gr H' locs' → W p l e R s m args below meth c H' locs' cells slots Q (F0 m (pc + 3) ls (.int q :: rest))) : W p l e R s m args below meth c H locs cells slots Q (F0 m pc ls (.ref (ad (1000100 + a1)) :: .ref (ad a0) :: rest)) := by
  obtain ⟨q, h1, h2⟩ := g_ob h
  refine xx_cVI (As := [.ref (ad (1000100 + a1))]) (rest := rest) (n := 1) xc_4 ht (by decide) C B (fun sz => w_X5_is l D cA ad hk nx gi gr a0 a1 ht hi q h1 sz) hq q725 qs5 q151 q726 (by decide +kernel) ⟨hF, hN⟩ rfl hs hw hz0 hdg (fun v u H9 locs9 hp B9 => ?_)
  obtain ⟨e1, e2, e3⟩ := hp
  rw [e2] at B9
  rw [e3] at B9
  subst e1
  exact kk _ h2 H9 locs9 B9
def f_X5_isName_j506 (hk : HK) (grj506 : GR) (gij506 : GI) (x2j506 : Int32) : Option (Int32 × GI) :=
  if x2j506.toInt < 0 ∨ 20 < x2j506.toInt then
  (some (1, gij506))
  else if x2j506 = 0 then
  (some (0, gij506))
  else if x2j506 = 1 then
  (some (0, gij506))
  else if x2j506 = 2 then
  (some (0, gij506))
  else if x2j506 = 3 then
  (some (0, gij506))
  else if x2j506 = 4 then
  (some (0, gij506))
  else if x2j506 = 5 then
  (some (0, gij506))
  else if x2j506 = 6 then
  (some (0, gij506))
  else if x2j506 = 7 then
  (some (0, gij506))
  else if x2j506 = 8 then
  (some (0, gij506))
  else if x2j506 = 9 then
  (some (0, gij506))
  else if x2j506 = 10 then
  (some (0, gij506))
  else if x2j506 = 11 then
  (some (0, gij506))
  else if x2j506 = 12 then
  (some (0, gij506))
  else if x2j506 = 13 then
  (some (0, gij506))
  else if x2j506 = 14 then
  (some (0, gij506))
  else if x2j506 = 15 then
  (some (0, gij506))
  else if x2j506 = 16 then
  (some (0, gij506))
  else if x2j506 = 17 then
  (some (0, gij506))
  else if x2j506 = 18 then
  (some (0, gij506))
  else if x2j506 = 19 then
  (some (0, gij506))
  else if x2j506 = 20 then
  (some (0, gij506))
  else none
def f_X5_isName (hk : HK) (gi : GI) (gr : GR) (a0 : Nat) : Option (Int32 × GI) :=
  if (gi a0 1) = 1 then
  ((gr a0 8).bind fun v1 =>
  (g_is hk v1 25).bind fun _ =>
  (f_J7_hashCode hk gi gr v1).bind fun q4 =>
  if q4.1 = (-906279820) then
  ((f_J7_equals_L hk q4.2 gr v1 15).bind fun q5 =>
  if q5 = 0 then
  (f_X5_isName_j506 hk gr q4.2 ((-1)))
  else
  (f_X5_isName_j506 hk gr q4.2 14))
  else if q4.1 = 3555 then
  ((f_J7_equals_L hk q4.2 gr v1 20).bind fun q6 =>
  if q6 = 0 then
  (f_X5_isName_j506 hk gr q4.2 ((-1)))
  else
  (f_X5_isName_j506 hk gr q4.2 19))
  else if q4.1 = 96727 then
  ((f_J7_equals_L hk q4.2 gr v1 19).bind fun q7 =>
  if q7 = 0 then
  (f_X5_isName_j506 hk gr q4.2 ((-1)))
  else
  (f_X5_isName_j506 hk gr q4.2 18))
  else if q4.1 = 101577 then
  ((f_J7_equals_L hk q4.2 gr v1 9).bind fun q8 =>
  if q8 = 0 then
  (f_X5_isName_j506 hk gr q4.2 ((-1)))
  else
  (f_X5_isName_j506 hk gr q4.2 8))
  else if q4.1 = 107866 then
  ((f_J7_equals_L hk q4.2 gr v1 2).bind fun q9 =>
  if q9 = 0 then
  (f_X5_isName_j506 hk gr q4.2 ((-1)))
  else
  (f_X5_isName_j506 hk gr q4.2 1))
  else if q4.1 = 109267 then
  ((f_J7_equals_L hk q4.2 gr v1 21).bind fun q10 =>
  if q10 = 0 then
  (f_X5_isName_j506 hk gr q4.2 ((-1)))
  else
  (f_X5_isName_j506 hk gr q4.2 20))
  else if q4.1 = 110760 then
  ((f_J7_equals_L hk q4.2 gr v1 6).bind fun q11 =>
  if q11 = 0 then
  (f_X5_isName_j506 hk gr q4.2 ((-1)))
  else
  (f_X5_isName_j506 hk gr q4.2 5))
  else if q4.1 = 3029737 then
  ((f_J7_equals_L hk q4.2 gr v1 10).bind fun q12 =>
  if q12 = 0 then
  (f_X5_isName_j506 hk gr q4.2 ((-1)))
  else
  (f_X5_isName_j506 hk gr q4.2 9))
  else if q4.1 = 3062416 then
  ((f_J7_equals_L hk q4.2 gr v1 3).bind fun q13 =>
  if q13 = 0 then
  (f_X5_isName_j506 hk gr q4.2 ((-1)))
  else
  (f_X5_isName_j506 hk gr q4.2 2))
  else if q4.1 = 3091780 then
  ((f_J7_equals_L hk q4.2 gr v1 13).bind fun q14 =>
  if q14 = 0 then
  (f_X5_isName_j506 hk gr q4.2 ((-1)))
  else
  (f_X5_isName_j506 hk gr q4.2 12))
  else if q4.1 = 3181587 then
  ((f_J7_equals_L hk q4.2 gr v1 11).bind fun q15 =>
  if q15 = 0 then
  (f_X5_isName_j506 hk gr q4.2 ((-1)))
  else
  (f_X5_isName_j506 hk gr q4.2 10))
  else if q4.1 = 3292052 then
  ((f_J7_equals_L hk q4.2 gr v1 1).bind fun q16 =>
  if q16 = 0 then
  (f_X5_isName_j506 hk gr q4.2 ((-1)))
  else
  (f_X5_isName_j506 hk gr q4.2 0))
  else if q4.1 = 3443937 then
  ((f_J7_equals_L hk q4.2 gr v1 18).bind fun q17 =>
  if q17 = 0 then
  (f_X5_isName_j506 hk gr q4.2 ((-1)))
  else
  (f_X5_isName_j506 hk gr q4.2 17))
  else if q4.1 = 3493088 then
  ((f_J7_equals_L hk q4.2 gr v1 8).bind fun q18 =>
  if q18 = 0 then
  (f_X5_isName_j506 hk gr q4.2 ((-1)))
  else
  (f_X5_isName_j506 hk gr q4.2 7))
  else if q4.1 = 3645428 then
  ((f_J7_equals_L hk q4.2 gr v1 17).bind fun q19 =>
  if q19 = 0 then
  (f_X5_isName_j506 hk gr q4.2 ((-1)))
  else
  (f_X5_isName_j506 hk gr q4.2 16))
  else if q4.1 = 97440432 then
  ((f_J7_equals_L hk q4.2 gr v1 14).bind fun q20 =>
  if q20 = 0 then
  (f_X5_isName_j506 hk gr q4.2 ((-1)))
  else
  (f_X5_isName_j506 hk gr q4.2 13))
  else if q4.1 = 99154469 then
  ((f_J7_equals_L hk q4.2 gr v1 7).bind fun q21 =>
  if q21 = 0 then
  (f_X5_isName_j506 hk gr q4.2 ((-1)))
  else
  (f_X5_isName_j506 hk gr q4.2 6))
  else if q4.1 = 99469071 then
  ((f_J7_equals_L hk q4.2 gr v1 12).bind fun q22 =>
  if q22 = 0 then
  (f_X5_isName_j506 hk gr q4.2 ((-1)))
  else
  (f_X5_isName_j506 hk gr q4.2 11))
  else if q4.1 = 103157406 then
  ((f_J7_equals_L hk q4.2 gr v1 4).bind fun q23 =>
  if q23 = 0 then
  (f_X5_isName_j506 hk gr q4.2 ((-1)))
  else
  (f_X5_isName_j506 hk gr q4.2 3))
  else if q4.1 = 107033119 then
  ((f_J7_equals_L hk q4.2 gr v1 5).bind fun q24 =>
  if q24 = 0 then
  (f_X5_isName_j506 hk gr q4.2 ((-1)))
  else
  (f_X5_isName_j506 hk gr q4.2 4))
  else if q4.1 = 110331239 then
  ((f_J7_equals_L hk q4.2 gr v1 16).bind fun q25 =>
  if q25 = 0 then
  (f_X5_isName_j506 hk gr q4.2 ((-1)))
  else
  (f_X5_isName_j506 hk gr q4.2 15))
  else (f_X5_isName_j506 hk gr q4.2 ((-1))))
  else
  (some (0, gi))
set_option maxHeartbeats 400000 in
theorem w_X5_isName (l : Launch) (D : va_G) (cA : Nat → ClassId) (ad : Nat → Nat) (hk : HK) (nx : Nat) (gi : GI) (gr : GR) (a0 : Nat) (ht : (hk a0).1 = 14) (r : Int32 × GI) (h : f_X5_isName hk gi gr a0 = some r) (sz : Nat) : Met l yX5_isName (ws_ yX5_isName cX5_isName 3 (some .boolean)) ({ frames := 5, cells := 0, slots := 0, locals := 154 } : Room) (va_Pc [.ref (ad a0)] (XPre D cA ad hk nx gi gr sz)) (va_Qi (fun v u => (v, u.1) = r ∧ u.2 = gr) (XPost D cA ad hk nx) (XA ad nx sz)) 0 0 (XA ad nx sz) := by
  refine xx_stZ (own := RX5) (P := (fun v u => (v, u.1) = r ∧ u.2 = gr)) (by decide +kernel) rfl (Nat.le_of_ble_eq_true rfl) (fun p e s m args below meth c R Q A ls C hF hN B hret hL => ?_) sz
  have hx := C.1
  have hb := C.2.1
  have hL : lv_has ls 3 [(0, .ref (ad a0))] := hL
  unfold f_X5_isName at h
  have hj506 : ∀ (gij506 : GI) (x2j506 : Int32) (H : Heap) (locs : List Loc) (ls : Array Slot), f_X5_isName_j506 hk gr gij506 x2j506 = some r → XB D cA ad hk nx A s gij506 gr H locs → lv_has ls 3 [(2, .int x2j506)] → W p l e R s m args below meth c H locs 0 0 Q (F0 m 506 ls []) := by
    intro gij506 x2j506 H locs ls h B hL
    unfold f_X5_isName_j506 at h
    refine lv_iload_n hx hb dX5_isName_506 rfl (lv_at hL 0 rfl) ?_
    rcases g_if h with ⟨hc, h⟩ | ⟨hc, h⟩
    · refine lv_tableOut (tgt := 606) hx hb dX5_isName_507 hc (by decide) ?_
      refine lv_iconst (v := 1) hx hb dX5_isName_606 (by decide) ?_
      exact hret _ _ _ _ _ _ _ ⟨Option.some.inj h, rfl⟩ (Or.inr rfl) B dX5_isName_607
    · rcases g_if h with ⟨he, h⟩ | ⟨_, h⟩
      · refine lv_tableIn (off := 97) (tgt := 604) hx hb dX5_isName_507 (by rw [he]; decide) (by rw [he]; decide) (by rw [he]; rfl) (by decide) ?_
        refine lv_iconst (v := 0) hx hb dX5_isName_604 (by decide) ?_
        exact hret _ _ _ _ _ _ _ ⟨Option.some.inj h, rfl⟩ (Or.inl rfl) B dX5_isName_605
      · rcases g_if h with ⟨he, h⟩ | ⟨_, h⟩
        · refine lv_tableIn (off := 97) (tgt := 604) hx hb dX5_isName_507 (by rw [he]; decide) (by rw [he]; decide) (by rw [he]; rfl) (by decide) ?_
          refine lv_iconst (v := 0) hx hb dX5_isName_604 (by decide) ?_
          exact hret _ _ _ _ _ _ _ ⟨Option.some.inj h, rfl⟩ (Or.inl rfl) B dX5_isName_605
        · rcases g_if h with ⟨he, h⟩ | ⟨_, h⟩
          · refine lv_tableIn (off := 97) (tgt := 604) hx hb dX5_isName_507 (by rw [he]; decide) (by rw [he]; decide) (by rw [he]; rfl) (by decide) ?_
            refine lv_iconst (v := 0) hx hb dX5_isName_604 (by decide) ?_
            exact hret _ _ _ _ _ _ _ ⟨Option.some.inj h, rfl⟩ (Or.inl rfl) B dX5_isName_605
          · rcases g_if h with ⟨he, h⟩ | ⟨_, h⟩
            · refine lv_tableIn (off := 97) (tgt := 604) hx hb dX5_isName_507 (by rw [he]; decide) (by rw [he]; decide) (by rw [he]; rfl) (by decide) ?_
              refine lv_iconst (v := 0) hx hb dX5_isName_604 (by decide) ?_
              exact hret _ _ _ _ _ _ _ ⟨Option.some.inj h, rfl⟩ (Or.inl rfl) B dX5_isName_605
            · rcases g_if h with ⟨he, h⟩ | ⟨_, h⟩
              · refine lv_tableIn (off := 97) (tgt := 604) hx hb dX5_isName_507 (by rw [he]; decide) (by rw [he]; decide) (by rw [he]; rfl) (by decide) ?_
                refine lv_iconst (v := 0) hx hb dX5_isName_604 (by decide) ?_
                exact hret _ _ _ _ _ _ _ ⟨Option.some.inj h, rfl⟩ (Or.inl rfl) B dX5_isName_605
              · rcases g_if h with ⟨he, h⟩ | ⟨_, h⟩
                · refine lv_tableIn (off := 97) (tgt := 604) hx hb dX5_isName_507 (by rw [he]; decide) (by rw [he]; decide) (by rw [he]; rfl) (by decide) ?_
                  refine lv_iconst (v := 0) hx hb dX5_isName_604 (by decide) ?_
                  exact hret _ _ _ _ _ _ _ ⟨Option.some.inj h, rfl⟩ (Or.inl rfl) B dX5_isName_605
                · rcases g_if h with ⟨he, h⟩ | ⟨_, h⟩
                  · refine lv_tableIn (off := 97) (tgt := 604) hx hb dX5_isName_507 (by rw [he]; decide) (by rw [he]; decide) (by rw [he]; rfl) (by decide) ?_
                    refine lv_iconst (v := 0) hx hb dX5_isName_604 (by decide) ?_
                    exact hret _ _ _ _ _ _ _ ⟨Option.some.inj h, rfl⟩ (Or.inl rfl) B dX5_isName_605
                  · rcases g_if h with ⟨he, h⟩ | ⟨_, h⟩
                    · refine lv_tableIn (off := 97) (tgt := 604) hx hb dX5_isName_507 (by rw [he]; decide) (by rw [he]; decide) (by rw [he]; rfl) (by decide) ?_
                      refine lv_iconst (v := 0) hx hb dX5_isName_604 (by decide) ?_
                      exact hret _ _ _ _ _ _ _ ⟨Option.some.inj h, rfl⟩ (Or.inl rfl) B dX5_isName_605
                    · rcases g_if h with ⟨he, h⟩ | ⟨_, h⟩
                      · refine lv_tableIn (off := 97) (tgt := 604) hx hb dX5_isName_507 (by rw [he]; decide) (by rw [he]; decide) (by rw [he]; rfl) (by decide) ?_
                        refine lv_iconst (v := 0) hx hb dX5_isName_604 (by decide) ?_
                        exact hret _ _ _ _ _ _ _ ⟨Option.some.inj h, rfl⟩ (Or.inl rfl) B dX5_isName_605
                      · rcases g_if h with ⟨he, h⟩ | ⟨_, h⟩
                        · refine lv_tableIn (off := 97) (tgt := 604) hx hb dX5_isName_507 (by rw [he]; decide) (by rw [he]; decide) (by rw [he]; rfl) (by decide) ?_
                          refine lv_iconst (v := 0) hx hb dX5_isName_604 (by decide) ?_
                          exact hret _ _ _ _ _ _ _ ⟨Option.some.inj h, rfl⟩ (Or.inl rfl) B dX5_isName_605
                        · rcases g_if h with ⟨he, h⟩ | ⟨_, h⟩
                          · refine lv_tableIn (off := 97) (tgt := 604) hx hb dX5_isName_507 (by rw [he]; decide) (by rw [he]; decide) (by rw [he]; rfl) (by decide) ?_
                            refine lv_iconst (v := 0) hx hb dX5_isName_604 (by decide) ?_
                            exact hret _ _ _ _ _ _ _ ⟨Option.some.inj h, rfl⟩ (Or.inl rfl) B dX5_isName_605
                          · rcases g_if h with ⟨he, h⟩ | ⟨_, h⟩
                            · refine lv_tableIn (off := 97) (tgt := 604) hx hb dX5_isName_507 (by rw [he]; decide) (by rw [he]; decide) (by rw [he]; rfl) (by decide) ?_
                              refine lv_iconst (v := 0) hx hb dX5_isName_604 (by decide) ?_
                              exact hret _ _ _ _ _ _ _ ⟨Option.some.inj h, rfl⟩ (Or.inl rfl) B dX5_isName_605
                            · rcases g_if h with ⟨he, h⟩ | ⟨_, h⟩
                              · refine lv_tableIn (off := 97) (tgt := 604) hx hb dX5_isName_507 (by rw [he]; decide) (by rw [he]; decide) (by rw [he]; rfl) (by decide) ?_
                                refine lv_iconst (v := 0) hx hb dX5_isName_604 (by decide) ?_
                                exact hret _ _ _ _ _ _ _ ⟨Option.some.inj h, rfl⟩ (Or.inl rfl) B dX5_isName_605
                              · rcases g_if h with ⟨he, h⟩ | ⟨_, h⟩
                                · refine lv_tableIn (off := 97) (tgt := 604) hx hb dX5_isName_507 (by rw [he]; decide) (by rw [he]; decide) (by rw [he]; rfl) (by decide) ?_
                                  refine lv_iconst (v := 0) hx hb dX5_isName_604 (by decide) ?_
                                  exact hret _ _ _ _ _ _ _ ⟨Option.some.inj h, rfl⟩ (Or.inl rfl) B dX5_isName_605
                                · rcases g_if h with ⟨he, h⟩ | ⟨_, h⟩
                                  · refine lv_tableIn (off := 97) (tgt := 604) hx hb dX5_isName_507 (by rw [he]; decide) (by rw [he]; decide) (by rw [he]; rfl) (by decide) ?_
                                    refine lv_iconst (v := 0) hx hb dX5_isName_604 (by decide) ?_
                                    exact hret _ _ _ _ _ _ _ ⟨Option.some.inj h, rfl⟩ (Or.inl rfl) B dX5_isName_605
                                  · rcases g_if h with ⟨he, h⟩ | ⟨_, h⟩
                                    · refine lv_tableIn (off := 97) (tgt := 604) hx hb dX5_isName_507 (by rw [he]; decide) (by rw [he]; decide) (by rw [he]; rfl) (by decide) ?_
                                      refine lv_iconst (v := 0) hx hb dX5_isName_604 (by decide) ?_
                                      exact hret _ _ _ _ _ _ _ ⟨Option.some.inj h, rfl⟩ (Or.inl rfl) B dX5_isName_605
                                    · rcases g_if h with ⟨he, h⟩ | ⟨_, h⟩
                                      · refine lv_tableIn (off := 97) (tgt := 604) hx hb dX5_isName_507 (by rw [he]; decide) (by rw [he]; decide) (by rw [he]; rfl) (by decide) ?_
                                        refine lv_iconst (v := 0) hx hb dX5_isName_604 (by decide) ?_
                                        exact hret _ _ _ _ _ _ _ ⟨Option.some.inj h, rfl⟩ (Or.inl rfl) B dX5_isName_605
                                      · rcases g_if h with ⟨he, h⟩ | ⟨_, h⟩
                                        · refine lv_tableIn (off := 97) (tgt := 604) hx hb dX5_isName_507 (by rw [he]; decide) (by rw [he]; decide) (by rw [he]; rfl) (by decide) ?_
                                          refine lv_iconst (v := 0) hx hb dX5_isName_604 (by decide) ?_
                                          exact hret _ _ _ _ _ _ _ ⟨Option.some.inj h, rfl⟩ (Or.inl rfl) B dX5_isName_605
                                        · rcases g_if h with ⟨he, h⟩ | ⟨_, h⟩
                                          · refine lv_tableIn (off := 97) (tgt := 604) hx hb dX5_isName_507 (by rw [he]; decide) (by rw [he]; decide) (by rw [he]; rfl) (by decide) ?_
                                            refine lv_iconst (v := 0) hx hb dX5_isName_604 (by decide) ?_
                                            exact hret _ _ _ _ _ _ _ ⟨Option.some.inj h, rfl⟩ (Or.inl rfl) B dX5_isName_605
                                          · rcases g_if h with ⟨he, h⟩ | ⟨_, h⟩
                                            · refine lv_tableIn (off := 97) (tgt := 604) hx hb dX5_isName_507 (by rw [he]; decide) (by rw [he]; decide) (by rw [he]; rfl) (by decide) ?_
                                              refine lv_iconst (v := 0) hx hb dX5_isName_604 (by decide) ?_
                                              exact hret _ _ _ _ _ _ _ ⟨Option.some.inj h, rfl⟩ (Or.inl rfl) B dX5_isName_605
                                            · rcases g_if h with ⟨he, h⟩ | ⟨_, h⟩
                                              · refine lv_tableIn (off := 97) (tgt := 604) hx hb dX5_isName_507 (by rw [he]; decide) (by rw [he]; decide) (by rw [he]; rfl) (by decide) ?_
                                                refine lv_iconst (v := 0) hx hb dX5_isName_604 (by decide) ?_
                                                exact hret _ _ _ _ _ _ _ ⟨Option.some.inj h, rfl⟩ (Or.inl rfl) B dX5_isName_605
                                              · cases h
  refine lv_aload_n hx hb dX5_isName_0 rfl (lv_at hL 0 rfl) ?_
  refine xx_gi (ci := 4) (k := 1) C B xc_4 ht (by decide) (Nat.le_of_ble_eq_true rfl) rfl q475 (fun _ h => h) dX5_isName_1 ?_
  refine lv_iconst (v := 1) hx hb dX5_isName_4 (by decide) ?_
  refine gg_icmp_eq hx hb 10 h dX5_isName_5 (by decide) (fun h => ?_) (fun h => ?_)
  · refine lv_aload_n hx hb dX5_isName_10 rfl (lv_at hL 0 rfl) ?_
    refine xx_gr (ci := 4) (k := 8) C B xc_4 ht (by decide) (Nat.le_of_ble_eq_true rfl) rfl q482 (fun _ h => h) h dX5_isName_11 (fun v1 ok2 h => ?_)
    refine lv_astore_n (lv' := [(1, .ref (ad v1)), (0, .ref (ad a0))]) hx hb dX5_isName_14 rfl hL (by decide) rfl (fun ls hL => ?_)
    refine lv_iconst (v := (-1)) hx hb dX5_isName_15 (by decide) ?_
    refine lv_istore_n (lv' := [(2, .int ((-1))), (1, .ref (ad v1)), (0, .ref (ad a0))]) hx hb dX5_isName_16 rfl hL (by decide) rfl (fun ls hL => ?_)
    refine lv_aload_n hx hb dX5_isName_17 rfl (lv_at hL 1 rfl) ?_
    refine xx_is h (fun hp3 h => ?_)
    refine k_J7_hashCode hp3 C B q756 (Nat.le_trans (Nat.le_of_ble_eq_true rfl) hF) (Nat.le_trans (Nat.le_of_ble_eq_true rfl) hN) hL.1 (Nat.le_of_ble_eq_true rfl) ⟨Nat.zero_le _, Nat.zero_le _⟩ h dX5_isName_18 (fun q4 h H locs B => ?_)
    rcases g_if h with ⟨he0, h⟩ | ⟨he0, h⟩
    · refine lv_lookup (off := 383) (tgt := 404) hx hb dX5_isName_21 (by decide) (by rw [he0]; rfl) (by decide) ?_
      refine lv_aload_n hx hb dX5_isName_404 rfl (lv_at hL 1 rfl) ?_
      refine xx_ldcS (i := 15) C B (by decide) rfl dX5_isName_405 ?_
      refine k_J7_equals_L hp3 (by decide) C B q727 (Nat.le_trans (Nat.le_of_ble_eq_true rfl) hF) (Nat.le_trans (Nat.le_of_ble_eq_true rfl) hN) hL.1 (Nat.le_of_ble_eq_true rfl) ⟨Nat.zero_le _, Nat.zero_le _⟩ h dX5_isName_407 (fun q5 h H locs B => ?_)
      refine gg_if_eq hx hb 506 h dX5_isName_410 (by decide) (fun h => ?_) (fun h => ?_)
      · exact hj506 _ _ _ _ _ h B (lv_sub hL [0] rfl)
      · refine lv_bipush (v := 14) hx hb dX5_isName_413 (by decide) ?_
        refine lv_istore_n (lv' := [(2, .int 14), (1, .ref (ad v1)), (0, .ref (ad a0))]) hx hb dX5_isName_415 rfl hL (by decide) rfl (fun ls hL => ?_)
        refine lv_goto (tgt := 506) hx hb dX5_isName_416 (by decide) ?_
        exact hj506 _ _ _ _ _ h B (lv_sub hL [0] rfl)
    · rcases g_if h with ⟨he1, h⟩ | ⟨he1, h⟩
      · refine lv_lookup (off := 458) (tgt := 479) hx hb dX5_isName_21 (by decide) (by rw [he1]; rfl) (by decide) ?_
        refine lv_aload_n hx hb dX5_isName_479 rfl (lv_at hL 1 rfl) ?_
        refine xx_ldcS (i := 20) C B (by decide) rfl dX5_isName_480 ?_
        refine k_J7_equals_L hp3 (by decide) C B q727 (Nat.le_trans (Nat.le_of_ble_eq_true rfl) hF) (Nat.le_trans (Nat.le_of_ble_eq_true rfl) hN) hL.1 (Nat.le_of_ble_eq_true rfl) ⟨Nat.zero_le _, Nat.zero_le _⟩ h dX5_isName_482 (fun q6 h H locs B => ?_)
        refine gg_if_eq hx hb 506 h dX5_isName_485 (by decide) (fun h => ?_) (fun h => ?_)
        · exact hj506 _ _ _ _ _ h B (lv_sub hL [0] rfl)
        · refine lv_bipush (v := 19) hx hb dX5_isName_488 (by decide) ?_
          refine lv_istore_n (lv' := [(2, .int 19), (1, .ref (ad v1)), (0, .ref (ad a0))]) hx hb dX5_isName_490 rfl hL (by decide) rfl (fun ls hL => ?_)
          refine lv_goto (tgt := 506) hx hb dX5_isName_491 (by decide) ?_
          exact hj506 _ _ _ _ _ h B (lv_sub hL [0] rfl)
      · rcases g_if h with ⟨he2, h⟩ | ⟨he2, h⟩
        · refine lv_lookup (off := 443) (tgt := 464) hx hb dX5_isName_21 (by decide) (by rw [he2]; rfl) (by decide) ?_
          refine lv_aload_n hx hb dX5_isName_464 rfl (lv_at hL 1 rfl) ?_
          refine xx_ldcS (i := 19) C B (by decide) rfl dX5_isName_465 ?_
          refine k_J7_equals_L hp3 (by decide) C B q727 (Nat.le_trans (Nat.le_of_ble_eq_true rfl) hF) (Nat.le_trans (Nat.le_of_ble_eq_true rfl) hN) hL.1 (Nat.le_of_ble_eq_true rfl) ⟨Nat.zero_le _, Nat.zero_le _⟩ h dX5_isName_467 (fun q7 h H locs B => ?_)
          refine gg_if_eq hx hb 506 h dX5_isName_470 (by decide) (fun h => ?_) (fun h => ?_)
          · exact hj506 _ _ _ _ _ h B (lv_sub hL [0] rfl)
          · refine lv_bipush (v := 18) hx hb dX5_isName_473 (by decide) ?_
            refine lv_istore_n (lv' := [(2, .int 18), (1, .ref (ad v1)), (0, .ref (ad a0))]) hx hb dX5_isName_475 rfl hL (by decide) rfl (fun ls hL => ?_)
            refine lv_goto (tgt := 506) hx hb dX5_isName_476 (by decide) ?_
            exact hj506 _ _ _ _ _ h B (lv_sub hL [0] rfl)
        · rcases g_if h with ⟨he3, h⟩ | ⟨he3, h⟩
          · refine lv_lookup (off := 293) (tgt := 314) hx hb dX5_isName_21 (by decide) (by rw [he3]; rfl) (by decide) ?_
            refine lv_aload_n hx hb dX5_isName_314 rfl (lv_at hL 1 rfl) ?_
            refine xx_ldcS (i := 9) C B (by decide) rfl dX5_isName_315 ?_
            refine k_J7_equals_L hp3 (by decide) C B q727 (Nat.le_trans (Nat.le_of_ble_eq_true rfl) hF) (Nat.le_trans (Nat.le_of_ble_eq_true rfl) hN) hL.1 (Nat.le_of_ble_eq_true rfl) ⟨Nat.zero_le _, Nat.zero_le _⟩ h dX5_isName_317 (fun q8 h H locs B => ?_)
            refine gg_if_eq hx hb 506 h dX5_isName_320 (by decide) (fun h => ?_) (fun h => ?_)
            · exact hj506 _ _ _ _ _ h B (lv_sub hL [0] rfl)
            · refine lv_bipush (v := 8) hx hb dX5_isName_323 (by decide) ?_
              refine lv_istore_n (lv' := [(2, .int 8), (1, .ref (ad v1)), (0, .ref (ad a0))]) hx hb dX5_isName_325 rfl hL (by decide) rfl (fun ls hL => ?_)
              refine lv_goto (tgt := 506) hx hb dX5_isName_326 (by decide) ?_
              exact hj506 _ _ _ _ _ h B (lv_sub hL [0] rfl)
          · rcases g_if h with ⟨he4, h⟩ | ⟨he4, h⟩
            · refine lv_lookup (off := 193) (tgt := 214) hx hb dX5_isName_21 (by decide) (by rw [he4]; rfl) (by decide) ?_
              refine lv_aload_n hx hb dX5_isName_214 rfl (lv_at hL 1 rfl) ?_
              refine xx_ldcS (i := 2) C B (by decide) rfl dX5_isName_215 ?_
              refine k_J7_equals_L hp3 (by decide) C B q727 (Nat.le_trans (Nat.le_of_ble_eq_true rfl) hF) (Nat.le_trans (Nat.le_of_ble_eq_true rfl) hN) hL.1 (Nat.le_of_ble_eq_true rfl) ⟨Nat.zero_le _, Nat.zero_le _⟩ h dX5_isName_217 (fun q9 h H locs B => ?_)
              refine gg_if_eq hx hb 506 h dX5_isName_220 (by decide) (fun h => ?_) (fun h => ?_)
              · exact hj506 _ _ _ _ _ h B (lv_sub hL [0] rfl)
              · refine lv_iconst (v := 1) hx hb dX5_isName_223 (by decide) ?_
                refine lv_istore_n (lv' := [(2, .int 1), (1, .ref (ad v1)), (0, .ref (ad a0))]) hx hb dX5_isName_224 rfl hL (by decide) rfl (fun ls hL => ?_)
                refine lv_goto (tgt := 506) hx hb dX5_isName_225 (by decide) ?_
                exact hj506 _ _ _ _ _ h B (lv_sub hL [0] rfl)
            · rcases g_if h with ⟨he5, h⟩ | ⟨he5, h⟩
              · refine lv_lookup (off := 473) (tgt := 494) hx hb dX5_isName_21 (by decide) (by rw [he5]; rfl) (by decide) ?_
                refine lv_aload_n hx hb dX5_isName_494 rfl (lv_at hL 1 rfl) ?_
                refine xx_ldcS (i := 21) C B (by decide) rfl dX5_isName_495 ?_
                refine k_J7_equals_L hp3 (by decide) C B q727 (Nat.le_trans (Nat.le_of_ble_eq_true rfl) hF) (Nat.le_trans (Nat.le_of_ble_eq_true rfl) hN) hL.1 (Nat.le_of_ble_eq_true rfl) ⟨Nat.zero_le _, Nat.zero_le _⟩ h dX5_isName_497 (fun q10 h H locs B => ?_)
                refine gg_if_eq hx hb 506 h dX5_isName_500 (by decide) (fun h => ?_) (fun h => ?_)
                · exact hj506 _ _ _ _ _ h B (lv_sub hL [0] rfl)
                · refine lv_bipush (v := 20) hx hb dX5_isName_503 (by decide) ?_
                  refine lv_istore_n (lv' := [(2, .int 20), (1, .ref (ad v1)), (0, .ref (ad a0))]) hx hb dX5_isName_505 rfl hL (by decide) rfl (fun ls hL => ?_)
                  exact hj506 _ _ _ _ _ h B (lv_sub hL [0] rfl)
              · rcases g_if h with ⟨he6, h⟩ | ⟨he6, h⟩
                · refine lv_lookup (off := 249) (tgt := 270) hx hb dX5_isName_21 (by decide) (by rw [he6]; rfl) (by decide) ?_
                  refine lv_aload_n hx hb dX5_isName_270 rfl (lv_at hL 1 rfl) ?_
                  refine xx_ldcS (i := 6) C B (by decide) rfl dX5_isName_271 ?_
                  refine k_J7_equals_L hp3 (by decide) C B q727 (Nat.le_trans (Nat.le_of_ble_eq_true rfl) hF) (Nat.le_trans (Nat.le_of_ble_eq_true rfl) hN) hL.1 (Nat.le_of_ble_eq_true rfl) ⟨Nat.zero_le _, Nat.zero_le _⟩ h dX5_isName_273 (fun q11 h H locs B => ?_)
                  refine gg_if_eq hx hb 506 h dX5_isName_276 (by decide) (fun h => ?_) (fun h => ?_)
                  · exact hj506 _ _ _ _ _ h B (lv_sub hL [0] rfl)
                  · refine lv_iconst (v := 5) hx hb dX5_isName_279 (by decide) ?_
                    refine lv_istore_n (lv' := [(2, .int 5), (1, .ref (ad v1)), (0, .ref (ad a0))]) hx hb dX5_isName_280 rfl hL (by decide) rfl (fun ls hL => ?_)
                    refine lv_goto (tgt := 506) hx hb dX5_isName_281 (by decide) ?_
                    exact hj506 _ _ _ _ _ h B (lv_sub hL [0] rfl)
                · rcases g_if h with ⟨he7, h⟩ | ⟨he7, h⟩
                  · refine lv_lookup (off := 308) (tgt := 329) hx hb dX5_isName_21 (by decide) (by rw [he7]; rfl) (by decide) ?_
                    refine lv_aload_n hx hb dX5_isName_329 rfl (lv_at hL 1 rfl) ?_
                    refine xx_ldcS (i := 10) C B (by decide) rfl dX5_isName_330 ?_
                    refine k_J7_equals_L hp3 (by decide) C B q727 (Nat.le_trans (Nat.le_of_ble_eq_true rfl) hF) (Nat.le_trans (Nat.le_of_ble_eq_true rfl) hN) hL.1 (Nat.le_of_ble_eq_true rfl) ⟨Nat.zero_le _, Nat.zero_le _⟩ h dX5_isName_332 (fun q12 h H locs B => ?_)
                    refine gg_if_eq hx hb 506 h dX5_isName_335 (by decide) (fun h => ?_) (fun h => ?_)
                    · exact hj506 _ _ _ _ _ h B (lv_sub hL [0] rfl)
                    · refine lv_bipush (v := 9) hx hb dX5_isName_338 (by decide) ?_
                      refine lv_istore_n (lv' := [(2, .int 9), (1, .ref (ad v1)), (0, .ref (ad a0))]) hx hb dX5_isName_340 rfl hL (by decide) rfl (fun ls hL => ?_)
                      refine lv_goto (tgt := 506) hx hb dX5_isName_341 (by decide) ?_
                      exact hj506 _ _ _ _ _ h B (lv_sub hL [0] rfl)
                  · rcases g_if h with ⟨he8, h⟩ | ⟨he8, h⟩
                    · refine lv_lookup (off := 207) (tgt := 228) hx hb dX5_isName_21 (by decide) (by rw [he8]; rfl) (by decide) ?_
                      refine lv_aload_n hx hb dX5_isName_228 rfl (lv_at hL 1 rfl) ?_
                      refine xx_ldcS (i := 3) C B (by decide) rfl dX5_isName_229 ?_
                      refine k_J7_equals_L hp3 (by decide) C B q727 (Nat.le_trans (Nat.le_of_ble_eq_true rfl) hF) (Nat.le_trans (Nat.le_of_ble_eq_true rfl) hN) hL.1 (Nat.le_of_ble_eq_true rfl) ⟨Nat.zero_le _, Nat.zero_le _⟩ h dX5_isName_231 (fun q13 h H locs B => ?_)
                      refine gg_if_eq hx hb 506 h dX5_isName_234 (by decide) (fun h => ?_) (fun h => ?_)
                      · exact hj506 _ _ _ _ _ h B (lv_sub hL [0] rfl)
                      · refine lv_iconst (v := 2) hx hb dX5_isName_237 (by decide) ?_
                        refine lv_istore_n (lv' := [(2, .int 2), (1, .ref (ad v1)), (0, .ref (ad a0))]) hx hb dX5_isName_238 rfl hL (by decide) rfl (fun ls hL => ?_)
                        refine lv_goto (tgt := 506) hx hb dX5_isName_239 (by decide) ?_
                        exact hj506 _ _ _ _ _ h B (lv_sub hL [0] rfl)
                    · rcases g_if h with ⟨he9, h⟩ | ⟨he9, h⟩
                      · refine lv_lookup (off := 353) (tgt := 374) hx hb dX5_isName_21 (by decide) (by rw [he9]; rfl) (by decide) ?_
                        refine lv_aload_n hx hb dX5_isName_374 rfl (lv_at hL 1 rfl) ?_
                        refine xx_ldcS (i := 13) C B (by decide) rfl dX5_isName_375 ?_
                        refine k_J7_equals_L hp3 (by decide) C B q727 (Nat.le_trans (Nat.le_of_ble_eq_true rfl) hF) (Nat.le_trans (Nat.le_of_ble_eq_true rfl) hN) hL.1 (Nat.le_of_ble_eq_true rfl) ⟨Nat.zero_le _, Nat.zero_le _⟩ h dX5_isName_377 (fun q14 h H locs B => ?_)
                        refine gg_if_eq hx hb 506 h dX5_isName_380 (by decide) (fun h => ?_) (fun h => ?_)
                        · exact hj506 _ _ _ _ _ h B (lv_sub hL [0] rfl)
                        · refine lv_bipush (v := 12) hx hb dX5_isName_383 (by decide) ?_
                          refine lv_istore_n (lv' := [(2, .int 12), (1, .ref (ad v1)), (0, .ref (ad a0))]) hx hb dX5_isName_385 rfl hL (by decide) rfl (fun ls hL => ?_)
                          refine lv_goto (tgt := 506) hx hb dX5_isName_386 (by decide) ?_
                          exact hj506 _ _ _ _ _ h B (lv_sub hL [0] rfl)
                      · rcases g_if h with ⟨he10, h⟩ | ⟨he10, h⟩
                        · refine lv_lookup (off := 323) (tgt := 344) hx hb dX5_isName_21 (by decide) (by rw [he10]; rfl) (by decide) ?_
                          refine lv_aload_n hx hb dX5_isName_344 rfl (lv_at hL 1 rfl) ?_
                          refine xx_ldcS (i := 11) C B (by decide) rfl dX5_isName_345 ?_
                          refine k_J7_equals_L hp3 (by decide) C B q727 (Nat.le_trans (Nat.le_of_ble_eq_true rfl) hF) (Nat.le_trans (Nat.le_of_ble_eq_true rfl) hN) hL.1 (Nat.le_of_ble_eq_true rfl) ⟨Nat.zero_le _, Nat.zero_le _⟩ h dX5_isName_347 (fun q15 h H locs B => ?_)
                          refine gg_if_eq hx hb 506 h dX5_isName_350 (by decide) (fun h => ?_) (fun h => ?_)
                          · exact hj506 _ _ _ _ _ h B (lv_sub hL [0] rfl)
                          · refine lv_bipush (v := 10) hx hb dX5_isName_353 (by decide) ?_
                            refine lv_istore_n (lv' := [(2, .int 10), (1, .ref (ad v1)), (0, .ref (ad a0))]) hx hb dX5_isName_355 rfl hL (by decide) rfl (fun ls hL => ?_)
                            refine lv_goto (tgt := 506) hx hb dX5_isName_356 (by decide) ?_
                            exact hj506 _ _ _ _ _ h B (lv_sub hL [0] rfl)
                        · rcases g_if h with ⟨he11, h⟩ | ⟨he11, h⟩
                          · refine lv_lookup (off := 179) (tgt := 200) hx hb dX5_isName_21 (by decide) (by rw [he11]; rfl) (by decide) ?_
                            refine lv_aload_n hx hb dX5_isName_200 rfl (lv_at hL 1 rfl) ?_
                            refine xx_ldcS (i := 1) C B (by decide) rfl dX5_isName_201 ?_
                            refine k_J7_equals_L hp3 (by decide) C B q727 (Nat.le_trans (Nat.le_of_ble_eq_true rfl) hF) (Nat.le_trans (Nat.le_of_ble_eq_true rfl) hN) hL.1 (Nat.le_of_ble_eq_true rfl) ⟨Nat.zero_le _, Nat.zero_le _⟩ h dX5_isName_203 (fun q16 h H locs B => ?_)
                            refine gg_if_eq hx hb 506 h dX5_isName_206 (by decide) (fun h => ?_) (fun h => ?_)
                            · exact hj506 _ _ _ _ _ h B (lv_sub hL [0] rfl)
                            · refine lv_iconst (v := 0) hx hb dX5_isName_209 (by decide) ?_
                              refine lv_istore_n (lv' := [(2, .int 0), (1, .ref (ad v1)), (0, .ref (ad a0))]) hx hb dX5_isName_210 rfl hL (by decide) rfl (fun ls hL => ?_)
                              refine lv_goto (tgt := 506) hx hb dX5_isName_211 (by decide) ?_
                              exact hj506 _ _ _ _ _ h B (lv_sub hL [0] rfl)
                          · rcases g_if h with ⟨he12, h⟩ | ⟨he12, h⟩
                            · refine lv_lookup (off := 428) (tgt := 449) hx hb dX5_isName_21 (by decide) (by rw [he12]; rfl) (by decide) ?_
                              refine lv_aload_n hx hb dX5_isName_449 rfl (lv_at hL 1 rfl) ?_
                              refine xx_ldcS (i := 18) C B (by decide) rfl dX5_isName_450 ?_
                              refine k_J7_equals_L hp3 (by decide) C B q727 (Nat.le_trans (Nat.le_of_ble_eq_true rfl) hF) (Nat.le_trans (Nat.le_of_ble_eq_true rfl) hN) hL.1 (Nat.le_of_ble_eq_true rfl) ⟨Nat.zero_le _, Nat.zero_le _⟩ h dX5_isName_452 (fun q17 h H locs B => ?_)
                              refine gg_if_eq hx hb 506 h dX5_isName_455 (by decide) (fun h => ?_) (fun h => ?_)
                              · exact hj506 _ _ _ _ _ h B (lv_sub hL [0] rfl)
                              · refine lv_bipush (v := 17) hx hb dX5_isName_458 (by decide) ?_
                                refine lv_istore_n (lv' := [(2, .int 17), (1, .ref (ad v1)), (0, .ref (ad a0))]) hx hb dX5_isName_460 rfl hL (by decide) rfl (fun ls hL => ?_)
                                refine lv_goto (tgt := 506) hx hb dX5_isName_461 (by decide) ?_
                                exact hj506 _ _ _ _ _ h B (lv_sub hL [0] rfl)
                            · rcases g_if h with ⟨he13, h⟩ | ⟨he13, h⟩
                              · refine lv_lookup (off := 278) (tgt := 299) hx hb dX5_isName_21 (by decide) (by rw [he13]; rfl) (by decide) ?_
                                refine lv_aload_n hx hb dX5_isName_299 rfl (lv_at hL 1 rfl) ?_
                                refine xx_ldcS (i := 8) C B (by decide) rfl dX5_isName_300 ?_
                                refine k_J7_equals_L hp3 (by decide) C B q727 (Nat.le_trans (Nat.le_of_ble_eq_true rfl) hF) (Nat.le_trans (Nat.le_of_ble_eq_true rfl) hN) hL.1 (Nat.le_of_ble_eq_true rfl) ⟨Nat.zero_le _, Nat.zero_le _⟩ h dX5_isName_302 (fun q18 h H locs B => ?_)
                                refine gg_if_eq hx hb 506 h dX5_isName_305 (by decide) (fun h => ?_) (fun h => ?_)
                                · exact hj506 _ _ _ _ _ h B (lv_sub hL [0] rfl)
                                · refine lv_bipush (v := 7) hx hb dX5_isName_308 (by decide) ?_
                                  refine lv_istore_n (lv' := [(2, .int 7), (1, .ref (ad v1)), (0, .ref (ad a0))]) hx hb dX5_isName_310 rfl hL (by decide) rfl (fun ls hL => ?_)
                                  refine lv_goto (tgt := 506) hx hb dX5_isName_311 (by decide) ?_
                                  exact hj506 _ _ _ _ _ h B (lv_sub hL [0] rfl)
                              · rcases g_if h with ⟨he14, h⟩ | ⟨he14, h⟩
                                · refine lv_lookup (off := 413) (tgt := 434) hx hb dX5_isName_21 (by decide) (by rw [he14]; rfl) (by decide) ?_
                                  refine lv_aload_n hx hb dX5_isName_434 rfl (lv_at hL 1 rfl) ?_
                                  refine xx_ldcS (i := 17) C B (by decide) rfl dX5_isName_435 ?_
                                  refine k_J7_equals_L hp3 (by decide) C B q727 (Nat.le_trans (Nat.le_of_ble_eq_true rfl) hF) (Nat.le_trans (Nat.le_of_ble_eq_true rfl) hN) hL.1 (Nat.le_of_ble_eq_true rfl) ⟨Nat.zero_le _, Nat.zero_le _⟩ h dX5_isName_437 (fun q19 h H locs B => ?_)
                                  refine gg_if_eq hx hb 506 h dX5_isName_440 (by decide) (fun h => ?_) (fun h => ?_)
                                  · exact hj506 _ _ _ _ _ h B (lv_sub hL [0] rfl)
                                  · refine lv_bipush (v := 16) hx hb dX5_isName_443 (by decide) ?_
                                    refine lv_istore_n (lv' := [(2, .int 16), (1, .ref (ad v1)), (0, .ref (ad a0))]) hx hb dX5_isName_445 rfl hL (by decide) rfl (fun ls hL => ?_)
                                    refine lv_goto (tgt := 506) hx hb dX5_isName_446 (by decide) ?_
                                    exact hj506 _ _ _ _ _ h B (lv_sub hL [0] rfl)
                                · rcases g_if h with ⟨he15, h⟩ | ⟨he15, h⟩
                                  · refine lv_lookup (off := 368) (tgt := 389) hx hb dX5_isName_21 (by decide) (by rw [he15]; rfl) (by decide) ?_
                                    refine lv_aload_n hx hb dX5_isName_389 rfl (lv_at hL 1 rfl) ?_
                                    refine xx_ldcS (i := 14) C B (by decide) rfl dX5_isName_390 ?_
                                    refine k_J7_equals_L hp3 (by decide) C B q727 (Nat.le_trans (Nat.le_of_ble_eq_true rfl) hF) (Nat.le_trans (Nat.le_of_ble_eq_true rfl) hN) hL.1 (Nat.le_of_ble_eq_true rfl) ⟨Nat.zero_le _, Nat.zero_le _⟩ h dX5_isName_392 (fun q20 h H locs B => ?_)
                                    refine gg_if_eq hx hb 506 h dX5_isName_395 (by decide) (fun h => ?_) (fun h => ?_)
                                    · exact hj506 _ _ _ _ _ h B (lv_sub hL [0] rfl)
                                    · refine lv_bipush (v := 13) hx hb dX5_isName_398 (by decide) ?_
                                      refine lv_istore_n (lv' := [(2, .int 13), (1, .ref (ad v1)), (0, .ref (ad a0))]) hx hb dX5_isName_400 rfl hL (by decide) rfl (fun ls hL => ?_)
                                      refine lv_goto (tgt := 506) hx hb dX5_isName_401 (by decide) ?_
                                      exact hj506 _ _ _ _ _ h B (lv_sub hL [0] rfl)
                                  · rcases g_if h with ⟨he16, h⟩ | ⟨he16, h⟩
                                    · refine lv_lookup (off := 263) (tgt := 284) hx hb dX5_isName_21 (by decide) (by rw [he16]; rfl) (by decide) ?_
                                      refine lv_aload_n hx hb dX5_isName_284 rfl (lv_at hL 1 rfl) ?_
                                      refine xx_ldcS (i := 7) C B (by decide) rfl dX5_isName_285 ?_
                                      refine k_J7_equals_L hp3 (by decide) C B q727 (Nat.le_trans (Nat.le_of_ble_eq_true rfl) hF) (Nat.le_trans (Nat.le_of_ble_eq_true rfl) hN) hL.1 (Nat.le_of_ble_eq_true rfl) ⟨Nat.zero_le _, Nat.zero_le _⟩ h dX5_isName_287 (fun q21 h H locs B => ?_)
                                      refine gg_if_eq hx hb 506 h dX5_isName_290 (by decide) (fun h => ?_) (fun h => ?_)
                                      · exact hj506 _ _ _ _ _ h B (lv_sub hL [0] rfl)
                                      · refine lv_bipush (v := 6) hx hb dX5_isName_293 (by decide) ?_
                                        refine lv_istore_n (lv' := [(2, .int 6), (1, .ref (ad v1)), (0, .ref (ad a0))]) hx hb dX5_isName_295 rfl hL (by decide) rfl (fun ls hL => ?_)
                                        refine lv_goto (tgt := 506) hx hb dX5_isName_296 (by decide) ?_
                                        exact hj506 _ _ _ _ _ h B (lv_sub hL [0] rfl)
                                    · rcases g_if h with ⟨he17, h⟩ | ⟨he17, h⟩
                                      · refine lv_lookup (off := 338) (tgt := 359) hx hb dX5_isName_21 (by decide) (by rw [he17]; rfl) (by decide) ?_
                                        refine lv_aload_n hx hb dX5_isName_359 rfl (lv_at hL 1 rfl) ?_
                                        refine xx_ldcS (i := 12) C B (by decide) rfl dX5_isName_360 ?_
                                        refine k_J7_equals_L hp3 (by decide) C B q727 (Nat.le_trans (Nat.le_of_ble_eq_true rfl) hF) (Nat.le_trans (Nat.le_of_ble_eq_true rfl) hN) hL.1 (Nat.le_of_ble_eq_true rfl) ⟨Nat.zero_le _, Nat.zero_le _⟩ h dX5_isName_362 (fun q22 h H locs B => ?_)
                                        refine gg_if_eq hx hb 506 h dX5_isName_365 (by decide) (fun h => ?_) (fun h => ?_)
                                        · exact hj506 _ _ _ _ _ h B (lv_sub hL [0] rfl)
                                        · refine lv_bipush (v := 11) hx hb dX5_isName_368 (by decide) ?_
                                          refine lv_istore_n (lv' := [(2, .int 11), (1, .ref (ad v1)), (0, .ref (ad a0))]) hx hb dX5_isName_370 rfl hL (by decide) rfl (fun ls hL => ?_)
                                          refine lv_goto (tgt := 506) hx hb dX5_isName_371 (by decide) ?_
                                          exact hj506 _ _ _ _ _ h B (lv_sub hL [0] rfl)
                                      · rcases g_if h with ⟨he18, h⟩ | ⟨he18, h⟩
                                        · refine lv_lookup (off := 221) (tgt := 242) hx hb dX5_isName_21 (by decide) (by rw [he18]; rfl) (by decide) ?_
                                          refine lv_aload_n hx hb dX5_isName_242 rfl (lv_at hL 1 rfl) ?_
                                          refine xx_ldcS (i := 4) C B (by decide) rfl dX5_isName_243 ?_
                                          refine k_J7_equals_L hp3 (by decide) C B q727 (Nat.le_trans (Nat.le_of_ble_eq_true rfl) hF) (Nat.le_trans (Nat.le_of_ble_eq_true rfl) hN) hL.1 (Nat.le_of_ble_eq_true rfl) ⟨Nat.zero_le _, Nat.zero_le _⟩ h dX5_isName_245 (fun q23 h H locs B => ?_)
                                          refine gg_if_eq hx hb 506 h dX5_isName_248 (by decide) (fun h => ?_) (fun h => ?_)
                                          · exact hj506 _ _ _ _ _ h B (lv_sub hL [0] rfl)
                                          · refine lv_iconst (v := 3) hx hb dX5_isName_251 (by decide) ?_
                                            refine lv_istore_n (lv' := [(2, .int 3), (1, .ref (ad v1)), (0, .ref (ad a0))]) hx hb dX5_isName_252 rfl hL (by decide) rfl (fun ls hL => ?_)
                                            refine lv_goto (tgt := 506) hx hb dX5_isName_253 (by decide) ?_
                                            exact hj506 _ _ _ _ _ h B (lv_sub hL [0] rfl)
                                        · rcases g_if h with ⟨he19, h⟩ | ⟨he19, h⟩
                                          · refine lv_lookup (off := 235) (tgt := 256) hx hb dX5_isName_21 (by decide) (by rw [he19]; rfl) (by decide) ?_
                                            refine lv_aload_n hx hb dX5_isName_256 rfl (lv_at hL 1 rfl) ?_
                                            refine xx_ldcS (i := 5) C B (by decide) rfl dX5_isName_257 ?_
                                            refine k_J7_equals_L hp3 (by decide) C B q727 (Nat.le_trans (Nat.le_of_ble_eq_true rfl) hF) (Nat.le_trans (Nat.le_of_ble_eq_true rfl) hN) hL.1 (Nat.le_of_ble_eq_true rfl) ⟨Nat.zero_le _, Nat.zero_le _⟩ h dX5_isName_259 (fun q24 h H locs B => ?_)
                                            refine gg_if_eq hx hb 506 h dX5_isName_262 (by decide) (fun h => ?_) (fun h => ?_)
                                            · exact hj506 _ _ _ _ _ h B (lv_sub hL [0] rfl)
                                            · refine lv_iconst (v := 4) hx hb dX5_isName_265 (by decide) ?_
                                              refine lv_istore_n (lv' := [(2, .int 4), (1, .ref (ad v1)), (0, .ref (ad a0))]) hx hb dX5_isName_266 rfl hL (by decide) rfl (fun ls hL => ?_)
                                              refine lv_goto (tgt := 506) hx hb dX5_isName_267 (by decide) ?_
                                              exact hj506 _ _ _ _ _ h B (lv_sub hL [0] rfl)
                                          · rcases g_if h with ⟨he20, h⟩ | ⟨he20, h⟩
                                            · refine lv_lookup (off := 398) (tgt := 419) hx hb dX5_isName_21 (by decide) (by rw [he20]; rfl) (by decide) ?_
                                              refine lv_aload_n hx hb dX5_isName_419 rfl (lv_at hL 1 rfl) ?_
                                              refine xx_ldcS (i := 16) C B (by decide) rfl dX5_isName_420 ?_
                                              refine k_J7_equals_L hp3 (by decide) C B q727 (Nat.le_trans (Nat.le_of_ble_eq_true rfl) hF) (Nat.le_trans (Nat.le_of_ble_eq_true rfl) hN) hL.1 (Nat.le_of_ble_eq_true rfl) ⟨Nat.zero_le _, Nat.zero_le _⟩ h dX5_isName_422 (fun q25 h H locs B => ?_)
                                              refine gg_if_eq hx hb 506 h dX5_isName_425 (by decide) (fun h => ?_) (fun h => ?_)
                                              · exact hj506 _ _ _ _ _ h B (lv_sub hL [0] rfl)
                                              · refine lv_bipush (v := 15) hx hb dX5_isName_428 (by decide) ?_
                                                refine lv_istore_n (lv' := [(2, .int 15), (1, .ref (ad v1)), (0, .ref (ad a0))]) hx hb dX5_isName_430 rfl hL (by decide) rfl (fun ls hL => ?_)
                                                refine lv_goto (tgt := 506) hx hb dX5_isName_431 (by decide) ?_
                                                exact hj506 _ _ _ _ _ h B (lv_sub hL [0] rfl)
                                            · refine lv_lookup (off := 485) (tgt := 506) hx hb dX5_isName_21 (by decide) ((lv_osw he0 rfl).trans ((lv_osw he1 rfl).trans ((lv_osw he2 rfl).trans ((lv_osw he3 rfl).trans ((lv_osw he4 rfl).trans ((lv_osw he5 rfl).trans ((lv_osw he6 rfl).trans ((lv_osw he7 rfl).trans ((lv_osw he8 rfl).trans ((lv_osw he9 rfl).trans ((lv_osw he10 rfl).trans ((lv_osw he11 rfl).trans ((lv_osw he12 rfl).trans ((lv_osw he13 rfl).trans ((lv_osw he14 rfl).trans ((lv_osw he15 rfl).trans ((lv_osw he16 rfl).trans ((lv_osw he17 rfl).trans ((lv_osw he18 rfl).trans ((lv_osw he19 rfl).trans ((lv_osw he20 rfl).trans rfl))))))))))))))))))))) (by decide) ?_
                                              exact hj506 _ _ _ _ _ h B (lv_sub hL [0] rfl)
  · refine lv_iconst (v := 0) hx hb dX5_isName_8 (by decide) ?_
    exact hret _ _ _ _ _ _ _ ⟨Option.some.inj h, rfl⟩ (Or.inl rfl) B dX5_isName_9
theorem k_X5_isName {p : Program} {l : Launch} {e : Env} {R : Room} {s : State} {m : MethodId} {args : Array Value} {below : List Frame} {meth : Method} {c : Code} {H : Heap} {locs : List Loc} {Q : State → Prop} {pc : Nat} {ls : Array Slot} {rest : List Value} {cc : ByteArray} {nL cells slots : Nat} {D : va_G} {cA : Nat → ClassId} {ad : Nat → Nat} {hk : HK} {nx : Nat} {A : Nat → Prop} {gi : GI} {gr : GR} {α : Type} {r : α} {own : String} {idx : Nat} {a0 : Nat} {ff : (Int32 × GI) → Option α} (ht : (hk a0).1 = 14) (C : CallFix p m c cc nL s args lw_all own) (B : XB D cA ad hk nx A s gi gr H locs) (hq : Cond.methodLink own idx yX5_isName ∈ lw_all) (hF : 6 ≤ R.frames) (hN : 176 ≤ R.locals) (hs : ls.size = nL) (hw : (rest.map fun v => v.category).sum ≤ 8) (hz0 : cells ≤ R.cells ∧ slots ≤ R.slots) (h : (f_X5_isName hk gi gr a0).bind ff = some r) (hdg : decode cc pc = .ok (.invokevirtual idx, 3)) (kk : ∀ q, ff q = some r → ∀ (H' : Heap) (locs' : List Loc), XB D cA ad hk nx A s q.2 gr H' locs' → W p l e R s m args below meth c H' locs' cells slots Q (F0 m (pc + 3) ls (.int q.1 :: rest))) : W p l e R s m args below meth c H locs cells slots Q (F0 m pc ls (.ref (ad a0) :: rest)) := by
  obtain ⟨q, h1, h2⟩ := g_ob h
  refine xx_cVI (As := []) (rest := rest) (n := 0) xc_4 ht (by decide) C B (fun sz => w_X5_isName l D cA ad hk nx gi gr a0 ht q h1 sz) hq q754 qs8 q151 q755 (by decide +kernel) ⟨hF, hN⟩ rfl hs hw hz0 hdg (fun v u H9 locs9 hp B9 => ?_)
  obtain ⟨e1, e3⟩ := hp
  rw [e3] at B9
  subst e1
  exact kk _ h2 H9 locs9 B9
def f_X5_asked_j161 (hk : HK) (grj161 : GR) (gij161 : GI) (x2j161 : Int32) : Option (Option Nat × GI) :=
  if x2j161.toInt < 0 ∨ 5 < x2j161.toInt then
  (some ((none : Option Nat), gij161))
  else if x2j161 = 0 then
  (some (some (1000000 + 0), gij161))
  else if x2j161 = 1 then
  (some (some (1000000 + 1), gij161))
  else if x2j161 = 2 then
  (some (some (1000000 + 2), gij161))
  else if x2j161 = 3 then
  (some (some (1000000 + 3), gij161))
  else if x2j161 = 4 then
  (some (some (1000000 + 4), gij161))
  else if x2j161 = 5 then
  (some (some (1000000 + 5), gij161))
  else none
def f_X5_asked (hk : HK) (gi : GI) (gr : GR) (a0 : Nat) : Option (Option Nat × GI) :=
  if (gi a0 1) = 1 then
  ((gr a0 8).bind fun v1 =>
  (g_is hk v1 25).bind fun _ =>
  (f_J7_hashCode hk gi gr v1).bind fun q4 =>
  if q4.1 = (-906279820) then
  ((f_J7_equals_L hk q4.2 gr v1 15).bind fun q5 =>
  if q5 = 0 then
  (f_X5_asked_j161 hk gr q4.2 ((-1)))
  else
  (f_X5_asked_j161 hk gr q4.2 1))
  else if q4.1 = 3062416 then
  ((f_J7_equals_L hk q4.2 gr v1 3).bind fun q6 =>
  if q6 = 0 then
  (f_X5_asked_j161 hk gr q4.2 ((-1)))
  else
  (f_X5_asked_j161 hk gr q4.2 3))
  else if q4.1 = 3443937 then
  ((f_J7_equals_L hk q4.2 gr v1 18).bind fun q7 =>
  if q7 = 0 then
  (f_X5_asked_j161 hk gr q4.2 ((-1)))
  else
  (f_X5_asked_j161 hk gr q4.2 5))
  else if q4.1 = 3645428 then
  ((f_J7_equals_L hk q4.2 gr v1 17).bind fun q8 =>
  if q8 = 0 then
  (f_X5_asked_j161 hk gr q4.2 ((-1)))
  else
  (f_X5_asked_j161 hk gr q4.2 4))
  else if q4.1 = 97440432 then
  ((f_J7_equals_L hk q4.2 gr v1 14).bind fun q9 =>
  if q9 = 0 then
  (f_X5_asked_j161 hk gr q4.2 ((-1)))
  else
  (f_X5_asked_j161 hk gr q4.2 0))
  else if q4.1 = 110331239 then
  ((f_J7_equals_L hk q4.2 gr v1 16).bind fun q10 =>
  if q10 = 0 then
  (f_X5_asked_j161 hk gr q4.2 ((-1)))
  else
  (f_X5_asked_j161 hk gr q4.2 2))
  else (f_X5_asked_j161 hk gr q4.2 ((-1))))
  else
  (some ((none : Option Nat), gi))
set_option maxHeartbeats 400000 in
theorem w_X5_asked (l : Launch) (D : va_G) (cA : Nat → ClassId) (ad : Nat → Nat) (hk : HK) (nx : Nat) (gi : GI) (gr : GR) (a0 : Nat) (ht : (hk a0).1 = 14) (r : Option Nat × GI) (h : f_X5_asked hk gi gr a0 = some r) (sz : Nat) : Met l yX5_asked (ws_ yX5_asked cX5_asked 3 ((some (.object "WeatherWages$Node")))) ({ frames := 5, cells := 0, slots := 0, locals := 154 } : Room) (va_Pc [.ref (ad a0)] (XPre D cA ad hk nx gi gr sz)) (va_Qq (fun o u => ∃ v : Option Nat, o = v.map ad ∧ (fun v u => (v, u.1) = r ∧ u.2 = gr) v u) (XPost D cA ad hk nx) (XA ad nx sz)) 0 0 (XA ad nx sz) := by
  refine xx_stR (own := RX5) (P := (fun v u => (v, u.1) = r ∧ u.2 = gr)) (by decide +kernel) rfl (Nat.le_of_ble_eq_true rfl) (fun p e s m args below meth c R Q A ls C hF hN B hret hL => ?_) sz
  have hx := C.1
  have hb := C.2.1
  have hL : lv_has ls 3 [(0, .ref (ad a0))] := hL
  unfold f_X5_asked at h
  have hj161 : ∀ (gij161 : GI) (x2j161 : Int32) (H : Heap) (locs : List Loc) (ls : Array Slot), f_X5_asked_j161 hk gr gij161 x2j161 = some r → XB D cA ad hk nx A s gij161 gr H locs → lv_has ls 3 [(2, .int x2j161)] → W p l e R s m args below meth c H locs 0 0 Q (F0 m 161 ls []) := by
    intro gij161 x2j161 H locs ls h B hL
    unfold f_X5_asked_j161 at h
    refine lv_iload_n hx hb dX5_asked_161 rfl (lv_at hL 0 rfl) ?_
    rcases g_if h with ⟨hc, h⟩ | ⟨hc, h⟩
    · refine lv_tableOut (tgt := 224) hx hb dX5_asked_162 hc (by decide) ?_
      refine lv_null hx hb dX5_asked_224 ?_
      exact hret _ _ _ _ _ _ _ ⟨Option.some.inj h, rfl⟩ B dX5_asked_225
    · rcases g_if h with ⟨he, h⟩ | ⟨_, h⟩
      · refine lv_tableIn (off := 38) (tgt := 200) hx hb dX5_asked_162 (by rw [he]; decide) (by rw [he]; decide) (by rw [he]; rfl) (by decide) ?_
        refine xx_gsA (j := 0) C B (by decide) rfl q1180 dX5_asked_200 ?_
        exact hret _ _ _ _ _ _ _ ⟨Option.some.inj h, rfl⟩ B dX5_asked_203
      · rcases g_if h with ⟨he, h⟩ | ⟨_, h⟩
        · refine lv_tableIn (off := 42) (tgt := 204) hx hb dX5_asked_162 (by rw [he]; decide) (by rw [he]; decide) (by rw [he]; rfl) (by decide) ?_
          refine xx_gsA (j := 1) C B (by decide) rfl q1182 dX5_asked_204 ?_
          exact hret _ _ _ _ _ _ _ ⟨Option.some.inj h, rfl⟩ B dX5_asked_207
        · rcases g_if h with ⟨he, h⟩ | ⟨_, h⟩
          · refine lv_tableIn (off := 46) (tgt := 208) hx hb dX5_asked_162 (by rw [he]; decide) (by rw [he]; decide) (by rw [he]; rfl) (by decide) ?_
            refine xx_gsA (j := 2) C B (by decide) rfl q1184 dX5_asked_208 ?_
            exact hret _ _ _ _ _ _ _ ⟨Option.some.inj h, rfl⟩ B dX5_asked_211
          · rcases g_if h with ⟨he, h⟩ | ⟨_, h⟩
            · refine lv_tableIn (off := 50) (tgt := 212) hx hb dX5_asked_162 (by rw [he]; decide) (by rw [he]; decide) (by rw [he]; rfl) (by decide) ?_
              refine xx_gsA (j := 3) C B (by decide) rfl q1186 dX5_asked_212 ?_
              exact hret _ _ _ _ _ _ _ ⟨Option.some.inj h, rfl⟩ B dX5_asked_215
            · rcases g_if h with ⟨he, h⟩ | ⟨_, h⟩
              · refine lv_tableIn (off := 54) (tgt := 216) hx hb dX5_asked_162 (by rw [he]; decide) (by rw [he]; decide) (by rw [he]; rfl) (by decide) ?_
                refine xx_gsA (j := 4) C B (by decide) rfl q1188 dX5_asked_216 ?_
                exact hret _ _ _ _ _ _ _ ⟨Option.some.inj h, rfl⟩ B dX5_asked_219
              · rcases g_if h with ⟨he, h⟩ | ⟨_, h⟩
                · refine lv_tableIn (off := 58) (tgt := 220) hx hb dX5_asked_162 (by rw [he]; decide) (by rw [he]; decide) (by rw [he]; rfl) (by decide) ?_
                  refine xx_gsA (j := 5) C B (by decide) rfl q1190 dX5_asked_220 ?_
                  exact hret _ _ _ _ _ _ _ ⟨Option.some.inj h, rfl⟩ B dX5_asked_223
                · cases h
  refine lv_aload_n hx hb dX5_asked_0 rfl (lv_at hL 0 rfl) ?_
  refine xx_gi (ci := 4) (k := 1) C B xc_4 ht (by decide) (Nat.le_of_ble_eq_true rfl) rfl q475 (fun _ h => h) dX5_asked_1 ?_
  refine lv_iconst (v := 1) hx hb dX5_asked_4 (by decide) ?_
  refine gg_icmp_eq hx hb 10 h dX5_asked_5 (by decide) (fun h => ?_) (fun h => ?_)
  · refine lv_aload_n hx hb dX5_asked_10 rfl (lv_at hL 0 rfl) ?_
    refine xx_gr (ci := 4) (k := 8) C B xc_4 ht (by decide) (Nat.le_of_ble_eq_true rfl) rfl q482 (fun _ h => h) h dX5_asked_11 (fun v1 ok2 h => ?_)
    refine lv_astore_n (lv' := [(1, .ref (ad v1)), (0, .ref (ad a0))]) hx hb dX5_asked_14 rfl hL (by decide) rfl (fun ls hL => ?_)
    refine lv_iconst (v := (-1)) hx hb dX5_asked_15 (by decide) ?_
    refine lv_istore_n (lv' := [(2, .int ((-1))), (1, .ref (ad v1)), (0, .ref (ad a0))]) hx hb dX5_asked_16 rfl hL (by decide) rfl (fun ls hL => ?_)
    refine lv_aload_n hx hb dX5_asked_17 rfl (lv_at hL 1 rfl) ?_
    refine xx_is h (fun hp3 h => ?_)
    refine k_J7_hashCode hp3 C B q756 (Nat.le_trans (Nat.le_of_ble_eq_true rfl) hF) (Nat.le_trans (Nat.le_of_ble_eq_true rfl) hN) hL.1 (Nat.le_of_ble_eq_true rfl) ⟨Nat.zero_le _, Nat.zero_le _⟩ h dX5_asked_18 (fun q4 h H locs B => ?_)
    rcases g_if h with ⟨he0, h⟩ | ⟨he0, h⟩
    · refine lv_lookup (off := 73) (tgt := 94) hx hb dX5_asked_21 (by decide) (by rw [he0]; rfl) (by decide) ?_
      refine lv_aload_n hx hb dX5_asked_94 rfl (lv_at hL 1 rfl) ?_
      refine xx_ldcS (i := 15) C B (by decide) rfl dX5_asked_95 ?_
      refine k_J7_equals_L hp3 (by decide) C B q727 (Nat.le_trans (Nat.le_of_ble_eq_true rfl) hF) (Nat.le_trans (Nat.le_of_ble_eq_true rfl) hN) hL.1 (Nat.le_of_ble_eq_true rfl) ⟨Nat.zero_le _, Nat.zero_le _⟩ h dX5_asked_97 (fun q5 h H locs B => ?_)
      refine gg_if_eq hx hb 161 h dX5_asked_100 (by decide) (fun h => ?_) (fun h => ?_)
      · exact hj161 _ _ _ _ _ h B (lv_sub hL [0] rfl)
      · refine lv_iconst (v := 1) hx hb dX5_asked_103 (by decide) ?_
        refine lv_istore_n (lv' := [(2, .int 1), (1, .ref (ad v1)), (0, .ref (ad a0))]) hx hb dX5_asked_104 rfl hL (by decide) rfl (fun ls hL => ?_)
        refine lv_goto (tgt := 161) hx hb dX5_asked_105 (by decide) ?_
        exact hj161 _ _ _ _ _ h B (lv_sub hL [0] rfl)
    · rcases g_if h with ⟨he1, h⟩ | ⟨he1, h⟩
      · refine lv_lookup (off := 101) (tgt := 122) hx hb dX5_asked_21 (by decide) (by rw [he1]; rfl) (by decide) ?_
        refine lv_aload_n hx hb dX5_asked_122 rfl (lv_at hL 1 rfl) ?_
        refine xx_ldcS (i := 3) C B (by decide) rfl dX5_asked_123 ?_
        refine k_J7_equals_L hp3 (by decide) C B q727 (Nat.le_trans (Nat.le_of_ble_eq_true rfl) hF) (Nat.le_trans (Nat.le_of_ble_eq_true rfl) hN) hL.1 (Nat.le_of_ble_eq_true rfl) ⟨Nat.zero_le _, Nat.zero_le _⟩ h dX5_asked_125 (fun q6 h H locs B => ?_)
        refine gg_if_eq hx hb 161 h dX5_asked_128 (by decide) (fun h => ?_) (fun h => ?_)
        · exact hj161 _ _ _ _ _ h B (lv_sub hL [0] rfl)
        · refine lv_iconst (v := 3) hx hb dX5_asked_131 (by decide) ?_
          refine lv_istore_n (lv' := [(2, .int 3), (1, .ref (ad v1)), (0, .ref (ad a0))]) hx hb dX5_asked_132 rfl hL (by decide) rfl (fun ls hL => ?_)
          refine lv_goto (tgt := 161) hx hb dX5_asked_133 (by decide) ?_
          exact hj161 _ _ _ _ _ h B (lv_sub hL [0] rfl)
      · rcases g_if h with ⟨he2, h⟩ | ⟨he2, h⟩
        · refine lv_lookup (off := 129) (tgt := 150) hx hb dX5_asked_21 (by decide) (by rw [he2]; rfl) (by decide) ?_
          refine lv_aload_n hx hb dX5_asked_150 rfl (lv_at hL 1 rfl) ?_
          refine xx_ldcS (i := 18) C B (by decide) rfl dX5_asked_151 ?_
          refine k_J7_equals_L hp3 (by decide) C B q727 (Nat.le_trans (Nat.le_of_ble_eq_true rfl) hF) (Nat.le_trans (Nat.le_of_ble_eq_true rfl) hN) hL.1 (Nat.le_of_ble_eq_true rfl) ⟨Nat.zero_le _, Nat.zero_le _⟩ h dX5_asked_153 (fun q7 h H locs B => ?_)
          refine gg_if_eq hx hb 161 h dX5_asked_156 (by decide) (fun h => ?_) (fun h => ?_)
          · exact hj161 _ _ _ _ _ h B (lv_sub hL [0] rfl)
          · refine lv_iconst (v := 5) hx hb dX5_asked_159 (by decide) ?_
            refine lv_istore_n (lv' := [(2, .int 5), (1, .ref (ad v1)), (0, .ref (ad a0))]) hx hb dX5_asked_160 rfl hL (by decide) rfl (fun ls hL => ?_)
            exact hj161 _ _ _ _ _ h B (lv_sub hL [0] rfl)
        · rcases g_if h with ⟨he3, h⟩ | ⟨he3, h⟩
          · refine lv_lookup (off := 115) (tgt := 136) hx hb dX5_asked_21 (by decide) (by rw [he3]; rfl) (by decide) ?_
            refine lv_aload_n hx hb dX5_asked_136 rfl (lv_at hL 1 rfl) ?_
            refine xx_ldcS (i := 17) C B (by decide) rfl dX5_asked_137 ?_
            refine k_J7_equals_L hp3 (by decide) C B q727 (Nat.le_trans (Nat.le_of_ble_eq_true rfl) hF) (Nat.le_trans (Nat.le_of_ble_eq_true rfl) hN) hL.1 (Nat.le_of_ble_eq_true rfl) ⟨Nat.zero_le _, Nat.zero_le _⟩ h dX5_asked_139 (fun q8 h H locs B => ?_)
            refine gg_if_eq hx hb 161 h dX5_asked_142 (by decide) (fun h => ?_) (fun h => ?_)
            · exact hj161 _ _ _ _ _ h B (lv_sub hL [0] rfl)
            · refine lv_iconst (v := 4) hx hb dX5_asked_145 (by decide) ?_
              refine lv_istore_n (lv' := [(2, .int 4), (1, .ref (ad v1)), (0, .ref (ad a0))]) hx hb dX5_asked_146 rfl hL (by decide) rfl (fun ls hL => ?_)
              refine lv_goto (tgt := 161) hx hb dX5_asked_147 (by decide) ?_
              exact hj161 _ _ _ _ _ h B (lv_sub hL [0] rfl)
          · rcases g_if h with ⟨he4, h⟩ | ⟨he4, h⟩
            · refine lv_lookup (off := 59) (tgt := 80) hx hb dX5_asked_21 (by decide) (by rw [he4]; rfl) (by decide) ?_
              refine lv_aload_n hx hb dX5_asked_80 rfl (lv_at hL 1 rfl) ?_
              refine xx_ldcS (i := 14) C B (by decide) rfl dX5_asked_81 ?_
              refine k_J7_equals_L hp3 (by decide) C B q727 (Nat.le_trans (Nat.le_of_ble_eq_true rfl) hF) (Nat.le_trans (Nat.le_of_ble_eq_true rfl) hN) hL.1 (Nat.le_of_ble_eq_true rfl) ⟨Nat.zero_le _, Nat.zero_le _⟩ h dX5_asked_83 (fun q9 h H locs B => ?_)
              refine gg_if_eq hx hb 161 h dX5_asked_86 (by decide) (fun h => ?_) (fun h => ?_)
              · exact hj161 _ _ _ _ _ h B (lv_sub hL [0] rfl)
              · refine lv_iconst (v := 0) hx hb dX5_asked_89 (by decide) ?_
                refine lv_istore_n (lv' := [(2, .int 0), (1, .ref (ad v1)), (0, .ref (ad a0))]) hx hb dX5_asked_90 rfl hL (by decide) rfl (fun ls hL => ?_)
                refine lv_goto (tgt := 161) hx hb dX5_asked_91 (by decide) ?_
                exact hj161 _ _ _ _ _ h B (lv_sub hL [0] rfl)
            · rcases g_if h with ⟨he5, h⟩ | ⟨he5, h⟩
              · refine lv_lookup (off := 87) (tgt := 108) hx hb dX5_asked_21 (by decide) (by rw [he5]; rfl) (by decide) ?_
                refine lv_aload_n hx hb dX5_asked_108 rfl (lv_at hL 1 rfl) ?_
                refine xx_ldcS (i := 16) C B (by decide) rfl dX5_asked_109 ?_
                refine k_J7_equals_L hp3 (by decide) C B q727 (Nat.le_trans (Nat.le_of_ble_eq_true rfl) hF) (Nat.le_trans (Nat.le_of_ble_eq_true rfl) hN) hL.1 (Nat.le_of_ble_eq_true rfl) ⟨Nat.zero_le _, Nat.zero_le _⟩ h dX5_asked_111 (fun q10 h H locs B => ?_)
                refine gg_if_eq hx hb 161 h dX5_asked_114 (by decide) (fun h => ?_) (fun h => ?_)
                · exact hj161 _ _ _ _ _ h B (lv_sub hL [0] rfl)
                · refine lv_iconst (v := 2) hx hb dX5_asked_117 (by decide) ?_
                  refine lv_istore_n (lv' := [(2, .int 2), (1, .ref (ad v1)), (0, .ref (ad a0))]) hx hb dX5_asked_118 rfl hL (by decide) rfl (fun ls hL => ?_)
                  refine lv_goto (tgt := 161) hx hb dX5_asked_119 (by decide) ?_
                  exact hj161 _ _ _ _ _ h B (lv_sub hL [0] rfl)
              · refine lv_lookup (off := 140) (tgt := 161) hx hb dX5_asked_21 (by decide) ((lv_osw he0 rfl).trans ((lv_osw he1 rfl).trans ((lv_osw he2 rfl).trans ((lv_osw he3 rfl).trans ((lv_osw he4 rfl).trans ((lv_osw he5 rfl).trans rfl)))))) (by decide) ?_
                exact hj161 _ _ _ _ _ h B (lv_sub hL [0] rfl)
  · refine lv_null hx hb dX5_asked_8 ?_
    exact hret _ _ _ _ _ _ _ ⟨Option.some.inj h, rfl⟩ B dX5_asked_9
theorem k_X5_asked {p : Program} {l : Launch} {e : Env} {R : Room} {s : State} {m : MethodId} {args : Array Value} {below : List Frame} {meth : Method} {c : Code} {H : Heap} {locs : List Loc} {Q : State → Prop} {pc : Nat} {ls : Array Slot} {rest : List Value} {cc : ByteArray} {nL cells slots : Nat} {D : va_G} {cA : Nat → ClassId} {ad : Nat → Nat} {hk : HK} {nx : Nat} {A : Nat → Prop} {gi : GI} {gr : GR} {α : Type} {r : α} {own : String} {idx : Nat} {a0 : Nat} {ff : (Option Nat × GI) → Option α} (ht : (hk a0).1 = 14) (C : CallFix p m c cc nL s args lw_all own) (B : XB D cA ad hk nx A s gi gr H locs) (hq : Cond.methodLink own idx yX5_asked ∈ lw_all) (hF : 6 ≤ R.frames) (hN : 176 ≤ R.locals) (hs : ls.size = nL) (hw : (rest.map fun v => v.category).sum ≤ 8) (hz0 : cells ≤ R.cells ∧ slots ≤ R.slots) (h : (f_X5_asked hk gi gr a0).bind ff = some r) (hdg : decode cc pc = .ok (.invokevirtual idx, 3)) (kk : ∀ q, ff q = some r → ∀ (H' : Heap) (locs' : List Loc), XB D cA ad hk nx A s q.2 gr H' locs' → W p l e R s m args below meth c H' locs' cells slots Q (F0 m (pc + 3) ls (va_rf (q.1.map ad) :: rest))) : W p l e R s m args below meth c H locs cells slots Q (F0 m pc ls (.ref (ad a0) :: rest)) := by
  obtain ⟨q, h1, h2⟩ := g_ob h
  refine xx_cVR (As := []) (rest := rest) (n := 0) xc_4 ht (by decide) C B (fun sz => w_X5_asked l D cA ad hk nx gi gr a0 ht q h1 sz) hq q1178 qs35 q151 q1179 (by decide +kernel) ⟨hF, hN⟩ rfl hs hw hz0 hdg (fun v u H9 locs9 hp B9 => ?_)
  obtain ⟨e1, e3⟩ := hp
  rw [e3] at B9
  subst e1
  exact kk _ h2 H9 locs9 B9

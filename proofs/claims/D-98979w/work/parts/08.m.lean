/-! THE MODEL: methods 38 .. 77: what each computes (f_..), its contract (w_..), its call row (k_..) -/
set_option maxRecDepth 100000
def f_X4_fault (gi : GI) (x1 : Int32) : Option (Int32) :=
  if x1 = 0 then
  (some (gi 0 4))
  else
  (if x1 = 1 then
  (some (gi 0 5))
  else
  (some ((-1))))
set_option maxHeartbeats 400000 in
theorem w_X4_fault (l : Launch) (D : va_G) (cA : Nat → ClassId) (ad : Nat → Nat) (gi : GI) (gl : GL) (x1 : Int32) (r : Int32) (h : f_X4_fault gi x1 = some r) (sz : Nat) : Met l yX4_fault (ws_ yX4_fault cX4_fault 2 (some .int)) ({ frames := 0, cells := 0, slots := 0, locals := 0 } : Room) (va_Pc [.ref (ad 0), .int x1] (MPre D cA ad gi gl sz)) (va_Qi (fun v u => v = r ∧ u.1 = gi ∧ u.2 = gl) (MPost D cA ad) (MA ad sz)) 0 0 (MA ad sz) := by
  refine mm_stI (by decide +kernel) rfl (Nat.le_of_ble_eq_true rfl) (fun p e s m args below meth c R Q A ls C hF hN B hret hL => ?_) sz
  have hx := C.1
  have hb := C.2.1
  have hL : lv_has ls 2 [(0, .ref (ad 0)), (1, .int x1)] := hL
  unfold f_X4_fault at h
  refine lv_iload_n hx hb dX4_fault_0 rfl (lv_at hL 1 rfl) ?_
  refine gg_if_ne hx hb 11 h dX4_fault_1 (by decide) (fun h => ?_) (fun h => ?_)
  · refine lv_iload_n hx hb dX4_fault_11 rfl (lv_at hL 1 rfl) ?_
    refine lv_iconst (v := 1) hx hb dX4_fault_12 (by decide) ?_
    refine gg_icmp_ne hx hb 23 h dX4_fault_13 (by decide) (fun h => ?_) (fun h => ?_)
    · refine lv_iconst (v := (-1)) hx hb dX4_fault_23 (by decide) ?_
      exact hret _ _ _ _ _ _ _ ⟨Option.some.inj h, rfl, rfl⟩ B dX4_fault_24
    · refine lv_aload_n hx hb dX4_fault_16 rfl (lv_at hL 0 rfl) ?_
      refine mg_5 C B dX4_fault_17 ?_
      refine lv_goto (tgt := 24) hx hb dX4_fault_20 (by decide) ?_
      exact hret _ _ _ _ _ _ _ ⟨Option.some.inj h, rfl, rfl⟩ B dX4_fault_24
  · refine lv_aload_n hx hb dX4_fault_4 rfl (lv_at hL 0 rfl) ?_
    refine mg_4 C B dX4_fault_5 ?_
    refine lv_goto (tgt := 24) hx hb dX4_fault_8 (by decide) ?_
    exact hret _ _ _ _ _ _ _ ⟨Option.some.inj h, rfl, rfl⟩ B dX4_fault_24
def f_X4_overOf (gi : GI) (x1 : Int32) (x2 : Int32) : Option (Int32) :=
  (g_ld gi 3 2 (gi 0 41)).bind fun v1 =>
  if v1 ≤ x2 then
  (some 0)
  else
  ((g_ld gi 33 42 ((20 + (3 * x1)) + x2)).bind fun v2 =>
  some v2)
set_option maxHeartbeats 400000 in
theorem w_X4_overOf (l : Launch) (D : va_G) (cA : Nat → ClassId) (ad : Nat → Nat) (gi : GI) (gl : GL) (x1 : Int32) (x2 : Int32) (r : Int32) (h : f_X4_overOf gi x1 x2 = some r) (sz : Nat) : Met l yX4_overOf (ws_ yX4_overOf cX4_overOf 3 (some .int)) ({ frames := 0, cells := 0, slots := 0, locals := 0 } : Room) (va_Pc [.ref (ad 0), .int x1, .int x2] (MPre D cA ad gi gl sz)) (va_Qi (fun v u => v = r ∧ u.1 = gi ∧ u.2 = gl) (MPost D cA ad) (MA ad sz)) 0 0 (MA ad sz) := by
  refine mm_stI (by decide +kernel) rfl (Nat.le_of_ble_eq_true rfl) (fun p e s m args below meth c R Q A ls C hF hN B hret hL => ?_) sz
  have hx := C.1
  have hb := C.2.1
  have hL : lv_has ls 3 [(0, .ref (ad 0)), (1, .int x1), (2, .int x2)] := hL
  unfold f_X4_overOf at h
  refine lv_iload_n hx hb dX4_overOf_0 rfl (lv_at hL 2 rfl) ?_
  refine lv_aload_n hx hb dX4_overOf_1 rfl (lv_at hL 0 rfl) ?_
  refine mg_11 C B dX4_overOf_2 ?_
  refine lv_aload_n hx hb dX4_overOf_5 rfl (lv_at hL 0 rfl) ?_
  refine mg_41 C B dX4_overOf_6 ?_
  refine mm_iald C B (a := 3) (n := 2) (Nat.le_of_ble_eq_true rfl) rfl h dX4_overOf_9 (fun v1 h => ?_)
  refine gg_icmp_ge hx hb 29 h dX4_overOf_10 (by decide) (fun h => ?_) (fun h => ?_)
  · refine lv_iconst (v := 0) hx hb dX4_overOf_29 (by decide) ?_
    exact hret _ _ _ _ _ _ _ ⟨Option.some.inj h, rfl, rfl⟩ B dX4_overOf_30
  · refine lv_aload_n hx hb dX4_overOf_13 rfl (lv_at hL 0 rfl) ?_
    refine mg_48 C B dX4_overOf_14 ?_
    refine lv_bipush (v := 20) hx hb dX4_overOf_17 (by decide) ?_
    refine lv_iconst (v := 3) hx hb dX4_overOf_19 (by decide) ?_
    refine lv_iload_n hx hb dX4_overOf_20 rfl (lv_at hL 1 rfl) ?_
    refine lv_imul hx hb dX4_overOf_21 ?_
    refine lv_iadd hx hb dX4_overOf_22 ?_
    refine lv_iload_n hx hb dX4_overOf_23 rfl (lv_at hL 2 rfl) ?_
    refine lv_iadd hx hb dX4_overOf_24 ?_
    refine mm_iald C B (a := 33) (n := 42) (Nat.le_of_ble_eq_true rfl) rfl h dX4_overOf_25 (fun v2 h => ?_)
    refine lv_goto (tgt := 30) hx hb dX4_overOf_26 (by decide) ?_
    exact hret _ _ _ _ _ _ _ ⟨Option.some.inj h, rfl, rfl⟩ B dX4_overOf_30
theorem k_X4_overOf {p : Program} {l : Launch} {e : Env} {R : Room} {s : State} {m : MethodId} {args : Array Value} {below : List Frame} {meth : Method} {c : Code} {H : Heap} {locs : List Loc} {Q : State → Prop} {pc : Nat} {ls : Array Slot} {rest : List Value} {cc : ByteArray} {nL : Nat} {D : va_G} {cA : Nat → ClassId} {ad : Nat → Nat} {A : Nat → Prop} {gi : GI} {gl : GL} {α : Type} {r : α} {x1 : Int32} {x2 : Int32} {ff : Int32 → Option α} (C : CallFix p m c cc nL s args lw_all RX4) (B : MB D cA ad A s gi gl H locs) (hF : 1 ≤ R.frames) (hN : 22 ≤ R.locals) (hs : ls.size = nL) (hw : (rest.map fun v => v.category).sum ≤ 8) (h : (f_X4_overOf gi x1 x2).bind ff = some r) (hdg : decode cc pc = .ok (.invokevirtual 388, 3)) (kk : ∀ q, ff q = some r → ∀ (H' : Heap) (locs' : List Loc), MB D cA ad A s gi gl H' locs' → W p l e R s m args below meth c H' locs' 0 0 Q (F0 m (pc + 3) ls (.int q :: rest))) : W p l e R s m args below meth c H locs 0 0 Q (F0 m pc ls (.int x2 :: .int x1 :: .ref (ad 0) :: rest)) := by
  obtain ⟨q, h1, h2⟩ := g_ob h
  refine mm_cVI (As := [.int x1, .int x2]) (rest := rest) (n := 2) C B (fun sz => w_X4_overOf l D cA ad gi gl x1 x2 q h1 sz) q2131 q2133 qs101 q150 q2134 (by decide +kernel) ⟨hF, hN⟩ rfl hs hw hdg (fun v u H9 locs9 hp B9 => ?_)
  obtain ⟨e1, e2, e3⟩ := hp
  rw [e2] at B9
  rw [e3] at B9
  subst e1
  exact kk _ h2 H9 locs9 B9
def f_X4_asked (gi : GI) (x1 : Int32) (x2 : Int32) : Option (Int32) :=
  if x1 = 99 then
  ((g_ld gi 33 42 (15 + (gi 0 47))).bind fun v1 =>
  some v1)
  else if x1 = 102 then
  ((f_X4_overOf gi (gi 0 47) 0).bind fun q2 =>
  some q2)
  else if x1 = 112 then
  (some (gi 0 47))
  else if x1 = 115 then
  ((f_X4_overOf gi (gi 0 47) 1).bind fun q3 =>
  some q3)
  else if x1 = 116 then
  ((f_X4_overOf gi (gi 0 47) 2).bind fun q4 =>
  some q4)
  else if x1 = 119 then
  ((g_ld gi 33 42 40).bind fun v5 =>
  some v5)
  else (some x2)
set_option maxHeartbeats 400000 in
theorem w_X4_asked (l : Launch) (D : va_G) (cA : Nat → ClassId) (ad : Nat → Nat) (gi : GI) (gl : GL) (x1 : Int32) (x2 : Int32) (r : Int32) (h : f_X4_asked gi x1 x2 = some r) (sz : Nat) : Met l yX4_asked (ws_ yX4_asked cX4_asked 3 (some .int)) ({ frames := 1, cells := 0, slots := 0, locals := 22 } : Room) (va_Pc [.ref (ad 0), .int x1, .int x2] (MPre D cA ad gi gl sz)) (va_Qi (fun v u => v = r ∧ u.1 = gi ∧ u.2 = gl) (MPost D cA ad) (MA ad sz)) 0 0 (MA ad sz) := by
  refine mm_stI (by decide +kernel) rfl (Nat.le_of_ble_eq_true rfl) (fun p e s m args below meth c R Q A ls C hF hN B hret hL => ?_) sz
  have hx := C.1
  have hb := C.2.1
  have hL : lv_has ls 3 [(0, .ref (ad 0)), (1, .int x1), (2, .int x2)] := hL
  unfold f_X4_asked at h
  refine lv_iload_n hx hb dX4_asked_0 rfl (lv_at hL 1 rfl) ?_
  rcases g_if h with ⟨he0, h⟩ | ⟨he0, h⟩
  · refine lv_lookup (off := 89) (tgt := 90) hx hb dX4_asked_1 (by decide) (by rw [he0]; rfl) (by decide) ?_
    refine lv_aload_n hx hb dX4_asked_90 rfl (lv_at hL 0 rfl) ?_
    refine mg_48 C B dX4_asked_91 ?_
    refine lv_bipush (v := 15) hx hb dX4_asked_94 (by decide) ?_
    refine lv_aload_n hx hb dX4_asked_96 rfl (lv_at hL 0 rfl) ?_
    refine mg_47 C B dX4_asked_97 ?_
    refine lv_iadd hx hb dX4_asked_100 ?_
    refine mm_iald C B (a := 33) (n := 42) (Nat.le_of_ble_eq_true rfl) rfl h dX4_asked_101 (fun v1 h => ?_)
    exact hret _ _ _ _ _ _ _ ⟨Option.some.inj h, rfl, rfl⟩ B dX4_asked_102
  · rcases g_if h with ⟨he1, h⟩ | ⟨he1, h⟩
    · refine lv_lookup (off := 59) (tgt := 60) hx hb dX4_asked_1 (by decide) (by rw [he1]; rfl) (by decide) ?_
      refine lv_aload_n hx hb dX4_asked_60 rfl (lv_at hL 0 rfl) ?_
      refine lv_aload_n hx hb dX4_asked_61 rfl (lv_at hL 0 rfl) ?_
      refine mg_47 C B dX4_asked_62 ?_
      refine lv_iconst (v := 0) hx hb dX4_asked_65 (by decide) ?_
      refine k_X4_overOf C B (Nat.le_trans (Nat.le_of_ble_eq_true rfl) hF) (Nat.le_trans (Nat.le_of_ble_eq_true rfl) hN) hL.1 (Nat.le_of_ble_eq_true rfl) h dX4_asked_66 (fun q2 h H locs B => ?_)
      exact hret _ _ _ _ _ _ _ ⟨Option.some.inj h, rfl, rfl⟩ B dX4_asked_69
    · rcases g_if h with ⟨he2, h⟩ | ⟨he2, h⟩
      · refine lv_lookup (off := 110) (tgt := 111) hx hb dX4_asked_1 (by decide) (by rw [he2]; rfl) (by decide) ?_
        refine lv_aload_n hx hb dX4_asked_111 rfl (lv_at hL 0 rfl) ?_
        refine mg_47 C B dX4_asked_112 ?_
        exact hret _ _ _ _ _ _ _ ⟨Option.some.inj h, rfl, rfl⟩ B dX4_asked_115
      · rcases g_if h with ⟨he3, h⟩ | ⟨he3, h⟩
        · refine lv_lookup (off := 69) (tgt := 70) hx hb dX4_asked_1 (by decide) (by rw [he3]; rfl) (by decide) ?_
          refine lv_aload_n hx hb dX4_asked_70 rfl (lv_at hL 0 rfl) ?_
          refine lv_aload_n hx hb dX4_asked_71 rfl (lv_at hL 0 rfl) ?_
          refine mg_47 C B dX4_asked_72 ?_
          refine lv_iconst (v := 1) hx hb dX4_asked_75 (by decide) ?_
          refine k_X4_overOf C B (Nat.le_trans (Nat.le_of_ble_eq_true rfl) hF) (Nat.le_trans (Nat.le_of_ble_eq_true rfl) hN) hL.1 (Nat.le_of_ble_eq_true rfl) h dX4_asked_76 (fun q3 h H locs B => ?_)
          exact hret _ _ _ _ _ _ _ ⟨Option.some.inj h, rfl, rfl⟩ B dX4_asked_79
        · rcases g_if h with ⟨he4, h⟩ | ⟨he4, h⟩
          · refine lv_lookup (off := 79) (tgt := 80) hx hb dX4_asked_1 (by decide) (by rw [he4]; rfl) (by decide) ?_
            refine lv_aload_n hx hb dX4_asked_80 rfl (lv_at hL 0 rfl) ?_
            refine lv_aload_n hx hb dX4_asked_81 rfl (lv_at hL 0 rfl) ?_
            refine mg_47 C B dX4_asked_82 ?_
            refine lv_iconst (v := 2) hx hb dX4_asked_85 (by decide) ?_
            refine k_X4_overOf C B (Nat.le_trans (Nat.le_of_ble_eq_true rfl) hF) (Nat.le_trans (Nat.le_of_ble_eq_true rfl) hN) hL.1 (Nat.le_of_ble_eq_true rfl) h dX4_asked_86 (fun q4 h H locs B => ?_)
            exact hret _ _ _ _ _ _ _ ⟨Option.some.inj h, rfl, rfl⟩ B dX4_asked_89
          · rcases g_if h with ⟨he5, h⟩ | ⟨he5, h⟩
            · refine lv_lookup (off := 102) (tgt := 103) hx hb dX4_asked_1 (by decide) (by rw [he5]; rfl) (by decide) ?_
              refine lv_aload_n hx hb dX4_asked_103 rfl (lv_at hL 0 rfl) ?_
              refine mg_48 C B dX4_asked_104 ?_
              refine lv_bipush (v := 40) hx hb dX4_asked_107 (by decide) ?_
              refine mm_iald C B (a := 33) (n := 42) (Nat.le_of_ble_eq_true rfl) rfl h dX4_asked_109 (fun v5 h => ?_)
              exact hret _ _ _ _ _ _ _ ⟨Option.some.inj h, rfl, rfl⟩ B dX4_asked_110
            · refine lv_lookup (off := 115) (tgt := 116) hx hb dX4_asked_1 (by decide) ((lv_osw he0 rfl).trans ((lv_osw he1 rfl).trans ((lv_osw he2 rfl).trans ((lv_osw he3 rfl).trans ((lv_osw he4 rfl).trans ((lv_osw he5 rfl).trans rfl)))))) (by decide) ?_
              refine lv_iload_n hx hb dX4_asked_116 rfl (lv_at hL 2 rfl) ?_
              exact hret _ _ _ _ _ _ _ ⟨Option.some.inj h, rfl, rfl⟩ B dX4_asked_117
theorem k_X4_asked {p : Program} {l : Launch} {e : Env} {R : Room} {s : State} {m : MethodId} {args : Array Value} {below : List Frame} {meth : Method} {c : Code} {H : Heap} {locs : List Loc} {Q : State → Prop} {pc : Nat} {ls : Array Slot} {rest : List Value} {cc : ByteArray} {nL : Nat} {D : va_G} {cA : Nat → ClassId} {ad : Nat → Nat} {A : Nat → Prop} {gi : GI} {gl : GL} {α : Type} {r : α} {x1 : Int32} {x2 : Int32} {ff : Int32 → Option α} (C : CallFix p m c cc nL s args lw_all RX4) (B : MB D cA ad A s gi gl H locs) (hF : 2 ≤ R.frames) (hN : 44 ≤ R.locals) (hs : ls.size = nL) (hw : (rest.map fun v => v.category).sum ≤ 8) (h : (f_X4_asked gi x1 x2).bind ff = some r) (hdg : decode cc pc = .ok (.invokevirtual 391, 3)) (kk : ∀ q, ff q = some r → ∀ (H' : Heap) (locs' : List Loc), MB D cA ad A s gi gl H' locs' → W p l e R s m args below meth c H' locs' 0 0 Q (F0 m (pc + 3) ls (.int q :: rest))) : W p l e R s m args below meth c H locs 0 0 Q (F0 m pc ls (.int x2 :: .int x1 :: .ref (ad 0) :: rest)) := by
  obtain ⟨q, h1, h2⟩ := g_ob h
  refine mm_cVI (As := [.int x1, .int x2]) (rest := rest) (n := 2) C B (fun sz => w_X4_asked l D cA ad gi gl x1 x2 q h1 sz) q2139 q2141 qs103 q150 q2142 (by decide +kernel) ⟨hF, hN⟩ rfl hs hw hdg (fun v u H9 locs9 hp B9 => ?_)
  obtain ⟨e1, e2, e3⟩ := hp
  rw [e2] at B9
  rw [e3] at B9
  subst e1
  exact kk _ h2 H9 locs9 B9
def f_X4_two (gi : GI) (x0 : Int32) (x1 : Int32) (x2 : Int32) : Option (Int32) :=
  if x0.toInt < 37 ∨ 62 < x0.toInt then
  (if x1 = 0 then
  (if x2 = 0 then
  (some 0)
  else
  (some 1))
  else
  (some 1))
  else if x0 = 37 then
  (if x2 = 0 then
  (some 0)
  else
  ((g_nz x2).bind fun _ =>
  some (x1 - x1 / x2 * x2)))
  else if x0 = 38 then
  (if x1 = 0 then
  (some 0)
  else
  (if x2 = 0 then
  (some 0)
  else
  (some 1)))
  else if x0 = 39 then
  (if x1 = 0 then
  (if x2 = 0 then
  (some 0)
  else
  (some 1))
  else
  (some 1))
  else if x0 = 40 then
  (if x1 = 0 then
  (if x2 = 0 then
  (some 0)
  else
  (some 1))
  else
  (some 1))
  else if x0 = 41 then
  (if x1 = 0 then
  (if x2 = 0 then
  (some 0)
  else
  (some 1))
  else
  (some 1))
  else if x0 = 42 then
  (some (x1 * x2))
  else if x0 = 43 then
  (some (x1 + x2))
  else if x0 = 44 then
  (if x1 = 0 then
  (if x2 = 0 then
  (some 0)
  else
  (some 1))
  else
  (some 1))
  else if x0 = 45 then
  (some (x1 - x2))
  else if x0 = 46 then
  (if x1 = 0 then
  (if x2 = 0 then
  (some 0)
  else
  (some 1))
  else
  (some 1))
  else if x0 = 47 then
  (if x2 = 0 then
  (some 0)
  else
  ((g_nz x2).bind fun _ =>
  some (x1 / x2)))
  else if x0 = 48 then
  (if x1 = 0 then
  (if x2 = 0 then
  (some 0)
  else
  (some 1))
  else
  (some 1))
  else if x0 = 49 then
  (if x1 = 0 then
  (if x2 = 0 then
  (some 0)
  else
  (some 1))
  else
  (some 1))
  else if x0 = 50 then
  (if x1 = 0 then
  (if x2 = 0 then
  (some 0)
  else
  (some 1))
  else
  (some 1))
  else if x0 = 51 then
  (if x1 = 0 then
  (if x2 = 0 then
  (some 0)
  else
  (some 1))
  else
  (some 1))
  else if x0 = 52 then
  (if x1 = 0 then
  (if x2 = 0 then
  (some 0)
  else
  (some 1))
  else
  (some 1))
  else if x0 = 53 then
  (if x1 = 0 then
  (if x2 = 0 then
  (some 0)
  else
  (some 1))
  else
  (some 1))
  else if x0 = 54 then
  (if x1 = 0 then
  (if x2 = 0 then
  (some 0)
  else
  (some 1))
  else
  (some 1))
  else if x0 = 55 then
  (if x1 = 0 then
  (if x2 = 0 then
  (some 0)
  else
  (some 1))
  else
  (some 1))
  else if x0 = 56 then
  (if x1 = 0 then
  (if x2 = 0 then
  (some 0)
  else
  (some 1))
  else
  (some 1))
  else if x0 = 57 then
  (if x1 = 0 then
  (if x2 = 0 then
  (some 0)
  else
  (some 1))
  else
  (some 1))
  else if x0 = 58 then
  (if x1 = 0 then
  (if x2 = 0 then
  (some 0)
  else
  (some 1))
  else
  (some 1))
  else if x0 = 59 then
  (if x1 = 0 then
  (if x2 = 0 then
  (some 0)
  else
  (some 1))
  else
  (some 1))
  else if x0 = 60 then
  (if x2 ≤ x1 then
  (some 0)
  else
  (some 1))
  else if x0 = 61 then
  (if x1 = x2 then
  (some 1)
  else
  (some 0))
  else if x0 = 62 then
  (if x1 ≤ x2 then
  (some 0)
  else
  (some 1))
  else none
set_option maxHeartbeats 400000 in
theorem w_X4_two (l : Launch) (D : va_G) (cA : Nat → ClassId) (ad : Nat → Nat) (gi : GI) (gl : GL) (x0 : Int32) (x1 : Int32) (x2 : Int32) (r : Int32) (h : f_X4_two gi x0 x1 x2 = some r) (sz : Nat) : Met l yX4_two (ws_ yX4_two cX4_two 3 (some .int)) ({ frames := 0, cells := 0, slots := 0, locals := 0 } : Room) (va_Pc [.int x0, .int x1, .int x2] (MPre D cA ad gi gl sz)) (va_Qi (fun v u => v = r ∧ u.1 = gi ∧ u.2 = gl) (MPost D cA ad) (MA ad sz)) 0 0 (MA ad sz) := by
  refine mm_stI (by decide +kernel) rfl (Nat.le_of_ble_eq_true rfl) (fun p e s m args below meth c R Q A ls C hF hN B hret hL => ?_) sz
  have hx := C.1
  have hb := C.2.1
  have hL : lv_has ls 3 [(0, .int x0), (1, .int x1), (2, .int x2)] := hL
  unfold f_X4_two at h
  refine lv_iload_n hx hb dX4_two_0 rfl (lv_at hL 0 rfl) ?_
  rcases g_if h with ⟨hc, h⟩ | ⟨hc, h⟩
  · refine lv_tableOut (tgt := 203) hx hb dX4_two_1 hc (by decide) ?_
    refine lv_iload_n hx hb dX4_two_203 rfl (lv_at hL 1 rfl) ?_
    refine gg_if_ne hx hb 211 h dX4_two_204 (by decide) (fun h => ?_) (fun h => ?_)
    · refine lv_iconst (v := 1) hx hb dX4_two_211 (by decide) ?_
      refine lv_goto (tgt := 216) hx hb dX4_two_212 (by decide) ?_
      exact hret _ _ _ _ _ _ _ ⟨Option.some.inj h, rfl, rfl⟩ B dX4_two_216
    · refine lv_iload_n hx hb dX4_two_207 rfl (lv_at hL 2 rfl) ?_
      refine gg_if_eq hx hb 215 h dX4_two_208 (by decide) (fun h => ?_) (fun h => ?_)
      · refine lv_iconst (v := 0) hx hb dX4_two_215 (by decide) ?_
        exact hret _ _ _ _ _ _ _ ⟨Option.some.inj h, rfl, rfl⟩ B dX4_two_216
      · refine lv_iconst (v := 1) hx hb dX4_two_211 (by decide) ?_
        refine lv_goto (tgt := 216) hx hb dX4_two_212 (by decide) ?_
        exact hret _ _ _ _ _ _ _ ⟨Option.some.inj h, rfl, rfl⟩ B dX4_two_216
  · rcases g_if h with ⟨he, h⟩ | ⟨_, h⟩
    · refine lv_tableIn (off := 143) (tgt := 144) hx hb dX4_two_1 (by rw [he]; decide) (by rw [he]; decide) (by rw [he]; rfl) (by decide) ?_
      refine lv_iload_n hx hb dX4_two_144 rfl (lv_at hL 2 rfl) ?_
      refine gg_if_ne hx hb 152 h dX4_two_145 (by decide) (fun h => ?_) (fun h => ?_)
      · refine lv_iload_n hx hb dX4_two_152 rfl (lv_at hL 1 rfl) ?_
        refine lv_iload_n hx hb dX4_two_153 rfl (lv_at hL 2 rfl) ?_
        refine mm_nz h (fun hnz h => ?_)
        refine lv_irem hx hb dX4_two_154 hnz ?_
        exact hret _ _ _ _ _ _ _ ⟨Option.some.inj h, rfl, rfl⟩ B dX4_two_155
      · refine lv_iconst (v := 0) hx hb dX4_two_148 (by decide) ?_
        refine lv_goto (tgt := 155) hx hb dX4_two_149 (by decide) ?_
        exact hret _ _ _ _ _ _ _ ⟨Option.some.inj h, rfl, rfl⟩ B dX4_two_155
    · rcases g_if h with ⟨he, h⟩ | ⟨_, h⟩
      · refine lv_tableIn (off := 188) (tgt := 189) hx hb dX4_two_1 (by rw [he]; decide) (by rw [he]; decide) (by rw [he]; rfl) (by decide) ?_
        refine lv_iload_n hx hb dX4_two_189 rfl (lv_at hL 1 rfl) ?_
        refine gg_if_eq hx hb 201 h dX4_two_190 (by decide) (fun h => ?_) (fun h => ?_)
        · refine lv_iconst (v := 0) hx hb dX4_two_201 (by decide) ?_
          exact hret _ _ _ _ _ _ _ ⟨Option.some.inj h, rfl, rfl⟩ B dX4_two_202
        · refine lv_iload_n hx hb dX4_two_193 rfl (lv_at hL 2 rfl) ?_
          refine gg_if_eq hx hb 201 h dX4_two_194 (by decide) (fun h => ?_) (fun h => ?_)
          · refine lv_iconst (v := 0) hx hb dX4_two_201 (by decide) ?_
            exact hret _ _ _ _ _ _ _ ⟨Option.some.inj h, rfl, rfl⟩ B dX4_two_202
          · refine lv_iconst (v := 1) hx hb dX4_two_197 (by decide) ?_
            refine lv_goto (tgt := 202) hx hb dX4_two_198 (by decide) ?_
            exact hret _ _ _ _ _ _ _ ⟨Option.some.inj h, rfl, rfl⟩ B dX4_two_202
      · rcases g_if h with ⟨he, h⟩ | ⟨_, h⟩
        · refine lv_tableIn (off := 202) (tgt := 203) hx hb dX4_two_1 (by rw [he]; decide) (by rw [he]; decide) (by rw [he]; rfl) (by decide) ?_
          refine lv_iload_n hx hb dX4_two_203 rfl (lv_at hL 1 rfl) ?_
          refine gg_if_ne hx hb 211 h dX4_two_204 (by decide) (fun h => ?_) (fun h => ?_)
          · refine lv_iconst (v := 1) hx hb dX4_two_211 (by decide) ?_
            refine lv_goto (tgt := 216) hx hb dX4_two_212 (by decide) ?_
            exact hret _ _ _ _ _ _ _ ⟨Option.some.inj h, rfl, rfl⟩ B dX4_two_216
          · refine lv_iload_n hx hb dX4_two_207 rfl (lv_at hL 2 rfl) ?_
            refine gg_if_eq hx hb 215 h dX4_two_208 (by decide) (fun h => ?_) (fun h => ?_)
            · refine lv_iconst (v := 0) hx hb dX4_two_215 (by decide) ?_
              exact hret _ _ _ _ _ _ _ ⟨Option.some.inj h, rfl, rfl⟩ B dX4_two_216
            · refine lv_iconst (v := 1) hx hb dX4_two_211 (by decide) ?_
              refine lv_goto (tgt := 216) hx hb dX4_two_212 (by decide) ?_
              exact hret _ _ _ _ _ _ _ ⟨Option.some.inj h, rfl, rfl⟩ B dX4_two_216
        · rcases g_if h with ⟨he, h⟩ | ⟨_, h⟩
          · refine lv_tableIn (off := 202) (tgt := 203) hx hb dX4_two_1 (by rw [he]; decide) (by rw [he]; decide) (by rw [he]; rfl) (by decide) ?_
            refine lv_iload_n hx hb dX4_two_203 rfl (lv_at hL 1 rfl) ?_
            refine gg_if_ne hx hb 211 h dX4_two_204 (by decide) (fun h => ?_) (fun h => ?_)
            · refine lv_iconst (v := 1) hx hb dX4_two_211 (by decide) ?_
              refine lv_goto (tgt := 216) hx hb dX4_two_212 (by decide) ?_
              exact hret _ _ _ _ _ _ _ ⟨Option.some.inj h, rfl, rfl⟩ B dX4_two_216
            · refine lv_iload_n hx hb dX4_two_207 rfl (lv_at hL 2 rfl) ?_
              refine gg_if_eq hx hb 215 h dX4_two_208 (by decide) (fun h => ?_) (fun h => ?_)
              · refine lv_iconst (v := 0) hx hb dX4_two_215 (by decide) ?_
                exact hret _ _ _ _ _ _ _ ⟨Option.some.inj h, rfl, rfl⟩ B dX4_two_216
              · refine lv_iconst (v := 1) hx hb dX4_two_211 (by decide) ?_
                refine lv_goto (tgt := 216) hx hb dX4_two_212 (by decide) ?_
                exact hret _ _ _ _ _ _ _ ⟨Option.some.inj h, rfl, rfl⟩ B dX4_two_216
          · rcases g_if h with ⟨he, h⟩ | ⟨_, h⟩
            · refine lv_tableIn (off := 202) (tgt := 203) hx hb dX4_two_1 (by rw [he]; decide) (by rw [he]; decide) (by rw [he]; rfl) (by decide) ?_
              refine lv_iload_n hx hb dX4_two_203 rfl (lv_at hL 1 rfl) ?_
              refine gg_if_ne hx hb 211 h dX4_two_204 (by decide) (fun h => ?_) (fun h => ?_)
              · refine lv_iconst (v := 1) hx hb dX4_two_211 (by decide) ?_
                refine lv_goto (tgt := 216) hx hb dX4_two_212 (by decide) ?_
                exact hret _ _ _ _ _ _ _ ⟨Option.some.inj h, rfl, rfl⟩ B dX4_two_216
              · refine lv_iload_n hx hb dX4_two_207 rfl (lv_at hL 2 rfl) ?_
                refine gg_if_eq hx hb 215 h dX4_two_208 (by decide) (fun h => ?_) (fun h => ?_)
                · refine lv_iconst (v := 0) hx hb dX4_two_215 (by decide) ?_
                  exact hret _ _ _ _ _ _ _ ⟨Option.some.inj h, rfl, rfl⟩ B dX4_two_216
                · refine lv_iconst (v := 1) hx hb dX4_two_211 (by decide) ?_
                  refine lv_goto (tgt := 216) hx hb dX4_two_212 (by decide) ?_
                  exact hret _ _ _ _ _ _ _ ⟨Option.some.inj h, rfl, rfl⟩ B dX4_two_216
            · rcases g_if h with ⟨he, h⟩ | ⟨_, h⟩
              · refine lv_tableIn (off := 127) (tgt := 128) hx hb dX4_two_1 (by rw [he]; decide) (by rw [he]; decide) (by rw [he]; rfl) (by decide) ?_
                refine lv_iload_n hx hb dX4_two_128 rfl (lv_at hL 1 rfl) ?_
                refine lv_iload_n hx hb dX4_two_129 rfl (lv_at hL 2 rfl) ?_
                refine lv_imul hx hb dX4_two_130 ?_
                exact hret _ _ _ _ _ _ _ ⟨Option.some.inj h, rfl, rfl⟩ B dX4_two_131
              · rcases g_if h with ⟨he, h⟩ | ⟨_, h⟩
                · refine lv_tableIn (off := 119) (tgt := 120) hx hb dX4_two_1 (by rw [he]; decide) (by rw [he]; decide) (by rw [he]; rfl) (by decide) ?_
                  refine lv_iload_n hx hb dX4_two_120 rfl (lv_at hL 1 rfl) ?_
                  refine lv_iload_n hx hb dX4_two_121 rfl (lv_at hL 2 rfl) ?_
                  refine lv_iadd hx hb dX4_two_122 ?_
                  exact hret _ _ _ _ _ _ _ ⟨Option.some.inj h, rfl, rfl⟩ B dX4_two_123
                · rcases g_if h with ⟨he, h⟩ | ⟨_, h⟩
                  · refine lv_tableIn (off := 202) (tgt := 203) hx hb dX4_two_1 (by rw [he]; decide) (by rw [he]; decide) (by rw [he]; rfl) (by decide) ?_
                    refine lv_iload_n hx hb dX4_two_203 rfl (lv_at hL 1 rfl) ?_
                    refine gg_if_ne hx hb 211 h dX4_two_204 (by decide) (fun h => ?_) (fun h => ?_)
                    · refine lv_iconst (v := 1) hx hb dX4_two_211 (by decide) ?_
                      refine lv_goto (tgt := 216) hx hb dX4_two_212 (by decide) ?_
                      exact hret _ _ _ _ _ _ _ ⟨Option.some.inj h, rfl, rfl⟩ B dX4_two_216
                    · refine lv_iload_n hx hb dX4_two_207 rfl (lv_at hL 2 rfl) ?_
                      refine gg_if_eq hx hb 215 h dX4_two_208 (by decide) (fun h => ?_) (fun h => ?_)
                      · refine lv_iconst (v := 0) hx hb dX4_two_215 (by decide) ?_
                        exact hret _ _ _ _ _ _ _ ⟨Option.some.inj h, rfl, rfl⟩ B dX4_two_216
                      · refine lv_iconst (v := 1) hx hb dX4_two_211 (by decide) ?_
                        refine lv_goto (tgt := 216) hx hb dX4_two_212 (by decide) ?_
                        exact hret _ _ _ _ _ _ _ ⟨Option.some.inj h, rfl, rfl⟩ B dX4_two_216
                  · rcases g_if h with ⟨he, h⟩ | ⟨_, h⟩
                    · refine lv_tableIn (off := 123) (tgt := 124) hx hb dX4_two_1 (by rw [he]; decide) (by rw [he]; decide) (by rw [he]; rfl) (by decide) ?_
                      refine lv_iload_n hx hb dX4_two_124 rfl (lv_at hL 1 rfl) ?_
                      refine lv_iload_n hx hb dX4_two_125 rfl (lv_at hL 2 rfl) ?_
                      refine lv_isub hx hb dX4_two_126 ?_
                      exact hret _ _ _ _ _ _ _ ⟨Option.some.inj h, rfl, rfl⟩ B dX4_two_127
                    · rcases g_if h with ⟨he, h⟩ | ⟨_, h⟩
                      · refine lv_tableIn (off := 202) (tgt := 203) hx hb dX4_two_1 (by rw [he]; decide) (by rw [he]; decide) (by rw [he]; rfl) (by decide) ?_
                        refine lv_iload_n hx hb dX4_two_203 rfl (lv_at hL 1 rfl) ?_
                        refine gg_if_ne hx hb 211 h dX4_two_204 (by decide) (fun h => ?_) (fun h => ?_)
                        · refine lv_iconst (v := 1) hx hb dX4_two_211 (by decide) ?_
                          refine lv_goto (tgt := 216) hx hb dX4_two_212 (by decide) ?_
                          exact hret _ _ _ _ _ _ _ ⟨Option.some.inj h, rfl, rfl⟩ B dX4_two_216
                        · refine lv_iload_n hx hb dX4_two_207 rfl (lv_at hL 2 rfl) ?_
                          refine gg_if_eq hx hb 215 h dX4_two_208 (by decide) (fun h => ?_) (fun h => ?_)
                          · refine lv_iconst (v := 0) hx hb dX4_two_215 (by decide) ?_
                            exact hret _ _ _ _ _ _ _ ⟨Option.some.inj h, rfl, rfl⟩ B dX4_two_216
                          · refine lv_iconst (v := 1) hx hb dX4_two_211 (by decide) ?_
                            refine lv_goto (tgt := 216) hx hb dX4_two_212 (by decide) ?_
                            exact hret _ _ _ _ _ _ _ ⟨Option.some.inj h, rfl, rfl⟩ B dX4_two_216
                      · rcases g_if h with ⟨he, h⟩ | ⟨_, h⟩
                        · refine lv_tableIn (off := 131) (tgt := 132) hx hb dX4_two_1 (by rw [he]; decide) (by rw [he]; decide) (by rw [he]; rfl) (by decide) ?_
                          refine lv_iload_n hx hb dX4_two_132 rfl (lv_at hL 2 rfl) ?_
                          refine gg_if_ne hx hb 140 h dX4_two_133 (by decide) (fun h => ?_) (fun h => ?_)
                          · refine lv_iload_n hx hb dX4_two_140 rfl (lv_at hL 1 rfl) ?_
                            refine lv_iload_n hx hb dX4_two_141 rfl (lv_at hL 2 rfl) ?_
                            refine mm_nz h (fun hnz h => ?_)
                            refine lv_idiv hx hb dX4_two_142 hnz ?_
                            exact hret _ _ _ _ _ _ _ ⟨Option.some.inj h, rfl, rfl⟩ B dX4_two_143
                          · refine lv_iconst (v := 0) hx hb dX4_two_136 (by decide) ?_
                            refine lv_goto (tgt := 143) hx hb dX4_two_137 (by decide) ?_
                            exact hret _ _ _ _ _ _ _ ⟨Option.some.inj h, rfl, rfl⟩ B dX4_two_143
                        · rcases g_if h with ⟨he, h⟩ | ⟨_, h⟩
                          · refine lv_tableIn (off := 202) (tgt := 203) hx hb dX4_two_1 (by rw [he]; decide) (by rw [he]; decide) (by rw [he]; rfl) (by decide) ?_
                            refine lv_iload_n hx hb dX4_two_203 rfl (lv_at hL 1 rfl) ?_
                            refine gg_if_ne hx hb 211 h dX4_two_204 (by decide) (fun h => ?_) (fun h => ?_)
                            · refine lv_iconst (v := 1) hx hb dX4_two_211 (by decide) ?_
                              refine lv_goto (tgt := 216) hx hb dX4_two_212 (by decide) ?_
                              exact hret _ _ _ _ _ _ _ ⟨Option.some.inj h, rfl, rfl⟩ B dX4_two_216
                            · refine lv_iload_n hx hb dX4_two_207 rfl (lv_at hL 2 rfl) ?_
                              refine gg_if_eq hx hb 215 h dX4_two_208 (by decide) (fun h => ?_) (fun h => ?_)
                              · refine lv_iconst (v := 0) hx hb dX4_two_215 (by decide) ?_
                                exact hret _ _ _ _ _ _ _ ⟨Option.some.inj h, rfl, rfl⟩ B dX4_two_216
                              · refine lv_iconst (v := 1) hx hb dX4_two_211 (by decide) ?_
                                refine lv_goto (tgt := 216) hx hb dX4_two_212 (by decide) ?_
                                exact hret _ _ _ _ _ _ _ ⟨Option.some.inj h, rfl, rfl⟩ B dX4_two_216
                          · rcases g_if h with ⟨he, h⟩ | ⟨_, h⟩
                            · refine lv_tableIn (off := 202) (tgt := 203) hx hb dX4_two_1 (by rw [he]; decide) (by rw [he]; decide) (by rw [he]; rfl) (by decide) ?_
                              refine lv_iload_n hx hb dX4_two_203 rfl (lv_at hL 1 rfl) ?_
                              refine gg_if_ne hx hb 211 h dX4_two_204 (by decide) (fun h => ?_) (fun h => ?_)
                              · refine lv_iconst (v := 1) hx hb dX4_two_211 (by decide) ?_
                                refine lv_goto (tgt := 216) hx hb dX4_two_212 (by decide) ?_
                                exact hret _ _ _ _ _ _ _ ⟨Option.some.inj h, rfl, rfl⟩ B dX4_two_216
                              · refine lv_iload_n hx hb dX4_two_207 rfl (lv_at hL 2 rfl) ?_
                                refine gg_if_eq hx hb 215 h dX4_two_208 (by decide) (fun h => ?_) (fun h => ?_)
                                · refine lv_iconst (v := 0) hx hb dX4_two_215 (by decide) ?_
                                  exact hret _ _ _ _ _ _ _ ⟨Option.some.inj h, rfl, rfl⟩ B dX4_two_216
                                · refine lv_iconst (v := 1) hx hb dX4_two_211 (by decide) ?_
                                  refine lv_goto (tgt := 216) hx hb dX4_two_212 (by decide) ?_
                                  exact hret _ _ _ _ _ _ _ ⟨Option.some.inj h, rfl, rfl⟩ B dX4_two_216
                            · rcases g_if h with ⟨he, h⟩ | ⟨_, h⟩
                              · refine lv_tableIn (off := 202) (tgt := 203) hx hb dX4_two_1 (by rw [he]; decide) (by rw [he]; decide) (by rw [he]; rfl) (by decide) ?_
                                refine lv_iload_n hx hb dX4_two_203 rfl (lv_at hL 1 rfl) ?_
                                refine gg_if_ne hx hb 211 h dX4_two_204 (by decide) (fun h => ?_) (fun h => ?_)
                                · refine lv_iconst (v := 1) hx hb dX4_two_211 (by decide) ?_
                                  refine lv_goto (tgt := 216) hx hb dX4_two_212 (by decide) ?_
                                  exact hret _ _ _ _ _ _ _ ⟨Option.some.inj h, rfl, rfl⟩ B dX4_two_216
                                · refine lv_iload_n hx hb dX4_two_207 rfl (lv_at hL 2 rfl) ?_
                                  refine gg_if_eq hx hb 215 h dX4_two_208 (by decide) (fun h => ?_) (fun h => ?_)
                                  · refine lv_iconst (v := 0) hx hb dX4_two_215 (by decide) ?_
                                    exact hret _ _ _ _ _ _ _ ⟨Option.some.inj h, rfl, rfl⟩ B dX4_two_216
                                  · refine lv_iconst (v := 1) hx hb dX4_two_211 (by decide) ?_
                                    refine lv_goto (tgt := 216) hx hb dX4_two_212 (by decide) ?_
                                    exact hret _ _ _ _ _ _ _ ⟨Option.some.inj h, rfl, rfl⟩ B dX4_two_216
                              · rcases g_if h with ⟨he, h⟩ | ⟨_, h⟩
                                · refine lv_tableIn (off := 202) (tgt := 203) hx hb dX4_two_1 (by rw [he]; decide) (by rw [he]; decide) (by rw [he]; rfl) (by decide) ?_
                                  refine lv_iload_n hx hb dX4_two_203 rfl (lv_at hL 1 rfl) ?_
                                  refine gg_if_ne hx hb 211 h dX4_two_204 (by decide) (fun h => ?_) (fun h => ?_)
                                  · refine lv_iconst (v := 1) hx hb dX4_two_211 (by decide) ?_
                                    refine lv_goto (tgt := 216) hx hb dX4_two_212 (by decide) ?_
                                    exact hret _ _ _ _ _ _ _ ⟨Option.some.inj h, rfl, rfl⟩ B dX4_two_216
                                  · refine lv_iload_n hx hb dX4_two_207 rfl (lv_at hL 2 rfl) ?_
                                    refine gg_if_eq hx hb 215 h dX4_two_208 (by decide) (fun h => ?_) (fun h => ?_)
                                    · refine lv_iconst (v := 0) hx hb dX4_two_215 (by decide) ?_
                                      exact hret _ _ _ _ _ _ _ ⟨Option.some.inj h, rfl, rfl⟩ B dX4_two_216
                                    · refine lv_iconst (v := 1) hx hb dX4_two_211 (by decide) ?_
                                      refine lv_goto (tgt := 216) hx hb dX4_two_212 (by decide) ?_
                                      exact hret _ _ _ _ _ _ _ ⟨Option.some.inj h, rfl, rfl⟩ B dX4_two_216
                                · rcases g_if h with ⟨he, h⟩ | ⟨_, h⟩
                                  · refine lv_tableIn (off := 202) (tgt := 203) hx hb dX4_two_1 (by rw [he]; decide) (by rw [he]; decide) (by rw [he]; rfl) (by decide) ?_
                                    refine lv_iload_n hx hb dX4_two_203 rfl (lv_at hL 1 rfl) ?_
                                    refine gg_if_ne hx hb 211 h dX4_two_204 (by decide) (fun h => ?_) (fun h => ?_)
                                    · refine lv_iconst (v := 1) hx hb dX4_two_211 (by decide) ?_
                                      refine lv_goto (tgt := 216) hx hb dX4_two_212 (by decide) ?_
                                      exact hret _ _ _ _ _ _ _ ⟨Option.some.inj h, rfl, rfl⟩ B dX4_two_216
                                    · refine lv_iload_n hx hb dX4_two_207 rfl (lv_at hL 2 rfl) ?_
                                      refine gg_if_eq hx hb 215 h dX4_two_208 (by decide) (fun h => ?_) (fun h => ?_)
                                      · refine lv_iconst (v := 0) hx hb dX4_two_215 (by decide) ?_
                                        exact hret _ _ _ _ _ _ _ ⟨Option.some.inj h, rfl, rfl⟩ B dX4_two_216
                                      · refine lv_iconst (v := 1) hx hb dX4_two_211 (by decide) ?_
                                        refine lv_goto (tgt := 216) hx hb dX4_two_212 (by decide) ?_
                                        exact hret _ _ _ _ _ _ _ ⟨Option.some.inj h, rfl, rfl⟩ B dX4_two_216
                                  · rcases g_if h with ⟨he, h⟩ | ⟨_, h⟩
                                    · refine lv_tableIn (off := 202) (tgt := 203) hx hb dX4_two_1 (by rw [he]; decide) (by rw [he]; decide) (by rw [he]; rfl) (by decide) ?_
                                      refine lv_iload_n hx hb dX4_two_203 rfl (lv_at hL 1 rfl) ?_
                                      refine gg_if_ne hx hb 211 h dX4_two_204 (by decide) (fun h => ?_) (fun h => ?_)
                                      · refine lv_iconst (v := 1) hx hb dX4_two_211 (by decide) ?_
                                        refine lv_goto (tgt := 216) hx hb dX4_two_212 (by decide) ?_
                                        exact hret _ _ _ _ _ _ _ ⟨Option.some.inj h, rfl, rfl⟩ B dX4_two_216
                                      · refine lv_iload_n hx hb dX4_two_207 rfl (lv_at hL 2 rfl) ?_
                                        refine gg_if_eq hx hb 215 h dX4_two_208 (by decide) (fun h => ?_) (fun h => ?_)
                                        · refine lv_iconst (v := 0) hx hb dX4_two_215 (by decide) ?_
                                          exact hret _ _ _ _ _ _ _ ⟨Option.some.inj h, rfl, rfl⟩ B dX4_two_216
                                        · refine lv_iconst (v := 1) hx hb dX4_two_211 (by decide) ?_
                                          refine lv_goto (tgt := 216) hx hb dX4_two_212 (by decide) ?_
                                          exact hret _ _ _ _ _ _ _ ⟨Option.some.inj h, rfl, rfl⟩ B dX4_two_216
                                    · rcases g_if h with ⟨he, h⟩ | ⟨_, h⟩
                                      · refine lv_tableIn (off := 202) (tgt := 203) hx hb dX4_two_1 (by rw [he]; decide) (by rw [he]; decide) (by rw [he]; rfl) (by decide) ?_
                                        refine lv_iload_n hx hb dX4_two_203 rfl (lv_at hL 1 rfl) ?_
                                        refine gg_if_ne hx hb 211 h dX4_two_204 (by decide) (fun h => ?_) (fun h => ?_)
                                        · refine lv_iconst (v := 1) hx hb dX4_two_211 (by decide) ?_
                                          refine lv_goto (tgt := 216) hx hb dX4_two_212 (by decide) ?_
                                          exact hret _ _ _ _ _ _ _ ⟨Option.some.inj h, rfl, rfl⟩ B dX4_two_216
                                        · refine lv_iload_n hx hb dX4_two_207 rfl (lv_at hL 2 rfl) ?_
                                          refine gg_if_eq hx hb 215 h dX4_two_208 (by decide) (fun h => ?_) (fun h => ?_)
                                          · refine lv_iconst (v := 0) hx hb dX4_two_215 (by decide) ?_
                                            exact hret _ _ _ _ _ _ _ ⟨Option.some.inj h, rfl, rfl⟩ B dX4_two_216
                                          · refine lv_iconst (v := 1) hx hb dX4_two_211 (by decide) ?_
                                            refine lv_goto (tgt := 216) hx hb dX4_two_212 (by decide) ?_
                                            exact hret _ _ _ _ _ _ _ ⟨Option.some.inj h, rfl, rfl⟩ B dX4_two_216
                                      · rcases g_if h with ⟨he, h⟩ | ⟨_, h⟩
                                        · refine lv_tableIn (off := 202) (tgt := 203) hx hb dX4_two_1 (by rw [he]; decide) (by rw [he]; decide) (by rw [he]; rfl) (by decide) ?_
                                          refine lv_iload_n hx hb dX4_two_203 rfl (lv_at hL 1 rfl) ?_
                                          refine gg_if_ne hx hb 211 h dX4_two_204 (by decide) (fun h => ?_) (fun h => ?_)
                                          · refine lv_iconst (v := 1) hx hb dX4_two_211 (by decide) ?_
                                            refine lv_goto (tgt := 216) hx hb dX4_two_212 (by decide) ?_
                                            exact hret _ _ _ _ _ _ _ ⟨Option.some.inj h, rfl, rfl⟩ B dX4_two_216
                                          · refine lv_iload_n hx hb dX4_two_207 rfl (lv_at hL 2 rfl) ?_
                                            refine gg_if_eq hx hb 215 h dX4_two_208 (by decide) (fun h => ?_) (fun h => ?_)
                                            · refine lv_iconst (v := 0) hx hb dX4_two_215 (by decide) ?_
                                              exact hret _ _ _ _ _ _ _ ⟨Option.some.inj h, rfl, rfl⟩ B dX4_two_216
                                            · refine lv_iconst (v := 1) hx hb dX4_two_211 (by decide) ?_
                                              refine lv_goto (tgt := 216) hx hb dX4_two_212 (by decide) ?_
                                              exact hret _ _ _ _ _ _ _ ⟨Option.some.inj h, rfl, rfl⟩ B dX4_two_216
                                        · rcases g_if h with ⟨he, h⟩ | ⟨_, h⟩
                                          · refine lv_tableIn (off := 202) (tgt := 203) hx hb dX4_two_1 (by rw [he]; decide) (by rw [he]; decide) (by rw [he]; rfl) (by decide) ?_
                                            refine lv_iload_n hx hb dX4_two_203 rfl (lv_at hL 1 rfl) ?_
                                            refine gg_if_ne hx hb 211 h dX4_two_204 (by decide) (fun h => ?_) (fun h => ?_)
                                            · refine lv_iconst (v := 1) hx hb dX4_two_211 (by decide) ?_
                                              refine lv_goto (tgt := 216) hx hb dX4_two_212 (by decide) ?_
                                              exact hret _ _ _ _ _ _ _ ⟨Option.some.inj h, rfl, rfl⟩ B dX4_two_216
                                            · refine lv_iload_n hx hb dX4_two_207 rfl (lv_at hL 2 rfl) ?_
                                              refine gg_if_eq hx hb 215 h dX4_two_208 (by decide) (fun h => ?_) (fun h => ?_)
                                              · refine lv_iconst (v := 0) hx hb dX4_two_215 (by decide) ?_
                                                exact hret _ _ _ _ _ _ _ ⟨Option.some.inj h, rfl, rfl⟩ B dX4_two_216
                                              · refine lv_iconst (v := 1) hx hb dX4_two_211 (by decide) ?_
                                                refine lv_goto (tgt := 216) hx hb dX4_two_212 (by decide) ?_
                                                exact hret _ _ _ _ _ _ _ ⟨Option.some.inj h, rfl, rfl⟩ B dX4_two_216
                                          · rcases g_if h with ⟨he, h⟩ | ⟨_, h⟩
                                            · refine lv_tableIn (off := 202) (tgt := 203) hx hb dX4_two_1 (by rw [he]; decide) (by rw [he]; decide) (by rw [he]; rfl) (by decide) ?_
                                              refine lv_iload_n hx hb dX4_two_203 rfl (lv_at hL 1 rfl) ?_
                                              refine gg_if_ne hx hb 211 h dX4_two_204 (by decide) (fun h => ?_) (fun h => ?_)
                                              · refine lv_iconst (v := 1) hx hb dX4_two_211 (by decide) ?_
                                                refine lv_goto (tgt := 216) hx hb dX4_two_212 (by decide) ?_
                                                exact hret _ _ _ _ _ _ _ ⟨Option.some.inj h, rfl, rfl⟩ B dX4_two_216
                                              · refine lv_iload_n hx hb dX4_two_207 rfl (lv_at hL 2 rfl) ?_
                                                refine gg_if_eq hx hb 215 h dX4_two_208 (by decide) (fun h => ?_) (fun h => ?_)
                                                · refine lv_iconst (v := 0) hx hb dX4_two_215 (by decide) ?_
                                                  exact hret _ _ _ _ _ _ _ ⟨Option.some.inj h, rfl, rfl⟩ B dX4_two_216
                                                · refine lv_iconst (v := 1) hx hb dX4_two_211 (by decide) ?_
                                                  refine lv_goto (tgt := 216) hx hb dX4_two_212 (by decide) ?_
                                                  exact hret _ _ _ _ _ _ _ ⟨Option.some.inj h, rfl, rfl⟩ B dX4_two_216
                                            · rcases g_if h with ⟨he, h⟩ | ⟨_, h⟩
                                              · refine lv_tableIn (off := 202) (tgt := 203) hx hb dX4_two_1 (by rw [he]; decide) (by rw [he]; decide) (by rw [he]; rfl) (by decide) ?_
                                                refine lv_iload_n hx hb dX4_two_203 rfl (lv_at hL 1 rfl) ?_
                                                refine gg_if_ne hx hb 211 h dX4_two_204 (by decide) (fun h => ?_) (fun h => ?_)
                                                · refine lv_iconst (v := 1) hx hb dX4_two_211 (by decide) ?_
                                                  refine lv_goto (tgt := 216) hx hb dX4_two_212 (by decide) ?_
                                                  exact hret _ _ _ _ _ _ _ ⟨Option.some.inj h, rfl, rfl⟩ B dX4_two_216
                                                · refine lv_iload_n hx hb dX4_two_207 rfl (lv_at hL 2 rfl) ?_
                                                  refine gg_if_eq hx hb 215 h dX4_two_208 (by decide) (fun h => ?_) (fun h => ?_)
                                                  · refine lv_iconst (v := 0) hx hb dX4_two_215 (by decide) ?_
                                                    exact hret _ _ _ _ _ _ _ ⟨Option.some.inj h, rfl, rfl⟩ B dX4_two_216
                                                  · refine lv_iconst (v := 1) hx hb dX4_two_211 (by decide) ?_
                                                    refine lv_goto (tgt := 216) hx hb dX4_two_212 (by decide) ?_
                                                    exact hret _ _ _ _ _ _ _ ⟨Option.some.inj h, rfl, rfl⟩ B dX4_two_216
                                              · rcases g_if h with ⟨he, h⟩ | ⟨_, h⟩
                                                · refine lv_tableIn (off := 202) (tgt := 203) hx hb dX4_two_1 (by rw [he]; decide) (by rw [he]; decide) (by rw [he]; rfl) (by decide) ?_
                                                  refine lv_iload_n hx hb dX4_two_203 rfl (lv_at hL 1 rfl) ?_
                                                  refine gg_if_ne hx hb 211 h dX4_two_204 (by decide) (fun h => ?_) (fun h => ?_)
                                                  · refine lv_iconst (v := 1) hx hb dX4_two_211 (by decide) ?_
                                                    refine lv_goto (tgt := 216) hx hb dX4_two_212 (by decide) ?_
                                                    exact hret _ _ _ _ _ _ _ ⟨Option.some.inj h, rfl, rfl⟩ B dX4_two_216
                                                  · refine lv_iload_n hx hb dX4_two_207 rfl (lv_at hL 2 rfl) ?_
                                                    refine gg_if_eq hx hb 215 h dX4_two_208 (by decide) (fun h => ?_) (fun h => ?_)
                                                    · refine lv_iconst (v := 0) hx hb dX4_two_215 (by decide) ?_
                                                      exact hret _ _ _ _ _ _ _ ⟨Option.some.inj h, rfl, rfl⟩ B dX4_two_216
                                                    · refine lv_iconst (v := 1) hx hb dX4_two_211 (by decide) ?_
                                                      refine lv_goto (tgt := 216) hx hb dX4_two_212 (by decide) ?_
                                                      exact hret _ _ _ _ _ _ _ ⟨Option.some.inj h, rfl, rfl⟩ B dX4_two_216
                                                · rcases g_if h with ⟨he, h⟩ | ⟨_, h⟩
                                                  · refine lv_tableIn (off := 155) (tgt := 156) hx hb dX4_two_1 (by rw [he]; decide) (by rw [he]; decide) (by rw [he]; rfl) (by decide) ?_
                                                    refine lv_iload_n hx hb dX4_two_156 rfl (lv_at hL 1 rfl) ?_
                                                    refine lv_iload_n hx hb dX4_two_157 rfl (lv_at hL 2 rfl) ?_
                                                    refine gg_icmp_ge hx hb 165 h dX4_two_158 (by decide) (fun h => ?_) (fun h => ?_)
                                                    · refine lv_iconst (v := 0) hx hb dX4_two_165 (by decide) ?_
                                                      exact hret _ _ _ _ _ _ _ ⟨Option.some.inj h, rfl, rfl⟩ B dX4_two_166
                                                    · refine lv_iconst (v := 1) hx hb dX4_two_161 (by decide) ?_
                                                      refine lv_goto (tgt := 166) hx hb dX4_two_162 (by decide) ?_
                                                      exact hret _ _ _ _ _ _ _ ⟨Option.some.inj h, rfl, rfl⟩ B dX4_two_166
                                                  · rcases g_if h with ⟨he, h⟩ | ⟨_, h⟩
                                                    · refine lv_tableIn (off := 177) (tgt := 178) hx hb dX4_two_1 (by rw [he]; decide) (by rw [he]; decide) (by rw [he]; rfl) (by decide) ?_
                                                      refine lv_iload_n hx hb dX4_two_178 rfl (lv_at hL 1 rfl) ?_
                                                      refine lv_iload_n hx hb dX4_two_179 rfl (lv_at hL 2 rfl) ?_
                                                      refine gg_icmp_ne hx hb 187 h dX4_two_180 (by decide) (fun h => ?_) (fun h => ?_)
                                                      · refine lv_iconst (v := 0) hx hb dX4_two_187 (by decide) ?_
                                                        exact hret _ _ _ _ _ _ _ ⟨Option.some.inj h, rfl, rfl⟩ B dX4_two_188
                                                      · refine lv_iconst (v := 1) hx hb dX4_two_183 (by decide) ?_
                                                        refine lv_goto (tgt := 188) hx hb dX4_two_184 (by decide) ?_
                                                        exact hret _ _ _ _ _ _ _ ⟨Option.some.inj h, rfl, rfl⟩ B dX4_two_188
                                                    · rcases g_if h with ⟨he, h⟩ | ⟨_, h⟩
                                                      · refine lv_tableIn (off := 166) (tgt := 167) hx hb dX4_two_1 (by rw [he]; decide) (by rw [he]; decide) (by rw [he]; rfl) (by decide) ?_
                                                        refine lv_iload_n hx hb dX4_two_167 rfl (lv_at hL 1 rfl) ?_
                                                        refine lv_iload_n hx hb dX4_two_168 rfl (lv_at hL 2 rfl) ?_
                                                        refine gg_icmp_le hx hb 176 h dX4_two_169 (by decide) (fun h => ?_) (fun h => ?_)
                                                        · refine lv_iconst (v := 0) hx hb dX4_two_176 (by decide) ?_
                                                          exact hret _ _ _ _ _ _ _ ⟨Option.some.inj h, rfl, rfl⟩ B dX4_two_177
                                                        · refine lv_iconst (v := 1) hx hb dX4_two_172 (by decide) ?_
                                                          refine lv_goto (tgt := 177) hx hb dX4_two_173 (by decide) ?_
                                                          exact hret _ _ _ _ _ _ _ ⟨Option.some.inj h, rfl, rfl⟩ B dX4_two_177
                                                      · cases h
theorem k_X4_two {p : Program} {l : Launch} {e : Env} {R : Room} {s : State} {m : MethodId} {args : Array Value} {below : List Frame} {meth : Method} {c : Code} {H : Heap} {locs : List Loc} {Q : State → Prop} {pc : Nat} {ls : Array Slot} {rest : List Value} {cc : ByteArray} {nL : Nat} {D : va_G} {cA : Nat → ClassId} {ad : Nat → Nat} {A : Nat → Prop} {gi : GI} {gl : GL} {α : Type} {r : α} {x0 : Int32} {x1 : Int32} {x2 : Int32} {ff : Int32 → Option α} (C : CallFix p m c cc nL s args lw_all RX4) (B : MB D cA ad A s gi gl H locs) (hF : 1 ≤ R.frames) (hN : 22 ≤ R.locals) (hs : ls.size = nL) (hw : (rest.map fun v => v.category).sum ≤ 8) (h : (f_X4_two gi x0 x1 x2).bind ff = some r) (hdg : decode cc pc = .ok (.invokestatic 394, 3)) (kk : ∀ q, ff q = some r → ∀ (H' : Heap) (locs' : List Loc), MB D cA ad A s gi gl H' locs' → W p l e R s m args below meth c H' locs' 0 0 Q (F0 m (pc + 3) ls (.int q :: rest))) : W p l e R s m args below meth c H locs 0 0 Q (F0 m pc ls (.int x2 :: .int x1 :: .int x0 :: rest)) := by
  obtain ⟨q, h1, h2⟩ := g_ob h
  refine mm_cSI (As := [.int x0, .int x1, .int x2]) (rest := rest) (n := 3) C B (fun sz => w_X4_two l D cA ad gi gl x0 x1 x2 q h1 sz) q2143 q2144 q150 q2145 (by decide +kernel) ⟨hF, hN⟩ rfl hs hw hdg (fun v u H9 locs9 hp B9 => ?_)
  obtain ⟨e1, e2, e3⟩ := hp
  rw [e2] at B9
  rw [e3] at B9
  subst e1
  exact kk _ h2 H9 locs9 B9
def f_X4_comes_l12 (x1l12 : Int32) (x2l12 : Int32) (gil12 : GI) : Option ((Int32 × Int32 × GI) ⊕ (GI)) :=
  (g_ld gil12 22 2 (gil12 0 41)).bind fun v2 =>
  if v2 ≤ x2l12 then
  (some (.inr gil12))
  else
  ((g_ld gil12 28 1120 x2l12).bind fun v3 =>
  if v3 = 126 then
  ((g_ld gil12 32 60 (x1l12 - 1)).bind fun v12 =>
  if v12 = 0 then
  ((g_st gil12 32 60 (x1l12 - 1) 1).bind fun gi14 =>
  some (.inl ((x1l12, x2l12 + 1, gi14))))
  else
  ((g_st gil12 32 60 (x1l12 - 1) 0).bind fun gi13 =>
  some (.inl ((x1l12, x2l12 + 1, gi13)))))
  else
  ((f_X4_isLetter gil12 v3).bind fun q4 =>
  if q4 = 0 then
  ((g_ld gil12 32 60 ((x1l12 + (-1)) - 1)).bind fun v5 =>
  (g_ld gil12 32 60 (x1l12 + (-1))).bind fun v6 =>
  (f_X4_two gil12 v3 v5 v6).bind fun q7 =>
  (g_st gil12 32 60 ((x1l12 + (-1)) - 1) q7).bind fun gi8 =>
  some (.inl ((x1l12 + (-1), x2l12 + 1, gi8))))
  else
  ((g_ld gil12 29 1120 x2l12).bind fun v9 =>
  (f_X4_asked gil12 v3 v9).bind fun q10 =>
  (g_st gil12 32 60 x1l12 q10).bind fun gi11 =>
  some (.inl ((x1l12 + 1, x2l12 + 1, gi11))))))
def f_X4_comes_x12 (gie12 : GI) : Option (Int32 × GI) :=
  (g_ld gie12 32 60 0).bind fun v15 =>
  some (v15, gie12)
def f_X4_comes (gi : GI)  : Option (Int32 × GI) :=
  (g_ld gi 21 2 (gi 0 41)).bind fun v1 =>
  (g_loop g_K (fun (s : Int32 × Int32 × GI) => f_X4_comes_l12 s.1 s.2.1 s.2.2) (0, v1, gi)).bind fun E12 => f_X4_comes_x12 E12
set_option maxHeartbeats 400000 in
theorem w_X4_comes (l : Launch) (D : va_G) (cA : Nat → ClassId) (ad : Nat → Nat) (gi : GI) (gl : GL)  (r : Int32 × GI) (h : f_X4_comes gi  = some r) (sz : Nat) : Met l yX4_comes (ws_ yX4_comes cX4_comes 4 (some .int)) ({ frames := 2, cells := 0, slots := 0, locals := 44 } : Room) (va_Pc [.ref (ad 0)] (MPre D cA ad gi gl sz)) (va_Qi (fun v u => (v, u.1) = r ∧ u.2 = gl) (MPost D cA ad) (MA ad sz)) 0 0 (MA ad sz) := by
  refine mm_stI (by decide +kernel) rfl (Nat.le_of_ble_eq_true rfl) (fun p e s m args below meth c R Q A ls C hF hN B hret hL => ?_) sz
  have hx := C.1
  have hb := C.2.1
  have hL : lv_has ls 4 [(0, .ref (ad 0))] := hL
  unfold f_X4_comes at h
  refine lv_iconst (v := 0) hx hb dX4_comes_0 (by decide) ?_
  refine lv_istore_n (lv' := [(1, .int 0), (0, .ref (ad 0))]) hx hb dX4_comes_1 rfl hL (by decide) rfl (fun ls hL => ?_)
  refine lv_aload_n hx hb dX4_comes_2 rfl (lv_at hL 1 rfl) ?_
  refine mg_29 C B dX4_comes_3 ?_
  refine lv_aload_n hx hb dX4_comes_6 rfl (lv_at hL 1 rfl) ?_
  refine mg_41 C B dX4_comes_7 ?_
  refine mm_iald C B (a := 21) (n := 2) (Nat.le_of_ble_eq_true rfl) rfl h dX4_comes_10 (fun v1 h => ?_)
  refine lv_istore_n (lv' := [(2, .int v1), (1, .int 0), (0, .ref (ad 0))]) hx hb dX4_comes_11 rfl hL (by decide) rfl (fun ls hL => ?_)
  obtain ⟨E12, h812, h⟩ := g_ob h
  have kx12 : ∀ (gie12 : GI) (H : Heap) (locs : List Loc) (ls : Array Slot), gie12 = E12 → MB D cA ad A s gie12 gl H locs → lv_has ls 4 [(0, .ref (ad 0))] → W p l e R s m args below meth c H locs 0 0 Q (F0 m 130 ls []) := by
    intro gie12 H locs ls he B hL
    subst he
    have h : f_X4_comes_x12 gie12 = some r := h
    unfold f_X4_comes_x12 at h
    refine lv_aload_n hx hb dX4_comes_130 rfl (lv_at hL 0 rfl) ?_
    refine mg_40 C B dX4_comes_131 ?_
    refine lv_iconst (v := 0) hx hb dX4_comes_134 (by decide) ?_
    refine mm_iald C B (a := 32) (n := 60) (Nat.le_of_ble_eq_true rfl) rfl h dX4_comes_135 (fun v15 h => ?_)
    exact hret _ _ _ _ _ _ _ ⟨Option.some.inj h, rfl⟩ B dX4_comes_136
  have hl12 : ∀ (k : Nat) (x1l12 : Int32) (x2l12 : Int32) (gil12 : GI) (H : Heap) (locs : List Loc) (ls : Array Slot), g_loop k (fun (s : Int32 × Int32 × GI) => f_X4_comes_l12 s.1 s.2.1 s.2.2) (x1l12, x2l12, gil12) = some E12 → MB D cA ad A s gil12 gl H locs → lv_has ls 4 [(0, .ref (ad 0)), (1, .int x1l12), (2, .int x2l12)] → W p l e R s m args below meth c H locs 0 0 Q (F0 m 12 ls []) := by
    intro k
    induction k with
    | zero => intro x1l12 x2l12 gil12 H locs ls h; exact absurd h (fun z => g_loop_0 z)
    | succ k ih12 =>
      intro x1l12 x2l12 gil12 H locs ls h B hL
      obtain ⟨Z12, h, h912⟩ := g_loop_s h
      have h : f_X4_comes_l12 x1l12 x2l12 gil12 = some Z12 := h
      unfold f_X4_comes_l12 at h
      refine lv_iload_n hx hb dX4_comes_12 rfl (lv_at hL 2 rfl) ?_
      refine lv_aload_n hx hb dX4_comes_13 rfl (lv_at hL 0 rfl) ?_
      refine mg_30 C B dX4_comes_14 ?_
      refine lv_aload_n hx hb dX4_comes_17 rfl (lv_at hL 0 rfl) ?_
      refine mg_41 C B dX4_comes_18 ?_
      refine mm_iald C B (a := 22) (n := 2) (Nat.le_of_ble_eq_true rfl) rfl h dX4_comes_21 (fun v2 h => ?_)
      refine gg_icmp_ge hx hb 130 h dX4_comes_22 (by decide) (fun h => ?_) (fun h => ?_)
      · exact kx12 _ _ _ _ (g_exit h h912) B (lv_sub hL [0] rfl)
      · refine lv_aload_n hx hb dX4_comes_25 rfl (lv_at hL 0 rfl) ?_
        refine mg_36 C B dX4_comes_26 ?_
        refine lv_iload_n hx hb dX4_comes_29 rfl (lv_at hL 2 rfl) ?_
        refine mm_iald C B (a := 28) (n := 1120) (Nat.le_of_ble_eq_true rfl) rfl h dX4_comes_30 (fun v3 h => ?_)
        refine lv_istore_n (lv' := [(3, .int v3), (0, .ref (ad 0)), (1, .int x1l12), (2, .int x2l12)]) hx hb dX4_comes_31 rfl hL (by decide) rfl (fun ls hL => ?_)
        refine lv_iload_n hx hb dX4_comes_32 rfl (lv_at hL 0 rfl) ?_
        refine lv_bipush (v := 126) hx hb dX4_comes_33 (by decide) ?_
        refine gg_icmp_ne hx hb 65 h dX4_comes_35 (by decide) (fun h => ?_) (fun h => ?_)
        · refine lv_iload_n hx hb dX4_comes_65 rfl (lv_at hL 0 rfl) ?_
          refine k_X4_isLetter C B (Nat.le_trans (Nat.le_of_ble_eq_true rfl) hF) (Nat.le_trans (Nat.le_of_ble_eq_true rfl) hN) hL.1 (Nat.le_of_ble_eq_true rfl) h dX4_comes_66 (fun q4 h H locs B => ?_)
          refine gg_if_eq hx hb 95 h dX4_comes_69 (by decide) (fun h => ?_) (fun h => ?_)
          · refine lv_iinc (v := x1l12 + (-1)) (lv' := [(1, .int (x1l12 + (-1))), (3, .int v3), (0, .ref (ad 0)), (2, .int x2l12)]) hx hb dX4_comes_95 hL (k := 2) rfl rfl (by decide) rfl (fun ls hL => ?_)
            refine lv_aload_n hx hb dX4_comes_98 rfl (lv_at hL 2 rfl) ?_
            refine mg_40 C B dX4_comes_99 ?_
            refine lv_iload_n hx hb dX4_comes_102 rfl (lv_at hL 0 rfl) ?_
            refine lv_iconst (v := 1) hx hb dX4_comes_103 (by decide) ?_
            refine lv_isub hx hb dX4_comes_104 ?_
            refine lv_iload_n hx hb dX4_comes_105 rfl (lv_at hL 1 rfl) ?_
            refine lv_aload_n hx hb dX4_comes_106 rfl (lv_at hL 2 rfl) ?_
            refine mg_40 C B dX4_comes_107 ?_
            refine lv_iload_n hx hb dX4_comes_110 rfl (lv_at hL 0 rfl) ?_
            refine lv_iconst (v := 1) hx hb dX4_comes_111 (by decide) ?_
            refine lv_isub hx hb dX4_comes_112 ?_
            refine mm_iald C B (a := 32) (n := 60) (Nat.le_of_ble_eq_true rfl) rfl h dX4_comes_113 (fun v5 h => ?_)
            refine lv_aload_n hx hb dX4_comes_114 rfl (lv_at hL 2 rfl) ?_
            refine mg_40 C B dX4_comes_115 ?_
            refine lv_iload_n hx hb dX4_comes_118 rfl (lv_at hL 0 rfl) ?_
            refine mm_iald C B (a := 32) (n := 60) (Nat.le_of_ble_eq_true rfl) rfl h dX4_comes_119 (fun v6 h => ?_)
            refine k_X4_two C B (Nat.le_trans (Nat.le_of_ble_eq_true rfl) hF) (Nat.le_trans (Nat.le_of_ble_eq_true rfl) hN) hL.1 (Nat.le_of_ble_eq_true rfl) h dX4_comes_120 (fun q7 h H locs B => ?_)
            refine mm_iast C B (a := 32) (n := 60) (Nat.le_of_ble_eq_true rfl) rfl h dX4_comes_123 (fun gi8 h H locs B => ?_)
            refine lv_iinc (v := x2l12 + 1) (lv' := [(2, .int (x2l12 + 1)), (1, .int (x1l12 + (-1))), (3, .int v3), (0, .ref (ad 0))]) hx hb dX4_comes_124 hL (k := 3) rfl rfl (by decide) rfl (fun ls hL => ?_)
            refine lv_goto (tgt := 12) hx hb dX4_comes_127 (by decide) ?_
            exact ih12 _ _ _ _ _ _ (g_next h h912) B (lv_sub hL [3, 1, 0] rfl)
          · refine lv_aload_n hx hb dX4_comes_72 rfl (lv_at hL 1 rfl) ?_
            refine mg_40 C B dX4_comes_73 ?_
            refine lv_iload_n hx hb dX4_comes_76 rfl (lv_at hL 2 rfl) ?_
            refine lv_aload_n hx hb dX4_comes_77 rfl (lv_at hL 1 rfl) ?_
            refine lv_iload_n hx hb dX4_comes_78 rfl (lv_at hL 0 rfl) ?_
            refine lv_aload_n hx hb dX4_comes_79 rfl (lv_at hL 1 rfl) ?_
            refine mg_37 C B dX4_comes_80 ?_
            refine lv_iload_n hx hb dX4_comes_83 rfl (lv_at hL 3 rfl) ?_
            refine mm_iald C B (a := 29) (n := 1120) (Nat.le_of_ble_eq_true rfl) rfl h dX4_comes_84 (fun v9 h => ?_)
            refine k_X4_asked C B (Nat.le_trans (Nat.le_of_ble_eq_true rfl) hF) (Nat.le_trans (Nat.le_of_ble_eq_true rfl) hN) hL.1 (Nat.le_of_ble_eq_true rfl) h dX4_comes_85 (fun q10 h H locs B => ?_)
            refine mm_iast C B (a := 32) (n := 60) (Nat.le_of_ble_eq_true rfl) rfl h dX4_comes_88 (fun gi11 h H locs B => ?_)
            refine lv_iinc (v := x1l12 + 1) (lv' := [(1, .int (x1l12 + 1)), (3, .int v3), (0, .ref (ad 0)), (2, .int x2l12)]) hx hb dX4_comes_89 hL (k := 2) rfl rfl (by decide) rfl (fun ls hL => ?_)
            refine lv_goto (tgt := 124) hx hb dX4_comes_92 (by decide) ?_
            refine lv_iinc (v := x2l12 + 1) (lv' := [(2, .int (x2l12 + 1)), (1, .int (x1l12 + 1)), (3, .int v3), (0, .ref (ad 0))]) hx hb dX4_comes_124 hL (k := 3) rfl rfl (by decide) rfl (fun ls hL => ?_)
            refine lv_goto (tgt := 12) hx hb dX4_comes_127 (by decide) ?_
            exact ih12 _ _ _ _ _ _ (g_next h h912) B (lv_sub hL [3, 1, 0] rfl)
        · refine lv_aload_n hx hb dX4_comes_38 rfl (lv_at hL 1 rfl) ?_
          refine mg_40 C B dX4_comes_39 ?_
          refine lv_iload_n hx hb dX4_comes_42 rfl (lv_at hL 2 rfl) ?_
          refine lv_iconst (v := 1) hx hb dX4_comes_43 (by decide) ?_
          refine lv_isub hx hb dX4_comes_44 ?_
          refine lv_aload_n hx hb dX4_comes_45 rfl (lv_at hL 1 rfl) ?_
          refine mg_40 C B dX4_comes_46 ?_
          refine lv_iload_n hx hb dX4_comes_49 rfl (lv_at hL 2 rfl) ?_
          refine lv_iconst (v := 1) hx hb dX4_comes_50 (by decide) ?_
          refine lv_isub hx hb dX4_comes_51 ?_
          refine mm_iald C B (a := 32) (n := 60) (Nat.le_of_ble_eq_true rfl) rfl h dX4_comes_52 (fun v12 h => ?_)
          refine gg_if_ne hx hb 60 h dX4_comes_53 (by decide) (fun h => ?_) (fun h => ?_)
          · refine lv_iconst (v := 0) hx hb dX4_comes_60 (by decide) ?_
            refine mm_iast C B (a := 32) (n := 60) (Nat.le_of_ble_eq_true rfl) rfl h dX4_comes_61 (fun gi13 h H locs B => ?_)
            refine lv_goto (tgt := 124) hx hb dX4_comes_62 (by decide) ?_
            refine lv_iinc (v := x2l12 + 1) (lv' := [(2, .int (x2l12 + 1)), (3, .int v3), (0, .ref (ad 0)), (1, .int x1l12)]) hx hb dX4_comes_124 hL (k := 3) rfl rfl (by decide) rfl (fun ls hL => ?_)
            refine lv_goto (tgt := 12) hx hb dX4_comes_127 (by decide) ?_
            exact ih12 _ _ _ _ _ _ (g_next h h912) B (lv_sub hL [2, 3, 0] rfl)
          · refine lv_iconst (v := 1) hx hb dX4_comes_56 (by decide) ?_
            refine lv_goto (tgt := 61) hx hb dX4_comes_57 (by decide) ?_
            refine mm_iast C B (a := 32) (n := 60) (Nat.le_of_ble_eq_true rfl) rfl h dX4_comes_61 (fun gi14 h H locs B => ?_)
            refine lv_goto (tgt := 124) hx hb dX4_comes_62 (by decide) ?_
            refine lv_iinc (v := x2l12 + 1) (lv' := [(2, .int (x2l12 + 1)), (3, .int v3), (0, .ref (ad 0)), (1, .int x1l12)]) hx hb dX4_comes_124 hL (k := 3) rfl rfl (by decide) rfl (fun ls hL => ?_)
            refine lv_goto (tgt := 12) hx hb dX4_comes_127 (by decide) ?_
            exact ih12 _ _ _ _ _ _ (g_next h h912) B (lv_sub hL [2, 3, 0] rfl)
  exact hl12 g_K _ _ _ _ _ _ h812 B (lv_sub hL [2, 1, 0] rfl)
theorem k_X4_comes {p : Program} {l : Launch} {e : Env} {R : Room} {s : State} {m : MethodId} {args : Array Value} {below : List Frame} {meth : Method} {c : Code} {H : Heap} {locs : List Loc} {Q : State → Prop} {pc : Nat} {ls : Array Slot} {rest : List Value} {cc : ByteArray} {nL : Nat} {D : va_G} {cA : Nat → ClassId} {ad : Nat → Nat} {A : Nat → Prop} {gi : GI} {gl : GL} {α : Type} {r : α}  {ff : (Int32 × GI) → Option α} (C : CallFix p m c cc nL s args lw_all RX4) (B : MB D cA ad A s gi gl H locs) (hF : 3 ≤ R.frames) (hN : 67 ≤ R.locals) (hs : ls.size = nL) (hw : (rest.map fun v => v.category).sum ≤ 8) (h : (f_X4_comes gi ).bind ff = some r) (hdg : decode cc pc = .ok (.invokevirtual 417, 3)) (kk : ∀ q, ff q = some r → ∀ (H' : Heap) (locs' : List Loc), MB D cA ad A s q.2 gl H' locs' → W p l e R s m args below meth c H' locs' 0 0 Q (F0 m (pc + 3) ls (.int q.1 :: rest))) : W p l e R s m args below meth c H locs 0 0 Q (F0 m pc ls (.ref (ad 0) :: rest)) := by
  obtain ⟨q, h1, h2⟩ := g_ob h
  refine mm_cVI (As := []) (rest := rest) (n := 0) C B (fun sz => w_X4_comes l D cA ad gi gl  q h1 sz) q2135 q2137 qs102 q150 q2138 (by decide +kernel) ⟨hF, hN⟩ rfl hs hw hdg (fun v u H9 locs9 hp B9 => ?_)
  obtain ⟨e1, e3⟩ := hp
  rw [e3] at B9
  subst e1
  exact kk _ h2 H9 locs9 B9
def f_X4_growthOf_l4 (gii4 : GI) (x1i4 : Int32) (x2l4 : Int32) (x3l4 : Int32) : Option ((Int32 × Int32) ⊕ (Int32)) :=
  if 3 ≤ x3l4 then
  (some (.inr x2l4))
  else
  ((f_X4_overOf gii4 x1i4 x3l4).bind fun q1 =>
  some (.inl ((x2l4 + q1, x3l4 + 1))))
def f_X4_growthOf_j46 (gij46 : GI) (x2j46 : Int32) : Option (Int32 × GI) :=
  if x2j46 ≤ 20 then
  (if ((-20)) ≤ x2j46 then
  (some (x2j46, gij46))
  else
  (some ((-20), gij46)))
  else
  (some (20, gij46))
def f_X4_growthOf_x4 (giy4 : GI) (x1y4 : Int32) (x2e4 : Int32) : Option (Int32 × GI) :=
  (g_ld giy4 23 2 (giy4 0 41)).bind fun v2 =>
  if v2 = 0 then
  (f_X4_growthOf_j46 giy4 x2e4)
  else
  ((some (g_pi giy4 0 47 x1y4)).bind fun gi3 =>
  (f_X4_comes gi3 ).bind fun q4 =>
  f_X4_growthOf_j46 q4.2 q4.1)
def f_X4_growthOf (gi : GI) (x1 : Int32) : Option (Int32 × GI) :=
  (g_loop g_K (fun (s : Int32 × Int32) => f_X4_growthOf_l4 gi x1 s.1 s.2) (0, 0)).bind fun E4 => f_X4_growthOf_x4 gi x1 E4
set_option maxHeartbeats 400000 in
theorem w_X4_growthOf (l : Launch) (D : va_G) (cA : Nat → ClassId) (ad : Nat → Nat) (gi : GI) (gl : GL) (x1 : Int32) (r : Int32 × GI) (h : f_X4_growthOf gi x1 = some r) (sz : Nat) : Met l yX4_growthOf (ws_ yX4_growthOf cX4_growthOf 4 (some .int)) ({ frames := 3, cells := 0, slots := 0, locals := 67 } : Room) (va_Pc [.ref (ad 0), .int x1] (MPre D cA ad gi gl sz)) (va_Qi (fun v u => (v, u.1) = r ∧ u.2 = gl) (MPost D cA ad) (MA ad sz)) 0 0 (MA ad sz) := by
  refine mm_stI (by decide +kernel) rfl (Nat.le_of_ble_eq_true rfl) (fun p e s m args below meth c R Q A ls C hF hN B hret hL => ?_) sz
  have hx := C.1
  have hb := C.2.1
  have hL : lv_has ls 4 [(0, .ref (ad 0)), (1, .int x1)] := hL
  unfold f_X4_growthOf at h
  have hj46 : ∀ (gij46 : GI) (x2j46 : Int32) (H : Heap) (locs : List Loc) (ls : Array Slot), f_X4_growthOf_j46 gij46 x2j46 = some r → MB D cA ad A s gij46 gl H locs → lv_has ls 4 [(2, .int x2j46)] → W p l e R s m args below meth c H locs 0 0 Q (F0 m 46 ls []) := by
    intro gij46 x2j46 H locs ls h B hL
    unfold f_X4_growthOf_j46 at h
    refine lv_iload_n hx hb dX4_growthOf_46 rfl (lv_at hL 0 rfl) ?_
    refine lv_bipush (v := 20) hx hb dX4_growthOf_47 (by decide) ?_
    refine gg_icmp_le hx hb 57 h dX4_growthOf_49 (by decide) (fun h => ?_) (fun h => ?_)
    · refine lv_iload_n hx hb dX4_growthOf_57 rfl (lv_at hL 0 rfl) ?_
      refine lv_bipush (v := (-20)) hx hb dX4_growthOf_58 (by decide) ?_
      refine gg_icmp_ge hx hb 68 h dX4_growthOf_60 (by decide) (fun h => ?_) (fun h => ?_)
      · refine lv_iload_n hx hb dX4_growthOf_68 rfl (lv_at hL 0 rfl) ?_
        exact hret _ _ _ _ _ _ _ ⟨Option.some.inj h, rfl⟩ B dX4_growthOf_69
      · refine lv_bipush (v := (-20)) hx hb dX4_growthOf_63 (by decide) ?_
        refine lv_goto (tgt := 69) hx hb dX4_growthOf_65 (by decide) ?_
        exact hret _ _ _ _ _ _ _ ⟨Option.some.inj h, rfl⟩ B dX4_growthOf_69
    · refine lv_bipush (v := 20) hx hb dX4_growthOf_52 (by decide) ?_
      refine lv_goto (tgt := 69) hx hb dX4_growthOf_54 (by decide) ?_
      exact hret _ _ _ _ _ _ _ ⟨Option.some.inj h, rfl⟩ B dX4_growthOf_69
  refine lv_iconst (v := 0) hx hb dX4_growthOf_0 (by decide) ?_
  refine lv_istore_n (lv' := [(2, .int 0), (0, .ref (ad 0)), (1, .int x1)]) hx hb dX4_growthOf_1 rfl hL (by decide) rfl (fun ls hL => ?_)
  refine lv_iconst (v := 0) hx hb dX4_growthOf_2 (by decide) ?_
  refine lv_istore_n (lv' := [(3, .int 0), (2, .int 0), (0, .ref (ad 0)), (1, .int x1)]) hx hb dX4_growthOf_3 rfl hL (by decide) rfl (fun ls hL => ?_)
  obtain ⟨E4, h84, h⟩ := g_ob h
  have kx4 : ∀ (x2e4 : Int32) (H : Heap) (locs : List Loc) (ls : Array Slot), x2e4 = E4 → MB D cA ad A s gi gl H locs → lv_has ls 4 [(0, .ref (ad 0)), (1, .int x1), (2, .int x2e4)] → W p l e R s m args below meth c H locs 0 0 Q (F0 m 24 ls []) := by
    intro x2e4 H locs ls he B hL
    subst he
    have h : f_X4_growthOf_x4 gi x1 x2e4 = some r := h
    unfold f_X4_growthOf_x4 at h
    refine lv_aload_n hx hb dX4_growthOf_24 rfl (lv_at hL 0 rfl) ?_
    refine mg_31 C B dX4_growthOf_25 ?_
    refine lv_aload_n hx hb dX4_growthOf_28 rfl (lv_at hL 0 rfl) ?_
    refine mg_41 C B dX4_growthOf_29 ?_
    refine mm_zald C B (a := 23) (n := 2) (Nat.le_of_ble_eq_true rfl) rfl h dX4_growthOf_32 (fun v2 h => ?_)
    refine gg_if_eq hx hb 46 h dX4_growthOf_33 (by decide) (fun h => ?_) (fun h => ?_)
    · exact hj46 _ _ _ _ _ h B (lv_sub hL [2] rfl)
    · refine lv_aload_n hx hb dX4_growthOf_36 rfl (lv_at hL 0 rfl) ?_
      refine lv_iload_n hx hb dX4_growthOf_37 rfl (lv_at hL 1 rfl) ?_
      refine mp_47 C B h dX4_growthOf_38 (fun gi3 h H locs B => ?_)
      refine lv_aload_n hx hb dX4_growthOf_41 rfl (lv_at hL 0 rfl) ?_
      refine k_X4_comes C B (Nat.le_trans (Nat.le_of_ble_eq_true rfl) hF) (Nat.le_trans (Nat.le_of_ble_eq_true rfl) hN) hL.1 (Nat.le_of_ble_eq_true rfl) h dX4_growthOf_42 (fun q4 h H locs B => ?_)
      refine lv_istore_n (lv' := [(2, .int q4.1), (0, .ref (ad 0)), (1, .int x1)]) hx hb dX4_growthOf_45 rfl hL (by decide) rfl (fun ls hL => ?_)
      exact hj46 _ _ _ _ _ h B (lv_sub hL [0] rfl)
  have hl4 : ∀ (k : Nat) (x2l4 : Int32) (x3l4 : Int32) (H : Heap) (locs : List Loc) (ls : Array Slot), g_loop k (fun (s : Int32 × Int32) => f_X4_growthOf_l4 gi x1 s.1 s.2) (x2l4, x3l4) = some E4 → MB D cA ad A s gi gl H locs → lv_has ls 4 [(0, .ref (ad 0)), (1, .int x1), (2, .int x2l4), (3, .int x3l4)] → W p l e R s m args below meth c H locs 0 0 Q (F0 m 4 ls []) := by
    intro k
    induction k with
    | zero => intro x2l4 x3l4 H locs ls h; exact absurd h (fun z => g_loop_0 z)
    | succ k ih4 =>
      intro x2l4 x3l4 H locs ls h B hL
      obtain ⟨Z4, h, h94⟩ := g_loop_s h
      have h : f_X4_growthOf_l4 gi x1 x2l4 x3l4 = some Z4 := h
      unfold f_X4_growthOf_l4 at h
      refine lv_iload_n hx hb dX4_growthOf_4 rfl (lv_at hL 3 rfl) ?_
      refine lv_iconst (v := 3) hx hb dX4_growthOf_5 (by decide) ?_
      refine gg_icmp_ge hx hb 24 h dX4_growthOf_6 (by decide) (fun h => ?_) (fun h => ?_)
      · exact kx4 _ _ _ _ (g_exit h h94) B (lv_sub hL [0, 1, 2] rfl)
      · refine lv_iload_n hx hb dX4_growthOf_9 rfl (lv_at hL 2 rfl) ?_
        refine lv_aload_n hx hb dX4_growthOf_10 rfl (lv_at hL 0 rfl) ?_
        refine lv_iload_n hx hb dX4_growthOf_11 rfl (lv_at hL 1 rfl) ?_
        refine lv_iload_n hx hb dX4_growthOf_12 rfl (lv_at hL 3 rfl) ?_
        refine k_X4_overOf C B (Nat.le_trans (Nat.le_of_ble_eq_true rfl) hF) (Nat.le_trans (Nat.le_of_ble_eq_true rfl) hN) hL.1 (Nat.le_of_ble_eq_true rfl) h dX4_growthOf_13 (fun q1 h H locs B => ?_)
        refine lv_iadd hx hb dX4_growthOf_16 ?_
        refine lv_istore_n (lv' := [(2, .int (x2l4 + q1)), (0, .ref (ad 0)), (1, .int x1), (3, .int x3l4)]) hx hb dX4_growthOf_17 rfl hL (by decide) rfl (fun ls hL => ?_)
        refine lv_iinc (v := x3l4 + 1) (lv' := [(3, .int (x3l4 + 1)), (2, .int (x2l4 + q1)), (0, .ref (ad 0)), (1, .int x1)]) hx hb dX4_growthOf_18 hL (k := 3) rfl rfl (by decide) rfl (fun ls hL => ?_)
        refine lv_goto (tgt := 4) hx hb dX4_growthOf_21 (by decide) ?_
        exact ih4 _ _ _ _ _ (g_next h h94) B (lv_sub hL [2, 3, 1, 0] rfl)
  exact hl4 g_K _ _ _ _ _ h84 B (lv_sub hL [2, 3, 1, 0] rfl)
theorem k_X4_growthOf {p : Program} {l : Launch} {e : Env} {R : Room} {s : State} {m : MethodId} {args : Array Value} {below : List Frame} {meth : Method} {c : Code} {H : Heap} {locs : List Loc} {Q : State → Prop} {pc : Nat} {ls : Array Slot} {rest : List Value} {cc : ByteArray} {nL : Nat} {D : va_G} {cA : Nat → ClassId} {ad : Nat → Nat} {A : Nat → Prop} {gi : GI} {gl : GL} {α : Type} {r : α} {x1 : Int32} {ff : (Int32 × GI) → Option α} (C : CallFix p m c cc nL s args lw_all RX4) (B : MB D cA ad A s gi gl H locs) (hF : 4 ≤ R.frames) (hN : 90 ≤ R.locals) (hs : ls.size = nL) (hw : (rest.map fun v => v.category).sum ≤ 8) (h : (f_X4_growthOf gi x1).bind ff = some r) (hdg : decode cc pc = .ok (.invokevirtual 420, 3)) (kk : ∀ q, ff q = some r → ∀ (H' : Heap) (locs' : List Loc), MB D cA ad A s q.2 gl H' locs' → W p l e R s m args below meth c H' locs' 0 0 Q (F0 m (pc + 3) ls (.int q.1 :: rest))) : W p l e R s m args below meth c H locs 0 0 Q (F0 m pc ls (.int x1 :: .ref (ad 0) :: rest)) := by
  obtain ⟨q, h1, h2⟩ := g_ob h
  refine mm_cVI (As := [.int x1]) (rest := rest) (n := 1) C B (fun sz => w_X4_growthOf l D cA ad gi gl x1 q h1 sz) q2127 q2129 qs100 q150 q2130 (by decide +kernel) ⟨hF, hN⟩ rfl hs hw hdg (fun v u H9 locs9 hp B9 => ?_)
  obtain ⟨e1, e3⟩ := hp
  rw [e3] at B9
  subst e1
  exact kk _ h2 H9 locs9 B9
def f_X4_isIn (gi : GI) (x0 : Int32) (x1 : Int32) (x2 : Int32) : Option (Int32) :=
  if x0 < x1 then
  (some 0)
  else
  (if x2 < x0 then
  (some 0)
  else
  (some 1))
set_option maxHeartbeats 400000 in
theorem w_X4_isIn (l : Launch) (D : va_G) (cA : Nat → ClassId) (ad : Nat → Nat) (gi : GI) (gl : GL) (x0 : Int32) (x1 : Int32) (x2 : Int32) (r : Int32) (h : f_X4_isIn gi x0 x1 x2 = some r) (sz : Nat) : Met l yX4_isIn (ws_ yX4_isIn cX4_isIn 3 (some .boolean)) ({ frames := 0, cells := 0, slots := 0, locals := 0 } : Room) (va_Pc [.int x0, .int x1, .int x2] (MPre D cA ad gi gl sz)) (va_Qi (fun v u => v = r ∧ u.1 = gi ∧ u.2 = gl) (MPost D cA ad) (MA ad sz)) 0 0 (MA ad sz) := by
  refine mm_stZ (by decide +kernel) rfl (Nat.le_of_ble_eq_true rfl) (fun p e s m args below meth c R Q A ls C hF hN B hret hL => ?_) sz
  have hx := C.1
  have hb := C.2.1
  have hL : lv_has ls 3 [(0, .int x0), (1, .int x1), (2, .int x2)] := hL
  unfold f_X4_isIn at h
  refine lv_iload_n hx hb dX4_isIn_0 rfl (lv_at hL 0 rfl) ?_
  refine lv_iload_n hx hb dX4_isIn_1 rfl (lv_at hL 1 rfl) ?_
  refine gg_icmp_lt hx hb 14 h dX4_isIn_2 (by decide) (fun h => ?_) (fun h => ?_)
  · refine lv_iconst (v := 0) hx hb dX4_isIn_14 (by decide) ?_
    exact hret _ _ _ _ _ _ _ ⟨Option.some.inj h, rfl, rfl⟩ (Or.inl rfl) B dX4_isIn_15
  · refine lv_iload_n hx hb dX4_isIn_5 rfl (lv_at hL 0 rfl) ?_
    refine lv_iload_n hx hb dX4_isIn_6 rfl (lv_at hL 2 rfl) ?_
    refine gg_icmp_gt hx hb 14 h dX4_isIn_7 (by decide) (fun h => ?_) (fun h => ?_)
    · refine lv_iconst (v := 0) hx hb dX4_isIn_14 (by decide) ?_
      exact hret _ _ _ _ _ _ _ ⟨Option.some.inj h, rfl, rfl⟩ (Or.inl rfl) B dX4_isIn_15
    · refine lv_iconst (v := 1) hx hb dX4_isIn_10 (by decide) ?_
      refine lv_goto (tgt := 15) hx hb dX4_isIn_11 (by decide) ?_
      exact hret _ _ _ _ _ _ _ ⟨Option.some.inj h, rfl, rfl⟩ (Or.inr rfl) B dX4_isIn_15
theorem k_X4_isIn {p : Program} {l : Launch} {e : Env} {R : Room} {s : State} {m : MethodId} {args : Array Value} {below : List Frame} {meth : Method} {c : Code} {H : Heap} {locs : List Loc} {Q : State → Prop} {pc : Nat} {ls : Array Slot} {rest : List Value} {cc : ByteArray} {nL : Nat} {D : va_G} {cA : Nat → ClassId} {ad : Nat → Nat} {A : Nat → Prop} {gi : GI} {gl : GL} {α : Type} {r : α} {x0 : Int32} {x1 : Int32} {x2 : Int32} {ff : Int32 → Option α} (C : CallFix p m c cc nL s args lw_all RX4) (B : MB D cA ad A s gi gl H locs) (hF : 1 ≤ R.frames) (hN : 22 ≤ R.locals) (hs : ls.size = nL) (hw : (rest.map fun v => v.category).sum ≤ 8) (h : (f_X4_isIn gi x0 x1 x2).bind ff = some r) (hdg : decode cc pc = .ok (.invokestatic 401, 3)) (kk : ∀ q, ff q = some r → ∀ (H' : Heap) (locs' : List Loc), MB D cA ad A s gi gl H' locs' → W p l e R s m args below meth c H' locs' 0 0 Q (F0 m (pc + 3) ls (.int q :: rest))) : W p l e R s m args below meth c H locs 0 0 Q (F0 m pc ls (.int x2 :: .int x1 :: .int x0 :: rest)) := by
  obtain ⟨q, h1, h2⟩ := g_ob h
  refine mm_cSI (As := [.int x0, .int x1, .int x2]) (rest := rest) (n := 3) C B (fun sz => w_X4_isIn l D cA ad gi gl x0 x1 x2 q h1 sz) q2123 q2124 q150 q2125 (by decide +kernel) ⟨hF, hN⟩ rfl hs hw hdg (fun v u H9 locs9 hp B9 => ?_)
  obtain ⟨e1, e2, e3⟩ := hp
  rw [e2] at B9
  rw [e3] at B9
  subst e1
  exact kk _ h2 H9 locs9 B9
def f_X4_isMan (gi : GI) (x1 : Int32) : Option (Int32) :=
  (f_X4_many gi ).bind fun q1 =>
  (f_X4_isIn gi x1 0 (q1 - 1)).bind fun q2 =>
  (g_zb q2).bind fun _ =>
  some q2
set_option maxHeartbeats 400000 in
theorem w_X4_isMan (l : Launch) (D : va_G) (cA : Nat → ClassId) (ad : Nat → Nat) (gi : GI) (gl : GL) (x1 : Int32) (r : Int32) (h : f_X4_isMan gi x1 = some r) (sz : Nat) : Met l yX4_isMan (ws_ yX4_isMan cX4_isMan 2 (some .boolean)) ({ frames := 1, cells := 0, slots := 0, locals := 22 } : Room) (va_Pc [.ref (ad 0), .int x1] (MPre D cA ad gi gl sz)) (va_Qi (fun v u => v = r ∧ u.1 = gi ∧ u.2 = gl) (MPost D cA ad) (MA ad sz)) 0 0 (MA ad sz) := by
  refine mm_stZ (by decide +kernel) rfl (Nat.le_of_ble_eq_true rfl) (fun p e s m args below meth c R Q A ls C hF hN B hret hL => ?_) sz
  have hx := C.1
  have hb := C.2.1
  have hL : lv_has ls 2 [(0, .ref (ad 0)), (1, .int x1)] := hL
  unfold f_X4_isMan at h
  refine lv_iload_n hx hb dX4_isMan_0 rfl (lv_at hL 1 rfl) ?_
  refine lv_iconst (v := 0) hx hb dX4_isMan_1 (by decide) ?_
  refine lv_aload_n hx hb dX4_isMan_2 rfl (lv_at hL 0 rfl) ?_
  refine k_X4_many C B (Nat.le_trans (Nat.le_of_ble_eq_true rfl) hF) (Nat.le_trans (Nat.le_of_ble_eq_true rfl) hN) hL.1 (Nat.le_of_ble_eq_true rfl) h dX4_isMan_3 (fun q1 h H locs B => ?_)
  refine lv_iconst (v := 1) hx hb dX4_isMan_6 (by decide) ?_
  refine lv_isub hx hb dX4_isMan_7 ?_
  refine k_X4_isIn C B (Nat.le_trans (Nat.le_of_ble_eq_true rfl) hF) (Nat.le_trans (Nat.le_of_ble_eq_true rfl) hN) hL.1 (Nat.le_of_ble_eq_true rfl) h dX4_isMan_8 (fun q2 h H locs B => ?_)
  refine mm_zb h (fun hz h => ?_)
  exact hret _ _ _ _ _ _ _ ⟨Option.some.inj h, rfl, rfl⟩ hz B dX4_isMan_11
theorem k_X4_isMan {p : Program} {l : Launch} {e : Env} {R : Room} {s : State} {m : MethodId} {args : Array Value} {below : List Frame} {meth : Method} {c : Code} {H : Heap} {locs : List Loc} {Q : State → Prop} {pc : Nat} {ls : Array Slot} {rest : List Value} {cc : ByteArray} {nL : Nat} {D : va_G} {cA : Nat → ClassId} {ad : Nat → Nat} {A : Nat → Prop} {gi : GI} {gl : GL} {α : Type} {r : α} {x1 : Int32} {ff : Int32 → Option α} (C : CallFix p m c cc nL s args lw_all RX4) (B : MB D cA ad A s gi gl H locs) (hF : 2 ≤ R.frames) (hN : 43 ≤ R.locals) (hs : ls.size = nL) (hw : (rest.map fun v => v.category).sum ≤ 8) (h : (f_X4_isMan gi x1).bind ff = some r) (hdg : decode cc pc = .ok (.invokevirtual 426, 3)) (kk : ∀ q, ff q = some r → ∀ (H' : Heap) (locs' : List Loc), MB D cA ad A s gi gl H' locs' → W p l e R s m args below meth c H' locs' 0 0 Q (F0 m (pc + 3) ls (.int q :: rest))) : W p l e R s m args below meth c H locs 0 0 Q (F0 m pc ls (.int x1 :: .ref (ad 0) :: rest)) := by
  obtain ⟨q, h1, h2⟩ := g_ob h
  refine mm_cVI (As := [.int x1]) (rest := rest) (n := 1) C B (fun sz => w_X4_isMan l D cA ad gi gl x1 q h1 sz) q2119 q2121 qs99 q150 q2122 (by decide +kernel) ⟨hF, hN⟩ rfl hs hw hdg (fun v u H9 locs9 hp B9 => ?_)
  obtain ⟨e1, e2, e3⟩ := hp
  rw [e2] at B9
  rw [e3] at B9
  subst e1
  exact kk _ h2 H9 locs9 B9
def f_X4_payOf (gi : GI) (x1 : Int32) (x2 : Int32) : Option (Int32) :=
  (g_ld gi 15 30 ((3 * ((5 * (gi 0 41)) + x1)) + x2)).bind fun v1 =>
  some v1
set_option maxHeartbeats 400000 in
theorem w_X4_payOf (l : Launch) (D : va_G) (cA : Nat → ClassId) (ad : Nat → Nat) (gi : GI) (gl : GL) (x1 : Int32) (x2 : Int32) (r : Int32) (h : f_X4_payOf gi x1 x2 = some r) (sz : Nat) : Met l yX4_payOf (ws_ yX4_payOf cX4_payOf 3 (some .int)) ({ frames := 0, cells := 0, slots := 0, locals := 0 } : Room) (va_Pc [.ref (ad 0), .int x1, .int x2] (MPre D cA ad gi gl sz)) (va_Qi (fun v u => v = r ∧ u.1 = gi ∧ u.2 = gl) (MPost D cA ad) (MA ad sz)) 0 0 (MA ad sz) := by
  refine mm_stI (by decide +kernel) rfl (Nat.le_of_ble_eq_true rfl) (fun p e s m args below meth c R Q A ls C hF hN B hret hL => ?_) sz
  have hx := C.1
  have hb := C.2.1
  have hL : lv_has ls 3 [(0, .ref (ad 0)), (1, .int x1), (2, .int x2)] := hL
  unfold f_X4_payOf at h
  refine lv_aload_n hx hb dX4_payOf_0 rfl (lv_at hL 0 rfl) ?_
  refine mg_23 C B dX4_payOf_1 ?_
  refine lv_iconst (v := 3) hx hb dX4_payOf_4 (by decide) ?_
  refine lv_iconst (v := 5) hx hb dX4_payOf_5 (by decide) ?_
  refine lv_aload_n hx hb dX4_payOf_6 rfl (lv_at hL 0 rfl) ?_
  refine mg_41 C B dX4_payOf_7 ?_
  refine lv_imul hx hb dX4_payOf_10 ?_
  refine lv_iload_n hx hb dX4_payOf_11 rfl (lv_at hL 1 rfl) ?_
  refine lv_iadd hx hb dX4_payOf_12 ?_
  refine lv_imul hx hb dX4_payOf_13 ?_
  refine lv_iload_n hx hb dX4_payOf_14 rfl (lv_at hL 2 rfl) ?_
  refine lv_iadd hx hb dX4_payOf_15 ?_
  refine mm_iald C B (a := 15) (n := 30) (Nat.le_of_ble_eq_true rfl) rfl h dX4_payOf_16 (fun v1 h => ?_)
  exact hret _ _ _ _ _ _ _ ⟨Option.some.inj h, rfl, rfl⟩ B dX4_payOf_17
theorem k_X4_payOf {p : Program} {l : Launch} {e : Env} {R : Room} {s : State} {m : MethodId} {args : Array Value} {below : List Frame} {meth : Method} {c : Code} {H : Heap} {locs : List Loc} {Q : State → Prop} {pc : Nat} {ls : Array Slot} {rest : List Value} {cc : ByteArray} {nL : Nat} {D : va_G} {cA : Nat → ClassId} {ad : Nat → Nat} {A : Nat → Prop} {gi : GI} {gl : GL} {α : Type} {r : α} {x1 : Int32} {x2 : Int32} {ff : Int32 → Option α} (C : CallFix p m c cc nL s args lw_all RX4) (B : MB D cA ad A s gi gl H locs) (hF : 1 ≤ R.frames) (hN : 22 ≤ R.locals) (hs : ls.size = nL) (hw : (rest.map fun v => v.category).sum ≤ 8) (h : (f_X4_payOf gi x1 x2).bind ff = some r) (hdg : decode cc pc = .ok (.invokevirtual 433, 3)) (kk : ∀ q, ff q = some r → ∀ (H' : Heap) (locs' : List Loc), MB D cA ad A s gi gl H' locs' → W p l e R s m args below meth c H' locs' 0 0 Q (F0 m (pc + 3) ls (.int q :: rest))) : W p l e R s m args below meth c H locs 0 0 Q (F0 m pc ls (.int x2 :: .int x1 :: .ref (ad 0) :: rest)) := by
  obtain ⟨q, h1, h2⟩ := g_ob h
  refine mm_cVI (As := [.int x1, .int x2]) (rest := rest) (n := 2) C B (fun sz => w_X4_payOf l D cA ad gi gl x1 x2 q h1 sz) q2150 q2152 qs105 q150 q2153 (by decide +kernel) ⟨hF, hN⟩ rfl hs hw hdg (fun v u H9 locs9 hp B9 => ?_)
  obtain ⟨e1, e2, e3⟩ := hp
  rw [e2] at B9
  rw [e3] at B9
  subst e1
  exact kk _ h2 H9 locs9 B9
def f_X4_sumOf (gi : GI) (x1 : Int32) (x2 : Int32) : Option (Int32) :=
  (g_ld gi 33 42 (x1 + (3 * x2))).bind fun v1 =>
  (g_ld gi 33 42 ((x1 + (3 * x2)) + 1)).bind fun v2 =>
  (g_ld gi 33 42 ((x1 + (3 * x2)) + 2)).bind fun v3 =>
  some ((v1 + v2) + v3)
set_option maxHeartbeats 400000 in
theorem w_X4_sumOf (l : Launch) (D : va_G) (cA : Nat → ClassId) (ad : Nat → Nat) (gi : GI) (gl : GL) (x1 : Int32) (x2 : Int32) (r : Int32) (h : f_X4_sumOf gi x1 x2 = some r) (sz : Nat) : Met l yX4_sumOf (ws_ yX4_sumOf cX4_sumOf 3 (some .int)) ({ frames := 0, cells := 0, slots := 0, locals := 0 } : Room) (va_Pc [.ref (ad 0), .int x1, .int x2] (MPre D cA ad gi gl sz)) (va_Qi (fun v u => v = r ∧ u.1 = gi ∧ u.2 = gl) (MPost D cA ad) (MA ad sz)) 0 0 (MA ad sz) := by
  refine mm_stI (by decide +kernel) rfl (Nat.le_of_ble_eq_true rfl) (fun p e s m args below meth c R Q A ls C hF hN B hret hL => ?_) sz
  have hx := C.1
  have hb := C.2.1
  have hL : lv_has ls 3 [(0, .ref (ad 0)), (1, .int x1), (2, .int x2)] := hL
  unfold f_X4_sumOf at h
  refine lv_aload_n hx hb dX4_sumOf_0 rfl (lv_at hL 0 rfl) ?_
  refine mg_48 C B dX4_sumOf_1 ?_
  refine lv_iload_n hx hb dX4_sumOf_4 rfl (lv_at hL 1 rfl) ?_
  refine lv_iconst (v := 3) hx hb dX4_sumOf_5 (by decide) ?_
  refine lv_iload_n hx hb dX4_sumOf_6 rfl (lv_at hL 2 rfl) ?_
  refine lv_imul hx hb dX4_sumOf_7 ?_
  refine lv_iadd hx hb dX4_sumOf_8 ?_
  refine mm_iald C B (a := 33) (n := 42) (Nat.le_of_ble_eq_true rfl) rfl h dX4_sumOf_9 (fun v1 h => ?_)
  refine lv_aload_n hx hb dX4_sumOf_10 rfl (lv_at hL 0 rfl) ?_
  refine mg_48 C B dX4_sumOf_11 ?_
  refine lv_iload_n hx hb dX4_sumOf_14 rfl (lv_at hL 1 rfl) ?_
  refine lv_iconst (v := 3) hx hb dX4_sumOf_15 (by decide) ?_
  refine lv_iload_n hx hb dX4_sumOf_16 rfl (lv_at hL 2 rfl) ?_
  refine lv_imul hx hb dX4_sumOf_17 ?_
  refine lv_iadd hx hb dX4_sumOf_18 ?_
  refine lv_iconst (v := 1) hx hb dX4_sumOf_19 (by decide) ?_
  refine lv_iadd hx hb dX4_sumOf_20 ?_
  refine mm_iald C B (a := 33) (n := 42) (Nat.le_of_ble_eq_true rfl) rfl h dX4_sumOf_21 (fun v2 h => ?_)
  refine lv_iadd hx hb dX4_sumOf_22 ?_
  refine lv_aload_n hx hb dX4_sumOf_23 rfl (lv_at hL 0 rfl) ?_
  refine mg_48 C B dX4_sumOf_24 ?_
  refine lv_iload_n hx hb dX4_sumOf_27 rfl (lv_at hL 1 rfl) ?_
  refine lv_iconst (v := 3) hx hb dX4_sumOf_28 (by decide) ?_
  refine lv_iload_n hx hb dX4_sumOf_29 rfl (lv_at hL 2 rfl) ?_
  refine lv_imul hx hb dX4_sumOf_30 ?_
  refine lv_iadd hx hb dX4_sumOf_31 ?_
  refine lv_iconst (v := 2) hx hb dX4_sumOf_32 (by decide) ?_
  refine lv_iadd hx hb dX4_sumOf_33 ?_
  refine mm_iald C B (a := 33) (n := 42) (Nat.le_of_ble_eq_true rfl) rfl h dX4_sumOf_34 (fun v3 h => ?_)
  refine lv_iadd hx hb dX4_sumOf_35 ?_
  exact hret _ _ _ _ _ _ _ ⟨Option.some.inj h, rfl, rfl⟩ B dX4_sumOf_36
theorem k_X4_sumOf {p : Program} {l : Launch} {e : Env} {R : Room} {s : State} {m : MethodId} {args : Array Value} {below : List Frame} {meth : Method} {c : Code} {H : Heap} {locs : List Loc} {Q : State → Prop} {pc : Nat} {ls : Array Slot} {rest : List Value} {cc : ByteArray} {nL : Nat} {D : va_G} {cA : Nat → ClassId} {ad : Nat → Nat} {A : Nat → Prop} {gi : GI} {gl : GL} {α : Type} {r : α} {x1 : Int32} {x2 : Int32} {ff : Int32 → Option α} (C : CallFix p m c cc nL s args lw_all RX4) (B : MB D cA ad A s gi gl H locs) (hF : 1 ≤ R.frames) (hN : 22 ≤ R.locals) (hs : ls.size = nL) (hw : (rest.map fun v => v.category).sum ≤ 8) (h : (f_X4_sumOf gi x1 x2).bind ff = some r) (hdg : decode cc pc = .ok (.invokevirtual 430, 3)) (kk : ∀ q, ff q = some r → ∀ (H' : Heap) (locs' : List Loc), MB D cA ad A s gi gl H' locs' → W p l e R s m args below meth c H' locs' 0 0 Q (F0 m (pc + 3) ls (.int q :: rest))) : W p l e R s m args below meth c H locs 0 0 Q (F0 m pc ls (.int x2 :: .int x1 :: .ref (ad 0) :: rest)) := by
  obtain ⟨q, h1, h2⟩ := g_ob h
  refine mm_cVI (As := [.int x1, .int x2]) (rest := rest) (n := 2) C B (fun sz => w_X4_sumOf l D cA ad gi gl x1 x2 q h1 sz) q2146 q2148 qs104 q150 q2149 (by decide +kernel) ⟨hF, hN⟩ rfl hs hw hdg (fun v u H9 locs9 hp B9 => ?_)
  obtain ⟨e1, e2, e3⟩ := hp
  rw [e2] at B9
  rw [e3] at B9
  subst e1
  exact kk _ h2 H9 locs9 B9
def f_X4_man (gi : GI) (x1 : Int32) (x2 : Int32) : Option (Int32 × GI) :=
  (f_X4_isMan gi x1).bind fun q1 =>
  if q1 = 0 then
  (some ((-1000000), gi))
  else
  (if x2.toInt < 0 ∨ 6 < x2.toInt then
  (some ((-1000000), gi))
  else if x2 = 0 then
  ((g_ld gi 33 42 (15 + x1)).bind fun v2 =>
  some (v2, gi))
  else if x2 = 1 then
  ((g_ld gi 33 42 (35 + x1)).bind fun v3 =>
  some (v3, gi))
  else if x2 = 2 then
  ((f_X4_growthOf gi x1).bind fun q4 =>
  some (q4.1, q4.2))
  else if x2 = 3 then
  ((f_X4_sumOf gi 0 x1).bind fun q5 =>
  some (q5, gi))
  else if x2 = 4 then
  ((f_X4_payOf gi x1 0).bind fun q6 =>
  (f_X4_payOf gi x1 1).bind fun q7 =>
  (f_X4_payOf gi x1 2).bind fun q8 =>
  some ((q6 + q7) + q8, gi))
  else if x2 = 5 then
  ((g_ld gi 13 10 ((5 * (gi 0 41)) + x1)).bind fun v9 =>
  some (v9, gi))
  else if x2 = 6 then
  ((g_ld gi 10 2 (gi 0 41)).bind fun v10 =>
  some ((v10 >>> (x1 &&& 31)) &&& 1, gi))
  else none)
set_option maxHeartbeats 400000 in
theorem w_X4_man (l : Launch) (D : va_G) (cA : Nat → ClassId) (ad : Nat → Nat) (gi : GI) (gl : GL) (x1 : Int32) (x2 : Int32) (r : Int32 × GI) (h : f_X4_man gi x1 x2 = some r) (sz : Nat) : Met l yX4_man (ws_ yX4_man cX4_man 3 (some .int)) ({ frames := 4, cells := 0, slots := 0, locals := 90 } : Room) (va_Pc [.ref (ad 0), .int x1, .int x2] (MPre D cA ad gi gl sz)) (va_Qi (fun v u => (v, u.1) = r ∧ u.2 = gl) (MPost D cA ad) (MA ad sz)) 0 0 (MA ad sz) := by
  refine mm_stI (by decide +kernel) rfl (Nat.le_of_ble_eq_true rfl) (fun p e s m args below meth c R Q A ls C hF hN B hret hL => ?_) sz
  have hx := C.1
  have hb := C.2.1
  have hL : lv_has ls 3 [(0, .ref (ad 0)), (1, .int x1), (2, .int x2)] := hL
  unfold f_X4_man at h
  refine lv_aload_n hx hb dX4_man_0 rfl (lv_at hL 0 rfl) ?_
  refine lv_iload_n hx hb dX4_man_1 rfl (lv_at hL 1 rfl) ?_
  refine k_X4_isMan C B (Nat.le_trans (Nat.le_of_ble_eq_true rfl) hF) (Nat.le_trans (Nat.le_of_ble_eq_true rfl) hN) hL.1 (Nat.le_of_ble_eq_true rfl) h dX4_man_2 (fun q1 h H locs B => ?_)
  refine gg_if_ne hx hb 12 h dX4_man_5 (by decide) (fun h => ?_) (fun h => ?_)
  · refine lv_iload_n hx hb dX4_man_12 rfl (lv_at hL 2 rfl) ?_
    rcases g_if h with ⟨hc, h⟩ | ⟨hc, h⟩
    · refine lv_tableOut (tgt := 138) hx hb dX4_man_13 hc (by decide) ?_
      refine lv_ldcw (v := (-1000000)) hx hb C.2.2.2.1 (C.2.2.2.2 _ q2126) dX4_man_138 ?_
      exact hret _ _ _ _ _ _ _ ⟨Option.some.inj h, rfl⟩ B dX4_man_141
    · rcases g_if h with ⟨he, h⟩ | ⟨_, h⟩
      · refine lv_tableIn (off := 43) (tgt := 56) hx hb dX4_man_13 (by rw [he]; decide) (by rw [he]; decide) (by rw [he]; rfl) (by decide) ?_
        refine lv_aload_n hx hb dX4_man_56 rfl (lv_at hL 0 rfl) ?_
        refine mg_48 C B dX4_man_57 ?_
        refine lv_bipush (v := 15) hx hb dX4_man_60 (by decide) ?_
        refine lv_iload_n hx hb dX4_man_62 rfl (lv_at hL 1 rfl) ?_
        refine lv_iadd hx hb dX4_man_63 ?_
        refine mm_iald C B (a := 33) (n := 42) (Nat.le_of_ble_eq_true rfl) rfl h dX4_man_64 (fun v2 h => ?_)
        exact hret _ _ _ _ _ _ _ ⟨Option.some.inj h, rfl⟩ B dX4_man_65
      · rcases g_if h with ⟨he, h⟩ | ⟨_, h⟩
        · refine lv_tableIn (off := 53) (tgt := 66) hx hb dX4_man_13 (by rw [he]; decide) (by rw [he]; decide) (by rw [he]; rfl) (by decide) ?_
          refine lv_aload_n hx hb dX4_man_66 rfl (lv_at hL 0 rfl) ?_
          refine mg_48 C B dX4_man_67 ?_
          refine lv_bipush (v := 35) hx hb dX4_man_70 (by decide) ?_
          refine lv_iload_n hx hb dX4_man_72 rfl (lv_at hL 1 rfl) ?_
          refine lv_iadd hx hb dX4_man_73 ?_
          refine mm_iald C B (a := 33) (n := 42) (Nat.le_of_ble_eq_true rfl) rfl h dX4_man_74 (fun v3 h => ?_)
          exact hret _ _ _ _ _ _ _ ⟨Option.some.inj h, rfl⟩ B dX4_man_75
        · rcases g_if h with ⟨he, h⟩ | ⟨_, h⟩
          · refine lv_tableIn (off := 63) (tgt := 76) hx hb dX4_man_13 (by rw [he]; decide) (by rw [he]; decide) (by rw [he]; rfl) (by decide) ?_
            refine lv_aload_n hx hb dX4_man_76 rfl (lv_at hL 0 rfl) ?_
            refine lv_iload_n hx hb dX4_man_77 rfl (lv_at hL 1 rfl) ?_
            refine k_X4_growthOf C B (Nat.le_trans (Nat.le_of_ble_eq_true rfl) hF) (Nat.le_trans (Nat.le_of_ble_eq_true rfl) hN) hL.1 (Nat.le_of_ble_eq_true rfl) h dX4_man_78 (fun q4 h H locs B => ?_)
            exact hret _ _ _ _ _ _ _ ⟨Option.some.inj h, rfl⟩ B dX4_man_81
          · rcases g_if h with ⟨he, h⟩ | ⟨_, h⟩
            · refine lv_tableIn (off := 69) (tgt := 82) hx hb dX4_man_13 (by rw [he]; decide) (by rw [he]; decide) (by rw [he]; rfl) (by decide) ?_
              refine lv_aload_n hx hb dX4_man_82 rfl (lv_at hL 0 rfl) ?_
              refine lv_iconst (v := 0) hx hb dX4_man_83 (by decide) ?_
              refine lv_iload_n hx hb dX4_man_84 rfl (lv_at hL 1 rfl) ?_
              refine k_X4_sumOf C B (Nat.le_trans (Nat.le_of_ble_eq_true rfl) hF) (Nat.le_trans (Nat.le_of_ble_eq_true rfl) hN) hL.1 (Nat.le_of_ble_eq_true rfl) h dX4_man_85 (fun q5 h H locs B => ?_)
              exact hret _ _ _ _ _ _ _ ⟨Option.some.inj h, rfl⟩ B dX4_man_88
            · rcases g_if h with ⟨he, h⟩ | ⟨_, h⟩
              · refine lv_tableIn (off := 76) (tgt := 89) hx hb dX4_man_13 (by rw [he]; decide) (by rw [he]; decide) (by rw [he]; rfl) (by decide) ?_
                refine lv_aload_n hx hb dX4_man_89 rfl (lv_at hL 0 rfl) ?_
                refine lv_iload_n hx hb dX4_man_90 rfl (lv_at hL 1 rfl) ?_
                refine lv_iconst (v := 0) hx hb dX4_man_91 (by decide) ?_
                refine k_X4_payOf C B (Nat.le_trans (Nat.le_of_ble_eq_true rfl) hF) (Nat.le_trans (Nat.le_of_ble_eq_true rfl) hN) hL.1 (Nat.le_of_ble_eq_true rfl) h dX4_man_92 (fun q6 h H locs B => ?_)
                refine lv_aload_n hx hb dX4_man_95 rfl (lv_at hL 0 rfl) ?_
                refine lv_iload_n hx hb dX4_man_96 rfl (lv_at hL 1 rfl) ?_
                refine lv_iconst (v := 1) hx hb dX4_man_97 (by decide) ?_
                refine k_X4_payOf C B (Nat.le_trans (Nat.le_of_ble_eq_true rfl) hF) (Nat.le_trans (Nat.le_of_ble_eq_true rfl) hN) hL.1 (Nat.le_of_ble_eq_true rfl) h dX4_man_98 (fun q7 h H locs B => ?_)
                refine lv_iadd hx hb dX4_man_101 ?_
                refine lv_aload_n hx hb dX4_man_102 rfl (lv_at hL 0 rfl) ?_
                refine lv_iload_n hx hb dX4_man_103 rfl (lv_at hL 1 rfl) ?_
                refine lv_iconst (v := 2) hx hb dX4_man_104 (by decide) ?_
                refine k_X4_payOf C B (Nat.le_trans (Nat.le_of_ble_eq_true rfl) hF) (Nat.le_trans (Nat.le_of_ble_eq_true rfl) hN) hL.1 (Nat.le_of_ble_eq_true rfl) h dX4_man_105 (fun q8 h H locs B => ?_)
                refine lv_iadd hx hb dX4_man_108 ?_
                exact hret _ _ _ _ _ _ _ ⟨Option.some.inj h, rfl⟩ B dX4_man_109
              · rcases g_if h with ⟨he, h⟩ | ⟨_, h⟩
                · refine lv_tableIn (off := 97) (tgt := 110) hx hb dX4_man_13 (by rw [he]; decide) (by rw [he]; decide) (by rw [he]; rfl) (by decide) ?_
                  refine lv_aload_n hx hb dX4_man_110 rfl (lv_at hL 0 rfl) ?_
                  refine mg_21 C B dX4_man_111 ?_
                  refine lv_iconst (v := 5) hx hb dX4_man_114 (by decide) ?_
                  refine lv_aload_n hx hb dX4_man_115 rfl (lv_at hL 0 rfl) ?_
                  refine mg_41 C B dX4_man_116 ?_
                  refine lv_imul hx hb dX4_man_119 ?_
                  refine lv_iload_n hx hb dX4_man_120 rfl (lv_at hL 1 rfl) ?_
                  refine lv_iadd hx hb dX4_man_121 ?_
                  refine mm_iald C B (a := 13) (n := 10) (Nat.le_of_ble_eq_true rfl) rfl h dX4_man_122 (fun v9 h => ?_)
                  exact hret _ _ _ _ _ _ _ ⟨Option.some.inj h, rfl⟩ B dX4_man_123
                · rcases g_if h with ⟨he, h⟩ | ⟨_, h⟩
                  · refine lv_tableIn (off := 111) (tgt := 124) hx hb dX4_man_13 (by rw [he]; decide) (by rw [he]; decide) (by rw [he]; rfl) (by decide) ?_
                    refine lv_aload_n hx hb dX4_man_124 rfl (lv_at hL 0 rfl) ?_
                    refine mg_18 C B dX4_man_125 ?_
                    refine lv_aload_n hx hb dX4_man_128 rfl (lv_at hL 0 rfl) ?_
                    refine mg_41 C B dX4_man_129 ?_
                    refine mm_iald C B (a := 10) (n := 2) (Nat.le_of_ble_eq_true rfl) rfl h dX4_man_132 (fun v10 h => ?_)
                    refine lv_iload_n hx hb dX4_man_133 rfl (lv_at hL 1 rfl) ?_
                    refine lv_ishr hx hb dX4_man_134 ?_
                    refine lv_iconst (v := 1) hx hb dX4_man_135 (by decide) ?_
                    refine lv_iand hx hb dX4_man_136 ?_
                    exact hret _ _ _ _ _ _ _ ⟨Option.some.inj h, rfl⟩ B dX4_man_137
                  · cases h
  · refine lv_ldcw (v := (-1000000)) hx hb C.2.2.2.1 (C.2.2.2.2 _ q2126) dX4_man_8 ?_
    exact hret _ _ _ _ _ _ _ ⟨Option.some.inj h, rfl⟩ B dX4_man_11
def f_X4_inPurse (gi : GI) (x1 : Int32) (x2 : Int32) : Option (Int32) :=
  (g_ld gi 33 42 ((0 + (3 * x1)) + x2)).bind fun v1 =>
  some v1
set_option maxHeartbeats 400000 in
theorem w_X4_inPurse (l : Launch) (D : va_G) (cA : Nat → ClassId) (ad : Nat → Nat) (gi : GI) (gl : GL) (x1 : Int32) (x2 : Int32) (r : Int32) (h : f_X4_inPurse gi x1 x2 = some r) (sz : Nat) : Met l yX4_inPurse (ws_ yX4_inPurse cX4_inPurse 3 (some .int)) ({ frames := 0, cells := 0, slots := 0, locals := 0 } : Room) (va_Pc [.ref (ad 0), .int x1, .int x2] (MPre D cA ad gi gl sz)) (va_Qi (fun v u => v = r ∧ u.1 = gi ∧ u.2 = gl) (MPost D cA ad) (MA ad sz)) 0 0 (MA ad sz) := by
  refine mm_stI (by decide +kernel) rfl (Nat.le_of_ble_eq_true rfl) (fun p e s m args below meth c R Q A ls C hF hN B hret hL => ?_) sz
  have hx := C.1
  have hb := C.2.1
  have hL : lv_has ls 3 [(0, .ref (ad 0)), (1, .int x1), (2, .int x2)] := hL
  unfold f_X4_inPurse at h
  refine lv_aload_n hx hb dX4_inPurse_0 rfl (lv_at hL 0 rfl) ?_
  refine mg_48 C B dX4_inPurse_1 ?_
  refine lv_iconst (v := 0) hx hb dX4_inPurse_4 (by decide) ?_
  refine lv_iconst (v := 3) hx hb dX4_inPurse_5 (by decide) ?_
  refine lv_iload_n hx hb dX4_inPurse_6 rfl (lv_at hL 1 rfl) ?_
  refine lv_imul hx hb dX4_inPurse_7 ?_
  refine lv_iadd hx hb dX4_inPurse_8 ?_
  refine lv_iload_n hx hb dX4_inPurse_9 rfl (lv_at hL 2 rfl) ?_
  refine lv_iadd hx hb dX4_inPurse_10 ?_
  refine mm_iald C B (a := 33) (n := 42) (Nat.le_of_ble_eq_true rfl) rfl h dX4_inPurse_11 (fun v1 h => ?_)
  exact hret _ _ _ _ _ _ _ ⟨Option.some.inj h, rfl, rfl⟩ B dX4_inPurse_12
theorem k_X4_inPurse {p : Program} {l : Launch} {e : Env} {R : Room} {s : State} {m : MethodId} {args : Array Value} {below : List Frame} {meth : Method} {c : Code} {H : Heap} {locs : List Loc} {Q : State → Prop} {pc : Nat} {ls : Array Slot} {rest : List Value} {cc : ByteArray} {nL : Nat} {D : va_G} {cA : Nat → ClassId} {ad : Nat → Nat} {A : Nat → Prop} {gi : GI} {gl : GL} {α : Type} {r : α} {x1 : Int32} {x2 : Int32} {ff : Int32 → Option α} (C : CallFix p m c cc nL s args lw_all RX4) (B : MB D cA ad A s gi gl H locs) (hF : 1 ≤ R.frames) (hN : 22 ≤ R.locals) (hs : ls.size = nL) (hw : (rest.map fun v => v.category).sum ≤ 8) (h : (f_X4_inPurse gi x1 x2).bind ff = some r) (hdg : decode cc pc = .ok (.invokevirtual 439, 3)) (kk : ∀ q, ff q = some r → ∀ (H' : Heap) (locs' : List Loc), MB D cA ad A s gi gl H' locs' → W p l e R s m args below meth c H' locs' 0 0 Q (F0 m (pc + 3) ls (.int q :: rest))) : W p l e R s m args below meth c H locs 0 0 Q (F0 m pc ls (.int x2 :: .int x1 :: .ref (ad 0) :: rest)) := by
  obtain ⟨q, h1, h2⟩ := g_ob h
  refine mm_cVI (As := [.int x1, .int x2]) (rest := rest) (n := 2) C B (fun sz => w_X4_inPurse l D cA ad gi gl x1 x2 q h1 sz) q2162 q2164 qs107 q150 q2165 (by decide +kernel) ⟨hF, hN⟩ rfl hs hw hdg (fun v u H9 locs9 hp B9 => ?_)
  obtain ⟨e1, e2, e3⟩ := hp
  rw [e2] at B9
  rw [e3] at B9
  subst e1
  exact kk _ h2 H9 locs9 B9
def f_X4_isKind (gi : GI) (x1 : Int32) : Option (Int32) :=
  (g_ld gi 3 2 (gi 0 41)).bind fun v1 =>
  (f_X4_isIn gi x1 0 (v1 - 1)).bind fun q2 =>
  (g_zb q2).bind fun _ =>
  some q2
set_option maxHeartbeats 400000 in
theorem w_X4_isKind (l : Launch) (D : va_G) (cA : Nat → ClassId) (ad : Nat → Nat) (gi : GI) (gl : GL) (x1 : Int32) (r : Int32) (h : f_X4_isKind gi x1 = some r) (sz : Nat) : Met l yX4_isKind (ws_ yX4_isKind cX4_isKind 2 (some .boolean)) ({ frames := 1, cells := 0, slots := 0, locals := 22 } : Room) (va_Pc [.ref (ad 0), .int x1] (MPre D cA ad gi gl sz)) (va_Qi (fun v u => v = r ∧ u.1 = gi ∧ u.2 = gl) (MPost D cA ad) (MA ad sz)) 0 0 (MA ad sz) := by
  refine mm_stZ (by decide +kernel) rfl (Nat.le_of_ble_eq_true rfl) (fun p e s m args below meth c R Q A ls C hF hN B hret hL => ?_) sz
  have hx := C.1
  have hb := C.2.1
  have hL : lv_has ls 2 [(0, .ref (ad 0)), (1, .int x1)] := hL
  unfold f_X4_isKind at h
  refine lv_iload_n hx hb dX4_isKind_0 rfl (lv_at hL 1 rfl) ?_
  refine lv_iconst (v := 0) hx hb dX4_isKind_1 (by decide) ?_
  refine lv_aload_n hx hb dX4_isKind_2 rfl (lv_at hL 0 rfl) ?_
  refine mg_11 C B dX4_isKind_3 ?_
  refine lv_aload_n hx hb dX4_isKind_6 rfl (lv_at hL 0 rfl) ?_
  refine mg_41 C B dX4_isKind_7 ?_
  refine mm_iald C B (a := 3) (n := 2) (Nat.le_of_ble_eq_true rfl) rfl h dX4_isKind_10 (fun v1 h => ?_)
  refine lv_iconst (v := 1) hx hb dX4_isKind_11 (by decide) ?_
  refine lv_isub hx hb dX4_isKind_12 ?_
  refine k_X4_isIn C B (Nat.le_trans (Nat.le_of_ble_eq_true rfl) hF) (Nat.le_trans (Nat.le_of_ble_eq_true rfl) hN) hL.1 (Nat.le_of_ble_eq_true rfl) h dX4_isKind_13 (fun q2 h H locs B => ?_)
  refine mm_zb h (fun hz h => ?_)
  exact hret _ _ _ _ _ _ _ ⟨Option.some.inj h, rfl, rfl⟩ hz B dX4_isKind_16
theorem k_X4_isKind {p : Program} {l : Launch} {e : Env} {R : Room} {s : State} {m : MethodId} {args : Array Value} {below : List Frame} {meth : Method} {c : Code} {H : Heap} {locs : List Loc} {Q : State → Prop} {pc : Nat} {ls : Array Slot} {rest : List Value} {cc : ByteArray} {nL : Nat} {D : va_G} {cA : Nat → ClassId} {ad : Nat → Nat} {A : Nat → Prop} {gi : GI} {gl : GL} {α : Type} {r : α} {x1 : Int32} {ff : Int32 → Option α} (C : CallFix p m c cc nL s args lw_all RX4) (B : MB D cA ad A s gi gl H locs) (hF : 2 ≤ R.frames) (hN : 43 ≤ R.locals) (hs : ls.size = nL) (hw : (rest.map fun v => v.category).sum ≤ 8) (h : (f_X4_isKind gi x1).bind ff = some r) (hdg : decode cc pc = .ok (.invokevirtual 436, 3)) (kk : ∀ q, ff q = some r → ∀ (H' : Heap) (locs' : List Loc), MB D cA ad A s gi gl H' locs' → W p l e R s m args below meth c H' locs' 0 0 Q (F0 m (pc + 3) ls (.int q :: rest))) : W p l e R s m args below meth c H locs 0 0 Q (F0 m pc ls (.int x1 :: .ref (ad 0) :: rest)) := by
  obtain ⟨q, h1, h2⟩ := g_ob h
  refine mm_cVI (As := [.int x1]) (rest := rest) (n := 1) C B (fun sz => w_X4_isKind l D cA ad gi gl x1 q h1 sz) q2158 q2160 qs106 q150 q2161 (by decide +kernel) ⟨hF, hN⟩ rfl hs hw hdg (fun v u H9 locs9 hp B9 => ?_)
  obtain ⟨e1, e2, e3⟩ := hp
  rw [e2] at B9
  rw [e3] at B9
  subst e1
  exact kk _ h2 H9 locs9 B9
def f_X4_purse (gi : GI) (x1 : Int32) (x2 : Int32) : Option (Int32) :=
  (f_X4_isMan gi x1).bind fun q1 =>
  if q1 = 0 then
  (some ((-1)))
  else
  ((f_X4_isKind gi x2).bind fun q2 =>
  if q2 = 0 then
  (some ((-1)))
  else
  ((f_X4_inPurse gi x1 x2).bind fun q3 =>
  some q3))
set_option maxHeartbeats 400000 in
theorem w_X4_purse (l : Launch) (D : va_G) (cA : Nat → ClassId) (ad : Nat → Nat) (gi : GI) (gl : GL) (x1 : Int32) (x2 : Int32) (r : Int32) (h : f_X4_purse gi x1 x2 = some r) (sz : Nat) : Met l yX4_purse (ws_ yX4_purse cX4_purse 3 (some .int)) ({ frames := 2, cells := 0, slots := 0, locals := 43 } : Room) (va_Pc [.ref (ad 0), .int x1, .int x2] (MPre D cA ad gi gl sz)) (va_Qi (fun v u => v = r ∧ u.1 = gi ∧ u.2 = gl) (MPost D cA ad) (MA ad sz)) 0 0 (MA ad sz) := by
  refine mm_stI (by decide +kernel) rfl (Nat.le_of_ble_eq_true rfl) (fun p e s m args below meth c R Q A ls C hF hN B hret hL => ?_) sz
  have hx := C.1
  have hb := C.2.1
  have hL : lv_has ls 3 [(0, .ref (ad 0)), (1, .int x1), (2, .int x2)] := hL
  unfold f_X4_purse at h
  refine lv_aload_n hx hb dX4_purse_0 rfl (lv_at hL 0 rfl) ?_
  refine lv_iload_n hx hb dX4_purse_1 rfl (lv_at hL 1 rfl) ?_
  refine k_X4_isMan C B (Nat.le_trans (Nat.le_of_ble_eq_true rfl) hF) (Nat.le_trans (Nat.le_of_ble_eq_true rfl) hN) hL.1 (Nat.le_of_ble_eq_true rfl) h dX4_purse_2 (fun q1 h H locs B => ?_)
  refine gg_if_eq hx hb 25 h dX4_purse_5 (by decide) (fun h => ?_) (fun h => ?_)
  · refine lv_iconst (v := (-1)) hx hb dX4_purse_25 (by decide) ?_
    exact hret _ _ _ _ _ _ _ ⟨Option.some.inj h, rfl, rfl⟩ B dX4_purse_26
  · refine lv_aload_n hx hb dX4_purse_8 rfl (lv_at hL 0 rfl) ?_
    refine lv_iload_n hx hb dX4_purse_9 rfl (lv_at hL 2 rfl) ?_
    refine k_X4_isKind C B (Nat.le_trans (Nat.le_of_ble_eq_true rfl) hF) (Nat.le_trans (Nat.le_of_ble_eq_true rfl) hN) hL.1 (Nat.le_of_ble_eq_true rfl) h dX4_purse_10 (fun q2 h H locs B => ?_)
    refine gg_if_eq hx hb 25 h dX4_purse_13 (by decide) (fun h => ?_) (fun h => ?_)
    · refine lv_iconst (v := (-1)) hx hb dX4_purse_25 (by decide) ?_
      exact hret _ _ _ _ _ _ _ ⟨Option.some.inj h, rfl, rfl⟩ B dX4_purse_26
    · refine lv_aload_n hx hb dX4_purse_16 rfl (lv_at hL 0 rfl) ?_
      refine lv_iload_n hx hb dX4_purse_17 rfl (lv_at hL 1 rfl) ?_
      refine lv_iload_n hx hb dX4_purse_18 rfl (lv_at hL 2 rfl) ?_
      refine k_X4_inPurse C B (Nat.le_trans (Nat.le_of_ble_eq_true rfl) hF) (Nat.le_trans (Nat.le_of_ble_eq_true rfl) hN) hL.1 (Nat.le_of_ble_eq_true rfl) h dX4_purse_19 (fun q3 h H locs B => ?_)
      refine lv_goto (tgt := 26) hx hb dX4_purse_22 (by decide) ?_
      exact hret _ _ _ _ _ _ _ ⟨Option.some.inj h, rfl, rfl⟩ B dX4_purse_26
def f_X4_over (gi : GI) (x1 : Int32) (x2 : Int32) : Option (Int32) :=
  (f_X4_isMan gi x1).bind fun q1 =>
  if q1 = 0 then
  (some ((-1)))
  else
  ((f_X4_isKind gi x2).bind fun q2 =>
  if q2 = 0 then
  (some ((-1)))
  else
  ((f_X4_overOf gi x1 x2).bind fun q3 =>
  some q3))
set_option maxHeartbeats 400000 in
theorem w_X4_over (l : Launch) (D : va_G) (cA : Nat → ClassId) (ad : Nat → Nat) (gi : GI) (gl : GL) (x1 : Int32) (x2 : Int32) (r : Int32) (h : f_X4_over gi x1 x2 = some r) (sz : Nat) : Met l yX4_over (ws_ yX4_over cX4_over 3 (some .int)) ({ frames := 2, cells := 0, slots := 0, locals := 43 } : Room) (va_Pc [.ref (ad 0), .int x1, .int x2] (MPre D cA ad gi gl sz)) (va_Qi (fun v u => v = r ∧ u.1 = gi ∧ u.2 = gl) (MPost D cA ad) (MA ad sz)) 0 0 (MA ad sz) := by
  refine mm_stI (by decide +kernel) rfl (Nat.le_of_ble_eq_true rfl) (fun p e s m args below meth c R Q A ls C hF hN B hret hL => ?_) sz
  have hx := C.1
  have hb := C.2.1
  have hL : lv_has ls 3 [(0, .ref (ad 0)), (1, .int x1), (2, .int x2)] := hL
  unfold f_X4_over at h
  refine lv_aload_n hx hb dX4_over_0 rfl (lv_at hL 0 rfl) ?_
  refine lv_iload_n hx hb dX4_over_1 rfl (lv_at hL 1 rfl) ?_
  refine k_X4_isMan C B (Nat.le_trans (Nat.le_of_ble_eq_true rfl) hF) (Nat.le_trans (Nat.le_of_ble_eq_true rfl) hN) hL.1 (Nat.le_of_ble_eq_true rfl) h dX4_over_2 (fun q1 h H locs B => ?_)
  refine gg_if_eq hx hb 25 h dX4_over_5 (by decide) (fun h => ?_) (fun h => ?_)
  · refine lv_iconst (v := (-1)) hx hb dX4_over_25 (by decide) ?_
    exact hret _ _ _ _ _ _ _ ⟨Option.some.inj h, rfl, rfl⟩ B dX4_over_26
  · refine lv_aload_n hx hb dX4_over_8 rfl (lv_at hL 0 rfl) ?_
    refine lv_iload_n hx hb dX4_over_9 rfl (lv_at hL 2 rfl) ?_
    refine k_X4_isKind C B (Nat.le_trans (Nat.le_of_ble_eq_true rfl) hF) (Nat.le_trans (Nat.le_of_ble_eq_true rfl) hN) hL.1 (Nat.le_of_ble_eq_true rfl) h dX4_over_10 (fun q2 h H locs B => ?_)
    refine gg_if_eq hx hb 25 h dX4_over_13 (by decide) (fun h => ?_) (fun h => ?_)
    · refine lv_iconst (v := (-1)) hx hb dX4_over_25 (by decide) ?_
      exact hret _ _ _ _ _ _ _ ⟨Option.some.inj h, rfl, rfl⟩ B dX4_over_26
    · refine lv_aload_n hx hb dX4_over_16 rfl (lv_at hL 0 rfl) ?_
      refine lv_iload_n hx hb dX4_over_17 rfl (lv_at hL 1 rfl) ?_
      refine lv_iload_n hx hb dX4_over_18 rfl (lv_at hL 2 rfl) ?_
      refine k_X4_overOf C B (Nat.le_trans (Nat.le_of_ble_eq_true rfl) hF) (Nat.le_trans (Nat.le_of_ble_eq_true rfl) hN) hL.1 (Nat.le_of_ble_eq_true rfl) h dX4_over_19 (fun q3 h H locs B => ?_)
      refine lv_goto (tgt := 26) hx hb dX4_over_22 (by decide) ?_
      exact hret _ _ _ _ _ _ _ ⟨Option.some.inj h, rfl, rfl⟩ B dX4_over_26
def f_X4_pay (gi : GI) (x1 : Int32) (x2 : Int32) : Option (Int32) :=
  (f_X4_isMan gi x1).bind fun q1 =>
  if q1 = 0 then
  (some ((-1)))
  else
  ((f_X4_isKind gi x2).bind fun q2 =>
  if q2 = 0 then
  (some ((-1)))
  else
  ((f_X4_payOf gi x1 x2).bind fun q3 =>
  some q3))
set_option maxHeartbeats 400000 in
theorem w_X4_pay (l : Launch) (D : va_G) (cA : Nat → ClassId) (ad : Nat → Nat) (gi : GI) (gl : GL) (x1 : Int32) (x2 : Int32) (r : Int32) (h : f_X4_pay gi x1 x2 = some r) (sz : Nat) : Met l yX4_pay (ws_ yX4_pay cX4_pay 3 (some .int)) ({ frames := 2, cells := 0, slots := 0, locals := 43 } : Room) (va_Pc [.ref (ad 0), .int x1, .int x2] (MPre D cA ad gi gl sz)) (va_Qi (fun v u => v = r ∧ u.1 = gi ∧ u.2 = gl) (MPost D cA ad) (MA ad sz)) 0 0 (MA ad sz) := by
  refine mm_stI (by decide +kernel) rfl (Nat.le_of_ble_eq_true rfl) (fun p e s m args below meth c R Q A ls C hF hN B hret hL => ?_) sz
  have hx := C.1
  have hb := C.2.1
  have hL : lv_has ls 3 [(0, .ref (ad 0)), (1, .int x1), (2, .int x2)] := hL
  unfold f_X4_pay at h
  refine lv_aload_n hx hb dX4_pay_0 rfl (lv_at hL 0 rfl) ?_
  refine lv_iload_n hx hb dX4_pay_1 rfl (lv_at hL 1 rfl) ?_
  refine k_X4_isMan C B (Nat.le_trans (Nat.le_of_ble_eq_true rfl) hF) (Nat.le_trans (Nat.le_of_ble_eq_true rfl) hN) hL.1 (Nat.le_of_ble_eq_true rfl) h dX4_pay_2 (fun q1 h H locs B => ?_)
  refine gg_if_eq hx hb 25 h dX4_pay_5 (by decide) (fun h => ?_) (fun h => ?_)
  · refine lv_iconst (v := (-1)) hx hb dX4_pay_25 (by decide) ?_
    exact hret _ _ _ _ _ _ _ ⟨Option.some.inj h, rfl, rfl⟩ B dX4_pay_26
  · refine lv_aload_n hx hb dX4_pay_8 rfl (lv_at hL 0 rfl) ?_
    refine lv_iload_n hx hb dX4_pay_9 rfl (lv_at hL 2 rfl) ?_
    refine k_X4_isKind C B (Nat.le_trans (Nat.le_of_ble_eq_true rfl) hF) (Nat.le_trans (Nat.le_of_ble_eq_true rfl) hN) hL.1 (Nat.le_of_ble_eq_true rfl) h dX4_pay_10 (fun q2 h H locs B => ?_)
    refine gg_if_eq hx hb 25 h dX4_pay_13 (by decide) (fun h => ?_) (fun h => ?_)
    · refine lv_iconst (v := (-1)) hx hb dX4_pay_25 (by decide) ?_
      exact hret _ _ _ _ _ _ _ ⟨Option.some.inj h, rfl, rfl⟩ B dX4_pay_26
    · refine lv_aload_n hx hb dX4_pay_16 rfl (lv_at hL 0 rfl) ?_
      refine lv_iload_n hx hb dX4_pay_17 rfl (lv_at hL 1 rfl) ?_
      refine lv_iload_n hx hb dX4_pay_18 rfl (lv_at hL 2 rfl) ?_
      refine k_X4_payOf C B (Nat.le_trans (Nat.le_of_ble_eq_true rfl) hF) (Nat.le_trans (Nat.le_of_ble_eq_true rfl) hN) hL.1 (Nat.le_of_ble_eq_true rfl) h dX4_pay_19 (fun q3 h H locs B => ?_)
      refine lv_goto (tgt := 26) hx hb dX4_pay_22 (by decide) ?_
      exact hret _ _ _ _ _ _ _ ⟨Option.some.inj h, rfl, rfl⟩ B dX4_pay_26
def f_X4_all_l24 (gii24 : GI) (x1i24 : Int32) (x2i24 : Int32) (x3l24 : Int32) (x4l24 : Int32) : Option ((Int32 × Int32) ⊕ (Int32)) :=
  (f_X4_many gii24 ).bind fun q3 =>
  if q3 ≤ x4l24 then
  (some (.inr x3l24))
  else
  (if x2i24 = 0 then
  ((f_X4_inPurse gii24 x4l24 x1i24).bind fun q5 =>
  some (.inl ((x3l24 + q5, x4l24 + 1))))
  else
  ((f_X4_overOf gii24 x4l24 x1i24).bind fun q4 =>
  some (.inl ((x3l24 + q4, x4l24 + 1)))))
def f_X4_all_x24 (giy24 : GI) (x3e24 : Int32) : Option (Int32) :=
  some x3e24
def f_X4_all (gi : GI) (x1 : Int32) (x2 : Int32) : Option (Int32) :=
  (f_X4_isKind gi x1).bind fun q1 =>
  if q1 = 0 then
  (some ((-1)))
  else
  ((f_X4_isIn gi x2 0 1).bind fun q2 =>
  if q2 = 0 then
  (some ((-1)))
  else
  ((g_loop g_K (fun (s : Int32 × Int32) => f_X4_all_l24 gi x1 x2 s.1 s.2) (0, 0)).bind fun E24 => f_X4_all_x24 gi E24))
set_option maxHeartbeats 400000 in
theorem w_X4_all (l : Launch) (D : va_G) (cA : Nat → ClassId) (ad : Nat → Nat) (gi : GI) (gl : GL) (x1 : Int32) (x2 : Int32) (r : Int32) (h : f_X4_all gi x1 x2 = some r) (sz : Nat) : Met l yX4_all (ws_ yX4_all cX4_all 5 (some .int)) ({ frames := 2, cells := 0, slots := 0, locals := 43 } : Room) (va_Pc [.ref (ad 0), .int x1, .int x2] (MPre D cA ad gi gl sz)) (va_Qi (fun v u => v = r ∧ u.1 = gi ∧ u.2 = gl) (MPost D cA ad) (MA ad sz)) 0 0 (MA ad sz) := by
  refine mm_stI (by decide +kernel) rfl (Nat.le_of_ble_eq_true rfl) (fun p e s m args below meth c R Q A ls C hF hN B hret hL => ?_) sz
  have hx := C.1
  have hb := C.2.1
  have hL : lv_has ls 5 [(0, .ref (ad 0)), (1, .int x1), (2, .int x2)] := hL
  unfold f_X4_all at h
  refine lv_aload_n hx hb dX4_all_0 rfl (lv_at hL 0 rfl) ?_
  refine lv_iload_n hx hb dX4_all_1 rfl (lv_at hL 1 rfl) ?_
  refine k_X4_isKind C B (Nat.le_trans (Nat.le_of_ble_eq_true rfl) hF) (Nat.le_trans (Nat.le_of_ble_eq_true rfl) hN) hL.1 (Nat.le_of_ble_eq_true rfl) h dX4_all_2 (fun q1 h H locs B => ?_)
  refine gg_if_eq hx hb 17 h dX4_all_5 (by decide) (fun h => ?_) (fun h => ?_)
  · refine lv_iconst (v := (-1)) hx hb dX4_all_17 (by decide) ?_
    exact hret _ _ _ _ _ _ _ ⟨Option.some.inj h, rfl, rfl⟩ B dX4_all_18
  · refine lv_iload_n hx hb dX4_all_8 rfl (lv_at hL 2 rfl) ?_
    refine lv_iconst (v := 0) hx hb dX4_all_9 (by decide) ?_
    refine lv_iconst (v := 1) hx hb dX4_all_10 (by decide) ?_
    refine k_X4_isIn C B (Nat.le_trans (Nat.le_of_ble_eq_true rfl) hF) (Nat.le_trans (Nat.le_of_ble_eq_true rfl) hN) hL.1 (Nat.le_of_ble_eq_true rfl) h dX4_all_11 (fun q2 h H locs B => ?_)
    refine gg_if_ne hx hb 19 h dX4_all_14 (by decide) (fun h => ?_) (fun h => ?_)
    · refine lv_iconst (v := 0) hx hb dX4_all_19 (by decide) ?_
      refine lv_istore_n (lv' := [(3, .int 0), (0, .ref (ad 0)), (1, .int x1), (2, .int x2)]) hx hb dX4_all_20 rfl hL (by decide) rfl (fun ls hL => ?_)
      refine lv_iconst (v := 0) hx hb dX4_all_21 (by decide) ?_
      refine lv_istore (lv' := [(4, .int 0), (3, .int 0), (0, .ref (ad 0)), (1, .int x1), (2, .int x2)]) hx hb dX4_all_22 hL (by decide) rfl (fun ls hL => ?_)
      obtain ⟨E24, h824, h⟩ := g_ob h
      have kx24 : ∀ (x3e24 : Int32) (H : Heap) (locs : List Loc) (ls : Array Slot), x3e24 = E24 → MB D cA ad A s gi gl H locs → lv_has ls 5 [(3, .int x3e24)] → W p l e R s m args below meth c H locs 0 0 Q (F0 m 63 ls []) := by
        intro x3e24 H locs ls he B hL
        subst he
        have h : f_X4_all_x24 gi x3e24 = some r := h
        unfold f_X4_all_x24 at h
        refine lv_iload_n hx hb dX4_all_63 rfl (lv_at hL 0 rfl) ?_
        exact hret _ _ _ _ _ _ _ ⟨Option.some.inj h, rfl, rfl⟩ B dX4_all_64
      have hl24 : ∀ (k : Nat) (x3l24 : Int32) (x4l24 : Int32) (H : Heap) (locs : List Loc) (ls : Array Slot), g_loop k (fun (s : Int32 × Int32) => f_X4_all_l24 gi x1 x2 s.1 s.2) (x3l24, x4l24) = some E24 → MB D cA ad A s gi gl H locs → lv_has ls 5 [(0, .ref (ad 0)), (1, .int x1), (2, .int x2), (3, .int x3l24), (4, .int x4l24)] → W p l e R s m args below meth c H locs 0 0 Q (F0 m 24 ls []) := by
        intro k
        induction k with
        | zero => intro x3l24 x4l24 H locs ls h; exact absurd h (fun z => g_loop_0 z)
        | succ k ih24 =>
          intro x3l24 x4l24 H locs ls h B hL
          obtain ⟨Z24, h, h924⟩ := g_loop_s h
          have h : f_X4_all_l24 gi x1 x2 x3l24 x4l24 = some Z24 := h
          unfold f_X4_all_l24 at h
          refine lv_iload hx hb dX4_all_24 (lv_at hL 4 rfl) ?_
          refine lv_aload_n hx hb dX4_all_26 rfl (lv_at hL 0 rfl) ?_
          refine k_X4_many C B (Nat.le_trans (Nat.le_of_ble_eq_true rfl) hF) (Nat.le_trans (Nat.le_of_ble_eq_true rfl) hN) hL.1 (Nat.le_of_ble_eq_true rfl) h dX4_all_27 (fun q3 h H locs B => ?_)
          refine gg_icmp_ge hx hb 63 h dX4_all_30 (by decide) (fun h => ?_) (fun h => ?_)
          · exact kx24 _ _ _ _ (g_exit h h924) B (lv_sub hL [3] rfl)
          · refine lv_iload_n hx hb dX4_all_33 rfl (lv_at hL 3 rfl) ?_
            refine lv_iload_n hx hb dX4_all_34 rfl (lv_at hL 2 rfl) ?_
            refine gg_if_ne hx hb 48 h dX4_all_35 (by decide) (fun h => ?_) (fun h => ?_)
            · refine lv_aload_n hx hb dX4_all_48 rfl (lv_at hL 0 rfl) ?_
              refine lv_iload hx hb dX4_all_49 (lv_at hL 4 rfl) ?_
              refine lv_iload_n hx hb dX4_all_51 rfl (lv_at hL 1 rfl) ?_
              refine k_X4_overOf C B (Nat.le_trans (Nat.le_of_ble_eq_true rfl) hF) (Nat.le_trans (Nat.le_of_ble_eq_true rfl) hN) hL.1 (Nat.le_of_ble_eq_true rfl) h dX4_all_52 (fun q4 h H locs B => ?_)
              refine lv_iadd hx hb dX4_all_55 ?_
              refine lv_istore_n (lv' := [(3, .int (x3l24 + q4)), (0, .ref (ad 0)), (1, .int x1), (2, .int x2), (4, .int x4l24)]) hx hb dX4_all_56 rfl hL (by decide) rfl (fun ls hL => ?_)
              refine lv_iinc (v := x4l24 + 1) (lv' := [(4, .int (x4l24 + 1)), (3, .int (x3l24 + q4)), (0, .ref (ad 0)), (1, .int x1), (2, .int x2)]) hx hb dX4_all_57 hL (k := 4) rfl rfl (by decide) rfl (fun ls hL => ?_)
              refine lv_goto (tgt := 24) hx hb dX4_all_60 (by decide) ?_
              exact ih24 _ _ _ _ _ (g_next h h924) B (lv_sub hL [2, 3, 4, 1, 0] rfl)
            · refine lv_aload_n hx hb dX4_all_38 rfl (lv_at hL 0 rfl) ?_
              refine lv_iload hx hb dX4_all_39 (lv_at hL 4 rfl) ?_
              refine lv_iload_n hx hb dX4_all_41 rfl (lv_at hL 1 rfl) ?_
              refine k_X4_inPurse C B (Nat.le_trans (Nat.le_of_ble_eq_true rfl) hF) (Nat.le_trans (Nat.le_of_ble_eq_true rfl) hN) hL.1 (Nat.le_of_ble_eq_true rfl) h dX4_all_42 (fun q5 h H locs B => ?_)
              refine lv_goto (tgt := 55) hx hb dX4_all_45 (by decide) ?_
              refine lv_iadd hx hb dX4_all_55 ?_
              refine lv_istore_n (lv' := [(3, .int (x3l24 + q5)), (0, .ref (ad 0)), (1, .int x1), (2, .int x2), (4, .int x4l24)]) hx hb dX4_all_56 rfl hL (by decide) rfl (fun ls hL => ?_)
              refine lv_iinc (v := x4l24 + 1) (lv' := [(4, .int (x4l24 + 1)), (3, .int (x3l24 + q5)), (0, .ref (ad 0)), (1, .int x1), (2, .int x2)]) hx hb dX4_all_57 hL (k := 4) rfl rfl (by decide) rfl (fun ls hL => ?_)
              refine lv_goto (tgt := 24) hx hb dX4_all_60 (by decide) ?_
              exact ih24 _ _ _ _ _ (g_next h h924) B (lv_sub hL [2, 3, 4, 1, 0] rfl)
      exact hl24 g_K _ _ _ _ _ h824 B (lv_sub hL [2, 3, 4, 1, 0] rfl)
    · refine lv_iconst (v := (-1)) hx hb dX4_all_17 (by decide) ?_
      exact hret _ _ _ _ _ _ _ ⟨Option.some.inj h, rfl, rfl⟩ B dX4_all_18
def f_X4_leftOf (gi : GI) (x1 : Int32) : Option (Int32) :=
  (g_ld gi 8 2 (gi 0 41)).bind fun v1 =>
  (g_ld gi 33 42 (35 + x1)).bind fun v2 =>
  some (v1 - v2)
set_option maxHeartbeats 400000 in
theorem w_X4_leftOf (l : Launch) (D : va_G) (cA : Nat → ClassId) (ad : Nat → Nat) (gi : GI) (gl : GL) (x1 : Int32) (r : Int32) (h : f_X4_leftOf gi x1 = some r) (sz : Nat) : Met l yX4_leftOf (ws_ yX4_leftOf cX4_leftOf 2 (some .int)) ({ frames := 0, cells := 0, slots := 0, locals := 0 } : Room) (va_Pc [.ref (ad 0), .int x1] (MPre D cA ad gi gl sz)) (va_Qi (fun v u => v = r ∧ u.1 = gi ∧ u.2 = gl) (MPost D cA ad) (MA ad sz)) 0 0 (MA ad sz) := by
  refine mm_stI (by decide +kernel) rfl (Nat.le_of_ble_eq_true rfl) (fun p e s m args below meth c R Q A ls C hF hN B hret hL => ?_) sz
  have hx := C.1
  have hb := C.2.1
  have hL : lv_has ls 2 [(0, .ref (ad 0)), (1, .int x1)] := hL
  unfold f_X4_leftOf at h
  refine lv_aload_n hx hb dX4_leftOf_0 rfl (lv_at hL 0 rfl) ?_
  refine mg_16 C B dX4_leftOf_1 ?_
  refine lv_aload_n hx hb dX4_leftOf_4 rfl (lv_at hL 0 rfl) ?_
  refine mg_41 C B dX4_leftOf_5 ?_
  refine mm_iald C B (a := 8) (n := 2) (Nat.le_of_ble_eq_true rfl) rfl h dX4_leftOf_8 (fun v1 h => ?_)
  refine lv_aload_n hx hb dX4_leftOf_9 rfl (lv_at hL 0 rfl) ?_
  refine mg_48 C B dX4_leftOf_10 ?_
  refine lv_bipush (v := 35) hx hb dX4_leftOf_13 (by decide) ?_
  refine lv_iload_n hx hb dX4_leftOf_15 rfl (lv_at hL 1 rfl) ?_
  refine lv_iadd hx hb dX4_leftOf_16 ?_
  refine mm_iald C B (a := 33) (n := 42) (Nat.le_of_ble_eq_true rfl) rfl h dX4_leftOf_17 (fun v2 h => ?_)
  refine lv_isub hx hb dX4_leftOf_18 ?_
  exact hret _ _ _ _ _ _ _ ⟨Option.some.inj h, rfl, rfl⟩ B dX4_leftOf_19
theorem k_X4_leftOf {p : Program} {l : Launch} {e : Env} {R : Room} {s : State} {m : MethodId} {args : Array Value} {below : List Frame} {meth : Method} {c : Code} {H : Heap} {locs : List Loc} {Q : State → Prop} {pc : Nat} {ls : Array Slot} {rest : List Value} {cc : ByteArray} {nL : Nat} {D : va_G} {cA : Nat → ClassId} {ad : Nat → Nat} {A : Nat → Prop} {gi : GI} {gl : GL} {α : Type} {r : α} {x1 : Int32} {ff : Int32 → Option α} (C : CallFix p m c cc nL s args lw_all RX4) (B : MB D cA ad A s gi gl H locs) (hF : 1 ≤ R.frames) (hN : 21 ≤ R.locals) (hs : ls.size = nL) (hw : (rest.map fun v => v.category).sum ≤ 8) (h : (f_X4_leftOf gi x1).bind ff = some r) (hdg : decode cc pc = .ok (.invokevirtual 442, 3)) (kk : ∀ q, ff q = some r → ∀ (H' : Heap) (locs' : List Loc), MB D cA ad A s gi gl H' locs' → W p l e R s m args below meth c H' locs' 0 0 Q (F0 m (pc + 3) ls (.int q :: rest))) : W p l e R s m args below meth c H locs 0 0 Q (F0 m pc ls (.int x1 :: .ref (ad 0) :: rest)) := by
  obtain ⟨q, h1, h2⟩ := g_ob h
  refine mm_cVI (As := [.int x1]) (rest := rest) (n := 1) C B (fun sz => w_X4_leftOf l D cA ad gi gl x1 q h1 sz) q2182 q2184 qs108 q150 q2185 (by decide +kernel) ⟨hF, hN⟩ rfl hs hw hdg (fun v u H9 locs9 hp B9 => ?_)
  obtain ⟨e1, e2, e3⟩ := hp
  rw [e2] at B9
  rw [e3] at B9
  subst e1
  exact kk _ h2 H9 locs9 B9
def f_X4_left (gi : GI) (x1 : Int32) : Option (Int32) :=
  (f_X4_isMan gi x1).bind fun q1 =>
  if q1 = 0 then
  (some ((-1)))
  else
  ((f_X4_leftOf gi x1).bind fun q2 =>
  some q2)
set_option maxHeartbeats 400000 in
theorem w_X4_left (l : Launch) (D : va_G) (cA : Nat → ClassId) (ad : Nat → Nat) (gi : GI) (gl : GL) (x1 : Int32) (r : Int32) (h : f_X4_left gi x1 = some r) (sz : Nat) : Met l yX4_left (ws_ yX4_left cX4_left 2 (some .int)) ({ frames := 2, cells := 0, slots := 0, locals := 43 } : Room) (va_Pc [.ref (ad 0), .int x1] (MPre D cA ad gi gl sz)) (va_Qi (fun v u => v = r ∧ u.1 = gi ∧ u.2 = gl) (MPost D cA ad) (MA ad sz)) 0 0 (MA ad sz) := by
  refine mm_stI (by decide +kernel) rfl (Nat.le_of_ble_eq_true rfl) (fun p e s m args below meth c R Q A ls C hF hN B hret hL => ?_) sz
  have hx := C.1
  have hb := C.2.1
  have hL : lv_has ls 2 [(0, .ref (ad 0)), (1, .int x1)] := hL
  unfold f_X4_left at h
  refine lv_aload_n hx hb dX4_left_0 rfl (lv_at hL 0 rfl) ?_
  refine lv_iload_n hx hb dX4_left_1 rfl (lv_at hL 1 rfl) ?_
  refine k_X4_isMan C B (Nat.le_trans (Nat.le_of_ble_eq_true rfl) hF) (Nat.le_trans (Nat.le_of_ble_eq_true rfl) hN) hL.1 (Nat.le_of_ble_eq_true rfl) h dX4_left_2 (fun q1 h H locs B => ?_)
  refine gg_if_eq hx hb 16 h dX4_left_5 (by decide) (fun h => ?_) (fun h => ?_)
  · refine lv_iconst (v := (-1)) hx hb dX4_left_16 (by decide) ?_
    exact hret _ _ _ _ _ _ _ ⟨Option.some.inj h, rfl, rfl⟩ B dX4_left_17
  · refine lv_aload_n hx hb dX4_left_8 rfl (lv_at hL 0 rfl) ?_
    refine lv_iload_n hx hb dX4_left_9 rfl (lv_at hL 1 rfl) ?_
    refine k_X4_leftOf C B (Nat.le_trans (Nat.le_of_ble_eq_true rfl) hF) (Nat.le_trans (Nat.le_of_ble_eq_true rfl) hN) hL.1 (Nat.le_of_ble_eq_true rfl) h dX4_left_10 (fun q2 h H locs B => ?_)
    refine lv_goto (tgt := 17) hx hb dX4_left_13 (by decide) ?_
    exact hret _ _ _ _ _ _ _ ⟨Option.some.inj h, rfl, rfl⟩ B dX4_left_17
def f_X4_keepAct_l51 (x1l51 : Int32) (gil51 : GI) : Option ((Int32 × GI) ⊕ (GI)) :=
  if 42 ≤ x1l51 then
  (some (.inr gil51))
  else
  ((g_ld gil51 33 42 x1l51).bind fun v1 =>
  (g_st gil51 34 1722 ((42 * (gil51 0 50)) + x1l51) v1).bind fun gi2 =>
  some (.inl ((x1l51 + 1, gi2))))
def f_X4_keepAct_x51 (gie51 : GI) : Option (GI) :=
  (some (g_pi gie51 0 50 ((gie51 0 50) + 1))).bind fun gi3 =>
  (some (g_pi gi3 0 51 0)).bind fun gi4 =>
  some gi4
def f_X4_keepAct_j49 (gij49 : GI) : Option (GI) :=
  (g_loop g_K (fun (s : Int32 × GI) => f_X4_keepAct_l51 s.1 s.2) (0, gij49)).bind fun E51 => f_X4_keepAct_x51 E51
def f_X4_keepAct_l11 (x1l11 : Int32) (gil11 : GI) : Option ((Int32 × GI) ⊕ (GI)) :=
  if 1680 ≤ x1l11 then
  (some (.inr gil11))
  else
  ((g_ld gil11 34 1722 (x1l11 + 42)).bind fun v5 =>
  (g_st gil11 34 1722 x1l11 v5).bind fun gi6 =>
  some (.inl ((x1l11 + 1, gi6))))
def f_X4_keepAct_x11 (gie11 : GI) : Option (GI) :=
  (some (g_pi gie11 0 50 ((gie11 0 50) - 1))).bind fun gi7 =>
  f_X4_keepAct_j49 gi7
def f_X4_keepAct (gi : GI)  : Option (GI) :=
  if (gi 0 50) = 40 then
  ((g_loop g_K (fun (s : Int32 × GI) => f_X4_keepAct_l11 s.1 s.2) (0, gi)).bind fun E11 => f_X4_keepAct_x11 E11)
  else
  (f_X4_keepAct_j49 gi)
set_option maxHeartbeats 400000 in
theorem w_X4_keepAct (l : Launch) (D : va_G) (cA : Nat → ClassId) (ad : Nat → Nat) (gi : GI) (gl : GL)  (r : GI) (h : f_X4_keepAct gi  = some r) (sz : Nat) : Met l yX4_keepAct (ws_ yX4_keepAct cX4_keepAct 2 (none)) ({ frames := 0, cells := 0, slots := 0, locals := 0 } : Room) (va_Pc [.ref (ad 0)] (MPre D cA ad gi gl sz)) (va_Qv (fun u => u.1 = r ∧ u.2 = gl) (MPost D cA ad) (MA ad sz)) 0 0 (MA ad sz) := by
  refine mm_stV (by decide +kernel) rfl (Nat.le_of_ble_eq_true rfl) (fun p e s m args below meth c R Q A ls C hF hN B hret hL => ?_) sz
  have hx := C.1
  have hb := C.2.1
  have hL : lv_has ls 2 [(0, .ref (ad 0))] := hL
  unfold f_X4_keepAct at h
  have hj49 : ∀ (gij49 : GI) (H : Heap) (locs : List Loc) (ls : Array Slot), f_X4_keepAct_j49 gij49 = some r → MB D cA ad A s gij49 gl H locs → lv_has ls 2 [(0, .ref (ad 0))] → W p l e R s m args below meth c H locs 0 0 Q (F0 m 49 ls []) := by
    intro gij49 H locs ls h B hL
    unfold f_X4_keepAct_j49 at h
    refine lv_iconst (v := 0) hx hb dX4_keepAct_49 (by decide) ?_
    refine lv_istore_n (lv' := [(1, .int 0), (0, .ref (ad 0))]) hx hb dX4_keepAct_50 rfl hL (by decide) rfl (fun ls hL => ?_)
    obtain ⟨E51, h851, h⟩ := g_ob h
    have kx51 : ∀ (gie51 : GI) (H : Heap) (locs : List Loc) (ls : Array Slot), gie51 = E51 → MB D cA ad A s gie51 gl H locs → lv_has ls 2 [(0, .ref (ad 0))] → W p l e R s m args below meth c H locs 0 0 Q (F0 m 83 ls []) := by
      intro gie51 H locs ls he B hL
      subst he
      have h : f_X4_keepAct_x51 gie51 = some r := h
      unfold f_X4_keepAct_x51 at h
      refine lv_aload_n hx hb dX4_keepAct_83 rfl (lv_at hL 0 rfl) ?_
      refine lv_dup hx hb dX4_keepAct_84 rfl ?_
      refine mg_50 C B dX4_keepAct_85 ?_
      refine lv_iconst (v := 1) hx hb dX4_keepAct_88 (by decide) ?_
      refine lv_iadd hx hb dX4_keepAct_89 ?_
      refine mp_50 C B h dX4_keepAct_90 (fun gi3 h H locs B => ?_)
      refine lv_aload_n hx hb dX4_keepAct_93 rfl (lv_at hL 0 rfl) ?_
      refine lv_iconst (v := 0) hx hb dX4_keepAct_94 (by decide) ?_
      refine mp_51 C B h dX4_keepAct_95 (fun gi4 h H locs B => ?_)
      exact hret _ _ _ _ _ _ ⟨Option.some.inj h, rfl⟩ B dX4_keepAct_98
    have hl51 : ∀ (k : Nat) (x1l51 : Int32) (gil51 : GI) (H : Heap) (locs : List Loc) (ls : Array Slot), g_loop k (fun (s : Int32 × GI) => f_X4_keepAct_l51 s.1 s.2) (x1l51, gil51) = some E51 → MB D cA ad A s gil51 gl H locs → lv_has ls 2 [(0, .ref (ad 0)), (1, .int x1l51)] → W p l e R s m args below meth c H locs 0 0 Q (F0 m 51 ls []) := by
      intro k
      induction k with
      | zero => intro x1l51 gil51 H locs ls h; exact absurd h (fun z => g_loop_0 z)
      | succ k ih51 =>
        intro x1l51 gil51 H locs ls h B hL
        obtain ⟨Z51, h, h951⟩ := g_loop_s h
        have h : f_X4_keepAct_l51 x1l51 gil51 = some Z51 := h
        unfold f_X4_keepAct_l51 at h
        refine lv_iload_n hx hb dX4_keepAct_51 rfl (lv_at hL 1 rfl) ?_
        refine lv_bipush (v := 42) hx hb dX4_keepAct_52 (by decide) ?_
        refine gg_icmp_ge hx hb 83 h dX4_keepAct_54 (by decide) (fun h => ?_) (fun h => ?_)
        · exact kx51 _ _ _ _ (g_exit h h951) B (lv_sub hL [0] rfl)
        · refine lv_aload_n hx hb dX4_keepAct_57 rfl (lv_at hL 0 rfl) ?_
          refine mg_49 C B dX4_keepAct_58 ?_
          refine lv_bipush (v := 42) hx hb dX4_keepAct_61 (by decide) ?_
          refine lv_aload_n hx hb dX4_keepAct_63 rfl (lv_at hL 0 rfl) ?_
          refine mg_50 C B dX4_keepAct_64 ?_
          refine lv_imul hx hb dX4_keepAct_67 ?_
          refine lv_iload_n hx hb dX4_keepAct_68 rfl (lv_at hL 1 rfl) ?_
          refine lv_iadd hx hb dX4_keepAct_69 ?_
          refine lv_aload_n hx hb dX4_keepAct_70 rfl (lv_at hL 0 rfl) ?_
          refine mg_48 C B dX4_keepAct_71 ?_
          refine lv_iload_n hx hb dX4_keepAct_74 rfl (lv_at hL 1 rfl) ?_
          refine mm_iald C B (a := 33) (n := 42) (Nat.le_of_ble_eq_true rfl) rfl h dX4_keepAct_75 (fun v1 h => ?_)
          refine mm_iast C B (a := 34) (n := 1722) (Nat.le_of_ble_eq_true rfl) rfl h dX4_keepAct_76 (fun gi2 h H locs B => ?_)
          refine lv_iinc (v := x1l51 + 1) (lv' := [(1, .int (x1l51 + 1)), (0, .ref (ad 0))]) hx hb dX4_keepAct_77 hL (k := 1) rfl rfl (by decide) rfl (fun ls hL => ?_)
          refine lv_goto (tgt := 51) hx hb dX4_keepAct_80 (by decide) ?_
          exact ih51 _ _ _ _ _ (g_next h h951) B (lv_sub hL [1, 0] rfl)
    exact hl51 g_K _ _ _ _ _ h851 B (lv_sub hL [1, 0] rfl)
  refine lv_aload_n hx hb dX4_keepAct_0 rfl (lv_at hL 0 rfl) ?_
  refine mg_50 C B dX4_keepAct_1 ?_
  refine lv_bipush (v := 40) hx hb dX4_keepAct_4 (by decide) ?_
  refine gg_icmp_ne hx hb 49 h dX4_keepAct_6 (by decide) (fun h => ?_) (fun h => ?_)
  · exact hj49 _ _ _ _ h B (lv_sub hL [0] rfl)
  · refine lv_iconst (v := 0) hx hb dX4_keepAct_9 (by decide) ?_
    refine lv_istore_n (lv' := [(1, .int 0), (0, .ref (ad 0))]) hx hb dX4_keepAct_10 rfl hL (by decide) rfl (fun ls hL => ?_)
    obtain ⟨E11, h811, h⟩ := g_ob h
    have kx11 : ∀ (gie11 : GI) (H : Heap) (locs : List Loc) (ls : Array Slot), gie11 = E11 → MB D cA ad A s gie11 gl H locs → lv_has ls 2 [(0, .ref (ad 0))] → W p l e R s m args below meth c H locs 0 0 Q (F0 m 39 ls []) := by
      intro gie11 H locs ls he B hL
      subst he
      have h : f_X4_keepAct_x11 gie11 = some r := h
      unfold f_X4_keepAct_x11 at h
      refine lv_aload_n hx hb dX4_keepAct_39 rfl (lv_at hL 0 rfl) ?_
      refine lv_dup hx hb dX4_keepAct_40 rfl ?_
      refine mg_50 C B dX4_keepAct_41 ?_
      refine lv_iconst (v := 1) hx hb dX4_keepAct_44 (by decide) ?_
      refine lv_isub hx hb dX4_keepAct_45 ?_
      refine mp_50 C B h dX4_keepAct_46 (fun gi7 h H locs B => ?_)
      exact hj49 _ _ _ _ h B (lv_sub hL [0] rfl)
    have hl11 : ∀ (k : Nat) (x1l11 : Int32) (gil11 : GI) (H : Heap) (locs : List Loc) (ls : Array Slot), g_loop k (fun (s : Int32 × GI) => f_X4_keepAct_l11 s.1 s.2) (x1l11, gil11) = some E11 → MB D cA ad A s gil11 gl H locs → lv_has ls 2 [(0, .ref (ad 0)), (1, .int x1l11)] → W p l e R s m args below meth c H locs 0 0 Q (F0 m 11 ls []) := by
      intro k
      induction k with
      | zero => intro x1l11 gil11 H locs ls h; exact absurd h (fun z => g_loop_0 z)
      | succ k ih11 =>
        intro x1l11 gil11 H locs ls h B hL
        obtain ⟨Z11, h, h911⟩ := g_loop_s h
        have h : f_X4_keepAct_l11 x1l11 gil11 = some Z11 := h
        unfold f_X4_keepAct_l11 at h
        refine lv_iload_n hx hb dX4_keepAct_11 rfl (lv_at hL 1 rfl) ?_
        refine lv_sipush (v := 1680) hx hb dX4_keepAct_12 (by decide) ?_
        refine gg_icmp_ge hx hb 39 h dX4_keepAct_15 (by decide) (fun h => ?_) (fun h => ?_)
        · exact kx11 _ _ _ _ (g_exit h h911) B (lv_sub hL [0] rfl)
        · refine lv_aload_n hx hb dX4_keepAct_18 rfl (lv_at hL 0 rfl) ?_
          refine mg_49 C B dX4_keepAct_19 ?_
          refine lv_iload_n hx hb dX4_keepAct_22 rfl (lv_at hL 1 rfl) ?_
          refine lv_aload_n hx hb dX4_keepAct_23 rfl (lv_at hL 0 rfl) ?_
          refine mg_49 C B dX4_keepAct_24 ?_
          refine lv_iload_n hx hb dX4_keepAct_27 rfl (lv_at hL 1 rfl) ?_
          refine lv_bipush (v := 42) hx hb dX4_keepAct_28 (by decide) ?_
          refine lv_iadd hx hb dX4_keepAct_30 ?_
          refine mm_iald C B (a := 34) (n := 1722) (Nat.le_of_ble_eq_true rfl) rfl h dX4_keepAct_31 (fun v5 h => ?_)
          refine mm_iast C B (a := 34) (n := 1722) (Nat.le_of_ble_eq_true rfl) rfl h dX4_keepAct_32 (fun gi6 h H locs B => ?_)
          refine lv_iinc (v := x1l11 + 1) (lv' := [(1, .int (x1l11 + 1)), (0, .ref (ad 0))]) hx hb dX4_keepAct_33 hL (k := 1) rfl rfl (by decide) rfl (fun ls hL => ?_)
          refine lv_goto (tgt := 11) hx hb dX4_keepAct_36 (by decide) ?_
          exact ih11 _ _ _ _ _ (g_next h h911) B (lv_sub hL [1, 0] rfl)
    exact hl11 g_K _ _ _ _ _ h811 B (lv_sub hL [1, 0] rfl)
theorem k_X4_keepAct {p : Program} {l : Launch} {e : Env} {R : Room} {s : State} {m : MethodId} {args : Array Value} {below : List Frame} {meth : Method} {c : Code} {H : Heap} {locs : List Loc} {Q : State → Prop} {pc : Nat} {ls : Array Slot} {rest : List Value} {cc : ByteArray} {nL : Nat} {D : va_G} {cA : Nat → ClassId} {ad : Nat → Nat} {A : Nat → Prop} {gi : GI} {gl : GL} {α : Type} {r : α}  {ff : GI → Option α} (C : CallFix p m c cc nL s args lw_all RX4) (B : MB D cA ad A s gi gl H locs) (hF : 1 ≤ R.frames) (hN : 21 ≤ R.locals) (hs : ls.size = nL) (hw : (rest.map fun v => v.category).sum ≤ 8) (h : (f_X4_keepAct gi ).bind ff = some r) (hdg : decode cc pc = .ok (.invokevirtual 445, 3)) (kk : ∀ q, ff q = some r → ∀ (H' : Heap) (locs' : List Loc), MB D cA ad A s q gl H' locs' → W p l e R s m args below meth c H' locs' 0 0 Q (F0 m (pc + 3) ls (rest))) : W p l e R s m args below meth c H locs 0 0 Q (F0 m pc ls (.ref (ad 0) :: rest)) := by
  obtain ⟨q, h1, h2⟩ := g_ob h
  refine mm_cVV (As := []) (rest := rest) (n := 0) C B (fun sz => w_X4_keepAct l D cA ad gi gl  q h1 sz) q2190 q2192 qs109 q150 q2193 (by decide +kernel) ⟨hF, hN⟩ rfl hs hw hdg (fun u H9 locs9 hp B9 => ?_)
  obtain ⟨e1, e3⟩ := hp
  rw [e3] at B9
  subst e1
  exact kk _ h2 H9 locs9 B9
def f_X4_leakTo (gi : GI) (x1 : Int32) (x2 : Int32) : Option (Int32) :=
  (g_ld gi 13 10 ((5 * (gi 0 41)) + x1)).bind fun v1 =>
  some ((x2 * (10 - v1)) / 10)
set_option maxHeartbeats 400000 in
theorem w_X4_leakTo (l : Launch) (D : va_G) (cA : Nat → ClassId) (ad : Nat → Nat) (gi : GI) (gl : GL) (x1 : Int32) (x2 : Int32) (r : Int32) (h : f_X4_leakTo gi x1 x2 = some r) (sz : Nat) : Met l yX4_leakTo (ws_ yX4_leakTo cX4_leakTo 3 (some .int)) ({ frames := 0, cells := 0, slots := 0, locals := 0 } : Room) (va_Pc [.ref (ad 0), .int x1, .int x2] (MPre D cA ad gi gl sz)) (va_Qi (fun v u => v = r ∧ u.1 = gi ∧ u.2 = gl) (MPost D cA ad) (MA ad sz)) 0 0 (MA ad sz) := by
  refine mm_stI (by decide +kernel) rfl (Nat.le_of_ble_eq_true rfl) (fun p e s m args below meth c R Q A ls C hF hN B hret hL => ?_) sz
  have hx := C.1
  have hb := C.2.1
  have hL : lv_has ls 3 [(0, .ref (ad 0)), (1, .int x1), (2, .int x2)] := hL
  unfold f_X4_leakTo at h
  refine lv_iload_n hx hb dX4_leakTo_0 rfl (lv_at hL 2 rfl) ?_
  refine lv_bipush (v := 10) hx hb dX4_leakTo_1 (by decide) ?_
  refine lv_aload_n hx hb dX4_leakTo_3 rfl (lv_at hL 0 rfl) ?_
  refine mg_21 C B dX4_leakTo_4 ?_
  refine lv_iconst (v := 5) hx hb dX4_leakTo_7 (by decide) ?_
  refine lv_aload_n hx hb dX4_leakTo_8 rfl (lv_at hL 0 rfl) ?_
  refine mg_41 C B dX4_leakTo_9 ?_
  refine lv_imul hx hb dX4_leakTo_12 ?_
  refine lv_iload_n hx hb dX4_leakTo_13 rfl (lv_at hL 1 rfl) ?_
  refine lv_iadd hx hb dX4_leakTo_14 ?_
  refine mm_iald C B (a := 13) (n := 10) (Nat.le_of_ble_eq_true rfl) rfl h dX4_leakTo_15 (fun v1 h => ?_)
  refine lv_isub hx hb dX4_leakTo_16 ?_
  refine lv_imul hx hb dX4_leakTo_17 ?_
  refine lv_bipush (v := 10) hx hb dX4_leakTo_18 (by decide) ?_
  refine lv_idiv hx hb dX4_leakTo_20 (by decide) ?_
  exact hret _ _ _ _ _ _ _ ⟨Option.some.inj h, rfl, rfl⟩ B dX4_leakTo_21
theorem k_X4_leakTo {p : Program} {l : Launch} {e : Env} {R : Room} {s : State} {m : MethodId} {args : Array Value} {below : List Frame} {meth : Method} {c : Code} {H : Heap} {locs : List Loc} {Q : State → Prop} {pc : Nat} {ls : Array Slot} {rest : List Value} {cc : ByteArray} {nL : Nat} {D : va_G} {cA : Nat → ClassId} {ad : Nat → Nat} {A : Nat → Prop} {gi : GI} {gl : GL} {α : Type} {r : α} {x1 : Int32} {x2 : Int32} {ff : Int32 → Option α} (C : CallFix p m c cc nL s args lw_all RX4) (B : MB D cA ad A s gi gl H locs) (hF : 1 ≤ R.frames) (hN : 22 ≤ R.locals) (hs : ls.size = nL) (hw : (rest.map fun v => v.category).sum ≤ 8) (h : (f_X4_leakTo gi x1 x2).bind ff = some r) (hdg : decode cc pc = .ok (.invokevirtual 423, 3)) (kk : ∀ q, ff q = some r → ∀ (H' : Heap) (locs' : List Loc), MB D cA ad A s gi gl H' locs' → W p l e R s m args below meth c H' locs' 0 0 Q (F0 m (pc + 3) ls (.int q :: rest))) : W p l e R s m args below meth c H locs 0 0 Q (F0 m pc ls (.int x2 :: .int x1 :: .ref (ad 0) :: rest)) := by
  obtain ⟨q, h1, h2⟩ := g_ob h
  refine mm_cVI (As := [.int x1, .int x2]) (rest := rest) (n := 2) C B (fun sz => w_X4_leakTo l D cA ad gi gl x1 x2 q h1 sz) q2198 q2200 qs111 q150 q2201 (by decide +kernel) ⟨hF, hN⟩ rfl hs hw hdg (fun v u H9 locs9 hp B9 => ?_)
  obtain ⟨e1, e2, e3⟩ := hp
  rw [e2] at B9
  rw [e3] at B9
  subst e1
  exact kk _ h2 H9 locs9 B9
def f_X4_lay_j53 (x1j53 : Int32) (x2j53 : Int32) (x3j53 : Int32) (x4j53 : Int32) (gij53 : GI) : Option (GI) :=
  (f_X4_many gij53 ).bind fun q3 =>
  if q3 ≤ (x1j53 + 1) then
  (some gij53)
  else
  ((g_ld gij53 33 42 ((20 + (3 * (x1j53 + 1))) + x2j53)).bind fun v4 =>
  (f_X4_leakTo gij53 x1j53 x3j53).bind fun q5 =>
  (g_st gij53 33 42 ((20 + (3 * (x1j53 + 1))) + x2j53) (v4 + (x4j53 * q5))).bind fun gi6 =>
  some gi6)
def f_X4_lay (gi : GI) (x1 : Int32) (x2 : Int32) (x3 : Int32) (x4 : Int32) : Option (GI) :=
  (g_ld gi 33 42 ((20 + (3 * x1)) + x2)).bind fun v1 =>
  (g_st gi 33 42 ((20 + (3 * x1)) + x2) (v1 + (x4 * x3))).bind fun gi2 =>
  if x1 ≤ 0 then
  (f_X4_lay_j53 x1 x2 x3 x4 gi2)
  else
  ((g_ld gi2 33 42 ((20 + (3 * (x1 - 1))) + x2)).bind fun v7 =>
  (f_X4_leakTo gi2 (x1 - 1) x3).bind fun q8 =>
  (g_st gi2 33 42 ((20 + (3 * (x1 - 1))) + x2) (v7 + (x4 * q8))).bind fun gi9 =>
  f_X4_lay_j53 x1 x2 x3 x4 gi9)
set_option maxHeartbeats 400000 in
theorem w_X4_lay (l : Launch) (D : va_G) (cA : Nat → ClassId) (ad : Nat → Nat) (gi : GI) (gl : GL) (x1 : Int32) (x2 : Int32) (x3 : Int32) (x4 : Int32) (r : GI) (h : f_X4_lay gi x1 x2 x3 x4 = some r) (sz : Nat) : Met l yX4_lay (ws_ yX4_lay cX4_lay 5 (none)) ({ frames := 1, cells := 0, slots := 0, locals := 22 } : Room) (va_Pc [.ref (ad 0), .int x1, .int x2, .int x3, .int x4] (MPre D cA ad gi gl sz)) (va_Qv (fun u => u.1 = r ∧ u.2 = gl) (MPost D cA ad) (MA ad sz)) 0 0 (MA ad sz) := by
  refine mm_stV (by decide +kernel) rfl (Nat.le_of_ble_eq_true rfl) (fun p e s m args below meth c R Q A ls C hF hN B hret hL => ?_) sz
  have hx := C.1
  have hb := C.2.1
  have hL : lv_has ls 5 [(0, .ref (ad 0)), (1, .int x1), (2, .int x2), (3, .int x3), (4, .int x4)] := hL
  unfold f_X4_lay at h
  have hj53 : ∀ (gij53 : GI) (H : Heap) (locs : List Loc) (ls : Array Slot), f_X4_lay_j53 x1 x2 x3 x4 gij53 = some r → MB D cA ad A s gij53 gl H locs → lv_has ls 5 [(0, .ref (ad 0)), (1, .int x1), (2, .int x2), (3, .int x3), (4, .int x4)] → W p l e R s m args below meth c H locs 0 0 Q (F0 m 53 ls []) := by
    intro gij53 H locs ls h B hL
    unfold f_X4_lay_j53 at h
    refine lv_iload_n hx hb dX4_lay_53 rfl (lv_at hL 1 rfl) ?_
    refine lv_iconst (v := 1) hx hb dX4_lay_54 (by decide) ?_
    refine lv_iadd hx hb dX4_lay_55 ?_
    refine lv_aload_n hx hb dX4_lay_56 rfl (lv_at hL 0 rfl) ?_
    refine k_X4_many C B (Nat.le_trans (Nat.le_of_ble_eq_true rfl) hF) (Nat.le_trans (Nat.le_of_ble_eq_true rfl) hN) hL.1 (Nat.le_of_ble_eq_true rfl) h dX4_lay_57 (fun q3 h H locs B => ?_)
    refine gg_icmp_ge hx hb 90 h dX4_lay_60 (by decide) (fun h => ?_) (fun h => ?_)
    · exact hret _ _ _ _ _ _ ⟨Option.some.inj h, rfl⟩ B dX4_lay_90
    · refine lv_aload_n hx hb dX4_lay_63 rfl (lv_at hL 0 rfl) ?_
      refine mg_48 C B dX4_lay_64 ?_
      refine lv_bipush (v := 20) hx hb dX4_lay_67 (by decide) ?_
      refine lv_iconst (v := 3) hx hb dX4_lay_69 (by decide) ?_
      refine lv_iload_n hx hb dX4_lay_70 rfl (lv_at hL 1 rfl) ?_
      refine lv_iconst (v := 1) hx hb dX4_lay_71 (by decide) ?_
      refine lv_iadd hx hb dX4_lay_72 ?_
      refine lv_imul hx hb dX4_lay_73 ?_
      refine lv_iadd hx hb dX4_lay_74 ?_
      refine lv_iload_n hx hb dX4_lay_75 rfl (lv_at hL 2 rfl) ?_
      refine lv_iadd hx hb dX4_lay_76 ?_
      refine lv_dup2_11 hx hb dX4_lay_77 rfl rfl ?_
      refine mm_iald C B (a := 33) (n := 42) (Nat.le_of_ble_eq_true rfl) rfl h dX4_lay_78 (fun v4 h => ?_)
      refine lv_iload hx hb dX4_lay_79 (lv_at hL 4 rfl) ?_
      refine lv_aload_n hx hb dX4_lay_81 rfl (lv_at hL 0 rfl) ?_
      refine lv_iload_n hx hb dX4_lay_82 rfl (lv_at hL 1 rfl) ?_
      refine lv_iload_n hx hb dX4_lay_83 rfl (lv_at hL 3 rfl) ?_
      refine k_X4_leakTo C B (Nat.le_trans (Nat.le_of_ble_eq_true rfl) hF) (Nat.le_trans (Nat.le_of_ble_eq_true rfl) hN) hL.1 (Nat.le_of_ble_eq_true rfl) h dX4_lay_84 (fun q5 h H locs B => ?_)
      refine lv_imul hx hb dX4_lay_87 ?_
      refine lv_iadd hx hb dX4_lay_88 ?_
      refine mm_iast C B (a := 33) (n := 42) (Nat.le_of_ble_eq_true rfl) rfl h dX4_lay_89 (fun gi6 h H locs B => ?_)
      exact hret _ _ _ _ _ _ ⟨Option.some.inj h, rfl⟩ B dX4_lay_90
  refine lv_aload_n hx hb dX4_lay_0 rfl (lv_at hL 0 rfl) ?_
  refine mg_48 C B dX4_lay_1 ?_
  refine lv_bipush (v := 20) hx hb dX4_lay_4 (by decide) ?_
  refine lv_iconst (v := 3) hx hb dX4_lay_6 (by decide) ?_
  refine lv_iload_n hx hb dX4_lay_7 rfl (lv_at hL 1 rfl) ?_
  refine lv_imul hx hb dX4_lay_8 ?_
  refine lv_iadd hx hb dX4_lay_9 ?_
  refine lv_iload_n hx hb dX4_lay_10 rfl (lv_at hL 2 rfl) ?_
  refine lv_iadd hx hb dX4_lay_11 ?_
  refine lv_dup2_11 hx hb dX4_lay_12 rfl rfl ?_
  refine mm_iald C B (a := 33) (n := 42) (Nat.le_of_ble_eq_true rfl) rfl h dX4_lay_13 (fun v1 h => ?_)
  refine lv_iload hx hb dX4_lay_14 (lv_at hL 4 rfl) ?_
  refine lv_iload_n hx hb dX4_lay_16 rfl (lv_at hL 3 rfl) ?_
  refine lv_imul hx hb dX4_lay_17 ?_
  refine lv_iadd hx hb dX4_lay_18 ?_
  refine mm_iast C B (a := 33) (n := 42) (Nat.le_of_ble_eq_true rfl) rfl h dX4_lay_19 (fun gi2 h H locs B => ?_)
  refine lv_iload_n hx hb dX4_lay_20 rfl (lv_at hL 1 rfl) ?_
  refine gg_if_le hx hb 53 h dX4_lay_21 (by decide) (fun h => ?_) (fun h => ?_)
  · exact hj53 _ _ _ _ h B (lv_sub hL [0, 1, 2, 3, 4] rfl)
  · refine lv_aload_n hx hb dX4_lay_24 rfl (lv_at hL 0 rfl) ?_
    refine mg_48 C B dX4_lay_25 ?_
    refine lv_bipush (v := 20) hx hb dX4_lay_28 (by decide) ?_
    refine lv_iconst (v := 3) hx hb dX4_lay_30 (by decide) ?_
    refine lv_iload_n hx hb dX4_lay_31 rfl (lv_at hL 1 rfl) ?_
    refine lv_iconst (v := 1) hx hb dX4_lay_32 (by decide) ?_
    refine lv_isub hx hb dX4_lay_33 ?_
    refine lv_imul hx hb dX4_lay_34 ?_
    refine lv_iadd hx hb dX4_lay_35 ?_
    refine lv_iload_n hx hb dX4_lay_36 rfl (lv_at hL 2 rfl) ?_
    refine lv_iadd hx hb dX4_lay_37 ?_
    refine lv_dup2_11 hx hb dX4_lay_38 rfl rfl ?_
    refine mm_iald C B (a := 33) (n := 42) (Nat.le_of_ble_eq_true rfl) rfl h dX4_lay_39 (fun v7 h => ?_)
    refine lv_iload hx hb dX4_lay_40 (lv_at hL 4 rfl) ?_
    refine lv_aload_n hx hb dX4_lay_42 rfl (lv_at hL 0 rfl) ?_
    refine lv_iload_n hx hb dX4_lay_43 rfl (lv_at hL 1 rfl) ?_
    refine lv_iconst (v := 1) hx hb dX4_lay_44 (by decide) ?_
    refine lv_isub hx hb dX4_lay_45 ?_
    refine lv_iload_n hx hb dX4_lay_46 rfl (lv_at hL 3 rfl) ?_
    refine k_X4_leakTo C B (Nat.le_trans (Nat.le_of_ble_eq_true rfl) hF) (Nat.le_trans (Nat.le_of_ble_eq_true rfl) hN) hL.1 (Nat.le_of_ble_eq_true rfl) h dX4_lay_47 (fun q8 h H locs B => ?_)
    refine lv_imul hx hb dX4_lay_50 ?_
    refine lv_iadd hx hb dX4_lay_51 ?_
    refine mm_iast C B (a := 33) (n := 42) (Nat.le_of_ble_eq_true rfl) rfl h dX4_lay_52 (fun gi9 h H locs B => ?_)
    exact hj53 _ _ _ _ h B (lv_sub hL [0, 1, 2, 3, 4] rfl)
theorem k_X4_lay {p : Program} {l : Launch} {e : Env} {R : Room} {s : State} {m : MethodId} {args : Array Value} {below : List Frame} {meth : Method} {c : Code} {H : Heap} {locs : List Loc} {Q : State → Prop} {pc : Nat} {ls : Array Slot} {rest : List Value} {cc : ByteArray} {nL : Nat} {D : va_G} {cA : Nat → ClassId} {ad : Nat → Nat} {A : Nat → Prop} {gi : GI} {gl : GL} {α : Type} {r : α} {x1 : Int32} {x2 : Int32} {x3 : Int32} {x4 : Int32} {ff : GI → Option α} (C : CallFix p m c cc nL s args lw_all RX4) (B : MB D cA ad A s gi gl H locs) (hF : 2 ≤ R.frames) (hN : 46 ≤ R.locals) (hs : ls.size = nL) (hw : (rest.map fun v => v.category).sum ≤ 8) (h : (f_X4_lay gi x1 x2 x3 x4).bind ff = some r) (hdg : decode cc pc = .ok (.invokevirtual 448, 3)) (kk : ∀ q, ff q = some r → ∀ (H' : Heap) (locs' : List Loc), MB D cA ad A s q gl H' locs' → W p l e R s m args below meth c H' locs' 0 0 Q (F0 m (pc + 3) ls (rest))) : W p l e R s m args below meth c H locs 0 0 Q (F0 m pc ls (.int x4 :: .int x3 :: .int x2 :: .int x1 :: .ref (ad 0) :: rest)) := by
  obtain ⟨q, h1, h2⟩ := g_ob h
  refine mm_cVV (As := [.int x1, .int x2, .int x3, .int x4]) (rest := rest) (n := 4) C B (fun sz => w_X4_lay l D cA ad gi gl x1 x2 x3 x4 q h1 sz) q2194 q2196 qs110 q150 q2197 (by decide +kernel) ⟨hF, hN⟩ rfl hs hw hdg (fun u H9 locs9 hp B9 => ?_)
  obtain ⟨e1, e3⟩ := hp
  rw [e3] at B9
  subst e1
  exact kk _ h2 H9 locs9 B9
def f_X4_spend (gi : GI) (x1 : Int32) (x2 : Int32) (x3 : Int32) : Option (Int32 × GI) :=
  (f_X4_isMan gi x1).bind fun q1 =>
  if q1 = 0 then
  (some ((-1), gi))
  else
  ((f_X4_isKind gi x2).bind fun q2 =>
  if q2 = 0 then
  (some ((-1), gi))
  else
  ((f_X4_isIn gi x3 1 8).bind fun q3 =>
  if q3 = 0 then
  (some ((-1), gi))
  else
  ((f_X4_inPurse gi x1 x2).bind fun q4 =>
  if q4 < x3 then
  (some ((-1), gi))
  else
  ((f_X4_leftOf gi x1).bind fun q5 =>
  if x3 ≤ q5 then
  ((f_X4_keepAct gi ).bind fun q6 =>
  (g_ld q6 33 42 ((0 + (3 * x1)) + x2)).bind fun v7 =>
  (g_st q6 33 42 ((0 + (3 * x1)) + x2) (v7 - x3)).bind fun gi8 =>
  (g_ld gi8 33 42 (35 + x1)).bind fun v9 =>
  (g_st gi8 33 42 (35 + x1) (v9 + x3)).bind fun gi10 =>
  (f_X4_lay gi10 x1 x2 x3 1).bind fun q11 =>
  (f_X4_overOf q11 x1 x2).bind fun q12 =>
  some (q12, q11))
  else
  (some ((-1), gi))))))
set_option maxHeartbeats 400000 in
theorem w_X4_spend (l : Launch) (D : va_G) (cA : Nat → ClassId) (ad : Nat → Nat) (gi : GI) (gl : GL) (x1 : Int32) (x2 : Int32) (x3 : Int32) (r : Int32 × GI) (h : f_X4_spend gi x1 x2 x3 = some r) (sz : Nat) : Met l yX4_spend (ws_ yX4_spend cX4_spend 4 (some .int)) ({ frames := 2, cells := 0, slots := 0, locals := 46 } : Room) (va_Pc [.ref (ad 0), .int x1, .int x2, .int x3] (MPre D cA ad gi gl sz)) (va_Qi (fun v u => (v, u.1) = r ∧ u.2 = gl) (MPost D cA ad) (MA ad sz)) 0 0 (MA ad sz) := by
  refine mm_stI (by decide +kernel) rfl (Nat.le_of_ble_eq_true rfl) (fun p e s m args below meth c R Q A ls C hF hN B hret hL => ?_) sz
  have hx := C.1
  have hb := C.2.1
  have hL : lv_has ls 4 [(0, .ref (ad 0)), (1, .int x1), (2, .int x2), (3, .int x3)] := hL
  unfold f_X4_spend at h
  refine lv_aload_n hx hb dX4_spend_0 rfl (lv_at hL 0 rfl) ?_
  refine lv_iload_n hx hb dX4_spend_1 rfl (lv_at hL 1 rfl) ?_
  refine k_X4_isMan C B (Nat.le_trans (Nat.le_of_ble_eq_true rfl) hF) (Nat.le_trans (Nat.le_of_ble_eq_true rfl) hN) hL.1 (Nat.le_of_ble_eq_true rfl) h dX4_spend_2 (fun q1 h H locs B => ?_)
  refine gg_if_eq hx hb 45 h dX4_spend_5 (by decide) (fun h => ?_) (fun h => ?_)
  · refine lv_iconst (v := (-1)) hx hb dX4_spend_45 (by decide) ?_
    exact hret _ _ _ _ _ _ _ ⟨Option.some.inj h, rfl⟩ B dX4_spend_46
  · refine lv_aload_n hx hb dX4_spend_8 rfl (lv_at hL 0 rfl) ?_
    refine lv_iload_n hx hb dX4_spend_9 rfl (lv_at hL 2 rfl) ?_
    refine k_X4_isKind C B (Nat.le_trans (Nat.le_of_ble_eq_true rfl) hF) (Nat.le_trans (Nat.le_of_ble_eq_true rfl) hN) hL.1 (Nat.le_of_ble_eq_true rfl) h dX4_spend_10 (fun q2 h H locs B => ?_)
    refine gg_if_eq hx hb 45 h dX4_spend_13 (by decide) (fun h => ?_) (fun h => ?_)
    · refine lv_iconst (v := (-1)) hx hb dX4_spend_45 (by decide) ?_
      exact hret _ _ _ _ _ _ _ ⟨Option.some.inj h, rfl⟩ B dX4_spend_46
    · refine lv_iload_n hx hb dX4_spend_16 rfl (lv_at hL 3 rfl) ?_
      refine lv_iconst (v := 1) hx hb dX4_spend_17 (by decide) ?_
      refine lv_bipush (v := 8) hx hb dX4_spend_18 (by decide) ?_
      refine k_X4_isIn C B (Nat.le_trans (Nat.le_of_ble_eq_true rfl) hF) (Nat.le_trans (Nat.le_of_ble_eq_true rfl) hN) hL.1 (Nat.le_of_ble_eq_true rfl) h dX4_spend_20 (fun q3 h H locs B => ?_)
      refine gg_if_eq hx hb 45 h dX4_spend_23 (by decide) (fun h => ?_) (fun h => ?_)
      · refine lv_iconst (v := (-1)) hx hb dX4_spend_45 (by decide) ?_
        exact hret _ _ _ _ _ _ _ ⟨Option.some.inj h, rfl⟩ B dX4_spend_46
      · refine lv_iload_n hx hb dX4_spend_26 rfl (lv_at hL 3 rfl) ?_
        refine lv_aload_n hx hb dX4_spend_27 rfl (lv_at hL 0 rfl) ?_
        refine lv_iload_n hx hb dX4_spend_28 rfl (lv_at hL 1 rfl) ?_
        refine lv_iload_n hx hb dX4_spend_29 rfl (lv_at hL 2 rfl) ?_
        refine k_X4_inPurse C B (Nat.le_trans (Nat.le_of_ble_eq_true rfl) hF) (Nat.le_trans (Nat.le_of_ble_eq_true rfl) hN) hL.1 (Nat.le_of_ble_eq_true rfl) h dX4_spend_30 (fun q4 h H locs B => ?_)
        refine gg_icmp_gt hx hb 45 h dX4_spend_33 (by decide) (fun h => ?_) (fun h => ?_)
        · refine lv_iconst (v := (-1)) hx hb dX4_spend_45 (by decide) ?_
          exact hret _ _ _ _ _ _ _ ⟨Option.some.inj h, rfl⟩ B dX4_spend_46
        · refine lv_iload_n hx hb dX4_spend_36 rfl (lv_at hL 3 rfl) ?_
          refine lv_aload_n hx hb dX4_spend_37 rfl (lv_at hL 0 rfl) ?_
          refine lv_iload_n hx hb dX4_spend_38 rfl (lv_at hL 1 rfl) ?_
          refine k_X4_leftOf C B (Nat.le_trans (Nat.le_of_ble_eq_true rfl) hF) (Nat.le_trans (Nat.le_of_ble_eq_true rfl) hN) hL.1 (Nat.le_of_ble_eq_true rfl) h dX4_spend_39 (fun q5 h H locs B => ?_)
          refine gg_icmp_le hx hb 47 h dX4_spend_42 (by decide) (fun h => ?_) (fun h => ?_)
          · refine lv_aload_n hx hb dX4_spend_47 rfl (lv_at hL 0 rfl) ?_
            refine k_X4_keepAct C B (Nat.le_trans (Nat.le_of_ble_eq_true rfl) hF) (Nat.le_trans (Nat.le_of_ble_eq_true rfl) hN) hL.1 (Nat.le_of_ble_eq_true rfl) h dX4_spend_48 (fun q6 h H locs B => ?_)
            refine lv_aload_n hx hb dX4_spend_51 rfl (lv_at hL 0 rfl) ?_
            refine mg_48 C B dX4_spend_52 ?_
            refine lv_iconst (v := 0) hx hb dX4_spend_55 (by decide) ?_
            refine lv_iconst (v := 3) hx hb dX4_spend_56 (by decide) ?_
            refine lv_iload_n hx hb dX4_spend_57 rfl (lv_at hL 1 rfl) ?_
            refine lv_imul hx hb dX4_spend_58 ?_
            refine lv_iadd hx hb dX4_spend_59 ?_
            refine lv_iload_n hx hb dX4_spend_60 rfl (lv_at hL 2 rfl) ?_
            refine lv_iadd hx hb dX4_spend_61 ?_
            refine lv_dup2_11 hx hb dX4_spend_62 rfl rfl ?_
            refine mm_iald C B (a := 33) (n := 42) (Nat.le_of_ble_eq_true rfl) rfl h dX4_spend_63 (fun v7 h => ?_)
            refine lv_iload_n hx hb dX4_spend_64 rfl (lv_at hL 3 rfl) ?_
            refine lv_isub hx hb dX4_spend_65 ?_
            refine mm_iast C B (a := 33) (n := 42) (Nat.le_of_ble_eq_true rfl) rfl h dX4_spend_66 (fun gi8 h H locs B => ?_)
            refine lv_aload_n hx hb dX4_spend_67 rfl (lv_at hL 0 rfl) ?_
            refine mg_48 C B dX4_spend_68 ?_
            refine lv_bipush (v := 35) hx hb dX4_spend_71 (by decide) ?_
            refine lv_iload_n hx hb dX4_spend_73 rfl (lv_at hL 1 rfl) ?_
            refine lv_iadd hx hb dX4_spend_74 ?_
            refine lv_dup2_11 hx hb dX4_spend_75 rfl rfl ?_
            refine mm_iald C B (a := 33) (n := 42) (Nat.le_of_ble_eq_true rfl) rfl h dX4_spend_76 (fun v9 h => ?_)
            refine lv_iload_n hx hb dX4_spend_77 rfl (lv_at hL 3 rfl) ?_
            refine lv_iadd hx hb dX4_spend_78 ?_
            refine mm_iast C B (a := 33) (n := 42) (Nat.le_of_ble_eq_true rfl) rfl h dX4_spend_79 (fun gi10 h H locs B => ?_)
            refine lv_aload_n hx hb dX4_spend_80 rfl (lv_at hL 0 rfl) ?_
            refine lv_iload_n hx hb dX4_spend_81 rfl (lv_at hL 1 rfl) ?_
            refine lv_iload_n hx hb dX4_spend_82 rfl (lv_at hL 2 rfl) ?_
            refine lv_iload_n hx hb dX4_spend_83 rfl (lv_at hL 3 rfl) ?_
            refine lv_iconst (v := 1) hx hb dX4_spend_84 (by decide) ?_
            refine k_X4_lay C B (Nat.le_trans (Nat.le_of_ble_eq_true rfl) hF) (Nat.le_trans (Nat.le_of_ble_eq_true rfl) hN) hL.1 (Nat.le_of_ble_eq_true rfl) h dX4_spend_85 (fun q11 h H locs B => ?_)
            refine lv_aload_n hx hb dX4_spend_88 rfl (lv_at hL 0 rfl) ?_
            refine lv_iload_n hx hb dX4_spend_89 rfl (lv_at hL 1 rfl) ?_
            refine lv_iload_n hx hb dX4_spend_90 rfl (lv_at hL 2 rfl) ?_
            refine k_X4_overOf C B (Nat.le_trans (Nat.le_of_ble_eq_true rfl) hF) (Nat.le_trans (Nat.le_of_ble_eq_true rfl) hN) hL.1 (Nat.le_of_ble_eq_true rfl) h dX4_spend_91 (fun q12 h H locs B => ?_)
            exact hret _ _ _ _ _ _ _ ⟨Option.some.inj h, rfl⟩ B dX4_spend_94
          · refine lv_iconst (v := (-1)) hx hb dX4_spend_45 (by decide) ?_
            exact hret _ _ _ _ _ _ _ ⟨Option.some.inj h, rfl⟩ B dX4_spend_46
def f_X4_lesser (gi : GI) (x0 : Int32) (x1 : Int32) : Option (Int32) :=
  if x1 ≤ x0 then
  (some x1)
  else
  (some x0)
set_option maxHeartbeats 400000 in
theorem w_X4_lesser (l : Launch) (D : va_G) (cA : Nat → ClassId) (ad : Nat → Nat) (gi : GI) (gl : GL) (x0 : Int32) (x1 : Int32) (r : Int32) (h : f_X4_lesser gi x0 x1 = some r) (sz : Nat) : Met l yX4_lesser (ws_ yX4_lesser cX4_lesser 2 (some .int)) ({ frames := 0, cells := 0, slots := 0, locals := 0 } : Room) (va_Pc [.int x0, .int x1] (MPre D cA ad gi gl sz)) (va_Qi (fun v u => v = r ∧ u.1 = gi ∧ u.2 = gl) (MPost D cA ad) (MA ad sz)) 0 0 (MA ad sz) := by
  refine mm_stI (by decide +kernel) rfl (Nat.le_of_ble_eq_true rfl) (fun p e s m args below meth c R Q A ls C hF hN B hret hL => ?_) sz
  have hx := C.1
  have hb := C.2.1
  have hL : lv_has ls 2 [(0, .int x0), (1, .int x1)] := hL
  unfold f_X4_lesser at h
  refine lv_iload_n hx hb dX4_lesser_0 rfl (lv_at hL 0 rfl) ?_
  refine lv_iload_n hx hb dX4_lesser_1 rfl (lv_at hL 1 rfl) ?_
  refine gg_icmp_ge hx hb 9 h dX4_lesser_2 (by decide) (fun h => ?_) (fun h => ?_)
  · refine lv_iload_n hx hb dX4_lesser_9 rfl (lv_at hL 1 rfl) ?_
    exact hret _ _ _ _ _ _ _ ⟨Option.some.inj h, rfl, rfl⟩ B dX4_lesser_10
  · refine lv_iload_n hx hb dX4_lesser_5 rfl (lv_at hL 0 rfl) ?_
    refine lv_goto (tgt := 10) hx hb dX4_lesser_6 (by decide) ?_
    exact hret _ _ _ _ _ _ _ ⟨Option.some.inj h, rfl, rfl⟩ B dX4_lesser_10
theorem k_X4_lesser {p : Program} {l : Launch} {e : Env} {R : Room} {s : State} {m : MethodId} {args : Array Value} {below : List Frame} {meth : Method} {c : Code} {H : Heap} {locs : List Loc} {Q : State → Prop} {pc : Nat} {ls : Array Slot} {rest : List Value} {cc : ByteArray} {nL : Nat} {D : va_G} {cA : Nat → ClassId} {ad : Nat → Nat} {A : Nat → Prop} {gi : GI} {gl : GL} {α : Type} {r : α} {x0 : Int32} {x1 : Int32} {ff : Int32 → Option α} (C : CallFix p m c cc nL s args lw_all RX4) (B : MB D cA ad A s gi gl H locs) (hF : 1 ≤ R.frames) (hN : 21 ≤ R.locals) (hs : ls.size = nL) (hw : (rest.map fun v => v.category).sum ≤ 8) (h : (f_X4_lesser gi x0 x1).bind ff = some r) (hdg : decode cc pc = .ok (.invokestatic 452, 3)) (kk : ∀ q, ff q = some r → ∀ (H' : Heap) (locs' : List Loc), MB D cA ad A s gi gl H' locs' → W p l e R s m args below meth c H' locs' 0 0 Q (F0 m (pc + 3) ls (.int q :: rest))) : W p l e R s m args below meth c H locs 0 0 Q (F0 m pc ls (.int x1 :: .int x0 :: rest)) := by
  obtain ⟨q, h1, h2⟩ := g_ob h
  refine mm_cSI (As := [.int x0, .int x1]) (rest := rest) (n := 2) C B (fun sz => w_X4_lesser l D cA ad gi gl x0 x1 q h1 sz) q2210 q2211 q150 q2212 (by decide +kernel) ⟨hF, hN⟩ rfl hs hw hdg (fun v u H9 locs9 hp B9 => ?_)
  obtain ⟨e1, e2, e3⟩ := hp
  rw [e2] at B9
  rw [e3] at B9
  subst e1
  exact kk _ h2 H9 locs9 B9
def f_X4_gets (gi : GI) (x1 : Int32) (x2 : Int32) (x3 : Int32) : Option (GI) :=
  (f_X4_inPurse gi x1 x2).bind fun q1 =>
  (f_X4_lesser gi 99 (q1 + x3)).bind fun q2 =>
  (g_st gi 33 42 ((0 + (3 * x1)) + x2) q2).bind fun gi3 =>
  some gi3
set_option maxHeartbeats 400000 in
theorem w_X4_gets (l : Launch) (D : va_G) (cA : Nat → ClassId) (ad : Nat → Nat) (gi : GI) (gl : GL) (x1 : Int32) (x2 : Int32) (x3 : Int32) (r : GI) (h : f_X4_gets gi x1 x2 x3 = some r) (sz : Nat) : Met l yX4_gets (ws_ yX4_gets cX4_gets 4 (none)) ({ frames := 1, cells := 0, slots := 0, locals := 22 } : Room) (va_Pc [.ref (ad 0), .int x1, .int x2, .int x3] (MPre D cA ad gi gl sz)) (va_Qv (fun u => u.1 = r ∧ u.2 = gl) (MPost D cA ad) (MA ad sz)) 0 0 (MA ad sz) := by
  refine mm_stV (by decide +kernel) rfl (Nat.le_of_ble_eq_true rfl) (fun p e s m args below meth c R Q A ls C hF hN B hret hL => ?_) sz
  have hx := C.1
  have hb := C.2.1
  have hL : lv_has ls 4 [(0, .ref (ad 0)), (1, .int x1), (2, .int x2), (3, .int x3)] := hL
  unfold f_X4_gets at h
  refine lv_aload_n hx hb dX4_gets_0 rfl (lv_at hL 0 rfl) ?_
  refine mg_48 C B dX4_gets_1 ?_
  refine lv_iconst (v := 0) hx hb dX4_gets_4 (by decide) ?_
  refine lv_iconst (v := 3) hx hb dX4_gets_5 (by decide) ?_
  refine lv_iload_n hx hb dX4_gets_6 rfl (lv_at hL 1 rfl) ?_
  refine lv_imul hx hb dX4_gets_7 ?_
  refine lv_iadd hx hb dX4_gets_8 ?_
  refine lv_iload_n hx hb dX4_gets_9 rfl (lv_at hL 2 rfl) ?_
  refine lv_iadd hx hb dX4_gets_10 ?_
  refine lv_bipush (v := 99) hx hb dX4_gets_11 (by decide) ?_
  refine lv_aload_n hx hb dX4_gets_13 rfl (lv_at hL 0 rfl) ?_
  refine lv_iload_n hx hb dX4_gets_14 rfl (lv_at hL 1 rfl) ?_
  refine lv_iload_n hx hb dX4_gets_15 rfl (lv_at hL 2 rfl) ?_
  refine k_X4_inPurse C B (Nat.le_trans (Nat.le_of_ble_eq_true rfl) hF) (Nat.le_trans (Nat.le_of_ble_eq_true rfl) hN) hL.1 (Nat.le_of_ble_eq_true rfl) h dX4_gets_16 (fun q1 h H locs B => ?_)
  refine lv_iload_n hx hb dX4_gets_19 rfl (lv_at hL 3 rfl) ?_
  refine lv_iadd hx hb dX4_gets_20 ?_
  refine k_X4_lesser C B (Nat.le_trans (Nat.le_of_ble_eq_true rfl) hF) (Nat.le_trans (Nat.le_of_ble_eq_true rfl) hN) hL.1 (Nat.le_of_ble_eq_true rfl) h dX4_gets_21 (fun q2 h H locs B => ?_)
  refine mm_iast C B (a := 33) (n := 42) (Nat.le_of_ble_eq_true rfl) rfl h dX4_gets_24 (fun gi3 h H locs B => ?_)
  exact hret _ _ _ _ _ _ ⟨Option.some.inj h, rfl⟩ B dX4_gets_25
theorem k_X4_gets {p : Program} {l : Launch} {e : Env} {R : Room} {s : State} {m : MethodId} {args : Array Value} {below : List Frame} {meth : Method} {c : Code} {H : Heap} {locs : List Loc} {Q : State → Prop} {pc : Nat} {ls : Array Slot} {rest : List Value} {cc : ByteArray} {nL : Nat} {D : va_G} {cA : Nat → ClassId} {ad : Nat → Nat} {A : Nat → Prop} {gi : GI} {gl : GL} {α : Type} {r : α} {x1 : Int32} {x2 : Int32} {x3 : Int32} {ff : GI → Option α} (C : CallFix p m c cc nL s args lw_all RX4) (B : MB D cA ad A s gi gl H locs) (hF : 2 ≤ R.frames) (hN : 45 ≤ R.locals) (hs : ls.size = nL) (hw : (rest.map fun v => v.category).sum ≤ 8) (h : (f_X4_gets gi x1 x2 x3).bind ff = some r) (hdg : decode cc pc = .ok (.invokevirtual 455, 3)) (kk : ∀ q, ff q = some r → ∀ (H' : Heap) (locs' : List Loc), MB D cA ad A s q gl H' locs' → W p l e R s m args below meth c H' locs' 0 0 Q (F0 m (pc + 3) ls (rest))) : W p l e R s m args below meth c H locs 0 0 Q (F0 m pc ls (.int x3 :: .int x2 :: .int x1 :: .ref (ad 0) :: rest)) := by
  obtain ⟨q, h1, h2⟩ := g_ob h
  refine mm_cVV (As := [.int x1, .int x2, .int x3]) (rest := rest) (n := 3) C B (fun sz => w_X4_gets l D cA ad gi gl x1 x2 x3 q h1 sz) q2206 q2208 qs112 q150 q2209 (by decide +kernel) ⟨hF, hN⟩ rfl hs hw hdg (fun u H9 locs9 hp B9 => ?_)
  obtain ⟨e1, e3⟩ := hp
  rw [e3] at B9
  subst e1
  exact kk _ h2 H9 locs9 B9
def f_X4_give (gi : GI) (x1 : Int32) (x2 : Int32) (x3 : Int32) (x4 : Int32) : Option (Int32 × GI) :=
  (f_X4_isMan gi x1).bind fun q1 =>
  if q1 = 0 then
  (some ((-1), gi))
  else
  ((f_X4_isMan gi x2).bind fun q2 =>
  if q2 = 0 then
  (some ((-1), gi))
  else
  (if x1 = x2 then
  (some ((-1), gi))
  else
  ((f_X4_isKind gi x3).bind fun q3 =>
  if q3 = 0 then
  (some ((-1), gi))
  else
  ((f_X4_inPurse gi x1 x3).bind fun q4 =>
  (f_X4_isIn gi x4 1 q4).bind fun q5 =>
  if q5 = 0 then
  (some ((-1), gi))
  else
  ((f_X4_keepAct gi ).bind fun q6 =>
  (g_ld q6 33 42 ((0 + (3 * x1)) + x3)).bind fun v7 =>
  (g_st q6 33 42 ((0 + (3 * x1)) + x3) (v7 - x4)).bind fun gi8 =>
  (f_X4_gets gi8 x2 x3 x4).bind fun q9 =>
  (f_X4_inPurse q9 x2 x3).bind fun q10 =>
  some (q10, q9))))))
set_option maxHeartbeats 400000 in
theorem w_X4_give (l : Launch) (D : va_G) (cA : Nat → ClassId) (ad : Nat → Nat) (gi : GI) (gl : GL) (x1 : Int32) (x2 : Int32) (x3 : Int32) (x4 : Int32) (r : Int32 × GI) (h : f_X4_give gi x1 x2 x3 x4 = some r) (sz : Nat) : Met l yX4_give (ws_ yX4_give cX4_give 5 (some .int)) ({ frames := 2, cells := 0, slots := 0, locals := 45 } : Room) (va_Pc [.ref (ad 0), .int x1, .int x2, .int x3, .int x4] (MPre D cA ad gi gl sz)) (va_Qi (fun v u => (v, u.1) = r ∧ u.2 = gl) (MPost D cA ad) (MA ad sz)) 0 0 (MA ad sz) := by
  refine mm_stI (by decide +kernel) rfl (Nat.le_of_ble_eq_true rfl) (fun p e s m args below meth c R Q A ls C hF hN B hret hL => ?_) sz
  have hx := C.1
  have hb := C.2.1
  have hL : lv_has ls 5 [(0, .ref (ad 0)), (1, .int x1), (2, .int x2), (3, .int x3), (4, .int x4)] := hL
  unfold f_X4_give at h
  refine lv_aload_n hx hb dX4_give_0 rfl (lv_at hL 0 rfl) ?_
  refine lv_iload_n hx hb dX4_give_1 rfl (lv_at hL 1 rfl) ?_
  refine k_X4_isMan C B (Nat.le_trans (Nat.le_of_ble_eq_true rfl) hF) (Nat.le_trans (Nat.le_of_ble_eq_true rfl) hN) hL.1 (Nat.le_of_ble_eq_true rfl) h dX4_give_2 (fun q1 h H locs B => ?_)
  refine gg_if_eq hx hb 44 h dX4_give_5 (by decide) (fun h => ?_) (fun h => ?_)
  · refine lv_iconst (v := (-1)) hx hb dX4_give_44 (by decide) ?_
    exact hret _ _ _ _ _ _ _ ⟨Option.some.inj h, rfl⟩ B dX4_give_45
  · refine lv_aload_n hx hb dX4_give_8 rfl (lv_at hL 0 rfl) ?_
    refine lv_iload_n hx hb dX4_give_9 rfl (lv_at hL 2 rfl) ?_
    refine k_X4_isMan C B (Nat.le_trans (Nat.le_of_ble_eq_true rfl) hF) (Nat.le_trans (Nat.le_of_ble_eq_true rfl) hN) hL.1 (Nat.le_of_ble_eq_true rfl) h dX4_give_10 (fun q2 h H locs B => ?_)
    refine gg_if_eq hx hb 44 h dX4_give_13 (by decide) (fun h => ?_) (fun h => ?_)
    · refine lv_iconst (v := (-1)) hx hb dX4_give_44 (by decide) ?_
      exact hret _ _ _ _ _ _ _ ⟨Option.some.inj h, rfl⟩ B dX4_give_45
    · refine lv_iload_n hx hb dX4_give_16 rfl (lv_at hL 1 rfl) ?_
      refine lv_iload_n hx hb dX4_give_17 rfl (lv_at hL 2 rfl) ?_
      refine gg_icmp_eq hx hb 44 h dX4_give_18 (by decide) (fun h => ?_) (fun h => ?_)
      · refine lv_iconst (v := (-1)) hx hb dX4_give_44 (by decide) ?_
        exact hret _ _ _ _ _ _ _ ⟨Option.some.inj h, rfl⟩ B dX4_give_45
      · refine lv_aload_n hx hb dX4_give_21 rfl (lv_at hL 0 rfl) ?_
        refine lv_iload_n hx hb dX4_give_22 rfl (lv_at hL 3 rfl) ?_
        refine k_X4_isKind C B (Nat.le_trans (Nat.le_of_ble_eq_true rfl) hF) (Nat.le_trans (Nat.le_of_ble_eq_true rfl) hN) hL.1 (Nat.le_of_ble_eq_true rfl) h dX4_give_23 (fun q3 h H locs B => ?_)
        refine gg_if_eq hx hb 44 h dX4_give_26 (by decide) (fun h => ?_) (fun h => ?_)
        · refine lv_iconst (v := (-1)) hx hb dX4_give_44 (by decide) ?_
          exact hret _ _ _ _ _ _ _ ⟨Option.some.inj h, rfl⟩ B dX4_give_45
        · refine lv_iload hx hb dX4_give_29 (lv_at hL 4 rfl) ?_
          refine lv_iconst (v := 1) hx hb dX4_give_31 (by decide) ?_
          refine lv_aload_n hx hb dX4_give_32 rfl (lv_at hL 0 rfl) ?_
          refine lv_iload_n hx hb dX4_give_33 rfl (lv_at hL 1 rfl) ?_
          refine lv_iload_n hx hb dX4_give_34 rfl (lv_at hL 3 rfl) ?_
          refine k_X4_inPurse C B (Nat.le_trans (Nat.le_of_ble_eq_true rfl) hF) (Nat.le_trans (Nat.le_of_ble_eq_true rfl) hN) hL.1 (Nat.le_of_ble_eq_true rfl) h dX4_give_35 (fun q4 h H locs B => ?_)
          refine k_X4_isIn C B (Nat.le_trans (Nat.le_of_ble_eq_true rfl) hF) (Nat.le_trans (Nat.le_of_ble_eq_true rfl) hN) hL.1 (Nat.le_of_ble_eq_true rfl) h dX4_give_38 (fun q5 h H locs B => ?_)
          refine gg_if_ne hx hb 46 h dX4_give_41 (by decide) (fun h => ?_) (fun h => ?_)
          · refine lv_aload_n hx hb dX4_give_46 rfl (lv_at hL 0 rfl) ?_
            refine k_X4_keepAct C B (Nat.le_trans (Nat.le_of_ble_eq_true rfl) hF) (Nat.le_trans (Nat.le_of_ble_eq_true rfl) hN) hL.1 (Nat.le_of_ble_eq_true rfl) h dX4_give_47 (fun q6 h H locs B => ?_)
            refine lv_aload_n hx hb dX4_give_50 rfl (lv_at hL 0 rfl) ?_
            refine mg_48 C B dX4_give_51 ?_
            refine lv_iconst (v := 0) hx hb dX4_give_54 (by decide) ?_
            refine lv_iconst (v := 3) hx hb dX4_give_55 (by decide) ?_
            refine lv_iload_n hx hb dX4_give_56 rfl (lv_at hL 1 rfl) ?_
            refine lv_imul hx hb dX4_give_57 ?_
            refine lv_iadd hx hb dX4_give_58 ?_
            refine lv_iload_n hx hb dX4_give_59 rfl (lv_at hL 3 rfl) ?_
            refine lv_iadd hx hb dX4_give_60 ?_
            refine lv_dup2_11 hx hb dX4_give_61 rfl rfl ?_
            refine mm_iald C B (a := 33) (n := 42) (Nat.le_of_ble_eq_true rfl) rfl h dX4_give_62 (fun v7 h => ?_)
            refine lv_iload hx hb dX4_give_63 (lv_at hL 4 rfl) ?_
            refine lv_isub hx hb dX4_give_65 ?_
            refine mm_iast C B (a := 33) (n := 42) (Nat.le_of_ble_eq_true rfl) rfl h dX4_give_66 (fun gi8 h H locs B => ?_)
            refine lv_aload_n hx hb dX4_give_67 rfl (lv_at hL 0 rfl) ?_
            refine lv_iload_n hx hb dX4_give_68 rfl (lv_at hL 2 rfl) ?_
            refine lv_iload_n hx hb dX4_give_69 rfl (lv_at hL 3 rfl) ?_
            refine lv_iload hx hb dX4_give_70 (lv_at hL 4 rfl) ?_
            refine k_X4_gets C B (Nat.le_trans (Nat.le_of_ble_eq_true rfl) hF) (Nat.le_trans (Nat.le_of_ble_eq_true rfl) hN) hL.1 (Nat.le_of_ble_eq_true rfl) h dX4_give_72 (fun q9 h H locs B => ?_)
            refine lv_aload_n hx hb dX4_give_75 rfl (lv_at hL 0 rfl) ?_
            refine lv_iload_n hx hb dX4_give_76 rfl (lv_at hL 2 rfl) ?_
            refine lv_iload_n hx hb dX4_give_77 rfl (lv_at hL 3 rfl) ?_
            refine k_X4_inPurse C B (Nat.le_trans (Nat.le_of_ble_eq_true rfl) hF) (Nat.le_trans (Nat.le_of_ble_eq_true rfl) hN) hL.1 (Nat.le_of_ble_eq_true rfl) h dX4_give_78 (fun q10 h H locs B => ?_)
            exact hret _ _ _ _ _ _ _ ⟨Option.some.inj h, rfl⟩ B dX4_give_81
          · refine lv_iconst (v := (-1)) hx hb dX4_give_44 (by decide) ?_
            exact hret _ _ _ _ _ _ _ ⟨Option.some.inj h, rfl⟩ B dX4_give_45
def f_X4_change (gi : GI) (x1 : Int32) (x2 : Int32) (x3 : Int32) : Option (Int32 × GI) :=
  (f_X4_isMan gi x1).bind fun q1 =>
  if q1 = 0 then
  (some ((-1), gi))
  else
  ((f_X4_isKind gi x2).bind fun q2 =>
  if q2 = 0 then
  (some ((-1), gi))
  else
  ((f_X4_isKind gi x3).bind fun q3 =>
  if q3 = 0 then
  (some ((-1), gi))
  else
  ((g_ld gi 18 18 (((9 * (gi 0 41)) + (3 * x2)) + x3)).bind fun v4 =>
  if v4 = 0 then
  (some ((-1), gi))
  else
  ((f_X4_inPurse gi x1 x2).bind fun q5 =>
  (g_ld gi 18 18 (((9 * (gi 0 41)) + (3 * x2)) + x3)).bind fun v6 =>
  if v6 ≤ q5 then
  ((f_X4_keepAct gi ).bind fun q7 =>
  (g_ld q7 33 42 ((0 + (3 * x1)) + x2)).bind fun v8 =>
  (g_ld q7 18 18 (((9 * (gi 0 41)) + (3 * x2)) + x3)).bind fun v9 =>
  (g_st q7 33 42 ((0 + (3 * x1)) + x2) (v8 - v9)).bind fun gi10 =>
  (g_ld gi10 19 18 (((9 * (gi 0 41)) + (3 * x2)) + x3)).bind fun v11 =>
  (f_X4_gets gi10 x1 x3 v11).bind fun q12 =>
  (f_X4_inPurse q12 x1 x3).bind fun q13 =>
  some (q13, q12))
  else
  (some ((-1), gi))))))
set_option maxHeartbeats 400000 in
theorem w_X4_change (l : Launch) (D : va_G) (cA : Nat → ClassId) (ad : Nat → Nat) (gi : GI) (gl : GL) (x1 : Int32) (x2 : Int32) (x3 : Int32) (r : Int32 × GI) (h : f_X4_change gi x1 x2 x3 = some r) (sz : Nat) : Met l yX4_change (ws_ yX4_change cX4_change 5 (some .int)) ({ frames := 2, cells := 0, slots := 0, locals := 45 } : Room) (va_Pc [.ref (ad 0), .int x1, .int x2, .int x3] (MPre D cA ad gi gl sz)) (va_Qi (fun v u => (v, u.1) = r ∧ u.2 = gl) (MPost D cA ad) (MA ad sz)) 0 0 (MA ad sz) := by
  refine mm_stI (by decide +kernel) rfl (Nat.le_of_ble_eq_true rfl) (fun p e s m args below meth c R Q A ls C hF hN B hret hL => ?_) sz
  have hx := C.1
  have hb := C.2.1
  have hL : lv_has ls 5 [(0, .ref (ad 0)), (1, .int x1), (2, .int x2), (3, .int x3)] := hL
  unfold f_X4_change at h
  refine lv_aload_n hx hb dX4_change_0 rfl (lv_at hL 0 rfl) ?_
  refine lv_iload_n hx hb dX4_change_1 rfl (lv_at hL 1 rfl) ?_
  refine k_X4_isMan C B (Nat.le_trans (Nat.le_of_ble_eq_true rfl) hF) (Nat.le_trans (Nat.le_of_ble_eq_true rfl) hN) hL.1 (Nat.le_of_ble_eq_true rfl) h dX4_change_2 (fun q1 h H locs B => ?_)
  refine gg_if_eq hx hb 24 h dX4_change_5 (by decide) (fun h => ?_) (fun h => ?_)
  · refine lv_iconst (v := (-1)) hx hb dX4_change_24 (by decide) ?_
    exact hret _ _ _ _ _ _ _ ⟨Option.some.inj h, rfl⟩ B dX4_change_25
  · refine lv_aload_n hx hb dX4_change_8 rfl (lv_at hL 0 rfl) ?_
    refine lv_iload_n hx hb dX4_change_9 rfl (lv_at hL 2 rfl) ?_
    refine k_X4_isKind C B (Nat.le_trans (Nat.le_of_ble_eq_true rfl) hF) (Nat.le_trans (Nat.le_of_ble_eq_true rfl) hN) hL.1 (Nat.le_of_ble_eq_true rfl) h dX4_change_10 (fun q2 h H locs B => ?_)
    refine gg_if_eq hx hb 24 h dX4_change_13 (by decide) (fun h => ?_) (fun h => ?_)
    · refine lv_iconst (v := (-1)) hx hb dX4_change_24 (by decide) ?_
      exact hret _ _ _ _ _ _ _ ⟨Option.some.inj h, rfl⟩ B dX4_change_25
    · refine lv_aload_n hx hb dX4_change_16 rfl (lv_at hL 0 rfl) ?_
      refine lv_iload_n hx hb dX4_change_17 rfl (lv_at hL 3 rfl) ?_
      refine k_X4_isKind C B (Nat.le_trans (Nat.le_of_ble_eq_true rfl) hF) (Nat.le_trans (Nat.le_of_ble_eq_true rfl) hN) hL.1 (Nat.le_of_ble_eq_true rfl) h dX4_change_18 (fun q3 h H locs B => ?_)
      refine gg_if_ne hx hb 26 h dX4_change_21 (by decide) (fun h => ?_) (fun h => ?_)
      · refine lv_bipush (v := 9) hx hb dX4_change_26 (by decide) ?_
        refine lv_aload_n hx hb dX4_change_28 rfl (lv_at hL 0 rfl) ?_
        refine mg_41 C B dX4_change_29 ?_
        refine lv_imul hx hb dX4_change_32 ?_
        refine lv_iconst (v := 3) hx hb dX4_change_33 (by decide) ?_
        refine lv_iload_n hx hb dX4_change_34 rfl (lv_at hL 2 rfl) ?_
        refine lv_imul hx hb dX4_change_35 ?_
        refine lv_iadd hx hb dX4_change_36 ?_
        refine lv_iload_n hx hb dX4_change_37 rfl (lv_at hL 3 rfl) ?_
        refine lv_iadd hx hb dX4_change_38 ?_
        refine lv_istore (lv' := [(4, .int (((9 * (gi 0 41)) + (3 * x2)) + x3)), (0, .ref (ad 0)), (1, .int x1), (2, .int x2), (3, .int x3)]) hx hb dX4_change_39 hL (by decide) rfl (fun ls hL => ?_)
        refine lv_aload_n hx hb dX4_change_41 rfl (lv_at hL 1 rfl) ?_
        refine mg_26 C B dX4_change_42 ?_
        refine lv_iload hx hb dX4_change_45 (lv_at hL 0 rfl) ?_
        refine mm_iald C B (a := 18) (n := 18) (Nat.le_of_ble_eq_true rfl) rfl h dX4_change_47 (fun v4 h => ?_)
        refine gg_if_eq hx hb 67 h dX4_change_48 (by decide) (fun h => ?_) (fun h => ?_)
        · refine lv_iconst (v := (-1)) hx hb dX4_change_67 (by decide) ?_
          exact hret _ _ _ _ _ _ _ ⟨Option.some.inj h, rfl⟩ B dX4_change_68
        · refine lv_aload_n hx hb dX4_change_51 rfl (lv_at hL 1 rfl) ?_
          refine lv_iload_n hx hb dX4_change_52 rfl (lv_at hL 2 rfl) ?_
          refine lv_iload_n hx hb dX4_change_53 rfl (lv_at hL 3 rfl) ?_
          refine k_X4_inPurse C B (Nat.le_trans (Nat.le_of_ble_eq_true rfl) hF) (Nat.le_trans (Nat.le_of_ble_eq_true rfl) hN) hL.1 (Nat.le_of_ble_eq_true rfl) h dX4_change_54 (fun q5 h H locs B => ?_)
          refine lv_aload_n hx hb dX4_change_57 rfl (lv_at hL 1 rfl) ?_
          refine mg_26 C B dX4_change_58 ?_
          refine lv_iload hx hb dX4_change_61 (lv_at hL 0 rfl) ?_
          refine mm_iald C B (a := 18) (n := 18) (Nat.le_of_ble_eq_true rfl) rfl h dX4_change_63 (fun v6 h => ?_)
          refine gg_icmp_ge hx hb 69 h dX4_change_64 (by decide) (fun h => ?_) (fun h => ?_)
          · refine lv_aload_n hx hb dX4_change_69 rfl (lv_at hL 1 rfl) ?_
            refine k_X4_keepAct C B (Nat.le_trans (Nat.le_of_ble_eq_true rfl) hF) (Nat.le_trans (Nat.le_of_ble_eq_true rfl) hN) hL.1 (Nat.le_of_ble_eq_true rfl) h dX4_change_70 (fun q7 h H locs B => ?_)
            refine lv_aload_n hx hb dX4_change_73 rfl (lv_at hL 1 rfl) ?_
            refine mg_48 C B dX4_change_74 ?_
            refine lv_iconst (v := 0) hx hb dX4_change_77 (by decide) ?_
            refine lv_iconst (v := 3) hx hb dX4_change_78 (by decide) ?_
            refine lv_iload_n hx hb dX4_change_79 rfl (lv_at hL 2 rfl) ?_
            refine lv_imul hx hb dX4_change_80 ?_
            refine lv_iadd hx hb dX4_change_81 ?_
            refine lv_iload_n hx hb dX4_change_82 rfl (lv_at hL 3 rfl) ?_
            refine lv_iadd hx hb dX4_change_83 ?_
            refine lv_dup2_11 hx hb dX4_change_84 rfl rfl ?_
            refine mm_iald C B (a := 33) (n := 42) (Nat.le_of_ble_eq_true rfl) rfl h dX4_change_85 (fun v8 h => ?_)
            refine lv_aload_n hx hb dX4_change_86 rfl (lv_at hL 1 rfl) ?_
            refine mg_26 C B dX4_change_87 ?_
            refine lv_iload hx hb dX4_change_90 (lv_at hL 0 rfl) ?_
            refine mm_iald C B (a := 18) (n := 18) (Nat.le_of_ble_eq_true rfl) rfl h dX4_change_92 (fun v9 h => ?_)
            refine lv_isub hx hb dX4_change_93 ?_
            refine mm_iast C B (a := 33) (n := 42) (Nat.le_of_ble_eq_true rfl) rfl h dX4_change_94 (fun gi10 h H locs B => ?_)
            refine lv_aload_n hx hb dX4_change_95 rfl (lv_at hL 1 rfl) ?_
            refine lv_iload_n hx hb dX4_change_96 rfl (lv_at hL 2 rfl) ?_
            refine lv_iload_n hx hb dX4_change_97 rfl (lv_at hL 4 rfl) ?_
            refine lv_aload_n hx hb dX4_change_98 rfl (lv_at hL 1 rfl) ?_
            refine mg_27 C B dX4_change_99 ?_
            refine lv_iload hx hb dX4_change_102 (lv_at hL 0 rfl) ?_
            refine mm_iald C B (a := 19) (n := 18) (Nat.le_of_ble_eq_true rfl) rfl h dX4_change_104 (fun v11 h => ?_)
            refine k_X4_gets C B (Nat.le_trans (Nat.le_of_ble_eq_true rfl) hF) (Nat.le_trans (Nat.le_of_ble_eq_true rfl) hN) hL.1 (Nat.le_of_ble_eq_true rfl) h dX4_change_105 (fun q12 h H locs B => ?_)
            refine lv_aload_n hx hb dX4_change_108 rfl (lv_at hL 1 rfl) ?_
            refine lv_iload_n hx hb dX4_change_109 rfl (lv_at hL 2 rfl) ?_
            refine lv_iload_n hx hb dX4_change_110 rfl (lv_at hL 4 rfl) ?_
            refine k_X4_inPurse C B (Nat.le_trans (Nat.le_of_ble_eq_true rfl) hF) (Nat.le_trans (Nat.le_of_ble_eq_true rfl) hN) hL.1 (Nat.le_of_ble_eq_true rfl) h dX4_change_111 (fun q13 h H locs B => ?_)
            exact hret _ _ _ _ _ _ _ ⟨Option.some.inj h, rfl⟩ B dX4_change_114
          · refine lv_iconst (v := (-1)) hx hb dX4_change_67 (by decide) ?_
            exact hret _ _ _ _ _ _ _ ⟨Option.some.inj h, rfl⟩ B dX4_change_68
      · refine lv_iconst (v := (-1)) hx hb dX4_change_24 (by decide) ?_
        exact hret _ _ _ _ _ _ _ ⟨Option.some.inj h, rfl⟩ B dX4_change_25
def f_X4_growths_l4 (x1l4 : Int32) (x2l4 : Int32) (gil4 : GI) : Option ((Int32 × Int32 × GI) ⊕ (Int32 × GI)) :=
  (f_X4_many gil4 ).bind fun q1 =>
  if q1 ≤ x2l4 then
  (some (.inr ((x1l4, gil4))))
  else
  ((f_X4_growthOf gil4 x2l4).bind fun q2 =>
  some (.inl ((x1l4 + q2.1, x2l4 + 1, q2.2))))
def f_X4_growths_x4 (x1e4 : Int32) (gie4 : GI) : Option (Int32 × GI) :=
  some (x1e4, gie4)
def f_X4_growths (gi : GI)  : Option (Int32 × GI) :=
  (g_loop g_K (fun (s : Int32 × Int32 × GI) => f_X4_growths_l4 s.1 s.2.1 s.2.2) (0, 0, gi)).bind fun E4 => f_X4_growths_x4 E4.1 E4.2
set_option maxHeartbeats 400000 in
theorem w_X4_growths (l : Launch) (D : va_G) (cA : Nat → ClassId) (ad : Nat → Nat) (gi : GI) (gl : GL)  (r : Int32 × GI) (h : f_X4_growths gi  = some r) (sz : Nat) : Met l yX4_growths (ws_ yX4_growths cX4_growths 3 (some .int)) ({ frames := 4, cells := 0, slots := 0, locals := 90 } : Room) (va_Pc [.ref (ad 0)] (MPre D cA ad gi gl sz)) (va_Qi (fun v u => (v, u.1) = r ∧ u.2 = gl) (MPost D cA ad) (MA ad sz)) 0 0 (MA ad sz) := by
  refine mm_stI (by decide +kernel) rfl (Nat.le_of_ble_eq_true rfl) (fun p e s m args below meth c R Q A ls C hF hN B hret hL => ?_) sz
  have hx := C.1
  have hb := C.2.1
  have hL : lv_has ls 3 [(0, .ref (ad 0))] := hL
  unfold f_X4_growths at h
  refine lv_iconst (v := 0) hx hb dX4_growths_0 (by decide) ?_
  refine lv_istore_n (lv' := [(1, .int 0), (0, .ref (ad 0))]) hx hb dX4_growths_1 rfl hL (by decide) rfl (fun ls hL => ?_)
  refine lv_iconst (v := 0) hx hb dX4_growths_2 (by decide) ?_
  refine lv_istore_n (lv' := [(2, .int 0), (1, .int 0), (0, .ref (ad 0))]) hx hb dX4_growths_3 rfl hL (by decide) rfl (fun ls hL => ?_)
  obtain ⟨E4, h84, h⟩ := g_ob h
  have kx4 : ∀ (x1e4 : Int32) (gie4 : GI) (H : Heap) (locs : List Loc) (ls : Array Slot), (x1e4, gie4) = E4 → MB D cA ad A s gie4 gl H locs → lv_has ls 3 [(1, .int x1e4)] → W p l e R s m args below meth c H locs 0 0 Q (F0 m 26 ls []) := by
    intro x1e4 gie4 H locs ls he B hL
    subst he
    have h : f_X4_growths_x4 x1e4 gie4 = some r := h
    unfold f_X4_growths_x4 at h
    refine lv_iload_n hx hb dX4_growths_26 rfl (lv_at hL 0 rfl) ?_
    exact hret _ _ _ _ _ _ _ ⟨Option.some.inj h, rfl⟩ B dX4_growths_27
  have hl4 : ∀ (k : Nat) (x1l4 : Int32) (x2l4 : Int32) (gil4 : GI) (H : Heap) (locs : List Loc) (ls : Array Slot), g_loop k (fun (s : Int32 × Int32 × GI) => f_X4_growths_l4 s.1 s.2.1 s.2.2) (x1l4, x2l4, gil4) = some E4 → MB D cA ad A s gil4 gl H locs → lv_has ls 3 [(0, .ref (ad 0)), (1, .int x1l4), (2, .int x2l4)] → W p l e R s m args below meth c H locs 0 0 Q (F0 m 4 ls []) := by
    intro k
    induction k with
    | zero => intro x1l4 x2l4 gil4 H locs ls h; exact absurd h (fun z => g_loop_0 z)
    | succ k ih4 =>
      intro x1l4 x2l4 gil4 H locs ls h B hL
      obtain ⟨Z4, h, h94⟩ := g_loop_s h
      have h : f_X4_growths_l4 x1l4 x2l4 gil4 = some Z4 := h
      unfold f_X4_growths_l4 at h
      refine lv_iload_n hx hb dX4_growths_4 rfl (lv_at hL 2 rfl) ?_
      refine lv_aload_n hx hb dX4_growths_5 rfl (lv_at hL 0 rfl) ?_
      refine k_X4_many C B (Nat.le_trans (Nat.le_of_ble_eq_true rfl) hF) (Nat.le_trans (Nat.le_of_ble_eq_true rfl) hN) hL.1 (Nat.le_of_ble_eq_true rfl) h dX4_growths_6 (fun q1 h H locs B => ?_)
      refine gg_icmp_ge hx hb 26 h dX4_growths_9 (by decide) (fun h => ?_) (fun h => ?_)
      · exact kx4 _ _ _ _ _ (g_exit h h94) B (lv_sub hL [1] rfl)
      · refine lv_iload_n hx hb dX4_growths_12 rfl (lv_at hL 1 rfl) ?_
        refine lv_aload_n hx hb dX4_growths_13 rfl (lv_at hL 0 rfl) ?_
        refine lv_iload_n hx hb dX4_growths_14 rfl (lv_at hL 2 rfl) ?_
        refine k_X4_growthOf C B (Nat.le_trans (Nat.le_of_ble_eq_true rfl) hF) (Nat.le_trans (Nat.le_of_ble_eq_true rfl) hN) hL.1 (Nat.le_of_ble_eq_true rfl) h dX4_growths_15 (fun q2 h H locs B => ?_)
        refine lv_iadd hx hb dX4_growths_18 ?_
        refine lv_istore_n (lv' := [(1, .int (x1l4 + q2.1)), (0, .ref (ad 0)), (2, .int x2l4)]) hx hb dX4_growths_19 rfl hL (by decide) rfl (fun ls hL => ?_)
        refine lv_iinc (v := x2l4 + 1) (lv' := [(2, .int (x2l4 + 1)), (1, .int (x1l4 + q2.1)), (0, .ref (ad 0))]) hx hb dX4_growths_20 hL (k := 2) rfl rfl (by decide) rfl (fun ls hL => ?_)
        refine lv_goto (tgt := 4) hx hb dX4_growths_23 (by decide) ?_
        exact ih4 _ _ _ _ _ _ (g_next h h94) B (lv_sub hL [2, 1, 0] rfl)
  exact hl4 g_K _ _ _ _ _ _ h84 B (lv_sub hL [2, 1, 0] rfl)
theorem k_X4_growths {p : Program} {l : Launch} {e : Env} {R : Room} {s : State} {m : MethodId} {args : Array Value} {below : List Frame} {meth : Method} {c : Code} {H : Heap} {locs : List Loc} {Q : State → Prop} {pc : Nat} {ls : Array Slot} {rest : List Value} {cc : ByteArray} {nL : Nat} {D : va_G} {cA : Nat → ClassId} {ad : Nat → Nat} {A : Nat → Prop} {gi : GI} {gl : GL} {α : Type} {r : α}  {ff : (Int32 × GI) → Option α} (C : CallFix p m c cc nL s args lw_all RX4) (B : MB D cA ad A s gi gl H locs) (hF : 5 ≤ R.frames) (hN : 112 ≤ R.locals) (hs : ls.size = nL) (hw : (rest.map fun v => v.category).sum ≤ 8) (h : (f_X4_growths gi ).bind ff = some r) (hdg : decode cc pc = .ok (.invokevirtual 466, 3)) (kk : ∀ q, ff q = some r → ∀ (H' : Heap) (locs' : List Loc), MB D cA ad A s q.2 gl H' locs' → W p l e R s m args below meth c H' locs' 0 0 Q (F0 m (pc + 3) ls (.int q.1 :: rest))) : W p l e R s m args below meth c H locs 0 0 Q (F0 m pc ls (.ref (ad 0) :: rest)) := by
  obtain ⟨q, h1, h2⟩ := g_ob h
  refine mm_cVI (As := []) (rest := rest) (n := 0) C B (fun sz => w_X4_growths l D cA ad gi gl  q h1 sz) q2232 q2234 qs115 q150 q2235 (by decide +kernel) ⟨hF, hN⟩ rfl hs hw hdg (fun v u H9 locs9 hp B9 => ?_)
  obtain ⟨e1, e3⟩ := hp
  rw [e3] at B9
  subst e1
  exact kk _ h2 H9 locs9 B9
def f_X4_has (gi : GI) (x0 : Int32) (x1 : Int32) : Option (Int32) :=
  if ((x0 >>> (x1 &&& 31)) &&& 1) = 1 then
  (some 1)
  else
  (some 0)
set_option maxHeartbeats 400000 in
theorem w_X4_has (l : Launch) (D : va_G) (cA : Nat → ClassId) (ad : Nat → Nat) (gi : GI) (gl : GL) (x0 : Int32) (x1 : Int32) (r : Int32) (h : f_X4_has gi x0 x1 = some r) (sz : Nat) : Met l yX4_has (ws_ yX4_has cX4_has 2 (some .boolean)) ({ frames := 0, cells := 0, slots := 0, locals := 0 } : Room) (va_Pc [.int x0, .int x1] (MPre D cA ad gi gl sz)) (va_Qi (fun v u => v = r ∧ u.1 = gi ∧ u.2 = gl) (MPost D cA ad) (MA ad sz)) 0 0 (MA ad sz) := by
  refine mm_stZ (by decide +kernel) rfl (Nat.le_of_ble_eq_true rfl) (fun p e s m args below meth c R Q A ls C hF hN B hret hL => ?_) sz
  have hx := C.1
  have hb := C.2.1
  have hL : lv_has ls 2 [(0, .int x0), (1, .int x1)] := hL
  unfold f_X4_has at h
  refine lv_iload_n hx hb dX4_has_0 rfl (lv_at hL 0 rfl) ?_
  refine lv_iload_n hx hb dX4_has_1 rfl (lv_at hL 1 rfl) ?_
  refine lv_ishr hx hb dX4_has_2 ?_
  refine lv_iconst (v := 1) hx hb dX4_has_3 (by decide) ?_
  refine lv_iand hx hb dX4_has_4 ?_
  refine lv_iconst (v := 1) hx hb dX4_has_5 (by decide) ?_
  refine gg_icmp_ne hx hb 13 h dX4_has_6 (by decide) (fun h => ?_) (fun h => ?_)
  · refine lv_iconst (v := 0) hx hb dX4_has_13 (by decide) ?_
    exact hret _ _ _ _ _ _ _ ⟨Option.some.inj h, rfl, rfl⟩ (Or.inl rfl) B dX4_has_14
  · refine lv_iconst (v := 1) hx hb dX4_has_9 (by decide) ?_
    refine lv_goto (tgt := 14) hx hb dX4_has_10 (by decide) ?_
    exact hret _ _ _ _ _ _ _ ⟨Option.some.inj h, rfl, rfl⟩ (Or.inr rfl) B dX4_has_14
theorem k_X4_has {p : Program} {l : Launch} {e : Env} {R : Room} {s : State} {m : MethodId} {args : Array Value} {below : List Frame} {meth : Method} {c : Code} {H : Heap} {locs : List Loc} {Q : State → Prop} {pc : Nat} {ls : Array Slot} {rest : List Value} {cc : ByteArray} {nL : Nat} {D : va_G} {cA : Nat → ClassId} {ad : Nat → Nat} {A : Nat → Prop} {gi : GI} {gl : GL} {α : Type} {r : α} {x0 : Int32} {x1 : Int32} {ff : Int32 → Option α} (C : CallFix p m c cc nL s args lw_all RX4) (B : MB D cA ad A s gi gl H locs) (hF : 1 ≤ R.frames) (hN : 21 ≤ R.locals) (hs : ls.size = nL) (hw : (rest.map fun v => v.category).sum ≤ 8) (h : (f_X4_has gi x0 x1).bind ff = some r) (hdg : decode cc pc = .ok (.invokestatic 459, 3)) (kk : ∀ q, ff q = some r → ∀ (H' : Heap) (locs' : List Loc), MB D cA ad A s gi gl H' locs' → W p l e R s m args below meth c H' locs' 0 0 Q (F0 m (pc + 3) ls (.int q :: rest))) : W p l e R s m args below meth c H locs 0 0 Q (F0 m pc ls (.int x1 :: .int x0 :: rest)) := by
  obtain ⟨q, h1, h2⟩ := g_ob h
  refine mm_cSI (As := [.int x0, .int x1]) (rest := rest) (n := 2) C B (fun sz => w_X4_has l D cA ad gi gl x0 x1 q h1 sz) q2225 q2226 q150 q2227 (by decide +kernel) ⟨hF, hN⟩ rfl hs hw hdg (fun v u H9 locs9 hp B9 => ?_)
  obtain ⟨e1, e2, e3⟩ := hp
  rw [e2] at B9
  rw [e3] at B9
  subst e1
  exact kk _ h2 H9 locs9 B9
def f_X4_loosen (gi : GI) (x1 : Int32) : Option (GI) :=
  (g_ld gi 33 42 41).bind fun v1 =>
  (g_st gi 33 42 41 (((137 * v1) + 71) - ((137 * v1) + 71) / 1000 * 1000)).bind fun gi2 =>
  (g_ld gi2 3 2 (gi2 0 41)).bind fun v3 =>
  if v3 = 0 then
  (some gi2)
  else
  ((g_ld gi2 33 42 41).bind fun v4 =>
  (g_ld gi2 3 2 (gi2 0 41)).bind fun v5 =>
  (g_nz v5).bind fun _ =>
  (f_X4_inPurse gi2 x1 (v4 - v4 / v5 * v5)).bind fun q6 =>
  if q6 = 0 then
  (some gi2)
  else
  ((g_ld gi2 33 42 ((0 + (3 * x1)) + (v4 - v4 / v5 * v5))).bind fun v7 =>
  (g_st gi2 33 42 ((0 + (3 * x1)) + (v4 - v4 / v5 * v5)) (v7 - 1)).bind fun gi8 =>
  (f_X4_lay gi8 x1 (v4 - v4 / v5 * v5) 1 1).bind fun q9 =>
  some q9))
set_option maxHeartbeats 400000 in
theorem w_X4_loosen (l : Launch) (D : va_G) (cA : Nat → ClassId) (ad : Nat → Nat) (gi : GI) (gl : GL) (x1 : Int32) (r : GI) (h : f_X4_loosen gi x1 = some r) (sz : Nat) : Met l yX4_loosen (ws_ yX4_loosen cX4_loosen 3 (none)) ({ frames := 2, cells := 0, slots := 0, locals := 46 } : Room) (va_Pc [.ref (ad 0), .int x1] (MPre D cA ad gi gl sz)) (va_Qv (fun u => u.1 = r ∧ u.2 = gl) (MPost D cA ad) (MA ad sz)) 0 0 (MA ad sz) := by
  refine mm_stV (by decide +kernel) rfl (Nat.le_of_ble_eq_true rfl) (fun p e s m args below meth c R Q A ls C hF hN B hret hL => ?_) sz
  have hx := C.1
  have hb := C.2.1
  have hL : lv_has ls 3 [(0, .ref (ad 0)), (1, .int x1)] := hL
  unfold f_X4_loosen at h
  refine lv_aload_n hx hb dX4_loosen_0 rfl (lv_at hL 0 rfl) ?_
  refine mg_48 C B dX4_loosen_1 ?_
  refine lv_bipush (v := 41) hx hb dX4_loosen_4 (by decide) ?_
  refine lv_sipush (v := 137) hx hb dX4_loosen_6 (by decide) ?_
  refine lv_aload_n hx hb dX4_loosen_9 rfl (lv_at hL 0 rfl) ?_
  refine mg_48 C B dX4_loosen_10 ?_
  refine lv_bipush (v := 41) hx hb dX4_loosen_13 (by decide) ?_
  refine mm_iald C B (a := 33) (n := 42) (Nat.le_of_ble_eq_true rfl) rfl h dX4_loosen_15 (fun v1 h => ?_)
  refine lv_imul hx hb dX4_loosen_16 ?_
  refine lv_bipush (v := 71) hx hb dX4_loosen_17 (by decide) ?_
  refine lv_iadd hx hb dX4_loosen_19 ?_
  refine lv_sipush (v := 1000) hx hb dX4_loosen_20 (by decide) ?_
  refine lv_irem hx hb dX4_loosen_23 (by decide) ?_
  refine mm_iast C B (a := 33) (n := 42) (Nat.le_of_ble_eq_true rfl) rfl h dX4_loosen_24 (fun gi2 h H locs B => ?_)
  refine lv_aload_n hx hb dX4_loosen_25 rfl (lv_at hL 0 rfl) ?_
  refine mg_11 C B dX4_loosen_26 ?_
  refine lv_aload_n hx hb dX4_loosen_29 rfl (lv_at hL 0 rfl) ?_
  refine mg_41 C B dX4_loosen_30 ?_
  refine mm_iald C B (a := 3) (n := 2) (Nat.le_of_ble_eq_true rfl) rfl h dX4_loosen_33 (fun v3 h => ?_)
  refine gg_if_ne hx hb 38 h dX4_loosen_34 (by decide) (fun h => ?_) (fun h => ?_)
  · refine lv_aload_n hx hb dX4_loosen_38 rfl (lv_at hL 0 rfl) ?_
    refine mg_48 C B dX4_loosen_39 ?_
    refine lv_bipush (v := 41) hx hb dX4_loosen_42 (by decide) ?_
    refine mm_iald C B (a := 33) (n := 42) (Nat.le_of_ble_eq_true rfl) rfl h dX4_loosen_44 (fun v4 h => ?_)
    refine lv_aload_n hx hb dX4_loosen_45 rfl (lv_at hL 0 rfl) ?_
    refine mg_11 C B dX4_loosen_46 ?_
    refine lv_aload_n hx hb dX4_loosen_49 rfl (lv_at hL 0 rfl) ?_
    refine mg_41 C B dX4_loosen_50 ?_
    refine mm_iald C B (a := 3) (n := 2) (Nat.le_of_ble_eq_true rfl) rfl h dX4_loosen_53 (fun v5 h => ?_)
    refine mm_nz h (fun hnz h => ?_)
    refine lv_irem hx hb dX4_loosen_54 hnz ?_
    refine lv_istore_n (lv' := [(2, .int (v4 - v4 / v5 * v5)), (0, .ref (ad 0)), (1, .int x1)]) hx hb dX4_loosen_55 rfl hL (by decide) rfl (fun ls hL => ?_)
    refine lv_aload_n hx hb dX4_loosen_56 rfl (lv_at hL 1 rfl) ?_
    refine lv_iload_n hx hb dX4_loosen_57 rfl (lv_at hL 2 rfl) ?_
    refine lv_iload_n hx hb dX4_loosen_58 rfl (lv_at hL 0 rfl) ?_
    refine k_X4_inPurse C B (Nat.le_trans (Nat.le_of_ble_eq_true rfl) hF) (Nat.le_trans (Nat.le_of_ble_eq_true rfl) hN) hL.1 (Nat.le_of_ble_eq_true rfl) h dX4_loosen_59 (fun q6 h H locs B => ?_)
    refine gg_if_ne hx hb 66 h dX4_loosen_62 (by decide) (fun h => ?_) (fun h => ?_)
    · refine lv_aload_n hx hb dX4_loosen_66 rfl (lv_at hL 1 rfl) ?_
      refine mg_48 C B dX4_loosen_67 ?_
      refine lv_iconst (v := 0) hx hb dX4_loosen_70 (by decide) ?_
      refine lv_iconst (v := 3) hx hb dX4_loosen_71 (by decide) ?_
      refine lv_iload_n hx hb dX4_loosen_72 rfl (lv_at hL 2 rfl) ?_
      refine lv_imul hx hb dX4_loosen_73 ?_
      refine lv_iadd hx hb dX4_loosen_74 ?_
      refine lv_iload_n hx hb dX4_loosen_75 rfl (lv_at hL 0 rfl) ?_
      refine lv_iadd hx hb dX4_loosen_76 ?_
      refine lv_dup2_11 hx hb dX4_loosen_77 rfl rfl ?_
      refine mm_iald C B (a := 33) (n := 42) (Nat.le_of_ble_eq_true rfl) rfl h dX4_loosen_78 (fun v7 h => ?_)
      refine lv_iconst (v := 1) hx hb dX4_loosen_79 (by decide) ?_
      refine lv_isub hx hb dX4_loosen_80 ?_
      refine mm_iast C B (a := 33) (n := 42) (Nat.le_of_ble_eq_true rfl) rfl h dX4_loosen_81 (fun gi8 h H locs B => ?_)
      refine lv_aload_n hx hb dX4_loosen_82 rfl (lv_at hL 1 rfl) ?_
      refine lv_iload_n hx hb dX4_loosen_83 rfl (lv_at hL 2 rfl) ?_
      refine lv_iload_n hx hb dX4_loosen_84 rfl (lv_at hL 0 rfl) ?_
      refine lv_iconst (v := 1) hx hb dX4_loosen_85 (by decide) ?_
      refine lv_iconst (v := 1) hx hb dX4_loosen_86 (by decide) ?_
      refine k_X4_lay C B (Nat.le_trans (Nat.le_of_ble_eq_true rfl) hF) (Nat.le_trans (Nat.le_of_ble_eq_true rfl) hN) hL.1 (Nat.le_of_ble_eq_true rfl) h dX4_loosen_87 (fun q9 h H locs B => ?_)
      exact hret _ _ _ _ _ _ ⟨Option.some.inj h, rfl⟩ B dX4_loosen_90
    · exact hret _ _ _ _ _ _ ⟨Option.some.inj h, rfl⟩ B dX4_loosen_65
  · exact hret _ _ _ _ _ _ ⟨Option.some.inj h, rfl⟩ B dX4_loosen_37
theorem k_X4_loosen {p : Program} {l : Launch} {e : Env} {R : Room} {s : State} {m : MethodId} {args : Array Value} {below : List Frame} {meth : Method} {c : Code} {H : Heap} {locs : List Loc} {Q : State → Prop} {pc : Nat} {ls : Array Slot} {rest : List Value} {cc : ByteArray} {nL : Nat} {D : va_G} {cA : Nat → ClassId} {ad : Nat → Nat} {A : Nat → Prop} {gi : GI} {gl : GL} {α : Type} {r : α} {x1 : Int32} {ff : GI → Option α} (C : CallFix p m c cc nL s args lw_all RX4) (B : MB D cA ad A s gi gl H locs) (hF : 3 ≤ R.frames) (hN : 68 ≤ R.locals) (hs : ls.size = nL) (hw : (rest.map fun v => v.category).sum ≤ 8) (h : (f_X4_loosen gi x1).bind ff = some r) (hdg : decode cc pc = .ok (.invokevirtual 463, 3)) (kk : ∀ q, ff q = some r → ∀ (H' : Heap) (locs' : List Loc), MB D cA ad A s q gl H' locs' → W p l e R s m args below meth c H' locs' 0 0 Q (F0 m (pc + 3) ls (rest))) : W p l e R s m args below meth c H locs 0 0 Q (F0 m pc ls (.int x1 :: .ref (ad 0) :: rest)) := by
  obtain ⟨q, h1, h2⟩ := g_ob h
  refine mm_cVV (As := [.int x1]) (rest := rest) (n := 1) C B (fun sz => w_X4_loosen l D cA ad gi gl x1 q h1 sz) q2228 q2230 qs114 q150 q2231 (by decide +kernel) ⟨hF, hN⟩ rfl hs hw hdg (fun u H9 locs9 hp B9 => ?_)
  obtain ⟨e1, e3⟩ := hp
  rw [e3] at B9
  subst e1
  exact kk _ h2 H9 locs9 B9
def f_X4_goWeek_l2 (x1l2 : Int32) (gil2 : GI) : Option ((Int32 × GI) ⊕ (GI)) :=
  (f_X4_many gil2 ).bind fun q1 =>
  if q1 ≤ x1l2 then
  (some (.inr gil2))
  else
  ((g_ld gil2 10 2 (gil2 0 41)).bind fun v2 =>
  (f_X4_has gil2 v2 x1l2).bind fun q3 =>
  if q3 = 0 then
  (some (.inl ((x1l2 + 1, gil2))))
  else
  ((f_X4_loosen gil2 x1l2).bind fun q4 =>
  some (.inl ((x1l2 + 1, q4)))))
def f_X4_goWeek_l44 (x1i44 : Int32) (x2l44 : Int32) (gil44 : GI) : Option ((Int32 × GI) ⊕ (GI)) :=
  (f_X4_many gil44 ).bind fun q6 =>
  if q6 ≤ x2l44 then
  (some (.inr gil44))
  else
  ((g_ld gil44 33 42 (15 + x2l44)).bind fun v7 =>
  (f_X4_growthOf gil44 x2l44).bind fun q8 =>
  if 0 ≤ (v7 + q8.1) then
  ((f_X4_lesser q8.2 99 (v7 + q8.1)).bind fun q9 =>
  (g_st q8.2 33 42 (15 + x2l44) q9).bind fun gi10 =>
  some (.inl ((x2l44 + 1, gi10))))
  else
  ((g_st q8.2 33 42 (15 + x2l44) 0).bind fun gi11 =>
  some (.inl ((x2l44 + 1, gi11)))))
def f_X4_goWeek_l119 (x1i119 : Int32) (x2i119 : Int32) (x3l119 : Int32) (gil119 : GI) : Option ((Int32 × GI) ⊕ (GI)) :=
  if 3 ≤ x3l119 then
  (some (.inr gil119))
  else
  ((g_st gil119 33 42 ((20 + (3 * x2i119)) + x3l119) 0).bind fun gi14 =>
  (f_X4_payOf gi14 x2i119 x3l119).bind fun q15 =>
  (f_X4_gets gi14 x2i119 x3l119 q15).bind fun q16 =>
  some (.inl ((x3l119 + 1, q16))))
def f_X4_goWeek_x119 (x1y119 : Int32) (x2y119 : Int32) (gie119 : GI) : Option ((Int32 × GI) ⊕ (GI)) :=
  some (.inl ((x2y119 + 1, gie119)))
def f_X4_goWeek_l99 (x1i99 : Int32) (x2l99 : Int32) (gil99 : GI) : Option ((Int32 × GI) ⊕ (GI)) :=
  (f_X4_many gil99 ).bind fun q12 =>
  if q12 ≤ x2l99 then
  (some (.inr gil99))
  else
  ((g_st gil99 33 42 (35 + x2l99) 0).bind fun gi13 =>
  (g_loop g_K (fun (s : Int32 × GI) => f_X4_goWeek_l119 x1i99 x2l99 s.1 s.2) (0, gi13)).bind fun E119 => f_X4_goWeek_x119 x1i99 x2l99 E119)
def f_X4_goWeek_x99 (x1y99 : Int32) (gie99 : GI) : Option (Int32 × GI) :=
  (g_ld gie99 33 42 40).bind fun v17 =>
  (g_st gie99 33 42 40 (v17 + 1)).bind fun gi18 =>
  some (x1y99, gi18)
def f_X4_goWeek_x44 (x1y44 : Int32) (gie44 : GI) : Option (Int32 × GI) :=
  (g_loop g_K (fun (s : Int32 × GI) => f_X4_goWeek_l99 x1y44 s.1 s.2) (0, gie44)).bind fun E99 => f_X4_goWeek_x99 x1y44 E99
def f_X4_goWeek_x2 (gie2 : GI) : Option (Int32 × GI) :=
  (f_X4_growths gie2 ).bind fun q5 =>
  (g_loop g_K (fun (s : Int32 × GI) => f_X4_goWeek_l44 q5.1 s.1 s.2) (0, q5.2)).bind fun E44 => f_X4_goWeek_x44 q5.1 E44
def f_X4_goWeek (gi : GI)  : Option (Int32 × GI) :=
  (g_loop g_K (fun (s : Int32 × GI) => f_X4_goWeek_l2 s.1 s.2) (0, gi)).bind fun E2 => f_X4_goWeek_x2 E2
set_option maxHeartbeats 400000 in
theorem w_X4_goWeek (l : Launch) (D : va_G) (cA : Nat → ClassId) (ad : Nat → Nat) (gi : GI) (gl : GL)  (r : Int32 × GI) (h : f_X4_goWeek gi  = some r) (sz : Nat) : Met l yX4_goWeek (ws_ yX4_goWeek cX4_goWeek 4 (some .int)) ({ frames := 5, cells := 0, slots := 0, locals := 112 } : Room) (va_Pc [.ref (ad 0)] (MPre D cA ad gi gl sz)) (va_Qi (fun v u => (v, u.1) = r ∧ u.2 = gl) (MPost D cA ad) (MA ad sz)) 0 0 (MA ad sz) := by
  refine mm_stI (by decide +kernel) rfl (Nat.le_of_ble_eq_true rfl) (fun p e s m args below meth c R Q A ls C hF hN B hret hL => ?_) sz
  have hx := C.1
  have hb := C.2.1
  have hL : lv_has ls 4 [(0, .ref (ad 0))] := hL
  unfold f_X4_goWeek at h
  refine lv_iconst (v := 0) hx hb dX4_goWeek_0 (by decide) ?_
  refine lv_istore_n (lv' := [(1, .int 0), (0, .ref (ad 0))]) hx hb dX4_goWeek_1 rfl hL (by decide) rfl (fun ls hL => ?_)
  obtain ⟨E2, h82, h⟩ := g_ob h
  have kx2 : ∀ (gie2 : GI) (H : Heap) (locs : List Loc) (ls : Array Slot), gie2 = E2 → MB D cA ad A s gie2 gl H locs → lv_has ls 4 [(0, .ref (ad 0))] → W p l e R s m args below meth c H locs 0 0 Q (F0 m 37 ls []) := by
    intro gie2 H locs ls he B hL
    subst he
    have h : f_X4_goWeek_x2 gie2 = some r := h
    unfold f_X4_goWeek_x2 at h
    refine lv_aload_n hx hb dX4_goWeek_37 rfl (lv_at hL 0 rfl) ?_
    refine k_X4_growths C B (Nat.le_trans (Nat.le_of_ble_eq_true rfl) hF) (Nat.le_trans (Nat.le_of_ble_eq_true rfl) hN) hL.1 (Nat.le_of_ble_eq_true rfl) h dX4_goWeek_38 (fun q5 h H locs B => ?_)
    refine lv_istore_n (lv' := [(1, .int q5.1), (0, .ref (ad 0))]) hx hb dX4_goWeek_41 rfl hL (by decide) rfl (fun ls hL => ?_)
    refine lv_iconst (v := 0) hx hb dX4_goWeek_42 (by decide) ?_
    refine lv_istore_n (lv' := [(2, .int 0), (1, .int q5.1), (0, .ref (ad 0))]) hx hb dX4_goWeek_43 rfl hL (by decide) rfl (fun ls hL => ?_)
    obtain ⟨E44, h844, h⟩ := g_ob h
    have kx44 : ∀ (gie44 : GI) (H : Heap) (locs : List Loc) (ls : Array Slot), gie44 = E44 → MB D cA ad A s gie44 gl H locs → lv_has ls 4 [(0, .ref (ad 0)), (1, .int q5.1)] → W p l e R s m args below meth c H locs 0 0 Q (F0 m 97 ls []) := by
      intro gie44 H locs ls he B hL
      subst he
      have h : f_X4_goWeek_x44 q5.1 gie44 = some r := h
      unfold f_X4_goWeek_x44 at h
      refine lv_iconst (v := 0) hx hb dX4_goWeek_97 (by decide) ?_
      refine lv_istore_n (lv' := [(2, .int 0), (0, .ref (ad 0)), (1, .int q5.1)]) hx hb dX4_goWeek_98 rfl hL (by decide) rfl (fun ls hL => ?_)
      obtain ⟨E99, h899, h⟩ := g_ob h
      have kx99 : ∀ (gie99 : GI) (H : Heap) (locs : List Loc) (ls : Array Slot), gie99 = E99 → MB D cA ad A s gie99 gl H locs → lv_has ls 4 [(0, .ref (ad 0)), (1, .int q5.1)] → W p l e R s m args below meth c H locs 0 0 Q (F0 m 162 ls []) := by
        intro gie99 H locs ls he B hL
        subst he
        have h : f_X4_goWeek_x99 q5.1 gie99 = some r := h
        unfold f_X4_goWeek_x99 at h
        refine lv_aload_n hx hb dX4_goWeek_162 rfl (lv_at hL 0 rfl) ?_
        refine mg_48 C B dX4_goWeek_163 ?_
        refine lv_bipush (v := 40) hx hb dX4_goWeek_166 (by decide) ?_
        refine lv_dup2_11 hx hb dX4_goWeek_168 rfl rfl ?_
        refine mm_iald C B (a := 33) (n := 42) (Nat.le_of_ble_eq_true rfl) rfl h dX4_goWeek_169 (fun v17 h => ?_)
        refine lv_iconst (v := 1) hx hb dX4_goWeek_170 (by decide) ?_
        refine lv_iadd hx hb dX4_goWeek_171 ?_
        refine mm_iast C B (a := 33) (n := 42) (Nat.le_of_ble_eq_true rfl) rfl h dX4_goWeek_172 (fun gi18 h H locs B => ?_)
        refine lv_iload_n hx hb dX4_goWeek_173 rfl (lv_at hL 1 rfl) ?_
        exact hret _ _ _ _ _ _ _ ⟨Option.some.inj h, rfl⟩ B dX4_goWeek_174
      have hl99 : ∀ (k : Nat) (x2l99 : Int32) (gil99 : GI) (H : Heap) (locs : List Loc) (ls : Array Slot), g_loop k (fun (s : Int32 × GI) => f_X4_goWeek_l99 q5.1 s.1 s.2) (x2l99, gil99) = some E99 → MB D cA ad A s gil99 gl H locs → lv_has ls 4 [(0, .ref (ad 0)), (1, .int q5.1), (2, .int x2l99)] → W p l e R s m args below meth c H locs 0 0 Q (F0 m 99 ls []) := by
        intro k
        induction k with
        | zero => intro x2l99 gil99 H locs ls h; exact absurd h (fun z => g_loop_0 z)
        | succ k ih99 =>
          intro x2l99 gil99 H locs ls h B hL
          obtain ⟨Z99, h, h999⟩ := g_loop_s h
          have h : f_X4_goWeek_l99 q5.1 x2l99 gil99 = some Z99 := h
          unfold f_X4_goWeek_l99 at h
          refine lv_iload_n hx hb dX4_goWeek_99 rfl (lv_at hL 2 rfl) ?_
          refine lv_aload_n hx hb dX4_goWeek_100 rfl (lv_at hL 0 rfl) ?_
          refine k_X4_many C B (Nat.le_trans (Nat.le_of_ble_eq_true rfl) hF) (Nat.le_trans (Nat.le_of_ble_eq_true rfl) hN) hL.1 (Nat.le_of_ble_eq_true rfl) h dX4_goWeek_101 (fun q12 h H locs B => ?_)
          refine gg_icmp_ge hx hb 162 h dX4_goWeek_104 (by decide) (fun h => ?_) (fun h => ?_)
          · exact kx99 _ _ _ _ (g_exit h h999) B (lv_sub hL [0, 1] rfl)
          · refine lv_aload_n hx hb dX4_goWeek_107 rfl (lv_at hL 0 rfl) ?_
            refine mg_48 C B dX4_goWeek_108 ?_
            refine lv_bipush (v := 35) hx hb dX4_goWeek_111 (by decide) ?_
            refine lv_iload_n hx hb dX4_goWeek_113 rfl (lv_at hL 2 rfl) ?_
            refine lv_iadd hx hb dX4_goWeek_114 ?_
            refine lv_iconst (v := 0) hx hb dX4_goWeek_115 (by decide) ?_
            refine mm_iast C B (a := 33) (n := 42) (Nat.le_of_ble_eq_true rfl) rfl h dX4_goWeek_116 (fun gi13 h H locs B => ?_)
            refine lv_iconst (v := 0) hx hb dX4_goWeek_117 (by decide) ?_
            refine lv_istore_n (lv' := [(3, .int 0), (0, .ref (ad 0)), (1, .int q5.1), (2, .int x2l99)]) hx hb dX4_goWeek_118 rfl hL (by decide) rfl (fun ls hL => ?_)
            obtain ⟨E119, h8119, h⟩ := g_ob h
            have kx119 : ∀ (gie119 : GI) (H : Heap) (locs : List Loc) (ls : Array Slot), gie119 = E119 → MB D cA ad A s gie119 gl H locs → lv_has ls 4 [(0, .ref (ad 0)), (1, .int q5.1), (2, .int x2l99)] → W p l e R s m args below meth c H locs 0 0 Q (F0 m 156 ls []) := by
              intro gie119 H locs ls he B hL
              subst he
              have h : f_X4_goWeek_x119 q5.1 x2l99 gie119 = some Z99 := h
              unfold f_X4_goWeek_x119 at h
              refine lv_iinc (v := x2l99 + 1) (lv' := [(2, .int (x2l99 + 1)), (0, .ref (ad 0)), (1, .int q5.1)]) hx hb dX4_goWeek_156 hL (k := 2) rfl rfl (by decide) rfl (fun ls hL => ?_)
              refine lv_goto (tgt := 99) hx hb dX4_goWeek_159 (by decide) ?_
              exact ih99 _ _ _ _ _ (g_next h h999) B (lv_sub hL [1, 2, 0] rfl)
            have hl119 : ∀ (k : Nat) (x3l119 : Int32) (gil119 : GI) (H : Heap) (locs : List Loc) (ls : Array Slot), g_loop k (fun (s : Int32 × GI) => f_X4_goWeek_l119 q5.1 x2l99 s.1 s.2) (x3l119, gil119) = some E119 → MB D cA ad A s gil119 gl H locs → lv_has ls 4 [(0, .ref (ad 0)), (1, .int q5.1), (2, .int x2l99), (3, .int x3l119)] → W p l e R s m args below meth c H locs 0 0 Q (F0 m 119 ls []) := by
              intro k
              induction k with
              | zero => intro x3l119 gil119 H locs ls h; exact absurd h (fun z => g_loop_0 z)
              | succ k ih119 =>
                intro x3l119 gil119 H locs ls h B hL
                obtain ⟨Z119, h, h9119⟩ := g_loop_s h
                have h : f_X4_goWeek_l119 q5.1 x2l99 x3l119 gil119 = some Z119 := h
                unfold f_X4_goWeek_l119 at h
                refine lv_iload_n hx hb dX4_goWeek_119 rfl (lv_at hL 3 rfl) ?_
                refine lv_iconst (v := 3) hx hb dX4_goWeek_120 (by decide) ?_
                refine gg_icmp_ge hx hb 156 h dX4_goWeek_121 (by decide) (fun h => ?_) (fun h => ?_)
                · exact kx119 _ _ _ _ (g_exit h h9119) B (lv_sub hL [0, 1, 2] rfl)
                · refine lv_aload_n hx hb dX4_goWeek_124 rfl (lv_at hL 0 rfl) ?_
                  refine mg_48 C B dX4_goWeek_125 ?_
                  refine lv_bipush (v := 20) hx hb dX4_goWeek_128 (by decide) ?_
                  refine lv_iconst (v := 3) hx hb dX4_goWeek_130 (by decide) ?_
                  refine lv_iload_n hx hb dX4_goWeek_131 rfl (lv_at hL 2 rfl) ?_
                  refine lv_imul hx hb dX4_goWeek_132 ?_
                  refine lv_iadd hx hb dX4_goWeek_133 ?_
                  refine lv_iload_n hx hb dX4_goWeek_134 rfl (lv_at hL 3 rfl) ?_
                  refine lv_iadd hx hb dX4_goWeek_135 ?_
                  refine lv_iconst (v := 0) hx hb dX4_goWeek_136 (by decide) ?_
                  refine mm_iast C B (a := 33) (n := 42) (Nat.le_of_ble_eq_true rfl) rfl h dX4_goWeek_137 (fun gi14 h H locs B => ?_)
                  refine lv_aload_n hx hb dX4_goWeek_138 rfl (lv_at hL 0 rfl) ?_
                  refine lv_iload_n hx hb dX4_goWeek_139 rfl (lv_at hL 2 rfl) ?_
                  refine lv_iload_n hx hb dX4_goWeek_140 rfl (lv_at hL 3 rfl) ?_
                  refine lv_aload_n hx hb dX4_goWeek_141 rfl (lv_at hL 0 rfl) ?_
                  refine lv_iload_n hx hb dX4_goWeek_142 rfl (lv_at hL 2 rfl) ?_
                  refine lv_iload_n hx hb dX4_goWeek_143 rfl (lv_at hL 3 rfl) ?_
                  refine k_X4_payOf C B (Nat.le_trans (Nat.le_of_ble_eq_true rfl) hF) (Nat.le_trans (Nat.le_of_ble_eq_true rfl) hN) hL.1 (Nat.le_of_ble_eq_true rfl) h dX4_goWeek_144 (fun q15 h H locs B => ?_)
                  refine k_X4_gets C B (Nat.le_trans (Nat.le_of_ble_eq_true rfl) hF) (Nat.le_trans (Nat.le_of_ble_eq_true rfl) hN) hL.1 (Nat.le_of_ble_eq_true rfl) h dX4_goWeek_147 (fun q16 h H locs B => ?_)
                  refine lv_iinc (v := x3l119 + 1) (lv' := [(3, .int (x3l119 + 1)), (0, .ref (ad 0)), (1, .int q5.1), (2, .int x2l99)]) hx hb dX4_goWeek_150 hL (k := 3) rfl rfl (by decide) rfl (fun ls hL => ?_)
                  refine lv_goto (tgt := 119) hx hb dX4_goWeek_153 (by decide) ?_
                  exact ih119 _ _ _ _ _ (g_next h h9119) B (lv_sub hL [1, 2, 3, 0] rfl)
            exact hl119 g_K _ _ _ _ _ h8119 B (lv_sub hL [1, 2, 3, 0] rfl)
      exact hl99 g_K _ _ _ _ _ h899 B (lv_sub hL [1, 2, 0] rfl)
    have hl44 : ∀ (k : Nat) (x2l44 : Int32) (gil44 : GI) (H : Heap) (locs : List Loc) (ls : Array Slot), g_loop k (fun (s : Int32 × GI) => f_X4_goWeek_l44 q5.1 s.1 s.2) (x2l44, gil44) = some E44 → MB D cA ad A s gil44 gl H locs → lv_has ls 4 [(0, .ref (ad 0)), (1, .int q5.1), (2, .int x2l44)] → W p l e R s m args below meth c H locs 0 0 Q (F0 m 44 ls []) := by
      intro k
      induction k with
      | zero => intro x2l44 gil44 H locs ls h; exact absurd h (fun z => g_loop_0 z)
      | succ k ih44 =>
        intro x2l44 gil44 H locs ls h B hL
        obtain ⟨Z44, h, h944⟩ := g_loop_s h
        have h : f_X4_goWeek_l44 q5.1 x2l44 gil44 = some Z44 := h
        unfold f_X4_goWeek_l44 at h
        refine lv_iload_n hx hb dX4_goWeek_44 rfl (lv_at hL 2 rfl) ?_
        refine lv_aload_n hx hb dX4_goWeek_45 rfl (lv_at hL 0 rfl) ?_
        refine k_X4_many C B (Nat.le_trans (Nat.le_of_ble_eq_true rfl) hF) (Nat.le_trans (Nat.le_of_ble_eq_true rfl) hN) hL.1 (Nat.le_of_ble_eq_true rfl) h dX4_goWeek_46 (fun q6 h H locs B => ?_)
        refine gg_icmp_ge hx hb 97 h dX4_goWeek_49 (by decide) (fun h => ?_) (fun h => ?_)
        · exact kx44 _ _ _ _ (g_exit h h944) B (lv_sub hL [0, 1] rfl)
        · refine lv_aload_n hx hb dX4_goWeek_52 rfl (lv_at hL 0 rfl) ?_
          refine mg_48 C B dX4_goWeek_53 ?_
          refine lv_bipush (v := 15) hx hb dX4_goWeek_56 (by decide) ?_
          refine lv_iload_n hx hb dX4_goWeek_58 rfl (lv_at hL 2 rfl) ?_
          refine lv_iadd hx hb dX4_goWeek_59 ?_
          refine mm_iald C B (a := 33) (n := 42) (Nat.le_of_ble_eq_true rfl) rfl h dX4_goWeek_60 (fun v7 h => ?_)
          refine lv_aload_n hx hb dX4_goWeek_61 rfl (lv_at hL 0 rfl) ?_
          refine lv_iload_n hx hb dX4_goWeek_62 rfl (lv_at hL 2 rfl) ?_
          refine k_X4_growthOf C B (Nat.le_trans (Nat.le_of_ble_eq_true rfl) hF) (Nat.le_trans (Nat.le_of_ble_eq_true rfl) hN) hL.1 (Nat.le_of_ble_eq_true rfl) h dX4_goWeek_63 (fun q8 h H locs B => ?_)
          refine lv_iadd hx hb dX4_goWeek_66 ?_
          refine lv_istore_n (lv' := [(3, .int (v7 + q8.1)), (0, .ref (ad 0)), (1, .int q5.1), (2, .int x2l44)]) hx hb dX4_goWeek_67 rfl hL (by decide) rfl (fun ls hL => ?_)
          refine lv_aload_n hx hb dX4_goWeek_68 rfl (lv_at hL 1 rfl) ?_
          refine mg_48 C B dX4_goWeek_69 ?_
          refine lv_bipush (v := 15) hx hb dX4_goWeek_72 (by decide) ?_
          refine lv_iload_n hx hb dX4_goWeek_74 rfl (lv_at hL 3 rfl) ?_
          refine lv_iadd hx hb dX4_goWeek_75 ?_
          refine lv_iload_n hx hb dX4_goWeek_76 rfl (lv_at hL 0 rfl) ?_
          refine gg_if_ge hx hb 84 h dX4_goWeek_77 (by decide) (fun h => ?_) (fun h => ?_)
          · refine lv_bipush (v := 99) hx hb dX4_goWeek_84 (by decide) ?_
            refine lv_iload_n hx hb dX4_goWeek_86 rfl (lv_at hL 0 rfl) ?_
            refine k_X4_lesser C B (Nat.le_trans (Nat.le_of_ble_eq_true rfl) hF) (Nat.le_trans (Nat.le_of_ble_eq_true rfl) hN) hL.1 (Nat.le_of_ble_eq_true rfl) h dX4_goWeek_87 (fun q9 h H locs B => ?_)
            refine mm_iast C B (a := 33) (n := 42) (Nat.le_of_ble_eq_true rfl) rfl h dX4_goWeek_90 (fun gi10 h H locs B => ?_)
            refine lv_iinc (v := x2l44 + 1) (lv' := [(2, .int (x2l44 + 1)), (3, .int (v7 + q8.1)), (0, .ref (ad 0)), (1, .int q5.1)]) hx hb dX4_goWeek_91 hL (k := 3) rfl rfl (by decide) rfl (fun ls hL => ?_)
            refine lv_goto (tgt := 44) hx hb dX4_goWeek_94 (by decide) ?_
            exact ih44 _ _ _ _ _ (g_next h h944) B (lv_sub hL [2, 3, 0] rfl)
          · refine lv_iconst (v := 0) hx hb dX4_goWeek_80 (by decide) ?_
            refine lv_goto (tgt := 90) hx hb dX4_goWeek_81 (by decide) ?_
            refine mm_iast C B (a := 33) (n := 42) (Nat.le_of_ble_eq_true rfl) rfl h dX4_goWeek_90 (fun gi11 h H locs B => ?_)
            refine lv_iinc (v := x2l44 + 1) (lv' := [(2, .int (x2l44 + 1)), (3, .int (v7 + q8.1)), (0, .ref (ad 0)), (1, .int q5.1)]) hx hb dX4_goWeek_91 hL (k := 3) rfl rfl (by decide) rfl (fun ls hL => ?_)
            refine lv_goto (tgt := 44) hx hb dX4_goWeek_94 (by decide) ?_
            exact ih44 _ _ _ _ _ (g_next h h944) B (lv_sub hL [2, 3, 0] rfl)
    exact hl44 g_K _ _ _ _ _ h844 B (lv_sub hL [2, 1, 0] rfl)
  have hl2 : ∀ (k : Nat) (x1l2 : Int32) (gil2 : GI) (H : Heap) (locs : List Loc) (ls : Array Slot), g_loop k (fun (s : Int32 × GI) => f_X4_goWeek_l2 s.1 s.2) (x1l2, gil2) = some E2 → MB D cA ad A s gil2 gl H locs → lv_has ls 4 [(0, .ref (ad 0)), (1, .int x1l2)] → W p l e R s m args below meth c H locs 0 0 Q (F0 m 2 ls []) := by
    intro k
    induction k with
    | zero => intro x1l2 gil2 H locs ls h; exact absurd h (fun z => g_loop_0 z)
    | succ k ih2 =>
      intro x1l2 gil2 H locs ls h B hL
      obtain ⟨Z2, h, h92⟩ := g_loop_s h
      have h : f_X4_goWeek_l2 x1l2 gil2 = some Z2 := h
      unfold f_X4_goWeek_l2 at h
      refine lv_iload_n hx hb dX4_goWeek_2 rfl (lv_at hL 1 rfl) ?_
      refine lv_aload_n hx hb dX4_goWeek_3 rfl (lv_at hL 0 rfl) ?_
      refine k_X4_many C B (Nat.le_trans (Nat.le_of_ble_eq_true rfl) hF) (Nat.le_trans (Nat.le_of_ble_eq_true rfl) hN) hL.1 (Nat.le_of_ble_eq_true rfl) h dX4_goWeek_4 (fun q1 h H locs B => ?_)
      refine gg_icmp_ge hx hb 37 h dX4_goWeek_7 (by decide) (fun h => ?_) (fun h => ?_)
      · exact kx2 _ _ _ _ (g_exit h h92) B (lv_sub hL [0] rfl)
      · refine lv_aload_n hx hb dX4_goWeek_10 rfl (lv_at hL 0 rfl) ?_
        refine mg_18 C B dX4_goWeek_11 ?_
        refine lv_aload_n hx hb dX4_goWeek_14 rfl (lv_at hL 0 rfl) ?_
        refine mg_41 C B dX4_goWeek_15 ?_
        refine mm_iald C B (a := 10) (n := 2) (Nat.le_of_ble_eq_true rfl) rfl h dX4_goWeek_18 (fun v2 h => ?_)
        refine lv_iload_n hx hb dX4_goWeek_19 rfl (lv_at hL 1 rfl) ?_
        refine k_X4_has C B (Nat.le_trans (Nat.le_of_ble_eq_true rfl) hF) (Nat.le_trans (Nat.le_of_ble_eq_true rfl) hN) hL.1 (Nat.le_of_ble_eq_true rfl) h dX4_goWeek_20 (fun q3 h H locs B => ?_)
        refine gg_if_eq hx hb 31 h dX4_goWeek_23 (by decide) (fun h => ?_) (fun h => ?_)
        · refine lv_iinc (v := x1l2 + 1) (lv' := [(1, .int (x1l2 + 1)), (0, .ref (ad 0))]) hx hb dX4_goWeek_31 hL (k := 1) rfl rfl (by decide) rfl (fun ls hL => ?_)
          refine lv_goto (tgt := 2) hx hb dX4_goWeek_34 (by decide) ?_
          exact ih2 _ _ _ _ _ (g_next h h92) B (lv_sub hL [1, 0] rfl)
        · refine lv_aload_n hx hb dX4_goWeek_26 rfl (lv_at hL 0 rfl) ?_
          refine lv_iload_n hx hb dX4_goWeek_27 rfl (lv_at hL 1 rfl) ?_
          refine k_X4_loosen C B (Nat.le_trans (Nat.le_of_ble_eq_true rfl) hF) (Nat.le_trans (Nat.le_of_ble_eq_true rfl) hN) hL.1 (Nat.le_of_ble_eq_true rfl) h dX4_goWeek_28 (fun q4 h H locs B => ?_)
          refine lv_iinc (v := x1l2 + 1) (lv' := [(1, .int (x1l2 + 1)), (0, .ref (ad 0))]) hx hb dX4_goWeek_31 hL (k := 1) rfl rfl (by decide) rfl (fun ls hL => ?_)
          refine lv_goto (tgt := 2) hx hb dX4_goWeek_34 (by decide) ?_
          exact ih2 _ _ _ _ _ (g_next h h92) B (lv_sub hL [1, 0] rfl)
  exact hl2 g_K _ _ _ _ _ h82 B (lv_sub hL [1, 0] rfl)
theorem k_X4_goWeek {p : Program} {l : Launch} {e : Env} {R : Room} {s : State} {m : MethodId} {args : Array Value} {below : List Frame} {meth : Method} {c : Code} {H : Heap} {locs : List Loc} {Q : State → Prop} {pc : Nat} {ls : Array Slot} {rest : List Value} {cc : ByteArray} {nL : Nat} {D : va_G} {cA : Nat → ClassId} {ad : Nat → Nat} {A : Nat → Prop} {gi : GI} {gl : GL} {α : Type} {r : α}  {ff : (Int32 × GI) → Option α} (C : CallFix p m c cc nL s args lw_all RX4) (B : MB D cA ad A s gi gl H locs) (hF : 6 ≤ R.frames) (hN : 135 ≤ R.locals) (hs : ls.size = nL) (hw : (rest.map fun v => v.category).sum ≤ 8) (h : (f_X4_goWeek gi ).bind ff = some r) (hdg : decode cc pc = .ok (.invokevirtual 469, 3)) (kk : ∀ q, ff q = some r → ∀ (H' : Heap) (locs' : List Loc), MB D cA ad A s q.2 gl H' locs' → W p l e R s m args below meth c H' locs' 0 0 Q (F0 m (pc + 3) ls (.int q.1 :: rest))) : W p l e R s m args below meth c H locs 0 0 Q (F0 m pc ls (.ref (ad 0) :: rest)) := by
  obtain ⟨q, h1, h2⟩ := g_ob h
  refine mm_cVI (As := []) (rest := rest) (n := 0) C B (fun sz => w_X4_goWeek l D cA ad gi gl  q h1 sz) q2221 q2223 qs113 q150 q2224 (by decide +kernel) ⟨hF, hN⟩ rfl hs hw hdg (fun v u H9 locs9 hp B9 => ?_)
  obtain ⟨e1, e3⟩ := hp
  rw [e3] at B9
  subst e1
  exact kk _ h2 H9 locs9 B9
def f_X4_week (gi : GI)  : Option (Int32 × GI) :=
  (g_ld gi 33 42 40).bind fun v1 =>
  if v1 = 999 then
  (some ((-1000000), gi))
  else
  ((f_X4_keepAct gi ).bind fun q2 =>
  (f_X4_goWeek q2 ).bind fun q3 =>
  some (q3.1, q3.2))
set_option maxHeartbeats 400000 in
theorem w_X4_week (l : Launch) (D : va_G) (cA : Nat → ClassId) (ad : Nat → Nat) (gi : GI) (gl : GL)  (r : Int32 × GI) (h : f_X4_week gi  = some r) (sz : Nat) : Met l yX4_week (ws_ yX4_week cX4_week 1 (some .int)) ({ frames := 6, cells := 0, slots := 0, locals := 135 } : Room) (va_Pc [.ref (ad 0)] (MPre D cA ad gi gl sz)) (va_Qi (fun v u => (v, u.1) = r ∧ u.2 = gl) (MPost D cA ad) (MA ad sz)) 0 0 (MA ad sz) := by
  refine mm_stI (by decide +kernel) rfl (Nat.le_of_ble_eq_true rfl) (fun p e s m args below meth c R Q A ls C hF hN B hret hL => ?_) sz
  have hx := C.1
  have hb := C.2.1
  have hL : lv_has ls 1 [(0, .ref (ad 0))] := hL
  unfold f_X4_week at h
  refine lv_aload_n hx hb dX4_week_0 rfl (lv_at hL 0 rfl) ?_
  refine mg_48 C B dX4_week_1 ?_
  refine lv_bipush (v := 40) hx hb dX4_week_4 (by decide) ?_
  refine mm_iald C B (a := 33) (n := 42) (Nat.le_of_ble_eq_true rfl) rfl h dX4_week_6 (fun v1 h => ?_)
  refine lv_sipush (v := 999) hx hb dX4_week_7 (by decide) ?_
  refine gg_icmp_ne hx hb 17 h dX4_week_10 (by decide) (fun h => ?_) (fun h => ?_)
  · refine lv_aload_n hx hb dX4_week_17 rfl (lv_at hL 0 rfl) ?_
    refine k_X4_keepAct C B (Nat.le_trans (Nat.le_of_ble_eq_true rfl) hF) (Nat.le_trans (Nat.le_of_ble_eq_true rfl) hN) hL.1 (Nat.le_of_ble_eq_true rfl) h dX4_week_18 (fun q2 h H locs B => ?_)
    refine lv_aload_n hx hb dX4_week_21 rfl (lv_at hL 0 rfl) ?_
    refine k_X4_goWeek C B (Nat.le_trans (Nat.le_of_ble_eq_true rfl) hF) (Nat.le_trans (Nat.le_of_ble_eq_true rfl) hN) hL.1 (Nat.le_of_ble_eq_true rfl) h dX4_week_22 (fun q3 h H locs B => ?_)
    exact hret _ _ _ _ _ _ _ ⟨Option.some.inj h, rfl⟩ B dX4_week_25
  · refine lv_ldcw (v := (-1000000)) hx hb C.2.2.2.1 (C.2.2.2.2 _ q2126) dX4_week_13 ?_
    exact hret _ _ _ _ _ _ _ ⟨Option.some.inj h, rfl⟩ B dX4_week_16
def f_X4_exchange_l2 (x1l2 : Int32) (gil2 : GI) : Option ((Int32 × GI) ⊕ (GI)) :=
  if 42 ≤ x1l2 then
  (some (.inr gil2))
  else
  ((g_ld gil2 34 1722 ((42 * (gil2 0 50)) + x1l2)).bind fun v1 =>
  (g_ld gil2 33 42 x1l2).bind fun v2 =>
  (g_st gil2 34 1722 ((42 * (gil2 0 50)) + x1l2) v2).bind fun gi3 =>
  (g_st gi3 33 42 x1l2 v1).bind fun gi4 =>
  some (.inl ((x1l2 + 1, gi4))))
def f_X4_exchange_x2 (gie2 : GI) : Option (GI) :=
  some gie2
def f_X4_exchange (gi : GI)  : Option (GI) :=
  (g_loop g_K (fun (s : Int32 × GI) => f_X4_exchange_l2 s.1 s.2) (0, gi)).bind fun E2 => f_X4_exchange_x2 E2
set_option maxHeartbeats 400000 in
theorem w_X4_exchange (l : Launch) (D : va_G) (cA : Nat → ClassId) (ad : Nat → Nat) (gi : GI) (gl : GL)  (r : GI) (h : f_X4_exchange gi  = some r) (sz : Nat) : Met l yX4_exchange (ws_ yX4_exchange cX4_exchange 3 (none)) ({ frames := 0, cells := 0, slots := 0, locals := 0 } : Room) (va_Pc [.ref (ad 0)] (MPre D cA ad gi gl sz)) (va_Qv (fun u => u.1 = r ∧ u.2 = gl) (MPost D cA ad) (MA ad sz)) 0 0 (MA ad sz) := by
  refine mm_stV (by decide +kernel) rfl (Nat.le_of_ble_eq_true rfl) (fun p e s m args below meth c R Q A ls C hF hN B hret hL => ?_) sz
  have hx := C.1
  have hb := C.2.1
  have hL : lv_has ls 3 [(0, .ref (ad 0))] := hL
  unfold f_X4_exchange at h
  refine lv_iconst (v := 0) hx hb dX4_exchange_0 (by decide) ?_
  refine lv_istore_n (lv' := [(1, .int 0), (0, .ref (ad 0))]) hx hb dX4_exchange_1 rfl hL (by decide) rfl (fun ls hL => ?_)
  obtain ⟨E2, h82, h⟩ := g_ob h
  have kx2 : ∀ (gie2 : GI) (H : Heap) (locs : List Loc) (ls : Array Slot), gie2 = E2 → MB D cA ad A s gie2 gl H locs → lv_has ls 3 [] → W p l e R s m args below meth c H locs 0 0 Q (F0 m 56 ls []) := by
    intro gie2 H locs ls he B hL
    subst he
    have h : f_X4_exchange_x2 gie2 = some r := h
    unfold f_X4_exchange_x2 at h
    exact hret _ _ _ _ _ _ ⟨Option.some.inj h, rfl⟩ B dX4_exchange_56
  have hl2 : ∀ (k : Nat) (x1l2 : Int32) (gil2 : GI) (H : Heap) (locs : List Loc) (ls : Array Slot), g_loop k (fun (s : Int32 × GI) => f_X4_exchange_l2 s.1 s.2) (x1l2, gil2) = some E2 → MB D cA ad A s gil2 gl H locs → lv_has ls 3 [(0, .ref (ad 0)), (1, .int x1l2)] → W p l e R s m args below meth c H locs 0 0 Q (F0 m 2 ls []) := by
    intro k
    induction k with
    | zero => intro x1l2 gil2 H locs ls h; exact absurd h (fun z => g_loop_0 z)
    | succ k ih2 =>
      intro x1l2 gil2 H locs ls h B hL
      obtain ⟨Z2, h, h92⟩ := g_loop_s h
      have h : f_X4_exchange_l2 x1l2 gil2 = some Z2 := h
      unfold f_X4_exchange_l2 at h
      refine lv_iload_n hx hb dX4_exchange_2 rfl (lv_at hL 1 rfl) ?_
      refine lv_bipush (v := 42) hx hb dX4_exchange_3 (by decide) ?_
      refine gg_icmp_ge hx hb 56 h dX4_exchange_5 (by decide) (fun h => ?_) (fun h => ?_)
      · exact kx2 _ _ _ _ (g_exit h h92) B (lv_sub hL [] rfl)
      · refine lv_aload_n hx hb dX4_exchange_8 rfl (lv_at hL 0 rfl) ?_
        refine mg_49 C B dX4_exchange_9 ?_
        refine lv_bipush (v := 42) hx hb dX4_exchange_12 (by decide) ?_
        refine lv_aload_n hx hb dX4_exchange_14 rfl (lv_at hL 0 rfl) ?_
        refine mg_50 C B dX4_exchange_15 ?_
        refine lv_imul hx hb dX4_exchange_18 ?_
        refine lv_iload_n hx hb dX4_exchange_19 rfl (lv_at hL 1 rfl) ?_
        refine lv_iadd hx hb dX4_exchange_20 ?_
        refine mm_iald C B (a := 34) (n := 1722) (Nat.le_of_ble_eq_true rfl) rfl h dX4_exchange_21 (fun v1 h => ?_)
        refine lv_istore_n (lv' := [(2, .int v1), (0, .ref (ad 0)), (1, .int x1l2)]) hx hb dX4_exchange_22 rfl hL (by decide) rfl (fun ls hL => ?_)
        refine lv_aload_n hx hb dX4_exchange_23 rfl (lv_at hL 1 rfl) ?_
        refine mg_49 C B dX4_exchange_24 ?_
        refine lv_bipush (v := 42) hx hb dX4_exchange_27 (by decide) ?_
        refine lv_aload_n hx hb dX4_exchange_29 rfl (lv_at hL 1 rfl) ?_
        refine mg_50 C B dX4_exchange_30 ?_
        refine lv_imul hx hb dX4_exchange_33 ?_
        refine lv_iload_n hx hb dX4_exchange_34 rfl (lv_at hL 2 rfl) ?_
        refine lv_iadd hx hb dX4_exchange_35 ?_
        refine lv_aload_n hx hb dX4_exchange_36 rfl (lv_at hL 1 rfl) ?_
        refine mg_48 C B dX4_exchange_37 ?_
        refine lv_iload_n hx hb dX4_exchange_40 rfl (lv_at hL 2 rfl) ?_
        refine mm_iald C B (a := 33) (n := 42) (Nat.le_of_ble_eq_true rfl) rfl h dX4_exchange_41 (fun v2 h => ?_)
        refine mm_iast C B (a := 34) (n := 1722) (Nat.le_of_ble_eq_true rfl) rfl h dX4_exchange_42 (fun gi3 h H locs B => ?_)
        refine lv_aload_n hx hb dX4_exchange_43 rfl (lv_at hL 1 rfl) ?_
        refine mg_48 C B dX4_exchange_44 ?_
        refine lv_iload_n hx hb dX4_exchange_47 rfl (lv_at hL 2 rfl) ?_
        refine lv_iload_n hx hb dX4_exchange_48 rfl (lv_at hL 0 rfl) ?_
        refine mm_iast C B (a := 33) (n := 42) (Nat.le_of_ble_eq_true rfl) rfl h dX4_exchange_49 (fun gi4 h H locs B => ?_)
        refine lv_iinc (v := x1l2 + 1) (lv' := [(1, .int (x1l2 + 1)), (2, .int v1), (0, .ref (ad 0))]) hx hb dX4_exchange_50 hL (k := 2) rfl rfl (by decide) rfl (fun ls hL => ?_)
        refine lv_goto (tgt := 2) hx hb dX4_exchange_53 (by decide) ?_
        exact ih2 _ _ _ _ _ (g_next h h92) B (lv_sub hL [2, 0] rfl)
  exact hl2 g_K _ _ _ _ _ h82 B (lv_sub hL [1, 0] rfl)
theorem k_X4_exchange {p : Program} {l : Launch} {e : Env} {R : Room} {s : State} {m : MethodId} {args : Array Value} {below : List Frame} {meth : Method} {c : Code} {H : Heap} {locs : List Loc} {Q : State → Prop} {pc : Nat} {ls : Array Slot} {rest : List Value} {cc : ByteArray} {nL : Nat} {D : va_G} {cA : Nat → ClassId} {ad : Nat → Nat} {A : Nat → Prop} {gi : GI} {gl : GL} {α : Type} {r : α}  {ff : GI → Option α} (C : CallFix p m c cc nL s args lw_all RX4) (B : MB D cA ad A s gi gl H locs) (hF : 1 ≤ R.frames) (hN : 22 ≤ R.locals) (hs : ls.size = nL) (hw : (rest.map fun v => v.category).sum ≤ 8) (h : (f_X4_exchange gi ).bind ff = some r) (hdg : decode cc pc = .ok (.invokevirtual 472, 3)) (kk : ∀ q, ff q = some r → ∀ (H' : Heap) (locs' : List Loc), MB D cA ad A s q gl H' locs' → W p l e R s m args below meth c H' locs' 0 0 Q (F0 m (pc + 3) ls (rest))) : W p l e R s m args below meth c H locs 0 0 Q (F0 m pc ls (.ref (ad 0) :: rest)) := by
  obtain ⟨q, h1, h2⟩ := g_ob h
  refine mm_cVV (As := []) (rest := rest) (n := 0) C B (fun sz => w_X4_exchange l D cA ad gi gl  q h1 sz) q2240 q2242 qs116 q150 q2243 (by decide +kernel) ⟨hF, hN⟩ rfl hs hw hdg (fun u H9 locs9 hp B9 => ?_)
  obtain ⟨e1, e3⟩ := hp
  rw [e3] at B9
  subst e1
  exact kk _ h2 H9 locs9 B9
def f_X4_undo (gi : GI)  : Option (Int32 × GI) :=
  if (gi 0 50) = 0 then
  (some (0, gi))
  else
  ((some (g_pi gi 0 50 ((gi 0 50) - 1))).bind fun gi1 =>
  (some (g_pi gi1 0 51 ((gi1 0 51) + 1))).bind fun gi2 =>
  (f_X4_exchange gi2 ).bind fun q3 =>
  some (1, q3))
set_option maxHeartbeats 400000 in
theorem w_X4_undo (l : Launch) (D : va_G) (cA : Nat → ClassId) (ad : Nat → Nat) (gi : GI) (gl : GL)  (r : Int32 × GI) (h : f_X4_undo gi  = some r) (sz : Nat) : Met l yX4_undo (ws_ yX4_undo cX4_undo 1 (some .boolean)) ({ frames := 1, cells := 0, slots := 0, locals := 22 } : Room) (va_Pc [.ref (ad 0)] (MPre D cA ad gi gl sz)) (va_Qi (fun v u => (v, u.1) = r ∧ u.2 = gl) (MPost D cA ad) (MA ad sz)) 0 0 (MA ad sz) := by
  refine mm_stZ (by decide +kernel) rfl (Nat.le_of_ble_eq_true rfl) (fun p e s m args below meth c R Q A ls C hF hN B hret hL => ?_) sz
  have hx := C.1
  have hb := C.2.1
  have hL : lv_has ls 1 [(0, .ref (ad 0))] := hL
  unfold f_X4_undo at h
  refine lv_aload_n hx hb dX4_undo_0 rfl (lv_at hL 0 rfl) ?_
  refine mg_50 C B dX4_undo_1 ?_
  refine gg_if_ne hx hb 9 h dX4_undo_4 (by decide) (fun h => ?_) (fun h => ?_)
  · refine lv_aload_n hx hb dX4_undo_9 rfl (lv_at hL 0 rfl) ?_
    refine lv_dup hx hb dX4_undo_10 rfl ?_
    refine mg_50 C B dX4_undo_11 ?_
    refine lv_iconst (v := 1) hx hb dX4_undo_14 (by decide) ?_
    refine lv_isub hx hb dX4_undo_15 ?_
    refine mp_50 C B h dX4_undo_16 (fun gi1 h H locs B => ?_)
    refine lv_aload_n hx hb dX4_undo_19 rfl (lv_at hL 0 rfl) ?_
    refine lv_dup hx hb dX4_undo_20 rfl ?_
    refine mg_51 C B dX4_undo_21 ?_
    refine lv_iconst (v := 1) hx hb dX4_undo_24 (by decide) ?_
    refine lv_iadd hx hb dX4_undo_25 ?_
    refine mp_51 C B h dX4_undo_26 (fun gi2 h H locs B => ?_)
    refine lv_aload_n hx hb dX4_undo_29 rfl (lv_at hL 0 rfl) ?_
    refine k_X4_exchange C B (Nat.le_trans (Nat.le_of_ble_eq_true rfl) hF) (Nat.le_trans (Nat.le_of_ble_eq_true rfl) hN) hL.1 (Nat.le_of_ble_eq_true rfl) h dX4_undo_30 (fun q3 h H locs B => ?_)
    refine lv_iconst (v := 1) hx hb dX4_undo_33 (by decide) ?_
    exact hret _ _ _ _ _ _ _ ⟨Option.some.inj h, rfl⟩ (Or.inr rfl) B dX4_undo_34
  · refine lv_iconst (v := 0) hx hb dX4_undo_7 (by decide) ?_
    exact hret _ _ _ _ _ _ _ ⟨Option.some.inj h, rfl⟩ (Or.inl rfl) B dX4_undo_8
def f_X4_redo (gi : GI)  : Option (Int32 × GI) :=
  if (gi 0 51) = 0 then
  (some (0, gi))
  else
  ((f_X4_exchange gi ).bind fun q1 =>
  (some (g_pi q1 0 50 ((q1 0 50) + 1))).bind fun gi2 =>
  (some (g_pi gi2 0 51 ((gi2 0 51) - 1))).bind fun gi3 =>
  some (1, gi3))
set_option maxHeartbeats 400000 in
theorem w_X4_redo (l : Launch) (D : va_G) (cA : Nat → ClassId) (ad : Nat → Nat) (gi : GI) (gl : GL)  (r : Int32 × GI) (h : f_X4_redo gi  = some r) (sz : Nat) : Met l yX4_redo (ws_ yX4_redo cX4_redo 1 (some .boolean)) ({ frames := 1, cells := 0, slots := 0, locals := 22 } : Room) (va_Pc [.ref (ad 0)] (MPre D cA ad gi gl sz)) (va_Qi (fun v u => (v, u.1) = r ∧ u.2 = gl) (MPost D cA ad) (MA ad sz)) 0 0 (MA ad sz) := by
  refine mm_stZ (by decide +kernel) rfl (Nat.le_of_ble_eq_true rfl) (fun p e s m args below meth c R Q A ls C hF hN B hret hL => ?_) sz
  have hx := C.1
  have hb := C.2.1
  have hL : lv_has ls 1 [(0, .ref (ad 0))] := hL
  unfold f_X4_redo at h
  refine lv_aload_n hx hb dX4_redo_0 rfl (lv_at hL 0 rfl) ?_
  refine mg_51 C B dX4_redo_1 ?_
  refine gg_if_ne hx hb 9 h dX4_redo_4 (by decide) (fun h => ?_) (fun h => ?_)
  · refine lv_aload_n hx hb dX4_redo_9 rfl (lv_at hL 0 rfl) ?_
    refine k_X4_exchange C B (Nat.le_trans (Nat.le_of_ble_eq_true rfl) hF) (Nat.le_trans (Nat.le_of_ble_eq_true rfl) hN) hL.1 (Nat.le_of_ble_eq_true rfl) h dX4_redo_10 (fun q1 h H locs B => ?_)
    refine lv_aload_n hx hb dX4_redo_13 rfl (lv_at hL 0 rfl) ?_
    refine lv_dup hx hb dX4_redo_14 rfl ?_
    refine mg_50 C B dX4_redo_15 ?_
    refine lv_iconst (v := 1) hx hb dX4_redo_18 (by decide) ?_
    refine lv_iadd hx hb dX4_redo_19 ?_
    refine mp_50 C B h dX4_redo_20 (fun gi2 h H locs B => ?_)
    refine lv_aload_n hx hb dX4_redo_23 rfl (lv_at hL 0 rfl) ?_
    refine lv_dup hx hb dX4_redo_24 rfl ?_
    refine mg_51 C B dX4_redo_25 ?_
    refine lv_iconst (v := 1) hx hb dX4_redo_28 (by decide) ?_
    refine lv_isub hx hb dX4_redo_29 ?_
    refine mp_51 C B h dX4_redo_30 (fun gi3 h H locs B => ?_)
    refine lv_iconst (v := 1) hx hb dX4_redo_33 (by decide) ?_
    exact hret _ _ _ _ _ _ _ ⟨Option.some.inj h, rfl⟩ (Or.inr rfl) B dX4_redo_34
  · refine lv_iconst (v := 0) hx hb dX4_redo_7 (by decide) ?_
    exact hret _ _ _ _ _ _ _ ⟨Option.some.inj h, rfl⟩ (Or.inl rfl) B dX4_redo_8
def f_X4_lies (gi : GI) (x1 : Int32) : Option (Int32) :=
  (f_X4_isIn gi x1 0 ((gi 0 55) - 1)).bind fun q1 =>
  if q1 = 0 then
  (some ((-1)))
  else
  ((g_ld gi 37 8 x1).bind fun v2 =>
  some v2)
set_option maxHeartbeats 400000 in
theorem w_X4_lies (l : Launch) (D : va_G) (cA : Nat → ClassId) (ad : Nat → Nat) (gi : GI) (gl : GL) (x1 : Int32) (r : Int32) (h : f_X4_lies gi x1 = some r) (sz : Nat) : Met l yX4_lies (ws_ yX4_lies cX4_lies 2 (some .int)) ({ frames := 1, cells := 0, slots := 0, locals := 22 } : Room) (va_Pc [.ref (ad 0), .int x1] (MPre D cA ad gi gl sz)) (va_Qi (fun v u => v = r ∧ u.1 = gi ∧ u.2 = gl) (MPost D cA ad) (MA ad sz)) 0 0 (MA ad sz) := by
  refine mm_stI (by decide +kernel) rfl (Nat.le_of_ble_eq_true rfl) (fun p e s m args below meth c R Q A ls C hF hN B hret hL => ?_) sz
  have hx := C.1
  have hb := C.2.1
  have hL : lv_has ls 2 [(0, .ref (ad 0)), (1, .int x1)] := hL
  unfold f_X4_lies at h
  refine lv_iload_n hx hb dX4_lies_0 rfl (lv_at hL 1 rfl) ?_
  refine lv_iconst (v := 0) hx hb dX4_lies_1 (by decide) ?_
  refine lv_aload_n hx hb dX4_lies_2 rfl (lv_at hL 0 rfl) ?_
  refine mg_55 C B dX4_lies_3 ?_
  refine lv_iconst (v := 1) hx hb dX4_lies_6 (by decide) ?_
  refine lv_isub hx hb dX4_lies_7 ?_
  refine k_X4_isIn C B (Nat.le_trans (Nat.le_of_ble_eq_true rfl) hF) (Nat.le_trans (Nat.le_of_ble_eq_true rfl) hN) hL.1 (Nat.le_of_ble_eq_true rfl) h dX4_lies_8 (fun q1 h H locs B => ?_)
  refine gg_if_eq hx hb 23 h dX4_lies_11 (by decide) (fun h => ?_) (fun h => ?_)
  · refine lv_iconst (v := (-1)) hx hb dX4_lies_23 (by decide) ?_
    exact hret _ _ _ _ _ _ _ ⟨Option.some.inj h, rfl, rfl⟩ B dX4_lies_24
  · refine lv_aload_n hx hb dX4_lies_14 rfl (lv_at hL 0 rfl) ?_
    refine mg_54 C B dX4_lies_15 ?_
    refine lv_iload_n hx hb dX4_lies_18 rfl (lv_at hL 1 rfl) ?_
    refine mm_iald C B (a := 37) (n := 8) (Nat.le_of_ble_eq_true rfl) rfl h dX4_lies_19 (fun v2 h => ?_)
    refine lv_goto (tgt := 24) hx hb dX4_lies_20 (by decide) ?_
    exact hret _ _ _ _ _ _ _ ⟨Option.some.inj h, rfl, rfl⟩ B dX4_lies_24
def f_X4_layMost_l2 (x1i2 : Int32) (x2l2 : Int32) (gil2 : GI) : Option ((Int32 × GI) ⊕ (GI)) :=
  if 3 ≤ x2l2 then
  (some (.inr gil2))
  else
  ((g_ld gil2 3 2 (gil2 0 41)).bind fun v1 =>
  if v1 ≤ x2l2 then
  ((g_st gil2 38 3 x2l2 0).bind fun gi2 =>
  some (.inl ((x2l2 + 1, gi2))))
  else
  ((f_X4_inPurse gil2 x1i2 x2l2).bind fun q3 =>
  (g_st gil2 38 3 x2l2 q3).bind fun gi4 =>
  some (.inl ((x2l2 + 1, gi4)))))
def f_X4_layMost_x2 (gie2 : GI) : Option (GI) :=
  some gie2
def f_X4_layMost (gi : GI) (x1 : Int32) : Option (GI) :=
  (g_loop g_K (fun (s : Int32 × GI) => f_X4_layMost_l2 x1 s.1 s.2) (0, gi)).bind fun E2 => f_X4_layMost_x2 E2
set_option maxHeartbeats 400000 in
theorem w_X4_layMost (l : Launch) (D : va_G) (cA : Nat → ClassId) (ad : Nat → Nat) (gi : GI) (gl : GL) (x1 : Int32) (r : GI) (h : f_X4_layMost gi x1 = some r) (sz : Nat) : Met l yX4_layMost (ws_ yX4_layMost cX4_layMost 3 (none)) ({ frames := 1, cells := 0, slots := 0, locals := 22 } : Room) (va_Pc [.ref (ad 0), .int x1] (MPre D cA ad gi gl sz)) (va_Qv (fun u => u.1 = r ∧ u.2 = gl) (MPost D cA ad) (MA ad sz)) 0 0 (MA ad sz) := by
  refine mm_stV (by decide +kernel) rfl (Nat.le_of_ble_eq_true rfl) (fun p e s m args below meth c R Q A ls C hF hN B hret hL => ?_) sz
  have hx := C.1
  have hb := C.2.1
  have hL : lv_has ls 3 [(0, .ref (ad 0)), (1, .int x1)] := hL
  unfold f_X4_layMost at h
  refine lv_iconst (v := 0) hx hb dX4_layMost_0 (by decide) ?_
  refine lv_istore_n (lv' := [(2, .int 0), (0, .ref (ad 0)), (1, .int x1)]) hx hb dX4_layMost_1 rfl hL (by decide) rfl (fun ls hL => ?_)
  obtain ⟨E2, h82, h⟩ := g_ob h
  have kx2 : ∀ (gie2 : GI) (H : Heap) (locs : List Loc) (ls : Array Slot), gie2 = E2 → MB D cA ad A s gie2 gl H locs → lv_has ls 3 [] → W p l e R s m args below meth c H locs 0 0 Q (F0 m 42 ls []) := by
    intro gie2 H locs ls he B hL
    subst he
    have h : f_X4_layMost_x2 gie2 = some r := h
    unfold f_X4_layMost_x2 at h
    exact hret _ _ _ _ _ _ ⟨Option.some.inj h, rfl⟩ B dX4_layMost_42
  have hl2 : ∀ (k : Nat) (x2l2 : Int32) (gil2 : GI) (H : Heap) (locs : List Loc) (ls : Array Slot), g_loop k (fun (s : Int32 × GI) => f_X4_layMost_l2 x1 s.1 s.2) (x2l2, gil2) = some E2 → MB D cA ad A s gil2 gl H locs → lv_has ls 3 [(0, .ref (ad 0)), (1, .int x1), (2, .int x2l2)] → W p l e R s m args below meth c H locs 0 0 Q (F0 m 2 ls []) := by
    intro k
    induction k with
    | zero => intro x2l2 gil2 H locs ls h; exact absurd h (fun z => g_loop_0 z)
    | succ k ih2 =>
      intro x2l2 gil2 H locs ls h B hL
      obtain ⟨Z2, h, h92⟩ := g_loop_s h
      have h : f_X4_layMost_l2 x1 x2l2 gil2 = some Z2 := h
      unfold f_X4_layMost_l2 at h
      refine lv_iload_n hx hb dX4_layMost_2 rfl (lv_at hL 2 rfl) ?_
      refine lv_iconst (v := 3) hx hb dX4_layMost_3 (by decide) ?_
      refine gg_icmp_ge hx hb 42 h dX4_layMost_4 (by decide) (fun h => ?_) (fun h => ?_)
      · exact kx2 _ _ _ _ (g_exit h h92) B (lv_sub hL [] rfl)
      · refine lv_aload_n hx hb dX4_layMost_7 rfl (lv_at hL 0 rfl) ?_
        refine mg_58 C B dX4_layMost_8 ?_
        refine lv_iload_n hx hb dX4_layMost_11 rfl (lv_at hL 2 rfl) ?_
        refine lv_iload_n hx hb dX4_layMost_12 rfl (lv_at hL 2 rfl) ?_
        refine lv_aload_n hx hb dX4_layMost_13 rfl (lv_at hL 0 rfl) ?_
        refine mg_11 C B dX4_layMost_14 ?_
        refine lv_aload_n hx hb dX4_layMost_17 rfl (lv_at hL 0 rfl) ?_
        refine mg_41 C B dX4_layMost_18 ?_
        refine mm_iald C B (a := 3) (n := 2) (Nat.le_of_ble_eq_true rfl) rfl h dX4_layMost_21 (fun v1 h => ?_)
        refine gg_icmp_ge hx hb 34 h dX4_layMost_22 (by decide) (fun h => ?_) (fun h => ?_)
        · refine lv_iconst (v := 0) hx hb dX4_layMost_34 (by decide) ?_
          refine mm_iast C B (a := 38) (n := 3) (Nat.le_of_ble_eq_true rfl) rfl h dX4_layMost_35 (fun gi2 h H locs B => ?_)
          refine lv_iinc (v := x2l2 + 1) (lv' := [(2, .int (x2l2 + 1)), (0, .ref (ad 0)), (1, .int x1)]) hx hb dX4_layMost_36 hL (k := 2) rfl rfl (by decide) rfl (fun ls hL => ?_)
          refine lv_goto (tgt := 2) hx hb dX4_layMost_39 (by decide) ?_
          exact ih2 _ _ _ _ _ (g_next h h92) B (lv_sub hL [1, 2, 0] rfl)
        · refine lv_aload_n hx hb dX4_layMost_25 rfl (lv_at hL 0 rfl) ?_
          refine lv_iload_n hx hb dX4_layMost_26 rfl (lv_at hL 1 rfl) ?_
          refine lv_iload_n hx hb dX4_layMost_27 rfl (lv_at hL 2 rfl) ?_
          refine k_X4_inPurse C B (Nat.le_trans (Nat.le_of_ble_eq_true rfl) hF) (Nat.le_trans (Nat.le_of_ble_eq_true rfl) hN) hL.1 (Nat.le_of_ble_eq_true rfl) h dX4_layMost_28 (fun q3 h H locs B => ?_)
          refine lv_goto (tgt := 35) hx hb dX4_layMost_31 (by decide) ?_
          refine mm_iast C B (a := 38) (n := 3) (Nat.le_of_ble_eq_true rfl) rfl h dX4_layMost_35 (fun gi4 h H locs B => ?_)
          refine lv_iinc (v := x2l2 + 1) (lv' := [(2, .int (x2l2 + 1)), (0, .ref (ad 0)), (1, .int x1)]) hx hb dX4_layMost_36 hL (k := 2) rfl rfl (by decide) rfl (fun ls hL => ?_)
          refine lv_goto (tgt := 2) hx hb dX4_layMost_39 (by decide) ?_
          exact ih2 _ _ _ _ _ (g_next h h92) B (lv_sub hL [1, 2, 0] rfl)
  exact hl2 g_K _ _ _ _ _ h82 B (lv_sub hL [1, 2, 0] rfl)
theorem k_X4_layMost {p : Program} {l : Launch} {e : Env} {R : Room} {s : State} {m : MethodId} {args : Array Value} {below : List Frame} {meth : Method} {c : Code} {H : Heap} {locs : List Loc} {Q : State → Prop} {pc : Nat} {ls : Array Slot} {rest : List Value} {cc : ByteArray} {nL : Nat} {D : va_G} {cA : Nat → ClassId} {ad : Nat → Nat} {A : Nat → Prop} {gi : GI} {gl : GL} {α : Type} {r : α} {x1 : Int32} {ff : GI → Option α} (C : CallFix p m c cc nL s args lw_all RX4) (B : MB D cA ad A s gi gl H locs) (hF : 2 ≤ R.frames) (hN : 44 ≤ R.locals) (hs : ls.size = nL) (hw : (rest.map fun v => v.category).sum ≤ 8) (h : (f_X4_layMost gi x1).bind ff = some r) (hdg : decode cc pc = .ok (.invokevirtual 475, 3)) (kk : ∀ q, ff q = some r → ∀ (H' : Heap) (locs' : List Loc), MB D cA ad A s q gl H' locs' → W p l e R s m args below meth c H' locs' 0 0 Q (F0 m (pc + 3) ls (rest))) : W p l e R s m args below meth c H locs 0 0 Q (F0 m pc ls (.int x1 :: .ref (ad 0) :: rest)) := by
  obtain ⟨q, h1, h2⟩ := g_ob h
  refine mm_cVV (As := [.int x1]) (rest := rest) (n := 1) C B (fun sz => w_X4_layMost l D cA ad gi gl x1 q h1 sz) q2260 q2262 qs118 q150 q2263 (by decide +kernel) ⟨hF, hN⟩ rfl hs hw hdg (fun u H9 locs9 hp B9 => ?_)
  obtain ⟨e1, e3⟩ := hp
  rw [e3] at B9
  subst e1
  exact kk _ h2 H9 locs9 B9
def f_X4_layRow_l2 (x1i2 : Int32) (x2i2 : Int32) (x3l2 : Int32) (gil2 : GI) : Option ((Int32 × GI) ⊕ (GI)) :=
  if 3 ≤ x3l2 then
  (some (.inr gil2))
  else
  ((g_ld gil2 35 3 x3l2).bind fun v1 =>
  (f_X4_lay gil2 x1i2 x3l2 v1 x2i2).bind fun q2 =>
  some (.inl ((x3l2 + 1, q2))))
def f_X4_layRow_x2 (gie2 : GI) : Option (GI) :=
  some gie2
def f_X4_layRow (gi : GI) (x1 : Int32) (x2 : Int32) : Option (GI) :=
  (g_loop g_K (fun (s : Int32 × GI) => f_X4_layRow_l2 x1 x2 s.1 s.2) (0, gi)).bind fun E2 => f_X4_layRow_x2 E2
set_option maxHeartbeats 400000 in
theorem w_X4_layRow (l : Launch) (D : va_G) (cA : Nat → ClassId) (ad : Nat → Nat) (gi : GI) (gl : GL) (x1 : Int32) (x2 : Int32) (r : GI) (h : f_X4_layRow gi x1 x2 = some r) (sz : Nat) : Met l yX4_layRow (ws_ yX4_layRow cX4_layRow 4 (none)) ({ frames := 2, cells := 0, slots := 0, locals := 46 } : Room) (va_Pc [.ref (ad 0), .int x1, .int x2] (MPre D cA ad gi gl sz)) (va_Qv (fun u => u.1 = r ∧ u.2 = gl) (MPost D cA ad) (MA ad sz)) 0 0 (MA ad sz) := by
  refine mm_stV (by decide +kernel) rfl (Nat.le_of_ble_eq_true rfl) (fun p e s m args below meth c R Q A ls C hF hN B hret hL => ?_) sz
  have hx := C.1
  have hb := C.2.1
  have hL : lv_has ls 4 [(0, .ref (ad 0)), (1, .int x1), (2, .int x2)] := hL
  unfold f_X4_layRow at h
  refine lv_iconst (v := 0) hx hb dX4_layRow_0 (by decide) ?_
  refine lv_istore_n (lv' := [(3, .int 0), (0, .ref (ad 0)), (1, .int x1), (2, .int x2)]) hx hb dX4_layRow_1 rfl hL (by decide) rfl (fun ls hL => ?_)
  obtain ⟨E2, h82, h⟩ := g_ob h
  have kx2 : ∀ (gie2 : GI) (H : Heap) (locs : List Loc) (ls : Array Slot), gie2 = E2 → MB D cA ad A s gie2 gl H locs → lv_has ls 4 [] → W p l e R s m args below meth c H locs 0 0 Q (F0 m 26 ls []) := by
    intro gie2 H locs ls he B hL
    subst he
    have h : f_X4_layRow_x2 gie2 = some r := h
    unfold f_X4_layRow_x2 at h
    exact hret _ _ _ _ _ _ ⟨Option.some.inj h, rfl⟩ B dX4_layRow_26
  have hl2 : ∀ (k : Nat) (x3l2 : Int32) (gil2 : GI) (H : Heap) (locs : List Loc) (ls : Array Slot), g_loop k (fun (s : Int32 × GI) => f_X4_layRow_l2 x1 x2 s.1 s.2) (x3l2, gil2) = some E2 → MB D cA ad A s gil2 gl H locs → lv_has ls 4 [(0, .ref (ad 0)), (1, .int x1), (2, .int x2), (3, .int x3l2)] → W p l e R s m args below meth c H locs 0 0 Q (F0 m 2 ls []) := by
    intro k
    induction k with
    | zero => intro x3l2 gil2 H locs ls h; exact absurd h (fun z => g_loop_0 z)
    | succ k ih2 =>
      intro x3l2 gil2 H locs ls h B hL
      obtain ⟨Z2, h, h92⟩ := g_loop_s h
      have h : f_X4_layRow_l2 x1 x2 x3l2 gil2 = some Z2 := h
      unfold f_X4_layRow_l2 at h
      refine lv_iload_n hx hb dX4_layRow_2 rfl (lv_at hL 3 rfl) ?_
      refine lv_iconst (v := 3) hx hb dX4_layRow_3 (by decide) ?_
      refine gg_icmp_ge hx hb 26 h dX4_layRow_4 (by decide) (fun h => ?_) (fun h => ?_)
      · exact kx2 _ _ _ _ (g_exit h h92) B (lv_sub hL [] rfl)
      · refine lv_aload_n hx hb dX4_layRow_7 rfl (lv_at hL 0 rfl) ?_
        refine lv_iload_n hx hb dX4_layRow_8 rfl (lv_at hL 1 rfl) ?_
        refine lv_iload_n hx hb dX4_layRow_9 rfl (lv_at hL 3 rfl) ?_
        refine lv_aload_n hx hb dX4_layRow_10 rfl (lv_at hL 0 rfl) ?_
        refine mg_52 C B dX4_layRow_11 ?_
        refine lv_iload_n hx hb dX4_layRow_14 rfl (lv_at hL 3 rfl) ?_
        refine mm_iald C B (a := 35) (n := 3) (Nat.le_of_ble_eq_true rfl) rfl h dX4_layRow_15 (fun v1 h => ?_)
        refine lv_iload_n hx hb dX4_layRow_16 rfl (lv_at hL 2 rfl) ?_
        refine k_X4_lay C B (Nat.le_trans (Nat.le_of_ble_eq_true rfl) hF) (Nat.le_trans (Nat.le_of_ble_eq_true rfl) hN) hL.1 (Nat.le_of_ble_eq_true rfl) h dX4_layRow_17 (fun q2 h H locs B => ?_)
        refine lv_iinc (v := x3l2 + 1) (lv' := [(3, .int (x3l2 + 1)), (0, .ref (ad 0)), (1, .int x1), (2, .int x2)]) hx hb dX4_layRow_20 hL (k := 3) rfl rfl (by decide) rfl (fun ls hL => ?_)
        refine lv_goto (tgt := 2) hx hb dX4_layRow_23 (by decide) ?_
        exact ih2 _ _ _ _ _ (g_next h h92) B (lv_sub hL [1, 2, 3, 0] rfl)
  exact hl2 g_K _ _ _ _ _ h82 B (lv_sub hL [1, 2, 3, 0] rfl)
theorem k_X4_layRow {p : Program} {l : Launch} {e : Env} {R : Room} {s : State} {m : MethodId} {args : Array Value} {below : List Frame} {meth : Method} {c : Code} {H : Heap} {locs : List Loc} {Q : State → Prop} {pc : Nat} {ls : Array Slot} {rest : List Value} {cc : ByteArray} {nL : Nat} {D : va_G} {cA : Nat → ClassId} {ad : Nat → Nat} {A : Nat → Prop} {gi : GI} {gl : GL} {α : Type} {r : α} {x1 : Int32} {x2 : Int32} {ff : GI → Option α} (C : CallFix p m c cc nL s args lw_all RX4) (B : MB D cA ad A s gi gl H locs) (hF : 3 ≤ R.frames) (hN : 69 ≤ R.locals) (hs : ls.size = nL) (hw : (rest.map fun v => v.category).sum ≤ 8) (h : (f_X4_layRow gi x1 x2).bind ff = some r) (hdg : decode cc pc = .ok (.invokevirtual 484, 3)) (kk : ∀ q, ff q = some r → ∀ (H' : Heap) (locs' : List Loc), MB D cA ad A s q gl H' locs' → W p l e R s m args below meth c H' locs' 0 0 Q (F0 m (pc + 3) ls (rest))) : W p l e R s m args below meth c H locs 0 0 Q (F0 m pc ls (.int x2 :: .int x1 :: .ref (ad 0) :: rest)) := by
  obtain ⟨q, h1, h2⟩ := g_ob h
  refine mm_cVV (As := [.int x1, .int x2]) (rest := rest) (n := 2) C B (fun sz => w_X4_layRow l D cA ad gi gl x1 x2 q h1 sz) q2268 q2270 qs120 q150 q2271 (by decide +kernel) ⟨hF, hN⟩ rfl hs hw hdg (fun u H9 locs9 hp B9 => ?_)
  obtain ⟨e1, e3⟩ := hp
  rw [e3] at B9
  subst e1
  exact kk _ h2 H9 locs9 B9
def f_X4_nextRow_j54 (a1j54 : Nat) (x2j54 : Int32) (gij54 : GI) (x3j54 : Int32) : Option ((Int32 × GI) ⊕ ((GI) ⊕ (Int32 × GI))) :=
  (g_st gij54 35 3 x3j54 0).bind fun gi5 =>
  some (.inl ((x3j54 + (-1), gi5)))
def f_X4_nextRow_l2 (a1i2 : Nat) (x2i2 : Int32) (x3l2 : Int32) (gil2 : GI) : Option ((Int32 × GI) ⊕ ((GI) ⊕ (Int32 × GI))) :=
  if x3l2 < 0 then
  (some (.inr (.inl gil2)))
  else
  ((g_ld gil2 35 3 x3l2).bind fun v1 =>
  (g_st gil2 35 3 x3l2 (v1 + 1)).bind fun gi2 =>
  (g_ld gi2 35 3 x3l2).bind fun v3 =>
  (g_ldP gi2 a1i2 x3l2).bind fun v4 =>
  if v4 < v3 then
  (f_X4_nextRow_j54 a1i2 x2i2 gi2 x3l2)
  else
  ((g_ld gi2 35 3 0).bind fun v6 =>
  (g_ld gi2 35 3 1).bind fun v7 =>
  (g_ld gi2 35 3 2).bind fun v8 =>
  if x2i2 < ((v6 + v7) + v8) then
  (f_X4_nextRow_j54 a1i2 x2i2 gi2 x3l2)
  else
  (some (.inr (.inr (1, gi2))))))
def f_X4_nextRow_x2 (gie2 : GI) : Option (Int32 × GI) :=
  some (0, gie2)
def f_X4_nextRow (gi : GI) (a1 : Nat) (x2 : Int32) : Option (Int32 × GI) :=
  (g_loop g_K (fun (s : Int32 × GI) => f_X4_nextRow_l2 a1 x2 s.1 s.2) (2, gi)).bind fun E2 => Sum.elim (fun (S2 : GI) => f_X4_nextRow_x2 S2) (fun (r2 : Int32 × GI) => some r2) E2
set_option maxHeartbeats 400000 in
theorem w_X4_nextRow (l : Launch) (D : va_G) (cA : Nat → ClassId) (ad : Nat → Nat) (gi : GI) (gl : GL) (a1 : Nat) (x2 : Int32) (r : Int32 × GI) (h : f_X4_nextRow gi a1 x2 = some r) (sz : Nat) : Met l yX4_nextRow (ws_ yX4_nextRow cX4_nextRow 4 (some .boolean)) ({ frames := 0, cells := 0, slots := 0, locals := 0 } : Room) (va_Pc [.ref (ad 0), .ref (ad a1), .int x2] (MPre D cA ad gi gl sz)) (va_Qi (fun v u => (v, u.1) = r ∧ u.2 = gl) (MPost D cA ad) (MA ad sz)) 0 0 (MA ad sz) := by
  refine mm_stZ (by decide +kernel) rfl (Nat.le_of_ble_eq_true rfl) (fun p e s m args below meth c R Q A ls C hF hN B hret hL => ?_) sz
  have hx := C.1
  have hb := C.2.1
  have hL : lv_has ls 4 [(0, .ref (ad 0)), (1, .ref (ad a1)), (2, .int x2)] := hL
  unfold f_X4_nextRow at h
  refine lv_iconst (v := 2) hx hb dX4_nextRow_0 (by decide) ?_
  refine lv_istore_n (lv' := [(3, .int 2), (0, .ref (ad 0)), (1, .ref (ad a1)), (2, .int x2)]) hx hb dX4_nextRow_1 rfl hL (by decide) rfl (fun ls hL => ?_)
  obtain ⟨E2, h82, h⟩ := g_ob h
  have kx2 : ∀ (gie2 : GI) (H : Heap) (locs : List Loc) (ls : Array Slot), Sum.inl gie2 = E2 → MB D cA ad A s gie2 gl H locs → lv_has ls 4 [] → W p l e R s m args below meth c H locs 0 0 Q (F0 m 67 ls []) := by
    intro gie2 H locs ls he B hL
    subst he
    have h : f_X4_nextRow_x2 gie2 = some r := h
    unfold f_X4_nextRow_x2 at h
    refine lv_iconst (v := 0) hx hb dX4_nextRow_67 (by decide) ?_
    exact hret _ _ _ _ _ _ _ ⟨Option.some.inj h, rfl⟩ (Or.inl rfl) B dX4_nextRow_68
  have kr2 : ∀ (v : Int32) (g' : GI) (H : Heap) (locs : List Loc) (ls : Array Slot) (pc : Nat), Sum.inr (v, g') = E2 → (v = 0 ∨ v = 1) → MB D cA ad A s g' gl H locs → decode cX4_nextRow pc = .ok (.ireturn, 1) → W p l e R s m args below meth c H locs 0 0 Q (F0 m pc ls [.int v]) := by
    intro v g' H locs ls pc he hz B hd
    subst he
    have h := g_er h
    exact hret _ _ _ _ _ _ _ ⟨Option.some.inj h, rfl⟩ hz B hd
  have hl2 : ∀ (k : Nat) (x3l2 : Int32) (gil2 : GI) (H : Heap) (locs : List Loc) (ls : Array Slot), g_loop k (fun (s : Int32 × GI) => f_X4_nextRow_l2 a1 x2 s.1 s.2) (x3l2, gil2) = some E2 → MB D cA ad A s gil2 gl H locs → lv_has ls 4 [(0, .ref (ad 0)), (1, .ref (ad a1)), (2, .int x2), (3, .int x3l2)] → W p l e R s m args below meth c H locs 0 0 Q (F0 m 2 ls []) := by
    intro k
    induction k with
    | zero => intro x3l2 gil2 H locs ls h; exact absurd h (fun z => g_loop_0 z)
    | succ k ih2 =>
      intro x3l2 gil2 H locs ls h B hL
      obtain ⟨Z2, h, h92⟩ := g_loop_s h
      have h : f_X4_nextRow_l2 a1 x2 x3l2 gil2 = some Z2 := h
      unfold f_X4_nextRow_l2 at h
      have hj54 : ∀ (gij54 : GI) (x3j54 : Int32) (H : Heap) (locs : List Loc) (ls : Array Slot), f_X4_nextRow_j54 a1 x2 gij54 x3j54 = some Z2 → MB D cA ad A s gij54 gl H locs → lv_has ls 4 [(0, .ref (ad 0)), (1, .ref (ad a1)), (2, .int x2), (3, .int x3j54)] → W p l e R s m args below meth c H locs 0 0 Q (F0 m 54 ls []) := by
        intro gij54 x3j54 H locs ls h B hL
        unfold f_X4_nextRow_j54 at h
        refine lv_aload_n hx hb dX4_nextRow_54 rfl (lv_at hL 0 rfl) ?_
        refine mg_52 C B dX4_nextRow_55 ?_
        refine lv_iload_n hx hb dX4_nextRow_58 rfl (lv_at hL 3 rfl) ?_
        refine lv_iconst (v := 0) hx hb dX4_nextRow_59 (by decide) ?_
        refine mm_iast C B (a := 35) (n := 3) (Nat.le_of_ble_eq_true rfl) rfl h dX4_nextRow_60 (fun gi5 h H locs B => ?_)
        refine lv_iinc (v := x3j54 + (-1)) (lv' := [(3, .int (x3j54 + (-1))), (0, .ref (ad 0)), (1, .ref (ad a1)), (2, .int x2)]) hx hb dX4_nextRow_61 hL (k := 3) rfl rfl (by decide) rfl (fun ls hL => ?_)
        refine lv_goto (tgt := 2) hx hb dX4_nextRow_64 (by decide) ?_
        exact ih2 _ _ _ _ _ (g_next h h92) B (lv_sub hL [1, 2, 3, 0] rfl)
      refine lv_iload_n hx hb dX4_nextRow_2 rfl (lv_at hL 3 rfl) ?_
      refine gg_if_lt hx hb 67 h dX4_nextRow_3 (by decide) (fun h => ?_) (fun h => ?_)
      · exact kx2 _ _ _ _ (g_exit h h92) B (lv_sub hL [] rfl)
      · refine lv_aload_n hx hb dX4_nextRow_6 rfl (lv_at hL 0 rfl) ?_
        refine mg_52 C B dX4_nextRow_7 ?_
        refine lv_iload_n hx hb dX4_nextRow_10 rfl (lv_at hL 3 rfl) ?_
        refine lv_dup2_11 hx hb dX4_nextRow_11 rfl rfl ?_
        refine mm_iald C B (a := 35) (n := 3) (Nat.le_of_ble_eq_true rfl) rfl h dX4_nextRow_12 (fun v1 h => ?_)
        refine lv_iconst (v := 1) hx hb dX4_nextRow_13 (by decide) ?_
        refine lv_iadd hx hb dX4_nextRow_14 ?_
        refine mm_iast C B (a := 35) (n := 3) (Nat.le_of_ble_eq_true rfl) rfl h dX4_nextRow_15 (fun gi2 h H locs B => ?_)
        refine lv_aload_n hx hb dX4_nextRow_16 rfl (lv_at hL 0 rfl) ?_
        refine mg_52 C B dX4_nextRow_17 ?_
        refine lv_iload_n hx hb dX4_nextRow_20 rfl (lv_at hL 3 rfl) ?_
        refine mm_iald C B (a := 35) (n := 3) (Nat.le_of_ble_eq_true rfl) rfl h dX4_nextRow_21 (fun v3 h => ?_)
        refine lv_aload_n hx hb dX4_nextRow_22 rfl (lv_at hL 1 rfl) ?_
        refine lv_iload_n hx hb dX4_nextRow_23 rfl (lv_at hL 3 rfl) ?_
        refine mm_ialdP C B h dX4_nextRow_24 (fun v4 h => ?_)
        refine gg_icmp_gt hx hb 54 h dX4_nextRow_25 (by decide) (fun h => ?_) (fun h => ?_)
        · exact hj54 _ _ _ _ _ h B (lv_sub hL [0, 1, 2, 3] rfl)
        · refine lv_aload_n hx hb dX4_nextRow_28 rfl (lv_at hL 0 rfl) ?_
          refine mg_52 C B dX4_nextRow_29 ?_
          refine lv_iconst (v := 0) hx hb dX4_nextRow_32 (by decide) ?_
          refine mm_iald C B (a := 35) (n := 3) (Nat.le_of_ble_eq_true rfl) rfl h dX4_nextRow_33 (fun v6 h => ?_)
          refine lv_aload_n hx hb dX4_nextRow_34 rfl (lv_at hL 0 rfl) ?_
          refine mg_52 C B dX4_nextRow_35 ?_
          refine lv_iconst (v := 1) hx hb dX4_nextRow_38 (by decide) ?_
          refine mm_iald C B (a := 35) (n := 3) (Nat.le_of_ble_eq_true rfl) rfl h dX4_nextRow_39 (fun v7 h => ?_)
          refine lv_iadd hx hb dX4_nextRow_40 ?_
          refine lv_aload_n hx hb dX4_nextRow_41 rfl (lv_at hL 0 rfl) ?_
          refine mg_52 C B dX4_nextRow_42 ?_
          refine lv_iconst (v := 2) hx hb dX4_nextRow_45 (by decide) ?_
          refine mm_iald C B (a := 35) (n := 3) (Nat.le_of_ble_eq_true rfl) rfl h dX4_nextRow_46 (fun v8 h => ?_)
          refine lv_iadd hx hb dX4_nextRow_47 ?_
          refine lv_iload_n hx hb dX4_nextRow_48 rfl (lv_at hL 2 rfl) ?_
          refine gg_icmp_gt hx hb 54 h dX4_nextRow_49 (by decide) (fun h => ?_) (fun h => ?_)
          · exact hj54 _ _ _ _ _ h B (lv_sub hL [0, 1, 2, 3] rfl)
          · refine lv_iconst (v := 1) hx hb dX4_nextRow_52 (by decide) ?_
            exact kr2 _ _ _ _ _ _ (g_exit h h92) (Or.inr rfl) B dX4_nextRow_53
  exact hl2 g_K _ _ _ _ _ h82 B (lv_sub hL [1, 2, 3, 0] rfl)
theorem k_X4_nextRow {p : Program} {l : Launch} {e : Env} {R : Room} {s : State} {m : MethodId} {args : Array Value} {below : List Frame} {meth : Method} {c : Code} {H : Heap} {locs : List Loc} {Q : State → Prop} {pc : Nat} {ls : Array Slot} {rest : List Value} {cc : ByteArray} {nL : Nat} {D : va_G} {cA : Nat → ClassId} {ad : Nat → Nat} {A : Nat → Prop} {gi : GI} {gl : GL} {α : Type} {r : α} {a1 : Nat} {x2 : Int32} {ff : (Int32 × GI) → Option α} (C : CallFix p m c cc nL s args lw_all RX4) (B : MB D cA ad A s gi gl H locs) (hF : 1 ≤ R.frames) (hN : 23 ≤ R.locals) (hs : ls.size = nL) (hw : (rest.map fun v => v.category).sum ≤ 8) (h : (f_X4_nextRow gi a1 x2).bind ff = some r) (hdg : decode cc pc = .ok (.invokevirtual 490, 3)) (kk : ∀ q, ff q = some r → ∀ (H' : Heap) (locs' : List Loc), MB D cA ad A s q.2 gl H' locs' → W p l e R s m args below meth c H' locs' 0 0 Q (F0 m (pc + 3) ls (.int q.1 :: rest))) : W p l e R s m args below meth c H locs 0 0 Q (F0 m pc ls (.int x2 :: .ref (ad a1) :: .ref (ad 0) :: rest)) := by
  obtain ⟨q, h1, h2⟩ := g_ob h
  refine mm_cVI (As := [.ref (ad a1), .int x2]) (rest := rest) (n := 2) C B (fun sz => w_X4_nextRow l D cA ad gi gl a1 x2 q h1 sz) q2272 q2274 qs121 q150 q2275 (by decide +kernel) ⟨hF, hN⟩ rfl hs hw hdg (fun v u H9 locs9 hp B9 => ?_)
  obtain ⟨e1, e3⟩ := hp
  rw [e3] at B9
  subst e1
  exact kk _ h2 H9 locs9 B9
def f_X4_noRow_l2 (x1l2 : Int32) (gil2 : GI) : Option ((Int32 × GI) ⊕ (GI)) :=
  if 3 ≤ x1l2 then
  (some (.inr gil2))
  else
  ((g_st gil2 35 3 x1l2 0).bind fun gi1 =>
  some (.inl ((x1l2 + 1, gi1))))
def f_X4_noRow_x2 (gie2 : GI) : Option (GI) :=
  some gie2
def f_X4_noRow (gi : GI)  : Option (GI) :=
  (g_loop g_K (fun (s : Int32 × GI) => f_X4_noRow_l2 s.1 s.2) (0, gi)).bind fun E2 => f_X4_noRow_x2 E2
set_option maxHeartbeats 400000 in
theorem w_X4_noRow (l : Launch) (D : va_G) (cA : Nat → ClassId) (ad : Nat → Nat) (gi : GI) (gl : GL)  (r : GI) (h : f_X4_noRow gi  = some r) (sz : Nat) : Met l yX4_noRow (ws_ yX4_noRow cX4_noRow 2 (none)) ({ frames := 0, cells := 0, slots := 0, locals := 0 } : Room) (va_Pc [.ref (ad 0)] (MPre D cA ad gi gl sz)) (va_Qv (fun u => u.1 = r ∧ u.2 = gl) (MPost D cA ad) (MA ad sz)) 0 0 (MA ad sz) := by
  refine mm_stV (by decide +kernel) rfl (Nat.le_of_ble_eq_true rfl) (fun p e s m args below meth c R Q A ls C hF hN B hret hL => ?_) sz
  have hx := C.1
  have hb := C.2.1
  have hL : lv_has ls 2 [(0, .ref (ad 0))] := hL
  unfold f_X4_noRow at h
  refine lv_iconst (v := 0) hx hb dX4_noRow_0 (by decide) ?_
  refine lv_istore_n (lv' := [(1, .int 0), (0, .ref (ad 0))]) hx hb dX4_noRow_1 rfl hL (by decide) rfl (fun ls hL => ?_)
  obtain ⟨E2, h82, h⟩ := g_ob h
  have kx2 : ∀ (gie2 : GI) (H : Heap) (locs : List Loc) (ls : Array Slot), gie2 = E2 → MB D cA ad A s gie2 gl H locs → lv_has ls 2 [] → W p l e R s m args below meth c H locs 0 0 Q (F0 m 20 ls []) := by
    intro gie2 H locs ls he B hL
    subst he
    have h : f_X4_noRow_x2 gie2 = some r := h
    unfold f_X4_noRow_x2 at h
    exact hret _ _ _ _ _ _ ⟨Option.some.inj h, rfl⟩ B dX4_noRow_20
  have hl2 : ∀ (k : Nat) (x1l2 : Int32) (gil2 : GI) (H : Heap) (locs : List Loc) (ls : Array Slot), g_loop k (fun (s : Int32 × GI) => f_X4_noRow_l2 s.1 s.2) (x1l2, gil2) = some E2 → MB D cA ad A s gil2 gl H locs → lv_has ls 2 [(0, .ref (ad 0)), (1, .int x1l2)] → W p l e R s m args below meth c H locs 0 0 Q (F0 m 2 ls []) := by
    intro k
    induction k with
    | zero => intro x1l2 gil2 H locs ls h; exact absurd h (fun z => g_loop_0 z)
    | succ k ih2 =>
      intro x1l2 gil2 H locs ls h B hL
      obtain ⟨Z2, h, h92⟩ := g_loop_s h
      have h : f_X4_noRow_l2 x1l2 gil2 = some Z2 := h
      unfold f_X4_noRow_l2 at h
      refine lv_iload_n hx hb dX4_noRow_2 rfl (lv_at hL 1 rfl) ?_
      refine lv_iconst (v := 3) hx hb dX4_noRow_3 (by decide) ?_
      refine gg_icmp_ge hx hb 20 h dX4_noRow_4 (by decide) (fun h => ?_) (fun h => ?_)
      · exact kx2 _ _ _ _ (g_exit h h92) B (lv_sub hL [] rfl)
      · refine lv_aload_n hx hb dX4_noRow_7 rfl (lv_at hL 0 rfl) ?_
        refine mg_52 C B dX4_noRow_8 ?_
        refine lv_iload_n hx hb dX4_noRow_11 rfl (lv_at hL 1 rfl) ?_
        refine lv_iconst (v := 0) hx hb dX4_noRow_12 (by decide) ?_
        refine mm_iast C B (a := 35) (n := 3) (Nat.le_of_ble_eq_true rfl) rfl h dX4_noRow_13 (fun gi1 h H locs B => ?_)
        refine lv_iinc (v := x1l2 + 1) (lv' := [(1, .int (x1l2 + 1)), (0, .ref (ad 0))]) hx hb dX4_noRow_14 hL (k := 1) rfl rfl (by decide) rfl (fun ls hL => ?_)
        refine lv_goto (tgt := 2) hx hb dX4_noRow_17 (by decide) ?_
        exact ih2 _ _ _ _ _ (g_next h h92) B (lv_sub hL [1, 0] rfl)
  exact hl2 g_K _ _ _ _ _ h82 B (lv_sub hL [1, 0] rfl)
theorem k_X4_noRow {p : Program} {l : Launch} {e : Env} {R : Room} {s : State} {m : MethodId} {args : Array Value} {below : List Frame} {meth : Method} {c : Code} {H : Heap} {locs : List Loc} {Q : State → Prop} {pc : Nat} {ls : Array Slot} {rest : List Value} {cc : ByteArray} {nL : Nat} {D : va_G} {cA : Nat → ClassId} {ad : Nat → Nat} {A : Nat → Prop} {gi : GI} {gl : GL} {α : Type} {r : α}  {ff : GI → Option α} (C : CallFix p m c cc nL s args lw_all RX4) (B : MB D cA ad A s gi gl H locs) (hF : 1 ≤ R.frames) (hN : 21 ≤ R.locals) (hs : ls.size = nL) (hw : (rest.map fun v => v.category).sum ≤ 8) (h : (f_X4_noRow gi ).bind ff = some r) (hdg : decode cc pc = .ok (.invokevirtual 478, 3)) (kk : ∀ q, ff q = some r → ∀ (H' : Heap) (locs' : List Loc), MB D cA ad A s q gl H' locs' → W p l e R s m args below meth c H' locs' 0 0 Q (F0 m (pc + 3) ls (rest))) : W p l e R s m args below meth c H locs 0 0 Q (F0 m pc ls (.ref (ad 0) :: rest)) := by
  obtain ⟨q, h1, h2⟩ := g_ob h
  refine mm_cVV (As := []) (rest := rest) (n := 0) C B (fun sz => w_X4_noRow l D cA ad gi gl  q h1 sz) q2264 q2266 qs119 q150 q2267 (by decide +kernel) ⟨hF, hN⟩ rfl hs hw hdg (fun u H9 locs9 hp B9 => ?_)
  obtain ⟨e1, e3⟩ := hp
  rw [e3] at B9
  subst e1
  exact kk _ h2 H9 locs9 B9

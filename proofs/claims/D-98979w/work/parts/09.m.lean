/-! THE MODEL: methods 78 .. 123: what each computes (f_..), its contract (w_..), its call row (k_..) -/
set_option maxRecDepth 100000
def f_X4_layBest_l121 (x1i121 : Int32) (x2i121 : Int32) (x6l121 : Int32) (gil121 : GI) : Option ((Int32 × GI) ⊕ (GI)) :=
  if 3 ≤ x6l121 then
  (some (.inr gil121))
  else
  ((g_ld gil121 35 3 x6l121).bind fun v12 =>
  (g_st gil121 36 3 x6l121 v12).bind fun gi13 =>
  some (.inl ((x6l121 + 1, gi13))))
def f_X4_layBest_j147 (x1j147 : Int32) (x2j147 : Int32) (gij147 : GI) : Option ((Int32 × GI) ⊕ (GI)) :=
  (f_X4_leftOf gij147 x1j147).bind fun q14 =>
  (f_X4_nextRow gij147 38 q14).bind fun q15 =>
  some (.inl ((q15.1, q15.2)))
def f_X4_layBest_x121 (x1y121 : Int32) (x2y121 : Int32) (gie121 : GI) : Option ((Int32 × GI) ⊕ (GI)) :=
  f_X4_layBest_j147 x1y121 x2y121 gie121
def f_X4_layBest_j106 (x1j106 : Int32) (x2j106 : Int32) (gij106 : GI) (x4j106 : Int32) (x5j106 : Int32) : Option ((Int32 × GI) ⊕ (GI)) :=
  (some (g_pi gij106 0 57 x4j106)).bind fun gi10 =>
  (some (g_pi gi10 0 56 x5j106)).bind fun gi11 =>
  (g_loop g_K (fun (s : Int32 × GI) => f_X4_layBest_l121 x1j106 x2j106 s.1 s.2) (0, gi11)).bind fun E121 => f_X4_layBest_x121 x1j106 x2j106 E121
def f_X4_layBest_j42 (x1j42 : Int32) (x2j42 : Int32) (gij42 : GI) (t0j42 : Int32) : Option ((Int32 × GI) ⊕ (GI)) :=
  (f_X4_layRow gij42 x1j42 ((-1))).bind fun q6 =>
  (g_ld q6 35 3 0).bind fun v7 =>
  (g_ld q6 35 3 1).bind fun v8 =>
  (g_ld q6 35 3 2).bind fun v9 =>
  if (q6 0 56) < 0 then
  (f_X4_layBest_j106 x1j42 x2j42 q6 t0j42 ((v7 + v8) + v9))
  else
  (if (q6 0 57) < t0j42 then
  (f_X4_layBest_j106 x1j42 x2j42 q6 t0j42 ((v7 + v8) + v9))
  else
  (if t0j42 = (q6 0 57) then
  (if (q6 0 56) ≤ ((v7 + v8) + v9) then
  (f_X4_layBest_j147 x1j42 x2j42 q6)
  else
  (f_X4_layBest_j106 x1j42 x2j42 q6 t0j42 ((v7 + v8) + v9)))
  else
  (f_X4_layBest_j147 x1j42 x2j42 q6)))
def f_X4_layBest_l16 (x1i16 : Int32) (x2i16 : Int32) (x3l16 : Int32) (gil16 : GI) : Option ((Int32 × GI) ⊕ (GI)) :=
  if x3l16 = 0 then
  (some (.inr gil16))
  else
  ((f_X4_layRow gil16 x1i16 1).bind fun q4 =>
  if x2i16 = 0 then
  ((f_X4_growthOf q4 x1i16).bind fun q16 =>
  f_X4_layBest_j42 x1i16 x2i16 q16.2 q16.1)
  else
  ((f_X4_growths q4 ).bind fun q5 =>
  f_X4_layBest_j42 x1i16 x2i16 q5.2 q5.1))
def f_X4_layBest_x16 (gie16 : GI) : Option (GI) :=
  some gie16
def f_X4_layBest (gi : GI) (x1 : Int32) (x2 : Int32) : Option (GI) :=
  (f_X4_layMost gi x1).bind fun q1 =>
  (f_X4_noRow q1 ).bind fun q2 =>
  (some (g_pi q2 0 56 ((-1)))).bind fun gi3 =>
  (g_loop g_K (fun (s : Int32 × GI) => f_X4_layBest_l16 x1 x2 s.1 s.2) (1, gi3)).bind fun E16 => f_X4_layBest_x16 E16
set_option maxHeartbeats 400000 in
theorem w_X4_layBest (l : Launch) (D : va_G) (cA : Nat → ClassId) (ad : Nat → Nat) (gi : GI) (gl : GL) (x1 : Int32) (x2 : Int32) (r : GI) (h : f_X4_layBest gi x1 x2 = some r) (sz : Nat) : Met l yX4_layBest (ws_ yX4_layBest cX4_layBest 7 (none)) ({ frames := 5, cells := 0, slots := 0, locals := 112 } : Room) (va_Pc [.ref (ad 0), .int x1, .int x2] (MPre D cA ad gi gl sz)) (va_Qv (fun u => u.1 = r ∧ u.2 = gl) (MPost D cA ad) (MA ad sz)) 0 0 (MA ad sz) := by
  refine mm_stV (by decide +kernel) rfl (Nat.le_of_ble_eq_true rfl) (fun p e s m args below meth c R Q A ls C hF hN B hret hL => ?_) sz
  have hx := C.1
  have hb := C.2.1
  have hL : lv_has ls 7 [(0, .ref (ad 0)), (1, .int x1), (2, .int x2)] := hL
  unfold f_X4_layBest at h
  refine lv_aload_n hx hb dX4_layBest_0 rfl (lv_at hL 0 rfl) ?_
  refine lv_iload_n hx hb dX4_layBest_1 rfl (lv_at hL 1 rfl) ?_
  refine k_X4_layMost C B (Nat.le_trans (Nat.le_of_ble_eq_true rfl) hF) (Nat.le_trans (Nat.le_of_ble_eq_true rfl) hN) hL.1 (Nat.le_of_ble_eq_true rfl) h dX4_layBest_2 (fun q1 h H locs B => ?_)
  refine lv_aload_n hx hb dX4_layBest_5 rfl (lv_at hL 0 rfl) ?_
  refine k_X4_noRow C B (Nat.le_trans (Nat.le_of_ble_eq_true rfl) hF) (Nat.le_trans (Nat.le_of_ble_eq_true rfl) hN) hL.1 (Nat.le_of_ble_eq_true rfl) h dX4_layBest_6 (fun q2 h H locs B => ?_)
  refine lv_iconst (v := 1) hx hb dX4_layBest_9 (by decide) ?_
  refine lv_istore_n (lv' := [(3, .int 1), (0, .ref (ad 0)), (1, .int x1), (2, .int x2)]) hx hb dX4_layBest_10 rfl hL (by decide) rfl (fun ls hL => ?_)
  refine lv_aload_n hx hb dX4_layBest_11 rfl (lv_at hL 1 rfl) ?_
  refine lv_iconst (v := (-1)) hx hb dX4_layBest_12 (by decide) ?_
  refine mp_56 C B h dX4_layBest_13 (fun gi3 h H locs B => ?_)
  obtain ⟨E16, h816, h⟩ := g_ob h
  have kx16 : ∀ (gie16 : GI) (H : Heap) (locs : List Loc) (ls : Array Slot), gie16 = E16 → MB D cA ad A s gie16 gl H locs → lv_has ls 7 [] → W p l e R s m args below meth c H locs 0 0 Q (F0 m 164 ls []) := by
    intro gie16 H locs ls he B hL
    subst he
    have h : f_X4_layBest_x16 gie16 = some r := h
    unfold f_X4_layBest_x16 at h
    exact hret _ _ _ _ _ _ ⟨Option.some.inj h, rfl⟩ B dX4_layBest_164
  have hl16 : ∀ (k : Nat) (x3l16 : Int32) (gil16 : GI) (H : Heap) (locs : List Loc) (ls : Array Slot), g_loop k (fun (s : Int32 × GI) => f_X4_layBest_l16 x1 x2 s.1 s.2) (x3l16, gil16) = some E16 → MB D cA ad A s gil16 gl H locs → lv_has ls 7 [(0, .ref (ad 0)), (1, .int x1), (2, .int x2), (3, .int x3l16)] → W p l e R s m args below meth c H locs 0 0 Q (F0 m 16 ls []) := by
    intro k
    induction k with
    | zero => intro x3l16 gil16 H locs ls h; exact absurd h (fun z => g_loop_0 z)
    | succ k ih16 =>
      intro x3l16 gil16 H locs ls h B hL
      obtain ⟨Z16, h, h916⟩ := g_loop_s h
      have h : f_X4_layBest_l16 x1 x2 x3l16 gil16 = some Z16 := h
      unfold f_X4_layBest_l16 at h
      have hj147 : ∀ (gij147 : GI) (H : Heap) (locs : List Loc) (ls : Array Slot), f_X4_layBest_j147 x1 x2 gij147 = some Z16 → MB D cA ad A s gij147 gl H locs → lv_has ls 7 [(0, .ref (ad 0)), (1, .int x1), (2, .int x2)] → W p l e R s m args below meth c H locs 0 0 Q (F0 m 147 ls []) := by
        intro gij147 H locs ls h B hL
        unfold f_X4_layBest_j147 at h
        refine lv_aload_n hx hb dX4_layBest_147 rfl (lv_at hL 0 rfl) ?_
        refine lv_aload_n hx hb dX4_layBest_148 rfl (lv_at hL 0 rfl) ?_
        refine mg_58 C B dX4_layBest_149 ?_
        refine lv_aload_n hx hb dX4_layBest_152 rfl (lv_at hL 0 rfl) ?_
        refine lv_iload_n hx hb dX4_layBest_153 rfl (lv_at hL 1 rfl) ?_
        refine k_X4_leftOf C B (Nat.le_trans (Nat.le_of_ble_eq_true rfl) hF) (Nat.le_trans (Nat.le_of_ble_eq_true rfl) hN) hL.1 (Nat.le_of_ble_eq_true rfl) h dX4_layBest_154 (fun q14 h H locs B => ?_)
        refine k_X4_nextRow C B (Nat.le_trans (Nat.le_of_ble_eq_true rfl) hF) (Nat.le_trans (Nat.le_of_ble_eq_true rfl) hN) hL.1 (Nat.le_of_ble_eq_true rfl) h dX4_layBest_157 (fun q15 h H locs B => ?_)
        refine lv_istore_n (lv' := [(3, .int q15.1), (0, .ref (ad 0)), (1, .int x1), (2, .int x2)]) hx hb dX4_layBest_160 rfl hL (by decide) rfl (fun ls hL => ?_)
        refine lv_goto (tgt := 16) hx hb dX4_layBest_161 (by decide) ?_
        exact ih16 _ _ _ _ _ (g_next h h916) B (lv_sub hL [1, 2, 3, 0] rfl)
      have hj106 : ∀ (gij106 : GI) (x4j106 : Int32) (x5j106 : Int32) (H : Heap) (locs : List Loc) (ls : Array Slot), f_X4_layBest_j106 x1 x2 gij106 x4j106 x5j106 = some Z16 → MB D cA ad A s gij106 gl H locs → lv_has ls 7 [(0, .ref (ad 0)), (1, .int x1), (2, .int x2), (4, .int x4j106), (5, .int x5j106)] → W p l e R s m args below meth c H locs 0 0 Q (F0 m 106 ls []) := by
        intro gij106 x4j106 x5j106 H locs ls h B hL
        unfold f_X4_layBest_j106 at h
        refine lv_aload_n hx hb dX4_layBest_106 rfl (lv_at hL 0 rfl) ?_
        refine lv_iload hx hb dX4_layBest_107 (lv_at hL 3 rfl) ?_
        refine mp_57 C B h dX4_layBest_109 (fun gi10 h H locs B => ?_)
        refine lv_aload_n hx hb dX4_layBest_112 rfl (lv_at hL 0 rfl) ?_
        refine lv_iload hx hb dX4_layBest_113 (lv_at hL 4 rfl) ?_
        refine mp_56 C B h dX4_layBest_115 (fun gi11 h H locs B => ?_)
        refine lv_iconst (v := 0) hx hb dX4_layBest_118 (by decide) ?_
        refine lv_istore (lv' := [(6, .int 0), (0, .ref (ad 0)), (1, .int x1), (2, .int x2), (4, .int x4j106), (5, .int x5j106)]) hx hb dX4_layBest_119 hL (by decide) rfl (fun ls hL => ?_)
        obtain ⟨E121, h8121, h⟩ := g_ob h
        have kx121 : ∀ (gie121 : GI) (H : Heap) (locs : List Loc) (ls : Array Slot), gie121 = E121 → MB D cA ad A s gie121 gl H locs → lv_has ls 7 [(0, .ref (ad 0)), (1, .int x1), (2, .int x2)] → W p l e R s m args below meth c H locs 0 0 Q (F0 m 147 ls []) := by
          intro gie121 H locs ls he B hL
          subst he
          have h : f_X4_layBest_x121 x1 x2 gie121 = some Z16 := h
          unfold f_X4_layBest_x121 at h
          exact hj147 _ _ _ _ h B (lv_sub hL [0, 1, 2] rfl)
        have hl121 : ∀ (k : Nat) (x6l121 : Int32) (gil121 : GI) (H : Heap) (locs : List Loc) (ls : Array Slot), g_loop k (fun (s : Int32 × GI) => f_X4_layBest_l121 x1 x2 s.1 s.2) (x6l121, gil121) = some E121 → MB D cA ad A s gil121 gl H locs → lv_has ls 7 [(0, .ref (ad 0)), (1, .int x1), (2, .int x2), (6, .int x6l121)] → W p l e R s m args below meth c H locs 0 0 Q (F0 m 121 ls []) := by
          intro k
          induction k with
          | zero => intro x6l121 gil121 H locs ls h; exact absurd h (fun z => g_loop_0 z)
          | succ k ih121 =>
            intro x6l121 gil121 H locs ls h B hL
            obtain ⟨Z121, h, h9121⟩ := g_loop_s h
            have h : f_X4_layBest_l121 x1 x2 x6l121 gil121 = some Z121 := h
            unfold f_X4_layBest_l121 at h
            refine lv_iload hx hb dX4_layBest_121 (lv_at hL 3 rfl) ?_
            refine lv_iconst (v := 3) hx hb dX4_layBest_123 (by decide) ?_
            refine gg_icmp_ge hx hb 147 h dX4_layBest_124 (by decide) (fun h => ?_) (fun h => ?_)
            · exact kx121 _ _ _ _ (g_exit h h9121) B (lv_sub hL [0, 1, 2] rfl)
            · refine lv_aload_n hx hb dX4_layBest_127 rfl (lv_at hL 0 rfl) ?_
              refine mg_53 C B dX4_layBest_128 ?_
              refine lv_iload hx hb dX4_layBest_131 (lv_at hL 3 rfl) ?_
              refine lv_aload_n hx hb dX4_layBest_133 rfl (lv_at hL 0 rfl) ?_
              refine mg_52 C B dX4_layBest_134 ?_
              refine lv_iload hx hb dX4_layBest_137 (lv_at hL 3 rfl) ?_
              refine mm_iald C B (a := 35) (n := 3) (Nat.le_of_ble_eq_true rfl) rfl h dX4_layBest_139 (fun v12 h => ?_)
              refine mm_iast C B (a := 36) (n := 3) (Nat.le_of_ble_eq_true rfl) rfl h dX4_layBest_140 (fun gi13 h H locs B => ?_)
              refine lv_iinc (v := x6l121 + 1) (lv' := [(6, .int (x6l121 + 1)), (0, .ref (ad 0)), (1, .int x1), (2, .int x2)]) hx hb dX4_layBest_141 hL (k := 3) rfl rfl (by decide) rfl (fun ls hL => ?_)
              refine lv_goto (tgt := 121) hx hb dX4_layBest_144 (by decide) ?_
              exact ih121 _ _ _ _ _ (g_next h h9121) B (lv_sub hL [1, 2, 3, 0] rfl)
        exact hl121 g_K _ _ _ _ _ h8121 B (lv_sub hL [1, 2, 3, 0] rfl)
      have hj42 : ∀ (gij42 : GI) (t0j42 : Int32) (H : Heap) (locs : List Loc) (ls : Array Slot), f_X4_layBest_j42 x1 x2 gij42 t0j42 = some Z16 → MB D cA ad A s gij42 gl H locs → lv_has ls 7 [(0, .ref (ad 0)), (1, .int x1), (2, .int x2)] → W p l e R s m args below meth c H locs 0 0 Q (F0 m 42 ls [.int t0j42]) := by
        intro gij42 t0j42 H locs ls h B hL
        unfold f_X4_layBest_j42 at h
        refine lv_istore (lv' := [(4, .int t0j42), (0, .ref (ad 0)), (1, .int x1), (2, .int x2)]) hx hb dX4_layBest_42 hL (by decide) rfl (fun ls hL => ?_)
        refine lv_aload_n hx hb dX4_layBest_44 rfl (lv_at hL 1 rfl) ?_
        refine lv_iload_n hx hb dX4_layBest_45 rfl (lv_at hL 2 rfl) ?_
        refine lv_iconst (v := (-1)) hx hb dX4_layBest_46 (by decide) ?_
        refine k_X4_layRow C B (Nat.le_trans (Nat.le_of_ble_eq_true rfl) hF) (Nat.le_trans (Nat.le_of_ble_eq_true rfl) hN) hL.1 (Nat.le_of_ble_eq_true rfl) h dX4_layBest_47 (fun q6 h H locs B => ?_)
        refine lv_aload_n hx hb dX4_layBest_50 rfl (lv_at hL 1 rfl) ?_
        refine mg_52 C B dX4_layBest_51 ?_
        refine lv_iconst (v := 0) hx hb dX4_layBest_54 (by decide) ?_
        refine mm_iald C B (a := 35) (n := 3) (Nat.le_of_ble_eq_true rfl) rfl h dX4_layBest_55 (fun v7 h => ?_)
        refine lv_aload_n hx hb dX4_layBest_56 rfl (lv_at hL 1 rfl) ?_
        refine mg_52 C B dX4_layBest_57 ?_
        refine lv_iconst (v := 1) hx hb dX4_layBest_60 (by decide) ?_
        refine mm_iald C B (a := 35) (n := 3) (Nat.le_of_ble_eq_true rfl) rfl h dX4_layBest_61 (fun v8 h => ?_)
        refine lv_iadd hx hb dX4_layBest_62 ?_
        refine lv_aload_n hx hb dX4_layBest_63 rfl (lv_at hL 1 rfl) ?_
        refine mg_52 C B dX4_layBest_64 ?_
        refine lv_iconst (v := 2) hx hb dX4_layBest_67 (by decide) ?_
        refine mm_iald C B (a := 35) (n := 3) (Nat.le_of_ble_eq_true rfl) rfl h dX4_layBest_68 (fun v9 h => ?_)
        refine lv_iadd hx hb dX4_layBest_69 ?_
        refine lv_istore (lv' := [(5, .int ((v7 + v8) + v9)), (4, .int t0j42), (0, .ref (ad 0)), (1, .int x1), (2, .int x2)]) hx hb dX4_layBest_70 hL (by decide) rfl (fun ls hL => ?_)
        refine lv_aload_n hx hb dX4_layBest_72 rfl (lv_at hL 2 rfl) ?_
        refine mg_56 C B dX4_layBest_73 ?_
        refine gg_if_lt hx hb 106 h dX4_layBest_76 (by decide) (fun h => ?_) (fun h => ?_)
        · exact hj106 _ _ _ _ _ _ h B (lv_sub hL [2, 3, 4, 1, 0] rfl)
        · refine lv_iload hx hb dX4_layBest_79 (lv_at hL 1 rfl) ?_
          refine lv_aload_n hx hb dX4_layBest_81 rfl (lv_at hL 2 rfl) ?_
          refine mg_57 C B dX4_layBest_82 ?_
          refine gg_icmp_gt hx hb 106 h dX4_layBest_85 (by decide) (fun h => ?_) (fun h => ?_)
          · exact hj106 _ _ _ _ _ _ h B (lv_sub hL [2, 3, 4, 1, 0] rfl)
          · refine lv_iload hx hb dX4_layBest_88 (lv_at hL 1 rfl) ?_
            refine lv_aload_n hx hb dX4_layBest_90 rfl (lv_at hL 2 rfl) ?_
            refine mg_57 C B dX4_layBest_91 ?_
            refine gg_icmp_ne hx hb 147 h dX4_layBest_94 (by decide) (fun h => ?_) (fun h => ?_)
            · exact hj147 _ _ _ _ h B (lv_sub hL [2, 3, 4] rfl)
            · refine lv_iload hx hb dX4_layBest_97 (lv_at hL 0 rfl) ?_
              refine lv_aload_n hx hb dX4_layBest_99 rfl (lv_at hL 2 rfl) ?_
              refine mg_56 C B dX4_layBest_100 ?_
              refine gg_icmp_ge hx hb 147 h dX4_layBest_103 (by decide) (fun h => ?_) (fun h => ?_)
              · exact hj147 _ _ _ _ h B (lv_sub hL [2, 3, 4] rfl)
              · exact hj106 _ _ _ _ _ _ h B (lv_sub hL [2, 3, 4, 1, 0] rfl)
      refine lv_iload_n hx hb dX4_layBest_16 rfl (lv_at hL 3 rfl) ?_
      refine gg_if_eq hx hb 164 h dX4_layBest_17 (by decide) (fun h => ?_) (fun h => ?_)
      · exact kx16 _ _ _ _ (g_exit h h916) B (lv_sub hL [] rfl)
      · refine lv_aload_n hx hb dX4_layBest_20 rfl (lv_at hL 0 rfl) ?_
        refine lv_iload_n hx hb dX4_layBest_21 rfl (lv_at hL 1 rfl) ?_
        refine lv_iconst (v := 1) hx hb dX4_layBest_22 (by decide) ?_
        refine k_X4_layRow C B (Nat.le_trans (Nat.le_of_ble_eq_true rfl) hF) (Nat.le_trans (Nat.le_of_ble_eq_true rfl) hN) hL.1 (Nat.le_of_ble_eq_true rfl) h dX4_layBest_23 (fun q4 h H locs B => ?_)
        refine lv_iload_n hx hb dX4_layBest_26 rfl (lv_at hL 2 rfl) ?_
        refine gg_if_ne hx hb 38 h dX4_layBest_27 (by decide) (fun h => ?_) (fun h => ?_)
        · refine lv_aload_n hx hb dX4_layBest_38 rfl (lv_at hL 0 rfl) ?_
          refine k_X4_growths C B (Nat.le_trans (Nat.le_of_ble_eq_true rfl) hF) (Nat.le_trans (Nat.le_of_ble_eq_true rfl) hN) hL.1 (Nat.le_of_ble_eq_true rfl) h dX4_layBest_39 (fun q5 h H locs B => ?_)
          exact hj42 _ _ _ _ _ h B (lv_sub hL [0, 1, 2] rfl)
        · refine lv_aload_n hx hb dX4_layBest_30 rfl (lv_at hL 0 rfl) ?_
          refine lv_iload_n hx hb dX4_layBest_31 rfl (lv_at hL 1 rfl) ?_
          refine k_X4_growthOf C B (Nat.le_trans (Nat.le_of_ble_eq_true rfl) hF) (Nat.le_trans (Nat.le_of_ble_eq_true rfl) hN) hL.1 (Nat.le_of_ble_eq_true rfl) h dX4_layBest_32 (fun q16 h H locs B => ?_)
          refine lv_goto (tgt := 42) hx hb dX4_layBest_35 (by decide) ?_
          exact hj42 _ _ _ _ _ h B (lv_sub hL [0, 1, 2] rfl)
  exact hl16 g_K _ _ _ _ _ h816 B (lv_sub hL [1, 2, 3, 0] rfl)
theorem k_X4_layBest {p : Program} {l : Launch} {e : Env} {R : Room} {s : State} {m : MethodId} {args : Array Value} {below : List Frame} {meth : Method} {c : Code} {H : Heap} {locs : List Loc} {Q : State → Prop} {pc : Nat} {ls : Array Slot} {rest : List Value} {cc : ByteArray} {nL : Nat} {D : va_G} {cA : Nat → ClassId} {ad : Nat → Nat} {A : Nat → Prop} {gi : GI} {gl : GL} {α : Type} {r : α} {x1 : Int32} {x2 : Int32} {ff : GI → Option α} (C : CallFix p m c cc nL s args lw_all RX4) (B : MB D cA ad A s gi gl H locs) (hF : 6 ≤ R.frames) (hN : 138 ≤ R.locals) (hs : ls.size = nL) (hw : (rest.map fun v => v.category).sum ≤ 8) (h : (f_X4_layBest gi x1 x2).bind ff = some r) (hdg : decode cc pc = .ok (.invokevirtual 498, 3)) (kk : ∀ q, ff q = some r → ∀ (H' : Heap) (locs' : List Loc), MB D cA ad A s q gl H' locs' → W p l e R s m args below meth c H' locs' 0 0 Q (F0 m (pc + 3) ls (rest))) : W p l e R s m args below meth c H locs 0 0 Q (F0 m pc ls (.int x2 :: .int x1 :: .ref (ad 0) :: rest)) := by
  obtain ⟨q, h1, h2⟩ := g_ob h
  refine mm_cVV (As := [.int x1, .int x2]) (rest := rest) (n := 2) C B (fun sz => w_X4_layBest l D cA ad gi gl x1 x2 q h1 sz) q2256 q2258 qs117 q150 q2259 (by decide +kernel) ⟨hF, hN⟩ rfl hs hw hdg (fun u H9 locs9 hp B9 => ?_)
  obtain ⟨e1, e3⟩ := hp
  rw [e3] at B9
  subst e1
  exact kk _ h2 H9 locs9 B9
def f_X4_showRow_l2 (a1i2 : Nat) (x2i2 : Int32) (x3l2 : Int32) (gil2 : GI) : Option ((Int32 × GI) ⊕ (GI)) :=
  (g_ld gil2 3 2 (gil2 0 41)).bind fun v1 =>
  if v1 ≤ x3l2 then
  (some (.inr gil2))
  else
  ((g_ldP gil2 a1i2 x3l2).bind fun v2 =>
  (g_st gil2 37 8 (x2i2 + x3l2) v2).bind fun gi3 =>
  some (.inl ((x3l2 + 1, gi3))))
def f_X4_showRow_x2 (gie2 : GI) : Option (GI) :=
  some gie2
def f_X4_showRow (gi : GI) (a1 : Nat) (x2 : Int32) : Option (GI) :=
  (g_loop g_K (fun (s : Int32 × GI) => f_X4_showRow_l2 a1 x2 s.1 s.2) (0, gi)).bind fun E2 => f_X4_showRow_x2 E2
set_option maxHeartbeats 400000 in
theorem w_X4_showRow (l : Launch) (D : va_G) (cA : Nat → ClassId) (ad : Nat → Nat) (gi : GI) (gl : GL) (a1 : Nat) (x2 : Int32) (r : GI) (h : f_X4_showRow gi a1 x2 = some r) (sz : Nat) : Met l yX4_showRow (ws_ yX4_showRow cX4_showRow 4 (none)) ({ frames := 0, cells := 0, slots := 0, locals := 0 } : Room) (va_Pc [.ref (ad 0), .ref (ad a1), .int x2] (MPre D cA ad gi gl sz)) (va_Qv (fun u => u.1 = r ∧ u.2 = gl) (MPost D cA ad) (MA ad sz)) 0 0 (MA ad sz) := by
  refine mm_stV (by decide +kernel) rfl (Nat.le_of_ble_eq_true rfl) (fun p e s m args below meth c R Q A ls C hF hN B hret hL => ?_) sz
  have hx := C.1
  have hb := C.2.1
  have hL : lv_has ls 4 [(0, .ref (ad 0)), (1, .ref (ad a1)), (2, .int x2)] := hL
  unfold f_X4_showRow at h
  refine lv_iconst (v := 0) hx hb dX4_showRow_0 (by decide) ?_
  refine lv_istore_n (lv' := [(3, .int 0), (0, .ref (ad 0)), (1, .ref (ad a1)), (2, .int x2)]) hx hb dX4_showRow_1 rfl hL (by decide) rfl (fun ls hL => ?_)
  obtain ⟨E2, h82, h⟩ := g_ob h
  have kx2 : ∀ (gie2 : GI) (H : Heap) (locs : List Loc) (ls : Array Slot), gie2 = E2 → MB D cA ad A s gie2 gl H locs → lv_has ls 4 [] → W p l e R s m args below meth c H locs 0 0 Q (F0 m 32 ls []) := by
    intro gie2 H locs ls he B hL
    subst he
    have h : f_X4_showRow_x2 gie2 = some r := h
    unfold f_X4_showRow_x2 at h
    exact hret _ _ _ _ _ _ ⟨Option.some.inj h, rfl⟩ B dX4_showRow_32
  have hl2 : ∀ (k : Nat) (x3l2 : Int32) (gil2 : GI) (H : Heap) (locs : List Loc) (ls : Array Slot), g_loop k (fun (s : Int32 × GI) => f_X4_showRow_l2 a1 x2 s.1 s.2) (x3l2, gil2) = some E2 → MB D cA ad A s gil2 gl H locs → lv_has ls 4 [(0, .ref (ad 0)), (1, .ref (ad a1)), (2, .int x2), (3, .int x3l2)] → W p l e R s m args below meth c H locs 0 0 Q (F0 m 2 ls []) := by
    intro k
    induction k with
    | zero => intro x3l2 gil2 H locs ls h; exact absurd h (fun z => g_loop_0 z)
    | succ k ih2 =>
      intro x3l2 gil2 H locs ls h B hL
      obtain ⟨Z2, h, h92⟩ := g_loop_s h
      have h : f_X4_showRow_l2 a1 x2 x3l2 gil2 = some Z2 := h
      unfold f_X4_showRow_l2 at h
      refine lv_iload_n hx hb dX4_showRow_2 rfl (lv_at hL 3 rfl) ?_
      refine lv_aload_n hx hb dX4_showRow_3 rfl (lv_at hL 0 rfl) ?_
      refine mg_11 C B dX4_showRow_4 ?_
      refine lv_aload_n hx hb dX4_showRow_7 rfl (lv_at hL 0 rfl) ?_
      refine mg_41 C B dX4_showRow_8 ?_
      refine mm_iald C B (a := 3) (n := 2) (Nat.le_of_ble_eq_true rfl) rfl h dX4_showRow_11 (fun v1 h => ?_)
      refine gg_icmp_ge hx hb 32 h dX4_showRow_12 (by decide) (fun h => ?_) (fun h => ?_)
      · exact kx2 _ _ _ _ (g_exit h h92) B (lv_sub hL [] rfl)
      · refine lv_aload_n hx hb dX4_showRow_15 rfl (lv_at hL 0 rfl) ?_
        refine mg_54 C B dX4_showRow_16 ?_
        refine lv_iload_n hx hb dX4_showRow_19 rfl (lv_at hL 2 rfl) ?_
        refine lv_iload_n hx hb dX4_showRow_20 rfl (lv_at hL 3 rfl) ?_
        refine lv_iadd hx hb dX4_showRow_21 ?_
        refine lv_aload_n hx hb dX4_showRow_22 rfl (lv_at hL 1 rfl) ?_
        refine lv_iload_n hx hb dX4_showRow_23 rfl (lv_at hL 3 rfl) ?_
        refine mm_ialdP C B h dX4_showRow_24 (fun v2 h => ?_)
        refine mm_iast C B (a := 37) (n := 8) (Nat.le_of_ble_eq_true rfl) rfl h dX4_showRow_25 (fun gi3 h H locs B => ?_)
        refine lv_iinc (v := x3l2 + 1) (lv' := [(3, .int (x3l2 + 1)), (0, .ref (ad 0)), (1, .ref (ad a1)), (2, .int x2)]) hx hb dX4_showRow_26 hL (k := 3) rfl rfl (by decide) rfl (fun ls hL => ?_)
        refine lv_goto (tgt := 2) hx hb dX4_showRow_29 (by decide) ?_
        exact ih2 _ _ _ _ _ (g_next h h92) B (lv_sub hL [1, 2, 3, 0] rfl)
  exact hl2 g_K _ _ _ _ _ h82 B (lv_sub hL [1, 2, 3, 0] rfl)
theorem k_X4_showRow {p : Program} {l : Launch} {e : Env} {R : Room} {s : State} {m : MethodId} {args : Array Value} {below : List Frame} {meth : Method} {c : Code} {H : Heap} {locs : List Loc} {Q : State → Prop} {pc : Nat} {ls : Array Slot} {rest : List Value} {cc : ByteArray} {nL : Nat} {D : va_G} {cA : Nat → ClassId} {ad : Nat → Nat} {A : Nat → Prop} {gi : GI} {gl : GL} {α : Type} {r : α} {a1 : Nat} {x2 : Int32} {ff : GI → Option α} (C : CallFix p m c cc nL s args lw_all RX4) (B : MB D cA ad A s gi gl H locs) (hF : 1 ≤ R.frames) (hN : 23 ≤ R.locals) (hs : ls.size = nL) (hw : (rest.map fun v => v.category).sum ≤ 8) (h : (f_X4_showRow gi a1 x2).bind ff = some r) (hdg : decode cc pc = .ok (.invokevirtual 494, 3)) (kk : ∀ q, ff q = some r → ∀ (H' : Heap) (locs' : List Loc), MB D cA ad A s q gl H' locs' → W p l e R s m args below meth c H' locs' 0 0 Q (F0 m (pc + 3) ls (rest))) : W p l e R s m args below meth c H locs 0 0 Q (F0 m pc ls (.int x2 :: .ref (ad a1) :: .ref (ad 0) :: rest)) := by
  obtain ⟨q, h1, h2⟩ := g_ob h
  refine mm_cVV (As := [.ref (ad a1), .int x2]) (rest := rest) (n := 2) C B (fun sz => w_X4_showRow l D cA ad gi gl a1 x2 q h1 sz) q2280 q2282 qs123 q150 q2283 (by decide +kernel) ⟨hF, hN⟩ rfl hs hw hdg (fun u H9 locs9 hp B9 => ?_)
  obtain ⟨e1, e3⟩ := hp
  rw [e3] at B9
  subst e1
  exact kk _ h2 H9 locs9 B9
def f_X4_show (gi : GI) (x1 : Int32) : Option (Int32 × GI) :=
  (f_X4_showRow gi 36 0).bind fun q1 =>
  (g_ld q1 3 2 (q1 0 41)).bind fun v2 =>
  (some (g_pi q1 0 55 v2)).bind fun gi3 =>
  if x1 = 0 then
  (some (gi3 0 57, gi3))
  else
  (some (gi3 0 56, gi3))
set_option maxHeartbeats 400000 in
theorem w_X4_show (l : Launch) (D : va_G) (cA : Nat → ClassId) (ad : Nat → Nat) (gi : GI) (gl : GL) (x1 : Int32) (r : Int32 × GI) (h : f_X4_show gi x1 = some r) (sz : Nat) : Met l yX4_show (ws_ yX4_show cX4_show 2 (some .int)) ({ frames := 1, cells := 0, slots := 0, locals := 23 } : Room) (va_Pc [.ref (ad 0), .int x1] (MPre D cA ad gi gl sz)) (va_Qi (fun v u => (v, u.1) = r ∧ u.2 = gl) (MPost D cA ad) (MA ad sz)) 0 0 (MA ad sz) := by
  refine mm_stI (by decide +kernel) rfl (Nat.le_of_ble_eq_true rfl) (fun p e s m args below meth c R Q A ls C hF hN B hret hL => ?_) sz
  have hx := C.1
  have hb := C.2.1
  have hL : lv_has ls 2 [(0, .ref (ad 0)), (1, .int x1)] := hL
  unfold f_X4_show at h
  refine lv_aload_n hx hb dX4_show_0 rfl (lv_at hL 0 rfl) ?_
  refine lv_aload_n hx hb dX4_show_1 rfl (lv_at hL 0 rfl) ?_
  refine mg_53 C B dX4_show_2 ?_
  refine lv_iconst (v := 0) hx hb dX4_show_5 (by decide) ?_
  refine k_X4_showRow C B (Nat.le_trans (Nat.le_of_ble_eq_true rfl) hF) (Nat.le_trans (Nat.le_of_ble_eq_true rfl) hN) hL.1 (Nat.le_of_ble_eq_true rfl) h dX4_show_6 (fun q1 h H locs B => ?_)
  refine lv_aload_n hx hb dX4_show_9 rfl (lv_at hL 0 rfl) ?_
  refine lv_aload_n hx hb dX4_show_10 rfl (lv_at hL 0 rfl) ?_
  refine mg_11 C B dX4_show_11 ?_
  refine lv_aload_n hx hb dX4_show_14 rfl (lv_at hL 0 rfl) ?_
  refine mg_41 C B dX4_show_15 ?_
  refine mm_iald C B (a := 3) (n := 2) (Nat.le_of_ble_eq_true rfl) rfl h dX4_show_18 (fun v2 h => ?_)
  refine mp_55 C B h dX4_show_19 (fun gi3 h H locs B => ?_)
  refine lv_iload_n hx hb dX4_show_22 rfl (lv_at hL 1 rfl) ?_
  refine gg_if_ne hx hb 33 h dX4_show_23 (by decide) (fun h => ?_) (fun h => ?_)
  · refine lv_aload_n hx hb dX4_show_33 rfl (lv_at hL 0 rfl) ?_
    refine mg_56 C B dX4_show_34 ?_
    exact hret _ _ _ _ _ _ _ ⟨Option.some.inj h, rfl⟩ B dX4_show_37
  · refine lv_aload_n hx hb dX4_show_26 rfl (lv_at hL 0 rfl) ?_
    refine mg_57 C B dX4_show_27 ?_
    refine lv_goto (tgt := 37) hx hb dX4_show_30 (by decide) ?_
    exact hret _ _ _ _ _ _ _ ⟨Option.some.inj h, rfl⟩ B dX4_show_37
theorem k_X4_show {p : Program} {l : Launch} {e : Env} {R : Room} {s : State} {m : MethodId} {args : Array Value} {below : List Frame} {meth : Method} {c : Code} {H : Heap} {locs : List Loc} {Q : State → Prop} {pc : Nat} {ls : Array Slot} {rest : List Value} {cc : ByteArray} {nL : Nat} {D : va_G} {cA : Nat → ClassId} {ad : Nat → Nat} {A : Nat → Prop} {gi : GI} {gl : GL} {α : Type} {r : α} {x1 : Int32} {ff : (Int32 × GI) → Option α} (C : CallFix p m c cc nL s args lw_all RX4) (B : MB D cA ad A s gi gl H locs) (hF : 2 ≤ R.frames) (hN : 44 ≤ R.locals) (hs : ls.size = nL) (hw : (rest.map fun v => v.category).sum ≤ 8) (h : (f_X4_show gi x1).bind ff = some r) (hdg : decode cc pc = .ok (.invokevirtual 501, 3)) (kk : ∀ q, ff q = some r → ∀ (H' : Heap) (locs' : List Loc), MB D cA ad A s q.2 gl H' locs' → W p l e R s m args below meth c H' locs' 0 0 Q (F0 m (pc + 3) ls (.int q.1 :: rest))) : W p l e R s m args below meth c H locs 0 0 Q (F0 m pc ls (.int x1 :: .ref (ad 0) :: rest)) := by
  obtain ⟨q, h1, h2⟩ := g_ob h
  refine mm_cVI (As := [.int x1]) (rest := rest) (n := 1) C B (fun sz => w_X4_show l D cA ad gi gl x1 q h1 sz) q2276 q2278 qs122 q150 q2279 (by decide +kernel) ⟨hF, hN⟩ rfl hs hw hdg (fun v u H9 locs9 hp B9 => ?_)
  obtain ⟨e1, e3⟩ := hp
  rw [e3] at B9
  subst e1
  exact kk _ h2 H9 locs9 B9
def f_X4_best (gi : GI) (x1 : Int32) (x2 : Int32) : Option (Int32 × GI) :=
  (some (g_pi gi 0 55 0)).bind fun gi1 =>
  (f_X4_isMan gi1 x1).bind fun q2 =>
  if q2 = 0 then
  (some ((-1000000), gi1))
  else
  ((f_X4_isIn gi1 x2 0 1).bind fun q3 =>
  if q3 = 0 then
  (some ((-1000000), gi1))
  else
  ((f_X4_layBest gi1 x1 0).bind fun q4 =>
  (f_X4_show q4 x2).bind fun q5 =>
  some (q5.1, q5.2)))
set_option maxHeartbeats 400000 in
theorem w_X4_best (l : Launch) (D : va_G) (cA : Nat → ClassId) (ad : Nat → Nat) (gi : GI) (gl : GL) (x1 : Int32) (x2 : Int32) (r : Int32 × GI) (h : f_X4_best gi x1 x2 = some r) (sz : Nat) : Met l yX4_best (ws_ yX4_best cX4_best 3 (some .int)) ({ frames := 6, cells := 0, slots := 0, locals := 138 } : Room) (va_Pc [.ref (ad 0), .int x1, .int x2] (MPre D cA ad gi gl sz)) (va_Qi (fun v u => (v, u.1) = r ∧ u.2 = gl) (MPost D cA ad) (MA ad sz)) 0 0 (MA ad sz) := by
  refine mm_stI (by decide +kernel) rfl (Nat.le_of_ble_eq_true rfl) (fun p e s m args below meth c R Q A ls C hF hN B hret hL => ?_) sz
  have hx := C.1
  have hb := C.2.1
  have hL : lv_has ls 3 [(0, .ref (ad 0)), (1, .int x1), (2, .int x2)] := hL
  unfold f_X4_best at h
  refine lv_aload_n hx hb dX4_best_0 rfl (lv_at hL 0 rfl) ?_
  refine lv_iconst (v := 0) hx hb dX4_best_1 (by decide) ?_
  refine mp_55 C B h dX4_best_2 (fun gi1 h H locs B => ?_)
  refine lv_aload_n hx hb dX4_best_5 rfl (lv_at hL 0 rfl) ?_
  refine lv_iload_n hx hb dX4_best_6 rfl (lv_at hL 1 rfl) ?_
  refine k_X4_isMan C B (Nat.le_trans (Nat.le_of_ble_eq_true rfl) hF) (Nat.le_trans (Nat.le_of_ble_eq_true rfl) hN) hL.1 (Nat.le_of_ble_eq_true rfl) h dX4_best_7 (fun q2 h H locs B => ?_)
  refine gg_if_eq hx hb 22 h dX4_best_10 (by decide) (fun h => ?_) (fun h => ?_)
  · refine lv_ldcw (v := (-1000000)) hx hb C.2.2.2.1 (C.2.2.2.2 _ q2126) dX4_best_22 ?_
    exact hret _ _ _ _ _ _ _ ⟨Option.some.inj h, rfl⟩ B dX4_best_25
  · refine lv_iload_n hx hb dX4_best_13 rfl (lv_at hL 2 rfl) ?_
    refine lv_iconst (v := 0) hx hb dX4_best_14 (by decide) ?_
    refine lv_iconst (v := 1) hx hb dX4_best_15 (by decide) ?_
    refine k_X4_isIn C B (Nat.le_trans (Nat.le_of_ble_eq_true rfl) hF) (Nat.le_trans (Nat.le_of_ble_eq_true rfl) hN) hL.1 (Nat.le_of_ble_eq_true rfl) h dX4_best_16 (fun q3 h H locs B => ?_)
    refine gg_if_ne hx hb 26 h dX4_best_19 (by decide) (fun h => ?_) (fun h => ?_)
    · refine lv_aload_n hx hb dX4_best_26 rfl (lv_at hL 0 rfl) ?_
      refine lv_iload_n hx hb dX4_best_27 rfl (lv_at hL 1 rfl) ?_
      refine lv_iconst (v := 0) hx hb dX4_best_28 (by decide) ?_
      refine k_X4_layBest C B (Nat.le_trans (Nat.le_of_ble_eq_true rfl) hF) (Nat.le_trans (Nat.le_of_ble_eq_true rfl) hN) hL.1 (Nat.le_of_ble_eq_true rfl) h dX4_best_29 (fun q4 h H locs B => ?_)
      refine lv_aload_n hx hb dX4_best_32 rfl (lv_at hL 0 rfl) ?_
      refine lv_iload_n hx hb dX4_best_33 rfl (lv_at hL 2 rfl) ?_
      refine k_X4_show C B (Nat.le_trans (Nat.le_of_ble_eq_true rfl) hF) (Nat.le_trans (Nat.le_of_ble_eq_true rfl) hN) hL.1 (Nat.le_of_ble_eq_true rfl) h dX4_best_34 (fun q5 h H locs B => ?_)
      exact hret _ _ _ _ _ _ _ ⟨Option.some.inj h, rfl⟩ B dX4_best_37
    · refine lv_ldcw (v := (-1000000)) hx hb C.2.2.2.1 (C.2.2.2.2 _ q2126) dX4_best_22 ?_
      exact hret _ _ _ _ _ _ _ ⟨Option.some.inj h, rfl⟩ B dX4_best_25
def f_X4_good (gi : GI) (x1 : Int32) (x2 : Int32) : Option (Int32 × GI) :=
  (some (g_pi gi 0 55 0)).bind fun gi1 =>
  (f_X4_isMan gi1 x1).bind fun q2 =>
  if q2 = 0 then
  (some ((-1000000), gi1))
  else
  ((f_X4_isIn gi1 x2 0 1).bind fun q3 =>
  if q3 = 0 then
  (some ((-1000000), gi1))
  else
  ((f_X4_layBest gi1 x1 1).bind fun q4 =>
  (f_X4_show q4 x2).bind fun q5 =>
  some (q5.1, q5.2)))
set_option maxHeartbeats 400000 in
theorem w_X4_good (l : Launch) (D : va_G) (cA : Nat → ClassId) (ad : Nat → Nat) (gi : GI) (gl : GL) (x1 : Int32) (x2 : Int32) (r : Int32 × GI) (h : f_X4_good gi x1 x2 = some r) (sz : Nat) : Met l yX4_good (ws_ yX4_good cX4_good 3 (some .int)) ({ frames := 6, cells := 0, slots := 0, locals := 138 } : Room) (va_Pc [.ref (ad 0), .int x1, .int x2] (MPre D cA ad gi gl sz)) (va_Qi (fun v u => (v, u.1) = r ∧ u.2 = gl) (MPost D cA ad) (MA ad sz)) 0 0 (MA ad sz) := by
  refine mm_stI (by decide +kernel) rfl (Nat.le_of_ble_eq_true rfl) (fun p e s m args below meth c R Q A ls C hF hN B hret hL => ?_) sz
  have hx := C.1
  have hb := C.2.1
  have hL : lv_has ls 3 [(0, .ref (ad 0)), (1, .int x1), (2, .int x2)] := hL
  unfold f_X4_good at h
  refine lv_aload_n hx hb dX4_good_0 rfl (lv_at hL 0 rfl) ?_
  refine lv_iconst (v := 0) hx hb dX4_good_1 (by decide) ?_
  refine mp_55 C B h dX4_good_2 (fun gi1 h H locs B => ?_)
  refine lv_aload_n hx hb dX4_good_5 rfl (lv_at hL 0 rfl) ?_
  refine lv_iload_n hx hb dX4_good_6 rfl (lv_at hL 1 rfl) ?_
  refine k_X4_isMan C B (Nat.le_trans (Nat.le_of_ble_eq_true rfl) hF) (Nat.le_trans (Nat.le_of_ble_eq_true rfl) hN) hL.1 (Nat.le_of_ble_eq_true rfl) h dX4_good_7 (fun q2 h H locs B => ?_)
  refine gg_if_eq hx hb 22 h dX4_good_10 (by decide) (fun h => ?_) (fun h => ?_)
  · refine lv_ldcw (v := (-1000000)) hx hb C.2.2.2.1 (C.2.2.2.2 _ q2126) dX4_good_22 ?_
    exact hret _ _ _ _ _ _ _ ⟨Option.some.inj h, rfl⟩ B dX4_good_25
  · refine lv_iload_n hx hb dX4_good_13 rfl (lv_at hL 2 rfl) ?_
    refine lv_iconst (v := 0) hx hb dX4_good_14 (by decide) ?_
    refine lv_iconst (v := 1) hx hb dX4_good_15 (by decide) ?_
    refine k_X4_isIn C B (Nat.le_trans (Nat.le_of_ble_eq_true rfl) hF) (Nat.le_trans (Nat.le_of_ble_eq_true rfl) hN) hL.1 (Nat.le_of_ble_eq_true rfl) h dX4_good_16 (fun q3 h H locs B => ?_)
    refine gg_if_ne hx hb 26 h dX4_good_19 (by decide) (fun h => ?_) (fun h => ?_)
    · refine lv_aload_n hx hb dX4_good_26 rfl (lv_at hL 0 rfl) ?_
      refine lv_iload_n hx hb dX4_good_27 rfl (lv_at hL 1 rfl) ?_
      refine lv_iconst (v := 1) hx hb dX4_good_28 (by decide) ?_
      refine k_X4_layBest C B (Nat.le_trans (Nat.le_of_ble_eq_true rfl) hF) (Nat.le_trans (Nat.le_of_ble_eq_true rfl) hN) hL.1 (Nat.le_of_ble_eq_true rfl) h dX4_good_29 (fun q4 h H locs B => ?_)
      refine lv_aload_n hx hb dX4_good_32 rfl (lv_at hL 0 rfl) ?_
      refine lv_iload_n hx hb dX4_good_33 rfl (lv_at hL 2 rfl) ?_
      refine k_X4_show C B (Nat.le_trans (Nat.le_of_ble_eq_true rfl) hF) (Nat.le_trans (Nat.le_of_ble_eq_true rfl) hN) hL.1 (Nat.le_of_ble_eq_true rfl) h dX4_good_34 (fun q5 h H locs B => ?_)
      exact hret _ _ _ _ _ _ _ ⟨Option.some.inj h, rfl⟩ B dX4_good_37
    · refine lv_ldcw (v := (-1000000)) hx hb C.2.2.2.1 (C.2.2.2.2 _ q2126) dX4_good_22 ?_
      exact hret _ _ _ _ _ _ _ ⟨Option.some.inj h, rfl⟩ B dX4_good_25
def f_X4_layBestRow_l2 (x1i2 : Int32) (x2i2 : Int32) (x3l2 : Int32) (gil2 : GI) : Option ((Int32 × GI) ⊕ (GI)) :=
  if 3 ≤ x3l2 then
  (some (.inr gil2))
  else
  ((g_ld gil2 36 3 x3l2).bind fun v1 =>
  (f_X4_lay gil2 x1i2 x3l2 v1 x2i2).bind fun q2 =>
  some (.inl ((x3l2 + 1, q2))))
def f_X4_layBestRow_x2 (gie2 : GI) : Option (GI) :=
  some gie2
def f_X4_layBestRow (gi : GI) (x1 : Int32) (x2 : Int32) : Option (GI) :=
  (g_loop g_K (fun (s : Int32 × GI) => f_X4_layBestRow_l2 x1 x2 s.1 s.2) (0, gi)).bind fun E2 => f_X4_layBestRow_x2 E2
set_option maxHeartbeats 400000 in
theorem w_X4_layBestRow (l : Launch) (D : va_G) (cA : Nat → ClassId) (ad : Nat → Nat) (gi : GI) (gl : GL) (x1 : Int32) (x2 : Int32) (r : GI) (h : f_X4_layBestRow gi x1 x2 = some r) (sz : Nat) : Met l yX4_layBestRow (ws_ yX4_layBestRow cX4_layBestRow 4 (none)) ({ frames := 2, cells := 0, slots := 0, locals := 46 } : Room) (va_Pc [.ref (ad 0), .int x1, .int x2] (MPre D cA ad gi gl sz)) (va_Qv (fun u => u.1 = r ∧ u.2 = gl) (MPost D cA ad) (MA ad sz)) 0 0 (MA ad sz) := by
  refine mm_stV (by decide +kernel) rfl (Nat.le_of_ble_eq_true rfl) (fun p e s m args below meth c R Q A ls C hF hN B hret hL => ?_) sz
  have hx := C.1
  have hb := C.2.1
  have hL : lv_has ls 4 [(0, .ref (ad 0)), (1, .int x1), (2, .int x2)] := hL
  unfold f_X4_layBestRow at h
  refine lv_iconst (v := 0) hx hb dX4_layBestRow_0 (by decide) ?_
  refine lv_istore_n (lv' := [(3, .int 0), (0, .ref (ad 0)), (1, .int x1), (2, .int x2)]) hx hb dX4_layBestRow_1 rfl hL (by decide) rfl (fun ls hL => ?_)
  obtain ⟨E2, h82, h⟩ := g_ob h
  have kx2 : ∀ (gie2 : GI) (H : Heap) (locs : List Loc) (ls : Array Slot), gie2 = E2 → MB D cA ad A s gie2 gl H locs → lv_has ls 4 [] → W p l e R s m args below meth c H locs 0 0 Q (F0 m 26 ls []) := by
    intro gie2 H locs ls he B hL
    subst he
    have h : f_X4_layBestRow_x2 gie2 = some r := h
    unfold f_X4_layBestRow_x2 at h
    exact hret _ _ _ _ _ _ ⟨Option.some.inj h, rfl⟩ B dX4_layBestRow_26
  have hl2 : ∀ (k : Nat) (x3l2 : Int32) (gil2 : GI) (H : Heap) (locs : List Loc) (ls : Array Slot), g_loop k (fun (s : Int32 × GI) => f_X4_layBestRow_l2 x1 x2 s.1 s.2) (x3l2, gil2) = some E2 → MB D cA ad A s gil2 gl H locs → lv_has ls 4 [(0, .ref (ad 0)), (1, .int x1), (2, .int x2), (3, .int x3l2)] → W p l e R s m args below meth c H locs 0 0 Q (F0 m 2 ls []) := by
    intro k
    induction k with
    | zero => intro x3l2 gil2 H locs ls h; exact absurd h (fun z => g_loop_0 z)
    | succ k ih2 =>
      intro x3l2 gil2 H locs ls h B hL
      obtain ⟨Z2, h, h92⟩ := g_loop_s h
      have h : f_X4_layBestRow_l2 x1 x2 x3l2 gil2 = some Z2 := h
      unfold f_X4_layBestRow_l2 at h
      refine lv_iload_n hx hb dX4_layBestRow_2 rfl (lv_at hL 3 rfl) ?_
      refine lv_iconst (v := 3) hx hb dX4_layBestRow_3 (by decide) ?_
      refine gg_icmp_ge hx hb 26 h dX4_layBestRow_4 (by decide) (fun h => ?_) (fun h => ?_)
      · exact kx2 _ _ _ _ (g_exit h h92) B (lv_sub hL [] rfl)
      · refine lv_aload_n hx hb dX4_layBestRow_7 rfl (lv_at hL 0 rfl) ?_
        refine lv_iload_n hx hb dX4_layBestRow_8 rfl (lv_at hL 1 rfl) ?_
        refine lv_iload_n hx hb dX4_layBestRow_9 rfl (lv_at hL 3 rfl) ?_
        refine lv_aload_n hx hb dX4_layBestRow_10 rfl (lv_at hL 0 rfl) ?_
        refine mg_53 C B dX4_layBestRow_11 ?_
        refine lv_iload_n hx hb dX4_layBestRow_14 rfl (lv_at hL 3 rfl) ?_
        refine mm_iald C B (a := 36) (n := 3) (Nat.le_of_ble_eq_true rfl) rfl h dX4_layBestRow_15 (fun v1 h => ?_)
        refine lv_iload_n hx hb dX4_layBestRow_16 rfl (lv_at hL 2 rfl) ?_
        refine k_X4_lay C B (Nat.le_trans (Nat.le_of_ble_eq_true rfl) hF) (Nat.le_trans (Nat.le_of_ble_eq_true rfl) hN) hL.1 (Nat.le_of_ble_eq_true rfl) h dX4_layBestRow_17 (fun q2 h H locs B => ?_)
        refine lv_iinc (v := x3l2 + 1) (lv' := [(3, .int (x3l2 + 1)), (0, .ref (ad 0)), (1, .int x1), (2, .int x2)]) hx hb dX4_layBestRow_20 hL (k := 3) rfl rfl (by decide) rfl (fun ls hL => ?_)
        refine lv_goto (tgt := 2) hx hb dX4_layBestRow_23 (by decide) ?_
        exact ih2 _ _ _ _ _ (g_next h h92) B (lv_sub hL [1, 2, 3, 0] rfl)
  exact hl2 g_K _ _ _ _ _ h82 B (lv_sub hL [1, 2, 3, 0] rfl)
theorem k_X4_layBestRow {p : Program} {l : Launch} {e : Env} {R : Room} {s : State} {m : MethodId} {args : Array Value} {below : List Frame} {meth : Method} {c : Code} {H : Heap} {locs : List Loc} {Q : State → Prop} {pc : Nat} {ls : Array Slot} {rest : List Value} {cc : ByteArray} {nL : Nat} {D : va_G} {cA : Nat → ClassId} {ad : Nat → Nat} {A : Nat → Prop} {gi : GI} {gl : GL} {α : Type} {r : α} {x1 : Int32} {x2 : Int32} {ff : GI → Option α} (C : CallFix p m c cc nL s args lw_all RX4) (B : MB D cA ad A s gi gl H locs) (hF : 3 ≤ R.frames) (hN : 69 ≤ R.locals) (hs : ls.size = nL) (hw : (rest.map fun v => v.category).sum ≤ 8) (h : (f_X4_layBestRow gi x1 x2).bind ff = some r) (hdg : decode cc pc = .ok (.invokevirtual 504, 3)) (kk : ∀ q, ff q = some r → ∀ (H' : Heap) (locs' : List Loc), MB D cA ad A s q gl H' locs' → W p l e R s m args below meth c H' locs' 0 0 Q (F0 m (pc + 3) ls (rest))) : W p l e R s m args below meth c H locs 0 0 Q (F0 m pc ls (.int x2 :: .int x1 :: .ref (ad 0) :: rest)) := by
  obtain ⟨q, h1, h2⟩ := g_ob h
  refine mm_cVV (As := [.int x1, .int x2]) (rest := rest) (n := 2) C B (fun sz => w_X4_layBestRow l D cA ad gi gl x1 x2 q h1 sz) q2292 q2294 qs124 q150 q2295 (by decide +kernel) ⟨hF, hN⟩ rfl hs hw hdg (fun u H9 locs9 hp B9 => ?_)
  obtain ⟨e1, e3⟩ := hp
  rw [e3] at B9
  subst e1
  exact kk _ h2 H9 locs9 B9
def f_X4_leaks (gi : GI) (x1 : Int32) : Option (Int32 × GI) :=
  (f_X4_isMan gi x1).bind fun q1 =>
  if q1 = 0 then
  (some ((-1000000), gi))
  else
  ((f_X4_layBest gi x1 0).bind fun q2 =>
  (f_X4_growths q2 ).bind fun q3 =>
  (f_X4_growthOf q3.2 x1).bind fun q4 =>
  (f_X4_layBestRow q4.2 x1 1).bind fun q5 =>
  (f_X4_growths q5 ).bind fun q6 =>
  (f_X4_growthOf q6.2 x1).bind fun q7 =>
  (f_X4_layBestRow q7.2 x1 ((-1))).bind fun q8 =>
  some ((q6.1 - q7.1) - (q3.1 - q4.1), q8))
set_option maxHeartbeats 400000 in
theorem w_X4_leaks (l : Launch) (D : va_G) (cA : Nat → ClassId) (ad : Nat → Nat) (gi : GI) (gl : GL) (x1 : Int32) (r : Int32 × GI) (h : f_X4_leaks gi x1 = some r) (sz : Nat) : Met l yX4_leaks (ws_ yX4_leaks cX4_leaks 4 (some .int)) ({ frames := 6, cells := 0, slots := 0, locals := 138 } : Room) (va_Pc [.ref (ad 0), .int x1] (MPre D cA ad gi gl sz)) (va_Qi (fun v u => (v, u.1) = r ∧ u.2 = gl) (MPost D cA ad) (MA ad sz)) 0 0 (MA ad sz) := by
  refine mm_stI (by decide +kernel) rfl (Nat.le_of_ble_eq_true rfl) (fun p e s m args below meth c R Q A ls C hF hN B hret hL => ?_) sz
  have hx := C.1
  have hb := C.2.1
  have hL : lv_has ls 4 [(0, .ref (ad 0)), (1, .int x1)] := hL
  unfold f_X4_leaks at h
  refine lv_aload_n hx hb dX4_leaks_0 rfl (lv_at hL 0 rfl) ?_
  refine lv_iload_n hx hb dX4_leaks_1 rfl (lv_at hL 1 rfl) ?_
  refine k_X4_isMan C B (Nat.le_trans (Nat.le_of_ble_eq_true rfl) hF) (Nat.le_trans (Nat.le_of_ble_eq_true rfl) hN) hL.1 (Nat.le_of_ble_eq_true rfl) h dX4_leaks_2 (fun q1 h H locs B => ?_)
  refine gg_if_ne hx hb 12 h dX4_leaks_5 (by decide) (fun h => ?_) (fun h => ?_)
  · refine lv_aload_n hx hb dX4_leaks_12 rfl (lv_at hL 0 rfl) ?_
    refine lv_iload_n hx hb dX4_leaks_13 rfl (lv_at hL 1 rfl) ?_
    refine lv_iconst (v := 0) hx hb dX4_leaks_14 (by decide) ?_
    refine k_X4_layBest C B (Nat.le_trans (Nat.le_of_ble_eq_true rfl) hF) (Nat.le_trans (Nat.le_of_ble_eq_true rfl) hN) hL.1 (Nat.le_of_ble_eq_true rfl) h dX4_leaks_15 (fun q2 h H locs B => ?_)
    refine lv_aload_n hx hb dX4_leaks_18 rfl (lv_at hL 0 rfl) ?_
    refine k_X4_growths C B (Nat.le_trans (Nat.le_of_ble_eq_true rfl) hF) (Nat.le_trans (Nat.le_of_ble_eq_true rfl) hN) hL.1 (Nat.le_of_ble_eq_true rfl) h dX4_leaks_19 (fun q3 h H locs B => ?_)
    refine lv_aload_n hx hb dX4_leaks_22 rfl (lv_at hL 0 rfl) ?_
    refine lv_iload_n hx hb dX4_leaks_23 rfl (lv_at hL 1 rfl) ?_
    refine k_X4_growthOf C B (Nat.le_trans (Nat.le_of_ble_eq_true rfl) hF) (Nat.le_trans (Nat.le_of_ble_eq_true rfl) hN) hL.1 (Nat.le_of_ble_eq_true rfl) h dX4_leaks_24 (fun q4 h H locs B => ?_)
    refine lv_isub hx hb dX4_leaks_27 ?_
    refine lv_istore_n (lv' := [(2, .int (q3.1 - q4.1)), (0, .ref (ad 0)), (1, .int x1)]) hx hb dX4_leaks_28 rfl hL (by decide) rfl (fun ls hL => ?_)
    refine lv_aload_n hx hb dX4_leaks_29 rfl (lv_at hL 1 rfl) ?_
    refine lv_iload_n hx hb dX4_leaks_30 rfl (lv_at hL 2 rfl) ?_
    refine lv_iconst (v := 1) hx hb dX4_leaks_31 (by decide) ?_
    refine k_X4_layBestRow C B (Nat.le_trans (Nat.le_of_ble_eq_true rfl) hF) (Nat.le_trans (Nat.le_of_ble_eq_true rfl) hN) hL.1 (Nat.le_of_ble_eq_true rfl) h dX4_leaks_32 (fun q5 h H locs B => ?_)
    refine lv_aload_n hx hb dX4_leaks_35 rfl (lv_at hL 1 rfl) ?_
    refine k_X4_growths C B (Nat.le_trans (Nat.le_of_ble_eq_true rfl) hF) (Nat.le_trans (Nat.le_of_ble_eq_true rfl) hN) hL.1 (Nat.le_of_ble_eq_true rfl) h dX4_leaks_36 (fun q6 h H locs B => ?_)
    refine lv_aload_n hx hb dX4_leaks_39 rfl (lv_at hL 1 rfl) ?_
    refine lv_iload_n hx hb dX4_leaks_40 rfl (lv_at hL 2 rfl) ?_
    refine k_X4_growthOf C B (Nat.le_trans (Nat.le_of_ble_eq_true rfl) hF) (Nat.le_trans (Nat.le_of_ble_eq_true rfl) hN) hL.1 (Nat.le_of_ble_eq_true rfl) h dX4_leaks_41 (fun q7 h H locs B => ?_)
    refine lv_isub hx hb dX4_leaks_44 ?_
    refine lv_istore_n (lv' := [(3, .int (q6.1 - q7.1)), (2, .int (q3.1 - q4.1)), (0, .ref (ad 0)), (1, .int x1)]) hx hb dX4_leaks_45 rfl hL (by decide) rfl (fun ls hL => ?_)
    refine lv_aload_n hx hb dX4_leaks_46 rfl (lv_at hL 2 rfl) ?_
    refine lv_iload_n hx hb dX4_leaks_47 rfl (lv_at hL 3 rfl) ?_
    refine lv_iconst (v := (-1)) hx hb dX4_leaks_48 (by decide) ?_
    refine k_X4_layBestRow C B (Nat.le_trans (Nat.le_of_ble_eq_true rfl) hF) (Nat.le_trans (Nat.le_of_ble_eq_true rfl) hN) hL.1 (Nat.le_of_ble_eq_true rfl) h dX4_leaks_49 (fun q8 h H locs B => ?_)
    refine lv_iload_n hx hb dX4_leaks_52 rfl (lv_at hL 0 rfl) ?_
    refine lv_iload_n hx hb dX4_leaks_53 rfl (lv_at hL 1 rfl) ?_
    refine lv_isub hx hb dX4_leaks_54 ?_
    exact hret _ _ _ _ _ _ _ ⟨Option.some.inj h, rfl⟩ B dX4_leaks_55
  · refine lv_ldcw (v := (-1000000)) hx hb C.2.2.2.1 (C.2.2.2.2 _ q2126) dX4_leaks_8 ?_
    exact hret _ _ _ _ _ _ _ ⟨Option.some.inj h, rfl⟩ B dX4_leaks_11
def f_X4_needs_j137 (x1j137 : Int32) (x2j137 : Int32) (gij137 : GI) (x4j137 : Int32) : Option ((Int32 × Int32 × GI) ⊕ (Int32 × GI)) :=
  (f_X4_leftOf gij137 x1j137).bind fun q12 =>
  (f_X4_nextRow gij137 38 q12).bind fun q13 =>
  some (.inl ((q13.1, x4j137, q13.2)))
def f_X4_needs_j111 (x1j111 : Int32) (x2j111 : Int32) (gij111 : GI) (x6j111 : Int32) : Option ((Int32 × Int32 × GI) ⊕ (Int32 × GI)) :=
  (f_X4_showRow gij111 35 0).bind fun q14 =>
  (g_ld q14 3 2 (q14 0 41)).bind fun v15 =>
  (some (g_pi q14 0 55 v15)).bind fun gi16 =>
  f_X4_needs_j137 x1j111 x2j111 gi16 x6j111
def f_X4_needs_j64 (x1j64 : Int32) (x2j64 : Int32) (gij64 : GI) (x4j64 : Int32) (t0j64 : Int32) : Option ((Int32 × Int32 × GI) ⊕ (Int32 × GI)) :=
  (f_X4_layRow gij64 x1j64 ((-1))).bind fun q8 =>
  (g_ld q8 35 3 0).bind fun v9 =>
  (g_ld q8 35 3 1).bind fun v10 =>
  (g_ld q8 35 3 2).bind fun v11 =>
  if t0j64 = 0 then
  (f_X4_needs_j137 x1j64 x2j64 q8 x4j64)
  else
  (if x4j64 < 0 then
  (f_X4_needs_j111 x1j64 x2j64 q8 ((v9 + v10) + v11))
  else
  (if x4j64 ≤ ((v9 + v10) + v11) then
  (f_X4_needs_j137 x1j64 x2j64 q8 x4j64)
  else
  (f_X4_needs_j111 x1j64 x2j64 q8 ((v9 + v10) + v11))))
def f_X4_needs_l40 (x1i40 : Int32) (x2i40 : Int32) (x3l40 : Int32) (x4l40 : Int32) (gil40 : GI) : Option ((Int32 × Int32 × GI) ⊕ (Int32 × GI)) :=
  if x3l40 = 0 then
  (some (.inr ((x4l40, gil40))))
  else
  ((f_X4_layRow gil40 x1i40 1).bind fun q6 =>
  (f_X4_growthOf q6 x1i40).bind fun q7 =>
  if q7.1 < x2i40 then
  (f_X4_needs_j64 x1i40 x2i40 q7.2 x4l40 0)
  else
  (f_X4_needs_j64 x1i40 x2i40 q7.2 x4l40 1))
def f_X4_needs_x40 (x4e40 : Int32) (gie40 : GI) : Option (Int32 × GI) :=
  some (x4e40, gie40)
def f_X4_needs (gi : GI) (x1 : Int32) (x2 : Int32) : Option (Int32 × GI) :=
  (some (g_pi gi 0 55 0)).bind fun gi1 =>
  (f_X4_isMan gi1 x1).bind fun q2 =>
  if q2 = 0 then
  (some ((-1), gi1))
  else
  ((f_X4_isIn gi1 x2 ((-20)) 20).bind fun q3 =>
  if q3 = 0 then
  (some ((-1), gi1))
  else
  ((f_X4_layMost gi1 x1).bind fun q4 =>
  (f_X4_noRow q4 ).bind fun q5 =>
  (g_loop g_K (fun (s : Int32 × Int32 × GI) => f_X4_needs_l40 x1 x2 s.1 s.2.1 s.2.2) (1, (-1), q5)).bind fun E40 => f_X4_needs_x40 E40.1 E40.2))
set_option maxHeartbeats 400000 in
theorem w_X4_needs (l : Launch) (D : va_G) (cA : Nat → ClassId) (ad : Nat → Nat) (gi : GI) (gl : GL) (x1 : Int32) (x2 : Int32) (r : Int32 × GI) (h : f_X4_needs gi x1 x2 = some r) (sz : Nat) : Met l yX4_needs (ws_ yX4_needs cX4_needs 7 (some .int)) ({ frames := 4, cells := 0, slots := 0, locals := 90 } : Room) (va_Pc [.ref (ad 0), .int x1, .int x2] (MPre D cA ad gi gl sz)) (va_Qi (fun v u => (v, u.1) = r ∧ u.2 = gl) (MPost D cA ad) (MA ad sz)) 0 0 (MA ad sz) := by
  refine mm_stI (by decide +kernel) rfl (Nat.le_of_ble_eq_true rfl) (fun p e s m args below meth c R Q A ls C hF hN B hret hL => ?_) sz
  have hx := C.1
  have hb := C.2.1
  have hL : lv_has ls 7 [(0, .ref (ad 0)), (1, .int x1), (2, .int x2)] := hL
  unfold f_X4_needs at h
  refine lv_aload_n hx hb dX4_needs_0 rfl (lv_at hL 0 rfl) ?_
  refine lv_iconst (v := 0) hx hb dX4_needs_1 (by decide) ?_
  refine mp_55 C B h dX4_needs_2 (fun gi1 h H locs B => ?_)
  refine lv_aload_n hx hb dX4_needs_5 rfl (lv_at hL 0 rfl) ?_
  refine lv_iload_n hx hb dX4_needs_6 rfl (lv_at hL 1 rfl) ?_
  refine k_X4_isMan C B (Nat.le_trans (Nat.le_of_ble_eq_true rfl) hF) (Nat.le_trans (Nat.le_of_ble_eq_true rfl) hN) hL.1 (Nat.le_of_ble_eq_true rfl) h dX4_needs_7 (fun q2 h H locs B => ?_)
  refine gg_if_eq hx hb 24 h dX4_needs_10 (by decide) (fun h => ?_) (fun h => ?_)
  · refine lv_iconst (v := (-1)) hx hb dX4_needs_24 (by decide) ?_
    exact hret _ _ _ _ _ _ _ ⟨Option.some.inj h, rfl⟩ B dX4_needs_25
  · refine lv_iload_n hx hb dX4_needs_13 rfl (lv_at hL 2 rfl) ?_
    refine lv_bipush (v := (-20)) hx hb dX4_needs_14 (by decide) ?_
    refine lv_bipush (v := 20) hx hb dX4_needs_16 (by decide) ?_
    refine k_X4_isIn C B (Nat.le_trans (Nat.le_of_ble_eq_true rfl) hF) (Nat.le_trans (Nat.le_of_ble_eq_true rfl) hN) hL.1 (Nat.le_of_ble_eq_true rfl) h dX4_needs_18 (fun q3 h H locs B => ?_)
    refine gg_if_ne hx hb 26 h dX4_needs_21 (by decide) (fun h => ?_) (fun h => ?_)
    · refine lv_aload_n hx hb dX4_needs_26 rfl (lv_at hL 0 rfl) ?_
      refine lv_iload_n hx hb dX4_needs_27 rfl (lv_at hL 1 rfl) ?_
      refine k_X4_layMost C B (Nat.le_trans (Nat.le_of_ble_eq_true rfl) hF) (Nat.le_trans (Nat.le_of_ble_eq_true rfl) hN) hL.1 (Nat.le_of_ble_eq_true rfl) h dX4_needs_28 (fun q4 h H locs B => ?_)
      refine lv_aload_n hx hb dX4_needs_31 rfl (lv_at hL 0 rfl) ?_
      refine k_X4_noRow C B (Nat.le_trans (Nat.le_of_ble_eq_true rfl) hF) (Nat.le_trans (Nat.le_of_ble_eq_true rfl) hN) hL.1 (Nat.le_of_ble_eq_true rfl) h dX4_needs_32 (fun q5 h H locs B => ?_)
      refine lv_iconst (v := 1) hx hb dX4_needs_35 (by decide) ?_
      refine lv_istore_n (lv' := [(3, .int 1), (0, .ref (ad 0)), (1, .int x1), (2, .int x2)]) hx hb dX4_needs_36 rfl hL (by decide) rfl (fun ls hL => ?_)
      refine lv_iconst (v := (-1)) hx hb dX4_needs_37 (by decide) ?_
      refine lv_istore (lv' := [(4, .int ((-1))), (3, .int 1), (0, .ref (ad 0)), (1, .int x1), (2, .int x2)]) hx hb dX4_needs_38 hL (by decide) rfl (fun ls hL => ?_)
      obtain ⟨E40, h840, h⟩ := g_ob h
      have kx40 : ∀ (x4e40 : Int32) (gie40 : GI) (H : Heap) (locs : List Loc) (ls : Array Slot), (x4e40, gie40) = E40 → MB D cA ad A s gie40 gl H locs → lv_has ls 7 [(4, .int x4e40)] → W p l e R s m args below meth c H locs 0 0 Q (F0 m 154 ls []) := by
        intro x4e40 gie40 H locs ls he B hL
        subst he
        have h : f_X4_needs_x40 x4e40 gie40 = some r := h
        unfold f_X4_needs_x40 at h
        refine lv_iload hx hb dX4_needs_154 (lv_at hL 0 rfl) ?_
        exact hret _ _ _ _ _ _ _ ⟨Option.some.inj h, rfl⟩ B dX4_needs_156
      have hl40 : ∀ (k : Nat) (x3l40 : Int32) (x4l40 : Int32) (gil40 : GI) (H : Heap) (locs : List Loc) (ls : Array Slot), g_loop k (fun (s : Int32 × Int32 × GI) => f_X4_needs_l40 x1 x2 s.1 s.2.1 s.2.2) (x3l40, x4l40, gil40) = some E40 → MB D cA ad A s gil40 gl H locs → lv_has ls 7 [(0, .ref (ad 0)), (1, .int x1), (2, .int x2), (3, .int x3l40), (4, .int x4l40)] → W p l e R s m args below meth c H locs 0 0 Q (F0 m 40 ls []) := by
        intro k
        induction k with
        | zero => intro x3l40 x4l40 gil40 H locs ls h; exact absurd h (fun z => g_loop_0 z)
        | succ k ih40 =>
          intro x3l40 x4l40 gil40 H locs ls h B hL
          obtain ⟨Z40, h, h940⟩ := g_loop_s h
          have h : f_X4_needs_l40 x1 x2 x3l40 x4l40 gil40 = some Z40 := h
          unfold f_X4_needs_l40 at h
          have hj137 : ∀ (gij137 : GI) (x4j137 : Int32) (H : Heap) (locs : List Loc) (ls : Array Slot), f_X4_needs_j137 x1 x2 gij137 x4j137 = some Z40 → MB D cA ad A s gij137 gl H locs → lv_has ls 7 [(0, .ref (ad 0)), (1, .int x1), (2, .int x2), (4, .int x4j137)] → W p l e R s m args below meth c H locs 0 0 Q (F0 m 137 ls []) := by
            intro gij137 x4j137 H locs ls h B hL
            unfold f_X4_needs_j137 at h
            refine lv_aload_n hx hb dX4_needs_137 rfl (lv_at hL 0 rfl) ?_
            refine lv_aload_n hx hb dX4_needs_138 rfl (lv_at hL 0 rfl) ?_
            refine mg_58 C B dX4_needs_139 ?_
            refine lv_aload_n hx hb dX4_needs_142 rfl (lv_at hL 0 rfl) ?_
            refine lv_iload_n hx hb dX4_needs_143 rfl (lv_at hL 1 rfl) ?_
            refine k_X4_leftOf C B (Nat.le_trans (Nat.le_of_ble_eq_true rfl) hF) (Nat.le_trans (Nat.le_of_ble_eq_true rfl) hN) hL.1 (Nat.le_of_ble_eq_true rfl) h dX4_needs_144 (fun q12 h H locs B => ?_)
            refine k_X4_nextRow C B (Nat.le_trans (Nat.le_of_ble_eq_true rfl) hF) (Nat.le_trans (Nat.le_of_ble_eq_true rfl) hN) hL.1 (Nat.le_of_ble_eq_true rfl) h dX4_needs_147 (fun q13 h H locs B => ?_)
            refine lv_istore_n (lv' := [(3, .int q13.1), (0, .ref (ad 0)), (1, .int x1), (2, .int x2), (4, .int x4j137)]) hx hb dX4_needs_150 rfl hL (by decide) rfl (fun ls hL => ?_)
            refine lv_goto (tgt := 40) hx hb dX4_needs_151 (by decide) ?_
            exact ih40 _ _ _ _ _ _ (g_next h h940) B (lv_sub hL [1, 2, 3, 0, 4] rfl)
          have hj111 : ∀ (gij111 : GI) (x6j111 : Int32) (H : Heap) (locs : List Loc) (ls : Array Slot), f_X4_needs_j111 x1 x2 gij111 x6j111 = some Z40 → MB D cA ad A s gij111 gl H locs → lv_has ls 7 [(0, .ref (ad 0)), (1, .int x1), (2, .int x2), (6, .int x6j111)] → W p l e R s m args below meth c H locs 0 0 Q (F0 m 111 ls []) := by
            intro gij111 x6j111 H locs ls h B hL
            unfold f_X4_needs_j111 at h
            refine lv_iload hx hb dX4_needs_111 (lv_at hL 3 rfl) ?_
            refine lv_istore (lv' := [(4, .int x6j111), (0, .ref (ad 0)), (1, .int x1), (2, .int x2), (6, .int x6j111)]) hx hb dX4_needs_113 hL (by decide) rfl (fun ls hL => ?_)
            refine lv_aload_n hx hb dX4_needs_115 rfl (lv_at hL 1 rfl) ?_
            refine lv_aload_n hx hb dX4_needs_116 rfl (lv_at hL 1 rfl) ?_
            refine mg_52 C B dX4_needs_117 ?_
            refine lv_iconst (v := 0) hx hb dX4_needs_120 (by decide) ?_
            refine k_X4_showRow C B (Nat.le_trans (Nat.le_of_ble_eq_true rfl) hF) (Nat.le_trans (Nat.le_of_ble_eq_true rfl) hN) hL.1 (Nat.le_of_ble_eq_true rfl) h dX4_needs_121 (fun q14 h H locs B => ?_)
            refine lv_aload_n hx hb dX4_needs_124 rfl (lv_at hL 1 rfl) ?_
            refine lv_aload_n hx hb dX4_needs_125 rfl (lv_at hL 1 rfl) ?_
            refine mg_11 C B dX4_needs_126 ?_
            refine lv_aload_n hx hb dX4_needs_129 rfl (lv_at hL 1 rfl) ?_
            refine mg_41 C B dX4_needs_130 ?_
            refine mm_iald C B (a := 3) (n := 2) (Nat.le_of_ble_eq_true rfl) rfl h dX4_needs_133 (fun v15 h => ?_)
            refine mp_55 C B h dX4_needs_134 (fun gi16 h H locs B => ?_)
            exact hj137 _ _ _ _ _ h B (lv_sub hL [1, 2, 3, 0] rfl)
          have hj64 : ∀ (gij64 : GI) (x4j64 : Int32) (t0j64 : Int32) (H : Heap) (locs : List Loc) (ls : Array Slot), f_X4_needs_j64 x1 x2 gij64 x4j64 t0j64 = some Z40 → MB D cA ad A s gij64 gl H locs → lv_has ls 7 [(0, .ref (ad 0)), (1, .int x1), (2, .int x2), (4, .int x4j64)] → W p l e R s m args below meth c H locs 0 0 Q (F0 m 64 ls [.int t0j64]) := by
            intro gij64 x4j64 t0j64 H locs ls h B hL
            unfold f_X4_needs_j64 at h
            refine lv_istore (lv' := [(5, .int t0j64), (0, .ref (ad 0)), (1, .int x1), (2, .int x2), (4, .int x4j64)]) hx hb dX4_needs_64 hL (by decide) rfl (fun ls hL => ?_)
            refine lv_aload_n hx hb dX4_needs_66 rfl (lv_at hL 1 rfl) ?_
            refine lv_iload_n hx hb dX4_needs_67 rfl (lv_at hL 2 rfl) ?_
            refine lv_iconst (v := (-1)) hx hb dX4_needs_68 (by decide) ?_
            refine k_X4_layRow C B (Nat.le_trans (Nat.le_of_ble_eq_true rfl) hF) (Nat.le_trans (Nat.le_of_ble_eq_true rfl) hN) hL.1 (Nat.le_of_ble_eq_true rfl) h dX4_needs_69 (fun q8 h H locs B => ?_)
            refine lv_aload_n hx hb dX4_needs_72 rfl (lv_at hL 1 rfl) ?_
            refine mg_52 C B dX4_needs_73 ?_
            refine lv_iconst (v := 0) hx hb dX4_needs_76 (by decide) ?_
            refine mm_iald C B (a := 35) (n := 3) (Nat.le_of_ble_eq_true rfl) rfl h dX4_needs_77 (fun v9 h => ?_)
            refine lv_aload_n hx hb dX4_needs_78 rfl (lv_at hL 1 rfl) ?_
            refine mg_52 C B dX4_needs_79 ?_
            refine lv_iconst (v := 1) hx hb dX4_needs_82 (by decide) ?_
            refine mm_iald C B (a := 35) (n := 3) (Nat.le_of_ble_eq_true rfl) rfl h dX4_needs_83 (fun v10 h => ?_)
            refine lv_iadd hx hb dX4_needs_84 ?_
            refine lv_aload_n hx hb dX4_needs_85 rfl (lv_at hL 1 rfl) ?_
            refine mg_52 C B dX4_needs_86 ?_
            refine lv_iconst (v := 2) hx hb dX4_needs_89 (by decide) ?_
            refine mm_iald C B (a := 35) (n := 3) (Nat.le_of_ble_eq_true rfl) rfl h dX4_needs_90 (fun v11 h => ?_)
            refine lv_iadd hx hb dX4_needs_91 ?_
            refine lv_istore (lv' := [(6, .int ((v9 + v10) + v11)), (5, .int t0j64), (0, .ref (ad 0)), (1, .int x1), (2, .int x2), (4, .int x4j64)]) hx hb dX4_needs_92 hL (by decide) rfl (fun ls hL => ?_)
            refine lv_iload hx hb dX4_needs_94 (lv_at hL 1 rfl) ?_
            refine gg_if_eq hx hb 137 h dX4_needs_96 (by decide) (fun h => ?_) (fun h => ?_)
            · exact hj137 _ _ _ _ _ h B (lv_sub hL [2, 3, 4, 5] rfl)
            · refine lv_iload hx hb dX4_needs_99 (lv_at hL 5 rfl) ?_
              refine gg_if_lt hx hb 111 h dX4_needs_101 (by decide) (fun h => ?_) (fun h => ?_)
              · exact hj111 _ _ _ _ _ h B (lv_sub hL [2, 3, 4, 0] rfl)
              · refine lv_iload hx hb dX4_needs_104 (lv_at hL 0 rfl) ?_
                refine lv_iload hx hb dX4_needs_106 (lv_at hL 5 rfl) ?_
                refine gg_icmp_ge hx hb 137 h dX4_needs_108 (by decide) (fun h => ?_) (fun h => ?_)
                · exact hj137 _ _ _ _ _ h B (lv_sub hL [2, 3, 4, 5] rfl)
                · exact hj111 _ _ _ _ _ h B (lv_sub hL [2, 3, 4, 0] rfl)
          refine lv_iload_n hx hb dX4_needs_40 rfl (lv_at hL 3 rfl) ?_
          refine gg_if_eq hx hb 154 h dX4_needs_41 (by decide) (fun h => ?_) (fun h => ?_)
          · exact kx40 _ _ _ _ _ (g_exit h h940) B (lv_sub hL [4] rfl)
          · refine lv_aload_n hx hb dX4_needs_44 rfl (lv_at hL 0 rfl) ?_
            refine lv_iload_n hx hb dX4_needs_45 rfl (lv_at hL 1 rfl) ?_
            refine lv_iconst (v := 1) hx hb dX4_needs_46 (by decide) ?_
            refine k_X4_layRow C B (Nat.le_trans (Nat.le_of_ble_eq_true rfl) hF) (Nat.le_trans (Nat.le_of_ble_eq_true rfl) hN) hL.1 (Nat.le_of_ble_eq_true rfl) h dX4_needs_47 (fun q6 h H locs B => ?_)
            refine lv_aload_n hx hb dX4_needs_50 rfl (lv_at hL 0 rfl) ?_
            refine lv_iload_n hx hb dX4_needs_51 rfl (lv_at hL 1 rfl) ?_
            refine k_X4_growthOf C B (Nat.le_trans (Nat.le_of_ble_eq_true rfl) hF) (Nat.le_trans (Nat.le_of_ble_eq_true rfl) hN) hL.1 (Nat.le_of_ble_eq_true rfl) h dX4_needs_52 (fun q7 h H locs B => ?_)
            refine lv_iload_n hx hb dX4_needs_55 rfl (lv_at hL 2 rfl) ?_
            refine gg_icmp_lt hx hb 63 h dX4_needs_56 (by decide) (fun h => ?_) (fun h => ?_)
            · refine lv_iconst (v := 0) hx hb dX4_needs_63 (by decide) ?_
              exact hj64 _ _ _ _ _ _ h B (lv_sub hL [0, 1, 2, 4] rfl)
            · refine lv_iconst (v := 1) hx hb dX4_needs_59 (by decide) ?_
              refine lv_goto (tgt := 64) hx hb dX4_needs_60 (by decide) ?_
              exact hj64 _ _ _ _ _ _ h B (lv_sub hL [0, 1, 2, 4] rfl)
      exact hl40 g_K _ _ _ _ _ _ h840 B (lv_sub hL [2, 3, 4, 1, 0] rfl)
    · refine lv_iconst (v := (-1)) hx hb dX4_needs_24 (by decide) ?_
      exact hret _ _ _ _ _ _ _ ⟨Option.some.inj h, rfl⟩ B dX4_needs_25
def f_X4_areTwo (gi : GI) (x1 : Int32) (x2 : Int32) : Option (Int32) :=
  (f_X4_isMan gi x1).bind fun q1 =>
  if q1 = 0 then
  (some 0)
  else
  ((f_X4_isMan gi x2).bind fun q2 =>
  if q2 = 0 then
  (some 0)
  else
  (if x1 = x2 then
  (some 0)
  else
  (some 1)))
set_option maxHeartbeats 400000 in
theorem w_X4_areTwo (l : Launch) (D : va_G) (cA : Nat → ClassId) (ad : Nat → Nat) (gi : GI) (gl : GL) (x1 : Int32) (x2 : Int32) (r : Int32) (h : f_X4_areTwo gi x1 x2 = some r) (sz : Nat) : Met l yX4_areTwo (ws_ yX4_areTwo cX4_areTwo 3 (some .boolean)) ({ frames := 2, cells := 0, slots := 0, locals := 43 } : Room) (va_Pc [.ref (ad 0), .int x1, .int x2] (MPre D cA ad gi gl sz)) (va_Qi (fun v u => v = r ∧ u.1 = gi ∧ u.2 = gl) (MPost D cA ad) (MA ad sz)) 0 0 (MA ad sz) := by
  refine mm_stZ (by decide +kernel) rfl (Nat.le_of_ble_eq_true rfl) (fun p e s m args below meth c R Q A ls C hF hN B hret hL => ?_) sz
  have hx := C.1
  have hb := C.2.1
  have hL : lv_has ls 3 [(0, .ref (ad 0)), (1, .int x1), (2, .int x2)] := hL
  unfold f_X4_areTwo at h
  refine lv_aload_n hx hb dX4_areTwo_0 rfl (lv_at hL 0 rfl) ?_
  refine lv_iload_n hx hb dX4_areTwo_1 rfl (lv_at hL 1 rfl) ?_
  refine k_X4_isMan C B (Nat.le_trans (Nat.le_of_ble_eq_true rfl) hF) (Nat.le_trans (Nat.le_of_ble_eq_true rfl) hN) hL.1 (Nat.le_of_ble_eq_true rfl) h dX4_areTwo_2 (fun q1 h H locs B => ?_)
  refine gg_if_eq hx hb 25 h dX4_areTwo_5 (by decide) (fun h => ?_) (fun h => ?_)
  · refine lv_iconst (v := 0) hx hb dX4_areTwo_25 (by decide) ?_
    exact hret _ _ _ _ _ _ _ ⟨Option.some.inj h, rfl, rfl⟩ (Or.inl rfl) B dX4_areTwo_26
  · refine lv_aload_n hx hb dX4_areTwo_8 rfl (lv_at hL 0 rfl) ?_
    refine lv_iload_n hx hb dX4_areTwo_9 rfl (lv_at hL 2 rfl) ?_
    refine k_X4_isMan C B (Nat.le_trans (Nat.le_of_ble_eq_true rfl) hF) (Nat.le_trans (Nat.le_of_ble_eq_true rfl) hN) hL.1 (Nat.le_of_ble_eq_true rfl) h dX4_areTwo_10 (fun q2 h H locs B => ?_)
    refine gg_if_eq hx hb 25 h dX4_areTwo_13 (by decide) (fun h => ?_) (fun h => ?_)
    · refine lv_iconst (v := 0) hx hb dX4_areTwo_25 (by decide) ?_
      exact hret _ _ _ _ _ _ _ ⟨Option.some.inj h, rfl, rfl⟩ (Or.inl rfl) B dX4_areTwo_26
    · refine lv_iload_n hx hb dX4_areTwo_16 rfl (lv_at hL 1 rfl) ?_
      refine lv_iload_n hx hb dX4_areTwo_17 rfl (lv_at hL 2 rfl) ?_
      refine gg_icmp_eq hx hb 25 h dX4_areTwo_18 (by decide) (fun h => ?_) (fun h => ?_)
      · refine lv_iconst (v := 0) hx hb dX4_areTwo_25 (by decide) ?_
        exact hret _ _ _ _ _ _ _ ⟨Option.some.inj h, rfl, rfl⟩ (Or.inl rfl) B dX4_areTwo_26
      · refine lv_iconst (v := 1) hx hb dX4_areTwo_21 (by decide) ?_
        refine lv_goto (tgt := 26) hx hb dX4_areTwo_22 (by decide) ?_
        exact hret _ _ _ _ _ _ _ ⟨Option.some.inj h, rfl, rfl⟩ (Or.inr rfl) B dX4_areTwo_26
theorem k_X4_areTwo {p : Program} {l : Launch} {e : Env} {R : Room} {s : State} {m : MethodId} {args : Array Value} {below : List Frame} {meth : Method} {c : Code} {H : Heap} {locs : List Loc} {Q : State → Prop} {pc : Nat} {ls : Array Slot} {rest : List Value} {cc : ByteArray} {nL : Nat} {D : va_G} {cA : Nat → ClassId} {ad : Nat → Nat} {A : Nat → Prop} {gi : GI} {gl : GL} {α : Type} {r : α} {x1 : Int32} {x2 : Int32} {ff : Int32 → Option α} (C : CallFix p m c cc nL s args lw_all RX4) (B : MB D cA ad A s gi gl H locs) (hF : 3 ≤ R.frames) (hN : 65 ≤ R.locals) (hs : ls.size = nL) (hw : (rest.map fun v => v.category).sum ≤ 8) (h : (f_X4_areTwo gi x1 x2).bind ff = some r) (hdg : decode cc pc = .ok (.invokevirtual 516, 3)) (kk : ∀ q, ff q = some r → ∀ (H' : Heap) (locs' : List Loc), MB D cA ad A s gi gl H' locs' → W p l e R s m args below meth c H' locs' 0 0 Q (F0 m (pc + 3) ls (.int q :: rest))) : W p l e R s m args below meth c H locs 0 0 Q (F0 m pc ls (.int x2 :: .int x1 :: .ref (ad 0) :: rest)) := by
  obtain ⟨q, h1, h2⟩ := g_ob h
  refine mm_cVI (As := [.int x1, .int x2]) (rest := rest) (n := 2) C B (fun sz => w_X4_areTwo l D cA ad gi gl x1 x2 q h1 sz) q2304 q2306 qs125 q150 q2307 (by decide +kernel) ⟨hF, hN⟩ rfl hs hw hdg (fun v u H9 locs9 hp B9 => ?_)
  obtain ⟨e1, e2, e3⟩ := hp
  rw [e2] at B9
  rw [e3] at B9
  subst e1
  exact kk _ h2 H9 locs9 B9
def f_X4_layOther_l3 (x1i3 : Int32) (x2i3 : Int32) (x3i3 : Int32) (x4l3 : Int32) (gil3 : GI) : Option ((Int32 × GI) ⊕ (GI)) :=
  if 3 ≤ x4l3 then
  (some (.inr gil3))
  else
  ((g_ld gil3 40 3 x4l3).bind fun v1 =>
  (g_ld gil3 39 3 x4l3).bind fun v2 =>
  (g_st gil3 41 3 x4l3 (v1 - v2)).bind fun gi3 =>
  some (.inl ((x4l3 + 1, gi3))))
def f_X4_layOther_j170 (x1j170 : Int32) (x2j170 : Int32) (x3j170 : Int32) (gij170 : GI) : Option ((Int32 × GI) ⊕ (GI)) :=
  (f_X4_leftOf gij170 x2j170).bind fun q17 =>
  (f_X4_lesser gij170 3 q17).bind fun q18 =>
  (f_X4_nextRow gij170 41 q18).bind fun q19 =>
  some (.inl ((q19.1, q19.2)))
def f_X4_layOther_j132 (x1j132 : Int32) (x2j132 : Int32) (x3j132 : Int32) (gij132 : GI) (x5j132 : Int32) (x6j132 : Int32) : Option ((Int32 × GI) ⊕ (GI)) :=
  (some (g_pi gij132 0 63 x5j132)).bind fun gi12 =>
  (some (g_pi gi12 0 62 x6j132)).bind fun gi13 =>
  (f_X4_showRow gi13 39 0).bind fun q14 =>
  (g_ld q14 3 2 (q14 0 41)).bind fun v15 =>
  (f_X4_showRow q14 35 v15).bind fun q16 =>
  f_X4_layOther_j170 x1j132 x2j132 x3j132 q16
def f_X4_layOther_l44 (x1i44 : Int32) (x2i44 : Int32) (x3i44 : Int32) (x4l44 : Int32) (gil44 : GI) : Option ((Int32 × GI) ⊕ (GI)) :=
  if x4l44 = 0 then
  (some (.inr gil44))
  else
  ((f_X4_layRow gil44 x2i44 1).bind fun q5 =>
  (f_X4_growthOf q5 x1i44).bind fun q6 =>
  (f_X4_growthOf q6.2 x2i44).bind fun q7 =>
  (f_X4_layRow q7.2 x2i44 ((-1))).bind fun q8 =>
  (g_ld q8 35 3 0).bind fun v9 =>
  (g_ld q8 35 3 1).bind fun v10 =>
  (g_ld q8 35 3 2).bind fun v11 =>
  if (q8 0 62) < 0 then
  (f_X4_layOther_j132 x1i44 x2i44 x3i44 q8 (q6.1 + q7.1) (((x3i44 + v9) + v10) + v11))
  else
  (if (q8 0 63) < (q6.1 + q7.1) then
  (f_X4_layOther_j132 x1i44 x2i44 x3i44 q8 (q6.1 + q7.1) (((x3i44 + v9) + v10) + v11))
  else
  (if (q6.1 + q7.1) = (q8 0 63) then
  (if (q8 0 62) ≤ (((x3i44 + v9) + v10) + v11) then
  (f_X4_layOther_j170 x1i44 x2i44 x3i44 q8)
  else
  (f_X4_layOther_j132 x1i44 x2i44 x3i44 q8 (q6.1 + q7.1) (((x3i44 + v9) + v10) + v11)))
  else
  (f_X4_layOther_j170 x1i44 x2i44 x3i44 q8))))
def f_X4_layOther_x44 (gie44 : GI) : Option (GI) :=
  some gie44
def f_X4_layOther_x3 (x1y3 : Int32) (x2y3 : Int32) (x3y3 : Int32) (gie3 : GI) : Option (GI) :=
  (f_X4_noRow gie3 ).bind fun q4 =>
  (g_loop g_K (fun (s : Int32 × GI) => f_X4_layOther_l44 x1y3 x2y3 x3y3 s.1 s.2) (1, q4)).bind fun E44 => f_X4_layOther_x44 E44
def f_X4_layOther (gi : GI) (x1 : Int32) (x2 : Int32) (x3 : Int32) : Option (GI) :=
  (g_loop g_K (fun (s : Int32 × GI) => f_X4_layOther_l3 x1 x2 x3 s.1 s.2) (0, gi)).bind fun E3 => f_X4_layOther_x3 x1 x2 x3 E3
set_option maxHeartbeats 400000 in
theorem w_X4_layOther (l : Launch) (D : va_G) (cA : Nat → ClassId) (ad : Nat → Nat) (gi : GI) (gl : GL) (x1 : Int32) (x2 : Int32) (x3 : Int32) (r : GI) (h : f_X4_layOther gi x1 x2 x3 = some r) (sz : Nat) : Met l yX4_layOther (ws_ yX4_layOther cX4_layOther 7 (none)) ({ frames := 4, cells := 0, slots := 0, locals := 90 } : Room) (va_Pc [.ref (ad 0), .int x1, .int x2, .int x3] (MPre D cA ad gi gl sz)) (va_Qv (fun u => u.1 = r ∧ u.2 = gl) (MPost D cA ad) (MA ad sz)) 0 0 (MA ad sz) := by
  refine mm_stV (by decide +kernel) rfl (Nat.le_of_ble_eq_true rfl) (fun p e s m args below meth c R Q A ls C hF hN B hret hL => ?_) sz
  have hx := C.1
  have hb := C.2.1
  have hL : lv_has ls 7 [(0, .ref (ad 0)), (1, .int x1), (2, .int x2), (3, .int x3)] := hL
  unfold f_X4_layOther at h
  refine lv_iconst (v := 0) hx hb dX4_layOther_0 (by decide) ?_
  refine lv_istore (lv' := [(4, .int 0), (0, .ref (ad 0)), (1, .int x1), (2, .int x2), (3, .int x3)]) hx hb dX4_layOther_1 hL (by decide) rfl (fun ls hL => ?_)
  obtain ⟨E3, h83, h⟩ := g_ob h
  have kx3 : ∀ (gie3 : GI) (H : Heap) (locs : List Loc) (ls : Array Slot), gie3 = E3 → MB D cA ad A s gie3 gl H locs → lv_has ls 7 [(0, .ref (ad 0)), (1, .int x1), (2, .int x2), (3, .int x3)] → W p l e R s m args below meth c H locs 0 0 Q (F0 m 37 ls []) := by
    intro gie3 H locs ls he B hL
    subst he
    have h : f_X4_layOther_x3 x1 x2 x3 gie3 = some r := h
    unfold f_X4_layOther_x3 at h
    refine lv_aload_n hx hb dX4_layOther_37 rfl (lv_at hL 0 rfl) ?_
    refine k_X4_noRow C B (Nat.le_trans (Nat.le_of_ble_eq_true rfl) hF) (Nat.le_trans (Nat.le_of_ble_eq_true rfl) hN) hL.1 (Nat.le_of_ble_eq_true rfl) h dX4_layOther_38 (fun q4 h H locs B => ?_)
    refine lv_iconst (v := 1) hx hb dX4_layOther_41 (by decide) ?_
    refine lv_istore (lv' := [(4, .int 1), (0, .ref (ad 0)), (1, .int x1), (2, .int x2), (3, .int x3)]) hx hb dX4_layOther_42 hL (by decide) rfl (fun ls hL => ?_)
    obtain ⟨E44, h844, h⟩ := g_ob h
    have kx44 : ∀ (gie44 : GI) (H : Heap) (locs : List Loc) (ls : Array Slot), gie44 = E44 → MB D cA ad A s gie44 gl H locs → lv_has ls 7 [] → W p l e R s m args below meth c H locs 0 0 Q (F0 m 192 ls []) := by
      intro gie44 H locs ls he B hL
      subst he
      have h : f_X4_layOther_x44 gie44 = some r := h
      unfold f_X4_layOther_x44 at h
      exact hret _ _ _ _ _ _ ⟨Option.some.inj h, rfl⟩ B dX4_layOther_192
    have hl44 : ∀ (k : Nat) (x4l44 : Int32) (gil44 : GI) (H : Heap) (locs : List Loc) (ls : Array Slot), g_loop k (fun (s : Int32 × GI) => f_X4_layOther_l44 x1 x2 x3 s.1 s.2) (x4l44, gil44) = some E44 → MB D cA ad A s gil44 gl H locs → lv_has ls 7 [(0, .ref (ad 0)), (1, .int x1), (2, .int x2), (3, .int x3), (4, .int x4l44)] → W p l e R s m args below meth c H locs 0 0 Q (F0 m 44 ls []) := by
      intro k
      induction k with
      | zero => intro x4l44 gil44 H locs ls h; exact absurd h (fun z => g_loop_0 z)
      | succ k ih44 =>
        intro x4l44 gil44 H locs ls h B hL
        obtain ⟨Z44, h, h944⟩ := g_loop_s h
        have h : f_X4_layOther_l44 x1 x2 x3 x4l44 gil44 = some Z44 := h
        unfold f_X4_layOther_l44 at h
        have hj170 : ∀ (gij170 : GI) (H : Heap) (locs : List Loc) (ls : Array Slot), f_X4_layOther_j170 x1 x2 x3 gij170 = some Z44 → MB D cA ad A s gij170 gl H locs → lv_has ls 7 [(0, .ref (ad 0)), (1, .int x1), (2, .int x2), (3, .int x3)] → W p l e R s m args below meth c H locs 0 0 Q (F0 m 170 ls []) := by
          intro gij170 H locs ls h B hL
          unfold f_X4_layOther_j170 at h
          refine lv_aload_n hx hb dX4_layOther_170 rfl (lv_at hL 0 rfl) ?_
          refine lv_aload_n hx hb dX4_layOther_171 rfl (lv_at hL 0 rfl) ?_
          refine mg_61 C B dX4_layOther_172 ?_
          refine lv_iconst (v := 3) hx hb dX4_layOther_175 (by decide) ?_
          refine lv_aload_n hx hb dX4_layOther_176 rfl (lv_at hL 0 rfl) ?_
          refine lv_iload_n hx hb dX4_layOther_177 rfl (lv_at hL 2 rfl) ?_
          refine k_X4_leftOf C B (Nat.le_trans (Nat.le_of_ble_eq_true rfl) hF) (Nat.le_trans (Nat.le_of_ble_eq_true rfl) hN) hL.1 (Nat.le_of_ble_eq_true rfl) h dX4_layOther_178 (fun q17 h H locs B => ?_)
          refine k_X4_lesser C B (Nat.le_trans (Nat.le_of_ble_eq_true rfl) hF) (Nat.le_trans (Nat.le_of_ble_eq_true rfl) hN) hL.1 (Nat.le_of_ble_eq_true rfl) h dX4_layOther_181 (fun q18 h H locs B => ?_)
          refine k_X4_nextRow C B (Nat.le_trans (Nat.le_of_ble_eq_true rfl) hF) (Nat.le_trans (Nat.le_of_ble_eq_true rfl) hN) hL.1 (Nat.le_of_ble_eq_true rfl) h dX4_layOther_184 (fun q19 h H locs B => ?_)
          refine lv_istore (lv' := [(4, .int q19.1), (0, .ref (ad 0)), (1, .int x1), (2, .int x2), (3, .int x3)]) hx hb dX4_layOther_187 hL (by decide) rfl (fun ls hL => ?_)
          refine lv_goto (tgt := 44) hx hb dX4_layOther_189 (by decide) ?_
          exact ih44 _ _ _ _ _ (g_next h h944) B (lv_sub hL [1, 2, 3, 4, 0] rfl)
        have hj132 : ∀ (gij132 : GI) (x5j132 : Int32) (x6j132 : Int32) (H : Heap) (locs : List Loc) (ls : Array Slot), f_X4_layOther_j132 x1 x2 x3 gij132 x5j132 x6j132 = some Z44 → MB D cA ad A s gij132 gl H locs → lv_has ls 7 [(0, .ref (ad 0)), (1, .int x1), (2, .int x2), (3, .int x3), (5, .int x5j132), (6, .int x6j132)] → W p l e R s m args below meth c H locs 0 0 Q (F0 m 132 ls []) := by
          intro gij132 x5j132 x6j132 H locs ls h B hL
          unfold f_X4_layOther_j132 at h
          refine lv_aload_n hx hb dX4_layOther_132 rfl (lv_at hL 0 rfl) ?_
          refine lv_iload hx hb dX4_layOther_133 (lv_at hL 4 rfl) ?_
          refine mp_63 C B h dX4_layOther_135 (fun gi12 h H locs B => ?_)
          refine lv_aload_n hx hb dX4_layOther_138 rfl (lv_at hL 0 rfl) ?_
          refine lv_iload hx hb dX4_layOther_139 (lv_at hL 5 rfl) ?_
          refine mp_62 C B h dX4_layOther_141 (fun gi13 h H locs B => ?_)
          refine lv_aload_n hx hb dX4_layOther_144 rfl (lv_at hL 0 rfl) ?_
          refine lv_aload_n hx hb dX4_layOther_145 rfl (lv_at hL 0 rfl) ?_
          refine mg_59 C B dX4_layOther_146 ?_
          refine lv_iconst (v := 0) hx hb dX4_layOther_149 (by decide) ?_
          refine k_X4_showRow C B (Nat.le_trans (Nat.le_of_ble_eq_true rfl) hF) (Nat.le_trans (Nat.le_of_ble_eq_true rfl) hN) hL.1 (Nat.le_of_ble_eq_true rfl) h dX4_layOther_150 (fun q14 h H locs B => ?_)
          refine lv_aload_n hx hb dX4_layOther_153 rfl (lv_at hL 0 rfl) ?_
          refine lv_aload_n hx hb dX4_layOther_154 rfl (lv_at hL 0 rfl) ?_
          refine mg_52 C B dX4_layOther_155 ?_
          refine lv_aload_n hx hb dX4_layOther_158 rfl (lv_at hL 0 rfl) ?_
          refine mg_11 C B dX4_layOther_159 ?_
          refine lv_aload_n hx hb dX4_layOther_162 rfl (lv_at hL 0 rfl) ?_
          refine mg_41 C B dX4_layOther_163 ?_
          refine mm_iald C B (a := 3) (n := 2) (Nat.le_of_ble_eq_true rfl) rfl h dX4_layOther_166 (fun v15 h => ?_)
          refine k_X4_showRow C B (Nat.le_trans (Nat.le_of_ble_eq_true rfl) hF) (Nat.le_trans (Nat.le_of_ble_eq_true rfl) hN) hL.1 (Nat.le_of_ble_eq_true rfl) h dX4_layOther_167 (fun q16 h H locs B => ?_)
          exact hj170 _ _ _ _ h B (lv_sub hL [0, 1, 2, 3] rfl)
        refine lv_iload hx hb dX4_layOther_44 (lv_at hL 4 rfl) ?_
        refine gg_if_eq hx hb 192 h dX4_layOther_46 (by decide) (fun h => ?_) (fun h => ?_)
        · exact kx44 _ _ _ _ (g_exit h h944) B (lv_sub hL [] rfl)
        · refine lv_aload_n hx hb dX4_layOther_49 rfl (lv_at hL 0 rfl) ?_
          refine lv_iload_n hx hb dX4_layOther_50 rfl (lv_at hL 2 rfl) ?_
          refine lv_iconst (v := 1) hx hb dX4_layOther_51 (by decide) ?_
          refine k_X4_layRow C B (Nat.le_trans (Nat.le_of_ble_eq_true rfl) hF) (Nat.le_trans (Nat.le_of_ble_eq_true rfl) hN) hL.1 (Nat.le_of_ble_eq_true rfl) h dX4_layOther_52 (fun q5 h H locs B => ?_)
          refine lv_aload_n hx hb dX4_layOther_55 rfl (lv_at hL 0 rfl) ?_
          refine lv_iload_n hx hb dX4_layOther_56 rfl (lv_at hL 1 rfl) ?_
          refine k_X4_growthOf C B (Nat.le_trans (Nat.le_of_ble_eq_true rfl) hF) (Nat.le_trans (Nat.le_of_ble_eq_true rfl) hN) hL.1 (Nat.le_of_ble_eq_true rfl) h dX4_layOther_57 (fun q6 h H locs B => ?_)
          refine lv_aload_n hx hb dX4_layOther_60 rfl (lv_at hL 0 rfl) ?_
          refine lv_iload_n hx hb dX4_layOther_61 rfl (lv_at hL 2 rfl) ?_
          refine k_X4_growthOf C B (Nat.le_trans (Nat.le_of_ble_eq_true rfl) hF) (Nat.le_trans (Nat.le_of_ble_eq_true rfl) hN) hL.1 (Nat.le_of_ble_eq_true rfl) h dX4_layOther_62 (fun q7 h H locs B => ?_)
          refine lv_iadd hx hb dX4_layOther_65 ?_
          refine lv_istore (lv' := [(5, .int (q6.1 + q7.1)), (0, .ref (ad 0)), (1, .int x1), (2, .int x2), (3, .int x3), (4, .int x4l44)]) hx hb dX4_layOther_66 hL (by decide) rfl (fun ls hL => ?_)
          refine lv_aload_n hx hb dX4_layOther_68 rfl (lv_at hL 1 rfl) ?_
          refine lv_iload_n hx hb dX4_layOther_69 rfl (lv_at hL 3 rfl) ?_
          refine lv_iconst (v := (-1)) hx hb dX4_layOther_70 (by decide) ?_
          refine k_X4_layRow C B (Nat.le_trans (Nat.le_of_ble_eq_true rfl) hF) (Nat.le_trans (Nat.le_of_ble_eq_true rfl) hN) hL.1 (Nat.le_of_ble_eq_true rfl) h dX4_layOther_71 (fun q8 h H locs B => ?_)
          refine lv_iload_n hx hb dX4_layOther_74 rfl (lv_at hL 4 rfl) ?_
          refine lv_aload_n hx hb dX4_layOther_75 rfl (lv_at hL 1 rfl) ?_
          refine mg_52 C B dX4_layOther_76 ?_
          refine lv_iconst (v := 0) hx hb dX4_layOther_79 (by decide) ?_
          refine mm_iald C B (a := 35) (n := 3) (Nat.le_of_ble_eq_true rfl) rfl h dX4_layOther_80 (fun v9 h => ?_)
          refine lv_iadd hx hb dX4_layOther_81 ?_
          refine lv_aload_n hx hb dX4_layOther_82 rfl (lv_at hL 1 rfl) ?_
          refine mg_52 C B dX4_layOther_83 ?_
          refine lv_iconst (v := 1) hx hb dX4_layOther_86 (by decide) ?_
          refine mm_iald C B (a := 35) (n := 3) (Nat.le_of_ble_eq_true rfl) rfl h dX4_layOther_87 (fun v10 h => ?_)
          refine lv_iadd hx hb dX4_layOther_88 ?_
          refine lv_aload_n hx hb dX4_layOther_89 rfl (lv_at hL 1 rfl) ?_
          refine mg_52 C B dX4_layOther_90 ?_
          refine lv_iconst (v := 2) hx hb dX4_layOther_93 (by decide) ?_
          refine mm_iald C B (a := 35) (n := 3) (Nat.le_of_ble_eq_true rfl) rfl h dX4_layOther_94 (fun v11 h => ?_)
          refine lv_iadd hx hb dX4_layOther_95 ?_
          refine lv_istore (lv' := [(6, .int (((x3 + v9) + v10) + v11)), (5, .int (q6.1 + q7.1)), (0, .ref (ad 0)), (1, .int x1), (2, .int x2), (3, .int x3), (4, .int x4l44)]) hx hb dX4_layOther_96 hL (by decide) rfl (fun ls hL => ?_)
          refine lv_aload_n hx hb dX4_layOther_98 rfl (lv_at hL 2 rfl) ?_
          refine mg_62 C B dX4_layOther_99 ?_
          refine gg_if_lt hx hb 132 h dX4_layOther_102 (by decide) (fun h => ?_) (fun h => ?_)
          · exact hj132 _ _ _ _ _ _ h B (lv_sub hL [2, 3, 4, 5, 1, 0] rfl)
          · refine lv_iload hx hb dX4_layOther_105 (lv_at hL 1 rfl) ?_
            refine lv_aload_n hx hb dX4_layOther_107 rfl (lv_at hL 2 rfl) ?_
            refine mg_63 C B dX4_layOther_108 ?_
            refine gg_icmp_gt hx hb 132 h dX4_layOther_111 (by decide) (fun h => ?_) (fun h => ?_)
            · exact hj132 _ _ _ _ _ _ h B (lv_sub hL [2, 3, 4, 5, 1, 0] rfl)
            · refine lv_iload hx hb dX4_layOther_114 (lv_at hL 1 rfl) ?_
              refine lv_aload_n hx hb dX4_layOther_116 rfl (lv_at hL 2 rfl) ?_
              refine mg_63 C B dX4_layOther_117 ?_
              refine gg_icmp_ne hx hb 170 h dX4_layOther_120 (by decide) (fun h => ?_) (fun h => ?_)
              · exact hj170 _ _ _ _ h B (lv_sub hL [2, 3, 4, 5] rfl)
              · refine lv_iload hx hb dX4_layOther_123 (lv_at hL 0 rfl) ?_
                refine lv_aload_n hx hb dX4_layOther_125 rfl (lv_at hL 2 rfl) ?_
                refine mg_62 C B dX4_layOther_126 ?_
                refine gg_icmp_ge hx hb 170 h dX4_layOther_129 (by decide) (fun h => ?_) (fun h => ?_)
                · exact hj170 _ _ _ _ h B (lv_sub hL [2, 3, 4, 5] rfl)
                · exact hj132 _ _ _ _ _ _ h B (lv_sub hL [2, 3, 4, 5, 1, 0] rfl)
    exact hl44 g_K _ _ _ _ _ h844 B (lv_sub hL [1, 2, 3, 4, 0] rfl)
  have hl3 : ∀ (k : Nat) (x4l3 : Int32) (gil3 : GI) (H : Heap) (locs : List Loc) (ls : Array Slot), g_loop k (fun (s : Int32 × GI) => f_X4_layOther_l3 x1 x2 x3 s.1 s.2) (x4l3, gil3) = some E3 → MB D cA ad A s gil3 gl H locs → lv_has ls 7 [(0, .ref (ad 0)), (1, .int x1), (2, .int x2), (3, .int x3), (4, .int x4l3)] → W p l e R s m args below meth c H locs 0 0 Q (F0 m 3 ls []) := by
    intro k
    induction k with
    | zero => intro x4l3 gil3 H locs ls h; exact absurd h (fun z => g_loop_0 z)
    | succ k ih3 =>
      intro x4l3 gil3 H locs ls h B hL
      obtain ⟨Z3, h, h93⟩ := g_loop_s h
      have h : f_X4_layOther_l3 x1 x2 x3 x4l3 gil3 = some Z3 := h
      unfold f_X4_layOther_l3 at h
      refine lv_iload hx hb dX4_layOther_3 (lv_at hL 4 rfl) ?_
      refine lv_iconst (v := 3) hx hb dX4_layOther_5 (by decide) ?_
      refine gg_icmp_ge hx hb 37 h dX4_layOther_6 (by decide) (fun h => ?_) (fun h => ?_)
      · exact kx3 _ _ _ _ (g_exit h h93) B (lv_sub hL [0, 1, 2, 3] rfl)
      · refine lv_aload_n hx hb dX4_layOther_9 rfl (lv_at hL 0 rfl) ?_
        refine mg_61 C B dX4_layOther_10 ?_
        refine lv_iload hx hb dX4_layOther_13 (lv_at hL 4 rfl) ?_
        refine lv_aload_n hx hb dX4_layOther_15 rfl (lv_at hL 0 rfl) ?_
        refine mg_60 C B dX4_layOther_16 ?_
        refine lv_iload hx hb dX4_layOther_19 (lv_at hL 4 rfl) ?_
        refine mm_iald C B (a := 40) (n := 3) (Nat.le_of_ble_eq_true rfl) rfl h dX4_layOther_21 (fun v1 h => ?_)
        refine lv_aload_n hx hb dX4_layOther_22 rfl (lv_at hL 0 rfl) ?_
        refine mg_59 C B dX4_layOther_23 ?_
        refine lv_iload hx hb dX4_layOther_26 (lv_at hL 4 rfl) ?_
        refine mm_iald C B (a := 39) (n := 3) (Nat.le_of_ble_eq_true rfl) rfl h dX4_layOther_28 (fun v2 h => ?_)
        refine lv_isub hx hb dX4_layOther_29 ?_
        refine mm_iast C B (a := 41) (n := 3) (Nat.le_of_ble_eq_true rfl) rfl h dX4_layOther_30 (fun gi3 h H locs B => ?_)
        refine lv_iinc (v := x4l3 + 1) (lv' := [(4, .int (x4l3 + 1)), (0, .ref (ad 0)), (1, .int x1), (2, .int x2), (3, .int x3)]) hx hb dX4_layOther_31 hL (k := 4) rfl rfl (by decide) rfl (fun ls hL => ?_)
        refine lv_goto (tgt := 3) hx hb dX4_layOther_34 (by decide) ?_
        exact ih3 _ _ _ _ _ (g_next h h93) B (lv_sub hL [1, 2, 3, 4, 0] rfl)
  exact hl3 g_K _ _ _ _ _ h83 B (lv_sub hL [1, 2, 3, 4, 0] rfl)
theorem k_X4_layOther {p : Program} {l : Launch} {e : Env} {R : Room} {s : State} {m : MethodId} {args : Array Value} {below : List Frame} {meth : Method} {c : Code} {H : Heap} {locs : List Loc} {Q : State → Prop} {pc : Nat} {ls : Array Slot} {rest : List Value} {cc : ByteArray} {nL : Nat} {D : va_G} {cA : Nat → ClassId} {ad : Nat → Nat} {A : Nat → Prop} {gi : GI} {gl : GL} {α : Type} {r : α} {x1 : Int32} {x2 : Int32} {x3 : Int32} {ff : GI → Option α} (C : CallFix p m c cc nL s args lw_all RX4) (B : MB D cA ad A s gi gl H locs) (hF : 5 ≤ R.frames) (hN : 116 ≤ R.locals) (hs : ls.size = nL) (hw : (rest.map fun v => v.category).sum ≤ 8) (h : (f_X4_layOther gi x1 x2 x3).bind ff = some r) (hdg : decode cc pc = .ok (.invokevirtual 513, 3)) (kk : ∀ q, ff q = some r → ∀ (H' : Heap) (locs' : List Loc), MB D cA ad A s q gl H' locs' → W p l e R s m args below meth c H' locs' 0 0 Q (F0 m (pc + 3) ls (rest))) : W p l e R s m args below meth c H locs 0 0 Q (F0 m pc ls (.int x3 :: .int x2 :: .int x1 :: .ref (ad 0) :: rest)) := by
  obtain ⟨q, h1, h2⟩ := g_ob h
  refine mm_cVV (As := [.int x1, .int x2, .int x3]) (rest := rest) (n := 3) C B (fun sz => w_X4_layOther l D cA ad gi gl x1 x2 x3 q h1 sz) q2312 q2314 qs127 q150 q2315 (by decide +kernel) ⟨hF, hN⟩ rfl hs hw hdg (fun u H9 locs9 hp B9 => ?_)
  obtain ⟨e1, e3⟩ := hp
  rw [e3] at B9
  subst e1
  exact kk _ h2 H9 locs9 B9
def f_X4_layPool_l2 (x1i2 : Int32) (x2i2 : Int32) (x3l2 : Int32) (gil2 : GI) : Option ((Int32 × GI) ⊕ (GI)) :=
  if 3 ≤ x3l2 then
  (some (.inr gil2))
  else
  ((g_ld gil2 3 2 (gil2 0 41)).bind fun v1 =>
  if v1 ≤ x3l2 then
  ((g_st gil2 40 3 x3l2 0).bind fun gi2 =>
  some (.inl ((x3l2 + 1, gi2))))
  else
  ((f_X4_inPurse gil2 x1i2 x3l2).bind fun q3 =>
  (f_X4_inPurse gil2 x2i2 x3l2).bind fun q4 =>
  (g_st gil2 40 3 x3l2 (q3 + q4)).bind fun gi5 =>
  some (.inl ((x3l2 + 1, gi5)))))
def f_X4_layPool_l56 (x1i56 : Int32) (x2i56 : Int32) (x3l56 : Int32) (gil56 : GI) : Option ((Int32 × GI) ⊕ (GI)) :=
  if 3 ≤ x3l56 then
  (some (.inr gil56))
  else
  ((g_st gil56 39 3 x3l56 0).bind fun gi7 =>
  some (.inl ((x3l56 + 1, gi7))))
def f_X4_layPool_l83 (x1i83 : Int32) (x2i83 : Int32) (x4l83 : Int32) (gil83 : GI) : Option ((Int32 × GI) ⊕ (GI)) :=
  if 3 ≤ x4l83 then
  (some (.inr gil83))
  else
  ((g_ld gil83 39 3 x4l83).bind fun v8 =>
  (f_X4_lay gil83 x1i83 x4l83 v8 1).bind fun q9 =>
  some (.inl ((x4l83 + 1, q9))))
def f_X4_layPool_l139 (x1i139 : Int32) (x2i139 : Int32) (x4l139 : Int32) (gil139 : GI) : Option ((Int32 × GI) ⊕ (GI)) :=
  if 3 ≤ x4l139 then
  (some (.inr gil139))
  else
  ((g_ld gil139 39 3 x4l139).bind fun v14 =>
  (f_X4_lay gil139 x1i139 x4l139 v14 ((-1))).bind fun q15 =>
  (g_ld q15 39 3 x4l139).bind fun v16 =>
  (g_st q15 35 3 x4l139 v16).bind fun gi17 =>
  some (.inl ((x4l139 + 1, gi17))))
def f_X4_layPool_l201 (x1i201 : Int32) (x2i201 : Int32) (x3i201 : Int32) (x4l201 : Int32) (gil201 : GI) : Option ((Int32 × GI) ⊕ (GI)) :=
  if 3 ≤ x4l201 then
  (some (.inr gil201))
  else
  ((g_ld gil201 35 3 x4l201).bind fun v21 =>
  (g_st gil201 39 3 x4l201 v21).bind fun gi22 =>
  some (.inl ((x4l201 + 1, gi22))))
def f_X4_layPool_x201 (x1y201 : Int32) (x2y201 : Int32) (x3y201 : Int32) (gie201 : GI) : Option ((Int32 × GI) ⊕ (GI)) :=
  some (.inl ((x3y201, gie201)))
def f_X4_layPool_x139 (x1y139 : Int32) (x2y139 : Int32) (gie139 : GI) : Option ((Int32 × GI) ⊕ (GI)) :=
  (f_X4_leftOf gie139 x1y139).bind fun q18 =>
  (f_X4_lesser gie139 3 q18).bind fun q19 =>
  (f_X4_nextRow gie139 40 q19).bind fun q20 =>
  (g_loop g_K (fun (s : Int32 × GI) => f_X4_layPool_l201 x1y139 x2y139 q20.1 s.1 s.2) (0, q20.2)).bind fun E201 => f_X4_layPool_x201 x1y139 x2y139 q20.1 E201
def f_X4_layPool_x83 (x1y83 : Int32) (x2y83 : Int32) (gie83 : GI) : Option ((Int32 × GI) ⊕ (GI)) :=
  (g_ld gie83 39 3 0).bind fun v10 =>
  (g_ld gie83 39 3 1).bind fun v11 =>
  (g_ld gie83 39 3 2).bind fun v12 =>
  (f_X4_layOther gie83 x1y83 x2y83 ((v10 + v11) + v12)).bind fun q13 =>
  (g_loop g_K (fun (s : Int32 × GI) => f_X4_layPool_l139 x1y83 x2y83 s.1 s.2) (0, q13)).bind fun E139 => f_X4_layPool_x139 x1y83 x2y83 E139
def f_X4_layPool_l76 (x1i76 : Int32) (x2i76 : Int32) (x3l76 : Int32) (gil76 : GI) : Option ((Int32 × GI) ⊕ (GI)) :=
  if x3l76 = 0 then
  (some (.inr gil76))
  else
  ((g_loop g_K (fun (s : Int32 × GI) => f_X4_layPool_l83 x1i76 x2i76 s.1 s.2) (0, gil76)).bind fun E83 => f_X4_layPool_x83 x1i76 x2i76 E83)
def f_X4_layPool_x76 (gie76 : GI) : Option (GI) :=
  (g_ld gie76 3 2 (gie76 0 41)).bind fun v23 =>
  (some (g_pi gie76 0 55 (2 * v23))).bind fun gi24 =>
  some gi24
def f_X4_layPool_x56 (x1y56 : Int32) (x2y56 : Int32) (gie56 : GI) : Option (GI) :=
  (g_loop g_K (fun (s : Int32 × GI) => f_X4_layPool_l76 x1y56 x2y56 s.1 s.2) (1, gie56)).bind fun E76 => f_X4_layPool_x76 E76
def f_X4_layPool_x2 (x1y2 : Int32) (x2y2 : Int32) (gie2 : GI) : Option (GI) :=
  (some (g_pi gie2 0 62 ((-1)))).bind fun gi6 =>
  (g_loop g_K (fun (s : Int32 × GI) => f_X4_layPool_l56 x1y2 x2y2 s.1 s.2) (0, gi6)).bind fun E56 => f_X4_layPool_x56 x1y2 x2y2 E56
def f_X4_layPool (gi : GI) (x1 : Int32) (x2 : Int32) : Option (GI) :=
  (g_loop g_K (fun (s : Int32 × GI) => f_X4_layPool_l2 x1 x2 s.1 s.2) (0, gi)).bind fun E2 => f_X4_layPool_x2 x1 x2 E2
set_option maxHeartbeats 400000 in
theorem w_X4_layPool (l : Launch) (D : va_G) (cA : Nat → ClassId) (ad : Nat → Nat) (gi : GI) (gl : GL) (x1 : Int32) (x2 : Int32) (r : GI) (h : f_X4_layPool gi x1 x2 = some r) (sz : Nat) : Met l yX4_layPool (ws_ yX4_layPool cX4_layPool 5 (none)) ({ frames := 5, cells := 0, slots := 0, locals := 116 } : Room) (va_Pc [.ref (ad 0), .int x1, .int x2] (MPre D cA ad gi gl sz)) (va_Qv (fun u => u.1 = r ∧ u.2 = gl) (MPost D cA ad) (MA ad sz)) 0 0 (MA ad sz) := by
  refine mm_stV (by decide +kernel) rfl (Nat.le_of_ble_eq_true rfl) (fun p e s m args below meth c R Q A ls C hF hN B hret hL => ?_) sz
  have hx := C.1
  have hb := C.2.1
  have hL : lv_has ls 5 [(0, .ref (ad 0)), (1, .int x1), (2, .int x2)] := hL
  unfold f_X4_layPool at h
  refine lv_iconst (v := 0) hx hb dX4_layPool_0 (by decide) ?_
  refine lv_istore_n (lv' := [(3, .int 0), (0, .ref (ad 0)), (1, .int x1), (2, .int x2)]) hx hb dX4_layPool_1 rfl hL (by decide) rfl (fun ls hL => ?_)
  obtain ⟨E2, h82, h⟩ := g_ob h
  have kx2 : ∀ (gie2 : GI) (H : Heap) (locs : List Loc) (ls : Array Slot), gie2 = E2 → MB D cA ad A s gie2 gl H locs → lv_has ls 5 [(0, .ref (ad 0)), (1, .int x1), (2, .int x2)] → W p l e R s m args below meth c H locs 0 0 Q (F0 m 49 ls []) := by
    intro gie2 H locs ls he B hL
    subst he
    have h : f_X4_layPool_x2 x1 x2 gie2 = some r := h
    unfold f_X4_layPool_x2 at h
    refine lv_aload_n hx hb dX4_layPool_49 rfl (lv_at hL 0 rfl) ?_
    refine lv_iconst (v := (-1)) hx hb dX4_layPool_50 (by decide) ?_
    refine mp_62 C B h dX4_layPool_51 (fun gi6 h H locs B => ?_)
    refine lv_iconst (v := 0) hx hb dX4_layPool_54 (by decide) ?_
    refine lv_istore_n (lv' := [(3, .int 0), (0, .ref (ad 0)), (1, .int x1), (2, .int x2)]) hx hb dX4_layPool_55 rfl hL (by decide) rfl (fun ls hL => ?_)
    obtain ⟨E56, h856, h⟩ := g_ob h
    have kx56 : ∀ (gie56 : GI) (H : Heap) (locs : List Loc) (ls : Array Slot), gie56 = E56 → MB D cA ad A s gie56 gl H locs → lv_has ls 5 [(0, .ref (ad 0)), (1, .int x1), (2, .int x2)] → W p l e R s m args below meth c H locs 0 0 Q (F0 m 74 ls []) := by
      intro gie56 H locs ls he B hL
      subst he
      have h : f_X4_layPool_x56 x1 x2 gie56 = some r := h
      unfold f_X4_layPool_x56 at h
      refine lv_iconst (v := 1) hx hb dX4_layPool_74 (by decide) ?_
      refine lv_istore_n (lv' := [(3, .int 1), (0, .ref (ad 0)), (1, .int x1), (2, .int x2)]) hx hb dX4_layPool_75 rfl hL (by decide) rfl (fun ls hL => ?_)
      obtain ⟨E76, h876, h⟩ := g_ob h
      have kx76 : ∀ (gie76 : GI) (H : Heap) (locs : List Loc) (ls : Array Slot), gie76 = E76 → MB D cA ad A s gie76 gl H locs → lv_has ls 5 [(0, .ref (ad 0))] → W p l e R s m args below meth c H locs 0 0 Q (F0 m 230 ls []) := by
        intro gie76 H locs ls he B hL
        subst he
        have h : f_X4_layPool_x76 gie76 = some r := h
        unfold f_X4_layPool_x76 at h
        refine lv_aload_n hx hb dX4_layPool_230 rfl (lv_at hL 0 rfl) ?_
        refine lv_iconst (v := 2) hx hb dX4_layPool_231 (by decide) ?_
        refine lv_aload_n hx hb dX4_layPool_232 rfl (lv_at hL 0 rfl) ?_
        refine mg_11 C B dX4_layPool_233 ?_
        refine lv_aload_n hx hb dX4_layPool_236 rfl (lv_at hL 0 rfl) ?_
        refine mg_41 C B dX4_layPool_237 ?_
        refine mm_iald C B (a := 3) (n := 2) (Nat.le_of_ble_eq_true rfl) rfl h dX4_layPool_240 (fun v23 h => ?_)
        refine lv_imul hx hb dX4_layPool_241 ?_
        refine mp_55 C B h dX4_layPool_242 (fun gi24 h H locs B => ?_)
        exact hret _ _ _ _ _ _ ⟨Option.some.inj h, rfl⟩ B dX4_layPool_245
      have hl76 : ∀ (k : Nat) (x3l76 : Int32) (gil76 : GI) (H : Heap) (locs : List Loc) (ls : Array Slot), g_loop k (fun (s : Int32 × GI) => f_X4_layPool_l76 x1 x2 s.1 s.2) (x3l76, gil76) = some E76 → MB D cA ad A s gil76 gl H locs → lv_has ls 5 [(0, .ref (ad 0)), (1, .int x1), (2, .int x2), (3, .int x3l76)] → W p l e R s m args below meth c H locs 0 0 Q (F0 m 76 ls []) := by
        intro k
        induction k with
        | zero => intro x3l76 gil76 H locs ls h; exact absurd h (fun z => g_loop_0 z)
        | succ k ih76 =>
          intro x3l76 gil76 H locs ls h B hL
          obtain ⟨Z76, h, h976⟩ := g_loop_s h
          have h : f_X4_layPool_l76 x1 x2 x3l76 gil76 = some Z76 := h
          unfold f_X4_layPool_l76 at h
          refine lv_iload_n hx hb dX4_layPool_76 rfl (lv_at hL 3 rfl) ?_
          refine gg_if_eq hx hb 230 h dX4_layPool_77 (by decide) (fun h => ?_) (fun h => ?_)
          · exact kx76 _ _ _ _ (g_exit h h976) B (lv_sub hL [0] rfl)
          · refine lv_iconst (v := 0) hx hb dX4_layPool_80 (by decide) ?_
            refine lv_istore (lv' := [(4, .int 0), (0, .ref (ad 0)), (1, .int x1), (2, .int x2), (3, .int x3l76)]) hx hb dX4_layPool_81 hL (by decide) rfl (fun ls hL => ?_)
            obtain ⟨E83, h883, h⟩ := g_ob h
            have kx83 : ∀ (gie83 : GI) (H : Heap) (locs : List Loc) (ls : Array Slot), gie83 = E83 → MB D cA ad A s gie83 gl H locs → lv_has ls 5 [(0, .ref (ad 0)), (1, .int x1), (2, .int x2)] → W p l e R s m args below meth c H locs 0 0 Q (F0 m 110 ls []) := by
              intro gie83 H locs ls he B hL
              subst he
              have h : f_X4_layPool_x83 x1 x2 gie83 = some Z76 := h
              unfold f_X4_layPool_x83 at h
              refine lv_aload_n hx hb dX4_layPool_110 rfl (lv_at hL 0 rfl) ?_
              refine lv_iload_n hx hb dX4_layPool_111 rfl (lv_at hL 1 rfl) ?_
              refine lv_iload_n hx hb dX4_layPool_112 rfl (lv_at hL 2 rfl) ?_
              refine lv_aload_n hx hb dX4_layPool_113 rfl (lv_at hL 0 rfl) ?_
              refine mg_59 C B dX4_layPool_114 ?_
              refine lv_iconst (v := 0) hx hb dX4_layPool_117 (by decide) ?_
              refine mm_iald C B (a := 39) (n := 3) (Nat.le_of_ble_eq_true rfl) rfl h dX4_layPool_118 (fun v10 h => ?_)
              refine lv_aload_n hx hb dX4_layPool_119 rfl (lv_at hL 0 rfl) ?_
              refine mg_59 C B dX4_layPool_120 ?_
              refine lv_iconst (v := 1) hx hb dX4_layPool_123 (by decide) ?_
              refine mm_iald C B (a := 39) (n := 3) (Nat.le_of_ble_eq_true rfl) rfl h dX4_layPool_124 (fun v11 h => ?_)
              refine lv_iadd hx hb dX4_layPool_125 ?_
              refine lv_aload_n hx hb dX4_layPool_126 rfl (lv_at hL 0 rfl) ?_
              refine mg_59 C B dX4_layPool_127 ?_
              refine lv_iconst (v := 2) hx hb dX4_layPool_130 (by decide) ?_
              refine mm_iald C B (a := 39) (n := 3) (Nat.le_of_ble_eq_true rfl) rfl h dX4_layPool_131 (fun v12 h => ?_)
              refine lv_iadd hx hb dX4_layPool_132 ?_
              refine k_X4_layOther C B (Nat.le_trans (Nat.le_of_ble_eq_true rfl) hF) (Nat.le_trans (Nat.le_of_ble_eq_true rfl) hN) hL.1 (Nat.le_of_ble_eq_true rfl) h dX4_layPool_133 (fun q13 h H locs B => ?_)
              refine lv_iconst (v := 0) hx hb dX4_layPool_136 (by decide) ?_
              refine lv_istore (lv' := [(4, .int 0), (0, .ref (ad 0)), (1, .int x1), (2, .int x2)]) hx hb dX4_layPool_137 hL (by decide) rfl (fun ls hL => ?_)
              obtain ⟨E139, h8139, h⟩ := g_ob h
              have kx139 : ∀ (gie139 : GI) (H : Heap) (locs : List Loc) (ls : Array Slot), gie139 = E139 → MB D cA ad A s gie139 gl H locs → lv_has ls 5 [(0, .ref (ad 0)), (1, .int x1), (2, .int x2)] → W p l e R s m args below meth c H locs 0 0 Q (F0 m 180 ls []) := by
                intro gie139 H locs ls he B hL
                subst he
                have h : f_X4_layPool_x139 x1 x2 gie139 = some Z76 := h
                unfold f_X4_layPool_x139 at h
                refine lv_aload_n hx hb dX4_layPool_180 rfl (lv_at hL 0 rfl) ?_
                refine lv_aload_n hx hb dX4_layPool_181 rfl (lv_at hL 0 rfl) ?_
                refine mg_60 C B dX4_layPool_182 ?_
                refine lv_iconst (v := 3) hx hb dX4_layPool_185 (by decide) ?_
                refine lv_aload_n hx hb dX4_layPool_186 rfl (lv_at hL 0 rfl) ?_
                refine lv_iload_n hx hb dX4_layPool_187 rfl (lv_at hL 1 rfl) ?_
                refine k_X4_leftOf C B (Nat.le_trans (Nat.le_of_ble_eq_true rfl) hF) (Nat.le_trans (Nat.le_of_ble_eq_true rfl) hN) hL.1 (Nat.le_of_ble_eq_true rfl) h dX4_layPool_188 (fun q18 h H locs B => ?_)
                refine k_X4_lesser C B (Nat.le_trans (Nat.le_of_ble_eq_true rfl) hF) (Nat.le_trans (Nat.le_of_ble_eq_true rfl) hN) hL.1 (Nat.le_of_ble_eq_true rfl) h dX4_layPool_191 (fun q19 h H locs B => ?_)
                refine k_X4_nextRow C B (Nat.le_trans (Nat.le_of_ble_eq_true rfl) hF) (Nat.le_trans (Nat.le_of_ble_eq_true rfl) hN) hL.1 (Nat.le_of_ble_eq_true rfl) h dX4_layPool_194 (fun q20 h H locs B => ?_)
                refine lv_istore_n (lv' := [(3, .int q20.1), (0, .ref (ad 0)), (1, .int x1), (2, .int x2)]) hx hb dX4_layPool_197 rfl hL (by decide) rfl (fun ls hL => ?_)
                refine lv_iconst (v := 0) hx hb dX4_layPool_198 (by decide) ?_
                refine lv_istore (lv' := [(4, .int 0), (3, .int q20.1), (0, .ref (ad 0)), (1, .int x1), (2, .int x2)]) hx hb dX4_layPool_199 hL (by decide) rfl (fun ls hL => ?_)
                obtain ⟨E201, h8201, h⟩ := g_ob h
                have kx201 : ∀ (gie201 : GI) (H : Heap) (locs : List Loc) (ls : Array Slot), gie201 = E201 → MB D cA ad A s gie201 gl H locs → lv_has ls 5 [(0, .ref (ad 0)), (1, .int x1), (2, .int x2), (3, .int q20.1)] → W p l e R s m args below meth c H locs 0 0 Q (F0 m 227 ls []) := by
                  intro gie201 H locs ls he B hL
                  subst he
                  have h : f_X4_layPool_x201 x1 x2 q20.1 gie201 = some Z76 := h
                  unfold f_X4_layPool_x201 at h
                  refine lv_goto (tgt := 76) hx hb dX4_layPool_227 (by decide) ?_
                  exact ih76 _ _ _ _ _ (g_next h h976) B (lv_sub hL [0, 1, 2, 3] rfl)
                have hl201 : ∀ (k : Nat) (x4l201 : Int32) (gil201 : GI) (H : Heap) (locs : List Loc) (ls : Array Slot), g_loop k (fun (s : Int32 × GI) => f_X4_layPool_l201 x1 x2 q20.1 s.1 s.2) (x4l201, gil201) = some E201 → MB D cA ad A s gil201 gl H locs → lv_has ls 5 [(0, .ref (ad 0)), (1, .int x1), (2, .int x2), (3, .int q20.1), (4, .int x4l201)] → W p l e R s m args below meth c H locs 0 0 Q (F0 m 201 ls []) := by
                  intro k
                  induction k with
                  | zero => intro x4l201 gil201 H locs ls h; exact absurd h (fun z => g_loop_0 z)
                  | succ k ih201 =>
                    intro x4l201 gil201 H locs ls h B hL
                    obtain ⟨Z201, h, h9201⟩ := g_loop_s h
                    have h : f_X4_layPool_l201 x1 x2 q20.1 x4l201 gil201 = some Z201 := h
                    unfold f_X4_layPool_l201 at h
                    refine lv_iload hx hb dX4_layPool_201 (lv_at hL 4 rfl) ?_
                    refine lv_iconst (v := 3) hx hb dX4_layPool_203 (by decide) ?_
                    refine gg_icmp_ge hx hb 227 h dX4_layPool_204 (by decide) (fun h => ?_) (fun h => ?_)
                    · exact kx201 _ _ _ _ (g_exit h h9201) B (lv_sub hL [0, 1, 2, 3] rfl)
                    · refine lv_aload_n hx hb dX4_layPool_207 rfl (lv_at hL 0 rfl) ?_
                      refine mg_59 C B dX4_layPool_208 ?_
                      refine lv_iload hx hb dX4_layPool_211 (lv_at hL 4 rfl) ?_
                      refine lv_aload_n hx hb dX4_layPool_213 rfl (lv_at hL 0 rfl) ?_
                      refine mg_52 C B dX4_layPool_214 ?_
                      refine lv_iload hx hb dX4_layPool_217 (lv_at hL 4 rfl) ?_
                      refine mm_iald C B (a := 35) (n := 3) (Nat.le_of_ble_eq_true rfl) rfl h dX4_layPool_219 (fun v21 h => ?_)
                      refine mm_iast C B (a := 39) (n := 3) (Nat.le_of_ble_eq_true rfl) rfl h dX4_layPool_220 (fun gi22 h H locs B => ?_)
                      refine lv_iinc (v := x4l201 + 1) (lv' := [(4, .int (x4l201 + 1)), (0, .ref (ad 0)), (1, .int x1), (2, .int x2), (3, .int q20.1)]) hx hb dX4_layPool_221 hL (k := 4) rfl rfl (by decide) rfl (fun ls hL => ?_)
                      refine lv_goto (tgt := 201) hx hb dX4_layPool_224 (by decide) ?_
                      exact ih201 _ _ _ _ _ (g_next h h9201) B (lv_sub hL [1, 2, 3, 4, 0] rfl)
                exact hl201 g_K _ _ _ _ _ h8201 B (lv_sub hL [2, 3, 4, 1, 0] rfl)
              have hl139 : ∀ (k : Nat) (x4l139 : Int32) (gil139 : GI) (H : Heap) (locs : List Loc) (ls : Array Slot), g_loop k (fun (s : Int32 × GI) => f_X4_layPool_l139 x1 x2 s.1 s.2) (x4l139, gil139) = some E139 → MB D cA ad A s gil139 gl H locs → lv_has ls 5 [(0, .ref (ad 0)), (1, .int x1), (2, .int x2), (4, .int x4l139)] → W p l e R s m args below meth c H locs 0 0 Q (F0 m 139 ls []) := by
                intro k
                induction k with
                | zero => intro x4l139 gil139 H locs ls h; exact absurd h (fun z => g_loop_0 z)
                | succ k ih139 =>
                  intro x4l139 gil139 H locs ls h B hL
                  obtain ⟨Z139, h, h9139⟩ := g_loop_s h
                  have h : f_X4_layPool_l139 x1 x2 x4l139 gil139 = some Z139 := h
                  unfold f_X4_layPool_l139 at h
                  refine lv_iload hx hb dX4_layPool_139 (lv_at hL 3 rfl) ?_
                  refine lv_iconst (v := 3) hx hb dX4_layPool_141 (by decide) ?_
                  refine gg_icmp_ge hx hb 180 h dX4_layPool_142 (by decide) (fun h => ?_) (fun h => ?_)
                  · exact kx139 _ _ _ _ (g_exit h h9139) B (lv_sub hL [0, 1, 2] rfl)
                  · refine lv_aload_n hx hb dX4_layPool_145 rfl (lv_at hL 0 rfl) ?_
                    refine lv_iload_n hx hb dX4_layPool_146 rfl (lv_at hL 1 rfl) ?_
                    refine lv_iload hx hb dX4_layPool_147 (lv_at hL 3 rfl) ?_
                    refine lv_aload_n hx hb dX4_layPool_149 rfl (lv_at hL 0 rfl) ?_
                    refine mg_59 C B dX4_layPool_150 ?_
                    refine lv_iload hx hb dX4_layPool_153 (lv_at hL 3 rfl) ?_
                    refine mm_iald C B (a := 39) (n := 3) (Nat.le_of_ble_eq_true rfl) rfl h dX4_layPool_155 (fun v14 h => ?_)
                    refine lv_iconst (v := (-1)) hx hb dX4_layPool_156 (by decide) ?_
                    refine k_X4_lay C B (Nat.le_trans (Nat.le_of_ble_eq_true rfl) hF) (Nat.le_trans (Nat.le_of_ble_eq_true rfl) hN) hL.1 (Nat.le_of_ble_eq_true rfl) h dX4_layPool_157 (fun q15 h H locs B => ?_)
                    refine lv_aload_n hx hb dX4_layPool_160 rfl (lv_at hL 0 rfl) ?_
                    refine mg_52 C B dX4_layPool_161 ?_
                    refine lv_iload hx hb dX4_layPool_164 (lv_at hL 3 rfl) ?_
                    refine lv_aload_n hx hb dX4_layPool_166 rfl (lv_at hL 0 rfl) ?_
                    refine mg_59 C B dX4_layPool_167 ?_
                    refine lv_iload hx hb dX4_layPool_170 (lv_at hL 3 rfl) ?_
                    refine mm_iald C B (a := 39) (n := 3) (Nat.le_of_ble_eq_true rfl) rfl h dX4_layPool_172 (fun v16 h => ?_)
                    refine mm_iast C B (a := 35) (n := 3) (Nat.le_of_ble_eq_true rfl) rfl h dX4_layPool_173 (fun gi17 h H locs B => ?_)
                    refine lv_iinc (v := x4l139 + 1) (lv' := [(4, .int (x4l139 + 1)), (0, .ref (ad 0)), (1, .int x1), (2, .int x2)]) hx hb dX4_layPool_174 hL (k := 3) rfl rfl (by decide) rfl (fun ls hL => ?_)
                    refine lv_goto (tgt := 139) hx hb dX4_layPool_177 (by decide) ?_
                    exact ih139 _ _ _ _ _ (g_next h h9139) B (lv_sub hL [1, 2, 3, 0] rfl)
              exact hl139 g_K _ _ _ _ _ h8139 B (lv_sub hL [1, 2, 3, 0] rfl)
            have hl83 : ∀ (k : Nat) (x4l83 : Int32) (gil83 : GI) (H : Heap) (locs : List Loc) (ls : Array Slot), g_loop k (fun (s : Int32 × GI) => f_X4_layPool_l83 x1 x2 s.1 s.2) (x4l83, gil83) = some E83 → MB D cA ad A s gil83 gl H locs → lv_has ls 5 [(0, .ref (ad 0)), (1, .int x1), (2, .int x2), (4, .int x4l83)] → W p l e R s m args below meth c H locs 0 0 Q (F0 m 83 ls []) := by
              intro k
              induction k with
              | zero => intro x4l83 gil83 H locs ls h; exact absurd h (fun z => g_loop_0 z)
              | succ k ih83 =>
                intro x4l83 gil83 H locs ls h B hL
                obtain ⟨Z83, h, h983⟩ := g_loop_s h
                have h : f_X4_layPool_l83 x1 x2 x4l83 gil83 = some Z83 := h
                unfold f_X4_layPool_l83 at h
                refine lv_iload hx hb dX4_layPool_83 (lv_at hL 3 rfl) ?_
                refine lv_iconst (v := 3) hx hb dX4_layPool_85 (by decide) ?_
                refine gg_icmp_ge hx hb 110 h dX4_layPool_86 (by decide) (fun h => ?_) (fun h => ?_)
                · exact kx83 _ _ _ _ (g_exit h h983) B (lv_sub hL [0, 1, 2] rfl)
                · refine lv_aload_n hx hb dX4_layPool_89 rfl (lv_at hL 0 rfl) ?_
                  refine lv_iload_n hx hb dX4_layPool_90 rfl (lv_at hL 1 rfl) ?_
                  refine lv_iload hx hb dX4_layPool_91 (lv_at hL 3 rfl) ?_
                  refine lv_aload_n hx hb dX4_layPool_93 rfl (lv_at hL 0 rfl) ?_
                  refine mg_59 C B dX4_layPool_94 ?_
                  refine lv_iload hx hb dX4_layPool_97 (lv_at hL 3 rfl) ?_
                  refine mm_iald C B (a := 39) (n := 3) (Nat.le_of_ble_eq_true rfl) rfl h dX4_layPool_99 (fun v8 h => ?_)
                  refine lv_iconst (v := 1) hx hb dX4_layPool_100 (by decide) ?_
                  refine k_X4_lay C B (Nat.le_trans (Nat.le_of_ble_eq_true rfl) hF) (Nat.le_trans (Nat.le_of_ble_eq_true rfl) hN) hL.1 (Nat.le_of_ble_eq_true rfl) h dX4_layPool_101 (fun q9 h H locs B => ?_)
                  refine lv_iinc (v := x4l83 + 1) (lv' := [(4, .int (x4l83 + 1)), (0, .ref (ad 0)), (1, .int x1), (2, .int x2)]) hx hb dX4_layPool_104 hL (k := 3) rfl rfl (by decide) rfl (fun ls hL => ?_)
                  refine lv_goto (tgt := 83) hx hb dX4_layPool_107 (by decide) ?_
                  exact ih83 _ _ _ _ _ (g_next h h983) B (lv_sub hL [1, 2, 3, 0] rfl)
            exact hl83 g_K _ _ _ _ _ h883 B (lv_sub hL [1, 2, 3, 0] rfl)
      exact hl76 g_K _ _ _ _ _ h876 B (lv_sub hL [1, 2, 3, 0] rfl)
    have hl56 : ∀ (k : Nat) (x3l56 : Int32) (gil56 : GI) (H : Heap) (locs : List Loc) (ls : Array Slot), g_loop k (fun (s : Int32 × GI) => f_X4_layPool_l56 x1 x2 s.1 s.2) (x3l56, gil56) = some E56 → MB D cA ad A s gil56 gl H locs → lv_has ls 5 [(0, .ref (ad 0)), (1, .int x1), (2, .int x2), (3, .int x3l56)] → W p l e R s m args below meth c H locs 0 0 Q (F0 m 56 ls []) := by
      intro k
      induction k with
      | zero => intro x3l56 gil56 H locs ls h; exact absurd h (fun z => g_loop_0 z)
      | succ k ih56 =>
        intro x3l56 gil56 H locs ls h B hL
        obtain ⟨Z56, h, h956⟩ := g_loop_s h
        have h : f_X4_layPool_l56 x1 x2 x3l56 gil56 = some Z56 := h
        unfold f_X4_layPool_l56 at h
        refine lv_iload_n hx hb dX4_layPool_56 rfl (lv_at hL 3 rfl) ?_
        refine lv_iconst (v := 3) hx hb dX4_layPool_57 (by decide) ?_
        refine gg_icmp_ge hx hb 74 h dX4_layPool_58 (by decide) (fun h => ?_) (fun h => ?_)
        · exact kx56 _ _ _ _ (g_exit h h956) B (lv_sub hL [0, 1, 2] rfl)
        · refine lv_aload_n hx hb dX4_layPool_61 rfl (lv_at hL 0 rfl) ?_
          refine mg_59 C B dX4_layPool_62 ?_
          refine lv_iload_n hx hb dX4_layPool_65 rfl (lv_at hL 3 rfl) ?_
          refine lv_iconst (v := 0) hx hb dX4_layPool_66 (by decide) ?_
          refine mm_iast C B (a := 39) (n := 3) (Nat.le_of_ble_eq_true rfl) rfl h dX4_layPool_67 (fun gi7 h H locs B => ?_)
          refine lv_iinc (v := x3l56 + 1) (lv' := [(3, .int (x3l56 + 1)), (0, .ref (ad 0)), (1, .int x1), (2, .int x2)]) hx hb dX4_layPool_68 hL (k := 3) rfl rfl (by decide) rfl (fun ls hL => ?_)
          refine lv_goto (tgt := 56) hx hb dX4_layPool_71 (by decide) ?_
          exact ih56 _ _ _ _ _ (g_next h h956) B (lv_sub hL [1, 2, 3, 0] rfl)
    exact hl56 g_K _ _ _ _ _ h856 B (lv_sub hL [1, 2, 3, 0] rfl)
  have hl2 : ∀ (k : Nat) (x3l2 : Int32) (gil2 : GI) (H : Heap) (locs : List Loc) (ls : Array Slot), g_loop k (fun (s : Int32 × GI) => f_X4_layPool_l2 x1 x2 s.1 s.2) (x3l2, gil2) = some E2 → MB D cA ad A s gil2 gl H locs → lv_has ls 5 [(0, .ref (ad 0)), (1, .int x1), (2, .int x2), (3, .int x3l2)] → W p l e R s m args below meth c H locs 0 0 Q (F0 m 2 ls []) := by
    intro k
    induction k with
    | zero => intro x3l2 gil2 H locs ls h; exact absurd h (fun z => g_loop_0 z)
    | succ k ih2 =>
      intro x3l2 gil2 H locs ls h B hL
      obtain ⟨Z2, h, h92⟩ := g_loop_s h
      have h : f_X4_layPool_l2 x1 x2 x3l2 gil2 = some Z2 := h
      unfold f_X4_layPool_l2 at h
      refine lv_iload_n hx hb dX4_layPool_2 rfl (lv_at hL 3 rfl) ?_
      refine lv_iconst (v := 3) hx hb dX4_layPool_3 (by decide) ?_
      refine gg_icmp_ge hx hb 49 h dX4_layPool_4 (by decide) (fun h => ?_) (fun h => ?_)
      · exact kx2 _ _ _ _ (g_exit h h92) B (lv_sub hL [0, 1, 2] rfl)
      · refine lv_aload_n hx hb dX4_layPool_7 rfl (lv_at hL 0 rfl) ?_
        refine mg_60 C B dX4_layPool_8 ?_
        refine lv_iload_n hx hb dX4_layPool_11 rfl (lv_at hL 3 rfl) ?_
        refine lv_iload_n hx hb dX4_layPool_12 rfl (lv_at hL 3 rfl) ?_
        refine lv_aload_n hx hb dX4_layPool_13 rfl (lv_at hL 0 rfl) ?_
        refine mg_11 C B dX4_layPool_14 ?_
        refine lv_aload_n hx hb dX4_layPool_17 rfl (lv_at hL 0 rfl) ?_
        refine mg_41 C B dX4_layPool_18 ?_
        refine mm_iald C B (a := 3) (n := 2) (Nat.le_of_ble_eq_true rfl) rfl h dX4_layPool_21 (fun v1 h => ?_)
        refine gg_icmp_ge hx hb 41 h dX4_layPool_22 (by decide) (fun h => ?_) (fun h => ?_)
        · refine lv_iconst (v := 0) hx hb dX4_layPool_41 (by decide) ?_
          refine mm_iast C B (a := 40) (n := 3) (Nat.le_of_ble_eq_true rfl) rfl h dX4_layPool_42 (fun gi2 h H locs B => ?_)
          refine lv_iinc (v := x3l2 + 1) (lv' := [(3, .int (x3l2 + 1)), (0, .ref (ad 0)), (1, .int x1), (2, .int x2)]) hx hb dX4_layPool_43 hL (k := 3) rfl rfl (by decide) rfl (fun ls hL => ?_)
          refine lv_goto (tgt := 2) hx hb dX4_layPool_46 (by decide) ?_
          exact ih2 _ _ _ _ _ (g_next h h92) B (lv_sub hL [1, 2, 3, 0] rfl)
        · refine lv_aload_n hx hb dX4_layPool_25 rfl (lv_at hL 0 rfl) ?_
          refine lv_iload_n hx hb dX4_layPool_26 rfl (lv_at hL 1 rfl) ?_
          refine lv_iload_n hx hb dX4_layPool_27 rfl (lv_at hL 3 rfl) ?_
          refine k_X4_inPurse C B (Nat.le_trans (Nat.le_of_ble_eq_true rfl) hF) (Nat.le_trans (Nat.le_of_ble_eq_true rfl) hN) hL.1 (Nat.le_of_ble_eq_true rfl) h dX4_layPool_28 (fun q3 h H locs B => ?_)
          refine lv_aload_n hx hb dX4_layPool_31 rfl (lv_at hL 0 rfl) ?_
          refine lv_iload_n hx hb dX4_layPool_32 rfl (lv_at hL 2 rfl) ?_
          refine lv_iload_n hx hb dX4_layPool_33 rfl (lv_at hL 3 rfl) ?_
          refine k_X4_inPurse C B (Nat.le_trans (Nat.le_of_ble_eq_true rfl) hF) (Nat.le_trans (Nat.le_of_ble_eq_true rfl) hN) hL.1 (Nat.le_of_ble_eq_true rfl) h dX4_layPool_34 (fun q4 h H locs B => ?_)
          refine lv_iadd hx hb dX4_layPool_37 ?_
          refine lv_goto (tgt := 42) hx hb dX4_layPool_38 (by decide) ?_
          refine mm_iast C B (a := 40) (n := 3) (Nat.le_of_ble_eq_true rfl) rfl h dX4_layPool_42 (fun gi5 h H locs B => ?_)
          refine lv_iinc (v := x3l2 + 1) (lv' := [(3, .int (x3l2 + 1)), (0, .ref (ad 0)), (1, .int x1), (2, .int x2)]) hx hb dX4_layPool_43 hL (k := 3) rfl rfl (by decide) rfl (fun ls hL => ?_)
          refine lv_goto (tgt := 2) hx hb dX4_layPool_46 (by decide) ?_
          exact ih2 _ _ _ _ _ (g_next h h92) B (lv_sub hL [1, 2, 3, 0] rfl)
  exact hl2 g_K _ _ _ _ _ h82 B (lv_sub hL [1, 2, 3, 0] rfl)
theorem k_X4_layPool {p : Program} {l : Launch} {e : Env} {R : Room} {s : State} {m : MethodId} {args : Array Value} {below : List Frame} {meth : Method} {c : Code} {H : Heap} {locs : List Loc} {Q : State → Prop} {pc : Nat} {ls : Array Slot} {rest : List Value} {cc : ByteArray} {nL : Nat} {D : va_G} {cA : Nat → ClassId} {ad : Nat → Nat} {A : Nat → Prop} {gi : GI} {gl : GL} {α : Type} {r : α} {x1 : Int32} {x2 : Int32} {ff : GI → Option α} (C : CallFix p m c cc nL s args lw_all RX4) (B : MB D cA ad A s gi gl H locs) (hF : 6 ≤ R.frames) (hN : 140 ≤ R.locals) (hs : ls.size = nL) (hw : (rest.map fun v => v.category).sum ≤ 8) (h : (f_X4_layPool gi x1 x2).bind ff = some r) (hdg : decode cc pc = .ok (.invokevirtual 519, 3)) (kk : ∀ q, ff q = some r → ∀ (H' : Heap) (locs' : List Loc), MB D cA ad A s q gl H' locs' → W p l e R s m args below meth c H' locs' 0 0 Q (F0 m (pc + 3) ls (rest))) : W p l e R s m args below meth c H locs 0 0 Q (F0 m pc ls (.int x2 :: .int x1 :: .ref (ad 0) :: rest)) := by
  obtain ⟨q, h1, h2⟩ := g_ob h
  refine mm_cVV (As := [.int x1, .int x2]) (rest := rest) (n := 2) C B (fun sz => w_X4_layPool l D cA ad gi gl x1 x2 q h1 sz) q2308 q2310 qs126 q150 q2311 (by decide +kernel) ⟨hF, hN⟩ rfl hs hw hdg (fun u H9 locs9 hp B9 => ?_)
  obtain ⟨e1, e3⟩ := hp
  rw [e3] at B9
  subst e1
  exact kk _ h2 H9 locs9 B9
def f_X4_pool (gi : GI) (x1 : Int32) (x2 : Int32) : Option (Int32 × GI) :=
  (some (g_pi gi 0 55 0)).bind fun gi1 =>
  (f_X4_areTwo gi1 x1 x2).bind fun q2 =>
  if q2 = 0 then
  (some ((-1000000), gi1))
  else
  ((f_X4_layPool gi1 x1 x2).bind fun q3 =>
  some (q3 0 63, q3))
set_option maxHeartbeats 400000 in
theorem w_X4_pool (l : Launch) (D : va_G) (cA : Nat → ClassId) (ad : Nat → Nat) (gi : GI) (gl : GL) (x1 : Int32) (x2 : Int32) (r : Int32 × GI) (h : f_X4_pool gi x1 x2 = some r) (sz : Nat) : Met l yX4_pool (ws_ yX4_pool cX4_pool 3 (some .int)) ({ frames := 6, cells := 0, slots := 0, locals := 140 } : Room) (va_Pc [.ref (ad 0), .int x1, .int x2] (MPre D cA ad gi gl sz)) (va_Qi (fun v u => (v, u.1) = r ∧ u.2 = gl) (MPost D cA ad) (MA ad sz)) 0 0 (MA ad sz) := by
  refine mm_stI (by decide +kernel) rfl (Nat.le_of_ble_eq_true rfl) (fun p e s m args below meth c R Q A ls C hF hN B hret hL => ?_) sz
  have hx := C.1
  have hb := C.2.1
  have hL : lv_has ls 3 [(0, .ref (ad 0)), (1, .int x1), (2, .int x2)] := hL
  unfold f_X4_pool at h
  refine lv_aload_n hx hb dX4_pool_0 rfl (lv_at hL 0 rfl) ?_
  refine lv_iconst (v := 0) hx hb dX4_pool_1 (by decide) ?_
  refine mp_55 C B h dX4_pool_2 (fun gi1 h H locs B => ?_)
  refine lv_aload_n hx hb dX4_pool_5 rfl (lv_at hL 0 rfl) ?_
  refine lv_iload_n hx hb dX4_pool_6 rfl (lv_at hL 1 rfl) ?_
  refine lv_iload_n hx hb dX4_pool_7 rfl (lv_at hL 2 rfl) ?_
  refine k_X4_areTwo C B (Nat.le_trans (Nat.le_of_ble_eq_true rfl) hF) (Nat.le_trans (Nat.le_of_ble_eq_true rfl) hN) hL.1 (Nat.le_of_ble_eq_true rfl) h dX4_pool_8 (fun q2 h H locs B => ?_)
  refine gg_if_ne hx hb 18 h dX4_pool_11 (by decide) (fun h => ?_) (fun h => ?_)
  · refine lv_aload_n hx hb dX4_pool_18 rfl (lv_at hL 0 rfl) ?_
    refine lv_iload_n hx hb dX4_pool_19 rfl (lv_at hL 1 rfl) ?_
    refine lv_iload_n hx hb dX4_pool_20 rfl (lv_at hL 2 rfl) ?_
    refine k_X4_layPool C B (Nat.le_trans (Nat.le_of_ble_eq_true rfl) hF) (Nat.le_trans (Nat.le_of_ble_eq_true rfl) hN) hL.1 (Nat.le_of_ble_eq_true rfl) h dX4_pool_21 (fun q3 h H locs B => ?_)
    refine lv_aload_n hx hb dX4_pool_24 rfl (lv_at hL 0 rfl) ?_
    refine mg_63 C B dX4_pool_25 ?_
    exact hret _ _ _ _ _ _ _ ⟨Option.some.inj h, rfl⟩ B dX4_pool_28
  · refine lv_ldcw (v := (-1000000)) hx hb C.2.2.2.1 (C.2.2.2.2 _ q2126) dX4_pool_14 ?_
    exact hret _ _ _ _ _ _ _ ⟨Option.some.inj h, rfl⟩ B dX4_pool_17
def f_X4_bringBack_l2 (x1l2 : Int32) (gil2 : GI) : Option ((Int32 × GI) ⊕ (GI)) :=
  if 42 ≤ x1l2 then
  (some (.inr gil2))
  else
  ((g_ld gil2 42 42 x1l2).bind fun v1 =>
  (g_st gil2 33 42 x1l2 v1).bind fun gi2 =>
  some (.inl ((x1l2 + 1, gi2))))
def f_X4_bringBack_x2 (gie2 : GI) : Option (GI) :=
  some gie2
def f_X4_bringBack (gi : GI)  : Option (GI) :=
  (g_loop g_K (fun (s : Int32 × GI) => f_X4_bringBack_l2 s.1 s.2) (0, gi)).bind fun E2 => f_X4_bringBack_x2 E2
set_option maxHeartbeats 400000 in
theorem w_X4_bringBack (l : Launch) (D : va_G) (cA : Nat → ClassId) (ad : Nat → Nat) (gi : GI) (gl : GL)  (r : GI) (h : f_X4_bringBack gi  = some r) (sz : Nat) : Met l yX4_bringBack (ws_ yX4_bringBack cX4_bringBack 2 (none)) ({ frames := 0, cells := 0, slots := 0, locals := 0 } : Room) (va_Pc [.ref (ad 0)] (MPre D cA ad gi gl sz)) (va_Qv (fun u => u.1 = r ∧ u.2 = gl) (MPost D cA ad) (MA ad sz)) 0 0 (MA ad sz) := by
  refine mm_stV (by decide +kernel) rfl (Nat.le_of_ble_eq_true rfl) (fun p e s m args below meth c R Q A ls C hF hN B hret hL => ?_) sz
  have hx := C.1
  have hb := C.2.1
  have hL : lv_has ls 2 [(0, .ref (ad 0))] := hL
  unfold f_X4_bringBack at h
  refine lv_iconst (v := 0) hx hb dX4_bringBack_0 (by decide) ?_
  refine lv_istore_n (lv' := [(1, .int 0), (0, .ref (ad 0))]) hx hb dX4_bringBack_1 rfl hL (by decide) rfl (fun ls hL => ?_)
  obtain ⟨E2, h82, h⟩ := g_ob h
  have kx2 : ∀ (gie2 : GI) (H : Heap) (locs : List Loc) (ls : Array Slot), gie2 = E2 → MB D cA ad A s gie2 gl H locs → lv_has ls 2 [] → W p l e R s m args below meth c H locs 0 0 Q (F0 m 26 ls []) := by
    intro gie2 H locs ls he B hL
    subst he
    have h : f_X4_bringBack_x2 gie2 = some r := h
    unfold f_X4_bringBack_x2 at h
    exact hret _ _ _ _ _ _ ⟨Option.some.inj h, rfl⟩ B dX4_bringBack_26
  have hl2 : ∀ (k : Nat) (x1l2 : Int32) (gil2 : GI) (H : Heap) (locs : List Loc) (ls : Array Slot), g_loop k (fun (s : Int32 × GI) => f_X4_bringBack_l2 s.1 s.2) (x1l2, gil2) = some E2 → MB D cA ad A s gil2 gl H locs → lv_has ls 2 [(0, .ref (ad 0)), (1, .int x1l2)] → W p l e R s m args below meth c H locs 0 0 Q (F0 m 2 ls []) := by
    intro k
    induction k with
    | zero => intro x1l2 gil2 H locs ls h; exact absurd h (fun z => g_loop_0 z)
    | succ k ih2 =>
      intro x1l2 gil2 H locs ls h B hL
      obtain ⟨Z2, h, h92⟩ := g_loop_s h
      have h : f_X4_bringBack_l2 x1l2 gil2 = some Z2 := h
      unfold f_X4_bringBack_l2 at h
      refine lv_iload_n hx hb dX4_bringBack_2 rfl (lv_at hL 1 rfl) ?_
      refine lv_bipush (v := 42) hx hb dX4_bringBack_3 (by decide) ?_
      refine gg_icmp_ge hx hb 26 h dX4_bringBack_5 (by decide) (fun h => ?_) (fun h => ?_)
      · exact kx2 _ _ _ _ (g_exit h h92) B (lv_sub hL [] rfl)
      · refine lv_aload_n hx hb dX4_bringBack_8 rfl (lv_at hL 0 rfl) ?_
        refine mg_48 C B dX4_bringBack_9 ?_
        refine lv_iload_n hx hb dX4_bringBack_12 rfl (lv_at hL 1 rfl) ?_
        refine lv_aload_n hx hb dX4_bringBack_13 rfl (lv_at hL 0 rfl) ?_
        refine mg_64 C B dX4_bringBack_14 ?_
        refine lv_iload_n hx hb dX4_bringBack_17 rfl (lv_at hL 1 rfl) ?_
        refine mm_iald C B (a := 42) (n := 42) (Nat.le_of_ble_eq_true rfl) rfl h dX4_bringBack_18 (fun v1 h => ?_)
        refine mm_iast C B (a := 33) (n := 42) (Nat.le_of_ble_eq_true rfl) rfl h dX4_bringBack_19 (fun gi2 h H locs B => ?_)
        refine lv_iinc (v := x1l2 + 1) (lv' := [(1, .int (x1l2 + 1)), (0, .ref (ad 0))]) hx hb dX4_bringBack_20 hL (k := 1) rfl rfl (by decide) rfl (fun ls hL => ?_)
        refine lv_goto (tgt := 2) hx hb dX4_bringBack_23 (by decide) ?_
        exact ih2 _ _ _ _ _ (g_next h h92) B (lv_sub hL [1, 0] rfl)
  exact hl2 g_K _ _ _ _ _ h82 B (lv_sub hL [1, 0] rfl)
theorem k_X4_bringBack {p : Program} {l : Launch} {e : Env} {R : Room} {s : State} {m : MethodId} {args : Array Value} {below : List Frame} {meth : Method} {c : Code} {H : Heap} {locs : List Loc} {Q : State → Prop} {pc : Nat} {ls : Array Slot} {rest : List Value} {cc : ByteArray} {nL : Nat} {D : va_G} {cA : Nat → ClassId} {ad : Nat → Nat} {A : Nat → Prop} {gi : GI} {gl : GL} {α : Type} {r : α}  {ff : GI → Option α} (C : CallFix p m c cc nL s args lw_all RX4) (B : MB D cA ad A s gi gl H locs) (hF : 1 ≤ R.frames) (hN : 21 ≤ R.locals) (hs : ls.size = nL) (hw : (rest.map fun v => v.category).sum ≤ 8) (h : (f_X4_bringBack gi ).bind ff = some r) (hdg : decode cc pc = .ok (.invokevirtual 525, 3)) (kk : ∀ q, ff q = some r → ∀ (H' : Heap) (locs' : List Loc), MB D cA ad A s q gl H' locs' → W p l e R s m args below meth c H' locs' 0 0 Q (F0 m (pc + 3) ls (rest))) : W p l e R s m args below meth c H locs 0 0 Q (F0 m pc ls (.ref (ad 0) :: rest)) := by
  obtain ⟨q, h1, h2⟩ := g_ob h
  refine mm_cVV (As := []) (rest := rest) (n := 0) C B (fun sz => w_X4_bringBack l D cA ad gi gl  q h1 sz) q2324 q2326 qs129 q150 q2327 (by decide +kernel) ⟨hF, hN⟩ rfl hs hw hdg (fun u H9 locs9 hp B9 => ?_)
  obtain ⟨e1, e3⟩ := hp
  rw [e3] at B9
  subst e1
  exact kk _ h2 H9 locs9 B9
def f_X4_keepNow_l2 (x1l2 : Int32) (gil2 : GI) : Option ((Int32 × GI) ⊕ (GI)) :=
  if 42 ≤ x1l2 then
  (some (.inr gil2))
  else
  ((g_ld gil2 33 42 x1l2).bind fun v1 =>
  (g_st gil2 42 42 x1l2 v1).bind fun gi2 =>
  some (.inl ((x1l2 + 1, gi2))))
def f_X4_keepNow_x2 (gie2 : GI) : Option (GI) :=
  some gie2
def f_X4_keepNow (gi : GI)  : Option (GI) :=
  (g_loop g_K (fun (s : Int32 × GI) => f_X4_keepNow_l2 s.1 s.2) (0, gi)).bind fun E2 => f_X4_keepNow_x2 E2
set_option maxHeartbeats 400000 in
theorem w_X4_keepNow (l : Launch) (D : va_G) (cA : Nat → ClassId) (ad : Nat → Nat) (gi : GI) (gl : GL)  (r : GI) (h : f_X4_keepNow gi  = some r) (sz : Nat) : Met l yX4_keepNow (ws_ yX4_keepNow cX4_keepNow 2 (none)) ({ frames := 0, cells := 0, slots := 0, locals := 0 } : Room) (va_Pc [.ref (ad 0)] (MPre D cA ad gi gl sz)) (va_Qv (fun u => u.1 = r ∧ u.2 = gl) (MPost D cA ad) (MA ad sz)) 0 0 (MA ad sz) := by
  refine mm_stV (by decide +kernel) rfl (Nat.le_of_ble_eq_true rfl) (fun p e s m args below meth c R Q A ls C hF hN B hret hL => ?_) sz
  have hx := C.1
  have hb := C.2.1
  have hL : lv_has ls 2 [(0, .ref (ad 0))] := hL
  unfold f_X4_keepNow at h
  refine lv_iconst (v := 0) hx hb dX4_keepNow_0 (by decide) ?_
  refine lv_istore_n (lv' := [(1, .int 0), (0, .ref (ad 0))]) hx hb dX4_keepNow_1 rfl hL (by decide) rfl (fun ls hL => ?_)
  obtain ⟨E2, h82, h⟩ := g_ob h
  have kx2 : ∀ (gie2 : GI) (H : Heap) (locs : List Loc) (ls : Array Slot), gie2 = E2 → MB D cA ad A s gie2 gl H locs → lv_has ls 2 [] → W p l e R s m args below meth c H locs 0 0 Q (F0 m 26 ls []) := by
    intro gie2 H locs ls he B hL
    subst he
    have h : f_X4_keepNow_x2 gie2 = some r := h
    unfold f_X4_keepNow_x2 at h
    exact hret _ _ _ _ _ _ ⟨Option.some.inj h, rfl⟩ B dX4_keepNow_26
  have hl2 : ∀ (k : Nat) (x1l2 : Int32) (gil2 : GI) (H : Heap) (locs : List Loc) (ls : Array Slot), g_loop k (fun (s : Int32 × GI) => f_X4_keepNow_l2 s.1 s.2) (x1l2, gil2) = some E2 → MB D cA ad A s gil2 gl H locs → lv_has ls 2 [(0, .ref (ad 0)), (1, .int x1l2)] → W p l e R s m args below meth c H locs 0 0 Q (F0 m 2 ls []) := by
    intro k
    induction k with
    | zero => intro x1l2 gil2 H locs ls h; exact absurd h (fun z => g_loop_0 z)
    | succ k ih2 =>
      intro x1l2 gil2 H locs ls h B hL
      obtain ⟨Z2, h, h92⟩ := g_loop_s h
      have h : f_X4_keepNow_l2 x1l2 gil2 = some Z2 := h
      unfold f_X4_keepNow_l2 at h
      refine lv_iload_n hx hb dX4_keepNow_2 rfl (lv_at hL 1 rfl) ?_
      refine lv_bipush (v := 42) hx hb dX4_keepNow_3 (by decide) ?_
      refine gg_icmp_ge hx hb 26 h dX4_keepNow_5 (by decide) (fun h => ?_) (fun h => ?_)
      · exact kx2 _ _ _ _ (g_exit h h92) B (lv_sub hL [] rfl)
      · refine lv_aload_n hx hb dX4_keepNow_8 rfl (lv_at hL 0 rfl) ?_
        refine mg_64 C B dX4_keepNow_9 ?_
        refine lv_iload_n hx hb dX4_keepNow_12 rfl (lv_at hL 1 rfl) ?_
        refine lv_aload_n hx hb dX4_keepNow_13 rfl (lv_at hL 0 rfl) ?_
        refine mg_48 C B dX4_keepNow_14 ?_
        refine lv_iload_n hx hb dX4_keepNow_17 rfl (lv_at hL 1 rfl) ?_
        refine mm_iald C B (a := 33) (n := 42) (Nat.le_of_ble_eq_true rfl) rfl h dX4_keepNow_18 (fun v1 h => ?_)
        refine mm_iast C B (a := 42) (n := 42) (Nat.le_of_ble_eq_true rfl) rfl h dX4_keepNow_19 (fun gi2 h H locs B => ?_)
        refine lv_iinc (v := x1l2 + 1) (lv' := [(1, .int (x1l2 + 1)), (0, .ref (ad 0))]) hx hb dX4_keepNow_20 hL (k := 1) rfl rfl (by decide) rfl (fun ls hL => ?_)
        refine lv_goto (tgt := 2) hx hb dX4_keepNow_23 (by decide) ?_
        exact ih2 _ _ _ _ _ (g_next h h92) B (lv_sub hL [1, 0] rfl)
  exact hl2 g_K _ _ _ _ _ h82 B (lv_sub hL [1, 0] rfl)
theorem k_X4_keepNow {p : Program} {l : Launch} {e : Env} {R : Room} {s : State} {m : MethodId} {args : Array Value} {below : List Frame} {meth : Method} {c : Code} {H : Heap} {locs : List Loc} {Q : State → Prop} {pc : Nat} {ls : Array Slot} {rest : List Value} {cc : ByteArray} {nL : Nat} {D : va_G} {cA : Nat → ClassId} {ad : Nat → Nat} {A : Nat → Prop} {gi : GI} {gl : GL} {α : Type} {r : α}  {ff : GI → Option α} (C : CallFix p m c cc nL s args lw_all RX4) (B : MB D cA ad A s gi gl H locs) (hF : 1 ≤ R.frames) (hN : 21 ≤ R.locals) (hs : ls.size = nL) (hw : (rest.map fun v => v.category).sum ≤ 8) (h : (f_X4_keepNow gi ).bind ff = some r) (hdg : decode cc pc = .ok (.invokevirtual 522, 3)) (kk : ∀ q, ff q = some r → ∀ (H' : Heap) (locs' : List Loc), MB D cA ad A s q gl H' locs' → W p l e R s m args below meth c H' locs' 0 0 Q (F0 m (pc + 3) ls (rest))) : W p l e R s m args below meth c H locs 0 0 Q (F0 m pc ls (.ref (ad 0) :: rest)) := by
  obtain ⟨q, h1, h2⟩ := g_ob h
  refine mm_cVV (As := []) (rest := rest) (n := 0) C B (fun sz => w_X4_keepNow l D cA ad gi gl  q h1 sz) q2320 q2322 qs128 q150 q2323 (by decide +kernel) ⟨hF, hN⟩ rfl hs hw hdg (fun u H9 locs9 hp B9 => ?_)
  obtain ⟨e1, e3⟩ := hp
  rw [e3] at B9
  subst e1
  exact kk _ h2 H9 locs9 B9
def f_X4_joint_l21 (x1i21 : Int32) (x2i21 : Int32) (x3i21 : Int32) (x4l21 : Int32) (gil21 : GI) : Option ((Int32 × GI) ⊕ (GI)) :=
  if 8 ≤ x4l21 then
  (some (.inr gil21))
  else
  ((g_ld gil21 37 8 x4l21).bind fun v2 =>
  (g_st gil21 43 8 x4l21 v2).bind fun gi3 =>
  some (.inl ((x4l21 + 1, gi3))))
def f_X4_joint_l62 (x1i62 : Int32) (x2i62 : Int32) (x4l62 : Int32) (gil62 : GI) : Option ((Int32 × GI) ⊕ (GI)) :=
  if 8 ≤ x4l62 then
  (some (.inr gil62))
  else
  ((g_ld gil62 43 8 x4l62).bind fun v6 =>
  (g_st gil62 37 8 x4l62 v6).bind fun gi7 =>
  some (.inl ((x4l62 + 1, gi7))))
def f_X4_joint_x62 (x1y62 : Int32) (x2y62 : Int32) (gie62 : GI) : Option (Int32 × GI) :=
  (f_X4_keepNow gie62 ).bind fun q8 =>
  (f_X4_layBest q8 x1y62 0).bind fun q9 =>
  (f_X4_layBestRow q9 x1y62 1).bind fun q10 =>
  (f_X4_layBest q10 x2y62 0).bind fun q11 =>
  (f_X4_layBestRow q11 x2y62 1).bind fun q12 =>
  (f_X4_growthOf q12 x1y62).bind fun q13 =>
  (f_X4_growthOf q13.2 x2y62).bind fun q14 =>
  (f_X4_bringBack q14.2 ).bind fun q15 =>
  some ((q15 0 63) - (q13.1 + q14.1), q15)
def f_X4_joint_x21 (x1y21 : Int32) (x2y21 : Int32) (x3y21 : Int32) (gie21 : GI) : Option (Int32 × GI) :=
  (f_X4_layPool gie21 x1y21 x2y21).bind fun q4 =>
  (some (g_pi q4 0 55 x3y21)).bind fun gi5 =>
  (g_loop g_K (fun (s : Int32 × GI) => f_X4_joint_l62 x1y21 x2y21 s.1 s.2) (0, gi5)).bind fun E62 => f_X4_joint_x62 x1y21 x2y21 E62
def f_X4_joint (gi : GI) (x1 : Int32) (x2 : Int32) : Option (Int32 × GI) :=
  (f_X4_areTwo gi x1 x2).bind fun q1 =>
  if q1 = 0 then
  (some ((-1000000), gi))
  else
  ((g_loop g_K (fun (s : Int32 × GI) => f_X4_joint_l21 x1 x2 (gi 0 55) s.1 s.2) (0, gi)).bind fun E21 => f_X4_joint_x21 x1 x2 (gi 0 55) E21)
set_option maxHeartbeats 400000 in
theorem w_X4_joint (l : Launch) (D : va_G) (cA : Nat → ClassId) (ad : Nat → Nat) (gi : GI) (gl : GL) (x1 : Int32) (x2 : Int32) (r : Int32 × GI) (h : f_X4_joint gi x1 x2 = some r) (sz : Nat) : Met l yX4_joint (ws_ yX4_joint cX4_joint 5 (some .int)) ({ frames := 6, cells := 0, slots := 0, locals := 140 } : Room) (va_Pc [.ref (ad 0), .int x1, .int x2] (MPre D cA ad gi gl sz)) (va_Qi (fun v u => (v, u.1) = r ∧ u.2 = gl) (MPost D cA ad) (MA ad sz)) 0 0 (MA ad sz) := by
  refine mm_stI (by decide +kernel) rfl (Nat.le_of_ble_eq_true rfl) (fun p e s m args below meth c R Q A ls C hF hN B hret hL => ?_) sz
  have hx := C.1
  have hb := C.2.1
  have hL : lv_has ls 5 [(0, .ref (ad 0)), (1, .int x1), (2, .int x2)] := hL
  unfold f_X4_joint at h
  refine lv_aload_n hx hb dX4_joint_0 rfl (lv_at hL 0 rfl) ?_
  refine lv_iload_n hx hb dX4_joint_1 rfl (lv_at hL 1 rfl) ?_
  refine lv_iload_n hx hb dX4_joint_2 rfl (lv_at hL 2 rfl) ?_
  refine k_X4_areTwo C B (Nat.le_trans (Nat.le_of_ble_eq_true rfl) hF) (Nat.le_trans (Nat.le_of_ble_eq_true rfl) hN) hL.1 (Nat.le_of_ble_eq_true rfl) h dX4_joint_3 (fun q1 h H locs B => ?_)
  refine gg_if_ne hx hb 13 h dX4_joint_6 (by decide) (fun h => ?_) (fun h => ?_)
  · refine lv_aload_n hx hb dX4_joint_13 rfl (lv_at hL 0 rfl) ?_
    refine mg_55 C B dX4_joint_14 ?_
    refine lv_istore_n (lv' := [(3, .int (gi 0 55)), (0, .ref (ad 0)), (1, .int x1), (2, .int x2)]) hx hb dX4_joint_17 rfl hL (by decide) rfl (fun ls hL => ?_)
    refine lv_iconst (v := 0) hx hb dX4_joint_18 (by decide) ?_
    refine lv_istore (lv' := [(4, .int 0), (3, .int (gi 0 55)), (0, .ref (ad 0)), (1, .int x1), (2, .int x2)]) hx hb dX4_joint_19 hL (by decide) rfl (fun ls hL => ?_)
    obtain ⟨E21, h821, h⟩ := g_ob h
    have kx21 : ∀ (gie21 : GI) (H : Heap) (locs : List Loc) (ls : Array Slot), gie21 = E21 → MB D cA ad A s gie21 gl H locs → lv_has ls 5 [(0, .ref (ad 0)), (1, .int x1), (2, .int x2), (3, .int (gi 0 55))] → W p l e R s m args below meth c H locs 0 0 Q (F0 m 48 ls []) := by
      intro gie21 H locs ls he B hL
      subst he
      have h : f_X4_joint_x21 x1 x2 (gi 0 55) gie21 = some r := h
      unfold f_X4_joint_x21 at h
      refine lv_aload_n hx hb dX4_joint_48 rfl (lv_at hL 0 rfl) ?_
      refine lv_iload_n hx hb dX4_joint_49 rfl (lv_at hL 1 rfl) ?_
      refine lv_iload_n hx hb dX4_joint_50 rfl (lv_at hL 2 rfl) ?_
      refine k_X4_layPool C B (Nat.le_trans (Nat.le_of_ble_eq_true rfl) hF) (Nat.le_trans (Nat.le_of_ble_eq_true rfl) hN) hL.1 (Nat.le_of_ble_eq_true rfl) h dX4_joint_51 (fun q4 h H locs B => ?_)
      refine lv_aload_n hx hb dX4_joint_54 rfl (lv_at hL 0 rfl) ?_
      refine lv_iload_n hx hb dX4_joint_55 rfl (lv_at hL 3 rfl) ?_
      refine mp_55 C B h dX4_joint_56 (fun gi5 h H locs B => ?_)
      refine lv_iconst (v := 0) hx hb dX4_joint_59 (by decide) ?_
      refine lv_istore (lv' := [(4, .int 0), (0, .ref (ad 0)), (1, .int x1), (2, .int x2), (3, .int (gi 0 55))]) hx hb dX4_joint_60 hL (by decide) rfl (fun ls hL => ?_)
      obtain ⟨E62, h862, h⟩ := g_ob h
      have kx62 : ∀ (gie62 : GI) (H : Heap) (locs : List Loc) (ls : Array Slot), gie62 = E62 → MB D cA ad A s gie62 gl H locs → lv_has ls 5 [(0, .ref (ad 0)), (1, .int x1), (2, .int x2)] → W p l e R s m args below meth c H locs 0 0 Q (F0 m 89 ls []) := by
        intro gie62 H locs ls he B hL
        subst he
        have h : f_X4_joint_x62 x1 x2 gie62 = some r := h
        unfold f_X4_joint_x62 at h
        refine lv_aload_n hx hb dX4_joint_89 rfl (lv_at hL 0 rfl) ?_
        refine k_X4_keepNow C B (Nat.le_trans (Nat.le_of_ble_eq_true rfl) hF) (Nat.le_trans (Nat.le_of_ble_eq_true rfl) hN) hL.1 (Nat.le_of_ble_eq_true rfl) h dX4_joint_90 (fun q8 h H locs B => ?_)
        refine lv_aload_n hx hb dX4_joint_93 rfl (lv_at hL 0 rfl) ?_
        refine lv_iload_n hx hb dX4_joint_94 rfl (lv_at hL 1 rfl) ?_
        refine lv_iconst (v := 0) hx hb dX4_joint_95 (by decide) ?_
        refine k_X4_layBest C B (Nat.le_trans (Nat.le_of_ble_eq_true rfl) hF) (Nat.le_trans (Nat.le_of_ble_eq_true rfl) hN) hL.1 (Nat.le_of_ble_eq_true rfl) h dX4_joint_96 (fun q9 h H locs B => ?_)
        refine lv_aload_n hx hb dX4_joint_99 rfl (lv_at hL 0 rfl) ?_
        refine lv_iload_n hx hb dX4_joint_100 rfl (lv_at hL 1 rfl) ?_
        refine lv_iconst (v := 1) hx hb dX4_joint_101 (by decide) ?_
        refine k_X4_layBestRow C B (Nat.le_trans (Nat.le_of_ble_eq_true rfl) hF) (Nat.le_trans (Nat.le_of_ble_eq_true rfl) hN) hL.1 (Nat.le_of_ble_eq_true rfl) h dX4_joint_102 (fun q10 h H locs B => ?_)
        refine lv_aload_n hx hb dX4_joint_105 rfl (lv_at hL 0 rfl) ?_
        refine lv_iload_n hx hb dX4_joint_106 rfl (lv_at hL 2 rfl) ?_
        refine lv_iconst (v := 0) hx hb dX4_joint_107 (by decide) ?_
        refine k_X4_layBest C B (Nat.le_trans (Nat.le_of_ble_eq_true rfl) hF) (Nat.le_trans (Nat.le_of_ble_eq_true rfl) hN) hL.1 (Nat.le_of_ble_eq_true rfl) h dX4_joint_108 (fun q11 h H locs B => ?_)
        refine lv_aload_n hx hb dX4_joint_111 rfl (lv_at hL 0 rfl) ?_
        refine lv_iload_n hx hb dX4_joint_112 rfl (lv_at hL 2 rfl) ?_
        refine lv_iconst (v := 1) hx hb dX4_joint_113 (by decide) ?_
        refine k_X4_layBestRow C B (Nat.le_trans (Nat.le_of_ble_eq_true rfl) hF) (Nat.le_trans (Nat.le_of_ble_eq_true rfl) hN) hL.1 (Nat.le_of_ble_eq_true rfl) h dX4_joint_114 (fun q12 h H locs B => ?_)
        refine lv_aload_n hx hb dX4_joint_117 rfl (lv_at hL 0 rfl) ?_
        refine lv_iload_n hx hb dX4_joint_118 rfl (lv_at hL 1 rfl) ?_
        refine k_X4_growthOf C B (Nat.le_trans (Nat.le_of_ble_eq_true rfl) hF) (Nat.le_trans (Nat.le_of_ble_eq_true rfl) hN) hL.1 (Nat.le_of_ble_eq_true rfl) h dX4_joint_119 (fun q13 h H locs B => ?_)
        refine lv_aload_n hx hb dX4_joint_122 rfl (lv_at hL 0 rfl) ?_
        refine lv_iload_n hx hb dX4_joint_123 rfl (lv_at hL 2 rfl) ?_
        refine k_X4_growthOf C B (Nat.le_trans (Nat.le_of_ble_eq_true rfl) hF) (Nat.le_trans (Nat.le_of_ble_eq_true rfl) hN) hL.1 (Nat.le_of_ble_eq_true rfl) h dX4_joint_124 (fun q14 h H locs B => ?_)
        refine lv_iadd hx hb dX4_joint_127 ?_
        refine lv_istore (lv' := [(4, .int (q13.1 + q14.1)), (0, .ref (ad 0)), (1, .int x1), (2, .int x2)]) hx hb dX4_joint_128 hL (by decide) rfl (fun ls hL => ?_)
        refine lv_aload_n hx hb dX4_joint_130 rfl (lv_at hL 1 rfl) ?_
        refine k_X4_bringBack C B (Nat.le_trans (Nat.le_of_ble_eq_true rfl) hF) (Nat.le_trans (Nat.le_of_ble_eq_true rfl) hN) hL.1 (Nat.le_of_ble_eq_true rfl) h dX4_joint_131 (fun q15 h H locs B => ?_)
        refine lv_aload_n hx hb dX4_joint_134 rfl (lv_at hL 1 rfl) ?_
        refine mg_63 C B dX4_joint_135 ?_
        refine lv_iload hx hb dX4_joint_138 (lv_at hL 0 rfl) ?_
        refine lv_isub hx hb dX4_joint_140 ?_
        exact hret _ _ _ _ _ _ _ ⟨Option.some.inj h, rfl⟩ B dX4_joint_141
      have hl62 : ∀ (k : Nat) (x4l62 : Int32) (gil62 : GI) (H : Heap) (locs : List Loc) (ls : Array Slot), g_loop k (fun (s : Int32 × GI) => f_X4_joint_l62 x1 x2 s.1 s.2) (x4l62, gil62) = some E62 → MB D cA ad A s gil62 gl H locs → lv_has ls 5 [(0, .ref (ad 0)), (1, .int x1), (2, .int x2), (4, .int x4l62)] → W p l e R s m args below meth c H locs 0 0 Q (F0 m 62 ls []) := by
        intro k
        induction k with
        | zero => intro x4l62 gil62 H locs ls h; exact absurd h (fun z => g_loop_0 z)
        | succ k ih62 =>
          intro x4l62 gil62 H locs ls h B hL
          obtain ⟨Z62, h, h962⟩ := g_loop_s h
          have h : f_X4_joint_l62 x1 x2 x4l62 gil62 = some Z62 := h
          unfold f_X4_joint_l62 at h
          refine lv_iload hx hb dX4_joint_62 (lv_at hL 3 rfl) ?_
          refine lv_bipush (v := 8) hx hb dX4_joint_64 (by decide) ?_
          refine gg_icmp_ge hx hb 89 h dX4_joint_66 (by decide) (fun h => ?_) (fun h => ?_)
          · exact kx62 _ _ _ _ (g_exit h h962) B (lv_sub hL [0, 1, 2] rfl)
          · refine lv_aload_n hx hb dX4_joint_69 rfl (lv_at hL 0 rfl) ?_
            refine mg_54 C B dX4_joint_70 ?_
            refine lv_iload hx hb dX4_joint_73 (lv_at hL 3 rfl) ?_
            refine lv_aload_n hx hb dX4_joint_75 rfl (lv_at hL 0 rfl) ?_
            refine mg_65 C B dX4_joint_76 ?_
            refine lv_iload hx hb dX4_joint_79 (lv_at hL 3 rfl) ?_
            refine mm_iald C B (a := 43) (n := 8) (Nat.le_of_ble_eq_true rfl) rfl h dX4_joint_81 (fun v6 h => ?_)
            refine mm_iast C B (a := 37) (n := 8) (Nat.le_of_ble_eq_true rfl) rfl h dX4_joint_82 (fun gi7 h H locs B => ?_)
            refine lv_iinc (v := x4l62 + 1) (lv' := [(4, .int (x4l62 + 1)), (0, .ref (ad 0)), (1, .int x1), (2, .int x2)]) hx hb dX4_joint_83 hL (k := 3) rfl rfl (by decide) rfl (fun ls hL => ?_)
            refine lv_goto (tgt := 62) hx hb dX4_joint_86 (by decide) ?_
            exact ih62 _ _ _ _ _ (g_next h h962) B (lv_sub hL [1, 2, 3, 0] rfl)
      exact hl62 g_K _ _ _ _ _ h862 B (lv_sub hL [1, 2, 3, 0] rfl)
    have hl21 : ∀ (k : Nat) (x4l21 : Int32) (gil21 : GI) (H : Heap) (locs : List Loc) (ls : Array Slot), g_loop k (fun (s : Int32 × GI) => f_X4_joint_l21 x1 x2 (gi 0 55) s.1 s.2) (x4l21, gil21) = some E21 → MB D cA ad A s gil21 gl H locs → lv_has ls 5 [(0, .ref (ad 0)), (1, .int x1), (2, .int x2), (3, .int (gi 0 55)), (4, .int x4l21)] → W p l e R s m args below meth c H locs 0 0 Q (F0 m 21 ls []) := by
      intro k
      induction k with
      | zero => intro x4l21 gil21 H locs ls h; exact absurd h (fun z => g_loop_0 z)
      | succ k ih21 =>
        intro x4l21 gil21 H locs ls h B hL
        obtain ⟨Z21, h, h921⟩ := g_loop_s h
        have h : f_X4_joint_l21 x1 x2 (gi 0 55) x4l21 gil21 = some Z21 := h
        unfold f_X4_joint_l21 at h
        refine lv_iload hx hb dX4_joint_21 (lv_at hL 4 rfl) ?_
        refine lv_bipush (v := 8) hx hb dX4_joint_23 (by decide) ?_
        refine gg_icmp_ge hx hb 48 h dX4_joint_25 (by decide) (fun h => ?_) (fun h => ?_)
        · exact kx21 _ _ _ _ (g_exit h h921) B (lv_sub hL [0, 1, 2, 3] rfl)
        · refine lv_aload_n hx hb dX4_joint_28 rfl (lv_at hL 0 rfl) ?_
          refine mg_65 C B dX4_joint_29 ?_
          refine lv_iload hx hb dX4_joint_32 (lv_at hL 4 rfl) ?_
          refine lv_aload_n hx hb dX4_joint_34 rfl (lv_at hL 0 rfl) ?_
          refine mg_54 C B dX4_joint_35 ?_
          refine lv_iload hx hb dX4_joint_38 (lv_at hL 4 rfl) ?_
          refine mm_iald C B (a := 37) (n := 8) (Nat.le_of_ble_eq_true rfl) rfl h dX4_joint_40 (fun v2 h => ?_)
          refine mm_iast C B (a := 43) (n := 8) (Nat.le_of_ble_eq_true rfl) rfl h dX4_joint_41 (fun gi3 h H locs B => ?_)
          refine lv_iinc (v := x4l21 + 1) (lv' := [(4, .int (x4l21 + 1)), (0, .ref (ad 0)), (1, .int x1), (2, .int x2), (3, .int (gi 0 55))]) hx hb dX4_joint_42 hL (k := 4) rfl rfl (by decide) rfl (fun ls hL => ?_)
          refine lv_goto (tgt := 21) hx hb dX4_joint_45 (by decide) ?_
          exact ih21 _ _ _ _ _ (g_next h h921) B (lv_sub hL [1, 2, 3, 4, 0] rfl)
    exact hl21 g_K _ _ _ _ _ h821 B (lv_sub hL [2, 3, 4, 1, 0] rfl)
  · refine lv_ldcw (v := (-1000000)) hx hb C.2.2.2.1 (C.2.2.2.2 _ q2126) dX4_joint_9 ?_
    exact hret _ _ _ _ _ _ _ ⟨Option.some.inj h, rfl⟩ B dX4_joint_12
def f_X4_goRound_l14 (x1i14 : Int32) (x2i14 : Int32) (x3l14 : Int32) (gil14 : GI) : Option ((Int32 × GI) ⊕ (GI)) :=
  if 3 ≤ x3l14 then
  (some (.inr gil14))
  else
  ((g_ld gil14 44 15 ((3 * x2i14) + x3l14)).bind fun v2 =>
  (f_X4_lay gil14 x2i14 x3l14 v2 ((-1))).bind fun q3 =>
  some (.inl ((x3l14 + 1, q3))))
def f_X4_goRound_j83 (x2j83 : Int32) (gij83 : GI) (x3j83 : Int32) (t0j83 : Int32) : Option ((Int32 × Int32 × GI) ⊕ (Int32 × GI)) :=
  (g_ld gij83 36 3 x3j83).bind fun v5 =>
  (g_st gij83 44 15 ((3 * x2j83) + x3j83) v5).bind fun gi6 =>
  some (.inl ((t0j83, x3j83 + 1, gi6)))
def f_X4_goRound_j78 (x2j78 : Int32) (gij78 : GI) (x3j78 : Int32) : Option ((Int32 × Int32 × GI) ⊕ (Int32 × GI)) :=
  f_X4_goRound_j83 x2j78 gij78 x3j78 1
def f_X4_goRound_l50 (x2i50 : Int32) (x1l50 : Int32) (x3l50 : Int32) (gil50 : GI) : Option ((Int32 × Int32 × GI) ⊕ (Int32 × GI)) :=
  if 3 ≤ x3l50 then
  (some (.inr ((x1l50, gil50))))
  else
  (if x1l50 = 0 then
  ((g_ld gil50 44 15 ((3 * x2i50) + x3l50)).bind fun v7 =>
  (g_ld gil50 36 3 x3l50).bind fun v8 =>
  if v7 = v8 then
  (f_X4_goRound_j83 x2i50 gil50 x3l50 0)
  else
  (f_X4_goRound_j78 x2i50 gil50 x3l50))
  else
  (f_X4_goRound_j78 x2i50 gil50 x3l50))
def f_X4_goRound_x50 (x2y50 : Int32) (x1e50 : Int32) (gie50 : GI) : Option ((Int32 × Int32 × GI) ⊕ (Int32 × GI)) :=
  (f_X4_layBestRow gie50 x2y50 1).bind fun q9 =>
  some (.inl ((x1e50, x2y50 + 1, q9)))
def f_X4_goRound_x14 (x1y14 : Int32) (x2y14 : Int32) (gie14 : GI) : Option ((Int32 × Int32 × GI) ⊕ (Int32 × GI)) :=
  (f_X4_layBest gie14 x2y14 0).bind fun q4 =>
  (g_loop g_K (fun (s : Int32 × Int32 × GI) => f_X4_goRound_l50 x2y14 s.1 s.2.1 s.2.2) (x1y14, 0, q4)).bind fun E50 => f_X4_goRound_x50 x2y14 E50.1 E50.2
def f_X4_goRound_l4 (x1l4 : Int32) (x2l4 : Int32) (gil4 : GI) : Option ((Int32 × Int32 × GI) ⊕ (Int32 × GI)) :=
  (f_X4_many gil4 ).bind fun q1 =>
  if q1 ≤ x2l4 then
  (some (.inr ((x1l4, gil4))))
  else
  ((g_loop g_K (fun (s : Int32 × GI) => f_X4_goRound_l14 x1l4 x2l4 s.1 s.2) (0, gil4)).bind fun E14 => f_X4_goRound_x14 x1l4 x2l4 E14)
def f_X4_goRound_x4 (x1e4 : Int32) (gie4 : GI) : Option (Int32 × GI) :=
  (g_zb x1e4).bind fun _ =>
  some (x1e4, gie4)
def f_X4_goRound (gi : GI)  : Option (Int32 × GI) :=
  (g_loop g_K (fun (s : Int32 × Int32 × GI) => f_X4_goRound_l4 s.1 s.2.1 s.2.2) (0, 0, gi)).bind fun E4 => f_X4_goRound_x4 E4.1 E4.2
set_option maxHeartbeats 400000 in
theorem w_X4_goRound (l : Launch) (D : va_G) (cA : Nat → ClassId) (ad : Nat → Nat) (gi : GI) (gl : GL)  (r : Int32 × GI) (h : f_X4_goRound gi  = some r) (sz : Nat) : Met l yX4_goRound (ws_ yX4_goRound cX4_goRound 4 (some .boolean)) ({ frames := 6, cells := 0, slots := 0, locals := 138 } : Room) (va_Pc [.ref (ad 0)] (MPre D cA ad gi gl sz)) (va_Qi (fun v u => (v, u.1) = r ∧ u.2 = gl) (MPost D cA ad) (MA ad sz)) 0 0 (MA ad sz) := by
  refine mm_stZ (by decide +kernel) rfl (Nat.le_of_ble_eq_true rfl) (fun p e s m args below meth c R Q A ls C hF hN B hret hL => ?_) sz
  have hx := C.1
  have hb := C.2.1
  have hL : lv_has ls 4 [(0, .ref (ad 0))] := hL
  unfold f_X4_goRound at h
  refine lv_iconst (v := 0) hx hb dX4_goRound_0 (by decide) ?_
  refine lv_istore_n (lv' := [(1, .int 0), (0, .ref (ad 0))]) hx hb dX4_goRound_1 rfl hL (by decide) rfl (fun ls hL => ?_)
  refine lv_iconst (v := 0) hx hb dX4_goRound_2 (by decide) ?_
  refine lv_istore_n (lv' := [(2, .int 0), (1, .int 0), (0, .ref (ad 0))]) hx hb dX4_goRound_3 rfl hL (by decide) rfl (fun ls hL => ?_)
  obtain ⟨E4, h84, h⟩ := g_ob h
  have kx4 : ∀ (x1e4 : Int32) (gie4 : GI) (H : Heap) (locs : List Loc) (ls : Array Slot), (x1e4, gie4) = E4 → MB D cA ad A s gie4 gl H locs → lv_has ls 4 [(1, .int x1e4)] → W p l e R s m args below meth c H locs 0 0 Q (F0 m 118 ls []) := by
    intro x1e4 gie4 H locs ls he B hL
    subst he
    have h : f_X4_goRound_x4 x1e4 gie4 = some r := h
    unfold f_X4_goRound_x4 at h
    refine lv_iload_n hx hb dX4_goRound_118 rfl (lv_at hL 0 rfl) ?_
    refine mm_zb h (fun hz h => ?_)
    exact hret _ _ _ _ _ _ _ ⟨Option.some.inj h, rfl⟩ hz B dX4_goRound_119
  have hl4 : ∀ (k : Nat) (x1l4 : Int32) (x2l4 : Int32) (gil4 : GI) (H : Heap) (locs : List Loc) (ls : Array Slot), g_loop k (fun (s : Int32 × Int32 × GI) => f_X4_goRound_l4 s.1 s.2.1 s.2.2) (x1l4, x2l4, gil4) = some E4 → MB D cA ad A s gil4 gl H locs → lv_has ls 4 [(0, .ref (ad 0)), (1, .int x1l4), (2, .int x2l4)] → W p l e R s m args below meth c H locs 0 0 Q (F0 m 4 ls []) := by
    intro k
    induction k with
    | zero => intro x1l4 x2l4 gil4 H locs ls h; exact absurd h (fun z => g_loop_0 z)
    | succ k ih4 =>
      intro x1l4 x2l4 gil4 H locs ls h B hL
      obtain ⟨Z4, h, h94⟩ := g_loop_s h
      have h : f_X4_goRound_l4 x1l4 x2l4 gil4 = some Z4 := h
      unfold f_X4_goRound_l4 at h
      refine lv_iload_n hx hb dX4_goRound_4 rfl (lv_at hL 2 rfl) ?_
      refine lv_aload_n hx hb dX4_goRound_5 rfl (lv_at hL 0 rfl) ?_
      refine k_X4_many C B (Nat.le_trans (Nat.le_of_ble_eq_true rfl) hF) (Nat.le_trans (Nat.le_of_ble_eq_true rfl) hN) hL.1 (Nat.le_of_ble_eq_true rfl) h dX4_goRound_6 (fun q1 h H locs B => ?_)
      refine gg_icmp_ge hx hb 118 h dX4_goRound_9 (by decide) (fun h => ?_) (fun h => ?_)
      · exact kx4 _ _ _ _ _ (g_exit h h94) B (lv_sub hL [1] rfl)
      · refine lv_iconst (v := 0) hx hb dX4_goRound_12 (by decide) ?_
        refine lv_istore_n (lv' := [(3, .int 0), (0, .ref (ad 0)), (1, .int x1l4), (2, .int x2l4)]) hx hb dX4_goRound_13 rfl hL (by decide) rfl (fun ls hL => ?_)
        obtain ⟨E14, h814, h⟩ := g_ob h
        have kx14 : ∀ (gie14 : GI) (H : Heap) (locs : List Loc) (ls : Array Slot), gie14 = E14 → MB D cA ad A s gie14 gl H locs → lv_has ls 4 [(0, .ref (ad 0)), (1, .int x1l4), (2, .int x2l4)] → W p l e R s m args below meth c H locs 0 0 Q (F0 m 42 ls []) := by
          intro gie14 H locs ls he B hL
          subst he
          have h : f_X4_goRound_x14 x1l4 x2l4 gie14 = some Z4 := h
          unfold f_X4_goRound_x14 at h
          refine lv_aload_n hx hb dX4_goRound_42 rfl (lv_at hL 0 rfl) ?_
          refine lv_iload_n hx hb dX4_goRound_43 rfl (lv_at hL 2 rfl) ?_
          refine lv_iconst (v := 0) hx hb dX4_goRound_44 (by decide) ?_
          refine k_X4_layBest C B (Nat.le_trans (Nat.le_of_ble_eq_true rfl) hF) (Nat.le_trans (Nat.le_of_ble_eq_true rfl) hN) hL.1 (Nat.le_of_ble_eq_true rfl) h dX4_goRound_45 (fun q4 h H locs B => ?_)
          refine lv_iconst (v := 0) hx hb dX4_goRound_48 (by decide) ?_
          refine lv_istore_n (lv' := [(3, .int 0), (0, .ref (ad 0)), (1, .int x1l4), (2, .int x2l4)]) hx hb dX4_goRound_49 rfl hL (by decide) rfl (fun ls hL => ?_)
          obtain ⟨E50, h850, h⟩ := g_ob h
          have kx50 : ∀ (x1e50 : Int32) (gie50 : GI) (H : Heap) (locs : List Loc) (ls : Array Slot), (x1e50, gie50) = E50 → MB D cA ad A s gie50 gl H locs → lv_has ls 4 [(0, .ref (ad 0)), (1, .int x1e50), (2, .int x2l4)] → W p l e R s m args below meth c H locs 0 0 Q (F0 m 106 ls []) := by
            intro x1e50 gie50 H locs ls he B hL
            subst he
            have h : f_X4_goRound_x50 x2l4 x1e50 gie50 = some Z4 := h
            unfold f_X4_goRound_x50 at h
            refine lv_aload_n hx hb dX4_goRound_106 rfl (lv_at hL 0 rfl) ?_
            refine lv_iload_n hx hb dX4_goRound_107 rfl (lv_at hL 2 rfl) ?_
            refine lv_iconst (v := 1) hx hb dX4_goRound_108 (by decide) ?_
            refine k_X4_layBestRow C B (Nat.le_trans (Nat.le_of_ble_eq_true rfl) hF) (Nat.le_trans (Nat.le_of_ble_eq_true rfl) hN) hL.1 (Nat.le_of_ble_eq_true rfl) h dX4_goRound_109 (fun q9 h H locs B => ?_)
            refine lv_iinc (v := x2l4 + 1) (lv' := [(2, .int (x2l4 + 1)), (0, .ref (ad 0)), (1, .int x1e50)]) hx hb dX4_goRound_112 hL (k := 2) rfl rfl (by decide) rfl (fun ls hL => ?_)
            refine lv_goto (tgt := 4) hx hb dX4_goRound_115 (by decide) ?_
            exact ih4 _ _ _ _ _ _ (g_next h h94) B (lv_sub hL [1, 2, 0] rfl)
          have hl50 : ∀ (k : Nat) (x1l50 : Int32) (x3l50 : Int32) (gil50 : GI) (H : Heap) (locs : List Loc) (ls : Array Slot), g_loop k (fun (s : Int32 × Int32 × GI) => f_X4_goRound_l50 x2l4 s.1 s.2.1 s.2.2) (x1l50, x3l50, gil50) = some E50 → MB D cA ad A s gil50 gl H locs → lv_has ls 4 [(0, .ref (ad 0)), (1, .int x1l50), (2, .int x2l4), (3, .int x3l50)] → W p l e R s m args below meth c H locs 0 0 Q (F0 m 50 ls []) := by
            intro k
            induction k with
            | zero => intro x1l50 x3l50 gil50 H locs ls h; exact absurd h (fun z => g_loop_0 z)
            | succ k ih50 =>
              intro x1l50 x3l50 gil50 H locs ls h B hL
              obtain ⟨Z50, h, h950⟩ := g_loop_s h
              have h : f_X4_goRound_l50 x2l4 x1l50 x3l50 gil50 = some Z50 := h
              unfold f_X4_goRound_l50 at h
              have hj83 : ∀ (gij83 : GI) (x3j83 : Int32) (t0j83 : Int32) (H : Heap) (locs : List Loc) (ls : Array Slot), f_X4_goRound_j83 x2l4 gij83 x3j83 t0j83 = some Z50 → MB D cA ad A s gij83 gl H locs → lv_has ls 4 [(0, .ref (ad 0)), (2, .int x2l4), (3, .int x3j83)] → W p l e R s m args below meth c H locs 0 0 Q (F0 m 83 ls [.int t0j83]) := by
                intro gij83 x3j83 t0j83 H locs ls h B hL
                unfold f_X4_goRound_j83 at h
                refine lv_istore_n (lv' := [(1, .int t0j83), (0, .ref (ad 0)), (2, .int x2l4), (3, .int x3j83)]) hx hb dX4_goRound_83 rfl hL (by decide) rfl (fun ls hL => ?_)
                refine lv_aload_n hx hb dX4_goRound_84 rfl (lv_at hL 1 rfl) ?_
                refine mg_66 C B dX4_goRound_85 ?_
                refine lv_iconst (v := 3) hx hb dX4_goRound_88 (by decide) ?_
                refine lv_iload_n hx hb dX4_goRound_89 rfl (lv_at hL 2 rfl) ?_
                refine lv_imul hx hb dX4_goRound_90 ?_
                refine lv_iload_n hx hb dX4_goRound_91 rfl (lv_at hL 3 rfl) ?_
                refine lv_iadd hx hb dX4_goRound_92 ?_
                refine lv_aload_n hx hb dX4_goRound_93 rfl (lv_at hL 1 rfl) ?_
                refine mg_53 C B dX4_goRound_94 ?_
                refine lv_iload_n hx hb dX4_goRound_97 rfl (lv_at hL 3 rfl) ?_
                refine mm_iald C B (a := 36) (n := 3) (Nat.le_of_ble_eq_true rfl) rfl h dX4_goRound_98 (fun v5 h => ?_)
                refine mm_iast C B (a := 44) (n := 15) (Nat.le_of_ble_eq_true rfl) rfl h dX4_goRound_99 (fun gi6 h H locs B => ?_)
                refine lv_iinc (v := x3j83 + 1) (lv' := [(3, .int (x3j83 + 1)), (1, .int t0j83), (0, .ref (ad 0)), (2, .int x2l4)]) hx hb dX4_goRound_100 hL (k := 3) rfl rfl (by decide) rfl (fun ls hL => ?_)
                refine lv_goto (tgt := 50) hx hb dX4_goRound_103 (by decide) ?_
                exact ih50 _ _ _ _ _ _ (g_next h h950) B (lv_sub hL [2, 1, 3, 0] rfl)
              have hj78 : ∀ (gij78 : GI) (x3j78 : Int32) (H : Heap) (locs : List Loc) (ls : Array Slot), f_X4_goRound_j78 x2l4 gij78 x3j78 = some Z50 → MB D cA ad A s gij78 gl H locs → lv_has ls 4 [(0, .ref (ad 0)), (2, .int x2l4), (3, .int x3j78)] → W p l e R s m args below meth c H locs 0 0 Q (F0 m 78 ls []) := by
                intro gij78 x3j78 H locs ls h B hL
                unfold f_X4_goRound_j78 at h
                refine lv_iconst (v := 1) hx hb dX4_goRound_78 (by decide) ?_
                refine lv_goto (tgt := 83) hx hb dX4_goRound_79 (by decide) ?_
                exact hj83 _ _ _ _ _ _ h B (lv_sub hL [0, 1, 2] rfl)
              refine lv_iload_n hx hb dX4_goRound_50 rfl (lv_at hL 3 rfl) ?_
              refine lv_iconst (v := 3) hx hb dX4_goRound_51 (by decide) ?_
              refine gg_icmp_ge hx hb 106 h dX4_goRound_52 (by decide) (fun h => ?_) (fun h => ?_)
              · exact kx50 _ _ _ _ _ (g_exit h h950) B (lv_sub hL [0, 1, 2] rfl)
              · refine lv_iload_n hx hb dX4_goRound_55 rfl (lv_at hL 1 rfl) ?_
                refine gg_if_ne hx hb 78 h dX4_goRound_56 (by decide) (fun h => ?_) (fun h => ?_)
                · exact hj78 _ _ _ _ _ h B (lv_sub hL [0, 2, 3] rfl)
                · refine lv_aload_n hx hb dX4_goRound_59 rfl (lv_at hL 0 rfl) ?_
                  refine mg_66 C B dX4_goRound_60 ?_
                  refine lv_iconst (v := 3) hx hb dX4_goRound_63 (by decide) ?_
                  refine lv_iload_n hx hb dX4_goRound_64 rfl (lv_at hL 2 rfl) ?_
                  refine lv_imul hx hb dX4_goRound_65 ?_
                  refine lv_iload_n hx hb dX4_goRound_66 rfl (lv_at hL 3 rfl) ?_
                  refine lv_iadd hx hb dX4_goRound_67 ?_
                  refine mm_iald C B (a := 44) (n := 15) (Nat.le_of_ble_eq_true rfl) rfl h dX4_goRound_68 (fun v7 h => ?_)
                  refine lv_aload_n hx hb dX4_goRound_69 rfl (lv_at hL 0 rfl) ?_
                  refine mg_53 C B dX4_goRound_70 ?_
                  refine lv_iload_n hx hb dX4_goRound_73 rfl (lv_at hL 3 rfl) ?_
                  refine mm_iald C B (a := 36) (n := 3) (Nat.le_of_ble_eq_true rfl) rfl h dX4_goRound_74 (fun v8 h => ?_)
                  refine gg_icmp_eq hx hb 82 h dX4_goRound_75 (by decide) (fun h => ?_) (fun h => ?_)
                  · refine lv_iconst (v := 0) hx hb dX4_goRound_82 (by decide) ?_
                    exact hj83 _ _ _ _ _ _ h B (lv_sub hL [0, 2, 3] rfl)
                  · exact hj78 _ _ _ _ _ h B (lv_sub hL [0, 2, 3] rfl)
          exact hl50 g_K _ _ _ _ _ _ h850 B (lv_sub hL [1, 2, 3, 0] rfl)
        have hl14 : ∀ (k : Nat) (x3l14 : Int32) (gil14 : GI) (H : Heap) (locs : List Loc) (ls : Array Slot), g_loop k (fun (s : Int32 × GI) => f_X4_goRound_l14 x1l4 x2l4 s.1 s.2) (x3l14, gil14) = some E14 → MB D cA ad A s gil14 gl H locs → lv_has ls 4 [(0, .ref (ad 0)), (1, .int x1l4), (2, .int x2l4), (3, .int x3l14)] → W p l e R s m args below meth c H locs 0 0 Q (F0 m 14 ls []) := by
          intro k
          induction k with
          | zero => intro x3l14 gil14 H locs ls h; exact absurd h (fun z => g_loop_0 z)
          | succ k ih14 =>
            intro x3l14 gil14 H locs ls h B hL
            obtain ⟨Z14, h, h914⟩ := g_loop_s h
            have h : f_X4_goRound_l14 x1l4 x2l4 x3l14 gil14 = some Z14 := h
            unfold f_X4_goRound_l14 at h
            refine lv_iload_n hx hb dX4_goRound_14 rfl (lv_at hL 3 rfl) ?_
            refine lv_iconst (v := 3) hx hb dX4_goRound_15 (by decide) ?_
            refine gg_icmp_ge hx hb 42 h dX4_goRound_16 (by decide) (fun h => ?_) (fun h => ?_)
            · exact kx14 _ _ _ _ (g_exit h h914) B (lv_sub hL [0, 1, 2] rfl)
            · refine lv_aload_n hx hb dX4_goRound_19 rfl (lv_at hL 0 rfl) ?_
              refine lv_iload_n hx hb dX4_goRound_20 rfl (lv_at hL 2 rfl) ?_
              refine lv_iload_n hx hb dX4_goRound_21 rfl (lv_at hL 3 rfl) ?_
              refine lv_aload_n hx hb dX4_goRound_22 rfl (lv_at hL 0 rfl) ?_
              refine mg_66 C B dX4_goRound_23 ?_
              refine lv_iconst (v := 3) hx hb dX4_goRound_26 (by decide) ?_
              refine lv_iload_n hx hb dX4_goRound_27 rfl (lv_at hL 2 rfl) ?_
              refine lv_imul hx hb dX4_goRound_28 ?_
              refine lv_iload_n hx hb dX4_goRound_29 rfl (lv_at hL 3 rfl) ?_
              refine lv_iadd hx hb dX4_goRound_30 ?_
              refine mm_iald C B (a := 44) (n := 15) (Nat.le_of_ble_eq_true rfl) rfl h dX4_goRound_31 (fun v2 h => ?_)
              refine lv_iconst (v := (-1)) hx hb dX4_goRound_32 (by decide) ?_
              refine k_X4_lay C B (Nat.le_trans (Nat.le_of_ble_eq_true rfl) hF) (Nat.le_trans (Nat.le_of_ble_eq_true rfl) hN) hL.1 (Nat.le_of_ble_eq_true rfl) h dX4_goRound_33 (fun q3 h H locs B => ?_)
              refine lv_iinc (v := x3l14 + 1) (lv' := [(3, .int (x3l14 + 1)), (0, .ref (ad 0)), (1, .int x1l4), (2, .int x2l4)]) hx hb dX4_goRound_36 hL (k := 3) rfl rfl (by decide) rfl (fun ls hL => ?_)
              refine lv_goto (tgt := 14) hx hb dX4_goRound_39 (by decide) ?_
              exact ih14 _ _ _ _ _ (g_next h h914) B (lv_sub hL [1, 2, 3, 0] rfl)
        exact hl14 g_K _ _ _ _ _ h814 B (lv_sub hL [1, 2, 3, 0] rfl)
  exact hl4 g_K _ _ _ _ _ _ h84 B (lv_sub hL [2, 1, 0] rfl)
theorem k_X4_goRound {p : Program} {l : Launch} {e : Env} {R : Room} {s : State} {m : MethodId} {args : Array Value} {below : List Frame} {meth : Method} {c : Code} {H : Heap} {locs : List Loc} {Q : State → Prop} {pc : Nat} {ls : Array Slot} {rest : List Value} {cc : ByteArray} {nL : Nat} {D : va_G} {cA : Nat → ClassId} {ad : Nat → Nat} {A : Nat → Prop} {gi : GI} {gl : GL} {α : Type} {r : α}  {ff : (Int32 × GI) → Option α} (C : CallFix p m c cc nL s args lw_all RX4) (B : MB D cA ad A s gi gl H locs) (hF : 7 ≤ R.frames) (hN : 161 ≤ R.locals) (hs : ls.size = nL) (hw : (rest.map fun v => v.category).sum ≤ 8) (h : (f_X4_goRound gi ).bind ff = some r) (hdg : decode cc pc = .ok (.invokevirtual 528, 3)) (kk : ∀ q, ff q = some r → ∀ (H' : Heap) (locs' : List Loc), MB D cA ad A s q.2 gl H' locs' → W p l e R s m args below meth c H' locs' 0 0 Q (F0 m (pc + 3) ls (.int q.1 :: rest))) : W p l e R s m args below meth c H locs 0 0 Q (F0 m pc ls (.ref (ad 0) :: rest)) := by
  obtain ⟨q, h1, h2⟩ := g_ob h
  refine mm_cVI (As := []) (rest := rest) (n := 0) C B (fun sz => w_X4_goRound l D cA ad gi gl  q h1 sz) q2332 q2334 qs130 q150 q2335 (by decide +kernel) ⟨hF, hN⟩ rfl hs hw hdg (fun v u H9 locs9 hp B9 => ?_)
  obtain ⟨e1, e3⟩ := hp
  rw [e3] at B9
  subst e1
  exact kk _ h2 H9 locs9 B9
def f_X4_spendsOf (gi : GI) (x1 : Int32) : Option (Int32) :=
  (g_ld gi 44 15 (3 * x1)).bind fun v1 =>
  (g_ld gi 44 15 ((3 * x1) + 1)).bind fun v2 =>
  (g_ld gi 44 15 ((3 * x1) + 2)).bind fun v3 =>
  some ((v1 + v2) + v3)
set_option maxHeartbeats 400000 in
theorem w_X4_spendsOf (l : Launch) (D : va_G) (cA : Nat → ClassId) (ad : Nat → Nat) (gi : GI) (gl : GL) (x1 : Int32) (r : Int32) (h : f_X4_spendsOf gi x1 = some r) (sz : Nat) : Met l yX4_spendsOf (ws_ yX4_spendsOf cX4_spendsOf 2 (some .int)) ({ frames := 0, cells := 0, slots := 0, locals := 0 } : Room) (va_Pc [.ref (ad 0), .int x1] (MPre D cA ad gi gl sz)) (va_Qi (fun v u => v = r ∧ u.1 = gi ∧ u.2 = gl) (MPost D cA ad) (MA ad sz)) 0 0 (MA ad sz) := by
  refine mm_stI (by decide +kernel) rfl (Nat.le_of_ble_eq_true rfl) (fun p e s m args below meth c R Q A ls C hF hN B hret hL => ?_) sz
  have hx := C.1
  have hb := C.2.1
  have hL : lv_has ls 2 [(0, .ref (ad 0)), (1, .int x1)] := hL
  unfold f_X4_spendsOf at h
  refine lv_aload_n hx hb dX4_spendsOf_0 rfl (lv_at hL 0 rfl) ?_
  refine mg_66 C B dX4_spendsOf_1 ?_
  refine lv_iconst (v := 3) hx hb dX4_spendsOf_4 (by decide) ?_
  refine lv_iload_n hx hb dX4_spendsOf_5 rfl (lv_at hL 1 rfl) ?_
  refine lv_imul hx hb dX4_spendsOf_6 ?_
  refine mm_iald C B (a := 44) (n := 15) (Nat.le_of_ble_eq_true rfl) rfl h dX4_spendsOf_7 (fun v1 h => ?_)
  refine lv_aload_n hx hb dX4_spendsOf_8 rfl (lv_at hL 0 rfl) ?_
  refine mg_66 C B dX4_spendsOf_9 ?_
  refine lv_iconst (v := 3) hx hb dX4_spendsOf_12 (by decide) ?_
  refine lv_iload_n hx hb dX4_spendsOf_13 rfl (lv_at hL 1 rfl) ?_
  refine lv_imul hx hb dX4_spendsOf_14 ?_
  refine lv_iconst (v := 1) hx hb dX4_spendsOf_15 (by decide) ?_
  refine lv_iadd hx hb dX4_spendsOf_16 ?_
  refine mm_iald C B (a := 44) (n := 15) (Nat.le_of_ble_eq_true rfl) rfl h dX4_spendsOf_17 (fun v2 h => ?_)
  refine lv_iadd hx hb dX4_spendsOf_18 ?_
  refine lv_aload_n hx hb dX4_spendsOf_19 rfl (lv_at hL 0 rfl) ?_
  refine mg_66 C B dX4_spendsOf_20 ?_
  refine lv_iconst (v := 3) hx hb dX4_spendsOf_23 (by decide) ?_
  refine lv_iload_n hx hb dX4_spendsOf_24 rfl (lv_at hL 1 rfl) ?_
  refine lv_imul hx hb dX4_spendsOf_25 ?_
  refine lv_iconst (v := 2) hx hb dX4_spendsOf_26 (by decide) ?_
  refine lv_iadd hx hb dX4_spendsOf_27 ?_
  refine mm_iald C B (a := 44) (n := 15) (Nat.le_of_ble_eq_true rfl) rfl h dX4_spendsOf_28 (fun v3 h => ?_)
  refine lv_iadd hx hb dX4_spendsOf_29 ?_
  exact hret _ _ _ _ _ _ _ ⟨Option.some.inj h, rfl, rfl⟩ B dX4_spendsOf_30
theorem k_X4_spendsOf {p : Program} {l : Launch} {e : Env} {R : Room} {s : State} {m : MethodId} {args : Array Value} {below : List Frame} {meth : Method} {c : Code} {H : Heap} {locs : List Loc} {Q : State → Prop} {pc : Nat} {ls : Array Slot} {rest : List Value} {cc : ByteArray} {nL : Nat} {D : va_G} {cA : Nat → ClassId} {ad : Nat → Nat} {A : Nat → Prop} {gi : GI} {gl : GL} {α : Type} {r : α} {x1 : Int32} {ff : Int32 → Option α} (C : CallFix p m c cc nL s args lw_all RX4) (B : MB D cA ad A s gi gl H locs) (hF : 1 ≤ R.frames) (hN : 21 ≤ R.locals) (hs : ls.size = nL) (hw : (rest.map fun v => v.category).sum ≤ 8) (h : (f_X4_spendsOf gi x1).bind ff = some r) (hdg : decode cc pc = .ok (.invokevirtual 531, 3)) (kk : ∀ q, ff q = some r → ∀ (H' : Heap) (locs' : List Loc), MB D cA ad A s gi gl H' locs' → W p l e R s m args below meth c H' locs' 0 0 Q (F0 m (pc + 3) ls (.int q :: rest))) : W p l e R s m args below meth c H locs 0 0 Q (F0 m pc ls (.int x1 :: .ref (ad 0) :: rest)) := by
  obtain ⟨q, h1, h2⟩ := g_ob h
  refine mm_cVI (As := [.int x1]) (rest := rest) (n := 1) C B (fun sz => w_X4_spendsOf l D cA ad gi gl x1 q h1 sz) q2336 q2338 qs131 q150 q2339 (by decide +kernel) ⟨hF, hN⟩ rfl hs hw hdg (fun v u H9 locs9 hp B9 => ?_)
  obtain ⟨e1, e2, e3⟩ := hp
  rw [e2] at B9
  rw [e3] at B9
  subst e1
  exact kk _ h2 H9 locs9 B9
def f_X4_rest_l11 (x1l11 : Int32) (gil11 : GI) : Option ((Int32 × GI) ⊕ (GI)) :=
  if 15 ≤ x1l11 then
  (some (.inr gil11))
  else
  ((g_st gil11 44 15 x1l11 0).bind fun gi3 =>
  some (.inl ((x1l11 + 1, gi3))))
def f_X4_rest_l37 (x1l37 : Int32) (x2l37 : Int32) (gil37 : GI) : Option ((Int32 × Int32 × GI) ⊕ (Int32 × Int32 × GI)) :=
  if x2l37 = 0 then
  (some (.inr ((x1l37, x2l37, gil37))))
  else
  (if 20 ≤ x1l37 then
  (some (.inr ((x1l37, x2l37, gil37))))
  else
  ((f_X4_goRound gil37 ).bind fun q5 =>
  some (.inl ((x1l37 + 1, q5.1, q5.2)))))
def f_X4_rest_l70 (x1i70 : Int32) (x3l70 : Int32) (gil70 : GI) : Option ((Int32 × GI) ⊕ (GI)) :=
  (f_X4_many gil70 ).bind fun q7 =>
  if q7 ≤ x3l70 then
  (some (.inr gil70))
  else
  ((f_X4_spendsOf gil70 x3l70).bind fun q8 =>
  (g_st gil70 37 8 x3l70 q8).bind fun gi9 =>
  some (.inl ((x3l70 + 1, gi9))))
def f_X4_rest_x70 (x1y70 : Int32) (gie70 : GI) : Option (Int32 × GI) :=
  (f_X4_many gie70 ).bind fun q10 =>
  (some (g_pi gie70 0 55 q10)).bind fun gi11 =>
  some (x1y70, gi11)
def f_X4_rest_x37 (x1e37 : Int32) (x2e37 : Int32) (gie37 : GI) : Option (Int32 × GI) :=
  (f_X4_bringBack gie37 ).bind fun q6 =>
  if x2e37 = 0 then
  ((g_loop g_K (fun (s : Int32 × GI) => f_X4_rest_l70 x1e37 s.1 s.2) (0, q6)).bind fun E70 => f_X4_rest_x70 x1e37 E70)
  else
  (some ((-1), q6))
def f_X4_rest_x11 (gie11 : GI) : Option (Int32 × GI) :=
  (f_X4_goRound gie11 ).bind fun q4 =>
  (g_loop g_K (fun (s : Int32 × Int32 × GI) => f_X4_rest_l37 s.1 s.2.1 s.2.2) (0, q4.1, q4.2)).bind fun E37 => f_X4_rest_x37 E37.1 E37.2.1 E37.2.2
def f_X4_rest (gi : GI)  : Option (Int32 × GI) :=
  (some (g_pi gi 0 55 0)).bind fun gi1 =>
  (f_X4_keepNow gi1 ).bind fun q2 =>
  (g_loop g_K (fun (s : Int32 × GI) => f_X4_rest_l11 s.1 s.2) (0, q2)).bind fun E11 => f_X4_rest_x11 E11
set_option maxHeartbeats 400000 in
theorem w_X4_rest (l : Launch) (D : va_G) (cA : Nat → ClassId) (ad : Nat → Nat) (gi : GI) (gl : GL)  (r : Int32 × GI) (h : f_X4_rest gi  = some r) (sz : Nat) : Met l yX4_rest (ws_ yX4_rest cX4_rest 4 (some .int)) ({ frames := 7, cells := 0, slots := 0, locals := 161 } : Room) (va_Pc [.ref (ad 0)] (MPre D cA ad gi gl sz)) (va_Qi (fun v u => (v, u.1) = r ∧ u.2 = gl) (MPost D cA ad) (MA ad sz)) 0 0 (MA ad sz) := by
  refine mm_stI (by decide +kernel) rfl (Nat.le_of_ble_eq_true rfl) (fun p e s m args below meth c R Q A ls C hF hN B hret hL => ?_) sz
  have hx := C.1
  have hb := C.2.1
  have hL : lv_has ls 4 [(0, .ref (ad 0))] := hL
  unfold f_X4_rest at h
  refine lv_aload_n hx hb dX4_rest_0 rfl (lv_at hL 0 rfl) ?_
  refine lv_iconst (v := 0) hx hb dX4_rest_1 (by decide) ?_
  refine mp_55 C B h dX4_rest_2 (fun gi1 h H locs B => ?_)
  refine lv_aload_n hx hb dX4_rest_5 rfl (lv_at hL 0 rfl) ?_
  refine k_X4_keepNow C B (Nat.le_trans (Nat.le_of_ble_eq_true rfl) hF) (Nat.le_trans (Nat.le_of_ble_eq_true rfl) hN) hL.1 (Nat.le_of_ble_eq_true rfl) h dX4_rest_6 (fun q2 h H locs B => ?_)
  refine lv_iconst (v := 0) hx hb dX4_rest_9 (by decide) ?_
  refine lv_istore_n (lv' := [(1, .int 0), (0, .ref (ad 0))]) hx hb dX4_rest_10 rfl hL (by decide) rfl (fun ls hL => ?_)
  obtain ⟨E11, h811, h⟩ := g_ob h
  have kx11 : ∀ (gie11 : GI) (H : Heap) (locs : List Loc) (ls : Array Slot), gie11 = E11 → MB D cA ad A s gie11 gl H locs → lv_has ls 4 [(0, .ref (ad 0))] → W p l e R s m args below meth c H locs 0 0 Q (F0 m 30 ls []) := by
    intro gie11 H locs ls he B hL
    subst he
    have h : f_X4_rest_x11 gie11 = some r := h
    unfold f_X4_rest_x11 at h
    refine lv_iconst (v := 0) hx hb dX4_rest_30 (by decide) ?_
    refine lv_istore_n (lv' := [(1, .int 0), (0, .ref (ad 0))]) hx hb dX4_rest_31 rfl hL (by decide) rfl (fun ls hL => ?_)
    refine lv_aload_n hx hb dX4_rest_32 rfl (lv_at hL 1 rfl) ?_
    refine k_X4_goRound C B (Nat.le_trans (Nat.le_of_ble_eq_true rfl) hF) (Nat.le_trans (Nat.le_of_ble_eq_true rfl) hN) hL.1 (Nat.le_of_ble_eq_true rfl) h dX4_rest_33 (fun q4 h H locs B => ?_)
    refine lv_istore_n (lv' := [(2, .int q4.1), (1, .int 0), (0, .ref (ad 0))]) hx hb dX4_rest_36 rfl hL (by decide) rfl (fun ls hL => ?_)
    obtain ⟨E37, h837, h⟩ := g_ob h
    have kx37 : ∀ (x1e37 : Int32) (x2e37 : Int32) (gie37 : GI) (H : Heap) (locs : List Loc) (ls : Array Slot), (x1e37, x2e37, gie37) = E37 → MB D cA ad A s gie37 gl H locs → lv_has ls 4 [(0, .ref (ad 0)), (1, .int x1e37), (2, .int x2e37)] → W p l e R s m args below meth c H locs 0 0 Q (F0 m 58 ls []) := by
      intro x1e37 x2e37 gie37 H locs ls he B hL
      subst he
      have h : f_X4_rest_x37 x1e37 x2e37 gie37 = some r := h
      unfold f_X4_rest_x37 at h
      refine lv_aload_n hx hb dX4_rest_58 rfl (lv_at hL 0 rfl) ?_
      refine k_X4_bringBack C B (Nat.le_trans (Nat.le_of_ble_eq_true rfl) hF) (Nat.le_trans (Nat.le_of_ble_eq_true rfl) hN) hL.1 (Nat.le_of_ble_eq_true rfl) h dX4_rest_59 (fun q6 h H locs B => ?_)
      refine lv_iload_n hx hb dX4_rest_62 rfl (lv_at hL 2 rfl) ?_
      refine gg_if_eq hx hb 68 h dX4_rest_63 (by decide) (fun h => ?_) (fun h => ?_)
      · refine lv_iconst (v := 0) hx hb dX4_rest_68 (by decide) ?_
        refine lv_istore_n (lv' := [(3, .int 0), (0, .ref (ad 0)), (1, .int x1e37), (2, .int x2e37)]) hx hb dX4_rest_69 rfl hL (by decide) rfl (fun ls hL => ?_)
        obtain ⟨E70, h870, h⟩ := g_ob h
        have kx70 : ∀ (gie70 : GI) (H : Heap) (locs : List Loc) (ls : Array Slot), gie70 = E70 → MB D cA ad A s gie70 gl H locs → lv_has ls 4 [(0, .ref (ad 0)), (1, .int x1e37)] → W p l e R s m args below meth c H locs 0 0 Q (F0 m 95 ls []) := by
          intro gie70 H locs ls he B hL
          subst he
          have h : f_X4_rest_x70 x1e37 gie70 = some r := h
          unfold f_X4_rest_x70 at h
          refine lv_aload_n hx hb dX4_rest_95 rfl (lv_at hL 0 rfl) ?_
          refine lv_aload_n hx hb dX4_rest_96 rfl (lv_at hL 0 rfl) ?_
          refine k_X4_many C B (Nat.le_trans (Nat.le_of_ble_eq_true rfl) hF) (Nat.le_trans (Nat.le_of_ble_eq_true rfl) hN) hL.1 (Nat.le_of_ble_eq_true rfl) h dX4_rest_97 (fun q10 h H locs B => ?_)
          refine mp_55 C B h dX4_rest_100 (fun gi11 h H locs B => ?_)
          refine lv_iload_n hx hb dX4_rest_103 rfl (lv_at hL 1 rfl) ?_
          exact hret _ _ _ _ _ _ _ ⟨Option.some.inj h, rfl⟩ B dX4_rest_104
        have hl70 : ∀ (k : Nat) (x3l70 : Int32) (gil70 : GI) (H : Heap) (locs : List Loc) (ls : Array Slot), g_loop k (fun (s : Int32 × GI) => f_X4_rest_l70 x1e37 s.1 s.2) (x3l70, gil70) = some E70 → MB D cA ad A s gil70 gl H locs → lv_has ls 4 [(0, .ref (ad 0)), (1, .int x1e37), (3, .int x3l70)] → W p l e R s m args below meth c H locs 0 0 Q (F0 m 70 ls []) := by
          intro k
          induction k with
          | zero => intro x3l70 gil70 H locs ls h; exact absurd h (fun z => g_loop_0 z)
          | succ k ih70 =>
            intro x3l70 gil70 H locs ls h B hL
            obtain ⟨Z70, h, h970⟩ := g_loop_s h
            have h : f_X4_rest_l70 x1e37 x3l70 gil70 = some Z70 := h
            unfold f_X4_rest_l70 at h
            refine lv_iload_n hx hb dX4_rest_70 rfl (lv_at hL 2 rfl) ?_
            refine lv_aload_n hx hb dX4_rest_71 rfl (lv_at hL 0 rfl) ?_
            refine k_X4_many C B (Nat.le_trans (Nat.le_of_ble_eq_true rfl) hF) (Nat.le_trans (Nat.le_of_ble_eq_true rfl) hN) hL.1 (Nat.le_of_ble_eq_true rfl) h dX4_rest_72 (fun q7 h H locs B => ?_)
            refine gg_icmp_ge hx hb 95 h dX4_rest_75 (by decide) (fun h => ?_) (fun h => ?_)
            · exact kx70 _ _ _ _ (g_exit h h970) B (lv_sub hL [0, 1] rfl)
            · refine lv_aload_n hx hb dX4_rest_78 rfl (lv_at hL 0 rfl) ?_
              refine mg_54 C B dX4_rest_79 ?_
              refine lv_iload_n hx hb dX4_rest_82 rfl (lv_at hL 2 rfl) ?_
              refine lv_aload_n hx hb dX4_rest_83 rfl (lv_at hL 0 rfl) ?_
              refine lv_iload_n hx hb dX4_rest_84 rfl (lv_at hL 2 rfl) ?_
              refine k_X4_spendsOf C B (Nat.le_trans (Nat.le_of_ble_eq_true rfl) hF) (Nat.le_trans (Nat.le_of_ble_eq_true rfl) hN) hL.1 (Nat.le_of_ble_eq_true rfl) h dX4_rest_85 (fun q8 h H locs B => ?_)
              refine mm_iast C B (a := 37) (n := 8) (Nat.le_of_ble_eq_true rfl) rfl h dX4_rest_88 (fun gi9 h H locs B => ?_)
              refine lv_iinc (v := x3l70 + 1) (lv' := [(3, .int (x3l70 + 1)), (0, .ref (ad 0)), (1, .int x1e37)]) hx hb dX4_rest_89 hL (k := 2) rfl rfl (by decide) rfl (fun ls hL => ?_)
              refine lv_goto (tgt := 70) hx hb dX4_rest_92 (by decide) ?_
              exact ih70 _ _ _ _ _ (g_next h h970) B (lv_sub hL [1, 2, 0] rfl)
        exact hl70 g_K _ _ _ _ _ h870 B (lv_sub hL [1, 2, 0] rfl)
      · refine lv_iconst (v := (-1)) hx hb dX4_rest_66 (by decide) ?_
        exact hret _ _ _ _ _ _ _ ⟨Option.some.inj h, rfl⟩ B dX4_rest_67
    have hl37 : ∀ (k : Nat) (x1l37 : Int32) (x2l37 : Int32) (gil37 : GI) (H : Heap) (locs : List Loc) (ls : Array Slot), g_loop k (fun (s : Int32 × Int32 × GI) => f_X4_rest_l37 s.1 s.2.1 s.2.2) (x1l37, x2l37, gil37) = some E37 → MB D cA ad A s gil37 gl H locs → lv_has ls 4 [(0, .ref (ad 0)), (1, .int x1l37), (2, .int x2l37)] → W p l e R s m args below meth c H locs 0 0 Q (F0 m 37 ls []) := by
      intro k
      induction k with
      | zero => intro x1l37 x2l37 gil37 H locs ls h; exact absurd h (fun z => g_loop_0 z)
      | succ k ih37 =>
        intro x1l37 x2l37 gil37 H locs ls h B hL
        obtain ⟨Z37, h, h937⟩ := g_loop_s h
        have h : f_X4_rest_l37 x1l37 x2l37 gil37 = some Z37 := h
        unfold f_X4_rest_l37 at h
        refine lv_iload_n hx hb dX4_rest_37 rfl (lv_at hL 2 rfl) ?_
        refine gg_if_eq hx hb 58 h dX4_rest_38 (by decide) (fun h => ?_) (fun h => ?_)
        · exact kx37 _ _ _ _ _ _ (g_exit h h937) B (lv_sub hL [0, 1, 2] rfl)
        · refine lv_iload_n hx hb dX4_rest_41 rfl (lv_at hL 1 rfl) ?_
          refine lv_bipush (v := 20) hx hb dX4_rest_42 (by decide) ?_
          refine gg_icmp_ge hx hb 58 h dX4_rest_44 (by decide) (fun h => ?_) (fun h => ?_)
          · exact kx37 _ _ _ _ _ _ (g_exit h h937) B (lv_sub hL [0, 1, 2] rfl)
          · refine lv_iinc (v := x1l37 + 1) (lv' := [(1, .int (x1l37 + 1)), (0, .ref (ad 0)), (2, .int x2l37)]) hx hb dX4_rest_47 hL (k := 1) rfl rfl (by decide) rfl (fun ls hL => ?_)
            refine lv_aload_n hx hb dX4_rest_50 rfl (lv_at hL 1 rfl) ?_
            refine k_X4_goRound C B (Nat.le_trans (Nat.le_of_ble_eq_true rfl) hF) (Nat.le_trans (Nat.le_of_ble_eq_true rfl) hN) hL.1 (Nat.le_of_ble_eq_true rfl) h dX4_rest_51 (fun q5 h H locs B => ?_)
            refine lv_istore_n (lv' := [(2, .int q5.1), (1, .int (x1l37 + 1)), (0, .ref (ad 0))]) hx hb dX4_rest_54 rfl hL (by decide) rfl (fun ls hL => ?_)
            refine lv_goto (tgt := 37) hx hb dX4_rest_55 (by decide) ?_
            exact ih37 _ _ _ _ _ _ (g_next h h937) B (lv_sub hL [2, 1, 0] rfl)
    exact hl37 g_K _ _ _ _ _ _ h837 B (lv_sub hL [2, 1, 0] rfl)
  have hl11 : ∀ (k : Nat) (x1l11 : Int32) (gil11 : GI) (H : Heap) (locs : List Loc) (ls : Array Slot), g_loop k (fun (s : Int32 × GI) => f_X4_rest_l11 s.1 s.2) (x1l11, gil11) = some E11 → MB D cA ad A s gil11 gl H locs → lv_has ls 4 [(0, .ref (ad 0)), (1, .int x1l11)] → W p l e R s m args below meth c H locs 0 0 Q (F0 m 11 ls []) := by
    intro k
    induction k with
    | zero => intro x1l11 gil11 H locs ls h; exact absurd h (fun z => g_loop_0 z)
    | succ k ih11 =>
      intro x1l11 gil11 H locs ls h B hL
      obtain ⟨Z11, h, h911⟩ := g_loop_s h
      have h : f_X4_rest_l11 x1l11 gil11 = some Z11 := h
      unfold f_X4_rest_l11 at h
      refine lv_iload_n hx hb dX4_rest_11 rfl (lv_at hL 1 rfl) ?_
      refine lv_bipush (v := 15) hx hb dX4_rest_12 (by decide) ?_
      refine gg_icmp_ge hx hb 30 h dX4_rest_14 (by decide) (fun h => ?_) (fun h => ?_)
      · exact kx11 _ _ _ _ (g_exit h h911) B (lv_sub hL [0] rfl)
      · refine lv_aload_n hx hb dX4_rest_17 rfl (lv_at hL 0 rfl) ?_
        refine mg_66 C B dX4_rest_18 ?_
        refine lv_iload_n hx hb dX4_rest_21 rfl (lv_at hL 1 rfl) ?_
        refine lv_iconst (v := 0) hx hb dX4_rest_22 (by decide) ?_
        refine mm_iast C B (a := 44) (n := 15) (Nat.le_of_ble_eq_true rfl) rfl h dX4_rest_23 (fun gi3 h H locs B => ?_)
        refine lv_iinc (v := x1l11 + 1) (lv' := [(1, .int (x1l11 + 1)), (0, .ref (ad 0))]) hx hb dX4_rest_24 hL (k := 1) rfl rfl (by decide) rfl (fun ls hL => ?_)
        refine lv_goto (tgt := 11) hx hb dX4_rest_27 (by decide) ?_
        exact ih11 _ _ _ _ _ (g_next h h911) B (lv_sub hL [1, 0] rfl)
  exact hl11 g_K _ _ _ _ _ h811 B (lv_sub hL [1, 0] rfl)
def f_X4_will_l26 (x1i26 : Int32) (x2i26 : Int32) (x3l26 : Int32) (gil26 : GI) : Option ((Int32 × GI) ⊕ (GI)) :=
  if x2i26 ≤ x3l26 then
  (some (.inr gil26))
  else
  ((f_X4_goWeek gil26 ).bind fun q4 =>
  some (.inl ((x3l26 + 1, q4.2))))
def f_X4_will_x26 (x1y26 : Int32) (gie26 : GI) : Option (Int32 × GI) :=
  (g_ld gie26 33 42 (15 + x1y26)).bind fun v5 =>
  (f_X4_bringBack gie26 ).bind fun q6 =>
  some (v5, q6)
def f_X4_will (gi : GI) (x1 : Int32) (x2 : Int32) : Option (Int32 × GI) :=
  (f_X4_isMan gi x1).bind fun q1 =>
  if q1 = 0 then
  (some ((-1), gi))
  else
  ((f_X4_isIn gi x2 0 30).bind fun q2 =>
  if q2 = 0 then
  (some ((-1), gi))
  else
  ((f_X4_keepNow gi ).bind fun q3 =>
  (g_loop g_K (fun (s : Int32 × GI) => f_X4_will_l26 x1 x2 s.1 s.2) (0, q3)).bind fun E26 => f_X4_will_x26 x1 E26))
set_option maxHeartbeats 400000 in
theorem w_X4_will (l : Launch) (D : va_G) (cA : Nat → ClassId) (ad : Nat → Nat) (gi : GI) (gl : GL) (x1 : Int32) (x2 : Int32) (r : Int32 × GI) (h : f_X4_will gi x1 x2 = some r) (sz : Nat) : Met l yX4_will (ws_ yX4_will cX4_will 5 (some .int)) ({ frames := 6, cells := 0, slots := 0, locals := 135 } : Room) (va_Pc [.ref (ad 0), .int x1, .int x2] (MPre D cA ad gi gl sz)) (va_Qi (fun v u => (v, u.1) = r ∧ u.2 = gl) (MPost D cA ad) (MA ad sz)) 0 0 (MA ad sz) := by
  refine mm_stI (by decide +kernel) rfl (Nat.le_of_ble_eq_true rfl) (fun p e s m args below meth c R Q A ls C hF hN B hret hL => ?_) sz
  have hx := C.1
  have hb := C.2.1
  have hL : lv_has ls 5 [(0, .ref (ad 0)), (1, .int x1), (2, .int x2)] := hL
  unfold f_X4_will at h
  refine lv_aload_n hx hb dX4_will_0 rfl (lv_at hL 0 rfl) ?_
  refine lv_iload_n hx hb dX4_will_1 rfl (lv_at hL 1 rfl) ?_
  refine k_X4_isMan C B (Nat.le_trans (Nat.le_of_ble_eq_true rfl) hF) (Nat.le_trans (Nat.le_of_ble_eq_true rfl) hN) hL.1 (Nat.le_of_ble_eq_true rfl) h dX4_will_2 (fun q1 h H locs B => ?_)
  refine gg_if_eq hx hb 18 h dX4_will_5 (by decide) (fun h => ?_) (fun h => ?_)
  · refine lv_iconst (v := (-1)) hx hb dX4_will_18 (by decide) ?_
    exact hret _ _ _ _ _ _ _ ⟨Option.some.inj h, rfl⟩ B dX4_will_19
  · refine lv_iload_n hx hb dX4_will_8 rfl (lv_at hL 2 rfl) ?_
    refine lv_iconst (v := 0) hx hb dX4_will_9 (by decide) ?_
    refine lv_bipush (v := 30) hx hb dX4_will_10 (by decide) ?_
    refine k_X4_isIn C B (Nat.le_trans (Nat.le_of_ble_eq_true rfl) hF) (Nat.le_trans (Nat.le_of_ble_eq_true rfl) hN) hL.1 (Nat.le_of_ble_eq_true rfl) h dX4_will_12 (fun q2 h H locs B => ?_)
    refine gg_if_ne hx hb 20 h dX4_will_15 (by decide) (fun h => ?_) (fun h => ?_)
    · refine lv_aload_n hx hb dX4_will_20 rfl (lv_at hL 0 rfl) ?_
      refine k_X4_keepNow C B (Nat.le_trans (Nat.le_of_ble_eq_true rfl) hF) (Nat.le_trans (Nat.le_of_ble_eq_true rfl) hN) hL.1 (Nat.le_of_ble_eq_true rfl) h dX4_will_21 (fun q3 h H locs B => ?_)
      refine lv_iconst (v := 0) hx hb dX4_will_24 (by decide) ?_
      refine lv_istore_n (lv' := [(3, .int 0), (0, .ref (ad 0)), (1, .int x1), (2, .int x2)]) hx hb dX4_will_25 rfl hL (by decide) rfl (fun ls hL => ?_)
      obtain ⟨E26, h826, h⟩ := g_ob h
      have kx26 : ∀ (gie26 : GI) (H : Heap) (locs : List Loc) (ls : Array Slot), gie26 = E26 → MB D cA ad A s gie26 gl H locs → lv_has ls 5 [(0, .ref (ad 0)), (1, .int x1)] → W p l e R s m args below meth c H locs 0 0 Q (F0 m 43 ls []) := by
        intro gie26 H locs ls he B hL
        subst he
        have h : f_X4_will_x26 x1 gie26 = some r := h
        unfold f_X4_will_x26 at h
        refine lv_aload_n hx hb dX4_will_43 rfl (lv_at hL 0 rfl) ?_
        refine mg_48 C B dX4_will_44 ?_
        refine lv_bipush (v := 15) hx hb dX4_will_47 (by decide) ?_
        refine lv_iload_n hx hb dX4_will_49 rfl (lv_at hL 1 rfl) ?_
        refine lv_iadd hx hb dX4_will_50 ?_
        refine mm_iald C B (a := 33) (n := 42) (Nat.le_of_ble_eq_true rfl) rfl h dX4_will_51 (fun v5 h => ?_)
        refine lv_istore_n (lv' := [(3, .int v5), (0, .ref (ad 0)), (1, .int x1)]) hx hb dX4_will_52 rfl hL (by decide) rfl (fun ls hL => ?_)
        refine lv_aload_n hx hb dX4_will_53 rfl (lv_at hL 1 rfl) ?_
        refine k_X4_bringBack C B (Nat.le_trans (Nat.le_of_ble_eq_true rfl) hF) (Nat.le_trans (Nat.le_of_ble_eq_true rfl) hN) hL.1 (Nat.le_of_ble_eq_true rfl) h dX4_will_54 (fun q6 h H locs B => ?_)
        refine lv_iload_n hx hb dX4_will_57 rfl (lv_at hL 0 rfl) ?_
        exact hret _ _ _ _ _ _ _ ⟨Option.some.inj h, rfl⟩ B dX4_will_58
      have hl26 : ∀ (k : Nat) (x3l26 : Int32) (gil26 : GI) (H : Heap) (locs : List Loc) (ls : Array Slot), g_loop k (fun (s : Int32 × GI) => f_X4_will_l26 x1 x2 s.1 s.2) (x3l26, gil26) = some E26 → MB D cA ad A s gil26 gl H locs → lv_has ls 5 [(0, .ref (ad 0)), (1, .int x1), (2, .int x2), (3, .int x3l26)] → W p l e R s m args below meth c H locs 0 0 Q (F0 m 26 ls []) := by
        intro k
        induction k with
        | zero => intro x3l26 gil26 H locs ls h; exact absurd h (fun z => g_loop_0 z)
        | succ k ih26 =>
          intro x3l26 gil26 H locs ls h B hL
          obtain ⟨Z26, h, h926⟩ := g_loop_s h
          have h : f_X4_will_l26 x1 x2 x3l26 gil26 = some Z26 := h
          unfold f_X4_will_l26 at h
          refine lv_iload_n hx hb dX4_will_26 rfl (lv_at hL 3 rfl) ?_
          refine lv_iload_n hx hb dX4_will_27 rfl (lv_at hL 2 rfl) ?_
          refine gg_icmp_ge hx hb 43 h dX4_will_28 (by decide) (fun h => ?_) (fun h => ?_)
          · exact kx26 _ _ _ _ (g_exit h h926) B (lv_sub hL [0, 1] rfl)
          · refine lv_aload_n hx hb dX4_will_31 rfl (lv_at hL 0 rfl) ?_
            refine k_X4_goWeek C B (Nat.le_trans (Nat.le_of_ble_eq_true rfl) hF) (Nat.le_trans (Nat.le_of_ble_eq_true rfl) hN) hL.1 (Nat.le_of_ble_eq_true rfl) h dX4_will_32 (fun q4 h H locs B => ?_)
            refine lv_istore (lv' := [(4, .int q4.1), (0, .ref (ad 0)), (1, .int x1), (2, .int x2), (3, .int x3l26)]) hx hb dX4_will_35 hL (by decide) rfl (fun ls hL => ?_)
            refine lv_iinc (v := x3l26 + 1) (lv' := [(3, .int (x3l26 + 1)), (4, .int q4.1), (0, .ref (ad 0)), (1, .int x1), (2, .int x2)]) hx hb dX4_will_37 hL (k := 4) rfl rfl (by decide) rfl (fun ls hL => ?_)
            refine lv_goto (tgt := 26) hx hb dX4_will_40 (by decide) ?_
            exact ih26 _ _ _ _ _ (g_next h h926) B (lv_sub hL [2, 3, 4, 0] rfl)
      exact hl26 g_K _ _ _ _ _ h826 B (lv_sub hL [1, 2, 3, 0] rfl)
    · refine lv_iconst (v := (-1)) hx hb dX4_will_18 (by decide) ?_
      exact hret _ _ _ _ _ _ _ ⟨Option.some.inj h, rfl⟩ B dX4_will_19
def f_X4_thrive_l46 (x1i46 : Int32) (x2i46 : Int32) (x3i46 : Int32) (x4l46 : Int32) (gil46 : GI) : Option ((Int32 × GI) ⊕ (GI)) :=
  if 3 ≤ x4l46 then
  (some (.inr gil46))
  else
  ((g_ld gil46 33 42 ((0 + (3 * x1i46)) + x4l46)).bind fun v6 =>
  (g_ld gil46 36 3 x4l46).bind fun v7 =>
  (g_st gil46 33 42 ((0 + (3 * x1i46)) + x4l46) (v6 - v7)).bind fun gi8 =>
  some (.inl ((x4l46 + 1, gi8))))
def f_X4_thrive_x46 (x1y46 : Int32) (x2y46 : Int32) (x3y46 : Int32) (gie46 : GI) : Option ((Int32 × GI) ⊕ (GI)) :=
  (f_X4_goWeek gie46 ).bind fun q9 =>
  some (.inl ((x3y46 + 1, q9.2)))
def f_X4_thrive_l26 (x1i26 : Int32) (x2i26 : Int32) (x3l26 : Int32) (gil26 : GI) : Option ((Int32 × GI) ⊕ (GI)) :=
  if x2i26 ≤ x3l26 then
  (some (.inr gil26))
  else
  ((f_X4_layBest gil26 x1i26 0).bind fun q4 =>
  (f_X4_layBestRow q4 x1i26 1).bind fun q5 =>
  (g_loop g_K (fun (s : Int32 × GI) => f_X4_thrive_l46 x1i26 x2i26 x3l26 s.1 s.2) (0, q5)).bind fun E46 => f_X4_thrive_x46 x1i26 x2i26 x3l26 E46)
def f_X4_thrive_x26 (x1y26 : Int32) (gie26 : GI) : Option (Int32 × GI) :=
  (g_ld gie26 33 42 (15 + x1y26)).bind fun v10 =>
  (f_X4_bringBack gie26 ).bind fun q11 =>
  some (v10, q11)
def f_X4_thrive (gi : GI) (x1 : Int32) (x2 : Int32) : Option (Int32 × GI) :=
  (f_X4_isMan gi x1).bind fun q1 =>
  if q1 = 0 then
  (some ((-1), gi))
  else
  ((f_X4_isIn gi x2 0 12).bind fun q2 =>
  if q2 = 0 then
  (some ((-1), gi))
  else
  ((f_X4_keepNow gi ).bind fun q3 =>
  (g_loop g_K (fun (s : Int32 × GI) => f_X4_thrive_l26 x1 x2 s.1 s.2) (0, q3)).bind fun E26 => f_X4_thrive_x26 x1 E26))
set_option maxHeartbeats 400000 in
theorem w_X4_thrive (l : Launch) (D : va_G) (cA : Nat → ClassId) (ad : Nat → Nat) (gi : GI) (gl : GL) (x1 : Int32) (x2 : Int32) (r : Int32 × GI) (h : f_X4_thrive gi x1 x2 = some r) (sz : Nat) : Met l yX4_thrive (ws_ yX4_thrive cX4_thrive 5 (some .int)) ({ frames := 6, cells := 0, slots := 0, locals := 138 } : Room) (va_Pc [.ref (ad 0), .int x1, .int x2] (MPre D cA ad gi gl sz)) (va_Qi (fun v u => (v, u.1) = r ∧ u.2 = gl) (MPost D cA ad) (MA ad sz)) 0 0 (MA ad sz) := by
  refine mm_stI (by decide +kernel) rfl (Nat.le_of_ble_eq_true rfl) (fun p e s m args below meth c R Q A ls C hF hN B hret hL => ?_) sz
  have hx := C.1
  have hb := C.2.1
  have hL : lv_has ls 5 [(0, .ref (ad 0)), (1, .int x1), (2, .int x2)] := hL
  unfold f_X4_thrive at h
  refine lv_aload_n hx hb dX4_thrive_0 rfl (lv_at hL 0 rfl) ?_
  refine lv_iload_n hx hb dX4_thrive_1 rfl (lv_at hL 1 rfl) ?_
  refine k_X4_isMan C B (Nat.le_trans (Nat.le_of_ble_eq_true rfl) hF) (Nat.le_trans (Nat.le_of_ble_eq_true rfl) hN) hL.1 (Nat.le_of_ble_eq_true rfl) h dX4_thrive_2 (fun q1 h H locs B => ?_)
  refine gg_if_eq hx hb 18 h dX4_thrive_5 (by decide) (fun h => ?_) (fun h => ?_)
  · refine lv_iconst (v := (-1)) hx hb dX4_thrive_18 (by decide) ?_
    exact hret _ _ _ _ _ _ _ ⟨Option.some.inj h, rfl⟩ B dX4_thrive_19
  · refine lv_iload_n hx hb dX4_thrive_8 rfl (lv_at hL 2 rfl) ?_
    refine lv_iconst (v := 0) hx hb dX4_thrive_9 (by decide) ?_
    refine lv_bipush (v := 12) hx hb dX4_thrive_10 (by decide) ?_
    refine k_X4_isIn C B (Nat.le_trans (Nat.le_of_ble_eq_true rfl) hF) (Nat.le_trans (Nat.le_of_ble_eq_true rfl) hN) hL.1 (Nat.le_of_ble_eq_true rfl) h dX4_thrive_12 (fun q2 h H locs B => ?_)
    refine gg_if_ne hx hb 20 h dX4_thrive_15 (by decide) (fun h => ?_) (fun h => ?_)
    · refine lv_aload_n hx hb dX4_thrive_20 rfl (lv_at hL 0 rfl) ?_
      refine k_X4_keepNow C B (Nat.le_trans (Nat.le_of_ble_eq_true rfl) hF) (Nat.le_trans (Nat.le_of_ble_eq_true rfl) hN) hL.1 (Nat.le_of_ble_eq_true rfl) h dX4_thrive_21 (fun q3 h H locs B => ?_)
      refine lv_iconst (v := 0) hx hb dX4_thrive_24 (by decide) ?_
      refine lv_istore_n (lv' := [(3, .int 0), (0, .ref (ad 0)), (1, .int x1), (2, .int x2)]) hx hb dX4_thrive_25 rfl hL (by decide) rfl (fun ls hL => ?_)
      obtain ⟨E26, h826, h⟩ := g_ob h
      have kx26 : ∀ (gie26 : GI) (H : Heap) (locs : List Loc) (ls : Array Slot), gie26 = E26 → MB D cA ad A s gie26 gl H locs → lv_has ls 5 [(0, .ref (ad 0)), (1, .int x1)] → W p l e R s m args below meth c H locs 0 0 Q (F0 m 93 ls []) := by
        intro gie26 H locs ls he B hL
        subst he
        have h : f_X4_thrive_x26 x1 gie26 = some r := h
        unfold f_X4_thrive_x26 at h
        refine lv_aload_n hx hb dX4_thrive_93 rfl (lv_at hL 0 rfl) ?_
        refine mg_48 C B dX4_thrive_94 ?_
        refine lv_bipush (v := 15) hx hb dX4_thrive_97 (by decide) ?_
        refine lv_iload_n hx hb dX4_thrive_99 rfl (lv_at hL 1 rfl) ?_
        refine lv_iadd hx hb dX4_thrive_100 ?_
        refine mm_iald C B (a := 33) (n := 42) (Nat.le_of_ble_eq_true rfl) rfl h dX4_thrive_101 (fun v10 h => ?_)
        refine lv_istore_n (lv' := [(3, .int v10), (0, .ref (ad 0)), (1, .int x1)]) hx hb dX4_thrive_102 rfl hL (by decide) rfl (fun ls hL => ?_)
        refine lv_aload_n hx hb dX4_thrive_103 rfl (lv_at hL 1 rfl) ?_
        refine k_X4_bringBack C B (Nat.le_trans (Nat.le_of_ble_eq_true rfl) hF) (Nat.le_trans (Nat.le_of_ble_eq_true rfl) hN) hL.1 (Nat.le_of_ble_eq_true rfl) h dX4_thrive_104 (fun q11 h H locs B => ?_)
        refine lv_iload_n hx hb dX4_thrive_107 rfl (lv_at hL 0 rfl) ?_
        exact hret _ _ _ _ _ _ _ ⟨Option.some.inj h, rfl⟩ B dX4_thrive_108
      have hl26 : ∀ (k : Nat) (x3l26 : Int32) (gil26 : GI) (H : Heap) (locs : List Loc) (ls : Array Slot), g_loop k (fun (s : Int32 × GI) => f_X4_thrive_l26 x1 x2 s.1 s.2) (x3l26, gil26) = some E26 → MB D cA ad A s gil26 gl H locs → lv_has ls 5 [(0, .ref (ad 0)), (1, .int x1), (2, .int x2), (3, .int x3l26)] → W p l e R s m args below meth c H locs 0 0 Q (F0 m 26 ls []) := by
        intro k
        induction k with
        | zero => intro x3l26 gil26 H locs ls h; exact absurd h (fun z => g_loop_0 z)
        | succ k ih26 =>
          intro x3l26 gil26 H locs ls h B hL
          obtain ⟨Z26, h, h926⟩ := g_loop_s h
          have h : f_X4_thrive_l26 x1 x2 x3l26 gil26 = some Z26 := h
          unfold f_X4_thrive_l26 at h
          refine lv_iload_n hx hb dX4_thrive_26 rfl (lv_at hL 3 rfl) ?_
          refine lv_iload_n hx hb dX4_thrive_27 rfl (lv_at hL 2 rfl) ?_
          refine gg_icmp_ge hx hb 93 h dX4_thrive_28 (by decide) (fun h => ?_) (fun h => ?_)
          · exact kx26 _ _ _ _ (g_exit h h926) B (lv_sub hL [0, 1] rfl)
          · refine lv_aload_n hx hb dX4_thrive_31 rfl (lv_at hL 0 rfl) ?_
            refine lv_iload_n hx hb dX4_thrive_32 rfl (lv_at hL 1 rfl) ?_
            refine lv_iconst (v := 0) hx hb dX4_thrive_33 (by decide) ?_
            refine k_X4_layBest C B (Nat.le_trans (Nat.le_of_ble_eq_true rfl) hF) (Nat.le_trans (Nat.le_of_ble_eq_true rfl) hN) hL.1 (Nat.le_of_ble_eq_true rfl) h dX4_thrive_34 (fun q4 h H locs B => ?_)
            refine lv_aload_n hx hb dX4_thrive_37 rfl (lv_at hL 0 rfl) ?_
            refine lv_iload_n hx hb dX4_thrive_38 rfl (lv_at hL 1 rfl) ?_
            refine lv_iconst (v := 1) hx hb dX4_thrive_39 (by decide) ?_
            refine k_X4_layBestRow C B (Nat.le_trans (Nat.le_of_ble_eq_true rfl) hF) (Nat.le_trans (Nat.le_of_ble_eq_true rfl) hN) hL.1 (Nat.le_of_ble_eq_true rfl) h dX4_thrive_40 (fun q5 h H locs B => ?_)
            refine lv_iconst (v := 0) hx hb dX4_thrive_43 (by decide) ?_
            refine lv_istore (lv' := [(4, .int 0), (0, .ref (ad 0)), (1, .int x1), (2, .int x2), (3, .int x3l26)]) hx hb dX4_thrive_44 hL (by decide) rfl (fun ls hL => ?_)
            obtain ⟨E46, h846, h⟩ := g_ob h
            have kx46 : ∀ (gie46 : GI) (H : Heap) (locs : List Loc) (ls : Array Slot), gie46 = E46 → MB D cA ad A s gie46 gl H locs → lv_has ls 5 [(0, .ref (ad 0)), (1, .int x1), (2, .int x2), (3, .int x3l26)] → W p l e R s m args below meth c H locs 0 0 Q (F0 m 81 ls []) := by
              intro gie46 H locs ls he B hL
              subst he
              have h : f_X4_thrive_x46 x1 x2 x3l26 gie46 = some Z26 := h
              unfold f_X4_thrive_x46 at h
              refine lv_aload_n hx hb dX4_thrive_81 rfl (lv_at hL 0 rfl) ?_
              refine k_X4_goWeek C B (Nat.le_trans (Nat.le_of_ble_eq_true rfl) hF) (Nat.le_trans (Nat.le_of_ble_eq_true rfl) hN) hL.1 (Nat.le_of_ble_eq_true rfl) h dX4_thrive_82 (fun q9 h H locs B => ?_)
              refine lv_istore (lv' := [(4, .int q9.1), (0, .ref (ad 0)), (1, .int x1), (2, .int x2), (3, .int x3l26)]) hx hb dX4_thrive_85 hL (by decide) rfl (fun ls hL => ?_)
              refine lv_iinc (v := x3l26 + 1) (lv' := [(3, .int (x3l26 + 1)), (4, .int q9.1), (0, .ref (ad 0)), (1, .int x1), (2, .int x2)]) hx hb dX4_thrive_87 hL (k := 4) rfl rfl (by decide) rfl (fun ls hL => ?_)
              refine lv_goto (tgt := 26) hx hb dX4_thrive_90 (by decide) ?_
              exact ih26 _ _ _ _ _ (g_next h h926) B (lv_sub hL [2, 3, 4, 0] rfl)
            have hl46 : ∀ (k : Nat) (x4l46 : Int32) (gil46 : GI) (H : Heap) (locs : List Loc) (ls : Array Slot), g_loop k (fun (s : Int32 × GI) => f_X4_thrive_l46 x1 x2 x3l26 s.1 s.2) (x4l46, gil46) = some E46 → MB D cA ad A s gil46 gl H locs → lv_has ls 5 [(0, .ref (ad 0)), (1, .int x1), (2, .int x2), (3, .int x3l26), (4, .int x4l46)] → W p l e R s m args below meth c H locs 0 0 Q (F0 m 46 ls []) := by
              intro k
              induction k with
              | zero => intro x4l46 gil46 H locs ls h; exact absurd h (fun z => g_loop_0 z)
              | succ k ih46 =>
                intro x4l46 gil46 H locs ls h B hL
                obtain ⟨Z46, h, h946⟩ := g_loop_s h
                have h : f_X4_thrive_l46 x1 x2 x3l26 x4l46 gil46 = some Z46 := h
                unfold f_X4_thrive_l46 at h
                refine lv_iload hx hb dX4_thrive_46 (lv_at hL 4 rfl) ?_
                refine lv_iconst (v := 3) hx hb dX4_thrive_48 (by decide) ?_
                refine gg_icmp_ge hx hb 81 h dX4_thrive_49 (by decide) (fun h => ?_) (fun h => ?_)
                · exact kx46 _ _ _ _ (g_exit h h946) B (lv_sub hL [0, 1, 2, 3] rfl)
                · refine lv_aload_n hx hb dX4_thrive_52 rfl (lv_at hL 0 rfl) ?_
                  refine mg_48 C B dX4_thrive_53 ?_
                  refine lv_iconst (v := 0) hx hb dX4_thrive_56 (by decide) ?_
                  refine lv_iconst (v := 3) hx hb dX4_thrive_57 (by decide) ?_
                  refine lv_iload_n hx hb dX4_thrive_58 rfl (lv_at hL 1 rfl) ?_
                  refine lv_imul hx hb dX4_thrive_59 ?_
                  refine lv_iadd hx hb dX4_thrive_60 ?_
                  refine lv_iload hx hb dX4_thrive_61 (lv_at hL 4 rfl) ?_
                  refine lv_iadd hx hb dX4_thrive_63 ?_
                  refine lv_dup2_11 hx hb dX4_thrive_64 rfl rfl ?_
                  refine mm_iald C B (a := 33) (n := 42) (Nat.le_of_ble_eq_true rfl) rfl h dX4_thrive_65 (fun v6 h => ?_)
                  refine lv_aload_n hx hb dX4_thrive_66 rfl (lv_at hL 0 rfl) ?_
                  refine mg_53 C B dX4_thrive_67 ?_
                  refine lv_iload hx hb dX4_thrive_70 (lv_at hL 4 rfl) ?_
                  refine mm_iald C B (a := 36) (n := 3) (Nat.le_of_ble_eq_true rfl) rfl h dX4_thrive_72 (fun v7 h => ?_)
                  refine lv_isub hx hb dX4_thrive_73 ?_
                  refine mm_iast C B (a := 33) (n := 42) (Nat.le_of_ble_eq_true rfl) rfl h dX4_thrive_74 (fun gi8 h H locs B => ?_)
                  refine lv_iinc (v := x4l46 + 1) (lv' := [(4, .int (x4l46 + 1)), (0, .ref (ad 0)), (1, .int x1), (2, .int x2), (3, .int x3l26)]) hx hb dX4_thrive_75 hL (k := 4) rfl rfl (by decide) rfl (fun ls hL => ?_)
                  refine lv_goto (tgt := 46) hx hb dX4_thrive_78 (by decide) ?_
                  exact ih46 _ _ _ _ _ (g_next h h946) B (lv_sub hL [1, 2, 3, 4, 0] rfl)
            exact hl46 g_K _ _ _ _ _ h846 B (lv_sub hL [1, 2, 3, 4, 0] rfl)
      exact hl26 g_K _ _ _ _ _ h826 B (lv_sub hL [1, 2, 3, 0] rfl)
    · refine lv_iconst (v := (-1)) hx hb dX4_thrive_18 (by decide) ?_
      exact hret _ _ _ _ _ _ _ ⟨Option.some.inj h, rfl⟩ B dX4_thrive_19
def f_X4_saves_l39 (gii39 : GI) (x1i39 : Int32) (x2i39 : Int32) (x3i39 : Int32) (x4l39 : Int32) (x5l39 : Int32) : Option ((Int32 × Int32) ⊕ ((Unit) ⊕ (Int32))) :=
  if 60 < x5l39 then
  (some (.inr (.inl ())))
  else
  (if x4l39 < x3i39 then
  ((f_X4_payOf gii39 x1i39 x2i39).bind fun q5 =>
  some (.inl ((x4l39 + q5, x5l39 + 1))))
  else
  (some (.inr (.inr x5l39))))
def f_X4_saves_x39 (giy39 : GI) : Option (Int32) :=
  some ((-1))
def f_X4_saves (gi : GI) (x1 : Int32) (x2 : Int32) (x3 : Int32) : Option (Int32) :=
  (f_X4_isMan gi x1).bind fun q1 =>
  if q1 = 0 then
  (some ((-1)))
  else
  ((f_X4_isKind gi x2).bind fun q2 =>
  if q2 = 0 then
  (some ((-1)))
  else
  ((f_X4_isIn gi x3 0 99).bind fun q3 =>
  if q3 = 0 then
  (some ((-1)))
  else
  ((f_X4_inPurse gi x1 x2).bind fun q4 =>
  (g_loop g_K (fun (s : Int32 × Int32) => f_X4_saves_l39 gi x1 x2 x3 s.1 s.2) (q4, 0)).bind fun E39 => Sum.elim (fun (S39 : Unit) => f_X4_saves_x39 gi) (fun (r39 : Int32) => some r39) E39)))
set_option maxHeartbeats 400000 in
theorem w_X4_saves (l : Launch) (D : va_G) (cA : Nat → ClassId) (ad : Nat → Nat) (gi : GI) (gl : GL) (x1 : Int32) (x2 : Int32) (x3 : Int32) (r : Int32) (h : f_X4_saves gi x1 x2 x3 = some r) (sz : Nat) : Met l yX4_saves (ws_ yX4_saves cX4_saves 6 (some .int)) ({ frames := 2, cells := 0, slots := 0, locals := 43 } : Room) (va_Pc [.ref (ad 0), .int x1, .int x2, .int x3] (MPre D cA ad gi gl sz)) (va_Qi (fun v u => v = r ∧ u.1 = gi ∧ u.2 = gl) (MPost D cA ad) (MA ad sz)) 0 0 (MA ad sz) := by
  refine mm_stI (by decide +kernel) rfl (Nat.le_of_ble_eq_true rfl) (fun p e s m args below meth c R Q A ls C hF hN B hret hL => ?_) sz
  have hx := C.1
  have hb := C.2.1
  have hL : lv_has ls 6 [(0, .ref (ad 0)), (1, .int x1), (2, .int x2), (3, .int x3)] := hL
  unfold f_X4_saves at h
  refine lv_aload_n hx hb dX4_saves_0 rfl (lv_at hL 0 rfl) ?_
  refine lv_iload_n hx hb dX4_saves_1 rfl (lv_at hL 1 rfl) ?_
  refine k_X4_isMan C B (Nat.le_trans (Nat.le_of_ble_eq_true rfl) hF) (Nat.le_trans (Nat.le_of_ble_eq_true rfl) hN) hL.1 (Nat.le_of_ble_eq_true rfl) h dX4_saves_2 (fun q1 h H locs B => ?_)
  refine gg_if_eq hx hb 26 h dX4_saves_5 (by decide) (fun h => ?_) (fun h => ?_)
  · refine lv_iconst (v := (-1)) hx hb dX4_saves_26 (by decide) ?_
    exact hret _ _ _ _ _ _ _ ⟨Option.some.inj h, rfl, rfl⟩ B dX4_saves_27
  · refine lv_aload_n hx hb dX4_saves_8 rfl (lv_at hL 0 rfl) ?_
    refine lv_iload_n hx hb dX4_saves_9 rfl (lv_at hL 2 rfl) ?_
    refine k_X4_isKind C B (Nat.le_trans (Nat.le_of_ble_eq_true rfl) hF) (Nat.le_trans (Nat.le_of_ble_eq_true rfl) hN) hL.1 (Nat.le_of_ble_eq_true rfl) h dX4_saves_10 (fun q2 h H locs B => ?_)
    refine gg_if_eq hx hb 26 h dX4_saves_13 (by decide) (fun h => ?_) (fun h => ?_)
    · refine lv_iconst (v := (-1)) hx hb dX4_saves_26 (by decide) ?_
      exact hret _ _ _ _ _ _ _ ⟨Option.some.inj h, rfl, rfl⟩ B dX4_saves_27
    · refine lv_iload_n hx hb dX4_saves_16 rfl (lv_at hL 3 rfl) ?_
      refine lv_iconst (v := 0) hx hb dX4_saves_17 (by decide) ?_
      refine lv_bipush (v := 99) hx hb dX4_saves_18 (by decide) ?_
      refine k_X4_isIn C B (Nat.le_trans (Nat.le_of_ble_eq_true rfl) hF) (Nat.le_trans (Nat.le_of_ble_eq_true rfl) hN) hL.1 (Nat.le_of_ble_eq_true rfl) h dX4_saves_20 (fun q3 h H locs B => ?_)
      refine gg_if_ne hx hb 28 h dX4_saves_23 (by decide) (fun h => ?_) (fun h => ?_)
      · refine lv_aload_n hx hb dX4_saves_28 rfl (lv_at hL 0 rfl) ?_
        refine lv_iload_n hx hb dX4_saves_29 rfl (lv_at hL 1 rfl) ?_
        refine lv_iload_n hx hb dX4_saves_30 rfl (lv_at hL 2 rfl) ?_
        refine k_X4_inPurse C B (Nat.le_trans (Nat.le_of_ble_eq_true rfl) hF) (Nat.le_trans (Nat.le_of_ble_eq_true rfl) hN) hL.1 (Nat.le_of_ble_eq_true rfl) h dX4_saves_31 (fun q4 h H locs B => ?_)
        refine lv_istore (lv' := [(4, .int q4), (0, .ref (ad 0)), (1, .int x1), (2, .int x2), (3, .int x3)]) hx hb dX4_saves_34 hL (by decide) rfl (fun ls hL => ?_)
        refine lv_iconst (v := 0) hx hb dX4_saves_36 (by decide) ?_
        refine lv_istore (lv' := [(5, .int 0), (4, .int q4), (0, .ref (ad 0)), (1, .int x1), (2, .int x2), (3, .int x3)]) hx hb dX4_saves_37 hL (by decide) rfl (fun ls hL => ?_)
        obtain ⟨E39, h839, h⟩ := g_ob h
        have kx39 : ∀  (H : Heap) (locs : List Loc) (ls : Array Slot), Sum.inl () = E39 → MB D cA ad A s gi gl H locs → lv_has ls 6 [] → W p l e R s m args below meth c H locs 0 0 Q (F0 m 72 ls []) := by
          intro  H locs ls he B hL
          subst he
          have h : f_X4_saves_x39 gi = some r := h
          unfold f_X4_saves_x39 at h
          refine lv_iconst (v := (-1)) hx hb dX4_saves_72 (by decide) ?_
          exact hret _ _ _ _ _ _ _ ⟨Option.some.inj h, rfl, rfl⟩ B dX4_saves_73
        have kr39 : ∀ (v : Int32) (H : Heap) (locs : List Loc) (ls : Array Slot) (pc : Nat), Sum.inr v = E39 → MB D cA ad A s gi gl H locs → decode cX4_saves pc = .ok (.ireturn, 1) → W p l e R s m args below meth c H locs 0 0 Q (F0 m pc ls [.int v]) := by
          intro v H locs ls pc he B hd
          subst he
          have h := g_er h
          exact hret _ _ _ _ _ _ _ ⟨Option.some.inj h, rfl, rfl⟩ B hd
        have hl39 : ∀ (k : Nat) (x4l39 : Int32) (x5l39 : Int32) (H : Heap) (locs : List Loc) (ls : Array Slot), g_loop k (fun (s : Int32 × Int32) => f_X4_saves_l39 gi x1 x2 x3 s.1 s.2) (x4l39, x5l39) = some E39 → MB D cA ad A s gi gl H locs → lv_has ls 6 [(0, .ref (ad 0)), (1, .int x1), (2, .int x2), (3, .int x3), (4, .int x4l39), (5, .int x5l39)] → W p l e R s m args below meth c H locs 0 0 Q (F0 m 39 ls []) := by
          intro k
          induction k with
          | zero => intro x4l39 x5l39 H locs ls h; exact absurd h (fun z => g_loop_0 z)
          | succ k ih39 =>
            intro x4l39 x5l39 H locs ls h B hL
            obtain ⟨Z39, h, h939⟩ := g_loop_s h
            have h : f_X4_saves_l39 gi x1 x2 x3 x4l39 x5l39 = some Z39 := h
            unfold f_X4_saves_l39 at h
            refine lv_iload hx hb dX4_saves_39 (lv_at hL 5 rfl) ?_
            refine lv_bipush (v := 60) hx hb dX4_saves_41 (by decide) ?_
            refine gg_icmp_gt hx hb 72 h dX4_saves_43 (by decide) (fun h => ?_) (fun h => ?_)
            · exact kx39  _ _ _ (g_exit h h939) B (lv_sub hL [] rfl)
            · refine lv_iload hx hb dX4_saves_46 (lv_at hL 4 rfl) ?_
              refine lv_iload_n hx hb dX4_saves_48 rfl (lv_at hL 3 rfl) ?_
              refine gg_icmp_lt hx hb 55 h dX4_saves_49 (by decide) (fun h => ?_) (fun h => ?_)
              · refine lv_iload hx hb dX4_saves_55 (lv_at hL 4 rfl) ?_
                refine lv_aload_n hx hb dX4_saves_57 rfl (lv_at hL 0 rfl) ?_
                refine lv_iload_n hx hb dX4_saves_58 rfl (lv_at hL 1 rfl) ?_
                refine lv_iload_n hx hb dX4_saves_59 rfl (lv_at hL 2 rfl) ?_
                refine k_X4_payOf C B (Nat.le_trans (Nat.le_of_ble_eq_true rfl) hF) (Nat.le_trans (Nat.le_of_ble_eq_true rfl) hN) hL.1 (Nat.le_of_ble_eq_true rfl) h dX4_saves_60 (fun q5 h H locs B => ?_)
                refine lv_iadd hx hb dX4_saves_63 ?_
                refine lv_istore (lv' := [(4, .int (x4l39 + q5)), (0, .ref (ad 0)), (1, .int x1), (2, .int x2), (3, .int x3), (5, .int x5l39)]) hx hb dX4_saves_64 hL (by decide) rfl (fun ls hL => ?_)
                refine lv_iinc (v := x5l39 + 1) (lv' := [(5, .int (x5l39 + 1)), (4, .int (x4l39 + q5)), (0, .ref (ad 0)), (1, .int x1), (2, .int x2), (3, .int x3)]) hx hb dX4_saves_66 hL (k := 5) rfl rfl (by decide) rfl (fun ls hL => ?_)
                refine lv_goto (tgt := 39) hx hb dX4_saves_69 (by decide) ?_
                exact ih39 _ _ _ _ _ (g_next h h939) B (lv_sub hL [2, 3, 4, 5, 1, 0] rfl)
              · refine lv_iload hx hb dX4_saves_52 (lv_at hL 5 rfl) ?_
                exact kr39 _ _ _ _ _ (g_exit h h939) B dX4_saves_54
        exact hl39 g_K _ _ _ _ _ h839 B (lv_sub hL [2, 3, 4, 5, 1, 0] rfl)
      · refine lv_iconst (v := (-1)) hx hb dX4_saves_26 (by decide) ?_
        exact hret _ _ _ _ _ _ _ ⟨Option.some.inj h, rfl, rfl⟩ B dX4_saves_27
def f_X4_richest_l4 (gii4 : GI) (x1l4 : Int32) (x2l4 : Int32) : Option ((Int32 × Int32) ⊕ (Int32)) :=
  (f_X4_many gii4 ).bind fun q1 =>
  if q1 ≤ x2l4 then
  (some (.inr x1l4))
  else
  (if x1l4 < 0 then
  (some (.inl ((x2l4, x2l4 + 1))))
  else
  ((f_X4_sumOf gii4 0 x2l4).bind fun q2 =>
  (f_X4_sumOf gii4 0 x1l4).bind fun q3 =>
  if q2 ≤ q3 then
  (some (.inl ((x1l4, x2l4 + 1))))
  else
  (some (.inl ((x2l4, x2l4 + 1))))))
def f_X4_richest_x4 (giy4 : GI) (x1e4 : Int32) : Option (Int32) :=
  some x1e4
def f_X4_richest (gi : GI)  : Option (Int32) :=
  (g_loop g_K (fun (s : Int32 × Int32) => f_X4_richest_l4 gi s.1 s.2) ((-1), 0)).bind fun E4 => f_X4_richest_x4 gi E4
set_option maxHeartbeats 400000 in
theorem w_X4_richest (l : Launch) (D : va_G) (cA : Nat → ClassId) (ad : Nat → Nat) (gi : GI) (gl : GL)  (r : Int32) (h : f_X4_richest gi  = some r) (sz : Nat) : Met l yX4_richest (ws_ yX4_richest cX4_richest 3 (some .int)) ({ frames := 1, cells := 0, slots := 0, locals := 22 } : Room) (va_Pc [.ref (ad 0)] (MPre D cA ad gi gl sz)) (va_Qi (fun v u => v = r ∧ u.1 = gi ∧ u.2 = gl) (MPost D cA ad) (MA ad sz)) 0 0 (MA ad sz) := by
  refine mm_stI (by decide +kernel) rfl (Nat.le_of_ble_eq_true rfl) (fun p e s m args below meth c R Q A ls C hF hN B hret hL => ?_) sz
  have hx := C.1
  have hb := C.2.1
  have hL : lv_has ls 3 [(0, .ref (ad 0))] := hL
  unfold f_X4_richest at h
  refine lv_iconst (v := (-1)) hx hb dX4_richest_0 (by decide) ?_
  refine lv_istore_n (lv' := [(1, .int ((-1))), (0, .ref (ad 0))]) hx hb dX4_richest_1 rfl hL (by decide) rfl (fun ls hL => ?_)
  refine lv_iconst (v := 0) hx hb dX4_richest_2 (by decide) ?_
  refine lv_istore_n (lv' := [(2, .int 0), (1, .int ((-1))), (0, .ref (ad 0))]) hx hb dX4_richest_3 rfl hL (by decide) rfl (fun ls hL => ?_)
  obtain ⟨E4, h84, h⟩ := g_ob h
  have kx4 : ∀ (x1e4 : Int32) (H : Heap) (locs : List Loc) (ls : Array Slot), x1e4 = E4 → MB D cA ad A s gi gl H locs → lv_has ls 3 [(1, .int x1e4)] → W p l e R s m args below meth c H locs 0 0 Q (F0 m 39 ls []) := by
    intro x1e4 H locs ls he B hL
    subst he
    have h : f_X4_richest_x4 gi x1e4 = some r := h
    unfold f_X4_richest_x4 at h
    refine lv_iload_n hx hb dX4_richest_39 rfl (lv_at hL 0 rfl) ?_
    exact hret _ _ _ _ _ _ _ ⟨Option.some.inj h, rfl, rfl⟩ B dX4_richest_40
  have hl4 : ∀ (k : Nat) (x1l4 : Int32) (x2l4 : Int32) (H : Heap) (locs : List Loc) (ls : Array Slot), g_loop k (fun (s : Int32 × Int32) => f_X4_richest_l4 gi s.1 s.2) (x1l4, x2l4) = some E4 → MB D cA ad A s gi gl H locs → lv_has ls 3 [(0, .ref (ad 0)), (1, .int x1l4), (2, .int x2l4)] → W p l e R s m args below meth c H locs 0 0 Q (F0 m 4 ls []) := by
    intro k
    induction k with
    | zero => intro x1l4 x2l4 H locs ls h; exact absurd h (fun z => g_loop_0 z)
    | succ k ih4 =>
      intro x1l4 x2l4 H locs ls h B hL
      obtain ⟨Z4, h, h94⟩ := g_loop_s h
      have h : f_X4_richest_l4 gi x1l4 x2l4 = some Z4 := h
      unfold f_X4_richest_l4 at h
      refine lv_iload_n hx hb dX4_richest_4 rfl (lv_at hL 2 rfl) ?_
      refine lv_aload_n hx hb dX4_richest_5 rfl (lv_at hL 0 rfl) ?_
      refine k_X4_many C B (Nat.le_trans (Nat.le_of_ble_eq_true rfl) hF) (Nat.le_trans (Nat.le_of_ble_eq_true rfl) hN) hL.1 (Nat.le_of_ble_eq_true rfl) h dX4_richest_6 (fun q1 h H locs B => ?_)
      refine gg_icmp_ge hx hb 39 h dX4_richest_9 (by decide) (fun h => ?_) (fun h => ?_)
      · exact kx4 _ _ _ _ (g_exit h h94) B (lv_sub hL [1] rfl)
      · refine lv_iload_n hx hb dX4_richest_12 rfl (lv_at hL 1 rfl) ?_
        refine gg_if_lt hx hb 31 h dX4_richest_13 (by decide) (fun h => ?_) (fun h => ?_)
        · refine lv_iload_n hx hb dX4_richest_31 rfl (lv_at hL 2 rfl) ?_
          refine lv_istore_n (lv' := [(1, .int x2l4), (0, .ref (ad 0)), (2, .int x2l4)]) hx hb dX4_richest_32 rfl hL (by decide) rfl (fun ls hL => ?_)
          refine lv_iinc (v := x2l4 + 1) (lv' := [(2, .int (x2l4 + 1)), (1, .int x2l4), (0, .ref (ad 0))]) hx hb dX4_richest_33 hL (k := 2) rfl rfl (by decide) rfl (fun ls hL => ?_)
          refine lv_goto (tgt := 4) hx hb dX4_richest_36 (by decide) ?_
          exact ih4 _ _ _ _ _ (g_next h h94) B (lv_sub hL [2, 1, 0] rfl)
        · refine lv_aload_n hx hb dX4_richest_16 rfl (lv_at hL 0 rfl) ?_
          refine lv_iconst (v := 0) hx hb dX4_richest_17 (by decide) ?_
          refine lv_iload_n hx hb dX4_richest_18 rfl (lv_at hL 2 rfl) ?_
          refine k_X4_sumOf C B (Nat.le_trans (Nat.le_of_ble_eq_true rfl) hF) (Nat.le_trans (Nat.le_of_ble_eq_true rfl) hN) hL.1 (Nat.le_of_ble_eq_true rfl) h dX4_richest_19 (fun q2 h H locs B => ?_)
          refine lv_aload_n hx hb dX4_richest_22 rfl (lv_at hL 0 rfl) ?_
          refine lv_iconst (v := 0) hx hb dX4_richest_23 (by decide) ?_
          refine lv_iload_n hx hb dX4_richest_24 rfl (lv_at hL 1 rfl) ?_
          refine k_X4_sumOf C B (Nat.le_trans (Nat.le_of_ble_eq_true rfl) hF) (Nat.le_trans (Nat.le_of_ble_eq_true rfl) hN) hL.1 (Nat.le_of_ble_eq_true rfl) h dX4_richest_25 (fun q3 h H locs B => ?_)
          refine gg_icmp_le hx hb 33 h dX4_richest_28 (by decide) (fun h => ?_) (fun h => ?_)
          · refine lv_iinc (v := x2l4 + 1) (lv' := [(2, .int (x2l4 + 1)), (0, .ref (ad 0)), (1, .int x1l4)]) hx hb dX4_richest_33 hL (k := 2) rfl rfl (by decide) rfl (fun ls hL => ?_)
            refine lv_goto (tgt := 4) hx hb dX4_richest_36 (by decide) ?_
            exact ih4 _ _ _ _ _ (g_next h h94) B (lv_sub hL [1, 2, 0] rfl)
          · refine lv_iload_n hx hb dX4_richest_31 rfl (lv_at hL 2 rfl) ?_
            refine lv_istore_n (lv' := [(1, .int x2l4), (0, .ref (ad 0)), (2, .int x2l4)]) hx hb dX4_richest_32 rfl hL (by decide) rfl (fun ls hL => ?_)
            refine lv_iinc (v := x2l4 + 1) (lv' := [(2, .int (x2l4 + 1)), (1, .int x2l4), (0, .ref (ad 0))]) hx hb dX4_richest_33 hL (k := 2) rfl rfl (by decide) rfl (fun ls hL => ?_)
            refine lv_goto (tgt := 4) hx hb dX4_richest_36 (by decide) ?_
            exact ih4 _ _ _ _ _ (g_next h h94) B (lv_sub hL [2, 1, 0] rfl)
  exact hl4 g_K _ _ _ _ _ h84 B (lv_sub hL [2, 1, 0] rfl)
theorem k_X4_richest {p : Program} {l : Launch} {e : Env} {R : Room} {s : State} {m : MethodId} {args : Array Value} {below : List Frame} {meth : Method} {c : Code} {H : Heap} {locs : List Loc} {Q : State → Prop} {pc : Nat} {ls : Array Slot} {rest : List Value} {cc : ByteArray} {nL : Nat} {D : va_G} {cA : Nat → ClassId} {ad : Nat → Nat} {A : Nat → Prop} {gi : GI} {gl : GL} {α : Type} {r : α}  {ff : Int32 → Option α} (C : CallFix p m c cc nL s args lw_all RX4) (B : MB D cA ad A s gi gl H locs) (hF : 2 ≤ R.frames) (hN : 44 ≤ R.locals) (hs : ls.size = nL) (hw : (rest.map fun v => v.category).sum ≤ 8) (h : (f_X4_richest gi ).bind ff = some r) (hdg : decode cc pc = .ok (.invokevirtual 534, 3)) (kk : ∀ q, ff q = some r → ∀ (H' : Heap) (locs' : List Loc), MB D cA ad A s gi gl H' locs' → W p l e R s m args below meth c H' locs' 0 0 Q (F0 m (pc + 3) ls (.int q :: rest))) : W p l e R s m args below meth c H locs 0 0 Q (F0 m pc ls (.ref (ad 0) :: rest)) := by
  obtain ⟨q, h1, h2⟩ := g_ob h
  refine mm_cVI (As := []) (rest := rest) (n := 0) C B (fun sz => w_X4_richest l D cA ad gi gl  q h1 sz) q2360 q2353 q2354 q150 q2355 (by decide +kernel) ⟨hF, hN⟩ rfl hs hw hdg (fun v u H9 locs9 hp B9 => ?_)
  obtain ⟨e1, e2, e3⟩ := hp
  rw [e2] at B9
  rw [e3] at B9
  subst e1
  exact kk _ h2 H9 locs9 B9
def f_X4_gulf_l18 (gii18 : GI) (x1l18 : Int32) (x2l18 : Int32) : Option ((Int32 × Int32) ⊕ (Int32)) :=
  (f_X4_many gii18 ).bind fun q3 =>
  if q3 ≤ x2l18 then
  (some (.inr x1l18))
  else
  ((f_X4_sumOf gii18 0 x2l18).bind fun q4 =>
  (f_X4_lesser gii18 x1l18 q4).bind fun q5 =>
  some (.inl ((q5, x2l18 + 1))))
def f_X4_gulf_x18 (giy18 : GI) (x1e18 : Int32) : Option (Int32) :=
  (f_X4_richest giy18 ).bind fun q6 =>
  (f_X4_sumOf giy18 0 q6).bind fun q7 =>
  some (q7 - x1e18)
def f_X4_gulf (gi : GI)  : Option (Int32) :=
  (f_X4_many gi ).bind fun q1 =>
  if q1 = 0 then
  (some ((-1)))
  else
  ((f_X4_sumOf gi 0 0).bind fun q2 =>
  (g_loop g_K (fun (s : Int32 × Int32) => f_X4_gulf_l18 gi s.1 s.2) (q2, 0)).bind fun E18 => f_X4_gulf_x18 gi E18)
set_option maxHeartbeats 400000 in
theorem w_X4_gulf (l : Launch) (D : va_G) (cA : Nat → ClassId) (ad : Nat → Nat) (gi : GI) (gl : GL)  (r : Int32) (h : f_X4_gulf gi  = some r) (sz : Nat) : Met l yX4_gulf (ws_ yX4_gulf cX4_gulf 3 (some .int)) ({ frames := 2, cells := 0, slots := 0, locals := 44 } : Room) (va_Pc [.ref (ad 0)] (MPre D cA ad gi gl sz)) (va_Qi (fun v u => v = r ∧ u.1 = gi ∧ u.2 = gl) (MPost D cA ad) (MA ad sz)) 0 0 (MA ad sz) := by
  refine mm_stI (by decide +kernel) rfl (Nat.le_of_ble_eq_true rfl) (fun p e s m args below meth c R Q A ls C hF hN B hret hL => ?_) sz
  have hx := C.1
  have hb := C.2.1
  have hL : lv_has ls 3 [(0, .ref (ad 0))] := hL
  unfold f_X4_gulf at h
  refine lv_aload_n hx hb dX4_gulf_0 rfl (lv_at hL 0 rfl) ?_
  refine k_X4_many C B (Nat.le_trans (Nat.le_of_ble_eq_true rfl) hF) (Nat.le_trans (Nat.le_of_ble_eq_true rfl) hN) hL.1 (Nat.le_of_ble_eq_true rfl) h dX4_gulf_1 (fun q1 h H locs B => ?_)
  refine gg_if_ne hx hb 9 h dX4_gulf_4 (by decide) (fun h => ?_) (fun h => ?_)
  · refine lv_aload_n hx hb dX4_gulf_9 rfl (lv_at hL 0 rfl) ?_
    refine lv_iconst (v := 0) hx hb dX4_gulf_10 (by decide) ?_
    refine lv_iconst (v := 0) hx hb dX4_gulf_11 (by decide) ?_
    refine k_X4_sumOf C B (Nat.le_trans (Nat.le_of_ble_eq_true rfl) hF) (Nat.le_trans (Nat.le_of_ble_eq_true rfl) hN) hL.1 (Nat.le_of_ble_eq_true rfl) h dX4_gulf_12 (fun q2 h H locs B => ?_)
    refine lv_istore_n (lv' := [(1, .int q2), (0, .ref (ad 0))]) hx hb dX4_gulf_15 rfl hL (by decide) rfl (fun ls hL => ?_)
    refine lv_iconst (v := 0) hx hb dX4_gulf_16 (by decide) ?_
    refine lv_istore_n (lv' := [(2, .int 0), (1, .int q2), (0, .ref (ad 0))]) hx hb dX4_gulf_17 rfl hL (by decide) rfl (fun ls hL => ?_)
    obtain ⟨E18, h818, h⟩ := g_ob h
    have kx18 : ∀ (x1e18 : Int32) (H : Heap) (locs : List Loc) (ls : Array Slot), x1e18 = E18 → MB D cA ad A s gi gl H locs → lv_has ls 3 [(0, .ref (ad 0)), (1, .int x1e18)] → W p l e R s m args below meth c H locs 0 0 Q (F0 m 43 ls []) := by
      intro x1e18 H locs ls he B hL
      subst he
      have h : f_X4_gulf_x18 gi x1e18 = some r := h
      unfold f_X4_gulf_x18 at h
      refine lv_aload_n hx hb dX4_gulf_43 rfl (lv_at hL 0 rfl) ?_
      refine lv_iconst (v := 0) hx hb dX4_gulf_44 (by decide) ?_
      refine lv_aload_n hx hb dX4_gulf_45 rfl (lv_at hL 0 rfl) ?_
      refine k_X4_richest C B (Nat.le_trans (Nat.le_of_ble_eq_true rfl) hF) (Nat.le_trans (Nat.le_of_ble_eq_true rfl) hN) hL.1 (Nat.le_of_ble_eq_true rfl) h dX4_gulf_46 (fun q6 h H locs B => ?_)
      refine k_X4_sumOf C B (Nat.le_trans (Nat.le_of_ble_eq_true rfl) hF) (Nat.le_trans (Nat.le_of_ble_eq_true rfl) hN) hL.1 (Nat.le_of_ble_eq_true rfl) h dX4_gulf_49 (fun q7 h H locs B => ?_)
      refine lv_iload_n hx hb dX4_gulf_52 rfl (lv_at hL 1 rfl) ?_
      refine lv_isub hx hb dX4_gulf_53 ?_
      exact hret _ _ _ _ _ _ _ ⟨Option.some.inj h, rfl, rfl⟩ B dX4_gulf_54
    have hl18 : ∀ (k : Nat) (x1l18 : Int32) (x2l18 : Int32) (H : Heap) (locs : List Loc) (ls : Array Slot), g_loop k (fun (s : Int32 × Int32) => f_X4_gulf_l18 gi s.1 s.2) (x1l18, x2l18) = some E18 → MB D cA ad A s gi gl H locs → lv_has ls 3 [(0, .ref (ad 0)), (1, .int x1l18), (2, .int x2l18)] → W p l e R s m args below meth c H locs 0 0 Q (F0 m 18 ls []) := by
      intro k
      induction k with
      | zero => intro x1l18 x2l18 H locs ls h; exact absurd h (fun z => g_loop_0 z)
      | succ k ih18 =>
        intro x1l18 x2l18 H locs ls h B hL
        obtain ⟨Z18, h, h918⟩ := g_loop_s h
        have h : f_X4_gulf_l18 gi x1l18 x2l18 = some Z18 := h
        unfold f_X4_gulf_l18 at h
        refine lv_iload_n hx hb dX4_gulf_18 rfl (lv_at hL 2 rfl) ?_
        refine lv_aload_n hx hb dX4_gulf_19 rfl (lv_at hL 0 rfl) ?_
        refine k_X4_many C B (Nat.le_trans (Nat.le_of_ble_eq_true rfl) hF) (Nat.le_trans (Nat.le_of_ble_eq_true rfl) hN) hL.1 (Nat.le_of_ble_eq_true rfl) h dX4_gulf_20 (fun q3 h H locs B => ?_)
        refine gg_icmp_ge hx hb 43 h dX4_gulf_23 (by decide) (fun h => ?_) (fun h => ?_)
        · exact kx18 _ _ _ _ (g_exit h h918) B (lv_sub hL [0, 1] rfl)
        · refine lv_iload_n hx hb dX4_gulf_26 rfl (lv_at hL 1 rfl) ?_
          refine lv_aload_n hx hb dX4_gulf_27 rfl (lv_at hL 0 rfl) ?_
          refine lv_iconst (v := 0) hx hb dX4_gulf_28 (by decide) ?_
          refine lv_iload_n hx hb dX4_gulf_29 rfl (lv_at hL 2 rfl) ?_
          refine k_X4_sumOf C B (Nat.le_trans (Nat.le_of_ble_eq_true rfl) hF) (Nat.le_trans (Nat.le_of_ble_eq_true rfl) hN) hL.1 (Nat.le_of_ble_eq_true rfl) h dX4_gulf_30 (fun q4 h H locs B => ?_)
          refine k_X4_lesser C B (Nat.le_trans (Nat.le_of_ble_eq_true rfl) hF) (Nat.le_trans (Nat.le_of_ble_eq_true rfl) hN) hL.1 (Nat.le_of_ble_eq_true rfl) h dX4_gulf_33 (fun q5 h H locs B => ?_)
          refine lv_istore_n (lv' := [(1, .int q5), (0, .ref (ad 0)), (2, .int x2l18)]) hx hb dX4_gulf_36 rfl hL (by decide) rfl (fun ls hL => ?_)
          refine lv_iinc (v := x2l18 + 1) (lv' := [(2, .int (x2l18 + 1)), (1, .int q5), (0, .ref (ad 0))]) hx hb dX4_gulf_37 hL (k := 2) rfl rfl (by decide) rfl (fun ls hL => ?_)
          refine lv_goto (tgt := 18) hx hb dX4_gulf_40 (by decide) ?_
          exact ih18 _ _ _ _ _ (g_next h h918) B (lv_sub hL [2, 1, 0] rfl)
    exact hl18 g_K _ _ _ _ _ h818 B (lv_sub hL [2, 1, 0] rfl)
  · refine lv_iconst (v := (-1)) hx hb dX4_gulf_7 (by decide) ?_
    exact hret _ _ _ _ _ _ _ ⟨Option.some.inj h, rfl, rfl⟩ B dX4_gulf_8
def f_X4_most_l26 (gii26 : GI) (x1i26 : Int32) (x2l26 : Int32) (x3l26 : Int32) : Option ((Int32 × Int32) ⊕ (Int32)) :=
  (g_ld gii26 3 2 (gii26 0 41)).bind fun v3 =>
  if v3 ≤ x3l26 then
  (some (.inr x2l26))
  else
  ((f_X4_inPurse gii26 x1i26 x3l26).bind fun q4 =>
  (f_X4_inPurse gii26 x1i26 x2l26).bind fun q5 =>
  if q4 ≤ q5 then
  (some (.inl ((x2l26, x3l26 + 1))))
  else
  (some (.inl ((x3l26, x3l26 + 1)))))
def f_X4_most_x26 (giy26 : GI) (x2e26 : Int32) : Option (Int32) :=
  some x2e26
def f_X4_most (gi : GI) (x1 : Int32) : Option (Int32) :=
  (f_X4_isMan gi x1).bind fun q1 =>
  if q1 = 0 then
  (some ((-1)))
  else
  ((g_ld gi 3 2 (gi 0 41)).bind fun v2 =>
  if v2 = 0 then
  (some ((-1)))
  else
  ((g_loop g_K (fun (s : Int32 × Int32) => f_X4_most_l26 gi x1 s.1 s.2) (0, 1)).bind fun E26 => f_X4_most_x26 gi E26))
set_option maxHeartbeats 400000 in
theorem w_X4_most (l : Launch) (D : va_G) (cA : Nat → ClassId) (ad : Nat → Nat) (gi : GI) (gl : GL) (x1 : Int32) (r : Int32) (h : f_X4_most gi x1 = some r) (sz : Nat) : Met l yX4_most (ws_ yX4_most cX4_most 4 (some .int)) ({ frames := 2, cells := 0, slots := 0, locals := 43 } : Room) (va_Pc [.ref (ad 0), .int x1] (MPre D cA ad gi gl sz)) (va_Qi (fun v u => v = r ∧ u.1 = gi ∧ u.2 = gl) (MPost D cA ad) (MA ad sz)) 0 0 (MA ad sz) := by
  refine mm_stI (by decide +kernel) rfl (Nat.le_of_ble_eq_true rfl) (fun p e s m args below meth c R Q A ls C hF hN B hret hL => ?_) sz
  have hx := C.1
  have hb := C.2.1
  have hL : lv_has ls 4 [(0, .ref (ad 0)), (1, .int x1)] := hL
  unfold f_X4_most at h
  refine lv_aload_n hx hb dX4_most_0 rfl (lv_at hL 0 rfl) ?_
  refine lv_iload_n hx hb dX4_most_1 rfl (lv_at hL 1 rfl) ?_
  refine k_X4_isMan C B (Nat.le_trans (Nat.le_of_ble_eq_true rfl) hF) (Nat.le_trans (Nat.le_of_ble_eq_true rfl) hN) hL.1 (Nat.le_of_ble_eq_true rfl) h dX4_most_2 (fun q1 h H locs B => ?_)
  refine gg_if_eq hx hb 20 h dX4_most_5 (by decide) (fun h => ?_) (fun h => ?_)
  · refine lv_iconst (v := (-1)) hx hb dX4_most_20 (by decide) ?_
    exact hret _ _ _ _ _ _ _ ⟨Option.some.inj h, rfl, rfl⟩ B dX4_most_21
  · refine lv_aload_n hx hb dX4_most_8 rfl (lv_at hL 0 rfl) ?_
    refine mg_11 C B dX4_most_9 ?_
    refine lv_aload_n hx hb dX4_most_12 rfl (lv_at hL 0 rfl) ?_
    refine mg_41 C B dX4_most_13 ?_
    refine mm_iald C B (a := 3) (n := 2) (Nat.le_of_ble_eq_true rfl) rfl h dX4_most_16 (fun v2 h => ?_)
    refine gg_if_ne hx hb 22 h dX4_most_17 (by decide) (fun h => ?_) (fun h => ?_)
    · refine lv_iconst (v := 0) hx hb dX4_most_22 (by decide) ?_
      refine lv_istore_n (lv' := [(2, .int 0), (0, .ref (ad 0)), (1, .int x1)]) hx hb dX4_most_23 rfl hL (by decide) rfl (fun ls hL => ?_)
      refine lv_iconst (v := 1) hx hb dX4_most_24 (by decide) ?_
      refine lv_istore_n (lv' := [(3, .int 1), (2, .int 0), (0, .ref (ad 0)), (1, .int x1)]) hx hb dX4_most_25 rfl hL (by decide) rfl (fun ls hL => ?_)
      obtain ⟨E26, h826, h⟩ := g_ob h
      have kx26 : ∀ (x2e26 : Int32) (H : Heap) (locs : List Loc) (ls : Array Slot), x2e26 = E26 → MB D cA ad A s gi gl H locs → lv_has ls 4 [(2, .int x2e26)] → W p l e R s m args below meth c H locs 0 0 Q (F0 m 62 ls []) := by
        intro x2e26 H locs ls he B hL
        subst he
        have h : f_X4_most_x26 gi x2e26 = some r := h
        unfold f_X4_most_x26 at h
        refine lv_iload_n hx hb dX4_most_62 rfl (lv_at hL 0 rfl) ?_
        exact hret _ _ _ _ _ _ _ ⟨Option.some.inj h, rfl, rfl⟩ B dX4_most_63
      have hl26 : ∀ (k : Nat) (x2l26 : Int32) (x3l26 : Int32) (H : Heap) (locs : List Loc) (ls : Array Slot), g_loop k (fun (s : Int32 × Int32) => f_X4_most_l26 gi x1 s.1 s.2) (x2l26, x3l26) = some E26 → MB D cA ad A s gi gl H locs → lv_has ls 4 [(0, .ref (ad 0)), (1, .int x1), (2, .int x2l26), (3, .int x3l26)] → W p l e R s m args below meth c H locs 0 0 Q (F0 m 26 ls []) := by
        intro k
        induction k with
        | zero => intro x2l26 x3l26 H locs ls h; exact absurd h (fun z => g_loop_0 z)
        | succ k ih26 =>
          intro x2l26 x3l26 H locs ls h B hL
          obtain ⟨Z26, h, h926⟩ := g_loop_s h
          have h : f_X4_most_l26 gi x1 x2l26 x3l26 = some Z26 := h
          unfold f_X4_most_l26 at h
          refine lv_iload_n hx hb dX4_most_26 rfl (lv_at hL 3 rfl) ?_
          refine lv_aload_n hx hb dX4_most_27 rfl (lv_at hL 0 rfl) ?_
          refine mg_11 C B dX4_most_28 ?_
          refine lv_aload_n hx hb dX4_most_31 rfl (lv_at hL 0 rfl) ?_
          refine mg_41 C B dX4_most_32 ?_
          refine mm_iald C B (a := 3) (n := 2) (Nat.le_of_ble_eq_true rfl) rfl h dX4_most_35 (fun v3 h => ?_)
          refine gg_icmp_ge hx hb 62 h dX4_most_36 (by decide) (fun h => ?_) (fun h => ?_)
          · exact kx26 _ _ _ _ (g_exit h h926) B (lv_sub hL [2] rfl)
          · refine lv_aload_n hx hb dX4_most_39 rfl (lv_at hL 0 rfl) ?_
            refine lv_iload_n hx hb dX4_most_40 rfl (lv_at hL 1 rfl) ?_
            refine lv_iload_n hx hb dX4_most_41 rfl (lv_at hL 3 rfl) ?_
            refine k_X4_inPurse C B (Nat.le_trans (Nat.le_of_ble_eq_true rfl) hF) (Nat.le_trans (Nat.le_of_ble_eq_true rfl) hN) hL.1 (Nat.le_of_ble_eq_true rfl) h dX4_most_42 (fun q4 h H locs B => ?_)
            refine lv_aload_n hx hb dX4_most_45 rfl (lv_at hL 0 rfl) ?_
            refine lv_iload_n hx hb dX4_most_46 rfl (lv_at hL 1 rfl) ?_
            refine lv_iload_n hx hb dX4_most_47 rfl (lv_at hL 2 rfl) ?_
            refine k_X4_inPurse C B (Nat.le_trans (Nat.le_of_ble_eq_true rfl) hF) (Nat.le_trans (Nat.le_of_ble_eq_true rfl) hN) hL.1 (Nat.le_of_ble_eq_true rfl) h dX4_most_48 (fun q5 h H locs B => ?_)
            refine gg_icmp_le hx hb 56 h dX4_most_51 (by decide) (fun h => ?_) (fun h => ?_)
            · refine lv_iinc (v := x3l26 + 1) (lv' := [(3, .int (x3l26 + 1)), (0, .ref (ad 0)), (1, .int x1), (2, .int x2l26)]) hx hb dX4_most_56 hL (k := 3) rfl rfl (by decide) rfl (fun ls hL => ?_)
              refine lv_goto (tgt := 26) hx hb dX4_most_59 (by decide) ?_
              exact ih26 _ _ _ _ _ (g_next h h926) B (lv_sub hL [1, 2, 3, 0] rfl)
            · refine lv_iload_n hx hb dX4_most_54 rfl (lv_at hL 3 rfl) ?_
              refine lv_istore_n (lv' := [(2, .int x3l26), (0, .ref (ad 0)), (1, .int x1), (3, .int x3l26)]) hx hb dX4_most_55 rfl hL (by decide) rfl (fun ls hL => ?_)
              refine lv_iinc (v := x3l26 + 1) (lv' := [(3, .int (x3l26 + 1)), (2, .int x3l26), (0, .ref (ad 0)), (1, .int x1)]) hx hb dX4_most_56 hL (k := 3) rfl rfl (by decide) rfl (fun ls hL => ?_)
              refine lv_goto (tgt := 26) hx hb dX4_most_59 (by decide) ?_
              exact ih26 _ _ _ _ _ (g_next h h926) B (lv_sub hL [2, 3, 1, 0] rfl)
      exact hl26 g_K _ _ _ _ _ h826 B (lv_sub hL [2, 3, 1, 0] rfl)
    · refine lv_iconst (v := (-1)) hx hb dX4_most_20 (by decide) ?_
      exact hret _ _ _ _ _ _ _ ⟨Option.some.inj h, rfl, rfl⟩ B dX4_most_21
def f_X4_divisor_l4 (gii4 : GI) (x2l4 : Int32) (x3l4 : Int32) : Option ((Int32 × Int32) ⊕ (Int32)) :=
  if x3l4 ≤ 0 then
  (some (.inr x2l4))
  else
  ((g_nz x3l4).bind fun _ =>
  some (.inl ((x3l4, x2l4 - x2l4 / x3l4 * x3l4))))
def f_X4_divisor_x4 (giy4 : GI) (x2e4 : Int32) : Option (Int32) :=
  some x2e4
def f_X4_divisor (gi : GI) (x0 : Int32) (x1 : Int32) : Option (Int32) :=
  (g_loop g_K (fun (s : Int32 × Int32) => f_X4_divisor_l4 gi s.1 s.2) (x0, x1)).bind fun E4 => f_X4_divisor_x4 gi E4
set_option maxHeartbeats 400000 in
theorem w_X4_divisor (l : Launch) (D : va_G) (cA : Nat → ClassId) (ad : Nat → Nat) (gi : GI) (gl : GL) (x0 : Int32) (x1 : Int32) (r : Int32) (h : f_X4_divisor gi x0 x1 = some r) (sz : Nat) : Met l yX4_divisor (ws_ yX4_divisor cX4_divisor 5 (some .int)) ({ frames := 0, cells := 0, slots := 0, locals := 0 } : Room) (va_Pc [.int x0, .int x1] (MPre D cA ad gi gl sz)) (va_Qi (fun v u => v = r ∧ u.1 = gi ∧ u.2 = gl) (MPost D cA ad) (MA ad sz)) 0 0 (MA ad sz) := by
  refine mm_stI (by decide +kernel) rfl (Nat.le_of_ble_eq_true rfl) (fun p e s m args below meth c R Q A ls C hF hN B hret hL => ?_) sz
  have hx := C.1
  have hb := C.2.1
  have hL : lv_has ls 5 [(0, .int x0), (1, .int x1)] := hL
  unfold f_X4_divisor at h
  refine lv_iload_n hx hb dX4_divisor_0 rfl (lv_at hL 0 rfl) ?_
  refine lv_istore_n (lv' := [(2, .int x0), (0, .int x0), (1, .int x1)]) hx hb dX4_divisor_1 rfl hL (by decide) rfl (fun ls hL => ?_)
  refine lv_iload_n hx hb dX4_divisor_2 rfl (lv_at hL 2 rfl) ?_
  refine lv_istore_n (lv' := [(3, .int x1), (2, .int x0), (0, .int x0), (1, .int x1)]) hx hb dX4_divisor_3 rfl hL (by decide) rfl (fun ls hL => ?_)
  obtain ⟨E4, h84, h⟩ := g_ob h
  have kx4 : ∀ (x2e4 : Int32) (H : Heap) (locs : List Loc) (ls : Array Slot), x2e4 = E4 → MB D cA ad A s gi gl H locs → lv_has ls 5 [(2, .int x2e4)] → W p l e R s m args below meth c H locs 0 0 Q (F0 m 21 ls []) := by
    intro x2e4 H locs ls he B hL
    subst he
    have h : f_X4_divisor_x4 gi x2e4 = some r := h
    unfold f_X4_divisor_x4 at h
    refine lv_iload_n hx hb dX4_divisor_21 rfl (lv_at hL 0 rfl) ?_
    exact hret _ _ _ _ _ _ _ ⟨Option.some.inj h, rfl, rfl⟩ B dX4_divisor_22
  have hl4 : ∀ (k : Nat) (x2l4 : Int32) (x3l4 : Int32) (H : Heap) (locs : List Loc) (ls : Array Slot), g_loop k (fun (s : Int32 × Int32) => f_X4_divisor_l4 gi s.1 s.2) (x2l4, x3l4) = some E4 → MB D cA ad A s gi gl H locs → lv_has ls 5 [(2, .int x2l4), (3, .int x3l4)] → W p l e R s m args below meth c H locs 0 0 Q (F0 m 4 ls []) := by
    intro k
    induction k with
    | zero => intro x2l4 x3l4 H locs ls h; exact absurd h (fun z => g_loop_0 z)
    | succ k ih4 =>
      intro x2l4 x3l4 H locs ls h B hL
      obtain ⟨Z4, h, h94⟩ := g_loop_s h
      have h : f_X4_divisor_l4 gi x2l4 x3l4 = some Z4 := h
      unfold f_X4_divisor_l4 at h
      refine lv_iload_n hx hb dX4_divisor_4 rfl (lv_at hL 1 rfl) ?_
      refine gg_if_le hx hb 21 h dX4_divisor_5 (by decide) (fun h => ?_) (fun h => ?_)
      · exact kx4 _ _ _ _ (g_exit h h94) B (lv_sub hL [0] rfl)
      · refine lv_iload_n hx hb dX4_divisor_8 rfl (lv_at hL 0 rfl) ?_
        refine lv_iload_n hx hb dX4_divisor_9 rfl (lv_at hL 1 rfl) ?_
        refine mm_nz h (fun hnz h => ?_)
        refine lv_irem hx hb dX4_divisor_10 hnz ?_
        refine lv_istore (lv' := [(4, .int (x2l4 - x2l4 / x3l4 * x3l4)), (2, .int x2l4), (3, .int x3l4)]) hx hb dX4_divisor_11 hL (by decide) rfl (fun ls hL => ?_)
        refine lv_iload_n hx hb dX4_divisor_13 rfl (lv_at hL 2 rfl) ?_
        refine lv_istore_n (lv' := [(2, .int x3l4), (4, .int (x2l4 - x2l4 / x3l4 * x3l4)), (3, .int x3l4)]) hx hb dX4_divisor_14 rfl hL (by decide) rfl (fun ls hL => ?_)
        refine lv_iload hx hb dX4_divisor_15 (lv_at hL 1 rfl) ?_
        refine lv_istore_n (lv' := [(3, .int (x2l4 - x2l4 / x3l4 * x3l4)), (2, .int x3l4), (4, .int (x2l4 - x2l4 / x3l4 * x3l4))]) hx hb dX4_divisor_17 rfl hL (by decide) rfl (fun ls hL => ?_)
        refine lv_goto (tgt := 4) hx hb dX4_divisor_18 (by decide) ?_
        exact ih4 _ _ _ _ _ (g_next h h94) B (lv_sub hL [1, 0] rfl)
  exact hl4 g_K _ _ _ _ _ h84 B (lv_sub hL [1, 0] rfl)
theorem k_X4_divisor {p : Program} {l : Launch} {e : Env} {R : Room} {s : State} {m : MethodId} {args : Array Value} {below : List Frame} {meth : Method} {c : Code} {H : Heap} {locs : List Loc} {Q : State → Prop} {pc : Nat} {ls : Array Slot} {rest : List Value} {cc : ByteArray} {nL : Nat} {D : va_G} {cA : Nat → ClassId} {ad : Nat → Nat} {A : Nat → Prop} {gi : GI} {gl : GL} {α : Type} {r : α} {x0 : Int32} {x1 : Int32} {ff : Int32 → Option α} (C : CallFix p m c cc nL s args lw_all RX4) (B : MB D cA ad A s gi gl H locs) (hF : 1 ≤ R.frames) (hN : 24 ≤ R.locals) (hs : ls.size = nL) (hw : (rest.map fun v => v.category).sum ≤ 8) (h : (f_X4_divisor gi x0 x1).bind ff = some r) (hdg : decode cc pc = .ok (.invokestatic 549, 3)) (kk : ∀ q, ff q = some r → ∀ (H' : Heap) (locs' : List Loc), MB D cA ad A s gi gl H' locs' → W p l e R s m args below meth c H' locs' 0 0 Q (F0 m (pc + 3) ls (.int q :: rest))) : W p l e R s m args below meth c H locs 0 0 Q (F0 m pc ls (.int x1 :: .int x0 :: rest)) := by
  obtain ⟨q, h1, h2⟩ := g_ob h
  refine mm_cSI (As := [.int x0, .int x1]) (rest := rest) (n := 2) C B (fun sz => w_X4_divisor l D cA ad gi gl x0 x1 q h1 sz) q2373 q2374 q150 q2375 (by decide +kernel) ⟨hF, hN⟩ rfl hs hw hdg (fun v u H9 locs9 hp B9 => ?_)
  obtain ⟨e1, e2, e3⟩ := hp
  rw [e2] at B9
  rw [e3] at B9
  subst e1
  exact kk _ h2 H9 locs9 B9
def f_X4_tryRound_j190 (x1j190 : Int32) (x2j190 : Int32) (x3j190 : Int32) (gij190 : GI) (x7j190 : Int32) (x8j190 : Int32) : Option (GI) :=
  (some (g_pi gij190 0 67 x7j190)).bind fun gi9 =>
  (some (g_pi gi9 0 68 x8j190)).bind fun gi10 =>
  if 0 ≤ x3j190 then
  ((some (g_pi gi10 0 69 (((100 * x1j190) + (10 * x2j190)) + x3j190))).bind fun gi11 =>
  some gi11)
  else
  ((some (g_pi gi10 0 69 ((10 * x1j190) + x2j190))).bind fun gi12 =>
  some gi12)
def f_X4_tryRound_j162 (x1j162 : Int32) (x2j162 : Int32) (x3j162 : Int32) (gij162 : GI) (x7j162 : Int32) (t0j162 : Int32) (t1j162 : Int32) : Option (GI) :=
  if (gij162 0 68) ≤ 0 then
  (f_X4_tryRound_j190 x1j162 x2j162 x3j162 gij162 x7j162 (t1j162 * t0j162))
  else
  (if ((gij162 0 67) * (t1j162 * t0j162)) < (x7j162 * (gij162 0 68)) then
  (f_X4_tryRound_j190 x1j162 x2j162 x3j162 gij162 x7j162 (t1j162 * t0j162))
  else
  (some gij162))
def f_X4_tryRound_j128 (x1j128 : Int32) (x2j128 : Int32) (x3j128 : Int32) (gij128 : GI) (x4j128 : Int32) (x5j128 : Int32) (x6j128 : Int32) (t0j128 : Int32) (t1j128 : Int32) : Option (GI) :=
  (g_ld gij128 18 18 x4j128).bind fun v6 =>
  (g_ld gij128 18 18 x5j128).bind fun v7 =>
  if 0 ≤ x6j128 then
  ((g_ld gij128 18 18 x6j128).bind fun v8 =>
  f_X4_tryRound_j162 x1j128 x2j128 x3j128 gij128 (t1j128 * t0j128) v8 (v6 * v7))
  else
  (f_X4_tryRound_j162 x1j128 x2j128 x3j128 gij128 (t1j128 * t0j128) 1 (v6 * v7))
def f_X4_tryRound_j97 (x1j97 : Int32) (x2j97 : Int32) (x3j97 : Int32) (gij97 : GI) (x4j97 : Int32) (x5j97 : Int32) (x6j97 : Int32) : Option (GI) :=
  (g_ld gij97 19 18 x4j97).bind fun v3 =>
  (g_ld gij97 19 18 x5j97).bind fun v4 =>
  if 0 ≤ x6j97 then
  ((g_ld gij97 19 18 x6j97).bind fun v5 =>
  f_X4_tryRound_j128 x1j97 x2j97 x3j97 gij97 x4j97 x5j97 x6j97 v5 (v3 * v4))
  else
  (f_X4_tryRound_j128 x1j97 x2j97 x3j97 gij97 x4j97 x5j97 x6j97 1 (v3 * v4))
def f_X4_tryRound_j59 (x1j59 : Int32) (x2j59 : Int32) (x3j59 : Int32) (gij59 : GI) (x4j59 : Int32) (x5j59 : Int32) (t0j59 : Int32) : Option (GI) :=
  (g_ld gij59 18 18 x4j59).bind fun v1 =>
  if v1 = 0 then
  (some gij59)
  else
  ((g_ld gij59 18 18 x5j59).bind fun v2 =>
  if v2 = 0 then
  (some gij59)
  else
  (if t0j59 < 0 then
  (f_X4_tryRound_j97 x1j59 x2j59 x3j59 gij59 x4j59 x5j59 t0j59)
  else
  ((g_ld gij59 18 18 t0j59).bind fun v13 =>
  if v13 = 0 then
  (some gij59)
  else
  (f_X4_tryRound_j97 x1j59 x2j59 x3j59 gij59 x4j59 x5j59 t0j59))))
def f_X4_tryRound_j35 (x1j35 : Int32) (x2j35 : Int32) (x3j35 : Int32) (gij35 : GI) (x4j35 : Int32) (t0j35 : Int32) (t1j35 : Int32) : Option (GI) :=
  if 0 ≤ x3j35 then
  (f_X4_tryRound_j59 x1j35 x2j35 x3j35 gij35 x4j35 (t1j35 + t0j35) (((9 * (gij35 0 41)) + (3 * x3j35)) + x1j35))
  else
  (f_X4_tryRound_j59 x1j35 x2j35 x3j35 gij35 x4j35 (t1j35 + t0j35) ((-1)))
def f_X4_tryRound (gi : GI) (x1 : Int32) (x2 : Int32) (x3 : Int32) : Option (GI) :=
  if 0 ≤ x3 then
  (f_X4_tryRound_j35 x1 x2 x3 gi (((9 * (gi 0 41)) + (3 * x1)) + x2) x3 ((9 * (gi 0 41)) + (3 * x2)))
  else
  (f_X4_tryRound_j35 x1 x2 x3 gi (((9 * (gi 0 41)) + (3 * x1)) + x2) x1 ((9 * (gi 0 41)) + (3 * x2)))
set_option maxHeartbeats 400000 in
theorem w_X4_tryRound (l : Launch) (D : va_G) (cA : Nat → ClassId) (ad : Nat → Nat) (gi : GI) (gl : GL) (x1 : Int32) (x2 : Int32) (x3 : Int32) (r : GI) (h : f_X4_tryRound gi x1 x2 x3 = some r) (sz : Nat) : Met l yX4_tryRound (ws_ yX4_tryRound cX4_tryRound 9 (none)) ({ frames := 0, cells := 0, slots := 0, locals := 0 } : Room) (va_Pc [.ref (ad 0), .int x1, .int x2, .int x3] (MPre D cA ad gi gl sz)) (va_Qv (fun u => u.1 = r ∧ u.2 = gl) (MPost D cA ad) (MA ad sz)) 0 0 (MA ad sz) := by
  refine mm_stV (by decide +kernel) rfl (Nat.le_of_ble_eq_true rfl) (fun p e s m args below meth c R Q A ls C hF hN B hret hL => ?_) sz
  have hx := C.1
  have hb := C.2.1
  have hL : lv_has ls 9 [(0, .ref (ad 0)), (1, .int x1), (2, .int x2), (3, .int x3)] := hL
  unfold f_X4_tryRound at h
  have hj190 : ∀ (gij190 : GI) (x7j190 : Int32) (x8j190 : Int32) (H : Heap) (locs : List Loc) (ls : Array Slot), f_X4_tryRound_j190 x1 x2 x3 gij190 x7j190 x8j190 = some r → MB D cA ad A s gij190 gl H locs → lv_has ls 9 [(0, .ref (ad 0)), (1, .int x1), (2, .int x2), (3, .int x3), (7, .int x7j190), (8, .int x8j190)] → W p l e R s m args below meth c H locs 0 0 Q (F0 m 190 ls []) := by
    intro gij190 x7j190 x8j190 H locs ls h B hL
    unfold f_X4_tryRound_j190 at h
    refine lv_aload_n hx hb dX4_tryRound_190 rfl (lv_at hL 0 rfl) ?_
    refine lv_iload hx hb dX4_tryRound_191 (lv_at hL 4 rfl) ?_
    refine mp_67 C B h dX4_tryRound_193 (fun gi9 h H locs B => ?_)
    refine lv_aload_n hx hb dX4_tryRound_196 rfl (lv_at hL 0 rfl) ?_
    refine lv_iload hx hb dX4_tryRound_197 (lv_at hL 5 rfl) ?_
    refine mp_68 C B h dX4_tryRound_199 (fun gi10 h H locs B => ?_)
    refine lv_aload_n hx hb dX4_tryRound_202 rfl (lv_at hL 0 rfl) ?_
    refine lv_iload_n hx hb dX4_tryRound_203 rfl (lv_at hL 3 rfl) ?_
    refine gg_if_ge hx hb 216 h dX4_tryRound_204 (by decide) (fun h => ?_) (fun h => ?_)
    · refine lv_bipush (v := 100) hx hb dX4_tryRound_216 (by decide) ?_
      refine lv_iload_n hx hb dX4_tryRound_218 rfl (lv_at hL 1 rfl) ?_
      refine lv_imul hx hb dX4_tryRound_219 ?_
      refine lv_bipush (v := 10) hx hb dX4_tryRound_220 (by decide) ?_
      refine lv_iload_n hx hb dX4_tryRound_222 rfl (lv_at hL 2 rfl) ?_
      refine lv_imul hx hb dX4_tryRound_223 ?_
      refine lv_iadd hx hb dX4_tryRound_224 ?_
      refine lv_iload_n hx hb dX4_tryRound_225 rfl (lv_at hL 3 rfl) ?_
      refine lv_iadd hx hb dX4_tryRound_226 ?_
      refine mp_69 C B h dX4_tryRound_227 (fun gi11 h H locs B => ?_)
      exact hret _ _ _ _ _ _ ⟨Option.some.inj h, rfl⟩ B dX4_tryRound_230
    · refine lv_bipush (v := 10) hx hb dX4_tryRound_207 (by decide) ?_
      refine lv_iload_n hx hb dX4_tryRound_209 rfl (lv_at hL 1 rfl) ?_
      refine lv_imul hx hb dX4_tryRound_210 ?_
      refine lv_iload_n hx hb dX4_tryRound_211 rfl (lv_at hL 2 rfl) ?_
      refine lv_iadd hx hb dX4_tryRound_212 ?_
      refine lv_goto (tgt := 227) hx hb dX4_tryRound_213 (by decide) ?_
      refine mp_69 C B h dX4_tryRound_227 (fun gi12 h H locs B => ?_)
      exact hret _ _ _ _ _ _ ⟨Option.some.inj h, rfl⟩ B dX4_tryRound_230
  have hj162 : ∀ (gij162 : GI) (x7j162 : Int32) (t0j162 : Int32) (t1j162 : Int32) (H : Heap) (locs : List Loc) (ls : Array Slot), f_X4_tryRound_j162 x1 x2 x3 gij162 x7j162 t0j162 t1j162 = some r → MB D cA ad A s gij162 gl H locs → lv_has ls 9 [(0, .ref (ad 0)), (1, .int x1), (2, .int x2), (3, .int x3), (7, .int x7j162)] → W p l e R s m args below meth c H locs 0 0 Q (F0 m 162 ls [.int t0j162, .int t1j162]) := by
    intro gij162 x7j162 t0j162 t1j162 H locs ls h B hL
    unfold f_X4_tryRound_j162 at h
    refine lv_imul hx hb dX4_tryRound_162 ?_
    refine lv_istore (lv' := [(8, .int (t1j162 * t0j162)), (0, .ref (ad 0)), (1, .int x1), (2, .int x2), (3, .int x3), (7, .int x7j162)]) hx hb dX4_tryRound_163 hL (by decide) rfl (fun ls hL => ?_)
    refine lv_aload_n hx hb dX4_tryRound_165 rfl (lv_at hL 1 rfl) ?_
    refine mg_68 C B dX4_tryRound_166 ?_
    refine gg_if_le hx hb 190 h dX4_tryRound_169 (by decide) (fun h => ?_) (fun h => ?_)
    · exact hj190 _ _ _ _ _ _ h B (lv_sub hL [1, 2, 3, 4, 5, 0] rfl)
    · refine lv_iload hx hb dX4_tryRound_172 (lv_at hL 5 rfl) ?_
      refine lv_aload_n hx hb dX4_tryRound_174 rfl (lv_at hL 1 rfl) ?_
      refine mg_68 C B dX4_tryRound_175 ?_
      refine lv_imul hx hb dX4_tryRound_178 ?_
      refine lv_aload_n hx hb dX4_tryRound_179 rfl (lv_at hL 1 rfl) ?_
      refine mg_67 C B dX4_tryRound_180 ?_
      refine lv_iload hx hb dX4_tryRound_183 (lv_at hL 0 rfl) ?_
      refine lv_imul hx hb dX4_tryRound_185 ?_
      refine gg_icmp_gt hx hb 190 h dX4_tryRound_186 (by decide) (fun h => ?_) (fun h => ?_)
      · exact hj190 _ _ _ _ _ _ h B (lv_sub hL [1, 2, 3, 4, 5, 0] rfl)
      · exact hret _ _ _ _ _ _ ⟨Option.some.inj h, rfl⟩ B dX4_tryRound_189
  have hj128 : ∀ (gij128 : GI) (x4j128 : Int32) (x5j128 : Int32) (x6j128 : Int32) (t0j128 : Int32) (t1j128 : Int32) (H : Heap) (locs : List Loc) (ls : Array Slot), f_X4_tryRound_j128 x1 x2 x3 gij128 x4j128 x5j128 x6j128 t0j128 t1j128 = some r → MB D cA ad A s gij128 gl H locs → lv_has ls 9 [(0, .ref (ad 0)), (1, .int x1), (2, .int x2), (3, .int x3), (4, .int x4j128), (5, .int x5j128), (6, .int x6j128)] → W p l e R s m args below meth c H locs 0 0 Q (F0 m 128 ls [.int t0j128, .int t1j128]) := by
    intro gij128 x4j128 x5j128 x6j128 t0j128 t1j128 H locs ls h B hL
    unfold f_X4_tryRound_j128 at h
    refine lv_imul hx hb dX4_tryRound_128 ?_
    refine lv_istore (lv' := [(7, .int (t1j128 * t0j128)), (0, .ref (ad 0)), (1, .int x1), (2, .int x2), (3, .int x3), (4, .int x4j128), (5, .int x5j128), (6, .int x6j128)]) hx hb dX4_tryRound_129 hL (by decide) rfl (fun ls hL => ?_)
    refine lv_aload_n hx hb dX4_tryRound_131 rfl (lv_at hL 1 rfl) ?_
    refine mg_26 C B dX4_tryRound_132 ?_
    refine lv_iload hx hb dX4_tryRound_135 (lv_at hL 5 rfl) ?_
    refine mm_iald C B (a := 18) (n := 18) (Nat.le_of_ble_eq_true rfl) rfl h dX4_tryRound_137 (fun v6 h => ?_)
    refine lv_aload_n hx hb dX4_tryRound_138 rfl (lv_at hL 1 rfl) ?_
    refine mg_26 C B dX4_tryRound_139 ?_
    refine lv_iload hx hb dX4_tryRound_142 (lv_at hL 6 rfl) ?_
    refine mm_iald C B (a := 18) (n := 18) (Nat.le_of_ble_eq_true rfl) rfl h dX4_tryRound_144 (fun v7 h => ?_)
    refine lv_imul hx hb dX4_tryRound_145 ?_
    refine lv_iload hx hb dX4_tryRound_146 (lv_at hL 7 rfl) ?_
    refine gg_if_ge hx hb 155 h dX4_tryRound_148 (by decide) (fun h => ?_) (fun h => ?_)
    · refine lv_aload_n hx hb dX4_tryRound_155 rfl (lv_at hL 1 rfl) ?_
      refine mg_26 C B dX4_tryRound_156 ?_
      refine lv_iload hx hb dX4_tryRound_159 (lv_at hL 7 rfl) ?_
      refine mm_iald C B (a := 18) (n := 18) (Nat.le_of_ble_eq_true rfl) rfl h dX4_tryRound_161 (fun v8 h => ?_)
      exact hj162 _ _ _ _ _ _ _ h B (lv_sub hL [1, 2, 3, 4, 0] rfl)
    · refine lv_iconst (v := 1) hx hb dX4_tryRound_151 (by decide) ?_
      refine lv_goto (tgt := 162) hx hb dX4_tryRound_152 (by decide) ?_
      exact hj162 _ _ _ _ _ _ _ h B (lv_sub hL [1, 2, 3, 4, 0] rfl)
  have hj97 : ∀ (gij97 : GI) (x4j97 : Int32) (x5j97 : Int32) (x6j97 : Int32) (H : Heap) (locs : List Loc) (ls : Array Slot), f_X4_tryRound_j97 x1 x2 x3 gij97 x4j97 x5j97 x6j97 = some r → MB D cA ad A s gij97 gl H locs → lv_has ls 9 [(0, .ref (ad 0)), (1, .int x1), (2, .int x2), (3, .int x3), (4, .int x4j97), (5, .int x5j97), (6, .int x6j97)] → W p l e R s m args below meth c H locs 0 0 Q (F0 m 97 ls []) := by
    intro gij97 x4j97 x5j97 x6j97 H locs ls h B hL
    unfold f_X4_tryRound_j97 at h
    refine lv_aload_n hx hb dX4_tryRound_97 rfl (lv_at hL 0 rfl) ?_
    refine mg_27 C B dX4_tryRound_98 ?_
    refine lv_iload hx hb dX4_tryRound_101 (lv_at hL 4 rfl) ?_
    refine mm_iald C B (a := 19) (n := 18) (Nat.le_of_ble_eq_true rfl) rfl h dX4_tryRound_103 (fun v3 h => ?_)
    refine lv_aload_n hx hb dX4_tryRound_104 rfl (lv_at hL 0 rfl) ?_
    refine mg_27 C B dX4_tryRound_105 ?_
    refine lv_iload hx hb dX4_tryRound_108 (lv_at hL 5 rfl) ?_
    refine mm_iald C B (a := 19) (n := 18) (Nat.le_of_ble_eq_true rfl) rfl h dX4_tryRound_110 (fun v4 h => ?_)
    refine lv_imul hx hb dX4_tryRound_111 ?_
    refine lv_iload hx hb dX4_tryRound_112 (lv_at hL 6 rfl) ?_
    refine gg_if_ge hx hb 121 h dX4_tryRound_114 (by decide) (fun h => ?_) (fun h => ?_)
    · refine lv_aload_n hx hb dX4_tryRound_121 rfl (lv_at hL 0 rfl) ?_
      refine mg_27 C B dX4_tryRound_122 ?_
      refine lv_iload hx hb dX4_tryRound_125 (lv_at hL 6 rfl) ?_
      refine mm_iald C B (a := 19) (n := 18) (Nat.le_of_ble_eq_true rfl) rfl h dX4_tryRound_127 (fun v5 h => ?_)
      exact hj128 _ _ _ _ _ _ _ _ _ h B (lv_sub hL [0, 1, 2, 3, 4, 5, 6] rfl)
    · refine lv_iconst (v := 1) hx hb dX4_tryRound_117 (by decide) ?_
      refine lv_goto (tgt := 128) hx hb dX4_tryRound_118 (by decide) ?_
      exact hj128 _ _ _ _ _ _ _ _ _ h B (lv_sub hL [0, 1, 2, 3, 4, 5, 6] rfl)
  have hj59 : ∀ (gij59 : GI) (x4j59 : Int32) (x5j59 : Int32) (t0j59 : Int32) (H : Heap) (locs : List Loc) (ls : Array Slot), f_X4_tryRound_j59 x1 x2 x3 gij59 x4j59 x5j59 t0j59 = some r → MB D cA ad A s gij59 gl H locs → lv_has ls 9 [(0, .ref (ad 0)), (1, .int x1), (2, .int x2), (3, .int x3), (4, .int x4j59), (5, .int x5j59)] → W p l e R s m args below meth c H locs 0 0 Q (F0 m 59 ls [.int t0j59]) := by
    intro gij59 x4j59 x5j59 t0j59 H locs ls h B hL
    unfold f_X4_tryRound_j59 at h
    refine lv_istore (lv' := [(6, .int t0j59), (0, .ref (ad 0)), (1, .int x1), (2, .int x2), (3, .int x3), (4, .int x4j59), (5, .int x5j59)]) hx hb dX4_tryRound_59 hL (by decide) rfl (fun ls hL => ?_)
    refine lv_aload_n hx hb dX4_tryRound_61 rfl (lv_at hL 1 rfl) ?_
    refine mg_26 C B dX4_tryRound_62 ?_
    refine lv_iload hx hb dX4_tryRound_65 (lv_at hL 5 rfl) ?_
    refine mm_iald C B (a := 18) (n := 18) (Nat.le_of_ble_eq_true rfl) rfl h dX4_tryRound_67 (fun v1 h => ?_)
    refine gg_if_eq hx hb 96 h dX4_tryRound_68 (by decide) (fun h => ?_) (fun h => ?_)
    · exact hret _ _ _ _ _ _ ⟨Option.some.inj h, rfl⟩ B dX4_tryRound_96
    · refine lv_aload_n hx hb dX4_tryRound_71 rfl (lv_at hL 1 rfl) ?_
      refine mg_26 C B dX4_tryRound_72 ?_
      refine lv_iload hx hb dX4_tryRound_75 (lv_at hL 6 rfl) ?_
      refine mm_iald C B (a := 18) (n := 18) (Nat.le_of_ble_eq_true rfl) rfl h dX4_tryRound_77 (fun v2 h => ?_)
      refine gg_if_eq hx hb 96 h dX4_tryRound_78 (by decide) (fun h => ?_) (fun h => ?_)
      · exact hret _ _ _ _ _ _ ⟨Option.some.inj h, rfl⟩ B dX4_tryRound_96
      · refine lv_iload hx hb dX4_tryRound_81 (lv_at hL 0 rfl) ?_
        refine gg_if_lt hx hb 97 h dX4_tryRound_83 (by decide) (fun h => ?_) (fun h => ?_)
        · exact hj97 _ _ _ _ _ _ _ h B (lv_sub hL [1, 2, 3, 4, 5, 6, 0] rfl)
        · refine lv_aload_n hx hb dX4_tryRound_86 rfl (lv_at hL 1 rfl) ?_
          refine mg_26 C B dX4_tryRound_87 ?_
          refine lv_iload hx hb dX4_tryRound_90 (lv_at hL 0 rfl) ?_
          refine mm_iald C B (a := 18) (n := 18) (Nat.le_of_ble_eq_true rfl) rfl h dX4_tryRound_92 (fun v13 h => ?_)
          refine gg_if_ne hx hb 97 h dX4_tryRound_93 (by decide) (fun h => ?_) (fun h => ?_)
          · exact hj97 _ _ _ _ _ _ _ h B (lv_sub hL [1, 2, 3, 4, 5, 6, 0] rfl)
          · exact hret _ _ _ _ _ _ ⟨Option.some.inj h, rfl⟩ B dX4_tryRound_96
  have hj35 : ∀ (gij35 : GI) (x4j35 : Int32) (t0j35 : Int32) (t1j35 : Int32) (H : Heap) (locs : List Loc) (ls : Array Slot), f_X4_tryRound_j35 x1 x2 x3 gij35 x4j35 t0j35 t1j35 = some r → MB D cA ad A s gij35 gl H locs → lv_has ls 9 [(0, .ref (ad 0)), (1, .int x1), (2, .int x2), (3, .int x3), (4, .int x4j35)] → W p l e R s m args below meth c H locs 0 0 Q (F0 m 35 ls [.int t0j35, .int t1j35]) := by
    intro gij35 x4j35 t0j35 t1j35 H locs ls h B hL
    unfold f_X4_tryRound_j35 at h
    refine lv_iadd hx hb dX4_tryRound_35 ?_
    refine lv_istore (lv' := [(5, .int (t1j35 + t0j35)), (0, .ref (ad 0)), (1, .int x1), (2, .int x2), (3, .int x3), (4, .int x4j35)]) hx hb dX4_tryRound_36 hL (by decide) rfl (fun ls hL => ?_)
    refine lv_iload_n hx hb dX4_tryRound_38 rfl (lv_at hL 4 rfl) ?_
    refine gg_if_ge hx hb 46 h dX4_tryRound_39 (by decide) (fun h => ?_) (fun h => ?_)
    · refine lv_bipush (v := 9) hx hb dX4_tryRound_46 (by decide) ?_
      refine lv_aload_n hx hb dX4_tryRound_48 rfl (lv_at hL 1 rfl) ?_
      refine mg_41 C B dX4_tryRound_49 ?_
      refine lv_imul hx hb dX4_tryRound_52 ?_
      refine lv_iconst (v := 3) hx hb dX4_tryRound_53 (by decide) ?_
      refine lv_iload_n hx hb dX4_tryRound_54 rfl (lv_at hL 4 rfl) ?_
      refine lv_imul hx hb dX4_tryRound_55 ?_
      refine lv_iadd hx hb dX4_tryRound_56 ?_
      refine lv_iload_n hx hb dX4_tryRound_57 rfl (lv_at hL 2 rfl) ?_
      refine lv_iadd hx hb dX4_tryRound_58 ?_
      exact hj59 _ _ _ _ _ _ _ h B (lv_sub hL [1, 2, 3, 4, 5, 0] rfl)
    · refine lv_iconst (v := (-1)) hx hb dX4_tryRound_42 (by decide) ?_
      refine lv_goto (tgt := 59) hx hb dX4_tryRound_43 (by decide) ?_
      exact hj59 _ _ _ _ _ _ _ h B (lv_sub hL [1, 2, 3, 4, 5, 0] rfl)
  refine lv_bipush (v := 9) hx hb dX4_tryRound_0 (by decide) ?_
  refine lv_aload_n hx hb dX4_tryRound_2 rfl (lv_at hL 0 rfl) ?_
  refine mg_41 C B dX4_tryRound_3 ?_
  refine lv_imul hx hb dX4_tryRound_6 ?_
  refine lv_iconst (v := 3) hx hb dX4_tryRound_7 (by decide) ?_
  refine lv_iload_n hx hb dX4_tryRound_8 rfl (lv_at hL 1 rfl) ?_
  refine lv_imul hx hb dX4_tryRound_9 ?_
  refine lv_iadd hx hb dX4_tryRound_10 ?_
  refine lv_iload_n hx hb dX4_tryRound_11 rfl (lv_at hL 2 rfl) ?_
  refine lv_iadd hx hb dX4_tryRound_12 ?_
  refine lv_istore (lv' := [(4, .int (((9 * (gi 0 41)) + (3 * x1)) + x2)), (0, .ref (ad 0)), (1, .int x1), (2, .int x2), (3, .int x3)]) hx hb dX4_tryRound_13 hL (by decide) rfl (fun ls hL => ?_)
  refine lv_bipush (v := 9) hx hb dX4_tryRound_15 (by decide) ?_
  refine lv_aload_n hx hb dX4_tryRound_17 rfl (lv_at hL 1 rfl) ?_
  refine mg_41 C B dX4_tryRound_18 ?_
  refine lv_imul hx hb dX4_tryRound_21 ?_
  refine lv_iconst (v := 3) hx hb dX4_tryRound_22 (by decide) ?_
  refine lv_iload_n hx hb dX4_tryRound_23 rfl (lv_at hL 3 rfl) ?_
  refine lv_imul hx hb dX4_tryRound_24 ?_
  refine lv_iadd hx hb dX4_tryRound_25 ?_
  refine lv_iload_n hx hb dX4_tryRound_26 rfl (lv_at hL 4 rfl) ?_
  refine gg_if_ge hx hb 34 h dX4_tryRound_27 (by decide) (fun h => ?_) (fun h => ?_)
  · refine lv_iload_n hx hb dX4_tryRound_34 rfl (lv_at hL 4 rfl) ?_
    exact hj35 _ _ _ _ _ _ _ h B (lv_sub hL [1, 2, 3, 4, 0] rfl)
  · refine lv_iload_n hx hb dX4_tryRound_30 rfl (lv_at hL 2 rfl) ?_
    refine lv_goto (tgt := 35) hx hb dX4_tryRound_31 (by decide) ?_
    exact hj35 _ _ _ _ _ _ _ h B (lv_sub hL [1, 2, 3, 4, 0] rfl)
theorem k_X4_tryRound {p : Program} {l : Launch} {e : Env} {R : Room} {s : State} {m : MethodId} {args : Array Value} {below : List Frame} {meth : Method} {c : Code} {H : Heap} {locs : List Loc} {Q : State → Prop} {pc : Nat} {ls : Array Slot} {rest : List Value} {cc : ByteArray} {nL : Nat} {D : va_G} {cA : Nat → ClassId} {ad : Nat → Nat} {A : Nat → Prop} {gi : GI} {gl : GL} {α : Type} {r : α} {x1 : Int32} {x2 : Int32} {x3 : Int32} {ff : GI → Option α} (C : CallFix p m c cc nL s args lw_all RX4) (B : MB D cA ad A s gi gl H locs) (hF : 1 ≤ R.frames) (hN : 28 ≤ R.locals) (hs : ls.size = nL) (hw : (rest.map fun v => v.category).sum ≤ 8) (h : (f_X4_tryRound gi x1 x2 x3).bind ff = some r) (hdg : decode cc pc = .ok (.invokevirtual 546, 3)) (kk : ∀ q, ff q = some r → ∀ (H' : Heap) (locs' : List Loc), MB D cA ad A s q gl H' locs' → W p l e R s m args below meth c H' locs' 0 0 Q (F0 m (pc + 3) ls (rest))) : W p l e R s m args below meth c H locs 0 0 Q (F0 m pc ls (.int x3 :: .int x2 :: .int x1 :: .ref (ad 0) :: rest)) := by
  obtain ⟨q, h1, h2⟩ := g_ob h
  refine mm_cVV (As := [.int x1, .int x2, .int x3]) (rest := rest) (n := 3) C B (fun sz => w_X4_tryRound l D cA ad gi gl x1 x2 x3 q h1 sz) q2369 q2371 qs132 q150 q2372 (by decide +kernel) ⟨hF, hN⟩ rfl hs hw hdg (fun u H9 locs9 hp B9 => ?_)
  obtain ⟨e1, e3⟩ := hp
  rw [e3] at B9
  subst e1
  exact kk _ h2 H9 locs9 B9
def f_X4_gain (gi : GI) (x1 : Int32) : Option (Int32 × GI) :=
  (f_X4_isIn gi x1 0 2).bind fun q1 =>
  if q1 = 0 then
  (some ((-1), gi))
  else
  ((some (g_pi gi 0 68 0)).bind fun gi2 =>
  (f_X4_tryRound gi2 0 1 ((-1))).bind fun q3 =>
  (f_X4_tryRound q3 0 2 ((-1))).bind fun q4 =>
  (f_X4_tryRound q4 1 2 ((-1))).bind fun q5 =>
  (f_X4_tryRound q5 0 1 2).bind fun q6 =>
  (f_X4_tryRound q6 0 2 1).bind fun q7 =>
  if (q7 0 68) = 0 then
  (some ((-1), q7))
  else
  ((f_X4_divisor q7 (q7 0 67) (q7 0 68)).bind fun q8 =>
  if x1 = 0 then
  ((g_nz q8).bind fun _ =>
  some ((q7 0 67) / q8, q7))
  else
  (if x1 = 1 then
  ((g_nz q8).bind fun _ =>
  some ((q7 0 68) / q8, q7))
  else
  (some (q7 0 69, q7)))))
set_option maxHeartbeats 400000 in
theorem w_X4_gain (l : Launch) (D : va_G) (cA : Nat → ClassId) (ad : Nat → Nat) (gi : GI) (gl : GL) (x1 : Int32) (r : Int32 × GI) (h : f_X4_gain gi x1 = some r) (sz : Nat) : Met l yX4_gain (ws_ yX4_gain cX4_gain 3 (some .int)) ({ frames := 1, cells := 0, slots := 0, locals := 28 } : Room) (va_Pc [.ref (ad 0), .int x1] (MPre D cA ad gi gl sz)) (va_Qi (fun v u => (v, u.1) = r ∧ u.2 = gl) (MPost D cA ad) (MA ad sz)) 0 0 (MA ad sz) := by
  refine mm_stI (by decide +kernel) rfl (Nat.le_of_ble_eq_true rfl) (fun p e s m args below meth c R Q A ls C hF hN B hret hL => ?_) sz
  have hx := C.1
  have hb := C.2.1
  have hL : lv_has ls 3 [(0, .ref (ad 0)), (1, .int x1)] := hL
  unfold f_X4_gain at h
  refine lv_iload_n hx hb dX4_gain_0 rfl (lv_at hL 1 rfl) ?_
  refine lv_iconst (v := 0) hx hb dX4_gain_1 (by decide) ?_
  refine lv_iconst (v := 2) hx hb dX4_gain_2 (by decide) ?_
  refine k_X4_isIn C B (Nat.le_trans (Nat.le_of_ble_eq_true rfl) hF) (Nat.le_trans (Nat.le_of_ble_eq_true rfl) hN) hL.1 (Nat.le_of_ble_eq_true rfl) h dX4_gain_3 (fun q1 h H locs B => ?_)
  refine gg_if_ne hx hb 11 h dX4_gain_6 (by decide) (fun h => ?_) (fun h => ?_)
  · refine lv_aload_n hx hb dX4_gain_11 rfl (lv_at hL 0 rfl) ?_
    refine lv_iconst (v := 0) hx hb dX4_gain_12 (by decide) ?_
    refine mp_68 C B h dX4_gain_13 (fun gi2 h H locs B => ?_)
    refine lv_aload_n hx hb dX4_gain_16 rfl (lv_at hL 0 rfl) ?_
    refine lv_iconst (v := 0) hx hb dX4_gain_17 (by decide) ?_
    refine lv_iconst (v := 1) hx hb dX4_gain_18 (by decide) ?_
    refine lv_iconst (v := (-1)) hx hb dX4_gain_19 (by decide) ?_
    refine k_X4_tryRound C B (Nat.le_trans (Nat.le_of_ble_eq_true rfl) hF) (Nat.le_trans (Nat.le_of_ble_eq_true rfl) hN) hL.1 (Nat.le_of_ble_eq_true rfl) h dX4_gain_20 (fun q3 h H locs B => ?_)
    refine lv_aload_n hx hb dX4_gain_23 rfl (lv_at hL 0 rfl) ?_
    refine lv_iconst (v := 0) hx hb dX4_gain_24 (by decide) ?_
    refine lv_iconst (v := 2) hx hb dX4_gain_25 (by decide) ?_
    refine lv_iconst (v := (-1)) hx hb dX4_gain_26 (by decide) ?_
    refine k_X4_tryRound C B (Nat.le_trans (Nat.le_of_ble_eq_true rfl) hF) (Nat.le_trans (Nat.le_of_ble_eq_true rfl) hN) hL.1 (Nat.le_of_ble_eq_true rfl) h dX4_gain_27 (fun q4 h H locs B => ?_)
    refine lv_aload_n hx hb dX4_gain_30 rfl (lv_at hL 0 rfl) ?_
    refine lv_iconst (v := 1) hx hb dX4_gain_31 (by decide) ?_
    refine lv_iconst (v := 2) hx hb dX4_gain_32 (by decide) ?_
    refine lv_iconst (v := (-1)) hx hb dX4_gain_33 (by decide) ?_
    refine k_X4_tryRound C B (Nat.le_trans (Nat.le_of_ble_eq_true rfl) hF) (Nat.le_trans (Nat.le_of_ble_eq_true rfl) hN) hL.1 (Nat.le_of_ble_eq_true rfl) h dX4_gain_34 (fun q5 h H locs B => ?_)
    refine lv_aload_n hx hb dX4_gain_37 rfl (lv_at hL 0 rfl) ?_
    refine lv_iconst (v := 0) hx hb dX4_gain_38 (by decide) ?_
    refine lv_iconst (v := 1) hx hb dX4_gain_39 (by decide) ?_
    refine lv_iconst (v := 2) hx hb dX4_gain_40 (by decide) ?_
    refine k_X4_tryRound C B (Nat.le_trans (Nat.le_of_ble_eq_true rfl) hF) (Nat.le_trans (Nat.le_of_ble_eq_true rfl) hN) hL.1 (Nat.le_of_ble_eq_true rfl) h dX4_gain_41 (fun q6 h H locs B => ?_)
    refine lv_aload_n hx hb dX4_gain_44 rfl (lv_at hL 0 rfl) ?_
    refine lv_iconst (v := 0) hx hb dX4_gain_45 (by decide) ?_
    refine lv_iconst (v := 2) hx hb dX4_gain_46 (by decide) ?_
    refine lv_iconst (v := 1) hx hb dX4_gain_47 (by decide) ?_
    refine k_X4_tryRound C B (Nat.le_trans (Nat.le_of_ble_eq_true rfl) hF) (Nat.le_trans (Nat.le_of_ble_eq_true rfl) hN) hL.1 (Nat.le_of_ble_eq_true rfl) h dX4_gain_48 (fun q7 h H locs B => ?_)
    refine lv_aload_n hx hb dX4_gain_51 rfl (lv_at hL 0 rfl) ?_
    refine mg_68 C B dX4_gain_52 ?_
    refine gg_if_ne hx hb 60 h dX4_gain_55 (by decide) (fun h => ?_) (fun h => ?_)
    · refine lv_aload_n hx hb dX4_gain_60 rfl (lv_at hL 0 rfl) ?_
      refine mg_67 C B dX4_gain_61 ?_
      refine lv_aload_n hx hb dX4_gain_64 rfl (lv_at hL 0 rfl) ?_
      refine mg_68 C B dX4_gain_65 ?_
      refine k_X4_divisor C B (Nat.le_trans (Nat.le_of_ble_eq_true rfl) hF) (Nat.le_trans (Nat.le_of_ble_eq_true rfl) hN) hL.1 (Nat.le_of_ble_eq_true rfl) h dX4_gain_68 (fun q8 h H locs B => ?_)
      refine lv_istore_n (lv' := [(2, .int q8), (0, .ref (ad 0)), (1, .int x1)]) hx hb dX4_gain_71 rfl hL (by decide) rfl (fun ls hL => ?_)
      refine lv_iload_n hx hb dX4_gain_72 rfl (lv_at hL 2 rfl) ?_
      refine gg_if_ne hx hb 85 h dX4_gain_73 (by decide) (fun h => ?_) (fun h => ?_)
      · refine lv_iload_n hx hb dX4_gain_85 rfl (lv_at hL 2 rfl) ?_
        refine lv_iconst (v := 1) hx hb dX4_gain_86 (by decide) ?_
        refine gg_icmp_ne hx hb 99 h dX4_gain_87 (by decide) (fun h => ?_) (fun h => ?_)
        · refine lv_aload_n hx hb dX4_gain_99 rfl (lv_at hL 1 rfl) ?_
          refine mg_69 C B dX4_gain_100 ?_
          exact hret _ _ _ _ _ _ _ ⟨Option.some.inj h, rfl⟩ B dX4_gain_103
        · refine lv_aload_n hx hb dX4_gain_90 rfl (lv_at hL 1 rfl) ?_
          refine mg_68 C B dX4_gain_91 ?_
          refine lv_iload_n hx hb dX4_gain_94 rfl (lv_at hL 0 rfl) ?_
          refine mm_nz h (fun hnz h => ?_)
          refine lv_idiv hx hb dX4_gain_95 hnz ?_
          refine lv_goto (tgt := 103) hx hb dX4_gain_96 (by decide) ?_
          exact hret _ _ _ _ _ _ _ ⟨Option.some.inj h, rfl⟩ B dX4_gain_103
      · refine lv_aload_n hx hb dX4_gain_76 rfl (lv_at hL 1 rfl) ?_
        refine mg_67 C B dX4_gain_77 ?_
        refine lv_iload_n hx hb dX4_gain_80 rfl (lv_at hL 0 rfl) ?_
        refine mm_nz h (fun hnz h => ?_)
        refine lv_idiv hx hb dX4_gain_81 hnz ?_
        refine lv_goto (tgt := 103) hx hb dX4_gain_82 (by decide) ?_
        exact hret _ _ _ _ _ _ _ ⟨Option.some.inj h, rfl⟩ B dX4_gain_103
    · refine lv_iconst (v := (-1)) hx hb dX4_gain_58 (by decide) ?_
      exact hret _ _ _ _ _ _ _ ⟨Option.some.inj h, rfl⟩ B dX4_gain_59
  · refine lv_iconst (v := (-1)) hx hb dX4_gain_9 (by decide) ?_
    exact hret _ _ _ _ _ _ _ ⟨Option.some.inj h, rfl⟩ B dX4_gain_10
def f_X4_firsts (gi : GI)  : Option (Int32) :=
  (f_X4_many gi ).bind fun q1 =>
  (g_ld gi 5 2 (gi 0 41)).bind fun v2 =>
  (f_X4_lesser gi q1 v2).bind fun q3 =>
  some q3
set_option maxHeartbeats 400000 in
theorem w_X4_firsts (l : Launch) (D : va_G) (cA : Nat → ClassId) (ad : Nat → Nat) (gi : GI) (gl : GL)  (r : Int32) (h : f_X4_firsts gi  = some r) (sz : Nat) : Met l yX4_firsts (ws_ yX4_firsts cX4_firsts 1 (some .int)) ({ frames := 1, cells := 0, slots := 0, locals := 21 } : Room) (va_Pc [.ref (ad 0)] (MPre D cA ad gi gl sz)) (va_Qi (fun v u => v = r ∧ u.1 = gi ∧ u.2 = gl) (MPost D cA ad) (MA ad sz)) 0 0 (MA ad sz) := by
  refine mm_stI (by decide +kernel) rfl (Nat.le_of_ble_eq_true rfl) (fun p e s m args below meth c R Q A ls C hF hN B hret hL => ?_) sz
  have hx := C.1
  have hb := C.2.1
  have hL : lv_has ls 1 [(0, .ref (ad 0))] := hL
  unfold f_X4_firsts at h
  refine lv_aload_n hx hb dX4_firsts_0 rfl (lv_at hL 0 rfl) ?_
  refine k_X4_many C B (Nat.le_trans (Nat.le_of_ble_eq_true rfl) hF) (Nat.le_trans (Nat.le_of_ble_eq_true rfl) hN) hL.1 (Nat.le_of_ble_eq_true rfl) h dX4_firsts_1 (fun q1 h H locs B => ?_)
  refine lv_aload_n hx hb dX4_firsts_4 rfl (lv_at hL 0 rfl) ?_
  refine mg_13 C B dX4_firsts_5 ?_
  refine lv_aload_n hx hb dX4_firsts_8 rfl (lv_at hL 0 rfl) ?_
  refine mg_41 C B dX4_firsts_9 ?_
  refine mm_iald C B (a := 5) (n := 2) (Nat.le_of_ble_eq_true rfl) rfl h dX4_firsts_12 (fun v2 h => ?_)
  refine k_X4_lesser C B (Nat.le_trans (Nat.le_of_ble_eq_true rfl) hF) (Nat.le_trans (Nat.le_of_ble_eq_true rfl) hN) hL.1 (Nat.le_of_ble_eq_true rfl) h dX4_firsts_13 (fun q3 h H locs B => ?_)
  exact hret _ _ _ _ _ _ _ ⟨Option.some.inj h, rfl, rfl⟩ B dX4_firsts_16
theorem k_X4_firsts {p : Program} {l : Launch} {e : Env} {R : Room} {s : State} {m : MethodId} {args : Array Value} {below : List Frame} {meth : Method} {c : Code} {H : Heap} {locs : List Loc} {Q : State → Prop} {pc : Nat} {ls : Array Slot} {rest : List Value} {cc : ByteArray} {nL : Nat} {D : va_G} {cA : Nat → ClassId} {ad : Nat → Nat} {A : Nat → Prop} {gi : GI} {gl : GL} {α : Type} {r : α}  {ff : Int32 → Option α} (C : CallFix p m c cc nL s args lw_all RX4) (B : MB D cA ad A s gi gl H locs) (hF : 2 ≤ R.frames) (hN : 41 ≤ R.locals) (hs : ls.size = nL) (hw : (rest.map fun v => v.category).sum ≤ 8) (h : (f_X4_firsts gi ).bind ff = some r) (hdg : decode cc pc = .ok (.invokevirtual 552, 3)) (kk : ∀ q, ff q = some r → ∀ (H' : Heap) (locs' : List Loc), MB D cA ad A s gi gl H' locs' → W p l e R s m args below meth c H' locs' 0 0 Q (F0 m (pc + 3) ls (.int q :: rest))) : W p l e R s m args below meth c H locs 0 0 Q (F0 m pc ls (.ref (ad 0) :: rest)) := by
  obtain ⟨q, h1, h2⟩ := g_ob h
  refine mm_cVI (As := []) (rest := rest) (n := 0) C B (fun sz => w_X4_firsts l D cA ad gi gl  q h1 sz) q2384 q2386 qs134 q150 q2387 (by decide +kernel) ⟨hF, hN⟩ rfl hs hw hdg (fun v u H9 locs9 hp B9 => ?_)
  obtain ⟨e1, e2, e3⟩ := hp
  rw [e2] at B9
  rw [e3] at B9
  subst e1
  exact kk _ h2 H9 locs9 B9
def f_X4_isFirst (gi : GI) (x1 : Int32) : Option (Int32) :=
  (f_X4_firsts gi ).bind fun q1 =>
  (f_X4_isIn gi x1 0 (q1 - 1)).bind fun q2 =>
  (g_zb q2).bind fun _ =>
  some q2
set_option maxHeartbeats 400000 in
theorem w_X4_isFirst (l : Launch) (D : va_G) (cA : Nat → ClassId) (ad : Nat → Nat) (gi : GI) (gl : GL) (x1 : Int32) (r : Int32) (h : f_X4_isFirst gi x1 = some r) (sz : Nat) : Met l yX4_isFirst (ws_ yX4_isFirst cX4_isFirst 2 (some .boolean)) ({ frames := 2, cells := 0, slots := 0, locals := 41 } : Room) (va_Pc [.ref (ad 0), .int x1] (MPre D cA ad gi gl sz)) (va_Qi (fun v u => v = r ∧ u.1 = gi ∧ u.2 = gl) (MPost D cA ad) (MA ad sz)) 0 0 (MA ad sz) := by
  refine mm_stZ (by decide +kernel) rfl (Nat.le_of_ble_eq_true rfl) (fun p e s m args below meth c R Q A ls C hF hN B hret hL => ?_) sz
  have hx := C.1
  have hb := C.2.1
  have hL : lv_has ls 2 [(0, .ref (ad 0)), (1, .int x1)] := hL
  unfold f_X4_isFirst at h
  refine lv_iload_n hx hb dX4_isFirst_0 rfl (lv_at hL 1 rfl) ?_
  refine lv_iconst (v := 0) hx hb dX4_isFirst_1 (by decide) ?_
  refine lv_aload_n hx hb dX4_isFirst_2 rfl (lv_at hL 0 rfl) ?_
  refine k_X4_firsts C B (Nat.le_trans (Nat.le_of_ble_eq_true rfl) hF) (Nat.le_trans (Nat.le_of_ble_eq_true rfl) hN) hL.1 (Nat.le_of_ble_eq_true rfl) h dX4_isFirst_3 (fun q1 h H locs B => ?_)
  refine lv_iconst (v := 1) hx hb dX4_isFirst_6 (by decide) ?_
  refine lv_isub hx hb dX4_isFirst_7 ?_
  refine k_X4_isIn C B (Nat.le_trans (Nat.le_of_ble_eq_true rfl) hF) (Nat.le_trans (Nat.le_of_ble_eq_true rfl) hN) hL.1 (Nat.le_of_ble_eq_true rfl) h dX4_isFirst_8 (fun q2 h H locs B => ?_)
  refine mm_zb h (fun hz h => ?_)
  exact hret _ _ _ _ _ _ _ ⟨Option.some.inj h, rfl, rfl⟩ hz B dX4_isFirst_11
theorem k_X4_isFirst {p : Program} {l : Launch} {e : Env} {R : Room} {s : State} {m : MethodId} {args : Array Value} {below : List Frame} {meth : Method} {c : Code} {H : Heap} {locs : List Loc} {Q : State → Prop} {pc : Nat} {ls : Array Slot} {rest : List Value} {cc : ByteArray} {nL : Nat} {D : va_G} {cA : Nat → ClassId} {ad : Nat → Nat} {A : Nat → Prop} {gi : GI} {gl : GL} {α : Type} {r : α} {x1 : Int32} {ff : Int32 → Option α} (C : CallFix p m c cc nL s args lw_all RX4) (B : MB D cA ad A s gi gl H locs) (hF : 3 ≤ R.frames) (hN : 62 ≤ R.locals) (hs : ls.size = nL) (hw : (rest.map fun v => v.category).sum ≤ 8) (h : (f_X4_isFirst gi x1).bind ff = some r) (hdg : decode cc pc = .ok (.invokevirtual 558, 3)) (kk : ∀ q, ff q = some r → ∀ (H' : Heap) (locs' : List Loc), MB D cA ad A s gi gl H' locs' → W p l e R s m args below meth c H' locs' 0 0 Q (F0 m (pc + 3) ls (.int q :: rest))) : W p l e R s m args below meth c H locs 0 0 Q (F0 m pc ls (.int x1 :: .ref (ad 0) :: rest)) := by
  obtain ⟨q, h1, h2⟩ := g_ob h
  refine mm_cVI (As := [.int x1]) (rest := rest) (n := 1) C B (fun sz => w_X4_isFirst l D cA ad gi gl x1 q h1 sz) q2380 q2382 qs133 q150 q2383 (by decide +kernel) ⟨hF, hN⟩ rfl hs hw hdg (fun v u H9 locs9 hp B9 => ?_)
  obtain ⟨e1, e2, e3⟩ := hp
  rw [e2] at B9
  rw [e3] at B9
  subst e1
  exact kk _ h2 H9 locs9 B9
def f_X4_tell_j48 (gij48 : GI) (t0j48 : Int32) (t1j48 : Int32) : Option (Int32 × GI) :=
  (g_st gij48 48 30 t1j48 t0j48).bind fun gi4 =>
  (g_st gi4 49 30 (gi4 0 78) (gi4 0 79)).bind fun gi5 =>
  (g_st gi5 50 30 (gi5 0 78) ((-1))).bind fun gi6 =>
  (some (g_pi gi6 0 78 ((gi6 0 78) + 1))).bind fun gi7 =>
  some ((gi7 0 78) - 1, gi7)
def f_X4_tell (gi : GI) (x1 : Int32) (x2 : Int32) (x3 : Int32) (x4 : Int32) : Option (Int32 × GI) :=
  (g_st gi 45 30 (gi 0 78) x1).bind fun gi1 =>
  (g_st gi1 46 30 (gi1 0 78) x2).bind fun gi2 =>
  (g_st gi2 47 30 (gi2 0 78) x3).bind fun gi3 =>
  if x4 = 0 then
  (f_X4_tell_j48 gi3 0 (gi3 0 78))
  else
  (f_X4_tell_j48 gi3 1 (gi3 0 78))
set_option maxHeartbeats 400000 in
theorem w_X4_tell (l : Launch) (D : va_G) (cA : Nat → ClassId) (ad : Nat → Nat) (gi : GI) (gl : GL) (x1 : Int32) (x2 : Int32) (x3 : Int32) (x4 : Int32) (r : Int32 × GI) (h : f_X4_tell gi x1 x2 x3 x4 = some r) (sz : Nat) : Met l yX4_tell (ws_ yX4_tell cX4_tell 5 (some .int)) ({ frames := 0, cells := 0, slots := 0, locals := 0 } : Room) (va_Pc [.ref (ad 0), .int x1, .int x2, .int x3, .int x4] (MPre D cA ad gi gl sz)) (va_Qi (fun v u => (v, u.1) = r ∧ u.2 = gl) (MPost D cA ad) (MA ad sz)) 0 0 (MA ad sz) := by
  refine mm_stI (by decide +kernel) rfl (Nat.le_of_ble_eq_true rfl) (fun p e s m args below meth c R Q A ls C hF hN B hret hL => ?_) sz
  have hx := C.1
  have hb := C.2.1
  have hL : lv_has ls 5 [(0, .ref (ad 0)), (1, .int x1), (2, .int x2), (3, .int x3), (4, .int x4)] := hL
  unfold f_X4_tell at h
  have hj48 : ∀ (gij48 : GI) (t0j48 : Int32) (t1j48 : Int32) (H : Heap) (locs : List Loc) (ls : Array Slot), f_X4_tell_j48 gij48 t0j48 t1j48 = some r → MB D cA ad A s gij48 gl H locs → lv_has ls 5 [(0, .ref (ad 0))] → W p l e R s m args below meth c H locs 0 0 Q (F0 m 48 ls [.int t0j48, .int t1j48, .ref (ad 48)]) := by
    intro gij48 t0j48 t1j48 H locs ls h B hL
    unfold f_X4_tell_j48 at h
    refine mm_iast C B (a := 48) (n := 30) (Nat.le_of_ble_eq_true rfl) rfl h dX4_tell_48 (fun gi4 h H locs B => ?_)
    refine lv_aload_n hx hb dX4_tell_49 rfl (lv_at hL 0 rfl) ?_
    refine mg_74 C B dX4_tell_50 ?_
    refine lv_aload_n hx hb dX4_tell_53 rfl (lv_at hL 0 rfl) ?_
    refine mg_78 C B dX4_tell_54 ?_
    refine lv_aload_n hx hb dX4_tell_57 rfl (lv_at hL 0 rfl) ?_
    refine mg_79 C B dX4_tell_58 ?_
    refine mm_iast C B (a := 49) (n := 30) (Nat.le_of_ble_eq_true rfl) rfl h dX4_tell_61 (fun gi5 h H locs B => ?_)
    refine lv_aload_n hx hb dX4_tell_62 rfl (lv_at hL 0 rfl) ?_
    refine mg_75 C B dX4_tell_63 ?_
    refine lv_aload_n hx hb dX4_tell_66 rfl (lv_at hL 0 rfl) ?_
    refine mg_78 C B dX4_tell_67 ?_
    refine lv_iconst (v := (-1)) hx hb dX4_tell_70 (by decide) ?_
    refine mm_iast C B (a := 50) (n := 30) (Nat.le_of_ble_eq_true rfl) rfl h dX4_tell_71 (fun gi6 h H locs B => ?_)
    refine lv_aload_n hx hb dX4_tell_72 rfl (lv_at hL 0 rfl) ?_
    refine lv_dup hx hb dX4_tell_73 rfl ?_
    refine mg_78 C B dX4_tell_74 ?_
    refine lv_iconst (v := 1) hx hb dX4_tell_77 (by decide) ?_
    refine lv_iadd hx hb dX4_tell_78 ?_
    refine mp_78 C B h dX4_tell_79 (fun gi7 h H locs B => ?_)
    refine lv_aload_n hx hb dX4_tell_82 rfl (lv_at hL 0 rfl) ?_
    refine mg_78 C B dX4_tell_83 ?_
    refine lv_iconst (v := 1) hx hb dX4_tell_86 (by decide) ?_
    refine lv_isub hx hb dX4_tell_87 ?_
    exact hret _ _ _ _ _ _ _ ⟨Option.some.inj h, rfl⟩ B dX4_tell_88
  refine lv_aload_n hx hb dX4_tell_0 rfl (lv_at hL 0 rfl) ?_
  refine mg_70 C B dX4_tell_1 ?_
  refine lv_aload_n hx hb dX4_tell_4 rfl (lv_at hL 0 rfl) ?_
  refine mg_78 C B dX4_tell_5 ?_
  refine lv_iload_n hx hb dX4_tell_8 rfl (lv_at hL 1 rfl) ?_
  refine mm_iast C B (a := 45) (n := 30) (Nat.le_of_ble_eq_true rfl) rfl h dX4_tell_9 (fun gi1 h H locs B => ?_)
  refine lv_aload_n hx hb dX4_tell_10 rfl (lv_at hL 0 rfl) ?_
  refine mg_71 C B dX4_tell_11 ?_
  refine lv_aload_n hx hb dX4_tell_14 rfl (lv_at hL 0 rfl) ?_
  refine mg_78 C B dX4_tell_15 ?_
  refine lv_iload_n hx hb dX4_tell_18 rfl (lv_at hL 2 rfl) ?_
  refine mm_iast C B (a := 46) (n := 30) (Nat.le_of_ble_eq_true rfl) rfl h dX4_tell_19 (fun gi2 h H locs B => ?_)
  refine lv_aload_n hx hb dX4_tell_20 rfl (lv_at hL 0 rfl) ?_
  refine mg_72 C B dX4_tell_21 ?_
  refine lv_aload_n hx hb dX4_tell_24 rfl (lv_at hL 0 rfl) ?_
  refine mg_78 C B dX4_tell_25 ?_
  refine lv_iload_n hx hb dX4_tell_28 rfl (lv_at hL 3 rfl) ?_
  refine mm_iast C B (a := 47) (n := 30) (Nat.le_of_ble_eq_true rfl) rfl h dX4_tell_29 (fun gi3 h H locs B => ?_)
  refine lv_aload_n hx hb dX4_tell_30 rfl (lv_at hL 0 rfl) ?_
  refine mg_73 C B dX4_tell_31 ?_
  refine lv_aload_n hx hb dX4_tell_34 rfl (lv_at hL 0 rfl) ?_
  refine mg_78 C B dX4_tell_35 ?_
  refine lv_iload hx hb dX4_tell_38 (lv_at hL 4 rfl) ?_
  refine gg_if_eq hx hb 47 h dX4_tell_40 (by decide) (fun h => ?_) (fun h => ?_)
  · refine lv_iconst (v := 0) hx hb dX4_tell_47 (by decide) ?_
    exact hj48 _ _ _ _ _ _ h B (lv_sub hL [0] rfl)
  · refine lv_iconst (v := 1) hx hb dX4_tell_43 (by decide) ?_
    refine lv_goto (tgt := 48) hx hb dX4_tell_44 (by decide) ?_
    exact hj48 _ _ _ _ _ _ h B (lv_sub hL [0] rfl)
theorem k_X4_tell {p : Program} {l : Launch} {e : Env} {R : Room} {s : State} {m : MethodId} {args : Array Value} {below : List Frame} {meth : Method} {c : Code} {H : Heap} {locs : List Loc} {Q : State → Prop} {pc : Nat} {ls : Array Slot} {rest : List Value} {cc : ByteArray} {nL : Nat} {D : va_G} {cA : Nat → ClassId} {ad : Nat → Nat} {A : Nat → Prop} {gi : GI} {gl : GL} {α : Type} {r : α} {x1 : Int32} {x2 : Int32} {x3 : Int32} {x4 : Int32} {ff : (Int32 × GI) → Option α} (C : CallFix p m c cc nL s args lw_all RX4) (B : MB D cA ad A s gi gl H locs) (hF : 1 ≤ R.frames) (hN : 24 ≤ R.locals) (hs : ls.size = nL) (hw : (rest.map fun v => v.category).sum ≤ 8) (h : (f_X4_tell gi x1 x2 x3 x4).bind ff = some r) (hdg : decode cc pc = .ok (.invokevirtual 561, 3)) (kk : ∀ q, ff q = some r → ∀ (H' : Heap) (locs' : List Loc), MB D cA ad A s q.2 gl H' locs' → W p l e R s m args below meth c H' locs' 0 0 Q (F0 m (pc + 3) ls (.int q.1 :: rest))) : W p l e R s m args below meth c H locs 0 0 Q (F0 m pc ls (.int x4 :: .int x3 :: .int x2 :: .int x1 :: .ref (ad 0) :: rest)) := by
  obtain ⟨q, h1, h2⟩ := g_ob h
  refine mm_cVI (As := [.int x1, .int x2, .int x3, .int x4]) (rest := rest) (n := 4) C B (fun sz => w_X4_tell l D cA ad gi gl x1 x2 x3 x4 q h1 sz) q2388 q2390 qs135 q150 q2391 (by decide +kernel) ⟨hF, hN⟩ rfl hs hw hdg (fun v u H9 locs9 hp B9 => ?_)
  obtain ⟨e1, e3⟩ := hp
  rw [e3] at B9
  subst e1
  exact kk _ h2 H9 locs9 B9
def f_X4_least (gi : GI) (x1 : Int32) (x2 : Int32) (x3 : Int32) : Option (Int32 × GI) :=
  (f_X4_isFirst gi x1).bind fun q1 =>
  if q1 = 0 then
  (some ((-1), gi))
  else
  ((f_X4_isIn gi x2 0 99).bind fun q2 =>
  if q2 = 0 then
  (some ((-1), gi))
  else
  (if 30 ≤ (gi 0 78) then
  (some ((-1), gi))
  else
  ((f_X4_tell gi x1 ((-1)) x2 x3).bind fun q3 =>
  some (q3.1, q3.2))))
set_option maxHeartbeats 400000 in
theorem w_X4_least (l : Launch) (D : va_G) (cA : Nat → ClassId) (ad : Nat → Nat) (gi : GI) (gl : GL) (x1 : Int32) (x2 : Int32) (x3 : Int32) (r : Int32 × GI) (h : f_X4_least gi x1 x2 x3 = some r) (sz : Nat) : Met l yX4_least (ws_ yX4_least cX4_least 4 (some .int)) ({ frames := 3, cells := 0, slots := 0, locals := 62 } : Room) (va_Pc [.ref (ad 0), .int x1, .int x2, .int x3] (MPre D cA ad gi gl sz)) (va_Qi (fun v u => (v, u.1) = r ∧ u.2 = gl) (MPost D cA ad) (MA ad sz)) 0 0 (MA ad sz) := by
  refine mm_stI (by decide +kernel) rfl (Nat.le_of_ble_eq_true rfl) (fun p e s m args below meth c R Q A ls C hF hN B hret hL => ?_) sz
  have hx := C.1
  have hb := C.2.1
  have hL : lv_has ls 4 [(0, .ref (ad 0)), (1, .int x1), (2, .int x2), (3, .int x3)] := hL
  unfold f_X4_least at h
  refine lv_aload_n hx hb dX4_least_0 rfl (lv_at hL 0 rfl) ?_
  refine lv_iload_n hx hb dX4_least_1 rfl (lv_at hL 1 rfl) ?_
  refine k_X4_isFirst C B (Nat.le_trans (Nat.le_of_ble_eq_true rfl) hF) (Nat.le_trans (Nat.le_of_ble_eq_true rfl) hN) hL.1 (Nat.le_of_ble_eq_true rfl) h dX4_least_2 (fun q1 h H locs B => ?_)
  refine gg_if_eq hx hb 38 h dX4_least_5 (by decide) (fun h => ?_) (fun h => ?_)
  · refine lv_iconst (v := (-1)) hx hb dX4_least_38 (by decide) ?_
    exact hret _ _ _ _ _ _ _ ⟨Option.some.inj h, rfl⟩ B dX4_least_39
  · refine lv_iload_n hx hb dX4_least_8 rfl (lv_at hL 2 rfl) ?_
    refine lv_iconst (v := 0) hx hb dX4_least_9 (by decide) ?_
    refine lv_bipush (v := 99) hx hb dX4_least_10 (by decide) ?_
    refine k_X4_isIn C B (Nat.le_trans (Nat.le_of_ble_eq_true rfl) hF) (Nat.le_trans (Nat.le_of_ble_eq_true rfl) hN) hL.1 (Nat.le_of_ble_eq_true rfl) h dX4_least_12 (fun q2 h H locs B => ?_)
    refine gg_if_eq hx hb 38 h dX4_least_15 (by decide) (fun h => ?_) (fun h => ?_)
    · refine lv_iconst (v := (-1)) hx hb dX4_least_38 (by decide) ?_
      exact hret _ _ _ _ _ _ _ ⟨Option.some.inj h, rfl⟩ B dX4_least_39
    · refine lv_aload_n hx hb dX4_least_18 rfl (lv_at hL 0 rfl) ?_
      refine mg_78 C B dX4_least_19 ?_
      refine lv_bipush (v := 30) hx hb dX4_least_22 (by decide) ?_
      refine gg_icmp_ge hx hb 38 h dX4_least_24 (by decide) (fun h => ?_) (fun h => ?_)
      · refine lv_iconst (v := (-1)) hx hb dX4_least_38 (by decide) ?_
        exact hret _ _ _ _ _ _ _ ⟨Option.some.inj h, rfl⟩ B dX4_least_39
      · refine lv_aload_n hx hb dX4_least_27 rfl (lv_at hL 0 rfl) ?_
        refine lv_iload_n hx hb dX4_least_28 rfl (lv_at hL 1 rfl) ?_
        refine lv_iconst (v := (-1)) hx hb dX4_least_29 (by decide) ?_
        refine lv_iload_n hx hb dX4_least_30 rfl (lv_at hL 2 rfl) ?_
        refine lv_iload_n hx hb dX4_least_31 rfl (lv_at hL 3 rfl) ?_
        refine k_X4_tell C B (Nat.le_trans (Nat.le_of_ble_eq_true rfl) hF) (Nat.le_trans (Nat.le_of_ble_eq_true rfl) hN) hL.1 (Nat.le_of_ble_eq_true rfl) h dX4_least_32 (fun q3 h H locs B => ?_)
        refine lv_goto (tgt := 39) hx hb dX4_least_35 (by decide) ?_
        exact hret _ _ _ _ _ _ _ ⟨Option.some.inj h, rfl⟩ B dX4_least_39
def f_X4_more (gi : GI) (x1 : Int32) (x2 : Int32) (x3 : Int32) : Option (Int32 × GI) :=
  (f_X4_isFirst gi x1).bind fun q1 =>
  if q1 = 0 then
  (some ((-1), gi))
  else
  ((f_X4_isFirst gi x2).bind fun q2 =>
  if q2 = 0 then
  (some ((-1), gi))
  else
  (if x1 = x2 then
  (some ((-1), gi))
  else
  (if 30 ≤ (gi 0 78) then
  (some ((-1), gi))
  else
  ((f_X4_tell gi x1 x2 0 x3).bind fun q3 =>
  some (q3.1, q3.2)))))
set_option maxHeartbeats 400000 in
theorem w_X4_more (l : Launch) (D : va_G) (cA : Nat → ClassId) (ad : Nat → Nat) (gi : GI) (gl : GL) (x1 : Int32) (x2 : Int32) (x3 : Int32) (r : Int32 × GI) (h : f_X4_more gi x1 x2 x3 = some r) (sz : Nat) : Met l yX4_more (ws_ yX4_more cX4_more 4 (some .int)) ({ frames := 3, cells := 0, slots := 0, locals := 62 } : Room) (va_Pc [.ref (ad 0), .int x1, .int x2, .int x3] (MPre D cA ad gi gl sz)) (va_Qi (fun v u => (v, u.1) = r ∧ u.2 = gl) (MPost D cA ad) (MA ad sz)) 0 0 (MA ad sz) := by
  refine mm_stI (by decide +kernel) rfl (Nat.le_of_ble_eq_true rfl) (fun p e s m args below meth c R Q A ls C hF hN B hret hL => ?_) sz
  have hx := C.1
  have hb := C.2.1
  have hL : lv_has ls 4 [(0, .ref (ad 0)), (1, .int x1), (2, .int x2), (3, .int x3)] := hL
  unfold f_X4_more at h
  refine lv_aload_n hx hb dX4_more_0 rfl (lv_at hL 0 rfl) ?_
  refine lv_iload_n hx hb dX4_more_1 rfl (lv_at hL 1 rfl) ?_
  refine k_X4_isFirst C B (Nat.le_trans (Nat.le_of_ble_eq_true rfl) hF) (Nat.le_trans (Nat.le_of_ble_eq_true rfl) hN) hL.1 (Nat.le_of_ble_eq_true rfl) h dX4_more_2 (fun q1 h H locs B => ?_)
  refine gg_if_eq hx hb 41 h dX4_more_5 (by decide) (fun h => ?_) (fun h => ?_)
  · refine lv_iconst (v := (-1)) hx hb dX4_more_41 (by decide) ?_
    exact hret _ _ _ _ _ _ _ ⟨Option.some.inj h, rfl⟩ B dX4_more_42
  · refine lv_aload_n hx hb dX4_more_8 rfl (lv_at hL 0 rfl) ?_
    refine lv_iload_n hx hb dX4_more_9 rfl (lv_at hL 2 rfl) ?_
    refine k_X4_isFirst C B (Nat.le_trans (Nat.le_of_ble_eq_true rfl) hF) (Nat.le_trans (Nat.le_of_ble_eq_true rfl) hN) hL.1 (Nat.le_of_ble_eq_true rfl) h dX4_more_10 (fun q2 h H locs B => ?_)
    refine gg_if_eq hx hb 41 h dX4_more_13 (by decide) (fun h => ?_) (fun h => ?_)
    · refine lv_iconst (v := (-1)) hx hb dX4_more_41 (by decide) ?_
      exact hret _ _ _ _ _ _ _ ⟨Option.some.inj h, rfl⟩ B dX4_more_42
    · refine lv_iload_n hx hb dX4_more_16 rfl (lv_at hL 1 rfl) ?_
      refine lv_iload_n hx hb dX4_more_17 rfl (lv_at hL 2 rfl) ?_
      refine gg_icmp_eq hx hb 41 h dX4_more_18 (by decide) (fun h => ?_) (fun h => ?_)
      · refine lv_iconst (v := (-1)) hx hb dX4_more_41 (by decide) ?_
        exact hret _ _ _ _ _ _ _ ⟨Option.some.inj h, rfl⟩ B dX4_more_42
      · refine lv_aload_n hx hb dX4_more_21 rfl (lv_at hL 0 rfl) ?_
        refine mg_78 C B dX4_more_22 ?_
        refine lv_bipush (v := 30) hx hb dX4_more_25 (by decide) ?_
        refine gg_icmp_ge hx hb 41 h dX4_more_27 (by decide) (fun h => ?_) (fun h => ?_)
        · refine lv_iconst (v := (-1)) hx hb dX4_more_41 (by decide) ?_
          exact hret _ _ _ _ _ _ _ ⟨Option.some.inj h, rfl⟩ B dX4_more_42
        · refine lv_aload_n hx hb dX4_more_30 rfl (lv_at hL 0 rfl) ?_
          refine lv_iload_n hx hb dX4_more_31 rfl (lv_at hL 1 rfl) ?_
          refine lv_iload_n hx hb dX4_more_32 rfl (lv_at hL 2 rfl) ?_
          refine lv_iconst (v := 0) hx hb dX4_more_33 (by decide) ?_
          refine lv_iload_n hx hb dX4_more_34 rfl (lv_at hL 3 rfl) ?_
          refine k_X4_tell C B (Nat.le_trans (Nat.le_of_ble_eq_true rfl) hF) (Nat.le_trans (Nat.le_of_ble_eq_true rfl) hN) hL.1 (Nat.le_of_ble_eq_true rfl) h dX4_more_35 (fun q3 h H locs B => ?_)
          refine lv_goto (tgt := 42) hx hb dX4_more_38 (by decide) ?_
          exact hret _ _ _ _ _ _ _ ⟨Option.some.inj h, rfl⟩ B dX4_more_42
def f_X4_untell (gi : GI) (x1 : Int32) : Option (Int32 × GI) :=
  (f_X4_isIn gi x1 0 ((gi 0 78) - 1)).bind fun q1 =>
  if q1 = 0 then
  (some (0, gi))
  else
  ((g_ld gi 50 30 x1).bind fun v2 =>
  if v2 < 0 then
  ((g_st gi 50 30 x1 (gi 0 79)).bind fun gi3 =>
  some (1, gi3))
  else
  (some (0, gi)))
set_option maxHeartbeats 400000 in
theorem w_X4_untell (l : Launch) (D : va_G) (cA : Nat → ClassId) (ad : Nat → Nat) (gi : GI) (gl : GL) (x1 : Int32) (r : Int32 × GI) (h : f_X4_untell gi x1 = some r) (sz : Nat) : Met l yX4_untell (ws_ yX4_untell cX4_untell 2 (some .boolean)) ({ frames := 1, cells := 0, slots := 0, locals := 22 } : Room) (va_Pc [.ref (ad 0), .int x1] (MPre D cA ad gi gl sz)) (va_Qi (fun v u => (v, u.1) = r ∧ u.2 = gl) (MPost D cA ad) (MA ad sz)) 0 0 (MA ad sz) := by
  refine mm_stZ (by decide +kernel) rfl (Nat.le_of_ble_eq_true rfl) (fun p e s m args below meth c R Q A ls C hF hN B hret hL => ?_) sz
  have hx := C.1
  have hb := C.2.1
  have hL : lv_has ls 2 [(0, .ref (ad 0)), (1, .int x1)] := hL
  unfold f_X4_untell at h
  refine lv_iload_n hx hb dX4_untell_0 rfl (lv_at hL 1 rfl) ?_
  refine lv_iconst (v := 0) hx hb dX4_untell_1 (by decide) ?_
  refine lv_aload_n hx hb dX4_untell_2 rfl (lv_at hL 0 rfl) ?_
  refine mg_78 C B dX4_untell_3 ?_
  refine lv_iconst (v := 1) hx hb dX4_untell_6 (by decide) ?_
  refine lv_isub hx hb dX4_untell_7 ?_
  refine k_X4_isIn C B (Nat.le_trans (Nat.le_of_ble_eq_true rfl) hF) (Nat.le_trans (Nat.le_of_ble_eq_true rfl) hN) hL.1 (Nat.le_of_ble_eq_true rfl) h dX4_untell_8 (fun q1 h H locs B => ?_)
  refine gg_if_eq hx hb 23 h dX4_untell_11 (by decide) (fun h => ?_) (fun h => ?_)
  · refine lv_iconst (v := 0) hx hb dX4_untell_23 (by decide) ?_
    exact hret _ _ _ _ _ _ _ ⟨Option.some.inj h, rfl⟩ (Or.inl rfl) B dX4_untell_24
  · refine lv_aload_n hx hb dX4_untell_14 rfl (lv_at hL 0 rfl) ?_
    refine mg_75 C B dX4_untell_15 ?_
    refine lv_iload_n hx hb dX4_untell_18 rfl (lv_at hL 1 rfl) ?_
    refine mm_iald C B (a := 50) (n := 30) (Nat.le_of_ble_eq_true rfl) rfl h dX4_untell_19 (fun v2 h => ?_)
    refine gg_if_lt hx hb 25 h dX4_untell_20 (by decide) (fun h => ?_) (fun h => ?_)
    · refine lv_aload_n hx hb dX4_untell_25 rfl (lv_at hL 0 rfl) ?_
      refine mg_75 C B dX4_untell_26 ?_
      refine lv_iload_n hx hb dX4_untell_29 rfl (lv_at hL 1 rfl) ?_
      refine lv_aload_n hx hb dX4_untell_30 rfl (lv_at hL 0 rfl) ?_
      refine mg_79 C B dX4_untell_31 ?_
      refine mm_iast C B (a := 50) (n := 30) (Nat.le_of_ble_eq_true rfl) rfl h dX4_untell_34 (fun gi3 h H locs B => ?_)
      refine lv_iconst (v := 1) hx hb dX4_untell_35 (by decide) ?_
      exact hret _ _ _ _ _ _ _ ⟨Option.some.inj h, rfl⟩ (Or.inr rfl) B dX4_untell_36
    · refine lv_iconst (v := 0) hx hb dX4_untell_23 (by decide) ?_
      exact hret _ _ _ _ _ _ _ ⟨Option.some.inj h, rfl⟩ (Or.inl rfl) B dX4_untell_24
def f_X4_later (gi : GI) (x1 : Int32) : Option (Int32 × GI) :=
  (f_X4_isIn gi x1 0 1000).bind fun q1 =>
  if q1 = 0 then
  (some ((-1), gi))
  else
  (if ((gi 0 79) + x1) ≤ 100000 then
  ((some (g_pi gi 0 79 ((gi 0 79) + x1))).bind fun gi2 =>
  some (gi2 0 79, gi2))
  else
  (some ((-1), gi)))
set_option maxHeartbeats 400000 in
theorem w_X4_later (l : Launch) (D : va_G) (cA : Nat → ClassId) (ad : Nat → Nat) (gi : GI) (gl : GL) (x1 : Int32) (r : Int32 × GI) (h : f_X4_later gi x1 = some r) (sz : Nat) : Met l yX4_later (ws_ yX4_later cX4_later 2 (some .int)) ({ frames := 1, cells := 0, slots := 0, locals := 22 } : Room) (va_Pc [.ref (ad 0), .int x1] (MPre D cA ad gi gl sz)) (va_Qi (fun v u => (v, u.1) = r ∧ u.2 = gl) (MPost D cA ad) (MA ad sz)) 0 0 (MA ad sz) := by
  refine mm_stI (by decide +kernel) rfl (Nat.le_of_ble_eq_true rfl) (fun p e s m args below meth c R Q A ls C hF hN B hret hL => ?_) sz
  have hx := C.1
  have hb := C.2.1
  have hL : lv_has ls 2 [(0, .ref (ad 0)), (1, .int x1)] := hL
  unfold f_X4_later at h
  refine lv_iload_n hx hb dX4_later_0 rfl (lv_at hL 1 rfl) ?_
  refine lv_iconst (v := 0) hx hb dX4_later_1 (by decide) ?_
  refine lv_sipush (v := 1000) hx hb dX4_later_2 (by decide) ?_
  refine k_X4_isIn C B (Nat.le_trans (Nat.le_of_ble_eq_true rfl) hF) (Nat.le_trans (Nat.le_of_ble_eq_true rfl) hN) hL.1 (Nat.le_of_ble_eq_true rfl) h dX4_later_5 (fun q1 h H locs B => ?_)
  refine gg_if_eq hx hb 23 h dX4_later_8 (by decide) (fun h => ?_) (fun h => ?_)
  · refine lv_iconst (v := (-1)) hx hb dX4_later_23 (by decide) ?_
    exact hret _ _ _ _ _ _ _ ⟨Option.some.inj h, rfl⟩ B dX4_later_24
  · refine lv_aload_n hx hb dX4_later_11 rfl (lv_at hL 0 rfl) ?_
    refine mg_79 C B dX4_later_12 ?_
    refine lv_iload_n hx hb dX4_later_15 rfl (lv_at hL 1 rfl) ?_
    refine lv_iadd hx hb dX4_later_16 ?_
    refine lv_ldcw (v := 100000) hx hb C.2.2.2.1 (C.2.2.2.2 _ q2404) dX4_later_17 ?_
    refine gg_icmp_le hx hb 25 h dX4_later_20 (by decide) (fun h => ?_) (fun h => ?_)
    · refine lv_aload_n hx hb dX4_later_25 rfl (lv_at hL 0 rfl) ?_
      refine lv_dup hx hb dX4_later_26 rfl ?_
      refine mg_79 C B dX4_later_27 ?_
      refine lv_iload_n hx hb dX4_later_30 rfl (lv_at hL 1 rfl) ?_
      refine lv_iadd hx hb dX4_later_31 ?_
      refine mp_79 C B h dX4_later_32 (fun gi2 h H locs B => ?_)
      refine lv_aload_n hx hb dX4_later_35 rfl (lv_at hL 0 rfl) ?_
      refine mg_79 C B dX4_later_36 ?_
      exact hret _ _ _ _ _ _ _ ⟨Option.some.inj h, rfl⟩ B dX4_later_39
    · refine lv_iconst (v := (-1)) hx hb dX4_later_23 (by decide) ?_
      exact hret _ _ _ _ _ _ _ ⟨Option.some.inj h, rfl⟩ B dX4_later_24
def f_X4_tells (gi : GI) (x1 : Int32) : Option (Int32) :=
  (g_ld gi 51 5 x1).bind fun v1 =>
  (g_ld gi 20 10 ((5 * (gi 0 41)) + v1)).bind fun v2 =>
  some v2
set_option maxHeartbeats 400000 in
theorem w_X4_tells (l : Launch) (D : va_G) (cA : Nat → ClassId) (ad : Nat → Nat) (gi : GI) (gl : GL) (x1 : Int32) (r : Int32) (h : f_X4_tells gi x1 = some r) (sz : Nat) : Met l yX4_tells (ws_ yX4_tells cX4_tells 2 (some .int)) ({ frames := 0, cells := 0, slots := 0, locals := 0 } : Room) (va_Pc [.ref (ad 0), .int x1] (MPre D cA ad gi gl sz)) (va_Qi (fun v u => v = r ∧ u.1 = gi ∧ u.2 = gl) (MPost D cA ad) (MA ad sz)) 0 0 (MA ad sz) := by
  refine mm_stI (by decide +kernel) rfl (Nat.le_of_ble_eq_true rfl) (fun p e s m args below meth c R Q A ls C hF hN B hret hL => ?_) sz
  have hx := C.1
  have hb := C.2.1
  have hL : lv_has ls 2 [(0, .ref (ad 0)), (1, .int x1)] := hL
  unfold f_X4_tells at h
  refine lv_aload_n hx hb dX4_tells_0 rfl (lv_at hL 0 rfl) ?_
  refine mg_28 C B dX4_tells_1 ?_
  refine lv_iconst (v := 5) hx hb dX4_tells_4 (by decide) ?_
  refine lv_aload_n hx hb dX4_tells_5 rfl (lv_at hL 0 rfl) ?_
  refine mg_41 C B dX4_tells_6 ?_
  refine lv_imul hx hb dX4_tells_9 ?_
  refine lv_aload_n hx hb dX4_tells_10 rfl (lv_at hL 0 rfl) ?_
  refine mg_76 C B dX4_tells_11 ?_
  refine lv_iload_n hx hb dX4_tells_14 rfl (lv_at hL 1 rfl) ?_
  refine mm_iald C B (a := 51) (n := 5) (Nat.le_of_ble_eq_true rfl) rfl h dX4_tells_15 (fun v1 h => ?_)
  refine lv_iadd hx hb dX4_tells_16 ?_
  refine mm_iald C B (a := 20) (n := 10) (Nat.le_of_ble_eq_true rfl) rfl h dX4_tells_17 (fun v2 h => ?_)
  exact hret _ _ _ _ _ _ _ ⟨Option.some.inj h, rfl, rfl⟩ B dX4_tells_18
theorem k_X4_tells {p : Program} {l : Launch} {e : Env} {R : Room} {s : State} {m : MethodId} {args : Array Value} {below : List Frame} {meth : Method} {c : Code} {H : Heap} {locs : List Loc} {Q : State → Prop} {pc : Nat} {ls : Array Slot} {rest : List Value} {cc : ByteArray} {nL : Nat} {D : va_G} {cA : Nat → ClassId} {ad : Nat → Nat} {A : Nat → Prop} {gi : GI} {gl : GL} {α : Type} {r : α} {x1 : Int32} {ff : Int32 → Option α} (C : CallFix p m c cc nL s args lw_all RX4) (B : MB D cA ad A s gi gl H locs) (hF : 1 ≤ R.frames) (hN : 21 ≤ R.locals) (hs : ls.size = nL) (hw : (rest.map fun v => v.category).sum ≤ 8) (h : (f_X4_tells gi x1).bind ff = some r) (hdg : decode cc pc = .ok (.invokevirtual 566, 3)) (kk : ∀ q, ff q = some r → ∀ (H' : Heap) (locs' : List Loc), MB D cA ad A s gi gl H' locs' → W p l e R s m args below meth c H' locs' 0 0 Q (F0 m (pc + 3) ls (.int q :: rest))) : W p l e R s m args below meth c H locs 0 0 Q (F0 m pc ls (.int x1 :: .ref (ad 0) :: rest)) := by
  obtain ⟨q, h1, h2⟩ := g_ob h
  refine mm_cVI (As := [.int x1]) (rest := rest) (n := 1) C B (fun sz => w_X4_tells l D cA ad gi gl x1 q h1 sz) q2421 q2423 qs139 q150 q2424 (by decide +kernel) ⟨hF, hN⟩ rfl hs hw hdg (fun v u H9 locs9 hp B9 => ?_)
  obtain ⟨e1, e2, e3⟩ := hp
  rw [e2] at B9
  rw [e3] at B9
  subst e1
  exact kk _ h2 H9 locs9 B9
def f_X4_doesFit_j101 (gij101 : GI) (x1j101 : Int32) (x2j101 : Int32) (t0j101 : Int32) : Option ((Int32) ⊕ ((Unit) ⊕ (Int32))) :=
  (g_ld gij101 48 30 x2j101).bind fun v8 =>
  if t0j101 = v8 then
  (some (.inl (x2j101 + 1)))
  else
  (some (.inr (.inr 0)))
def f_X4_doesFit_j100 (gij100 : GI) (x1j100 : Int32) (x2j100 : Int32) : Option ((Int32) ⊕ ((Unit) ⊕ (Int32))) :=
  f_X4_doesFit_j101 gij100 x1j100 x2j100 0
def f_X4_doesFit_j96 (gij96 : GI) (x1j96 : Int32) (x2j96 : Int32) : Option ((Int32) ⊕ ((Unit) ⊕ (Int32))) :=
  f_X4_doesFit_j101 gij96 x1j96 x2j96 1
def f_X4_doesFit_j42 (gij42 : GI) (x1j42 : Int32) (x2j42 : Int32) : Option ((Int32) ⊕ ((Unit) ⊕ (Int32))) :=
  (g_ld gij42 46 30 x2j42).bind fun v3 =>
  if 0 ≤ v3 then
  ((g_ld gij42 45 30 x2j42).bind fun v4 =>
  (f_X4_tells gij42 v4).bind fun q5 =>
  (g_ld gij42 46 30 x2j42).bind fun v6 =>
  (f_X4_tells gij42 v6).bind fun q7 =>
  if q5 ≤ q7 then
  (f_X4_doesFit_j100 gij42 x1j42 x2j42)
  else
  (f_X4_doesFit_j96 gij42 x1j42 x2j42))
  else
  ((g_ld gij42 45 30 x2j42).bind fun v9 =>
  (f_X4_tells gij42 v9).bind fun q10 =>
  (g_ld gij42 47 30 x2j42).bind fun v11 =>
  if q10 < v11 then
  (f_X4_doesFit_j100 gij42 x1j42 x2j42)
  else
  (f_X4_doesFit_j96 gij42 x1j42 x2j42))
def f_X4_doesFit_l2 (gii2 : GI) (x1i2 : Int32) (x2l2 : Int32) : Option ((Int32) ⊕ ((Unit) ⊕ (Int32))) :=
  if (gii2 0 78) ≤ x2l2 then
  (some (.inr (.inl ())))
  else
  ((g_ld gii2 49 30 x2l2).bind fun v1 =>
  if x1i2 < v1 then
  (some (.inl (x2l2 + 1)))
  else
  ((g_ld gii2 50 30 x2l2).bind fun v2 =>
  if v2 < 0 then
  (f_X4_doesFit_j42 gii2 x1i2 x2l2)
  else
  ((g_ld gii2 50 30 x2l2).bind fun v12 =>
  if x1i2 < v12 then
  (f_X4_doesFit_j42 gii2 x1i2 x2l2)
  else
  (some (.inl (x2l2 + 1))))))
def f_X4_doesFit_x2 (giy2 : GI) : Option (Int32) :=
  some 1
def f_X4_doesFit (gi : GI) (x1 : Int32) : Option (Int32) :=
  (g_loop g_K (fun (s : Int32) => f_X4_doesFit_l2 gi x1 s) (0)).bind fun E2 => Sum.elim (fun (S2 : Unit) => f_X4_doesFit_x2 gi) (fun (r2 : Int32) => some r2) E2
set_option maxHeartbeats 400000 in
theorem w_X4_doesFit (l : Launch) (D : va_G) (cA : Nat → ClassId) (ad : Nat → Nat) (gi : GI) (gl : GL) (x1 : Int32) (r : Int32) (h : f_X4_doesFit gi x1 = some r) (sz : Nat) : Met l yX4_doesFit (ws_ yX4_doesFit cX4_doesFit 4 (some .boolean)) ({ frames := 1, cells := 0, slots := 0, locals := 21 } : Room) (va_Pc [.ref (ad 0), .int x1] (MPre D cA ad gi gl sz)) (va_Qi (fun v u => v = r ∧ u.1 = gi ∧ u.2 = gl) (MPost D cA ad) (MA ad sz)) 0 0 (MA ad sz) := by
  refine mm_stZ (by decide +kernel) rfl (Nat.le_of_ble_eq_true rfl) (fun p e s m args below meth c R Q A ls C hF hN B hret hL => ?_) sz
  have hx := C.1
  have hb := C.2.1
  have hL : lv_has ls 4 [(0, .ref (ad 0)), (1, .int x1)] := hL
  unfold f_X4_doesFit at h
  refine lv_iconst (v := 0) hx hb dX4_doesFit_0 (by decide) ?_
  refine lv_istore_n (lv' := [(2, .int 0), (0, .ref (ad 0)), (1, .int x1)]) hx hb dX4_doesFit_1 rfl hL (by decide) rfl (fun ls hL => ?_)
  obtain ⟨E2, h82, h⟩ := g_ob h
  have kx2 : ∀  (H : Heap) (locs : List Loc) (ls : Array Slot), Sum.inl () = E2 → MB D cA ad A s gi gl H locs → lv_has ls 4 [] → W p l e R s m args below meth c H locs 0 0 Q (F0 m 120 ls []) := by
    intro  H locs ls he B hL
    subst he
    have h : f_X4_doesFit_x2 gi = some r := h
    unfold f_X4_doesFit_x2 at h
    refine lv_iconst (v := 1) hx hb dX4_doesFit_120 (by decide) ?_
    exact hret _ _ _ _ _ _ _ ⟨Option.some.inj h, rfl, rfl⟩ (Or.inr rfl) B dX4_doesFit_121
  have kr2 : ∀ (v : Int32) (H : Heap) (locs : List Loc) (ls : Array Slot) (pc : Nat), Sum.inr v = E2 → (v = 0 ∨ v = 1) → MB D cA ad A s gi gl H locs → decode cX4_doesFit pc = .ok (.ireturn, 1) → W p l e R s m args below meth c H locs 0 0 Q (F0 m pc ls [.int v]) := by
    intro v H locs ls pc he hz B hd
    subst he
    have h := g_er h
    exact hret _ _ _ _ _ _ _ ⟨Option.some.inj h, rfl, rfl⟩ hz B hd
  have hl2 : ∀ (k : Nat) (x2l2 : Int32) (H : Heap) (locs : List Loc) (ls : Array Slot), g_loop k (fun (s : Int32) => f_X4_doesFit_l2 gi x1 s) x2l2 = some E2 → MB D cA ad A s gi gl H locs → lv_has ls 4 [(0, .ref (ad 0)), (1, .int x1), (2, .int x2l2)] → W p l e R s m args below meth c H locs 0 0 Q (F0 m 2 ls []) := by
    intro k
    induction k with
    | zero => intro x2l2 H locs ls h; exact absurd h (fun z => g_loop_0 z)
    | succ k ih2 =>
      intro x2l2 H locs ls h B hL
      obtain ⟨Z2, h, h92⟩ := g_loop_s h
      have h : f_X4_doesFit_l2 gi x1 x2l2 = some Z2 := h
      unfold f_X4_doesFit_l2 at h
      have hj101 : ∀ (x2j101 : Int32) (t0j101 : Int32) (H : Heap) (locs : List Loc) (ls : Array Slot), f_X4_doesFit_j101 gi x1 x2j101 t0j101 = some Z2 → MB D cA ad A s gi gl H locs → lv_has ls 4 [(0, .ref (ad 0)), (1, .int x1), (2, .int x2j101)] → W p l e R s m args below meth c H locs 0 0 Q (F0 m 101 ls [.int t0j101]) := by
        intro x2j101 t0j101 H locs ls h B hL
        unfold f_X4_doesFit_j101 at h
        refine lv_istore_n (lv' := [(3, .int t0j101), (0, .ref (ad 0)), (1, .int x1), (2, .int x2j101)]) hx hb dX4_doesFit_101 rfl hL (by decide) rfl (fun ls hL => ?_)
        refine lv_iload_n hx hb dX4_doesFit_102 rfl (lv_at hL 0 rfl) ?_
        refine lv_aload_n hx hb dX4_doesFit_103 rfl (lv_at hL 1 rfl) ?_
        refine mg_73 C B dX4_doesFit_104 ?_
        refine lv_iload_n hx hb dX4_doesFit_107 rfl (lv_at hL 3 rfl) ?_
        refine mm_iald C B (a := 48) (n := 30) (Nat.le_of_ble_eq_true rfl) rfl h dX4_doesFit_108 (fun v8 h => ?_)
        refine gg_icmp_eq hx hb 114 h dX4_doesFit_109 (by decide) (fun h => ?_) (fun h => ?_)
        · refine lv_iinc (v := x2j101 + 1) (lv' := [(2, .int (x2j101 + 1)), (3, .int t0j101), (0, .ref (ad 0)), (1, .int x1)]) hx hb dX4_doesFit_114 hL (k := 3) rfl rfl (by decide) rfl (fun ls hL => ?_)
          refine lv_goto (tgt := 2) hx hb dX4_doesFit_117 (by decide) ?_
          exact ih2 _ _ _ _ (g_next h h92) B (lv_sub hL [2, 3, 0] rfl)
        · refine lv_iconst (v := 0) hx hb dX4_doesFit_112 (by decide) ?_
          exact kr2 _ _ _ _ _ (g_exit h h92) (Or.inl rfl) B dX4_doesFit_113
      have hj100 : ∀ (x2j100 : Int32) (H : Heap) (locs : List Loc) (ls : Array Slot), f_X4_doesFit_j100 gi x1 x2j100 = some Z2 → MB D cA ad A s gi gl H locs → lv_has ls 4 [(0, .ref (ad 0)), (1, .int x1), (2, .int x2j100)] → W p l e R s m args below meth c H locs 0 0 Q (F0 m 100 ls []) := by
        intro x2j100 H locs ls h B hL
        unfold f_X4_doesFit_j100 at h
        refine lv_iconst (v := 0) hx hb dX4_doesFit_100 (by decide) ?_
        exact hj101 _ _ _ _ _ h B (lv_sub hL [0, 1, 2] rfl)
      have hj96 : ∀ (x2j96 : Int32) (H : Heap) (locs : List Loc) (ls : Array Slot), f_X4_doesFit_j96 gi x1 x2j96 = some Z2 → MB D cA ad A s gi gl H locs → lv_has ls 4 [(0, .ref (ad 0)), (1, .int x1), (2, .int x2j96)] → W p l e R s m args below meth c H locs 0 0 Q (F0 m 96 ls []) := by
        intro x2j96 H locs ls h B hL
        unfold f_X4_doesFit_j96 at h
        refine lv_iconst (v := 1) hx hb dX4_doesFit_96 (by decide) ?_
        refine lv_goto (tgt := 101) hx hb dX4_doesFit_97 (by decide) ?_
        exact hj101 _ _ _ _ _ h B (lv_sub hL [0, 1, 2] rfl)
      have hj42 : ∀ (x2j42 : Int32) (H : Heap) (locs : List Loc) (ls : Array Slot), f_X4_doesFit_j42 gi x1 x2j42 = some Z2 → MB D cA ad A s gi gl H locs → lv_has ls 4 [(0, .ref (ad 0)), (1, .int x1), (2, .int x2j42)] → W p l e R s m args below meth c H locs 0 0 Q (F0 m 42 ls []) := by
        intro x2j42 H locs ls h B hL
        unfold f_X4_doesFit_j42 at h
        refine lv_aload_n hx hb dX4_doesFit_42 rfl (lv_at hL 0 rfl) ?_
        refine mg_71 C B dX4_doesFit_43 ?_
        refine lv_iload_n hx hb dX4_doesFit_46 rfl (lv_at hL 2 rfl) ?_
        refine mm_iald C B (a := 46) (n := 30) (Nat.le_of_ble_eq_true rfl) rfl h dX4_doesFit_47 (fun v3 h => ?_)
        refine gg_if_ge hx hb 73 h dX4_doesFit_48 (by decide) (fun h => ?_) (fun h => ?_)
        · refine lv_aload_n hx hb dX4_doesFit_73 rfl (lv_at hL 0 rfl) ?_
          refine lv_aload_n hx hb dX4_doesFit_74 rfl (lv_at hL 0 rfl) ?_
          refine mg_70 C B dX4_doesFit_75 ?_
          refine lv_iload_n hx hb dX4_doesFit_78 rfl (lv_at hL 2 rfl) ?_
          refine mm_iald C B (a := 45) (n := 30) (Nat.le_of_ble_eq_true rfl) rfl h dX4_doesFit_79 (fun v4 h => ?_)
          refine k_X4_tells C B (Nat.le_trans (Nat.le_of_ble_eq_true rfl) hF) (Nat.le_trans (Nat.le_of_ble_eq_true rfl) hN) hL.1 (Nat.le_of_ble_eq_true rfl) h dX4_doesFit_80 (fun q5 h H locs B => ?_)
          refine lv_aload_n hx hb dX4_doesFit_83 rfl (lv_at hL 0 rfl) ?_
          refine lv_aload_n hx hb dX4_doesFit_84 rfl (lv_at hL 0 rfl) ?_
          refine mg_71 C B dX4_doesFit_85 ?_
          refine lv_iload_n hx hb dX4_doesFit_88 rfl (lv_at hL 2 rfl) ?_
          refine mm_iald C B (a := 46) (n := 30) (Nat.le_of_ble_eq_true rfl) rfl h dX4_doesFit_89 (fun v6 h => ?_)
          refine k_X4_tells C B (Nat.le_trans (Nat.le_of_ble_eq_true rfl) hF) (Nat.le_trans (Nat.le_of_ble_eq_true rfl) hN) hL.1 (Nat.le_of_ble_eq_true rfl) h dX4_doesFit_90 (fun q7 h H locs B => ?_)
          refine gg_icmp_le hx hb 100 h dX4_doesFit_93 (by decide) (fun h => ?_) (fun h => ?_)
          · exact hj100 _ _ _ _ h B (lv_sub hL [0, 1, 2] rfl)
          · exact hj96 _ _ _ _ h B (lv_sub hL [0, 1, 2] rfl)
        · refine lv_aload_n hx hb dX4_doesFit_51 rfl (lv_at hL 0 rfl) ?_
          refine lv_aload_n hx hb dX4_doesFit_52 rfl (lv_at hL 0 rfl) ?_
          refine mg_70 C B dX4_doesFit_53 ?_
          refine lv_iload_n hx hb dX4_doesFit_56 rfl (lv_at hL 2 rfl) ?_
          refine mm_iald C B (a := 45) (n := 30) (Nat.le_of_ble_eq_true rfl) rfl h dX4_doesFit_57 (fun v9 h => ?_)
          refine k_X4_tells C B (Nat.le_trans (Nat.le_of_ble_eq_true rfl) hF) (Nat.le_trans (Nat.le_of_ble_eq_true rfl) hN) hL.1 (Nat.le_of_ble_eq_true rfl) h dX4_doesFit_58 (fun q10 h H locs B => ?_)
          refine lv_aload_n hx hb dX4_doesFit_61 rfl (lv_at hL 0 rfl) ?_
          refine mg_72 C B dX4_doesFit_62 ?_
          refine lv_iload_n hx hb dX4_doesFit_65 rfl (lv_at hL 2 rfl) ?_
          refine mm_iald C B (a := 47) (n := 30) (Nat.le_of_ble_eq_true rfl) rfl h dX4_doesFit_66 (fun v11 h => ?_)
          refine gg_icmp_lt hx hb 100 h dX4_doesFit_67 (by decide) (fun h => ?_) (fun h => ?_)
          · exact hj100 _ _ _ _ h B (lv_sub hL [0, 1, 2] rfl)
          · refine lv_goto (tgt := 96) hx hb dX4_doesFit_70 (by decide) ?_
            exact hj96 _ _ _ _ h B (lv_sub hL [0, 1, 2] rfl)
      refine lv_iload_n hx hb dX4_doesFit_2 rfl (lv_at hL 2 rfl) ?_
      refine lv_aload_n hx hb dX4_doesFit_3 rfl (lv_at hL 0 rfl) ?_
      refine mg_78 C B dX4_doesFit_4 ?_
      refine gg_icmp_ge hx hb 120 h dX4_doesFit_7 (by decide) (fun h => ?_) (fun h => ?_)
      · exact kx2  _ _ _ (g_exit h h92) B (lv_sub hL [] rfl)
      · refine lv_aload_n hx hb dX4_doesFit_10 rfl (lv_at hL 0 rfl) ?_
        refine mg_74 C B dX4_doesFit_11 ?_
        refine lv_iload_n hx hb dX4_doesFit_14 rfl (lv_at hL 2 rfl) ?_
        refine mm_iald C B (a := 49) (n := 30) (Nat.le_of_ble_eq_true rfl) rfl h dX4_doesFit_15 (fun v1 h => ?_)
        refine lv_iload_n hx hb dX4_doesFit_16 rfl (lv_at hL 1 rfl) ?_
        refine gg_icmp_gt hx hb 114 h dX4_doesFit_17 (by decide) (fun h => ?_) (fun h => ?_)
        · refine lv_iinc (v := x2l2 + 1) (lv' := [(2, .int (x2l2 + 1)), (0, .ref (ad 0)), (1, .int x1)]) hx hb dX4_doesFit_114 hL (k := 2) rfl rfl (by decide) rfl (fun ls hL => ?_)
          refine lv_goto (tgt := 2) hx hb dX4_doesFit_117 (by decide) ?_
          exact ih2 _ _ _ _ (g_next h h92) B (lv_sub hL [1, 2, 0] rfl)
        · refine lv_aload_n hx hb dX4_doesFit_20 rfl (lv_at hL 0 rfl) ?_
          refine mg_75 C B dX4_doesFit_21 ?_
          refine lv_iload_n hx hb dX4_doesFit_24 rfl (lv_at hL 2 rfl) ?_
          refine mm_iald C B (a := 50) (n := 30) (Nat.le_of_ble_eq_true rfl) rfl h dX4_doesFit_25 (fun v2 h => ?_)
          refine gg_if_lt hx hb 42 h dX4_doesFit_26 (by decide) (fun h => ?_) (fun h => ?_)
          · exact hj42 _ _ _ _ h B (lv_sub hL [0, 1, 2] rfl)
          · refine lv_aload_n hx hb dX4_doesFit_29 rfl (lv_at hL 0 rfl) ?_
            refine mg_75 C B dX4_doesFit_30 ?_
            refine lv_iload_n hx hb dX4_doesFit_33 rfl (lv_at hL 2 rfl) ?_
            refine mm_iald C B (a := 50) (n := 30) (Nat.le_of_ble_eq_true rfl) rfl h dX4_doesFit_34 (fun v12 h => ?_)
            refine lv_iload_n hx hb dX4_doesFit_35 rfl (lv_at hL 1 rfl) ?_
            refine gg_icmp_gt hx hb 42 h dX4_doesFit_36 (by decide) (fun h => ?_) (fun h => ?_)
            · exact hj42 _ _ _ _ h B (lv_sub hL [0, 1, 2] rfl)
            · refine lv_goto (tgt := 114) hx hb dX4_doesFit_39 (by decide) ?_
              refine lv_iinc (v := x2l2 + 1) (lv' := [(2, .int (x2l2 + 1)), (0, .ref (ad 0)), (1, .int x1)]) hx hb dX4_doesFit_114 hL (k := 2) rfl rfl (by decide) rfl (fun ls hL => ?_)
              refine lv_goto (tgt := 2) hx hb dX4_doesFit_117 (by decide) ?_
              exact ih2 _ _ _ _ (g_next h h92) B (lv_sub hL [1, 2, 0] rfl)
  exact hl2 g_K _ _ _ _ h82 B (lv_sub hL [1, 2, 0] rfl)
theorem k_X4_doesFit {p : Program} {l : Launch} {e : Env} {R : Room} {s : State} {m : MethodId} {args : Array Value} {below : List Frame} {meth : Method} {c : Code} {H : Heap} {locs : List Loc} {Q : State → Prop} {pc : Nat} {ls : Array Slot} {rest : List Value} {cc : ByteArray} {nL : Nat} {D : va_G} {cA : Nat → ClassId} {ad : Nat → Nat} {A : Nat → Prop} {gi : GI} {gl : GL} {α : Type} {r : α} {x1 : Int32} {ff : Int32 → Option α} (C : CallFix p m c cc nL s args lw_all RX4) (B : MB D cA ad A s gi gl H locs) (hF : 2 ≤ R.frames) (hN : 44 ≤ R.locals) (hs : ls.size = nL) (hw : (rest.map fun v => v.category).sum ≤ 8) (h : (f_X4_doesFit gi x1).bind ff = some r) (hdg : decode cc pc = .ok (.invokevirtual 575, 3)) (kk : ∀ q, ff q = some r → ∀ (H' : Heap) (locs' : List Loc), MB D cA ad A s gi gl H' locs' → W p l e R s m args below meth c H' locs' 0 0 Q (F0 m (pc + 3) ls (.int q :: rest))) : W p l e R s m args below meth c H locs 0 0 Q (F0 m pc ls (.int x1 :: .ref (ad 0) :: rest)) := by
  obtain ⟨q, h1, h2⟩ := g_ob h
  refine mm_cVI (As := [.int x1]) (rest := rest) (n := 1) C B (fun sz => w_X4_doesFit l D cA ad gi gl x1 q h1 sz) q2417 q2419 qs138 q150 q2420 (by decide +kernel) ⟨hF, hN⟩ rfl hs hw hdg (fun v u H9 locs9 hp B9 => ?_)
  obtain ⟨e1, e2, e3⟩ := hp
  rw [e2] at B9
  rw [e3] at B9
  subst e1
  exact kk _ h2 H9 locs9 B9
def f_X4_layOrder_l7 (x2l7 : Int32) (x3l7 : Int32) (x4l7 : Int32) (gil7 : GI) : Option ((Int32 × Int32 × Int32 × GI) ⊕ ((GI) ⊕ (Int32 × GI))) :=
  (f_X4_firsts gil7 ).bind fun q1 =>
  if q1 ≤ x4l7 then
  (some (.inr (.inl gil7)))
  else
  ((f_X4_firsts gil7 ).bind fun q2 =>
  (g_nz q2).bind fun _ =>
  (g_st gil7 51 5 x4l7 (x2l7 - x2l7 / q2 * q2)).bind fun gi3 =>
  (f_X4_firsts gi3 ).bind fun q4 =>
  (g_nz q4).bind fun _ =>
  (g_ld gi3 51 5 x4l7).bind fun v5 =>
  (f_X4_has gi3 x3l7 v5).bind fun q6 =>
  if q6 = 0 then
  ((g_ld gi3 51 5 x4l7).bind fun v7 =>
  some (.inl ((x2l7 / q4, x3l7 ||| (1 <<< (v7 &&& 31)), x4l7 + 1, gi3))))
  else
  (some (.inr (.inr (0, gi3)))))
def f_X4_layOrder_x7 (gie7 : GI) : Option (Int32 × GI) :=
  some (1, gie7)
def f_X4_layOrder (gi : GI) (x1 : Int32) : Option (Int32 × GI) :=
  (g_loop g_K (fun (s : Int32 × Int32 × Int32 × GI) => f_X4_layOrder_l7 s.1 s.2.1 s.2.2.1 s.2.2.2) (x1, 0, 0, gi)).bind fun E7 => Sum.elim (fun (S7 : GI) => f_X4_layOrder_x7 S7) (fun (r7 : Int32 × GI) => some r7) E7
set_option maxHeartbeats 400000 in
theorem w_X4_layOrder (l : Launch) (D : va_G) (cA : Nat → ClassId) (ad : Nat → Nat) (gi : GI) (gl : GL) (x1 : Int32) (r : Int32 × GI) (h : f_X4_layOrder gi x1 = some r) (sz : Nat) : Met l yX4_layOrder (ws_ yX4_layOrder cX4_layOrder 5 (some .boolean)) ({ frames := 2, cells := 0, slots := 0, locals := 41 } : Room) (va_Pc [.ref (ad 0), .int x1] (MPre D cA ad gi gl sz)) (va_Qi (fun v u => (v, u.1) = r ∧ u.2 = gl) (MPost D cA ad) (MA ad sz)) 0 0 (MA ad sz) := by
  refine mm_stZ (by decide +kernel) rfl (Nat.le_of_ble_eq_true rfl) (fun p e s m args below meth c R Q A ls C hF hN B hret hL => ?_) sz
  have hx := C.1
  have hb := C.2.1
  have hL : lv_has ls 5 [(0, .ref (ad 0)), (1, .int x1)] := hL
  unfold f_X4_layOrder at h
  refine lv_iload_n hx hb dX4_layOrder_0 rfl (lv_at hL 1 rfl) ?_
  refine lv_istore_n (lv' := [(2, .int x1), (0, .ref (ad 0)), (1, .int x1)]) hx hb dX4_layOrder_1 rfl hL (by decide) rfl (fun ls hL => ?_)
  refine lv_iconst (v := 0) hx hb dX4_layOrder_2 (by decide) ?_
  refine lv_istore_n (lv' := [(3, .int 0), (2, .int x1), (0, .ref (ad 0)), (1, .int x1)]) hx hb dX4_layOrder_3 rfl hL (by decide) rfl (fun ls hL => ?_)
  refine lv_iconst (v := 0) hx hb dX4_layOrder_4 (by decide) ?_
  refine lv_istore (lv' := [(4, .int 0), (3, .int 0), (2, .int x1), (0, .ref (ad 0)), (1, .int x1)]) hx hb dX4_layOrder_5 hL (by decide) rfl (fun ls hL => ?_)
  obtain ⟨E7, h87, h⟩ := g_ob h
  have kx7 : ∀ (gie7 : GI) (H : Heap) (locs : List Loc) (ls : Array Slot), Sum.inl gie7 = E7 → MB D cA ad A s gie7 gl H locs → lv_has ls 5 [] → W p l e R s m args below meth c H locs 0 0 Q (F0 m 70 ls []) := by
    intro gie7 H locs ls he B hL
    subst he
    have h : f_X4_layOrder_x7 gie7 = some r := h
    unfold f_X4_layOrder_x7 at h
    refine lv_iconst (v := 1) hx hb dX4_layOrder_70 (by decide) ?_
    exact hret _ _ _ _ _ _ _ ⟨Option.some.inj h, rfl⟩ (Or.inr rfl) B dX4_layOrder_71
  have kr7 : ∀ (v : Int32) (g' : GI) (H : Heap) (locs : List Loc) (ls : Array Slot) (pc : Nat), Sum.inr (v, g') = E7 → (v = 0 ∨ v = 1) → MB D cA ad A s g' gl H locs → decode cX4_layOrder pc = .ok (.ireturn, 1) → W p l e R s m args below meth c H locs 0 0 Q (F0 m pc ls [.int v]) := by
    intro v g' H locs ls pc he hz B hd
    subst he
    have h := g_er h
    exact hret _ _ _ _ _ _ _ ⟨Option.some.inj h, rfl⟩ hz B hd
  have hl7 : ∀ (k : Nat) (x2l7 : Int32) (x3l7 : Int32) (x4l7 : Int32) (gil7 : GI) (H : Heap) (locs : List Loc) (ls : Array Slot), g_loop k (fun (s : Int32 × Int32 × Int32 × GI) => f_X4_layOrder_l7 s.1 s.2.1 s.2.2.1 s.2.2.2) (x2l7, x3l7, x4l7, gil7) = some E7 → MB D cA ad A s gil7 gl H locs → lv_has ls 5 [(0, .ref (ad 0)), (2, .int x2l7), (3, .int x3l7), (4, .int x4l7)] → W p l e R s m args below meth c H locs 0 0 Q (F0 m 7 ls []) := by
    intro k
    induction k with
    | zero => intro x2l7 x3l7 x4l7 gil7 H locs ls h; exact absurd h (fun z => g_loop_0 z)
    | succ k ih7 =>
      intro x2l7 x3l7 x4l7 gil7 H locs ls h B hL
      obtain ⟨Z7, h, h97⟩ := g_loop_s h
      have h : f_X4_layOrder_l7 x2l7 x3l7 x4l7 gil7 = some Z7 := h
      unfold f_X4_layOrder_l7 at h
      refine lv_iload hx hb dX4_layOrder_7 (lv_at hL 3 rfl) ?_
      refine lv_aload_n hx hb dX4_layOrder_9 rfl (lv_at hL 0 rfl) ?_
      refine k_X4_firsts C B (Nat.le_trans (Nat.le_of_ble_eq_true rfl) hF) (Nat.le_trans (Nat.le_of_ble_eq_true rfl) hN) hL.1 (Nat.le_of_ble_eq_true rfl) h dX4_layOrder_10 (fun q1 h H locs B => ?_)
      refine gg_icmp_ge hx hb 70 h dX4_layOrder_13 (by decide) (fun h => ?_) (fun h => ?_)
      · exact kx7 _ _ _ _ (g_exit h h97) B (lv_sub hL [] rfl)
      · refine lv_aload_n hx hb dX4_layOrder_16 rfl (lv_at hL 0 rfl) ?_
        refine mg_76 C B dX4_layOrder_17 ?_
        refine lv_iload hx hb dX4_layOrder_20 (lv_at hL 3 rfl) ?_
        refine lv_iload_n hx hb dX4_layOrder_22 rfl (lv_at hL 1 rfl) ?_
        refine lv_aload_n hx hb dX4_layOrder_23 rfl (lv_at hL 0 rfl) ?_
        refine k_X4_firsts C B (Nat.le_trans (Nat.le_of_ble_eq_true rfl) hF) (Nat.le_trans (Nat.le_of_ble_eq_true rfl) hN) hL.1 (Nat.le_of_ble_eq_true rfl) h dX4_layOrder_24 (fun q2 h H locs B => ?_)
        refine mm_nz h (fun hnz h => ?_)
        refine lv_irem hx hb dX4_layOrder_27 hnz ?_
        refine mm_iast C B (a := 51) (n := 5) (Nat.le_of_ble_eq_true rfl) rfl h dX4_layOrder_28 (fun gi3 h H locs B => ?_)
        refine lv_iload_n hx hb dX4_layOrder_29 rfl (lv_at hL 1 rfl) ?_
        refine lv_aload_n hx hb dX4_layOrder_30 rfl (lv_at hL 0 rfl) ?_
        refine k_X4_firsts C B (Nat.le_trans (Nat.le_of_ble_eq_true rfl) hF) (Nat.le_trans (Nat.le_of_ble_eq_true rfl) hN) hL.1 (Nat.le_of_ble_eq_true rfl) h dX4_layOrder_31 (fun q4 h H locs B => ?_)
        refine mm_nz h (fun hnz h => ?_)
        refine lv_idiv hx hb dX4_layOrder_34 hnz ?_
        refine lv_istore_n (lv' := [(2, .int (x2l7 / q4)), (0, .ref (ad 0)), (3, .int x3l7), (4, .int x4l7)]) hx hb dX4_layOrder_35 rfl hL (by decide) rfl (fun ls hL => ?_)
        refine lv_iload_n hx hb dX4_layOrder_36 rfl (lv_at hL 2 rfl) ?_
        refine lv_aload_n hx hb dX4_layOrder_37 rfl (lv_at hL 1 rfl) ?_
        refine mg_76 C B dX4_layOrder_38 ?_
        refine lv_iload hx hb dX4_layOrder_41 (lv_at hL 3 rfl) ?_
        refine mm_iald C B (a := 51) (n := 5) (Nat.le_of_ble_eq_true rfl) rfl h dX4_layOrder_43 (fun v5 h => ?_)
        refine k_X4_has C B (Nat.le_trans (Nat.le_of_ble_eq_true rfl) hF) (Nat.le_trans (Nat.le_of_ble_eq_true rfl) hN) hL.1 (Nat.le_of_ble_eq_true rfl) h dX4_layOrder_44 (fun q6 h H locs B => ?_)
        refine gg_if_eq hx hb 52 h dX4_layOrder_47 (by decide) (fun h => ?_) (fun h => ?_)
        · refine lv_iload_n hx hb dX4_layOrder_52 rfl (lv_at hL 2 rfl) ?_
          refine lv_iconst (v := 1) hx hb dX4_layOrder_53 (by decide) ?_
          refine lv_aload_n hx hb dX4_layOrder_54 rfl (lv_at hL 1 rfl) ?_
          refine mg_76 C B dX4_layOrder_55 ?_
          refine lv_iload hx hb dX4_layOrder_58 (lv_at hL 3 rfl) ?_
          refine mm_iald C B (a := 51) (n := 5) (Nat.le_of_ble_eq_true rfl) rfl h dX4_layOrder_60 (fun v7 h => ?_)
          refine lv_ishl hx hb dX4_layOrder_61 ?_
          refine lv_ior hx hb dX4_layOrder_62 ?_
          refine lv_istore_n (lv' := [(3, .int (x3l7 ||| (1 <<< (v7 &&& 31)))), (2, .int (x2l7 / q4)), (0, .ref (ad 0)), (4, .int x4l7)]) hx hb dX4_layOrder_63 rfl hL (by decide) rfl (fun ls hL => ?_)
          refine lv_iinc (v := x4l7 + 1) (lv' := [(4, .int (x4l7 + 1)), (3, .int (x3l7 ||| (1 <<< (v7 &&& 31)))), (2, .int (x2l7 / q4)), (0, .ref (ad 0))]) hx hb dX4_layOrder_64 hL (k := 3) rfl rfl (by decide) rfl (fun ls hL => ?_)
          refine lv_goto (tgt := 7) hx hb dX4_layOrder_67 (by decide) ?_
          exact ih7 _ _ _ _ _ _ _ (g_next h h97) B (lv_sub hL [3, 2, 1, 0] rfl)
        · refine lv_iconst (v := 0) hx hb dX4_layOrder_50 (by decide) ?_
          exact kr7 _ _ _ _ _ _ (g_exit h h97) (Or.inl rfl) B dX4_layOrder_51
  exact hl7 g_K _ _ _ _ _ _ _ h87 B (lv_sub hL [3, 2, 1, 0] rfl)
theorem k_X4_layOrder {p : Program} {l : Launch} {e : Env} {R : Room} {s : State} {m : MethodId} {args : Array Value} {below : List Frame} {meth : Method} {c : Code} {H : Heap} {locs : List Loc} {Q : State → Prop} {pc : Nat} {ls : Array Slot} {rest : List Value} {cc : ByteArray} {nL : Nat} {D : va_G} {cA : Nat → ClassId} {ad : Nat → Nat} {A : Nat → Prop} {gi : GI} {gl : GL} {α : Type} {r : α} {x1 : Int32} {ff : (Int32 × GI) → Option α} (C : CallFix p m c cc nL s args lw_all RX4) (B : MB D cA ad A s gi gl H locs) (hF : 3 ≤ R.frames) (hN : 65 ≤ R.locals) (hs : ls.size = nL) (hw : (rest.map fun v => v.category).sum ≤ 8) (h : (f_X4_layOrder gi x1).bind ff = some r) (hdg : decode cc pc = .ok (.invokevirtual 572, 3)) (kk : ∀ q, ff q = some r → ∀ (H' : Heap) (locs' : List Loc), MB D cA ad A s q.2 gl H' locs' → W p l e R s m args below meth c H' locs' 0 0 Q (F0 m (pc + 3) ls (.int q.1 :: rest))) : W p l e R s m args below meth c H locs 0 0 Q (F0 m pc ls (.int x1 :: .ref (ad 0) :: rest)) := by
  obtain ⟨q, h1, h2⟩ := g_ob h
  refine mm_cVI (As := [.int x1]) (rest := rest) (n := 1) C B (fun sz => w_X4_layOrder l D cA ad gi gl x1 q h1 sz) q2413 q2415 qs137 q150 q2416 (by decide +kernel) ⟨hF, hN⟩ rfl hs hw hdg (fun v u H9 locs9 hp B9 => ?_)
  obtain ⟨e1, e3⟩ := hp
  rw [e3] at B9
  subst e1
  exact kk _ h2 H9 locs9 B9
def f_X4_layOrders_l4 (gii4 : GI) (x1i4 : Int32) (x2l4 : Int32) (x3l4 : Int32) : Option ((Int32 × Int32) ⊕ (Int32)) :=
  (f_X4_firsts gii4 ).bind fun q1 =>
  if q1 ≤ x3l4 then
  (some (.inr x2l4))
  else
  ((f_X4_firsts gii4 ).bind fun q2 =>
  some (.inl ((x2l4 * q2, x3l4 + 1))))
def f_X4_layOrders_l32 (x1i32 : Int32) (x2i32 : Int32) (x3l32 : Int32) (gil32 : GI) : Option ((Int32 × GI) ⊕ (GI)) :=
  if 25 ≤ x3l32 then
  (some (.inr gil32))
  else
  ((g_st gil32 52 25 x3l32 0).bind fun gi4 =>
  some (.inl ((x3l32 + 1, gi4))))
def f_X4_layOrders_l90 (x1i90 : Int32) (x2i90 : Int32) (x3i90 : Int32) (x4l90 : Int32) (gil90 : GI) : Option ((Int32 × GI) ⊕ (GI)) :=
  (f_X4_firsts gil90 ).bind fun q8 =>
  if q8 ≤ x4l90 then
  (some (.inr gil90))
  else
  ((g_ld gil90 51 5 x4l90).bind fun v9 =>
  (g_ld gil90 52 25 ((5 * x4l90) + v9)).bind fun v10 =>
  (g_st gil90 52 25 ((5 * x4l90) + v9) (v10 + 1)).bind fun gi11 =>
  some (.inl ((x4l90 + 1, gi11))))
def f_X4_layOrders_x90 (x1y90 : Int32) (x2y90 : Int32) (x3y90 : Int32) (gie90 : GI) : Option ((Int32 × GI) ⊕ (GI)) :=
  some (.inl ((x3y90 + 1, gie90)))
def f_X4_layOrders_l53 (x1i53 : Int32) (x2i53 : Int32) (x3l53 : Int32) (gil53 : GI) : Option ((Int32 × GI) ⊕ (GI)) :=
  if x2i53 ≤ x3l53 then
  (some (.inr gil53))
  else
  ((f_X4_layOrder gil53 x3l53).bind fun q5 =>
  if q5.1 = 0 then
  (some (.inl ((x3l53 + 1, q5.2))))
  else
  ((f_X4_doesFit q5.2 x1i53).bind fun q6 =>
  if q6 = 0 then
  (some (.inl ((x3l53 + 1, q5.2))))
  else
  ((some (g_pi q5.2 0 80 ((q5.2 0 80) + 1))).bind fun gi7 =>
  (g_loop g_K (fun (s : Int32 × GI) => f_X4_layOrders_l90 x1i53 x2i53 x3l53 s.1 s.2) (0, gi7)).bind fun E90 => f_X4_layOrders_x90 x1i53 x2i53 x3l53 E90)))
def f_X4_layOrders_x53 (gie53 : GI) : Option (GI) :=
  some gie53
def f_X4_layOrders_x32 (x1y32 : Int32) (x2y32 : Int32) (gie32 : GI) : Option (GI) :=
  (g_loop g_K (fun (s : Int32 × GI) => f_X4_layOrders_l53 x1y32 x2y32 s.1 s.2) (0, gie32)).bind fun E53 => f_X4_layOrders_x53 E53
def f_X4_layOrders_x4 (giy4 : GI) (x1y4 : Int32) (x2e4 : Int32) : Option (GI) :=
  (some (g_pi giy4 0 80 0)).bind fun gi3 =>
  (g_loop g_K (fun (s : Int32 × GI) => f_X4_layOrders_l32 x1y4 x2e4 s.1 s.2) (0, gi3)).bind fun E32 => f_X4_layOrders_x32 x1y4 x2e4 E32
def f_X4_layOrders (gi : GI) (x1 : Int32) : Option (GI) :=
  (g_loop g_K (fun (s : Int32 × Int32) => f_X4_layOrders_l4 gi x1 s.1 s.2) (1, 0)).bind fun E4 => f_X4_layOrders_x4 gi x1 E4
set_option maxHeartbeats 400000 in
theorem w_X4_layOrders (l : Launch) (D : va_G) (cA : Nat → ClassId) (ad : Nat → Nat) (gi : GI) (gl : GL) (x1 : Int32) (r : GI) (h : f_X4_layOrders gi x1 = some r) (sz : Nat) : Met l yX4_layOrders (ws_ yX4_layOrders cX4_layOrders 5 (none)) ({ frames := 3, cells := 0, slots := 0, locals := 65 } : Room) (va_Pc [.ref (ad 0), .int x1] (MPre D cA ad gi gl sz)) (va_Qv (fun u => u.1 = r ∧ u.2 = gl) (MPost D cA ad) (MA ad sz)) 0 0 (MA ad sz) := by
  refine mm_stV (by decide +kernel) rfl (Nat.le_of_ble_eq_true rfl) (fun p e s m args below meth c R Q A ls C hF hN B hret hL => ?_) sz
  have hx := C.1
  have hb := C.2.1
  have hL : lv_has ls 5 [(0, .ref (ad 0)), (1, .int x1)] := hL
  unfold f_X4_layOrders at h
  refine lv_iconst (v := 1) hx hb dX4_layOrders_0 (by decide) ?_
  refine lv_istore_n (lv' := [(2, .int 1), (0, .ref (ad 0)), (1, .int x1)]) hx hb dX4_layOrders_1 rfl hL (by decide) rfl (fun ls hL => ?_)
  refine lv_iconst (v := 0) hx hb dX4_layOrders_2 (by decide) ?_
  refine lv_istore_n (lv' := [(3, .int 0), (2, .int 1), (0, .ref (ad 0)), (1, .int x1)]) hx hb dX4_layOrders_3 rfl hL (by decide) rfl (fun ls hL => ?_)
  obtain ⟨E4, h84, h⟩ := g_ob h
  have kx4 : ∀ (x2e4 : Int32) (H : Heap) (locs : List Loc) (ls : Array Slot), x2e4 = E4 → MB D cA ad A s gi gl H locs → lv_has ls 5 [(0, .ref (ad 0)), (1, .int x1), (2, .int x2e4)] → W p l e R s m args below meth c H locs 0 0 Q (F0 m 25 ls []) := by
    intro x2e4 H locs ls he B hL
    subst he
    have h : f_X4_layOrders_x4 gi x1 x2e4 = some r := h
    unfold f_X4_layOrders_x4 at h
    refine lv_aload_n hx hb dX4_layOrders_25 rfl (lv_at hL 0 rfl) ?_
    refine lv_iconst (v := 0) hx hb dX4_layOrders_26 (by decide) ?_
    refine mp_80 C B h dX4_layOrders_27 (fun gi3 h H locs B => ?_)
    refine lv_iconst (v := 0) hx hb dX4_layOrders_30 (by decide) ?_
    refine lv_istore_n (lv' := [(3, .int 0), (0, .ref (ad 0)), (1, .int x1), (2, .int x2e4)]) hx hb dX4_layOrders_31 rfl hL (by decide) rfl (fun ls hL => ?_)
    obtain ⟨E32, h832, h⟩ := g_ob h
    have kx32 : ∀ (gie32 : GI) (H : Heap) (locs : List Loc) (ls : Array Slot), gie32 = E32 → MB D cA ad A s gie32 gl H locs → lv_has ls 5 [(0, .ref (ad 0)), (1, .int x1), (2, .int x2e4)] → W p l e R s m args below meth c H locs 0 0 Q (F0 m 51 ls []) := by
      intro gie32 H locs ls he B hL
      subst he
      have h : f_X4_layOrders_x32 x1 x2e4 gie32 = some r := h
      unfold f_X4_layOrders_x32 at h
      refine lv_iconst (v := 0) hx hb dX4_layOrders_51 (by decide) ?_
      refine lv_istore_n (lv' := [(3, .int 0), (0, .ref (ad 0)), (1, .int x1), (2, .int x2e4)]) hx hb dX4_layOrders_52 rfl hL (by decide) rfl (fun ls hL => ?_)
      obtain ⟨E53, h853, h⟩ := g_ob h
      have kx53 : ∀ (gie53 : GI) (H : Heap) (locs : List Loc) (ls : Array Slot), gie53 = E53 → MB D cA ad A s gie53 gl H locs → lv_has ls 5 [] → W p l e R s m args below meth c H locs 0 0 Q (F0 m 132 ls []) := by
        intro gie53 H locs ls he B hL
        subst he
        have h : f_X4_layOrders_x53 gie53 = some r := h
        unfold f_X4_layOrders_x53 at h
        exact hret _ _ _ _ _ _ ⟨Option.some.inj h, rfl⟩ B dX4_layOrders_132
      have hl53 : ∀ (k : Nat) (x3l53 : Int32) (gil53 : GI) (H : Heap) (locs : List Loc) (ls : Array Slot), g_loop k (fun (s : Int32 × GI) => f_X4_layOrders_l53 x1 x2e4 s.1 s.2) (x3l53, gil53) = some E53 → MB D cA ad A s gil53 gl H locs → lv_has ls 5 [(0, .ref (ad 0)), (1, .int x1), (2, .int x2e4), (3, .int x3l53)] → W p l e R s m args below meth c H locs 0 0 Q (F0 m 53 ls []) := by
        intro k
        induction k with
        | zero => intro x3l53 gil53 H locs ls h; exact absurd h (fun z => g_loop_0 z)
        | succ k ih53 =>
          intro x3l53 gil53 H locs ls h B hL
          obtain ⟨Z53, h, h953⟩ := g_loop_s h
          have h : f_X4_layOrders_l53 x1 x2e4 x3l53 gil53 = some Z53 := h
          unfold f_X4_layOrders_l53 at h
          refine lv_iload_n hx hb dX4_layOrders_53 rfl (lv_at hL 3 rfl) ?_
          refine lv_iload_n hx hb dX4_layOrders_54 rfl (lv_at hL 2 rfl) ?_
          refine gg_icmp_ge hx hb 132 h dX4_layOrders_55 (by decide) (fun h => ?_) (fun h => ?_)
          · exact kx53 _ _ _ _ (g_exit h h953) B (lv_sub hL [] rfl)
          · refine lv_aload_n hx hb dX4_layOrders_58 rfl (lv_at hL 0 rfl) ?_
            refine lv_iload_n hx hb dX4_layOrders_59 rfl (lv_at hL 3 rfl) ?_
            refine k_X4_layOrder C B (Nat.le_trans (Nat.le_of_ble_eq_true rfl) hF) (Nat.le_trans (Nat.le_of_ble_eq_true rfl) hN) hL.1 (Nat.le_of_ble_eq_true rfl) h dX4_layOrders_60 (fun q5 h H locs B => ?_)
            refine gg_if_eq hx hb 126 h dX4_layOrders_63 (by decide) (fun h => ?_) (fun h => ?_)
            · refine lv_iinc (v := x3l53 + 1) (lv' := [(3, .int (x3l53 + 1)), (0, .ref (ad 0)), (1, .int x1), (2, .int x2e4)]) hx hb dX4_layOrders_126 hL (k := 3) rfl rfl (by decide) rfl (fun ls hL => ?_)
              refine lv_goto (tgt := 53) hx hb dX4_layOrders_129 (by decide) ?_
              exact ih53 _ _ _ _ _ (g_next h h953) B (lv_sub hL [1, 2, 3, 0] rfl)
            · refine lv_aload_n hx hb dX4_layOrders_66 rfl (lv_at hL 0 rfl) ?_
              refine lv_iload_n hx hb dX4_layOrders_67 rfl (lv_at hL 1 rfl) ?_
              refine k_X4_doesFit C B (Nat.le_trans (Nat.le_of_ble_eq_true rfl) hF) (Nat.le_trans (Nat.le_of_ble_eq_true rfl) hN) hL.1 (Nat.le_of_ble_eq_true rfl) h dX4_layOrders_68 (fun q6 h H locs B => ?_)
              refine gg_if_ne hx hb 77 h dX4_layOrders_71 (by decide) (fun h => ?_) (fun h => ?_)
              · refine lv_aload_n hx hb dX4_layOrders_77 rfl (lv_at hL 0 rfl) ?_
                refine lv_dup hx hb dX4_layOrders_78 rfl ?_
                refine mg_80 C B dX4_layOrders_79 ?_
                refine lv_iconst (v := 1) hx hb dX4_layOrders_82 (by decide) ?_
                refine lv_iadd hx hb dX4_layOrders_83 ?_
                refine mp_80 C B h dX4_layOrders_84 (fun gi7 h H locs B => ?_)
                refine lv_iconst (v := 0) hx hb dX4_layOrders_87 (by decide) ?_
                refine lv_istore (lv' := [(4, .int 0), (0, .ref (ad 0)), (1, .int x1), (2, .int x2e4), (3, .int x3l53)]) hx hb dX4_layOrders_88 hL (by decide) rfl (fun ls hL => ?_)
                obtain ⟨E90, h890, h⟩ := g_ob h
                have kx90 : ∀ (gie90 : GI) (H : Heap) (locs : List Loc) (ls : Array Slot), gie90 = E90 → MB D cA ad A s gie90 gl H locs → lv_has ls 5 [(0, .ref (ad 0)), (1, .int x1), (2, .int x2e4), (3, .int x3l53)] → W p l e R s m args below meth c H locs 0 0 Q (F0 m 126 ls []) := by
                  intro gie90 H locs ls he B hL
                  subst he
                  have h : f_X4_layOrders_x90 x1 x2e4 x3l53 gie90 = some Z53 := h
                  unfold f_X4_layOrders_x90 at h
                  refine lv_iinc (v := x3l53 + 1) (lv' := [(3, .int (x3l53 + 1)), (0, .ref (ad 0)), (1, .int x1), (2, .int x2e4)]) hx hb dX4_layOrders_126 hL (k := 3) rfl rfl (by decide) rfl (fun ls hL => ?_)
                  refine lv_goto (tgt := 53) hx hb dX4_layOrders_129 (by decide) ?_
                  exact ih53 _ _ _ _ _ (g_next h h953) B (lv_sub hL [1, 2, 3, 0] rfl)
                have hl90 : ∀ (k : Nat) (x4l90 : Int32) (gil90 : GI) (H : Heap) (locs : List Loc) (ls : Array Slot), g_loop k (fun (s : Int32 × GI) => f_X4_layOrders_l90 x1 x2e4 x3l53 s.1 s.2) (x4l90, gil90) = some E90 → MB D cA ad A s gil90 gl H locs → lv_has ls 5 [(0, .ref (ad 0)), (1, .int x1), (2, .int x2e4), (3, .int x3l53), (4, .int x4l90)] → W p l e R s m args below meth c H locs 0 0 Q (F0 m 90 ls []) := by
                  intro k
                  induction k with
                  | zero => intro x4l90 gil90 H locs ls h; exact absurd h (fun z => g_loop_0 z)
                  | succ k ih90 =>
                    intro x4l90 gil90 H locs ls h B hL
                    obtain ⟨Z90, h, h990⟩ := g_loop_s h
                    have h : f_X4_layOrders_l90 x1 x2e4 x3l53 x4l90 gil90 = some Z90 := h
                    unfold f_X4_layOrders_l90 at h
                    refine lv_iload hx hb dX4_layOrders_90 (lv_at hL 4 rfl) ?_
                    refine lv_aload_n hx hb dX4_layOrders_92 rfl (lv_at hL 0 rfl) ?_
                    refine k_X4_firsts C B (Nat.le_trans (Nat.le_of_ble_eq_true rfl) hF) (Nat.le_trans (Nat.le_of_ble_eq_true rfl) hN) hL.1 (Nat.le_of_ble_eq_true rfl) h dX4_layOrders_93 (fun q8 h H locs B => ?_)
                    refine gg_icmp_ge hx hb 126 h dX4_layOrders_96 (by decide) (fun h => ?_) (fun h => ?_)
                    · exact kx90 _ _ _ _ (g_exit h h990) B (lv_sub hL [0, 1, 2, 3] rfl)
                    · refine lv_aload_n hx hb dX4_layOrders_99 rfl (lv_at hL 0 rfl) ?_
                      refine mg_77 C B dX4_layOrders_100 ?_
                      refine lv_iconst (v := 5) hx hb dX4_layOrders_103 (by decide) ?_
                      refine lv_iload hx hb dX4_layOrders_104 (lv_at hL 4 rfl) ?_
                      refine lv_imul hx hb dX4_layOrders_106 ?_
                      refine lv_aload_n hx hb dX4_layOrders_107 rfl (lv_at hL 0 rfl) ?_
                      refine mg_76 C B dX4_layOrders_108 ?_
                      refine lv_iload hx hb dX4_layOrders_111 (lv_at hL 4 rfl) ?_
                      refine mm_iald C B (a := 51) (n := 5) (Nat.le_of_ble_eq_true rfl) rfl h dX4_layOrders_113 (fun v9 h => ?_)
                      refine lv_iadd hx hb dX4_layOrders_114 ?_
                      refine lv_dup2_11 hx hb dX4_layOrders_115 rfl rfl ?_
                      refine mm_iald C B (a := 52) (n := 25) (Nat.le_of_ble_eq_true rfl) rfl h dX4_layOrders_116 (fun v10 h => ?_)
                      refine lv_iconst (v := 1) hx hb dX4_layOrders_117 (by decide) ?_
                      refine lv_iadd hx hb dX4_layOrders_118 ?_
                      refine mm_iast C B (a := 52) (n := 25) (Nat.le_of_ble_eq_true rfl) rfl h dX4_layOrders_119 (fun gi11 h H locs B => ?_)
                      refine lv_iinc (v := x4l90 + 1) (lv' := [(4, .int (x4l90 + 1)), (0, .ref (ad 0)), (1, .int x1), (2, .int x2e4), (3, .int x3l53)]) hx hb dX4_layOrders_120 hL (k := 4) rfl rfl (by decide) rfl (fun ls hL => ?_)
                      refine lv_goto (tgt := 90) hx hb dX4_layOrders_123 (by decide) ?_
                      exact ih90 _ _ _ _ _ (g_next h h990) B (lv_sub hL [1, 2, 3, 4, 0] rfl)
                exact hl90 g_K _ _ _ _ _ h890 B (lv_sub hL [1, 2, 3, 4, 0] rfl)
              · refine lv_goto (tgt := 126) hx hb dX4_layOrders_74 (by decide) ?_
                refine lv_iinc (v := x3l53 + 1) (lv' := [(3, .int (x3l53 + 1)), (0, .ref (ad 0)), (1, .int x1), (2, .int x2e4)]) hx hb dX4_layOrders_126 hL (k := 3) rfl rfl (by decide) rfl (fun ls hL => ?_)
                refine lv_goto (tgt := 53) hx hb dX4_layOrders_129 (by decide) ?_
                exact ih53 _ _ _ _ _ (g_next h h953) B (lv_sub hL [1, 2, 3, 0] rfl)
      exact hl53 g_K _ _ _ _ _ h853 B (lv_sub hL [1, 2, 3, 0] rfl)
    have hl32 : ∀ (k : Nat) (x3l32 : Int32) (gil32 : GI) (H : Heap) (locs : List Loc) (ls : Array Slot), g_loop k (fun (s : Int32 × GI) => f_X4_layOrders_l32 x1 x2e4 s.1 s.2) (x3l32, gil32) = some E32 → MB D cA ad A s gil32 gl H locs → lv_has ls 5 [(0, .ref (ad 0)), (1, .int x1), (2, .int x2e4), (3, .int x3l32)] → W p l e R s m args below meth c H locs 0 0 Q (F0 m 32 ls []) := by
      intro k
      induction k with
      | zero => intro x3l32 gil32 H locs ls h; exact absurd h (fun z => g_loop_0 z)
      | succ k ih32 =>
        intro x3l32 gil32 H locs ls h B hL
        obtain ⟨Z32, h, h932⟩ := g_loop_s h
        have h : f_X4_layOrders_l32 x1 x2e4 x3l32 gil32 = some Z32 := h
        unfold f_X4_layOrders_l32 at h
        refine lv_iload_n hx hb dX4_layOrders_32 rfl (lv_at hL 3 rfl) ?_
        refine lv_bipush (v := 25) hx hb dX4_layOrders_33 (by decide) ?_
        refine gg_icmp_ge hx hb 51 h dX4_layOrders_35 (by decide) (fun h => ?_) (fun h => ?_)
        · exact kx32 _ _ _ _ (g_exit h h932) B (lv_sub hL [0, 1, 2] rfl)
        · refine lv_aload_n hx hb dX4_layOrders_38 rfl (lv_at hL 0 rfl) ?_
          refine mg_77 C B dX4_layOrders_39 ?_
          refine lv_iload_n hx hb dX4_layOrders_42 rfl (lv_at hL 3 rfl) ?_
          refine lv_iconst (v := 0) hx hb dX4_layOrders_43 (by decide) ?_
          refine mm_iast C B (a := 52) (n := 25) (Nat.le_of_ble_eq_true rfl) rfl h dX4_layOrders_44 (fun gi4 h H locs B => ?_)
          refine lv_iinc (v := x3l32 + 1) (lv' := [(3, .int (x3l32 + 1)), (0, .ref (ad 0)), (1, .int x1), (2, .int x2e4)]) hx hb dX4_layOrders_45 hL (k := 3) rfl rfl (by decide) rfl (fun ls hL => ?_)
          refine lv_goto (tgt := 32) hx hb dX4_layOrders_48 (by decide) ?_
          exact ih32 _ _ _ _ _ (g_next h h932) B (lv_sub hL [1, 2, 3, 0] rfl)
    exact hl32 g_K _ _ _ _ _ h832 B (lv_sub hL [1, 2, 3, 0] rfl)
  have hl4 : ∀ (k : Nat) (x2l4 : Int32) (x3l4 : Int32) (H : Heap) (locs : List Loc) (ls : Array Slot), g_loop k (fun (s : Int32 × Int32) => f_X4_layOrders_l4 gi x1 s.1 s.2) (x2l4, x3l4) = some E4 → MB D cA ad A s gi gl H locs → lv_has ls 5 [(0, .ref (ad 0)), (1, .int x1), (2, .int x2l4), (3, .int x3l4)] → W p l e R s m args below meth c H locs 0 0 Q (F0 m 4 ls []) := by
    intro k
    induction k with
    | zero => intro x2l4 x3l4 H locs ls h; exact absurd h (fun z => g_loop_0 z)
    | succ k ih4 =>
      intro x2l4 x3l4 H locs ls h B hL
      obtain ⟨Z4, h, h94⟩ := g_loop_s h
      have h : f_X4_layOrders_l4 gi x1 x2l4 x3l4 = some Z4 := h
      unfold f_X4_layOrders_l4 at h
      refine lv_iload_n hx hb dX4_layOrders_4 rfl (lv_at hL 3 rfl) ?_
      refine lv_aload_n hx hb dX4_layOrders_5 rfl (lv_at hL 0 rfl) ?_
      refine k_X4_firsts C B (Nat.le_trans (Nat.le_of_ble_eq_true rfl) hF) (Nat.le_trans (Nat.le_of_ble_eq_true rfl) hN) hL.1 (Nat.le_of_ble_eq_true rfl) h dX4_layOrders_6 (fun q1 h H locs B => ?_)
      refine gg_icmp_ge hx hb 25 h dX4_layOrders_9 (by decide) (fun h => ?_) (fun h => ?_)
      · exact kx4 _ _ _ _ (g_exit h h94) B (lv_sub hL [0, 1, 2] rfl)
      · refine lv_iload_n hx hb dX4_layOrders_12 rfl (lv_at hL 2 rfl) ?_
        refine lv_aload_n hx hb dX4_layOrders_13 rfl (lv_at hL 0 rfl) ?_
        refine k_X4_firsts C B (Nat.le_trans (Nat.le_of_ble_eq_true rfl) hF) (Nat.le_trans (Nat.le_of_ble_eq_true rfl) hN) hL.1 (Nat.le_of_ble_eq_true rfl) h dX4_layOrders_14 (fun q2 h H locs B => ?_)
        refine lv_imul hx hb dX4_layOrders_17 ?_
        refine lv_istore_n (lv' := [(2, .int (x2l4 * q2)), (0, .ref (ad 0)), (1, .int x1), (3, .int x3l4)]) hx hb dX4_layOrders_18 rfl hL (by decide) rfl (fun ls hL => ?_)
        refine lv_iinc (v := x3l4 + 1) (lv' := [(3, .int (x3l4 + 1)), (2, .int (x2l4 * q2)), (0, .ref (ad 0)), (1, .int x1)]) hx hb dX4_layOrders_19 hL (k := 3) rfl rfl (by decide) rfl (fun ls hL => ?_)
        refine lv_goto (tgt := 4) hx hb dX4_layOrders_22 (by decide) ?_
        exact ih4 _ _ _ _ _ (g_next h h94) B (lv_sub hL [2, 3, 1, 0] rfl)
  exact hl4 g_K _ _ _ _ _ h84 B (lv_sub hL [2, 3, 1, 0] rfl)
theorem k_X4_layOrders {p : Program} {l : Launch} {e : Env} {R : Room} {s : State} {m : MethodId} {args : Array Value} {below : List Frame} {meth : Method} {c : Code} {H : Heap} {locs : List Loc} {Q : State → Prop} {pc : Nat} {ls : Array Slot} {rest : List Value} {cc : ByteArray} {nL : Nat} {D : va_G} {cA : Nat → ClassId} {ad : Nat → Nat} {A : Nat → Prop} {gi : GI} {gl : GL} {α : Type} {r : α} {x1 : Int32} {ff : GI → Option α} (C : CallFix p m c cc nL s args lw_all RX4) (B : MB D cA ad A s gi gl H locs) (hF : 4 ≤ R.frames) (hN : 89 ≤ R.locals) (hs : ls.size = nL) (hw : (rest.map fun v => v.category).sum ≤ 8) (h : (f_X4_layOrders gi x1).bind ff = some r) (hdg : decode cc pc = .ok (.invokevirtual 578, 3)) (kk : ∀ q, ff q = some r → ∀ (H' : Heap) (locs' : List Loc), MB D cA ad A s q gl H' locs' → W p l e R s m args below meth c H' locs' 0 0 Q (F0 m (pc + 3) ls (rest))) : W p l e R s m args below meth c H locs 0 0 Q (F0 m pc ls (.int x1 :: .ref (ad 0) :: rest)) := by
  obtain ⟨q, h1, h2⟩ := g_ob h
  refine mm_cVV (As := [.int x1]) (rest := rest) (n := 1) C B (fun sz => w_X4_layOrders l D cA ad gi gl x1 q h1 sz) q2409 q2411 qs136 q150 q2412 (by decide +kernel) ⟨hF, hN⟩ rfl hs hw hdg (fun u H9 locs9 hp B9 => ?_)
  obtain ⟨e1, e3⟩ := hp
  rw [e3] at B9
  subst e1
  exact kk _ h2 H9 locs9 B9
def f_X4_orders (gi : GI) (x1 : Int32) : Option (Int32 × GI) :=
  (f_X4_layOrders gi x1).bind fun q1 =>
  some (q1 0 80, q1)
set_option maxHeartbeats 400000 in
theorem w_X4_orders (l : Launch) (D : va_G) (cA : Nat → ClassId) (ad : Nat → Nat) (gi : GI) (gl : GL) (x1 : Int32) (r : Int32 × GI) (h : f_X4_orders gi x1 = some r) (sz : Nat) : Met l yX4_orders (ws_ yX4_orders cX4_orders 2 (some .int)) ({ frames := 4, cells := 0, slots := 0, locals := 89 } : Room) (va_Pc [.ref (ad 0), .int x1] (MPre D cA ad gi gl sz)) (va_Qi (fun v u => (v, u.1) = r ∧ u.2 = gl) (MPost D cA ad) (MA ad sz)) 0 0 (MA ad sz) := by
  refine mm_stI (by decide +kernel) rfl (Nat.le_of_ble_eq_true rfl) (fun p e s m args below meth c R Q A ls C hF hN B hret hL => ?_) sz
  have hx := C.1
  have hb := C.2.1
  have hL : lv_has ls 2 [(0, .ref (ad 0)), (1, .int x1)] := hL
  unfold f_X4_orders at h
  refine lv_aload_n hx hb dX4_orders_0 rfl (lv_at hL 0 rfl) ?_
  refine lv_iload_n hx hb dX4_orders_1 rfl (lv_at hL 1 rfl) ?_
  refine k_X4_layOrders C B (Nat.le_trans (Nat.le_of_ble_eq_true rfl) hF) (Nat.le_trans (Nat.le_of_ble_eq_true rfl) hN) hL.1 (Nat.le_of_ble_eq_true rfl) h dX4_orders_2 (fun q1 h H locs B => ?_)
  refine lv_aload_n hx hb dX4_orders_5 rfl (lv_at hL 0 rfl) ?_
  refine mg_80 C B dX4_orders_6 ?_
  exact hret _ _ _ _ _ _ _ ⟨Option.some.inj h, rfl⟩ B dX4_orders_9
def f_X4_sure_l17 (gii17 : GI) (x1i17 : Int32) (x3l17 : Int32) : Option ((Int32) ⊕ ((Unit) ⊕ (Int32 × GI))) :=
  if 5 ≤ x3l17 then
  (some (.inr (.inl ())))
  else
  (if (gii17 0 80) ≤ 0 then
  (some (.inr (.inl ())))
  else
  ((g_ld gii17 52 25 ((5 * x1i17) + x3l17)).bind fun v3 =>
  if v3 = (gii17 0 80) then
  (some (.inr (.inr (x3l17, gii17))))
  else
  (some (.inl (x3l17 + 1)))))
def f_X4_sure_x17 (giy17 : GI) : Option (Int32 × GI) :=
  if (giy17 0 80) = 0 then
  (some ((-1), giy17))
  else
  (some ((-2), giy17))
def f_X4_sure (gi : GI) (x1 : Int32) (x2 : Int32) : Option (Int32 × GI) :=
  (f_X4_isFirst gi x1).bind fun q1 =>
  if q1 = 0 then
  (some ((-1), gi))
  else
  ((f_X4_layOrders gi x2).bind fun q2 =>
  (g_loop g_K (fun (s : Int32) => f_X4_sure_l17 q2 x1 s) (0)).bind fun E17 => Sum.elim (fun (S17 : Unit) => f_X4_sure_x17 q2) (fun (r17 : Int32 × GI) => some r17) E17)
set_option maxHeartbeats 400000 in
theorem w_X4_sure (l : Launch) (D : va_G) (cA : Nat → ClassId) (ad : Nat → Nat) (gi : GI) (gl : GL) (x1 : Int32) (x2 : Int32) (r : Int32 × GI) (h : f_X4_sure gi x1 x2 = some r) (sz : Nat) : Met l yX4_sure (ws_ yX4_sure cX4_sure 4 (some .int)) ({ frames := 4, cells := 0, slots := 0, locals := 89 } : Room) (va_Pc [.ref (ad 0), .int x1, .int x2] (MPre D cA ad gi gl sz)) (va_Qi (fun v u => (v, u.1) = r ∧ u.2 = gl) (MPost D cA ad) (MA ad sz)) 0 0 (MA ad sz) := by
  refine mm_stI (by decide +kernel) rfl (Nat.le_of_ble_eq_true rfl) (fun p e s m args below meth c R Q A ls C hF hN B hret hL => ?_) sz
  have hx := C.1
  have hb := C.2.1
  have hL : lv_has ls 4 [(0, .ref (ad 0)), (1, .int x1), (2, .int x2)] := hL
  unfold f_X4_sure at h
  refine lv_aload_n hx hb dX4_sure_0 rfl (lv_at hL 0 rfl) ?_
  refine lv_iload_n hx hb dX4_sure_1 rfl (lv_at hL 1 rfl) ?_
  refine k_X4_isFirst C B (Nat.le_trans (Nat.le_of_ble_eq_true rfl) hF) (Nat.le_trans (Nat.le_of_ble_eq_true rfl) hN) hL.1 (Nat.le_of_ble_eq_true rfl) h dX4_sure_2 (fun q1 h H locs B => ?_)
  refine gg_if_ne hx hb 10 h dX4_sure_5 (by decide) (fun h => ?_) (fun h => ?_)
  · refine lv_aload_n hx hb dX4_sure_10 rfl (lv_at hL 0 rfl) ?_
    refine lv_iload_n hx hb dX4_sure_11 rfl (lv_at hL 2 rfl) ?_
    refine k_X4_layOrders C B (Nat.le_trans (Nat.le_of_ble_eq_true rfl) hF) (Nat.le_trans (Nat.le_of_ble_eq_true rfl) hN) hL.1 (Nat.le_of_ble_eq_true rfl) h dX4_sure_12 (fun q2 h H locs B => ?_)
    refine lv_iconst (v := 0) hx hb dX4_sure_15 (by decide) ?_
    refine lv_istore_n (lv' := [(3, .int 0), (0, .ref (ad 0)), (1, .int x1), (2, .int x2)]) hx hb dX4_sure_16 rfl hL (by decide) rfl (fun ls hL => ?_)
    obtain ⟨E17, h817, h⟩ := g_ob h
    have kx17 : ∀  (H : Heap) (locs : List Loc) (ls : Array Slot), Sum.inl () = E17 → MB D cA ad A s q2 gl H locs → lv_has ls 4 [(0, .ref (ad 0))] → W p l e R s m args below meth c H locs 0 0 Q (F0 m 54 ls []) := by
      intro  H locs ls he B hL
      subst he
      have h : f_X4_sure_x17 q2 = some r := h
      unfold f_X4_sure_x17 at h
      refine lv_aload_n hx hb dX4_sure_54 rfl (lv_at hL 0 rfl) ?_
      refine mg_80 C B dX4_sure_55 ?_
      refine gg_if_ne hx hb 65 h dX4_sure_58 (by decide) (fun h => ?_) (fun h => ?_)
      · refine lv_bipush (v := (-2)) hx hb dX4_sure_65 (by decide) ?_
        exact hret _ _ _ _ _ _ _ ⟨Option.some.inj h, rfl⟩ B dX4_sure_67
      · refine lv_iconst (v := (-1)) hx hb dX4_sure_61 (by decide) ?_
        refine lv_goto (tgt := 67) hx hb dX4_sure_62 (by decide) ?_
        exact hret _ _ _ _ _ _ _ ⟨Option.some.inj h, rfl⟩ B dX4_sure_67
    have kr17 : ∀ (v : Int32) (g' : GI) (H : Heap) (locs : List Loc) (ls : Array Slot) (pc : Nat), Sum.inr (v, g') = E17 → MB D cA ad A s g' gl H locs → decode cX4_sure pc = .ok (.ireturn, 1) → W p l e R s m args below meth c H locs 0 0 Q (F0 m pc ls [.int v]) := by
      intro v g' H locs ls pc he B hd
      subst he
      have h := g_er h
      exact hret _ _ _ _ _ _ _ ⟨Option.some.inj h, rfl⟩ B hd
    have hl17 : ∀ (k : Nat) (x3l17 : Int32) (H : Heap) (locs : List Loc) (ls : Array Slot), g_loop k (fun (s : Int32) => f_X4_sure_l17 q2 x1 s) x3l17 = some E17 → MB D cA ad A s q2 gl H locs → lv_has ls 4 [(0, .ref (ad 0)), (1, .int x1), (3, .int x3l17)] → W p l e R s m args below meth c H locs 0 0 Q (F0 m 17 ls []) := by
      intro k
      induction k with
      | zero => intro x3l17 H locs ls h; exact absurd h (fun z => g_loop_0 z)
      | succ k ih17 =>
        intro x3l17 H locs ls h B hL
        obtain ⟨Z17, h, h917⟩ := g_loop_s h
        have h : f_X4_sure_l17 q2 x1 x3l17 = some Z17 := h
        unfold f_X4_sure_l17 at h
        refine lv_iload_n hx hb dX4_sure_17 rfl (lv_at hL 2 rfl) ?_
        refine lv_iconst (v := 5) hx hb dX4_sure_18 (by decide) ?_
        refine gg_icmp_ge hx hb 54 h dX4_sure_19 (by decide) (fun h => ?_) (fun h => ?_)
        · exact kx17  _ _ _ (g_exit h h917) B (lv_sub hL [0] rfl)
        · refine lv_aload_n hx hb dX4_sure_22 rfl (lv_at hL 0 rfl) ?_
          refine mg_80 C B dX4_sure_23 ?_
          refine gg_if_le hx hb 54 h dX4_sure_26 (by decide) (fun h => ?_) (fun h => ?_)
          · exact kx17  _ _ _ (g_exit h h917) B (lv_sub hL [0] rfl)
          · refine lv_aload_n hx hb dX4_sure_29 rfl (lv_at hL 0 rfl) ?_
            refine mg_77 C B dX4_sure_30 ?_
            refine lv_iconst (v := 5) hx hb dX4_sure_33 (by decide) ?_
            refine lv_iload_n hx hb dX4_sure_34 rfl (lv_at hL 1 rfl) ?_
            refine lv_imul hx hb dX4_sure_35 ?_
            refine lv_iload_n hx hb dX4_sure_36 rfl (lv_at hL 2 rfl) ?_
            refine lv_iadd hx hb dX4_sure_37 ?_
            refine mm_iald C B (a := 52) (n := 25) (Nat.le_of_ble_eq_true rfl) rfl h dX4_sure_38 (fun v3 h => ?_)
            refine lv_aload_n hx hb dX4_sure_39 rfl (lv_at hL 0 rfl) ?_
            refine mg_80 C B dX4_sure_40 ?_
            refine gg_icmp_ne hx hb 48 h dX4_sure_43 (by decide) (fun h => ?_) (fun h => ?_)
            · refine lv_iinc (v := x3l17 + 1) (lv' := [(3, .int (x3l17 + 1)), (0, .ref (ad 0)), (1, .int x1)]) hx hb dX4_sure_48 hL (k := 2) rfl rfl (by decide) rfl (fun ls hL => ?_)
              refine lv_goto (tgt := 17) hx hb dX4_sure_51 (by decide) ?_
              exact ih17 _ _ _ _ (g_next h h917) B (lv_sub hL [1, 2, 0] rfl)
            · refine lv_iload_n hx hb dX4_sure_46 rfl (lv_at hL 2 rfl) ?_
              exact kr17 _ _ _ _ _ _ (g_exit h h917) B dX4_sure_47
    exact hl17 g_K _ _ _ _ h817 B (lv_sub hL [1, 2, 0] rfl)
  · refine lv_iconst (v := (-1)) hx hb dX4_sure_8 (by decide) ?_
    exact hret _ _ _ _ _ _ _ ⟨Option.some.inj h, rfl⟩ B dX4_sure_9
def f_X4_ask_l46 (gii46 : GI) (x1i46 : Int32) (x3i46 : Int32) (x4i46 : Int32) (x5i46 : Int32) (x6l46 : Int32) (x7l46 : Int32) : Option ((Int32 × Int32) ⊕ (Int32)) :=
  if 5 ≤ x7l46 then
  (some (.inr x6l46))
  else
  ((g_ld gii46 52 25 ((5 * x5i46) + x7l46)).bind fun v4 =>
  if v4 ≤ x6l46 then
  (some (.inl ((x6l46, x7l46 + 1))))
  else
  ((g_ld gii46 52 25 ((5 * x5i46) + x7l46)).bind fun v5 =>
  some (.inl ((v5, x7l46 + 1)))))
def f_X4_ask_j103 (gij103 : GI) (x1j103 : Int32) (x5j103 : Int32) (x6j103 : Int32) : Option ((Int32 × Int32 × Int32) ⊕ (Int32 × Int32)) :=
  some (.inl ((x5j103, x6j103, x5j103 + 1)))
def f_X4_ask_x46 (giy46 : GI) (x1y46 : Int32) (x3y46 : Int32) (x4y46 : Int32) (x5y46 : Int32) (x6e46 : Int32) : Option ((Int32 × Int32 × Int32) ⊕ (Int32 × Int32)) :=
  if x3y46 < 0 then
  (f_X4_ask_j103 giy46 x1y46 x5y46 x6e46)
  else
  (if x6e46 < x4y46 then
  (f_X4_ask_j103 giy46 x1y46 x5y46 x6e46)
  else
  (some (.inl ((x3y46, x4y46, x5y46 + 1)))))
def f_X4_ask_l24 (gii24 : GI) (x1i24 : Int32) (x3l24 : Int32) (x4l24 : Int32) (x5l24 : Int32) : Option ((Int32 × Int32 × Int32) ⊕ (Int32 × Int32)) :=
  (f_X4_firsts gii24 ).bind fun q3 =>
  if q3 ≤ x5l24 then
  (some (.inr ((x3l24, x4l24))))
  else
  (if (gii24 0 80) ≤ 0 then
  (some (.inr ((x3l24, x4l24))))
  else
  ((g_loop g_K (fun (s : Int32 × Int32) => f_X4_ask_l46 gii24 x1i24 x3l24 x4l24 x5l24 s.1 s.2) (0, 0)).bind fun E46 => f_X4_ask_x46 gii24 x1i24 x3l24 x4l24 x5l24 E46))
def f_X4_ask_x24 (giy24 : GI) (x1y24 : Int32) (x3e24 : Int32) (x4e24 : Int32) : Option (Int32 × GI) :=
  if 0 ≤ x3e24 then
  (if x1y24 = 0 then
  (some (x3e24, giy24))
  else
  (some (x4e24, giy24)))
  else
  (some ((-1), giy24))
def f_X4_ask (gi : GI) (x1 : Int32) (x2 : Int32) : Option (Int32 × GI) :=
  (f_X4_isIn gi x1 0 1).bind fun q1 =>
  if q1 = 0 then
  (some ((-1), gi))
  else
  ((f_X4_layOrders gi x2).bind fun q2 =>
  (g_loop g_K (fun (s : Int32 × Int32 × Int32) => f_X4_ask_l24 q2 x1 s.1 s.2.1 s.2.2) ((-1), 0, 0)).bind fun E24 => f_X4_ask_x24 q2 x1 E24.1 E24.2)
set_option maxHeartbeats 400000 in
theorem w_X4_ask (l : Launch) (D : va_G) (cA : Nat → ClassId) (ad : Nat → Nat) (gi : GI) (gl : GL) (x1 : Int32) (x2 : Int32) (r : Int32 × GI) (h : f_X4_ask gi x1 x2 = some r) (sz : Nat) : Met l yX4_ask (ws_ yX4_ask cX4_ask 8 (some .int)) ({ frames := 4, cells := 0, slots := 0, locals := 89 } : Room) (va_Pc [.ref (ad 0), .int x1, .int x2] (MPre D cA ad gi gl sz)) (va_Qi (fun v u => (v, u.1) = r ∧ u.2 = gl) (MPost D cA ad) (MA ad sz)) 0 0 (MA ad sz) := by
  refine mm_stI (by decide +kernel) rfl (Nat.le_of_ble_eq_true rfl) (fun p e s m args below meth c R Q A ls C hF hN B hret hL => ?_) sz
  have hx := C.1
  have hb := C.2.1
  have hL : lv_has ls 8 [(0, .ref (ad 0)), (1, .int x1), (2, .int x2)] := hL
  unfold f_X4_ask at h
  refine lv_iload_n hx hb dX4_ask_0 rfl (lv_at hL 1 rfl) ?_
  refine lv_iconst (v := 0) hx hb dX4_ask_1 (by decide) ?_
  refine lv_iconst (v := 1) hx hb dX4_ask_2 (by decide) ?_
  refine k_X4_isIn C B (Nat.le_trans (Nat.le_of_ble_eq_true rfl) hF) (Nat.le_trans (Nat.le_of_ble_eq_true rfl) hN) hL.1 (Nat.le_of_ble_eq_true rfl) h dX4_ask_3 (fun q1 h H locs B => ?_)
  refine gg_if_ne hx hb 11 h dX4_ask_6 (by decide) (fun h => ?_) (fun h => ?_)
  · refine lv_aload_n hx hb dX4_ask_11 rfl (lv_at hL 0 rfl) ?_
    refine lv_iload_n hx hb dX4_ask_12 rfl (lv_at hL 2 rfl) ?_
    refine k_X4_layOrders C B (Nat.le_trans (Nat.le_of_ble_eq_true rfl) hF) (Nat.le_trans (Nat.le_of_ble_eq_true rfl) hN) hL.1 (Nat.le_of_ble_eq_true rfl) h dX4_ask_13 (fun q2 h H locs B => ?_)
    refine lv_iconst (v := (-1)) hx hb dX4_ask_16 (by decide) ?_
    refine lv_istore_n (lv' := [(3, .int ((-1))), (0, .ref (ad 0)), (1, .int x1), (2, .int x2)]) hx hb dX4_ask_17 rfl hL (by decide) rfl (fun ls hL => ?_)
    refine lv_iconst (v := 0) hx hb dX4_ask_18 (by decide) ?_
    refine lv_istore (lv' := [(4, .int 0), (3, .int ((-1))), (0, .ref (ad 0)), (1, .int x1), (2, .int x2)]) hx hb dX4_ask_19 hL (by decide) rfl (fun ls hL => ?_)
    refine lv_iconst (v := 0) hx hb dX4_ask_21 (by decide) ?_
    refine lv_istore (lv' := [(5, .int 0), (4, .int 0), (3, .int ((-1))), (0, .ref (ad 0)), (1, .int x1), (2, .int x2)]) hx hb dX4_ask_22 hL (by decide) rfl (fun ls hL => ?_)
    obtain ⟨E24, h824, h⟩ := g_ob h
    have kx24 : ∀ (x3e24 : Int32) (x4e24 : Int32) (H : Heap) (locs : List Loc) (ls : Array Slot), (x3e24, x4e24) = E24 → MB D cA ad A s q2 gl H locs → lv_has ls 8 [(1, .int x1), (3, .int x3e24), (4, .int x4e24)] → W p l e R s m args below meth c H locs 0 0 Q (F0 m 116 ls []) := by
      intro x3e24 x4e24 H locs ls he B hL
      subst he
      have h : f_X4_ask_x24 q2 x1 x3e24 x4e24 = some r := h
      unfold f_X4_ask_x24 at h
      refine lv_iload_n hx hb dX4_ask_116 rfl (lv_at hL 1 rfl) ?_
      refine gg_if_ge hx hb 124 h dX4_ask_117 (by decide) (fun h => ?_) (fun h => ?_)
      · refine lv_iload_n hx hb dX4_ask_124 rfl (lv_at hL 0 rfl) ?_
        refine gg_if_ne hx hb 132 h dX4_ask_125 (by decide) (fun h => ?_) (fun h => ?_)
        · refine lv_iload hx hb dX4_ask_132 (lv_at hL 2 rfl) ?_
          exact hret _ _ _ _ _ _ _ ⟨Option.some.inj h, rfl⟩ B dX4_ask_134
        · refine lv_iload_n hx hb dX4_ask_128 rfl (lv_at hL 1 rfl) ?_
          refine lv_goto (tgt := 134) hx hb dX4_ask_129 (by decide) ?_
          exact hret _ _ _ _ _ _ _ ⟨Option.some.inj h, rfl⟩ B dX4_ask_134
      · refine lv_iconst (v := (-1)) hx hb dX4_ask_120 (by decide) ?_
        refine lv_goto (tgt := 134) hx hb dX4_ask_121 (by decide) ?_
        exact hret _ _ _ _ _ _ _ ⟨Option.some.inj h, rfl⟩ B dX4_ask_134
    have hl24 : ∀ (k : Nat) (x3l24 : Int32) (x4l24 : Int32) (x5l24 : Int32) (H : Heap) (locs : List Loc) (ls : Array Slot), g_loop k (fun (s : Int32 × Int32 × Int32) => f_X4_ask_l24 q2 x1 s.1 s.2.1 s.2.2) (x3l24, x4l24, x5l24) = some E24 → MB D cA ad A s q2 gl H locs → lv_has ls 8 [(0, .ref (ad 0)), (1, .int x1), (3, .int x3l24), (4, .int x4l24), (5, .int x5l24)] → W p l e R s m args below meth c H locs 0 0 Q (F0 m 24 ls []) := by
      intro k
      induction k with
      | zero => intro x3l24 x4l24 x5l24 H locs ls h; exact absurd h (fun z => g_loop_0 z)
      | succ k ih24 =>
        intro x3l24 x4l24 x5l24 H locs ls h B hL
        obtain ⟨Z24, h, h924⟩ := g_loop_s h
        have h : f_X4_ask_l24 q2 x1 x3l24 x4l24 x5l24 = some Z24 := h
        unfold f_X4_ask_l24 at h
        have hj103 : ∀ (x5j103 : Int32) (x6j103 : Int32) (H : Heap) (locs : List Loc) (ls : Array Slot), f_X4_ask_j103 q2 x1 x5j103 x6j103 = some Z24 → MB D cA ad A s q2 gl H locs → lv_has ls 8 [(0, .ref (ad 0)), (1, .int x1), (5, .int x5j103), (6, .int x6j103)] → W p l e R s m args below meth c H locs 0 0 Q (F0 m 103 ls []) := by
          intro x5j103 x6j103 H locs ls h B hL
          unfold f_X4_ask_j103 at h
          refine lv_iload hx hb dX4_ask_103 (lv_at hL 2 rfl) ?_
          refine lv_istore_n (lv' := [(3, .int x5j103), (0, .ref (ad 0)), (1, .int x1), (5, .int x5j103), (6, .int x6j103)]) hx hb dX4_ask_105 rfl hL (by decide) rfl (fun ls hL => ?_)
          refine lv_iload hx hb dX4_ask_106 (lv_at hL 4 rfl) ?_
          refine lv_istore (lv' := [(4, .int x6j103), (3, .int x5j103), (0, .ref (ad 0)), (1, .int x1), (5, .int x5j103), (6, .int x6j103)]) hx hb dX4_ask_108 hL (by decide) rfl (fun ls hL => ?_)
          refine lv_iinc (v := x5j103 + 1) (lv' := [(5, .int (x5j103 + 1)), (4, .int x6j103), (3, .int x5j103), (0, .ref (ad 0)), (1, .int x1), (6, .int x6j103)]) hx hb dX4_ask_110 hL (k := 4) rfl rfl (by decide) rfl (fun ls hL => ?_)
          refine lv_goto (tgt := 24) hx hb dX4_ask_113 (by decide) ?_
          exact ih24 _ _ _ _ _ _ (g_next h h924) B (lv_sub hL [3, 4, 2, 1, 0] rfl)
        refine lv_iload hx hb dX4_ask_24 (lv_at hL 4 rfl) ?_
        refine lv_aload_n hx hb dX4_ask_26 rfl (lv_at hL 0 rfl) ?_
        refine k_X4_firsts C B (Nat.le_trans (Nat.le_of_ble_eq_true rfl) hF) (Nat.le_trans (Nat.le_of_ble_eq_true rfl) hN) hL.1 (Nat.le_of_ble_eq_true rfl) h dX4_ask_27 (fun q3 h H locs B => ?_)
        refine gg_icmp_ge hx hb 116 h dX4_ask_30 (by decide) (fun h => ?_) (fun h => ?_)
        · exact kx24 _ _ _ _ _ (g_exit h h924) B (lv_sub hL [1, 2, 3] rfl)
        · refine lv_aload_n hx hb dX4_ask_33 rfl (lv_at hL 0 rfl) ?_
          refine mg_80 C B dX4_ask_34 ?_
          refine gg_if_le hx hb 116 h dX4_ask_37 (by decide) (fun h => ?_) (fun h => ?_)
          · exact kx24 _ _ _ _ _ (g_exit h h924) B (lv_sub hL [1, 2, 3] rfl)
          · refine lv_iconst (v := 0) hx hb dX4_ask_40 (by decide) ?_
            refine lv_istore (lv' := [(6, .int 0), (0, .ref (ad 0)), (1, .int x1), (3, .int x3l24), (4, .int x4l24), (5, .int x5l24)]) hx hb dX4_ask_41 hL (by decide) rfl (fun ls hL => ?_)
            refine lv_iconst (v := 0) hx hb dX4_ask_43 (by decide) ?_
            refine lv_istore (lv' := [(7, .int 0), (6, .int 0), (0, .ref (ad 0)), (1, .int x1), (3, .int x3l24), (4, .int x4l24), (5, .int x5l24)]) hx hb dX4_ask_44 hL (by decide) rfl (fun ls hL => ?_)
            obtain ⟨E46, h846, h⟩ := g_ob h
            have kx46 : ∀ (x6e46 : Int32) (H : Heap) (locs : List Loc) (ls : Array Slot), x6e46 = E46 → MB D cA ad A s q2 gl H locs → lv_has ls 8 [(0, .ref (ad 0)), (1, .int x1), (3, .int x3l24), (4, .int x4l24), (5, .int x5l24), (6, .int x6e46)] → W p l e R s m args below meth c H locs 0 0 Q (F0 m 89 ls []) := by
              intro x6e46 H locs ls he B hL
              subst he
              have h : f_X4_ask_x46 q2 x1 x3l24 x4l24 x5l24 x6e46 = some Z24 := h
              unfold f_X4_ask_x46 at h
              refine lv_iload_n hx hb dX4_ask_89 rfl (lv_at hL 2 rfl) ?_
              refine gg_if_lt hx hb 103 h dX4_ask_90 (by decide) (fun h => ?_) (fun h => ?_)
              · exact hj103 _ _ _ _ _ h B (lv_sub hL [0, 1, 4, 5] rfl)
              · refine lv_iload hx hb dX4_ask_93 (lv_at hL 5 rfl) ?_
                refine lv_iload hx hb dX4_ask_95 (lv_at hL 3 rfl) ?_
                refine gg_icmp_lt hx hb 103 h dX4_ask_97 (by decide) (fun h => ?_) (fun h => ?_)
                · exact hj103 _ _ _ _ _ h B (lv_sub hL [0, 1, 4, 5] rfl)
                · refine lv_goto (tgt := 110) hx hb dX4_ask_100 (by decide) ?_
                  refine lv_iinc (v := x5l24 + 1) (lv' := [(5, .int (x5l24 + 1)), (0, .ref (ad 0)), (1, .int x1), (3, .int x3l24), (4, .int x4l24), (6, .int x6e46)]) hx hb dX4_ask_110 hL (k := 4) rfl rfl (by decide) rfl (fun ls hL => ?_)
                  refine lv_goto (tgt := 24) hx hb dX4_ask_113 (by decide) ?_
                  exact ih24 _ _ _ _ _ _ (g_next h h924) B (lv_sub hL [1, 2, 3, 4, 0] rfl)
            have hl46 : ∀ (k : Nat) (x6l46 : Int32) (x7l46 : Int32) (H : Heap) (locs : List Loc) (ls : Array Slot), g_loop k (fun (s : Int32 × Int32) => f_X4_ask_l46 q2 x1 x3l24 x4l24 x5l24 s.1 s.2) (x6l46, x7l46) = some E46 → MB D cA ad A s q2 gl H locs → lv_has ls 8 [(0, .ref (ad 0)), (1, .int x1), (3, .int x3l24), (4, .int x4l24), (5, .int x5l24), (6, .int x6l46), (7, .int x7l46)] → W p l e R s m args below meth c H locs 0 0 Q (F0 m 46 ls []) := by
              intro k
              induction k with
              | zero => intro x6l46 x7l46 H locs ls h; exact absurd h (fun z => g_loop_0 z)
              | succ k ih46 =>
                intro x6l46 x7l46 H locs ls h B hL
                obtain ⟨Z46, h, h946⟩ := g_loop_s h
                have h : f_X4_ask_l46 q2 x1 x3l24 x4l24 x5l24 x6l46 x7l46 = some Z46 := h
                unfold f_X4_ask_l46 at h
                refine lv_iload hx hb dX4_ask_46 (lv_at hL 6 rfl) ?_
                refine lv_iconst (v := 5) hx hb dX4_ask_48 (by decide) ?_
                refine gg_icmp_ge hx hb 89 h dX4_ask_49 (by decide) (fun h => ?_) (fun h => ?_)
                · exact kx46 _ _ _ _ (g_exit h h946) B (lv_sub hL [0, 1, 2, 3, 4, 5] rfl)
                · refine lv_aload_n hx hb dX4_ask_52 rfl (lv_at hL 0 rfl) ?_
                  refine mg_77 C B dX4_ask_53 ?_
                  refine lv_iconst (v := 5) hx hb dX4_ask_56 (by decide) ?_
                  refine lv_iload hx hb dX4_ask_57 (lv_at hL 4 rfl) ?_
                  refine lv_imul hx hb dX4_ask_59 ?_
                  refine lv_iload hx hb dX4_ask_60 (lv_at hL 6 rfl) ?_
                  refine lv_iadd hx hb dX4_ask_62 ?_
                  refine mm_iald C B (a := 52) (n := 25) (Nat.le_of_ble_eq_true rfl) rfl h dX4_ask_63 (fun v4 h => ?_)
                  refine lv_iload hx hb dX4_ask_64 (lv_at hL 5 rfl) ?_
                  refine gg_icmp_le hx hb 83 h dX4_ask_66 (by decide) (fun h => ?_) (fun h => ?_)
                  · refine lv_iinc (v := x7l46 + 1) (lv' := [(7, .int (x7l46 + 1)), (0, .ref (ad 0)), (1, .int x1), (3, .int x3l24), (4, .int x4l24), (5, .int x5l24), (6, .int x6l46)]) hx hb dX4_ask_83 hL (k := 6) rfl rfl (by decide) rfl (fun ls hL => ?_)
                    refine lv_goto (tgt := 46) hx hb dX4_ask_86 (by decide) ?_
                    exact ih46 _ _ _ _ _ (g_next h h946) B (lv_sub hL [1, 2, 3, 4, 5, 6, 0] rfl)
                  · refine lv_aload_n hx hb dX4_ask_69 rfl (lv_at hL 0 rfl) ?_
                    refine mg_77 C B dX4_ask_70 ?_
                    refine lv_iconst (v := 5) hx hb dX4_ask_73 (by decide) ?_
                    refine lv_iload hx hb dX4_ask_74 (lv_at hL 4 rfl) ?_
                    refine lv_imul hx hb dX4_ask_76 ?_
                    refine lv_iload hx hb dX4_ask_77 (lv_at hL 6 rfl) ?_
                    refine lv_iadd hx hb dX4_ask_79 ?_
                    refine mm_iald C B (a := 52) (n := 25) (Nat.le_of_ble_eq_true rfl) rfl h dX4_ask_80 (fun v5 h => ?_)
                    refine lv_istore (lv' := [(6, .int v5), (0, .ref (ad 0)), (1, .int x1), (3, .int x3l24), (4, .int x4l24), (5, .int x5l24), (7, .int x7l46)]) hx hb dX4_ask_81 hL (by decide) rfl (fun ls hL => ?_)
                    refine lv_iinc (v := x7l46 + 1) (lv' := [(7, .int (x7l46 + 1)), (6, .int v5), (0, .ref (ad 0)), (1, .int x1), (3, .int x3l24), (4, .int x4l24), (5, .int x5l24)]) hx hb dX4_ask_83 hL (k := 6) rfl rfl (by decide) rfl (fun ls hL => ?_)
                    refine lv_goto (tgt := 46) hx hb dX4_ask_86 (by decide) ?_
                    exact ih46 _ _ _ _ _ (g_next h h946) B (lv_sub hL [2, 3, 4, 5, 6, 1, 0] rfl)
            exact hl46 g_K _ _ _ _ _ h846 B (lv_sub hL [2, 3, 4, 5, 6, 1, 0] rfl)
    exact hl24 g_K _ _ _ _ _ _ h824 B (lv_sub hL [3, 4, 2, 1, 0] rfl)
  · refine lv_iconst (v := (-1)) hx hb dX4_ask_9 (by decide) ?_
    exact hret _ _ _ _ _ _ _ ⟨Option.some.inj h, rfl⟩ B dX4_ask_10
def f_X4_image_l13 (x1i13 : Int32) (x2l13 : Int32) (gil13 : GI) : Option ((Int32 × GI) ⊕ (GI)) :=
  if 42 ≤ x2l13 then
  (some (.inr gil13))
  else
  ((g_ld gil13 33 42 x2l13).bind fun v2 =>
  (g_st gil13 53 126 ((42 * x1i13) + x2l13) v2).bind fun gi3 =>
  some (.inl ((x2l13 + 1, gi3))))
def f_X4_image_x13 (x1y13 : Int32) (gie13 : GI) : Option (Int32 × GI) :=
  (g_st gie13 54 3 x1y13 (vp_nar .boolean 1)).bind fun gi4 =>
  (g_ld gi4 33 42 40).bind fun v5 =>
  some (v5, gi4)
def f_X4_image (gi : GI) (x1 : Int32) : Option (Int32 × GI) :=
  (f_X4_isIn gi x1 0 2).bind fun q1 =>
  if q1 = 0 then
  (some ((-1), gi))
  else
  ((g_loop g_K (fun (s : Int32 × GI) => f_X4_image_l13 x1 s.1 s.2) (0, gi)).bind fun E13 => f_X4_image_x13 x1 E13)
set_option maxHeartbeats 400000 in
theorem w_X4_image (l : Launch) (D : va_G) (cA : Nat → ClassId) (ad : Nat → Nat) (gi : GI) (gl : GL) (x1 : Int32) (r : Int32 × GI) (h : f_X4_image gi x1 = some r) (sz : Nat) : Met l yX4_image (ws_ yX4_image cX4_image 3 (some .int)) ({ frames := 1, cells := 0, slots := 0, locals := 22 } : Room) (va_Pc [.ref (ad 0), .int x1] (MPre D cA ad gi gl sz)) (va_Qi (fun v u => (v, u.1) = r ∧ u.2 = gl) (MPost D cA ad) (MA ad sz)) 0 0 (MA ad sz) := by
  refine mm_stI (by decide +kernel) rfl (Nat.le_of_ble_eq_true rfl) (fun p e s m args below meth c R Q A ls C hF hN B hret hL => ?_) sz
  have hx := C.1
  have hb := C.2.1
  have hL : lv_has ls 3 [(0, .ref (ad 0)), (1, .int x1)] := hL
  unfold f_X4_image at h
  refine lv_iload_n hx hb dX4_image_0 rfl (lv_at hL 1 rfl) ?_
  refine lv_iconst (v := 0) hx hb dX4_image_1 (by decide) ?_
  refine lv_iconst (v := 2) hx hb dX4_image_2 (by decide) ?_
  refine k_X4_isIn C B (Nat.le_trans (Nat.le_of_ble_eq_true rfl) hF) (Nat.le_trans (Nat.le_of_ble_eq_true rfl) hN) hL.1 (Nat.le_of_ble_eq_true rfl) h dX4_image_3 (fun q1 h H locs B => ?_)
  refine gg_if_ne hx hb 11 h dX4_image_6 (by decide) (fun h => ?_) (fun h => ?_)
  · refine lv_iconst (v := 0) hx hb dX4_image_11 (by decide) ?_
    refine lv_istore_n (lv' := [(2, .int 0), (0, .ref (ad 0)), (1, .int x1)]) hx hb dX4_image_12 rfl hL (by decide) rfl (fun ls hL => ?_)
    obtain ⟨E13, h813, h⟩ := g_ob h
    have kx13 : ∀ (gie13 : GI) (H : Heap) (locs : List Loc) (ls : Array Slot), gie13 = E13 → MB D cA ad A s gie13 gl H locs → lv_has ls 3 [(0, .ref (ad 0)), (1, .int x1)] → W p l e R s m args below meth c H locs 0 0 Q (F0 m 42 ls []) := by
      intro gie13 H locs ls he B hL
      subst he
      have h : f_X4_image_x13 x1 gie13 = some r := h
      unfold f_X4_image_x13 at h
      refine lv_aload_n hx hb dX4_image_42 rfl (lv_at hL 0 rfl) ?_
      refine mg_82 C B dX4_image_43 ?_
      refine lv_iload_n hx hb dX4_image_46 rfl (lv_at hL 1 rfl) ?_
      refine lv_iconst (v := 1) hx hb dX4_image_47 (by decide) ?_
      refine mm_zast C B (a := 54) (n := 3) (Nat.le_of_ble_eq_true rfl) rfl h dX4_image_48 (fun gi4 h H locs B => ?_)
      refine lv_aload_n hx hb dX4_image_49 rfl (lv_at hL 0 rfl) ?_
      refine mg_48 C B dX4_image_50 ?_
      refine lv_bipush (v := 40) hx hb dX4_image_53 (by decide) ?_
      refine mm_iald C B (a := 33) (n := 42) (Nat.le_of_ble_eq_true rfl) rfl h dX4_image_55 (fun v5 h => ?_)
      exact hret _ _ _ _ _ _ _ ⟨Option.some.inj h, rfl⟩ B dX4_image_56
    have hl13 : ∀ (k : Nat) (x2l13 : Int32) (gil13 : GI) (H : Heap) (locs : List Loc) (ls : Array Slot), g_loop k (fun (s : Int32 × GI) => f_X4_image_l13 x1 s.1 s.2) (x2l13, gil13) = some E13 → MB D cA ad A s gil13 gl H locs → lv_has ls 3 [(0, .ref (ad 0)), (1, .int x1), (2, .int x2l13)] → W p l e R s m args below meth c H locs 0 0 Q (F0 m 13 ls []) := by
      intro k
      induction k with
      | zero => intro x2l13 gil13 H locs ls h; exact absurd h (fun z => g_loop_0 z)
      | succ k ih13 =>
        intro x2l13 gil13 H locs ls h B hL
        obtain ⟨Z13, h, h913⟩ := g_loop_s h
        have h : f_X4_image_l13 x1 x2l13 gil13 = some Z13 := h
        unfold f_X4_image_l13 at h
        refine lv_iload_n hx hb dX4_image_13 rfl (lv_at hL 2 rfl) ?_
        refine lv_bipush (v := 42) hx hb dX4_image_14 (by decide) ?_
        refine gg_icmp_ge hx hb 42 h dX4_image_16 (by decide) (fun h => ?_) (fun h => ?_)
        · exact kx13 _ _ _ _ (g_exit h h913) B (lv_sub hL [0, 1] rfl)
        · refine lv_aload_n hx hb dX4_image_19 rfl (lv_at hL 0 rfl) ?_
          refine mg_81 C B dX4_image_20 ?_
          refine lv_bipush (v := 42) hx hb dX4_image_23 (by decide) ?_
          refine lv_iload_n hx hb dX4_image_25 rfl (lv_at hL 1 rfl) ?_
          refine lv_imul hx hb dX4_image_26 ?_
          refine lv_iload_n hx hb dX4_image_27 rfl (lv_at hL 2 rfl) ?_
          refine lv_iadd hx hb dX4_image_28 ?_
          refine lv_aload_n hx hb dX4_image_29 rfl (lv_at hL 0 rfl) ?_
          refine mg_48 C B dX4_image_30 ?_
          refine lv_iload_n hx hb dX4_image_33 rfl (lv_at hL 2 rfl) ?_
          refine mm_iald C B (a := 33) (n := 42) (Nat.le_of_ble_eq_true rfl) rfl h dX4_image_34 (fun v2 h => ?_)
          refine mm_iast C B (a := 53) (n := 126) (Nat.le_of_ble_eq_true rfl) rfl h dX4_image_35 (fun gi3 h H locs B => ?_)
          refine lv_iinc (v := x2l13 + 1) (lv' := [(2, .int (x2l13 + 1)), (0, .ref (ad 0)), (1, .int x1)]) hx hb dX4_image_36 hL (k := 2) rfl rfl (by decide) rfl (fun ls hL => ?_)
          refine lv_goto (tgt := 13) hx hb dX4_image_39 (by decide) ?_
          exact ih13 _ _ _ _ _ (g_next h h913) B (lv_sub hL [1, 2, 0] rfl)
    exact hl13 g_K _ _ _ _ _ h813 B (lv_sub hL [1, 2, 0] rfl)
  · refine lv_iconst (v := (-1)) hx hb dX4_image_9 (by decide) ?_
    exact hret _ _ _ _ _ _ _ ⟨Option.some.inj h, rfl⟩ B dX4_image_10
def f_X4_back_l22 (x1i22 : Int32) (x2l22 : Int32) (gil22 : GI) : Option ((Int32 × GI) ⊕ (GI)) :=
  if 42 ≤ x2l22 then
  (some (.inr gil22))
  else
  ((g_ld gil22 53 126 ((42 * x1i22) + x2l22)).bind fun v3 =>
  (g_st gil22 33 42 x2l22 v3).bind fun gi4 =>
  some (.inl ((x2l22 + 1, gi4))))
def f_X4_back_x22 (gie22 : GI) : Option (Int32 × GI) :=
  (some (g_pi gie22 0 50 0)).bind fun gi5 =>
  (some (g_pi gi5 0 51 0)).bind fun gi6 =>
  (g_ld gi6 33 42 40).bind fun v7 =>
  some (v7, gi6)
def f_X4_back (gi : GI) (x1 : Int32) : Option (Int32 × GI) :=
  (f_X4_isIn gi x1 0 2).bind fun q1 =>
  if q1 = 0 then
  (some ((-1), gi))
  else
  ((g_ld gi 54 3 x1).bind fun v2 =>
  if v2 = 0 then
  (some ((-1), gi))
  else
  ((g_loop g_K (fun (s : Int32 × GI) => f_X4_back_l22 x1 s.1 s.2) (0, gi)).bind fun E22 => f_X4_back_x22 E22))
set_option maxHeartbeats 400000 in
theorem w_X4_back (l : Launch) (D : va_G) (cA : Nat → ClassId) (ad : Nat → Nat) (gi : GI) (gl : GL) (x1 : Int32) (r : Int32 × GI) (h : f_X4_back gi x1 = some r) (sz : Nat) : Met l yX4_back (ws_ yX4_back cX4_back 3 (some .int)) ({ frames := 1, cells := 0, slots := 0, locals := 22 } : Room) (va_Pc [.ref (ad 0), .int x1] (MPre D cA ad gi gl sz)) (va_Qi (fun v u => (v, u.1) = r ∧ u.2 = gl) (MPost D cA ad) (MA ad sz)) 0 0 (MA ad sz) := by
  refine mm_stI (by decide +kernel) rfl (Nat.le_of_ble_eq_true rfl) (fun p e s m args below meth c R Q A ls C hF hN B hret hL => ?_) sz
  have hx := C.1
  have hb := C.2.1
  have hL : lv_has ls 3 [(0, .ref (ad 0)), (1, .int x1)] := hL
  unfold f_X4_back at h
  refine lv_iload_n hx hb dX4_back_0 rfl (lv_at hL 1 rfl) ?_
  refine lv_iconst (v := 0) hx hb dX4_back_1 (by decide) ?_
  refine lv_iconst (v := 2) hx hb dX4_back_2 (by decide) ?_
  refine k_X4_isIn C B (Nat.le_trans (Nat.le_of_ble_eq_true rfl) hF) (Nat.le_trans (Nat.le_of_ble_eq_true rfl) hN) hL.1 (Nat.le_of_ble_eq_true rfl) h dX4_back_3 (fun q1 h H locs B => ?_)
  refine gg_if_eq hx hb 18 h dX4_back_6 (by decide) (fun h => ?_) (fun h => ?_)
  · refine lv_iconst (v := (-1)) hx hb dX4_back_18 (by decide) ?_
    exact hret _ _ _ _ _ _ _ ⟨Option.some.inj h, rfl⟩ B dX4_back_19
  · refine lv_aload_n hx hb dX4_back_9 rfl (lv_at hL 0 rfl) ?_
    refine mg_82 C B dX4_back_10 ?_
    refine lv_iload_n hx hb dX4_back_13 rfl (lv_at hL 1 rfl) ?_
    refine mm_zald C B (a := 54) (n := 3) (Nat.le_of_ble_eq_true rfl) rfl h dX4_back_14 (fun v2 h => ?_)
    refine gg_if_ne hx hb 20 h dX4_back_15 (by decide) (fun h => ?_) (fun h => ?_)
    · refine lv_iconst (v := 0) hx hb dX4_back_20 (by decide) ?_
      refine lv_istore_n (lv' := [(2, .int 0), (0, .ref (ad 0)), (1, .int x1)]) hx hb dX4_back_21 rfl hL (by decide) rfl (fun ls hL => ?_)
      obtain ⟨E22, h822, h⟩ := g_ob h
      have kx22 : ∀ (gie22 : GI) (H : Heap) (locs : List Loc) (ls : Array Slot), gie22 = E22 → MB D cA ad A s gie22 gl H locs → lv_has ls 3 [(0, .ref (ad 0))] → W p l e R s m args below meth c H locs 0 0 Q (F0 m 51 ls []) := by
        intro gie22 H locs ls he B hL
        subst he
        have h : f_X4_back_x22 gie22 = some r := h
        unfold f_X4_back_x22 at h
        refine lv_aload_n hx hb dX4_back_51 rfl (lv_at hL 0 rfl) ?_
        refine lv_iconst (v := 0) hx hb dX4_back_52 (by decide) ?_
        refine mp_50 C B h dX4_back_53 (fun gi5 h H locs B => ?_)
        refine lv_aload_n hx hb dX4_back_56 rfl (lv_at hL 0 rfl) ?_
        refine lv_iconst (v := 0) hx hb dX4_back_57 (by decide) ?_
        refine mp_51 C B h dX4_back_58 (fun gi6 h H locs B => ?_)
        refine lv_aload_n hx hb dX4_back_61 rfl (lv_at hL 0 rfl) ?_
        refine mg_48 C B dX4_back_62 ?_
        refine lv_bipush (v := 40) hx hb dX4_back_65 (by decide) ?_
        refine mm_iald C B (a := 33) (n := 42) (Nat.le_of_ble_eq_true rfl) rfl h dX4_back_67 (fun v7 h => ?_)
        exact hret _ _ _ _ _ _ _ ⟨Option.some.inj h, rfl⟩ B dX4_back_68
      have hl22 : ∀ (k : Nat) (x2l22 : Int32) (gil22 : GI) (H : Heap) (locs : List Loc) (ls : Array Slot), g_loop k (fun (s : Int32 × GI) => f_X4_back_l22 x1 s.1 s.2) (x2l22, gil22) = some E22 → MB D cA ad A s gil22 gl H locs → lv_has ls 3 [(0, .ref (ad 0)), (1, .int x1), (2, .int x2l22)] → W p l e R s m args below meth c H locs 0 0 Q (F0 m 22 ls []) := by
        intro k
        induction k with
        | zero => intro x2l22 gil22 H locs ls h; exact absurd h (fun z => g_loop_0 z)
        | succ k ih22 =>
          intro x2l22 gil22 H locs ls h B hL
          obtain ⟨Z22, h, h922⟩ := g_loop_s h
          have h : f_X4_back_l22 x1 x2l22 gil22 = some Z22 := h
          unfold f_X4_back_l22 at h
          refine lv_iload_n hx hb dX4_back_22 rfl (lv_at hL 2 rfl) ?_
          refine lv_bipush (v := 42) hx hb dX4_back_23 (by decide) ?_
          refine gg_icmp_ge hx hb 51 h dX4_back_25 (by decide) (fun h => ?_) (fun h => ?_)
          · exact kx22 _ _ _ _ (g_exit h h922) B (lv_sub hL [0] rfl)
          · refine lv_aload_n hx hb dX4_back_28 rfl (lv_at hL 0 rfl) ?_
            refine mg_48 C B dX4_back_29 ?_
            refine lv_iload_n hx hb dX4_back_32 rfl (lv_at hL 2 rfl) ?_
            refine lv_aload_n hx hb dX4_back_33 rfl (lv_at hL 0 rfl) ?_
            refine mg_81 C B dX4_back_34 ?_
            refine lv_bipush (v := 42) hx hb dX4_back_37 (by decide) ?_
            refine lv_iload_n hx hb dX4_back_39 rfl (lv_at hL 1 rfl) ?_
            refine lv_imul hx hb dX4_back_40 ?_
            refine lv_iload_n hx hb dX4_back_41 rfl (lv_at hL 2 rfl) ?_
            refine lv_iadd hx hb dX4_back_42 ?_
            refine mm_iald C B (a := 53) (n := 126) (Nat.le_of_ble_eq_true rfl) rfl h dX4_back_43 (fun v3 h => ?_)
            refine mm_iast C B (a := 33) (n := 42) (Nat.le_of_ble_eq_true rfl) rfl h dX4_back_44 (fun gi4 h H locs B => ?_)
            refine lv_iinc (v := x2l22 + 1) (lv' := [(2, .int (x2l22 + 1)), (0, .ref (ad 0)), (1, .int x1)]) hx hb dX4_back_45 hL (k := 2) rfl rfl (by decide) rfl (fun ls hL => ?_)
            refine lv_goto (tgt := 22) hx hb dX4_back_48 (by decide) ?_
            exact ih22 _ _ _ _ _ (g_next h h922) B (lv_sub hL [1, 2, 0] rfl)
      exact hl22 g_K _ _ _ _ _ h822 B (lv_sub hL [1, 2, 0] rfl)
    · refine lv_iconst (v := (-1)) hx hb dX4_back_18 (by decide) ?_
      exact hret _ _ _ _ _ _ _ ⟨Option.some.inj h, rfl⟩ B dX4_back_19
def f_X4_about (gi : GI) (x1 : Int32) : Option (Int32) :=
  if x1.toInt < 0 ∨ 13 < x1.toInt then
  (some ((-1)))
  else if x1 = 0 then
  ((f_X4_many gi ).bind fun q1 =>
  some q1)
  else if x1 = 1 then
  ((g_ld gi 3 2 (gi 0 41)).bind fun v2 =>
  some v2)
  else if x1 = 2 then
  ((g_ld gi 5 2 (gi 0 41)).bind fun v3 =>
  some v3)
  else if x1 = 3 then
  ((g_ld gi 6 2 (gi 0 41)).bind fun v4 =>
  some v4)
  else if x1 = 4 then
  ((g_ld gi 33 42 40).bind fun v5 =>
  some v5)
  else if x1 = 5 then
  ((g_ld gi 33 42 41).bind fun v6 =>
  some v6)
  else if x1 = 6 then
  ((g_ld gi 8 2 (gi 0 41)).bind fun v7 =>
  some v7)
  else if x1 = 7 then
  (some (gi 0 50))
  else if x1 = 8 then
  (some (gi 0 51))
  else if x1 = 9 then
  (some (gi 0 78))
  else if x1 = 10 then
  (some (gi 0 79))
  else if x1 = 11 then
  (some (gi 0 2))
  else if x1 = 12 then
  ((g_ld gi 7 2 (gi 0 41)).bind fun v8 =>
  some v8)
  else if x1 = 13 then
  (some (gi 0 55))
  else none
set_option maxHeartbeats 400000 in
theorem w_X4_about (l : Launch) (D : va_G) (cA : Nat → ClassId) (ad : Nat → Nat) (gi : GI) (gl : GL) (x1 : Int32) (r : Int32) (h : f_X4_about gi x1 = some r) (sz : Nat) : Met l yX4_about (ws_ yX4_about cX4_about 2 (some .int)) ({ frames := 1, cells := 0, slots := 0, locals := 20 } : Room) (va_Pc [.ref (ad 0), .int x1] (MPre D cA ad gi gl sz)) (va_Qi (fun v u => v = r ∧ u.1 = gi ∧ u.2 = gl) (MPost D cA ad) (MA ad sz)) 0 0 (MA ad sz) := by
  refine mm_stI (by decide +kernel) rfl (Nat.le_of_ble_eq_true rfl) (fun p e s m args below meth c R Q A ls C hF hN B hret hL => ?_) sz
  have hx := C.1
  have hb := C.2.1
  have hL : lv_has ls 2 [(0, .ref (ad 0)), (1, .int x1)] := hL
  unfold f_X4_about at h
  refine lv_iload_n hx hb dX4_about_0 rfl (lv_at hL 1 rfl) ?_
  rcases g_if h with ⟨hc, h⟩ | ⟨hc, h⟩
  · refine lv_tableOut (tgt := 173) hx hb dX4_about_1 hc (by decide) ?_
    refine lv_iconst (v := (-1)) hx hb dX4_about_173 (by decide) ?_
    exact hret _ _ _ _ _ _ _ ⟨Option.some.inj h, rfl, rfl⟩ B dX4_about_174
  · rcases g_if h with ⟨he, h⟩ | ⟨_, h⟩
    · refine lv_tableIn (off := 71) (tgt := 72) hx hb dX4_about_1 (by rw [he]; decide) (by rw [he]; decide) (by rw [he]; rfl) (by decide) ?_
      refine lv_aload_n hx hb dX4_about_72 rfl (lv_at hL 0 rfl) ?_
      refine k_X4_many C B (Nat.le_trans (Nat.le_of_ble_eq_true rfl) hF) (Nat.le_trans (Nat.le_of_ble_eq_true rfl) hN) hL.1 (Nat.le_of_ble_eq_true rfl) h dX4_about_73 (fun q1 h H locs B => ?_)
      exact hret _ _ _ _ _ _ _ ⟨Option.some.inj h, rfl, rfl⟩ B dX4_about_76
    · rcases g_if h with ⟨he, h⟩ | ⟨_, h⟩
      · refine lv_tableIn (off := 76) (tgt := 77) hx hb dX4_about_1 (by rw [he]; decide) (by rw [he]; decide) (by rw [he]; rfl) (by decide) ?_
        refine lv_aload_n hx hb dX4_about_77 rfl (lv_at hL 0 rfl) ?_
        refine mg_11 C B dX4_about_78 ?_
        refine lv_aload_n hx hb dX4_about_81 rfl (lv_at hL 0 rfl) ?_
        refine mg_41 C B dX4_about_82 ?_
        refine mm_iald C B (a := 3) (n := 2) (Nat.le_of_ble_eq_true rfl) rfl h dX4_about_85 (fun v2 h => ?_)
        exact hret _ _ _ _ _ _ _ ⟨Option.some.inj h, rfl, rfl⟩ B dX4_about_86
      · rcases g_if h with ⟨he, h⟩ | ⟨_, h⟩
        · refine lv_tableIn (off := 86) (tgt := 87) hx hb dX4_about_1 (by rw [he]; decide) (by rw [he]; decide) (by rw [he]; rfl) (by decide) ?_
          refine lv_aload_n hx hb dX4_about_87 rfl (lv_at hL 0 rfl) ?_
          refine mg_13 C B dX4_about_88 ?_
          refine lv_aload_n hx hb dX4_about_91 rfl (lv_at hL 0 rfl) ?_
          refine mg_41 C B dX4_about_92 ?_
          refine mm_iald C B (a := 5) (n := 2) (Nat.le_of_ble_eq_true rfl) rfl h dX4_about_95 (fun v3 h => ?_)
          exact hret _ _ _ _ _ _ _ ⟨Option.some.inj h, rfl, rfl⟩ B dX4_about_96
        · rcases g_if h with ⟨he, h⟩ | ⟨_, h⟩
          · refine lv_tableIn (off := 96) (tgt := 97) hx hb dX4_about_1 (by rw [he]; decide) (by rw [he]; decide) (by rw [he]; rfl) (by decide) ?_
            refine lv_aload_n hx hb dX4_about_97 rfl (lv_at hL 0 rfl) ?_
            refine mg_14 C B dX4_about_98 ?_
            refine lv_aload_n hx hb dX4_about_101 rfl (lv_at hL 0 rfl) ?_
            refine mg_41 C B dX4_about_102 ?_
            refine mm_iald C B (a := 6) (n := 2) (Nat.le_of_ble_eq_true rfl) rfl h dX4_about_105 (fun v4 h => ?_)
            exact hret _ _ _ _ _ _ _ ⟨Option.some.inj h, rfl, rfl⟩ B dX4_about_106
          · rcases g_if h with ⟨he, h⟩ | ⟨_, h⟩
            · refine lv_tableIn (off := 106) (tgt := 107) hx hb dX4_about_1 (by rw [he]; decide) (by rw [he]; decide) (by rw [he]; rfl) (by decide) ?_
              refine lv_aload_n hx hb dX4_about_107 rfl (lv_at hL 0 rfl) ?_
              refine mg_48 C B dX4_about_108 ?_
              refine lv_bipush (v := 40) hx hb dX4_about_111 (by decide) ?_
              refine mm_iald C B (a := 33) (n := 42) (Nat.le_of_ble_eq_true rfl) rfl h dX4_about_113 (fun v5 h => ?_)
              exact hret _ _ _ _ _ _ _ ⟨Option.some.inj h, rfl, rfl⟩ B dX4_about_114
            · rcases g_if h with ⟨he, h⟩ | ⟨_, h⟩
              · refine lv_tableIn (off := 114) (tgt := 115) hx hb dX4_about_1 (by rw [he]; decide) (by rw [he]; decide) (by rw [he]; rfl) (by decide) ?_
                refine lv_aload_n hx hb dX4_about_115 rfl (lv_at hL 0 rfl) ?_
                refine mg_48 C B dX4_about_116 ?_
                refine lv_bipush (v := 41) hx hb dX4_about_119 (by decide) ?_
                refine mm_iald C B (a := 33) (n := 42) (Nat.le_of_ble_eq_true rfl) rfl h dX4_about_121 (fun v6 h => ?_)
                exact hret _ _ _ _ _ _ _ ⟨Option.some.inj h, rfl, rfl⟩ B dX4_about_122
              · rcases g_if h with ⟨he, h⟩ | ⟨_, h⟩
                · refine lv_tableIn (off := 122) (tgt := 123) hx hb dX4_about_1 (by rw [he]; decide) (by rw [he]; decide) (by rw [he]; rfl) (by decide) ?_
                  refine lv_aload_n hx hb dX4_about_123 rfl (lv_at hL 0 rfl) ?_
                  refine mg_16 C B dX4_about_124 ?_
                  refine lv_aload_n hx hb dX4_about_127 rfl (lv_at hL 0 rfl) ?_
                  refine mg_41 C B dX4_about_128 ?_
                  refine mm_iald C B (a := 8) (n := 2) (Nat.le_of_ble_eq_true rfl) rfl h dX4_about_131 (fun v7 h => ?_)
                  exact hret _ _ _ _ _ _ _ ⟨Option.some.inj h, rfl, rfl⟩ B dX4_about_132
                · rcases g_if h with ⟨he, h⟩ | ⟨_, h⟩
                  · refine lv_tableIn (off := 132) (tgt := 133) hx hb dX4_about_1 (by rw [he]; decide) (by rw [he]; decide) (by rw [he]; rfl) (by decide) ?_
                    refine lv_aload_n hx hb dX4_about_133 rfl (lv_at hL 0 rfl) ?_
                    refine mg_50 C B dX4_about_134 ?_
                    exact hret _ _ _ _ _ _ _ ⟨Option.some.inj h, rfl, rfl⟩ B dX4_about_137
                  · rcases g_if h with ⟨he, h⟩ | ⟨_, h⟩
                    · refine lv_tableIn (off := 137) (tgt := 138) hx hb dX4_about_1 (by rw [he]; decide) (by rw [he]; decide) (by rw [he]; rfl) (by decide) ?_
                      refine lv_aload_n hx hb dX4_about_138 rfl (lv_at hL 0 rfl) ?_
                      refine mg_51 C B dX4_about_139 ?_
                      exact hret _ _ _ _ _ _ _ ⟨Option.some.inj h, rfl, rfl⟩ B dX4_about_142
                    · rcases g_if h with ⟨he, h⟩ | ⟨_, h⟩
                      · refine lv_tableIn (off := 142) (tgt := 143) hx hb dX4_about_1 (by rw [he]; decide) (by rw [he]; decide) (by rw [he]; rfl) (by decide) ?_
                        refine lv_aload_n hx hb dX4_about_143 rfl (lv_at hL 0 rfl) ?_
                        refine mg_78 C B dX4_about_144 ?_
                        exact hret _ _ _ _ _ _ _ ⟨Option.some.inj h, rfl, rfl⟩ B dX4_about_147
                      · rcases g_if h with ⟨he, h⟩ | ⟨_, h⟩
                        · refine lv_tableIn (off := 147) (tgt := 148) hx hb dX4_about_1 (by rw [he]; decide) (by rw [he]; decide) (by rw [he]; rfl) (by decide) ?_
                          refine lv_aload_n hx hb dX4_about_148 rfl (lv_at hL 0 rfl) ?_
                          refine mg_79 C B dX4_about_149 ?_
                          exact hret _ _ _ _ _ _ _ ⟨Option.some.inj h, rfl, rfl⟩ B dX4_about_152
                        · rcases g_if h with ⟨he, h⟩ | ⟨_, h⟩
                          · refine lv_tableIn (off := 152) (tgt := 153) hx hb dX4_about_1 (by rw [he]; decide) (by rw [he]; decide) (by rw [he]; rfl) (by decide) ?_
                            refine lv_aload_n hx hb dX4_about_153 rfl (lv_at hL 0 rfl) ?_
                            refine mg_2 C B dX4_about_154 ?_
                            exact hret _ _ _ _ _ _ _ ⟨Option.some.inj h, rfl, rfl⟩ B dX4_about_157
                          · rcases g_if h with ⟨he, h⟩ | ⟨_, h⟩
                            · refine lv_tableIn (off := 157) (tgt := 158) hx hb dX4_about_1 (by rw [he]; decide) (by rw [he]; decide) (by rw [he]; rfl) (by decide) ?_
                              refine lv_aload_n hx hb dX4_about_158 rfl (lv_at hL 0 rfl) ?_
                              refine mg_15 C B dX4_about_159 ?_
                              refine lv_aload_n hx hb dX4_about_162 rfl (lv_at hL 0 rfl) ?_
                              refine mg_41 C B dX4_about_163 ?_
                              refine mm_iald C B (a := 7) (n := 2) (Nat.le_of_ble_eq_true rfl) rfl h dX4_about_166 (fun v8 h => ?_)
                              exact hret _ _ _ _ _ _ _ ⟨Option.some.inj h, rfl, rfl⟩ B dX4_about_167
                            · rcases g_if h with ⟨he, h⟩ | ⟨_, h⟩
                              · refine lv_tableIn (off := 167) (tgt := 168) hx hb dX4_about_1 (by rw [he]; decide) (by rw [he]; decide) (by rw [he]; rfl) (by decide) ?_
                                refine lv_aload_n hx hb dX4_about_168 rfl (lv_at hL 0 rfl) ?_
                                refine mg_55 C B dX4_about_169 ?_
                                exact hret _ _ _ _ _ _ _ ⟨Option.some.inj h, rfl, rfl⟩ B dX4_about_172
                              · cases h
def f_X4_feed_j71 (x1j71 : Int32) (x2j71 : Int32) (x3j71 : Int32) (x4j71 : Int32) (x5j71 : Int32) (gij71 : GI) (x6j71 : Int32) (t0j71 : Int32) : Option ((Int32 × GI) ⊕ (GI)) :=
  (g_st gij71 1 1620 ((gij71 0 2) + x6j71) (vp_nar .byte ((t0j71 >>> ((24 - (8 * (x6j71 &&& 3))) &&& 31)).toInt8.toInt32))).bind fun gi1 =>
  some (.inl ((x6j71 + 1, gi1)))
def f_X4_feed_l18 (x1i18 : Int32) (x2i18 : Int32) (x3i18 : Int32) (x4i18 : Int32) (x5i18 : Int32) (x6l18 : Int32) (gil18 : GI) : Option ((Int32 × GI) ⊕ (GI)) :=
  if 20 ≤ x6l18 then
  (some (.inr gil18))
  else
  (if 4 ≤ x6l18 then
  (if 8 ≤ x6l18 then
  (if 12 ≤ x6l18 then
  (if 16 ≤ x6l18 then
  (f_X4_feed_j71 x1i18 x2i18 x3i18 x4i18 x5i18 gil18 x6l18 x5i18)
  else
  (f_X4_feed_j71 x1i18 x2i18 x3i18 x4i18 x5i18 gil18 x6l18 x4i18))
  else
  (f_X4_feed_j71 x1i18 x2i18 x3i18 x4i18 x5i18 gil18 x6l18 x3i18))
  else
  (f_X4_feed_j71 x1i18 x2i18 x3i18 x4i18 x5i18 gil18 x6l18 x2i18))
  else
  (f_X4_feed_j71 x1i18 x2i18 x3i18 x4i18 x5i18 gil18 x6l18 x1i18))
def f_X4_feed_x18 (gie18 : GI) : Option (Int32 × GI) :=
  (some (g_pi gie18 0 2 ((gie18 0 2) + 20))).bind fun gi2 =>
  some (gi2 0 2, gi2)
def f_X4_feed (gi : GI) (x1 : Int32) (x2 : Int32) (x3 : Int32) (x4 : Int32) (x5 : Int32) : Option (Int32 × GI) :=
  if ((gi 0 2) + 20) ≤ 1600 then
  ((g_loop g_K (fun (s : Int32 × GI) => f_X4_feed_l18 x1 x2 x3 x4 x5 s.1 s.2) (0, gi)).bind fun E18 => f_X4_feed_x18 E18)
  else
  (some ((-1), gi))
set_option maxHeartbeats 400000 in
theorem w_X4_feed (l : Launch) (D : va_G) (cA : Nat → ClassId) (ad : Nat → Nat) (gi : GI) (gl : GL) (x1 : Int32) (x2 : Int32) (x3 : Int32) (x4 : Int32) (x5 : Int32) (r : Int32 × GI) (h : f_X4_feed gi x1 x2 x3 x4 x5 = some r) (sz : Nat) : Met l yX4_feed (ws_ yX4_feed cX4_feed 8 (some .int)) ({ frames := 0, cells := 0, slots := 0, locals := 0 } : Room) (va_Pc [.ref (ad 0), .int x1, .int x2, .int x3, .int x4, .int x5] (MPre D cA ad gi gl sz)) (va_Qi (fun v u => (v, u.1) = r ∧ u.2 = gl) (MPost D cA ad) (MA ad sz)) 0 0 (MA ad sz) := by
  refine mm_stI (by decide +kernel) rfl (Nat.le_of_ble_eq_true rfl) (fun p e s m args below meth c R Q A ls C hF hN B hret hL => ?_) sz
  have hx := C.1
  have hb := C.2.1
  have hL : lv_has ls 8 [(0, .ref (ad 0)), (1, .int x1), (2, .int x2), (3, .int x3), (4, .int x4), (5, .int x5)] := hL
  unfold f_X4_feed at h
  refine lv_aload_n hx hb dX4_feed_0 rfl (lv_at hL 0 rfl) ?_
  refine mg_2 C B dX4_feed_1 ?_
  refine lv_bipush (v := 20) hx hb dX4_feed_4 (by decide) ?_
  refine lv_iadd hx hb dX4_feed_6 ?_
  refine lv_sipush (v := 1600) hx hb dX4_feed_7 (by decide) ?_
  refine gg_icmp_le hx hb 15 h dX4_feed_10 (by decide) (fun h => ?_) (fun h => ?_)
  · refine lv_iconst (v := 0) hx hb dX4_feed_15 (by decide) ?_
    refine lv_istore (lv' := [(6, .int 0), (0, .ref (ad 0)), (1, .int x1), (2, .int x2), (3, .int x3), (4, .int x4), (5, .int x5)]) hx hb dX4_feed_16 hL (by decide) rfl (fun ls hL => ?_)
    obtain ⟨E18, h818, h⟩ := g_ob h
    have kx18 : ∀ (gie18 : GI) (H : Heap) (locs : List Loc) (ls : Array Slot), gie18 = E18 → MB D cA ad A s gie18 gl H locs → lv_has ls 8 [(0, .ref (ad 0))] → W p l e R s m args below meth c H locs 0 0 Q (F0 m 105 ls []) := by
      intro gie18 H locs ls he B hL
      subst he
      have h : f_X4_feed_x18 gie18 = some r := h
      unfold f_X4_feed_x18 at h
      refine lv_aload_n hx hb dX4_feed_105 rfl (lv_at hL 0 rfl) ?_
      refine lv_dup hx hb dX4_feed_106 rfl ?_
      refine mg_2 C B dX4_feed_107 ?_
      refine lv_bipush (v := 20) hx hb dX4_feed_110 (by decide) ?_
      refine lv_iadd hx hb dX4_feed_112 ?_
      refine mp_2 C B h dX4_feed_113 (fun gi2 h H locs B => ?_)
      refine lv_aload_n hx hb dX4_feed_116 rfl (lv_at hL 0 rfl) ?_
      refine mg_2 C B dX4_feed_117 ?_
      exact hret _ _ _ _ _ _ _ ⟨Option.some.inj h, rfl⟩ B dX4_feed_120
    have hl18 : ∀ (k : Nat) (x6l18 : Int32) (gil18 : GI) (H : Heap) (locs : List Loc) (ls : Array Slot), g_loop k (fun (s : Int32 × GI) => f_X4_feed_l18 x1 x2 x3 x4 x5 s.1 s.2) (x6l18, gil18) = some E18 → MB D cA ad A s gil18 gl H locs → lv_has ls 8 [(0, .ref (ad 0)), (1, .int x1), (2, .int x2), (3, .int x3), (4, .int x4), (5, .int x5), (6, .int x6l18)] → W p l e R s m args below meth c H locs 0 0 Q (F0 m 18 ls []) := by
      intro k
      induction k with
      | zero => intro x6l18 gil18 H locs ls h; exact absurd h (fun z => g_loop_0 z)
      | succ k ih18 =>
        intro x6l18 gil18 H locs ls h B hL
        obtain ⟨Z18, h, h918⟩ := g_loop_s h
        have h : f_X4_feed_l18 x1 x2 x3 x4 x5 x6l18 gil18 = some Z18 := h
        unfold f_X4_feed_l18 at h
        have hj71 : ∀ (gij71 : GI) (x6j71 : Int32) (t0j71 : Int32) (H : Heap) (locs : List Loc) (ls : Array Slot), f_X4_feed_j71 x1 x2 x3 x4 x5 gij71 x6j71 t0j71 = some Z18 → MB D cA ad A s gij71 gl H locs → lv_has ls 8 [(0, .ref (ad 0)), (1, .int x1), (2, .int x2), (3, .int x3), (4, .int x4), (5, .int x5), (6, .int x6j71)] → W p l e R s m args below meth c H locs 0 0 Q (F0 m 71 ls [.int t0j71]) := by
          intro gij71 x6j71 t0j71 H locs ls h B hL
          unfold f_X4_feed_j71 at h
          refine lv_istore (lv' := [(7, .int t0j71), (0, .ref (ad 0)), (1, .int x1), (2, .int x2), (3, .int x3), (4, .int x4), (5, .int x5), (6, .int x6j71)]) hx hb dX4_feed_71 hL (by decide) rfl (fun ls hL => ?_)
          refine lv_aload_n hx hb dX4_feed_73 rfl (lv_at hL 1 rfl) ?_
          refine mg_0 C B dX4_feed_74 ?_
          refine lv_aload_n hx hb dX4_feed_77 rfl (lv_at hL 1 rfl) ?_
          refine mg_2 C B dX4_feed_78 ?_
          refine lv_iload hx hb dX4_feed_81 (lv_at hL 7 rfl) ?_
          refine lv_iadd hx hb dX4_feed_83 ?_
          refine lv_iload hx hb dX4_feed_84 (lv_at hL 0 rfl) ?_
          refine lv_bipush (v := 24) hx hb dX4_feed_86 (by decide) ?_
          refine lv_bipush (v := 8) hx hb dX4_feed_88 (by decide) ?_
          refine lv_iload hx hb dX4_feed_90 (lv_at hL 7 rfl) ?_
          refine lv_iconst (v := 3) hx hb dX4_feed_92 (by decide) ?_
          refine lv_iand hx hb dX4_feed_93 ?_
          refine lv_imul hx hb dX4_feed_94 ?_
          refine lv_isub hx hb dX4_feed_95 ?_
          refine lv_ishr hx hb dX4_feed_96 ?_
          refine lv_i2b hx hb dX4_feed_97 rfl ?_
          refine mm_bast C B (a := 1) (n := 1620) (Nat.le_of_ble_eq_true rfl) rfl h dX4_feed_98 (fun gi1 h H locs B => ?_)
          refine lv_iinc (v := x6j71 + 1) (lv' := [(6, .int (x6j71 + 1)), (7, .int t0j71), (0, .ref (ad 0)), (1, .int x1), (2, .int x2), (3, .int x3), (4, .int x4), (5, .int x5)]) hx hb dX4_feed_99 hL (k := 7) rfl rfl (by decide) rfl (fun ls hL => ?_)
          refine lv_goto (tgt := 18) hx hb dX4_feed_102 (by decide) ?_
          exact ih18 _ _ _ _ _ (g_next h h918) B (lv_sub hL [2, 3, 4, 5, 6, 7, 0] rfl)
        refine lv_iload hx hb dX4_feed_18 (lv_at hL 6 rfl) ?_
        refine lv_bipush (v := 20) hx hb dX4_feed_20 (by decide) ?_
        refine gg_icmp_ge hx hb 105 h dX4_feed_22 (by decide) (fun h => ?_) (fun h => ?_)
        · exact kx18 _ _ _ _ (g_exit h h918) B (lv_sub hL [0] rfl)
        · refine lv_iload hx hb dX4_feed_25 (lv_at hL 6 rfl) ?_
          refine lv_iconst (v := 4) hx hb dX4_feed_27 (by decide) ?_
          refine gg_icmp_ge hx hb 35 h dX4_feed_28 (by decide) (fun h => ?_) (fun h => ?_)
          · refine lv_iload hx hb dX4_feed_35 (lv_at hL 6 rfl) ?_
            refine lv_bipush (v := 8) hx hb dX4_feed_37 (by decide) ?_
            refine gg_icmp_ge hx hb 46 h dX4_feed_39 (by decide) (fun h => ?_) (fun h => ?_)
            · refine lv_iload hx hb dX4_feed_46 (lv_at hL 6 rfl) ?_
              refine lv_bipush (v := 12) hx hb dX4_feed_48 (by decide) ?_
              refine gg_icmp_ge hx hb 57 h dX4_feed_50 (by decide) (fun h => ?_) (fun h => ?_)
              · refine lv_iload hx hb dX4_feed_57 (lv_at hL 6 rfl) ?_
                refine lv_bipush (v := 16) hx hb dX4_feed_59 (by decide) ?_
                refine gg_icmp_ge hx hb 69 h dX4_feed_61 (by decide) (fun h => ?_) (fun h => ?_)
                · refine lv_iload hx hb dX4_feed_69 (lv_at hL 5 rfl) ?_
                  exact hj71 _ _ _ _ _ _ h B (lv_sub hL [0, 1, 2, 3, 4, 5, 6] rfl)
                · refine lv_iload hx hb dX4_feed_64 (lv_at hL 4 rfl) ?_
                  refine lv_goto (tgt := 71) hx hb dX4_feed_66 (by decide) ?_
                  exact hj71 _ _ _ _ _ _ h B (lv_sub hL [0, 1, 2, 3, 4, 5, 6] rfl)
              · refine lv_iload_n hx hb dX4_feed_53 rfl (lv_at hL 3 rfl) ?_
                refine lv_goto (tgt := 71) hx hb dX4_feed_54 (by decide) ?_
                exact hj71 _ _ _ _ _ _ h B (lv_sub hL [0, 1, 2, 3, 4, 5, 6] rfl)
            · refine lv_iload_n hx hb dX4_feed_42 rfl (lv_at hL 2 rfl) ?_
              refine lv_goto (tgt := 71) hx hb dX4_feed_43 (by decide) ?_
              exact hj71 _ _ _ _ _ _ h B (lv_sub hL [0, 1, 2, 3, 4, 5, 6] rfl)
          · refine lv_iload_n hx hb dX4_feed_31 rfl (lv_at hL 1 rfl) ?_
            refine lv_goto (tgt := 71) hx hb dX4_feed_32 (by decide) ?_
            exact hj71 _ _ _ _ _ _ h B (lv_sub hL [0, 1, 2, 3, 4, 5, 6] rfl)
    exact hl18 g_K _ _ _ _ _ h818 B (lv_sub hL [1, 2, 3, 4, 5, 6, 0] rfl)
  · refine lv_iconst (v := (-1)) hx hb dX4_feed_13 (by decide) ?_
    exact hret _ _ _ _ _ _ _ ⟨Option.some.inj h, rfl⟩ B dX4_feed_14
def f_X4_end (gi : GI) (x1 : Int32) : Option (Int32 × GI) :=
  if x1 < 0 then
  (some ((-1), gi))
  else
  (if x1 ≤ (gi 0 2) then
  ((some (g_pi gi 0 2 x1)).bind fun gi1 =>
  some (x1, gi1))
  else
  (some ((-1), gi)))
set_option maxHeartbeats 400000 in
theorem w_X4_end (l : Launch) (D : va_G) (cA : Nat → ClassId) (ad : Nat → Nat) (gi : GI) (gl : GL) (x1 : Int32) (r : Int32 × GI) (h : f_X4_end gi x1 = some r) (sz : Nat) : Met l yX4_end (ws_ yX4_end cX4_end 2 (some .int)) ({ frames := 0, cells := 0, slots := 0, locals := 0 } : Room) (va_Pc [.ref (ad 0), .int x1] (MPre D cA ad gi gl sz)) (va_Qi (fun v u => (v, u.1) = r ∧ u.2 = gl) (MPost D cA ad) (MA ad sz)) 0 0 (MA ad sz) := by
  refine mm_stI (by decide +kernel) rfl (Nat.le_of_ble_eq_true rfl) (fun p e s m args below meth c R Q A ls C hF hN B hret hL => ?_) sz
  have hx := C.1
  have hb := C.2.1
  have hL : lv_has ls 2 [(0, .ref (ad 0)), (1, .int x1)] := hL
  unfold f_X4_end at h
  refine lv_iload_n hx hb dX4_end_0 rfl (lv_at hL 1 rfl) ?_
  refine gg_if_lt hx hb 12 h dX4_end_1 (by decide) (fun h => ?_) (fun h => ?_)
  · refine lv_iconst (v := (-1)) hx hb dX4_end_12 (by decide) ?_
    exact hret _ _ _ _ _ _ _ ⟨Option.some.inj h, rfl⟩ B dX4_end_13
  · refine lv_iload_n hx hb dX4_end_4 rfl (lv_at hL 1 rfl) ?_
    refine lv_aload_n hx hb dX4_end_5 rfl (lv_at hL 0 rfl) ?_
    refine mg_2 C B dX4_end_6 ?_
    refine gg_icmp_le hx hb 14 h dX4_end_9 (by decide) (fun h => ?_) (fun h => ?_)
    · refine lv_aload_n hx hb dX4_end_14 rfl (lv_at hL 0 rfl) ?_
      refine lv_iload_n hx hb dX4_end_15 rfl (lv_at hL 1 rfl) ?_
      refine mp_2 C B h dX4_end_16 (fun gi1 h H locs B => ?_)
      refine lv_iload_n hx hb dX4_end_19 rfl (lv_at hL 1 rfl) ?_
      exact hret _ _ _ _ _ _ _ ⟨Option.some.inj h, rfl⟩ B dX4_end_20
    · refine lv_iconst (v := (-1)) hx hb dX4_end_12 (by decide) ?_
      exact hret _ _ _ _ _ _ _ ⟨Option.some.inj h, rfl⟩ B dX4_end_13

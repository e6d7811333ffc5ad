/-! THE MODEL: methods 0 .. 37: what each computes (f_..), its contract (w_..), its call row (k_..) -/
set_option maxRecDepth 100000
def f_X4_clearBank_l129 (x1l129 : Int32) (gil129 : GI) : Option ((Int32 × GI) ⊕ (GI)) :=
  if ((9 * (gil129 0 42)) + 9) ≤ x1l129 then
  (some (.inr gil129))
  else
  ((g_st gil129 18 18 x1l129 0).bind fun gi13 =>
  some (.inl ((x1l129 + 1, gi13))))
def f_X4_clearBank_x129 (gie129 : GI) : Option (GI) :=
  (some (g_pi gie129 0 43 (560 * (gie129 0 42)))).bind fun gi14 =>
  some gi14
def f_X4_clearBank (gi : GI)  : Option (GI) :=
  (g_st gi 3 2 (gi 0 42) 0).bind fun gi1 =>
  (g_st gi1 4 2 (gi1 0 42) 0).bind fun gi2 =>
  (g_st gi2 5 2 (gi2 0 42) 0).bind fun gi3 =>
  (g_st gi3 6 2 (gi3 0 42) 0).bind fun gi4 =>
  (g_st gi4 7 2 (gi4 0 42) 0).bind fun gi5 =>
  (g_st gi5 8 2 (gi5 0 42) 6).bind fun gi6 =>
  (g_st gi6 9 2 (gi6 0 42) 0).bind fun gi7 =>
  (g_st gi7 10 2 (gi7 0 42) 0).bind fun gi8 =>
  (g_st gi8 11 2 (gi8 0 42) 0).bind fun gi9 =>
  (g_st gi9 23 2 (gi9 0 42) (vp_nar .boolean 0)).bind fun gi10 =>
  (g_st gi10 24 2 (gi10 0 42) (vp_nar .boolean 0)).bind fun gi11 =>
  (g_st gi11 25 2 (gi11 0 42) (vp_nar .boolean 0)).bind fun gi12 =>
  (g_loop g_K (fun (s : Int32 × GI) => f_X4_clearBank_l129 s.1 s.2) (9 * (gi12 0 42), gi12)).bind fun E129 => f_X4_clearBank_x129 E129
set_option maxHeartbeats 400000 in
theorem w_X4_clearBank (l : Launch) (D : va_G) (cA : Nat → ClassId) (ad : Nat → Nat) (gi : GI) (gl : GL)  (r : GI) (h : f_X4_clearBank gi  = some r) (sz : Nat) : Met l yX4_clearBank (ws_ yX4_clearBank cX4_clearBank 2 (none)) ({ frames := 0, cells := 0, slots := 0, locals := 0 } : Room) (va_Pc [.ref (ad 0)] (MPre D cA ad gi gl sz)) (va_Qv (fun u => u.1 = r ∧ u.2 = gl) (MPost D cA ad) (MA ad sz)) 0 0 (MA ad sz) := by
  refine mm_stV (by decide +kernel) rfl (Nat.le_of_ble_eq_true rfl) (fun p e s m args below meth c R Q A ls C hF hN B hret hL => ?_) sz
  have hx := C.1
  have hb := C.2.1
  have hL : lv_has ls 2 [(0, .ref (ad 0))] := hL
  unfold f_X4_clearBank at h
  refine lv_aload_n hx hb dX4_clearBank_0 rfl (lv_at hL 0 rfl) ?_
  refine mg_11 C B dX4_clearBank_1 ?_
  refine lv_aload_n hx hb dX4_clearBank_4 rfl (lv_at hL 0 rfl) ?_
  refine mg_42 C B dX4_clearBank_5 ?_
  refine lv_iconst (v := 0) hx hb dX4_clearBank_8 (by decide) ?_
  refine mm_iast C B (a := 3) (n := 2) (Nat.le_of_ble_eq_true rfl) rfl h dX4_clearBank_9 (fun gi1 h H locs B => ?_)
  refine lv_aload_n hx hb dX4_clearBank_10 rfl (lv_at hL 0 rfl) ?_
  refine mg_12 C B dX4_clearBank_11 ?_
  refine lv_aload_n hx hb dX4_clearBank_14 rfl (lv_at hL 0 rfl) ?_
  refine mg_42 C B dX4_clearBank_15 ?_
  refine lv_iconst (v := 0) hx hb dX4_clearBank_18 (by decide) ?_
  refine mm_iast C B (a := 4) (n := 2) (Nat.le_of_ble_eq_true rfl) rfl h dX4_clearBank_19 (fun gi2 h H locs B => ?_)
  refine lv_aload_n hx hb dX4_clearBank_20 rfl (lv_at hL 0 rfl) ?_
  refine mg_13 C B dX4_clearBank_21 ?_
  refine lv_aload_n hx hb dX4_clearBank_24 rfl (lv_at hL 0 rfl) ?_
  refine mg_42 C B dX4_clearBank_25 ?_
  refine lv_iconst (v := 0) hx hb dX4_clearBank_28 (by decide) ?_
  refine mm_iast C B (a := 5) (n := 2) (Nat.le_of_ble_eq_true rfl) rfl h dX4_clearBank_29 (fun gi3 h H locs B => ?_)
  refine lv_aload_n hx hb dX4_clearBank_30 rfl (lv_at hL 0 rfl) ?_
  refine mg_14 C B dX4_clearBank_31 ?_
  refine lv_aload_n hx hb dX4_clearBank_34 rfl (lv_at hL 0 rfl) ?_
  refine mg_42 C B dX4_clearBank_35 ?_
  refine lv_iconst (v := 0) hx hb dX4_clearBank_38 (by decide) ?_
  refine mm_iast C B (a := 6) (n := 2) (Nat.le_of_ble_eq_true rfl) rfl h dX4_clearBank_39 (fun gi4 h H locs B => ?_)
  refine lv_aload_n hx hb dX4_clearBank_40 rfl (lv_at hL 0 rfl) ?_
  refine mg_15 C B dX4_clearBank_41 ?_
  refine lv_aload_n hx hb dX4_clearBank_44 rfl (lv_at hL 0 rfl) ?_
  refine mg_42 C B dX4_clearBank_45 ?_
  refine lv_iconst (v := 0) hx hb dX4_clearBank_48 (by decide) ?_
  refine mm_iast C B (a := 7) (n := 2) (Nat.le_of_ble_eq_true rfl) rfl h dX4_clearBank_49 (fun gi5 h H locs B => ?_)
  refine lv_aload_n hx hb dX4_clearBank_50 rfl (lv_at hL 0 rfl) ?_
  refine mg_16 C B dX4_clearBank_51 ?_
  refine lv_aload_n hx hb dX4_clearBank_54 rfl (lv_at hL 0 rfl) ?_
  refine mg_42 C B dX4_clearBank_55 ?_
  refine lv_bipush (v := 6) hx hb dX4_clearBank_58 (by decide) ?_
  refine mm_iast C B (a := 8) (n := 2) (Nat.le_of_ble_eq_true rfl) rfl h dX4_clearBank_60 (fun gi6 h H locs B => ?_)
  refine lv_aload_n hx hb dX4_clearBank_61 rfl (lv_at hL 0 rfl) ?_
  refine mg_17 C B dX4_clearBank_62 ?_
  refine lv_aload_n hx hb dX4_clearBank_65 rfl (lv_at hL 0 rfl) ?_
  refine mg_42 C B dX4_clearBank_66 ?_
  refine lv_iconst (v := 0) hx hb dX4_clearBank_69 (by decide) ?_
  refine mm_iast C B (a := 9) (n := 2) (Nat.le_of_ble_eq_true rfl) rfl h dX4_clearBank_70 (fun gi7 h H locs B => ?_)
  refine lv_aload_n hx hb dX4_clearBank_71 rfl (lv_at hL 0 rfl) ?_
  refine mg_18 C B dX4_clearBank_72 ?_
  refine lv_aload_n hx hb dX4_clearBank_75 rfl (lv_at hL 0 rfl) ?_
  refine mg_42 C B dX4_clearBank_76 ?_
  refine lv_iconst (v := 0) hx hb dX4_clearBank_79 (by decide) ?_
  refine mm_iast C B (a := 10) (n := 2) (Nat.le_of_ble_eq_true rfl) rfl h dX4_clearBank_80 (fun gi8 h H locs B => ?_)
  refine lv_aload_n hx hb dX4_clearBank_81 rfl (lv_at hL 0 rfl) ?_
  refine mg_19 C B dX4_clearBank_82 ?_
  refine lv_aload_n hx hb dX4_clearBank_85 rfl (lv_at hL 0 rfl) ?_
  refine mg_42 C B dX4_clearBank_86 ?_
  refine lv_iconst (v := 0) hx hb dX4_clearBank_89 (by decide) ?_
  refine mm_iast C B (a := 11) (n := 2) (Nat.le_of_ble_eq_true rfl) rfl h dX4_clearBank_90 (fun gi9 h H locs B => ?_)
  refine lv_aload_n hx hb dX4_clearBank_91 rfl (lv_at hL 0 rfl) ?_
  refine mg_31 C B dX4_clearBank_92 ?_
  refine lv_aload_n hx hb dX4_clearBank_95 rfl (lv_at hL 0 rfl) ?_
  refine mg_42 C B dX4_clearBank_96 ?_
  refine lv_iconst (v := 0) hx hb dX4_clearBank_99 (by decide) ?_
  refine mm_zast C B (a := 23) (n := 2) (Nat.le_of_ble_eq_true rfl) rfl h dX4_clearBank_100 (fun gi10 h H locs B => ?_)
  refine lv_aload_n hx hb dX4_clearBank_101 rfl (lv_at hL 0 rfl) ?_
  refine mg_32 C B dX4_clearBank_102 ?_
  refine lv_aload_n hx hb dX4_clearBank_105 rfl (lv_at hL 0 rfl) ?_
  refine mg_42 C B dX4_clearBank_106 ?_
  refine lv_iconst (v := 0) hx hb dX4_clearBank_109 (by decide) ?_
  refine mm_zast C B (a := 24) (n := 2) (Nat.le_of_ble_eq_true rfl) rfl h dX4_clearBank_110 (fun gi11 h H locs B => ?_)
  refine lv_aload_n hx hb dX4_clearBank_111 rfl (lv_at hL 0 rfl) ?_
  refine mg_33 C B dX4_clearBank_112 ?_
  refine lv_aload_n hx hb dX4_clearBank_115 rfl (lv_at hL 0 rfl) ?_
  refine mg_42 C B dX4_clearBank_116 ?_
  refine lv_iconst (v := 0) hx hb dX4_clearBank_119 (by decide) ?_
  refine mm_zast C B (a := 25) (n := 2) (Nat.le_of_ble_eq_true rfl) rfl h dX4_clearBank_120 (fun gi12 h H locs B => ?_)
  refine lv_bipush (v := 9) hx hb dX4_clearBank_121 (by decide) ?_
  refine lv_aload_n hx hb dX4_clearBank_123 rfl (lv_at hL 0 rfl) ?_
  refine mg_42 C B dX4_clearBank_124 ?_
  refine lv_imul hx hb dX4_clearBank_127 ?_
  refine lv_istore_n (lv' := [(1, .int (9 * (gi12 0 42))), (0, .ref (ad 0))]) hx hb dX4_clearBank_128 rfl hL (by decide) rfl (fun ls hL => ?_)
  obtain ⟨E129, h8129, h⟩ := g_ob h
  have kx129 : ∀ (gie129 : GI) (H : Heap) (locs : List Loc) (ls : Array Slot), gie129 = E129 → MB D cA ad A s gie129 gl H locs → lv_has ls 2 [(0, .ref (ad 0))] → W p l e R s m args below meth c H locs 0 0 Q (F0 m 156 ls []) := by
    intro gie129 H locs ls he B hL
    subst he
    have h : f_X4_clearBank_x129 gie129 = some r := h
    unfold f_X4_clearBank_x129 at h
    refine lv_aload_n hx hb dX4_clearBank_156 rfl (lv_at hL 0 rfl) ?_
    refine lv_sipush (v := 560) hx hb dX4_clearBank_157 (by decide) ?_
    refine lv_aload_n hx hb dX4_clearBank_160 rfl (lv_at hL 0 rfl) ?_
    refine mg_42 C B dX4_clearBank_161 ?_
    refine lv_imul hx hb dX4_clearBank_164 ?_
    refine mp_43 C B h dX4_clearBank_165 (fun gi14 h H locs B => ?_)
    exact hret _ _ _ _ _ _ ⟨Option.some.inj h, rfl⟩ B dX4_clearBank_168
  have hl129 : ∀ (k : Nat) (x1l129 : Int32) (gil129 : GI) (H : Heap) (locs : List Loc) (ls : Array Slot), g_loop k (fun (s : Int32 × GI) => f_X4_clearBank_l129 s.1 s.2) (x1l129, gil129) = some E129 → MB D cA ad A s gil129 gl H locs → lv_has ls 2 [(0, .ref (ad 0)), (1, .int x1l129)] → W p l e R s m args below meth c H locs 0 0 Q (F0 m 129 ls []) := by
    intro k
    induction k with
    | zero => intro x1l129 gil129 H locs ls h; exact absurd h (fun z => g_loop_0 z)
    | succ k ih129 =>
      intro x1l129 gil129 H locs ls h B hL
      obtain ⟨Z129, h, h9129⟩ := g_loop_s h
      have h : f_X4_clearBank_l129 x1l129 gil129 = some Z129 := h
      unfold f_X4_clearBank_l129 at h
      refine lv_iload_n hx hb dX4_clearBank_129 rfl (lv_at hL 1 rfl) ?_
      refine lv_bipush (v := 9) hx hb dX4_clearBank_130 (by decide) ?_
      refine lv_aload_n hx hb dX4_clearBank_132 rfl (lv_at hL 0 rfl) ?_
      refine mg_42 C B dX4_clearBank_133 ?_
      refine lv_imul hx hb dX4_clearBank_136 ?_
      refine lv_bipush (v := 9) hx hb dX4_clearBank_137 (by decide) ?_
      refine lv_iadd hx hb dX4_clearBank_139 ?_
      refine gg_icmp_ge hx hb 156 h dX4_clearBank_140 (by decide) (fun h => ?_) (fun h => ?_)
      · exact kx129 _ _ _ _ (g_exit h h9129) B (lv_sub hL [0] rfl)
      · refine lv_aload_n hx hb dX4_clearBank_143 rfl (lv_at hL 0 rfl) ?_
        refine mg_26 C B dX4_clearBank_144 ?_
        refine lv_iload_n hx hb dX4_clearBank_147 rfl (lv_at hL 1 rfl) ?_
        refine lv_iconst (v := 0) hx hb dX4_clearBank_148 (by decide) ?_
        refine mm_iast C B (a := 18) (n := 18) (Nat.le_of_ble_eq_true rfl) rfl h dX4_clearBank_149 (fun gi13 h H locs B => ?_)
        refine lv_iinc (v := x1l129 + 1) (lv' := [(1, .int (x1l129 + 1)), (0, .ref (ad 0))]) hx hb dX4_clearBank_150 hL (k := 1) rfl rfl (by decide) rfl (fun ls hL => ?_)
        refine lv_goto (tgt := 129) hx hb dX4_clearBank_153 (by decide) ?_
        exact ih129 _ _ _ _ _ (g_next h h9129) B (lv_sub hL [1, 0] rfl)
  exact hl129 g_K _ _ _ _ _ h8129 B (lv_sub hL [1, 0] rfl)
theorem k_X4_clearBank {p : Program} {l : Launch} {e : Env} {R : Room} {s : State} {m : MethodId} {args : Array Value} {below : List Frame} {meth : Method} {c : Code} {H : Heap} {locs : List Loc} {Q : State → Prop} {pc : Nat} {ls : Array Slot} {rest : List Value} {cc : ByteArray} {nL : Nat} {D : va_G} {cA : Nat → ClassId} {ad : Nat → Nat} {A : Nat → Prop} {gi : GI} {gl : GL} {α : Type} {r : α}  {ff : GI → Option α} (C : CallFix p m c cc nL s args lw_all RX4) (B : MB D cA ad A s gi gl H locs) (hF : 1 ≤ R.frames) (hN : 21 ≤ R.locals) (hs : ls.size = nL) (hw : (rest.map fun v => v.category).sum ≤ 8) (h : (f_X4_clearBank gi ).bind ff = some r) (hdg : decode cc pc = .ok (.invokevirtual 179, 3)) (kk : ∀ q, ff q = some r → ∀ (H' : Heap) (locs' : List Loc), MB D cA ad A s q gl H' locs' → W p l e R s m args below meth c H' locs' 0 0 Q (F0 m (pc + 3) ls (rest))) : W p l e R s m args below meth c H locs 0 0 Q (F0 m pc ls (.ref (ad 0) :: rest)) := by
  obtain ⟨q, h1, h2⟩ := g_ob h
  refine mm_cVV (As := []) (rest := rest) (n := 0) C B (fun sz => w_X4_clearBank l D cA ad gi gl  q h1 sz) q1691 q1693 qs66 q150 q1694 (by decide +kernel) ⟨hF, hN⟩ rfl hs hw hdg (fun u H9 locs9 hp B9 => ?_)
  obtain ⟨e1, e3⟩ := hp
  rw [e3] at B9
  subst e1
  exact kk _ h2 H9 locs9 B9
def f_X4_many (gi : GI)  : Option (Int32) :=
  (g_ld gi 4 2 (gi 0 41)).bind fun v1 =>
  some v1
set_option maxHeartbeats 400000 in
theorem w_X4_many (l : Launch) (D : va_G) (cA : Nat → ClassId) (ad : Nat → Nat) (gi : GI) (gl : GL)  (r : Int32) (h : f_X4_many gi  = some r) (sz : Nat) : Met l yX4_many (ws_ yX4_many cX4_many 1 (some .int)) ({ frames := 0, cells := 0, slots := 0, locals := 0 } : Room) (va_Pc [.ref (ad 0)] (MPre D cA ad gi gl sz)) (va_Qi (fun v u => v = r ∧ u.1 = gi ∧ u.2 = gl) (MPost D cA ad) (MA ad sz)) 0 0 (MA ad sz) := by
  refine mm_stI (by decide +kernel) rfl (Nat.le_of_ble_eq_true rfl) (fun p e s m args below meth c R Q A ls C hF hN B hret hL => ?_) sz
  have hx := C.1
  have hb := C.2.1
  have hL : lv_has ls 1 [(0, .ref (ad 0))] := hL
  unfold f_X4_many at h
  refine lv_aload_n hx hb dX4_many_0 rfl (lv_at hL 0 rfl) ?_
  refine mg_12 C B dX4_many_1 ?_
  refine lv_aload_n hx hb dX4_many_4 rfl (lv_at hL 0 rfl) ?_
  refine mg_41 C B dX4_many_5 ?_
  refine mm_iald C B (a := 4) (n := 2) (Nat.le_of_ble_eq_true rfl) rfl h dX4_many_8 (fun v1 h => ?_)
  exact hret _ _ _ _ _ _ _ ⟨Option.some.inj h, rfl, rfl⟩ B dX4_many_9
theorem k_X4_many {p : Program} {l : Launch} {e : Env} {R : Room} {s : State} {m : MethodId} {args : Array Value} {below : List Frame} {meth : Method} {c : Code} {H : Heap} {locs : List Loc} {Q : State → Prop} {pc : Nat} {ls : Array Slot} {rest : List Value} {cc : ByteArray} {nL : Nat} {D : va_G} {cA : Nat → ClassId} {ad : Nat → Nat} {A : Nat → Prop} {gi : GI} {gl : GL} {α : Type} {r : α}  {ff : Int32 → Option α} (C : CallFix p m c cc nL s args lw_all RX4) (B : MB D cA ad A s gi gl H locs) (hF : 1 ≤ R.frames) (hN : 20 ≤ R.locals) (hs : ls.size = nL) (hw : (rest.map fun v => v.category).sum ≤ 8) (h : (f_X4_many gi ).bind ff = some r) (hdg : decode cc pc = .ok (.invokevirtual 398, 3)) (kk : ∀ q, ff q = some r → ∀ (H' : Heap) (locs' : List Loc), MB D cA ad A s gi gl H' locs' → W p l e R s m args below meth c H' locs' 0 0 Q (F0 m (pc + 3) ls (.int q :: rest))) : W p l e R s m args below meth c H locs 0 0 Q (F0 m pc ls (.ref (ad 0) :: rest)) := by
  obtain ⟨q, h1, h2⟩ := g_ob h
  refine mm_cVI (As := []) (rest := rest) (n := 0) C B (fun sz => w_X4_many l D cA ad gi gl  q h1 sz) q1699 q1701 qs68 q150 q1702 (by decide +kernel) ⟨hF, hN⟩ rfl hs hw hdg (fun v u H9 locs9 hp B9 => ?_)
  obtain ⟨e1, e2, e3⟩ := hp
  rw [e2] at B9
  rw [e3] at B9
  subst e1
  exact kk _ h2 H9 locs9 B9
def f_X4_startAnew_l2 (x1l2 : Int32) (gil2 : GI) : Option ((Int32 × GI) ⊕ (GI)) :=
  if 42 ≤ x1l2 then
  (some (.inr gil2))
  else
  ((g_st gil2 33 42 x1l2 0).bind fun gi1 =>
  some (.inl ((x1l2 + 1, gi1))))
def f_X4_startAnew_l55 (x1i55 : Int32) (x2l55 : Int32) (gil55 : GI) : Option ((Int32 × GI) ⊕ (GI)) :=
  if 3 ≤ x2l55 then
  (some (.inr gil55))
  else
  ((g_ld gil55 14 30 ((3 * ((5 * (gil55 0 41)) + x1i55)) + x2l55)).bind fun v5 =>
  (g_st gil55 33 42 ((0 + (3 * x1i55)) + x2l55) v5).bind fun gi6 =>
  some (.inl ((x2l55 + 1, gi6))))
def f_X4_startAnew_x55 (x1y55 : Int32) (gie55 : GI) : Option ((Int32 × GI) ⊕ (GI)) :=
  some (.inl ((x1y55 + 1, gie55)))
def f_X4_startAnew_l23 (x1l23 : Int32) (gil23 : GI) : Option ((Int32 × GI) ⊕ (GI)) :=
  (f_X4_many gil23 ).bind fun q2 =>
  if q2 ≤ x1l23 then
  (some (.inr gil23))
  else
  ((g_ld gil23 12 10 ((5 * (gil23 0 41)) + x1l23)).bind fun v3 =>
  (g_st gil23 33 42 (15 + x1l23) v3).bind fun gi4 =>
  (g_loop g_K (fun (s : Int32 × GI) => f_X4_startAnew_l55 x1l23 s.1 s.2) (0, gi4)).bind fun E55 => f_X4_startAnew_x55 x1l23 E55)
def f_X4_startAnew_l139 (x1l139 : Int32) (gil139 : GI) : Option ((Int32 × GI) ⊕ (GI)) :=
  if 3 ≤ x1l139 then
  (some (.inr gil139))
  else
  ((g_st gil139 54 3 x1l139 (vp_nar .boolean 0)).bind fun gi13 =>
  some (.inl ((x1l139 + 1, gi13))))
def f_X4_startAnew_x139 (gie139 : GI) : Option (GI) :=
  some gie139
def f_X4_startAnew_x23 (gie23 : GI) : Option (GI) :=
  (g_ld gie23 9 2 (gie23 0 41)).bind fun v7 =>
  (g_st gie23 33 42 41 v7).bind fun gi8 =>
  (some (g_pi gi8 0 50 0)).bind fun gi9 =>
  (some (g_pi gi9 0 51 0)).bind fun gi10 =>
  (some (g_pi gi10 0 78 0)).bind fun gi11 =>
  (some (g_pi gi11 0 55 0)).bind fun gi12 =>
  (g_loop g_K (fun (s : Int32 × GI) => f_X4_startAnew_l139 s.1 s.2) (0, gi12)).bind fun E139 => f_X4_startAnew_x139 E139
def f_X4_startAnew_x2 (gie2 : GI) : Option (GI) :=
  (g_loop g_K (fun (s : Int32 × GI) => f_X4_startAnew_l23 s.1 s.2) (0, gie2)).bind fun E23 => f_X4_startAnew_x23 E23
def f_X4_startAnew (gi : GI)  : Option (GI) :=
  (g_loop g_K (fun (s : Int32 × GI) => f_X4_startAnew_l2 s.1 s.2) (0, gi)).bind fun E2 => f_X4_startAnew_x2 E2
set_option maxHeartbeats 400000 in
theorem w_X4_startAnew (l : Launch) (D : va_G) (cA : Nat → ClassId) (ad : Nat → Nat) (gi : GI) (gl : GL)  (r : GI) (h : f_X4_startAnew gi  = some r) (sz : Nat) : Met l yX4_startAnew (ws_ yX4_startAnew cX4_startAnew 3 (none)) ({ frames := 1, cells := 0, slots := 0, locals := 20 } : Room) (va_Pc [.ref (ad 0)] (MPre D cA ad gi gl sz)) (va_Qv (fun u => u.1 = r ∧ u.2 = gl) (MPost D cA ad) (MA ad sz)) 0 0 (MA ad sz) := by
  refine mm_stV (by decide +kernel) rfl (Nat.le_of_ble_eq_true rfl) (fun p e s m args below meth c R Q A ls C hF hN B hret hL => ?_) sz
  have hx := C.1
  have hb := C.2.1
  have hL : lv_has ls 3 [(0, .ref (ad 0))] := hL
  unfold f_X4_startAnew at h
  refine lv_iconst (v := 0) hx hb dX4_startAnew_0 (by decide) ?_
  refine lv_istore_n (lv' := [(1, .int 0), (0, .ref (ad 0))]) hx hb dX4_startAnew_1 rfl hL (by decide) rfl (fun ls hL => ?_)
  obtain ⟨E2, h82, h⟩ := g_ob h
  have kx2 : ∀ (gie2 : GI) (H : Heap) (locs : List Loc) (ls : Array Slot), gie2 = E2 → MB D cA ad A s gie2 gl H locs → lv_has ls 3 [(0, .ref (ad 0))] → W p l e R s m args below meth c H locs 0 0 Q (F0 m 21 ls []) := by
    intro gie2 H locs ls he B hL
    subst he
    have h : f_X4_startAnew_x2 gie2 = some r := h
    unfold f_X4_startAnew_x2 at h
    refine lv_iconst (v := 0) hx hb dX4_startAnew_21 (by decide) ?_
    refine lv_istore_n (lv' := [(1, .int 0), (0, .ref (ad 0))]) hx hb dX4_startAnew_22 rfl hL (by decide) rfl (fun ls hL => ?_)
    obtain ⟨E23, h823, h⟩ := g_ob h
    have kx23 : ∀ (gie23 : GI) (H : Heap) (locs : List Loc) (ls : Array Slot), gie23 = E23 → MB D cA ad A s gie23 gl H locs → lv_has ls 3 [(0, .ref (ad 0))] → W p l e R s m args below meth c H locs 0 0 Q (F0 m 101 ls []) := by
      intro gie23 H locs ls he B hL
      subst he
      have h : f_X4_startAnew_x23 gie23 = some r := h
      unfold f_X4_startAnew_x23 at h
      refine lv_aload_n hx hb dX4_startAnew_101 rfl (lv_at hL 0 rfl) ?_
      refine mg_48 C B dX4_startAnew_102 ?_
      refine lv_bipush (v := 41) hx hb dX4_startAnew_105 (by decide) ?_
      refine lv_aload_n hx hb dX4_startAnew_107 rfl (lv_at hL 0 rfl) ?_
      refine mg_17 C B dX4_startAnew_108 ?_
      refine lv_aload_n hx hb dX4_startAnew_111 rfl (lv_at hL 0 rfl) ?_
      refine mg_41 C B dX4_startAnew_112 ?_
      refine mm_iald C B (a := 9) (n := 2) (Nat.le_of_ble_eq_true rfl) rfl h dX4_startAnew_115 (fun v7 h => ?_)
      refine mm_iast C B (a := 33) (n := 42) (Nat.le_of_ble_eq_true rfl) rfl h dX4_startAnew_116 (fun gi8 h H locs B => ?_)
      refine lv_aload_n hx hb dX4_startAnew_117 rfl (lv_at hL 0 rfl) ?_
      refine lv_iconst (v := 0) hx hb dX4_startAnew_118 (by decide) ?_
      refine mp_50 C B h dX4_startAnew_119 (fun gi9 h H locs B => ?_)
      refine lv_aload_n hx hb dX4_startAnew_122 rfl (lv_at hL 0 rfl) ?_
      refine lv_iconst (v := 0) hx hb dX4_startAnew_123 (by decide) ?_
      refine mp_51 C B h dX4_startAnew_124 (fun gi10 h H locs B => ?_)
      refine lv_aload_n hx hb dX4_startAnew_127 rfl (lv_at hL 0 rfl) ?_
      refine lv_iconst (v := 0) hx hb dX4_startAnew_128 (by decide) ?_
      refine mp_78 C B h dX4_startAnew_129 (fun gi11 h H locs B => ?_)
      refine lv_aload_n hx hb dX4_startAnew_132 rfl (lv_at hL 0 rfl) ?_
      refine lv_iconst (v := 0) hx hb dX4_startAnew_133 (by decide) ?_
      refine mp_55 C B h dX4_startAnew_134 (fun gi12 h H locs B => ?_)
      refine lv_iconst (v := 0) hx hb dX4_startAnew_137 (by decide) ?_
      refine lv_istore_n (lv' := [(1, .int 0), (0, .ref (ad 0))]) hx hb dX4_startAnew_138 rfl hL (by decide) rfl (fun ls hL => ?_)
      obtain ⟨E139, h8139, h⟩ := g_ob h
      have kx139 : ∀ (gie139 : GI) (H : Heap) (locs : List Loc) (ls : Array Slot), gie139 = E139 → MB D cA ad A s gie139 gl H locs → lv_has ls 3 [] → W p l e R s m args below meth c H locs 0 0 Q (F0 m 157 ls []) := by
        intro gie139 H locs ls he B hL
        subst he
        have h : f_X4_startAnew_x139 gie139 = some r := h
        unfold f_X4_startAnew_x139 at h
        exact hret _ _ _ _ _ _ ⟨Option.some.inj h, rfl⟩ B dX4_startAnew_157
      have hl139 : ∀ (k : Nat) (x1l139 : Int32) (gil139 : GI) (H : Heap) (locs : List Loc) (ls : Array Slot), g_loop k (fun (s : Int32 × GI) => f_X4_startAnew_l139 s.1 s.2) (x1l139, gil139) = some E139 → MB D cA ad A s gil139 gl H locs → lv_has ls 3 [(0, .ref (ad 0)), (1, .int x1l139)] → W p l e R s m args below meth c H locs 0 0 Q (F0 m 139 ls []) := by
        intro k
        induction k with
        | zero => intro x1l139 gil139 H locs ls h; exact absurd h (fun z => g_loop_0 z)
        | succ k ih139 =>
          intro x1l139 gil139 H locs ls h B hL
          obtain ⟨Z139, h, h9139⟩ := g_loop_s h
          have h : f_X4_startAnew_l139 x1l139 gil139 = some Z139 := h
          unfold f_X4_startAnew_l139 at h
          refine lv_iload_n hx hb dX4_startAnew_139 rfl (lv_at hL 1 rfl) ?_
          refine lv_iconst (v := 3) hx hb dX4_startAnew_140 (by decide) ?_
          refine gg_icmp_ge hx hb 157 h dX4_startAnew_141 (by decide) (fun h => ?_) (fun h => ?_)
          · exact kx139 _ _ _ _ (g_exit h h9139) B (lv_sub hL [] rfl)
          · refine lv_aload_n hx hb dX4_startAnew_144 rfl (lv_at hL 0 rfl) ?_
            refine mg_82 C B dX4_startAnew_145 ?_
            refine lv_iload_n hx hb dX4_startAnew_148 rfl (lv_at hL 1 rfl) ?_
            refine lv_iconst (v := 0) hx hb dX4_startAnew_149 (by decide) ?_
            refine mm_zast C B (a := 54) (n := 3) (Nat.le_of_ble_eq_true rfl) rfl h dX4_startAnew_150 (fun gi13 h H locs B => ?_)
            refine lv_iinc (v := x1l139 + 1) (lv' := [(1, .int (x1l139 + 1)), (0, .ref (ad 0))]) hx hb dX4_startAnew_151 hL (k := 1) rfl rfl (by decide) rfl (fun ls hL => ?_)
            refine lv_goto (tgt := 139) hx hb dX4_startAnew_154 (by decide) ?_
            exact ih139 _ _ _ _ _ (g_next h h9139) B (lv_sub hL [1, 0] rfl)
      exact hl139 g_K _ _ _ _ _ h8139 B (lv_sub hL [1, 0] rfl)
    have hl23 : ∀ (k : Nat) (x1l23 : Int32) (gil23 : GI) (H : Heap) (locs : List Loc) (ls : Array Slot), g_loop k (fun (s : Int32 × GI) => f_X4_startAnew_l23 s.1 s.2) (x1l23, gil23) = some E23 → MB D cA ad A s gil23 gl H locs → lv_has ls 3 [(0, .ref (ad 0)), (1, .int x1l23)] → W p l e R s m args below meth c H locs 0 0 Q (F0 m 23 ls []) := by
      intro k
      induction k with
      | zero => intro x1l23 gil23 H locs ls h; exact absurd h (fun z => g_loop_0 z)
      | succ k ih23 =>
        intro x1l23 gil23 H locs ls h B hL
        obtain ⟨Z23, h, h923⟩ := g_loop_s h
        have h : f_X4_startAnew_l23 x1l23 gil23 = some Z23 := h
        unfold f_X4_startAnew_l23 at h
        refine lv_iload_n hx hb dX4_startAnew_23 rfl (lv_at hL 1 rfl) ?_
        refine lv_aload_n hx hb dX4_startAnew_24 rfl (lv_at hL 0 rfl) ?_
        refine k_X4_many C B (Nat.le_trans (Nat.le_of_ble_eq_true rfl) hF) (Nat.le_trans (Nat.le_of_ble_eq_true rfl) hN) hL.1 (Nat.le_of_ble_eq_true rfl) h dX4_startAnew_25 (fun q2 h H locs B => ?_)
        refine gg_icmp_ge hx hb 101 h dX4_startAnew_28 (by decide) (fun h => ?_) (fun h => ?_)
        · exact kx23 _ _ _ _ (g_exit h h923) B (lv_sub hL [0] rfl)
        · refine lv_aload_n hx hb dX4_startAnew_31 rfl (lv_at hL 0 rfl) ?_
          refine mg_48 C B dX4_startAnew_32 ?_
          refine lv_bipush (v := 15) hx hb dX4_startAnew_35 (by decide) ?_
          refine lv_iload_n hx hb dX4_startAnew_37 rfl (lv_at hL 1 rfl) ?_
          refine lv_iadd hx hb dX4_startAnew_38 ?_
          refine lv_aload_n hx hb dX4_startAnew_39 rfl (lv_at hL 0 rfl) ?_
          refine mg_20 C B dX4_startAnew_40 ?_
          refine lv_iconst (v := 5) hx hb dX4_startAnew_43 (by decide) ?_
          refine lv_aload_n hx hb dX4_startAnew_44 rfl (lv_at hL 0 rfl) ?_
          refine mg_41 C B dX4_startAnew_45 ?_
          refine lv_imul hx hb dX4_startAnew_48 ?_
          refine lv_iload_n hx hb dX4_startAnew_49 rfl (lv_at hL 1 rfl) ?_
          refine lv_iadd hx hb dX4_startAnew_50 ?_
          refine mm_iald C B (a := 12) (n := 10) (Nat.le_of_ble_eq_true rfl) rfl h dX4_startAnew_51 (fun v3 h => ?_)
          refine mm_iast C B (a := 33) (n := 42) (Nat.le_of_ble_eq_true rfl) rfl h dX4_startAnew_52 (fun gi4 h H locs B => ?_)
          refine lv_iconst (v := 0) hx hb dX4_startAnew_53 (by decide) ?_
          refine lv_istore_n (lv' := [(2, .int 0), (0, .ref (ad 0)), (1, .int x1l23)]) hx hb dX4_startAnew_54 rfl hL (by decide) rfl (fun ls hL => ?_)
          obtain ⟨E55, h855, h⟩ := g_ob h
          have kx55 : ∀ (gie55 : GI) (H : Heap) (locs : List Loc) (ls : Array Slot), gie55 = E55 → MB D cA ad A s gie55 gl H locs → lv_has ls 3 [(0, .ref (ad 0)), (1, .int x1l23)] → W p l e R s m args below meth c H locs 0 0 Q (F0 m 95 ls []) := by
            intro gie55 H locs ls he B hL
            subst he
            have h : f_X4_startAnew_x55 x1l23 gie55 = some Z23 := h
            unfold f_X4_startAnew_x55 at h
            refine lv_iinc (v := x1l23 + 1) (lv' := [(1, .int (x1l23 + 1)), (0, .ref (ad 0))]) hx hb dX4_startAnew_95 hL (k := 1) rfl rfl (by decide) rfl (fun ls hL => ?_)
            refine lv_goto (tgt := 23) hx hb dX4_startAnew_98 (by decide) ?_
            exact ih23 _ _ _ _ _ (g_next h h923) B (lv_sub hL [1, 0] rfl)
          have hl55 : ∀ (k : Nat) (x2l55 : Int32) (gil55 : GI) (H : Heap) (locs : List Loc) (ls : Array Slot), g_loop k (fun (s : Int32 × GI) => f_X4_startAnew_l55 x1l23 s.1 s.2) (x2l55, gil55) = some E55 → MB D cA ad A s gil55 gl H locs → lv_has ls 3 [(0, .ref (ad 0)), (1, .int x1l23), (2, .int x2l55)] → W p l e R s m args below meth c H locs 0 0 Q (F0 m 55 ls []) := by
            intro k
            induction k with
            | zero => intro x2l55 gil55 H locs ls h; exact absurd h (fun z => g_loop_0 z)
            | succ k ih55 =>
              intro x2l55 gil55 H locs ls h B hL
              obtain ⟨Z55, h, h955⟩ := g_loop_s h
              have h : f_X4_startAnew_l55 x1l23 x2l55 gil55 = some Z55 := h
              unfold f_X4_startAnew_l55 at h
              refine lv_iload_n hx hb dX4_startAnew_55 rfl (lv_at hL 2 rfl) ?_
              refine lv_iconst (v := 3) hx hb dX4_startAnew_56 (by decide) ?_
              refine gg_icmp_ge hx hb 95 h dX4_startAnew_57 (by decide) (fun h => ?_) (fun h => ?_)
              · exact kx55 _ _ _ _ (g_exit h h955) B (lv_sub hL [0, 1] rfl)
              · refine lv_aload_n hx hb dX4_startAnew_60 rfl (lv_at hL 0 rfl) ?_
                refine mg_48 C B dX4_startAnew_61 ?_
                refine lv_iconst (v := 0) hx hb dX4_startAnew_64 (by decide) ?_
                refine lv_iconst (v := 3) hx hb dX4_startAnew_65 (by decide) ?_
                refine lv_iload_n hx hb dX4_startAnew_66 rfl (lv_at hL 1 rfl) ?_
                refine lv_imul hx hb dX4_startAnew_67 ?_
                refine lv_iadd hx hb dX4_startAnew_68 ?_
                refine lv_iload_n hx hb dX4_startAnew_69 rfl (lv_at hL 2 rfl) ?_
                refine lv_iadd hx hb dX4_startAnew_70 ?_
                refine lv_aload_n hx hb dX4_startAnew_71 rfl (lv_at hL 0 rfl) ?_
                refine mg_22 C B dX4_startAnew_72 ?_
                refine lv_iconst (v := 3) hx hb dX4_startAnew_75 (by decide) ?_
                refine lv_iconst (v := 5) hx hb dX4_startAnew_76 (by decide) ?_
                refine lv_aload_n hx hb dX4_startAnew_77 rfl (lv_at hL 0 rfl) ?_
                refine mg_41 C B dX4_startAnew_78 ?_
                refine lv_imul hx hb dX4_startAnew_81 ?_
                refine lv_iload_n hx hb dX4_startAnew_82 rfl (lv_at hL 1 rfl) ?_
                refine lv_iadd hx hb dX4_startAnew_83 ?_
                refine lv_imul hx hb dX4_startAnew_84 ?_
                refine lv_iload_n hx hb dX4_startAnew_85 rfl (lv_at hL 2 rfl) ?_
                refine lv_iadd hx hb dX4_startAnew_86 ?_
                refine mm_iald C B (a := 14) (n := 30) (Nat.le_of_ble_eq_true rfl) rfl h dX4_startAnew_87 (fun v5 h => ?_)
                refine mm_iast C B (a := 33) (n := 42) (Nat.le_of_ble_eq_true rfl) rfl h dX4_startAnew_88 (fun gi6 h H locs B => ?_)
                refine lv_iinc (v := x2l55 + 1) (lv' := [(2, .int (x2l55 + 1)), (0, .ref (ad 0)), (1, .int x1l23)]) hx hb dX4_startAnew_89 hL (k := 2) rfl rfl (by decide) rfl (fun ls hL => ?_)
                refine lv_goto (tgt := 55) hx hb dX4_startAnew_92 (by decide) ?_
                exact ih55 _ _ _ _ _ (g_next h h955) B (lv_sub hL [1, 2, 0] rfl)
          exact hl55 g_K _ _ _ _ _ h855 B (lv_sub hL [1, 2, 0] rfl)
    exact hl23 g_K _ _ _ _ _ h823 B (lv_sub hL [1, 0] rfl)
  have hl2 : ∀ (k : Nat) (x1l2 : Int32) (gil2 : GI) (H : Heap) (locs : List Loc) (ls : Array Slot), g_loop k (fun (s : Int32 × GI) => f_X4_startAnew_l2 s.1 s.2) (x1l2, gil2) = some E2 → MB D cA ad A s gil2 gl H locs → lv_has ls 3 [(0, .ref (ad 0)), (1, .int x1l2)] → W p l e R s m args below meth c H locs 0 0 Q (F0 m 2 ls []) := by
    intro k
    induction k with
    | zero => intro x1l2 gil2 H locs ls h; exact absurd h (fun z => g_loop_0 z)
    | succ k ih2 =>
      intro x1l2 gil2 H locs ls h B hL
      obtain ⟨Z2, h, h92⟩ := g_loop_s h
      have h : f_X4_startAnew_l2 x1l2 gil2 = some Z2 := h
      unfold f_X4_startAnew_l2 at h
      refine lv_iload_n hx hb dX4_startAnew_2 rfl (lv_at hL 1 rfl) ?_
      refine lv_bipush (v := 42) hx hb dX4_startAnew_3 (by decide) ?_
      refine gg_icmp_ge hx hb 21 h dX4_startAnew_5 (by decide) (fun h => ?_) (fun h => ?_)
      · exact kx2 _ _ _ _ (g_exit h h92) B (lv_sub hL [0] rfl)
      · refine lv_aload_n hx hb dX4_startAnew_8 rfl (lv_at hL 0 rfl) ?_
        refine mg_48 C B dX4_startAnew_9 ?_
        refine lv_iload_n hx hb dX4_startAnew_12 rfl (lv_at hL 1 rfl) ?_
        refine lv_iconst (v := 0) hx hb dX4_startAnew_13 (by decide) ?_
        refine mm_iast C B (a := 33) (n := 42) (Nat.le_of_ble_eq_true rfl) rfl h dX4_startAnew_14 (fun gi1 h H locs B => ?_)
        refine lv_iinc (v := x1l2 + 1) (lv' := [(1, .int (x1l2 + 1)), (0, .ref (ad 0))]) hx hb dX4_startAnew_15 hL (k := 1) rfl rfl (by decide) rfl (fun ls hL => ?_)
        refine lv_goto (tgt := 2) hx hb dX4_startAnew_18 (by decide) ?_
        exact ih2 _ _ _ _ _ (g_next h h92) B (lv_sub hL [1, 0] rfl)
  exact hl2 g_K _ _ _ _ _ h82 B (lv_sub hL [1, 0] rfl)
theorem k_X4_startAnew {p : Program} {l : Launch} {e : Env} {R : Room} {s : State} {m : MethodId} {args : Array Value} {below : List Frame} {meth : Method} {c : Code} {H : Heap} {locs : List Loc} {Q : State → Prop} {pc : Nat} {ls : Array Slot} {rest : List Value} {cc : ByteArray} {nL : Nat} {D : va_G} {cA : Nat → ClassId} {ad : Nat → Nat} {A : Nat → Prop} {gi : GI} {gl : GL} {α : Type} {r : α}  {ff : GI → Option α} (C : CallFix p m c cc nL s args lw_all RX4) (B : MB D cA ad A s gi gl H locs) (hF : 2 ≤ R.frames) (hN : 42 ≤ R.locals) (hs : ls.size = nL) (hw : (rest.map fun v => v.category).sum ≤ 8) (h : (f_X4_startAnew gi ).bind ff = some r) (hdg : decode cc pc = .ok (.invokevirtual 182, 3)) (kk : ∀ q, ff q = some r → ∀ (H' : Heap) (locs' : List Loc), MB D cA ad A s q gl H' locs' → W p l e R s m args below meth c H' locs' 0 0 Q (F0 m (pc + 3) ls (rest))) : W p l e R s m args below meth c H locs 0 0 Q (F0 m pc ls (.ref (ad 0) :: rest)) := by
  obtain ⟨q, h1, h2⟩ := g_ob h
  refine mm_cVV (As := []) (rest := rest) (n := 0) C B (fun sz => w_X4_startAnew l D cA ad gi gl  q h1 sz) q1695 q1697 qs67 q150 q1698 (by decide +kernel) ⟨hF, hN⟩ rfl hs hw hdg (fun u H9 locs9 hp B9 => ?_)
  obtain ⟨e1, e3⟩ := hp
  rw [e3] at B9
  subst e1
  exact kk _ h2 H9 locs9 B9
def f_X4_isDigit (gi : GI) (x0 : Int32) : Option (Int32) :=
  if x0 < 48 then
  (some 0)
  else
  (if 57 < x0 then
  (some 0)
  else
  (some 1))
set_option maxHeartbeats 400000 in
theorem w_X4_isDigit (l : Launch) (D : va_G) (cA : Nat → ClassId) (ad : Nat → Nat) (gi : GI) (gl : GL) (x0 : Int32) (r : Int32) (h : f_X4_isDigit gi x0 = some r) (sz : Nat) : Met l yX4_isDigit (ws_ yX4_isDigit cX4_isDigit 1 (some .boolean)) ({ frames := 0, cells := 0, slots := 0, locals := 0 } : Room) (va_Pc [.int x0] (MPre D cA ad gi gl sz)) (va_Qi (fun v u => v = r ∧ u.1 = gi ∧ u.2 = gl) (MPost D cA ad) (MA ad sz)) 0 0 (MA ad sz) := by
  refine mm_stZ (by decide +kernel) rfl (Nat.le_of_ble_eq_true rfl) (fun p e s m args below meth c R Q A ls C hF hN B hret hL => ?_) sz
  have hx := C.1
  have hb := C.2.1
  have hL : lv_has ls 1 [(0, .int x0)] := hL
  unfold f_X4_isDigit at h
  refine lv_iload_n hx hb dX4_isDigit_0 rfl (lv_at hL 0 rfl) ?_
  refine lv_bipush (v := 48) hx hb dX4_isDigit_1 (by decide) ?_
  refine gg_icmp_lt hx hb 16 h dX4_isDigit_3 (by decide) (fun h => ?_) (fun h => ?_)
  · refine lv_iconst (v := 0) hx hb dX4_isDigit_16 (by decide) ?_
    exact hret _ _ _ _ _ _ _ ⟨Option.some.inj h, rfl, rfl⟩ (Or.inl rfl) B dX4_isDigit_17
  · refine lv_iload_n hx hb dX4_isDigit_6 rfl (lv_at hL 0 rfl) ?_
    refine lv_bipush (v := 57) hx hb dX4_isDigit_7 (by decide) ?_
    refine gg_icmp_gt hx hb 16 h dX4_isDigit_9 (by decide) (fun h => ?_) (fun h => ?_)
    · refine lv_iconst (v := 0) hx hb dX4_isDigit_16 (by decide) ?_
      exact hret _ _ _ _ _ _ _ ⟨Option.some.inj h, rfl, rfl⟩ (Or.inl rfl) B dX4_isDigit_17
    · refine lv_iconst (v := 1) hx hb dX4_isDigit_12 (by decide) ?_
      refine lv_goto (tgt := 17) hx hb dX4_isDigit_13 (by decide) ?_
      exact hret _ _ _ _ _ _ _ ⟨Option.some.inj h, rfl, rfl⟩ (Or.inr rfl) B dX4_isDigit_17
theorem k_X4_isDigit {p : Program} {l : Launch} {e : Env} {R : Room} {s : State} {m : MethodId} {args : Array Value} {below : List Frame} {meth : Method} {c : Code} {H : Heap} {locs : List Loc} {Q : State → Prop} {pc : Nat} {ls : Array Slot} {rest : List Value} {cc : ByteArray} {nL : Nat} {D : va_G} {cA : Nat → ClassId} {ad : Nat → Nat} {A : Nat → Prop} {gi : GI} {gl : GL} {α : Type} {r : α} {x0 : Int32} {ff : Int32 → Option α} (C : CallFix p m c cc nL s args lw_all RX4) (B : MB D cA ad A s gi gl H locs) (hF : 1 ≤ R.frames) (hN : 20 ≤ R.locals) (hs : ls.size = nL) (hw : (rest.map fun v => v.category).sum ≤ 8) (h : (f_X4_isDigit gi x0).bind ff = some r) (hdg : decode cc pc = .ok (.invokestatic 258, 3)) (kk : ∀ q, ff q = some r → ∀ (H' : Heap) (locs' : List Loc), MB D cA ad A s gi gl H' locs' → W p l e R s m args below meth c H' locs' 0 0 Q (F0 m (pc + 3) ls (.int q :: rest))) : W p l e R s m args below meth c H locs 0 0 Q (F0 m pc ls (.int x0 :: rest)) := by
  obtain ⟨q, h1, h2⟩ := g_ob h
  refine mm_cSI (As := [.int x0]) (rest := rest) (n := 1) C B (fun sz => w_X4_isDigit l D cA ad gi gl x0 q h1 sz) q1993 q1994 q150 q1995 (by decide +kernel) ⟨hF, hN⟩ rfl hs hw hdg (fun v u H9 locs9 hp B9 => ?_)
  obtain ⟨e1, e2, e3⟩ := hp
  rw [e2] at B9
  rw [e3] at B9
  subst e1
  exact kk _ h2 H9 locs9 B9
def f_X4_isKept_j93 (gij93 : GI) (x0j93 : Int64) (t0j93 : Int32) : Option (Int32) :=
  if t0j93 = 0 then
  (if (lg_cmp x0j93 448546566771) = 0 then
  (some 1)
  else
  (if (lg_cmp x0j93 1685217655) = 0 then
  (some 1)
  else
  (if (lg_cmp x0j93 439855772532) = 0 then
  (some 1)
  else
  (if (lg_cmp x0j93 126879297138276) = 0 then
  (some 1)
  else
  (if (lg_cmp x0j93 499967947364) = 0 then
  (some 1)
  else
  (if (lg_cmp x0j93 2003133803) = 0 then
  (some 1)
  else
  (if (lg_cmp x0j93 1886154612) = 0 then
  (some 1)
  else
  (if (lg_cmp x0j93 28530) = 0 then
  (some 1)
  else
  (if (lg_cmp x0j93 6385252) = 0 then
  (some 1)
  else
  (if (lg_cmp x0j93 7237492) = 0 then
  (some 1)
  else
  (some 0)))))))))))
  else
  (some 1)
def f_X4_isKept_j88 (gij88 : GI) (x0j88 : Int64) : Option (Int32) :=
  f_X4_isKept_j93 gij88 x0j88 1
def f_X4_isKept (gi : GI) (x0 : Int64) : Option (Int32) :=
  if (lg_cmp x0 1802071652) = 0 then
  (f_X4_isKept_j88 gi x0)
  else
  (if (lg_cmp x0 7168366) = 0 then
  (f_X4_isKept_j88 gi x0)
  else
  (if (lg_cmp x0 1668444016) = 0 then
  (f_X4_isKept_j88 gi x0)
  else
  (if (lg_cmp x0 465726042981) = 0 then
  (f_X4_isKept_j88 gi x0)
  else
  (if (lg_cmp x0 483006772069) = 0 then
  (f_X4_isKept_j88 gi x0)
  else
  (if (lg_cmp x0 7364985) = 0 then
  (f_X4_isKept_j88 gi x0)
  else
  (if (lg_cmp x0 448377677669) = 0 then
  (f_X4_isKept_j88 gi x0)
  else
  (if (lg_cmp x0 1918989413) = 0 then
  (f_X4_isKept_j88 gi x0)
  else
  (if (lg_cmp x0 6713202) = 0 then
  (f_X4_isKept_j88 gi x0)
  else
  (if (lg_cmp x0 1651470187) = 0 then
  (f_X4_isKept_j88 gi x0)
  else
  (if (lg_cmp x0 1735552887) = 0 then
  (f_X4_isKept_j88 gi x0)
  else
  (f_X4_isKept_j93 gi x0 0)))))))))))
set_option maxHeartbeats 400000 in
theorem w_X4_isKept (l : Launch) (D : va_G) (cA : Nat → ClassId) (ad : Nat → Nat) (gi : GI) (gl : GL) (x0 : Int64) (r : Int32) (h : f_X4_isKept gi x0 = some r) (sz : Nat) : Met l yX4_isKept (ws_ yX4_isKept cX4_isKept 3 (some .boolean)) ({ frames := 0, cells := 0, slots := 0, locals := 0 } : Room) (va_Pc [.long x0] (MPre D cA ad gi gl sz)) (va_Qi (fun v u => v = r ∧ u.1 = gi ∧ u.2 = gl) (MPost D cA ad) (MA ad sz)) 0 0 (MA ad sz) := by
  refine mm_stZ (by decide +kernel) rfl (Nat.le_of_ble_eq_true rfl) (fun p e s m args below meth c R Q A ls C hF hN B hret hL => ?_) sz
  have hx := C.1
  have hb := C.2.1
  have hL : lv_has ls 3 [(0, .long x0)] := hL
  unfold f_X4_isKept at h
  have hj93 : ∀ (t0j93 : Int32) (H : Heap) (locs : List Loc) (ls : Array Slot), f_X4_isKept_j93 gi x0 t0j93 = some r → MB D cA ad A s gi gl H locs → lv_has ls 3 [(0, .long x0)] → W p l e R s m args below meth c H locs 0 0 Q (F0 m 93 ls [.int t0j93]) := by
    intro t0j93 H locs ls h B hL
    unfold f_X4_isKept_j93 at h
    refine lv_istore_n (lv' := [(2, .int t0j93), (0, .long x0)]) hx hb dX4_isKept_93 rfl hL (by decide) rfl (fun ls hL => ?_)
    refine lv_iload_n hx hb dX4_isKept_94 rfl (lv_at hL 0 rfl) ?_
    refine gg_if_ne hx hb 178 h dX4_isKept_95 (by decide) (fun h => ?_) (fun h => ?_)
    · refine lv_iconst (v := 1) hx hb dX4_isKept_178 (by decide) ?_
      refine lv_goto (tgt := 183) hx hb dX4_isKept_179 (by decide) ?_
      exact hret _ _ _ _ _ _ _ ⟨Option.some.inj h, rfl, rfl⟩ (Or.inr rfl) B dX4_isKept_183
    · refine lv_lload_n hx hb dX4_isKept_98 rfl (lv_at hL 1 rfl) ?_
      refine lv_ldc2 (v := 448546566771) hx hb C.2.2.2.1 (C.2.2.2.2 _ q1983) dX4_isKept_99 ?_
      refine W.lcmp hx hb dX4_isKept_102 ?_
      refine gg_if_eq hx hb 178 h dX4_isKept_103 (by decide) (fun h => ?_) (fun h => ?_)
      · refine lv_iconst (v := 1) hx hb dX4_isKept_178 (by decide) ?_
        refine lv_goto (tgt := 183) hx hb dX4_isKept_179 (by decide) ?_
        exact hret _ _ _ _ _ _ _ ⟨Option.some.inj h, rfl, rfl⟩ (Or.inr rfl) B dX4_isKept_183
      · refine lv_lload_n hx hb dX4_isKept_106 rfl (lv_at hL 1 rfl) ?_
        refine lv_ldc2 (v := 1685217655) hx hb C.2.2.2.1 (C.2.2.2.2 _ q1984) dX4_isKept_107 ?_
        refine W.lcmp hx hb dX4_isKept_110 ?_
        refine gg_if_eq hx hb 178 h dX4_isKept_111 (by decide) (fun h => ?_) (fun h => ?_)
        · refine lv_iconst (v := 1) hx hb dX4_isKept_178 (by decide) ?_
          refine lv_goto (tgt := 183) hx hb dX4_isKept_179 (by decide) ?_
          exact hret _ _ _ _ _ _ _ ⟨Option.some.inj h, rfl, rfl⟩ (Or.inr rfl) B dX4_isKept_183
        · refine lv_lload_n hx hb dX4_isKept_114 rfl (lv_at hL 1 rfl) ?_
          refine lv_ldc2 (v := 439855772532) hx hb C.2.2.2.1 (C.2.2.2.2 _ q1985) dX4_isKept_115 ?_
          refine W.lcmp hx hb dX4_isKept_118 ?_
          refine gg_if_eq hx hb 178 h dX4_isKept_119 (by decide) (fun h => ?_) (fun h => ?_)
          · refine lv_iconst (v := 1) hx hb dX4_isKept_178 (by decide) ?_
            refine lv_goto (tgt := 183) hx hb dX4_isKept_179 (by decide) ?_
            exact hret _ _ _ _ _ _ _ ⟨Option.some.inj h, rfl, rfl⟩ (Or.inr rfl) B dX4_isKept_183
          · refine lv_lload_n hx hb dX4_isKept_122 rfl (lv_at hL 1 rfl) ?_
            refine lv_ldc2 (v := 126879297138276) hx hb C.2.2.2.1 (C.2.2.2.2 _ q1986) dX4_isKept_123 ?_
            refine W.lcmp hx hb dX4_isKept_126 ?_
            refine gg_if_eq hx hb 178 h dX4_isKept_127 (by decide) (fun h => ?_) (fun h => ?_)
            · refine lv_iconst (v := 1) hx hb dX4_isKept_178 (by decide) ?_
              refine lv_goto (tgt := 183) hx hb dX4_isKept_179 (by decide) ?_
              exact hret _ _ _ _ _ _ _ ⟨Option.some.inj h, rfl, rfl⟩ (Or.inr rfl) B dX4_isKept_183
            · refine lv_lload_n hx hb dX4_isKept_130 rfl (lv_at hL 1 rfl) ?_
              refine lv_ldc2 (v := 499967947364) hx hb C.2.2.2.1 (C.2.2.2.2 _ q1987) dX4_isKept_131 ?_
              refine W.lcmp hx hb dX4_isKept_134 ?_
              refine gg_if_eq hx hb 178 h dX4_isKept_135 (by decide) (fun h => ?_) (fun h => ?_)
              · refine lv_iconst (v := 1) hx hb dX4_isKept_178 (by decide) ?_
                refine lv_goto (tgt := 183) hx hb dX4_isKept_179 (by decide) ?_
                exact hret _ _ _ _ _ _ _ ⟨Option.some.inj h, rfl, rfl⟩ (Or.inr rfl) B dX4_isKept_183
              · refine lv_lload_n hx hb dX4_isKept_138 rfl (lv_at hL 1 rfl) ?_
                refine lv_ldc2 (v := 2003133803) hx hb C.2.2.2.1 (C.2.2.2.2 _ q1988) dX4_isKept_139 ?_
                refine W.lcmp hx hb dX4_isKept_142 ?_
                refine gg_if_eq hx hb 178 h dX4_isKept_143 (by decide) (fun h => ?_) (fun h => ?_)
                · refine lv_iconst (v := 1) hx hb dX4_isKept_178 (by decide) ?_
                  refine lv_goto (tgt := 183) hx hb dX4_isKept_179 (by decide) ?_
                  exact hret _ _ _ _ _ _ _ ⟨Option.some.inj h, rfl, rfl⟩ (Or.inr rfl) B dX4_isKept_183
                · refine lv_lload_n hx hb dX4_isKept_146 rfl (lv_at hL 1 rfl) ?_
                  refine lv_ldc2 (v := 1886154612) hx hb C.2.2.2.1 (C.2.2.2.2 _ q1989) dX4_isKept_147 ?_
                  refine W.lcmp hx hb dX4_isKept_150 ?_
                  refine gg_if_eq hx hb 178 h dX4_isKept_151 (by decide) (fun h => ?_) (fun h => ?_)
                  · refine lv_iconst (v := 1) hx hb dX4_isKept_178 (by decide) ?_
                    refine lv_goto (tgt := 183) hx hb dX4_isKept_179 (by decide) ?_
                    exact hret _ _ _ _ _ _ _ ⟨Option.some.inj h, rfl, rfl⟩ (Or.inr rfl) B dX4_isKept_183
                  · refine lv_lload_n hx hb dX4_isKept_154 rfl (lv_at hL 1 rfl) ?_
                    refine lv_ldc2 (v := 28530) hx hb C.2.2.2.1 (C.2.2.2.2 _ q1990) dX4_isKept_155 ?_
                    refine W.lcmp hx hb dX4_isKept_158 ?_
                    refine gg_if_eq hx hb 178 h dX4_isKept_159 (by decide) (fun h => ?_) (fun h => ?_)
                    · refine lv_iconst (v := 1) hx hb dX4_isKept_178 (by decide) ?_
                      refine lv_goto (tgt := 183) hx hb dX4_isKept_179 (by decide) ?_
                      exact hret _ _ _ _ _ _ _ ⟨Option.some.inj h, rfl, rfl⟩ (Or.inr rfl) B dX4_isKept_183
                    · refine lv_lload_n hx hb dX4_isKept_162 rfl (lv_at hL 1 rfl) ?_
                      refine lv_ldc2 (v := 6385252) hx hb C.2.2.2.1 (C.2.2.2.2 _ q1991) dX4_isKept_163 ?_
                      refine W.lcmp hx hb dX4_isKept_166 ?_
                      refine gg_if_eq hx hb 178 h dX4_isKept_167 (by decide) (fun h => ?_) (fun h => ?_)
                      · refine lv_iconst (v := 1) hx hb dX4_isKept_178 (by decide) ?_
                        refine lv_goto (tgt := 183) hx hb dX4_isKept_179 (by decide) ?_
                        exact hret _ _ _ _ _ _ _ ⟨Option.some.inj h, rfl, rfl⟩ (Or.inr rfl) B dX4_isKept_183
                      · refine lv_lload_n hx hb dX4_isKept_170 rfl (lv_at hL 1 rfl) ?_
                        refine lv_ldc2 (v := 7237492) hx hb C.2.2.2.1 (C.2.2.2.2 _ q1992) dX4_isKept_171 ?_
                        refine W.lcmp hx hb dX4_isKept_174 ?_
                        refine gg_if_ne hx hb 182 h dX4_isKept_175 (by decide) (fun h => ?_) (fun h => ?_)
                        · refine lv_iconst (v := 0) hx hb dX4_isKept_182 (by decide) ?_
                          exact hret _ _ _ _ _ _ _ ⟨Option.some.inj h, rfl, rfl⟩ (Or.inl rfl) B dX4_isKept_183
                        · refine lv_iconst (v := 1) hx hb dX4_isKept_178 (by decide) ?_
                          refine lv_goto (tgt := 183) hx hb dX4_isKept_179 (by decide) ?_
                          exact hret _ _ _ _ _ _ _ ⟨Option.some.inj h, rfl, rfl⟩ (Or.inr rfl) B dX4_isKept_183
  have hj88 : ∀  (H : Heap) (locs : List Loc) (ls : Array Slot), f_X4_isKept_j88 gi x0 = some r → MB D cA ad A s gi gl H locs → lv_has ls 3 [(0, .long x0)] → W p l e R s m args below meth c H locs 0 0 Q (F0 m 88 ls []) := by
    intro  H locs ls h B hL
    unfold f_X4_isKept_j88 at h
    refine lv_iconst (v := 1) hx hb dX4_isKept_88 (by decide) ?_
    refine lv_goto (tgt := 93) hx hb dX4_isKept_89 (by decide) ?_
    exact hj93 _ _ _ _ h B (lv_sub hL [0] rfl)
  refine lv_lload_n hx hb dX4_isKept_0 rfl (lv_at hL 0 rfl) ?_
  refine lv_ldc2 (v := 1802071652) hx hb C.2.2.2.1 (C.2.2.2.2 _ q1972) dX4_isKept_1 ?_
  refine W.lcmp hx hb dX4_isKept_4 ?_
  refine gg_if_eq hx hb 88 h dX4_isKept_5 (by decide) (fun h => ?_) (fun h => ?_)
  · exact hj88  _ _ _ h B (lv_sub hL [0] rfl)
  · refine lv_lload_n hx hb dX4_isKept_8 rfl (lv_at hL 0 rfl) ?_
    refine lv_ldc2 (v := 7168366) hx hb C.2.2.2.1 (C.2.2.2.2 _ q1973) dX4_isKept_9 ?_
    refine W.lcmp hx hb dX4_isKept_12 ?_
    refine gg_if_eq hx hb 88 h dX4_isKept_13 (by decide) (fun h => ?_) (fun h => ?_)
    · exact hj88  _ _ _ h B (lv_sub hL [0] rfl)
    · refine lv_lload_n hx hb dX4_isKept_16 rfl (lv_at hL 0 rfl) ?_
      refine lv_ldc2 (v := 1668444016) hx hb C.2.2.2.1 (C.2.2.2.2 _ q1974) dX4_isKept_17 ?_
      refine W.lcmp hx hb dX4_isKept_20 ?_
      refine gg_if_eq hx hb 88 h dX4_isKept_21 (by decide) (fun h => ?_) (fun h => ?_)
      · exact hj88  _ _ _ h B (lv_sub hL [0] rfl)
      · refine lv_lload_n hx hb dX4_isKept_24 rfl (lv_at hL 0 rfl) ?_
        refine lv_ldc2 (v := 465726042981) hx hb C.2.2.2.1 (C.2.2.2.2 _ q1975) dX4_isKept_25 ?_
        refine W.lcmp hx hb dX4_isKept_28 ?_
        refine gg_if_eq hx hb 88 h dX4_isKept_29 (by decide) (fun h => ?_) (fun h => ?_)
        · exact hj88  _ _ _ h B (lv_sub hL [0] rfl)
        · refine lv_lload_n hx hb dX4_isKept_32 rfl (lv_at hL 0 rfl) ?_
          refine lv_ldc2 (v := 483006772069) hx hb C.2.2.2.1 (C.2.2.2.2 _ q1976) dX4_isKept_33 ?_
          refine W.lcmp hx hb dX4_isKept_36 ?_
          refine gg_if_eq hx hb 88 h dX4_isKept_37 (by decide) (fun h => ?_) (fun h => ?_)
          · exact hj88  _ _ _ h B (lv_sub hL [0] rfl)
          · refine lv_lload_n hx hb dX4_isKept_40 rfl (lv_at hL 0 rfl) ?_
            refine lv_ldc2 (v := 7364985) hx hb C.2.2.2.1 (C.2.2.2.2 _ q1977) dX4_isKept_41 ?_
            refine W.lcmp hx hb dX4_isKept_44 ?_
            refine gg_if_eq hx hb 88 h dX4_isKept_45 (by decide) (fun h => ?_) (fun h => ?_)
            · exact hj88  _ _ _ h B (lv_sub hL [0] rfl)
            · refine lv_lload_n hx hb dX4_isKept_48 rfl (lv_at hL 0 rfl) ?_
              refine lv_ldc2 (v := 448377677669) hx hb C.2.2.2.1 (C.2.2.2.2 _ q1978) dX4_isKept_49 ?_
              refine W.lcmp hx hb dX4_isKept_52 ?_
              refine gg_if_eq hx hb 88 h dX4_isKept_53 (by decide) (fun h => ?_) (fun h => ?_)
              · exact hj88  _ _ _ h B (lv_sub hL [0] rfl)
              · refine lv_lload_n hx hb dX4_isKept_56 rfl (lv_at hL 0 rfl) ?_
                refine lv_ldc2 (v := 1918989413) hx hb C.2.2.2.1 (C.2.2.2.2 _ q1979) dX4_isKept_57 ?_
                refine W.lcmp hx hb dX4_isKept_60 ?_
                refine gg_if_eq hx hb 88 h dX4_isKept_61 (by decide) (fun h => ?_) (fun h => ?_)
                · exact hj88  _ _ _ h B (lv_sub hL [0] rfl)
                · refine lv_lload_n hx hb dX4_isKept_64 rfl (lv_at hL 0 rfl) ?_
                  refine lv_ldc2 (v := 6713202) hx hb C.2.2.2.1 (C.2.2.2.2 _ q1980) dX4_isKept_65 ?_
                  refine W.lcmp hx hb dX4_isKept_68 ?_
                  refine gg_if_eq hx hb 88 h dX4_isKept_69 (by decide) (fun h => ?_) (fun h => ?_)
                  · exact hj88  _ _ _ h B (lv_sub hL [0] rfl)
                  · refine lv_lload_n hx hb dX4_isKept_72 rfl (lv_at hL 0 rfl) ?_
                    refine lv_ldc2 (v := 1651470187) hx hb C.2.2.2.1 (C.2.2.2.2 _ q1981) dX4_isKept_73 ?_
                    refine W.lcmp hx hb dX4_isKept_76 ?_
                    refine gg_if_eq hx hb 88 h dX4_isKept_77 (by decide) (fun h => ?_) (fun h => ?_)
                    · exact hj88  _ _ _ h B (lv_sub hL [0] rfl)
                    · refine lv_lload_n hx hb dX4_isKept_80 rfl (lv_at hL 0 rfl) ?_
                      refine lv_ldc2 (v := 1735552887) hx hb C.2.2.2.1 (C.2.2.2.2 _ q1982) dX4_isKept_81 ?_
                      refine W.lcmp hx hb dX4_isKept_84 ?_
                      refine gg_if_ne hx hb 92 h dX4_isKept_85 (by decide) (fun h => ?_) (fun h => ?_)
                      · refine lv_iconst (v := 0) hx hb dX4_isKept_92 (by decide) ?_
                        exact hj93 _ _ _ _ h B (lv_sub hL [0] rfl)
                      · exact hj88  _ _ _ h B (lv_sub hL [0] rfl)
theorem k_X4_isKept {p : Program} {l : Launch} {e : Env} {R : Room} {s : State} {m : MethodId} {args : Array Value} {below : List Frame} {meth : Method} {c : Code} {H : Heap} {locs : List Loc} {Q : State → Prop} {pc : Nat} {ls : Array Slot} {rest : List Value} {cc : ByteArray} {nL : Nat} {D : va_G} {cA : Nat → ClassId} {ad : Nat → Nat} {A : Nat → Prop} {gi : GI} {gl : GL} {α : Type} {r : α} {x0 : Int64} {ff : Int32 → Option α} (C : CallFix p m c cc nL s args lw_all RX4) (B : MB D cA ad A s gi gl H locs) (hF : 1 ≤ R.frames) (hN : 22 ≤ R.locals) (hs : ls.size = nL) (hw : (rest.map fun v => v.category).sum ≤ 8) (h : (f_X4_isKept gi x0).bind ff = some r) (hdg : decode cc pc = .ok (.invokestatic 254, 3)) (kk : ∀ q, ff q = some r → ∀ (H' : Heap) (locs' : List Loc), MB D cA ad A s gi gl H' locs' → W p l e R s m args below meth c H' locs' 0 0 Q (F0 m (pc + 3) ls (.int q :: rest))) : W p l e R s m args below meth c H locs 0 0 Q (F0 m pc ls (.long x0 :: rest)) := by
  obtain ⟨q, h1, h2⟩ := g_ob h
  refine mm_cSI (As := [.long x0]) (rest := rest) (n := 1) C B (fun sz => w_X4_isKept l D cA ad gi gl x0 q h1 sz) q1969 q1970 q150 q1971 (by decide +kernel) ⟨hF, hN⟩ rfl hs hw hdg (fun v u H9 locs9 hp B9 => ?_)
  obtain ⟨e1, e2, e3⟩ := hp
  rw [e2] at B9
  rw [e3] at B9
  subst e1
  exact kk _ h2 H9 locs9 B9
def f_X4_isLetter (gi : GI) (x0 : Int32) : Option (Int32) :=
  if x0 < 97 then
  (some 0)
  else
  (if 122 < x0 then
  (some 0)
  else
  (some 1))
set_option maxHeartbeats 400000 in
theorem w_X4_isLetter (l : Launch) (D : va_G) (cA : Nat → ClassId) (ad : Nat → Nat) (gi : GI) (gl : GL) (x0 : Int32) (r : Int32) (h : f_X4_isLetter gi x0 = some r) (sz : Nat) : Met l yX4_isLetter (ws_ yX4_isLetter cX4_isLetter 1 (some .boolean)) ({ frames := 0, cells := 0, slots := 0, locals := 0 } : Room) (va_Pc [.int x0] (MPre D cA ad gi gl sz)) (va_Qi (fun v u => v = r ∧ u.1 = gi ∧ u.2 = gl) (MPost D cA ad) (MA ad sz)) 0 0 (MA ad sz) := by
  refine mm_stZ (by decide +kernel) rfl (Nat.le_of_ble_eq_true rfl) (fun p e s m args below meth c R Q A ls C hF hN B hret hL => ?_) sz
  have hx := C.1
  have hb := C.2.1
  have hL : lv_has ls 1 [(0, .int x0)] := hL
  unfold f_X4_isLetter at h
  refine lv_iload_n hx hb dX4_isLetter_0 rfl (lv_at hL 0 rfl) ?_
  refine lv_bipush (v := 97) hx hb dX4_isLetter_1 (by decide) ?_
  refine gg_icmp_lt hx hb 16 h dX4_isLetter_3 (by decide) (fun h => ?_) (fun h => ?_)
  · refine lv_iconst (v := 0) hx hb dX4_isLetter_16 (by decide) ?_
    exact hret _ _ _ _ _ _ _ ⟨Option.some.inj h, rfl, rfl⟩ (Or.inl rfl) B dX4_isLetter_17
  · refine lv_iload_n hx hb dX4_isLetter_6 rfl (lv_at hL 0 rfl) ?_
    refine lv_bipush (v := 122) hx hb dX4_isLetter_7 (by decide) ?_
    refine gg_icmp_gt hx hb 16 h dX4_isLetter_9 (by decide) (fun h => ?_) (fun h => ?_)
    · refine lv_iconst (v := 0) hx hb dX4_isLetter_16 (by decide) ?_
      exact hret _ _ _ _ _ _ _ ⟨Option.some.inj h, rfl, rfl⟩ (Or.inl rfl) B dX4_isLetter_17
    · refine lv_iconst (v := 1) hx hb dX4_isLetter_12 (by decide) ?_
      refine lv_goto (tgt := 17) hx hb dX4_isLetter_13 (by decide) ?_
      exact hret _ _ _ _ _ _ _ ⟨Option.some.inj h, rfl, rfl⟩ (Or.inr rfl) B dX4_isLetter_17
theorem k_X4_isLetter {p : Program} {l : Launch} {e : Env} {R : Room} {s : State} {m : MethodId} {args : Array Value} {below : List Frame} {meth : Method} {c : Code} {H : Heap} {locs : List Loc} {Q : State → Prop} {pc : Nat} {ls : Array Slot} {rest : List Value} {cc : ByteArray} {nL : Nat} {D : va_G} {cA : Nat → ClassId} {ad : Nat → Nat} {A : Nat → Prop} {gi : GI} {gl : GL} {α : Type} {r : α} {x0 : Int32} {ff : Int32 → Option α} (C : CallFix p m c cc nL s args lw_all RX4) (B : MB D cA ad A s gi gl H locs) (hF : 1 ≤ R.frames) (hN : 20 ≤ R.locals) (hs : ls.size = nL) (hw : (rest.map fun v => v.category).sum ≤ 8) (h : (f_X4_isLetter gi x0).bind ff = some r) (hdg : decode cc pc = .ok (.invokestatic 246, 3)) (kk : ∀ q, ff q = some r → ∀ (H' : Heap) (locs' : List Loc), MB D cA ad A s gi gl H' locs' → W p l e R s m args below meth c H' locs' 0 0 Q (F0 m (pc + 3) ls (.int q :: rest))) : W p l e R s m args below meth c H locs 0 0 Q (F0 m pc ls (.int x0 :: rest)) := by
  obtain ⟨q, h1, h2⟩ := g_ob h
  refine mm_cSI (As := [.int x0]) (rest := rest) (n := 1) C B (fun sz => w_X4_isLetter l D cA ad gi gl x0 q h1 sz) q1966 q1967 q150 q1968 (by decide +kernel) ⟨hF, hN⟩ rfl hs hw hdg (fun v u H9 locs9 hp B9 => ?_)
  obtain ⟨e1, e2, e3⟩ := hp
  rw [e2] at B9
  rw [e3] at B9
  subst e1
  exact kk _ h2 H9 locs9 B9
def f_X4_isSign (gi : GI) (x0 : Int32) : Option (Int32) :=
  if x0 = 59 then
  (some 1)
  else
  (if x0 = 40 then
  (some 1)
  else
  (if x0 = 41 then
  (some 1)
  else
  (if x0 = 60 then
  (some 1)
  else
  (if x0 = 62 then
  (some 1)
  else
  (if x0 = 61 then
  (some 1)
  else
  (if x0 = 43 then
  (some 1)
  else
  (if x0 = 45 then
  (some 1)
  else
  (if x0 = 42 then
  (some 1)
  else
  (if x0 = 47 then
  (some 1)
  else
  (if x0 = 37 then
  (some 1)
  else
  (some 0)))))))))))
set_option maxHeartbeats 400000 in
theorem w_X4_isSign (l : Launch) (D : va_G) (cA : Nat → ClassId) (ad : Nat → Nat) (gi : GI) (gl : GL) (x0 : Int32) (r : Int32) (h : f_X4_isSign gi x0 = some r) (sz : Nat) : Met l yX4_isSign (ws_ yX4_isSign cX4_isSign 1 (some .boolean)) ({ frames := 0, cells := 0, slots := 0, locals := 0 } : Room) (va_Pc [.int x0] (MPre D cA ad gi gl sz)) (va_Qi (fun v u => v = r ∧ u.1 = gi ∧ u.2 = gl) (MPost D cA ad) (MA ad sz)) 0 0 (MA ad sz) := by
  refine mm_stZ (by decide +kernel) rfl (Nat.le_of_ble_eq_true rfl) (fun p e s m args below meth c R Q A ls C hF hN B hret hL => ?_) sz
  have hx := C.1
  have hb := C.2.1
  have hL : lv_has ls 1 [(0, .int x0)] := hL
  unfold f_X4_isSign at h
  refine lv_iload_n hx hb dX4_isSign_0 rfl (lv_at hL 0 rfl) ?_
  refine lv_bipush (v := 59) hx hb dX4_isSign_1 (by decide) ?_
  refine gg_icmp_eq hx hb 66 h dX4_isSign_3 (by decide) (fun h => ?_) (fun h => ?_)
  · refine lv_iconst (v := 1) hx hb dX4_isSign_66 (by decide) ?_
    refine lv_goto (tgt := 71) hx hb dX4_isSign_67 (by decide) ?_
    exact hret _ _ _ _ _ _ _ ⟨Option.some.inj h, rfl, rfl⟩ (Or.inr rfl) B dX4_isSign_71
  · refine lv_iload_n hx hb dX4_isSign_6 rfl (lv_at hL 0 rfl) ?_
    refine lv_bipush (v := 40) hx hb dX4_isSign_7 (by decide) ?_
    refine gg_icmp_eq hx hb 66 h dX4_isSign_9 (by decide) (fun h => ?_) (fun h => ?_)
    · refine lv_iconst (v := 1) hx hb dX4_isSign_66 (by decide) ?_
      refine lv_goto (tgt := 71) hx hb dX4_isSign_67 (by decide) ?_
      exact hret _ _ _ _ _ _ _ ⟨Option.some.inj h, rfl, rfl⟩ (Or.inr rfl) B dX4_isSign_71
    · refine lv_iload_n hx hb dX4_isSign_12 rfl (lv_at hL 0 rfl) ?_
      refine lv_bipush (v := 41) hx hb dX4_isSign_13 (by decide) ?_
      refine gg_icmp_eq hx hb 66 h dX4_isSign_15 (by decide) (fun h => ?_) (fun h => ?_)
      · refine lv_iconst (v := 1) hx hb dX4_isSign_66 (by decide) ?_
        refine lv_goto (tgt := 71) hx hb dX4_isSign_67 (by decide) ?_
        exact hret _ _ _ _ _ _ _ ⟨Option.some.inj h, rfl, rfl⟩ (Or.inr rfl) B dX4_isSign_71
      · refine lv_iload_n hx hb dX4_isSign_18 rfl (lv_at hL 0 rfl) ?_
        refine lv_bipush (v := 60) hx hb dX4_isSign_19 (by decide) ?_
        refine gg_icmp_eq hx hb 66 h dX4_isSign_21 (by decide) (fun h => ?_) (fun h => ?_)
        · refine lv_iconst (v := 1) hx hb dX4_isSign_66 (by decide) ?_
          refine lv_goto (tgt := 71) hx hb dX4_isSign_67 (by decide) ?_
          exact hret _ _ _ _ _ _ _ ⟨Option.some.inj h, rfl, rfl⟩ (Or.inr rfl) B dX4_isSign_71
        · refine lv_iload_n hx hb dX4_isSign_24 rfl (lv_at hL 0 rfl) ?_
          refine lv_bipush (v := 62) hx hb dX4_isSign_25 (by decide) ?_
          refine gg_icmp_eq hx hb 66 h dX4_isSign_27 (by decide) (fun h => ?_) (fun h => ?_)
          · refine lv_iconst (v := 1) hx hb dX4_isSign_66 (by decide) ?_
            refine lv_goto (tgt := 71) hx hb dX4_isSign_67 (by decide) ?_
            exact hret _ _ _ _ _ _ _ ⟨Option.some.inj h, rfl, rfl⟩ (Or.inr rfl) B dX4_isSign_71
          · refine lv_iload_n hx hb dX4_isSign_30 rfl (lv_at hL 0 rfl) ?_
            refine lv_bipush (v := 61) hx hb dX4_isSign_31 (by decide) ?_
            refine gg_icmp_eq hx hb 66 h dX4_isSign_33 (by decide) (fun h => ?_) (fun h => ?_)
            · refine lv_iconst (v := 1) hx hb dX4_isSign_66 (by decide) ?_
              refine lv_goto (tgt := 71) hx hb dX4_isSign_67 (by decide) ?_
              exact hret _ _ _ _ _ _ _ ⟨Option.some.inj h, rfl, rfl⟩ (Or.inr rfl) B dX4_isSign_71
            · refine lv_iload_n hx hb dX4_isSign_36 rfl (lv_at hL 0 rfl) ?_
              refine lv_bipush (v := 43) hx hb dX4_isSign_37 (by decide) ?_
              refine gg_icmp_eq hx hb 66 h dX4_isSign_39 (by decide) (fun h => ?_) (fun h => ?_)
              · refine lv_iconst (v := 1) hx hb dX4_isSign_66 (by decide) ?_
                refine lv_goto (tgt := 71) hx hb dX4_isSign_67 (by decide) ?_
                exact hret _ _ _ _ _ _ _ ⟨Option.some.inj h, rfl, rfl⟩ (Or.inr rfl) B dX4_isSign_71
              · refine lv_iload_n hx hb dX4_isSign_42 rfl (lv_at hL 0 rfl) ?_
                refine lv_bipush (v := 45) hx hb dX4_isSign_43 (by decide) ?_
                refine gg_icmp_eq hx hb 66 h dX4_isSign_45 (by decide) (fun h => ?_) (fun h => ?_)
                · refine lv_iconst (v := 1) hx hb dX4_isSign_66 (by decide) ?_
                  refine lv_goto (tgt := 71) hx hb dX4_isSign_67 (by decide) ?_
                  exact hret _ _ _ _ _ _ _ ⟨Option.some.inj h, rfl, rfl⟩ (Or.inr rfl) B dX4_isSign_71
                · refine lv_iload_n hx hb dX4_isSign_48 rfl (lv_at hL 0 rfl) ?_
                  refine lv_bipush (v := 42) hx hb dX4_isSign_49 (by decide) ?_
                  refine gg_icmp_eq hx hb 66 h dX4_isSign_51 (by decide) (fun h => ?_) (fun h => ?_)
                  · refine lv_iconst (v := 1) hx hb dX4_isSign_66 (by decide) ?_
                    refine lv_goto (tgt := 71) hx hb dX4_isSign_67 (by decide) ?_
                    exact hret _ _ _ _ _ _ _ ⟨Option.some.inj h, rfl, rfl⟩ (Or.inr rfl) B dX4_isSign_71
                  · refine lv_iload_n hx hb dX4_isSign_54 rfl (lv_at hL 0 rfl) ?_
                    refine lv_bipush (v := 47) hx hb dX4_isSign_55 (by decide) ?_
                    refine gg_icmp_eq hx hb 66 h dX4_isSign_57 (by decide) (fun h => ?_) (fun h => ?_)
                    · refine lv_iconst (v := 1) hx hb dX4_isSign_66 (by decide) ?_
                      refine lv_goto (tgt := 71) hx hb dX4_isSign_67 (by decide) ?_
                      exact hret _ _ _ _ _ _ _ ⟨Option.some.inj h, rfl, rfl⟩ (Or.inr rfl) B dX4_isSign_71
                    · refine lv_iload_n hx hb dX4_isSign_60 rfl (lv_at hL 0 rfl) ?_
                      refine lv_bipush (v := 37) hx hb dX4_isSign_61 (by decide) ?_
                      refine gg_icmp_ne hx hb 70 h dX4_isSign_63 (by decide) (fun h => ?_) (fun h => ?_)
                      · refine lv_iconst (v := 0) hx hb dX4_isSign_70 (by decide) ?_
                        exact hret _ _ _ _ _ _ _ ⟨Option.some.inj h, rfl, rfl⟩ (Or.inl rfl) B dX4_isSign_71
                      · refine lv_iconst (v := 1) hx hb dX4_isSign_66 (by decide) ?_
                        refine lv_goto (tgt := 71) hx hb dX4_isSign_67 (by decide) ?_
                        exact hret _ _ _ _ _ _ _ ⟨Option.some.inj h, rfl, rfl⟩ (Or.inr rfl) B dX4_isSign_71
theorem k_X4_isSign {p : Program} {l : Launch} {e : Env} {R : Room} {s : State} {m : MethodId} {args : Array Value} {below : List Frame} {meth : Method} {c : Code} {H : Heap} {locs : List Loc} {Q : State → Prop} {pc : Nat} {ls : Array Slot} {rest : List Value} {cc : ByteArray} {nL : Nat} {D : va_G} {cA : Nat → ClassId} {ad : Nat → Nat} {A : Nat → Prop} {gi : GI} {gl : GL} {α : Type} {r : α} {x0 : Int32} {ff : Int32 → Option α} (C : CallFix p m c cc nL s args lw_all RX4) (B : MB D cA ad A s gi gl H locs) (hF : 1 ≤ R.frames) (hN : 20 ≤ R.locals) (hs : ls.size = nL) (hw : (rest.map fun v => v.category).sum ≤ 8) (h : (f_X4_isSign gi x0).bind ff = some r) (hdg : decode cc pc = .ok (.invokestatic 264, 3)) (kk : ∀ q, ff q = some r → ∀ (H' : Heap) (locs' : List Loc), MB D cA ad A s gi gl H' locs' → W p l e R s m args below meth c H' locs' 0 0 Q (F0 m (pc + 3) ls (.int q :: rest))) : W p l e R s m args below meth c H locs 0 0 Q (F0 m pc ls (.int x0 :: rest)) := by
  obtain ⟨q, h1, h2⟩ := g_ob h
  refine mm_cSI (As := [.int x0]) (rest := rest) (n := 1) C B (fun sz => w_X4_isSign l D cA ad gi gl x0 q h1 sz) q1996 q1997 q150 q1998 (by decide +kernel) ⟨hF, hN⟩ rfl hs hw hdg (fun v u H9 locs9 hp B9 => ?_)
  obtain ⟨e1, e2, e3⟩ := hp
  rw [e2] at B9
  rw [e3] at B9
  subst e1
  exact kk _ h2 H9 locs9 B9
def f_X4_sign (gi : GI) (x1 : Int32) : Option (Int32) :=
  if (gi 0 3) ≤ x1 then
  (some 0)
  else
  ((g_ld gi 2 1600 x1).bind fun v1 =>
  some (v1 &&& 255))
set_option maxHeartbeats 400000 in
theorem w_X4_sign (l : Launch) (D : va_G) (cA : Nat → ClassId) (ad : Nat → Nat) (gi : GI) (gl : GL) (x1 : Int32) (r : Int32) (h : f_X4_sign gi x1 = some r) (sz : Nat) : Met l yX4_sign (ws_ yX4_sign cX4_sign 2 (some .int)) ({ frames := 0, cells := 0, slots := 0, locals := 0 } : Room) (va_Pc [.ref (ad 0), .int x1] (MPre D cA ad gi gl sz)) (va_Qi (fun v u => v = r ∧ u.1 = gi ∧ u.2 = gl) (MPost D cA ad) (MA ad sz)) 0 0 (MA ad sz) := by
  refine mm_stI (by decide +kernel) rfl (Nat.le_of_ble_eq_true rfl) (fun p e s m args below meth c R Q A ls C hF hN B hret hL => ?_) sz
  have hx := C.1
  have hb := C.2.1
  have hL : lv_has ls 2 [(0, .ref (ad 0)), (1, .int x1)] := hL
  unfold f_X4_sign at h
  refine lv_iload_n hx hb dX4_sign_0 rfl (lv_at hL 1 rfl) ?_
  refine lv_aload_n hx hb dX4_sign_1 rfl (lv_at hL 0 rfl) ?_
  refine mg_3 C B dX4_sign_2 ?_
  refine gg_icmp_ge hx hb 21 h dX4_sign_5 (by decide) (fun h => ?_) (fun h => ?_)
  · refine lv_iconst (v := 0) hx hb dX4_sign_21 (by decide) ?_
    exact hret _ _ _ _ _ _ _ ⟨Option.some.inj h, rfl, rfl⟩ B dX4_sign_22
  · refine lv_aload_n hx hb dX4_sign_8 rfl (lv_at hL 0 rfl) ?_
    refine mg_1 C B dX4_sign_9 ?_
    refine lv_iload_n hx hb dX4_sign_12 rfl (lv_at hL 1 rfl) ?_
    refine mm_bald C B (a := 2) (n := 1600) (Nat.le_of_ble_eq_true rfl) rfl h dX4_sign_13 (fun v1 h => ?_)
    refine lv_sipush (v := 255) hx hb dX4_sign_14 (by decide) ?_
    refine lv_iand hx hb dX4_sign_17 ?_
    refine lv_goto (tgt := 22) hx hb dX4_sign_18 (by decide) ?_
    exact hret _ _ _ _ _ _ _ ⟨Option.some.inj h, rfl, rfl⟩ B dX4_sign_22
theorem k_X4_sign {p : Program} {l : Launch} {e : Env} {R : Room} {s : State} {m : MethodId} {args : Array Value} {below : List Frame} {meth : Method} {c : Code} {H : Heap} {locs : List Loc} {Q : State → Prop} {pc : Nat} {ls : Array Slot} {rest : List Value} {cc : ByteArray} {nL : Nat} {D : va_G} {cA : Nat → ClassId} {ad : Nat → Nat} {A : Nat → Prop} {gi : GI} {gl : GL} {α : Type} {r : α} {x1 : Int32} {ff : Int32 → Option α} (C : CallFix p m c cc nL s args lw_all RX4) (B : MB D cA ad A s gi gl H locs) (hF : 1 ≤ R.frames) (hN : 21 ≤ R.locals) (hs : ls.size = nL) (hw : (rest.map fun v => v.category).sum ≤ 8) (h : (f_X4_sign gi x1).bind ff = some r) (hdg : decode cc pc = .ok (.invokevirtual 239, 3)) (kk : ∀ q, ff q = some r → ∀ (H' : Heap) (locs' : List Loc), MB D cA ad A s gi gl H' locs' → W p l e R s m args below meth c H' locs' 0 0 Q (F0 m (pc + 3) ls (.int q :: rest))) : W p l e R s m args below meth c H locs 0 0 Q (F0 m pc ls (.int x1 :: .ref (ad 0) :: rest)) := by
  obtain ⟨q, h1, h2⟩ := g_ob h
  refine mm_cVI (As := [.int x1]) (rest := rest) (n := 1) C B (fun sz => w_X4_sign l D cA ad gi gl x1 q h1 sz) q1962 q1964 qs70 q150 q1965 (by decide +kernel) ⟨hF, hN⟩ rfl hs hw hdg (fun v u H9 locs9 hp B9 => ?_)
  obtain ⟨e1, e2, e3⟩ := hp
  rw [e2] at B9
  rw [e3] at B9
  subst e1
  exact kk _ h2 H9 locs9 B9
def f_X4_goOn_j45 (glj45 : GL) (gij45 : GI) : Option ((GI) ⊕ (GI)) :=
  (some (g_pi gij45 0 6 ((gij45 0 6) + 1))).bind fun gi3 =>
  some (.inl gi3)
def f_X4_goOn_l8 (gli8 : GL) (gil8 : GI) : Option ((GI) ⊕ (GI)) :=
  if (gil8 0 3) ≤ (gil8 0 6) then
  (some (.inr gil8))
  else
  ((f_X4_sign gil8 (gil8 0 6)).bind fun q2 =>
  if q2 = 32 then
  (f_X4_goOn_j45 gli8 gil8)
  else
  ((f_X4_sign gil8 (gil8 0 6)).bind fun q4 =>
  if q4 = 10 then
  (f_X4_goOn_j45 gli8 gil8)
  else
  (some (.inr gil8))))
def f_X4_goOn_j309 (glj309 : GL) (gij309 : GI) : Option ((GI) ⊕ (GI)) :=
  (some (g_pi gij309 0 7 ((gij309 0 7) + 1))).bind fun gi16 =>
  some (.inl gi16)
def f_X4_goOn_l259 (gli259 : GL) (gil259 : GI) : Option ((GI) ⊕ (GI)) :=
  (f_X4_sign gil259 (gil259 0 7)).bind fun q14 =>
  (f_X4_isDigit gil259 q14).bind fun q15 =>
  if q15 = 0 then
  (some (.inr gil259))
  else
  (if 4 ≤ ((gil259 0 7) - (gil259 0 6)) then
  (f_X4_goOn_j309 gli259 gil259)
  else
  ((f_X4_sign gil259 (gil259 0 7)).bind fun q17 =>
  (some (g_pi gil259 0 9 (((10 * (gil259 0 9)) + q17) - 48))).bind fun gi18 =>
  f_X4_goOn_j309 gli259 gi18))
def f_X4_goOn_x259 (gly259 : GL) (gie259 : GI) : Option (GI × GL) :=
  if 4 < ((gie259 0 7) - (gie259 0 6)) then
  ((some (g_pi gie259 0 8 1)).bind fun gi19 =>
  some (gi19, gly259))
  else
  ((f_X4_sign gie259 (gie259 0 7)).bind fun q20 =>
  (f_X4_isLetter gie259 q20).bind fun q21 =>
  if q21 = 0 then
  ((some (g_pi gie259 0 8 4)).bind fun gi22 =>
  some (gi22, gly259))
  else
  ((some (g_pi gie259 0 8 1)).bind fun gi23 =>
  some (gi23, gly259)))
def f_X4_goOn_l119 (gli119 : GL) (gil119 : GI) : Option ((GI) ⊕ (GI)) :=
  (f_X4_sign gil119 (gil119 0 7)).bind fun q24 =>
  (f_X4_isLetter gil119 q24).bind fun q25 =>
  if q25 = 0 then
  (some (.inr gil119))
  else
  ((some (g_pi gil119 0 7 ((gil119 0 7) + 1))).bind fun gi26 =>
  some (.inl gi26))
def f_X4_goOn_l156 (gii156 : GI) (x2l156 : Int32) (gll156 : GL) : Option ((Int32 × GL) ⊕ (GL)) :=
  if (gii156 0 7) ≤ x2l156 then
  (some (.inr gll156))
  else
  (if ((gii156 0 6) + 8) ≤ x2l156 then
  (some (.inr gll156))
  else
  ((f_X4_sign gii156 x2l156).bind fun q28 =>
  (some (g_pl gll156 0 10 (((gll156 0 10) <<< ((8 : Int32).toInt64 &&& 63)) ||| q28.toInt64))).bind fun gl29 =>
  some (.inl ((x2l156 + 1, gl29)))))
def f_X4_goOn_x156 (giy156 : GI) (gle156 : GL) : Option (GI × GL) :=
  if ((giy156 0 7) - (giy156 0 6)) ≤ 8 then
  ((f_X4_isKept giy156 (gle156 0 10)).bind fun q30 =>
  if q30 = 0 then
  ((some (g_pi giy156 0 8 2)).bind fun gi31 =>
  some (gi31, gle156))
  else
  ((some (g_pi giy156 0 8 3)).bind fun gi32 =>
  some (gi32, gle156)))
  else
  ((some (g_pi giy156 0 8 1)).bind fun gi33 =>
  some (gi33, gle156))
def f_X4_goOn_x119 (gly119 : GL) (gie119 : GI) : Option (GI × GL) :=
  (some (g_pl gly119 0 10 0)).bind fun gl27 =>
  (g_loop g_K (fun (s : Int32 × GL) => f_X4_goOn_l156 gie119 s.1 s.2) (gie119 0 6, gl27)).bind fun E156 => f_X4_goOn_x156 gie119 E156
def f_X4_goOn_x8 (gly8 : GL) (gie8 : GI) : Option (GI × GL) :=
  (f_X4_sign gie8 (gie8 0 6)).bind fun q5 =>
  (some (g_pi gie8 0 7 ((gie8 0 6) + 1))).bind fun gi6 =>
  if (gi6 0 6) < (gi6 0 3) then
  ((f_X4_isLetter gi6 q5).bind fun q7 =>
  if q7 = 0 then
  ((f_X4_isDigit gi6 q5).bind fun q8 =>
  if q8 = 0 then
  ((f_X4_isSign gi6 q5).bind fun q9 =>
  if q9 = 0 then
  ((some (g_pi gi6 0 8 1)).bind fun gi10 =>
  some (gi10, gly8))
  else
  ((some (g_pi gi6 0 8 5)).bind fun gi11 =>
  some (gi11, gly8)))
  else
  ((some (g_pi gi6 0 9 0)).bind fun gi12 =>
  (some (g_pi gi12 0 7 (gi12 0 6))).bind fun gi13 =>
  (g_loop g_K (fun (s : GI) => f_X4_goOn_l259 gly8 s) (gi13)).bind fun E259 => f_X4_goOn_x259 gly8 E259))
  else
  ((g_loop g_K (fun (s : GI) => f_X4_goOn_l119 gly8 s) (gi6)).bind fun E119 => f_X4_goOn_x119 gly8 E119))
  else
  ((some (g_pi gi6 0 8 0)).bind fun gi34 =>
  (some (g_pi gi34 0 6 (gi34 0 3))).bind fun gi35 =>
  (some (g_pi gi35 0 7 (gi35 0 3))).bind fun gi36 =>
  some (gi36, gly8))
def f_X4_goOn (gi : GI) (gl : GL)  : Option (GI × GL) :=
  (some (g_pi gi 0 6 (gi 0 7))).bind fun gi1 =>
  (g_loop g_K (fun (s : GI) => f_X4_goOn_l8 gl s) (gi1)).bind fun E8 => f_X4_goOn_x8 gl E8
set_option maxHeartbeats 400000 in
theorem w_X4_goOn (l : Launch) (D : va_G) (cA : Nat → ClassId) (ad : Nat → Nat) (gi : GI) (gl : GL)  (r : GI × GL) (h : f_X4_goOn gi gl  = some r) (sz : Nat) : Met l yX4_goOn (ws_ yX4_goOn cX4_goOn 3 (none)) ({ frames := 1, cells := 0, slots := 0, locals := 22 } : Room) (va_Pc [.ref (ad 0)] (MPre D cA ad gi gl sz)) (va_Qv (fun u => (u.1, u.2) = r) (MPost D cA ad) (MA ad sz)) 0 0 (MA ad sz) := by
  refine mm_stV (by decide +kernel) rfl (Nat.le_of_ble_eq_true rfl) (fun p e s m args below meth c R Q A ls C hF hN B hret hL => ?_) sz
  have hx := C.1
  have hb := C.2.1
  have hL : lv_has ls 3 [(0, .ref (ad 0))] := hL
  unfold f_X4_goOn at h
  refine lv_aload_n hx hb dX4_goOn_0 rfl (lv_at hL 0 rfl) ?_
  refine lv_aload_n hx hb dX4_goOn_1 rfl (lv_at hL 0 rfl) ?_
  refine mg_7 C B dX4_goOn_2 ?_
  refine mp_6 C B h dX4_goOn_5 (fun gi1 h H locs B => ?_)
  obtain ⟨E8, h88, h⟩ := g_ob h
  have kx8 : ∀ (gie8 : GI) (H : Heap) (locs : List Loc) (ls : Array Slot), gie8 = E8 → MB D cA ad A s gie8 gl H locs → lv_has ls 3 [(0, .ref (ad 0))] → W p l e R s m args below meth c H locs 0 0 Q (F0 m 58 ls []) := by
    intro gie8 H locs ls he B hL
    subst he
    have h : f_X4_goOn_x8 gl gie8 = some r := h
    unfold f_X4_goOn_x8 at h
    refine lv_aload_n hx hb dX4_goOn_58 rfl (lv_at hL 0 rfl) ?_
    refine lv_aload_n hx hb dX4_goOn_59 rfl (lv_at hL 0 rfl) ?_
    refine mg_6 C B dX4_goOn_60 ?_
    refine k_X4_sign C B (Nat.le_trans (Nat.le_of_ble_eq_true rfl) hF) (Nat.le_trans (Nat.le_of_ble_eq_true rfl) hN) hL.1 (Nat.le_of_ble_eq_true rfl) h dX4_goOn_63 (fun q5 h H locs B => ?_)
    refine lv_istore_n (lv' := [(1, .int q5), (0, .ref (ad 0))]) hx hb dX4_goOn_66 rfl hL (by decide) rfl (fun ls hL => ?_)
    refine lv_aload_n hx hb dX4_goOn_67 rfl (lv_at hL 1 rfl) ?_
    refine lv_aload_n hx hb dX4_goOn_68 rfl (lv_at hL 1 rfl) ?_
    refine mg_6 C B dX4_goOn_69 ?_
    refine lv_iconst (v := 1) hx hb dX4_goOn_72 (by decide) ?_
    refine lv_iadd hx hb dX4_goOn_73 ?_
    refine mp_7 C B h dX4_goOn_74 (fun gi6 h H locs B => ?_)
    refine lv_aload_n hx hb dX4_goOn_77 rfl (lv_at hL 1 rfl) ?_
    refine mg_6 C B dX4_goOn_78 ?_
    refine lv_aload_n hx hb dX4_goOn_81 rfl (lv_at hL 1 rfl) ?_
    refine mg_3 C B dX4_goOn_82 ?_
    refine gg_icmp_lt hx hb 112 h dX4_goOn_85 (by decide) (fun h => ?_) (fun h => ?_)
    · refine lv_iload_n hx hb dX4_goOn_112 rfl (lv_at hL 0 rfl) ?_
      refine k_X4_isLetter C B (Nat.le_trans (Nat.le_of_ble_eq_true rfl) hF) (Nat.le_trans (Nat.le_of_ble_eq_true rfl) hN) hL.1 (Nat.le_of_ble_eq_true rfl) h dX4_goOn_113 (fun q7 h H locs B => ?_)
      refine gg_if_eq hx hb 239 h dX4_goOn_116 (by decide) (fun h => ?_) (fun h => ?_)
      · refine lv_iload_n hx hb dX4_goOn_239 rfl (lv_at hL 0 rfl) ?_
        refine k_X4_isDigit C B (Nat.le_trans (Nat.le_of_ble_eq_true rfl) hF) (Nat.le_trans (Nat.le_of_ble_eq_true rfl) hN) hL.1 (Nat.le_of_ble_eq_true rfl) h dX4_goOn_240 (fun q8 h H locs B => ?_)
        refine gg_if_eq hx hb 361 h dX4_goOn_243 (by decide) (fun h => ?_) (fun h => ?_)
        · refine lv_aload_n hx hb dX4_goOn_361 rfl (lv_at hL 1 rfl) ?_
          refine lv_iload_n hx hb dX4_goOn_362 rfl (lv_at hL 0 rfl) ?_
          refine k_X4_isSign C B (Nat.le_trans (Nat.le_of_ble_eq_true rfl) hF) (Nat.le_trans (Nat.le_of_ble_eq_true rfl) hN) hL.1 (Nat.le_of_ble_eq_true rfl) h dX4_goOn_363 (fun q9 h H locs B => ?_)
          refine gg_if_eq hx hb 373 h dX4_goOn_366 (by decide) (fun h => ?_) (fun h => ?_)
          · refine lv_iconst (v := 1) hx hb dX4_goOn_373 (by decide) ?_
            refine mp_8 C B h dX4_goOn_374 (fun gi10 h H locs B => ?_)
            exact hret _ _ _ _ _ _ (Option.some.inj h) B dX4_goOn_377
          · refine lv_iconst (v := 5) hx hb dX4_goOn_369 (by decide) ?_
            refine lv_goto (tgt := 374) hx hb dX4_goOn_370 (by decide) ?_
            refine mp_8 C B h dX4_goOn_374 (fun gi11 h H locs B => ?_)
            exact hret _ _ _ _ _ _ (Option.some.inj h) B dX4_goOn_377
        · refine lv_aload_n hx hb dX4_goOn_246 rfl (lv_at hL 1 rfl) ?_
          refine lv_iconst (v := 0) hx hb dX4_goOn_247 (by decide) ?_
          refine mp_9 C B h dX4_goOn_248 (fun gi12 h H locs B => ?_)
          refine lv_aload_n hx hb dX4_goOn_251 rfl (lv_at hL 1 rfl) ?_
          refine lv_aload_n hx hb dX4_goOn_252 rfl (lv_at hL 1 rfl) ?_
          refine mg_6 C B dX4_goOn_253 ?_
          refine mp_7 C B h dX4_goOn_256 (fun gi13 h H locs B => ?_)
          obtain ⟨E259, h8259, h⟩ := g_ob h
          have kx259 : ∀ (gie259 : GI) (H : Heap) (locs : List Loc) (ls : Array Slot), gie259 = E259 → MB D cA ad A s gie259 gl H locs → lv_has ls 3 [(0, .ref (ad 0))] → W p l e R s m args below meth c H locs 0 0 Q (F0 m 322 ls []) := by
            intro gie259 H locs ls he B hL
            subst he
            have h : f_X4_goOn_x259 gl gie259 = some r := h
            unfold f_X4_goOn_x259 at h
            refine lv_aload_n hx hb dX4_goOn_322 rfl (lv_at hL 0 rfl) ?_
            refine lv_aload_n hx hb dX4_goOn_323 rfl (lv_at hL 0 rfl) ?_
            refine mg_7 C B dX4_goOn_324 ?_
            refine lv_aload_n hx hb dX4_goOn_327 rfl (lv_at hL 0 rfl) ?_
            refine mg_6 C B dX4_goOn_328 ?_
            refine lv_isub hx hb dX4_goOn_331 ?_
            refine lv_iconst (v := 4) hx hb dX4_goOn_332 (by decide) ?_
            refine gg_icmp_gt hx hb 350 h dX4_goOn_333 (by decide) (fun h => ?_) (fun h => ?_)
            · refine lv_iconst (v := 1) hx hb dX4_goOn_350 (by decide) ?_
              refine lv_goto (tgt := 355) hx hb dX4_goOn_351 (by decide) ?_
              refine mp_8 C B h dX4_goOn_355 (fun gi19 h H locs B => ?_)
              refine lv_goto (tgt := 377) hx hb dX4_goOn_358 (by decide) ?_
              exact hret _ _ _ _ _ _ (Option.some.inj h) B dX4_goOn_377
            · refine lv_aload_n hx hb dX4_goOn_336 rfl (lv_at hL 0 rfl) ?_
              refine lv_aload_n hx hb dX4_goOn_337 rfl (lv_at hL 0 rfl) ?_
              refine mg_7 C B dX4_goOn_338 ?_
              refine k_X4_sign C B (Nat.le_trans (Nat.le_of_ble_eq_true rfl) hF) (Nat.le_trans (Nat.le_of_ble_eq_true rfl) hN) hL.1 (Nat.le_of_ble_eq_true rfl) h dX4_goOn_341 (fun q20 h H locs B => ?_)
              refine k_X4_isLetter C B (Nat.le_trans (Nat.le_of_ble_eq_true rfl) hF) (Nat.le_trans (Nat.le_of_ble_eq_true rfl) hN) hL.1 (Nat.le_of_ble_eq_true rfl) h dX4_goOn_344 (fun q21 h H locs B => ?_)
              refine gg_if_eq hx hb 354 h dX4_goOn_347 (by decide) (fun h => ?_) (fun h => ?_)
              · refine lv_iconst (v := 4) hx hb dX4_goOn_354 (by decide) ?_
                refine mp_8 C B h dX4_goOn_355 (fun gi22 h H locs B => ?_)
                refine lv_goto (tgt := 377) hx hb dX4_goOn_358 (by decide) ?_
                exact hret _ _ _ _ _ _ (Option.some.inj h) B dX4_goOn_377
              · refine lv_iconst (v := 1) hx hb dX4_goOn_350 (by decide) ?_
                refine lv_goto (tgt := 355) hx hb dX4_goOn_351 (by decide) ?_
                refine mp_8 C B h dX4_goOn_355 (fun gi23 h H locs B => ?_)
                refine lv_goto (tgt := 377) hx hb dX4_goOn_358 (by decide) ?_
                exact hret _ _ _ _ _ _ (Option.some.inj h) B dX4_goOn_377
          have hl259 : ∀ (k : Nat) (gil259 : GI) (H : Heap) (locs : List Loc) (ls : Array Slot), g_loop k (fun (s : GI) => f_X4_goOn_l259 gl s) gil259 = some E259 → MB D cA ad A s gil259 gl H locs → lv_has ls 3 [(0, .ref (ad 0))] → W p l e R s m args below meth c H locs 0 0 Q (F0 m 259 ls []) := by
            intro k
            induction k with
            | zero => intro gil259 H locs ls h; exact absurd h (fun z => g_loop_0 z)
            | succ k ih259 =>
              intro gil259 H locs ls h B hL
              obtain ⟨Z259, h, h9259⟩ := g_loop_s h
              have h : f_X4_goOn_l259 gl gil259 = some Z259 := h
              unfold f_X4_goOn_l259 at h
              have hj309 : ∀ (gij309 : GI) (H : Heap) (locs : List Loc) (ls : Array Slot), f_X4_goOn_j309 gl gij309 = some Z259 → MB D cA ad A s gij309 gl H locs → lv_has ls 3 [(0, .ref (ad 0))] → W p l e R s m args below meth c H locs 0 0 Q (F0 m 309 ls []) := by
                intro gij309 H locs ls h B hL
                unfold f_X4_goOn_j309 at h
                refine lv_aload_n hx hb dX4_goOn_309 rfl (lv_at hL 0 rfl) ?_
                refine lv_dup hx hb dX4_goOn_310 rfl ?_
                refine mg_7 C B dX4_goOn_311 ?_
                refine lv_iconst (v := 1) hx hb dX4_goOn_314 (by decide) ?_
                refine lv_iadd hx hb dX4_goOn_315 ?_
                refine mp_7 C B h dX4_goOn_316 (fun gi16 h H locs B => ?_)
                refine lv_goto (tgt := 259) hx hb dX4_goOn_319 (by decide) ?_
                exact ih259 _ _ _ _ (g_next h h9259) B (lv_sub hL [0] rfl)
              refine lv_aload_n hx hb dX4_goOn_259 rfl (lv_at hL 0 rfl) ?_
              refine lv_aload_n hx hb dX4_goOn_260 rfl (lv_at hL 0 rfl) ?_
              refine mg_7 C B dX4_goOn_261 ?_
              refine k_X4_sign C B (Nat.le_trans (Nat.le_of_ble_eq_true rfl) hF) (Nat.le_trans (Nat.le_of_ble_eq_true rfl) hN) hL.1 (Nat.le_of_ble_eq_true rfl) h dX4_goOn_264 (fun q14 h H locs B => ?_)
              refine k_X4_isDigit C B (Nat.le_trans (Nat.le_of_ble_eq_true rfl) hF) (Nat.le_trans (Nat.le_of_ble_eq_true rfl) hN) hL.1 (Nat.le_of_ble_eq_true rfl) h dX4_goOn_267 (fun q15 h H locs B => ?_)
              refine gg_if_eq hx hb 322 h dX4_goOn_270 (by decide) (fun h => ?_) (fun h => ?_)
              · exact kx259 _ _ _ _ (g_exit h h9259) B (lv_sub hL [0] rfl)
              · refine lv_aload_n hx hb dX4_goOn_273 rfl (lv_at hL 0 rfl) ?_
                refine mg_7 C B dX4_goOn_274 ?_
                refine lv_aload_n hx hb dX4_goOn_277 rfl (lv_at hL 0 rfl) ?_
                refine mg_6 C B dX4_goOn_278 ?_
                refine lv_isub hx hb dX4_goOn_281 ?_
                refine lv_iconst (v := 4) hx hb dX4_goOn_282 (by decide) ?_
                refine gg_icmp_ge hx hb 309 h dX4_goOn_283 (by decide) (fun h => ?_) (fun h => ?_)
                · exact hj309 _ _ _ _ h B (lv_sub hL [0] rfl)
                · refine lv_aload_n hx hb dX4_goOn_286 rfl (lv_at hL 0 rfl) ?_
                  refine lv_bipush (v := 10) hx hb dX4_goOn_287 (by decide) ?_
                  refine lv_aload_n hx hb dX4_goOn_289 rfl (lv_at hL 0 rfl) ?_
                  refine mg_9 C B dX4_goOn_290 ?_
                  refine lv_imul hx hb dX4_goOn_293 ?_
                  refine lv_aload_n hx hb dX4_goOn_294 rfl (lv_at hL 0 rfl) ?_
                  refine lv_aload_n hx hb dX4_goOn_295 rfl (lv_at hL 0 rfl) ?_
                  refine mg_7 C B dX4_goOn_296 ?_
                  refine k_X4_sign C B (Nat.le_trans (Nat.le_of_ble_eq_true rfl) hF) (Nat.le_trans (Nat.le_of_ble_eq_true rfl) hN) hL.1 (Nat.le_of_ble_eq_true rfl) h dX4_goOn_299 (fun q17 h H locs B => ?_)
                  refine lv_iadd hx hb dX4_goOn_302 ?_
                  refine lv_bipush (v := 48) hx hb dX4_goOn_303 (by decide) ?_
                  refine lv_isub hx hb dX4_goOn_305 ?_
                  refine mp_9 C B h dX4_goOn_306 (fun gi18 h H locs B => ?_)
                  exact hj309 _ _ _ _ h B (lv_sub hL [0] rfl)
          exact hl259 g_K _ _ _ _ h8259 B (lv_sub hL [1] rfl)
      · obtain ⟨E119, h8119, h⟩ := g_ob h
        have kx119 : ∀ (gie119 : GI) (H : Heap) (locs : List Loc) (ls : Array Slot), gie119 = E119 → MB D cA ad A s gie119 gl H locs → lv_has ls 3 [(0, .ref (ad 0))] → W p l e R s m args below meth c H locs 0 0 Q (F0 m 146 ls []) := by
          intro gie119 H locs ls he B hL
          subst he
          have h : f_X4_goOn_x119 gl gie119 = some r := h
          unfold f_X4_goOn_x119 at h
          refine lv_aload_n hx hb dX4_goOn_146 rfl (lv_at hL 0 rfl) ?_
          refine lv_lconst (v := 0) hx hb dX4_goOn_147 (by decide) ?_
          refine mp_10 C B h dX4_goOn_148 (fun gl27 h H locs B => ?_)
          refine lv_aload_n hx hb dX4_goOn_151 rfl (lv_at hL 0 rfl) ?_
          refine mg_6 C B dX4_goOn_152 ?_
          refine lv_istore_n (lv' := [(2, .int (gie119 0 6)), (0, .ref (ad 0))]) hx hb dX4_goOn_155 rfl hL (by decide) rfl (fun ls hL => ?_)
          obtain ⟨E156, h8156, h⟩ := g_ob h
          have kx156 : ∀ (gle156 : GL) (H : Heap) (locs : List Loc) (ls : Array Slot), gle156 = E156 → MB D cA ad A s gie119 gle156 H locs → lv_has ls 3 [(0, .ref (ad 0))] → W p l e R s m args below meth c H locs 0 0 Q (F0 m 199 ls []) := by
            intro gle156 H locs ls he B hL
            subst he
            have h : f_X4_goOn_x156 gie119 gle156 = some r := h
            unfold f_X4_goOn_x156 at h
            refine lv_aload_n hx hb dX4_goOn_199 rfl (lv_at hL 0 rfl) ?_
            refine lv_aload_n hx hb dX4_goOn_200 rfl (lv_at hL 0 rfl) ?_
            refine mg_7 C B dX4_goOn_201 ?_
            refine lv_aload_n hx hb dX4_goOn_204 rfl (lv_at hL 0 rfl) ?_
            refine mg_6 C B dX4_goOn_205 ?_
            refine lv_isub hx hb dX4_goOn_208 ?_
            refine lv_bipush (v := 8) hx hb dX4_goOn_209 (by decide) ?_
            refine gg_icmp_le hx hb 218 h dX4_goOn_211 (by decide) (fun h => ?_) (fun h => ?_)
            · refine lv_aload_n hx hb dX4_goOn_218 rfl (lv_at hL 0 rfl) ?_
              refine mg_10 C B dX4_goOn_219 ?_
              refine k_X4_isKept C B (Nat.le_trans (Nat.le_of_ble_eq_true rfl) hF) (Nat.le_trans (Nat.le_of_ble_eq_true rfl) hN) hL.1 (Nat.le_of_ble_eq_true rfl) h dX4_goOn_222 (fun q30 h H locs B => ?_)
              refine gg_if_eq hx hb 232 h dX4_goOn_225 (by decide) (fun h => ?_) (fun h => ?_)
              · refine lv_iconst (v := 2) hx hb dX4_goOn_232 (by decide) ?_
                refine mp_8 C B h dX4_goOn_233 (fun gi31 h H locs B => ?_)
                refine lv_goto (tgt := 377) hx hb dX4_goOn_236 (by decide) ?_
                exact hret _ _ _ _ _ _ (Option.some.inj h) B dX4_goOn_377
              · refine lv_iconst (v := 3) hx hb dX4_goOn_228 (by decide) ?_
                refine lv_goto (tgt := 233) hx hb dX4_goOn_229 (by decide) ?_
                refine mp_8 C B h dX4_goOn_233 (fun gi32 h H locs B => ?_)
                refine lv_goto (tgt := 377) hx hb dX4_goOn_236 (by decide) ?_
                exact hret _ _ _ _ _ _ (Option.some.inj h) B dX4_goOn_377
            · refine lv_iconst (v := 1) hx hb dX4_goOn_214 (by decide) ?_
              refine lv_goto (tgt := 233) hx hb dX4_goOn_215 (by decide) ?_
              refine mp_8 C B h dX4_goOn_233 (fun gi33 h H locs B => ?_)
              refine lv_goto (tgt := 377) hx hb dX4_goOn_236 (by decide) ?_
              exact hret _ _ _ _ _ _ (Option.some.inj h) B dX4_goOn_377
          have hl156 : ∀ (k : Nat) (x2l156 : Int32) (gll156 : GL) (H : Heap) (locs : List Loc) (ls : Array Slot), g_loop k (fun (s : Int32 × GL) => f_X4_goOn_l156 gie119 s.1 s.2) (x2l156, gll156) = some E156 → MB D cA ad A s gie119 gll156 H locs → lv_has ls 3 [(0, .ref (ad 0)), (2, .int x2l156)] → W p l e R s m args below meth c H locs 0 0 Q (F0 m 156 ls []) := by
            intro k
            induction k with
            | zero => intro x2l156 gll156 H locs ls h; exact absurd h (fun z => g_loop_0 z)
            | succ k ih156 =>
              intro x2l156 gll156 H locs ls h B hL
              obtain ⟨Z156, h, h9156⟩ := g_loop_s h
              have h : f_X4_goOn_l156 gie119 x2l156 gll156 = some Z156 := h
              unfold f_X4_goOn_l156 at h
              refine lv_iload_n hx hb dX4_goOn_156 rfl (lv_at hL 1 rfl) ?_
              refine lv_aload_n hx hb dX4_goOn_157 rfl (lv_at hL 0 rfl) ?_
              refine mg_7 C B dX4_goOn_158 ?_
              refine gg_icmp_ge hx hb 199 h dX4_goOn_161 (by decide) (fun h => ?_) (fun h => ?_)
              · exact kx156 _ _ _ _ (g_exit h h9156) B (lv_sub hL [0] rfl)
              · refine lv_iload_n hx hb dX4_goOn_164 rfl (lv_at hL 1 rfl) ?_
                refine lv_aload_n hx hb dX4_goOn_165 rfl (lv_at hL 0 rfl) ?_
                refine mg_6 C B dX4_goOn_166 ?_
                refine lv_bipush (v := 8) hx hb dX4_goOn_169 (by decide) ?_
                refine lv_iadd hx hb dX4_goOn_171 ?_
                refine gg_icmp_ge hx hb 199 h dX4_goOn_172 (by decide) (fun h => ?_) (fun h => ?_)
                · exact kx156 _ _ _ _ (g_exit h h9156) B (lv_sub hL [0] rfl)
                · refine lv_aload_n hx hb dX4_goOn_175 rfl (lv_at hL 0 rfl) ?_
                  refine lv_aload_n hx hb dX4_goOn_176 rfl (lv_at hL 0 rfl) ?_
                  refine mg_10 C B dX4_goOn_177 ?_
                  refine lv_bipush (v := 8) hx hb dX4_goOn_180 (by decide) ?_
                  refine lv_lshl hx hb dX4_goOn_182 rfl ?_
                  refine lv_aload_n hx hb dX4_goOn_183 rfl (lv_at hL 0 rfl) ?_
                  refine lv_iload_n hx hb dX4_goOn_184 rfl (lv_at hL 1 rfl) ?_
                  refine k_X4_sign C B (Nat.le_trans (Nat.le_of_ble_eq_true rfl) hF) (Nat.le_trans (Nat.le_of_ble_eq_true rfl) hN) hL.1 (Nat.le_of_ble_eq_true rfl) h dX4_goOn_185 (fun q28 h H locs B => ?_)
                  refine lv_i2l hx hb dX4_goOn_188 rfl ?_
                  refine lv_lor hx hb dX4_goOn_189 ?_
                  refine mp_10 C B h dX4_goOn_190 (fun gl29 h H locs B => ?_)
                  refine lv_iinc (v := x2l156 + 1) (lv' := [(2, .int (x2l156 + 1)), (0, .ref (ad 0))]) hx hb dX4_goOn_193 hL (k := 1) rfl rfl (by decide) rfl (fun ls hL => ?_)
                  refine lv_goto (tgt := 156) hx hb dX4_goOn_196 (by decide) ?_
                  exact ih156 _ _ _ _ _ (g_next h h9156) B (lv_sub hL [1, 0] rfl)
          exact hl156 g_K _ _ _ _ _ h8156 B (lv_sub hL [1, 0] rfl)
        have hl119 : ∀ (k : Nat) (gil119 : GI) (H : Heap) (locs : List Loc) (ls : Array Slot), g_loop k (fun (s : GI) => f_X4_goOn_l119 gl s) gil119 = some E119 → MB D cA ad A s gil119 gl H locs → lv_has ls 3 [(0, .ref (ad 0))] → W p l e R s m args below meth c H locs 0 0 Q (F0 m 119 ls []) := by
          intro k
          induction k with
          | zero => intro gil119 H locs ls h; exact absurd h (fun z => g_loop_0 z)
          | succ k ih119 =>
            intro gil119 H locs ls h B hL
            obtain ⟨Z119, h, h9119⟩ := g_loop_s h
            have h : f_X4_goOn_l119 gl gil119 = some Z119 := h
            unfold f_X4_goOn_l119 at h
            refine lv_aload_n hx hb dX4_goOn_119 rfl (lv_at hL 0 rfl) ?_
            refine lv_aload_n hx hb dX4_goOn_120 rfl (lv_at hL 0 rfl) ?_
            refine mg_7 C B dX4_goOn_121 ?_
            refine k_X4_sign C B (Nat.le_trans (Nat.le_of_ble_eq_true rfl) hF) (Nat.le_trans (Nat.le_of_ble_eq_true rfl) hN) hL.1 (Nat.le_of_ble_eq_true rfl) h dX4_goOn_124 (fun q24 h H locs B => ?_)
            refine k_X4_isLetter C B (Nat.le_trans (Nat.le_of_ble_eq_true rfl) hF) (Nat.le_trans (Nat.le_of_ble_eq_true rfl) hN) hL.1 (Nat.le_of_ble_eq_true rfl) h dX4_goOn_127 (fun q25 h H locs B => ?_)
            refine gg_if_eq hx hb 146 h dX4_goOn_130 (by decide) (fun h => ?_) (fun h => ?_)
            · exact kx119 _ _ _ _ (g_exit h h9119) B (lv_sub hL [0] rfl)
            · refine lv_aload_n hx hb dX4_goOn_133 rfl (lv_at hL 0 rfl) ?_
              refine lv_dup hx hb dX4_goOn_134 rfl ?_
              refine mg_7 C B dX4_goOn_135 ?_
              refine lv_iconst (v := 1) hx hb dX4_goOn_138 (by decide) ?_
              refine lv_iadd hx hb dX4_goOn_139 ?_
              refine mp_7 C B h dX4_goOn_140 (fun gi26 h H locs B => ?_)
              refine lv_goto (tgt := 119) hx hb dX4_goOn_143 (by decide) ?_
              exact ih119 _ _ _ _ (g_next h h9119) B (lv_sub hL [0] rfl)
        exact hl119 g_K _ _ _ _ h8119 B (lv_sub hL [1] rfl)
    · refine lv_aload_n hx hb dX4_goOn_88 rfl (lv_at hL 1 rfl) ?_
      refine lv_iconst (v := 0) hx hb dX4_goOn_89 (by decide) ?_
      refine mp_8 C B h dX4_goOn_90 (fun gi34 h H locs B => ?_)
      refine lv_aload_n hx hb dX4_goOn_93 rfl (lv_at hL 1 rfl) ?_
      refine lv_aload_n hx hb dX4_goOn_94 rfl (lv_at hL 1 rfl) ?_
      refine mg_3 C B dX4_goOn_95 ?_
      refine mp_6 C B h dX4_goOn_98 (fun gi35 h H locs B => ?_)
      refine lv_aload_n hx hb dX4_goOn_101 rfl (lv_at hL 1 rfl) ?_
      refine lv_aload_n hx hb dX4_goOn_102 rfl (lv_at hL 1 rfl) ?_
      refine mg_3 C B dX4_goOn_103 ?_
      refine mp_7 C B h dX4_goOn_106 (fun gi36 h H locs B => ?_)
      refine lv_goto (tgt := 377) hx hb dX4_goOn_109 (by decide) ?_
      exact hret _ _ _ _ _ _ (Option.some.inj h) B dX4_goOn_377
  have hl8 : ∀ (k : Nat) (gil8 : GI) (H : Heap) (locs : List Loc) (ls : Array Slot), g_loop k (fun (s : GI) => f_X4_goOn_l8 gl s) gil8 = some E8 → MB D cA ad A s gil8 gl H locs → lv_has ls 3 [(0, .ref (ad 0))] → W p l e R s m args below meth c H locs 0 0 Q (F0 m 8 ls []) := by
    intro k
    induction k with
    | zero => intro gil8 H locs ls h; exact absurd h (fun z => g_loop_0 z)
    | succ k ih8 =>
      intro gil8 H locs ls h B hL
      obtain ⟨Z8, h, h98⟩ := g_loop_s h
      have h : f_X4_goOn_l8 gl gil8 = some Z8 := h
      unfold f_X4_goOn_l8 at h
      have hj45 : ∀ (gij45 : GI) (H : Heap) (locs : List Loc) (ls : Array Slot), f_X4_goOn_j45 gl gij45 = some Z8 → MB D cA ad A s gij45 gl H locs → lv_has ls 3 [(0, .ref (ad 0))] → W p l e R s m args below meth c H locs 0 0 Q (F0 m 45 ls []) := by
        intro gij45 H locs ls h B hL
        unfold f_X4_goOn_j45 at h
        refine lv_aload_n hx hb dX4_goOn_45 rfl (lv_at hL 0 rfl) ?_
        refine lv_dup hx hb dX4_goOn_46 rfl ?_
        refine mg_6 C B dX4_goOn_47 ?_
        refine lv_iconst (v := 1) hx hb dX4_goOn_50 (by decide) ?_
        refine lv_iadd hx hb dX4_goOn_51 ?_
        refine mp_6 C B h dX4_goOn_52 (fun gi3 h H locs B => ?_)
        refine lv_goto (tgt := 8) hx hb dX4_goOn_55 (by decide) ?_
        exact ih8 _ _ _ _ (g_next h h98) B (lv_sub hL [0] rfl)
      refine lv_aload_n hx hb dX4_goOn_8 rfl (lv_at hL 0 rfl) ?_
      refine mg_6 C B dX4_goOn_9 ?_
      refine lv_aload_n hx hb dX4_goOn_12 rfl (lv_at hL 0 rfl) ?_
      refine mg_3 C B dX4_goOn_13 ?_
      refine gg_icmp_ge hx hb 58 h dX4_goOn_16 (by decide) (fun h => ?_) (fun h => ?_)
      · exact kx8 _ _ _ _ (g_exit h h98) B (lv_sub hL [0] rfl)
      · refine lv_aload_n hx hb dX4_goOn_19 rfl (lv_at hL 0 rfl) ?_
        refine lv_aload_n hx hb dX4_goOn_20 rfl (lv_at hL 0 rfl) ?_
        refine mg_6 C B dX4_goOn_21 ?_
        refine k_X4_sign C B (Nat.le_trans (Nat.le_of_ble_eq_true rfl) hF) (Nat.le_trans (Nat.le_of_ble_eq_true rfl) hN) hL.1 (Nat.le_of_ble_eq_true rfl) h dX4_goOn_24 (fun q2 h H locs B => ?_)
        refine lv_bipush (v := 32) hx hb dX4_goOn_27 (by decide) ?_
        refine gg_icmp_eq hx hb 45 h dX4_goOn_29 (by decide) (fun h => ?_) (fun h => ?_)
        · exact hj45 _ _ _ _ h B (lv_sub hL [0] rfl)
        · refine lv_aload_n hx hb dX4_goOn_32 rfl (lv_at hL 0 rfl) ?_
          refine lv_aload_n hx hb dX4_goOn_33 rfl (lv_at hL 0 rfl) ?_
          refine mg_6 C B dX4_goOn_34 ?_
          refine k_X4_sign C B (Nat.le_trans (Nat.le_of_ble_eq_true rfl) hF) (Nat.le_trans (Nat.le_of_ble_eq_true rfl) hN) hL.1 (Nat.le_of_ble_eq_true rfl) h dX4_goOn_37 (fun q4 h H locs B => ?_)
          refine lv_bipush (v := 10) hx hb dX4_goOn_40 (by decide) ?_
          refine gg_icmp_ne hx hb 58 h dX4_goOn_42 (by decide) (fun h => ?_) (fun h => ?_)
          · exact kx8 _ _ _ _ (g_exit h h98) B (lv_sub hL [0] rfl)
          · exact hj45 _ _ _ _ h B (lv_sub hL [0] rfl)
  exact hl8 g_K _ _ _ _ h88 B (lv_sub hL [0] rfl)
theorem k_X4_goOn {p : Program} {l : Launch} {e : Env} {R : Room} {s : State} {m : MethodId} {args : Array Value} {below : List Frame} {meth : Method} {c : Code} {H : Heap} {locs : List Loc} {Q : State → Prop} {pc : Nat} {ls : Array Slot} {rest : List Value} {cc : ByteArray} {nL : Nat} {D : va_G} {cA : Nat → ClassId} {ad : Nat → Nat} {A : Nat → Prop} {gi : GI} {gl : GL} {α : Type} {r : α}  {ff : (GI × GL) → Option α} (C : CallFix p m c cc nL s args lw_all RX4) (B : MB D cA ad A s gi gl H locs) (hF : 2 ≤ R.frames) (hN : 44 ≤ R.locals) (hs : ls.size = nL) (hw : (rest.map fun v => v.category).sum ≤ 8) (h : (f_X4_goOn gi gl ).bind ff = some r) (hdg : decode cc pc = .ok (.invokevirtual 275, 3)) (kk : ∀ q, ff q = some r → ∀ (H' : Heap) (locs' : List Loc), MB D cA ad A s q.1 q.2 H' locs' → W p l e R s m args below meth c H' locs' 0 0 Q (F0 m (pc + 3) ls (rest))) : W p l e R s m args below meth c H locs 0 0 Q (F0 m pc ls (.ref (ad 0) :: rest)) := by
  obtain ⟨q, h1, h2⟩ := g_ob h
  refine mm_cVV (As := []) (rest := rest) (n := 0) C B (fun sz => w_X4_goOn l D cA ad gi gl  q h1 sz) q1958 q1960 qs69 q150 q1961 (by decide +kernel) ⟨hF, hN⟩ rfl hs hw hdg (fun u H9 locs9 hp B9 => ?_)
  have e1 := hp
  subst e1
  exact kk _ h2 H9 locs9 B9
def f_X4_isGood (gi : GI)  : Option (Int32) :=
  if (gi 0 4) = 0 then
  (some 1)
  else
  (some 0)
set_option maxHeartbeats 400000 in
theorem w_X4_isGood (l : Launch) (D : va_G) (cA : Nat → ClassId) (ad : Nat → Nat) (gi : GI) (gl : GL)  (r : Int32) (h : f_X4_isGood gi  = some r) (sz : Nat) : Met l yX4_isGood (ws_ yX4_isGood cX4_isGood 1 (some .boolean)) ({ frames := 0, cells := 0, slots := 0, locals := 0 } : Room) (va_Pc [.ref (ad 0)] (MPre D cA ad gi gl sz)) (va_Qi (fun v u => v = r ∧ u.1 = gi ∧ u.2 = gl) (MPost D cA ad) (MA ad sz)) 0 0 (MA ad sz) := by
  refine mm_stZ (by decide +kernel) rfl (Nat.le_of_ble_eq_true rfl) (fun p e s m args below meth c R Q A ls C hF hN B hret hL => ?_) sz
  have hx := C.1
  have hb := C.2.1
  have hL : lv_has ls 1 [(0, .ref (ad 0))] := hL
  unfold f_X4_isGood at h
  refine lv_aload_n hx hb dX4_isGood_0 rfl (lv_at hL 0 rfl) ?_
  refine mg_4 C B dX4_isGood_1 ?_
  refine gg_if_ne hx hb 11 h dX4_isGood_4 (by decide) (fun h => ?_) (fun h => ?_)
  · refine lv_iconst (v := 0) hx hb dX4_isGood_11 (by decide) ?_
    exact hret _ _ _ _ _ _ _ ⟨Option.some.inj h, rfl, rfl⟩ (Or.inl rfl) B dX4_isGood_12
  · refine lv_iconst (v := 1) hx hb dX4_isGood_7 (by decide) ?_
    refine lv_goto (tgt := 12) hx hb dX4_isGood_8 (by decide) ?_
    exact hret _ _ _ _ _ _ _ ⟨Option.some.inj h, rfl, rfl⟩ (Or.inr rfl) B dX4_isGood_12
theorem k_X4_isGood {p : Program} {l : Launch} {e : Env} {R : Room} {s : State} {m : MethodId} {args : Array Value} {below : List Frame} {meth : Method} {c : Code} {H : Heap} {locs : List Loc} {Q : State → Prop} {pc : Nat} {ls : Array Slot} {rest : List Value} {cc : ByteArray} {nL : Nat} {D : va_G} {cA : Nat → ClassId} {ad : Nat → Nat} {A : Nat → Prop} {gi : GI} {gl : GL} {α : Type} {r : α}  {ff : Int32 → Option α} (C : CallFix p m c cc nL s args lw_all RX4) (B : MB D cA ad A s gi gl H locs) (hF : 1 ≤ R.frames) (hN : 20 ≤ R.locals) (hs : ls.size = nL) (hw : (rest.map fun v => v.category).sum ≤ 8) (h : (f_X4_isGood gi ).bind ff = some r) (hdg : decode cc pc = .ok (.invokevirtual 271, 3)) (kk : ∀ q, ff q = some r → ∀ (H' : Heap) (locs' : List Loc), MB D cA ad A s gi gl H' locs' → W p l e R s m args below meth c H' locs' 0 0 Q (F0 m (pc + 3) ls (.int q :: rest))) : W p l e R s m args below meth c H locs 0 0 Q (F0 m pc ls (.ref (ad 0) :: rest)) := by
  obtain ⟨q, h1, h2⟩ := g_ob h
  refine mm_cVI (As := []) (rest := rest) (n := 0) C B (fun sz => w_X4_isGood l D cA ad gi gl  q h1 sz) q1999 q2001 qs71 q150 q2002 (by decide +kernel) ⟨hF, hN⟩ rfl hs hw hdg (fun v u H9 locs9 hp B9 => ?_)
  obtain ⟨e1, e2, e3⟩ := hp
  rw [e2] at B9
  rw [e3] at B9
  subst e1
  exact kk _ h2 H9 locs9 B9
def f_X4_fails (gi : GI) (x1 : Int32) (x2 : Int32) : Option (GI) :=
  if (gi 0 4) ≤ 0 then
  ((some (g_pi gi 0 4 x1)).bind fun gi1 =>
  (some (g_pi gi1 0 5 x2)).bind fun gi2 =>
  some gi2)
  else
  (some gi)
set_option maxHeartbeats 400000 in
theorem w_X4_fails (l : Launch) (D : va_G) (cA : Nat → ClassId) (ad : Nat → Nat) (gi : GI) (gl : GL) (x1 : Int32) (x2 : Int32) (r : GI) (h : f_X4_fails gi x1 x2 = some r) (sz : Nat) : Met l yX4_fails (ws_ yX4_fails cX4_fails 3 (none)) ({ frames := 0, cells := 0, slots := 0, locals := 0 } : Room) (va_Pc [.ref (ad 0), .int x1, .int x2] (MPre D cA ad gi gl sz)) (va_Qv (fun u => u.1 = r ∧ u.2 = gl) (MPost D cA ad) (MA ad sz)) 0 0 (MA ad sz) := by
  refine mm_stV (by decide +kernel) rfl (Nat.le_of_ble_eq_true rfl) (fun p e s m args below meth c R Q A ls C hF hN B hret hL => ?_) sz
  have hx := C.1
  have hb := C.2.1
  have hL : lv_has ls 3 [(0, .ref (ad 0)), (1, .int x1), (2, .int x2)] := hL
  unfold f_X4_fails at h
  refine lv_aload_n hx hb dX4_fails_0 rfl (lv_at hL 0 rfl) ?_
  refine mg_4 C B dX4_fails_1 ?_
  refine gg_if_le hx hb 8 h dX4_fails_4 (by decide) (fun h => ?_) (fun h => ?_)
  · refine lv_aload_n hx hb dX4_fails_8 rfl (lv_at hL 0 rfl) ?_
    refine lv_iload_n hx hb dX4_fails_9 rfl (lv_at hL 1 rfl) ?_
    refine mp_4 C B h dX4_fails_10 (fun gi1 h H locs B => ?_)
    refine lv_aload_n hx hb dX4_fails_13 rfl (lv_at hL 0 rfl) ?_
    refine lv_iload_n hx hb dX4_fails_14 rfl (lv_at hL 2 rfl) ?_
    refine mp_5 C B h dX4_fails_15 (fun gi2 h H locs B => ?_)
    exact hret _ _ _ _ _ _ ⟨Option.some.inj h, rfl⟩ B dX4_fails_18
  · exact hret _ _ _ _ _ _ ⟨Option.some.inj h, rfl⟩ B dX4_fails_7
theorem k_X4_fails {p : Program} {l : Launch} {e : Env} {R : Room} {s : State} {m : MethodId} {args : Array Value} {below : List Frame} {meth : Method} {c : Code} {H : Heap} {locs : List Loc} {Q : State → Prop} {pc : Nat} {ls : Array Slot} {rest : List Value} {cc : ByteArray} {nL : Nat} {D : va_G} {cA : Nat → ClassId} {ad : Nat → Nat} {A : Nat → Prop} {gi : GI} {gl : GL} {α : Type} {r : α} {x1 : Int32} {x2 : Int32} {ff : GI → Option α} (C : CallFix p m c cc nL s args lw_all RX4) (B : MB D cA ad A s gi gl H locs) (hF : 1 ≤ R.frames) (hN : 22 ≤ R.locals) (hs : ls.size = nL) (hw : (rest.map fun v => v.category).sum ≤ 8) (h : (f_X4_fails gi x1 x2).bind ff = some r) (hdg : decode cc pc = .ok (.invokevirtual 267, 3)) (kk : ∀ q, ff q = some r → ∀ (H' : Heap) (locs' : List Loc), MB D cA ad A s q gl H' locs' → W p l e R s m args below meth c H' locs' 0 0 Q (F0 m (pc + 3) ls (rest))) : W p l e R s m args below meth c H locs 0 0 Q (F0 m pc ls (.int x2 :: .int x1 :: .ref (ad 0) :: rest)) := by
  obtain ⟨q, h1, h2⟩ := g_ob h
  refine mm_cVV (As := [.int x1, .int x2]) (rest := rest) (n := 2) C B (fun sz => w_X4_fails l D cA ad gi gl x1 x2 q h1 sz) q2019 q2021 qs76 q150 q2022 (by decide +kernel) ⟨hF, hN⟩ rfl hs hw hdg (fun u H9 locs9 hp B9 => ?_)
  obtain ⟨e1, e3⟩ := hp
  rw [e3] at B9
  subst e1
  exact kk _ h2 H9 locs9 B9
def f_X4_misplaced_j14 (gij14 : GI) (t0j14 : Int32) : Option (GI) :=
  (f_X4_fails gij14 t0j14 (gij14 0 6)).bind fun q1 =>
  some q1
def f_X4_misplaced (gi : GI)  : Option (GI) :=
  if (gi 0 8) = 1 then
  (f_X4_misplaced_j14 gi 1)
  else
  (f_X4_misplaced_j14 gi 2)
set_option maxHeartbeats 400000 in
theorem w_X4_misplaced (l : Launch) (D : va_G) (cA : Nat → ClassId) (ad : Nat → Nat) (gi : GI) (gl : GL)  (r : GI) (h : f_X4_misplaced gi  = some r) (sz : Nat) : Met l yX4_misplaced (ws_ yX4_misplaced cX4_misplaced 1 (none)) ({ frames := 1, cells := 0, slots := 0, locals := 22 } : Room) (va_Pc [.ref (ad 0)] (MPre D cA ad gi gl sz)) (va_Qv (fun u => u.1 = r ∧ u.2 = gl) (MPost D cA ad) (MA ad sz)) 0 0 (MA ad sz) := by
  refine mm_stV (by decide +kernel) rfl (Nat.le_of_ble_eq_true rfl) (fun p e s m args below meth c R Q A ls C hF hN B hret hL => ?_) sz
  have hx := C.1
  have hb := C.2.1
  have hL : lv_has ls 1 [(0, .ref (ad 0))] := hL
  unfold f_X4_misplaced at h
  have hj14 : ∀ (gij14 : GI) (t0j14 : Int32) (H : Heap) (locs : List Loc) (ls : Array Slot), f_X4_misplaced_j14 gij14 t0j14 = some r → MB D cA ad A s gij14 gl H locs → lv_has ls 1 [(0, .ref (ad 0))] → W p l e R s m args below meth c H locs 0 0 Q (F0 m 14 ls [.int t0j14, .ref (ad 0)]) := by
    intro gij14 t0j14 H locs ls h B hL
    unfold f_X4_misplaced_j14 at h
    refine lv_aload_n hx hb dX4_misplaced_14 rfl (lv_at hL 0 rfl) ?_
    refine mg_6 C B dX4_misplaced_15 ?_
    refine k_X4_fails C B (Nat.le_trans (Nat.le_of_ble_eq_true rfl) hF) (Nat.le_trans (Nat.le_of_ble_eq_true rfl) hN) hL.1 (Nat.le_of_ble_eq_true rfl) h dX4_misplaced_18 (fun q1 h H locs B => ?_)
    exact hret _ _ _ _ _ _ ⟨Option.some.inj h, rfl⟩ B dX4_misplaced_21
  refine lv_aload_n hx hb dX4_misplaced_0 rfl (lv_at hL 0 rfl) ?_
  refine lv_aload_n hx hb dX4_misplaced_1 rfl (lv_at hL 0 rfl) ?_
  refine mg_8 C B dX4_misplaced_2 ?_
  refine lv_iconst (v := 1) hx hb dX4_misplaced_5 (by decide) ?_
  refine gg_icmp_ne hx hb 13 h dX4_misplaced_6 (by decide) (fun h => ?_) (fun h => ?_)
  · refine lv_iconst (v := 2) hx hb dX4_misplaced_13 (by decide) ?_
    exact hj14 _ _ _ _ _ h B (lv_sub hL [0] rfl)
  · refine lv_iconst (v := 1) hx hb dX4_misplaced_9 (by decide) ?_
    refine lv_goto (tgt := 14) hx hb dX4_misplaced_10 (by decide) ?_
    exact hj14 _ _ _ _ _ h B (lv_sub hL [0] rfl)
theorem k_X4_misplaced {p : Program} {l : Launch} {e : Env} {R : Room} {s : State} {m : MethodId} {args : Array Value} {below : List Frame} {meth : Method} {c : Code} {H : Heap} {locs : List Loc} {Q : State → Prop} {pc : Nat} {ls : Array Slot} {rest : List Value} {cc : ByteArray} {nL : Nat} {D : va_G} {cA : Nat → ClassId} {ad : Nat → Nat} {A : Nat → Prop} {gi : GI} {gl : GL} {α : Type} {r : α}  {ff : GI → Option α} (C : CallFix p m c cc nL s args lw_all RX4) (B : MB D cA ad A s gi gl H locs) (hF : 2 ≤ R.frames) (hN : 42 ≤ R.locals) (hs : ls.size = nL) (hw : (rest.map fun v => v.category).sum ≤ 8) (h : (f_X4_misplaced gi ).bind ff = some r) (hdg : decode cc pc = .ok (.invokevirtual 278, 3)) (kk : ∀ q, ff q = some r → ∀ (H' : Heap) (locs' : List Loc), MB D cA ad A s q gl H' locs' → W p l e R s m args below meth c H' locs' 0 0 Q (F0 m (pc + 3) ls (rest))) : W p l e R s m args below meth c H locs 0 0 Q (F0 m pc ls (.ref (ad 0) :: rest)) := by
  obtain ⟨q, h1, h2⟩ := g_ob h
  refine mm_cVV (As := []) (rest := rest) (n := 0) C B (fun sz => w_X4_misplaced l D cA ad gi gl  q h1 sz) q2015 q2017 qs75 q150 q2018 (by decide +kernel) ⟨hF, hN⟩ rfl hs hw hdg (fun u H9 locs9 hp B9 => ?_)
  obtain ⟨e1, e3⟩ := hp
  rw [e3] at B9
  subst e1
  exact kk _ h2 H9 locs9 B9
def f_X4_fresh_j37 (gij37 : GI) (glj37 : GL) : Option (Int64 × GI × GL) :=
  (f_X4_isGood gij37 ).bind fun q2 =>
  if q2 = 0 then
  (some (glj37 0 10, gij37, glj37))
  else
  ((f_X4_goOn gij37 glj37 ).bind fun q3 =>
  some (glj37 0 10, q3.1, q3.2))
def f_X4_fresh (gi : GI) (gl : GL) (x1 : Int32) : Option (Int64 × GI × GL) :=
  (f_X4_isGood gi ).bind fun q1 =>
  if q1 = 0 then
  (some (0, gi, gl))
  else
  (if (gi 0 8) = 2 then
  (if x1 < 0 then
  (f_X4_fresh_j37 gi gl)
  else
  ((f_X4_fails gi 3 (gi 0 6)).bind fun q4 =>
  f_X4_fresh_j37 q4 gl))
  else
  ((f_X4_misplaced gi ).bind fun q5 =>
  f_X4_fresh_j37 q5 gl))
set_option maxHeartbeats 400000 in
theorem w_X4_fresh (l : Launch) (D : va_G) (cA : Nat → ClassId) (ad : Nat → Nat) (gi : GI) (gl : GL) (x1 : Int32) (r : Int64 × GI × GL) (h : f_X4_fresh gi gl x1 = some r) (sz : Nat) : Met l yX4_fresh (ws_ yX4_fresh cX4_fresh 4 (some .long)) ({ frames := 2, cells := 0, slots := 0, locals := 44 } : Room) (va_Pc [.ref (ad 0), .int x1] (MPre D cA ad gi gl sz)) (va_Ql (fun v u => (v, u.1, u.2) = r) (MPost D cA ad) (MA ad sz)) 0 0 (MA ad sz) := by
  refine mm_stJ (by decide +kernel) rfl (Nat.le_of_ble_eq_true rfl) (fun p e s m args below meth c R Q A ls C hF hN B hret hL => ?_) sz
  have hx := C.1
  have hb := C.2.1
  have hL : lv_has ls 4 [(0, .ref (ad 0)), (1, .int x1)] := hL
  unfold f_X4_fresh at h
  have hj37 : ∀ (gij37 : GI) (glj37 : GL) (H : Heap) (locs : List Loc) (ls : Array Slot), f_X4_fresh_j37 gij37 glj37 = some r → MB D cA ad A s gij37 glj37 H locs → lv_has ls 4 [(0, .ref (ad 0))] → W p l e R s m args below meth c H locs 0 0 Q (F0 m 37 ls []) := by
    intro gij37 glj37 H locs ls h B hL
    unfold f_X4_fresh_j37 at h
    refine lv_aload_n hx hb dX4_fresh_37 rfl (lv_at hL 0 rfl) ?_
    refine mg_10 C B dX4_fresh_38 ?_
    refine lv_lstore_n (lv' := [(2, .long (glj37 0 10)), (0, .ref (ad 0))]) hx hb dX4_fresh_41 rfl hL (by decide) rfl (fun ls hL => ?_)
    refine lv_aload_n hx hb dX4_fresh_42 rfl (lv_at hL 1 rfl) ?_
    refine k_X4_isGood C B (Nat.le_trans (Nat.le_of_ble_eq_true rfl) hF) (Nat.le_trans (Nat.le_of_ble_eq_true rfl) hN) hL.1 (Nat.le_of_ble_eq_true rfl) h dX4_fresh_43 (fun q2 h H locs B => ?_)
    refine gg_if_eq hx hb 53 h dX4_fresh_46 (by decide) (fun h => ?_) (fun h => ?_)
    · refine lv_lload_n hx hb dX4_fresh_53 rfl (lv_at hL 0 rfl) ?_
      exact hret _ _ _ _ _ _ _ (Option.some.inj h) B dX4_fresh_54
    · refine lv_aload_n hx hb dX4_fresh_49 rfl (lv_at hL 1 rfl) ?_
      refine k_X4_goOn C B (Nat.le_trans (Nat.le_of_ble_eq_true rfl) hF) (Nat.le_trans (Nat.le_of_ble_eq_true rfl) hN) hL.1 (Nat.le_of_ble_eq_true rfl) h dX4_fresh_50 (fun q3 h H locs B => ?_)
      refine lv_lload_n hx hb dX4_fresh_53 rfl (lv_at hL 0 rfl) ?_
      exact hret _ _ _ _ _ _ _ (Option.some.inj h) B dX4_fresh_54
  refine lv_aload_n hx hb dX4_fresh_0 rfl (lv_at hL 0 rfl) ?_
  refine k_X4_isGood C B (Nat.le_trans (Nat.le_of_ble_eq_true rfl) hF) (Nat.le_trans (Nat.le_of_ble_eq_true rfl) hN) hL.1 (Nat.le_of_ble_eq_true rfl) h dX4_fresh_1 (fun q1 h H locs B => ?_)
  refine gg_if_ne hx hb 9 h dX4_fresh_4 (by decide) (fun h => ?_) (fun h => ?_)
  · refine lv_aload_n hx hb dX4_fresh_9 rfl (lv_at hL 0 rfl) ?_
    refine mg_8 C B dX4_fresh_10 ?_
    refine lv_iconst (v := 2) hx hb dX4_fresh_13 (by decide) ?_
    refine gg_icmp_eq hx hb 24 h dX4_fresh_14 (by decide) (fun h => ?_) (fun h => ?_)
    · refine lv_iload_n hx hb dX4_fresh_24 rfl (lv_at hL 1 rfl) ?_
      refine gg_if_lt hx hb 37 h dX4_fresh_25 (by decide) (fun h => ?_) (fun h => ?_)
      · exact hj37 _ _ _ _ _ h B (lv_sub hL [0] rfl)
      · refine lv_aload_n hx hb dX4_fresh_28 rfl (lv_at hL 0 rfl) ?_
        refine lv_iconst (v := 3) hx hb dX4_fresh_29 (by decide) ?_
        refine lv_aload_n hx hb dX4_fresh_30 rfl (lv_at hL 0 rfl) ?_
        refine mg_6 C B dX4_fresh_31 ?_
        refine k_X4_fails C B (Nat.le_trans (Nat.le_of_ble_eq_true rfl) hF) (Nat.le_trans (Nat.le_of_ble_eq_true rfl) hN) hL.1 (Nat.le_of_ble_eq_true rfl) h dX4_fresh_34 (fun q4 h H locs B => ?_)
        exact hj37 _ _ _ _ _ h B (lv_sub hL [0] rfl)
    · refine lv_aload_n hx hb dX4_fresh_17 rfl (lv_at hL 0 rfl) ?_
      refine k_X4_misplaced C B (Nat.le_trans (Nat.le_of_ble_eq_true rfl) hF) (Nat.le_trans (Nat.le_of_ble_eq_true rfl) hN) hL.1 (Nat.le_of_ble_eq_true rfl) h dX4_fresh_18 (fun q5 h H locs B => ?_)
      refine lv_goto (tgt := 37) hx hb dX4_fresh_21 (by decide) ?_
      exact hj37 _ _ _ _ _ h B (lv_sub hL [0] rfl)
  · refine lv_lconst (v := 0) hx hb dX4_fresh_7 (by decide) ?_
    exact hret _ _ _ _ _ _ _ (Option.some.inj h) B dX4_fresh_8
theorem k_X4_fresh {p : Program} {l : Launch} {e : Env} {R : Room} {s : State} {m : MethodId} {args : Array Value} {below : List Frame} {meth : Method} {c : Code} {H : Heap} {locs : List Loc} {Q : State → Prop} {pc : Nat} {ls : Array Slot} {rest : List Value} {cc : ByteArray} {nL : Nat} {D : va_G} {cA : Nat → ClassId} {ad : Nat → Nat} {A : Nat → Prop} {gi : GI} {gl : GL} {α : Type} {r : α} {x1 : Int32} {ff : (Int64 × GI × GL) → Option α} (C : CallFix p m c cc nL s args lw_all RX4) (B : MB D cA ad A s gi gl H locs) (hF : 3 ≤ R.frames) (hN : 67 ≤ R.locals) (hs : ls.size = nL) (hw : (rest.map fun v => v.category).sum ≤ 8) (h : (f_X4_fresh gi gl x1).bind ff = some r) (hdg : decode cc pc = .ok (.invokevirtual 314, 3)) (kk : ∀ q, ff q = some r → ∀ (H' : Heap) (locs' : List Loc), MB D cA ad A s q.2.1 q.2.2 H' locs' → W p l e R s m args below meth c H' locs' 0 0 Q (F0 m (pc + 3) ls (.long q.1 :: rest))) : W p l e R s m args below meth c H locs 0 0 Q (F0 m pc ls (.int x1 :: .ref (ad 0) :: rest)) := by
  obtain ⟨q, h1, h2⟩ := g_ob h
  refine mm_cVJ (As := [.int x1]) (rest := rest) (n := 1) C B (fun sz => w_X4_fresh l D cA ad gi gl x1 q h1 sz) q2031 q2033 qs79 q150 q2034 (by decide +kernel) ⟨hF, hN⟩ rfl hs hw hdg (fun v u H9 locs9 hp B9 => ?_)
  have e1 := hp
  subst e1
  exact kk _ h2 H9 locs9 B9
def f_X4_isWord (gi : GI) (gl : GL) (x1 : Int64) : Option (Int32) :=
  if (gi 0 8) = 3 then
  (if (lg_cmp (gl 0 10) x1) = 0 then
  (some 1)
  else
  (some 0))
  else
  (some 0)
set_option maxHeartbeats 400000 in
theorem w_X4_isWord (l : Launch) (D : va_G) (cA : Nat → ClassId) (ad : Nat → Nat) (gi : GI) (gl : GL) (x1 : Int64) (r : Int32) (h : f_X4_isWord gi gl x1 = some r) (sz : Nat) : Met l yX4_isWord (ws_ yX4_isWord cX4_isWord 3 (some .boolean)) ({ frames := 0, cells := 0, slots := 0, locals := 0 } : Room) (va_Pc [.ref (ad 0), .long x1] (MPre D cA ad gi gl sz)) (va_Qi (fun v u => v = r ∧ u.1 = gi ∧ u.2 = gl) (MPost D cA ad) (MA ad sz)) 0 0 (MA ad sz) := by
  refine mm_stZ (by decide +kernel) rfl (Nat.le_of_ble_eq_true rfl) (fun p e s m args below meth c R Q A ls C hF hN B hret hL => ?_) sz
  have hx := C.1
  have hb := C.2.1
  have hL : lv_has ls 3 [(0, .ref (ad 0)), (1, .long x1)] := hL
  unfold f_X4_isWord at h
  refine lv_aload_n hx hb dX4_isWord_0 rfl (lv_at hL 0 rfl) ?_
  refine mg_8 C B dX4_isWord_1 ?_
  refine lv_iconst (v := 3) hx hb dX4_isWord_4 (by decide) ?_
  refine gg_icmp_ne hx hb 21 h dX4_isWord_5 (by decide) (fun h => ?_) (fun h => ?_)
  · refine lv_iconst (v := 0) hx hb dX4_isWord_21 (by decide) ?_
    exact hret _ _ _ _ _ _ _ ⟨Option.some.inj h, rfl, rfl⟩ (Or.inl rfl) B dX4_isWord_22
  · refine lv_aload_n hx hb dX4_isWord_8 rfl (lv_at hL 0 rfl) ?_
    refine mg_10 C B dX4_isWord_9 ?_
    refine lv_lload_n hx hb dX4_isWord_12 rfl (lv_at hL 1 rfl) ?_
    refine W.lcmp hx hb dX4_isWord_13 ?_
    refine gg_if_ne hx hb 21 h dX4_isWord_14 (by decide) (fun h => ?_) (fun h => ?_)
    · refine lv_iconst (v := 0) hx hb dX4_isWord_21 (by decide) ?_
      exact hret _ _ _ _ _ _ _ ⟨Option.some.inj h, rfl, rfl⟩ (Or.inl rfl) B dX4_isWord_22
    · refine lv_iconst (v := 1) hx hb dX4_isWord_17 (by decide) ?_
      refine lv_goto (tgt := 22) hx hb dX4_isWord_18 (by decide) ?_
      exact hret _ _ _ _ _ _ _ ⟨Option.some.inj h, rfl, rfl⟩ (Or.inr rfl) B dX4_isWord_22
theorem k_X4_isWord {p : Program} {l : Launch} {e : Env} {R : Room} {s : State} {m : MethodId} {args : Array Value} {below : List Frame} {meth : Method} {c : Code} {H : Heap} {locs : List Loc} {Q : State → Prop} {pc : Nat} {ls : Array Slot} {rest : List Value} {cc : ByteArray} {nL : Nat} {D : va_G} {cA : Nat → ClassId} {ad : Nat → Nat} {A : Nat → Prop} {gi : GI} {gl : GL} {α : Type} {r : α} {x1 : Int64} {ff : Int32 → Option α} (C : CallFix p m c cc nL s args lw_all RX4) (B : MB D cA ad A s gi gl H locs) (hF : 1 ≤ R.frames) (hN : 22 ≤ R.locals) (hs : ls.size = nL) (hw : (rest.map fun v => v.category).sum ≤ 8) (h : (f_X4_isWord gi gl x1).bind ff = some r) (hdg : decode cc pc = .ok (.invokevirtual 281, 3)) (kk : ∀ q, ff q = some r → ∀ (H' : Heap) (locs' : List Loc), MB D cA ad A s gi gl H' locs' → W p l e R s m args below meth c H' locs' 0 0 Q (F0 m (pc + 3) ls (.int q :: rest))) : W p l e R s m args below meth c H locs 0 0 Q (F0 m pc ls (.long x1 :: .ref (ad 0) :: rest)) := by
  obtain ⟨q, h1, h2⟩ := g_ob h
  refine mm_cVI (As := [.long x1]) (rest := rest) (n := 1) C B (fun sz => w_X4_isWord l D cA ad gi gl x1 q h1 sz) q2011 q2013 qs74 q150 q2014 (by decide +kernel) ⟨hF, hN⟩ rfl hs hw hdg (fun v u H9 locs9 hp B9 => ?_)
  obtain ⟨e1, e2, e3⟩ := hp
  rw [e2] at B9
  rw [e3] at B9
  subst e1
  exact kk _ h2 H9 locs9 B9
def f_X4_isFull (gi : GI) (gl : GL)  : Option (Int32) :=
  (f_X4_isWord gi gl 1802071652).bind fun q1 =>
  if q1 = 0 then
  ((f_X4_isWord gi gl 7168366).bind fun q2 =>
  if q2 = 0 then
  ((f_X4_isWord gi gl 1651470187).bind fun q3 =>
  if q3 = 0 then
  ((f_X4_isWord gi gl 1735552887).bind fun q4 =>
  if q4 = 0 then
  ((f_X4_isWord gi gl 448546566771).bind fun q5 =>
  if q5 = 0 then
  ((f_X4_isWord gi gl 1685217655).bind fun q6 =>
  if q6 = 0 then
  ((f_X4_isWord gi gl 483006772069).bind fun q7 =>
  if q7 = 0 then
  ((f_X4_isWord gi gl 7364985).bind fun q8 =>
  if q8 = 0 then
  ((f_X4_isWord gi gl 448377677669).bind fun q9 =>
  if q9 = 0 then
  ((f_X4_isWord gi gl 1918989413).bind fun q10 =>
  if q10 = 0 then
  (some 1)
  else
  (some 0))
  else
  (some 0))
  else
  (some 0))
  else
  (some 0))
  else
  ((g_ld gi 25 2 (gi 0 42)).bind fun v11 =>
  (g_zb v11).bind fun _ =>
  some v11))
  else
  ((g_ld gi 24 2 (gi 0 42)).bind fun v12 =>
  (g_zb v12).bind fun _ =>
  some v12))
  else
  ((g_ld gi 23 2 (gi 0 42)).bind fun v13 =>
  (g_zb v13).bind fun _ =>
  some v13))
  else
  ((g_ld gi 5 2 (gi 0 42)).bind fun v14 =>
  if v14 = 5 then
  (some 1)
  else
  (some 0)))
  else
  ((g_ld gi 4 2 (gi 0 42)).bind fun v15 =>
  if v15 = 5 then
  (some 1)
  else
  (some 0)))
  else
  ((g_ld gi 3 2 (gi 0 42)).bind fun v16 =>
  if v16 = 3 then
  (some 1)
  else
  (some 0))
set_option maxHeartbeats 400000 in
theorem w_X4_isFull (l : Launch) (D : va_G) (cA : Nat → ClassId) (ad : Nat → Nat) (gi : GI) (gl : GL)  (r : Int32) (h : f_X4_isFull gi gl  = some r) (sz : Nat) : Met l yX4_isFull (ws_ yX4_isFull cX4_isFull 1 (some .boolean)) ({ frames := 1, cells := 0, slots := 0, locals := 22 } : Room) (va_Pc [.ref (ad 0)] (MPre D cA ad gi gl sz)) (va_Qi (fun v u => v = r ∧ u.1 = gi ∧ u.2 = gl) (MPost D cA ad) (MA ad sz)) 0 0 (MA ad sz) := by
  refine mm_stZ (by decide +kernel) rfl (Nat.le_of_ble_eq_true rfl) (fun p e s m args below meth c R Q A ls C hF hN B hret hL => ?_) sz
  have hx := C.1
  have hb := C.2.1
  have hL : lv_has ls 1 [(0, .ref (ad 0))] := hL
  unfold f_X4_isFull at h
  refine lv_aload_n hx hb dX4_isFull_0 rfl (lv_at hL 0 rfl) ?_
  refine lv_ldc2 (v := 1802071652) hx hb C.2.2.2.1 (C.2.2.2.2 _ q1972) dX4_isFull_1 ?_
  refine k_X4_isWord C B (Nat.le_trans (Nat.le_of_ble_eq_true rfl) hF) (Nat.le_trans (Nat.le_of_ble_eq_true rfl) hN) hL.1 (Nat.le_of_ble_eq_true rfl) h dX4_isFull_4 (fun q1 h H locs B => ?_)
  refine gg_if_eq hx hb 29 h dX4_isFull_7 (by decide) (fun h => ?_) (fun h => ?_)
  · refine lv_aload_n hx hb dX4_isFull_29 rfl (lv_at hL 0 rfl) ?_
    refine lv_ldc2 (v := 7168366) hx hb C.2.2.2.1 (C.2.2.2.2 _ q1973) dX4_isFull_30 ?_
    refine k_X4_isWord C B (Nat.le_trans (Nat.le_of_ble_eq_true rfl) hF) (Nat.le_trans (Nat.le_of_ble_eq_true rfl) hN) hL.1 (Nat.le_of_ble_eq_true rfl) h dX4_isFull_33 (fun q2 h H locs B => ?_)
    refine gg_if_eq hx hb 58 h dX4_isFull_36 (by decide) (fun h => ?_) (fun h => ?_)
    · refine lv_aload_n hx hb dX4_isFull_58 rfl (lv_at hL 0 rfl) ?_
      refine lv_ldc2 (v := 1651470187) hx hb C.2.2.2.1 (C.2.2.2.2 _ q1981) dX4_isFull_59 ?_
      refine k_X4_isWord C B (Nat.le_trans (Nat.le_of_ble_eq_true rfl) hF) (Nat.le_trans (Nat.le_of_ble_eq_true rfl) hN) hL.1 (Nat.le_of_ble_eq_true rfl) h dX4_isFull_62 (fun q3 h H locs B => ?_)
      refine gg_if_eq hx hb 87 h dX4_isFull_65 (by decide) (fun h => ?_) (fun h => ?_)
      · refine lv_aload_n hx hb dX4_isFull_87 rfl (lv_at hL 0 rfl) ?_
        refine lv_ldc2 (v := 1735552887) hx hb C.2.2.2.1 (C.2.2.2.2 _ q1982) dX4_isFull_88 ?_
        refine k_X4_isWord C B (Nat.le_trans (Nat.le_of_ble_eq_true rfl) hF) (Nat.le_trans (Nat.le_of_ble_eq_true rfl) hN) hL.1 (Nat.le_of_ble_eq_true rfl) h dX4_isFull_91 (fun q4 h H locs B => ?_)
        refine gg_if_eq hx hb 107 h dX4_isFull_94 (by decide) (fun h => ?_) (fun h => ?_)
        · refine lv_aload_n hx hb dX4_isFull_107 rfl (lv_at hL 0 rfl) ?_
          refine lv_ldc2 (v := 448546566771) hx hb C.2.2.2.1 (C.2.2.2.2 _ q1983) dX4_isFull_108 ?_
          refine k_X4_isWord C B (Nat.le_trans (Nat.le_of_ble_eq_true rfl) hF) (Nat.le_trans (Nat.le_of_ble_eq_true rfl) hN) hL.1 (Nat.le_of_ble_eq_true rfl) h dX4_isFull_111 (fun q5 h H locs B => ?_)
          refine gg_if_eq hx hb 127 h dX4_isFull_114 (by decide) (fun h => ?_) (fun h => ?_)
          · refine lv_aload_n hx hb dX4_isFull_127 rfl (lv_at hL 0 rfl) ?_
            refine lv_ldc2 (v := 1685217655) hx hb C.2.2.2.1 (C.2.2.2.2 _ q1984) dX4_isFull_128 ?_
            refine k_X4_isWord C B (Nat.le_trans (Nat.le_of_ble_eq_true rfl) hF) (Nat.le_trans (Nat.le_of_ble_eq_true rfl) hN) hL.1 (Nat.le_of_ble_eq_true rfl) h dX4_isFull_131 (fun q6 h H locs B => ?_)
            refine gg_if_eq hx hb 147 h dX4_isFull_134 (by decide) (fun h => ?_) (fun h => ?_)
            · refine lv_aload_n hx hb dX4_isFull_147 rfl (lv_at hL 0 rfl) ?_
              refine lv_ldc2 (v := 483006772069) hx hb C.2.2.2.1 (C.2.2.2.2 _ q1976) dX4_isFull_148 ?_
              refine k_X4_isWord C B (Nat.le_trans (Nat.le_of_ble_eq_true rfl) hF) (Nat.le_trans (Nat.le_of_ble_eq_true rfl) hN) hL.1 (Nat.le_of_ble_eq_true rfl) h dX4_isFull_151 (fun q7 h H locs B => ?_)
              refine gg_if_ne hx hb 191 h dX4_isFull_154 (by decide) (fun h => ?_) (fun h => ?_)
              · refine lv_iconst (v := 0) hx hb dX4_isFull_191 (by decide) ?_
                exact hret _ _ _ _ _ _ _ ⟨Option.some.inj h, rfl, rfl⟩ (Or.inl rfl) B dX4_isFull_192
              · refine lv_aload_n hx hb dX4_isFull_157 rfl (lv_at hL 0 rfl) ?_
                refine lv_ldc2 (v := 7364985) hx hb C.2.2.2.1 (C.2.2.2.2 _ q1977) dX4_isFull_158 ?_
                refine k_X4_isWord C B (Nat.le_trans (Nat.le_of_ble_eq_true rfl) hF) (Nat.le_trans (Nat.le_of_ble_eq_true rfl) hN) hL.1 (Nat.le_of_ble_eq_true rfl) h dX4_isFull_161 (fun q8 h H locs B => ?_)
                refine gg_if_ne hx hb 191 h dX4_isFull_164 (by decide) (fun h => ?_) (fun h => ?_)
                · refine lv_iconst (v := 0) hx hb dX4_isFull_191 (by decide) ?_
                  exact hret _ _ _ _ _ _ _ ⟨Option.some.inj h, rfl, rfl⟩ (Or.inl rfl) B dX4_isFull_192
                · refine lv_aload_n hx hb dX4_isFull_167 rfl (lv_at hL 0 rfl) ?_
                  refine lv_ldc2 (v := 448377677669) hx hb C.2.2.2.1 (C.2.2.2.2 _ q1978) dX4_isFull_168 ?_
                  refine k_X4_isWord C B (Nat.le_trans (Nat.le_of_ble_eq_true rfl) hF) (Nat.le_trans (Nat.le_of_ble_eq_true rfl) hN) hL.1 (Nat.le_of_ble_eq_true rfl) h dX4_isFull_171 (fun q9 h H locs B => ?_)
                  refine gg_if_ne hx hb 191 h dX4_isFull_174 (by decide) (fun h => ?_) (fun h => ?_)
                  · refine lv_iconst (v := 0) hx hb dX4_isFull_191 (by decide) ?_
                    exact hret _ _ _ _ _ _ _ ⟨Option.some.inj h, rfl, rfl⟩ (Or.inl rfl) B dX4_isFull_192
                  · refine lv_aload_n hx hb dX4_isFull_177 rfl (lv_at hL 0 rfl) ?_
                    refine lv_ldc2 (v := 1918989413) hx hb C.2.2.2.1 (C.2.2.2.2 _ q1979) dX4_isFull_178 ?_
                    refine k_X4_isWord C B (Nat.le_trans (Nat.le_of_ble_eq_true rfl) hF) (Nat.le_trans (Nat.le_of_ble_eq_true rfl) hN) hL.1 (Nat.le_of_ble_eq_true rfl) h dX4_isFull_181 (fun q10 h H locs B => ?_)
                    refine gg_if_ne hx hb 191 h dX4_isFull_184 (by decide) (fun h => ?_) (fun h => ?_)
                    · refine lv_iconst (v := 0) hx hb dX4_isFull_191 (by decide) ?_
                      exact hret _ _ _ _ _ _ _ ⟨Option.some.inj h, rfl, rfl⟩ (Or.inl rfl) B dX4_isFull_192
                    · refine lv_iconst (v := 1) hx hb dX4_isFull_187 (by decide) ?_
                      refine lv_goto (tgt := 192) hx hb dX4_isFull_188 (by decide) ?_
                      exact hret _ _ _ _ _ _ _ ⟨Option.some.inj h, rfl, rfl⟩ (Or.inr rfl) B dX4_isFull_192
            · refine lv_aload_n hx hb dX4_isFull_137 rfl (lv_at hL 0 rfl) ?_
              refine mg_33 C B dX4_isFull_138 ?_
              refine lv_aload_n hx hb dX4_isFull_141 rfl (lv_at hL 0 rfl) ?_
              refine mg_42 C B dX4_isFull_142 ?_
              refine mm_zald C B (a := 25) (n := 2) (Nat.le_of_ble_eq_true rfl) rfl h dX4_isFull_145 (fun v11 h => ?_)
              refine mm_zb h (fun hz h => ?_)
              exact hret _ _ _ _ _ _ _ ⟨Option.some.inj h, rfl, rfl⟩ hz B dX4_isFull_146
          · refine lv_aload_n hx hb dX4_isFull_117 rfl (lv_at hL 0 rfl) ?_
            refine mg_32 C B dX4_isFull_118 ?_
            refine lv_aload_n hx hb dX4_isFull_121 rfl (lv_at hL 0 rfl) ?_
            refine mg_42 C B dX4_isFull_122 ?_
            refine mm_zald C B (a := 24) (n := 2) (Nat.le_of_ble_eq_true rfl) rfl h dX4_isFull_125 (fun v12 h => ?_)
            refine mm_zb h (fun hz h => ?_)
            exact hret _ _ _ _ _ _ _ ⟨Option.some.inj h, rfl, rfl⟩ hz B dX4_isFull_126
        · refine lv_aload_n hx hb dX4_isFull_97 rfl (lv_at hL 0 rfl) ?_
          refine mg_31 C B dX4_isFull_98 ?_
          refine lv_aload_n hx hb dX4_isFull_101 rfl (lv_at hL 0 rfl) ?_
          refine mg_42 C B dX4_isFull_102 ?_
          refine mm_zald C B (a := 23) (n := 2) (Nat.le_of_ble_eq_true rfl) rfl h dX4_isFull_105 (fun v13 h => ?_)
          refine mm_zb h (fun hz h => ?_)
          exact hret _ _ _ _ _ _ _ ⟨Option.some.inj h, rfl, rfl⟩ hz B dX4_isFull_106
      · refine lv_aload_n hx hb dX4_isFull_68 rfl (lv_at hL 0 rfl) ?_
        refine mg_13 C B dX4_isFull_69 ?_
        refine lv_aload_n hx hb dX4_isFull_72 rfl (lv_at hL 0 rfl) ?_
        refine mg_42 C B dX4_isFull_73 ?_
        refine mm_iald C B (a := 5) (n := 2) (Nat.le_of_ble_eq_true rfl) rfl h dX4_isFull_76 (fun v14 h => ?_)
        refine lv_iconst (v := 5) hx hb dX4_isFull_77 (by decide) ?_
        refine gg_icmp_ne hx hb 85 h dX4_isFull_78 (by decide) (fun h => ?_) (fun h => ?_)
        · refine lv_iconst (v := 0) hx hb dX4_isFull_85 (by decide) ?_
          exact hret _ _ _ _ _ _ _ ⟨Option.some.inj h, rfl, rfl⟩ (Or.inl rfl) B dX4_isFull_86
        · refine lv_iconst (v := 1) hx hb dX4_isFull_81 (by decide) ?_
          refine lv_goto (tgt := 86) hx hb dX4_isFull_82 (by decide) ?_
          exact hret _ _ _ _ _ _ _ ⟨Option.some.inj h, rfl, rfl⟩ (Or.inr rfl) B dX4_isFull_86
    · refine lv_aload_n hx hb dX4_isFull_39 rfl (lv_at hL 0 rfl) ?_
      refine mg_12 C B dX4_isFull_40 ?_
      refine lv_aload_n hx hb dX4_isFull_43 rfl (lv_at hL 0 rfl) ?_
      refine mg_42 C B dX4_isFull_44 ?_
      refine mm_iald C B (a := 4) (n := 2) (Nat.le_of_ble_eq_true rfl) rfl h dX4_isFull_47 (fun v15 h => ?_)
      refine lv_iconst (v := 5) hx hb dX4_isFull_48 (by decide) ?_
      refine gg_icmp_ne hx hb 56 h dX4_isFull_49 (by decide) (fun h => ?_) (fun h => ?_)
      · refine lv_iconst (v := 0) hx hb dX4_isFull_56 (by decide) ?_
        exact hret _ _ _ _ _ _ _ ⟨Option.some.inj h, rfl, rfl⟩ (Or.inl rfl) B dX4_isFull_57
      · refine lv_iconst (v := 1) hx hb dX4_isFull_52 (by decide) ?_
        refine lv_goto (tgt := 57) hx hb dX4_isFull_53 (by decide) ?_
        exact hret _ _ _ _ _ _ _ ⟨Option.some.inj h, rfl, rfl⟩ (Or.inr rfl) B dX4_isFull_57
  · refine lv_aload_n hx hb dX4_isFull_10 rfl (lv_at hL 0 rfl) ?_
    refine mg_11 C B dX4_isFull_11 ?_
    refine lv_aload_n hx hb dX4_isFull_14 rfl (lv_at hL 0 rfl) ?_
    refine mg_42 C B dX4_isFull_15 ?_
    refine mm_iald C B (a := 3) (n := 2) (Nat.le_of_ble_eq_true rfl) rfl h dX4_isFull_18 (fun v16 h => ?_)
    refine lv_iconst (v := 3) hx hb dX4_isFull_19 (by decide) ?_
    refine gg_icmp_ne hx hb 27 h dX4_isFull_20 (by decide) (fun h => ?_) (fun h => ?_)
    · refine lv_iconst (v := 0) hx hb dX4_isFull_27 (by decide) ?_
      exact hret _ _ _ _ _ _ _ ⟨Option.some.inj h, rfl, rfl⟩ (Or.inl rfl) B dX4_isFull_28
    · refine lv_iconst (v := 1) hx hb dX4_isFull_23 (by decide) ?_
      refine lv_goto (tgt := 28) hx hb dX4_isFull_24 (by decide) ?_
      exact hret _ _ _ _ _ _ _ ⟨Option.some.inj h, rfl, rfl⟩ (Or.inr rfl) B dX4_isFull_28
theorem k_X4_isFull {p : Program} {l : Launch} {e : Env} {R : Room} {s : State} {m : MethodId} {args : Array Value} {below : List Frame} {meth : Method} {c : Code} {H : Heap} {locs : List Loc} {Q : State → Prop} {pc : Nat} {ls : Array Slot} {rest : List Value} {cc : ByteArray} {nL : Nat} {D : va_G} {cA : Nat → ClassId} {ad : Nat → Nat} {A : Nat → Prop} {gi : GI} {gl : GL} {α : Type} {r : α}  {ff : Int32 → Option α} (C : CallFix p m c cc nL s args lw_all RX4) (B : MB D cA ad A s gi gl H locs) (hF : 2 ≤ R.frames) (hN : 42 ≤ R.locals) (hs : ls.size = nL) (hw : (rest.map fun v => v.category).sum ≤ 8) (h : (f_X4_isFull gi gl ).bind ff = some r) (hdg : decode cc pc = .ok (.invokevirtual 307, 3)) (kk : ∀ q, ff q = some r → ∀ (H' : Heap) (locs' : List Loc), MB D cA ad A s gi gl H' locs' → W p l e R s m args below meth c H' locs' 0 0 Q (F0 m (pc + 3) ls (.int q :: rest))) : W p l e R s m args below meth c H locs 0 0 Q (F0 m pc ls (.ref (ad 0) :: rest)) := by
  obtain ⟨q, h1, h2⟩ := g_ob h
  refine mm_cVI (As := []) (rest := rest) (n := 0) C B (fun sz => w_X4_isFull l D cA ad gi gl  q h1 sz) q2007 q2009 qs73 q150 q2010 (by decide +kernel) ⟨hF, hN⟩ rfl hs hw hdg (fun v u H9 locs9 hp B9 => ?_)
  obtain ⟨e1, e2, e3⟩ := hp
  rw [e2] at B9
  rw [e3] at B9
  subst e1
  exact kk _ h2 H9 locs9 B9
def f_X4_isSignHere (gi : GI) (x1 : Int32) : Option (Int32) :=
  if (gi 0 8) = 5 then
  ((f_X4_sign gi (gi 0 6)).bind fun q1 =>
  if q1 = x1 then
  (some 1)
  else
  (some 0))
  else
  (some 0)
set_option maxHeartbeats 400000 in
theorem w_X4_isSignHere (l : Launch) (D : va_G) (cA : Nat → ClassId) (ad : Nat → Nat) (gi : GI) (gl : GL) (x1 : Int32) (r : Int32) (h : f_X4_isSignHere gi x1 = some r) (sz : Nat) : Met l yX4_isSignHere (ws_ yX4_isSignHere cX4_isSignHere 2 (some .boolean)) ({ frames := 1, cells := 0, slots := 0, locals := 21 } : Room) (va_Pc [.ref (ad 0), .int x1] (MPre D cA ad gi gl sz)) (va_Qi (fun v u => v = r ∧ u.1 = gi ∧ u.2 = gl) (MPost D cA ad) (MA ad sz)) 0 0 (MA ad sz) := by
  refine mm_stZ (by decide +kernel) rfl (Nat.le_of_ble_eq_true rfl) (fun p e s m args below meth c R Q A ls C hF hN B hret hL => ?_) sz
  have hx := C.1
  have hb := C.2.1
  have hL : lv_has ls 2 [(0, .ref (ad 0)), (1, .int x1)] := hL
  unfold f_X4_isSignHere at h
  refine lv_aload_n hx hb dX4_isSignHere_0 rfl (lv_at hL 0 rfl) ?_
  refine mg_8 C B dX4_isSignHere_1 ?_
  refine lv_iconst (v := 5) hx hb dX4_isSignHere_4 (by decide) ?_
  refine gg_icmp_ne hx hb 24 h dX4_isSignHere_5 (by decide) (fun h => ?_) (fun h => ?_)
  · refine lv_iconst (v := 0) hx hb dX4_isSignHere_24 (by decide) ?_
    exact hret _ _ _ _ _ _ _ ⟨Option.some.inj h, rfl, rfl⟩ (Or.inl rfl) B dX4_isSignHere_25
  · refine lv_aload_n hx hb dX4_isSignHere_8 rfl (lv_at hL 0 rfl) ?_
    refine lv_aload_n hx hb dX4_isSignHere_9 rfl (lv_at hL 0 rfl) ?_
    refine mg_6 C B dX4_isSignHere_10 ?_
    refine k_X4_sign C B (Nat.le_trans (Nat.le_of_ble_eq_true rfl) hF) (Nat.le_trans (Nat.le_of_ble_eq_true rfl) hN) hL.1 (Nat.le_of_ble_eq_true rfl) h dX4_isSignHere_13 (fun q1 h H locs B => ?_)
    refine lv_iload_n hx hb dX4_isSignHere_16 rfl (lv_at hL 1 rfl) ?_
    refine gg_icmp_ne hx hb 24 h dX4_isSignHere_17 (by decide) (fun h => ?_) (fun h => ?_)
    · refine lv_iconst (v := 0) hx hb dX4_isSignHere_24 (by decide) ?_
      exact hret _ _ _ _ _ _ _ ⟨Option.some.inj h, rfl, rfl⟩ (Or.inl rfl) B dX4_isSignHere_25
    · refine lv_iconst (v := 1) hx hb dX4_isSignHere_20 (by decide) ?_
      refine lv_goto (tgt := 25) hx hb dX4_isSignHere_21 (by decide) ?_
      exact hret _ _ _ _ _ _ _ ⟨Option.some.inj h, rfl, rfl⟩ (Or.inr rfl) B dX4_isSignHere_25
theorem k_X4_isSignHere {p : Program} {l : Launch} {e : Env} {R : Room} {s : State} {m : MethodId} {args : Array Value} {below : List Frame} {meth : Method} {c : Code} {H : Heap} {locs : List Loc} {Q : State → Prop} {pc : Nat} {ls : Array Slot} {rest : List Value} {cc : ByteArray} {nL : Nat} {D : va_G} {cA : Nat → ClassId} {ad : Nat → Nat} {A : Nat → Prop} {gi : GI} {gl : GL} {α : Type} {r : α} {x1 : Int32} {ff : Int32 → Option α} (C : CallFix p m c cc nL s args lw_all RX4) (B : MB D cA ad A s gi gl H locs) (hF : 2 ≤ R.frames) (hN : 42 ≤ R.locals) (hs : ls.size = nL) (hw : (rest.map fun v => v.category).sum ≤ 8) (h : (f_X4_isSignHere gi x1).bind ff = some r) (hdg : decode cc pc = .ok (.invokevirtual 335, 3)) (kk : ∀ q, ff q = some r → ∀ (H' : Heap) (locs' : List Loc), MB D cA ad A s gi gl H' locs' → W p l e R s m args below meth c H' locs' 0 0 Q (F0 m (pc + 3) ls (.int q :: rest))) : W p l e R s m args below meth c H locs 0 0 Q (F0 m pc ls (.int x1 :: .ref (ad 0) :: rest)) := by
  obtain ⟨q, h1, h2⟩ := g_ob h
  refine mm_cVI (As := [.int x1]) (rest := rest) (n := 1) C B (fun sz => w_X4_isSignHere l D cA ad gi gl x1 q h1 sz) q2087 q2089 qs93 q150 q2090 (by decide +kernel) ⟨hF, hN⟩ rfl hs hw hdg (fun v u H9 locs9 hp B9 => ?_)
  obtain ⟨e1, e2, e3⟩ := hp
  rw [e2] at B9
  rw [e3] at B9
  subst e1
  exact kk _ h2 H9 locs9 B9
def f_X4_here_l3 (gii3 : GI) (gli3 : GL) (a1i3 : Nat) (x2i3 : Int32) (x3i3 : Int32) (x4l3 : Int32) : Option ((Int32) ⊕ ((Unit) ⊕ (Int32))) :=
  if x3i3 ≤ x4l3 then
  (some (.inr (.inl ())))
  else
  (if (gii3 0 8) = 2 then
  ((g_ldPL gli3 a1i3 (x2i3 + x4l3)).bind fun v1 =>
  if (lg_cmp v1 (gli3 0 10)) = 0 then
  (some (.inr (.inr x4l3)))
  else
  (some (.inl (x4l3 + 1))))
  else
  (some (.inl (x4l3 + 1))))
def f_X4_here_x3 (giy3 : GI) (gly3 : GL) : Option (Int32) :=
  some ((-1))
def f_X4_here (gi : GI) (gl : GL) (a1 : Nat) (x2 : Int32) (x3 : Int32) : Option (Int32) :=
  (g_loop g_K (fun (s : Int32) => f_X4_here_l3 gi gl a1 x2 x3 s) (0)).bind fun E3 => Sum.elim (fun (S3 : Unit) => f_X4_here_x3 gi gl) (fun (r3 : Int32) => some r3) E3
set_option maxHeartbeats 400000 in
theorem w_X4_here (l : Launch) (D : va_G) (cA : Nat → ClassId) (ad : Nat → Nat) (gi : GI) (gl : GL) (a1 : Nat) (x2 : Int32) (x3 : Int32) (r : Int32) (h : f_X4_here gi gl a1 x2 x3 = some r) (sz : Nat) : Met l yX4_here (ws_ yX4_here cX4_here 5 (some .int)) ({ frames := 0, cells := 0, slots := 0, locals := 0 } : Room) (va_Pc [.ref (ad 0), .ref (ad a1), .int x2, .int x3] (MPre D cA ad gi gl sz)) (va_Qi (fun v u => v = r ∧ u.1 = gi ∧ u.2 = gl) (MPost D cA ad) (MA ad sz)) 0 0 (MA ad sz) := by
  refine mm_stI (by decide +kernel) rfl (Nat.le_of_ble_eq_true rfl) (fun p e s m args below meth c R Q A ls C hF hN B hret hL => ?_) sz
  have hx := C.1
  have hb := C.2.1
  have hL : lv_has ls 5 [(0, .ref (ad 0)), (1, .ref (ad a1)), (2, .int x2), (3, .int x3)] := hL
  unfold f_X4_here at h
  refine lv_iconst (v := 0) hx hb dX4_here_0 (by decide) ?_
  refine lv_istore (lv' := [(4, .int 0), (0, .ref (ad 0)), (1, .ref (ad a1)), (2, .int x2), (3, .int x3)]) hx hb dX4_here_1 hL (by decide) rfl (fun ls hL => ?_)
  obtain ⟨E3, h83, h⟩ := g_ob h
  have kx3 : ∀  (H : Heap) (locs : List Loc) (ls : Array Slot), Sum.inl () = E3 → MB D cA ad A s gi gl H locs → lv_has ls 5 [] → W p l e R s m args below meth c H locs 0 0 Q (F0 m 40 ls []) := by
    intro  H locs ls he B hL
    subst he
    have h : f_X4_here_x3 gi gl = some r := h
    unfold f_X4_here_x3 at h
    refine lv_iconst (v := (-1)) hx hb dX4_here_40 (by decide) ?_
    exact hret _ _ _ _ _ _ _ ⟨Option.some.inj h, rfl, rfl⟩ B dX4_here_41
  have kr3 : ∀ (v : Int32) (H : Heap) (locs : List Loc) (ls : Array Slot) (pc : Nat), Sum.inr v = E3 → MB D cA ad A s gi gl H locs → decode cX4_here pc = .ok (.ireturn, 1) → W p l e R s m args below meth c H locs 0 0 Q (F0 m pc ls [.int v]) := by
    intro v H locs ls pc he B hd
    subst he
    have h := g_er h
    exact hret _ _ _ _ _ _ _ ⟨Option.some.inj h, rfl, rfl⟩ B hd
  have hl3 : ∀ (k : Nat) (x4l3 : Int32) (H : Heap) (locs : List Loc) (ls : Array Slot), g_loop k (fun (s : Int32) => f_X4_here_l3 gi gl a1 x2 x3 s) x4l3 = some E3 → MB D cA ad A s gi gl H locs → lv_has ls 5 [(0, .ref (ad 0)), (1, .ref (ad a1)), (2, .int x2), (3, .int x3), (4, .int x4l3)] → W p l e R s m args below meth c H locs 0 0 Q (F0 m 3 ls []) := by
    intro k
    induction k with
    | zero => intro x4l3 H locs ls h; exact absurd h (fun z => g_loop_0 z)
    | succ k ih3 =>
      intro x4l3 H locs ls h B hL
      obtain ⟨Z3, h, h93⟩ := g_loop_s h
      have h : f_X4_here_l3 gi gl a1 x2 x3 x4l3 = some Z3 := h
      unfold f_X4_here_l3 at h
      refine lv_iload hx hb dX4_here_3 (lv_at hL 4 rfl) ?_
      refine lv_iload_n hx hb dX4_here_5 rfl (lv_at hL 3 rfl) ?_
      refine gg_icmp_ge hx hb 40 h dX4_here_6 (by decide) (fun h => ?_) (fun h => ?_)
      · exact kx3  _ _ _ (g_exit h h93) B (lv_sub hL [] rfl)
      · refine lv_aload_n hx hb dX4_here_9 rfl (lv_at hL 0 rfl) ?_
        refine mg_8 C B dX4_here_10 ?_
        refine lv_iconst (v := 2) hx hb dX4_here_13 (by decide) ?_
        refine gg_icmp_ne hx hb 34 h dX4_here_14 (by decide) (fun h => ?_) (fun h => ?_)
        · refine lv_iinc (v := x4l3 + 1) (lv' := [(4, .int (x4l3 + 1)), (0, .ref (ad 0)), (1, .ref (ad a1)), (2, .int x2), (3, .int x3)]) hx hb dX4_here_34 hL (k := 4) rfl rfl (by decide) rfl (fun ls hL => ?_)
          refine lv_goto (tgt := 3) hx hb dX4_here_37 (by decide) ?_
          exact ih3 _ _ _ _ (g_next h h93) B (lv_sub hL [1, 2, 3, 4, 0] rfl)
        · refine lv_aload_n hx hb dX4_here_17 rfl (lv_at hL 1 rfl) ?_
          refine lv_iload_n hx hb dX4_here_18 rfl (lv_at hL 2 rfl) ?_
          refine lv_iload hx hb dX4_here_19 (lv_at hL 4 rfl) ?_
          refine lv_iadd hx hb dX4_here_21 ?_
          refine mm_laldP C B h dX4_here_22 (fun v1 h => ?_)
          refine lv_aload_n hx hb dX4_here_23 rfl (lv_at hL 0 rfl) ?_
          refine mg_10 C B dX4_here_24 ?_
          refine W.lcmp hx hb dX4_here_27 ?_
          refine gg_if_ne hx hb 34 h dX4_here_28 (by decide) (fun h => ?_) (fun h => ?_)
          · refine lv_iinc (v := x4l3 + 1) (lv' := [(4, .int (x4l3 + 1)), (0, .ref (ad 0)), (1, .ref (ad a1)), (2, .int x2), (3, .int x3)]) hx hb dX4_here_34 hL (k := 4) rfl rfl (by decide) rfl (fun ls hL => ?_)
            refine lv_goto (tgt := 3) hx hb dX4_here_37 (by decide) ?_
            exact ih3 _ _ _ _ (g_next h h93) B (lv_sub hL [1, 2, 3, 4, 0] rfl)
          · refine lv_iload hx hb dX4_here_31 (lv_at hL 4 rfl) ?_
            exact kr3 _ _ _ _ _ (g_exit h h93) B dX4_here_33
  exact hl3 g_K _ _ _ _ h83 B (lv_sub hL [1, 2, 3, 4, 0] rfl)
theorem k_X4_here {p : Program} {l : Launch} {e : Env} {R : Room} {s : State} {m : MethodId} {args : Array Value} {below : List Frame} {meth : Method} {c : Code} {H : Heap} {locs : List Loc} {Q : State → Prop} {pc : Nat} {ls : Array Slot} {rest : List Value} {cc : ByteArray} {nL : Nat} {D : va_G} {cA : Nat → ClassId} {ad : Nat → Nat} {A : Nat → Prop} {gi : GI} {gl : GL} {α : Type} {r : α} {a1 : Nat} {x2 : Int32} {x3 : Int32} {ff : Int32 → Option α} (C : CallFix p m c cc nL s args lw_all RX4) (B : MB D cA ad A s gi gl H locs) (hF : 1 ≤ R.frames) (hN : 24 ≤ R.locals) (hs : ls.size = nL) (hw : (rest.map fun v => v.category).sum ≤ 8) (h : (f_X4_here gi gl a1 x2 x3).bind ff = some r) (hdg : decode cc pc = .ok (.invokevirtual 338, 3)) (kk : ∀ q, ff q = some r → ∀ (H' : Heap) (locs' : List Loc), MB D cA ad A s gi gl H' locs' → W p l e R s m args below meth c H' locs' 0 0 Q (F0 m (pc + 3) ls (.int q :: rest))) : W p l e R s m args below meth c H locs 0 0 Q (F0 m pc ls (.int x3 :: .int x2 :: .ref (ad a1) :: .ref (ad 0) :: rest)) := by
  obtain ⟨q, h1, h2⟩ := g_ob h
  refine mm_cVI (As := [.ref (ad a1), .int x2, .int x3]) (rest := rest) (n := 3) C B (fun sz => w_X4_here l D cA ad gi gl a1 x2 x3 q h1 sz) q2027 q2029 qs78 q150 q2030 (by decide +kernel) ⟨hF, hN⟩ rfl hs hw hdg (fun v u H9 locs9 hp B9 => ?_)
  obtain ⟨e1, e2, e3⟩ := hp
  rw [e2] at B9
  rw [e3] at B9
  subst e1
  exact kk _ h2 H9 locs9 B9
def f_X4_kindHere (gi : GI) (gl : GL)  : Option (Int32) :=
  (g_ld gi 3 2 (gi 0 42)).bind fun v1 =>
  (f_X4_here gi gl 26 (3 * (gi 0 42)) v1).bind fun q2 =>
  some q2
set_option maxHeartbeats 400000 in
theorem w_X4_kindHere (l : Launch) (D : va_G) (cA : Nat → ClassId) (ad : Nat → Nat) (gi : GI) (gl : GL)  (r : Int32) (h : f_X4_kindHere gi gl  = some r) (sz : Nat) : Met l yX4_kindHere (ws_ yX4_kindHere cX4_kindHere 1 (some .int)) ({ frames := 1, cells := 0, slots := 0, locals := 24 } : Room) (va_Pc [.ref (ad 0)] (MPre D cA ad gi gl sz)) (va_Qi (fun v u => v = r ∧ u.1 = gi ∧ u.2 = gl) (MPost D cA ad) (MA ad sz)) 0 0 (MA ad sz) := by
  refine mm_stI (by decide +kernel) rfl (Nat.le_of_ble_eq_true rfl) (fun p e s m args below meth c R Q A ls C hF hN B hret hL => ?_) sz
  have hx := C.1
  have hb := C.2.1
  have hL : lv_has ls 1 [(0, .ref (ad 0))] := hL
  unfold f_X4_kindHere at h
  refine lv_aload_n hx hb dX4_kindHere_0 rfl (lv_at hL 0 rfl) ?_
  refine lv_aload_n hx hb dX4_kindHere_1 rfl (lv_at hL 0 rfl) ?_
  refine mg_34 C B dX4_kindHere_2 ?_
  refine lv_iconst (v := 3) hx hb dX4_kindHere_5 (by decide) ?_
  refine lv_aload_n hx hb dX4_kindHere_6 rfl (lv_at hL 0 rfl) ?_
  refine mg_42 C B dX4_kindHere_7 ?_
  refine lv_imul hx hb dX4_kindHere_10 ?_
  refine lv_aload_n hx hb dX4_kindHere_11 rfl (lv_at hL 0 rfl) ?_
  refine mg_11 C B dX4_kindHere_12 ?_
  refine lv_aload_n hx hb dX4_kindHere_15 rfl (lv_at hL 0 rfl) ?_
  refine mg_42 C B dX4_kindHere_16 ?_
  refine mm_iald C B (a := 3) (n := 2) (Nat.le_of_ble_eq_true rfl) rfl h dX4_kindHere_19 (fun v1 h => ?_)
  refine k_X4_here C B (Nat.le_trans (Nat.le_of_ble_eq_true rfl) hF) (Nat.le_trans (Nat.le_of_ble_eq_true rfl) hN) hL.1 (Nat.le_of_ble_eq_true rfl) h dX4_kindHere_20 (fun q2 h H locs B => ?_)
  exact hret _ _ _ _ _ _ _ ⟨Option.some.inj h, rfl, rfl⟩ B dX4_kindHere_23
theorem k_X4_kindHere {p : Program} {l : Launch} {e : Env} {R : Room} {s : State} {m : MethodId} {args : Array Value} {below : List Frame} {meth : Method} {c : Code} {H : Heap} {locs : List Loc} {Q : State → Prop} {pc : Nat} {ls : Array Slot} {rest : List Value} {cc : ByteArray} {nL : Nat} {D : va_G} {cA : Nat → ClassId} {ad : Nat → Nat} {A : Nat → Prop} {gi : GI} {gl : GL} {α : Type} {r : α}  {ff : Int32 → Option α} (C : CallFix p m c cc nL s args lw_all RX4) (B : MB D cA ad A s gi gl H locs) (hF : 2 ≤ R.frames) (hN : 44 ≤ R.locals) (hs : ls.size = nL) (hw : (rest.map fun v => v.category).sum ≤ 8) (h : (f_X4_kindHere gi gl ).bind ff = some r) (hdg : decode cc pc = .ok (.invokevirtual 310, 3)) (kk : ∀ q, ff q = some r → ∀ (H' : Heap) (locs' : List Loc), MB D cA ad A s gi gl H' locs' → W p l e R s m args below meth c H' locs' 0 0 Q (F0 m (pc + 3) ls (.int q :: rest))) : W p l e R s m args below meth c H locs 0 0 Q (F0 m pc ls (.ref (ad 0) :: rest)) := by
  obtain ⟨q, h1, h2⟩ := g_ob h
  refine mm_cVI (As := []) (rest := rest) (n := 0) C B (fun sz => w_X4_kindHere l D cA ad gi gl  q h1 sz) q2023 q2025 qs77 q150 q2026 (by decide +kernel) ⟨hF, hN⟩ rfl hs hw hdg (fun v u H9 locs9 hp B9 => ?_)
  obtain ⟨e1, e2, e3⟩ := hp
  rw [e2] at B9
  rw [e3] at B9
  subst e1
  exact kk _ h2 H9 locs9 B9
def f_X4_must (gi : GI) (gl : GL) (x1 : Int32) : Option (GI × GL) :=
  (f_X4_isGood gi ).bind fun q1 =>
  if q1 = 0 then
  (some (gi, gl))
  else
  (if x1 = 0 then
  ((f_X4_misplaced gi ).bind fun q2 =>
  some (q2, gl))
  else
  ((f_X4_goOn gi gl ).bind fun q3 =>
  some (q3.1, q3.2)))
set_option maxHeartbeats 400000 in
theorem w_X4_must (l : Launch) (D : va_G) (cA : Nat → ClassId) (ad : Nat → Nat) (gi : GI) (gl : GL) (x1 : Int32) (r : GI × GL) (h : f_X4_must gi gl x1 = some r) (sz : Nat) : Met l yX4_must (ws_ yX4_must cX4_must 2 (none)) ({ frames := 2, cells := 0, slots := 0, locals := 44 } : Room) (va_Pc [.ref (ad 0), .int x1] (MPre D cA ad gi gl sz)) (va_Qv (fun u => (u.1, u.2) = r) (MPost D cA ad) (MA ad sz)) 0 0 (MA ad sz) := by
  refine mm_stV (by decide +kernel) rfl (Nat.le_of_ble_eq_true rfl) (fun p e s m args below meth c R Q A ls C hF hN B hret hL => ?_) sz
  have hx := C.1
  have hb := C.2.1
  have hL : lv_has ls 2 [(0, .ref (ad 0)), (1, .int x1)] := hL
  unfold f_X4_must at h
  refine lv_aload_n hx hb dX4_must_0 rfl (lv_at hL 0 rfl) ?_
  refine k_X4_isGood C B (Nat.le_trans (Nat.le_of_ble_eq_true rfl) hF) (Nat.le_trans (Nat.le_of_ble_eq_true rfl) hN) hL.1 (Nat.le_of_ble_eq_true rfl) h dX4_must_1 (fun q1 h H locs B => ?_)
  refine gg_if_ne hx hb 8 h dX4_must_4 (by decide) (fun h => ?_) (fun h => ?_)
  · refine lv_iload_n hx hb dX4_must_8 rfl (lv_at hL 1 rfl) ?_
    refine gg_if_eq hx hb 19 h dX4_must_9 (by decide) (fun h => ?_) (fun h => ?_)
    · refine lv_aload_n hx hb dX4_must_19 rfl (lv_at hL 0 rfl) ?_
      refine k_X4_misplaced C B (Nat.le_trans (Nat.le_of_ble_eq_true rfl) hF) (Nat.le_trans (Nat.le_of_ble_eq_true rfl) hN) hL.1 (Nat.le_of_ble_eq_true rfl) h dX4_must_20 (fun q2 h H locs B => ?_)
      exact hret _ _ _ _ _ _ (Option.some.inj h) B dX4_must_23
    · refine lv_aload_n hx hb dX4_must_12 rfl (lv_at hL 0 rfl) ?_
      refine k_X4_goOn C B (Nat.le_trans (Nat.le_of_ble_eq_true rfl) hF) (Nat.le_trans (Nat.le_of_ble_eq_true rfl) hN) hL.1 (Nat.le_of_ble_eq_true rfl) h dX4_must_13 (fun q3 h H locs B => ?_)
      refine lv_goto (tgt := 23) hx hb dX4_must_16 (by decide) ?_
      exact hret _ _ _ _ _ _ (Option.some.inj h) B dX4_must_23
  · exact hret _ _ _ _ _ _ (Option.some.inj h) B dX4_must_7
theorem k_X4_must {p : Program} {l : Launch} {e : Env} {R : Room} {s : State} {m : MethodId} {args : Array Value} {below : List Frame} {meth : Method} {c : Code} {H : Heap} {locs : List Loc} {Q : State → Prop} {pc : Nat} {ls : Array Slot} {rest : List Value} {cc : ByteArray} {nL : Nat} {D : va_G} {cA : Nat → ClassId} {ad : Nat → Nat} {A : Nat → Prop} {gi : GI} {gl : GL} {α : Type} {r : α} {x1 : Int32} {ff : (GI × GL) → Option α} (C : CallFix p m c cc nL s args lw_all RX4) (B : MB D cA ad A s gi gl H locs) (hF : 3 ≤ R.frames) (hN : 65 ≤ R.locals) (hs : ls.size = nL) (hw : (rest.map fun v => v.category).sum ≤ 8) (h : (f_X4_must gi gl x1).bind ff = some r) (hdg : decode cc pc = .ok (.invokevirtual 284, 3)) (kk : ∀ q, ff q = some r → ∀ (H' : Heap) (locs' : List Loc), MB D cA ad A s q.1 q.2 H' locs' → W p l e R s m args below meth c H' locs' 0 0 Q (F0 m (pc + 3) ls (rest))) : W p l e R s m args below meth c H locs 0 0 Q (F0 m pc ls (.int x1 :: .ref (ad 0) :: rest)) := by
  obtain ⟨q, h1, h2⟩ := g_ob h
  refine mm_cVV (As := [.int x1]) (rest := rest) (n := 1) C B (fun sz => w_X4_must l D cA ad gi gl x1 q h1 sz) q2047 q2049 qs83 q150 q2050 (by decide +kernel) ⟨hF, hN⟩ rfl hs hw hdg (fun u H9 locs9 hp B9 => ?_)
  have e1 := hp
  subst e1
  exact kk _ h2 H9 locs9 B9
def f_X4_numeral_j69 (x1j69 : Int32) (gij69 : GI) (glj69 : GL) (x3j69 : Int32) : Option (Int32 × GI × GL) :=
  (f_X4_isGood gij69 ).bind fun q4 =>
  if q4 = 0 then
  (some (x1j69, gij69, glj69))
  else
  (some (x3j69, gij69, glj69))
def f_X4_numeral_j53 (x1j53 : Int32) (gij53 : GI) (glj53 : GL) : Option (Int32 × GI × GL) :=
  (f_X4_isGood gij53 ).bind fun q3 =>
  if q3 = 0 then
  (f_X4_numeral_j69 x1j53 gij53 glj53 (gij53 0 9))
  else
  ((f_X4_goOn gij53 glj53 ).bind fun q5 =>
  f_X4_numeral_j69 x1j53 q5.1 q5.2 (gij53 0 9))
def f_X4_numeral_j44 (x1j44 : Int32) (gij44 : GI) (glj44 : GL) : Option (Int32 × GI × GL) :=
  (f_X4_fails gij44 4 (gij44 0 6)).bind fun q6 =>
  f_X4_numeral_j53 x1j44 q6 glj44
def f_X4_numeral_j21 (x1j21 : Int32) (x2j21 : Int32) (gij21 : GI) (glj21 : GL) : Option (Int32 × GI × GL) :=
  (f_X4_isGood gij21 ).bind fun q2 =>
  if q2 = 0 then
  (f_X4_numeral_j53 x1j21 gij21 glj21)
  else
  (if (gij21 0 9) < x1j21 then
  (f_X4_numeral_j44 x1j21 gij21 glj21)
  else
  (if (gij21 0 9) ≤ x2j21 then
  (f_X4_numeral_j53 x1j21 gij21 glj21)
  else
  (f_X4_numeral_j44 x1j21 gij21 glj21)))
def f_X4_numeral (gi : GI) (gl : GL) (x1 : Int32) (x2 : Int32) : Option (Int32 × GI × GL) :=
  (f_X4_isGood gi ).bind fun q1 =>
  if q1 = 0 then
  (some (x1, gi, gl))
  else
  (if (gi 0 8) = 4 then
  (f_X4_numeral_j21 x1 x2 gi gl)
  else
  ((f_X4_misplaced gi ).bind fun q7 =>
  f_X4_numeral_j21 x1 x2 q7 gl))
set_option maxHeartbeats 400000 in
theorem w_X4_numeral (l : Launch) (D : va_G) (cA : Nat → ClassId) (ad : Nat → Nat) (gi : GI) (gl : GL) (x1 : Int32) (x2 : Int32) (r : Int32 × GI × GL) (h : f_X4_numeral gi gl x1 x2 = some r) (sz : Nat) : Met l yX4_numeral (ws_ yX4_numeral cX4_numeral 4 (some .int)) ({ frames := 2, cells := 0, slots := 0, locals := 44 } : Room) (va_Pc [.ref (ad 0), .int x1, .int x2] (MPre D cA ad gi gl sz)) (va_Qi (fun v u => (v, u.1, u.2) = r) (MPost D cA ad) (MA ad sz)) 0 0 (MA ad sz) := by
  refine mm_stI (by decide +kernel) rfl (Nat.le_of_ble_eq_true rfl) (fun p e s m args below meth c R Q A ls C hF hN B hret hL => ?_) sz
  have hx := C.1
  have hb := C.2.1
  have hL : lv_has ls 4 [(0, .ref (ad 0)), (1, .int x1), (2, .int x2)] := hL
  unfold f_X4_numeral at h
  have hj69 : ∀ (gij69 : GI) (glj69 : GL) (x3j69 : Int32) (H : Heap) (locs : List Loc) (ls : Array Slot), f_X4_numeral_j69 x1 gij69 glj69 x3j69 = some r → MB D cA ad A s gij69 glj69 H locs → lv_has ls 4 [(0, .ref (ad 0)), (1, .int x1), (3, .int x3j69)] → W p l e R s m args below meth c H locs 0 0 Q (F0 m 69 ls []) := by
    intro gij69 glj69 x3j69 H locs ls h B hL
    unfold f_X4_numeral_j69 at h
    refine lv_aload_n hx hb dX4_numeral_69 rfl (lv_at hL 0 rfl) ?_
    refine k_X4_isGood C B (Nat.le_trans (Nat.le_of_ble_eq_true rfl) hF) (Nat.le_trans (Nat.le_of_ble_eq_true rfl) hN) hL.1 (Nat.le_of_ble_eq_true rfl) h dX4_numeral_70 (fun q4 h H locs B => ?_)
    refine gg_if_eq hx hb 80 h dX4_numeral_73 (by decide) (fun h => ?_) (fun h => ?_)
    · refine lv_iload_n hx hb dX4_numeral_80 rfl (lv_at hL 1 rfl) ?_
      exact hret _ _ _ _ _ _ _ (Option.some.inj h) B dX4_numeral_81
    · refine lv_iload_n hx hb dX4_numeral_76 rfl (lv_at hL 2 rfl) ?_
      refine lv_goto (tgt := 81) hx hb dX4_numeral_77 (by decide) ?_
      exact hret _ _ _ _ _ _ _ (Option.some.inj h) B dX4_numeral_81
  have hj53 : ∀ (gij53 : GI) (glj53 : GL) (H : Heap) (locs : List Loc) (ls : Array Slot), f_X4_numeral_j53 x1 gij53 glj53 = some r → MB D cA ad A s gij53 glj53 H locs → lv_has ls 4 [(0, .ref (ad 0)), (1, .int x1)] → W p l e R s m args below meth c H locs 0 0 Q (F0 m 53 ls []) := by
    intro gij53 glj53 H locs ls h B hL
    unfold f_X4_numeral_j53 at h
    refine lv_aload_n hx hb dX4_numeral_53 rfl (lv_at hL 0 rfl) ?_
    refine mg_9 C B dX4_numeral_54 ?_
    refine lv_istore_n (lv' := [(3, .int (gij53 0 9)), (0, .ref (ad 0)), (1, .int x1)]) hx hb dX4_numeral_57 rfl hL (by decide) rfl (fun ls hL => ?_)
    refine lv_aload_n hx hb dX4_numeral_58 rfl (lv_at hL 1 rfl) ?_
    refine k_X4_isGood C B (Nat.le_trans (Nat.le_of_ble_eq_true rfl) hF) (Nat.le_trans (Nat.le_of_ble_eq_true rfl) hN) hL.1 (Nat.le_of_ble_eq_true rfl) h dX4_numeral_59 (fun q3 h H locs B => ?_)
    refine gg_if_eq hx hb 69 h dX4_numeral_62 (by decide) (fun h => ?_) (fun h => ?_)
    · exact hj69 _ _ _ _ _ _ h B (lv_sub hL [1, 2, 0] rfl)
    · refine lv_aload_n hx hb dX4_numeral_65 rfl (lv_at hL 1 rfl) ?_
      refine k_X4_goOn C B (Nat.le_trans (Nat.le_of_ble_eq_true rfl) hF) (Nat.le_trans (Nat.le_of_ble_eq_true rfl) hN) hL.1 (Nat.le_of_ble_eq_true rfl) h dX4_numeral_66 (fun q5 h H locs B => ?_)
      exact hj69 _ _ _ _ _ _ h B (lv_sub hL [1, 2, 0] rfl)
  have hj44 : ∀ (gij44 : GI) (glj44 : GL) (H : Heap) (locs : List Loc) (ls : Array Slot), f_X4_numeral_j44 x1 gij44 glj44 = some r → MB D cA ad A s gij44 glj44 H locs → lv_has ls 4 [(0, .ref (ad 0)), (1, .int x1)] → W p l e R s m args below meth c H locs 0 0 Q (F0 m 44 ls []) := by
    intro gij44 glj44 H locs ls h B hL
    unfold f_X4_numeral_j44 at h
    refine lv_aload_n hx hb dX4_numeral_44 rfl (lv_at hL 0 rfl) ?_
    refine lv_iconst (v := 4) hx hb dX4_numeral_45 (by decide) ?_
    refine lv_aload_n hx hb dX4_numeral_46 rfl (lv_at hL 0 rfl) ?_
    refine mg_6 C B dX4_numeral_47 ?_
    refine k_X4_fails C B (Nat.le_trans (Nat.le_of_ble_eq_true rfl) hF) (Nat.le_trans (Nat.le_of_ble_eq_true rfl) hN) hL.1 (Nat.le_of_ble_eq_true rfl) h dX4_numeral_50 (fun q6 h H locs B => ?_)
    exact hj53 _ _ _ _ _ h B (lv_sub hL [0, 1] rfl)
  have hj21 : ∀ (gij21 : GI) (glj21 : GL) (H : Heap) (locs : List Loc) (ls : Array Slot), f_X4_numeral_j21 x1 x2 gij21 glj21 = some r → MB D cA ad A s gij21 glj21 H locs → lv_has ls 4 [(0, .ref (ad 0)), (1, .int x1), (2, .int x2)] → W p l e R s m args below meth c H locs 0 0 Q (F0 m 21 ls []) := by
    intro gij21 glj21 H locs ls h B hL
    unfold f_X4_numeral_j21 at h
    refine lv_aload_n hx hb dX4_numeral_21 rfl (lv_at hL 0 rfl) ?_
    refine k_X4_isGood C B (Nat.le_trans (Nat.le_of_ble_eq_true rfl) hF) (Nat.le_trans (Nat.le_of_ble_eq_true rfl) hN) hL.1 (Nat.le_of_ble_eq_true rfl) h dX4_numeral_22 (fun q2 h H locs B => ?_)
    refine gg_if_eq hx hb 53 h dX4_numeral_25 (by decide) (fun h => ?_) (fun h => ?_)
    · exact hj53 _ _ _ _ _ h B (lv_sub hL [0, 1] rfl)
    · refine lv_aload_n hx hb dX4_numeral_28 rfl (lv_at hL 0 rfl) ?_
      refine mg_9 C B dX4_numeral_29 ?_
      refine lv_iload_n hx hb dX4_numeral_32 rfl (lv_at hL 1 rfl) ?_
      refine gg_icmp_lt hx hb 44 h dX4_numeral_33 (by decide) (fun h => ?_) (fun h => ?_)
      · exact hj44 _ _ _ _ _ h B (lv_sub hL [0, 1] rfl)
      · refine lv_aload_n hx hb dX4_numeral_36 rfl (lv_at hL 0 rfl) ?_
        refine mg_9 C B dX4_numeral_37 ?_
        refine lv_iload_n hx hb dX4_numeral_40 rfl (lv_at hL 2 rfl) ?_
        refine gg_icmp_le hx hb 53 h dX4_numeral_41 (by decide) (fun h => ?_) (fun h => ?_)
        · exact hj53 _ _ _ _ _ h B (lv_sub hL [0, 1] rfl)
        · exact hj44 _ _ _ _ _ h B (lv_sub hL [0, 1] rfl)
  refine lv_aload_n hx hb dX4_numeral_0 rfl (lv_at hL 0 rfl) ?_
  refine k_X4_isGood C B (Nat.le_trans (Nat.le_of_ble_eq_true rfl) hF) (Nat.le_trans (Nat.le_of_ble_eq_true rfl) hN) hL.1 (Nat.le_of_ble_eq_true rfl) h dX4_numeral_1 (fun q1 h H locs B => ?_)
  refine gg_if_ne hx hb 9 h dX4_numeral_4 (by decide) (fun h => ?_) (fun h => ?_)
  · refine lv_aload_n hx hb dX4_numeral_9 rfl (lv_at hL 0 rfl) ?_
    refine mg_8 C B dX4_numeral_10 ?_
    refine lv_iconst (v := 4) hx hb dX4_numeral_13 (by decide) ?_
    refine gg_icmp_eq hx hb 21 h dX4_numeral_14 (by decide) (fun h => ?_) (fun h => ?_)
    · exact hj21 _ _ _ _ _ h B (lv_sub hL [0, 1, 2] rfl)
    · refine lv_aload_n hx hb dX4_numeral_17 rfl (lv_at hL 0 rfl) ?_
      refine k_X4_misplaced C B (Nat.le_trans (Nat.le_of_ble_eq_true rfl) hF) (Nat.le_trans (Nat.le_of_ble_eq_true rfl) hN) hL.1 (Nat.le_of_ble_eq_true rfl) h dX4_numeral_18 (fun q7 h H locs B => ?_)
      exact hj21 _ _ _ _ _ h B (lv_sub hL [0, 1, 2] rfl)
  · refine lv_iload_n hx hb dX4_numeral_7 rfl (lv_at hL 1 rfl) ?_
    exact hret _ _ _ _ _ _ _ (Option.some.inj h) B dX4_numeral_8
theorem k_X4_numeral {p : Program} {l : Launch} {e : Env} {R : Room} {s : State} {m : MethodId} {args : Array Value} {below : List Frame} {meth : Method} {c : Code} {H : Heap} {locs : List Loc} {Q : State → Prop} {pc : Nat} {ls : Array Slot} {rest : List Value} {cc : ByteArray} {nL : Nat} {D : va_G} {cA : Nat → ClassId} {ad : Nat → Nat} {A : Nat → Prop} {gi : GI} {gl : GL} {α : Type} {r : α} {x1 : Int32} {x2 : Int32} {ff : (Int32 × GI × GL) → Option α} (C : CallFix p m c cc nL s args lw_all RX4) (B : MB D cA ad A s gi gl H locs) (hF : 3 ≤ R.frames) (hN : 67 ≤ R.locals) (hs : ls.size = nL) (hw : (rest.map fun v => v.category).sum ≤ 8) (h : (f_X4_numeral gi gl x1 x2).bind ff = some r) (hdg : decode cc pc = .ok (.invokevirtual 288, 3)) (kk : ∀ q, ff q = some r → ∀ (H' : Heap) (locs' : List Loc), MB D cA ad A s q.2.1 q.2.2 H' locs' → W p l e R s m args below meth c H' locs' 0 0 Q (F0 m (pc + 3) ls (.int q.1 :: rest))) : W p l e R s m args below meth c H locs 0 0 Q (F0 m pc ls (.int x2 :: .int x1 :: .ref (ad 0) :: rest)) := by
  obtain ⟨q, h1, h2⟩ := g_ob h
  refine mm_cVI (As := [.int x1, .int x2]) (rest := rest) (n := 2) C B (fun sz => w_X4_numeral l D cA ad gi gl x1 x2 q h1 sz) q2051 q2053 qs84 q150 q2054 (by decide +kernel) ⟨hF, hN⟩ rfl hs hw hdg (fun v u H9 locs9 hp B9 => ?_)
  have e1 := hp
  subst e1
  exact kk _ h2 H9 locs9 B9
def f_X4_known_j44 (x1j44 : Int32) (gij44 : GI) (glj44 : GL) : Option (Int32 × GI × GL) :=
  if 0 ≤ x1j44 then
  (some (x1j44, gij44, glj44))
  else
  (some (0, gij44, glj44))
def f_X4_known (gi : GI) (gl : GL) (x1 : Int32) : Option (Int32 × GI × GL) :=
  (f_X4_isGood gi ).bind fun q1 =>
  if q1 = 0 then
  (some (0, gi, gl))
  else
  (if (gi 0 8) = 2 then
  (if 0 ≤ x1 then
  ((f_X4_goOn gi gl ).bind fun q2 =>
  f_X4_known_j44 x1 q2.1 q2.2)
  else
  ((f_X4_fails gi 5 (gi 0 6)).bind fun q3 =>
  f_X4_known_j44 x1 q3 gl))
  else
  ((f_X4_misplaced gi ).bind fun q4 =>
  f_X4_known_j44 x1 q4 gl))
set_option maxHeartbeats 400000 in
theorem w_X4_known (l : Launch) (D : va_G) (cA : Nat → ClassId) (ad : Nat → Nat) (gi : GI) (gl : GL) (x1 : Int32) (r : Int32 × GI × GL) (h : f_X4_known gi gl x1 = some r) (sz : Nat) : Met l yX4_known (ws_ yX4_known cX4_known 2 (some .int)) ({ frames := 2, cells := 0, slots := 0, locals := 44 } : Room) (va_Pc [.ref (ad 0), .int x1] (MPre D cA ad gi gl sz)) (va_Qi (fun v u => (v, u.1, u.2) = r) (MPost D cA ad) (MA ad sz)) 0 0 (MA ad sz) := by
  refine mm_stI (by decide +kernel) rfl (Nat.le_of_ble_eq_true rfl) (fun p e s m args below meth c R Q A ls C hF hN B hret hL => ?_) sz
  have hx := C.1
  have hb := C.2.1
  have hL : lv_has ls 2 [(0, .ref (ad 0)), (1, .int x1)] := hL
  unfold f_X4_known at h
  have hj44 : ∀ (gij44 : GI) (glj44 : GL) (H : Heap) (locs : List Loc) (ls : Array Slot), f_X4_known_j44 x1 gij44 glj44 = some r → MB D cA ad A s gij44 glj44 H locs → lv_has ls 2 [(1, .int x1)] → W p l e R s m args below meth c H locs 0 0 Q (F0 m 44 ls []) := by
    intro gij44 glj44 H locs ls h B hL
    unfold f_X4_known_j44 at h
    refine lv_iload_n hx hb dX4_known_44 rfl (lv_at hL 0 rfl) ?_
    refine gg_if_ge hx hb 52 h dX4_known_45 (by decide) (fun h => ?_) (fun h => ?_)
    · refine lv_iload_n hx hb dX4_known_52 rfl (lv_at hL 0 rfl) ?_
      exact hret _ _ _ _ _ _ _ (Option.some.inj h) B dX4_known_53
    · refine lv_iconst (v := 0) hx hb dX4_known_48 (by decide) ?_
      refine lv_goto (tgt := 53) hx hb dX4_known_49 (by decide) ?_
      exact hret _ _ _ _ _ _ _ (Option.some.inj h) B dX4_known_53
  refine lv_aload_n hx hb dX4_known_0 rfl (lv_at hL 0 rfl) ?_
  refine k_X4_isGood C B (Nat.le_trans (Nat.le_of_ble_eq_true rfl) hF) (Nat.le_trans (Nat.le_of_ble_eq_true rfl) hN) hL.1 (Nat.le_of_ble_eq_true rfl) h dX4_known_1 (fun q1 h H locs B => ?_)
  refine gg_if_ne hx hb 9 h dX4_known_4 (by decide) (fun h => ?_) (fun h => ?_)
  · refine lv_aload_n hx hb dX4_known_9 rfl (lv_at hL 0 rfl) ?_
    refine mg_8 C B dX4_known_10 ?_
    refine lv_iconst (v := 2) hx hb dX4_known_13 (by decide) ?_
    refine gg_icmp_eq hx hb 24 h dX4_known_14 (by decide) (fun h => ?_) (fun h => ?_)
    · refine lv_iload_n hx hb dX4_known_24 rfl (lv_at hL 1 rfl) ?_
      refine gg_if_ge hx hb 40 h dX4_known_25 (by decide) (fun h => ?_) (fun h => ?_)
      · refine lv_aload_n hx hb dX4_known_40 rfl (lv_at hL 0 rfl) ?_
        refine k_X4_goOn C B (Nat.le_trans (Nat.le_of_ble_eq_true rfl) hF) (Nat.le_trans (Nat.le_of_ble_eq_true rfl) hN) hL.1 (Nat.le_of_ble_eq_true rfl) h dX4_known_41 (fun q2 h H locs B => ?_)
        exact hj44 _ _ _ _ _ h B (lv_sub hL [1] rfl)
      · refine lv_aload_n hx hb dX4_known_28 rfl (lv_at hL 0 rfl) ?_
        refine lv_iconst (v := 5) hx hb dX4_known_29 (by decide) ?_
        refine lv_aload_n hx hb dX4_known_30 rfl (lv_at hL 0 rfl) ?_
        refine mg_6 C B dX4_known_31 ?_
        refine k_X4_fails C B (Nat.le_trans (Nat.le_of_ble_eq_true rfl) hF) (Nat.le_trans (Nat.le_of_ble_eq_true rfl) hN) hL.1 (Nat.le_of_ble_eq_true rfl) h dX4_known_34 (fun q3 h H locs B => ?_)
        refine lv_goto (tgt := 44) hx hb dX4_known_37 (by decide) ?_
        exact hj44 _ _ _ _ _ h B (lv_sub hL [1] rfl)
    · refine lv_aload_n hx hb dX4_known_17 rfl (lv_at hL 0 rfl) ?_
      refine k_X4_misplaced C B (Nat.le_trans (Nat.le_of_ble_eq_true rfl) hF) (Nat.le_trans (Nat.le_of_ble_eq_true rfl) hN) hL.1 (Nat.le_of_ble_eq_true rfl) h dX4_known_18 (fun q4 h H locs B => ?_)
      refine lv_goto (tgt := 44) hx hb dX4_known_21 (by decide) ?_
      exact hj44 _ _ _ _ _ h B (lv_sub hL [1] rfl)
  · refine lv_iconst (v := 0) hx hb dX4_known_7 (by decide) ?_
    exact hret _ _ _ _ _ _ _ (Option.some.inj h) B dX4_known_8
theorem k_X4_known {p : Program} {l : Launch} {e : Env} {R : Room} {s : State} {m : MethodId} {args : Array Value} {below : List Frame} {meth : Method} {c : Code} {H : Heap} {locs : List Loc} {Q : State → Prop} {pc : Nat} {ls : Array Slot} {rest : List Value} {cc : ByteArray} {nL : Nat} {D : va_G} {cA : Nat → ClassId} {ad : Nat → Nat} {A : Nat → Prop} {gi : GI} {gl : GL} {α : Type} {r : α} {x1 : Int32} {ff : (Int32 × GI × GL) → Option α} (C : CallFix p m c cc nL s args lw_all RX4) (B : MB D cA ad A s gi gl H locs) (hF : 3 ≤ R.frames) (hN : 65 ≤ R.locals) (hs : ls.size = nL) (hw : (rest.map fun v => v.category).sum ≤ 8) (h : (f_X4_known gi gl x1).bind ff = some r) (hdg : decode cc pc = .ok (.invokevirtual 349, 3)) (kk : ∀ q, ff q = some r → ∀ (H' : Heap) (locs' : List Loc), MB D cA ad A s q.2.1 q.2.2 H' locs' → W p l e R s m args below meth c H' locs' 0 0 Q (F0 m (pc + 3) ls (.int q.1 :: rest))) : W p l e R s m args below meth c H locs 0 0 Q (F0 m pc ls (.int x1 :: .ref (ad 0) :: rest)) := by
  obtain ⟨q, h1, h2⟩ := g_ob h
  refine mm_cVI (As := [.int x1]) (rest := rest) (n := 1) C B (fun sz => w_X4_known l D cA ad gi gl x1 q h1 sz) q2059 q2061 qs86 q150 q2062 (by decide +kernel) ⟨hF, hN⟩ rfl hs hw hdg (fun v u H9 locs9 hp B9 => ?_)
  have e1 := hp
  subst e1
  exact kk _ h2 H9 locs9 B9
def f_X4_manHere (gi : GI) (gl : GL)  : Option (Int32) :=
  (g_ld gi 4 2 (gi 0 42)).bind fun v1 =>
  (f_X4_here gi gl 27 (5 * (gi 0 42)) v1).bind fun q2 =>
  some q2
set_option maxHeartbeats 400000 in
theorem w_X4_manHere (l : Launch) (D : va_G) (cA : Nat → ClassId) (ad : Nat → Nat) (gi : GI) (gl : GL)  (r : Int32) (h : f_X4_manHere gi gl  = some r) (sz : Nat) : Met l yX4_manHere (ws_ yX4_manHere cX4_manHere 1 (some .int)) ({ frames := 1, cells := 0, slots := 0, locals := 24 } : Room) (va_Pc [.ref (ad 0)] (MPre D cA ad gi gl sz)) (va_Qi (fun v u => v = r ∧ u.1 = gi ∧ u.2 = gl) (MPost D cA ad) (MA ad sz)) 0 0 (MA ad sz) := by
  refine mm_stI (by decide +kernel) rfl (Nat.le_of_ble_eq_true rfl) (fun p e s m args below meth c R Q A ls C hF hN B hret hL => ?_) sz
  have hx := C.1
  have hb := C.2.1
  have hL : lv_has ls 1 [(0, .ref (ad 0))] := hL
  unfold f_X4_manHere at h
  refine lv_aload_n hx hb dX4_manHere_0 rfl (lv_at hL 0 rfl) ?_
  refine lv_aload_n hx hb dX4_manHere_1 rfl (lv_at hL 0 rfl) ?_
  refine mg_35 C B dX4_manHere_2 ?_
  refine lv_iconst (v := 5) hx hb dX4_manHere_5 (by decide) ?_
  refine lv_aload_n hx hb dX4_manHere_6 rfl (lv_at hL 0 rfl) ?_
  refine mg_42 C B dX4_manHere_7 ?_
  refine lv_imul hx hb dX4_manHere_10 ?_
  refine lv_aload_n hx hb dX4_manHere_11 rfl (lv_at hL 0 rfl) ?_
  refine mg_12 C B dX4_manHere_12 ?_
  refine lv_aload_n hx hb dX4_manHere_15 rfl (lv_at hL 0 rfl) ?_
  refine mg_42 C B dX4_manHere_16 ?_
  refine mm_iald C B (a := 4) (n := 2) (Nat.le_of_ble_eq_true rfl) rfl h dX4_manHere_19 (fun v1 h => ?_)
  refine k_X4_here C B (Nat.le_trans (Nat.le_of_ble_eq_true rfl) hF) (Nat.le_trans (Nat.le_of_ble_eq_true rfl) hN) hL.1 (Nat.le_of_ble_eq_true rfl) h dX4_manHere_20 (fun q2 h H locs B => ?_)
  exact hret _ _ _ _ _ _ _ ⟨Option.some.inj h, rfl, rfl⟩ B dX4_manHere_23
theorem k_X4_manHere {p : Program} {l : Launch} {e : Env} {R : Room} {s : State} {m : MethodId} {args : Array Value} {below : List Frame} {meth : Method} {c : Code} {H : Heap} {locs : List Loc} {Q : State → Prop} {pc : Nat} {ls : Array Slot} {rest : List Value} {cc : ByteArray} {nL : Nat} {D : va_G} {cA : Nat → ClassId} {ad : Nat → Nat} {A : Nat → Prop} {gi : GI} {gl : GL} {α : Type} {r : α}  {ff : Int32 → Option α} (C : CallFix p m c cc nL s args lw_all RX4) (B : MB D cA ad A s gi gl H locs) (hF : 2 ≤ R.frames) (hN : 44 ≤ R.locals) (hs : ls.size = nL) (hw : (rest.map fun v => v.category).sum ≤ 8) (h : (f_X4_manHere gi gl ).bind ff = some r) (hdg : decode cc pc = .ok (.invokevirtual 342, 3)) (kk : ∀ q, ff q = some r → ∀ (H' : Heap) (locs' : List Loc), MB D cA ad A s gi gl H' locs' → W p l e R s m args below meth c H' locs' 0 0 Q (F0 m (pc + 3) ls (.int q :: rest))) : W p l e R s m args below meth c H locs 0 0 Q (F0 m pc ls (.ref (ad 0) :: rest)) := by
  obtain ⟨q, h1, h2⟩ := g_ob h
  refine mm_cVI (As := []) (rest := rest) (n := 0) C B (fun sz => w_X4_manHere l D cA ad gi gl  q h1 sz) q2039 q2041 qs81 q150 q2042 (by decide +kernel) ⟨hF, hN⟩ rfl hs hw hdg (fun v u H9 locs9 hp B9 => ?_)
  obtain ⟨e1, e2, e3⟩ := hp
  rw [e2] at B9
  rw [e3] at B9
  subst e1
  exact kk _ h2 H9 locs9 B9
def f_X4_readHedge_j42 (gij42 : GI) (glj42 : GL) (x1j42 : Int32) : Option (GI × GL) :=
  (f_X4_known gij42 glj42 x1j42).bind fun q3 =>
  (f_X4_numeral q3.2.1 q3.2.2 0 10).bind fun q4 =>
  (f_X4_isGood q4.2.1 ).bind fun q5 =>
  if q5 = 0 then
  (some (q4.2.1, q4.2.2))
  else
  ((g_ld q4.2.1 11 2 (q4.2.1 0 42)).bind fun v6 =>
  (g_st q4.2.1 11 2 (q4.2.1 0 42) (v6 ||| (1 <<< (q3.1 &&& 31)))).bind fun gi7 =>
  (g_st gi7 13 10 ((5 * (gi7 0 42)) + q3.1) q4.1).bind fun gi8 =>
  some (gi8, q4.2.2))
def f_X4_readHedge (gi : GI) (gl : GL)  : Option (GI × GL) :=
  (f_X4_manHere gi gl ).bind fun q1 =>
  (f_X4_isGood gi ).bind fun q2 =>
  if q2 = 0 then
  (f_X4_readHedge_j42 gi gl q1)
  else
  (if q1 < 0 then
  (f_X4_readHedge_j42 gi gl q1)
  else
  ((g_ld gi 11 2 (gi 0 42)).bind fun v9 =>
  if ((v9 >>> (q1 &&& 31)) &&& 1) = 1 then
  ((f_X4_fails gi 3 (gi 0 6)).bind fun q10 =>
  f_X4_readHedge_j42 q10 gl q1)
  else
  (f_X4_readHedge_j42 gi gl q1)))
set_option maxHeartbeats 400000 in
theorem w_X4_readHedge (l : Launch) (D : va_G) (cA : Nat → ClassId) (ad : Nat → Nat) (gi : GI) (gl : GL)  (r : GI × GL) (h : f_X4_readHedge gi gl  = some r) (sz : Nat) : Met l yX4_readHedge (ws_ yX4_readHedge cX4_readHedge 3 (none)) ({ frames := 3, cells := 0, slots := 0, locals := 67 } : Room) (va_Pc [.ref (ad 0)] (MPre D cA ad gi gl sz)) (va_Qv (fun u => (u.1, u.2) = r) (MPost D cA ad) (MA ad sz)) 0 0 (MA ad sz) := by
  refine mm_stV (by decide +kernel) rfl (Nat.le_of_ble_eq_true rfl) (fun p e s m args below meth c R Q A ls C hF hN B hret hL => ?_) sz
  have hx := C.1
  have hb := C.2.1
  have hL : lv_has ls 3 [(0, .ref (ad 0))] := hL
  unfold f_X4_readHedge at h
  have hj42 : ∀ (gij42 : GI) (glj42 : GL) (x1j42 : Int32) (H : Heap) (locs : List Loc) (ls : Array Slot), f_X4_readHedge_j42 gij42 glj42 x1j42 = some r → MB D cA ad A s gij42 glj42 H locs → lv_has ls 3 [(0, .ref (ad 0)), (1, .int x1j42)] → W p l e R s m args below meth c H locs 0 0 Q (F0 m 42 ls []) := by
    intro gij42 glj42 x1j42 H locs ls h B hL
    unfold f_X4_readHedge_j42 at h
    refine lv_aload_n hx hb dX4_readHedge_42 rfl (lv_at hL 0 rfl) ?_
    refine lv_iload_n hx hb dX4_readHedge_43 rfl (lv_at hL 1 rfl) ?_
    refine k_X4_known C B (Nat.le_trans (Nat.le_of_ble_eq_true rfl) hF) (Nat.le_trans (Nat.le_of_ble_eq_true rfl) hN) hL.1 (Nat.le_of_ble_eq_true rfl) h dX4_readHedge_44 (fun q3 h H locs B => ?_)
    refine lv_istore_n (lv' := [(1, .int q3.1), (0, .ref (ad 0))]) hx hb dX4_readHedge_47 rfl hL (by decide) rfl (fun ls hL => ?_)
    refine lv_aload_n hx hb dX4_readHedge_48 rfl (lv_at hL 1 rfl) ?_
    refine lv_iconst (v := 0) hx hb dX4_readHedge_49 (by decide) ?_
    refine lv_bipush (v := 10) hx hb dX4_readHedge_50 (by decide) ?_
    refine k_X4_numeral C B (Nat.le_trans (Nat.le_of_ble_eq_true rfl) hF) (Nat.le_trans (Nat.le_of_ble_eq_true rfl) hN) hL.1 (Nat.le_of_ble_eq_true rfl) h dX4_readHedge_52 (fun q4 h H locs B => ?_)
    refine lv_istore_n (lv' := [(2, .int q4.1), (1, .int q3.1), (0, .ref (ad 0))]) hx hb dX4_readHedge_55 rfl hL (by decide) rfl (fun ls hL => ?_)
    refine lv_aload_n hx hb dX4_readHedge_56 rfl (lv_at hL 2 rfl) ?_
    refine k_X4_isGood C B (Nat.le_trans (Nat.le_of_ble_eq_true rfl) hF) (Nat.le_trans (Nat.le_of_ble_eq_true rfl) hN) hL.1 (Nat.le_of_ble_eq_true rfl) h dX4_readHedge_57 (fun q5 h H locs B => ?_)
    refine gg_if_ne hx hb 64 h dX4_readHedge_60 (by decide) (fun h => ?_) (fun h => ?_)
    · refine lv_aload_n hx hb dX4_readHedge_64 rfl (lv_at hL 2 rfl) ?_
      refine mg_19 C B dX4_readHedge_65 ?_
      refine lv_aload_n hx hb dX4_readHedge_68 rfl (lv_at hL 2 rfl) ?_
      refine mg_42 C B dX4_readHedge_69 ?_
      refine lv_dup2_11 hx hb dX4_readHedge_72 rfl rfl ?_
      refine mm_iald C B (a := 11) (n := 2) (Nat.le_of_ble_eq_true rfl) rfl h dX4_readHedge_73 (fun v6 h => ?_)
      refine lv_iconst (v := 1) hx hb dX4_readHedge_74 (by decide) ?_
      refine lv_iload_n hx hb dX4_readHedge_75 rfl (lv_at hL 1 rfl) ?_
      refine lv_ishl hx hb dX4_readHedge_76 ?_
      refine lv_ior hx hb dX4_readHedge_77 ?_
      refine mm_iast C B (a := 11) (n := 2) (Nat.le_of_ble_eq_true rfl) rfl h dX4_readHedge_78 (fun gi7 h H locs B => ?_)
      refine lv_aload_n hx hb dX4_readHedge_79 rfl (lv_at hL 2 rfl) ?_
      refine mg_21 C B dX4_readHedge_80 ?_
      refine lv_iconst (v := 5) hx hb dX4_readHedge_83 (by decide) ?_
      refine lv_aload_n hx hb dX4_readHedge_84 rfl (lv_at hL 2 rfl) ?_
      refine mg_42 C B dX4_readHedge_85 ?_
      refine lv_imul hx hb dX4_readHedge_88 ?_
      refine lv_iload_n hx hb dX4_readHedge_89 rfl (lv_at hL 1 rfl) ?_
      refine lv_iadd hx hb dX4_readHedge_90 ?_
      refine lv_iload_n hx hb dX4_readHedge_91 rfl (lv_at hL 0 rfl) ?_
      refine mm_iast C B (a := 13) (n := 10) (Nat.le_of_ble_eq_true rfl) rfl h dX4_readHedge_92 (fun gi8 h H locs B => ?_)
      exact hret _ _ _ _ _ _ (Option.some.inj h) B dX4_readHedge_93
    · exact hret _ _ _ _ _ _ (Option.some.inj h) B dX4_readHedge_63
  refine lv_aload_n hx hb dX4_readHedge_0 rfl (lv_at hL 0 rfl) ?_
  refine k_X4_manHere C B (Nat.le_trans (Nat.le_of_ble_eq_true rfl) hF) (Nat.le_trans (Nat.le_of_ble_eq_true rfl) hN) hL.1 (Nat.le_of_ble_eq_true rfl) h dX4_readHedge_1 (fun q1 h H locs B => ?_)
  refine lv_istore_n (lv' := [(1, .int q1), (0, .ref (ad 0))]) hx hb dX4_readHedge_4 rfl hL (by decide) rfl (fun ls hL => ?_)
  refine lv_aload_n hx hb dX4_readHedge_5 rfl (lv_at hL 1 rfl) ?_
  refine k_X4_isGood C B (Nat.le_trans (Nat.le_of_ble_eq_true rfl) hF) (Nat.le_trans (Nat.le_of_ble_eq_true rfl) hN) hL.1 (Nat.le_of_ble_eq_true rfl) h dX4_readHedge_6 (fun q2 h H locs B => ?_)
  refine gg_if_eq hx hb 42 h dX4_readHedge_9 (by decide) (fun h => ?_) (fun h => ?_)
  · exact hj42 _ _ _ _ _ _ h B (lv_sub hL [1, 0] rfl)
  · refine lv_iload_n hx hb dX4_readHedge_12 rfl (lv_at hL 0 rfl) ?_
    refine gg_if_lt hx hb 42 h dX4_readHedge_13 (by decide) (fun h => ?_) (fun h => ?_)
    · exact hj42 _ _ _ _ _ _ h B (lv_sub hL [1, 0] rfl)
    · refine lv_aload_n hx hb dX4_readHedge_16 rfl (lv_at hL 1 rfl) ?_
      refine mg_19 C B dX4_readHedge_17 ?_
      refine lv_aload_n hx hb dX4_readHedge_20 rfl (lv_at hL 1 rfl) ?_
      refine mg_42 C B dX4_readHedge_21 ?_
      refine mm_iald C B (a := 11) (n := 2) (Nat.le_of_ble_eq_true rfl) rfl h dX4_readHedge_24 (fun v9 h => ?_)
      refine lv_iload_n hx hb dX4_readHedge_25 rfl (lv_at hL 0 rfl) ?_
      refine lv_ishr hx hb dX4_readHedge_26 ?_
      refine lv_iconst (v := 1) hx hb dX4_readHedge_27 (by decide) ?_
      refine lv_iand hx hb dX4_readHedge_28 ?_
      refine lv_iconst (v := 1) hx hb dX4_readHedge_29 (by decide) ?_
      refine gg_icmp_ne hx hb 42 h dX4_readHedge_30 (by decide) (fun h => ?_) (fun h => ?_)
      · exact hj42 _ _ _ _ _ _ h B (lv_sub hL [1, 0] rfl)
      · refine lv_aload_n hx hb dX4_readHedge_33 rfl (lv_at hL 1 rfl) ?_
        refine lv_iconst (v := 3) hx hb dX4_readHedge_34 (by decide) ?_
        refine lv_aload_n hx hb dX4_readHedge_35 rfl (lv_at hL 1 rfl) ?_
        refine mg_6 C B dX4_readHedge_36 ?_
        refine k_X4_fails C B (Nat.le_trans (Nat.le_of_ble_eq_true rfl) hF) (Nat.le_trans (Nat.le_of_ble_eq_true rfl) hN) hL.1 (Nat.le_of_ble_eq_true rfl) h dX4_readHedge_39 (fun q10 h H locs B => ?_)
        exact hj42 _ _ _ _ _ _ h B (lv_sub hL [1, 0] rfl)
theorem k_X4_readHedge {p : Program} {l : Launch} {e : Env} {R : Room} {s : State} {m : MethodId} {args : Array Value} {below : List Frame} {meth : Method} {c : Code} {H : Heap} {locs : List Loc} {Q : State → Prop} {pc : Nat} {ls : Array Slot} {rest : List Value} {cc : ByteArray} {nL : Nat} {D : va_G} {cA : Nat → ClassId} {ad : Nat → Nat} {A : Nat → Prop} {gi : GI} {gl : GL} {α : Type} {r : α}  {ff : (GI × GL) → Option α} (C : CallFix p m c cc nL s args lw_all RX4) (B : MB D cA ad A s gi gl H locs) (hF : 4 ≤ R.frames) (hN : 89 ≤ R.locals) (hs : ls.size = nL) (hw : (rest.map fun v => v.category).sum ≤ 8) (h : (f_X4_readHedge gi gl ).bind ff = some r) (hdg : decode cc pc = .ok (.invokevirtual 325, 3)) (kk : ∀ q, ff q = some r → ∀ (H' : Heap) (locs' : List Loc), MB D cA ad A s q.1 q.2 H' locs' → W p l e R s m args below meth c H' locs' 0 0 Q (F0 m (pc + 3) ls (rest))) : W p l e R s m args below meth c H locs 0 0 Q (F0 m pc ls (.ref (ad 0) :: rest)) := by
  obtain ⟨q, h1, h2⟩ := g_ob h
  refine mm_cVV (As := []) (rest := rest) (n := 0) C B (fun sz => w_X4_readHedge l D cA ad gi gl  q h1 sz) q2063 q2065 qs87 q150 q2066 (by decide +kernel) ⟨hF, hN⟩ rfl hs hw hdg (fun u H9 locs9 hp B9 => ?_)
  have e1 := hp
  subst e1
  exact kk _ h2 H9 locs9 B9
def f_X4_after (gi : GI) (gl : GL) (x1 : Int64) (x3 : Int32) (x4 : Int32) : Option (Int32 × GI × GL) :=
  (f_X4_isWord gi gl x1).bind fun q1 =>
  (f_X4_must gi gl q1).bind fun q2 =>
  (f_X4_numeral q2.1 q2.2 x3 x4).bind fun q3 =>
  some (q3.1, q3.2.1, q3.2.2)
set_option maxHeartbeats 400000 in
theorem w_X4_after (l : Launch) (D : va_G) (cA : Nat → ClassId) (ad : Nat → Nat) (gi : GI) (gl : GL) (x1 : Int64) (x3 : Int32) (x4 : Int32) (r : Int32 × GI × GL) (h : f_X4_after gi gl x1 x3 x4 = some r) (sz : Nat) : Met l yX4_after (ws_ yX4_after cX4_after 5 (some .int)) ({ frames := 3, cells := 0, slots := 0, locals := 67 } : Room) (va_Pc [.ref (ad 0), .long x1, .int x3, .int x4] (MPre D cA ad gi gl sz)) (va_Qi (fun v u => (v, u.1, u.2) = r) (MPost D cA ad) (MA ad sz)) 0 0 (MA ad sz) := by
  refine mm_stI (by decide +kernel) rfl (Nat.le_of_ble_eq_true rfl) (fun p e s m args below meth c R Q A ls C hF hN B hret hL => ?_) sz
  have hx := C.1
  have hb := C.2.1
  have hL : lv_has ls 5 [(0, .ref (ad 0)), (1, .long x1), (3, .int x3), (4, .int x4)] := hL
  unfold f_X4_after at h
  refine lv_aload_n hx hb dX4_after_0 rfl (lv_at hL 0 rfl) ?_
  refine lv_aload_n hx hb dX4_after_1 rfl (lv_at hL 0 rfl) ?_
  refine lv_lload_n hx hb dX4_after_2 rfl (lv_at hL 1 rfl) ?_
  refine k_X4_isWord C B (Nat.le_trans (Nat.le_of_ble_eq_true rfl) hF) (Nat.le_trans (Nat.le_of_ble_eq_true rfl) hN) hL.1 (Nat.le_of_ble_eq_true rfl) h dX4_after_3 (fun q1 h H locs B => ?_)
  refine k_X4_must C B (Nat.le_trans (Nat.le_of_ble_eq_true rfl) hF) (Nat.le_trans (Nat.le_of_ble_eq_true rfl) hN) hL.1 (Nat.le_of_ble_eq_true rfl) h dX4_after_6 (fun q2 h H locs B => ?_)
  refine lv_aload_n hx hb dX4_after_9 rfl (lv_at hL 0 rfl) ?_
  refine lv_iload_n hx hb dX4_after_10 rfl (lv_at hL 2 rfl) ?_
  refine lv_iload hx hb dX4_after_11 (lv_at hL 3 rfl) ?_
  refine k_X4_numeral C B (Nat.le_trans (Nat.le_of_ble_eq_true rfl) hF) (Nat.le_trans (Nat.le_of_ble_eq_true rfl) hN) hL.1 (Nat.le_of_ble_eq_true rfl) h dX4_after_13 (fun q3 h H locs B => ?_)
  exact hret _ _ _ _ _ _ _ (Option.some.inj h) B dX4_after_16
theorem k_X4_after {p : Program} {l : Launch} {e : Env} {R : Room} {s : State} {m : MethodId} {args : Array Value} {below : List Frame} {meth : Method} {c : Code} {H : Heap} {locs : List Loc} {Q : State → Prop} {pc : Nat} {ls : Array Slot} {rest : List Value} {cc : ByteArray} {nL : Nat} {D : va_G} {cA : Nat → ClassId} {ad : Nat → Nat} {A : Nat → Prop} {gi : GI} {gl : GL} {α : Type} {r : α} {x1 : Int64} {x3 : Int32} {x4 : Int32} {ff : (Int32 × GI × GL) → Option α} (C : CallFix p m c cc nL s args lw_all RX4) (B : MB D cA ad A s gi gl H locs) (hF : 4 ≤ R.frames) (hN : 91 ≤ R.locals) (hs : ls.size = nL) (hw : (rest.map fun v => v.category).sum ≤ 8) (h : (f_X4_after gi gl x1 x3 x4).bind ff = some r) (hdg : decode cc pc = .ok (.invokevirtual 345, 3)) (kk : ∀ q, ff q = some r → ∀ (H' : Heap) (locs' : List Loc), MB D cA ad A s q.2.1 q.2.2 H' locs' → W p l e R s m args below meth c H' locs' 0 0 Q (F0 m (pc + 3) ls (.int q.1 :: rest))) : W p l e R s m args below meth c H locs 0 0 Q (F0 m pc ls (.int x4 :: .int x3 :: .long x1 :: .ref (ad 0) :: rest)) := by
  obtain ⟨q, h1, h2⟩ := g_ob h
  refine mm_cVI (As := [.long x1, .int x3, .int x4]) (rest := rest) (n := 3) C B (fun sz => w_X4_after l D cA ad gi gl x1 x3 x4 q h1 sz) q2043 q2045 qs82 q150 q2046 (by decide +kernel) ⟨hF, hN⟩ rfl hs hw hdg (fun v u H9 locs9 hp B9 => ?_)
  have e1 := hp
  subst e1
  exact kk _ h2 H9 locs9 B9
def f_X4_readMan_l115 (gli115 : GL) (x1i115 : Int32) (x2l115 : Int32) (gil115 : GI) : Option ((Int32 × GI) ⊕ (GI)) :=
  if 3 ≤ x2l115 then
  (some (.inr gil115))
  else
  ((g_st gil115 14 30 ((3 * x1i115) + x2l115) 0).bind fun gi11 =>
  (g_st gi11 15 30 ((3 * x1i115) + x2l115) 0).bind fun gi12 =>
  some (.inl ((x2l115 + 1, gi12))))
def f_X4_readMan_x115 (gly115 : GL) (gie115 : GI) : Option (GI × GL) :=
  (g_ld gie115 4 2 (gie115 0 42)).bind fun v13 =>
  (g_st gie115 4 2 (gie115 0 42) (v13 + 1)).bind fun gi14 =>
  some (gi14, gly115)
def f_X4_readMan_j91 (gij91 : GI) (glj91 : GL) (x1j91 : Int32) : Option (GI × GL) :=
  (g_st gij91 13 10 x1j91 10).bind fun gi8 =>
  (g_st gi8 16 10 x1j91 0).bind fun gi9 =>
  (g_st gi9 17 10 x1j91 0).bind fun gi10 =>
  (g_loop g_K (fun (s : Int32 × GI) => f_X4_readMan_l115 glj91 x1j91 s.1 s.2) (0, gi10)).bind fun E115 => f_X4_readMan_x115 glj91 E115
def f_X4_readMan (gi : GI) (gl : GL)  : Option (GI × GL) :=
  (g_ld gi 4 2 (gi 0 42)).bind fun v1 =>
  (f_X4_manHere gi gl ).bind fun q2 =>
  (f_X4_fresh gi gl q2).bind fun q3 =>
  (g_stL q3.2.2 27 10 ((5 * (gi 0 42)) + v1) q3.1).bind fun gl4 =>
  (f_X4_after q3.2.1 gl4 1668444016 0 99).bind fun q5 =>
  (g_st q5.2.1 12 10 ((5 * (gi 0 42)) + v1) q5.1).bind fun gi6 =>
  (f_X4_isGood gi6 ).bind fun q7 =>
  if q7 = 0 then
  (f_X4_readMan_j91 gi6 q5.2.2 ((5 * (gi 0 42)) + v1))
  else
  ((f_X4_isWord gi6 q5.2.2 465726042981).bind fun q15 =>
  if q15 = 0 then
  (f_X4_readMan_j91 gi6 q5.2.2 ((5 * (gi 0 42)) + v1))
  else
  ((g_ld gi6 10 2 (gi6 0 42)).bind fun v16 =>
  (g_ld gi6 4 2 (gi6 0 42)).bind fun v17 =>
  (g_st gi6 10 2 (gi6 0 42) (v16 ||| (1 <<< (v17 &&& 31)))).bind fun gi18 =>
  (f_X4_goOn gi18 q5.2.2 ).bind fun q19 =>
  f_X4_readMan_j91 q19.1 q19.2 ((5 * (gi 0 42)) + v1)))
set_option maxHeartbeats 400000 in
theorem w_X4_readMan (l : Launch) (D : va_G) (cA : Nat → ClassId) (ad : Nat → Nat) (gi : GI) (gl : GL)  (r : GI × GL) (h : f_X4_readMan gi gl  = some r) (sz : Nat) : Met l yX4_readMan (ws_ yX4_readMan cX4_readMan 3 (none)) ({ frames := 4, cells := 0, slots := 0, locals := 91 } : Room) (va_Pc [.ref (ad 0)] (MPre D cA ad gi gl sz)) (va_Qv (fun u => (u.1, u.2) = r) (MPost D cA ad) (MA ad sz)) 0 0 (MA ad sz) := by
  refine mm_stV (by decide +kernel) rfl (Nat.le_of_ble_eq_true rfl) (fun p e s m args below meth c R Q A ls C hF hN B hret hL => ?_) sz
  have hx := C.1
  have hb := C.2.1
  have hL : lv_has ls 3 [(0, .ref (ad 0))] := hL
  unfold f_X4_readMan at h
  have hj91 : ∀ (gij91 : GI) (glj91 : GL) (x1j91 : Int32) (H : Heap) (locs : List Loc) (ls : Array Slot), f_X4_readMan_j91 gij91 glj91 x1j91 = some r → MB D cA ad A s gij91 glj91 H locs → lv_has ls 3 [(0, .ref (ad 0)), (1, .int x1j91)] → W p l e R s m args below meth c H locs 0 0 Q (F0 m 91 ls []) := by
    intro gij91 glj91 x1j91 H locs ls h B hL
    unfold f_X4_readMan_j91 at h
    refine lv_aload_n hx hb dX4_readMan_91 rfl (lv_at hL 0 rfl) ?_
    refine mg_21 C B dX4_readMan_92 ?_
    refine lv_iload_n hx hb dX4_readMan_95 rfl (lv_at hL 1 rfl) ?_
    refine lv_bipush (v := 10) hx hb dX4_readMan_96 (by decide) ?_
    refine mm_iast C B (a := 13) (n := 10) (Nat.le_of_ble_eq_true rfl) rfl h dX4_readMan_98 (fun gi8 h H locs B => ?_)
    refine lv_aload_n hx hb dX4_readMan_99 rfl (lv_at hL 0 rfl) ?_
    refine mg_24 C B dX4_readMan_100 ?_
    refine lv_iload_n hx hb dX4_readMan_103 rfl (lv_at hL 1 rfl) ?_
    refine lv_iconst (v := 0) hx hb dX4_readMan_104 (by decide) ?_
    refine mm_iast C B (a := 16) (n := 10) (Nat.le_of_ble_eq_true rfl) rfl h dX4_readMan_105 (fun gi9 h H locs B => ?_)
    refine lv_aload_n hx hb dX4_readMan_106 rfl (lv_at hL 0 rfl) ?_
    refine mg_25 C B dX4_readMan_107 ?_
    refine lv_iload_n hx hb dX4_readMan_110 rfl (lv_at hL 1 rfl) ?_
    refine lv_iconst (v := 0) hx hb dX4_readMan_111 (by decide) ?_
    refine mm_iast C B (a := 17) (n := 10) (Nat.le_of_ble_eq_true rfl) rfl h dX4_readMan_112 (fun gi10 h H locs B => ?_)
    refine lv_iconst (v := 0) hx hb dX4_readMan_113 (by decide) ?_
    refine lv_istore_n (lv' := [(2, .int 0), (0, .ref (ad 0)), (1, .int x1j91)]) hx hb dX4_readMan_114 rfl hL (by decide) rfl (fun ls hL => ?_)
    obtain ⟨E115, h8115, h⟩ := g_ob h
    have kx115 : ∀ (gie115 : GI) (H : Heap) (locs : List Loc) (ls : Array Slot), gie115 = E115 → MB D cA ad A s gie115 glj91 H locs → lv_has ls 3 [(0, .ref (ad 0))] → W p l e R s m args below meth c H locs 0 0 Q (F0 m 148 ls []) := by
      intro gie115 H locs ls he B hL
      subst he
      have h : f_X4_readMan_x115 glj91 gie115 = some r := h
      unfold f_X4_readMan_x115 at h
      refine lv_aload_n hx hb dX4_readMan_148 rfl (lv_at hL 0 rfl) ?_
      refine mg_12 C B dX4_readMan_149 ?_
      refine lv_aload_n hx hb dX4_readMan_152 rfl (lv_at hL 0 rfl) ?_
      refine mg_42 C B dX4_readMan_153 ?_
      refine lv_dup2_11 hx hb dX4_readMan_156 rfl rfl ?_
      refine mm_iald C B (a := 4) (n := 2) (Nat.le_of_ble_eq_true rfl) rfl h dX4_readMan_157 (fun v13 h => ?_)
      refine lv_iconst (v := 1) hx hb dX4_readMan_158 (by decide) ?_
      refine lv_iadd hx hb dX4_readMan_159 ?_
      refine mm_iast C B (a := 4) (n := 2) (Nat.le_of_ble_eq_true rfl) rfl h dX4_readMan_160 (fun gi14 h H locs B => ?_)
      exact hret _ _ _ _ _ _ (Option.some.inj h) B dX4_readMan_161
    have hl115 : ∀ (k : Nat) (x2l115 : Int32) (gil115 : GI) (H : Heap) (locs : List Loc) (ls : Array Slot), g_loop k (fun (s : Int32 × GI) => f_X4_readMan_l115 glj91 x1j91 s.1 s.2) (x2l115, gil115) = some E115 → MB D cA ad A s gil115 glj91 H locs → lv_has ls 3 [(0, .ref (ad 0)), (1, .int x1j91), (2, .int x2l115)] → W p l e R s m args below meth c H locs 0 0 Q (F0 m 115 ls []) := by
      intro k
      induction k with
      | zero => intro x2l115 gil115 H locs ls h; exact absurd h (fun z => g_loop_0 z)
      | succ k ih115 =>
        intro x2l115 gil115 H locs ls h B hL
        obtain ⟨Z115, h, h9115⟩ := g_loop_s h
        have h : f_X4_readMan_l115 glj91 x1j91 x2l115 gil115 = some Z115 := h
        unfold f_X4_readMan_l115 at h
        refine lv_iload_n hx hb dX4_readMan_115 rfl (lv_at hL 2 rfl) ?_
        refine lv_iconst (v := 3) hx hb dX4_readMan_116 (by decide) ?_
        refine gg_icmp_ge hx hb 148 h dX4_readMan_117 (by decide) (fun h => ?_) (fun h => ?_)
        · exact kx115 _ _ _ _ (g_exit h h9115) B (lv_sub hL [0] rfl)
        · refine lv_aload_n hx hb dX4_readMan_120 rfl (lv_at hL 0 rfl) ?_
          refine mg_22 C B dX4_readMan_121 ?_
          refine lv_iconst (v := 3) hx hb dX4_readMan_124 (by decide) ?_
          refine lv_iload_n hx hb dX4_readMan_125 rfl (lv_at hL 1 rfl) ?_
          refine lv_imul hx hb dX4_readMan_126 ?_
          refine lv_iload_n hx hb dX4_readMan_127 rfl (lv_at hL 2 rfl) ?_
          refine lv_iadd hx hb dX4_readMan_128 ?_
          refine lv_iconst (v := 0) hx hb dX4_readMan_129 (by decide) ?_
          refine mm_iast C B (a := 14) (n := 30) (Nat.le_of_ble_eq_true rfl) rfl h dX4_readMan_130 (fun gi11 h H locs B => ?_)
          refine lv_aload_n hx hb dX4_readMan_131 rfl (lv_at hL 0 rfl) ?_
          refine mg_23 C B dX4_readMan_132 ?_
          refine lv_iconst (v := 3) hx hb dX4_readMan_135 (by decide) ?_
          refine lv_iload_n hx hb dX4_readMan_136 rfl (lv_at hL 1 rfl) ?_
          refine lv_imul hx hb dX4_readMan_137 ?_
          refine lv_iload_n hx hb dX4_readMan_138 rfl (lv_at hL 2 rfl) ?_
          refine lv_iadd hx hb dX4_readMan_139 ?_
          refine lv_iconst (v := 0) hx hb dX4_readMan_140 (by decide) ?_
          refine mm_iast C B (a := 15) (n := 30) (Nat.le_of_ble_eq_true rfl) rfl h dX4_readMan_141 (fun gi12 h H locs B => ?_)
          refine lv_iinc (v := x2l115 + 1) (lv' := [(2, .int (x2l115 + 1)), (0, .ref (ad 0)), (1, .int x1j91)]) hx hb dX4_readMan_142 hL (k := 2) rfl rfl (by decide) rfl (fun ls hL => ?_)
          refine lv_goto (tgt := 115) hx hb dX4_readMan_145 (by decide) ?_
          exact ih115 _ _ _ _ _ (g_next h h9115) B (lv_sub hL [1, 2, 0] rfl)
    exact hl115 g_K _ _ _ _ _ h8115 B (lv_sub hL [1, 2, 0] rfl)
  refine lv_iconst (v := 5) hx hb dX4_readMan_0 (by decide) ?_
  refine lv_aload_n hx hb dX4_readMan_1 rfl (lv_at hL 0 rfl) ?_
  refine mg_42 C B dX4_readMan_2 ?_
  refine lv_imul hx hb dX4_readMan_5 ?_
  refine lv_aload_n hx hb dX4_readMan_6 rfl (lv_at hL 0 rfl) ?_
  refine mg_12 C B dX4_readMan_7 ?_
  refine lv_aload_n hx hb dX4_readMan_10 rfl (lv_at hL 0 rfl) ?_
  refine mg_42 C B dX4_readMan_11 ?_
  refine mm_iald C B (a := 4) (n := 2) (Nat.le_of_ble_eq_true rfl) rfl h dX4_readMan_14 (fun v1 h => ?_)
  refine lv_iadd hx hb dX4_readMan_15 ?_
  refine lv_istore_n (lv' := [(1, .int ((5 * (gi 0 42)) + v1)), (0, .ref (ad 0))]) hx hb dX4_readMan_16 rfl hL (by decide) rfl (fun ls hL => ?_)
  refine lv_aload_n hx hb dX4_readMan_17 rfl (lv_at hL 1 rfl) ?_
  refine mg_35 C B dX4_readMan_18 ?_
  refine lv_iload_n hx hb dX4_readMan_21 rfl (lv_at hL 0 rfl) ?_
  refine lv_aload_n hx hb dX4_readMan_22 rfl (lv_at hL 1 rfl) ?_
  refine lv_aload_n hx hb dX4_readMan_23 rfl (lv_at hL 1 rfl) ?_
  refine k_X4_manHere C B (Nat.le_trans (Nat.le_of_ble_eq_true rfl) hF) (Nat.le_trans (Nat.le_of_ble_eq_true rfl) hN) hL.1 (Nat.le_of_ble_eq_true rfl) h dX4_readMan_24 (fun q2 h H locs B => ?_)
  refine k_X4_fresh C B (Nat.le_trans (Nat.le_of_ble_eq_true rfl) hF) (Nat.le_trans (Nat.le_of_ble_eq_true rfl) hN) hL.1 (Nat.le_of_ble_eq_true rfl) h dX4_readMan_27 (fun q3 h H locs B => ?_)
  refine mm_last C B (a := 27) (n := 10) (Nat.le_of_ble_eq_true rfl) rfl h dX4_readMan_30 (fun gl4 h H locs B => ?_)
  refine lv_aload_n hx hb dX4_readMan_31 rfl (lv_at hL 1 rfl) ?_
  refine mg_20 C B dX4_readMan_32 ?_
  refine lv_iload_n hx hb dX4_readMan_35 rfl (lv_at hL 0 rfl) ?_
  refine lv_aload_n hx hb dX4_readMan_36 rfl (lv_at hL 1 rfl) ?_
  refine lv_ldc2 (v := 1668444016) hx hb C.2.2.2.1 (C.2.2.2.2 _ q1974) dX4_readMan_37 ?_
  refine lv_iconst (v := 0) hx hb dX4_readMan_40 (by decide) ?_
  refine lv_bipush (v := 99) hx hb dX4_readMan_41 (by decide) ?_
  refine k_X4_after C B (Nat.le_trans (Nat.le_of_ble_eq_true rfl) hF) (Nat.le_trans (Nat.le_of_ble_eq_true rfl) hN) hL.1 (Nat.le_of_ble_eq_true rfl) h dX4_readMan_43 (fun q5 h H locs B => ?_)
  refine mm_iast C B (a := 12) (n := 10) (Nat.le_of_ble_eq_true rfl) rfl h dX4_readMan_46 (fun gi6 h H locs B => ?_)
  refine lv_aload_n hx hb dX4_readMan_47 rfl (lv_at hL 1 rfl) ?_
  refine k_X4_isGood C B (Nat.le_trans (Nat.le_of_ble_eq_true rfl) hF) (Nat.le_trans (Nat.le_of_ble_eq_true rfl) hN) hL.1 (Nat.le_of_ble_eq_true rfl) h dX4_readMan_48 (fun q7 h H locs B => ?_)
  refine gg_if_eq hx hb 91 h dX4_readMan_51 (by decide) (fun h => ?_) (fun h => ?_)
  · exact hj91 _ _ _ _ _ _ h B (lv_sub hL [1, 0] rfl)
  · refine lv_aload_n hx hb dX4_readMan_54 rfl (lv_at hL 1 rfl) ?_
    refine lv_ldc2 (v := 465726042981) hx hb C.2.2.2.1 (C.2.2.2.2 _ q1975) dX4_readMan_55 ?_
    refine k_X4_isWord C B (Nat.le_trans (Nat.le_of_ble_eq_true rfl) hF) (Nat.le_trans (Nat.le_of_ble_eq_true rfl) hN) hL.1 (Nat.le_of_ble_eq_true rfl) h dX4_readMan_58 (fun q15 h H locs B => ?_)
    refine gg_if_eq hx hb 91 h dX4_readMan_61 (by decide) (fun h => ?_) (fun h => ?_)
    · exact hj91 _ _ _ _ _ _ h B (lv_sub hL [1, 0] rfl)
    · refine lv_aload_n hx hb dX4_readMan_64 rfl (lv_at hL 1 rfl) ?_
      refine mg_18 C B dX4_readMan_65 ?_
      refine lv_aload_n hx hb dX4_readMan_68 rfl (lv_at hL 1 rfl) ?_
      refine mg_42 C B dX4_readMan_69 ?_
      refine lv_dup2_11 hx hb dX4_readMan_72 rfl rfl ?_
      refine mm_iald C B (a := 10) (n := 2) (Nat.le_of_ble_eq_true rfl) rfl h dX4_readMan_73 (fun v16 h => ?_)
      refine lv_iconst (v := 1) hx hb dX4_readMan_74 (by decide) ?_
      refine lv_aload_n hx hb dX4_readMan_75 rfl (lv_at hL 1 rfl) ?_
      refine mg_12 C B dX4_readMan_76 ?_
      refine lv_aload_n hx hb dX4_readMan_79 rfl (lv_at hL 1 rfl) ?_
      refine mg_42 C B dX4_readMan_80 ?_
      refine mm_iald C B (a := 4) (n := 2) (Nat.le_of_ble_eq_true rfl) rfl h dX4_readMan_83 (fun v17 h => ?_)
      refine lv_ishl hx hb dX4_readMan_84 ?_
      refine lv_ior hx hb dX4_readMan_85 ?_
      refine mm_iast C B (a := 10) (n := 2) (Nat.le_of_ble_eq_true rfl) rfl h dX4_readMan_86 (fun gi18 h H locs B => ?_)
      refine lv_aload_n hx hb dX4_readMan_87 rfl (lv_at hL 1 rfl) ?_
      refine k_X4_goOn C B (Nat.le_trans (Nat.le_of_ble_eq_true rfl) hF) (Nat.le_trans (Nat.le_of_ble_eq_true rfl) hN) hL.1 (Nat.le_of_ble_eq_true rfl) h dX4_readMan_88 (fun q19 h H locs B => ?_)
      exact hj91 _ _ _ _ _ _ h B (lv_sub hL [1, 0] rfl)
theorem k_X4_readMan {p : Program} {l : Launch} {e : Env} {R : Room} {s : State} {m : MethodId} {args : Array Value} {below : List Frame} {meth : Method} {c : Code} {H : Heap} {locs : List Loc} {Q : State → Prop} {pc : Nat} {ls : Array Slot} {rest : List Value} {cc : ByteArray} {nL : Nat} {D : va_G} {cA : Nat → ClassId} {ad : Nat → Nat} {A : Nat → Prop} {gi : GI} {gl : GL} {α : Type} {r : α}  {ff : (GI × GL) → Option α} (C : CallFix p m c cc nL s args lw_all RX4) (B : MB D cA ad A s gi gl H locs) (hF : 5 ≤ R.frames) (hN : 113 ≤ R.locals) (hs : ls.size = nL) (hw : (rest.map fun v => v.category).sum ≤ 8) (h : (f_X4_readMan gi gl ).bind ff = some r) (hdg : decode cc pc = .ok (.invokevirtual 318, 3)) (kk : ∀ q, ff q = some r → ∀ (H' : Heap) (locs' : List Loc), MB D cA ad A s q.1 q.2 H' locs' → W p l e R s m args below meth c H' locs' 0 0 Q (F0 m (pc + 3) ls (rest))) : W p l e R s m args below meth c H locs 0 0 Q (F0 m pc ls (.ref (ad 0) :: rest)) := by
  obtain ⟨q, h1, h2⟩ := g_ob h
  refine mm_cVV (As := []) (rest := rest) (n := 0) C B (fun sz => w_X4_readMan l D cA ad gi gl  q h1 sz) q2035 q2037 qs80 q150 q2038 (by decide +kernel) ⟨hF, hN⟩ rfl hs hw hdg (fun u H9 locs9 hp B9 => ?_)
  have e1 := hp
  subst e1
  exact kk _ h2 H9 locs9 B9
def f_X4_readRate_j80 (gij80 : GI) (glj80 : GL) (x1j80 : Int32) (x2j80 : Int32) (x3j80 : Int32) : Option (GI × GL) :=
  (f_X4_known gij80 glj80 x3j80).bind fun q8 =>
  (f_X4_numeral q8.2.1 q8.2.2 1 9).bind fun q9 =>
  (f_X4_isGood q9.2.1 ).bind fun q10 =>
  if q10 = 0 then
  (some (q9.2.1, q9.2.2))
  else
  ((g_st q9.2.1 18 18 (((9 * (q9.2.1 0 42)) + (3 * x1j80)) + q8.1) x2j80).bind fun gi11 =>
  (g_st gi11 19 18 (((9 * (gi11 0 42)) + (3 * x1j80)) + q8.1) q9.1).bind fun gi12 =>
  (g_ld gi12 6 2 (gi12 0 42)).bind fun v13 =>
  (g_st gi12 6 2 (gi12 0 42) (v13 + 1)).bind fun gi14 =>
  some (gi14, q9.2.2))
def f_X4_readRate_j71 (gij71 : GI) (glj71 : GL) (x1j71 : Int32) (x2j71 : Int32) (x3j71 : Int32) : Option (GI × GL) :=
  (f_X4_fails gij71 3 (gij71 0 6)).bind fun q15 =>
  f_X4_readRate_j80 q15 glj71 x1j71 x2j71 x3j71
def f_X4_readRate (gi : GI) (gl : GL)  : Option (GI × GL) :=
  (f_X4_kindHere gi gl ).bind fun q1 =>
  (f_X4_known gi gl q1).bind fun q2 =>
  (f_X4_numeral q2.2.1 q2.2.2 1 9).bind fun q3 =>
  (f_X4_isWord q3.2.1 q3.2.2 6713202).bind fun q4 =>
  (f_X4_must q3.2.1 q3.2.2 q4).bind fun q5 =>
  (f_X4_isGood q5.1 ).bind fun q6 =>
  if q6 = 0 then
  (some (q5.1, q5.2))
  else
  ((f_X4_kindHere q5.1 q5.2 ).bind fun q7 =>
  if q7 < 0 then
  (f_X4_readRate_j80 q5.1 q5.2 q2.1 q3.1 q7)
  else
  (if q7 = q2.1 then
  (f_X4_readRate_j71 q5.1 q5.2 q2.1 q3.1 q7)
  else
  ((g_ld q5.1 18 18 (((9 * (q5.1 0 42)) + (3 * q2.1)) + q7)).bind fun v16 =>
  if v16 ≤ 0 then
  (f_X4_readRate_j80 q5.1 q5.2 q2.1 q3.1 q7)
  else
  (f_X4_readRate_j71 q5.1 q5.2 q2.1 q3.1 q7))))
set_option maxHeartbeats 400000 in
theorem w_X4_readRate (l : Launch) (D : va_G) (cA : Nat → ClassId) (ad : Nat → Nat) (gi : GI) (gl : GL)  (r : GI × GL) (h : f_X4_readRate gi gl  = some r) (sz : Nat) : Met l yX4_readRate (ws_ yX4_readRate cX4_readRate 5 (none)) ({ frames := 3, cells := 0, slots := 0, locals := 67 } : Room) (va_Pc [.ref (ad 0)] (MPre D cA ad gi gl sz)) (va_Qv (fun u => (u.1, u.2) = r) (MPost D cA ad) (MA ad sz)) 0 0 (MA ad sz) := by
  refine mm_stV (by decide +kernel) rfl (Nat.le_of_ble_eq_true rfl) (fun p e s m args below meth c R Q A ls C hF hN B hret hL => ?_) sz
  have hx := C.1
  have hb := C.2.1
  have hL : lv_has ls 5 [(0, .ref (ad 0))] := hL
  unfold f_X4_readRate at h
  have hj80 : ∀ (gij80 : GI) (glj80 : GL) (x1j80 : Int32) (x2j80 : Int32) (x3j80 : Int32) (H : Heap) (locs : List Loc) (ls : Array Slot), f_X4_readRate_j80 gij80 glj80 x1j80 x2j80 x3j80 = some r → MB D cA ad A s gij80 glj80 H locs → lv_has ls 5 [(0, .ref (ad 0)), (1, .int x1j80), (2, .int x2j80), (3, .int x3j80)] → W p l e R s m args below meth c H locs 0 0 Q (F0 m 80 ls []) := by
    intro gij80 glj80 x1j80 x2j80 x3j80 H locs ls h B hL
    unfold f_X4_readRate_j80 at h
    refine lv_aload_n hx hb dX4_readRate_80 rfl (lv_at hL 0 rfl) ?_
    refine lv_iload_n hx hb dX4_readRate_81 rfl (lv_at hL 3 rfl) ?_
    refine k_X4_known C B (Nat.le_trans (Nat.le_of_ble_eq_true rfl) hF) (Nat.le_trans (Nat.le_of_ble_eq_true rfl) hN) hL.1 (Nat.le_of_ble_eq_true rfl) h dX4_readRate_82 (fun q8 h H locs B => ?_)
    refine lv_istore_n (lv' := [(3, .int q8.1), (0, .ref (ad 0)), (1, .int x1j80), (2, .int x2j80)]) hx hb dX4_readRate_85 rfl hL (by decide) rfl (fun ls hL => ?_)
    refine lv_aload_n hx hb dX4_readRate_86 rfl (lv_at hL 1 rfl) ?_
    refine lv_iconst (v := 1) hx hb dX4_readRate_87 (by decide) ?_
    refine lv_bipush (v := 9) hx hb dX4_readRate_88 (by decide) ?_
    refine k_X4_numeral C B (Nat.le_trans (Nat.le_of_ble_eq_true rfl) hF) (Nat.le_trans (Nat.le_of_ble_eq_true rfl) hN) hL.1 (Nat.le_of_ble_eq_true rfl) h dX4_readRate_90 (fun q9 h H locs B => ?_)
    refine lv_istore (lv' := [(4, .int q9.1), (3, .int q8.1), (0, .ref (ad 0)), (1, .int x1j80), (2, .int x2j80)]) hx hb dX4_readRate_93 hL (by decide) rfl (fun ls hL => ?_)
    refine lv_aload_n hx hb dX4_readRate_95 rfl (lv_at hL 2 rfl) ?_
    refine k_X4_isGood C B (Nat.le_trans (Nat.le_of_ble_eq_true rfl) hF) (Nat.le_trans (Nat.le_of_ble_eq_true rfl) hN) hL.1 (Nat.le_of_ble_eq_true rfl) h dX4_readRate_96 (fun q10 h H locs B => ?_)
    refine gg_if_ne hx hb 103 h dX4_readRate_99 (by decide) (fun h => ?_) (fun h => ?_)
    · refine lv_aload_n hx hb dX4_readRate_103 rfl (lv_at hL 2 rfl) ?_
      refine mg_26 C B dX4_readRate_104 ?_
      refine lv_bipush (v := 9) hx hb dX4_readRate_107 (by decide) ?_
      refine lv_aload_n hx hb dX4_readRate_109 rfl (lv_at hL 2 rfl) ?_
      refine mg_42 C B dX4_readRate_110 ?_
      refine lv_imul hx hb dX4_readRate_113 ?_
      refine lv_iconst (v := 3) hx hb dX4_readRate_114 (by decide) ?_
      refine lv_iload_n hx hb dX4_readRate_115 rfl (lv_at hL 3 rfl) ?_
      refine lv_imul hx hb dX4_readRate_116 ?_
      refine lv_iadd hx hb dX4_readRate_117 ?_
      refine lv_iload_n hx hb dX4_readRate_118 rfl (lv_at hL 1 rfl) ?_
      refine lv_iadd hx hb dX4_readRate_119 ?_
      refine lv_iload_n hx hb dX4_readRate_120 rfl (lv_at hL 4 rfl) ?_
      refine mm_iast C B (a := 18) (n := 18) (Nat.le_of_ble_eq_true rfl) rfl h dX4_readRate_121 (fun gi11 h H locs B => ?_)
      refine lv_aload_n hx hb dX4_readRate_122 rfl (lv_at hL 2 rfl) ?_
      refine mg_27 C B dX4_readRate_123 ?_
      refine lv_bipush (v := 9) hx hb dX4_readRate_126 (by decide) ?_
      refine lv_aload_n hx hb dX4_readRate_128 rfl (lv_at hL 2 rfl) ?_
      refine mg_42 C B dX4_readRate_129 ?_
      refine lv_imul hx hb dX4_readRate_132 ?_
      refine lv_iconst (v := 3) hx hb dX4_readRate_133 (by decide) ?_
      refine lv_iload_n hx hb dX4_readRate_134 rfl (lv_at hL 3 rfl) ?_
      refine lv_imul hx hb dX4_readRate_135 ?_
      refine lv_iadd hx hb dX4_readRate_136 ?_
      refine lv_iload_n hx hb dX4_readRate_137 rfl (lv_at hL 1 rfl) ?_
      refine lv_iadd hx hb dX4_readRate_138 ?_
      refine lv_iload hx hb dX4_readRate_139 (lv_at hL 0 rfl) ?_
      refine mm_iast C B (a := 19) (n := 18) (Nat.le_of_ble_eq_true rfl) rfl h dX4_readRate_141 (fun gi12 h H locs B => ?_)
      refine lv_aload_n hx hb dX4_readRate_142 rfl (lv_at hL 2 rfl) ?_
      refine mg_14 C B dX4_readRate_143 ?_
      refine lv_aload_n hx hb dX4_readRate_146 rfl (lv_at hL 2 rfl) ?_
      refine mg_42 C B dX4_readRate_147 ?_
      refine lv_dup2_11 hx hb dX4_readRate_150 rfl rfl ?_
      refine mm_iald C B (a := 6) (n := 2) (Nat.le_of_ble_eq_true rfl) rfl h dX4_readRate_151 (fun v13 h => ?_)
      refine lv_iconst (v := 1) hx hb dX4_readRate_152 (by decide) ?_
      refine lv_iadd hx hb dX4_readRate_153 ?_
      refine mm_iast C B (a := 6) (n := 2) (Nat.le_of_ble_eq_true rfl) rfl h dX4_readRate_154 (fun gi14 h H locs B => ?_)
      exact hret _ _ _ _ _ _ (Option.some.inj h) B dX4_readRate_155
    · exact hret _ _ _ _ _ _ (Option.some.inj h) B dX4_readRate_102
  have hj71 : ∀ (gij71 : GI) (glj71 : GL) (x1j71 : Int32) (x2j71 : Int32) (x3j71 : Int32) (H : Heap) (locs : List Loc) (ls : Array Slot), f_X4_readRate_j71 gij71 glj71 x1j71 x2j71 x3j71 = some r → MB D cA ad A s gij71 glj71 H locs → lv_has ls 5 [(0, .ref (ad 0)), (1, .int x1j71), (2, .int x2j71), (3, .int x3j71)] → W p l e R s m args below meth c H locs 0 0 Q (F0 m 71 ls []) := by
    intro gij71 glj71 x1j71 x2j71 x3j71 H locs ls h B hL
    unfold f_X4_readRate_j71 at h
    refine lv_aload_n hx hb dX4_readRate_71 rfl (lv_at hL 0 rfl) ?_
    refine lv_iconst (v := 3) hx hb dX4_readRate_72 (by decide) ?_
    refine lv_aload_n hx hb dX4_readRate_73 rfl (lv_at hL 0 rfl) ?_
    refine mg_6 C B dX4_readRate_74 ?_
    refine k_X4_fails C B (Nat.le_trans (Nat.le_of_ble_eq_true rfl) hF) (Nat.le_trans (Nat.le_of_ble_eq_true rfl) hN) hL.1 (Nat.le_of_ble_eq_true rfl) h dX4_readRate_77 (fun q15 h H locs B => ?_)
    exact hj80 _ _ _ _ _ _ _ _ h B (lv_sub hL [0, 1, 2, 3] rfl)
  refine lv_aload_n hx hb dX4_readRate_0 rfl (lv_at hL 0 rfl) ?_
  refine lv_aload_n hx hb dX4_readRate_1 rfl (lv_at hL 0 rfl) ?_
  refine k_X4_kindHere C B (Nat.le_trans (Nat.le_of_ble_eq_true rfl) hF) (Nat.le_trans (Nat.le_of_ble_eq_true rfl) hN) hL.1 (Nat.le_of_ble_eq_true rfl) h dX4_readRate_2 (fun q1 h H locs B => ?_)
  refine k_X4_known C B (Nat.le_trans (Nat.le_of_ble_eq_true rfl) hF) (Nat.le_trans (Nat.le_of_ble_eq_true rfl) hN) hL.1 (Nat.le_of_ble_eq_true rfl) h dX4_readRate_5 (fun q2 h H locs B => ?_)
  refine lv_istore_n (lv' := [(1, .int q2.1), (0, .ref (ad 0))]) hx hb dX4_readRate_8 rfl hL (by decide) rfl (fun ls hL => ?_)
  refine lv_aload_n hx hb dX4_readRate_9 rfl (lv_at hL 1 rfl) ?_
  refine lv_iconst (v := 1) hx hb dX4_readRate_10 (by decide) ?_
  refine lv_bipush (v := 9) hx hb dX4_readRate_11 (by decide) ?_
  refine k_X4_numeral C B (Nat.le_trans (Nat.le_of_ble_eq_true rfl) hF) (Nat.le_trans (Nat.le_of_ble_eq_true rfl) hN) hL.1 (Nat.le_of_ble_eq_true rfl) h dX4_readRate_13 (fun q3 h H locs B => ?_)
  refine lv_istore_n (lv' := [(2, .int q3.1), (1, .int q2.1), (0, .ref (ad 0))]) hx hb dX4_readRate_16 rfl hL (by decide) rfl (fun ls hL => ?_)
  refine lv_aload_n hx hb dX4_readRate_17 rfl (lv_at hL 2 rfl) ?_
  refine lv_aload_n hx hb dX4_readRate_18 rfl (lv_at hL 2 rfl) ?_
  refine lv_ldc2 (v := 6713202) hx hb C.2.2.2.1 (C.2.2.2.2 _ q1980) dX4_readRate_19 ?_
  refine k_X4_isWord C B (Nat.le_trans (Nat.le_of_ble_eq_true rfl) hF) (Nat.le_trans (Nat.le_of_ble_eq_true rfl) hN) hL.1 (Nat.le_of_ble_eq_true rfl) h dX4_readRate_22 (fun q4 h H locs B => ?_)
  refine k_X4_must C B (Nat.le_trans (Nat.le_of_ble_eq_true rfl) hF) (Nat.le_trans (Nat.le_of_ble_eq_true rfl) hN) hL.1 (Nat.le_of_ble_eq_true rfl) h dX4_readRate_25 (fun q5 h H locs B => ?_)
  refine lv_aload_n hx hb dX4_readRate_28 rfl (lv_at hL 2 rfl) ?_
  refine k_X4_isGood C B (Nat.le_trans (Nat.le_of_ble_eq_true rfl) hF) (Nat.le_trans (Nat.le_of_ble_eq_true rfl) hN) hL.1 (Nat.le_of_ble_eq_true rfl) h dX4_readRate_29 (fun q6 h H locs B => ?_)
  refine gg_if_ne hx hb 36 h dX4_readRate_32 (by decide) (fun h => ?_) (fun h => ?_)
  · refine lv_aload_n hx hb dX4_readRate_36 rfl (lv_at hL 2 rfl) ?_
    refine k_X4_kindHere C B (Nat.le_trans (Nat.le_of_ble_eq_true rfl) hF) (Nat.le_trans (Nat.le_of_ble_eq_true rfl) hN) hL.1 (Nat.le_of_ble_eq_true rfl) h dX4_readRate_37 (fun q7 h H locs B => ?_)
    refine lv_istore_n (lv' := [(3, .int q7), (2, .int q3.1), (1, .int q2.1), (0, .ref (ad 0))]) hx hb dX4_readRate_40 rfl hL (by decide) rfl (fun ls hL => ?_)
    refine lv_iload_n hx hb dX4_readRate_41 rfl (lv_at hL 0 rfl) ?_
    refine gg_if_lt hx hb 80 h dX4_readRate_42 (by decide) (fun h => ?_) (fun h => ?_)
    · exact hj80 _ _ _ _ _ _ _ _ h B (lv_sub hL [3, 2, 1, 0] rfl)
    · refine lv_iload_n hx hb dX4_readRate_45 rfl (lv_at hL 0 rfl) ?_
      refine lv_iload_n hx hb dX4_readRate_46 rfl (lv_at hL 2 rfl) ?_
      refine gg_icmp_eq hx hb 71 h dX4_readRate_47 (by decide) (fun h => ?_) (fun h => ?_)
      · exact hj71 _ _ _ _ _ _ _ _ h B (lv_sub hL [3, 2, 1, 0] rfl)
      · refine lv_aload_n hx hb dX4_readRate_50 rfl (lv_at hL 3 rfl) ?_
        refine mg_26 C B dX4_readRate_51 ?_
        refine lv_bipush (v := 9) hx hb dX4_readRate_54 (by decide) ?_
        refine lv_aload_n hx hb dX4_readRate_56 rfl (lv_at hL 3 rfl) ?_
        refine mg_42 C B dX4_readRate_57 ?_
        refine lv_imul hx hb dX4_readRate_60 ?_
        refine lv_iconst (v := 3) hx hb dX4_readRate_61 (by decide) ?_
        refine lv_iload_n hx hb dX4_readRate_62 rfl (lv_at hL 2 rfl) ?_
        refine lv_imul hx hb dX4_readRate_63 ?_
        refine lv_iadd hx hb dX4_readRate_64 ?_
        refine lv_iload_n hx hb dX4_readRate_65 rfl (lv_at hL 0 rfl) ?_
        refine lv_iadd hx hb dX4_readRate_66 ?_
        refine mm_iald C B (a := 18) (n := 18) (Nat.le_of_ble_eq_true rfl) rfl h dX4_readRate_67 (fun v16 h => ?_)
        refine gg_if_le hx hb 80 h dX4_readRate_68 (by decide) (fun h => ?_) (fun h => ?_)
        · exact hj80 _ _ _ _ _ _ _ _ h B (lv_sub hL [3, 2, 1, 0] rfl)
        · exact hj71 _ _ _ _ _ _ _ _ h B (lv_sub hL [3, 2, 1, 0] rfl)
  · exact hret _ _ _ _ _ _ (Option.some.inj h) B dX4_readRate_35
theorem k_X4_readRate {p : Program} {l : Launch} {e : Env} {R : Room} {s : State} {m : MethodId} {args : Array Value} {below : List Frame} {meth : Method} {c : Code} {H : Heap} {locs : List Loc} {Q : State → Prop} {pc : Nat} {ls : Array Slot} {rest : List Value} {cc : ByteArray} {nL : Nat} {D : va_G} {cA : Nat → ClassId} {ad : Nat → Nat} {A : Nat → Prop} {gi : GI} {gl : GL} {α : Type} {r : α}  {ff : (GI × GL) → Option α} (C : CallFix p m c cc nL s args lw_all RX4) (B : MB D cA ad A s gi gl H locs) (hF : 4 ≤ R.frames) (hN : 91 ≤ R.locals) (hs : ls.size = nL) (hw : (rest.map fun v => v.category).sum ≤ 8) (h : (f_X4_readRate gi gl ).bind ff = some r) (hdg : decode cc pc = .ok (.invokevirtual 328, 3)) (kk : ∀ q, ff q = some r → ∀ (H' : Heap) (locs' : List Loc), MB D cA ad A s q.1 q.2 H' locs' → W p l e R s m args below meth c H' locs' 0 0 Q (F0 m (pc + 3) ls (rest))) : W p l e R s m args below meth c H locs 0 0 Q (F0 m pc ls (.ref (ad 0) :: rest)) := by
  obtain ⟨q, h1, h2⟩ := g_ob h
  refine mm_cVV (As := []) (rest := rest) (n := 0) C B (fun sz => w_X4_readRate l D cA ad gi gl  q h1 sz) q2067 q2069 qs88 q150 q2070 (by decide +kernel) ⟨hF, hN⟩ rfl hs hw hdg (fun u H9 locs9 hp B9 => ?_)
  have e1 := hp
  subst e1
  exact kk _ h2 H9 locs9 B9
def f_X4_emit (gi : GI) (x1 : Int32) (x2 : Int32) : Option (GI) :=
  (g_st gi 28 1120 (gi 0 43) x1).bind fun gi1 =>
  (g_st gi1 29 1120 (gi1 0 43) x2).bind fun gi2 =>
  (some (g_pi gi2 0 43 ((gi2 0 43) + 1))).bind fun gi3 =>
  some gi3
set_option maxHeartbeats 400000 in
theorem w_X4_emit (l : Launch) (D : va_G) (cA : Nat → ClassId) (ad : Nat → Nat) (gi : GI) (gl : GL) (x1 : Int32) (x2 : Int32) (r : GI) (h : f_X4_emit gi x1 x2 = some r) (sz : Nat) : Met l yX4_emit (ws_ yX4_emit cX4_emit 3 (none)) ({ frames := 0, cells := 0, slots := 0, locals := 0 } : Room) (va_Pc [.ref (ad 0), .int x1, .int x2] (MPre D cA ad gi gl sz)) (va_Qv (fun u => u.1 = r ∧ u.2 = gl) (MPost D cA ad) (MA ad sz)) 0 0 (MA ad sz) := by
  refine mm_stV (by decide +kernel) rfl (Nat.le_of_ble_eq_true rfl) (fun p e s m args below meth c R Q A ls C hF hN B hret hL => ?_) sz
  have hx := C.1
  have hb := C.2.1
  have hL : lv_has ls 3 [(0, .ref (ad 0)), (1, .int x1), (2, .int x2)] := hL
  unfold f_X4_emit at h
  refine lv_aload_n hx hb dX4_emit_0 rfl (lv_at hL 0 rfl) ?_
  refine mg_36 C B dX4_emit_1 ?_
  refine lv_aload_n hx hb dX4_emit_4 rfl (lv_at hL 0 rfl) ?_
  refine mg_43 C B dX4_emit_5 ?_
  refine lv_iload_n hx hb dX4_emit_8 rfl (lv_at hL 1 rfl) ?_
  refine mm_iast C B (a := 28) (n := 1120) (Nat.le_of_ble_eq_true rfl) rfl h dX4_emit_9 (fun gi1 h H locs B => ?_)
  refine lv_aload_n hx hb dX4_emit_10 rfl (lv_at hL 0 rfl) ?_
  refine mg_37 C B dX4_emit_11 ?_
  refine lv_aload_n hx hb dX4_emit_14 rfl (lv_at hL 0 rfl) ?_
  refine mg_43 C B dX4_emit_15 ?_
  refine lv_iload_n hx hb dX4_emit_18 rfl (lv_at hL 2 rfl) ?_
  refine mm_iast C B (a := 29) (n := 1120) (Nat.le_of_ble_eq_true rfl) rfl h dX4_emit_19 (fun gi2 h H locs B => ?_)
  refine lv_aload_n hx hb dX4_emit_20 rfl (lv_at hL 0 rfl) ?_
  refine lv_dup hx hb dX4_emit_21 rfl ?_
  refine mg_43 C B dX4_emit_22 ?_
  refine lv_iconst (v := 1) hx hb dX4_emit_25 (by decide) ?_
  refine lv_iadd hx hb dX4_emit_26 ?_
  refine mp_43 C B h dX4_emit_27 (fun gi3 h H locs B => ?_)
  exact hret _ _ _ _ _ _ ⟨Option.some.inj h, rfl⟩ B dX4_emit_30
theorem k_X4_emit {p : Program} {l : Launch} {e : Env} {R : Room} {s : State} {m : MethodId} {args : Array Value} {below : List Frame} {meth : Method} {c : Code} {H : Heap} {locs : List Loc} {Q : State → Prop} {pc : Nat} {ls : Array Slot} {rest : List Value} {cc : ByteArray} {nL : Nat} {D : va_G} {cA : Nat → ClassId} {ad : Nat → Nat} {A : Nat → Prop} {gi : GI} {gl : GL} {α : Type} {r : α} {x1 : Int32} {x2 : Int32} {ff : GI → Option α} (C : CallFix p m c cc nL s args lw_all RX4) (B : MB D cA ad A s gi gl H locs) (hF : 1 ≤ R.frames) (hN : 22 ≤ R.locals) (hs : ls.size = nL) (hw : (rest.map fun v => v.category).sum ≤ 8) (h : (f_X4_emit gi x1 x2).bind ff = some r) (hdg : decode cc pc = .ok (.invokevirtual 376, 3)) (kk : ∀ q, ff q = some r → ∀ (H' : Heap) (locs' : List Loc), MB D cA ad A s q gl H' locs' → W p l e R s m args below meth c H' locs' 0 0 Q (F0 m (pc + 3) ls (rest))) : W p l e R s m args below meth c H locs 0 0 Q (F0 m pc ls (.int x2 :: .int x1 :: .ref (ad 0) :: rest)) := by
  obtain ⟨q, h1, h2⟩ := g_ob h
  refine mm_cVV (As := [.int x1, .int x2]) (rest := rest) (n := 2) C B (fun sz => w_X4_emit l D cA ad gi gl x1 x2 q h1 sz) q2095 q2097 qs95 q150 q2098 (by decide +kernel) ⟨hF, hN⟩ rfl hs hw hdg (fun u H9 locs9 hp B9 => ?_)
  obtain ⟨e1, e3⟩ := hp
  rw [e3] at B9
  subst e1
  exact kk _ h2 H9 locs9 B9
def f_X4_isCompared_l7 (gii7 : GI) (x1l7 : Int32) : Option ((Int32) ⊕ (Int32)) :=
  (g_ld gii7 30 90 x1l7).bind fun v1 =>
  if v1 = 5 then
  (some (.inl (x1l7 + (-1))))
  else
  ((g_ld gii7 30 90 x1l7).bind fun v2 =>
  if v2 = 6 then
  (some (.inl (x1l7 + (-1))))
  else
  (some (.inr x1l7)))
def f_X4_isCompared_x7 (giy7 : GI) (x1e7 : Int32) : Option (Int32) :=
  (g_ld giy7 30 90 x1e7).bind fun v3 =>
  if v3 = 4 then
  (some 1)
  else
  (some 0)
def f_X4_isCompared (gi : GI)  : Option (Int32) :=
  (g_loop g_K (fun (s : Int32) => f_X4_isCompared_l7 gi s) ((gi 0 45) - 1)).bind fun E7 => f_X4_isCompared_x7 gi E7
set_option maxHeartbeats 400000 in
theorem w_X4_isCompared (l : Launch) (D : va_G) (cA : Nat → ClassId) (ad : Nat → Nat) (gi : GI) (gl : GL)  (r : Int32) (h : f_X4_isCompared gi  = some r) (sz : Nat) : Met l yX4_isCompared (ws_ yX4_isCompared cX4_isCompared 2 (some .boolean)) ({ frames := 0, cells := 0, slots := 0, locals := 0 } : Room) (va_Pc [.ref (ad 0)] (MPre D cA ad gi gl sz)) (va_Qi (fun v u => v = r ∧ u.1 = gi ∧ u.2 = gl) (MPost D cA ad) (MA ad sz)) 0 0 (MA ad sz) := by
  refine mm_stZ (by decide +kernel) rfl (Nat.le_of_ble_eq_true rfl) (fun p e s m args below meth c R Q A ls C hF hN B hret hL => ?_) sz
  have hx := C.1
  have hb := C.2.1
  have hL : lv_has ls 2 [(0, .ref (ad 0))] := hL
  unfold f_X4_isCompared at h
  refine lv_aload_n hx hb dX4_isCompared_0 rfl (lv_at hL 0 rfl) ?_
  refine mg_45 C B dX4_isCompared_1 ?_
  refine lv_iconst (v := 1) hx hb dX4_isCompared_4 (by decide) ?_
  refine lv_isub hx hb dX4_isCompared_5 ?_
  refine lv_istore_n (lv' := [(1, .int ((gi 0 45) - 1)), (0, .ref (ad 0))]) hx hb dX4_isCompared_6 rfl hL (by decide) rfl (fun ls hL => ?_)
  obtain ⟨E7, h87, h⟩ := g_ob h
  have kx7 : ∀ (x1e7 : Int32) (H : Heap) (locs : List Loc) (ls : Array Slot), x1e7 = E7 → MB D cA ad A s gi gl H locs → lv_has ls 2 [(0, .ref (ad 0)), (1, .int x1e7)] → W p l e R s m args below meth c H locs 0 0 Q (F0 m 34 ls []) := by
    intro x1e7 H locs ls he B hL
    subst he
    have h : f_X4_isCompared_x7 gi x1e7 = some r := h
    unfold f_X4_isCompared_x7 at h
    refine lv_aload_n hx hb dX4_isCompared_34 rfl (lv_at hL 0 rfl) ?_
    refine mg_38 C B dX4_isCompared_35 ?_
    refine lv_iload_n hx hb dX4_isCompared_38 rfl (lv_at hL 1 rfl) ?_
    refine mm_iald C B (a := 30) (n := 90) (Nat.le_of_ble_eq_true rfl) rfl h dX4_isCompared_39 (fun v3 h => ?_)
    refine lv_iconst (v := 4) hx hb dX4_isCompared_40 (by decide) ?_
    refine gg_icmp_ne hx hb 48 h dX4_isCompared_41 (by decide) (fun h => ?_) (fun h => ?_)
    · refine lv_iconst (v := 0) hx hb dX4_isCompared_48 (by decide) ?_
      exact hret _ _ _ _ _ _ _ ⟨Option.some.inj h, rfl, rfl⟩ (Or.inl rfl) B dX4_isCompared_49
    · refine lv_iconst (v := 1) hx hb dX4_isCompared_44 (by decide) ?_
      refine lv_goto (tgt := 49) hx hb dX4_isCompared_45 (by decide) ?_
      exact hret _ _ _ _ _ _ _ ⟨Option.some.inj h, rfl, rfl⟩ (Or.inr rfl) B dX4_isCompared_49
  have hl7 : ∀ (k : Nat) (x1l7 : Int32) (H : Heap) (locs : List Loc) (ls : Array Slot), g_loop k (fun (s : Int32) => f_X4_isCompared_l7 gi s) x1l7 = some E7 → MB D cA ad A s gi gl H locs → lv_has ls 2 [(0, .ref (ad 0)), (1, .int x1l7)] → W p l e R s m args below meth c H locs 0 0 Q (F0 m 7 ls []) := by
    intro k
    induction k with
    | zero => intro x1l7 H locs ls h; exact absurd h (fun z => g_loop_0 z)
    | succ k ih7 =>
      intro x1l7 H locs ls h B hL
      obtain ⟨Z7, h, h97⟩ := g_loop_s h
      have h : f_X4_isCompared_l7 gi x1l7 = some Z7 := h
      unfold f_X4_isCompared_l7 at h
      refine lv_aload_n hx hb dX4_isCompared_7 rfl (lv_at hL 0 rfl) ?_
      refine mg_38 C B dX4_isCompared_8 ?_
      refine lv_iload_n hx hb dX4_isCompared_11 rfl (lv_at hL 1 rfl) ?_
      refine mm_iald C B (a := 30) (n := 90) (Nat.le_of_ble_eq_true rfl) rfl h dX4_isCompared_12 (fun v1 h => ?_)
      refine lv_iconst (v := 5) hx hb dX4_isCompared_13 (by decide) ?_
      refine gg_icmp_eq hx hb 28 h dX4_isCompared_14 (by decide) (fun h => ?_) (fun h => ?_)
      · refine lv_iinc (v := x1l7 + (-1)) (lv' := [(1, .int (x1l7 + (-1))), (0, .ref (ad 0))]) hx hb dX4_isCompared_28 hL (k := 1) rfl rfl (by decide) rfl (fun ls hL => ?_)
        refine lv_goto (tgt := 7) hx hb dX4_isCompared_31 (by decide) ?_
        exact ih7 _ _ _ _ (g_next h h97) B (lv_sub hL [1, 0] rfl)
      · refine lv_aload_n hx hb dX4_isCompared_17 rfl (lv_at hL 0 rfl) ?_
        refine mg_38 C B dX4_isCompared_18 ?_
        refine lv_iload_n hx hb dX4_isCompared_21 rfl (lv_at hL 1 rfl) ?_
        refine mm_iald C B (a := 30) (n := 90) (Nat.le_of_ble_eq_true rfl) rfl h dX4_isCompared_22 (fun v2 h => ?_)
        refine lv_bipush (v := 6) hx hb dX4_isCompared_23 (by decide) ?_
        refine gg_icmp_ne hx hb 34 h dX4_isCompared_25 (by decide) (fun h => ?_) (fun h => ?_)
        · exact kx7 _ _ _ _ (g_exit h h97) B (lv_sub hL [0, 1] rfl)
        · refine lv_iinc (v := x1l7 + (-1)) (lv' := [(1, .int (x1l7 + (-1))), (0, .ref (ad 0))]) hx hb dX4_isCompared_28 hL (k := 1) rfl rfl (by decide) rfl (fun ls hL => ?_)
          refine lv_goto (tgt := 7) hx hb dX4_isCompared_31 (by decide) ?_
          exact ih7 _ _ _ _ (g_next h h97) B (lv_sub hL [1, 0] rfl)
  exact hl7 g_K _ _ _ _ h87 B (lv_sub hL [1, 0] rfl)
theorem k_X4_isCompared {p : Program} {l : Launch} {e : Env} {R : Room} {s : State} {m : MethodId} {args : Array Value} {below : List Frame} {meth : Method} {c : Code} {H : Heap} {locs : List Loc} {Q : State → Prop} {pc : Nat} {ls : Array Slot} {rest : List Value} {cc : ByteArray} {nL : Nat} {D : va_G} {cA : Nat → ClassId} {ad : Nat → Nat} {A : Nat → Prop} {gi : GI} {gl : GL} {α : Type} {r : α}  {ff : Int32 → Option α} (C : CallFix p m c cc nL s args lw_all RX4) (B : MB D cA ad A s gi gl H locs) (hF : 1 ≤ R.frames) (hN : 21 ≤ R.locals) (hs : ls.size = nL) (hw : (rest.map fun v => v.category).sum ≤ 8) (h : (f_X4_isCompared gi ).bind ff = some r) (hdg : decode cc pc = .ok (.invokevirtual 382, 3)) (kk : ∀ q, ff q = some r → ∀ (H' : Heap) (locs' : List Loc), MB D cA ad A s gi gl H' locs' → W p l e R s m args below meth c H' locs' 0 0 Q (F0 m (pc + 3) ls (.int q :: rest))) : W p l e R s m args below meth c H locs 0 0 Q (F0 m pc ls (.ref (ad 0) :: rest)) := by
  obtain ⟨q, h1, h2⟩ := g_ob h
  refine mm_cVI (As := []) (rest := rest) (n := 0) C B (fun sz => w_X4_isCompared l D cA ad gi gl  q h1 sz) q2107 q2109 qs98 q150 q2110 (by decide +kernel) ⟨hF, hN⟩ rfl hs hw hdg (fun v u H9 locs9 hp B9 => ?_)
  obtain ⟨e1, e2, e3⟩ := hp
  rw [e2] at B9
  rw [e3] at B9
  subst e1
  exact kk _ h2 H9 locs9 B9
def f_X4_pushE (gi : GI) (x1 : Int32) (x2 : Int32) : Option (GI) :=
  (g_st gi 30 90 (gi 0 45) x1).bind fun gi1 =>
  (g_st gi1 31 90 (gi1 0 45) x2).bind fun gi2 =>
  (some (g_pi gi2 0 45 ((gi2 0 45) + 1))).bind fun gi3 =>
  some gi3
set_option maxHeartbeats 400000 in
theorem w_X4_pushE (l : Launch) (D : va_G) (cA : Nat → ClassId) (ad : Nat → Nat) (gi : GI) (gl : GL) (x1 : Int32) (x2 : Int32) (r : GI) (h : f_X4_pushE gi x1 x2 = some r) (sz : Nat) : Met l yX4_pushE (ws_ yX4_pushE cX4_pushE 3 (none)) ({ frames := 0, cells := 0, slots := 0, locals := 0 } : Room) (va_Pc [.ref (ad 0), .int x1, .int x2] (MPre D cA ad gi gl sz)) (va_Qv (fun u => u.1 = r ∧ u.2 = gl) (MPost D cA ad) (MA ad sz)) 0 0 (MA ad sz) := by
  refine mm_stV (by decide +kernel) rfl (Nat.le_of_ble_eq_true rfl) (fun p e s m args below meth c R Q A ls C hF hN B hret hL => ?_) sz
  have hx := C.1
  have hb := C.2.1
  have hL : lv_has ls 3 [(0, .ref (ad 0)), (1, .int x1), (2, .int x2)] := hL
  unfold f_X4_pushE at h
  refine lv_aload_n hx hb dX4_pushE_0 rfl (lv_at hL 0 rfl) ?_
  refine mg_38 C B dX4_pushE_1 ?_
  refine lv_aload_n hx hb dX4_pushE_4 rfl (lv_at hL 0 rfl) ?_
  refine mg_45 C B dX4_pushE_5 ?_
  refine lv_iload_n hx hb dX4_pushE_8 rfl (lv_at hL 1 rfl) ?_
  refine mm_iast C B (a := 30) (n := 90) (Nat.le_of_ble_eq_true rfl) rfl h dX4_pushE_9 (fun gi1 h H locs B => ?_)
  refine lv_aload_n hx hb dX4_pushE_10 rfl (lv_at hL 0 rfl) ?_
  refine mg_39 C B dX4_pushE_11 ?_
  refine lv_aload_n hx hb dX4_pushE_14 rfl (lv_at hL 0 rfl) ?_
  refine mg_45 C B dX4_pushE_15 ?_
  refine lv_iload_n hx hb dX4_pushE_18 rfl (lv_at hL 2 rfl) ?_
  refine mm_iast C B (a := 31) (n := 90) (Nat.le_of_ble_eq_true rfl) rfl h dX4_pushE_19 (fun gi2 h H locs B => ?_)
  refine lv_aload_n hx hb dX4_pushE_20 rfl (lv_at hL 0 rfl) ?_
  refine lv_dup hx hb dX4_pushE_21 rfl ?_
  refine mg_45 C B dX4_pushE_22 ?_
  refine lv_iconst (v := 1) hx hb dX4_pushE_25 (by decide) ?_
  refine lv_iadd hx hb dX4_pushE_26 ?_
  refine mp_45 C B h dX4_pushE_27 (fun gi3 h H locs B => ?_)
  exact hret _ _ _ _ _ _ ⟨Option.some.inj h, rfl⟩ B dX4_pushE_30
theorem k_X4_pushE {p : Program} {l : Launch} {e : Env} {R : Room} {s : State} {m : MethodId} {args : Array Value} {below : List Frame} {meth : Method} {c : Code} {H : Heap} {locs : List Loc} {Q : State → Prop} {pc : Nat} {ls : Array Slot} {rest : List Value} {cc : ByteArray} {nL : Nat} {D : va_G} {cA : Nat → ClassId} {ad : Nat → Nat} {A : Nat → Prop} {gi : GI} {gl : GL} {α : Type} {r : α} {x1 : Int32} {x2 : Int32} {ff : GI → Option α} (C : CallFix p m c cc nL s args lw_all RX4) (B : MB D cA ad A s gi gl H locs) (hF : 1 ≤ R.frames) (hN : 22 ≤ R.locals) (hs : ls.size = nL) (hw : (rest.map fun v => v.category).sum ≤ 8) (h : (f_X4_pushE gi x1 x2).bind ff = some r) (hdg : decode cc pc = .ok (.invokevirtual 364, 3)) (kk : ∀ q, ff q = some r → ∀ (H' : Heap) (locs' : List Loc), MB D cA ad A s q gl H' locs' → W p l e R s m args below meth c H' locs' 0 0 Q (F0 m (pc + 3) ls (rest))) : W p l e R s m args below meth c H locs 0 0 Q (F0 m pc ls (.int x2 :: .int x1 :: .ref (ad 0) :: rest)) := by
  obtain ⟨q, h1, h2⟩ := g_ob h
  refine mm_cVV (As := [.int x1, .int x2]) (rest := rest) (n := 2) C B (fun sz => w_X4_pushE l D cA ad gi gl x1 x2 q h1 sz) q2079 q2081 qs91 q150 q2082 (by decide +kernel) ⟨hF, hN⟩ rfl hs hw hdg (fun u H9 locs9 hp B9 => ?_)
  obtain ⟨e1, e3⟩ := hp
  rw [e3] at B9
  subst e1
  exact kk _ h2 H9 locs9 B9
def f_X4_rankHere (gi : GI) (gl : GL)  : Option (Int32) :=
  (f_X4_isWord gi gl 6385252).bind fun q1 =>
  if q1 = 0 then
  ((f_X4_isWord gi gl 28530).bind fun q2 =>
  if q2 = 0 then
  ((f_X4_isSignHere gi 60).bind fun q3 =>
  if q3 = 0 then
  ((f_X4_isSignHere gi 62).bind fun q4 =>
  if q4 = 0 then
  ((f_X4_isSignHere gi 61).bind fun q5 =>
  if q5 = 0 then
  ((f_X4_isSignHere gi 43).bind fun q6 =>
  if q6 = 0 then
  ((f_X4_isSignHere gi 45).bind fun q7 =>
  if q7 = 0 then
  ((f_X4_isSignHere gi 42).bind fun q8 =>
  if q8 = 0 then
  ((f_X4_isSignHere gi 47).bind fun q9 =>
  if q9 = 0 then
  ((f_X4_isSignHere gi 37).bind fun q10 =>
  if q10 = 0 then
  (some 0)
  else
  (some 6))
  else
  (some 6))
  else
  (some 6))
  else
  (some 5))
  else
  (some 5))
  else
  (some 4))
  else
  (some 4))
  else
  (some 4))
  else
  (some 1))
  else
  (some 2)
set_option maxHeartbeats 400000 in
theorem w_X4_rankHere (l : Launch) (D : va_G) (cA : Nat → ClassId) (ad : Nat → Nat) (gi : GI) (gl : GL)  (r : Int32) (h : f_X4_rankHere gi gl  = some r) (sz : Nat) : Met l yX4_rankHere (ws_ yX4_rankHere cX4_rankHere 1 (some .int)) ({ frames := 2, cells := 0, slots := 0, locals := 42 } : Room) (va_Pc [.ref (ad 0)] (MPre D cA ad gi gl sz)) (va_Qi (fun v u => v = r ∧ u.1 = gi ∧ u.2 = gl) (MPost D cA ad) (MA ad sz)) 0 0 (MA ad sz) := by
  refine mm_stI (by decide +kernel) rfl (Nat.le_of_ble_eq_true rfl) (fun p e s m args below meth c R Q A ls C hF hN B hret hL => ?_) sz
  have hx := C.1
  have hb := C.2.1
  have hL : lv_has ls 1 [(0, .ref (ad 0))] := hL
  unfold f_X4_rankHere at h
  refine lv_aload_n hx hb dX4_rankHere_0 rfl (lv_at hL 0 rfl) ?_
  refine lv_ldc2 (v := 6385252) hx hb C.2.2.2.1 (C.2.2.2.2 _ q1991) dX4_rankHere_1 ?_
  refine k_X4_isWord C B (Nat.le_trans (Nat.le_of_ble_eq_true rfl) hF) (Nat.le_trans (Nat.le_of_ble_eq_true rfl) hN) hL.1 (Nat.le_of_ble_eq_true rfl) h dX4_rankHere_4 (fun q1 h H locs B => ?_)
  refine gg_if_eq hx hb 12 h dX4_rankHere_7 (by decide) (fun h => ?_) (fun h => ?_)
  · refine lv_aload_n hx hb dX4_rankHere_12 rfl (lv_at hL 0 rfl) ?_
    refine lv_ldc2 (v := 28530) hx hb C.2.2.2.1 (C.2.2.2.2 _ q1990) dX4_rankHere_13 ?_
    refine k_X4_isWord C B (Nat.le_trans (Nat.le_of_ble_eq_true rfl) hF) (Nat.le_trans (Nat.le_of_ble_eq_true rfl) hN) hL.1 (Nat.le_of_ble_eq_true rfl) h dX4_rankHere_16 (fun q2 h H locs B => ?_)
    refine gg_if_eq hx hb 24 h dX4_rankHere_19 (by decide) (fun h => ?_) (fun h => ?_)
    · refine lv_aload_n hx hb dX4_rankHere_24 rfl (lv_at hL 0 rfl) ?_
      refine lv_bipush (v := 60) hx hb dX4_rankHere_25 (by decide) ?_
      refine k_X4_isSignHere C B (Nat.le_trans (Nat.le_of_ble_eq_true rfl) hF) (Nat.le_trans (Nat.le_of_ble_eq_true rfl) hN) hL.1 (Nat.le_of_ble_eq_true rfl) h dX4_rankHere_27 (fun q3 h H locs B => ?_)
      refine gg_if_ne hx hb 51 h dX4_rankHere_30 (by decide) (fun h => ?_) (fun h => ?_)
      · refine lv_iconst (v := 4) hx hb dX4_rankHere_51 (by decide) ?_
        exact hret _ _ _ _ _ _ _ ⟨Option.some.inj h, rfl, rfl⟩ B dX4_rankHere_52
      · refine lv_aload_n hx hb dX4_rankHere_33 rfl (lv_at hL 0 rfl) ?_
        refine lv_bipush (v := 62) hx hb dX4_rankHere_34 (by decide) ?_
        refine k_X4_isSignHere C B (Nat.le_trans (Nat.le_of_ble_eq_true rfl) hF) (Nat.le_trans (Nat.le_of_ble_eq_true rfl) hN) hL.1 (Nat.le_of_ble_eq_true rfl) h dX4_rankHere_36 (fun q4 h H locs B => ?_)
        refine gg_if_ne hx hb 51 h dX4_rankHere_39 (by decide) (fun h => ?_) (fun h => ?_)
        · refine lv_iconst (v := 4) hx hb dX4_rankHere_51 (by decide) ?_
          exact hret _ _ _ _ _ _ _ ⟨Option.some.inj h, rfl, rfl⟩ B dX4_rankHere_52
        · refine lv_aload_n hx hb dX4_rankHere_42 rfl (lv_at hL 0 rfl) ?_
          refine lv_bipush (v := 61) hx hb dX4_rankHere_43 (by decide) ?_
          refine k_X4_isSignHere C B (Nat.le_trans (Nat.le_of_ble_eq_true rfl) hF) (Nat.le_trans (Nat.le_of_ble_eq_true rfl) hN) hL.1 (Nat.le_of_ble_eq_true rfl) h dX4_rankHere_45 (fun q5 h H locs B => ?_)
          refine gg_if_eq hx hb 53 h dX4_rankHere_48 (by decide) (fun h => ?_) (fun h => ?_)
          · refine lv_aload_n hx hb dX4_rankHere_53 rfl (lv_at hL 0 rfl) ?_
            refine lv_bipush (v := 43) hx hb dX4_rankHere_54 (by decide) ?_
            refine k_X4_isSignHere C B (Nat.le_trans (Nat.le_of_ble_eq_true rfl) hF) (Nat.le_trans (Nat.le_of_ble_eq_true rfl) hN) hL.1 (Nat.le_of_ble_eq_true rfl) h dX4_rankHere_56 (fun q6 h H locs B => ?_)
            refine gg_if_ne hx hb 71 h dX4_rankHere_59 (by decide) (fun h => ?_) (fun h => ?_)
            · refine lv_iconst (v := 5) hx hb dX4_rankHere_71 (by decide) ?_
              exact hret _ _ _ _ _ _ _ ⟨Option.some.inj h, rfl, rfl⟩ B dX4_rankHere_72
            · refine lv_aload_n hx hb dX4_rankHere_62 rfl (lv_at hL 0 rfl) ?_
              refine lv_bipush (v := 45) hx hb dX4_rankHere_63 (by decide) ?_
              refine k_X4_isSignHere C B (Nat.le_trans (Nat.le_of_ble_eq_true rfl) hF) (Nat.le_trans (Nat.le_of_ble_eq_true rfl) hN) hL.1 (Nat.le_of_ble_eq_true rfl) h dX4_rankHere_65 (fun q7 h H locs B => ?_)
              refine gg_if_eq hx hb 73 h dX4_rankHere_68 (by decide) (fun h => ?_) (fun h => ?_)
              · refine lv_aload_n hx hb dX4_rankHere_73 rfl (lv_at hL 0 rfl) ?_
                refine lv_bipush (v := 42) hx hb dX4_rankHere_74 (by decide) ?_
                refine k_X4_isSignHere C B (Nat.le_trans (Nat.le_of_ble_eq_true rfl) hF) (Nat.le_trans (Nat.le_of_ble_eq_true rfl) hN) hL.1 (Nat.le_of_ble_eq_true rfl) h dX4_rankHere_76 (fun q8 h H locs B => ?_)
                refine gg_if_ne hx hb 100 h dX4_rankHere_79 (by decide) (fun h => ?_) (fun h => ?_)
                · refine lv_bipush (v := 6) hx hb dX4_rankHere_100 (by decide) ?_
                  refine lv_goto (tgt := 106) hx hb dX4_rankHere_102 (by decide) ?_
                  exact hret _ _ _ _ _ _ _ ⟨Option.some.inj h, rfl, rfl⟩ B dX4_rankHere_106
                · refine lv_aload_n hx hb dX4_rankHere_82 rfl (lv_at hL 0 rfl) ?_
                  refine lv_bipush (v := 47) hx hb dX4_rankHere_83 (by decide) ?_
                  refine k_X4_isSignHere C B (Nat.le_trans (Nat.le_of_ble_eq_true rfl) hF) (Nat.le_trans (Nat.le_of_ble_eq_true rfl) hN) hL.1 (Nat.le_of_ble_eq_true rfl) h dX4_rankHere_85 (fun q9 h H locs B => ?_)
                  refine gg_if_ne hx hb 100 h dX4_rankHere_88 (by decide) (fun h => ?_) (fun h => ?_)
                  · refine lv_bipush (v := 6) hx hb dX4_rankHere_100 (by decide) ?_
                    refine lv_goto (tgt := 106) hx hb dX4_rankHere_102 (by decide) ?_
                    exact hret _ _ _ _ _ _ _ ⟨Option.some.inj h, rfl, rfl⟩ B dX4_rankHere_106
                  · refine lv_aload_n hx hb dX4_rankHere_91 rfl (lv_at hL 0 rfl) ?_
                    refine lv_bipush (v := 37) hx hb dX4_rankHere_92 (by decide) ?_
                    refine k_X4_isSignHere C B (Nat.le_trans (Nat.le_of_ble_eq_true rfl) hF) (Nat.le_trans (Nat.le_of_ble_eq_true rfl) hN) hL.1 (Nat.le_of_ble_eq_true rfl) h dX4_rankHere_94 (fun q10 h H locs B => ?_)
                    refine gg_if_eq hx hb 105 h dX4_rankHere_97 (by decide) (fun h => ?_) (fun h => ?_)
                    · refine lv_iconst (v := 0) hx hb dX4_rankHere_105 (by decide) ?_
                      exact hret _ _ _ _ _ _ _ ⟨Option.some.inj h, rfl, rfl⟩ B dX4_rankHere_106
                    · refine lv_bipush (v := 6) hx hb dX4_rankHere_100 (by decide) ?_
                      refine lv_goto (tgt := 106) hx hb dX4_rankHere_102 (by decide) ?_
                      exact hret _ _ _ _ _ _ _ ⟨Option.some.inj h, rfl, rfl⟩ B dX4_rankHere_106
              · refine lv_iconst (v := 5) hx hb dX4_rankHere_71 (by decide) ?_
                exact hret _ _ _ _ _ _ _ ⟨Option.some.inj h, rfl, rfl⟩ B dX4_rankHere_72
          · refine lv_iconst (v := 4) hx hb dX4_rankHere_51 (by decide) ?_
            exact hret _ _ _ _ _ _ _ ⟨Option.some.inj h, rfl, rfl⟩ B dX4_rankHere_52
    · refine lv_iconst (v := 1) hx hb dX4_rankHere_22 (by decide) ?_
      exact hret _ _ _ _ _ _ _ ⟨Option.some.inj h, rfl, rfl⟩ B dX4_rankHere_23
  · refine lv_iconst (v := 2) hx hb dX4_rankHere_10 (by decide) ?_
    exact hret _ _ _ _ _ _ _ ⟨Option.some.inj h, rfl, rfl⟩ B dX4_rankHere_11
theorem k_X4_rankHere {p : Program} {l : Launch} {e : Env} {R : Room} {s : State} {m : MethodId} {args : Array Value} {below : List Frame} {meth : Method} {c : Code} {H : Heap} {locs : List Loc} {Q : State → Prop} {pc : Nat} {ls : Array Slot} {rest : List Value} {cc : ByteArray} {nL : Nat} {D : va_G} {cA : Nat → ClassId} {ad : Nat → Nat} {A : Nat → Prop} {gi : GI} {gl : GL} {α : Type} {r : α}  {ff : Int32 → Option α} (C : CallFix p m c cc nL s args lw_all RX4) (B : MB D cA ad A s gi gl H locs) (hF : 3 ≤ R.frames) (hN : 62 ≤ R.locals) (hs : ls.size = nL) (hw : (rest.map fun v => v.category).sum ≤ 8) (h : (f_X4_rankHere gi gl ).bind ff = some r) (hdg : decode cc pc = .ok (.invokevirtual 379, 3)) (kk : ∀ q, ff q = some r → ∀ (H' : Heap) (locs' : List Loc), MB D cA ad A s gi gl H' locs' → W p l e R s m args below meth c H' locs' 0 0 Q (F0 m (pc + 3) ls (.int q :: rest))) : W p l e R s m args below meth c H locs 0 0 Q (F0 m pc ls (.ref (ad 0) :: rest)) := by
  obtain ⟨q, h1, h2⟩ := g_ob h
  refine mm_cVI (As := []) (rest := rest) (n := 0) C B (fun sz => w_X4_rankHere l D cA ad gi gl  q h1 sz) q2103 q2105 qs97 q150 q2106 (by decide +kernel) ⟨hF, hN⟩ rfl hs hw hdg (fun v u H9 locs9 hp B9 => ?_)
  obtain ⟨e1, e2, e3⟩ := hp
  rw [e2] at B9
  rw [e3] at B9
  subst e1
  exact kk _ h2 H9 locs9 B9
def f_X4_behindUnit_j87 (glj87 : GL) (x1j87 : Int32) (gij87 : GI) : Option ((GI) ⊕ (GI)) :=
  (g_ld gij87 31 90 (gij87 0 45)).bind fun v6 =>
  (f_X4_emit gij87 v6 0).bind fun q7 =>
  some (.inl q7)
def f_X4_behindUnit_l23 (gli23 : GL) (x1i23 : Int32) (gil23 : GI) : Option ((GI) ⊕ (GI)) :=
  (g_ld gil23 30 90 ((gil23 0 45) - 1)).bind fun v2 =>
  if 6 < v2 then
  (some (.inr gil23))
  else
  ((g_ld gil23 30 90 ((gil23 0 45) - 1)).bind fun v3 =>
  if v3 < x1i23 then
  (some (.inr gil23))
  else
  ((some (g_pi gil23 0 45 ((gil23 0 45) - 1))).bind fun gi4 =>
  (g_ld gi4 30 90 (gi4 0 45)).bind fun v5 =>
  if v5 = 3 then
  ((some (g_pi gi4 0 44 ((gi4 0 44) - 1))).bind fun gi8 =>
  f_X4_behindUnit_j87 gli23 x1i23 gi8)
  else
  (f_X4_behindUnit_j87 gli23 x1i23 gi4)))
def f_X4_behindUnit_j138 (gij138 : GI) (glj138 : GL) (t0j138 : Int32) (t1j138 : Int32) : Option (Int32 × GI × GL) :=
  (f_X4_pushE gij138 t1j138 t0j138).bind fun q15 =>
  (f_X4_goOn q15 glj138 ).bind fun q16 =>
  some (1, q16.1, q16.2)
def f_X4_behindUnit_x23 (gly23 : GL) (x1y23 : Int32) (gie23 : GI) : Option (Int32 × GI × GL) :=
  if x1y23 ≤ 0 then
  ((some (g_pi gie23 0 45 ((gie23 0 45) - 1))).bind fun gi9 =>
  (g_ld gi9 30 90 (gi9 0 45)).bind fun v10 =>
  if v10 = 7 then
  ((some (g_pi gi9 0 44 ((gi9 0 44) - 1))).bind fun gi11 =>
  (f_X4_isSignHere gi11 41).bind fun q12 =>
  (f_X4_must gi11 gly23 q12).bind fun q13 =>
  some (0, q13.1, q13.2))
  else
  (some (0, gi9, gly23)))
  else
  (if x1y23 = 2 then
  (f_X4_behindUnit_j138 gie23 gly23 38 x1y23)
  else
  (if x1y23 = 1 then
  (f_X4_behindUnit_j138 gie23 gly23 124 x1y23)
  else
  ((f_X4_sign gie23 (gie23 0 6)).bind fun q14 =>
  f_X4_behindUnit_j138 gie23 gly23 q14 x1y23)))
def f_X4_behindUnit_j23 (gij23 : GI) (glj23 : GL) (x1j23 : Int32) : Option (Int32 × GI × GL) :=
  (g_loop g_K (fun (s : GI) => f_X4_behindUnit_l23 glj23 x1j23 s) (gij23)).bind fun E23 => f_X4_behindUnit_x23 glj23 x1j23 E23
def f_X4_behindUnit (gi : GI) (gl : GL)  : Option (Int32 × GI × GL) :=
  (f_X4_rankHere gi gl ).bind fun q1 =>
  if q1 = 4 then
  ((f_X4_isCompared gi ).bind fun q17 =>
  if q17 = 0 then
  (f_X4_behindUnit_j23 gi gl q1)
  else
  ((f_X4_misplaced gi ).bind fun q18 =>
  some (1, q18, gl)))
  else
  (f_X4_behindUnit_j23 gi gl q1)
set_option maxHeartbeats 400000 in
theorem w_X4_behindUnit (l : Launch) (D : va_G) (cA : Nat → ClassId) (ad : Nat → Nat) (gi : GI) (gl : GL)  (r : Int32 × GI × GL) (h : f_X4_behindUnit gi gl  = some r) (sz : Nat) : Met l yX4_behindUnit (ws_ yX4_behindUnit cX4_behindUnit 2 (some .boolean)) ({ frames := 3, cells := 0, slots := 0, locals := 65 } : Room) (va_Pc [.ref (ad 0)] (MPre D cA ad gi gl sz)) (va_Qi (fun v u => (v, u.1, u.2) = r) (MPost D cA ad) (MA ad sz)) 0 0 (MA ad sz) := by
  refine mm_stZ (by decide +kernel) rfl (Nat.le_of_ble_eq_true rfl) (fun p e s m args below meth c R Q A ls C hF hN B hret hL => ?_) sz
  have hx := C.1
  have hb := C.2.1
  have hL : lv_has ls 2 [(0, .ref (ad 0))] := hL
  unfold f_X4_behindUnit at h
  have hj138 : ∀ (gij138 : GI) (glj138 : GL) (t0j138 : Int32) (t1j138 : Int32) (H : Heap) (locs : List Loc) (ls : Array Slot), f_X4_behindUnit_j138 gij138 glj138 t0j138 t1j138 = some r → MB D cA ad A s gij138 glj138 H locs → lv_has ls 2 [(0, .ref (ad 0))] → W p l e R s m args below meth c H locs 0 0 Q (F0 m 138 ls [.int t0j138, .int t1j138, .ref (ad 0)]) := by
    intro gij138 glj138 t0j138 t1j138 H locs ls h B hL
    unfold f_X4_behindUnit_j138 at h
    refine k_X4_pushE C B (Nat.le_trans (Nat.le_of_ble_eq_true rfl) hF) (Nat.le_trans (Nat.le_of_ble_eq_true rfl) hN) hL.1 (Nat.le_of_ble_eq_true rfl) h dX4_behindUnit_138 (fun q15 h H locs B => ?_)
    refine lv_aload_n hx hb dX4_behindUnit_141 rfl (lv_at hL 0 rfl) ?_
    refine k_X4_goOn C B (Nat.le_trans (Nat.le_of_ble_eq_true rfl) hF) (Nat.le_trans (Nat.le_of_ble_eq_true rfl) hN) hL.1 (Nat.le_of_ble_eq_true rfl) h dX4_behindUnit_142 (fun q16 h H locs B => ?_)
    refine lv_iconst (v := 1) hx hb dX4_behindUnit_145 (by decide) ?_
    exact hret _ _ _ _ _ _ _ (Option.some.inj h) (Or.inr rfl) B dX4_behindUnit_146
  have hj23 : ∀ (gij23 : GI) (glj23 : GL) (x1j23 : Int32) (H : Heap) (locs : List Loc) (ls : Array Slot), f_X4_behindUnit_j23 gij23 glj23 x1j23 = some r → MB D cA ad A s gij23 glj23 H locs → lv_has ls 2 [(0, .ref (ad 0)), (1, .int x1j23)] → W p l e R s m args below meth c H locs 0 0 Q (F0 m 23 ls []) := by
    intro gij23 glj23 x1j23 H locs ls h B hL
    unfold f_X4_behindUnit_j23 at h
    obtain ⟨E23, h823, h⟩ := g_ob h
    have kx23 : ∀ (gie23 : GI) (H : Heap) (locs : List Loc) (ls : Array Slot), gie23 = E23 → MB D cA ad A s gie23 glj23 H locs → lv_has ls 2 [(0, .ref (ad 0)), (1, .int x1j23)] → W p l e R s m args below meth c H locs 0 0 Q (F0 m 104 ls []) := by
      intro gie23 H locs ls he B hL
      subst he
      have h : f_X4_behindUnit_x23 glj23 x1j23 gie23 = some r := h
      unfold f_X4_behindUnit_x23 at h
      refine lv_iload_n hx hb dX4_behindUnit_104 rfl (lv_at hL 1 rfl) ?_
      refine gg_if_le hx hb 147 h dX4_behindUnit_105 (by decide) (fun h => ?_) (fun h => ?_)
      · refine lv_aload_n hx hb dX4_behindUnit_147 rfl (lv_at hL 0 rfl) ?_
        refine lv_dup hx hb dX4_behindUnit_148 rfl ?_
        refine mg_45 C B dX4_behindUnit_149 ?_
        refine lv_iconst (v := 1) hx hb dX4_behindUnit_152 (by decide) ?_
        refine lv_isub hx hb dX4_behindUnit_153 ?_
        refine mp_45 C B h dX4_behindUnit_154 (fun gi9 h H locs B => ?_)
        refine lv_aload_n hx hb dX4_behindUnit_157 rfl (lv_at hL 0 rfl) ?_
        refine mg_38 C B dX4_behindUnit_158 ?_
        refine lv_aload_n hx hb dX4_behindUnit_161 rfl (lv_at hL 0 rfl) ?_
        refine mg_45 C B dX4_behindUnit_162 ?_
        refine mm_iald C B (a := 30) (n := 90) (Nat.le_of_ble_eq_true rfl) rfl h dX4_behindUnit_165 (fun v10 h => ?_)
        refine lv_bipush (v := 7) hx hb dX4_behindUnit_166 (by decide) ?_
        refine gg_icmp_ne hx hb 191 h dX4_behindUnit_168 (by decide) (fun h => ?_) (fun h => ?_)
        · refine lv_iconst (v := 0) hx hb dX4_behindUnit_191 (by decide) ?_
          exact hret _ _ _ _ _ _ _ (Option.some.inj h) (Or.inl rfl) B dX4_behindUnit_192
        · refine lv_aload_n hx hb dX4_behindUnit_171 rfl (lv_at hL 0 rfl) ?_
          refine lv_dup hx hb dX4_behindUnit_172 rfl ?_
          refine mg_44 C B dX4_behindUnit_173 ?_
          refine lv_iconst (v := 1) hx hb dX4_behindUnit_176 (by decide) ?_
          refine lv_isub hx hb dX4_behindUnit_177 ?_
          refine mp_44 C B h dX4_behindUnit_178 (fun gi11 h H locs B => ?_)
          refine lv_aload_n hx hb dX4_behindUnit_181 rfl (lv_at hL 0 rfl) ?_
          refine lv_aload_n hx hb dX4_behindUnit_182 rfl (lv_at hL 0 rfl) ?_
          refine lv_bipush (v := 41) hx hb dX4_behindUnit_183 (by decide) ?_
          refine k_X4_isSignHere C B (Nat.le_trans (Nat.le_of_ble_eq_true rfl) hF) (Nat.le_trans (Nat.le_of_ble_eq_true rfl) hN) hL.1 (Nat.le_of_ble_eq_true rfl) h dX4_behindUnit_185 (fun q12 h H locs B => ?_)
          refine k_X4_must C B (Nat.le_trans (Nat.le_of_ble_eq_true rfl) hF) (Nat.le_trans (Nat.le_of_ble_eq_true rfl) hN) hL.1 (Nat.le_of_ble_eq_true rfl) h dX4_behindUnit_188 (fun q13 h H locs B => ?_)
          refine lv_iconst (v := 0) hx hb dX4_behindUnit_191 (by decide) ?_
          exact hret _ _ _ _ _ _ _ (Option.some.inj h) (Or.inl rfl) B dX4_behindUnit_192
      · refine lv_aload_n hx hb dX4_behindUnit_108 rfl (lv_at hL 0 rfl) ?_
        refine lv_iload_n hx hb dX4_behindUnit_109 rfl (lv_at hL 1 rfl) ?_
        refine lv_iload_n hx hb dX4_behindUnit_110 rfl (lv_at hL 1 rfl) ?_
        refine lv_iconst (v := 2) hx hb dX4_behindUnit_111 (by decide) ?_
        refine gg_icmp_ne hx hb 120 h dX4_behindUnit_112 (by decide) (fun h => ?_) (fun h => ?_)
        · refine lv_iload_n hx hb dX4_behindUnit_120 rfl (lv_at hL 1 rfl) ?_
          refine lv_iconst (v := 1) hx hb dX4_behindUnit_121 (by decide) ?_
          refine gg_icmp_ne hx hb 130 h dX4_behindUnit_122 (by decide) (fun h => ?_) (fun h => ?_)
          · refine lv_aload_n hx hb dX4_behindUnit_130 rfl (lv_at hL 0 rfl) ?_
            refine lv_aload_n hx hb dX4_behindUnit_131 rfl (lv_at hL 0 rfl) ?_
            refine mg_6 C B dX4_behindUnit_132 ?_
            refine k_X4_sign C B (Nat.le_trans (Nat.le_of_ble_eq_true rfl) hF) (Nat.le_trans (Nat.le_of_ble_eq_true rfl) hN) hL.1 (Nat.le_of_ble_eq_true rfl) h dX4_behindUnit_135 (fun q14 h H locs B => ?_)
            exact hj138 _ _ _ _ _ _ _ h B (lv_sub hL [0] rfl)
          · refine lv_bipush (v := 124) hx hb dX4_behindUnit_125 (by decide) ?_
            refine lv_goto (tgt := 138) hx hb dX4_behindUnit_127 (by decide) ?_
            exact hj138 _ _ _ _ _ _ _ h B (lv_sub hL [0] rfl)
        · refine lv_bipush (v := 38) hx hb dX4_behindUnit_115 (by decide) ?_
          refine lv_goto (tgt := 138) hx hb dX4_behindUnit_117 (by decide) ?_
          exact hj138 _ _ _ _ _ _ _ h B (lv_sub hL [0] rfl)
    have hl23 : ∀ (k : Nat) (gil23 : GI) (H : Heap) (locs : List Loc) (ls : Array Slot), g_loop k (fun (s : GI) => f_X4_behindUnit_l23 glj23 x1j23 s) gil23 = some E23 → MB D cA ad A s gil23 glj23 H locs → lv_has ls 2 [(0, .ref (ad 0)), (1, .int x1j23)] → W p l e R s m args below meth c H locs 0 0 Q (F0 m 23 ls []) := by
      intro k
      induction k with
      | zero => intro gil23 H locs ls h; exact absurd h (fun z => g_loop_0 z)
      | succ k ih23 =>
        intro gil23 H locs ls h B hL
        obtain ⟨Z23, h, h923⟩ := g_loop_s h
        have h : f_X4_behindUnit_l23 glj23 x1j23 gil23 = some Z23 := h
        unfold f_X4_behindUnit_l23 at h
        have hj87 : ∀ (gij87 : GI) (H : Heap) (locs : List Loc) (ls : Array Slot), f_X4_behindUnit_j87 glj23 x1j23 gij87 = some Z23 → MB D cA ad A s gij87 glj23 H locs → lv_has ls 2 [(0, .ref (ad 0)), (1, .int x1j23)] → W p l e R s m args below meth c H locs 0 0 Q (F0 m 87 ls []) := by
          intro gij87 H locs ls h B hL
          unfold f_X4_behindUnit_j87 at h
          refine lv_aload_n hx hb dX4_behindUnit_87 rfl (lv_at hL 0 rfl) ?_
          refine lv_aload_n hx hb dX4_behindUnit_88 rfl (lv_at hL 0 rfl) ?_
          refine mg_39 C B dX4_behindUnit_89 ?_
          refine lv_aload_n hx hb dX4_behindUnit_92 rfl (lv_at hL 0 rfl) ?_
          refine mg_45 C B dX4_behindUnit_93 ?_
          refine mm_iald C B (a := 31) (n := 90) (Nat.le_of_ble_eq_true rfl) rfl h dX4_behindUnit_96 (fun v6 h => ?_)
          refine lv_iconst (v := 0) hx hb dX4_behindUnit_97 (by decide) ?_
          refine k_X4_emit C B (Nat.le_trans (Nat.le_of_ble_eq_true rfl) hF) (Nat.le_trans (Nat.le_of_ble_eq_true rfl) hN) hL.1 (Nat.le_of_ble_eq_true rfl) h dX4_behindUnit_98 (fun q7 h H locs B => ?_)
          refine lv_goto (tgt := 23) hx hb dX4_behindUnit_101 (by decide) ?_
          exact ih23 _ _ _ _ (g_next h h923) B (lv_sub hL [0, 1] rfl)
        refine lv_aload_n hx hb dX4_behindUnit_23 rfl (lv_at hL 0 rfl) ?_
        refine mg_38 C B dX4_behindUnit_24 ?_
        refine lv_aload_n hx hb dX4_behindUnit_27 rfl (lv_at hL 0 rfl) ?_
        refine mg_45 C B dX4_behindUnit_28 ?_
        refine lv_iconst (v := 1) hx hb dX4_behindUnit_31 (by decide) ?_
        refine lv_isub hx hb dX4_behindUnit_32 ?_
        refine mm_iald C B (a := 30) (n := 90) (Nat.le_of_ble_eq_true rfl) rfl h dX4_behindUnit_33 (fun v2 h => ?_)
        refine lv_bipush (v := 6) hx hb dX4_behindUnit_34 (by decide) ?_
        refine gg_icmp_gt hx hb 104 h dX4_behindUnit_36 (by decide) (fun h => ?_) (fun h => ?_)
        · exact kx23 _ _ _ _ (g_exit h h923) B (lv_sub hL [0, 1] rfl)
        · refine lv_aload_n hx hb dX4_behindUnit_39 rfl (lv_at hL 0 rfl) ?_
          refine mg_38 C B dX4_behindUnit_40 ?_
          refine lv_aload_n hx hb dX4_behindUnit_43 rfl (lv_at hL 0 rfl) ?_
          refine mg_45 C B dX4_behindUnit_44 ?_
          refine lv_iconst (v := 1) hx hb dX4_behindUnit_47 (by decide) ?_
          refine lv_isub hx hb dX4_behindUnit_48 ?_
          refine mm_iald C B (a := 30) (n := 90) (Nat.le_of_ble_eq_true rfl) rfl h dX4_behindUnit_49 (fun v3 h => ?_)
          refine lv_iload_n hx hb dX4_behindUnit_50 rfl (lv_at hL 1 rfl) ?_
          refine gg_icmp_lt hx hb 104 h dX4_behindUnit_51 (by decide) (fun h => ?_) (fun h => ?_)
          · exact kx23 _ _ _ _ (g_exit h h923) B (lv_sub hL [0, 1] rfl)
          · refine lv_aload_n hx hb dX4_behindUnit_54 rfl (lv_at hL 0 rfl) ?_
            refine lv_dup hx hb dX4_behindUnit_55 rfl ?_
            refine mg_45 C B dX4_behindUnit_56 ?_
            refine lv_iconst (v := 1) hx hb dX4_behindUnit_59 (by decide) ?_
            refine lv_isub hx hb dX4_behindUnit_60 ?_
            refine mp_45 C B h dX4_behindUnit_61 (fun gi4 h H locs B => ?_)
            refine lv_aload_n hx hb dX4_behindUnit_64 rfl (lv_at hL 0 rfl) ?_
            refine mg_38 C B dX4_behindUnit_65 ?_
            refine lv_aload_n hx hb dX4_behindUnit_68 rfl (lv_at hL 0 rfl) ?_
            refine mg_45 C B dX4_behindUnit_69 ?_
            refine mm_iald C B (a := 30) (n := 90) (Nat.le_of_ble_eq_true rfl) rfl h dX4_behindUnit_72 (fun v5 h => ?_)
            refine lv_iconst (v := 3) hx hb dX4_behindUnit_73 (by decide) ?_
            refine gg_icmp_ne hx hb 87 h dX4_behindUnit_74 (by decide) (fun h => ?_) (fun h => ?_)
            · exact hj87 _ _ _ _ h B (lv_sub hL [0, 1] rfl)
            · refine lv_aload_n hx hb dX4_behindUnit_77 rfl (lv_at hL 0 rfl) ?_
              refine lv_dup hx hb dX4_behindUnit_78 rfl ?_
              refine mg_44 C B dX4_behindUnit_79 ?_
              refine lv_iconst (v := 1) hx hb dX4_behindUnit_82 (by decide) ?_
              refine lv_isub hx hb dX4_behindUnit_83 ?_
              refine mp_44 C B h dX4_behindUnit_84 (fun gi8 h H locs B => ?_)
              exact hj87 _ _ _ _ h B (lv_sub hL [0, 1] rfl)
    exact hl23 g_K _ _ _ _ h823 B (lv_sub hL [0, 1] rfl)
  refine lv_aload_n hx hb dX4_behindUnit_0 rfl (lv_at hL 0 rfl) ?_
  refine k_X4_rankHere C B (Nat.le_trans (Nat.le_of_ble_eq_true rfl) hF) (Nat.le_trans (Nat.le_of_ble_eq_true rfl) hN) hL.1 (Nat.le_of_ble_eq_true rfl) h dX4_behindUnit_1 (fun q1 h H locs B => ?_)
  refine lv_istore_n (lv' := [(1, .int q1), (0, .ref (ad 0))]) hx hb dX4_behindUnit_4 rfl hL (by decide) rfl (fun ls hL => ?_)
  refine lv_iload_n hx hb dX4_behindUnit_5 rfl (lv_at hL 0 rfl) ?_
  refine lv_iconst (v := 4) hx hb dX4_behindUnit_6 (by decide) ?_
  refine gg_icmp_ne hx hb 23 h dX4_behindUnit_7 (by decide) (fun h => ?_) (fun h => ?_)
  · exact hj23 _ _ _ _ _ _ h B (lv_sub hL [1, 0] rfl)
  · refine lv_aload_n hx hb dX4_behindUnit_10 rfl (lv_at hL 1 rfl) ?_
    refine k_X4_isCompared C B (Nat.le_trans (Nat.le_of_ble_eq_true rfl) hF) (Nat.le_trans (Nat.le_of_ble_eq_true rfl) hN) hL.1 (Nat.le_of_ble_eq_true rfl) h dX4_behindUnit_11 (fun q17 h H locs B => ?_)
    refine gg_if_eq hx hb 23 h dX4_behindUnit_14 (by decide) (fun h => ?_) (fun h => ?_)
    · exact hj23 _ _ _ _ _ _ h B (lv_sub hL [1, 0] rfl)
    · refine lv_aload_n hx hb dX4_behindUnit_17 rfl (lv_at hL 1 rfl) ?_
      refine k_X4_misplaced C B (Nat.le_trans (Nat.le_of_ble_eq_true rfl) hF) (Nat.le_trans (Nat.le_of_ble_eq_true rfl) hN) hL.1 (Nat.le_of_ble_eq_true rfl) h dX4_behindUnit_18 (fun q18 h H locs B => ?_)
      refine lv_iconst (v := 1) hx hb dX4_behindUnit_21 (by decide) ?_
      exact hret _ _ _ _ _ _ _ (Option.some.inj h) (Or.inr rfl) B dX4_behindUnit_22
theorem k_X4_behindUnit {p : Program} {l : Launch} {e : Env} {R : Room} {s : State} {m : MethodId} {args : Array Value} {below : List Frame} {meth : Method} {c : Code} {H : Heap} {locs : List Loc} {Q : State → Prop} {pc : Nat} {ls : Array Slot} {rest : List Value} {cc : ByteArray} {nL : Nat} {D : va_G} {cA : Nat → ClassId} {ad : Nat → Nat} {A : Nat → Prop} {gi : GI} {gl : GL} {α : Type} {r : α}  {ff : (Int32 × GI × GL) → Option α} (C : CallFix p m c cc nL s args lw_all RX4) (B : MB D cA ad A s gi gl H locs) (hF : 4 ≤ R.frames) (hN : 86 ≤ R.locals) (hs : ls.size = nL) (hw : (rest.map fun v => v.category).sum ≤ 8) (h : (f_X4_behindUnit gi gl ).bind ff = some r) (hdg : decode cc pc = .ok (.invokevirtual 370, 3)) (kk : ∀ q, ff q = some r → ∀ (H' : Heap) (locs' : List Loc), MB D cA ad A s q.2.1 q.2.2 H' locs' → W p l e R s m args below meth c H' locs' 0 0 Q (F0 m (pc + 3) ls (.int q.1 :: rest))) : W p l e R s m args below meth c H locs 0 0 Q (F0 m pc ls (.ref (ad 0) :: rest)) := by
  obtain ⟨q, h1, h2⟩ := g_ob h
  refine mm_cVI (As := []) (rest := rest) (n := 0) C B (fun sz => w_X4_behindUnit l D cA ad gi gl  q h1 sz) q2099 q2101 qs96 q150 q2102 (by decide +kernel) ⟨hF, hN⟩ rfl hs hw hdg (fun v u H9 locs9 hp B9 => ?_)
  have e1 := hp
  subst e1
  exact kk _ h2 H9 locs9 B9
def f_X4_wordHere (gi : GI) (gl : GL)  : Option (Int32) :=
  (f_X4_isWord gi gl 439855772532).bind fun q1 =>
  if q1 = 0 then
  ((f_X4_isWord gi gl 126879297138276).bind fun q2 =>
  if q2 = 0 then
  ((f_X4_isWord gi gl 499967947364).bind fun q3 =>
  if q3 = 0 then
  ((f_X4_isWord gi gl 1668444016).bind fun q4 =>
  if q4 = 0 then
  ((f_X4_isWord gi gl 2003133803).bind fun q5 =>
  if q5 = 0 then
  ((f_X4_isWord gi gl 1886154612).bind fun q6 =>
  if q6 = 0 then
  (some 0)
  else
  (some 112))
  else
  (some 119))
  else
  (some 99))
  else
  (some 116))
  else
  (some 115))
  else
  (some 102)
set_option maxHeartbeats 400000 in
theorem w_X4_wordHere (l : Launch) (D : va_G) (cA : Nat → ClassId) (ad : Nat → Nat) (gi : GI) (gl : GL)  (r : Int32) (h : f_X4_wordHere gi gl  = some r) (sz : Nat) : Met l yX4_wordHere (ws_ yX4_wordHere cX4_wordHere 1 (some .int)) ({ frames := 1, cells := 0, slots := 0, locals := 22 } : Room) (va_Pc [.ref (ad 0)] (MPre D cA ad gi gl sz)) (va_Qi (fun v u => v = r ∧ u.1 = gi ∧ u.2 = gl) (MPost D cA ad) (MA ad sz)) 0 0 (MA ad sz) := by
  refine mm_stI (by decide +kernel) rfl (Nat.le_of_ble_eq_true rfl) (fun p e s m args below meth c R Q A ls C hF hN B hret hL => ?_) sz
  have hx := C.1
  have hb := C.2.1
  have hL : lv_has ls 1 [(0, .ref (ad 0))] := hL
  unfold f_X4_wordHere at h
  refine lv_aload_n hx hb dX4_wordHere_0 rfl (lv_at hL 0 rfl) ?_
  refine lv_ldc2 (v := 439855772532) hx hb C.2.2.2.1 (C.2.2.2.2 _ q1985) dX4_wordHere_1 ?_
  refine k_X4_isWord C B (Nat.le_trans (Nat.le_of_ble_eq_true rfl) hF) (Nat.le_trans (Nat.le_of_ble_eq_true rfl) hN) hL.1 (Nat.le_of_ble_eq_true rfl) h dX4_wordHere_4 (fun q1 h H locs B => ?_)
  refine gg_if_eq hx hb 13 h dX4_wordHere_7 (by decide) (fun h => ?_) (fun h => ?_)
  · refine lv_aload_n hx hb dX4_wordHere_13 rfl (lv_at hL 0 rfl) ?_
    refine lv_ldc2 (v := 126879297138276) hx hb C.2.2.2.1 (C.2.2.2.2 _ q1986) dX4_wordHere_14 ?_
    refine k_X4_isWord C B (Nat.le_trans (Nat.le_of_ble_eq_true rfl) hF) (Nat.le_trans (Nat.le_of_ble_eq_true rfl) hN) hL.1 (Nat.le_of_ble_eq_true rfl) h dX4_wordHere_17 (fun q2 h H locs B => ?_)
    refine gg_if_eq hx hb 26 h dX4_wordHere_20 (by decide) (fun h => ?_) (fun h => ?_)
    · refine lv_aload_n hx hb dX4_wordHere_26 rfl (lv_at hL 0 rfl) ?_
      refine lv_ldc2 (v := 499967947364) hx hb C.2.2.2.1 (C.2.2.2.2 _ q1987) dX4_wordHere_27 ?_
      refine k_X4_isWord C B (Nat.le_trans (Nat.le_of_ble_eq_true rfl) hF) (Nat.le_trans (Nat.le_of_ble_eq_true rfl) hN) hL.1 (Nat.le_of_ble_eq_true rfl) h dX4_wordHere_30 (fun q3 h H locs B => ?_)
      refine gg_if_eq hx hb 39 h dX4_wordHere_33 (by decide) (fun h => ?_) (fun h => ?_)
      · refine lv_aload_n hx hb dX4_wordHere_39 rfl (lv_at hL 0 rfl) ?_
        refine lv_ldc2 (v := 1668444016) hx hb C.2.2.2.1 (C.2.2.2.2 _ q1974) dX4_wordHere_40 ?_
        refine k_X4_isWord C B (Nat.le_trans (Nat.le_of_ble_eq_true rfl) hF) (Nat.le_trans (Nat.le_of_ble_eq_true rfl) hN) hL.1 (Nat.le_of_ble_eq_true rfl) h dX4_wordHere_43 (fun q4 h H locs B => ?_)
        refine gg_if_eq hx hb 52 h dX4_wordHere_46 (by decide) (fun h => ?_) (fun h => ?_)
        · refine lv_aload_n hx hb dX4_wordHere_52 rfl (lv_at hL 0 rfl) ?_
          refine lv_ldc2 (v := 2003133803) hx hb C.2.2.2.1 (C.2.2.2.2 _ q1988) dX4_wordHere_53 ?_
          refine k_X4_isWord C B (Nat.le_trans (Nat.le_of_ble_eq_true rfl) hF) (Nat.le_trans (Nat.le_of_ble_eq_true rfl) hN) hL.1 (Nat.le_of_ble_eq_true rfl) h dX4_wordHere_56 (fun q5 h H locs B => ?_)
          refine gg_if_eq hx hb 65 h dX4_wordHere_59 (by decide) (fun h => ?_) (fun h => ?_)
          · refine lv_aload_n hx hb dX4_wordHere_65 rfl (lv_at hL 0 rfl) ?_
            refine lv_ldc2 (v := 1886154612) hx hb C.2.2.2.1 (C.2.2.2.2 _ q1989) dX4_wordHere_66 ?_
            refine k_X4_isWord C B (Nat.le_trans (Nat.le_of_ble_eq_true rfl) hF) (Nat.le_trans (Nat.le_of_ble_eq_true rfl) hN) hL.1 (Nat.le_of_ble_eq_true rfl) h dX4_wordHere_69 (fun q6 h H locs B => ?_)
            refine gg_if_eq hx hb 80 h dX4_wordHere_72 (by decide) (fun h => ?_) (fun h => ?_)
            · refine lv_iconst (v := 0) hx hb dX4_wordHere_80 (by decide) ?_
              exact hret _ _ _ _ _ _ _ ⟨Option.some.inj h, rfl, rfl⟩ B dX4_wordHere_81
            · refine lv_bipush (v := 112) hx hb dX4_wordHere_75 (by decide) ?_
              refine lv_goto (tgt := 81) hx hb dX4_wordHere_77 (by decide) ?_
              exact hret _ _ _ _ _ _ _ ⟨Option.some.inj h, rfl, rfl⟩ B dX4_wordHere_81
          · refine lv_bipush (v := 119) hx hb dX4_wordHere_62 (by decide) ?_
            exact hret _ _ _ _ _ _ _ ⟨Option.some.inj h, rfl, rfl⟩ B dX4_wordHere_64
        · refine lv_bipush (v := 99) hx hb dX4_wordHere_49 (by decide) ?_
          exact hret _ _ _ _ _ _ _ ⟨Option.some.inj h, rfl, rfl⟩ B dX4_wordHere_51
      · refine lv_bipush (v := 116) hx hb dX4_wordHere_36 (by decide) ?_
        exact hret _ _ _ _ _ _ _ ⟨Option.some.inj h, rfl, rfl⟩ B dX4_wordHere_38
    · refine lv_bipush (v := 115) hx hb dX4_wordHere_23 (by decide) ?_
      exact hret _ _ _ _ _ _ _ ⟨Option.some.inj h, rfl, rfl⟩ B dX4_wordHere_25
  · refine lv_bipush (v := 102) hx hb dX4_wordHere_10 (by decide) ?_
    exact hret _ _ _ _ _ _ _ ⟨Option.some.inj h, rfl, rfl⟩ B dX4_wordHere_12
theorem k_X4_wordHere {p : Program} {l : Launch} {e : Env} {R : Room} {s : State} {m : MethodId} {args : Array Value} {below : List Frame} {meth : Method} {c : Code} {H : Heap} {locs : List Loc} {Q : State → Prop} {pc : Nat} {ls : Array Slot} {rest : List Value} {cc : ByteArray} {nL : Nat} {D : va_G} {cA : Nat → ClassId} {ad : Nat → Nat} {A : Nat → Prop} {gi : GI} {gl : GL} {α : Type} {r : α}  {ff : Int32 → Option α} (C : CallFix p m c cc nL s args lw_all RX4) (B : MB D cA ad A s gi gl H locs) (hF : 2 ≤ R.frames) (hN : 42 ≤ R.locals) (hs : ls.size = nL) (hw : (rest.map fun v => v.category).sum ≤ 8) (h : (f_X4_wordHere gi gl ).bind ff = some r) (hdg : decode cc pc = .ok (.invokevirtual 373, 3)) (kk : ∀ q, ff q = some r → ∀ (H' : Heap) (locs' : List Loc), MB D cA ad A s gi gl H' locs' → W p l e R s m args below meth c H' locs' 0 0 Q (F0 m (pc + 3) ls (.int q :: rest))) : W p l e R s m args below meth c H locs 0 0 Q (F0 m pc ls (.ref (ad 0) :: rest)) := by
  obtain ⟨q, h1, h2⟩ := g_ob h
  refine mm_cVI (As := []) (rest := rest) (n := 0) C B (fun sz => w_X4_wordHere l D cA ad gi gl  q h1 sz) q2091 q2093 qs94 q150 q2094 (by decide +kernel) ⟨hF, hN⟩ rfl hs hw hdg (fun v u H9 locs9 hp B9 => ?_)
  obtain ⟨e1, e2, e3⟩ := hp
  rw [e2] at B9
  rw [e3] at B9
  subst e1
  exact kk _ h2 H9 locs9 B9
def f_X4_unit_j233 (gij233 : GI) (glj233 : GL) (t0j233 : Int32) : Option (Int32 × GI × GL) :=
  (f_X4_pushE gij233 t0j233 126).bind fun q10 =>
  (some (g_pi q10 0 44 ((q10 0 44) + 1))).bind fun gi11 =>
  some (1, gi11, glj233)
def f_X4_unit_j222 (gij222 : GI) (glj222 : GL) (x2j222 : Int32) : Option (Int32 × GI × GL) :=
  if x2j222 = 0 then
  (f_X4_unit_j233 gij222 glj222 7)
  else
  (f_X4_unit_j233 gij222 glj222 3)
def f_X4_unit_j263 (gij263 : GI) (glj263 : GL) (x6j263 : Int32) (t0j263 : Int32) : Option (Int32 × GI × GL) :=
  (f_X4_emit gij263 t0j263 x6j263).bind fun q12 =>
  some (0, q12, glj263)
def f_X4_unit_j208 (gij208 : GI) (glj208 : GL) (x2j208 : Int32) (x3j208 : Int32) (x4j208 : Int32) (t0j208 : Int32) : Option (Int32 × GI × GL) :=
  (f_X4_goOn gij208 glj208 ).bind fun q9 =>
  if x2j208 = 0 then
  (if x3j208 = 0 then
  (if x4j208 = 0 then
  (f_X4_unit_j263 q9.1 q9.2 t0j208 110)
  else
  (f_X4_unit_j263 q9.1 q9.2 t0j208 x4j208))
  else
  (f_X4_unit_j222 q9.1 q9.2 x2j208))
  else
  (f_X4_unit_j222 q9.1 q9.2 x2j208)
def f_X4_unit_j191 (gij191 : GI) (glj191 : GL) (x2j191 : Int32) (x3j191 : Int32) (x4j191 : Int32) (t0j191 : Int32) (t1j191 : Int32) : Option (Int32 × GI × GL) :=
  (some (g_pi gij191 0 46 (t1j191 + t0j191))).bind fun gi8 =>
  if x4j191 = 0 then
  (f_X4_unit_j208 gi8 glj191 x2j191 x3j191 x4j191 (gi8 0 9))
  else
  (f_X4_unit_j208 gi8 glj191 x2j191 x3j191 x4j191 0)
def f_X4_unit_j175 (gij175 : GI) (glj175 : GL) (x2j175 : Int32) (x3j175 : Int32) (x4j175 : Int32) (t0j175 : Int32) (t1j175 : Int32) (t2j175 : Int32) : Option (Int32 × GI × GL) :=
  (g_st gij175 7 2 t2j175 (t1j175 + t0j175)).bind fun gi7 =>
  if x2j175 = 0 then
  (f_X4_unit_j191 gi7 glj175 x2j175 x3j175 x4j175 1 (gi7 0 46))
  else
  (f_X4_unit_j191 gi7 glj175 x2j175 x3j175 x4j175 0 (gi7 0 46))
def f_X4_unit_j147 (gij147 : GI) (glj147 : GL) (x2j147 : Int32) (x3j147 : Int32) (x4j147 : Int32) : Option (Int32 × GI × GL) :=
  (f_X4_isGood gij147 ).bind fun q5 =>
  if q5 = 0 then
  (some (1, gij147, glj147))
  else
  ((g_ld gij147 7 2 (gij147 0 42)).bind fun v6 =>
  if x2j147 = 0 then
  (f_X4_unit_j175 gij147 glj147 x2j147 x3j147 x4j147 1 v6 (gij147 0 42))
  else
  (f_X4_unit_j175 gij147 glj147 x2j147 x3j147 x4j147 0 v6 (gij147 0 42)))
def f_X4_unit_j143 (gij143 : GI) (glj143 : GL) (x2j143 : Int32) (x3j143 : Int32) (x4j143 : Int32) : Option (Int32 × GI × GL) :=
  (f_X4_misplaced gij143 ).bind fun q13 =>
  f_X4_unit_j147 q13 glj143 x2j143 x3j143 x4j143
def f_X4_unit_j134 (gij134 : GI) (glj134 : GL) (x2j134 : Int32) (x3j134 : Int32) (x4j134 : Int32) : Option (Int32 × GI × GL) :=
  if (gij134 0 44) = 7 then
  (f_X4_unit_j143 gij134 glj134 x2j134 x3j134 x4j134)
  else
  (f_X4_unit_j147 gij134 glj134 x2j134 x3j134 x4j134)
def f_X4_unit_j126 (gij126 : GI) (glj126 : GL) (x2j126 : Int32) (x3j126 : Int32) (x4j126 : Int32) : Option (Int32 × GI × GL) :=
  if x2j126 = 0 then
  (if x3j126 = 0 then
  (f_X4_unit_j147 gij126 glj126 x2j126 x3j126 x4j126)
  else
  (f_X4_unit_j134 gij126 glj126 x2j126 x3j126 x4j126))
  else
  (f_X4_unit_j134 gij126 glj126 x2j126 x3j126 x4j126)
def f_X4_unit_j121 (gij121 : GI) (glj121 : GL) (x2j121 : Int32) (x3j121 : Int32) (x4j121 : Int32) (x5j121 : Int32) : Option (Int32 × GI × GL) :=
  if x5j121 = 0 then
  (f_X4_unit_j126 gij121 glj121 x2j121 x3j121 x4j121)
  else
  (f_X4_unit_j143 gij121 glj121 x2j121 x3j121 x4j121)
def f_X4_unit_j98 (gij98 : GI) (glj98 : GL) (x2j98 : Int32) (x3j98 : Int32) (x4j98 : Int32) (t0j98 : Int32) : Option (Int32 × GI × GL) :=
  if x2j98 = 0 then
  (if x4j98 = 0 then
  (if (gij98 0 8) = 4 then
  (f_X4_unit_j121 gij98 glj98 x2j98 x3j98 x4j98 t0j98)
  else
  (if x3j98 = 0 then
  (f_X4_unit_j143 gij98 glj98 x2j98 x3j98 x4j98)
  else
  (f_X4_unit_j121 gij98 glj98 x2j98 x3j98 x4j98 t0j98)))
  else
  (f_X4_unit_j121 gij98 glj98 x2j98 x3j98 x4j98 t0j98))
  else
  (f_X4_unit_j126 gij98 glj98 x2j98 x3j98 x4j98)
def f_X4_unit_j93 (gij93 : GI) (glj93 : GL) (x2j93 : Int32) (x3j93 : Int32) (x4j93 : Int32) : Option (Int32 × GI × GL) :=
  f_X4_unit_j98 gij93 glj93 x2j93 x3j93 x4j93 1
def f_X4_unit_j56 (gij56 : GI) (glj56 : GL) (t0j56 : Int32) : Option (Int32 × GI × GL) :=
  (f_X4_isSignHere gij56 40).bind fun q2 =>
  (f_X4_wordHere gij56 glj56 ).bind fun q3 =>
  (g_ld gij56 7 2 (gij56 0 42)).bind fun v4 =>
  if v4 = 60 then
  (f_X4_unit_j93 gij56 glj56 t0j56 q2 q3)
  else
  (if (gij56 0 46) = 30 then
  (f_X4_unit_j93 gij56 glj56 t0j56 q2 q3)
  else
  (f_X4_unit_j98 gij56 glj56 t0j56 q2 q3 0))
def f_X4_unit_j55 (gij55 : GI) (glj55 : GL) : Option (Int32 × GI × GL) :=
  f_X4_unit_j56 gij55 glj55 0
def f_X4_unit_j36 (gij36 : GI) (glj36 : GL) (t0j36 : Int32) : Option (Int32 × GI × GL) :=
  if t0j36 = 0 then
  (f_X4_unit_j55 gij36 glj36)
  else
  ((f_X4_isWord gij36 glj36 7237492).bind fun q14 =>
  if q14 = 0 then
  (f_X4_unit_j55 gij36 glj36)
  else
  (f_X4_unit_j56 gij36 glj36 1))
def f_X4_unit_j31 (gij31 : GI) (glj31 : GL) : Option (Int32 × GI × GL) :=
  f_X4_unit_j36 gij31 glj31 1
def f_X4_unit (gi : GI) (gl : GL)  : Option (Int32 × GI × GL) :=
  (g_ld gi 30 90 ((gi 0 45) - 1)).bind fun v1 =>
  if v1 ≤ 3 then
  (f_X4_unit_j31 gi gl)
  else
  ((g_ld gi 30 90 ((gi 0 45) - 1)).bind fun v15 =>
  if v15 < 7 then
  (f_X4_unit_j36 gi gl 0)
  else
  (f_X4_unit_j31 gi gl))
set_option maxHeartbeats 400000 in
theorem w_X4_unit (l : Launch) (D : va_G) (cA : Nat → ClassId) (ad : Nat → Nat) (gi : GI) (gl : GL)  (r : Int32 × GI × GL) (h : f_X4_unit gi gl  = some r) (sz : Nat) : Met l yX4_unit (ws_ yX4_unit cX4_unit 7 (some .boolean)) ({ frames := 2, cells := 0, slots := 0, locals := 44 } : Room) (va_Pc [.ref (ad 0)] (MPre D cA ad gi gl sz)) (va_Qi (fun v u => (v, u.1, u.2) = r) (MPost D cA ad) (MA ad sz)) 0 0 (MA ad sz) := by
  refine mm_stZ (by decide +kernel) rfl (Nat.le_of_ble_eq_true rfl) (fun p e s m args below meth c R Q A ls C hF hN B hret hL => ?_) sz
  have hx := C.1
  have hb := C.2.1
  have hL : lv_has ls 7 [(0, .ref (ad 0))] := hL
  unfold f_X4_unit at h
  have hj263 : ∀ (gij263 : GI) (glj263 : GL) (x6j263 : Int32) (t0j263 : Int32) (H : Heap) (locs : List Loc) (ls : Array Slot), f_X4_unit_j263 gij263 glj263 x6j263 t0j263 = some r → MB D cA ad A s gij263 glj263 H locs → lv_has ls 7 [(6, .int x6j263)] → W p l e R s m args below meth c H locs 0 0 Q (F0 m 263 ls [.int t0j263, .ref (ad 0)]) := by
    intro gij263 glj263 x6j263 t0j263 H locs ls h B hL
    unfold f_X4_unit_j263 at h
    refine lv_iload hx hb dX4_unit_263 (lv_at hL 0 rfl) ?_
    refine k_X4_emit C B (Nat.le_trans (Nat.le_of_ble_eq_true rfl) hF) (Nat.le_trans (Nat.le_of_ble_eq_true rfl) hN) hL.1 (Nat.le_of_ble_eq_true rfl) h dX4_unit_265 (fun q12 h H locs B => ?_)
    refine lv_iconst (v := 0) hx hb dX4_unit_268 (by decide) ?_
    exact hret _ _ _ _ _ _ _ (Option.some.inj h) (Or.inl rfl) B dX4_unit_269
  have hj233 : ∀ (gij233 : GI) (glj233 : GL) (t0j233 : Int32) (H : Heap) (locs : List Loc) (ls : Array Slot), f_X4_unit_j233 gij233 glj233 t0j233 = some r → MB D cA ad A s gij233 glj233 H locs → lv_has ls 7 [(0, .ref (ad 0))] → W p l e R s m args below meth c H locs 0 0 Q (F0 m 233 ls [.int t0j233, .ref (ad 0)]) := by
    intro gij233 glj233 t0j233 H locs ls h B hL
    unfold f_X4_unit_j233 at h
    refine lv_bipush (v := 126) hx hb dX4_unit_233 (by decide) ?_
    refine k_X4_pushE C B (Nat.le_trans (Nat.le_of_ble_eq_true rfl) hF) (Nat.le_trans (Nat.le_of_ble_eq_true rfl) hN) hL.1 (Nat.le_of_ble_eq_true rfl) h dX4_unit_235 (fun q10 h H locs B => ?_)
    refine lv_aload_n hx hb dX4_unit_238 rfl (lv_at hL 0 rfl) ?_
    refine lv_dup hx hb dX4_unit_239 rfl ?_
    refine mg_44 C B dX4_unit_240 ?_
    refine lv_iconst (v := 1) hx hb dX4_unit_243 (by decide) ?_
    refine lv_iadd hx hb dX4_unit_244 ?_
    refine mp_44 C B h dX4_unit_245 (fun gi11 h H locs B => ?_)
    refine lv_iconst (v := 1) hx hb dX4_unit_248 (by decide) ?_
    exact hret _ _ _ _ _ _ _ (Option.some.inj h) (Or.inr rfl) B dX4_unit_249
  have hj222 : ∀ (gij222 : GI) (glj222 : GL) (x2j222 : Int32) (H : Heap) (locs : List Loc) (ls : Array Slot), f_X4_unit_j222 gij222 glj222 x2j222 = some r → MB D cA ad A s gij222 glj222 H locs → lv_has ls 7 [(0, .ref (ad 0)), (2, .int x2j222)] → W p l e R s m args below meth c H locs 0 0 Q (F0 m 222 ls []) := by
    intro gij222 glj222 x2j222 H locs ls h B hL
    unfold f_X4_unit_j222 at h
    refine lv_aload_n hx hb dX4_unit_222 rfl (lv_at hL 0 rfl) ?_
    refine lv_iload_n hx hb dX4_unit_223 rfl (lv_at hL 1 rfl) ?_
    refine gg_if_eq hx hb 231 h dX4_unit_224 (by decide) (fun h => ?_) (fun h => ?_)
    · refine lv_bipush (v := 7) hx hb dX4_unit_231 (by decide) ?_
      exact hj233 _ _ _ _ _ _ h B (lv_sub hL [0] rfl)
    · refine lv_iconst (v := 3) hx hb dX4_unit_227 (by decide) ?_
      refine lv_goto (tgt := 233) hx hb dX4_unit_228 (by decide) ?_
      exact hj233 _ _ _ _ _ _ h B (lv_sub hL [0] rfl)
  have hj208 : ∀ (gij208 : GI) (glj208 : GL) (x2j208 : Int32) (x3j208 : Int32) (x4j208 : Int32) (t0j208 : Int32) (H : Heap) (locs : List Loc) (ls : Array Slot), f_X4_unit_j208 gij208 glj208 x2j208 x3j208 x4j208 t0j208 = some r → MB D cA ad A s gij208 glj208 H locs → lv_has ls 7 [(0, .ref (ad 0)), (2, .int x2j208), (3, .int x3j208), (4, .int x4j208)] → W p l e R s m args below meth c H locs 0 0 Q (F0 m 208 ls [.int t0j208]) := by
    intro gij208 glj208 x2j208 x3j208 x4j208 t0j208 H locs ls h B hL
    unfold f_X4_unit_j208 at h
    refine lv_istore (lv' := [(6, .int t0j208), (0, .ref (ad 0)), (2, .int x2j208), (3, .int x3j208), (4, .int x4j208)]) hx hb dX4_unit_208 hL (by decide) rfl (fun ls hL => ?_)
    refine lv_aload_n hx hb dX4_unit_210 rfl (lv_at hL 1 rfl) ?_
    refine k_X4_goOn C B (Nat.le_trans (Nat.le_of_ble_eq_true rfl) hF) (Nat.le_trans (Nat.le_of_ble_eq_true rfl) hN) hL.1 (Nat.le_of_ble_eq_true rfl) h dX4_unit_211 (fun q9 h H locs B => ?_)
    refine lv_iload_n hx hb dX4_unit_214 rfl (lv_at hL 2 rfl) ?_
    refine gg_if_ne hx hb 222 h dX4_unit_215 (by decide) (fun h => ?_) (fun h => ?_)
    · exact hj222 _ _ _ _ _ _ h B (lv_sub hL [1, 2] rfl)
    · refine lv_iload_n hx hb dX4_unit_218 rfl (lv_at hL 3 rfl) ?_
      refine gg_if_eq hx hb 250 h dX4_unit_219 (by decide) (fun h => ?_) (fun h => ?_)
      · refine lv_aload_n hx hb dX4_unit_250 rfl (lv_at hL 1 rfl) ?_
        refine lv_iload hx hb dX4_unit_251 (lv_at hL 4 rfl) ?_
        refine gg_if_ne hx hb 261 h dX4_unit_253 (by decide) (fun h => ?_) (fun h => ?_)
        · refine lv_iload hx hb dX4_unit_261 (lv_at hL 4 rfl) ?_
          exact hj263 _ _ _ _ _ _ _ h B (lv_sub hL [0] rfl)
        · refine lv_bipush (v := 110) hx hb dX4_unit_256 (by decide) ?_
          refine lv_goto (tgt := 263) hx hb dX4_unit_258 (by decide) ?_
          exact hj263 _ _ _ _ _ _ _ h B (lv_sub hL [0] rfl)
      · exact hj222 _ _ _ _ _ _ h B (lv_sub hL [1, 2] rfl)
  have hj191 : ∀ (gij191 : GI) (glj191 : GL) (x2j191 : Int32) (x3j191 : Int32) (x4j191 : Int32) (t0j191 : Int32) (t1j191 : Int32) (H : Heap) (locs : List Loc) (ls : Array Slot), f_X4_unit_j191 gij191 glj191 x2j191 x3j191 x4j191 t0j191 t1j191 = some r → MB D cA ad A s gij191 glj191 H locs → lv_has ls 7 [(0, .ref (ad 0)), (2, .int x2j191), (3, .int x3j191), (4, .int x4j191)] → W p l e R s m args below meth c H locs 0 0 Q (F0 m 191 ls [.int t0j191, .int t1j191, .ref (ad 0)]) := by
    intro gij191 glj191 x2j191 x3j191 x4j191 t0j191 t1j191 H locs ls h B hL
    unfold f_X4_unit_j191 at h
    refine lv_iadd hx hb dX4_unit_191 ?_
    refine mp_46 C B h dX4_unit_192 (fun gi8 h H locs B => ?_)
    refine lv_iload hx hb dX4_unit_195 (lv_at hL 3 rfl) ?_
    refine gg_if_ne hx hb 207 h dX4_unit_197 (by decide) (fun h => ?_) (fun h => ?_)
    · refine lv_iconst (v := 0) hx hb dX4_unit_207 (by decide) ?_
      exact hj208 _ _ _ _ _ _ _ _ _ h B (lv_sub hL [0, 1, 2, 3] rfl)
    · refine lv_aload_n hx hb dX4_unit_200 rfl (lv_at hL 0 rfl) ?_
      refine mg_9 C B dX4_unit_201 ?_
      refine lv_goto (tgt := 208) hx hb dX4_unit_204 (by decide) ?_
      exact hj208 _ _ _ _ _ _ _ _ _ h B (lv_sub hL [0, 1, 2, 3] rfl)
  have hj175 : ∀ (gij175 : GI) (glj175 : GL) (x2j175 : Int32) (x3j175 : Int32) (x4j175 : Int32) (t0j175 : Int32) (t1j175 : Int32) (t2j175 : Int32) (H : Heap) (locs : List Loc) (ls : Array Slot), f_X4_unit_j175 gij175 glj175 x2j175 x3j175 x4j175 t0j175 t1j175 t2j175 = some r → MB D cA ad A s gij175 glj175 H locs → lv_has ls 7 [(0, .ref (ad 0)), (2, .int x2j175), (3, .int x3j175), (4, .int x4j175)] → W p l e R s m args below meth c H locs 0 0 Q (F0 m 175 ls [.int t0j175, .int t1j175, .int t2j175, .ref (ad 7)]) := by
    intro gij175 glj175 x2j175 x3j175 x4j175 t0j175 t1j175 t2j175 H locs ls h B hL
    unfold f_X4_unit_j175 at h
    refine lv_iadd hx hb dX4_unit_175 ?_
    refine mm_iast C B (a := 7) (n := 2) (Nat.le_of_ble_eq_true rfl) rfl h dX4_unit_176 (fun gi7 h H locs B => ?_)
    refine lv_aload_n hx hb dX4_unit_177 rfl (lv_at hL 0 rfl) ?_
    refine lv_dup hx hb dX4_unit_178 rfl ?_
    refine mg_46 C B dX4_unit_179 ?_
    refine lv_iload_n hx hb dX4_unit_182 rfl (lv_at hL 1 rfl) ?_
    refine gg_if_eq hx hb 190 h dX4_unit_183 (by decide) (fun h => ?_) (fun h => ?_)
    · refine lv_iconst (v := 1) hx hb dX4_unit_190 (by decide) ?_
      exact hj191 _ _ _ _ _ _ _ _ _ _ h B (lv_sub hL [0, 1, 2, 3] rfl)
    · refine lv_iconst (v := 0) hx hb dX4_unit_186 (by decide) ?_
      refine lv_goto (tgt := 191) hx hb dX4_unit_187 (by decide) ?_
      exact hj191 _ _ _ _ _ _ _ _ _ _ h B (lv_sub hL [0, 1, 2, 3] rfl)
  have hj147 : ∀ (gij147 : GI) (glj147 : GL) (x2j147 : Int32) (x3j147 : Int32) (x4j147 : Int32) (H : Heap) (locs : List Loc) (ls : Array Slot), f_X4_unit_j147 gij147 glj147 x2j147 x3j147 x4j147 = some r → MB D cA ad A s gij147 glj147 H locs → lv_has ls 7 [(0, .ref (ad 0)), (2, .int x2j147), (3, .int x3j147), (4, .int x4j147)] → W p l e R s m args below meth c H locs 0 0 Q (F0 m 147 ls []) := by
    intro gij147 glj147 x2j147 x3j147 x4j147 H locs ls h B hL
    unfold f_X4_unit_j147 at h
    refine lv_aload_n hx hb dX4_unit_147 rfl (lv_at hL 0 rfl) ?_
    refine k_X4_isGood C B (Nat.le_trans (Nat.le_of_ble_eq_true rfl) hF) (Nat.le_trans (Nat.le_of_ble_eq_true rfl) hN) hL.1 (Nat.le_of_ble_eq_true rfl) h dX4_unit_148 (fun q5 h H locs B => ?_)
    refine gg_if_ne hx hb 156 h dX4_unit_151 (by decide) (fun h => ?_) (fun h => ?_)
    · refine lv_aload_n hx hb dX4_unit_156 rfl (lv_at hL 0 rfl) ?_
      refine mg_15 C B dX4_unit_157 ?_
      refine lv_aload_n hx hb dX4_unit_160 rfl (lv_at hL 0 rfl) ?_
      refine mg_42 C B dX4_unit_161 ?_
      refine lv_dup2_11 hx hb dX4_unit_164 rfl rfl ?_
      refine mm_iald C B (a := 7) (n := 2) (Nat.le_of_ble_eq_true rfl) rfl h dX4_unit_165 (fun v6 h => ?_)
      refine lv_iload_n hx hb dX4_unit_166 rfl (lv_at hL 1 rfl) ?_
      refine gg_if_eq hx hb 174 h dX4_unit_167 (by decide) (fun h => ?_) (fun h => ?_)
      · refine lv_iconst (v := 1) hx hb dX4_unit_174 (by decide) ?_
        exact hj175 _ _ _ _ _ _ _ _ _ _ _ h B (lv_sub hL [0, 1, 2, 3] rfl)
      · refine lv_iconst (v := 0) hx hb dX4_unit_170 (by decide) ?_
        refine lv_goto (tgt := 175) hx hb dX4_unit_171 (by decide) ?_
        exact hj175 _ _ _ _ _ _ _ _ _ _ _ h B (lv_sub hL [0, 1, 2, 3] rfl)
    · refine lv_iconst (v := 1) hx hb dX4_unit_154 (by decide) ?_
      exact hret _ _ _ _ _ _ _ (Option.some.inj h) (Or.inr rfl) B dX4_unit_155
  have hj143 : ∀ (gij143 : GI) (glj143 : GL) (x2j143 : Int32) (x3j143 : Int32) (x4j143 : Int32) (H : Heap) (locs : List Loc) (ls : Array Slot), f_X4_unit_j143 gij143 glj143 x2j143 x3j143 x4j143 = some r → MB D cA ad A s gij143 glj143 H locs → lv_has ls 7 [(0, .ref (ad 0)), (2, .int x2j143), (3, .int x3j143), (4, .int x4j143)] → W p l e R s m args below meth c H locs 0 0 Q (F0 m 143 ls []) := by
    intro gij143 glj143 x2j143 x3j143 x4j143 H locs ls h B hL
    unfold f_X4_unit_j143 at h
    refine lv_aload_n hx hb dX4_unit_143 rfl (lv_at hL 0 rfl) ?_
    refine k_X4_misplaced C B (Nat.le_trans (Nat.le_of_ble_eq_true rfl) hF) (Nat.le_trans (Nat.le_of_ble_eq_true rfl) hN) hL.1 (Nat.le_of_ble_eq_true rfl) h dX4_unit_144 (fun q13 h H locs B => ?_)
    exact hj147 _ _ _ _ _ _ _ _ h B (lv_sub hL [0, 1, 2, 3] rfl)
  have hj134 : ∀ (gij134 : GI) (glj134 : GL) (x2j134 : Int32) (x3j134 : Int32) (x4j134 : Int32) (H : Heap) (locs : List Loc) (ls : Array Slot), f_X4_unit_j134 gij134 glj134 x2j134 x3j134 x4j134 = some r → MB D cA ad A s gij134 glj134 H locs → lv_has ls 7 [(0, .ref (ad 0)), (2, .int x2j134), (3, .int x3j134), (4, .int x4j134)] → W p l e R s m args below meth c H locs 0 0 Q (F0 m 134 ls []) := by
    intro gij134 glj134 x2j134 x3j134 x4j134 H locs ls h B hL
    unfold f_X4_unit_j134 at h
    refine lv_aload_n hx hb dX4_unit_134 rfl (lv_at hL 0 rfl) ?_
    refine mg_44 C B dX4_unit_135 ?_
    refine lv_bipush (v := 7) hx hb dX4_unit_138 (by decide) ?_
    refine gg_icmp_ne hx hb 147 h dX4_unit_140 (by decide) (fun h => ?_) (fun h => ?_)
    · exact hj147 _ _ _ _ _ _ _ _ h B (lv_sub hL [0, 1, 2, 3] rfl)
    · exact hj143 _ _ _ _ _ _ _ _ h B (lv_sub hL [0, 1, 2, 3] rfl)
  have hj126 : ∀ (gij126 : GI) (glj126 : GL) (x2j126 : Int32) (x3j126 : Int32) (x4j126 : Int32) (H : Heap) (locs : List Loc) (ls : Array Slot), f_X4_unit_j126 gij126 glj126 x2j126 x3j126 x4j126 = some r → MB D cA ad A s gij126 glj126 H locs → lv_has ls 7 [(0, .ref (ad 0)), (2, .int x2j126), (3, .int x3j126), (4, .int x4j126)] → W p l e R s m args below meth c H locs 0 0 Q (F0 m 126 ls []) := by
    intro gij126 glj126 x2j126 x3j126 x4j126 H locs ls h B hL
    unfold f_X4_unit_j126 at h
    refine lv_iload_n hx hb dX4_unit_126 rfl (lv_at hL 1 rfl) ?_
    refine gg_if_ne hx hb 134 h dX4_unit_127 (by decide) (fun h => ?_) (fun h => ?_)
    · exact hj134 _ _ _ _ _ _ _ _ h B (lv_sub hL [0, 1, 2, 3] rfl)
    · refine lv_iload_n hx hb dX4_unit_130 rfl (lv_at hL 2 rfl) ?_
      refine gg_if_eq hx hb 147 h dX4_unit_131 (by decide) (fun h => ?_) (fun h => ?_)
      · exact hj147 _ _ _ _ _ _ _ _ h B (lv_sub hL [0, 1, 2, 3] rfl)
      · exact hj134 _ _ _ _ _ _ _ _ h B (lv_sub hL [0, 1, 2, 3] rfl)
  have hj121 : ∀ (gij121 : GI) (glj121 : GL) (x2j121 : Int32) (x3j121 : Int32) (x4j121 : Int32) (x5j121 : Int32) (H : Heap) (locs : List Loc) (ls : Array Slot), f_X4_unit_j121 gij121 glj121 x2j121 x3j121 x4j121 x5j121 = some r → MB D cA ad A s gij121 glj121 H locs → lv_has ls 7 [(0, .ref (ad 0)), (2, .int x2j121), (3, .int x3j121), (4, .int x4j121), (5, .int x5j121)] → W p l e R s m args below meth c H locs 0 0 Q (F0 m 121 ls []) := by
    intro gij121 glj121 x2j121 x3j121 x4j121 x5j121 H locs ls h B hL
    unfold f_X4_unit_j121 at h
    refine lv_iload hx hb dX4_unit_121 (lv_at hL 4 rfl) ?_
    refine gg_if_ne hx hb 143 h dX4_unit_123 (by decide) (fun h => ?_) (fun h => ?_)
    · exact hj143 _ _ _ _ _ _ _ _ h B (lv_sub hL [0, 1, 2, 3] rfl)
    · exact hj126 _ _ _ _ _ _ _ _ h B (lv_sub hL [0, 1, 2, 3] rfl)
  have hj98 : ∀ (gij98 : GI) (glj98 : GL) (x2j98 : Int32) (x3j98 : Int32) (x4j98 : Int32) (t0j98 : Int32) (H : Heap) (locs : List Loc) (ls : Array Slot), f_X4_unit_j98 gij98 glj98 x2j98 x3j98 x4j98 t0j98 = some r → MB D cA ad A s gij98 glj98 H locs → lv_has ls 7 [(0, .ref (ad 0)), (2, .int x2j98), (3, .int x3j98), (4, .int x4j98)] → W p l e R s m args below meth c H locs 0 0 Q (F0 m 98 ls [.int t0j98]) := by
    intro gij98 glj98 x2j98 x3j98 x4j98 t0j98 H locs ls h B hL
    unfold f_X4_unit_j98 at h
    refine lv_istore (lv' := [(5, .int t0j98), (0, .ref (ad 0)), (2, .int x2j98), (3, .int x3j98), (4, .int x4j98)]) hx hb dX4_unit_98 hL (by decide) rfl (fun ls hL => ?_)
    refine lv_iload_n hx hb dX4_unit_100 rfl (lv_at hL 2 rfl) ?_
    refine gg_if_ne hx hb 126 h dX4_unit_101 (by decide) (fun h => ?_) (fun h => ?_)
    · exact hj126 _ _ _ _ _ _ _ _ h B (lv_sub hL [1, 2, 3, 4] rfl)
    · refine lv_iload hx hb dX4_unit_104 (lv_at hL 4 rfl) ?_
      refine gg_if_ne hx hb 121 h dX4_unit_106 (by decide) (fun h => ?_) (fun h => ?_)
      · exact hj121 _ _ _ _ _ _ _ _ _ h B (lv_sub hL [1, 2, 3, 4, 0] rfl)
      · refine lv_aload_n hx hb dX4_unit_109 rfl (lv_at hL 1 rfl) ?_
        refine mg_8 C B dX4_unit_110 ?_
        refine lv_iconst (v := 4) hx hb dX4_unit_113 (by decide) ?_
        refine gg_icmp_eq hx hb 121 h dX4_unit_114 (by decide) (fun h => ?_) (fun h => ?_)
        · exact hj121 _ _ _ _ _ _ _ _ _ h B (lv_sub hL [1, 2, 3, 4, 0] rfl)
        · refine lv_iload_n hx hb dX4_unit_117 rfl (lv_at hL 3 rfl) ?_
          refine gg_if_eq hx hb 143 h dX4_unit_118 (by decide) (fun h => ?_) (fun h => ?_)
          · exact hj143 _ _ _ _ _ _ _ _ h B (lv_sub hL [1, 2, 3, 4] rfl)
          · exact hj121 _ _ _ _ _ _ _ _ _ h B (lv_sub hL [1, 2, 3, 4, 0] rfl)
  have hj93 : ∀ (gij93 : GI) (glj93 : GL) (x2j93 : Int32) (x3j93 : Int32) (x4j93 : Int32) (H : Heap) (locs : List Loc) (ls : Array Slot), f_X4_unit_j93 gij93 glj93 x2j93 x3j93 x4j93 = some r → MB D cA ad A s gij93 glj93 H locs → lv_has ls 7 [(0, .ref (ad 0)), (2, .int x2j93), (3, .int x3j93), (4, .int x4j93)] → W p l e R s m args below meth c H locs 0 0 Q (F0 m 93 ls []) := by
    intro gij93 glj93 x2j93 x3j93 x4j93 H locs ls h B hL
    unfold f_X4_unit_j93 at h
    refine lv_iconst (v := 1) hx hb dX4_unit_93 (by decide) ?_
    refine lv_goto (tgt := 98) hx hb dX4_unit_94 (by decide) ?_
    exact hj98 _ _ _ _ _ _ _ _ _ h B (lv_sub hL [0, 1, 2, 3] rfl)
  have hj56 : ∀ (gij56 : GI) (glj56 : GL) (t0j56 : Int32) (H : Heap) (locs : List Loc) (ls : Array Slot), f_X4_unit_j56 gij56 glj56 t0j56 = some r → MB D cA ad A s gij56 glj56 H locs → lv_has ls 7 [(0, .ref (ad 0))] → W p l e R s m args below meth c H locs 0 0 Q (F0 m 56 ls [.int t0j56]) := by
    intro gij56 glj56 t0j56 H locs ls h B hL
    unfold f_X4_unit_j56 at h
    refine lv_istore_n (lv' := [(2, .int t0j56), (0, .ref (ad 0))]) hx hb dX4_unit_56 rfl hL (by decide) rfl (fun ls hL => ?_)
    refine lv_aload_n hx hb dX4_unit_57 rfl (lv_at hL 1 rfl) ?_
    refine lv_bipush (v := 40) hx hb dX4_unit_58 (by decide) ?_
    refine k_X4_isSignHere C B (Nat.le_trans (Nat.le_of_ble_eq_true rfl) hF) (Nat.le_trans (Nat.le_of_ble_eq_true rfl) hN) hL.1 (Nat.le_of_ble_eq_true rfl) h dX4_unit_60 (fun q2 h H locs B => ?_)
    refine lv_istore_n (lv' := [(3, .int q2), (2, .int t0j56), (0, .ref (ad 0))]) hx hb dX4_unit_63 rfl hL (by decide) rfl (fun ls hL => ?_)
    refine lv_aload_n hx hb dX4_unit_64 rfl (lv_at hL 2 rfl) ?_
    refine k_X4_wordHere C B (Nat.le_trans (Nat.le_of_ble_eq_true rfl) hF) (Nat.le_trans (Nat.le_of_ble_eq_true rfl) hN) hL.1 (Nat.le_of_ble_eq_true rfl) h dX4_unit_65 (fun q3 h H locs B => ?_)
    refine lv_istore (lv' := [(4, .int q3), (3, .int q2), (2, .int t0j56), (0, .ref (ad 0))]) hx hb dX4_unit_68 hL (by decide) rfl (fun ls hL => ?_)
    refine lv_aload_n hx hb dX4_unit_70 rfl (lv_at hL 3 rfl) ?_
    refine mg_15 C B dX4_unit_71 ?_
    refine lv_aload_n hx hb dX4_unit_74 rfl (lv_at hL 3 rfl) ?_
    refine mg_42 C B dX4_unit_75 ?_
    refine mm_iald C B (a := 7) (n := 2) (Nat.le_of_ble_eq_true rfl) rfl h dX4_unit_78 (fun v4 h => ?_)
    refine lv_bipush (v := 60) hx hb dX4_unit_79 (by decide) ?_
    refine gg_icmp_eq hx hb 93 h dX4_unit_81 (by decide) (fun h => ?_) (fun h => ?_)
    · exact hj93 _ _ _ _ _ _ _ _ h B (lv_sub hL [3, 2, 1, 0] rfl)
    · refine lv_aload_n hx hb dX4_unit_84 rfl (lv_at hL 3 rfl) ?_
      refine mg_46 C B dX4_unit_85 ?_
      refine lv_bipush (v := 30) hx hb dX4_unit_88 (by decide) ?_
      refine gg_icmp_ne hx hb 97 h dX4_unit_90 (by decide) (fun h => ?_) (fun h => ?_)
      · refine lv_iconst (v := 0) hx hb dX4_unit_97 (by decide) ?_
        exact hj98 _ _ _ _ _ _ _ _ _ h B (lv_sub hL [3, 2, 1, 0] rfl)
      · exact hj93 _ _ _ _ _ _ _ _ h B (lv_sub hL [3, 2, 1, 0] rfl)
  have hj55 : ∀ (gij55 : GI) (glj55 : GL) (H : Heap) (locs : List Loc) (ls : Array Slot), f_X4_unit_j55 gij55 glj55 = some r → MB D cA ad A s gij55 glj55 H locs → lv_has ls 7 [(0, .ref (ad 0))] → W p l e R s m args below meth c H locs 0 0 Q (F0 m 55 ls []) := by
    intro gij55 glj55 H locs ls h B hL
    unfold f_X4_unit_j55 at h
    refine lv_iconst (v := 0) hx hb dX4_unit_55 (by decide) ?_
    exact hj56 _ _ _ _ _ _ h B (lv_sub hL [0] rfl)
  have hj36 : ∀ (gij36 : GI) (glj36 : GL) (t0j36 : Int32) (H : Heap) (locs : List Loc) (ls : Array Slot), f_X4_unit_j36 gij36 glj36 t0j36 = some r → MB D cA ad A s gij36 glj36 H locs → lv_has ls 7 [(0, .ref (ad 0))] → W p l e R s m args below meth c H locs 0 0 Q (F0 m 36 ls [.int t0j36]) := by
    intro gij36 glj36 t0j36 H locs ls h B hL
    unfold f_X4_unit_j36 at h
    refine lv_istore_n (lv' := [(1, .int t0j36), (0, .ref (ad 0))]) hx hb dX4_unit_36 rfl hL (by decide) rfl (fun ls hL => ?_)
    refine lv_iload_n hx hb dX4_unit_37 rfl (lv_at hL 0 rfl) ?_
    refine gg_if_eq hx hb 55 h dX4_unit_38 (by decide) (fun h => ?_) (fun h => ?_)
    · exact hj55 _ _ _ _ _ h B (lv_sub hL [1] rfl)
    · refine lv_aload_n hx hb dX4_unit_41 rfl (lv_at hL 1 rfl) ?_
      refine lv_ldc2 (v := 7237492) hx hb C.2.2.2.1 (C.2.2.2.2 _ q1992) dX4_unit_42 ?_
      refine k_X4_isWord C B (Nat.le_trans (Nat.le_of_ble_eq_true rfl) hF) (Nat.le_trans (Nat.le_of_ble_eq_true rfl) hN) hL.1 (Nat.le_of_ble_eq_true rfl) h dX4_unit_45 (fun q14 h H locs B => ?_)
      refine gg_if_eq hx hb 55 h dX4_unit_48 (by decide) (fun h => ?_) (fun h => ?_)
      · exact hj55 _ _ _ _ _ h B (lv_sub hL [1] rfl)
      · refine lv_iconst (v := 1) hx hb dX4_unit_51 (by decide) ?_
        refine lv_goto (tgt := 56) hx hb dX4_unit_52 (by decide) ?_
        exact hj56 _ _ _ _ _ _ h B (lv_sub hL [1] rfl)
  have hj31 : ∀ (gij31 : GI) (glj31 : GL) (H : Heap) (locs : List Loc) (ls : Array Slot), f_X4_unit_j31 gij31 glj31 = some r → MB D cA ad A s gij31 glj31 H locs → lv_has ls 7 [(0, .ref (ad 0))] → W p l e R s m args below meth c H locs 0 0 Q (F0 m 31 ls []) := by
    intro gij31 glj31 H locs ls h B hL
    unfold f_X4_unit_j31 at h
    refine lv_iconst (v := 1) hx hb dX4_unit_31 (by decide) ?_
    refine lv_goto (tgt := 36) hx hb dX4_unit_32 (by decide) ?_
    exact hj36 _ _ _ _ _ _ h B (lv_sub hL [0] rfl)
  refine lv_aload_n hx hb dX4_unit_0 rfl (lv_at hL 0 rfl) ?_
  refine mg_38 C B dX4_unit_1 ?_
  refine lv_aload_n hx hb dX4_unit_4 rfl (lv_at hL 0 rfl) ?_
  refine mg_45 C B dX4_unit_5 ?_
  refine lv_iconst (v := 1) hx hb dX4_unit_8 (by decide) ?_
  refine lv_isub hx hb dX4_unit_9 ?_
  refine mm_iald C B (a := 30) (n := 90) (Nat.le_of_ble_eq_true rfl) rfl h dX4_unit_10 (fun v1 h => ?_)
  refine lv_iconst (v := 3) hx hb dX4_unit_11 (by decide) ?_
  refine gg_icmp_le hx hb 31 h dX4_unit_12 (by decide) (fun h => ?_) (fun h => ?_)
  · exact hj31 _ _ _ _ _ h B (lv_sub hL [0] rfl)
  · refine lv_aload_n hx hb dX4_unit_15 rfl (lv_at hL 0 rfl) ?_
    refine mg_38 C B dX4_unit_16 ?_
    refine lv_aload_n hx hb dX4_unit_19 rfl (lv_at hL 0 rfl) ?_
    refine mg_45 C B dX4_unit_20 ?_
    refine lv_iconst (v := 1) hx hb dX4_unit_23 (by decide) ?_
    refine lv_isub hx hb dX4_unit_24 ?_
    refine mm_iald C B (a := 30) (n := 90) (Nat.le_of_ble_eq_true rfl) rfl h dX4_unit_25 (fun v15 h => ?_)
    refine lv_bipush (v := 7) hx hb dX4_unit_26 (by decide) ?_
    refine gg_icmp_lt hx hb 35 h dX4_unit_28 (by decide) (fun h => ?_) (fun h => ?_)
    · refine lv_iconst (v := 0) hx hb dX4_unit_35 (by decide) ?_
      exact hj36 _ _ _ _ _ _ h B (lv_sub hL [0] rfl)
    · exact hj31 _ _ _ _ _ h B (lv_sub hL [0] rfl)
theorem k_X4_unit {p : Program} {l : Launch} {e : Env} {R : Room} {s : State} {m : MethodId} {args : Array Value} {below : List Frame} {meth : Method} {c : Code} {H : Heap} {locs : List Loc} {Q : State → Prop} {pc : Nat} {ls : Array Slot} {rest : List Value} {cc : ByteArray} {nL : Nat} {D : va_G} {cA : Nat → ClassId} {ad : Nat → Nat} {A : Nat → Prop} {gi : GI} {gl : GL} {α : Type} {r : α}  {ff : (Int32 × GI × GL) → Option α} (C : CallFix p m c cc nL s args lw_all RX4) (B : MB D cA ad A s gi gl H locs) (hF : 3 ≤ R.frames) (hN : 70 ≤ R.locals) (hs : ls.size = nL) (hw : (rest.map fun v => v.category).sum ≤ 8) (h : (f_X4_unit gi gl ).bind ff = some r) (hdg : decode cc pc = .ok (.invokevirtual 367, 3)) (kk : ∀ q, ff q = some r → ∀ (H' : Heap) (locs' : List Loc), MB D cA ad A s q.2.1 q.2.2 H' locs' → W p l e R s m args below meth c H' locs' 0 0 Q (F0 m (pc + 3) ls (.int q.1 :: rest))) : W p l e R s m args below meth c H locs 0 0 Q (F0 m pc ls (.ref (ad 0) :: rest)) := by
  obtain ⟨q, h1, h2⟩ := g_ob h
  refine mm_cVI (As := []) (rest := rest) (n := 0) C B (fun sz => w_X4_unit l D cA ad gi gl  q h1 sz) q2083 q2085 qs92 q150 q2086 (by decide +kernel) ⟨hF, hN⟩ rfl hs hw hdg (fun v u H9 locs9 hp B9 => ?_)
  have e1 := hp
  subst e1
  exact kk _ h2 H9 locs9 B9
def f_X4_e_l19 (x1l19 : Int32) (gil19 : GI) (gll19 : GL) : Option ((Int32 × GI × GL) ⊕ (GI × GL)) :=
  (f_X4_isGood gil19 ).bind fun q4 =>
  if q4 = 0 then
  (some (.inr ((gil19, gll19))))
  else
  (if (gil19 0 45) ≤ 0 then
  (some (.inr ((gil19, gll19))))
  else
  (if x1l19 = 0 then
  ((f_X4_behindUnit gil19 gll19 ).bind fun q5 =>
  some (.inl ((q5.1, q5.2.1, q5.2.2))))
  else
  ((f_X4_unit gil19 gll19 ).bind fun q6 =>
  some (.inl ((q6.1, q6.2.1, q6.2.2))))))
def f_X4_e_x19 (gie19 : GI) (gle19 : GL) : Option (GI × GL) :=
  some (gie19, gle19)
def f_X4_e (gi : GI) (gl : GL)  : Option (GI × GL) :=
  (some (g_pi gi 0 45 0)).bind fun gi1 =>
  (some (g_pi gi1 0 44 0)).bind fun gi2 =>
  (f_X4_pushE gi2 8 0).bind fun q3 =>
  (g_loop g_K (fun (s : Int32 × GI × GL) => f_X4_e_l19 s.1 s.2.1 s.2.2) (1, q3, gl)).bind fun E19 => f_X4_e_x19 E19.1 E19.2
set_option maxHeartbeats 400000 in
theorem w_X4_e (l : Launch) (D : va_G) (cA : Nat → ClassId) (ad : Nat → Nat) (gi : GI) (gl : GL)  (r : GI × GL) (h : f_X4_e gi gl  = some r) (sz : Nat) : Met l yX4_e (ws_ yX4_e cX4_e 2 (none)) ({ frames := 4, cells := 0, slots := 0, locals := 86 } : Room) (va_Pc [.ref (ad 0)] (MPre D cA ad gi gl sz)) (va_Qv (fun u => (u.1, u.2) = r) (MPost D cA ad) (MA ad sz)) 0 0 (MA ad sz) := by
  refine mm_stV (by decide +kernel) rfl (Nat.le_of_ble_eq_true rfl) (fun p e s m args below meth c R Q A ls C hF hN B hret hL => ?_) sz
  have hx := C.1
  have hb := C.2.1
  have hL : lv_has ls 2 [(0, .ref (ad 0))] := hL
  unfold f_X4_e at h
  refine lv_aload_n hx hb dX4_e_0 rfl (lv_at hL 0 rfl) ?_
  refine lv_iconst (v := 0) hx hb dX4_e_1 (by decide) ?_
  refine mp_45 C B h dX4_e_2 (fun gi1 h H locs B => ?_)
  refine lv_aload_n hx hb dX4_e_5 rfl (lv_at hL 0 rfl) ?_
  refine lv_iconst (v := 0) hx hb dX4_e_6 (by decide) ?_
  refine mp_44 C B h dX4_e_7 (fun gi2 h H locs B => ?_)
  refine lv_aload_n hx hb dX4_e_10 rfl (lv_at hL 0 rfl) ?_
  refine lv_bipush (v := 8) hx hb dX4_e_11 (by decide) ?_
  refine lv_iconst (v := 0) hx hb dX4_e_13 (by decide) ?_
  refine k_X4_pushE C B (Nat.le_trans (Nat.le_of_ble_eq_true rfl) hF) (Nat.le_trans (Nat.le_of_ble_eq_true rfl) hN) hL.1 (Nat.le_of_ble_eq_true rfl) h dX4_e_14 (fun q3 h H locs B => ?_)
  refine lv_iconst (v := 1) hx hb dX4_e_17 (by decide) ?_
  refine lv_istore_n (lv' := [(1, .int 1), (0, .ref (ad 0))]) hx hb dX4_e_18 rfl hL (by decide) rfl (fun ls hL => ?_)
  obtain ⟨E19, h819, h⟩ := g_ob h
  have kx19 : ∀ (gie19 : GI) (gle19 : GL) (H : Heap) (locs : List Loc) (ls : Array Slot), (gie19, gle19) = E19 → MB D cA ad A s gie19 gle19 H locs → lv_has ls 2 [] → W p l e R s m args below meth c H locs 0 0 Q (F0 m 52 ls []) := by
    intro gie19 gle19 H locs ls he B hL
    subst he
    have h : f_X4_e_x19 gie19 gle19 = some r := h
    unfold f_X4_e_x19 at h
    exact hret _ _ _ _ _ _ (Option.some.inj h) B dX4_e_52
  have hl19 : ∀ (k : Nat) (x1l19 : Int32) (gil19 : GI) (gll19 : GL) (H : Heap) (locs : List Loc) (ls : Array Slot), g_loop k (fun (s : Int32 × GI × GL) => f_X4_e_l19 s.1 s.2.1 s.2.2) (x1l19, gil19, gll19) = some E19 → MB D cA ad A s gil19 gll19 H locs → lv_has ls 2 [(0, .ref (ad 0)), (1, .int x1l19)] → W p l e R s m args below meth c H locs 0 0 Q (F0 m 19 ls []) := by
    intro k
    induction k with
    | zero => intro x1l19 gil19 gll19 H locs ls h; exact absurd h (fun z => g_loop_0 z)
    | succ k ih19 =>
      intro x1l19 gil19 gll19 H locs ls h B hL
      obtain ⟨Z19, h, h919⟩ := g_loop_s h
      have h : f_X4_e_l19 x1l19 gil19 gll19 = some Z19 := h
      unfold f_X4_e_l19 at h
      refine lv_aload_n hx hb dX4_e_19 rfl (lv_at hL 0 rfl) ?_
      refine k_X4_isGood C B (Nat.le_trans (Nat.le_of_ble_eq_true rfl) hF) (Nat.le_trans (Nat.le_of_ble_eq_true rfl) hN) hL.1 (Nat.le_of_ble_eq_true rfl) h dX4_e_20 (fun q4 h H locs B => ?_)
      refine gg_if_eq hx hb 52 h dX4_e_23 (by decide) (fun h => ?_) (fun h => ?_)
      · exact kx19 _ _ _ _ _ (g_exit h h919) B (lv_sub hL [] rfl)
      · refine lv_aload_n hx hb dX4_e_26 rfl (lv_at hL 0 rfl) ?_
        refine mg_45 C B dX4_e_27 ?_
        refine gg_if_le hx hb 52 h dX4_e_30 (by decide) (fun h => ?_) (fun h => ?_)
        · exact kx19 _ _ _ _ _ (g_exit h h919) B (lv_sub hL [] rfl)
        · refine lv_iload_n hx hb dX4_e_33 rfl (lv_at hL 1 rfl) ?_
          refine gg_if_eq hx hb 44 h dX4_e_34 (by decide) (fun h => ?_) (fun h => ?_)
          · refine lv_aload_n hx hb dX4_e_44 rfl (lv_at hL 0 rfl) ?_
            refine k_X4_behindUnit C B (Nat.le_trans (Nat.le_of_ble_eq_true rfl) hF) (Nat.le_trans (Nat.le_of_ble_eq_true rfl) hN) hL.1 (Nat.le_of_ble_eq_true rfl) h dX4_e_45 (fun q5 h H locs B => ?_)
            refine lv_istore_n (lv' := [(1, .int q5.1), (0, .ref (ad 0))]) hx hb dX4_e_48 rfl hL (by decide) rfl (fun ls hL => ?_)
            refine lv_goto (tgt := 19) hx hb dX4_e_49 (by decide) ?_
            exact ih19 _ _ _ _ _ _ (g_next h h919) B (lv_sub hL [1, 0] rfl)
          · refine lv_aload_n hx hb dX4_e_37 rfl (lv_at hL 0 rfl) ?_
            refine k_X4_unit C B (Nat.le_trans (Nat.le_of_ble_eq_true rfl) hF) (Nat.le_trans (Nat.le_of_ble_eq_true rfl) hN) hL.1 (Nat.le_of_ble_eq_true rfl) h dX4_e_38 (fun q6 h H locs B => ?_)
            refine lv_goto (tgt := 48) hx hb dX4_e_41 (by decide) ?_
            refine lv_istore_n (lv' := [(1, .int q6.1), (0, .ref (ad 0))]) hx hb dX4_e_48 rfl hL (by decide) rfl (fun ls hL => ?_)
            refine lv_goto (tgt := 19) hx hb dX4_e_49 (by decide) ?_
            exact ih19 _ _ _ _ _ _ (g_next h h919) B (lv_sub hL [1, 0] rfl)
  exact hl19 g_K _ _ _ _ _ _ h819 B (lv_sub hL [1, 0] rfl)
theorem k_X4_e {p : Program} {l : Launch} {e : Env} {R : Room} {s : State} {m : MethodId} {args : Array Value} {below : List Frame} {meth : Method} {c : Code} {H : Heap} {locs : List Loc} {Q : State → Prop} {pc : Nat} {ls : Array Slot} {rest : List Value} {cc : ByteArray} {nL : Nat} {D : va_G} {cA : Nat → ClassId} {ad : Nat → Nat} {A : Nat → Prop} {gi : GI} {gl : GL} {α : Type} {r : α}  {ff : (GI × GL) → Option α} (C : CallFix p m c cc nL s args lw_all RX4) (B : MB D cA ad A s gi gl H locs) (hF : 5 ≤ R.frames) (hN : 107 ≤ R.locals) (hs : ls.size = nL) (hw : (rest.map fun v => v.category).sum ≤ 8) (h : (f_X4_e gi gl ).bind ff = some r) (hdg : decode cc pc = .ok (.invokevirtual 355, 3)) (kk : ∀ q, ff q = some r → ∀ (H' : Heap) (locs' : List Loc), MB D cA ad A s q.1 q.2 H' locs' → W p l e R s m args below meth c H' locs' 0 0 Q (F0 m (pc + 3) ls (rest))) : W p l e R s m args below meth c H locs 0 0 Q (F0 m pc ls (.ref (ad 0) :: rest)) := by
  obtain ⟨q, h1, h2⟩ := g_ob h
  refine mm_cVV (As := []) (rest := rest) (n := 0) C B (fun sz => w_X4_e l D cA ad gi gl  q h1 sz) q2075 q2077 qs90 q150 q2078 (by decide +kernel) ⟨hF, hN⟩ rfl hs hw hdg (fun u H9 locs9 hp B9 => ?_)
  have e1 := hp
  subst e1
  exact kk _ h2 H9 locs9 B9
def f_X4_readRule (gi : GI) (gl : GL) (x1 : Int32) : Option (GI × GL) :=
  (some (g_pi gi 0 46 0)).bind fun gi1 =>
  (g_st gi1 21 2 ((gi1 0 42) + x1) (gi1 0 43)).bind fun gi2 =>
  (f_X4_e gi2 gl ).bind fun q3 =>
  (g_st q3.1 22 2 ((q3.1 0 42) + x1) (q3.1 0 43)).bind fun gi4 =>
  some (gi4, q3.2)
set_option maxHeartbeats 400000 in
theorem w_X4_readRule (l : Launch) (D : va_G) (cA : Nat → ClassId) (ad : Nat → Nat) (gi : GI) (gl : GL) (x1 : Int32) (r : GI × GL) (h : f_X4_readRule gi gl x1 = some r) (sz : Nat) : Met l yX4_readRule (ws_ yX4_readRule cX4_readRule 2 (none)) ({ frames := 5, cells := 0, slots := 0, locals := 107 } : Room) (va_Pc [.ref (ad 0), .int x1] (MPre D cA ad gi gl sz)) (va_Qv (fun u => (u.1, u.2) = r) (MPost D cA ad) (MA ad sz)) 0 0 (MA ad sz) := by
  refine mm_stV (by decide +kernel) rfl (Nat.le_of_ble_eq_true rfl) (fun p e s m args below meth c R Q A ls C hF hN B hret hL => ?_) sz
  have hx := C.1
  have hb := C.2.1
  have hL : lv_has ls 2 [(0, .ref (ad 0)), (1, .int x1)] := hL
  unfold f_X4_readRule at h
  refine lv_aload_n hx hb dX4_readRule_0 rfl (lv_at hL 0 rfl) ?_
  refine lv_iconst (v := 0) hx hb dX4_readRule_1 (by decide) ?_
  refine mp_46 C B h dX4_readRule_2 (fun gi1 h H locs B => ?_)
  refine lv_aload_n hx hb dX4_readRule_5 rfl (lv_at hL 0 rfl) ?_
  refine mg_29 C B dX4_readRule_6 ?_
  refine lv_aload_n hx hb dX4_readRule_9 rfl (lv_at hL 0 rfl) ?_
  refine mg_42 C B dX4_readRule_10 ?_
  refine lv_iload_n hx hb dX4_readRule_13 rfl (lv_at hL 1 rfl) ?_
  refine lv_iadd hx hb dX4_readRule_14 ?_
  refine lv_aload_n hx hb dX4_readRule_15 rfl (lv_at hL 0 rfl) ?_
  refine mg_43 C B dX4_readRule_16 ?_
  refine mm_iast C B (a := 21) (n := 2) (Nat.le_of_ble_eq_true rfl) rfl h dX4_readRule_19 (fun gi2 h H locs B => ?_)
  refine lv_aload_n hx hb dX4_readRule_20 rfl (lv_at hL 0 rfl) ?_
  refine k_X4_e C B (Nat.le_trans (Nat.le_of_ble_eq_true rfl) hF) (Nat.le_trans (Nat.le_of_ble_eq_true rfl) hN) hL.1 (Nat.le_of_ble_eq_true rfl) h dX4_readRule_21 (fun q3 h H locs B => ?_)
  refine lv_aload_n hx hb dX4_readRule_24 rfl (lv_at hL 0 rfl) ?_
  refine mg_30 C B dX4_readRule_25 ?_
  refine lv_aload_n hx hb dX4_readRule_28 rfl (lv_at hL 0 rfl) ?_
  refine mg_42 C B dX4_readRule_29 ?_
  refine lv_iload_n hx hb dX4_readRule_32 rfl (lv_at hL 1 rfl) ?_
  refine lv_iadd hx hb dX4_readRule_33 ?_
  refine lv_aload_n hx hb dX4_readRule_34 rfl (lv_at hL 0 rfl) ?_
  refine mg_43 C B dX4_readRule_35 ?_
  refine mm_iast C B (a := 22) (n := 2) (Nat.le_of_ble_eq_true rfl) rfl h dX4_readRule_38 (fun gi4 h H locs B => ?_)
  exact hret _ _ _ _ _ _ (Option.some.inj h) B dX4_readRule_39
theorem k_X4_readRule {p : Program} {l : Launch} {e : Env} {R : Room} {s : State} {m : MethodId} {args : Array Value} {below : List Frame} {meth : Method} {c : Code} {H : Heap} {locs : List Loc} {Q : State → Prop} {pc : Nat} {ls : Array Slot} {rest : List Value} {cc : ByteArray} {nL : Nat} {D : va_G} {cA : Nat → ClassId} {ad : Nat → Nat} {A : Nat → Prop} {gi : GI} {gl : GL} {α : Type} {r : α} {x1 : Int32} {ff : (GI × GL) → Option α} (C : CallFix p m c cc nL s args lw_all RX4) (B : MB D cA ad A s gi gl H locs) (hF : 6 ≤ R.frames) (hN : 128 ≤ R.locals) (hs : ls.size = nL) (hw : (rest.map fun v => v.category).sum ≤ 8) (h : (f_X4_readRule gi gl x1).bind ff = some r) (hdg : decode cc pc = .ok (.invokevirtual 331, 3)) (kk : ∀ q, ff q = some r → ∀ (H' : Heap) (locs' : List Loc), MB D cA ad A s q.1 q.2 H' locs' → W p l e R s m args below meth c H' locs' 0 0 Q (F0 m (pc + 3) ls (rest))) : W p l e R s m args below meth c H locs 0 0 Q (F0 m pc ls (.int x1 :: .ref (ad 0) :: rest)) := by
  obtain ⟨q, h1, h2⟩ := g_ob h
  refine mm_cVV (As := [.int x1]) (rest := rest) (n := 1) C B (fun sz => w_X4_readRule l D cA ad gi gl x1 q h1 sz) q2071 q2073 qs89 q150 q2074 (by decide +kernel) ⟨hF, hN⟩ rfl hs hw hdg (fun u H9 locs9 hp B9 => ?_)
  have e1 := hp
  subst e1
  exact kk _ h2 H9 locs9 B9
def f_X4_readSum_j58 (a1j58 : Nat) (a2j58 : Nat) (x3j58 : Int32) (gij58 : GI) (glj58 : GL) (x4j58 : Int32) (x5j58 : Int32) : Option (GI × GL) :=
  (f_X4_known gij58 glj58 x5j58).bind fun q5 =>
  (f_X4_numeral q5.2.1 q5.2.2 0 x3j58).bind fun q6 =>
  (f_X4_isGood q6.2.1 ).bind fun q7 =>
  if q7 = 0 then
  (some (q6.2.1, q6.2.2))
  else
  ((g_ldP q6.2.1 a2j58 x4j58).bind fun v8 =>
  (g_stP q6.2.1 a2j58 x4j58 (v8 ||| (1 <<< (q5.1 &&& 31)))).bind fun gi9 =>
  (g_stP gi9 a1j58 ((3 * x4j58) + q5.1) q6.1).bind fun gi10 =>
  some (gi10, q6.2.2))
def f_X4_readSum (gi : GI) (gl : GL) (a1 : Nat) (a2 : Nat) (x3 : Int32) : Option (GI × GL) :=
  (f_X4_manHere gi gl ).bind fun q1 =>
  (f_X4_known gi gl q1).bind fun q2 =>
  (f_X4_isGood q2.2.1 ).bind fun q3 =>
  if q3 = 0 then
  (some (q2.2.1, q2.2.2))
  else
  ((f_X4_kindHere q2.2.1 q2.2.2 ).bind fun q4 =>
  if q4 < 0 then
  (f_X4_readSum_j58 a1 a2 x3 q2.2.1 q2.2.2 ((5 * (gi 0 42)) + q2.1) q4)
  else
  ((g_ldP q2.2.1 a2 ((5 * (gi 0 42)) + q2.1)).bind fun v11 =>
  if ((v11 >>> (q4 &&& 31)) &&& 1) = 1 then
  ((f_X4_fails q2.2.1 3 (q2.2.1 0 6)).bind fun q12 =>
  f_X4_readSum_j58 a1 a2 x3 q12 q2.2.2 ((5 * (gi 0 42)) + q2.1) q4)
  else
  (f_X4_readSum_j58 a1 a2 x3 q2.2.1 q2.2.2 ((5 * (gi 0 42)) + q2.1) q4)))
set_option maxHeartbeats 400000 in
theorem w_X4_readSum (l : Launch) (D : va_G) (cA : Nat → ClassId) (ad : Nat → Nat) (gi : GI) (gl : GL) (a1 : Nat) (a2 : Nat) (x3 : Int32) (r : GI × GL) (h : f_X4_readSum gi gl a1 a2 x3 = some r) (sz : Nat) : Met l yX4_readSum (ws_ yX4_readSum cX4_readSum 7 (none)) ({ frames := 3, cells := 0, slots := 0, locals := 67 } : Room) (va_Pc [.ref (ad 0), .ref (ad a1), .ref (ad a2), .int x3] (MPre D cA ad gi gl sz)) (va_Qv (fun u => (u.1, u.2) = r) (MPost D cA ad) (MA ad sz)) 0 0 (MA ad sz) := by
  refine mm_stV (by decide +kernel) rfl (Nat.le_of_ble_eq_true rfl) (fun p e s m args below meth c R Q A ls C hF hN B hret hL => ?_) sz
  have hx := C.1
  have hb := C.2.1
  have hL : lv_has ls 7 [(0, .ref (ad 0)), (1, .ref (ad a1)), (2, .ref (ad a2)), (3, .int x3)] := hL
  unfold f_X4_readSum at h
  have hj58 : ∀ (gij58 : GI) (glj58 : GL) (x4j58 : Int32) (x5j58 : Int32) (H : Heap) (locs : List Loc) (ls : Array Slot), f_X4_readSum_j58 a1 a2 x3 gij58 glj58 x4j58 x5j58 = some r → MB D cA ad A s gij58 glj58 H locs → lv_has ls 7 [(0, .ref (ad 0)), (1, .ref (ad a1)), (2, .ref (ad a2)), (3, .int x3), (4, .int x4j58), (5, .int x5j58)] → W p l e R s m args below meth c H locs 0 0 Q (F0 m 58 ls []) := by
    intro gij58 glj58 x4j58 x5j58 H locs ls h B hL
    unfold f_X4_readSum_j58 at h
    refine lv_aload_n hx hb dX4_readSum_58 rfl (lv_at hL 0 rfl) ?_
    refine lv_iload hx hb dX4_readSum_59 (lv_at hL 5 rfl) ?_
    refine k_X4_known C B (Nat.le_trans (Nat.le_of_ble_eq_true rfl) hF) (Nat.le_trans (Nat.le_of_ble_eq_true rfl) hN) hL.1 (Nat.le_of_ble_eq_true rfl) h dX4_readSum_61 (fun q5 h H locs B => ?_)
    refine lv_istore (lv' := [(5, .int q5.1), (0, .ref (ad 0)), (1, .ref (ad a1)), (2, .ref (ad a2)), (3, .int x3), (4, .int x4j58)]) hx hb dX4_readSum_64 hL (by decide) rfl (fun ls hL => ?_)
    refine lv_aload_n hx hb dX4_readSum_66 rfl (lv_at hL 1 rfl) ?_
    refine lv_iconst (v := 0) hx hb dX4_readSum_67 (by decide) ?_
    refine lv_iload_n hx hb dX4_readSum_68 rfl (lv_at hL 4 rfl) ?_
    refine k_X4_numeral C B (Nat.le_trans (Nat.le_of_ble_eq_true rfl) hF) (Nat.le_trans (Nat.le_of_ble_eq_true rfl) hN) hL.1 (Nat.le_of_ble_eq_true rfl) h dX4_readSum_69 (fun q6 h H locs B => ?_)
    refine lv_istore (lv' := [(6, .int q6.1), (5, .int q5.1), (0, .ref (ad 0)), (1, .ref (ad a1)), (2, .ref (ad a2)), (3, .int x3), (4, .int x4j58)]) hx hb dX4_readSum_72 hL (by decide) rfl (fun ls hL => ?_)
    refine lv_aload_n hx hb dX4_readSum_74 rfl (lv_at hL 2 rfl) ?_
    refine k_X4_isGood C B (Nat.le_trans (Nat.le_of_ble_eq_true rfl) hF) (Nat.le_trans (Nat.le_of_ble_eq_true rfl) hN) hL.1 (Nat.le_of_ble_eq_true rfl) h dX4_readSum_75 (fun q7 h H locs B => ?_)
    refine gg_if_ne hx hb 82 h dX4_readSum_78 (by decide) (fun h => ?_) (fun h => ?_)
    · refine lv_aload_n hx hb dX4_readSum_82 rfl (lv_at hL 4 rfl) ?_
      refine lv_iload hx hb dX4_readSum_83 (lv_at hL 6 rfl) ?_
      refine lv_dup2_11 hx hb dX4_readSum_85 rfl rfl ?_
      refine mm_ialdP C B h dX4_readSum_86 (fun v8 h => ?_)
      refine lv_iconst (v := 1) hx hb dX4_readSum_87 (by decide) ?_
      refine lv_iload hx hb dX4_readSum_88 (lv_at hL 1 rfl) ?_
      refine lv_ishl hx hb dX4_readSum_90 ?_
      refine lv_ior hx hb dX4_readSum_91 ?_
      refine mm_iastP C B h dX4_readSum_92 (fun gi9 h H locs B => ?_)
      refine lv_aload_n hx hb dX4_readSum_93 rfl (lv_at hL 3 rfl) ?_
      refine lv_iconst (v := 3) hx hb dX4_readSum_94 (by decide) ?_
      refine lv_iload hx hb dX4_readSum_95 (lv_at hL 6 rfl) ?_
      refine lv_imul hx hb dX4_readSum_97 ?_
      refine lv_iload hx hb dX4_readSum_98 (lv_at hL 1 rfl) ?_
      refine lv_iadd hx hb dX4_readSum_100 ?_
      refine lv_iload hx hb dX4_readSum_101 (lv_at hL 0 rfl) ?_
      refine mm_iastP C B h dX4_readSum_103 (fun gi10 h H locs B => ?_)
      exact hret _ _ _ _ _ _ (Option.some.inj h) B dX4_readSum_104
    · exact hret _ _ _ _ _ _ (Option.some.inj h) B dX4_readSum_81
  refine lv_iconst (v := 5) hx hb dX4_readSum_0 (by decide) ?_
  refine lv_aload_n hx hb dX4_readSum_1 rfl (lv_at hL 0 rfl) ?_
  refine mg_42 C B dX4_readSum_2 ?_
  refine lv_imul hx hb dX4_readSum_5 ?_
  refine lv_aload_n hx hb dX4_readSum_6 rfl (lv_at hL 0 rfl) ?_
  refine lv_aload_n hx hb dX4_readSum_7 rfl (lv_at hL 0 rfl) ?_
  refine k_X4_manHere C B (Nat.le_trans (Nat.le_of_ble_eq_true rfl) hF) (Nat.le_trans (Nat.le_of_ble_eq_true rfl) hN) hL.1 (Nat.le_of_ble_eq_true rfl) h dX4_readSum_8 (fun q1 h H locs B => ?_)
  refine k_X4_known C B (Nat.le_trans (Nat.le_of_ble_eq_true rfl) hF) (Nat.le_trans (Nat.le_of_ble_eq_true rfl) hN) hL.1 (Nat.le_of_ble_eq_true rfl) h dX4_readSum_11 (fun q2 h H locs B => ?_)
  refine lv_iadd hx hb dX4_readSum_14 ?_
  refine lv_istore (lv' := [(4, .int ((5 * (gi 0 42)) + q2.1)), (0, .ref (ad 0)), (1, .ref (ad a1)), (2, .ref (ad a2)), (3, .int x3)]) hx hb dX4_readSum_15 hL (by decide) rfl (fun ls hL => ?_)
  refine lv_aload_n hx hb dX4_readSum_17 rfl (lv_at hL 1 rfl) ?_
  refine k_X4_isGood C B (Nat.le_trans (Nat.le_of_ble_eq_true rfl) hF) (Nat.le_trans (Nat.le_of_ble_eq_true rfl) hN) hL.1 (Nat.le_of_ble_eq_true rfl) h dX4_readSum_18 (fun q3 h H locs B => ?_)
  refine gg_if_ne hx hb 25 h dX4_readSum_21 (by decide) (fun h => ?_) (fun h => ?_)
  · refine lv_aload_n hx hb dX4_readSum_25 rfl (lv_at hL 1 rfl) ?_
    refine k_X4_kindHere C B (Nat.le_trans (Nat.le_of_ble_eq_true rfl) hF) (Nat.le_trans (Nat.le_of_ble_eq_true rfl) hN) hL.1 (Nat.le_of_ble_eq_true rfl) h dX4_readSum_26 (fun q4 h H locs B => ?_)
    refine lv_istore (lv' := [(5, .int q4), (4, .int ((5 * (gi 0 42)) + q2.1)), (0, .ref (ad 0)), (1, .ref (ad a1)), (2, .ref (ad a2)), (3, .int x3)]) hx hb dX4_readSum_29 hL (by decide) rfl (fun ls hL => ?_)
    refine lv_iload hx hb dX4_readSum_31 (lv_at hL 0 rfl) ?_
    refine gg_if_lt hx hb 58 h dX4_readSum_33 (by decide) (fun h => ?_) (fun h => ?_)
    · exact hj58 _ _ _ _ _ _ _ h B (lv_sub hL [2, 3, 4, 5, 1, 0] rfl)
    · refine lv_aload_n hx hb dX4_readSum_36 rfl (lv_at hL 4 rfl) ?_
      refine lv_iload hx hb dX4_readSum_37 (lv_at hL 1 rfl) ?_
      refine mm_ialdP C B h dX4_readSum_39 (fun v11 h => ?_)
      refine lv_iload hx hb dX4_readSum_40 (lv_at hL 0 rfl) ?_
      refine lv_ishr hx hb dX4_readSum_42 ?_
      refine lv_iconst (v := 1) hx hb dX4_readSum_43 (by decide) ?_
      refine lv_iand hx hb dX4_readSum_44 ?_
      refine lv_iconst (v := 1) hx hb dX4_readSum_45 (by decide) ?_
      refine gg_icmp_ne hx hb 58 h dX4_readSum_46 (by decide) (fun h => ?_) (fun h => ?_)
      · exact hj58 _ _ _ _ _ _ _ h B (lv_sub hL [2, 3, 4, 5, 1, 0] rfl)
      · refine lv_aload_n hx hb dX4_readSum_49 rfl (lv_at hL 2 rfl) ?_
        refine lv_iconst (v := 3) hx hb dX4_readSum_50 (by decide) ?_
        refine lv_aload_n hx hb dX4_readSum_51 rfl (lv_at hL 2 rfl) ?_
        refine mg_6 C B dX4_readSum_52 ?_
        refine k_X4_fails C B (Nat.le_trans (Nat.le_of_ble_eq_true rfl) hF) (Nat.le_trans (Nat.le_of_ble_eq_true rfl) hN) hL.1 (Nat.le_of_ble_eq_true rfl) h dX4_readSum_55 (fun q12 h H locs B => ?_)
        exact hj58 _ _ _ _ _ _ _ h B (lv_sub hL [2, 3, 4, 5, 1, 0] rfl)
  · exact hret _ _ _ _ _ _ (Option.some.inj h) B dX4_readSum_24
theorem k_X4_readSum {p : Program} {l : Launch} {e : Env} {R : Room} {s : State} {m : MethodId} {args : Array Value} {below : List Frame} {meth : Method} {c : Code} {H : Heap} {locs : List Loc} {Q : State → Prop} {pc : Nat} {ls : Array Slot} {rest : List Value} {cc : ByteArray} {nL : Nat} {D : va_G} {cA : Nat → ClassId} {ad : Nat → Nat} {A : Nat → Prop} {gi : GI} {gl : GL} {α : Type} {r : α} {a1 : Nat} {a2 : Nat} {x3 : Int32} {ff : (GI × GL) → Option α} (C : CallFix p m c cc nL s args lw_all RX4) (B : MB D cA ad A s gi gl H locs) (hF : 4 ≤ R.frames) (hN : 93 ≤ R.locals) (hs : ls.size = nL) (hw : (rest.map fun v => v.category).sum ≤ 8) (h : (f_X4_readSum gi gl a1 a2 x3).bind ff = some r) (hdg : decode cc pc = .ok (.invokevirtual 321, 3)) (kk : ∀ q, ff q = some r → ∀ (H' : Heap) (locs' : List Loc), MB D cA ad A s q.1 q.2 H' locs' → W p l e R s m args below meth c H' locs' 0 0 Q (F0 m (pc + 3) ls (rest))) : W p l e R s m args below meth c H locs 0 0 Q (F0 m pc ls (.int x3 :: .ref (ad a2) :: .ref (ad a1) :: .ref (ad 0) :: rest)) := by
  obtain ⟨q, h1, h2⟩ := g_ob h
  refine mm_cVV (As := [.ref (ad a1), .ref (ad a2), .int x3]) (rest := rest) (n := 3) C B (fun sz => w_X4_readSum l D cA ad gi gl a1 a2 x3 q h1 sz) q2055 q2057 qs85 q150 q2058 (by decide +kernel) ⟨hF, hN⟩ rfl hs hw hdg (fun u H9 locs9 hp B9 => ?_)
  have e1 := hp
  subst e1
  exact kk _ h2 H9 locs9 B9
def f_X4_readLine_j307 (gij307 : GI) (glj307 : GL) : Option (GI × GL) :=
  (f_X4_isSignHere gij307 59).bind fun q4 =>
  (f_X4_must gij307 glj307 q4).bind fun q5 =>
  some (q5.1, q5.2)
def f_X4_readLine_j272 (gij272 : GI) (glj272 : GL) (x1j272 : Int64) : Option (GI × GL) :=
  if (lg_cmp x1j272 1685217655) = 0 then
  ((g_st gij272 25 2 (gij272 0 42) (vp_nar .boolean 1)).bind fun gi6 =>
  (f_X4_numeral gi6 glj272 0 999).bind fun q7 =>
  (g_st q7.2.1 9 2 (gi6 0 42) q7.1).bind fun gi8 =>
  f_X4_readLine_j307 gi8 q7.2.2)
  else
  (f_X4_readLine_j307 gij272 glj272)
def f_X4_readLine_j238 (gij238 : GI) (glj238 : GL) (x1j238 : Int64) : Option (GI × GL) :=
  if (lg_cmp x1j238 448546566771) = 0 then
  ((g_st gij238 24 2 (gij238 0 42) (vp_nar .boolean 1)).bind fun gi9 =>
  (f_X4_numeral gi9 glj238 1 8).bind fun q10 =>
  (g_st q10.2.1 8 2 (gi9 0 42) q10.1).bind fun gi11 =>
  f_X4_readLine_j272 gi11 q10.2.2 x1j238)
  else
  (f_X4_readLine_j272 gij238 glj238 x1j238)
def f_X4_readLine_j215 (gij215 : GI) (glj215 : GL) (x1j215 : Int64) : Option (GI × GL) :=
  if (lg_cmp x1j215 1735552887) = 0 then
  ((g_st gij215 23 2 (gij215 0 42) (vp_nar .boolean 1)).bind fun gi12 =>
  (f_X4_readRule gi12 glj215 0).bind fun q13 =>
  f_X4_readLine_j238 q13.1 q13.2 x1j215)
  else
  (f_X4_readLine_j238 gij215 glj215 x1j215)
def f_X4_readLine_j166 (gij166 : GI) (glj166 : GL) (x1j166 : Int64) : Option (GI × GL) :=
  if (lg_cmp x1j166 1651470187) = 0 then
  ((g_ld gij166 5 2 (gij166 0 42)).bind fun v14 =>
  (f_X4_numeral gij166 glj166 0 99).bind fun q15 =>
  (g_st q15.2.1 20 10 ((5 * (gij166 0 42)) + v14) q15.1).bind fun gi16 =>
  (g_ld gi16 5 2 (gi16 0 42)).bind fun v17 =>
  (g_st gi16 5 2 (gi16 0 42) (v17 + 1)).bind fun gi18 =>
  f_X4_readLine_j215 gi18 q15.2.2 x1j166)
  else
  (f_X4_readLine_j215 gij166 glj166 x1j166)
def f_X4_readLine_j154 (gij154 : GI) (glj154 : GL) (x1j154 : Int64) : Option (GI × GL) :=
  if (lg_cmp x1j154 1918989413) = 0 then
  ((f_X4_readRate gij154 glj154 ).bind fun q19 =>
  f_X4_readLine_j166 q19.1 q19.2 x1j154)
  else
  (f_X4_readLine_j166 gij154 glj154 x1j154)
def f_X4_readLine_j142 (gij142 : GI) (glj142 : GL) (x1j142 : Int64) : Option (GI × GL) :=
  if (lg_cmp x1j142 448377677669) = 0 then
  ((f_X4_readHedge gij142 glj142 ).bind fun q20 =>
  f_X4_readLine_j154 q20.1 q20.2 x1j142)
  else
  (f_X4_readLine_j154 gij142 glj142 x1j142)
def f_X4_readLine_j120 (gij120 : GI) (glj120 : GL) (x1j120 : Int64) : Option (GI × GL) :=
  if (lg_cmp x1j120 7364985) = 0 then
  ((f_X4_readSum gij120 glj120 15 17 9).bind fun q21 =>
  f_X4_readLine_j142 q21.1 q21.2 x1j120)
  else
  (f_X4_readLine_j142 gij120 glj120 x1j120)
def f_X4_readLine_j98 (gij98 : GI) (glj98 : GL) (x1j98 : Int64) : Option (GI × GL) :=
  if (lg_cmp x1j98 483006772069) = 0 then
  ((f_X4_readSum gij98 glj98 14 16 60).bind fun q22 =>
  f_X4_readLine_j120 q22.1 q22.2 x1j98)
  else
  (f_X4_readLine_j120 gij98 glj98 x1j98)
def f_X4_readLine_j86 (gij86 : GI) (glj86 : GL) (x1j86 : Int64) : Option (GI × GL) :=
  if (lg_cmp x1j86 7168366) = 0 then
  ((f_X4_readMan gij86 glj86 ).bind fun q23 =>
  f_X4_readLine_j98 q23.1 q23.2 x1j86)
  else
  (f_X4_readLine_j98 gij86 glj86 x1j86)
def f_X4_readLine_j24 (gij24 : GI) (glj24 : GL) (x1j24 : Int64) : Option (GI × GL) :=
  (f_X4_isGood gij24 ).bind fun q2 =>
  if q2 = 0 then
  (some (gij24, glj24))
  else
  ((f_X4_goOn gij24 glj24 ).bind fun q3 =>
  if (lg_cmp x1j24 1802071652) = 0 then
  ((g_ld q3.1 3 2 (q3.1 0 42)).bind fun v24 =>
  (f_X4_kindHere q3.1 q3.2 ).bind fun q25 =>
  (f_X4_fresh q3.1 q3.2 q25).bind fun q26 =>
  (g_stL q26.2.2 26 6 ((3 * (q3.1 0 42)) + v24) q26.1).bind fun gl27 =>
  (g_ld q26.2.1 3 2 (q26.2.1 0 42)).bind fun v28 =>
  (g_st q26.2.1 3 2 (q26.2.1 0 42) (v28 + 1)).bind fun gi29 =>
  f_X4_readLine_j86 gi29 gl27 x1j24)
  else
  (f_X4_readLine_j86 q3.1 q3.2 x1j24))
def f_X4_readLine_j20 (gij20 : GI) (glj20 : GL) (x1j20 : Int64) : Option (GI × GL) :=
  (f_X4_misplaced gij20 ).bind fun q1 =>
  f_X4_readLine_j24 q1 glj20 x1j20
def f_X4_readLine (gi : GI) (gl : GL)  : Option (GI × GL) :=
  if (gi 0 8) = 3 then
  ((f_X4_isFull gi gl ).bind fun q30 =>
  if q30 = 0 then
  (f_X4_readLine_j24 gi gl (gl 0 10))
  else
  (f_X4_readLine_j20 gi gl (gl 0 10)))
  else
  (f_X4_readLine_j20 gi gl (gl 0 10))
set_option maxHeartbeats 400000 in
theorem w_X4_readLine (l : Launch) (D : va_G) (cA : Nat → ClassId) (ad : Nat → Nat) (gi : GI) (gl : GL)  (r : GI × GL) (h : f_X4_readLine gi gl  = some r) (sz : Nat) : Met l yX4_readLine (ws_ yX4_readLine cX4_readLine 3 (none)) ({ frames := 6, cells := 0, slots := 0, locals := 128 } : Room) (va_Pc [.ref (ad 0)] (MPre D cA ad gi gl sz)) (va_Qv (fun u => (u.1, u.2) = r) (MPost D cA ad) (MA ad sz)) 0 0 (MA ad sz) := by
  refine mm_stV (by decide +kernel) rfl (Nat.le_of_ble_eq_true rfl) (fun p e s m args below meth c R Q A ls C hF hN B hret hL => ?_) sz
  have hx := C.1
  have hb := C.2.1
  have hL : lv_has ls 3 [(0, .ref (ad 0))] := hL
  unfold f_X4_readLine at h
  have hj307 : ∀ (gij307 : GI) (glj307 : GL) (H : Heap) (locs : List Loc) (ls : Array Slot), f_X4_readLine_j307 gij307 glj307 = some r → MB D cA ad A s gij307 glj307 H locs → lv_has ls 3 [(0, .ref (ad 0))] → W p l e R s m args below meth c H locs 0 0 Q (F0 m 307 ls []) := by
    intro gij307 glj307 H locs ls h B hL
    unfold f_X4_readLine_j307 at h
    refine lv_aload_n hx hb dX4_readLine_307 rfl (lv_at hL 0 rfl) ?_
    refine lv_aload_n hx hb dX4_readLine_308 rfl (lv_at hL 0 rfl) ?_
    refine lv_bipush (v := 59) hx hb dX4_readLine_309 (by decide) ?_
    refine k_X4_isSignHere C B (Nat.le_trans (Nat.le_of_ble_eq_true rfl) hF) (Nat.le_trans (Nat.le_of_ble_eq_true rfl) hN) hL.1 (Nat.le_of_ble_eq_true rfl) h dX4_readLine_311 (fun q4 h H locs B => ?_)
    refine k_X4_must C B (Nat.le_trans (Nat.le_of_ble_eq_true rfl) hF) (Nat.le_trans (Nat.le_of_ble_eq_true rfl) hN) hL.1 (Nat.le_of_ble_eq_true rfl) h dX4_readLine_314 (fun q5 h H locs B => ?_)
    exact hret _ _ _ _ _ _ (Option.some.inj h) B dX4_readLine_317
  have hj272 : ∀ (gij272 : GI) (glj272 : GL) (x1j272 : Int64) (H : Heap) (locs : List Loc) (ls : Array Slot), f_X4_readLine_j272 gij272 glj272 x1j272 = some r → MB D cA ad A s gij272 glj272 H locs → lv_has ls 3 [(0, .ref (ad 0)), (1, .long x1j272)] → W p l e R s m args below meth c H locs 0 0 Q (F0 m 272 ls []) := by
    intro gij272 glj272 x1j272 H locs ls h B hL
    unfold f_X4_readLine_j272 at h
    refine lv_lload_n hx hb dX4_readLine_272 rfl (lv_at hL 1 rfl) ?_
    refine lv_ldc2 (v := 1685217655) hx hb C.2.2.2.1 (C.2.2.2.2 _ q1984) dX4_readLine_273 ?_
    refine W.lcmp hx hb dX4_readLine_276 ?_
    refine gg_if_ne hx hb 307 h dX4_readLine_277 (by decide) (fun h => ?_) (fun h => ?_)
    · exact hj307 _ _ _ _ _ h B (lv_sub hL [0] rfl)
    · refine lv_aload_n hx hb dX4_readLine_280 rfl (lv_at hL 0 rfl) ?_
      refine mg_33 C B dX4_readLine_281 ?_
      refine lv_aload_n hx hb dX4_readLine_284 rfl (lv_at hL 0 rfl) ?_
      refine mg_42 C B dX4_readLine_285 ?_
      refine lv_iconst (v := 1) hx hb dX4_readLine_288 (by decide) ?_
      refine mm_zast C B (a := 25) (n := 2) (Nat.le_of_ble_eq_true rfl) rfl h dX4_readLine_289 (fun gi6 h H locs B => ?_)
      refine lv_aload_n hx hb dX4_readLine_290 rfl (lv_at hL 0 rfl) ?_
      refine mg_17 C B dX4_readLine_291 ?_
      refine lv_aload_n hx hb dX4_readLine_294 rfl (lv_at hL 0 rfl) ?_
      refine mg_42 C B dX4_readLine_295 ?_
      refine lv_aload_n hx hb dX4_readLine_298 rfl (lv_at hL 0 rfl) ?_
      refine lv_iconst (v := 0) hx hb dX4_readLine_299 (by decide) ?_
      refine lv_sipush (v := 999) hx hb dX4_readLine_300 (by decide) ?_
      refine k_X4_numeral C B (Nat.le_trans (Nat.le_of_ble_eq_true rfl) hF) (Nat.le_trans (Nat.le_of_ble_eq_true rfl) hN) hL.1 (Nat.le_of_ble_eq_true rfl) h dX4_readLine_303 (fun q7 h H locs B => ?_)
      refine mm_iast C B (a := 9) (n := 2) (Nat.le_of_ble_eq_true rfl) rfl h dX4_readLine_306 (fun gi8 h H locs B => ?_)
      exact hj307 _ _ _ _ _ h B (lv_sub hL [0] rfl)
  have hj238 : ∀ (gij238 : GI) (glj238 : GL) (x1j238 : Int64) (H : Heap) (locs : List Loc) (ls : Array Slot), f_X4_readLine_j238 gij238 glj238 x1j238 = some r → MB D cA ad A s gij238 glj238 H locs → lv_has ls 3 [(0, .ref (ad 0)), (1, .long x1j238)] → W p l e R s m args below meth c H locs 0 0 Q (F0 m 238 ls []) := by
    intro gij238 glj238 x1j238 H locs ls h B hL
    unfold f_X4_readLine_j238 at h
    refine lv_lload_n hx hb dX4_readLine_238 rfl (lv_at hL 1 rfl) ?_
    refine lv_ldc2 (v := 448546566771) hx hb C.2.2.2.1 (C.2.2.2.2 _ q1983) dX4_readLine_239 ?_
    refine W.lcmp hx hb dX4_readLine_242 ?_
    refine gg_if_ne hx hb 272 h dX4_readLine_243 (by decide) (fun h => ?_) (fun h => ?_)
    · exact hj272 _ _ _ _ _ _ h B (lv_sub hL [0, 1] rfl)
    · refine lv_aload_n hx hb dX4_readLine_246 rfl (lv_at hL 0 rfl) ?_
      refine mg_32 C B dX4_readLine_247 ?_
      refine lv_aload_n hx hb dX4_readLine_250 rfl (lv_at hL 0 rfl) ?_
      refine mg_42 C B dX4_readLine_251 ?_
      refine lv_iconst (v := 1) hx hb dX4_readLine_254 (by decide) ?_
      refine mm_zast C B (a := 24) (n := 2) (Nat.le_of_ble_eq_true rfl) rfl h dX4_readLine_255 (fun gi9 h H locs B => ?_)
      refine lv_aload_n hx hb dX4_readLine_256 rfl (lv_at hL 0 rfl) ?_
      refine mg_16 C B dX4_readLine_257 ?_
      refine lv_aload_n hx hb dX4_readLine_260 rfl (lv_at hL 0 rfl) ?_
      refine mg_42 C B dX4_readLine_261 ?_
      refine lv_aload_n hx hb dX4_readLine_264 rfl (lv_at hL 0 rfl) ?_
      refine lv_iconst (v := 1) hx hb dX4_readLine_265 (by decide) ?_
      refine lv_bipush (v := 8) hx hb dX4_readLine_266 (by decide) ?_
      refine k_X4_numeral C B (Nat.le_trans (Nat.le_of_ble_eq_true rfl) hF) (Nat.le_trans (Nat.le_of_ble_eq_true rfl) hN) hL.1 (Nat.le_of_ble_eq_true rfl) h dX4_readLine_268 (fun q10 h H locs B => ?_)
      refine mm_iast C B (a := 8) (n := 2) (Nat.le_of_ble_eq_true rfl) rfl h dX4_readLine_271 (fun gi11 h H locs B => ?_)
      exact hj272 _ _ _ _ _ _ h B (lv_sub hL [0, 1] rfl)
  have hj215 : ∀ (gij215 : GI) (glj215 : GL) (x1j215 : Int64) (H : Heap) (locs : List Loc) (ls : Array Slot), f_X4_readLine_j215 gij215 glj215 x1j215 = some r → MB D cA ad A s gij215 glj215 H locs → lv_has ls 3 [(0, .ref (ad 0)), (1, .long x1j215)] → W p l e R s m args below meth c H locs 0 0 Q (F0 m 215 ls []) := by
    intro gij215 glj215 x1j215 H locs ls h B hL
    unfold f_X4_readLine_j215 at h
    refine lv_lload_n hx hb dX4_readLine_215 rfl (lv_at hL 1 rfl) ?_
    refine lv_ldc2 (v := 1735552887) hx hb C.2.2.2.1 (C.2.2.2.2 _ q1982) dX4_readLine_216 ?_
    refine W.lcmp hx hb dX4_readLine_219 ?_
    refine gg_if_ne hx hb 238 h dX4_readLine_220 (by decide) (fun h => ?_) (fun h => ?_)
    · exact hj238 _ _ _ _ _ _ h B (lv_sub hL [0, 1] rfl)
    · refine lv_aload_n hx hb dX4_readLine_223 rfl (lv_at hL 0 rfl) ?_
      refine mg_31 C B dX4_readLine_224 ?_
      refine lv_aload_n hx hb dX4_readLine_227 rfl (lv_at hL 0 rfl) ?_
      refine mg_42 C B dX4_readLine_228 ?_
      refine lv_iconst (v := 1) hx hb dX4_readLine_231 (by decide) ?_
      refine mm_zast C B (a := 23) (n := 2) (Nat.le_of_ble_eq_true rfl) rfl h dX4_readLine_232 (fun gi12 h H locs B => ?_)
      refine lv_aload_n hx hb dX4_readLine_233 rfl (lv_at hL 0 rfl) ?_
      refine lv_iconst (v := 0) hx hb dX4_readLine_234 (by decide) ?_
      refine k_X4_readRule C B (Nat.le_trans (Nat.le_of_ble_eq_true rfl) hF) (Nat.le_trans (Nat.le_of_ble_eq_true rfl) hN) hL.1 (Nat.le_of_ble_eq_true rfl) h dX4_readLine_235 (fun q13 h H locs B => ?_)
      exact hj238 _ _ _ _ _ _ h B (lv_sub hL [0, 1] rfl)
  have hj166 : ∀ (gij166 : GI) (glj166 : GL) (x1j166 : Int64) (H : Heap) (locs : List Loc) (ls : Array Slot), f_X4_readLine_j166 gij166 glj166 x1j166 = some r → MB D cA ad A s gij166 glj166 H locs → lv_has ls 3 [(0, .ref (ad 0)), (1, .long x1j166)] → W p l e R s m args below meth c H locs 0 0 Q (F0 m 166 ls []) := by
    intro gij166 glj166 x1j166 H locs ls h B hL
    unfold f_X4_readLine_j166 at h
    refine lv_lload_n hx hb dX4_readLine_166 rfl (lv_at hL 1 rfl) ?_
    refine lv_ldc2 (v := 1651470187) hx hb C.2.2.2.1 (C.2.2.2.2 _ q1981) dX4_readLine_167 ?_
    refine W.lcmp hx hb dX4_readLine_170 ?_
    refine gg_if_ne hx hb 215 h dX4_readLine_171 (by decide) (fun h => ?_) (fun h => ?_)
    · exact hj215 _ _ _ _ _ _ h B (lv_sub hL [0, 1] rfl)
    · refine lv_aload_n hx hb dX4_readLine_174 rfl (lv_at hL 0 rfl) ?_
      refine mg_28 C B dX4_readLine_175 ?_
      refine lv_iconst (v := 5) hx hb dX4_readLine_178 (by decide) ?_
      refine lv_aload_n hx hb dX4_readLine_179 rfl (lv_at hL 0 rfl) ?_
      refine mg_42 C B dX4_readLine_180 ?_
      refine lv_imul hx hb dX4_readLine_183 ?_
      refine lv_aload_n hx hb dX4_readLine_184 rfl (lv_at hL 0 rfl) ?_
      refine mg_13 C B dX4_readLine_185 ?_
      refine lv_aload_n hx hb dX4_readLine_188 rfl (lv_at hL 0 rfl) ?_
      refine mg_42 C B dX4_readLine_189 ?_
      refine mm_iald C B (a := 5) (n := 2) (Nat.le_of_ble_eq_true rfl) rfl h dX4_readLine_192 (fun v14 h => ?_)
      refine lv_iadd hx hb dX4_readLine_193 ?_
      refine lv_aload_n hx hb dX4_readLine_194 rfl (lv_at hL 0 rfl) ?_
      refine lv_iconst (v := 0) hx hb dX4_readLine_195 (by decide) ?_
      refine lv_bipush (v := 99) hx hb dX4_readLine_196 (by decide) ?_
      refine k_X4_numeral C B (Nat.le_trans (Nat.le_of_ble_eq_true rfl) hF) (Nat.le_trans (Nat.le_of_ble_eq_true rfl) hN) hL.1 (Nat.le_of_ble_eq_true rfl) h dX4_readLine_198 (fun q15 h H locs B => ?_)
      refine mm_iast C B (a := 20) (n := 10) (Nat.le_of_ble_eq_true rfl) rfl h dX4_readLine_201 (fun gi16 h H locs B => ?_)
      refine lv_aload_n hx hb dX4_readLine_202 rfl (lv_at hL 0 rfl) ?_
      refine mg_13 C B dX4_readLine_203 ?_
      refine lv_aload_n hx hb dX4_readLine_206 rfl (lv_at hL 0 rfl) ?_
      refine mg_42 C B dX4_readLine_207 ?_
      refine lv_dup2_11 hx hb dX4_readLine_210 rfl rfl ?_
      refine mm_iald C B (a := 5) (n := 2) (Nat.le_of_ble_eq_true rfl) rfl h dX4_readLine_211 (fun v17 h => ?_)
      refine lv_iconst (v := 1) hx hb dX4_readLine_212 (by decide) ?_
      refine lv_iadd hx hb dX4_readLine_213 ?_
      refine mm_iast C B (a := 5) (n := 2) (Nat.le_of_ble_eq_true rfl) rfl h dX4_readLine_214 (fun gi18 h H locs B => ?_)
      exact hj215 _ _ _ _ _ _ h B (lv_sub hL [0, 1] rfl)
  have hj154 : ∀ (gij154 : GI) (glj154 : GL) (x1j154 : Int64) (H : Heap) (locs : List Loc) (ls : Array Slot), f_X4_readLine_j154 gij154 glj154 x1j154 = some r → MB D cA ad A s gij154 glj154 H locs → lv_has ls 3 [(0, .ref (ad 0)), (1, .long x1j154)] → W p l e R s m args below meth c H locs 0 0 Q (F0 m 154 ls []) := by
    intro gij154 glj154 x1j154 H locs ls h B hL
    unfold f_X4_readLine_j154 at h
    refine lv_lload_n hx hb dX4_readLine_154 rfl (lv_at hL 1 rfl) ?_
    refine lv_ldc2 (v := 1918989413) hx hb C.2.2.2.1 (C.2.2.2.2 _ q1979) dX4_readLine_155 ?_
    refine W.lcmp hx hb dX4_readLine_158 ?_
    refine gg_if_ne hx hb 166 h dX4_readLine_159 (by decide) (fun h => ?_) (fun h => ?_)
    · exact hj166 _ _ _ _ _ _ h B (lv_sub hL [0, 1] rfl)
    · refine lv_aload_n hx hb dX4_readLine_162 rfl (lv_at hL 0 rfl) ?_
      refine k_X4_readRate C B (Nat.le_trans (Nat.le_of_ble_eq_true rfl) hF) (Nat.le_trans (Nat.le_of_ble_eq_true rfl) hN) hL.1 (Nat.le_of_ble_eq_true rfl) h dX4_readLine_163 (fun q19 h H locs B => ?_)
      exact hj166 _ _ _ _ _ _ h B (lv_sub hL [0, 1] rfl)
  have hj142 : ∀ (gij142 : GI) (glj142 : GL) (x1j142 : Int64) (H : Heap) (locs : List Loc) (ls : Array Slot), f_X4_readLine_j142 gij142 glj142 x1j142 = some r → MB D cA ad A s gij142 glj142 H locs → lv_has ls 3 [(0, .ref (ad 0)), (1, .long x1j142)] → W p l e R s m args below meth c H locs 0 0 Q (F0 m 142 ls []) := by
    intro gij142 glj142 x1j142 H locs ls h B hL
    unfold f_X4_readLine_j142 at h
    refine lv_lload_n hx hb dX4_readLine_142 rfl (lv_at hL 1 rfl) ?_
    refine lv_ldc2 (v := 448377677669) hx hb C.2.2.2.1 (C.2.2.2.2 _ q1978) dX4_readLine_143 ?_
    refine W.lcmp hx hb dX4_readLine_146 ?_
    refine gg_if_ne hx hb 154 h dX4_readLine_147 (by decide) (fun h => ?_) (fun h => ?_)
    · exact hj154 _ _ _ _ _ _ h B (lv_sub hL [0, 1] rfl)
    · refine lv_aload_n hx hb dX4_readLine_150 rfl (lv_at hL 0 rfl) ?_
      refine k_X4_readHedge C B (Nat.le_trans (Nat.le_of_ble_eq_true rfl) hF) (Nat.le_trans (Nat.le_of_ble_eq_true rfl) hN) hL.1 (Nat.le_of_ble_eq_true rfl) h dX4_readLine_151 (fun q20 h H locs B => ?_)
      exact hj154 _ _ _ _ _ _ h B (lv_sub hL [0, 1] rfl)
  have hj120 : ∀ (gij120 : GI) (glj120 : GL) (x1j120 : Int64) (H : Heap) (locs : List Loc) (ls : Array Slot), f_X4_readLine_j120 gij120 glj120 x1j120 = some r → MB D cA ad A s gij120 glj120 H locs → lv_has ls 3 [(0, .ref (ad 0)), (1, .long x1j120)] → W p l e R s m args below meth c H locs 0 0 Q (F0 m 120 ls []) := by
    intro gij120 glj120 x1j120 H locs ls h B hL
    unfold f_X4_readLine_j120 at h
    refine lv_lload_n hx hb dX4_readLine_120 rfl (lv_at hL 1 rfl) ?_
    refine lv_ldc2 (v := 7364985) hx hb C.2.2.2.1 (C.2.2.2.2 _ q1977) dX4_readLine_121 ?_
    refine W.lcmp hx hb dX4_readLine_124 ?_
    refine gg_if_ne hx hb 142 h dX4_readLine_125 (by decide) (fun h => ?_) (fun h => ?_)
    · exact hj142 _ _ _ _ _ _ h B (lv_sub hL [0, 1] rfl)
    · refine lv_aload_n hx hb dX4_readLine_128 rfl (lv_at hL 0 rfl) ?_
      refine lv_aload_n hx hb dX4_readLine_129 rfl (lv_at hL 0 rfl) ?_
      refine mg_23 C B dX4_readLine_130 ?_
      refine lv_aload_n hx hb dX4_readLine_133 rfl (lv_at hL 0 rfl) ?_
      refine mg_25 C B dX4_readLine_134 ?_
      refine lv_bipush (v := 9) hx hb dX4_readLine_137 (by decide) ?_
      refine k_X4_readSum C B (Nat.le_trans (Nat.le_of_ble_eq_true rfl) hF) (Nat.le_trans (Nat.le_of_ble_eq_true rfl) hN) hL.1 (Nat.le_of_ble_eq_true rfl) h dX4_readLine_139 (fun q21 h H locs B => ?_)
      exact hj142 _ _ _ _ _ _ h B (lv_sub hL [0, 1] rfl)
  have hj98 : ∀ (gij98 : GI) (glj98 : GL) (x1j98 : Int64) (H : Heap) (locs : List Loc) (ls : Array Slot), f_X4_readLine_j98 gij98 glj98 x1j98 = some r → MB D cA ad A s gij98 glj98 H locs → lv_has ls 3 [(0, .ref (ad 0)), (1, .long x1j98)] → W p l e R s m args below meth c H locs 0 0 Q (F0 m 98 ls []) := by
    intro gij98 glj98 x1j98 H locs ls h B hL
    unfold f_X4_readLine_j98 at h
    refine lv_lload_n hx hb dX4_readLine_98 rfl (lv_at hL 1 rfl) ?_
    refine lv_ldc2 (v := 483006772069) hx hb C.2.2.2.1 (C.2.2.2.2 _ q1976) dX4_readLine_99 ?_
    refine W.lcmp hx hb dX4_readLine_102 ?_
    refine gg_if_ne hx hb 120 h dX4_readLine_103 (by decide) (fun h => ?_) (fun h => ?_)
    · exact hj120 _ _ _ _ _ _ h B (lv_sub hL [0, 1] rfl)
    · refine lv_aload_n hx hb dX4_readLine_106 rfl (lv_at hL 0 rfl) ?_
      refine lv_aload_n hx hb dX4_readLine_107 rfl (lv_at hL 0 rfl) ?_
      refine mg_22 C B dX4_readLine_108 ?_
      refine lv_aload_n hx hb dX4_readLine_111 rfl (lv_at hL 0 rfl) ?_
      refine mg_24 C B dX4_readLine_112 ?_
      refine lv_bipush (v := 60) hx hb dX4_readLine_115 (by decide) ?_
      refine k_X4_readSum C B (Nat.le_trans (Nat.le_of_ble_eq_true rfl) hF) (Nat.le_trans (Nat.le_of_ble_eq_true rfl) hN) hL.1 (Nat.le_of_ble_eq_true rfl) h dX4_readLine_117 (fun q22 h H locs B => ?_)
      exact hj120 _ _ _ _ _ _ h B (lv_sub hL [0, 1] rfl)
  have hj86 : ∀ (gij86 : GI) (glj86 : GL) (x1j86 : Int64) (H : Heap) (locs : List Loc) (ls : Array Slot), f_X4_readLine_j86 gij86 glj86 x1j86 = some r → MB D cA ad A s gij86 glj86 H locs → lv_has ls 3 [(0, .ref (ad 0)), (1, .long x1j86)] → W p l e R s m args below meth c H locs 0 0 Q (F0 m 86 ls []) := by
    intro gij86 glj86 x1j86 H locs ls h B hL
    unfold f_X4_readLine_j86 at h
    refine lv_lload_n hx hb dX4_readLine_86 rfl (lv_at hL 1 rfl) ?_
    refine lv_ldc2 (v := 7168366) hx hb C.2.2.2.1 (C.2.2.2.2 _ q1973) dX4_readLine_87 ?_
    refine W.lcmp hx hb dX4_readLine_90 ?_
    refine gg_if_ne hx hb 98 h dX4_readLine_91 (by decide) (fun h => ?_) (fun h => ?_)
    · exact hj98 _ _ _ _ _ _ h B (lv_sub hL [0, 1] rfl)
    · refine lv_aload_n hx hb dX4_readLine_94 rfl (lv_at hL 0 rfl) ?_
      refine k_X4_readMan C B (Nat.le_trans (Nat.le_of_ble_eq_true rfl) hF) (Nat.le_trans (Nat.le_of_ble_eq_true rfl) hN) hL.1 (Nat.le_of_ble_eq_true rfl) h dX4_readLine_95 (fun q23 h H locs B => ?_)
      exact hj98 _ _ _ _ _ _ h B (lv_sub hL [0, 1] rfl)
  have hj24 : ∀ (gij24 : GI) (glj24 : GL) (x1j24 : Int64) (H : Heap) (locs : List Loc) (ls : Array Slot), f_X4_readLine_j24 gij24 glj24 x1j24 = some r → MB D cA ad A s gij24 glj24 H locs → lv_has ls 3 [(0, .ref (ad 0)), (1, .long x1j24)] → W p l e R s m args below meth c H locs 0 0 Q (F0 m 24 ls []) := by
    intro gij24 glj24 x1j24 H locs ls h B hL
    unfold f_X4_readLine_j24 at h
    refine lv_aload_n hx hb dX4_readLine_24 rfl (lv_at hL 0 rfl) ?_
    refine k_X4_isGood C B (Nat.le_trans (Nat.le_of_ble_eq_true rfl) hF) (Nat.le_trans (Nat.le_of_ble_eq_true rfl) hN) hL.1 (Nat.le_of_ble_eq_true rfl) h dX4_readLine_25 (fun q2 h H locs B => ?_)
    refine gg_if_ne hx hb 32 h dX4_readLine_28 (by decide) (fun h => ?_) (fun h => ?_)
    · refine lv_aload_n hx hb dX4_readLine_32 rfl (lv_at hL 0 rfl) ?_
      refine k_X4_goOn C B (Nat.le_trans (Nat.le_of_ble_eq_true rfl) hF) (Nat.le_trans (Nat.le_of_ble_eq_true rfl) hN) hL.1 (Nat.le_of_ble_eq_true rfl) h dX4_readLine_33 (fun q3 h H locs B => ?_)
      refine lv_lload_n hx hb dX4_readLine_36 rfl (lv_at hL 1 rfl) ?_
      refine lv_ldc2 (v := 1802071652) hx hb C.2.2.2.1 (C.2.2.2.2 _ q1972) dX4_readLine_37 ?_
      refine W.lcmp hx hb dX4_readLine_40 ?_
      refine gg_if_ne hx hb 86 h dX4_readLine_41 (by decide) (fun h => ?_) (fun h => ?_)
      · exact hj86 _ _ _ _ _ _ h B (lv_sub hL [0, 1] rfl)
      · refine lv_aload_n hx hb dX4_readLine_44 rfl (lv_at hL 0 rfl) ?_
        refine mg_34 C B dX4_readLine_45 ?_
        refine lv_iconst (v := 3) hx hb dX4_readLine_48 (by decide) ?_
        refine lv_aload_n hx hb dX4_readLine_49 rfl (lv_at hL 0 rfl) ?_
        refine mg_42 C B dX4_readLine_50 ?_
        refine lv_imul hx hb dX4_readLine_53 ?_
        refine lv_aload_n hx hb dX4_readLine_54 rfl (lv_at hL 0 rfl) ?_
        refine mg_11 C B dX4_readLine_55 ?_
        refine lv_aload_n hx hb dX4_readLine_58 rfl (lv_at hL 0 rfl) ?_
        refine mg_42 C B dX4_readLine_59 ?_
        refine mm_iald C B (a := 3) (n := 2) (Nat.le_of_ble_eq_true rfl) rfl h dX4_readLine_62 (fun v24 h => ?_)
        refine lv_iadd hx hb dX4_readLine_63 ?_
        refine lv_aload_n hx hb dX4_readLine_64 rfl (lv_at hL 0 rfl) ?_
        refine lv_aload_n hx hb dX4_readLine_65 rfl (lv_at hL 0 rfl) ?_
        refine k_X4_kindHere C B (Nat.le_trans (Nat.le_of_ble_eq_true rfl) hF) (Nat.le_trans (Nat.le_of_ble_eq_true rfl) hN) hL.1 (Nat.le_of_ble_eq_true rfl) h dX4_readLine_66 (fun q25 h H locs B => ?_)
        refine k_X4_fresh C B (Nat.le_trans (Nat.le_of_ble_eq_true rfl) hF) (Nat.le_trans (Nat.le_of_ble_eq_true rfl) hN) hL.1 (Nat.le_of_ble_eq_true rfl) h dX4_readLine_69 (fun q26 h H locs B => ?_)
        refine mm_last C B (a := 26) (n := 6) (Nat.le_of_ble_eq_true rfl) rfl h dX4_readLine_72 (fun gl27 h H locs B => ?_)
        refine lv_aload_n hx hb dX4_readLine_73 rfl (lv_at hL 0 rfl) ?_
        refine mg_11 C B dX4_readLine_74 ?_
        refine lv_aload_n hx hb dX4_readLine_77 rfl (lv_at hL 0 rfl) ?_
        refine mg_42 C B dX4_readLine_78 ?_
        refine lv_dup2_11 hx hb dX4_readLine_81 rfl rfl ?_
        refine mm_iald C B (a := 3) (n := 2) (Nat.le_of_ble_eq_true rfl) rfl h dX4_readLine_82 (fun v28 h => ?_)
        refine lv_iconst (v := 1) hx hb dX4_readLine_83 (by decide) ?_
        refine lv_iadd hx hb dX4_readLine_84 ?_
        refine mm_iast C B (a := 3) (n := 2) (Nat.le_of_ble_eq_true rfl) rfl h dX4_readLine_85 (fun gi29 h H locs B => ?_)
        exact hj86 _ _ _ _ _ _ h B (lv_sub hL [0, 1] rfl)
    · exact hret _ _ _ _ _ _ (Option.some.inj h) B dX4_readLine_31
  have hj20 : ∀ (gij20 : GI) (glj20 : GL) (x1j20 : Int64) (H : Heap) (locs : List Loc) (ls : Array Slot), f_X4_readLine_j20 gij20 glj20 x1j20 = some r → MB D cA ad A s gij20 glj20 H locs → lv_has ls 3 [(0, .ref (ad 0)), (1, .long x1j20)] → W p l e R s m args below meth c H locs 0 0 Q (F0 m 20 ls []) := by
    intro gij20 glj20 x1j20 H locs ls h B hL
    unfold f_X4_readLine_j20 at h
    refine lv_aload_n hx hb dX4_readLine_20 rfl (lv_at hL 0 rfl) ?_
    refine k_X4_misplaced C B (Nat.le_trans (Nat.le_of_ble_eq_true rfl) hF) (Nat.le_trans (Nat.le_of_ble_eq_true rfl) hN) hL.1 (Nat.le_of_ble_eq_true rfl) h dX4_readLine_21 (fun q1 h H locs B => ?_)
    exact hj24 _ _ _ _ _ _ h B (lv_sub hL [0, 1] rfl)
  refine lv_aload_n hx hb dX4_readLine_0 rfl (lv_at hL 0 rfl) ?_
  refine mg_10 C B dX4_readLine_1 ?_
  refine lv_lstore_n (lv' := [(1, .long (gl 0 10)), (0, .ref (ad 0))]) hx hb dX4_readLine_4 rfl hL (by decide) rfl (fun ls hL => ?_)
  refine lv_aload_n hx hb dX4_readLine_5 rfl (lv_at hL 1 rfl) ?_
  refine mg_8 C B dX4_readLine_6 ?_
  refine lv_iconst (v := 3) hx hb dX4_readLine_9 (by decide) ?_
  refine gg_icmp_ne hx hb 20 h dX4_readLine_10 (by decide) (fun h => ?_) (fun h => ?_)
  · exact hj20 _ _ _ _ _ _ h B (lv_sub hL [1, 0] rfl)
  · refine lv_aload_n hx hb dX4_readLine_13 rfl (lv_at hL 1 rfl) ?_
    refine k_X4_isFull C B (Nat.le_trans (Nat.le_of_ble_eq_true rfl) hF) (Nat.le_trans (Nat.le_of_ble_eq_true rfl) hN) hL.1 (Nat.le_of_ble_eq_true rfl) h dX4_readLine_14 (fun q30 h H locs B => ?_)
    refine gg_if_eq hx hb 24 h dX4_readLine_17 (by decide) (fun h => ?_) (fun h => ?_)
    · exact hj24 _ _ _ _ _ _ h B (lv_sub hL [1, 0] rfl)
    · exact hj20 _ _ _ _ _ _ h B (lv_sub hL [1, 0] rfl)
theorem k_X4_readLine {p : Program} {l : Launch} {e : Env} {R : Room} {s : State} {m : MethodId} {args : Array Value} {below : List Frame} {meth : Method} {c : Code} {H : Heap} {locs : List Loc} {Q : State → Prop} {pc : Nat} {ls : Array Slot} {rest : List Value} {cc : ByteArray} {nL : Nat} {D : va_G} {cA : Nat → ClassId} {ad : Nat → Nat} {A : Nat → Prop} {gi : GI} {gl : GL} {α : Type} {r : α}  {ff : (GI × GL) → Option α} (C : CallFix p m c cc nL s args lw_all RX4) (B : MB D cA ad A s gi gl H locs) (hF : 7 ≤ R.frames) (hN : 150 ≤ R.locals) (hs : ls.size = nL) (hw : (rest.map fun v => v.category).sum ≤ 8) (h : (f_X4_readLine gi gl ).bind ff = some r) (hdg : decode cc pc = .ok (.invokevirtual 304, 3)) (kk : ∀ q, ff q = some r → ∀ (H' : Heap) (locs' : List Loc), MB D cA ad A s q.1 q.2 H' locs' → W p l e R s m args below meth c H' locs' 0 0 Q (F0 m (pc + 3) ls (rest))) : W p l e R s m args below meth c H locs 0 0 Q (F0 m pc ls (.ref (ad 0) :: rest)) := by
  obtain ⟨q, h1, h2⟩ := g_ob h
  refine mm_cVV (As := []) (rest := rest) (n := 0) C B (fun sz => w_X4_readLine l D cA ad gi gl  q h1 sz) q2003 q2005 qs72 q150 q2006 (by decide +kernel) ⟨hF, hN⟩ rfl hs hw hdg (fun u H9 locs9 hp B9 => ?_)
  have e1 := hp
  subst e1
  exact kk _ h2 H9 locs9 B9
def f_X4_mill_l20 (gli20 : GL) (x1l20 : Int32) (gil20 : GI) : Option ((Int32 × GI) ⊕ (GI)) :=
  if (gil20 0 3) ≤ x1l20 then
  (some (.inr gil20))
  else
  ((g_ld gil20 1 1620 x1l20).bind fun v4 =>
  (g_st gil20 2 1600 x1l20 (vp_nar .byte v4)).bind fun gi5 =>
  some (.inl ((x1l20 + 1, gi5))))
def f_X4_mill_l74 (gil74 : GI) (gll74 : GL) : Option ((GI × GL) ⊕ (GI × GL)) :=
  (f_X4_isGood gil74 ).bind fun q11 =>
  if q11 = 0 then
  (some (.inr ((gil74, gll74))))
  else
  (if (gil74 0 8) = 0 then
  (some (.inr ((gil74, gll74))))
  else
  ((f_X4_readLine gil74 gll74 ).bind fun q12 =>
  some (.inl ((q12.1, q12.2)))))
def f_X4_mill_x74 (gie74 : GI) (gle74 : GL) : Option (Int32 × GI × GL) :=
  (f_X4_isGood gie74 ).bind fun q13 =>
  if q13 = 0 then
  (some ((-1), gie74, gle74))
  else
  ((some (g_pi gie74 0 41 (gie74 0 42))).bind fun gi14 =>
  (f_X4_startAnew gi14 ).bind fun q15 =>
  (g_ld q15 4 2 (q15 0 41)).bind fun v16 =>
  some (v16, q15, gle74))
def f_X4_mill_x20 (gly20 : GL) (gie20 : GI) : Option (Int32 × GI × GL) :=
  (some (g_pi gie20 0 2 0)).bind fun gi6 =>
  (some (g_pi gi6 0 7 0)).bind fun gi7 =>
  (some (g_pi gi7 0 42 (1 - (gi7 0 41)))).bind fun gi8 =>
  (f_X4_clearBank gi8 ).bind fun q9 =>
  (f_X4_goOn q9 gly20 ).bind fun q10 =>
  (g_loop g_K (fun (s : GI × GL) => f_X4_mill_l74 s.1 s.2) (q10.1, q10.2)).bind fun E74 => f_X4_mill_x74 E74.1 E74.2
def f_X4_mill (gi : GI) (gl : GL)  : Option (Int32 × GI × GL) :=
  (some (g_pi gi 0 4 0)).bind fun gi1 =>
  (some (g_pi gi1 0 5 ((-1)))).bind fun gi2 =>
  (some (g_pi gi2 0 3 (gi2 0 2))).bind fun gi3 =>
  (g_loop g_K (fun (s : Int32 × GI) => f_X4_mill_l20 gl s.1 s.2) (0, gi3)).bind fun E20 => f_X4_mill_x20 gl E20
set_option maxHeartbeats 400000 in
theorem w_X4_mill (l : Launch) (D : va_G) (cA : Nat → ClassId) (ad : Nat → Nat) (gi : GI) (gl : GL)  (r : Int32 × GI × GL) (h : f_X4_mill gi gl  = some r) (sz : Nat) : Met l yX4_mill (ws_ yX4_mill cX4_mill 2 (some .int)) ({ frames := 7, cells := 0, slots := 0, locals := 150 } : Room) (va_Pc [.ref (ad 0)] (MPre D cA ad gi gl sz)) (va_Qi (fun v u => (v, u.1, u.2) = r) (MPost D cA ad) (MA ad sz)) 0 0 (MA ad sz) := by
  refine mm_stI (by decide +kernel) rfl (Nat.le_of_ble_eq_true rfl) (fun p e s m args below meth c R Q A ls C hF hN B hret hL => ?_) sz
  have hx := C.1
  have hb := C.2.1
  have hL : lv_has ls 2 [(0, .ref (ad 0))] := hL
  unfold f_X4_mill at h
  refine lv_aload_n hx hb dX4_mill_0 rfl (lv_at hL 0 rfl) ?_
  refine lv_iconst (v := 0) hx hb dX4_mill_1 (by decide) ?_
  refine mp_4 C B h dX4_mill_2 (fun gi1 h H locs B => ?_)
  refine lv_aload_n hx hb dX4_mill_5 rfl (lv_at hL 0 rfl) ?_
  refine lv_iconst (v := (-1)) hx hb dX4_mill_6 (by decide) ?_
  refine mp_5 C B h dX4_mill_7 (fun gi2 h H locs B => ?_)
  refine lv_aload_n hx hb dX4_mill_10 rfl (lv_at hL 0 rfl) ?_
  refine lv_aload_n hx hb dX4_mill_11 rfl (lv_at hL 0 rfl) ?_
  refine mg_2 C B dX4_mill_12 ?_
  refine mp_3 C B h dX4_mill_15 (fun gi3 h H locs B => ?_)
  refine lv_iconst (v := 0) hx hb dX4_mill_18 (by decide) ?_
  refine lv_istore_n (lv' := [(1, .int 0), (0, .ref (ad 0))]) hx hb dX4_mill_19 rfl hL (by decide) rfl (fun ls hL => ?_)
  obtain ⟨E20, h820, h⟩ := g_ob h
  have kx20 : ∀ (gie20 : GI) (H : Heap) (locs : List Loc) (ls : Array Slot), gie20 = E20 → MB D cA ad A s gie20 gl H locs → lv_has ls 2 [(0, .ref (ad 0))] → W p l e R s m args below meth c H locs 0 0 Q (F0 m 46 ls []) := by
    intro gie20 H locs ls he B hL
    subst he
    have h : f_X4_mill_x20 gl gie20 = some r := h
    unfold f_X4_mill_x20 at h
    refine lv_aload_n hx hb dX4_mill_46 rfl (lv_at hL 0 rfl) ?_
    refine lv_iconst (v := 0) hx hb dX4_mill_47 (by decide) ?_
    refine mp_2 C B h dX4_mill_48 (fun gi6 h H locs B => ?_)
    refine lv_aload_n hx hb dX4_mill_51 rfl (lv_at hL 0 rfl) ?_
    refine lv_iconst (v := 0) hx hb dX4_mill_52 (by decide) ?_
    refine mp_7 C B h dX4_mill_53 (fun gi7 h H locs B => ?_)
    refine lv_aload_n hx hb dX4_mill_56 rfl (lv_at hL 0 rfl) ?_
    refine lv_iconst (v := 1) hx hb dX4_mill_57 (by decide) ?_
    refine lv_aload_n hx hb dX4_mill_58 rfl (lv_at hL 0 rfl) ?_
    refine mg_41 C B dX4_mill_59 ?_
    refine lv_isub hx hb dX4_mill_62 ?_
    refine mp_42 C B h dX4_mill_63 (fun gi8 h H locs B => ?_)
    refine lv_aload_n hx hb dX4_mill_66 rfl (lv_at hL 0 rfl) ?_
    refine k_X4_clearBank C B (Nat.le_trans (Nat.le_of_ble_eq_true rfl) hF) (Nat.le_trans (Nat.le_of_ble_eq_true rfl) hN) hL.1 (Nat.le_of_ble_eq_true rfl) h dX4_mill_67 (fun q9 h H locs B => ?_)
    refine lv_aload_n hx hb dX4_mill_70 rfl (lv_at hL 0 rfl) ?_
    refine k_X4_goOn C B (Nat.le_trans (Nat.le_of_ble_eq_true rfl) hF) (Nat.le_trans (Nat.le_of_ble_eq_true rfl) hN) hL.1 (Nat.le_of_ble_eq_true rfl) h dX4_mill_71 (fun q10 h H locs B => ?_)
    obtain ⟨E74, h874, h⟩ := g_ob h
    have kx74 : ∀ (gie74 : GI) (gle74 : GL) (H : Heap) (locs : List Loc) (ls : Array Slot), (gie74, gle74) = E74 → MB D cA ad A s gie74 gle74 H locs → lv_has ls 2 [(0, .ref (ad 0))] → W p l e R s m args below meth c H locs 0 0 Q (F0 m 95 ls []) := by
      intro gie74 gle74 H locs ls he B hL
      subst he
      have h : f_X4_mill_x74 gie74 gle74 = some r := h
      unfold f_X4_mill_x74 at h
      refine lv_aload_n hx hb dX4_mill_95 rfl (lv_at hL 0 rfl) ?_
      refine k_X4_isGood C B (Nat.le_trans (Nat.le_of_ble_eq_true rfl) hF) (Nat.le_trans (Nat.le_of_ble_eq_true rfl) hN) hL.1 (Nat.le_of_ble_eq_true rfl) h dX4_mill_96 (fun q13 h H locs B => ?_)
      refine gg_if_ne hx hb 104 h dX4_mill_99 (by decide) (fun h => ?_) (fun h => ?_)
      · refine lv_aload_n hx hb dX4_mill_104 rfl (lv_at hL 0 rfl) ?_
        refine lv_aload_n hx hb dX4_mill_105 rfl (lv_at hL 0 rfl) ?_
        refine mg_42 C B dX4_mill_106 ?_
        refine mp_41 C B h dX4_mill_109 (fun gi14 h H locs B => ?_)
        refine lv_aload_n hx hb dX4_mill_112 rfl (lv_at hL 0 rfl) ?_
        refine k_X4_startAnew C B (Nat.le_trans (Nat.le_of_ble_eq_true rfl) hF) (Nat.le_trans (Nat.le_of_ble_eq_true rfl) hN) hL.1 (Nat.le_of_ble_eq_true rfl) h dX4_mill_113 (fun q15 h H locs B => ?_)
        refine lv_aload_n hx hb dX4_mill_116 rfl (lv_at hL 0 rfl) ?_
        refine mg_12 C B dX4_mill_117 ?_
        refine lv_aload_n hx hb dX4_mill_120 rfl (lv_at hL 0 rfl) ?_
        refine mg_41 C B dX4_mill_121 ?_
        refine mm_iald C B (a := 4) (n := 2) (Nat.le_of_ble_eq_true rfl) rfl h dX4_mill_124 (fun v16 h => ?_)
        exact hret _ _ _ _ _ _ _ (Option.some.inj h) B dX4_mill_125
      · refine lv_iconst (v := (-1)) hx hb dX4_mill_102 (by decide) ?_
        exact hret _ _ _ _ _ _ _ (Option.some.inj h) B dX4_mill_103
    have hl74 : ∀ (k : Nat) (gil74 : GI) (gll74 : GL) (H : Heap) (locs : List Loc) (ls : Array Slot), g_loop k (fun (s : GI × GL) => f_X4_mill_l74 s.1 s.2) (gil74, gll74) = some E74 → MB D cA ad A s gil74 gll74 H locs → lv_has ls 2 [(0, .ref (ad 0))] → W p l e R s m args below meth c H locs 0 0 Q (F0 m 74 ls []) := by
      intro k
      induction k with
      | zero => intro gil74 gll74 H locs ls h; exact absurd h (fun z => g_loop_0 z)
      | succ k ih74 =>
        intro gil74 gll74 H locs ls h B hL
        obtain ⟨Z74, h, h974⟩ := g_loop_s h
        have h : f_X4_mill_l74 gil74 gll74 = some Z74 := h
        unfold f_X4_mill_l74 at h
        refine lv_aload_n hx hb dX4_mill_74 rfl (lv_at hL 0 rfl) ?_
        refine k_X4_isGood C B (Nat.le_trans (Nat.le_of_ble_eq_true rfl) hF) (Nat.le_trans (Nat.le_of_ble_eq_true rfl) hN) hL.1 (Nat.le_of_ble_eq_true rfl) h dX4_mill_75 (fun q11 h H locs B => ?_)
        refine gg_if_eq hx hb 95 h dX4_mill_78 (by decide) (fun h => ?_) (fun h => ?_)
        · exact kx74 _ _ _ _ _ (g_exit h h974) B (lv_sub hL [0] rfl)
        · refine lv_aload_n hx hb dX4_mill_81 rfl (lv_at hL 0 rfl) ?_
          refine mg_8 C B dX4_mill_82 ?_
          refine gg_if_eq hx hb 95 h dX4_mill_85 (by decide) (fun h => ?_) (fun h => ?_)
          · exact kx74 _ _ _ _ _ (g_exit h h974) B (lv_sub hL [0] rfl)
          · refine lv_aload_n hx hb dX4_mill_88 rfl (lv_at hL 0 rfl) ?_
            refine k_X4_readLine C B (Nat.le_trans (Nat.le_of_ble_eq_true rfl) hF) (Nat.le_trans (Nat.le_of_ble_eq_true rfl) hN) hL.1 (Nat.le_of_ble_eq_true rfl) h dX4_mill_89 (fun q12 h H locs B => ?_)
            refine lv_goto (tgt := 74) hx hb dX4_mill_92 (by decide) ?_
            exact ih74 _ _ _ _ _ (g_next h h974) B (lv_sub hL [0] rfl)
    exact hl74 g_K _ _ _ _ _ h874 B (lv_sub hL [0] rfl)
  have hl20 : ∀ (k : Nat) (x1l20 : Int32) (gil20 : GI) (H : Heap) (locs : List Loc) (ls : Array Slot), g_loop k (fun (s : Int32 × GI) => f_X4_mill_l20 gl s.1 s.2) (x1l20, gil20) = some E20 → MB D cA ad A s gil20 gl H locs → lv_has ls 2 [(0, .ref (ad 0)), (1, .int x1l20)] → W p l e R s m args below meth c H locs 0 0 Q (F0 m 20 ls []) := by
    intro k
    induction k with
    | zero => intro x1l20 gil20 H locs ls h; exact absurd h (fun z => g_loop_0 z)
    | succ k ih20 =>
      intro x1l20 gil20 H locs ls h B hL
      obtain ⟨Z20, h, h920⟩ := g_loop_s h
      have h : f_X4_mill_l20 gl x1l20 gil20 = some Z20 := h
      unfold f_X4_mill_l20 at h
      refine lv_iload_n hx hb dX4_mill_20 rfl (lv_at hL 1 rfl) ?_
      refine lv_aload_n hx hb dX4_mill_21 rfl (lv_at hL 0 rfl) ?_
      refine mg_3 C B dX4_mill_22 ?_
      refine gg_icmp_ge hx hb 46 h dX4_mill_25 (by decide) (fun h => ?_) (fun h => ?_)
      · exact kx20 _ _ _ _ (g_exit h h920) B (lv_sub hL [0] rfl)
      · refine lv_aload_n hx hb dX4_mill_28 rfl (lv_at hL 0 rfl) ?_
        refine mg_1 C B dX4_mill_29 ?_
        refine lv_iload_n hx hb dX4_mill_32 rfl (lv_at hL 1 rfl) ?_
        refine lv_aload_n hx hb dX4_mill_33 rfl (lv_at hL 0 rfl) ?_
        refine mg_0 C B dX4_mill_34 ?_
        refine lv_iload_n hx hb dX4_mill_37 rfl (lv_at hL 1 rfl) ?_
        refine mm_bald C B (a := 1) (n := 1620) (Nat.le_of_ble_eq_true rfl) rfl h dX4_mill_38 (fun v4 h => ?_)
        refine mm_bast C B (a := 2) (n := 1600) (Nat.le_of_ble_eq_true rfl) rfl h dX4_mill_39 (fun gi5 h H locs B => ?_)
        refine lv_iinc (v := x1l20 + 1) (lv' := [(1, .int (x1l20 + 1)), (0, .ref (ad 0))]) hx hb dX4_mill_40 hL (k := 1) rfl rfl (by decide) rfl (fun ls hL => ?_)
        refine lv_goto (tgt := 20) hx hb dX4_mill_43 (by decide) ?_
        exact ih20 _ _ _ _ _ (g_next h h920) B (lv_sub hL [1, 0] rfl)
  exact hl20 g_K _ _ _ _ _ h820 B (lv_sub hL [1, 0] rfl)

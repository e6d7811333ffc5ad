/-! rows for constructors and null -/
set_option maxRecDepth 100000
section XF
variable {p : Program} {l : Launch} {e : Env} {R : Room} {s : State} {m : MethodId} {args : Array Value} {below : List Frame} {meth : Method} {c : Code} {H : Heap} {locs : List Loc} {cells slots : Nat} {Q : State → Prop}
variable {pc : Nat} {ls : Array Slot} {rest : List Value} {cc : ByteArray} {nL : Nat} {α : Type} {r : α} {D : va_G} {cA : Nat → ClassId} {ad : Nat → Nat} {hk : HK} {nx : Nat} {A : Nat → Prop} {gi : GI} {gr : GR} {own : String}
theorem xx_piF {idx b ci k N : Nat} {Rc : String} {Tc : u_T} {tyc : Nat → FieldType} {ref : String} {x : Int32} {f : GI → Option α} (C : CallFix p m c cc nL s args lw_all own) (B : XB D cA ad hk nx A s gi gr H locs) (X : XC ci Rc Tc tyc N) (hp : (hk b).1 = 10 + ci) (hci : 10 + ci < 100) (hkN : k < N) (hz : (fkX ci)[k]? = some 0) (hq : Cond.fieldLink own idx ref (Tc k).2.1 (Tc k).2.2.1 ∈ lw_all) (hs : ∀ x, s.fieldFound? (Tc k).1 (Tc k).2.1 (Tc k).2.2.1 = some x → s.fieldFound? ref (Tc k).2.1 (Tc k).2.2.1 = some x) (hfin : (Tc k).2.2.2 = true) (hmn : meth.name = "<init>") (hdecl : (Tc k).1 = own) (hn : narrow (tyc k) (.int x) = .int x) (hf : fits (tyc k) (.int x) = true) (h : (some (g_pi gi b k x)).bind f = some r) (hdg : decode cc pc = .ok (.putfield idx, 3)) (kk : ∀ g', f g' = some r → ∀ (H' : Heap) (locs' : List Loc), XB D cA ad hk nx A s g' gr H' locs' → W p l e R s m args below meth c H' locs' cells slots Q (F0 m (pc + 3) ls rest)) : W p l e R s m args below meth c H locs cells slots Q (F0 m pc ls (.int x :: .ref (ad b) :: rest)) := by
  have hb := xb_lt B hp hci
  refine va_putF (D := D) (ci := ci) (v := .int x) (ty := tyc k) (C := Rc) (T := Tc) (N := N) C.1 C.2.1 C.2.2.2.2 X.2.1 tyc X.2.2.1 X.2.2.2 C.2.2.2.1 B.1 B.2.1 B.2.2.1.1.1.va B.2.2.2.1 b (Xw_o hb hp) X.1 k hkN (C.2.2.2.2 _ hq) hs hfin hmn hdecl (X.2.2.1 k hkN) hn hf (by rw [List.length_mapIdx]; exact (List.getElem?_eq_some_iff.mp hz).1) hdg (fun H' locs' hP hD hS => ?_)
  refine kk _ h H' locs' ⟨B.1, ?_, B.2.2.1, hS, B.2.2.2.2⟩
  rw [g_ws_set (f' := Xc cA ad hk (g_pi gi b k x) gr) (fun j hj => Xc_pi j hj)] at hP
  · exact hP
  · simp only [Xc, g_cell, hp]
    rw [if_pos (by omega), g_fs_set hz (f' := fun k_1 z => g_fv ad (g_pi gi b k x) gr (fun _ _ => 0) b k_1 z)]
    · simp
    · intro j w hj
      simp only [g_fv, g_pi_at, upd, if_neg hj]
    · simp [g_fv, g_pi_at, upd]
theorem xx_prF {idx b ci k N v : Nat} {Rc : String} {Tc : u_T} {tyc : Nat → FieldType} {ref : String} {f : GR → Option α} (C : CallFix p m c cc nL s args lw_all own) (B : XB D cA ad hk nx A s gi gr H locs) (X : XC ci Rc Tc tyc N) (hp : (hk b).1 = 10 + ci) (hci : 10 + ci < 100) (hv : (hk v).1 < 1000) (hkN : k < N) (hz : (fkX ci)[k]? = some 1) (hq : Cond.fieldLink own idx ref (Tc k).2.1 (Tc k).2.2.1 ∈ lw_all) (hs : ∀ x, s.fieldFound? (Tc k).1 (Tc k).2.1 (Tc k).2.2.1 = some x → s.fieldFound? ref (Tc k).2.1 (Tc k).2.2.1 = some x) (hfin : (Tc k).2.2.2 = true) (hmn : meth.name = "<init>") (hdecl : (Tc k).1 = own) (hn : narrow (tyc k) (.ref (ad v)) = .ref (ad v)) (hf : fits (tyc k) (.ref (ad v)) = true) (h : (some (g_pr gr b k (some v))).bind f = some r) (hdg : decode cc pc = .ok (.putfield idx, 3)) (kk : ∀ g', f g' = some r → ∀ (H' : Heap) (locs' : List Loc), XB D cA ad hk nx A s gi g' H' locs' → W p l e R s m args below meth c H' locs' cells slots Q (F0 m (pc + 3) ls rest)) : W p l e R s m args below meth c H locs cells slots Q (F0 m pc ls (.ref (ad v) :: .ref (ad b) :: rest)) := by
  have hb := xb_lt B hp hci
  refine va_putF (D := D) (ci := ci) (v := .ref (ad v)) (ty := tyc k) (C := Rc) (T := Tc) (N := N) C.1 C.2.1 C.2.2.2.2 X.2.1 tyc X.2.2.1 X.2.2.2 C.2.2.2.1 B.1 B.2.1 B.2.2.1.1.1.va B.2.2.2.1 b (Xw_o hb hp) X.1 k hkN (C.2.2.2.2 _ hq) hs hfin hmn hdecl (X.2.2.1 k hkN) hn hf (by rw [List.length_mapIdx]; exact (List.getElem?_eq_some_iff.mp hz).1) hdg (fun H' locs' hP hD hS => ?_)
  refine kk _ h H' locs' ⟨B.1, ?_, ⟨B.2.2.1.1, B.2.2.1.2.pr hv⟩, hS, B.2.2.2.2⟩
  rw [g_ws_set (f' := Xc cA ad hk gi (g_pr gr b k (some v))) (fun j hj => Xc_pr j hj)] at hP
  · exact hP
  · simp only [Xc, g_cell, hp]
    rw [if_pos (by omega), g_fs_set hz (f' := fun k_1 z => g_fv ad gi (g_pr gr b k (some v)) (fun _ _ => 0) b k_1 z)]
    · simp
    · intro j w hj
      simp only [g_fv, g_pr_at, va_up, if_neg hj]
    · simp [g_fv, g_pr_at, va_up, va_rf]
theorem xx_pn {idx b ci k N : Nat} {Rc : String} {Tc : u_T} {tyc : Nat → FieldType} {ref : String} {f : GR → Option α} (C : CallFix p m c cc nL s args lw_all own) (B : XB D cA ad hk nx A s gi gr H locs) (X : XC ci Rc Tc tyc N) (hp : (hk b).1 = 10 + ci) (hci : 10 + ci < 100) (hkN : k < N) (hz : (fkX ci)[k]? = some 1) (hq : Cond.fieldLink own idx ref (Tc k).2.1 (Tc k).2.2.1 ∈ lw_all) (hs : ∀ x, s.fieldFound? (Tc k).1 (Tc k).2.1 (Tc k).2.2.1 = some x → s.fieldFound? ref (Tc k).2.1 (Tc k).2.2.1 = some x) (hfin : (Tc k).2.2.2 = false) (hn : narrow (tyc k) (.null) = .null) (hf : fits (tyc k) (.null) = true) (h : (some (g_pr gr b k none)).bind f = some r) (hdg : decode cc pc = .ok (.putfield idx, 3)) (kk : ∀ g', f g' = some r → ∀ (H' : Heap) (locs' : List Loc), XB D cA ad hk nx A s gi g' H' locs' → W p l e R s m args below meth c H' locs' cells slots Q (F0 m (pc + 3) ls rest)) : W p l e R s m args below meth c H locs cells slots Q (F0 m pc ls (.null :: .ref (ad b) :: rest)) := by
  have hb := xb_lt B hp hci
  refine va_put (D := D) (ci := ci) (v := .null) (ty := tyc k) (C := Rc) (T := Tc) (N := N) C.1 C.2.1 C.2.2.2.2 X.2.1 tyc X.2.2.1 X.2.2.2 C.2.2.2.1 B.1 B.2.1 B.2.2.1.1.1.va B.2.2.2.1 b (Xw_o hb hp) X.1 k hkN (C.2.2.2.2 _ hq) hs hfin (X.2.2.1 k hkN) hn hf (by rw [List.length_mapIdx]; exact (List.getElem?_eq_some_iff.mp hz).1) hdg (fun H' locs' hP hD hS => ?_)
  refine kk _ h H' locs' ⟨B.1, ?_, ⟨B.2.2.1.1, B.2.2.1.2.pn⟩, hS, B.2.2.2.2⟩
  rw [g_ws_set (f' := Xc cA ad hk gi (g_pr gr b k none)) (fun j hj => Xc_pr j hj)] at hP
  · exact hP
  · simp only [Xc, g_cell, hp]
    rw [if_pos (by omega), g_fs_set hz (f' := fun k_1 z => g_fv ad gi (g_pr gr b k none) (fun _ _ => 0) b k_1 z)]
    · simp
    · intro j w hj
      simp only [g_fv, g_pr_at, va_up, if_neg hj]
    · simp [g_fv, g_pr_at, va_up, va_rf]
theorem xx_aastN {a t : Nat} {E : String} {i : Int32} {f : GR → Option α} (C : CallFix p m c cc nL s args lw_all own) (B : XB D cA ad hk nx A s gi gr H locs) (hp : (hk a).1 = t) (ht : 4 ≤ t ∧ t < 10) (hty : (g_tys cA)[t]? = some (cA t, .object E)) (h : (g_str gr a (hk a).2 i none).bind f = some r) (hdg : decode cc pc = .ok (.aastore, 1)) (kk : ∀ g', f g' = some r → ∀ (H' : Heap) (locs' : List Loc), XB D cA ad hk nx A s gi g' H' locs' → W p l e R s m args below meth c H' locs' cells slots Q (F0 m (pc + 1) ls rest)) : W p l e R s m args below meth c H locs cells slots Q (F0 m pc ls (.null :: .int i :: .ref (ad a) :: rest)) := by
  obtain ⟨g', h1, h2⟩ := g_ob h
  obtain ⟨h3, rfl⟩ := g_str_in h1
  refine va_astqN C.1 C.2.1 B.1 B.2.1 B.2.2.1.1.1.va B.2.2.2.1 a t (Xw_r (xb_lt B hp (by omega)) hp ht) hty h3 hdg (fun H' locs' hP _ hS => kk _ h2 H' locs' ⟨B.1, ?_, ⟨B.2.2.1.1, B.2.2.1.2.pn⟩, hS, B.2.2.2.2⟩)
  rw [Xw_pr (gr' := g_pr gr a i.toNatClampNeg none) hp ht (fun j => ?_) g_pr_ne] at hP
  · exact hP
  · rw [g_pr_at]
    by_cases q : j = i.toNatClampNeg
    · simp [va_up, q]
    · simp [va_up, q]
def g_nc (x : Int32) : Option Unit := if (x.toUInt32 % 65536).toInt32 = x then some () else none
def g_nb (x : Int32) : Option Unit := if x.toInt8.toInt32 = x then some () else none
theorem xx_nc {x : Int32} {f : Unit → Option α} {P : Prop} (h : (g_nc x).bind f = some r) (kk : (x.toUInt32 % 65536).toInt32 = x → f () = some r → P) : P := by
  obtain ⟨v, h1, h2⟩ := g_ob h
  unfold g_nc at h1
  by_cases q : (x.toUInt32 % 65536).toInt32 = x
  · exact kk q h2
  · rw [if_neg q] at h1; cases h1
theorem xx_nb {x : Int32} {f : Unit → Option α} {P : Prop} (h : (g_nb x).bind f = some r) (kk : x.toInt8.toInt32 = x → f () = some r → P) : P := by
  obtain ⟨v, h1, h2⟩ := g_ob h
  unfold g_nb at h1
  by_cases q : x.toInt8.toInt32 = x
  · exact kk q h2
  · rw [if_neg q] at h1; cases h1
def g_len (n : Int32) : Option Unit := if n < 0 ∨ 536870912 < n.toNatClampNeg * 4 then none else some ()
theorem xx_len {n : Int32} {f : Unit → Option α} {P : Prop} (h : (g_len n).bind f = some r) (kk : ¬ n < 0 → n.toNatClampNeg * 4 ≤ 536870912 → f () = some r → P) : P := by
  obtain ⟨v, h1, h2⟩ := g_ob h
  unfold g_len at h1
  by_cases q : n < 0 ∨ 536870912 < n.toNatClampNeg * 4
  · rw [if_pos q] at h1; cases h1
  · exact kk (fun z => q (Or.inl z)) (by omega) h2
end XF
theorem xd_0 : ∀ j, j < 30 → defaultValue (tyX0 j) = vp_V ((fkX 0).map g_zv) j := fun j hj => by match j, hj with | 0, _ => rfl | 1, _ => rfl | 2, _ => rfl | 3, _ => rfl | 4, _ => rfl | 5, _ => rfl | 6, _ => rfl | 7, _ => rfl | 8, _ => rfl | 9, _ => rfl | 10, _ => rfl | 11, _ => rfl | 12, _ => rfl | 13, _ => rfl | 14, _ => rfl | 15, _ => rfl | 16, _ => rfl | 17, _ => rfl | 18, _ => rfl | 19, _ => rfl | 20, _ => rfl | 21, _ => rfl | 22, _ => rfl | 23, _ => rfl | 24, _ => rfl | 25, _ => rfl | 26, _ => rfl | 27, _ => rfl | 28, _ => rfl | 29, _ => rfl | n + 30, h => exact absurd h (by omega)
theorem xd_1 : ∀ j, j < 10 → defaultValue (tyX1 j) = vp_V ((fkX 1).map g_zv) j := fun j hj => by match j, hj with | 0, _ => rfl | 1, _ => rfl | 2, _ => rfl | 3, _ => rfl | 4, _ => rfl | 5, _ => rfl | 6, _ => rfl | 7, _ => rfl | 8, _ => rfl | 9, _ => rfl
theorem xd_2 : ∀ j, j < 6 → defaultValue (tyX2 j) = vp_V ((fkX 2).map g_zv) j := fun j hj => by match j, hj with | 0, _ => rfl | 1, _ => rfl | 2, _ => rfl | 3, _ => rfl | 4, _ => rfl | 5, _ => rfl
theorem xd_3 : ∀ j, j < 6 → defaultValue (tyX3 j) = vp_V ((fkX 3).map g_zv) j := fun j hj => by match j, hj with | 0, _ => rfl | 1, _ => rfl | 2, _ => rfl | 3, _ => rfl | 4, _ => rfl | 5, _ => rfl
theorem xd_4 : ∀ j, j < 11 → defaultValue (tyX5 j) = vp_V ((fkX 4).map g_zv) j := fun j hj => by match j, hj with | 0, _ => rfl | 1, _ => rfl | 2, _ => rfl | 3, _ => rfl | 4, _ => rfl | 5, _ => rfl | 6, _ => rfl | 7, _ => rfl | 8, _ => rfl | 9, _ => rfl | 10, _ => rfl
theorem xd_5 : ∀ j, j < 8 → defaultValue (tyX6 j) = vp_V ((fkX 5).map g_zv) j := fun j hj => by match j, hj with | 0, _ => rfl | 1, _ => rfl | 2, _ => rfl | 3, _ => rfl | 4, _ => rfl | 5, _ => rfl | 6, _ => rfl | 7, _ => rfl
theorem xd_6 : ∀ j, j < 9 → defaultValue (tyX7 j) = vp_V ((fkX 6).map g_zv) j := fun j hj => by match j, hj with | 0, _ => rfl | 1, _ => rfl | 2, _ => rfl | 3, _ => rfl | 4, _ => rfl | 5, _ => rfl | 6, _ => rfl | 7, _ => rfl | 8, _ => rfl
theorem xd_7 : ∀ j, j < 4 → defaultValue (tyX8 j) = vp_V ((fkX 7).map g_zv) j := fun j hj => by match j, hj with | 0, _ => rfl | 1, _ => rfl | 2, _ => rfl | 3, _ => rfl
theorem xd_8 : ∀ j, j < 1 → defaultValue (tyX9 j) = vp_V ((fkX 8).map g_zv) j := fun j hj => by match j, hj with | 0, _ => rfl
theorem xd_9 : ∀ j, j < 1 → defaultValue (tyX10 j) = vp_V ((fkX 9).map g_zv) j := fun j hj => by match j, hj with | 0, _ => rfl
theorem xd_10 : ∀ j, j < 3 → defaultValue (tyX11 j) = vp_V ((fkX 10).map g_zv) j := fun j hj => by match j, hj with | 0, _ => rfl | 1, _ => rfl | 2, _ => rfl
theorem xd_11 : ∀ j, j < 7 → defaultValue (tyX12 j) = vp_V ((fkX 11).map g_zv) j := fun j hj => by match j, hj with | 0, _ => rfl | 1, _ => rfl | 2, _ => rfl | 3, _ => rfl | 4, _ => rfl | 5, _ => rfl | 6, _ => rfl
theorem xd_12 : ∀ j, j < 3 → defaultValue (tyJ2 j) = vp_V ((fkX 12).map g_zv) j := fun j hj => by match j, hj with | 0, _ => rfl | 1, _ => rfl | 2, _ => rfl
theorem xd_13 : ∀ j, j < 4 → defaultValue (tyJ15 j) = vp_V ((fkX 13).map g_zv) j := fun j hj => by match j, hj with | 0, _ => rfl | 1, _ => rfl | 2, _ => rfl | 3, _ => rfl
theorem xd_14 : ∀ j, j < 4 → defaultValue (tyJ6 j) = vp_V ((fkX 14).map g_zv) j := fun j hj => by match j, hj with | 0, _ => rfl | 1, _ => rfl | 2, _ => rfl | 3, _ => rfl
theorem xd_15 : ∀ j, j < 4 → defaultValue (tyJ7 j) = vp_V ((fkX 15).map g_zv) j := fun j hj => by match j, hj with | 0, _ => rfl | 1, _ => rfl | 2, _ => rfl | 3, _ => rfl

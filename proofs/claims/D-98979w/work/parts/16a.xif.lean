/-! interface calls of the iterator; nullable references over new cells; what may lie in an Object[] -/
set_option maxRecDepth 100000
def g_oko (hk : HK) (x : Option Nat) : Option Unit := x.elim (some ()) (fun v => if (hk v).1 < 1000 then some () else none)
theorem xx_oko {α : Type} {r : α} {hk : HK} {x : Option Nat} {f : Unit → Option α} {P : Prop} (h : (g_oko hk x).bind f = some r) (kk : (∀ v, x = some v → (hk v).1 < 1000) → f () = some r → P) : P := by
  obtain ⟨w, h1, h2⟩ := g_ob h
  refine kk (fun v hv => ?_) h2
  subst hv
  simp only [g_oko, Option.elim] at h1
  by_cases q : (hk v).1 < 1000
  · exact q
  · rw [if_neg q] at h1; cases h1
theorem xx_omap {ad ad' : Nat → Nat} {hk hk' : HK} {x : Option Nat} (hae : ∀ i, (hk i).1 < 1000 → ad' i = ad i ∧ hk' i = hk i) (hok : ∀ v, x = some v → (hk v).1 < 1000) : x.map ad' = x.map ad := by
  cases x with
  | none => rfl
  | some v => simp [(hae v (hok v rfl)).1]
theorem xx_okm {ad ad' : Nat → Nat} {hk hk' : HK} {x : Option Nat} (hae : ∀ i, (hk i).1 < 1000 → ad' i = ad i ∧ hk' i = hk i) (hok : ∀ v, x = some v → (hk v).1 < 1000) : ∀ v, x = some v → (hk' v).1 < 1000 := fun v hv => by rw [(hae v (hok v hv)).2]; exact hok v hv
theorem xx_vcat (o : Option Nat) : (va_rf o).category = 1 := by cases o <;> rfl
theorem xx_nn {p : Program} {l : Launch} {e : Env} {R : Room} {s : State} {m : MethodId} {args : Array Value} {below : List Frame} {meth : Method} {c : Code} {H : Heap} {locs : List Loc} {cells slots : Nat} {Q : State → Prop} {pc : Nat} {ls : Array Slot} {rest : List Value} {ad : Nat → Nat} {α : Type} {r : α} {o : Option Nat} {f : Nat → Option α} (h : o.bind f = some r) (kk : ∀ v, o = some v → f v = some r → W p l e R s m args below meth c H locs cells slots Q (F0 m pc ls (.ref (ad v) :: rest))) : W p l e R s m args below meth c H locs cells slots Q (F0 m pc ls (va_rf (o.map ad) :: rest)) := by
  obtain ⟨v, rfl, h2⟩ := g_ob h
  exact kk v rfl h2
def g_obj (hk : HK) (v : Nat) : Option Unit := if (hk v).1 = 23 ∨ (hk v).1 = 22 ∨ (hk v).1 = 24 ∨ (hk v).1 = 25 ∨ (hk v).1 = 10 ∨ (hk v).1 = 11 ∨ (hk v).1 = 19 ∨ (hk v).1 = 20 ∨ (hk v).1 = 21 ∨ (hk v).1 = 12 ∨ (hk v).1 = 13 ∨ (hk v).1 = 14 ∨ (hk v).1 = 15 ∨ (hk v).1 = 16 ∨ (hk v).1 = 17 ∨ (hk v).1 = 18 then some () else none
theorem xx_obj {α : Type} {r : α} {hk : HK} {v : Nat} {f : Unit → Option α} {P : Prop} (h : (g_obj hk v).bind f = some r) (kk : ((hk v).1 = 23 ∨ (hk v).1 = 22 ∨ (hk v).1 = 24 ∨ (hk v).1 = 25 ∨ (hk v).1 = 10 ∨ (hk v).1 = 11 ∨ (hk v).1 = 19 ∨ (hk v).1 = 20 ∨ (hk v).1 = 21 ∨ (hk v).1 = 12 ∨ (hk v).1 = 13 ∨ (hk v).1 = 14 ∨ (hk v).1 = 15 ∨ (hk v).1 = 16 ∨ (hk v).1 = 17 ∨ (hk v).1 = 18) → f () = some r → P) : P := by
  obtain ⟨w, h1, h2⟩ := g_ob h
  unfold g_obj at h1
  rcases g_if h1 with ⟨q, -⟩ | ⟨-, q⟩
  · exact kk q h2
  · cases q
theorem xx_obj_lt {hk : HK} {v : Nat} (h : (hk v).1 = 23 ∨ (hk v).1 = 22 ∨ (hk v).1 = 24 ∨ (hk v).1 = 25 ∨ (hk v).1 = 10 ∨ (hk v).1 = 11 ∨ (hk v).1 = 19 ∨ (hk v).1 = 20 ∨ (hk v).1 = 21 ∨ (hk v).1 = 12 ∨ (hk v).1 = 13 ∨ (hk v).1 = 14 ∨ (hk v).1 = 15 ∨ (hk v).1 = 16 ∨ (hk v).1 = 17 ∨ (hk v).1 = 18) : (hk v).1 < 1000 := by omega
theorem xx_anyO {D : va_G} {cA : Nat → ClassId} {ad : Nat → Nat} {hk : HK} {nx : Nat} {A : Nat → Prop} {s : State} {gi : GI} {gr : GR} {H : Heap} {locs : List Loc} {v : Nat} (B : XB D cA ad hk nx A s gi gr H locs) (h : (hk v).1 = 23 ∨ (hk v).1 = 22 ∨ (hk v).1 = 24 ∨ (hk v).1 = 25 ∨ (hk v).1 = 10 ∨ (hk v).1 = 11 ∨ (hk v).1 = 19 ∨ (hk v).1 = 20 ∨ (hk v).1 = 21 ∨ (hk v).1 = 12 ∨ (hk v).1 = 13 ∨ (hk v).1 = 14 ∨ (hk v).1 = 15 ∨ (hk v).1 = 16 ∨ (hk v).1 = 17 ∨ (hk v).1 = 18) : va_Any "java/lang/Object" s H (ad v) := by
  rcases h with h | h | h | h | h | h | h | h | h | h | h | h | h | h | h | h
  · exact xx_anyC B xc_13 h (by decide) nw_q2471
  · exact xx_anyC B xc_12 h (by decide) nw_q2462
  · exact xx_anyC B xc_14 h (by decide) nw_q2466
  · exact xx_anyC B xc_15 h (by decide) nw_q2467
  · exact xx_anyC B xc_0 h (by decide) nw_q2460
  · exact xx_anyC B xc_1 h (by decide) nw_q2461
  · exact xx_anyC B xc_9 h (by decide) nw_q2480
  · exact xx_anyC B xc_10 h (by decide) nw_q2481
  · exact xx_anyC B xc_11 h (by decide) nw_q2482
  · exact xx_anyC B xc_2 h (by decide) nw_q2463
  · exact xx_anyC B xc_3 h (by decide) nw_q2459
  · exact xx_anyC B xc_4 h (by decide) nw_q2465
  · exact xx_anyC B xc_5 h (by decide) nw_q2469
  · exact xx_anyC B xc_6 h (by decide) nw_q2470
  · exact xx_anyC B xc_7 h (by decide) nw_q2472
  · exact xx_anyC B xc_8 h (by decide) nw_q2473
def g_allo (hk : HK) (gr : GR) (a sp n : Nat) : Bool := (List.range n).all (fun i => match gr a (sp + i) with | none => true | some y => (g_obj hk y).isSome)
def g_cprO (hk : HK) (gr : GR) (a : Nat) (sp : Int32) (b : Nat) (dp n : Int32) : Option GR := if g_allo hk gr a sp.toNatClampNeg n.toNatClampNeg = true then g_cpr hk gr a sp b dp n else none
theorem g_allo_of {hk : HK} {gr : GR} {a sp n : Nat} (h : g_allo hk gr a sp n = true) (i : Nat) (hi : i < n) (v : Nat) (hy : gr a (sp + i) = some v) : (hk v).1 = 23 ∨ (hk v).1 = 22 ∨ (hk v).1 = 24 ∨ (hk v).1 = 25 ∨ (hk v).1 = 10 ∨ (hk v).1 = 11 ∨ (hk v).1 = 19 ∨ (hk v).1 = 20 ∨ (hk v).1 = 21 ∨ (hk v).1 = 12 ∨ (hk v).1 = 13 ∨ (hk v).1 = 14 ∨ (hk v).1 = 15 ∨ (hk v).1 = 16 ∨ (hk v).1 = 17 ∨ (hk v).1 = 18 := by
  have h1 := List.all_eq_true.mp h i (List.mem_range.mpr hi)
  rw [hy] at h1
  have h2 : (g_obj hk v).isSome = true := h1
  unfold g_obj at h2
  by_cases q : (hk v).1 = 23 ∨ (hk v).1 = 22 ∨ (hk v).1 = 24 ∨ (hk v).1 = 25 ∨ (hk v).1 = 10 ∨ (hk v).1 = 11 ∨ (hk v).1 = 19 ∨ (hk v).1 = 20 ∨ (hk v).1 = 21 ∨ (hk v).1 = 12 ∨ (hk v).1 = 13 ∨ (hk v).1 = 14 ∨ (hk v).1 = 15 ∨ (hk v).1 = 16 ∨ (hk v).1 = 17 ∨ (hk v).1 = 18
  · exact q
  · rw [if_neg q] at h2; cases h2
section XMO
variable {p : Program} {l : Launch} {e : Env} {R : Room} {s : State} {m : MethodId} {args : Array Value} {below : List Frame} {meth : Method} {c : Code} {H : Heap} {locs : List Loc} {cells slots : Nat} {Q : State → Prop}
variable {pc : Nat} {ls : Array Slot} {rest : List Value} {cc : ByteArray} {nL : Nat} {α : Type} {r : α} {D : va_G} {cA : Nat → ClassId} {ad : Nat → Nat} {hk : HK} {nx : Nat} {A : Nat → Prop} {gi : GI} {gr : GR} {own : String} {idx : Nat}
theorem xx_cprO {a b : Nat} {sp dp k : Int32} {f : GR → Option α} (C : CallFix p m c cc nL s args lw_all own) (B : XB D cA ad hk nx A s gi gr H locs) (hq : Cond.methodLink own idx arraycopyName ∈ lw_all) (hna : Cond.native arraycopyName ∈ lw_all) (hst : Cond.static arraycopyName ∈ lw_all) (hin : Cond.initialized "java/lang/System" ∈ lw_all) (ha : (hk a).1 = 4) (hb : (hk b).1 = 4) (hF : 1 ≤ R.frames) (hN : 8 + (nativeFrameWords "java/lang/System" "arraycopy" 5 + 11) ≤ R.locals) (hs : ls.size = nL) (hw : (rest.map fun v => v.category).sum ≤ 8) (h : (g_cprO hk gr a sp b dp k).bind f = some r) (hdg : decode cc pc = .ok (.invokestatic idx, 3)) (kk : ∀ g', f g' = some r → ∀ (H' : Heap) (locs' : List Loc), XB D cA ad hk nx A s gi g' H' locs' → W p l e R s m args below meth c H' locs' cells slots Q (F0 m (pc + 3) ls rest)) : W p l e R s m args below meth c H locs cells slots Q (F0 m pc ls (.int k :: .int dp :: .ref (ad b) :: .int sp :: .ref (ad a) :: rest)) := by
  obtain ⟨g', h1, h2⟩ := g_ob h
  unfold g_cprO at h1
  by_cases q0 : g_allo hk gr a sp.toNatClampNeg k.toNatClampNeg = true
  · rw [if_pos q0] at h1
    unfold g_cpr at h1
    by_cases q : g_cp0 sp dp k (hk a).2 (hk b).2 = true
    · rw [if_pos q] at h1
      cases h1
      obtain ⟨q1, q2, q3, q4, q5⟩ := g_cp0_of q
      have la := xb_lt B ha (by decide)
      have lb := xb_lt B hb (by decide)
      refine va_copyM C.1 C.2.1 (C.2.2.1.trans hs.symm) C.2.2.2.1 (C.2.2.2.2 _ hq) (C.2.2.2.2 _ hna) (C.2.2.2.2 _ hst) (C.2.2.2.2 _ hin) B.1 B.2.1 B.2.2.1.1.1.va B.2.2.2.1 a b 4 4 (E0 := "java/lang/Object") (E1 := "java/lang/Object") (Xw_r la ha (by decide)) (Xw_r lb hb (by decide)) rfl rfl q1 q2 q3 q4 q5 (fun i hi y hy => ?_) hF (by omega) hdg (fun H' locs' hP _ hS => kk _ h2 H' locs' ⟨B.1, ?_, ⟨B.2.2.1.1, ?_⟩, hS, B.2.2.2.2⟩)
      · obtain ⟨z, hz, rfl⟩ := Option.map_eq_some_iff.mp hy
        exact xx_anyO B (g_allo_of q0 i hi z hz)
      · rw [Xw_pr (gr' := va_up gr b (va_cpy (gr a) (gr b) sp.toNatClampNeg dp.toNatClampNeg k.toNatClampNeg)) hb (by decide) (fun j => ?_) (fun j hj => by simp [va_up, hj])] at hP
        · exact hP
        · simp only [va_up, if_pos, va_cpy]
          by_cases qq : dp.toNatClampNeg ≤ j ∧ j < dp.toNatClampNeg + k.toNatClampNeg
          · rw [if_pos qq, if_pos qq]
          · rw [if_neg qq, if_neg qq]
      · refine ⟨B.2.2.1.2.1, B.2.2.1.2.2.1, fun i k' j hi he => ?_, B.2.2.1.2.2.2.2⟩
        by_cases qi : i = b
        · subst qi
          simp only [va_up, if_pos, va_cpy] at he
          by_cases qq : dp.toNatClampNeg ≤ k' ∧ k' < dp.toNatClampNeg + k.toNatClampNeg
          · rw [if_pos qq] at he
            exact B.2.2.1.2.2.2.1 a _ j la he
          · rw [if_neg qq] at he
            exact B.2.2.1.2.2.2.1 i _ j hi he
        · simp only [va_up, if_neg qi] at he
          exact B.2.2.1.2.2.2.1 i _ j hi he
    · rw [if_neg q] at h1
      cases h1
  · rw [if_neg q0] at h1
    cases h1
theorem xx_getC {a t : Nat} (C : CallFix p m c cc nL s args lw_all own) (B : XB D cA ad hk nx A s gi gr H locs) (hp : (hk a).1 = 4) (hq : Cond.methodLink own idx ⟨"java/lang/Object", "getClass", "()Ljava/lang/Class;"⟩ ∈ lw_all) (hsel : Cond.selects "[Ljava/lang/Object;" ⟨"java/lang/Object", "getClass", "()Ljava/lang/Class;"⟩ ⟨"java/lang/Object", "getClass", "()Ljava/lang/Class;"⟩ ∈ lw_all) (hins : Cond.instanceMethod ⟨"java/lang/Object", "getClass", "()Ljava/lang/Class;"⟩ ∈ lw_all) (hnat : Cond.native ⟨"java/lang/Object", "getClass", "()Ljava/lang/Class;"⟩ ∈ lw_all) (hF : 1 ≤ R.frames) (hN : 22 ≤ R.locals) (hs : ls.size = nL) (hw : (rest.map fun v => v.category).sum ≤ 8) (hdg : decode cc pc = .ok (.invokevirtual idx, 3)) (kk : W p l e R s m args below meth c H locs cells slots Q (F0 m (pc + 3) ls (.ref (ad 1000300) :: rest))) : W p l e R s m args below meth c H locs cells slots Q (F0 m pc ls (.ref (ad a) :: rest)) := by
  have la := xb_lt B hp (by decide)
  have hc : H[ad a]? = some _ := B.2.1 a _ (Xw_r la hp (by decide))
  obtain ⟨kA, comp, -, -, -, k2⟩ := (B.1.2 4 _ rfl).2
  exact va_getC C.1 C.2.1 (C.2.2.1.trans hs.symm) C.2.2.2.1 (C.2.2.2.2 _ hq) (va_Dc.use B.2.2.2.2.2.2.2.2.2.2.2.2) (C.2.2.2.2 _ hsel) (C.2.2.2.2 _ hins) (C.2.2.2.2 _ hnat) B.2.2.2.2.2.2.2.2.2.2.2.1 ⟨_, hc, rfl, k2⟩ hF (by omega) hdg kk
theorem xx_ldcM (C : CallFix p m c cc nL s args lw_all own) (B : XB D cA ad hk nx A s gi gr H locs) (hq : Cond.classLink own idx "[Ljava/lang/Object;" ∈ lw_all) (hdg : decode cc pc = .ok (.ldc idx, 2)) (kk : W p l e R s m args below meth c H locs cells slots Q (F0 m (pc + 2) ls (.ref (ad 1000300) :: rest))) : W p l e R s m args below meth c H locs cells slots Q (F0 m pc ls rest) :=
  va_ldcM C.1 C.2.1 C.2.2.2.1 (C.2.2.2.2 _ hq) B.2.2.2.2.2.2.2.2.2.2.2.1 hdg kk
theorem xx_same {x : Nat} {off : Int} (hexec : p.tables.exec = Jvm.exec) (hb : c.code = cc) (tgt : Nat) (hdg : decode cc pc = .ok (.if_acmp .ne off, 3)) (ht : (pc : Int) + off = (tgt : Int)) (kk : W p l e R s m args below meth c H locs cells slots Q (F0 m (pc + 3) ls rest)) : W p l e R s m args below meth c H locs cells slots Q (F0 m pc ls (.ref x :: .ref x :: rest)) :=
  lv_acmp_ne (rx := some x) (ry := some x) hexec hb hdg ht (fun h => absurd rfl h) (fun _ => kk)
end XMO
theorem kF_J15_hasNext {p : Program} {l : Launch} {e : Env} {R : Room} {s : State} {m : MethodId} {args : Array Value} {below : List Frame} {meth : Method} {c : Code} {H : Heap} {locs : List Loc} {Q : State → Prop} {pc : Nat} {ls : Array Slot} {rest : List Value} {cc : ByteArray} {nL cells slots : Nat} {D : va_G} {cA : Nat → ClassId} {ad : Nat → Nat} {hk : HK} {nx : Nat} {A : Nat → Prop} {gi : GI} {gr : GR} {α : Type} {r : α} {own : String} {idx count a0 : Nat} {ff : Int32 → Option α} (ht : (hk a0).1 = 23) (C : CallFix p m c cc nL s args lw_all own) (B : XB D cA ad hk nx A s gi gr H locs) (hq : Cond.methodLink own idx (⟨"java/util/Iterator", "hasNext", "()Z"⟩ : MethodName) ∈ lw_all) (hF : 2 ≤ R.frames) (hN : 84 ≤ R.locals) (hs : ls.size = nL) (hw : (rest.map fun v => v.category).sum ≤ 8) (hz0 : cells ≤ R.cells ∧ slots ≤ R.slots) (h : (f_J15_hasNext hk gi gr a0).bind ff = some r) (hdg : decode cc pc = .ok (.invokeinterface idx count, 5)) (kk : ∀ q, ff q = some r → ∀ (H' : Heap) (locs' : List Loc), XB D cA ad hk nx A s gi gr H' locs' → W p l e R s m args below meth c H' locs' cells slots Q (F0 m (pc + 5) ls (.int q :: rest))) : W p l e R s m args below meth c H locs cells slots Q (F0 m pc ls (.ref (ad a0) :: rest)) := by
  obtain ⟨q, h1, h2⟩ := g_ob h
  have hG : GoodIn lw_all (va_wsF own idx "java/util/ArrayList$Itr" (⟨"java/util/Iterator", "hasNext", "()Z"⟩ : MethodName) yJ15_hasNext (ws_ yJ15_hasNext cJ15_hasNext 1 (some .boolean))) := by
    refine lw_app ?_ (lw_meth q1092)
    intro w hw
    simp only [List.mem_cons, List.not_mem_nil, or_false] at hw
    rcases hw with e | e | e | e
    · rw [e]; exact hq
    · rw [e]; exact q1088
    · rw [e]; exact q1090
    · rw [e]; exact q165
  refine va_callFi (va_runF (As := []) (rest := rest) (B.1.1 13 _ xc_13.1).2 C (w_J15_hasNext l D cA ad hk nx gi gr a0 ht q h1 H.size) (va_cwF 0 C.2.2.2.2 hG rfl rfl rfl (B.2.2.2.2.2.1 _ fw_0) (by decide +kernel) ⟨hF, hN⟩) ⟨xx_blind, xx_recv B xc_13 ht (by decide), fun U hU hW => xx_pre B U hU hW⟩ rfl rfl hs rfl (lv_room hw) hdg hz0) B.2.2.2.1 (fun q _ h => xx_inA B q h) (fun q h => xx_inA B q h) (fun w u t H1 locs1 ht1 hvm hp hB hz hk1 hS => ?_)
  obtain ⟨e1, e2, e3⟩ := hp
  have hB2 := hB.2.1
  have hB3 := hB.2.2
  rw [e2] at hB2
  rw [e3] at hB2 hB3
  subst e1
  exact kk _ h2 H1 locs1 ⟨B.1, by rw [← ht1]; exact hB2, ⟨B.2.2.1.1, hB3⟩, hS, B.2.2.2.2⟩
theorem kF_J15_next {p : Program} {l : Launch} {e : Env} {R : Room} {s : State} {m : MethodId} {args : Array Value} {below : List Frame} {meth : Method} {c : Code} {H : Heap} {locs : List Loc} {Q : State → Prop} {pc : Nat} {ls : Array Slot} {rest : List Value} {cc : ByteArray} {nL cells slots : Nat} {D : va_G} {cA : Nat → ClassId} {ad : Nat → Nat} {hk : HK} {nx : Nat} {A : Nat → Prop} {gi : GI} {gr : GR} {α : Type} {r : α} {own : String} {idx count a0 : Nat} {ff : (Nat × GI) → Option α} (ht : (hk a0).1 = 23) (C : CallFix p m c cc nL s args lw_all own) (B : XB D cA ad hk nx A s gi gr H locs) (hq : Cond.methodLink own idx (⟨"java/util/Iterator", "next", "()Ljava/lang/Object;"⟩ : MethodName) ∈ lw_all) (hF : 3 ≤ R.frames) (hN : 106 ≤ R.locals) (hs : ls.size = nL) (hw : (rest.map fun v => v.category).sum ≤ 8) (hz0 : cells ≤ R.cells ∧ slots ≤ R.slots) (h : (f_J15_next hk gi gr a0).bind ff = some r) (hdg : decode cc pc = .ok (.invokeinterface idx count, 5)) (kk : ∀ q, ff q = some r → ∀ (H' : Heap) (locs' : List Loc), XB D cA ad hk nx A s q.2 gr H' locs' → W p l e R s m args below meth c H' locs' cells slots Q (F0 m (pc + 5) ls (.ref (ad q.1) :: rest))) : W p l e R s m args below meth c H locs cells slots Q (F0 m pc ls (.ref (ad a0) :: rest)) := by
  obtain ⟨q, h1, h2⟩ := g_ob h
  have hG : GoodIn lw_all (va_wsF own idx "java/util/ArrayList$Itr" (⟨"java/util/Iterator", "next", "()Ljava/lang/Object;"⟩ : MethodName) yJ15_next (ws_ yJ15_next cJ15_next 3 (some (.object "java/lang/Object")))) := by
    refine lw_app ?_ (lw_meth q1101)
    intro w hw
    simp only [List.mem_cons, List.not_mem_nil, or_false] at hw
    rcases hw with e | e | e | e
    · rw [e]; exact hq
    · rw [e]; exact q1097
    · rw [e]; exact q1099
    · rw [e]; exact q165
  refine va_callFq (va_runF (As := []) (rest := rest) (B.1.1 13 _ xc_13.1).2 C (w_J15_next l D cA ad hk nx gi gr a0 ht q h1 H.size) (va_cwF 0 C.2.2.2.2 hG rfl rfl rfl (B.2.2.2.2.2.1 _ fw_1) (by decide +kernel) ⟨hF, hN⟩) ⟨xx_blind, xx_recv B xc_13 ht (by decide), fun U hU hW => xx_pre B U hU hW⟩ rfl rfl hs rfl (lv_room hw) hdg hz0) B.2.2.2.1 (fun q _ h => xx_inA B q h) (fun q h => xx_inA B q h) (fun w u t H1 locs1 ht1 hvm hp hB hz hk1 hS => ?_)
  obtain ⟨v, rfl, v9, rfl, e1, e3⟩ := hp
  have hB2 := hB.2.1
  have hB3 := hB.2.2
  rw [e3] at hB2 hB3
  subst e1
  exact kk _ h2 H1 locs1 ⟨B.1, by rw [← ht1]; exact hB2, ⟨B.2.2.1.1, hB3⟩, hS, B.2.2.2.2⟩

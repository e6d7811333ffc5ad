/-! more rows over the component's world: references in arrays, null, casts -/
set_option maxRecDepth 100000
def g_allk (hk : HK) (gr : GR) (a sp n t : Nat) : Bool := (List.range n).all (fun i => match gr a (sp + i) with | none => true | some y => decide ((hk y).1 = t))
/-- System.arraycopy of references to cells of one kind t -/
def g_cprP (hk : HK) (gr : GR) (a : Nat) (sp : Int32) (b : Nat) (dp n : Int32) : Option GR := if g_allk hk gr a sp.toNatClampNeg n.toNatClampNeg 13 = true then g_cpr hk gr a sp b dp n else none
section XM
variable {p : Program} {l : Launch} {e : Env} {R : Room} {s : State} {m : MethodId} {args : Array Value} {below : List Frame} {meth : Method} {c : Code} {H : Heap} {locs : List Loc} {cells slots : Nat} {Q : State → Prop}
variable {pc : Nat} {ls : Array Slot} {rest : List Value} {cc : ByteArray} {nL : Nat} {α : Type} {r : α} {D : va_G} {cA : Nat → ClassId} {ad : Nat → Nat} {hk : HK} {nx : Nat} {A : Nat → Prop} {gi : GI} {gr : GR} {own : String} {idx : Nat}
theorem xx_anyS (B : XB D cA ad hk nx A s gi gr H locs) {b ci N : Nat} {Rc : String} {Tc : u_T} {tyc : Nat → FieldType} (X : XC ci Rc Tc tyc N) (hp : (hk b).1 = 10 + ci) (hci : 10 + ci < 100) : va_Any Rc s H (ad b) := va_rAny B.1 B.2.1 (r := (Rc, Tc, N)) (Xw_o (xb_lt B hp hci) hp) X.1 (fun comp c0 h1 h2 => vb_asgS comp c0 h1 h2)
theorem xx_anyC (B : XB D cA ad hk nx A s gi gr H locs) {b ci N : Nat} {Rc E : String} {Tc : u_T} {tyc : Nat → FieldType} (X : XC ci Rc Tc tyc N) (hp : (hk b).1 = 10 + ci) (hci : 10 + ci < 100) (hq : Cond.castable Rc E ∈ nwX) : va_Any E s H (ad b) := va_rAny B.1 B.2.1 (r := (Rc, Tc, N)) (Xw_o (xb_lt B hp hci) hp) X.1 (fun comp c0 h1 h2 => vb_asgC (B.2.2.2.2.1 _ hq) comp c0 h1 h2)
theorem xx_aaldA {a : Nat} {i : Int32} {f : Nat → Option α} (C : CallFix p m c cc nL s args lw_all own) (B : XB D cA ad hk nx A s gi gr H locs) (hp : (hk a).1 = 6) (h : (g_ldr gr a (hk a).2 i).bind f = some r) (hdg : decode cc pc = .ok (.aaload, 1)) (kk : ∀ v, (hk v).1 < 1000 → f v = some r → W p l e R s m args below meth c H locs cells slots Q (F0 m (pc + 1) ls (.ref (ad v) :: rest))) : W p l e R s m args below meth c H locs cells slots Q (F0 m pc ls (.int i :: .ref (ad a) :: rest)) := by
  obtain ⟨v, h1, h2⟩ := g_ob h
  obtain ⟨h3, h4⟩ := g_ldr_in h1
  have ha := xb_lt B hp (by omega)
  have kk := kk v (B.2.2.1.2.2.2.1 a _ v ha h4) h2
  have hlt : i.toNatClampNeg < (hk a).2 := Nat.not_le.mp fun q => h3 (Or.inr q)
  refine W.aald (v := va_rf ((gr a i.toNatClampNeg).map ad)) (ty := .array .int) C.1 C.2.1 (B.2.1 a _ (Xw_r ha hp (by decide))) ((B.1.2 6 _ rfl).1 (hk a).2 (fun j => va_rf ((gr a j).map ad))) rfl (fun q => by cases q) (by show ¬ (i < 0 ∨ (arrV _ _ _).slots.size ≤ _); rw [arrV_size]; exact h3) (by show (arrV _ _ _).slots[_]? = _; rw [arrV_read _ _ hlt]) rfl rfl hdg ?_
  simp only [h4, Option.map_some, va_rf]
  exact kk
theorem xx_aastM {a t v : Nat} {E : String} {i : Int32} {f : GR → Option α} (C : CallFix p m c cc nL s args lw_all own) (B : XB D cA ad hk nx A s gi gr H locs) (hp : (hk a).1 = t) (ht : 4 ≤ t ∧ t < 10) (hty : (g_tys cA)[t]? = some (cA t, .object E)) (hany : va_Any E s H (ad v)) (hv : (hk v).1 < 1000) (h : (g_str gr a (hk a).2 i (some v)).bind f = some r) (hdg : decode cc pc = .ok (.aastore, 1)) (kk : ∀ g', f g' = some r → ∀ (H' : Heap) (locs' : List Loc), XB D cA ad hk nx A s gi g' H' locs' → W p l e R s m args below meth c H' locs' cells slots Q (F0 m (pc + 1) ls rest)) : W p l e R s m args below meth c H locs cells slots Q (F0 m pc ls (.ref (ad v) :: .int i :: .ref (ad a) :: rest)) := by
  obtain ⟨g', h1, h2⟩ := g_ob h
  obtain ⟨h3, rfl⟩ := g_str_in h1
  refine va_astqM C.1 C.2.1 B.1 B.2.1 B.2.2.1.1.1.va B.2.2.2.1 a t (Xw_r (xb_lt B hp (by omega)) hp ht) hty hany h3 hdg (fun H' locs' hP _ hS => kk _ h2 H' locs' ⟨B.1, ?_, ⟨B.2.2.1.1, B.2.2.1.2.pr hv⟩, hS, B.2.2.2.2⟩)
  rw [Xw_pr (gr' := g_pr gr a i.toNatClampNeg (some v)) hp ht (fun j => ?_) g_pr_ne] at hP
  · exact hP
  · rw [g_pr_at]
    by_cases q : j = i.toNatClampNeg
    · simp [va_up, q]
    · simp [va_up, q]
theorem xx_aast {a t v ci N : Nat} {Rc : String} {Tc : u_T} {tyc : Nat → FieldType} {i : Int32} {f : GR → Option α} (C : CallFix p m c cc nL s args lw_all own) (B : XB D cA ad hk nx A s gi gr H locs) (X : XC ci Rc Tc tyc N) (hp : (hk a).1 = t) (ht : 4 ≤ t ∧ t < 10) (hty : (g_tys cA)[t]? = some (cA t, .object Rc)) (hv : (hk v).1 = 10 + ci) (hci : 10 + ci < 100) (h : (g_str gr a (hk a).2 i (some v)).bind f = some r) (hdg : decode cc pc = .ok (.aastore, 1)) (kk : ∀ g', f g' = some r → ∀ (H' : Heap) (locs' : List Loc), XB D cA ad hk nx A s gi g' H' locs' → W p l e R s m args below meth c H' locs' cells slots Q (F0 m (pc + 1) ls rest)) : W p l e R s m args below meth c H locs cells slots Q (F0 m pc ls (.ref (ad v) :: .int i :: .ref (ad a) :: rest)) :=
  xx_aastM C B hp ht hty (xx_anyS B X hv hci) (by omega) h hdg kk
theorem g_allk_of {hk : HK} {gr : GR} {a sp n t : Nat} (h : g_allk hk gr a sp n t = true) (i : Nat) (hi : i < n) (y : Nat) (hy : gr a (sp + i) = some y) : (hk y).1 = t := by
  have h1 := List.all_eq_true.mp h i (List.mem_range.mpr hi)
  rw [hy] at h1
  simpa using h1
theorem xx_cpr {a b : Nat} {sp dp k : Int32} {f : GR → Option α} (C : CallFix p m c cc nL s args lw_all own) (B : XB D cA ad hk nx A s gi gr H locs) (hq : Cond.methodLink own idx arraycopyName ∈ lw_all) (hna : Cond.native arraycopyName ∈ lw_all) (hst : Cond.static arraycopyName ∈ lw_all) (hin : Cond.initialized "java/lang/System" ∈ lw_all) (ha : (hk a).1 = 5) (hb : (hk b).1 = 5) (hF : 1 ≤ R.frames) (hN : 8 + (nativeFrameWords "java/lang/System" "arraycopy" 5 + 11) ≤ R.locals) (hs : ls.size = nL) (hw : (rest.map fun v => v.category).sum ≤ 8) (h : (g_cprP hk gr a sp b dp k).bind f = some r) (hdg : decode cc pc = .ok (.invokestatic idx, 3)) (kk : ∀ g', f g' = some r → ∀ (H' : Heap) (locs' : List Loc), XB D cA ad hk nx A s gi g' H' locs' → W p l e R s m args below meth c H' locs' cells slots Q (F0 m (pc + 3) ls rest)) : W p l e R s m args below meth c H locs cells slots Q (F0 m pc ls (.int k :: .int dp :: .ref (ad b) :: .int sp :: .ref (ad a) :: rest)) := by
  obtain ⟨g', h1, h2⟩ := g_ob h
  unfold g_cprP at h1
  by_cases q0 : g_allk hk gr a sp.toNatClampNeg k.toNatClampNeg 13 = true
  · rw [if_pos q0] at h1
    unfold g_cpr at h1
    by_cases q : g_cp0 sp dp k (hk a).2 (hk b).2 = true
    · rw [if_pos q] at h1
      cases h1
      obtain ⟨q1, q2, q3, q4, q5⟩ := g_cp0_of q
      have la := xb_lt B ha (by decide)
      have lb := xb_lt B hb (by decide)
      refine va_copyM C.1 C.2.1 (C.2.2.1.trans hs.symm) C.2.2.2.1 (C.2.2.2.2 _ hq) (C.2.2.2.2 _ hna) (C.2.2.2.2 _ hst) (C.2.2.2.2 _ hin) B.1 B.2.1 B.2.2.1.1.1.va B.2.2.2.1 a b 5 5 (E0 := "WeatherWages$Plots") (E1 := "WeatherWages$Plots") (Xw_r la ha (by decide)) (Xw_r lb hb (by decide)) rfl rfl q1 q2 q3 q4 q5 (fun i hi y hy => ?_) hF (by omega) hdg (fun H' locs' hP _ hS => kk _ h2 H' locs' ⟨B.1, ?_, ⟨B.2.2.1.1, ?_⟩, hS, B.2.2.2.2⟩)
      · obtain ⟨z, hz, rfl⟩ := Option.map_eq_some_iff.mp hy
        exact xx_anyS B xc_3 (g_allk_of q0 i hi z hz) (by decide)
      · rw [Xw_pr (gr' := va_up gr b (va_cpy (gr a) (gr b) sp.toNatClampNeg dp.toNatClampNeg k.toNatClampNeg)) hb (by decide) (fun j => ?_) (fun j hj => by simp [va_up, hj])] at hP
        · exact hP
        · simp only [va_up, if_pos, va_cpy]
          by_cases qq : dp.toNatClampNeg ≤ j ∧ j < dp.toNatClampNeg + k.toNatClampNeg
          · rw [if_pos qq, if_pos qq]
          · rw [if_neg qq, if_neg qq]
      · refine ⟨B.2.2.1.2.1, B.2.2.1.2.2.1, fun i k' j hi he => ?_, B.2.2.1.2.2.2.2⟩
        by_cases qi : i = b
        · subst qi
          simp only [va_up, if_pos, va_cpy] at he
          by_cases qq : dp.toNatClampNeg ≤ k' ∧ k' < dp.toNatClampNeg + k.toNatClampNeg
          · rw [if_pos qq] at he
            exact B.2.2.1.2.2.2.1 a _ j la he
          · rw [if_neg qq] at he
            exact B.2.2.1.2.2.2.1 i _ j hi he
        · simp only [va_up, if_neg qi] at he
          exact B.2.2.1.2.2.2.1 i _ j hi he
    · rw [if_neg q] at h1
      cases h1
  · rw [if_neg q0] at h1
    cases h1
/-- null or not -/
theorem xx_ifnull {o : Option Nat} {X : Option α} {Y : Nat → Option α} {off : Int} (hexec : p.tables.exec = Jvm.exec) (hb : c.code = cc) (tgt : Nat) (h : o.elim X Y = some r) (hdg : decode cc pc = .ok (.ifnull off, 3)) (ht : (pc : Int) + off = (tgt : Int)) (kn : o = none → X = some r → W p l e R s m args below meth c H locs cells slots Q (F0 m tgt ls rest)) (kv : ∀ v, o = some v → Y v = some r → W p l e R s m args below meth c H locs cells slots Q (F0 m (pc + 3) ls rest)) : W p l e R s m args below meth c H locs cells slots Q (F0 m pc ls (va_rf (o.map ad) :: rest)) := by
  cases o with
  | none => exact lv_ifnullN hexec hb hdg ht (kn rfl h)
  | some v => exact lv_ifnull hexec hb hdg (kv v rfl h)
theorem xx_ifnonnull {o : Option Nat} {X : Option α} {Y : Nat → Option α} {off : Int} (hexec : p.tables.exec = Jvm.exec) (hb : c.code = cc) (tgt : Nat) (h : o.elim X Y = some r) (hdg : decode cc pc = .ok (.ifnonnull off, 3)) (ht : (pc : Int) + off = (tgt : Int)) (kn : o = none → X = some r → W p l e R s m args below meth c H locs cells slots Q (F0 m (pc + 3) ls rest)) (kv : ∀ v, o = some v → Y v = some r → W p l e R s m args below meth c H locs cells slots Q (F0 m tgt ls rest)) : W p l e R s m args below meth c H locs cells slots Q (F0 m pc ls (va_rf (o.map ad) :: rest)) := by
  cases o with
  | none => exact lv_ifnonnullN hexec hb hdg (kn rfl h)
  | some v => exact lv_ifnonnull hexec hb hdg ht (kv v rfl h)
theorem xx_aload_nO {o : Option Nat} {k : Fin 4} {i : Nat} (hexec : p.tables.exec = Jvm.exec) (hb : c.code = cc) (hdg : decode cc pc = .ok (.aload_n k, 1)) (hi : (k : Nat) = i) (hl : ls[i]? = some (.val (va_rf (o.map ad)))) (kk : W p l e R s m args below meth c H locs cells slots Q (F0 m (pc + 1) ls (va_rf (o.map ad) :: rest))) : W p l e R s m args below meth c H locs cells slots Q (F0 m pc ls rest) := by
  cases o with
  | none => exact lv_aload_nN hexec hb hdg hi hl kk
  | some v => exact lv_aload_n hexec hb hdg hi hl kk
theorem xx_aloadO {o : Option Nat} {i : Nat} (hexec : p.tables.exec = Jvm.exec) (hb : c.code = cc) (hdg : decode cc pc = .ok (.aload i, 2)) (hl : ls[i]? = some (.val (va_rf (o.map ad)))) (kk : W p l e R s m args below meth c H locs cells slots Q (F0 m (pc + 2) ls (va_rf (o.map ad) :: rest))) : W p l e R s m args below meth c H locs cells slots Q (F0 m pc ls rest) := by
  cases o with
  | none => exact lv_aloadN hexec hb hdg hl kk
  | some v => exact lv_aload hexec hb hdg hl kk
theorem xx_astore_nO {o : Option Nat} {k : Fin 4} {i nL : Nat} {lv lv' : List (Nat × Value)} (hexec : p.tables.exec = Jvm.exec) (hb : c.code = cc) (hdg : decode cc pc = .ok (.astore_n k, 1)) (hi : (k : Nat) = i) (h : lv_has ls nL lv) (hn : i < nL) (hl : (i, va_rf (o.map ad)) :: lv.filter (fun q => !(q.1 == i) && !(q.1 + 1 == i && q.2.category == 2)) = lv') (kk : ∀ ls' : Array Slot, lv_has ls' nL lv' → W p l e R s m args below meth c H locs cells slots Q (F0 m (pc + 1) ls' rest)) : W p l e R s m args below meth c H locs cells slots Q (F0 m pc ls (va_rf (o.map ad) :: rest)) := by
  cases o with
  | none => exact lv_astore_nN hexec hb hdg hi h hn hl kk
  | some v => exact lv_astore_n hexec hb hdg hi h hn hl kk
theorem xx_astoreO {o : Option Nat} {i nL : Nat} {lv lv' : List (Nat × Value)} (hexec : p.tables.exec = Jvm.exec) (hb : c.code = cc) (hdg : decode cc pc = .ok (.astore i, 2)) (h : lv_has ls nL lv) (hn : i < nL) (hl : (i, va_rf (o.map ad)) :: lv.filter (fun q => !(q.1 == i) && !(q.1 + 1 == i && q.2.category == 2)) = lv') (kk : ∀ ls' : Array Slot, lv_has ls' nL lv' → W p l e R s m args below meth c H locs cells slots Q (F0 m (pc + 2) ls' rest)) : W p l e R s m args below meth c H locs cells slots Q (F0 m pc ls (va_rf (o.map ad) :: rest)) := by
  cases o with
  | none => exact lv_astoreN hexec hb hdg h hn hl kk
  | some v => exact lv_astore hexec hb hdg h hn hl kk
end XM

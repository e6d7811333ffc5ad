/-! TEXTS THAT WERE THERE BEFORE: a literal is its place i < 22 (cell 1000100 + i, its bytes 1000200 + i) -/
set_option maxRecDepth 100000
def g_ldB (i : Nat) (k : Int32) : Option Int32 := if g_in k (stL.getD i 0) = true then some ((stB.getD i []).getD k.toNatClampNeg 0) else none
def g_lit (i : Nat) : Option Unit := if i < 22 then some () else none
section XLIT
variable {p : Program} {l : Launch} {e : Env} {R : Room} {s : State} {m : MethodId} {args : Array Value} {below : List Frame} {meth : Method} {c : Code} {H : Heap} {locs : List Loc} {cells slots : Nat} {Q : State → Prop}
variable {pc : Nat} {ls : Array Slot} {rest : List Value} {cc : ByteArray} {nL : Nat} {α : Type} {r : α} {D : va_G} {cA : Nat → ClassId} {ad : Nat → Nat} {hk : HK} {nx : Nat} {A : Nat → Prop} {gi : GI} {gr : GR} {own : String} {idx : Nat}
theorem xl_S (B : XB D cA ad hk nx A s gi gr H locs) : vk_S 22 stL stB (fun i => ad (1000100 + i)) (fun i => ad (1000200 + i)) A s s.heap := B.2.2.2.2.2.2.2.2.2.1
theorem xx_lit {i : Nat} {f : Unit → Option α} {P : Prop} (h : (g_lit i).bind f = some r) (kk : i < 22 → f () = some r → P) : P := by
  obtain ⟨v, h1, h2⟩ := g_ob h
  unfold g_lit at h1
  by_cases q : i < 22
  · exact kk q h2
  · rw [if_neg q] at h1; cases h1
theorem xx_ldcS {i : Nat} (C : CallFix p m c cc nL s args lw_all "WeatherWages$Reader") (B : XB D cA ad hk nx A s gi gr H locs) (hi : i < 22) (hk9 : stK.getD i 0 = idx) (hdg : decode cc pc = .ok (.ldc idx, 2)) (kk : W p l e R s m args below meth c H locs cells slots Q (F0 m (pc + 2) ls (.ref (ad (1000100 + i)) :: rest))) : W p l e R s m args below meth c H locs cells slots Q (F0 m pc ls rest) := by
  subst hk9
  exact va_ldcS C.1 C.2.1 C.2.2.2.1 (B.2.2.2.2.2.2.2.2.2.2.1 i hi) hdg kk
theorem xx_gLc {i : Nat} (C : CallFix p m c cc nL s args lw_all own) (B : XB D cA ad hk nx A s gi gr H locs) (hi : i < 22) (hq : Cond.fieldLink own idx "java/lang/String" "coder" "B" ∈ lw_all) (hdg : decode cc pc = .ok (.getfield idx, 3)) (kk : W p l e R s m args below meth c H locs cells slots Q (F0 m (pc + 3) ls (.int 0 :: rest))) : W p l e R s m args below meth c H locs cells slots Q (F0 m pc ls (.ref (ad (1000100 + i)) :: rest)) :=
  vk_getf C.1 C.2.1 ((xl_S B).1 i hi).2.1 B.2.2.2.1 C.2.2.2.1 (C.2.2.2.2 _ hq) (fun _ h => h) hdg kk
theorem xx_gLv {i : Nat} (C : CallFix p m c cc nL s args lw_all own) (B : XB D cA ad hk nx A s gi gr H locs) (hi : i < 22) (hq : Cond.fieldLink own idx "java/lang/String" "value" "[B" ∈ lw_all) (hdg : decode cc pc = .ok (.getfield idx, 3)) (kk : W p l e R s m args below meth c H locs cells slots Q (F0 m (pc + 3) ls (.ref (ad (1000200 + i)) :: rest))) : W p l e R s m args below meth c H locs cells slots Q (F0 m pc ls (.ref (ad (1000100 + i)) :: rest)) :=
  vk_getf C.1 C.2.1 ((xl_S B).1 i hi).2.2.1 B.2.2.2.1 C.2.2.2.1 (C.2.2.2.2 _ hq) (fun _ h => h) hdg kk
theorem xx_Bald {i : Nat} {k : Int32} {f : Int32 → Option α} (C : CallFix p m c cc nL s args lw_all own) (B : XB D cA ad hk nx A s gi gr H locs) (hi : i < 22) (h : (g_ldB i k).bind f = some r) (hdg : decode cc pc = .ok (.baload, 1)) (kk : ∀ v, f v = some r → W p l e R s m args below meth c H locs cells slots Q (F0 m (pc + 1) ls (.int v :: rest))) : W p l e R s m args below meth c H locs cells slots Q (F0 m pc ls (.int k :: .ref (ad (1000200 + i)) :: rest)) := by
  obtain ⟨v, h1, h2⟩ := g_ob h
  unfold g_ldB at h1
  by_cases q : g_in k (stL.getD i 0) = true
  · rw [if_pos q] at h1
    cases h1
    exact va_tb C.1 C.2.1 ((xl_S B).1 i hi).2.2.2 B.2.2.2.1 (g_in_vp q) rfl hdg (kk _ h2)
  · rw [if_neg q] at h1; cases h1
theorem xx_Blen {i : Nat} (C : CallFix p m c cc nL s args lw_all own) (B : XB D cA ad hk nx A s gi gr H locs) (hi : i < 22) (hdg : decode cc pc = .ok (.arraylength, 1)) (kk : W p l e R s m args below meth c H locs cells slots Q (F0 m (pc + 1) ls (.int (Int32.ofNat (stL.getD i 0)) :: rest))) : W p l e R s m args below meth c H locs cells slots Q (F0 m pc ls (.ref (ad (1000200 + i)) :: rest)) :=
  va_tlen C.1 C.2.1 ((xl_S B).1 i hi).2.2.2 B.2.2.2.1 rfl hdg kk
theorem xx_instL {i : Nat} (C : CallFix p m c cc nL s args lw_all own) (B : XB D cA ad hk nx A s gi gr H locs) (hi : i < 22) (hq : Cond.classLink own idx "java/lang/String" ∈ lw_all) (hdg : decode cc pc = .ok (.instanceof idx, 3)) (kk : W p l e R s m args below meth c H locs cells slots Q (F0 m (pc + 3) ls (.int 1 :: rest))) : W p l e R s m args below meth c H locs cells slots Q (F0 m pc ls (.ref (ad (1000100 + i)) :: rest)) :=
  va_instE C.1 C.2.1 C.2.2.2.1 (C.2.2.2.2 _ hq) (vk_recv (adK := fun i => ad (1000100 + i)) (i := i) (xl_S B) hi B.2.2.2.1) hdg kk
theorem xx_castL {i : Nat} (C : CallFix p m c cc nL s args lw_all own) (B : XB D cA ad hk nx A s gi gr H locs) (hi : i < 22) (hq : Cond.classLink own idx "java/lang/String" ∈ lw_all) (hdg : decode cc pc = .ok (.checkcast idx, 3)) (kk : W p l e R s m args below meth c H locs cells slots Q (F0 m (pc + 3) ls (.ref (ad (1000100 + i)) :: rest))) : W p l e R s m args below meth c H locs cells slots Q (F0 m pc ls (.ref (ad (1000100 + i)) :: rest)) :=
  va_castE C.1 C.2.1 C.2.2.2.1 (C.2.2.2.2 _ hq) (vk_recv (adK := fun i => ad (1000100 + i)) (i := i) (xl_S B) hi B.2.2.2.1) hdg kk
theorem xx_instM {b ci N : Nat} {Rc : String} {Tc : u_T} {tyc : Nat → FieldType} (C : CallFix p m c cc nL s args lw_all own) (B : XB D cA ad hk nx A s gi gr H locs) (X : XC ci Rc Tc tyc N) (hp : (hk b).1 = 10 + ci) (hci : 10 + ci < 100) (hq : Cond.classLink own idx Rc ∈ lw_all) (hdg : decode cc pc = .ok (.instanceof idx, 3)) (kk : W p l e R s m args below meth c H locs cells slots Q (F0 m (pc + 3) ls (.int 1 :: rest))) : W p l e R s m args below meth c H locs cells slots Q (F0 m pc ls (.ref (ad b) :: rest)) :=
  va_instE C.1 C.2.1 C.2.2.2.1 (C.2.2.2.2 _ hq) (xx_recv B X hp hci) hdg kk
/-- two references: one of ours, one that was there before -/
theorem xx_acmpL {i b : Nat} {off : Int} (C : CallFix p m c cc nL s args lw_all own) (B : XB D cA ad hk nx A s gi gr H locs) (hi : i < 22) (hb : (hk b).1 < 100) (tgt : Nat) (hdg : decode cc pc = .ok (.if_acmp .ne off, 3)) (ht : (pc : Int) + off = (tgt : Int)) (kk : W p l e R s m args below meth c H locs cells slots Q (F0 m tgt ls rest)) : W p l e R s m args below meth c H locs cells slots Q (F0 m pc ls (.ref (ad (1000100 + i)) :: .ref (ad b) :: rest)) := by
  refine lv_acmp_ne (rx := some (ad b)) (ry := some (ad (1000100 + i))) C.1 C.2.1 hdg ht (fun _ => kk) (fun h => ?_)
  exfalso
  have e : ad b = ad (1000100 + i) := Option.some.inj h
  obtain ⟨cell, -, -, -, h5⟩ := ((xl_S B).1 i hi).1
  exact h5 (show A (ad (1000100 + i)) by rw [← e]; exact B.2.2.1.1.1.2 b (B.2.2.1.2.1 b hb))
/-- two references of ours -/
theorem xx_acmpM {a b : Nat} {off : Int} {f g : Option α} (C : CallFix p m c cc nL s args lw_all own) (B : XB D cA ad hk nx A s gi gr H locs) (ha : (hk a).1 < 100) (hb : (hk b).1 < 100) (tgt : Nat) (h : (if b = a then f else g) = some r) (hdg : decode cc pc = .ok (.if_acmp .ne off, 3)) (ht : (pc : Int) + off = (tgt : Int)) (kt : f = some r → W p l e R s m args below meth c H locs cells slots Q (F0 m (pc + 3) ls rest)) (kf : g = some r → W p l e R s m args below meth c H locs cells slots Q (F0 m tgt ls rest)) : W p l e R s m args below meth c H locs cells slots Q (F0 m pc ls (.ref (ad a) :: .ref (ad b) :: rest)) := by
  by_cases q : b = a
  · rw [if_pos q] at h
    exact lv_acmp_ne (rx := some (ad b)) (ry := some (ad a)) C.1 C.2.1 hdg ht (fun z => absurd (by rw [q]) z) (fun _ => kt h)
  · rw [if_neg q] at h
    refine lv_acmp_ne (rx := some (ad b)) (ry := some (ad a)) C.1 C.2.1 hdg ht (fun _ => kf h) (fun z => ?_)
    exact absurd (B.2.2.1.1.1.1 b a (B.2.2.1.2.1 b hb) (B.2.2.1.2.1 a ha) (Option.some.inj z)) q
/-- a constant of the enum -/
theorem xx_gsA {j : Nat} {n : String} (C : CallFix p m c cc nL s args lw_all own) (B : XB D cA ad hk nx A s gi gr H locs) (hj : j < 6) (hn : asF.getD j "" = n) (hq : Cond.fieldLink own idx "WeatherWages$Asked" n "LWeatherWages$Asked;" ∈ lw_all) (hdg : decode cc pc = .ok (.getstatic idx, 3)) (kk : W p l e R s m args below meth c H locs cells slots Q (F0 m (pc + 3) ls (.ref (ad (1000000 + j)) :: rest))) : W p l e R s m args below meth c H locs cells slots Q (F0 m pc ls rest) := by
  subst hn
  exact va_gets C.1 C.2.1 (B.2.2.2.2.2.2.2.1 j hj).2 B.2.2.2.1 C.2.2.2.1 (C.2.2.2.2 _ hq) (fun _ h => h) hdg kk
end XLIT

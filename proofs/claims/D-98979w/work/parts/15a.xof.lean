/-! Node.of: what a formula's node answers, by its kind -/
set_option maxRecDepth 100000
def OfM (l : Launch) (D : va_G) (cA : Nat → ClassId) (ad : Nat → Nat) (hk : HK) (nx : Nat) (gi : GI) (gr : GR) (fr lo : Nat) (y : MethodName) (cc : ByteArray) (nL : Nat) (q b : Nat) (v : Int32) : Prop :=
  ∀ sz, Met l y (ws_ y cc nL (some .int)) ({ frames := fr, cells := 0, slots := 0, locals := lo } : Room) (va_Pc [.ref (ad q), .ref (ad b)] (XPre D cA ad hk nx gi gr sz)) (va_Qi (fun w u => w = v ∧ u.1 = gi ∧ u.2 = gr) (XPost D cA ad hk nx) (XA ad nx sz)) 0 0 (XA ad nx sz)
def OfOk (l : Launch) (D : va_G) (cA : Nat → ClassId) (ad : Nat → Nat) (hk : HK) (nx : Nat) (gi : GI) (gr : GR) (fr lo : Nat) (q b : Nat) (v : Int32) : Prop :=
  ((hk q).1 = 19 ∧ OfM l D cA ad hk nx gi gr fr lo yX10_of cX10_of 2 q b v) ∨ ((hk q).1 = 18 ∧ OfM l D cA ad hk nx gi gr fr lo yX9_of cX9_of 2 q b v) ∨ ((hk q).1 = 20 ∧ OfM l D cA ad hk nx gi gr fr lo yX11_of cX11_of 4 q b v) ∨ ∃ j, j < 6 ∧ q = 1000000 + j ∧ (hk b).1 = 12 ∧ v = gi b j
section XOF
variable {p : Program} {l : Launch} {e : Env} {R : Room} {s : State} {m : MethodId} {args : Array Value} {below : List Frame} {meth : Method} {c : Code} {H : Heap} {locs : List Loc} {cells slots : Nat} {Q : State → Prop}
variable {pc : Nat} {ls : Array Slot} {rest : List Value} {cc : ByteArray} {nL : Nat} {α : Type} {r : α} {D : va_G} {cA : Nat → ClassId} {ad : Nat → Nat} {hk : HK} {nx : Nat} {A : Nat → Prop} {gi : GI} {gr : GR} {own : String} {idx count fr lo : Nat}
theorem k_ofM {ci N maxL q b : Nat} {Rc : String} {Tc : u_T} {tyc : Nat → FieldType} {y : MethodName} {bytes : ByteArray} {v : Int32} (C : CallFix p m c cc nL s args lw_all own) (B : XB D cA ad hk nx A s gi gr H locs) (X : XC ci Rc Tc tyc N) (hp : (hk q).1 = 10 + ci) (hci : 10 + ci < 100) (hM : OfM l D cA ad hk nx gi gr fr lo y bytes maxL q b v) (hfw : (Rc, yOf, y) ∈ fwX) (h1 : Cond.methodLink own idx yOf ∈ lw_all) (h2 : Cond.selects Rc yOf y ∈ lw_all) (h3 : Cond.instanceMethod y ∈ lw_all) (h4 : Cond.initialized y.cls ∈ lw_all) (h5 : Cond.code y bytes maxL (some .int) ∈ lw_all) (hR : fr + 1 ≤ R.frames ∧ 8 + (maxL + 11) + lo ≤ R.locals) (hs : ls.size = nL) (hw : (rest.map fun v => v.category).sum ≤ 8) (hz0 : cells ≤ R.cells ∧ slots ≤ R.slots) (hdg : decode cc pc = .ok (.invokeinterface idx count, 5)) (kk : ∀ (H' : Heap) (locs' : List Loc), XB D cA ad hk nx A s gi gr H' locs' → W p l e R s m args below meth c H' locs' cells slots Q (F0 m (pc + 5) ls (.int v :: rest))) : W p l e R s m args below meth c H locs cells slots Q (F0 m pc ls (.ref (ad b) :: .ref (ad q) :: rest)) := by
  have hG : GoodIn lw_all (va_wsF own idx Rc yOf y (ws_ y bytes maxL (some .int))) := by
    refine lw_app ?_ (lw_meth h5)
    intro w hw
    simp only [List.mem_cons, List.not_mem_nil, or_false] at hw
    rcases hw with e | e | e | e
    · rw [e]; exact h1
    · rw [e]; exact h2
    · rw [e]; exact h3
    · rw [e]; exact h4
  refine va_callFi (va_runF (As := [.ref (ad b)]) (rest := rest) (B.1.1 ci _ X.1).2 C (hM H.size) (va_cwF 1 C.2.2.2.2 hG rfl rfl rfl (B.2.2.2.2.2.1 _ hfw) (by decide +kernel) hR) ⟨xx_blind, xx_recv B X hp hci, fun U hU hW => xx_pre B U hU hW⟩ rfl rfl hs rfl (lv_room hw) hdg hz0) B.2.2.2.1 (fun q _ h => xx_inA B q h) (fun q h => xx_inA B q h) (fun w u t H1 locs1 ht hvm hp hB hz hk hS => ?_)
  obtain ⟨rfl, e2, e3⟩ := hp
  have hB2 := hB.2.1
  have hB3 := hB.2.2
  rw [e2, e3] at hB2
  rw [e3] at hB3
  exact kk H1 locs1 ⟨B.1, by rw [← ht]; exact hB2, ⟨B.2.2.1.1, hB3⟩, hS, B.2.2.2.2⟩
theorem k_of {q b : Nat} {o : Option Int32} {f : Int32 → Option α} (C : CallFix p m c cc nL s args lw_all own) (B : XB D cA ad hk nx A s gi gr H locs) (hok : ∀ v, o = some v → OfOk l D cA ad hk nx gi gr fr lo q b v) (hq : Cond.methodLink own idx yOf ∈ lw_all) (hfr : 1 ≤ fr) (hF : fr + 1 ≤ R.frames) (hN : 30 + lo ≤ R.locals) (hs : ls.size = nL) (hw : (rest.map fun v => v.category).sum ≤ 8) (hz0 : cells ≤ R.cells ∧ slots ≤ R.slots) (h : o.bind f = some r) (hdg : decode cc pc = .ok (.invokeinterface idx count, 5)) (kk : ∀ v, f v = some r → ∀ (H' : Heap) (locs' : List Loc), XB D cA ad hk nx A s gi gr H' locs' → W p l e R s m args below meth c H' locs' cells slots Q (F0 m (pc + 5) ls (.int v :: rest))) : W p l e R s m args below meth c H locs cells slots Q (F0 m pc ls (.ref (ad b) :: .ref (ad q) :: rest)) := by
  obtain ⟨v, h1, h2⟩ := g_ob h
  rcases hok v h1 with ⟨hp, hM⟩ | ⟨hp, hM⟩ | ⟨hp, hM⟩ | ⟨j, hj, rfl, hb, rfl⟩
  · exact k_ofM C B xc_9 hp (by decide) hM fw_2 hq q1318 q1320 q170 q1322 ⟨by omega, by omega⟩ hs hw hz0 hdg (kk v h2)
  · exact k_ofM C B xc_8 hp (by decide) hM fw_3 hq q1302 q1304 q167 q1306 ⟨by omega, by omega⟩ hs hw hz0 hdg (kk v h2)
  · exact k_ofM C B xc_10 hp (by decide) hM fw_4 hq q1310 q1312 q171 q1314 ⟨by omega, by omega⟩ hs hw hz0 hdg (kk v h2)
  · exact k_asked C B hj hb hq (by omega) (by omega) hs hw hz0 hdg (kk _ h2)
end XOF

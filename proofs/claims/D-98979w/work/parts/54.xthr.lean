/-! WHAT A Throwable IS MADE OF -/
set_option maxRecDepth 100000
section XTHR
variable {p : Program} {l : Launch} {e : Env} {R : Room} {s : State} {m : MethodId} {args : Array Value} {below : List Frame} {meth : Method} {c : Code} {H : Heap} {locs : List Loc} {cells slots : Nat} {Q : State → Prop}
variable {pc : Nat} {ls : Array Slot} {rest : List Value} {cc : ByteArray} {nL : Nat} {α : Type} {r : α} {D : va_G} {cA : Nat → ClassId} {ad : Nat → Nat} {hk : HK} {nx : Nat} {A : Nat → Prop} {gi : GI} {gr : GR} {own : String} {idx : Nat}
theorem xx_gz {C0 n0 d0 : String} {v : Nat} (hz : g_Zn C0 n0 d0 (ad v) A s s.heap) (C : CallFix p m c cc nL s args lw_all own) (B : XB D cA ad hk nx A s gi gr H locs) (hq : Cond.fieldLink own idx C0 n0 d0 ∈ lw_all) (hdg : decode cc pc = .ok (.getstatic idx, 3)) (kk : ∀ o : Option Nat, (∀ w, o = some w → w = v) → W p l e R s m args below meth c H locs cells slots Q (F0 m (pc + 3) ls (va_rf (o.map ad) :: rest))) : W p l e R s m args below meth c H locs cells slots Q (F0 m pc ls rest) := by
  rcases hz with hz | hz
  · exact va_gets C.1 C.2.1 hz B.2.2.2.1 C.2.2.2.1 (C.2.2.2.2 _ hq) (fun _ h => h) hdg (kk none (fun w h => by cases h))
  · exact va_gets C.1 C.2.1 hz B.2.2.2.1 C.2.2.2.1 (C.2.2.2.2 _ hq) (fun _ h => h) hdg (kk (some v) (fun w h => by cases h; rfl))
theorem xx_pO {b ci k N : Nat} {o : Option Nat} {Rc : String} {Tc : u_T} {tyc : Nat → FieldType} {ref : String} (C : CallFix p m c cc nL s args lw_all own) (B : XB D cA ad hk nx A s gi gr H locs) (X : XC ci Rc Tc tyc N) (hp : (hk b).1 = 10 + ci) (hci : 10 + ci < 100) (hv : ∀ v, o = some v → (hk v).1 < 1000) (hkN : k < N) (hz : (fkX ci)[k]? = some 1) (hq : Cond.fieldLink own idx ref (Tc k).2.1 (Tc k).2.2.1 ∈ lw_all) (hs : ∀ x, s.fieldFound? (Tc k).1 (Tc k).2.1 (Tc k).2.2.1 = some x → s.fieldFound? ref (Tc k).2.1 (Tc k).2.2.1 = some x) (hfin : (Tc k).2.2.2 = false) (hn : narrow (tyc k) (.null) = .null ∧ ∀ x, narrow (tyc k) (.ref x) = .ref x) (hf : fits (tyc k) (.null) = true ∧ ∀ x, fits (tyc k) (.ref x) = true) (hdg : decode cc pc = .ok (.putfield idx, 3)) (kk : ∀ (H' : Heap) (locs' : List Loc), XB D cA ad hk nx A s gi (g_pr gr b k o) H' locs' → W p l e R s m args below meth c H' locs' cells slots Q (F0 m (pc + 3) ls rest)) : W p l e R s m args below meth c H locs cells slots Q (F0 m pc ls (va_rf (o.map ad) :: .ref (ad b) :: rest)) := by
  cases o with
  | none => exact xx_pn (f := some) (r := g_pr gr b k none) C B X hp hci hkN hz hq hs hfin hn.1 hf.1 rfl hdg (fun g' e1 H' locs' B' => by cases e1; exact kk H' locs' B')
  | some v => exact xx_pr (f := some) (r := g_pr gr b k (some v)) C B X hp hci (hv v rfl) hkN hz hq hs hfin (hn.2 _) (hf.2 _) rfl hdg (fun g' e1 H' locs' B' => by cases e1; exact kk H' locs' B')
end XTHR
theorem g_thr (gr : GR) (a : Nat) (o1 o2 : Option Nat) : g_pr (g_pr (g_pr (g_pr (g_pr (g_pr (g_pr gr a 0 (some a)) a 1 o1) a 2 o2) a 1 none) a 3 none) a 0 none) a 2 none = g_pr (g_pr (g_pr (g_pr gr a 0 none) a 1 none) a 2 none) a 3 none := by
  funext i j
  simp only [pr_get]
  by_cases hi : i = a
  · by_cases h0 : j = 0
    · simp [hi, h0]
    · by_cases h1 : j = 1
      · simp [hi, h1]
      · by_cases h2 : j = 2
        · simp [hi, h2]
        · by_cases h3 : j = 3
          · simp [hi, h3]
          · simp [hi, h0, h1, h2, h3]
  · simp [hi]

/-! THE BASE: a method's heap as plain memories (ints, references, longs) over cell numbers; the machine's rows over them -/
set_option maxRecDepth 100000
abbrev GI : Type := Nat → Nat → Int32
abbrev GR : Type := Nat → Nat → Option Nat
abbrev GL : Type := Nat → Nat → Int64
/-- a field's value by its sort: 0 int, 1 reference, else long -/
def g_fv (ad : Nat → Nat) (hi : GI) (hr : GR) (hl : GL) (i : Nat) (k z : Nat) : Value := if z = 0 then .int (hi i k) else if z = 1 then va_rf ((hr i k).map ad) else .long (hl i k)
/-- a cell: kind (t, n): t < 3 ints (int, byte, boolean), 3 longs, 4 .. 9 references, 10 + c an object of class c -/
def g_cell (fk : Nat → List Nat) (cA : Nat → ClassId) (ad : Nat → Nat) (hk : Nat → Nat × Nat) (hi : GI) (hr : GR) (hl : GL) (i : Nat) : va_E :=
  if 10 ≤ (hk i).1 then .inr ((hk i).1 - 10, (fk ((hk i).1 - 10)).mapIdx (fun k z => g_fv ad hi hr hl i k z))
  else if (hk i).1 < 3 then .inl (cA (hk i).1, (hk i).2, .inl (hi i))
  else if (hk i).1 = 3 then .inl (cA 3, (hk i).2, .inr (.inl (hl i)))
  else .inl (cA (hk i).1, (hk i).2, .inr (.inr (.inr (.inr (fun j => (hr i j).map ad)))))
def g_ws (ad : Nat → Nat) (f : Nat → va_E) (n : Nat) : va_W := (List.range n).map (fun i => (ad i, f i))
def g_tys (cA : Nat → ClassId) : List (ClassId × FieldType) := [(cA 0, .int), (cA 1, .byte), (cA 2, .boolean), (cA 3, .long), (cA 4, .object "java/lang/Object"), (cA 5, .object "WeatherWages$Plots"), (cA 6, .array .int)]
theorem g_ws_get {ad : Nat → Nat} {f : Nat → va_E} {n i : Nat} (h : i < n) : (g_ws ad f n)[i]? = some (ad i, f i) := by
  simp [g_ws, h]
theorem g_ws_set {ad : Nat → Nat} {f f' : Nat → va_E} {n i : Nat} {x : va_E} (h1 : ∀ j, j ≠ i → f' j = f j) (h2 : f' i = x) : (g_ws ad f n).set i (ad i, x) = g_ws ad f' n := by
  apply List.ext_getElem?
  intro j
  by_cases hj : j < n
  · rw [g_ws_get hj, List.getElem?_set]
    by_cases e : i = j
    · subst e
      simp [g_ws, hj, h2]
    · rw [if_neg e, g_ws_get hj, h1 j (fun z => e z.symm)]
  · have a1 : n ≤ j := by omega
    rw [List.getElem?_eq_none (by simp [g_ws]; exact a1), List.getElem?_eq_none (by simp [g_ws]; exact a1)]
/-- new contents of a place -/
def g_pi (hi : GI) (i k : Nat) (x : Int32) : GI := va_up hi i (upd (hi i) k x)
def g_pl (hl : GL) (i k : Nat) (x : Int64) : GL := va_up hl i (vp_updL (hl i) k x)
def g_pr (hr : GR) (i k : Nat) (x : Option Nat) : GR := va_up hr i (va_up (hr i) k x)
def g_in (i : Int32) (n : Nat) : Bool := !(decide (i < 0) || decide (n ≤ i.toNatClampNeg))
theorem g_in_vp {i : Int32} {n : Nat} (h : g_in i n = true) : vp_in i n := by
  intro z
  rcases z with z | z
  · simp [g_in, z] at h
  · simp [g_in] at h; omega
def g_ld (hi : GI) (a n : Nat) (i : Int32) : Option Int32 := if g_in i n = true then some (hi a i.toNatClampNeg) else none
def g_st (hi : GI) (a n : Nat) (i x : Int32) : Option GI := if g_in i n = true then some (g_pi hi a i.toNatClampNeg x) else none
def g_ldL (hl : GL) (a n : Nat) (i : Int32) : Option Int64 := if g_in i n = true then some (hl a i.toNatClampNeg) else none
def g_stL (hl : GL) (a n : Nat) (i : Int32) (x : Int64) : Option GL := if g_in i n = true then some (g_pl hl a i.toNatClampNeg x) else none
def g_nz (y : Int32) : Option Unit := if y = 0 then none else some ()
def g_zb (v : Int32) : Option Unit := if v = 0 ∨ v = 1 then some () else none
theorem g_ob {α β : Type} {x : Option α} {f : α → Option β} {r : β} (h : x.bind f = some r) : ∃ v, x = some v ∧ f v = some r := by
  cases x with
  | none => cases h
  | some v => exact ⟨v, rfl, h⟩
theorem g_ld_in {hi : GI} {a n : Nat} {i v : Int32} (h : g_ld hi a n i = some v) : vp_in i n ∧ hi a i.toNatClampNeg = v := by
  unfold g_ld at h
  by_cases q : g_in i n = true
  · rw [if_pos q] at h; cases h; exact ⟨g_in_vp q, rfl⟩
  · rw [if_neg q] at h; cases h
theorem g_ldL_in {hl : GL} {a n : Nat} {i : Int32} {v : Int64} (h : g_ldL hl a n i = some v) : vp_in i n ∧ hl a i.toNatClampNeg = v := by
  unfold g_ldL at h
  by_cases q : g_in i n = true
  · rw [if_pos q] at h; cases h; exact ⟨g_in_vp q, rfl⟩
  · rw [if_neg q] at h; cases h
theorem g_st_in {hi hi' : GI} {a n : Nat} {i x : Int32} (h : g_st hi a n i x = some hi') : vp_in i n ∧ hi' = g_pi hi a i.toNatClampNeg x := by
  unfold g_st at h
  by_cases q : g_in i n = true
  · rw [if_pos q] at h; cases h; exact ⟨g_in_vp q, rfl⟩
  · rw [if_neg q] at h; cases h
theorem g_stL_in {hl hl' : GL} {a n : Nat} {i : Int32} {x : Int64} (h : g_stL hl a n i x = some hl') : vp_in i n ∧ hl' = g_pl hl a i.toNatClampNeg x := by
  unfold g_stL at h
  by_cases q : g_in i n = true
  · rw [if_pos q] at h; cases h; exact ⟨g_in_vp q, rfl⟩
  · rw [if_neg q] at h; cases h
/-- a loop: the body's answer is a next state or an end -/
def g_loop {S E : Type} : Nat → (S → Option (S ⊕ E)) → S → Option E
  | 0, _, _ => none
  | k + 1, b, s => (b s).bind (fun q => Sum.elim (fun s' => g_loop k b s') (fun e => some e) q)
def g_K : Nat := 100000
theorem g_loop_0 {S E : Type} {b : S → Option (S ⊕ E)} {s : S} {e : E} (h : g_loop 0 b s = some e) : False := by cases h
theorem g_loop_s {S E : Type} {k : Nat} {b : S → Option (S ⊕ E)} {s : S} {e : E} (h : g_loop (k + 1) b s = some e) : ∃ q, b s = some q ∧ Sum.elim (fun s' => g_loop k b s') (fun e => some e) q = some e := g_ob h
theorem g_next {S E : Type} {k : Nat} {b : S → Option (S ⊕ E)} {t : S} {q : S ⊕ E} {e : E} (h : some (Sum.inl t) = some q) (h9 : Sum.elim (fun s' => g_loop k b s') (fun e => some e) q = some e) : g_loop k b t = some e := by
  cases h; exact h9
theorem g_exit {S E : Type} {k : Nat} {b : S → Option (S ⊕ E)} {x : E} {q : S ⊕ E} {e : E} (h : some (Sum.inr x) = some q) (h9 : Sum.elim (fun s' => g_loop k b s') (fun e => some e) q = some e) : x = e := by
  cases h; exact Option.some.inj h9
theorem g_el {S E A : Type} {f : S → Option A} {g : E → Option A} {s : S} {r : A} (h : Sum.elim f g (.inl s) = some r) : f s = some r := h
theorem g_er {S E A : Type} {f : S → Option A} {g : E → Option A} {s : E} {r : A} (h : Sum.elim f g (.inr s) = some r) : g s = some r := h
theorem g_if {α : Type} {P : Prop} {dP : Decidable P} {X Y : Option α} {r : α} (h : (if P then X else Y) = some r) : (P ∧ X = some r) ∨ (¬ P ∧ Y = some r) := by
  by_cases q : P
  · rw [if_pos q] at h; exact Or.inl ⟨q, h⟩
  · rw [if_neg q] at h; exact Or.inr ⟨q, h⟩
section GG
variable {p : Program} {l : Launch} {e : Env} {R : Room} {s : State} {m : MethodId} {args : Array Value} {below : List Frame} {meth : Method} {c : Code} {H : Heap} {locs : List Loc} {cells slots : Nat} {Q : State → Prop}
variable {pc : Nat} {ls : Array Slot} {rest : List Value} {cc : ByteArray} {α : Type} {X Y : Option α} {r : α} {x y : Int32} {off : Int}
theorem gg_if_eq (hexec : p.tables.exec = Jvm.exec) (hb : c.code = cc) {dP : Decidable (x = 0)} (tgt : Nat) (h : (if x = 0 then X else Y) = some r) (hdg : decode cc pc = .ok (.ifCond .eq off, 3)) (ht : (pc : Int) + off = (tgt : Int)) (kt : X = some r → W p l e R s m args below meth c H locs cells slots Q (F0 m tgt ls rest)) (kf : Y = some r → W p l e R s m args below meth c H locs cells slots Q (F0 m (pc + 3) ls rest)) : W p l e R s m args below meth c H locs cells slots Q (F0 m pc ls (.int x :: rest)) :=
  lv_if_eq hexec hb hdg ht (fun q => kt (by rw [if_pos q] at h; exact h)) (fun q => kf (by rw [if_neg q] at h; exact h))
theorem gg_icmp_eq (hexec : p.tables.exec = Jvm.exec) (hb : c.code = cc) {dP : Decidable (x = y)} (tgt : Nat) (h : (if x = y then X else Y) = some r) (hdg : decode cc pc = .ok (.if_icmp .eq off, 3)) (ht : (pc : Int) + off = (tgt : Int)) (kt : X = some r → W p l e R s m args below meth c H locs cells slots Q (F0 m tgt ls rest)) (kf : Y = some r → W p l e R s m args below meth c H locs cells slots Q (F0 m (pc + 3) ls rest)) : W p l e R s m args below meth c H locs cells slots Q (F0 m pc ls (.int y :: .int x :: rest)) :=
  lv_icmp_eq hexec hb hdg ht (fun q => kt (by rw [if_pos q] at h; exact h)) (fun q => kf (by rw [if_neg q] at h; exact h))
theorem gg_if_ne (hexec : p.tables.exec = Jvm.exec) (hb : c.code = cc) {dP : Decidable (x = 0)} (tgt : Nat) (h : (if x = 0 then X else Y) = some r) (hdg : decode cc pc = .ok (.ifCond .ne off, 3)) (ht : (pc : Int) + off = (tgt : Int)) (kt : Y = some r → W p l e R s m args below meth c H locs cells slots Q (F0 m tgt ls rest)) (kf : X = some r → W p l e R s m args below meth c H locs cells slots Q (F0 m (pc + 3) ls rest)) : W p l e R s m args below meth c H locs cells slots Q (F0 m pc ls (.int x :: rest)) :=
  lv_if_ne hexec hb hdg ht (fun q => kt (by rw [if_neg q] at h; exact h)) (fun q => kf (by rw [if_pos q] at h; exact h))
theorem gg_icmp_ne (hexec : p.tables.exec = Jvm.exec) (hb : c.code = cc) {dP : Decidable (x = y)} (tgt : Nat) (h : (if x = y then X else Y) = some r) (hdg : decode cc pc = .ok (.if_icmp .ne off, 3)) (ht : (pc : Int) + off = (tgt : Int)) (kt : Y = some r → W p l e R s m args below meth c H locs cells slots Q (F0 m tgt ls rest)) (kf : X = some r → W p l e R s m args below meth c H locs cells slots Q (F0 m (pc + 3) ls rest)) : W p l e R s m args below meth c H locs cells slots Q (F0 m pc ls (.int y :: .int x :: rest)) :=
  lv_icmp_ne hexec hb hdg ht (fun q => kt (by rw [if_neg q] at h; exact h)) (fun q => kf (by rw [if_pos q] at h; exact h))
theorem gg_if_lt (hexec : p.tables.exec = Jvm.exec) (hb : c.code = cc) {dP : Decidable (x < 0)} (tgt : Nat) (h : (if x < 0 then X else Y) = some r) (hdg : decode cc pc = .ok (.ifCond .lt off, 3)) (ht : (pc : Int) + off = (tgt : Int)) (kt : X = some r → W p l e R s m args below meth c H locs cells slots Q (F0 m tgt ls rest)) (kf : Y = some r → W p l e R s m args below meth c H locs cells slots Q (F0 m (pc + 3) ls rest)) : W p l e R s m args below meth c H locs cells slots Q (F0 m pc ls (.int x :: rest)) :=
  lv_if_lt hexec hb hdg ht (fun q => kt (by rw [if_pos q] at h; exact h)) (fun q => kf (by rw [if_neg q] at h; exact h))
theorem gg_icmp_lt (hexec : p.tables.exec = Jvm.exec) (hb : c.code = cc) {dP : Decidable (x < y)} (tgt : Nat) (h : (if x < y then X else Y) = some r) (hdg : decode cc pc = .ok (.if_icmp .lt off, 3)) (ht : (pc : Int) + off = (tgt : Int)) (kt : X = some r → W p l e R s m args below meth c H locs cells slots Q (F0 m tgt ls rest)) (kf : Y = some r → W p l e R s m args below meth c H locs cells slots Q (F0 m (pc + 3) ls rest)) : W p l e R s m args below meth c H locs cells slots Q (F0 m pc ls (.int y :: .int x :: rest)) :=
  lv_icmp_lt hexec hb hdg ht (fun q => kt (by rw [if_pos q] at h; exact h)) (fun q => kf (by rw [if_neg q] at h; exact h))
theorem gg_if_ge (hexec : p.tables.exec = Jvm.exec) (hb : c.code = cc) {dP : Decidable (0 ≤ x)} (tgt : Nat) (h : (if 0 ≤ x then X else Y) = some r) (hdg : decode cc pc = .ok (.ifCond .ge off, 3)) (ht : (pc : Int) + off = (tgt : Int)) (kt : X = some r → W p l e R s m args below meth c H locs cells slots Q (F0 m tgt ls rest)) (kf : Y = some r → W p l e R s m args below meth c H locs cells slots Q (F0 m (pc + 3) ls rest)) : W p l e R s m args below meth c H locs cells slots Q (F0 m pc ls (.int x :: rest)) :=
  lv_if_ge hexec hb hdg ht (fun q => kt (by rw [if_pos q] at h; exact h)) (fun q => kf (by rw [if_neg q] at h; exact h))
theorem gg_icmp_ge (hexec : p.tables.exec = Jvm.exec) (hb : c.code = cc) {dP : Decidable (y ≤ x)} (tgt : Nat) (h : (if y ≤ x then X else Y) = some r) (hdg : decode cc pc = .ok (.if_icmp .ge off, 3)) (ht : (pc : Int) + off = (tgt : Int)) (kt : X = some r → W p l e R s m args below meth c H locs cells slots Q (F0 m tgt ls rest)) (kf : Y = some r → W p l e R s m args below meth c H locs cells slots Q (F0 m (pc + 3) ls rest)) : W p l e R s m args below meth c H locs cells slots Q (F0 m pc ls (.int y :: .int x :: rest)) :=
  lv_icmp_ge hexec hb hdg ht (fun q => kt (by rw [if_pos q] at h; exact h)) (fun q => kf (by rw [if_neg q] at h; exact h))
theorem gg_if_gt (hexec : p.tables.exec = Jvm.exec) (hb : c.code = cc) {dP : Decidable (0 < x)} (tgt : Nat) (h : (if 0 < x then X else Y) = some r) (hdg : decode cc pc = .ok (.ifCond .gt off, 3)) (ht : (pc : Int) + off = (tgt : Int)) (kt : X = some r → W p l e R s m args below meth c H locs cells slots Q (F0 m tgt ls rest)) (kf : Y = some r → W p l e R s m args below meth c H locs cells slots Q (F0 m (pc + 3) ls rest)) : W p l e R s m args below meth c H locs cells slots Q (F0 m pc ls (.int x :: rest)) :=
  lv_if_gt hexec hb hdg ht (fun q => kt (by rw [if_pos q] at h; exact h)) (fun q => kf (by rw [if_neg q] at h; exact h))
theorem gg_icmp_gt (hexec : p.tables.exec = Jvm.exec) (hb : c.code = cc) {dP : Decidable (y < x)} (tgt : Nat) (h : (if y < x then X else Y) = some r) (hdg : decode cc pc = .ok (.if_icmp .gt off, 3)) (ht : (pc : Int) + off = (tgt : Int)) (kt : X = some r → W p l e R s m args below meth c H locs cells slots Q (F0 m tgt ls rest)) (kf : Y = some r → W p l e R s m args below meth c H locs cells slots Q (F0 m (pc + 3) ls rest)) : W p l e R s m args below meth c H locs cells slots Q (F0 m pc ls (.int y :: .int x :: rest)) :=
  lv_icmp_gt hexec hb hdg ht (fun q => kt (by rw [if_pos q] at h; exact h)) (fun q => kf (by rw [if_neg q] at h; exact h))
theorem gg_if_le (hexec : p.tables.exec = Jvm.exec) (hb : c.code = cc) {dP : Decidable (x ≤ 0)} (tgt : Nat) (h : (if x ≤ 0 then X else Y) = some r) (hdg : decode cc pc = .ok (.ifCond .le off, 3)) (ht : (pc : Int) + off = (tgt : Int)) (kt : X = some r → W p l e R s m args below meth c H locs cells slots Q (F0 m tgt ls rest)) (kf : Y = some r → W p l e R s m args below meth c H locs cells slots Q (F0 m (pc + 3) ls rest)) : W p l e R s m args below meth c H locs cells slots Q (F0 m pc ls (.int x :: rest)) :=
  lv_if_le hexec hb hdg ht (fun q => kt (by rw [if_pos q] at h; exact h)) (fun q => kf (by rw [if_neg q] at h; exact h))
theorem gg_icmp_le (hexec : p.tables.exec = Jvm.exec) (hb : c.code = cc) {dP : Decidable (x ≤ y)} (tgt : Nat) (h : (if x ≤ y then X else Y) = some r) (hdg : decode cc pc = .ok (.if_icmp .le off, 3)) (ht : (pc : Int) + off = (tgt : Int)) (kt : X = some r → W p l e R s m args below meth c H locs cells slots Q (F0 m tgt ls rest)) (kf : Y = some r → W p l e R s m args below meth c H locs cells slots Q (F0 m (pc + 3) ls rest)) : W p l e R s m args below meth c H locs cells slots Q (F0 m pc ls (.int y :: .int x :: rest)) :=
  lv_icmp_le hexec hb hdg ht (fun q => kt (by rw [if_pos q] at h; exact h)) (fun q => kf (by rw [if_neg q] at h; exact h))
end GG

set_option linter.unusedVariables false
set_option linter.unusedSimpArgs false
/-! THE PLAIN LAW: gains of the component -/
section X18
variable {hk hk' : HK} {nx nx' : Nat} {gi gi' : GI} {gr gr' : GR} {b ask : Nat} {L : List Nat} {sl : Nat} {sf w : Nat → Nat} {S : St}
def GX (gj : GI) (g : Gn) : Prop :=
  match g with
  | none => gj 0 24 = -1
  | some q => gj 0 22 = N q.1 ∧ gj 0 23 = N q.2.1 ∧ gj 0 24 = N q.2.2 ∧ 1 ≤ q.2.1 ∧ q.2.1 ≤ 729 ∧ q.1 ≤ 729 ∧ q.2.2 ≤ 999
theorem GX.of {g : Gn} {gj gk : GI} (h : GX gj g) (e : ∀ k, k = 22 ∨ k = 23 ∨ k = 24 → gk 0 k = gj 0 k) : GX gk g := by
  cases g with
  | none =>
    have h : gj 0 24 = -1 := h
    show gk 0 24 = -1
    rw [e 24 (by omega)]; exact h
  | some q =>
    have h : gj 0 22 = N q.1 ∧ gj 0 23 = N q.2.1 ∧ gj 0 24 = N q.2.2 ∧ 1 ≤ q.2.1 ∧ q.2.1 ≤ 729 ∧ q.1 ≤ 729 ∧ q.2.2 ≤ 999 := h
    show gk 0 22 = N q.1 ∧ gk 0 23 = N q.2.1 ∧ gk 0 24 = N q.2.2 ∧ _
    rw [e 22 (by omega), e 23 (by omega), e 24 (by omega)]; exact h
theorem x_take {gj : GI} {g : Gn} (h : GX gj g) (cN cS : Nat) (hk : HK) (nx ns : Nat) (gr : GR) {x1 x2 x3 : Int32} {up dn t0 t1 of : Nat} (hd : t1 * t0 = dn) (h1 : 1 ≤ dn) (h2 : dn ≤ 729) (hu : up ≤ 729) (h9 : of ≤ 999) (hof : (if 0 ≤ x3 then ((100 * x1) + (10 * x2)) + x3 else (10 * x1) + x2) = N of) : ∃ gk, (∀ cN cS : Nat, f_X0_tries_j122 cN cS 0 x1 x2 x3 hk nx ns gj gr (N up) (N t0) (N t1) = some (hk, nx, ns, gk, gr)) ∧ GX gk (takeG g up dn of) ∧ (∀ k, k ≠ 22 → k ≠ 23 → k ≠ 24 → gk 0 k = gj 0 k) ∧ ∀ c, c ≠ 0 → gk c = gj c := by
  have tk : ∃ gk, (∀ cN cS : Nat, f_X0_tries_j150 cN cS 0 x1 x2 x3 hk nx ns gj gr (N up) (N dn) = some (hk, nx, ns, gk, gr)) ∧ GX gk (some (up, dn, of)) ∧ (∀ k, k ≠ 22 → k ≠ 23 → k ≠ 24 → gk 0 k = gj 0 k) ∧ ∀ c, c ≠ 0 → gk c = gj c := by
    refine ⟨g_pi (g_pi (g_pi gj 0 22 (N up)) 0 23 (N dn)) 0 24 (N of), fun cN cS => ?_, ⟨by simp [pi_get], by simp [pi_get], by simp [pi_get], h1, h2, hu, h9⟩, fun k a b c => by simp [pi_get, a, b, c], fun c hc => by rw [pi_off hc, pi_off hc, pi_off hc]⟩
    rw [f_X0_tries_j150, Option.bind_some, Option.bind_some, ← hof]
    split <;> rfl
  cases g with
  | none =>
    have h : gj 0 24 = -1 := h
    obtain ⟨gk, a1, a2⟩ := tk
    refine ⟨gk, fun cN cS => ?_, a2⟩
    rw [f_X0_tries_j122, N_mul, hd, h, if_pos (by decide)]
    exact a1 cN cS
  | some q =>
    have h : gj 0 22 = N q.1 ∧ gj 0 23 = N q.2.1 ∧ gj 0 24 = N q.2.2 ∧ 1 ≤ q.2.1 ∧ q.2.1 ≤ 729 ∧ q.1 ≤ 729 ∧ q.2.2 ≤ 999 := h
    have m1 := mul81 h.2.2.2.2.2.1 h2
    have m2 := mul81 hu h.2.2.2.2.1
    have n24 : ¬ (gj 0 24 < 0) := by rw [h.2.2.1]; exact N_nneg (by omega)
    unfold takeG
    dsimp only
    by_cases u : up * q.2.1 ≤ q.1 * dn
    · rw [if_pos u]
      refine ⟨gj, fun cN cS => ?_, h, fun _ _ _ _ => rfl, fun _ _ => rfl⟩
      rw [f_X0_tries_j122, N_mul, hd, if_neg n24, h.1, h.2.1, N_mul, N_mul, if_lt (by omega) (by omega), if_neg (by omega)]
    · rw [if_neg u]
      obtain ⟨gk, a1, a2⟩ := tk
      refine ⟨gk, fun cN cS => ?_, a2⟩
      rw [f_X0_tries_j122, N_mul, hd, if_neg n24, h.1, h.2.1, N_mul, N_mul, if_lt (by omega) (by omega), if_pos (by omega)]
      exact a1 cN cS
/-- a rate found, in a later world -/
theorem Rt.old {B : Bk} {a c : Nat} {o : Option Nat} (h : Rt hk gi L B a c o) (ho : Old nx hk hk' gi gi' gr gr') (hL : ∀ c, c ∈ L → c < nx ∨ 1000000 ≤ c) : Rt hk' gi' L B a c o := by
  rcases h with h | ⟨v, h1, h2, h3, h4, h5, h6⟩
  · exact Or.inl h
  · obtain ⟨e1, e2, e3⟩ := ho v (hL v h2)
    exact Or.inr ⟨v, h1, h2, by rw [e1]; exact h3, by rw [e2]; exact h4, by rw [e2]; exact h5, h6⟩
theorem Rt.oko {B : Bk} {a c : Nat} {o : Option Nat} (h : Rt hk gi L B a c o) : g_oko hk o = some () := by
  rcases h with ⟨h, _⟩ | ⟨v, h1, h2, h3, _⟩
  · rw [h]; rfl
  · rw [h1]
    show (if (hk v).1 < 1000 then some () else none) = some ()
    rw [h3, if_pos (by decide)]
/-- the rest of a try, as the rates are found -/
theorem x_tries47 {B : Bk} (hB : B.Ok) (hL0 : ∀ v, v ∈ L → v ≠ 0) {g : Gn} (h : GX gi g) (ns : Nat) (gr : GR) {a c : Nat} (ha : a < 3) (hc : c < 3) {o1 o2 : Option Nat} (h1 : Rt hk gi L B a c o1) (h2 : Rt hk gi L B c a o2) : ∃ gk, (∀ cN cS : Nat, f_X0_tries_j47 cN cS 0 (N a) (N c) (-1) hk nx ns gi gr o1 o2 none = some (hk, nx, ns, gk, gr)) ∧ GX gk (tryG2 B a c g) ∧ (∀ k, k ≠ 22 → k ≠ 23 → k ≠ 24 → gk 0 k = gi 0 k) ∧ ∀ c, c ≠ 0 → gk c = gi c := by
  unfold tryG2
  have m1 : ∀ n, N n * 1 = N (n * 1) := fun n => by rw [show (1 : Int32) = N 1 from rfl, N_mul]
  rcases h1 with ⟨rfl, z1⟩ | ⟨v1, rfl, v2, v3, v4, v5, v6⟩
  · rw [if_pos (Or.inl z1)]
    exact ⟨gi, fun _ _ => rfl, h, fun _ _ _ _ => rfl, fun _ _ => rfl⟩
  · rcases h2 with ⟨rfl, z2⟩ | ⟨u1, rfl, u2, u3, u4, u5, u6⟩
    · rw [if_pos (Or.inr z2)]
      exact ⟨gi, fun _ _ => rfl, h, fun _ _ _ _ => rfl, fun _ _ => rfl⟩
    · rw [if_neg (show ¬ (B.cost a c = 0 ∨ B.cost c a = 0) from fun e => e.elim v6 u6)]
      have c1 := hB.cost a c
      have c2 := hB.cost c a
      have p1 := Nat.mul_pos (Nat.pos_of_ne_zero v6) (Nat.pos_of_ne_zero u6)
      have p2 := mul9 c1 c2 (show 1 ≤ 9 by decide)
      have p3 := mul9 (hB.brings a c) (hB.brings c a) (show 1 ≤ 9 by decide)
      obtain ⟨gk, k1, k2, k3, k4⟩ := x_take h 0 0 hk nx ns gr (x1 := N a) (x2 := N c) (x3 := -1) (t0 := 1) (t1 := B.cost a c * B.cost c a) rfl (by omega) p2 p3 (show 10 * a + c ≤ 999 by omega) (by rw [if_neg (by decide), show (10 : Int32) = N 10 from rfl, N_mul, N_add])
      refine ⟨gk, fun cN cS => ?_, k2, k3, k4⟩
      rw [← k1 cN cS]
      have e47 : f_X0_tries_j47 cN cS 0 (N a) (N c) (-1) hk nx ns gi gr (some v1) (some u1) none = f_X0_tries_j69 cN cS 0 (N a) (N c) (-1) hk nx ns gi gr (some v1) (some u1) none := by
        rfl
      rw [e47, f_X0_tries_j69, Option.bind_some, g_is_of v3, Option.bind_some, Option.bind_some, g_is_of u3, Option.bind_some]
      show f_X0_tries_j94 cN cS 0 (N a) (N c) (-1) hk nx ns gi gr (some v1) (some u1) none 1 (gi v1 3 * gi u1 3) = _
      rw [f_X0_tries_j94, Option.bind_some, g_is_of v3, Option.bind_some, Option.bind_some, g_is_of u3, Option.bind_some]
      show f_X0_tries_j122 cN cS 0 (N a) (N c) (-1) hk nx ns gi gr (gi v1 3 * gi u1 3 * 1) 1 (gi v1 2 * gi u1 2) = _
      rw [v4, v5, u4, u5, N_mul, N_mul, m1]
      rfl
theorem x_tries47c {B : Bk} (hB : B.Ok) {g : Gn} (h : GX gi g) (ns : Nat) (gr : GR) {a c d : Nat} (ha : a < 3) (hc : c < 3) (hd : d < 3) {o1 o2 o3 : Option Nat} (h1 : Rt hk gi L B a c o1) (h2 : Rt hk gi L B c d o2) (h3 : Rt hk gi L B d a o3) : ∃ gk, (∀ cN cS : Nat, f_X0_tries_j47 cN cS 0 (N a) (N c) (N d) hk nx ns gi gr o1 o2 o3 = some (hk, nx, ns, gk, gr)) ∧ GX gk (tryG3 B a c d g) ∧ (∀ k, k ≠ 22 → k ≠ 23 → k ≠ 24 → gk 0 k = gi 0 k) ∧ ∀ c, c ≠ 0 → gk c = gi c := by
  unfold tryG3
  rcases h1 with ⟨rfl, z1⟩ | ⟨v1, rfl, v2, v3, v4, v5, v6⟩
  · rw [if_pos (Or.inl z1)]
    exact ⟨gi, fun _ _ => rfl, h, fun _ _ _ _ => rfl, fun _ _ => rfl⟩
  · rcases h2 with ⟨rfl, z2⟩ | ⟨u1, rfl, u2, u3, u4, u5, u6⟩
    · rw [if_pos (Or.inr (Or.inl z2))]
      exact ⟨gi, fun _ _ => rfl, h, fun _ _ _ _ => rfl, fun _ _ => rfl⟩
    · rcases h3 with ⟨rfl, z3⟩ | ⟨t1, rfl, t2, t3, t4, t5, t6⟩
      · rw [if_pos (Or.inr (Or.inr z3))]
        refine ⟨gi, fun cN cS => ?_, h, fun _ _ _ _ => rfl, fun _ _ => rfl⟩
        show (if N d < 0 then _ else _) = _
        rw [if_neg (N_nneg (by omega))]
        rfl
      · rw [if_neg (show ¬ (B.cost a c = 0 ∨ B.cost c d = 0 ∨ B.cost d a = 0) from fun e => e.elim v6 (fun e => e.elim u6 t6))]
        have p1 := Nat.mul_pos (Nat.mul_pos (Nat.pos_of_ne_zero v6) (Nat.pos_of_ne_zero u6)) (Nat.pos_of_ne_zero t6)
        have p2 := mul9 (hB.cost a c) (hB.cost c d) (hB.cost d a)
        have p3 := mul9 (hB.brings a c) (hB.brings c d) (hB.brings d a)
        obtain ⟨gk, k1, k2, k3, k4⟩ := x_take h 0 0 hk nx ns gr (x1 := N a) (x2 := N c) (x3 := N d) (t0 := B.cost d a) (t1 := B.cost a c * B.cost c d) rfl (by omega) p2 p3 (show 100 * a + 10 * c + d ≤ 999 by omega) (by rw [if_pos (N_pos (by omega)), show (10 : Int32) = N 10 from rfl, show (100 : Int32) = N 100 from rfl, N_mul, N_mul, N_add, N_add])
        refine ⟨gk, fun cN cS => ?_, k2, k3, k4⟩
        rw [← k1 cN cS]
        show (if N d < 0 then _ else f_X0_tries_j69 cN cS 0 (N a) (N c) (N d) hk nx ns gi gr (some v1) (some u1) (some t1)) = _
        rw [if_neg (N_nneg (by omega)), f_X0_tries_j69, Option.bind_some, g_is_of v3, Option.bind_some, Option.bind_some, g_is_of u3, Option.bind_some]
        show ((some t1).bind fun v60 => (g_is hk v60 17).bind fun _ => f_X0_tries_j94 cN cS 0 (N a) (N c) (N d) hk nx ns gi gr (some v1) (some u1) (some t1) (gi v60 3) (gi v1 3 * gi u1 3)) = _
        rw [Option.bind_some, g_is_of t3, Option.bind_some, f_X0_tries_j94, Option.bind_some, g_is_of v3, Option.bind_some, Option.bind_some, g_is_of u3, Option.bind_some]
        show ((some t1).bind fun v57 => (g_is hk v57 17).bind fun _ => f_X0_tries_j122 cN cS 0 (N a) (N c) (N d) hk nx ns gi gr (gi v1 3 * gi u1 3 * gi t1 3) (gi v57 2) (gi v1 2 * gi u1 2)) = _
        rw [Option.bind_some, g_is_of t3, Option.bind_some, v4, v5, u4, u5, t4, t5, N_mul, N_mul, N_mul]
/-- gains are no kept numbers -/
theorem RX.gains (r : RX hk nx gi gr b ask L sl sf w S) (h1 : ∀ k, k ≠ 22 → k ≠ 23 → k ≠ 24 → gi' 0 k = gi 0 k) (h2 : ∀ c, c ≠ 0 → gi' c = gi c) : RX hk nx gi' gr b ask L sl sf w S :=
  (show XFr ask gi gi' from ⟨fun k hk => h1 k (by omega) (by omega) (by omega), fun c c1 _ _ _ _ _ => h2 c c1⟩).rx r
theorem x_try2 (r : RX hk nx gi gr b ask L sl sf w S) (hx : nx + 1 < 1000000) (ns : Nat) {g : Gn} (h : GX gi g) {a c : Nat} (ha : a < 3) (hc : c < 3) : ∃ hk' gi' gr', (∀ cN cS, nx + 2 ≤ cN → ns + 8 ≤ cS → f_X0_tries cN cS hk nx ns gi gr 0 (N a) (N c) (-1) = some (hk', nx + 2, ns + 8, gi', gr')) ∧ RX hk' (nx + 2) gi' gr' b ask L sl sf w S ∧ GX gi' (tryG2 S.B a c g) := by
  have rm := r.room
  obtain ⟨o1, hk1, g1, gr1, a1, a2, a3⟩ := x_rate (nx := nx) r.wd.bk rm.2.2.2 (by omega) ns ha hc
  have r1 := r.grow a2 (nx' := nx + 1) (by omega)
  have rm1 := r1.room
  obtain ⟨o2, hk2, g2, gr2, b1, b2, b3⟩ := x_rate (nx := nx + 1) r1.wd.bk rm1.2.2.2 hx (ns + 4) hc ha
  have r2 := r1.grow b2 (nx' := nx + 2) (by omega)
  have t1 := (a3.old a2 rm.2.2.2)
  have t1' := t1.old b2 rm1.2.2.2
  have t2 := b3.old b2 rm1.2.2.2
  have e0 : g2 0 = gi 0 := by rw [(b2 0 (by omega)).2.1, (a2 0 (by omega)).2.1]
  have L0 : ∀ v, v ∈ L → v ≠ 0 := fun v hv => by have := not_st (r.wd.sep v (Or.inl hv)); omega
  obtain ⟨gk, k1, k2, k3, k4⟩ := x_tries47 (nx := nx + 2) r.wd.bk.ok L0 (h.of (fun k _ => by rw [e0])) (ns + 8) gr2 ha hc t1' t2
  refine ⟨hk2, gk, gr2, fun cN cS h1 h2 => ?_, r2.gains k3 k4, k2⟩
  have c1 := cc_of (q := (o1, hk1, nx + 1, ns + 4, g1, gr1)) (f := fun c1 c2 => f_X1_rate c1 c2 hk nx ns gi gr b (N a) (N c)) (qn := fun q : Option Nat × HK × Nat × Nat × GI × GR => q.2.2.1) (qs := fun q : Option Nat × HK × Nat × Nat × GI × GR => q.2.2.2.1) (fun c1 c2 h1 h2 => a1 c1 c2 h1 h2) (nx := nx) (ns := ns) (cN := cN) (cS := cS) (by show nx ≤ nx + 1; omega) (by show ns ≤ ns + 4; omega) (by show nx + 1 ≤ cN; omega) (by show ns + 4 ≤ cS; omega)
  have c2 := cc_of (q := (o2, hk2, nx + 1 + 1, ns + 4 + 4, g2, gr2)) (f := fun c1 c2 => f_X1_rate c1 c2 hk1 (nx + 1) (ns + 4) g1 gr1 b (N c) (N a)) (qn := fun q : Option Nat × HK × Nat × Nat × GI × GR => q.2.2.1) (qs := fun q : Option Nat × HK × Nat × Nat × GI × GR => q.2.2.2.1) (fun c1 c2 h1 h2 => b1 c1 c2 h1 h2) (nx := nx + 1) (ns := ns + 4) (cN := cN) (cS := cS) (by show nx + 1 ≤ nx + 1 + 1; omega) (by show ns + 4 ≤ ns + 4 + 4; omega) (by show nx + 1 + 1 ≤ cN; omega) (by show ns + 4 + 4 ≤ cS; omega)
  rw [f_X0_tries, r.wd.f4, Option.bind_some, g_is_of r.wd.bk.k, Option.bind_some, c1, Option.bind_some]
  dsimp only
  rw [r1.wd.f4, Option.bind_some, if_neg (by decide), f_X0_tries_j25, g_is_of r1.wd.bk.k, Option.bind_some, t1.oko, Option.bind_some, c2, Option.bind_some, if_neg (by decide)]
  exact k1 cN cS
theorem x_try3 (r : RX hk nx gi gr b ask L sl sf w S) (hx : nx + 2 < 1000000) (ns : Nat) {g : Gn} (h : GX gi g) {a c d : Nat} (ha : a < 3) (hc : c < 3) (hd : d < 3) : ∃ hk' gi' gr', (∀ cN cS, nx + 3 ≤ cN → ns + 12 ≤ cS → f_X0_tries cN cS hk nx ns gi gr 0 (N a) (N c) (N d) = some (hk', nx + 3, ns + 12, gi', gr')) ∧ RX hk' (nx + 3) gi' gr' b ask L sl sf w S ∧ GX gi' (tryG3 S.B a c d g) := by
  have rm := r.room
  obtain ⟨o1, hk1, g1, gr1, a1, a2, a3⟩ := x_rate (nx := nx) r.wd.bk rm.2.2.2 (by omega) ns ha hc
  have r1 := r.grow a2 (nx' := nx + 1) (by omega)
  have rm1 := r1.room
  obtain ⟨o2, hk2, g2, gr2, b1, b2, b3⟩ := x_rate (nx := nx + 1) r1.wd.bk rm1.2.2.2 (by omega) (ns + 4) hc hd
  have r2 := r1.grow b2 (nx' := nx + 2) (by omega)
  have rm2 := r2.room
  obtain ⟨o3, hk3, g3, gr3, d1, d2, d3⟩ := x_rate (nx := nx + 2) r2.wd.bk rm2.2.2.2 hx (ns + 8) hd ha
  have r3 := r2.grow d2 (nx' := nx + 3) (by omega)
  have t1 := (a3.old a2 rm.2.2.2)
  have t2 := b3.old b2 rm1.2.2.2
  have t3 := d3.old d2 rm2.2.2.2
  have t1' := (t1.old b2 rm1.2.2.2).old d2 rm2.2.2.2
  have t2' := t2.old d2 rm2.2.2.2
  have e0 : g3 0 = gi 0 := by rw [(d2 0 (by omega)).2.1, (b2 0 (by omega)).2.1, (a2 0 (by omega)).2.1]
  obtain ⟨gk, k1, k2, k3, k4⟩ := x_tries47c (nx := nx + 3) r.wd.bk.ok (h.of (fun k _ => by rw [e0])) (ns + 12) gr3 ha hc hd t1' t2' t3
  refine ⟨hk3, gk, gr3, fun cN cS h1 h2 => ?_, r3.gains k3 k4, k2⟩
  have c1 := cc_of (q := (o1, hk1, nx + 1, ns + 4, g1, gr1)) (f := fun c1 c2 => f_X1_rate c1 c2 hk nx ns gi gr b (N a) (N c)) (qn := fun q : Option Nat × HK × Nat × Nat × GI × GR => q.2.2.1) (qs := fun q : Option Nat × HK × Nat × Nat × GI × GR => q.2.2.2.1) (fun c1 c2 h1 h2 => a1 c1 c2 h1 h2) (nx := nx) (ns := ns) (cN := cN) (cS := cS) (by show nx ≤ nx + 1; omega) (by show ns ≤ ns + 4; omega) (by show nx + 1 ≤ cN; omega) (by show ns + 4 ≤ cS; omega)
  have c2 := cc_of (q := (o2, hk2, nx + 1 + 1, ns + 4 + 4, g2, gr2)) (f := fun c1 c2 => f_X1_rate c1 c2 hk1 (nx + 1) (ns + 4) g1 gr1 b (N c) (N d)) (qn := fun q : Option Nat × HK × Nat × Nat × GI × GR => q.2.2.1) (qs := fun q : Option Nat × HK × Nat × Nat × GI × GR => q.2.2.2.1) (fun c1 c2 h1 h2 => b1 c1 c2 h1 h2) (nx := nx + 1) (ns := ns + 4) (cN := cN) (cS := cS) (by show nx + 1 ≤ nx + 1 + 1; omega) (by show ns + 4 ≤ ns + 4 + 4; omega) (by show nx + 1 + 1 ≤ cN; omega) (by show ns + 4 + 4 ≤ cS; omega)
  have c3 := cc_of (q := (o3, hk3, nx + 2 + 1, ns + 8 + 4, g3, gr3)) (f := fun c1 c2 => f_X1_rate c1 c2 hk2 (nx + 2) (ns + 8) g2 gr2 b (N d) (N a)) (qn := fun q : Option Nat × HK × Nat × Nat × GI × GR => q.2.2.1) (qs := fun q : Option Nat × HK × Nat × Nat × GI × GR => q.2.2.2.1) (fun c1 c2 h1 h2 => d1 c1 c2 h1 h2) (nx := nx + 2) (ns := ns + 8) (cN := cN) (cS := cS) (by show nx + 2 ≤ nx + 2 + 1; omega) (by show ns + 8 ≤ ns + 8 + 4; omega) (by show nx + 2 + 1 ≤ cN; omega) (by show ns + 8 + 4 ≤ cS; omega)
  have pd : (0 : Int32) ≤ N d := N_pos (by omega)
  rw [f_X0_tries, r.wd.f4, Option.bind_some, g_is_of r.wd.bk.k, Option.bind_some, c1, Option.bind_some]
  dsimp only
  rw [r1.wd.f4, Option.bind_some, if_pos pd, f_X0_tries_j25, g_is_of r1.wd.bk.k, Option.bind_some, t1.oko, Option.bind_some, c2, Option.bind_some, if_pos pd]
  dsimp only
  rw [r2.wd.f4, Option.bind_some, g_is_of r2.wd.bk.k, Option.bind_some, t2.oko, Option.bind_some]
  show ((g_cc (fun c1 c2 => f_X1_rate c1 c2 hk2 (nx + 2) (ns + 8) g2 gr2 b (N d) (N a)) (fun q : Option Nat × HK × Nat × Nat × GI × GR => q.2.2.1) (fun q : Option Nat × HK × Nat × Nat × GI × GR => q.2.2.2.1) cN cS (nx + 2) (ns + 8)).bind _ : Option (HK × Nat × Nat × GI × GR)) = _
  rw [c3, Option.bind_some]
  exact k1 cN cS
theorem x_common {u d : Nat} (hu : u < 90000) (hd : d < 90000) : f_X0_common hk gi gr (N u) (N d) = some (N (Nat.gcd u d)) := by
  obtain ⟨e, k1, k2⟩ := loop_J (body := fun (s : Int32 × Int32) => f_X0_common_l4 hk gi gr s.1 s.2) (fun n s => ∃ a b, n = b ∧ a < 90000 ∧ b < 90000 ∧ s.1 = N a ∧ s.2 = N b ∧ Nat.gcd a b = Nat.gcd u d) (fun e => e = N (Nat.gcd u d)) (by
    rintro n ⟨x, y⟩ ⟨a, b, h0, h1, h2, h3, h4, h5⟩
    dsimp only at h3 h4 ⊢
    subst h3 h4
    rw [f_X0_common_l4, show (0 : Int32) = N 0 from rfl, if_eq (by omega) (by omega)]
    by_cases q : b = 0
    · right
      subst q
      rw [if_pos rfl]
      exact ⟨_, rfl, by rw [← h5, Nat.gcd_zero_right]⟩
    · left
      rw [if_neg q, g_nz, if_neg (by rw [show (0 : Int32) = N 0 from rfl, N_eq (by omega) (by omega)]; exact q), Option.bind_some, N_mod (by omega) (by omega) (by omega)]
      have hm := Nat.mod_lt a (show b > 0 by omega)
      refine ⟨_, rfl, a % b, by omega, b, a % b, rfl, h2, by omega, rfl, rfl, ?_⟩
      rw [← h5, Nat.gcd_comm a b, Nat.gcd_rec b a, Nat.gcd_comm]) (n := d) (s := (N u, N d)) ⟨u, d, rfl, hu, hd, rfl, rfl, rfl⟩ (by simp only [g_K]; omega)
  rw [f_X0_common, k1, Option.bind_some, f_X0_common_x4, k2]
end X18

set_option linter.unusedVariables false
set_option linter.unusedSimpArgs false
/-! THE PLAIN LAW: gains of the component, go on -/
section X19
variable {hk hk' : HK} {nx nx' : Nat} {gi gi' : GI} {gr gr' : GR} {b ask : Nat} {L : List Nat} {sl : Nat} {sf w : Nat → Nat} {S : St}
theorem tryG2_id {B : Bk} {a c : Nat} (g : Gn) (h : B.cost a c = 0) : tryG2 B a c g = g := by unfold tryG2; rw [if_pos (Or.inl h)]
theorem tryG3_id1 {B : Bk} {a c d : Nat} (g : Gn) (h : B.cost a c = 0) : tryG3 B a c d g = g := by unfold tryG3; rw [if_pos (Or.inl h)]
theorem tryG3_id2 {B : Bk} {a c d : Nat} (g : Gn) (h : B.cost c d = 0) : tryG3 B a c d g = g := by unfold tryG3; rw [if_pos (Or.inr (Or.inl h))]
theorem ex19 (r : RX hk nx gi gr b ask L sl sf w S) (cN cS ns : Nat) (x : Int32) {a c : Nat} (h : S.B.nk ≤ c) (hc : c ≤ 9) : f_X0_gain_l19 cN cS 0 x (N a) (N c) hk nx ns gi gr = some (.inr (hk, nx, ns, gi, gr)) := by
  have h3 := r.wd.bk.ok.nk
  rw [f_X0_gain_l19, x_kindsN r.wd, Option.bind_some, if_le (by omega) (by omega), if_pos h]
theorem st19 (r : RX hk nx gi gr b ask L sl sf w S) {cN cS ns : Nat} (x : Int32) {a c : Nat} (h : c < S.B.nk) {q : HK × Nat × Nat × GI × GR} (hq : ∀ cN cS, q.2.1 ≤ cN → q.2.2.1 ≤ cS → f_X0_tries cN cS hk nx ns gi gr 0 (N a) (N c) (-1) = some q) (h1 : nx ≤ q.2.1) (h2 : ns ≤ q.2.2.1) (h3 : q.2.1 ≤ cN) (h4 : q.2.2.1 ≤ cS) : f_X0_gain_l19 cN cS 0 x (N a) (N c) hk nx ns gi gr = some (.inl (N (c + 1), q.1, q.2.1, q.2.2.1, q.2.2.2.1, q.2.2.2.2)) := by
  have h3' := r.wd.bk.ok.nk
  rw [f_X0_gain_l19, x_kindsN r.wd, Option.bind_some, if_le (by omega) (by omega), if_neg (by omega), cc_of (q := q) hq h1 h2 h3 h4, Option.bind_some, show (1 : Int32) = N 1 from rfl, N_add]
theorem ex7 (r : RX hk nx gi gr b ask L sl sf w S) (cN cS ns : Nat) (x : Int32) {a : Nat} (h : S.B.nk ≤ a) (ha : a ≤ 9) : f_X0_gain_l7 cN cS 0 x (N a) hk nx ns gi gr = some (.inr (hk, nx, ns, gi, gr)) := by
  have h3 := r.wd.bk.ok.nk
  rw [f_X0_gain_l7, x_kindsN r.wd, Option.bind_some, if_le (by omega) (by omega), if_pos h]
theorem st7 (r : RX hk nx gi gr b ask L sl sf w S) {cN cS ns : Nat} (x : Int32) {a : Nat} (h : a < S.B.nk) {q : HK × Nat × Nat × GI × GR} (hq : g_loop g_K (fun (s : Int32 × HK × Nat × Nat × GI × GR) => f_X0_gain_l19 cN cS 0 x (N a) s.1 s.2.1 s.2.2.1 s.2.2.2.1 s.2.2.2.2.1 s.2.2.2.2.2) (N (a + 1), hk, nx, ns, gi, gr) = some q) : f_X0_gain_l7 cN cS 0 x (N a) hk nx ns gi gr = some (.inl (N (a + 1), q.1, q.2.1, q.2.2.1, q.2.2.2.1, q.2.2.2.2)) := by
  have h3' := r.wd.bk.ok.nk
  rw [f_X0_gain_l7, x_kindsN r.wd, Option.bind_some, if_le (by omega) (by omega), if_neg (by omega), show (1 : Int32) = N 1 from rfl, N_add, hq, Option.bind_some, f_X0_gain_x19, show (1 : Int32) = N 1 from rfl, N_add]
theorem st48 (r : RX hk nx gi gr b ask L sl sf w S) {cN cS ns : Nat} (x : Int32) {c : Nat} (h3 : S.B.nk = 3) (hc : c < 3) (hc1 : 1 ≤ c) {q : HK × Nat × Nat × GI × GR} (hq : ∀ cN cS, q.2.1 ≤ cN → q.2.2.1 ≤ cS → f_X0_tries cN cS hk nx ns gi gr 0 0 (N c) (N (3 - c)) = some q) (h1 : nx ≤ q.2.1) (h2 : ns ≤ q.2.2.1) (h4 : q.2.1 ≤ cN) (h5 : q.2.2.1 ≤ cS) : f_X0_gain_l48 cN cS 0 x (N c) hk nx ns gi gr = some (.inl (N (c + 1), q.1, q.2.1, q.2.2.1, q.2.2.2.1, q.2.2.2.2)) := by
  have e3 : (3 : Int32) - N c = N (3 - c) := by rw [show (3 : Int32) = N 3 from rfl, N_sub (by omega)]
  have ek : f_X0_kinds hk gi gr 0 = some 3 := by rw [x_kindsN r.wd, h3]; rfl
  rw [f_X0_gain_l48, if_neg (by rw [show (3 : Int32) = N 3 from rfl, N_le (by omega) (by omega)]; omega), ek, Option.bind_some, if_pos rfl, e3, cc_of (q := q) hq h1 h2 h4 h5, Option.bind_some, show (1 : Int32) = N 1 from rfl, N_add]
theorem ex48 (r : RX hk nx gi gr b ask L sl sf w S) (cN cS ns : Nat) (x : Int32) (h3 : S.B.nk ≠ 3) : f_X0_gain_l48 cN cS 0 x 1 hk nx ns gi gr = some (.inr (hk, nx, ns, gi, gr)) := by
  have h := r.wd.bk.ok.nk
  have ek : ¬ (N S.B.nk = (3 : Int32)) := by rw [show (3 : Int32) = N 3 from rfl, N_eq (by omega) (by omega)]; exact h3
  rw [f_X0_gain_l48, if_neg (by decide), x_kindsN r.wd, Option.bind_some, if_neg ek]
theorem x_gain48 (r : RX hk nx gi gr b ask L sl sf w S) (h : GX gi (gainG S.B)) (cN cS ns : Nat) (x : Int32) : f_X0_gain_x48 cN cS 0 x hk nx ns gi gr = some (q_gain S x, hk, nx, ns, gi, gr) := by
  unfold q_gain
  have e2 : f_X0_isIn hk gi gr x 0 2 = some (if (asQ x 3).isSome then 1 else 0) := by
    rw [x_isIn, show (2 : Int32) = N 3 - 1 from rfl, isIn_asQ x (by decide)]
  cases hg : gainG S.B with
  | none =>
    rw [hg] at h
    have h : gi 0 24 = -1 := h
    rw [f_X0_gain_x48, h, if_pos (by decide)]
  | some q =>
    rw [hg] at h
    have h : gi 0 22 = N q.1 ∧ gi 0 23 = N q.2.1 ∧ gi 0 24 = N q.2.2 ∧ 1 ≤ q.2.1 ∧ q.2.1 ≤ 729 ∧ q.1 ≤ 729 ∧ q.2.2 ≤ 999 := h
    obtain ⟨h1, h2, h3, h4, h5, h6, h7⟩ := h
    have gp : 0 < Nat.gcd q.1 q.2.1 := Nat.gcd_pos_of_pos_right q.1 (by omega)
    have gl : Nat.gcd q.1 q.2.1 ≤ q.2.1 := Nat.gcd_le_right q.1 (by omega)
    have nz : g_nz (N (Nat.gcd q.1 q.2.1)) = some () := by
      rw [g_nz, if_neg]
      rw [show (0 : Int32) = N 0 from rfl, N_eq (by omega) (by omega)]
      omega
    have j121 : ∀ t, t < 90000 → f_X0_gain_j121 cN cS 0 hk nx ns gi gr (N t) = some (N (t / Nat.gcd q.1 q.2.1), hk, nx, ns, gi, gr) := by
      intro t ht
      rw [f_X0_gain_j121, h1, h2, x_common (by omega) (by omega), Option.bind_some, nz, Option.bind_some, N_div (by omega) (by omega)]
    rw [f_X0_gain_x48, h3, if_neg (N_nneg (by omega)), e2, Option.bind_some]
    cases hx : asQ x 3 with
    | none => rfl
    | some v =>
      obtain ⟨rfl, hv⟩ := asQ_some hx
      simp only [Option.isSome_some, if_true]
      rw [if_neg (by decide), h1, h2, j121 _ (by omega), j121 _ (by omega)]
      match v, hv with
      | 0, _ => rfl
      | 1, _ => rfl
      | 2, _ => rfl
theorem x_gain (r : RX hk nx gi gr b ask L sl sf w S) (o : SOk S) (hx : nx + 20 < 1000000) (ns : Nat) (x : Int32) : ∃ hk' nx' ns' gi' gr', nx ≤ nx' ∧ nx' ≤ nx + 12 ∧ ns ≤ ns' ∧ ns' ≤ ns + 48 ∧ (∀ cN cS, nx' ≤ cN → ns' ≤ cS → f_X0_gain cN cS hk nx ns gi gr 0 x = some (q_gain S x, hk', nx', ns', gi', gr')) ∧ RX hk' nx' gi' gr' b ask L sl sf w S := by
  have h3 := r.wd.bk.ok.nk
  have cz : ∀ a c, ¬ (a < S.B.nk ∧ c < S.B.nk) → S.B.cost a c = 0 := fun a c h => by
    apply Classical.byContradiction
    intro e
    exact h (o.rate a c e)
  have r0 : RX hk nx (g_pi gi 0 24 (-1)) gr b ask L sl sf w S := r.gains (fun k _ _ h => by rw [pi_get, if_neg (by omega)]) (fun c hc => pi_off hc)
  have x0 : GX (g_pi gi 0 24 (-1)) none := by show g_pi gi 0 24 (-1) 0 24 = -1; simp [pi_get]
  generalize hg0 : g_pi gi 0 24 (-1) = g0 at r0 x0
  match hn : S.B.nk, h3 with
  | 0, _ =>
    have z : gainG S.B = none := by
      unfold gainG
      rw [tryG2_id _ (cz 0 1 (by omega)), tryG2_id _ (cz 0 2 (by omega)), tryG2_id _ (cz 1 2 (by omega)), tryG3_id1 _ (cz 0 1 (by omega)), tryG3_id1 _ (cz 0 2 (by omega))]
    refine ⟨hk, nx, ns, g0, gr, by omega, by omega, by omega, by omega, fun cN cS _ _ => ?_, r0⟩
    have e1 := lp_0 (body := fun (s : Int32 × HK × Nat × Nat × GI × GR) => f_X0_gain_l7 cN cS 0 x s.1 s.2.1 s.2.2.1 s.2.2.2.1 s.2.2.2.2.1 s.2.2.2.2.2) (s0 := (N 0, hk, nx, ns, g0, gr)) (ex7 r0 cN cS ns x (by omega) (by omega))
    have e2 := lp_0 (body := fun (s : Int32 × HK × Nat × Nat × GI × GR) => f_X0_gain_l48 cN cS 0 x s.1 s.2.1 s.2.2.1 s.2.2.2.1 s.2.2.2.2.1 s.2.2.2.2.2) (s0 := (1, hk, nx, ns, g0, gr)) (ex48 r0 cN cS ns x (by omega))
    rw [f_X0_gain, Option.bind_some, hg0]
    show ((g_loop g_K (fun (s : Int32 × HK × Nat × Nat × GI × GR) => f_X0_gain_l7 cN cS 0 x s.1 s.2.1 s.2.2.1 s.2.2.2.1 s.2.2.2.2.1 s.2.2.2.2.2) (N 0, hk, nx, ns, g0, gr)).bind _ : Option (Int32 × HK × Nat × Nat × GI × GR)) = _
    rw [e1, Option.bind_some, f_X0_gain_x7, e2, Option.bind_some]
    exact x_gain48 r0 (by rw [z]; exact x0) cN cS ns x
  | 1, _ =>
    have z : gainG S.B = none := by
      unfold gainG
      rw [tryG2_id _ (cz 0 1 (by omega)), tryG2_id _ (cz 0 2 (by omega)), tryG2_id _ (cz 1 2 (by omega)), tryG3_id1 _ (cz 0 1 (by omega)), tryG3_id1 _ (cz 0 2 (by omega))]
    refine ⟨hk, nx, ns, g0, gr, by omega, by omega, by omega, by omega, fun cN cS _ _ => ?_, r0⟩
    have i0 := lp_0 (body := fun (s : Int32 × HK × Nat × Nat × GI × GR) => f_X0_gain_l19 cN cS 0 x (N 0) s.1 s.2.1 s.2.2.1 s.2.2.2.1 s.2.2.2.2.1 s.2.2.2.2.2) (s0 := (N (0 + 1), hk, nx, ns, g0, gr)) (ex19 r0 cN cS ns x (by omega) (by omega))
    have e1 := lp_1 (body := fun (s : Int32 × HK × Nat × Nat × GI × GR) => f_X0_gain_l7 cN cS 0 x s.1 s.2.1 s.2.2.1 s.2.2.2.1 s.2.2.2.2.1 s.2.2.2.2.2) (s0 := (N 0, hk, nx, ns, g0, gr)) (st7 r0 x (by omega) i0) (ex7 r0 cN cS ns x (a := 0 + 1) (by omega) (by omega))
    have e2 := lp_0 (body := fun (s : Int32 × HK × Nat × Nat × GI × GR) => f_X0_gain_l48 cN cS 0 x s.1 s.2.1 s.2.2.1 s.2.2.2.1 s.2.2.2.2.1 s.2.2.2.2.2) (s0 := (1, hk, nx, ns, g0, gr)) (ex48 r0 cN cS ns x (by omega))
    rw [f_X0_gain, Option.bind_some, hg0]
    show ((g_loop g_K (fun (s : Int32 × HK × Nat × Nat × GI × GR) => f_X0_gain_l7 cN cS 0 x s.1 s.2.1 s.2.2.1 s.2.2.2.1 s.2.2.2.2.1 s.2.2.2.2.2) (N 0, hk, nx, ns, g0, gr)).bind _ : Option (Int32 × HK × Nat × Nat × GI × GR)) = _
    rw [e1, Option.bind_some, f_X0_gain_x7, e2, Option.bind_some]
    exact x_gain48 r0 (by rw [z]; exact x0) cN cS ns x
  | 2, _ =>
    have z : gainG S.B = tryG2 S.B 0 1 none := by
      unfold gainG
      rw [tryG2_id _ (cz 0 2 (by omega)), tryG2_id _ (cz 1 2 (by omega)), tryG3_id2 _ (cz 1 2 (by omega)), tryG3_id1 _ (cz 0 2 (by omega))]
    obtain ⟨hk1, g1, gr1, a1, a2, a3⟩ := x_try2 r0 (by omega) ns x0 (show 0 < 3 by decide) (show 1 < 3 by decide)
    refine ⟨hk1, nx + 2, ns + 8, g1, gr1, by omega, by omega, by omega, by omega, fun cN cS h1 h2 => ?_, a2⟩
    have i0 := lp_1 (body := fun (s : Int32 × HK × Nat × Nat × GI × GR) => f_X0_gain_l19 cN cS 0 x (N 0) s.1 s.2.1 s.2.2.1 s.2.2.2.1 s.2.2.2.2.1 s.2.2.2.2.2) (s0 := (N (0 + 1), hk, nx, ns, g0, gr)) (st19 r0 x (q := (hk1, nx + 2, ns + 8, g1, gr1)) (by omega) a1 (by show nx ≤ nx + 2; omega) (by show ns ≤ ns + 8; omega) h1 h2) (ex19 a2 cN cS (ns + 8) x (c := 0 + 1 + 1) (by omega) (by omega))
    have i1 := lp_0 (body := fun (s : Int32 × HK × Nat × Nat × GI × GR) => f_X0_gain_l19 cN cS 0 x (N 1) s.1 s.2.1 s.2.2.1 s.2.2.2.1 s.2.2.2.2.1 s.2.2.2.2.2) (s0 := (N (1 + 1), hk1, nx + 2, ns + 8, g1, gr1)) (ex19 a2 cN cS (ns + 8) x (by omega) (by omega))
    have e1 := lp_2 (body := fun (s : Int32 × HK × Nat × Nat × GI × GR) => f_X0_gain_l7 cN cS 0 x s.1 s.2.1 s.2.2.1 s.2.2.2.1 s.2.2.2.2.1 s.2.2.2.2.2) (s0 := (N 0, hk, nx, ns, g0, gr)) (st7 r0 x (by omega) i0) (st7 (a := 0 + 1) a2 x (by omega) i1) (ex7 a2 cN cS (ns + 8) x (a := 0 + 1 + 1) (by omega) (by omega))
    have e2 := lp_0 (body := fun (s : Int32 × HK × Nat × Nat × GI × GR) => f_X0_gain_l48 cN cS 0 x s.1 s.2.1 s.2.2.1 s.2.2.2.1 s.2.2.2.2.1 s.2.2.2.2.2) (s0 := (1, hk1, nx + 2, ns + 8, g1, gr1)) (ex48 a2 cN cS (ns + 8) x (by omega))
    rw [f_X0_gain, Option.bind_some, hg0]
    show ((g_loop g_K (fun (s : Int32 × HK × Nat × Nat × GI × GR) => f_X0_gain_l7 cN cS 0 x s.1 s.2.1 s.2.2.1 s.2.2.2.1 s.2.2.2.2.1 s.2.2.2.2.2) (N 0, hk, nx, ns, g0, gr)).bind _ : Option (Int32 × HK × Nat × Nat × GI × GR)) = _
    rw [e1, Option.bind_some, f_X0_gain_x7, e2, Option.bind_some]
    exact x_gain48 a2 (by rw [z]; exact a3) cN cS (ns + 8) x
  | 3, _ =>
    obtain ⟨hk1, g1, gr1, a1, a2, a3⟩ := x_try2 r0 (by omega) ns x0 (show 0 < 3 by decide) (show 1 < 3 by decide)
    obtain ⟨hk2, g2, gr2, b1, b2, b3⟩ := x_try2 a2 (by omega) (ns + 8) a3 (show 0 < 3 by decide) (show 2 < 3 by decide)
    obtain ⟨hk3, g3, gr3, c1, c2, c3⟩ := x_try2 b2 (by omega) (ns + 8 + 8) b3 (show 1 < 3 by decide) (show 2 < 3 by decide)
    obtain ⟨hk4, g4, gr4, d1, d2, d3⟩ := x_try3 c2 (by omega) (ns + 8 + 8 + 8) c3 (show 0 < 3 by decide) (show 1 < 3 by decide) (show 2 < 3 by decide)
    obtain ⟨hk5, g5, gr5, e1, e2, e3⟩ := x_try3 d2 (by omega) (ns + 8 + 8 + 8 + 12) d3 (show 0 < 3 by decide) (show 2 < 3 by decide) (show 1 < 3 by decide)
    refine ⟨hk5, nx + 2 + 2 + 2 + 3 + 3, ns + 8 + 8 + 8 + 12 + 12, g5, gr5, by omega, by omega, by omega, by omega, fun cN cS h1 h2 => ?_, e2⟩
    have i0 := lp_2 (body := fun (s : Int32 × HK × Nat × Nat × GI × GR) => f_X0_gain_l19 cN cS 0 x (N 0) s.1 s.2.1 s.2.2.1 s.2.2.2.1 s.2.2.2.2.1 s.2.2.2.2.2) (s0 := (N (0 + 1), hk, nx, ns, g0, gr)) (st19 r0 x (q := (hk1, nx + 2, ns + 8, g1, gr1)) (by omega) a1 (by show nx ≤ nx + 2; omega) (by show ns ≤ ns + 8; omega) (by show nx + 2 ≤ cN; omega) (by show ns + 8 ≤ cS; omega)) (st19 a2 x (c := 0 + 1 + 1) (q := (hk2, nx + 2 + 2, ns + 8 + 8, g2, gr2)) (by omega) b1 (by show nx + 2 ≤ nx + 2 + 2; omega) (by show ns + 8 ≤ ns + 8 + 8; omega) (by show nx + 2 + 2 ≤ cN; omega) (by show ns + 8 + 8 ≤ cS; omega)) (ex19 b2 cN cS (ns + 8 + 8) x (c := 0 + 1 + 1 + 1) (by omega) (by omega))
    have i1 := lp_1 (body := fun (s : Int32 × HK × Nat × Nat × GI × GR) => f_X0_gain_l19 cN cS 0 x (N 1) s.1 s.2.1 s.2.2.1 s.2.2.2.1 s.2.2.2.2.1 s.2.2.2.2.2) (s0 := (N (1 + 1), hk2, nx + 2 + 2, ns + 8 + 8, g2, gr2)) (st19 b2 x (q := (hk3, nx + 2 + 2 + 2, ns + 8 + 8 + 8, g3, gr3)) (by omega) c1 (by show nx + 2 + 2 ≤ nx + 2 + 2 + 2; omega) (by show ns + 8 + 8 ≤ ns + 8 + 8 + 8; omega) (by show nx + 2 + 2 + 2 ≤ cN; omega) (by show ns + 8 + 8 + 8 ≤ cS; omega)) (ex19 c2 cN cS (ns + 8 + 8 + 8) x (c := 1 + 1 + 1) (by omega) (by omega))
    have i2 := lp_0 (body := fun (s : Int32 × HK × Nat × Nat × GI × GR) => f_X0_gain_l19 cN cS 0 x (N 2) s.1 s.2.1 s.2.2.1 s.2.2.2.1 s.2.2.2.2.1 s.2.2.2.2.2) (s0 := (N (2 + 1), hk3, nx + 2 + 2 + 2, ns + 8 + 8 + 8, g3, gr3)) (ex19 c2 cN cS (ns + 8 + 8 + 8) x (by omega) (by omega))
    have l1 := lp_3 (body := fun (s : Int32 × HK × Nat × Nat × GI × GR) => f_X0_gain_l7 cN cS 0 x s.1 s.2.1 s.2.2.1 s.2.2.2.1 s.2.2.2.2.1 s.2.2.2.2.2) (s0 := (N 0, hk, nx, ns, g0, gr)) (st7 r0 x (by omega) i0) (st7 (a := 0 + 1) b2 x (by omega) i1) (st7 (a := 0 + 1 + 1) c2 x (by omega) i2) (ex7 c2 cN cS (ns + 8 + 8 + 8) x (a := 0 + 1 + 1 + 1) (by omega) (by omega))
    have x48 : ∀ (HH : HK) (NX NS : Nat) (GG : GI) (RR : GR), f_X0_gain_l48 cN cS 0 x (N (1 + 1 + 1)) HH NX NS GG RR = some (.inr (HH, NX, NS, GG, RR)) := fun HH NX NS GG RR => by rw [f_X0_gain_l48, if_pos (by decide)]
    have l2 := lp_2 (body := fun (s : Int32 × HK × Nat × Nat × GI × GR) => f_X0_gain_l48 cN cS 0 x s.1 s.2.1 s.2.2.1 s.2.2.2.1 s.2.2.2.2.1 s.2.2.2.2.2) (s0 := (N 1, hk3, nx + 2 + 2 + 2, ns + 8 + 8 + 8, g3, gr3)) (st48 c2 x (q := (hk4, nx + 2 + 2 + 2 + 3, ns + 8 + 8 + 8 + 12, g4, gr4)) hn (by decide) (by decide) d1 (by show nx + 2 + 2 + 2 ≤ nx + 2 + 2 + 2 + 3; omega) (by show ns + 8 + 8 + 8 ≤ ns + 8 + 8 + 8 + 12; omega) (by show nx + 2 + 2 + 2 + 3 ≤ cN; omega) (by show ns + 8 + 8 + 8 + 12 ≤ cS; omega)) (st48 d2 x (c := 1 + 1) (q := (hk5, nx + 2 + 2 + 2 + 3 + 3, ns + 8 + 8 + 8 + 12 + 12, g5, gr5)) hn (by decide) (by decide) e1 (by show nx + 2 + 2 + 2 + 3 ≤ nx + 2 + 2 + 2 + 3 + 3; omega) (by show ns + 8 + 8 + 8 + 12 ≤ ns + 8 + 8 + 8 + 12 + 12; omega) h1 h2) (x48 _ _ _ _ _)
    rw [f_X0_gain, Option.bind_some, hg0]
    show ((g_loop g_K (fun (s : Int32 × HK × Nat × Nat × GI × GR) => f_X0_gain_l7 cN cS 0 x s.1 s.2.1 s.2.2.1 s.2.2.2.1 s.2.2.2.2.1 s.2.2.2.2.2) (N 0, hk, nx, ns, g0, gr)).bind _ : Option (Int32 × HK × Nat × Nat × GI × GR)) = _
    rw [l1, Option.bind_some, f_X0_gain_x7]
    show ((g_loop g_K (fun (s : Int32 × HK × Nat × Nat × GI × GR) => f_X0_gain_l48 cN cS 0 x s.1 s.2.1 s.2.2.1 s.2.2.2.1 s.2.2.2.2.1 s.2.2.2.2.2) (N 1, hk3, nx + 2 + 2 + 2, ns + 8 + 8 + 8, g3, gr3)).bind _ : Option (Int32 × HK × Nat × Nat × GI × GR)) = _
    rw [l2, Option.bind_some]
    exact x_gain48 e2 e3 cN cS _ x
end X19

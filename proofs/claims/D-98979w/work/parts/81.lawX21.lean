set_option linter.unusedVariables false
set_option linter.unusedSimpArgs false
/-! THE PLAIN LAW: sights are told -/
theorem XLay.old2 {hk hk' : HK} {gr gr' : GR} (h : ∀ c, c < 264 → hk' c = hk c) (hr : ∀ c, c < 264 → c ≠ 38 → c ≠ 39 → gr' c = gr c) (x : XLay hk gr) : XLay hk' gr' := by
  have e0 := hr 0 (by decide) (by decide) (by decide)
  have e41 := hr 41 (by decide) (by decide) (by decide)
  have e47 := hr 47 (by decide) (by decide) (by decide)
  refine ⟨?_, by rw [e0]; exact x.f0, ?_, by rw [e0]; exact x.f5, by rw [e0]; exact x.f6, by rw [e0]; exact x.f7, by rw [e0]; exact x.f8, ?_, by rw [e0]; exact x.f10, ?_, by rw [e0]; exact x.f13, ?_, by rw [e0]; exact x.f14, ?_, by rw [e0]; exact x.f15, ?_, by rw [e0]; exact x.f19, ?_, by rw [e0]; exact x.f20, ?_, by rw [e0]; exact x.f21, ?_, by rw [e0]; exact x.f25, ?_, by rw [e0]; exact x.f26, ?_, by rw [e0]; exact x.f27, ?_, ?_, by rw [e0]; exact x.f28, ?_, by rw [e47]; exact x.t47, by rw [e0]; exact x.f29, ?_⟩
  · rw [h 0 (by omega)]; exact x.k0
  · rw [h 1 (by omega)]; exact x.k1
  · intro p hp
    have := hp.low
    exact (x.pls p hp).old (fun c h1 h2 => h c (by omega)) (hr p (by omega) (by omega) (by omega))
  · rw [h 31 (by omega)]; exact x.k31
  · rw [h 32 (by omega)]; exact x.k32
  · rw [h 33 (by omega)]; exact x.k33
  · rw [h 34 (by omega)]; exact x.k34
  · rw [h 35 (by omega)]; exact x.k35
  · rw [h 36 (by omega)]; exact x.k36
  · rw [h 37 (by omega)]; exact x.k37
  · rw [h 38 (by omega)]; exact x.k38
  · rw [h 40 (by omega)]; exact x.k40
  · rw [h 41 (by omega)]; exact x.k41
  · intro i hi
    rw [h (42 + i) (by omega), e41]; exact x.t41 i hi
  · rw [h 47 (by omega)]; exact x.k47
  · rw [h 48 (by omega)]; exact x.k48
theorem obj21 {hk : HK} {c : Nat} (h : (hk c).1 = 21) : g_obj hk c = some () := by
  unfold g_obj
  rw [h]
  exact if_pos (by decide)
section X21
variable {hk hk' : HK} {nx nx' : Nat} {gi gi' : GI} {gr gr' : GR} {b ask : Nat} {L : List Nat} {sl : Nat} {sf w : Nat → Nat} {S : St}
def told (m ot nu z : Int32) (cN cS : Nat) (hk : HK) (nx ns : Nat) (gi : GI) (gr : GR) : Option (Int32 × HK × Nat × Nat × GI × GR) :=
  ((g_new cN cS nx ns 21 0 7 hk gi gr).bind fun q7 =>
  (g_cc (fun c1 c2 => f_X12_init c1 c2 q7.1 (nx + 1) (ns + 7) q7.2.1 q7.2.2 nx 0 m ot nu z) (fun q : HK × Nat × Nat × GI × GR => q.2.1) (fun q : HK × Nat × Nat × GI × GR => q.2.2.1) cN cS (nx + 1) (ns + 7)).bind fun q12 =>
  (g_cc (fun c1 c2 => f_X0_tell c1 c2 q12.1 q12.2.1 q12.2.2.1 q12.2.2.2.1 q12.2.2.2.2 0 nx) (fun q : Int32 × HK × Nat × Nat × GI × GR => q.2.2.1) (fun q : Int32 × HK × Nat × Nat × GI × GR => q.2.2.2.1) cN cS q12.2.1 q12.2.2.1).bind fun q17 =>
  some (q17.1, q17.2.1, q17.2.2.1, q17.2.2.2.1, q17.2.2.2.2.1, q17.2.2.2.2.2))
theorem x_told (r : RX hk nx gi gr b ask L sl sf w S) (hx : nx + 1 < 1000000) (ns : Nat) (m ot nu nu' z : Int32) (hz : z = 0 ∨ z = 1) (hu : ot < 0 → nu = nu') (h30 : S.ns < 30) : ∃ hk' nx' ns' gi' gr' sl' sf', nx ≤ nx' ∧ nx' ≤ nx + 2 ∧ ns ≤ ns' ∧ ns' ≤ ns + 98 ∧ (∀ cN cS, nx' ≤ cN → ns' ≤ cS → told m ot nu z cN cS hk nx ns gi gr = some (N S.ns, hk', nx', ns', gi', gr')) ∧ RX hk' nx' gi' gr' b ask L sl' sf' w (s_tell S m ot nu' z).2 := by
  obtain ⟨m1, m2, m3, m4⟩ := r.room
  have hl := r.wd.lay
  generalize hh1 : va_up hk nx (21, 0) = hk1
  generalize hg1 : g_pi (g_pi (g_pi (g_pi (g_pi (g_pi (va_up gi nx (fun _ => (0 : Int32))) nx 5 (-1)) nx 0 m) nx 1 ot) nx 2 nu) nx 4 z) nx 3 (N S.time) = g1
  generalize hr1 : g_pr (va_up gr nx (fun _ => none)) nx 6 (some 0) = gr1
  have o1 : ∀ q, q ≠ nx → g1 q = gi q := fun q hq => by rw [← hg1, pi_off hq, pi_off hq, pi_off hq, pi_off hq, pi_off hq, pi_off hq, up_ne _ _ _ hq]
  have p1 : ∀ q, q ≠ nx → gr1 q = gr q := fun q hq => by
    rw [← hr1]
    funext k
    rw [pr_get, if_neg (fun z => hq z.1), up_ne _ _ _ hq]
  have p6 : gr1 nx 6 = some 0 := by rw [← hr1, pr_get, if_pos ⟨rfl, rfl⟩]
  have k1 : ∀ q, q ≠ nx → hk1 q = hk q := fun q hq => by rw [← hh1, up_ne _ _ _ hq]
  have k21 : (hk1 nx).1 = 21 := by rw [← hh1, up_same]
  have v0 : g1 nx 0 = m := by rw [← hg1]; simp [pi_get]
  have v1 : g1 nx 1 = ot := by rw [← hg1]; simp [pi_get]
  have v2 : g1 nx 2 = nu := by rw [← hg1]; simp [pi_get]
  have v3 : g1 nx 3 = N S.time := by rw [← hg1]; simp [pi_get]
  have v4 : g1 nx 4 = z := by rw [← hg1]; simp [pi_get]
  have v5 : g1 nx 5 = -1 := by rw [← hg1]; simp [pi_get]
  have nx0 : (0 : Nat) ≠ nx := by omega
  have ini : ∀ c1 c2 : Nat, f_X12_init c1 c2 hk1 (nx + 1) (ns + 7) (va_up gi nx (fun _ => 0)) (va_up gr nx (fun _ => none)) nx 0 m ot nu z = some (hk1, nx + 1, ns + 7, g1, gr1) := by
    intro c1 c2
    have ok0 : g_ok hk1 0 = some () := by rw [g_ok, k1 0 nx0, hl.k0, if_pos (by decide)]
    have zb : g_zb z = some () := by rw [g_zb, if_pos hz]
    have t9 : g_pi (g_pi (g_pi (g_pi (g_pi (va_up gi nx (fun _ => (0 : Int32))) nx 5 (-1)) nx 0 m) nx 1 ot) nx 2 nu) nx 4 z 0 9 = N S.time := by
      rw [pi_off nx0, pi_off nx0, pi_off nx0, pi_off nx0, pi_off nx0, up_ne _ _ _ nx0]; exact r.time
    rw [f_X12_init, ok0, Option.bind_some, Option.bind_some, Option.bind_some, Option.bind_some, Option.bind_some, Option.bind_some, zb, Option.bind_some, Option.bind_some, g_is_of (show (hk1 0).1 = 10 by rw [k1 0 nx0]; exact hl.k0), Option.bind_some, Option.bind_some, t9, hg1, hr1]
  have od : Old nx hk hk1 gi g1 gr gr1 := fun c hc => ⟨k1 c (by omega), o1 c (by omega), p1 c (by omega)⟩
  have r1 := r.grow od (nx' := nx + 1) (by omega)
  have l1 := r1.wd.lay
  obtain ⟨e1, e2, e3, e4, e5⟩ := r1.sge
  have sx := r.slx
  have sl38 : (38 : Nat) ≠ sl := by rcases sx with h | h <;> omega
  obtain ⟨hk2, nx2, ns2, g2, gr2, sl2, a1, a2, a3, a4, a5, A⟩ := x_add (ns := ns + 7) (nx := nx + 1) (l := 38) (n := S.ns) (e := sl) (a1 := nx) l1.k38 r1.sgn e1 e2 e3 ⟨by omega, e4⟩ (fun i hi y hy => by
    obtain ⟨c1, c2, c3, c4, _⟩ := r1.sgc i hi
    rw [c1] at hy
    have hy := Option.some.inj hy
    subst hy
    have c4' := (r.sgc i hi).2.2.2.1
    exact ⟨obj21 c2, by omega⟩) (obj21 k21) (by rw [k21]; decide) (by omega) (by omega) (by omega) sl38 hx
  have F1 : ∀ c, c ≠ 38 → c ≠ nx → c ≠ nx + 1 → g2 c = gi c := fun c c1 c2 c3 => by rw [A.gis c c1 c3, o1 c c2]
  have F2 : ∀ c, c ≠ 38 → c ≠ sl → c ≠ nx → c ≠ nx + 1 → gr2 c = gr c := fun c c1 c2 c3 c4 => by rw [A.grs c c1 c2 c4, p1 c c3]
  have F3 : ∀ c, c ≠ nx → c ≠ nx + 1 → hk2 c = hk c := fun c c1 c2 => by rw [A.hks c c2, k1 c c1]
  have ep : ∀ p, p = 11 ∨ (49 ≤ p ∧ p ≤ 259) → pl g2 p = pl gi p := fun p hp => pl_same (fun c h1 h2 => F1 c (by omega) (by omega) (by omega))
  have w2 : sl2 = sl ∨ sl2 = nx + 1 := A.which
  have n2 : sl2 = nx + 1 → nx2 = nx + 1 + 1 := a2
  have n3 : nx2 = nx + 1 ∨ nx2 = nx + 1 + 1 := a1
  have hL : ∀ c, c ∈ L → c ≠ 38 ∧ c ≠ sl ∧ c ≠ nx ∧ c ≠ nx + 1 := by
    intro c hc
    have s1 := r.wd.sep c (Or.inl hc)
    have s2 := not_st s1
    have s3 := m4 c hc
    refine ⟨by omega, ?_, by omega, by omega⟩
    intro e
    subst e
    rcases sx with h | h
    · omega
    · exact h.2.1 hc
  refine ⟨hk2, nx2, ns2, g2, gr2, sl2, (fun i => if i = S.ns then nx else sf i), by omega, by omega, by omega, by omega, fun cN cS h1 h2 => ?_, ?_⟩
  · have tl : ∀ c1 c2, nx2 ≤ c1 → ns2 ≤ c2 → f_X0_tell c1 c2 hk1 (nx + 1) (ns + 7) g1 gr1 0 nx = some (N S.ns, hk2, nx2, ns2, g2, gr2) := by
      intro c1 c2 q1 q2
      have okn : g_ok hk1 nx = some () := by rw [g_ok, k21, if_pos (by decide)]
      rw [f_X0_tell, l1.f25, Option.bind_some, g_is_of l1.k38, Option.bind_some, okn, Option.bind_some, cc_of (q := (1, hk2, nx2, ns2, g2, gr2)) (fun c1 c2 q1 q2 => a5 c1 c2 q1 q2) (by show nx + 1 ≤ nx2; omega) (by show ns + 7 ≤ ns2; omega) q1 q2, Option.bind_some]
      dsimp only
      rw [show gr2 0 25 = some 38 by rw [F2 0 (by decide) (by omega) (by omega) (by omega)]; exact hl.f25, Option.bind_some, g_is_of (show (hk2 38).1 = 22 by rw [F3 38 (by omega) (by omega)]; exact hl.k38), Option.bind_some, f_J2_size, Option.bind_some, A.size, show (1 : Int32) = N 1 from rfl, N_sub (by omega), Nat.add_sub_cancel]
    rw [told, new_of (by omega) (by omega) (by omega), Option.bind_some]
    dsimp only
    rw [hh1, cc_of (q := (hk1, nx + 1, ns + 7, g1, gr1)) (fun c1 c2 _ _ => ini c1 c2) (Nat.le_refl _) (Nat.le_refl _) (by show nx + 1 ≤ cN; omega) (by show ns + 7 ≤ cS; omega), Option.bind_some]
    dsimp only
    rw [cc_of (q := (N S.ns, hk2, nx2, ns2, g2, gr2)) (fun c1 c2 q1 q2 => tl c1 c2 q1 q2) (by show nx + 1 ≤ nx2; omega) (by show ns + 7 ≤ ns2; omega) h1 h2, Option.bind_some]
  · have mk : ask ≠ nx ∧ ask ≠ nx + 1 := by omega
    have es : ∀ i, i < S.ns → (if i = S.ns then nx else sf i) = sf i := fun i hi => if_neg (by omega)
    refine RX.mk ⟨hl.old2 (fun c hc => F3 c (by omega) (by omega)) (fun c hc c1 c2 => F2 c c1 (by rcases sx with h | h <;> omega) (by omega) (by omega)), by rw [F2 0 (by decide) (by omega) (by omega) (by omega)]; exact r.wd.f4, r.wd.bk.keep (fun c hc => by
        obtain ⟨q1, q2, q3, q4⟩ := hL c hc
        exact ⟨F3 c q3 q4, F1 c q1 q3 q4, F2 c q1 q2 q3 q4⟩) (F3 ask mk.1 mk.2), r.wd.sep⟩ ?_ ?_ ?_ ?_ ?_ ?_ ?_ ?_ r.rm ?_ ?_ ?_ r.inj ?_ ?_ ?_ ?_ ?_ ?_ ?_ ?_ ?_ ?_
    · rw [ep 11 (by omega)]; exact r.now
    · rw [F1 0 (by omega) (by omega) (by omega)]; exact r.taped
    · rw [F1 1 (by omega) (by omega) (by omega)]; exact r.tape
    · rw [F1 0 (by omega) (by omega) (by omega)]; exact r.fk
    · rw [F1 0 (by omega) (by omega) (by omega)]; exact r.fp
    · rw [F1 0 (by omega) (by omega) (by omega)]; exact r.time
    · rw [F1 0 (by omega) (by omega) (by omega)]; exact r.acts
    · rw [F1 0 (by omega) (by omega) (by omega)]; exact r.undone
    · rw [F1 0 (by omega) (by omega) (by omega)]; exact r.laid
    · rw [F1 34 (by omega) (by omega) (by omega)]; exact r.lies
    · rw [F2 31 (by omega) (by rcases sx with h | h <;> omega) (by omega) (by omega)]; exact r.were
    · intro i hi
      rw [ep _ (by have := r.plw hi; omega)]; exact r.was i hi
    · intro c hc h1; rw [ep _ (by omega)]; exact r.box c hc h1
    · rw [F1 48 (by omega) (by omega) (by omega)]; exact r.boxed
    · exact A.size
    · obtain ⟨q1, q2, q3⟩ := A.room
      refine ⟨A.el, A.k4, q1, ?_, ?_⟩
      · rcases q2 with q | ⟨q, q4⟩
        · rw [q]; exact e4
        · rw [q4]; unfold grown; split <;> omega
      · rcases q2 with q | ⟨q, q4⟩
        · rw [q]; exact e5
        · rw [q4]; unfold grown; split <;> omega
    · rcases w2 with h | h
      · rw [h]; exact sx
      · refine Or.inr ⟨by omega, fun c => ?_, by omega⟩
        exact (hL _ c).2.2.2 h
    · intro i hi
      have hi : i < S.ns + 1 := hi
      by_cases q : i = S.ns
      · rw [if_pos q, q]
        refine ⟨A.last, ?_, by omega, by omega, fun c => (hL _ c).2.2.1 rfl, by omega, ?_⟩
        · rw [A.hks nx (by omega)]; exact k21
        · rw [A.grs nx (by omega) (by omega) (by omega)]; exact p6
      · obtain ⟨c1, c2, c3, c4, c5, c6, c7⟩ := r.sgc i (by omega)
        have d1 := (r1.sgc i (by omega)).1
        have ns : sf i ≠ sl := fun e => by
          have t2 := r.sge.2.1
          rw [← e, c2] at t2
          exact absurd t2 (by decide)
        rw [if_neg q, F3 (sf i) (by omega) (by omega), F2 (sf i) (by omega) ns (by omega) (by omega), A.rest i (by omega)]
        exact ⟨d1, c2, c3, by omega, c5, c6, c7⟩
    · intro i j hi hj
      have hi : i < S.ns + 1 := hi
      have hj : j < S.ns + 1 := hj
      by_cases q1 : i = S.ns <;> by_cases q2 : j = S.ns
      · intro _; omega
      · rw [if_pos q1, if_neg q2]
        intro e
        have := (r.sgc j (by omega)).2.2.2.1
        omega
      · rw [if_neg q1, if_pos q2]
        intro e
        have := (r.sgc i (by omega)).2.2.2.1
        omega
      · rw [if_neg q1, if_neg q2]
        exact r.sgi i j (by omega) (by omega)
    · intro i hi
      have hi : i < S.ns + 1 := hi
      by_cases q : i = S.ns
      · rw [if_pos q]
        have gn : g2 nx = g1 nx := A.gis nx (by omega) (by omega)
        have sg : ∀ f, (s_tell S m ot nu' z).2.sg f i = (if f = 0 then m else if f = 1 then ot else if f = 2 then nu' else if f = 3 then z else if f = 4 then N S.time else -1) := fun f => by
          show (if i = S.ns then _ else _) = _
          rw [if_pos q]
        rw [gn, v0, v1, v2, v3, v4, v5, sg 0, sg 1, sg 2, sg 3, sg 4, sg 5]
        exact ⟨rfl, rfl, hu, rfl, rfl, rfl⟩
      · have sg : ∀ f, (s_tell S m ot nu' z).2.sg f i = S.sg f i := fun f => by
          show (if i = S.ns then _ else _) = _
          rw [if_neg q]
        obtain ⟨c1, c2, c3, c4, c5, c6, c7⟩ := r.sgc i (by omega)
        rw [if_neg q, F1 (sf i) (by omega) (by omega) (by omega), sg 0, sg 1, sg 2, sg 3, sg 4, sg 5]
        exact r.sgv i (by omega)
    · exact ⟨by omega, by omega, by omega, fun c hc => by have := m4 c hc; omega⟩
theorem x_least (r : RX hk nx gi gr b ask L sl sf w S) (o : SOk S) (hx : nx + 1 < 1000000) (ns : Nat) (x y z : Int32) (hz : z = 0 ∨ z = 1) : ∃ hk' nx' ns' gi' gr' sl' sf', nx ≤ nx' ∧ nx' ≤ nx + 2 ∧ ns ≤ ns' ∧ ns' ≤ ns + 98 ∧ (∀ cN cS, nx' ≤ cN → ns' ≤ cS → f_X0_least cN cS hk nx ns gi gr 0 x y z = some ((s_least S x y z).1, hk', nx', ns', gi', gr')) ∧ RX hk' nx' gi' gr' b ask L sl' sf' w (s_least S x y z).2 := by
  have hn := o.ns
  have hl := r.wd.lay
  have zz : (if z = 0 then (0 : Int32) else 1) = z := by rcases hz with h | h <;> rw [h] <;> decide
  have no : ∀ cN cS : Nat, nx ≤ cN → ns ≤ cS → (some ((-1), hk, nx, ns, gi, gr) : Option (Int32 × HK × Nat × Nat × GI × GR)) = some (-1, hk, nx, ns, gi, gr) := fun _ _ _ _ => rfl
  unfold s_least
  rw [zz]
  cases h : asQ x (firsts S.B) with
  | none =>
    refine ⟨hk, nx, ns, gi, gr, sl, sf, by omega, by omega, by omega, by omega, fun cN cS _ _ => ?_, r⟩
    rw [f_X0_least, x_isFirst r.wd, Option.bind_some, h]
    rfl
  | some m =>
    have go : ∀ cN cS : Nat, f_X0_least cN cS hk nx ns gi gr 0 x y z = if 0 ≤ y ∧ y ≤ 99 then (if S.ns = 30 then some ((-1), hk, nx, ns, gi, gr) else told x (-1) y z cN cS hk nx ns gi gr) else some ((-1), hk, nx, ns, gi, gr) := by
      intro cN cS
      rw [f_X0_least, x_isFirst r.wd, Option.bind_some, h]
      simp only [Option.isSome_some, if_true]
      rw [if_neg (by decide), x_isIn, in1, Option.bind_some]
      by_cases h1 : 0 ≤ y ∧ y ≤ 99
      · rw [if_pos h1, if_pos h1, if_neg (by decide), hl.f25, Option.bind_some, g_is_of hl.k38, Option.bind_some, f_J2_size, Option.bind_some, r.sgn, show (30 : Int32) = N 30 from rfl, if_eq (by omega) (by omega)]
        rfl
      · rw [if_neg h1, if_neg h1, if_pos rfl]
    dsimp only
    by_cases h1 : 0 ≤ y ∧ y ≤ 99
    · by_cases h2 : S.ns < 30
      · rw [if_pos (show (0 ≤ y ∧ y ≤ 99) ∧ S.ns < 30 from ⟨h1, h2⟩)]
        obtain ⟨hk', nx', ns', gi', gr', sl', sf', b1, b2, b3, b4, b5, b6⟩ := x_told r hx ns x (-1) y y z hz (fun _ => rfl) h2
        refine ⟨hk', nx', ns', gi', gr', sl', sf', b1, b2, b3, b4, fun cN cS q1 q2 => ?_, b6⟩
        rw [go, if_pos h1, if_neg (by omega), b5 cN cS q1 q2]
        rfl
      · rw [if_neg (fun q => h2 q.2)]
        refine ⟨hk, nx, ns, gi, gr, sl, sf, by omega, by omega, by omega, by omega, fun cN cS _ _ => ?_, r⟩
        rw [go, if_pos h1, if_pos (by omega)]
    · rw [if_neg (fun q => h1 q.1)]
      refine ⟨hk, nx, ns, gi, gr, sl, sf, by omega, by omega, by omega, by omega, fun cN cS _ _ => ?_, r⟩
      rw [go, if_neg h1]
theorem x_more (r : RX hk nx gi gr b ask L sl sf w S) (o : SOk S) (hx : nx + 1 < 1000000) (ns : Nat) (x y z : Int32) (hz : z = 0 ∨ z = 1) : ∃ hk' nx' ns' gi' gr' sl' sf', nx ≤ nx' ∧ nx' ≤ nx + 2 ∧ ns ≤ ns' ∧ ns' ≤ ns + 98 ∧ (∀ cN cS, nx' ≤ cN → ns' ≤ cS → f_X0_more cN cS hk nx ns gi gr 0 x y z = some ((s_more S x y z).1, hk', nx', ns', gi', gr')) ∧ RX hk' nx' gi' gr' b ask L sl' sf' w (s_more S x y z).2 := by
  have hn := o.ns
  have hl := r.wd.lay
  have h5 := firsts_le r.wd.bk.ok
  have zz : (if z = 0 then (0 : Int32) else 1) = z := by rcases hz with h | h <;> rw [h] <;> decide
  unfold s_more
  rw [zz]
  cases h : asQ x (firsts S.B) with
  | none =>
    refine ⟨hk, nx, ns, gi, gr, sl, sf, by omega, by omega, by omega, by omega, fun cN cS _ _ => ?_, r⟩
    rw [f_X0_more, x_isFirst r.wd, Option.bind_some, h]
    rfl
  | some m =>
    cases g : asQ y (firsts S.B) with
    | none =>
      refine ⟨hk, nx, ns, gi, gr, sl, sf, by omega, by omega, by omega, by omega, fun cN cS _ _ => ?_, r⟩
      rw [f_X0_more, x_isFirst r.wd, Option.bind_some, h]
      simp only [Option.isSome_some, if_true]
      rw [if_neg (by decide), x_isFirst r.wd, Option.bind_some, g]
      rfl
    | some k =>
      obtain ⟨rfl, hm⟩ := asQ_some h
      obtain ⟨rfl, hk9⟩ := asQ_some g
      have go : ∀ cN cS : Nat, f_X0_more cN cS hk nx ns gi gr 0 (N m) (N k) z = if m = k then some ((-1), hk, nx, ns, gi, gr) else if S.ns = 30 then some ((-1), hk, nx, ns, gi, gr) else told (N m) (N k) (-1) z cN cS hk nx ns gi gr := by
        intro cN cS
        rw [f_X0_more, x_isFirst r.wd, Option.bind_some, h]
        simp only [Option.isSome_some, if_true]
        rw [if_neg (by decide), x_isFirst r.wd, Option.bind_some, g]
        simp only [Option.isSome_some, if_true]
        rw [if_neg (by decide), if_eq (by omega) (by omega), hl.f25, Option.bind_some, g_is_of hl.k38, Option.bind_some, f_J2_size, Option.bind_some, r.sgn, show (30 : Int32) = N 30 from rfl, if_eq (by omega) (by omega)]
        rfl
      dsimp only
      by_cases h1 : m = k
      · rw [if_neg (fun q => q.1 h1)]
        refine ⟨hk, nx, ns, gi, gr, sl, sf, by omega, by omega, by omega, by omega, fun cN cS _ _ => ?_, r⟩
        rw [go, if_pos h1]
      · by_cases h2 : S.ns < 30
        · rw [if_pos (show m ≠ k ∧ S.ns < 30 from ⟨h1, h2⟩)]
          obtain ⟨hk', nx', ns', gi', gr', sl', sf', b1, b2, b3, b4, b5, b6⟩ := x_told r hx ns (N m) (N k) (-1) 0 z hz (fun q => absurd q (N_nneg (by omega))) h2
          refine ⟨hk', nx', ns', gi', gr', sl', sf', b1, b2, b3, b4, fun cN cS q1 q2 => ?_, b6⟩
          rw [go, if_neg h1, if_neg (by omega), b5 cN cS q1 q2]
          rfl
        · rw [if_neg (fun q => h2 q.2)]
          refine ⟨hk, nx, ns, gi, gr, sl, sf, by omega, by omega, by omega, by omega, fun cN cS _ _ => ?_, r⟩
          rw [go, if_neg h1, if_pos (by omega)]
end X21

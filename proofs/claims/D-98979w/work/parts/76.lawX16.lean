set_option linter.unusedVariables false
set_option linter.unusedSimpArgs false
/-! THE PLAIN LAW: new cells in the component's world; the tape is fed; rates -/
/-- a call of a method that makes cells -/
theorem cc_of {T : Type} {f : Nat → Nat → Option T} {qn qs : T → Nat} {q : T} (h : ∀ c1 c2, qn q ≤ c1 → qs q ≤ c2 → f c1 c2 = some q) {nx ns cN cS : Nat} (h1 : nx ≤ qn q) (h2 : ns ≤ qs q) (h3 : qn q ≤ cN) (h4 : qs q ≤ cS) : g_cc f qn qs cN cS nx ns = some q := by
  unfold g_cc
  rw [h cN cS h3 h4, Option.bind_some, h _ _ (Nat.le_refl _) (Nat.le_refl _), Option.bind_some, if_pos ⟨rfl, rfl, h1, h2, h3, h4⟩]
theorem new_of {cN cS nx ns t n w : Nat} {hk : HK} {gi : GI} {gr : GR} (h1 : nx + 1 ≤ cN) (h2 : ns + w ≤ cS) (h3 : nx < 1000000) : g_new cN cS nx ns t n w hk gi gr = some (va_up hk nx (t, n), va_up gi nx (fun _ => 0), va_up gr nx (fun _ => none)) := by
  unfold g_new
  rw [if_pos ⟨h1, h2, h3⟩]
/-- the old cells stay -/
def Old (nx : Nat) (hk hk' : HK) (gi gi' : GI) (gr gr' : GR) : Prop := ∀ c, c < nx ∨ 1000000 ≤ c → hk' c = hk c ∧ gi' c = gi c ∧ gr' c = gr c
theorem Old.refl (nx : Nat) (hk : HK) (gi : GI) (gr : GR) : Old nx hk hk gi gi gr gr := fun _ _ => ⟨rfl, rfl, rfl⟩
theorem Old.trans {nx mx : Nat} (hn : nx ≤ mx) {h1 h2 h3 : HK} {i1 i2 i3 : GI} {r1 r2 r3 : GR} (a : Old nx h1 h2 i1 i2 r1 r2) (b : Old mx h2 h3 i2 i3 r2 r3) : Old nx h1 h3 i1 i3 r1 r3 := fun c hc => by
  obtain ⟨a1, a2, a3⟩ := a c hc
  obtain ⟨b1, b2, b3⟩ := b c (by omega)
  exact ⟨b1.trans a1, b2.trans a2, b3.trans a3⟩
theorem XPl.old {hk hk' : HK} {gr gr' : GR} {p : Nat} (h : ∀ c, p ≤ c → c ≤ p + 4 → hk' c = hk c) (hr : gr' p = gr p) (x : XPl hk gr p) : XPl hk' gr' p := by
  refine ⟨?_, ?_, ?_, ?_, ?_, ?_, ?_, ?_, ?_⟩
  · rw [h p (by omega) (by omega)]; exact x.k
  · rw [hr]; exact x.r0
  · rw [hr]; exact x.r1
  · rw [hr]; exact x.r2
  · rw [hr]; exact x.r3
  · rw [h _ (by omega) (by omega)]; exact x.k1
  · rw [h _ (by omega) (by omega)]; exact x.k2
  · rw [h _ (by omega) (by omega)]; exact x.k3
  · rw [h _ (by omega) (by omega)]; exact x.k4
theorem XLay.old {hk hk' : HK} {gr gr' : GR} (h : ∀ c, c < 264 → hk' c = hk c) (hr : ∀ c, c < 264 → gr' c = gr c) (x : XLay hk gr) : XLay hk' gr' := by
  have y : XLay hk gr' := x.gr (fun c hc _ _ => hr c (by unfold isSt at hc; omega)) (hr 38 (by omega)) (fun k _ => by rw [hr 0 (by omega)])
  refine ⟨?_, y.f0, ?_, y.f5, y.f6, y.f7, y.f8, ?_, y.f10, ?_, y.f13, ?_, y.f14, ?_, y.f15, ?_, y.f19, ?_, y.f20, ?_, y.f21, ?_, y.f25, ?_, y.f26, ?_, y.f27, ?_, ?_, y.f28, ?_, y.t47, y.f29, ?_⟩
  · rw [h 0 (by omega)]; exact y.k0
  · rw [h 1 (by omega)]; exact y.k1
  · intro p hp
    have := hp.low
    exact (y.pls p hp).old (fun c h1 h2 => h c (by omega)) rfl
  · rw [h 31 (by omega)]; exact y.k31
  · rw [h 32 (by omega)]; exact y.k32
  · rw [h 33 (by omega)]; exact y.k33
  · rw [h 34 (by omega)]; exact y.k34
  · rw [h 35 (by omega)]; exact y.k35
  · rw [h 36 (by omega)]; exact y.k36
  · rw [h 37 (by omega)]; exact y.k37
  · rw [h 38 (by omega)]; exact y.k38
  · rw [h 40 (by omega)]; exact y.k40
  · rw [h 41 (by omega)]; exact y.k41
  · intro i hi
    rw [h (42 + i) (by omega)]; exact y.t41 i hi
  · rw [h 47 (by omega)]; exact y.k47
  · rw [h 48 (by omega)]; exact y.k48
section X16
variable {hk hk' : HK} {nx nx' : Nat} {gi gi' : GI} {gr gr' : GR} {b ask : Nat} {L : List Nat} {sl : Nat} {sf w : Nat → Nat} {S : St}
theorem RX.grow (r : RX hk nx gi gr b ask L sl sf w S) (h : Old nx hk hk' gi gi' gr gr') (hn : nx ≤ nx') : RX hk' nx' gi' gr' b ask L sl sf w S := by
  obtain ⟨m1, m2, m3, m4⟩ := r.room
  have lo : ∀ c, c < nx → hk' c = hk c ∧ gi' c = gi c ∧ gr' c = gr c := fun c hc => h c (Or.inl hc)
  have ep : ∀ p, p ≤ 259 → pl gi' p = pl gi p := fun p hp => pl_same (fun c h1 h2 => (lo c (by omega)).2.1)
  have e0 := (lo 0 (by omega)).2.1
  refine RX.mk ?_ ?_ ?_ ?_ ?_ ?_ ?_ ?_ ?_ r.rm ?_ ?_ ?_ r.inj ?_ ?_ ?_ ?_ ?_ r.slx ?_ r.sgi ?_ ?_
  · refine ⟨r.wd.lay.old (fun c hc => (lo c (by omega)).1) (fun c hc => (lo c (by omega)).2.2), by rw [(lo 0 (by omega)).2.2]; exact r.wd.f4, r.wd.bk.keep (fun c hc => h c (m4 c hc)) (lo ask m3).1, r.wd.sep⟩
  · rw [ep 11 (by omega)]; exact r.now
  · rw [e0]; exact r.taped
  · rw [(lo 1 (by omega)).2.1]; exact r.tape
  · rw [e0]; exact r.fk
  · rw [e0]; exact r.fp
  · rw [e0]; exact r.time
  · rw [e0]; exact r.acts
  · rw [e0]; exact r.undone
  · rw [e0]; exact r.laid
  · rw [(lo 34 (by omega)).2.1]; exact r.lies
  · rw [(lo 31 (by omega)).2.2]; exact r.were
  · intro i hi
    rw [ep _ (by have := r.plw hi; omega)]; exact r.was i hi
  · intro c hc h1; rw [ep _ (by omega)]; exact r.box c hc h1
  · rw [(lo 48 (by omega)).2.1]; exact r.boxed
  · rw [(lo 38 (by omega)).2.1]; exact r.sgn
  · rw [(lo 38 (by omega)).2.2, (lo sl m2).1]; exact r.sge
  · intro i hi
    obtain ⟨a1, a2, a3, a4, a5, a6, a7⟩ := r.sgc i hi
    rw [(lo sl m2).2.2, (lo (sf i) a4).1, (lo (sf i) a4).2.2]
    exact ⟨a1, a2, a3, by omega, a5, a6, a7⟩
  · intro i hi
    obtain ⟨a1, a2, a3, a4, a5, a6, a7⟩ := r.sgc i hi
    rw [(lo (sf i) a4).2.1]; exact r.sgv i hi
  · exact ⟨by omega, by omega, by omega, fun c hc => by have := m4 c hc; omega⟩
theorem Old.new {t : Nat × Nat} {f : Nat → Int32} {g : Nat → Option Nat} (hx : nx < 1000000) : Old nx hk (va_up hk nx t) gi (va_up gi nx f) gr (va_up gr nx g) := fun c hc => ⟨up_ne _ _ _ (by omega), up_ne _ _ _ (by omega), up_ne _ _ _ (by omega)⟩
def tapeF (T : Nat → Int32) (n j : Nat) (f : Nat → Int32) : Nat → Int32 := fun k => if n ≤ k ∧ k < n + j then f (k - n) else T k
theorem tapeF_step (T : Nat → Int32) (n j : Nat) (f : Nat → Int32) : upd (tapeF T n j f) (n + j) (f j) = tapeF T n (j + 1) f := by
  funext k
  unfold upd tapeF
  by_cases h : k = n + j
  · rw [if_pos h, if_pos (by omega), h, show n + j - n = j by omega]
  · rw [if_neg h]
    by_cases h2 : n ≤ k ∧ k < n + j
    · rw [if_pos h2, if_pos (by omega)]
    · rw [if_neg h2, if_neg (by omega)]
theorem pi_at (g : GI) (c k : Nat) (x : Int32) : g_pi g c k x c = upd (g c) k x := by simp [g_pi, va_up]
theorem x_feed (r : RX hk nx gi gr b ask L sl sf w S) (o : SOk S) (hx : nx < 1000000) (ns : Nat) (a c d e f : Int32) : ∃ hk' nx' ns' gi' gr', nx ≤ nx' ∧ nx' ≤ nx + 1 ∧ ns ≤ ns' ∧ ns' ≤ ns + 5 ∧ (∀ cN cS, nx' ≤ cN → ns' ≤ cS → f_X0_feed cN cS hk nx ns gi gr 0 a c d e f = some ((s_feed S a c d e f).1, hk', nx', ns', gi', gr')) ∧ RX hk' nx' gi' gr' b ask L sl sf w (s_feed S a c d e f).2 := by
  have ht := o.taped
  have hl := r.wd.lay
  have rm := r.room
  unfold s_feed
  have e20 : gi 0 1 + 20 = N (S.taped + 20) := by rw [r.taped, show (20 : Int32) = N 20 from rfl, N_add]
  by_cases h : S.taped + 20 ≤ 1600
  · rw [if_pos h]
    have st5 : ∀ (gj : GI) (i : Nat) (x : Int32), i < 5 → g_st gj nx (va_up hk nx (0, 5) nx).2 (N i) x = some (g_pi gj nx i x) := fun gj i x hi => by rw [up_same]; exact N_st hi (by decide)
    generalize hg5 : g_pi (g_pi (g_pi (g_pi (g_pi (va_up gi nx (fun _ => 0)) nx 0 a) nx 1 c) nx 2 d) nx 3 e) nx 4 f = g5
    have o5 : ∀ q, q ≠ nx → g5 q = gi q := fun q hq => by rw [← hg5, pi_off hq, pi_off hq, pi_off hq, pi_off hq, pi_off hq, up_ne _ _ _ hq]
    have v5 : ∀ i, i < 5 → g5 nx i = five a c d e f (4 * i) := by
      intro i hi
      rw [← hg5]
      match i, hi with
      | 0, _ => simp [pi_get, five]
      | 1, _ => simp [pi_get, five]
      | 2, _ => simp [pi_get, five]
      | 3, _ => simp [pi_get, five]
      | 4, _ => simp [pi_get, five]
    have r5 : RX (va_up hk nx (0, 5)) (nx + 1) g5 (va_up gr nx (fun _ => none)) b ask L sl sf w S := r.grow (fun q hq => ⟨up_ne _ _ _ (by omega), o5 q (by omega), up_ne _ _ _ (by omega)⟩) (by omega)
    have l5 := r5.wd.lay
    -- what is written so far
    generalize hbt : (fun t => byteOf (five a c d e f t) (t % 4)) = bt
    have sw : ∀ j, j < 20 → g_pi (g_pi (g_pi (va_up g5 1 (tapeF (g5 1) S.taped j bt)) 0 1 (N (S.taped + j))) 1 (S.taped + j) (bt j)) 0 1 (N (S.taped + (j + 1))) = g_pi (va_up g5 1 (tapeF (g5 1) S.taped (j + 1) bt)) 0 1 (N (S.taped + (j + 1))) := by
      intro j hj
      funext q
      by_cases q0 : q = 0
      · subst q0
        funext k
        simp only [pi_get]
        by_cases k1 : k = 1
        · rw [if_pos ⟨trivial, k1⟩, if_pos ⟨trivial, k1⟩]
        · rw [if_neg (fun z => k1 z.2), if_neg (fun z => absurd z.1 (by decide)), if_neg (fun z => k1 z.2), if_neg (fun z => k1 z.2), up_ne _ _ _ (by decide), up_ne _ _ _ (by decide)]
      · rw [pi_off q0, pi_off q0]
        by_cases q1 : q = 1
        · subst q1
          rw [pi_at, pi_off (by decide), up_same, up_same, tapeF_step]
        · rw [pi_off q1, pi_off q0, up_ne _ _ _ q1, up_ne _ _ _ q1]
    have inner : ∀ (cN cS i : Nat), i < 5 → g_loop g_K (fun (s : Int32 × HK × Nat × Nat × GI × GR) => f_X0_feed_l72 cN cS 0 nx 5 (N i) (five a c d e f (4 * i)) s.1 s.2.1 s.2.2.1 s.2.2.2.1 s.2.2.2.2.1 s.2.2.2.2.2) (24, va_up hk nx (0, 5), nx + 1, ns + 5, g_pi (va_up g5 1 (tapeF (g5 1) S.taped (4 * i) bt)) 0 1 (N (S.taped + 4 * i)), va_up gr nx (fun _ => none)) = some (va_up hk nx (0, 5), nx + 1, ns + 5, g_pi (va_up g5 1 (tapeF (g5 1) S.taped (4 * i + 4) bt)) 0 1 (N (S.taped + (4 * i + 4))), va_up gr nx (fun _ => none)) := by
      intro cN cS i hi
      refine loop_T (fun t => (if t < 4 then N (24 - 8 * t) else -8, va_up hk nx (0, 5), nx + 1, ns + 5, g_pi (va_up g5 1 (tapeF (g5 1) S.taped (4 * i + t) bt)) 0 1 (N (S.taped + (4 * i + t))), va_up gr nx (fun _ => none))) 4 rfl ?_ ?_ (by decide)
      · intro t ht4
        dsimp only
        have e8 : N (24 - 8 * t) + (-8) = (if t + 1 < 4 then N (24 - 8 * (t + 1)) else -8) := by
          match t, ht4 with
          | 0, _ => rfl
          | 1, _ => rfl
          | 2, _ => rfl
          | 3, _ => rfl
        have eb : (five a c d e f (4 * i) >>> (N (24 - 8 * t) &&& 31)).toInt8.toInt32 = bt (4 * i + t) := by
          rw [← hbt]
          unfold byteOf
          have : five a c d e f (4 * i + t) = five a c d e f (4 * i) := by
            match i, hi with
            | 0, _ => simp [five, show t < 4 by omega]
            | 1, _ => simp [five, show ¬ 4 * 1 + t < 4 by omega, show 4 * 1 + t < 8 by omega]
            | 2, _ => simp [five, show ¬ 4 * 2 + t < 4 by omega, show ¬ 4 * 2 + t < 8 by omega, show 4 * 2 + t < 12 by omega]
            | 3, _ => simp [five, show ¬ 4 * 3 + t < 4 by omega, show ¬ 4 * 3 + t < 8 by omega, show ¬ 4 * 3 + t < 12 by omega, show 4 * 3 + t < 16 by omega]
            | 4, _ => simp [five, show ¬ 4 * 4 + t < 4 by omega, show ¬ 4 * 4 + t < 8 by omega, show ¬ 4 * 4 + t < 12 by omega, show ¬ 4 * 4 + t < 16 by omega]
          dsimp only
          rw [this, show (4 * i + t) % 4 = t by omega]
        have e01 : g_pi (va_up g5 1 (tapeF (g5 1) S.taped (4 * i + t) bt)) 0 1 (N (S.taped + (4 * i + t))) 0 1 = N (S.taped + (4 * i + t)) := by simp [pi_get]
        rw [if_pos ht4, f_X0_feed_l72, if_neg (N_nneg (by omega)), l5.f0, Option.bind_some, g_is_of' l5.k1, Option.bind_some, l5.k1, e01, N_st (by omega) (by decide), Option.bind_some, nar_byte, eb, Option.bind_some, e8]
        have e02 : g_pi (g_pi (va_up g5 1 (tapeF (g5 1) S.taped (4 * i + t) bt)) 0 1 (N (S.taped + (4 * i + t)))) 1 (S.taped + (4 * i + t)) (bt (4 * i + t)) 0 1 + 1 = N (S.taped + (4 * i + t + 1)) := by
          rw [pi_off (by decide), e01, show (1 : Int32) = N 1 from rfl, N_add]; rfl
        rw [e02, sw _ (by omega)]
        rfl
      · dsimp only
        rw [f_X0_feed_l72, if_pos (by decide)]
    have outer : ∀ cN cS : Nat, g_loop g_K (fun (s : Int32 × HK × Nat × Nat × GI × GR) => f_X0_feed_l54 cN cS 0 nx 5 s.1 s.2.1 s.2.2.1 s.2.2.2.1 s.2.2.2.2.1 s.2.2.2.2.2) (0, va_up hk nx (0, 5), nx + 1, ns + 5, g5, va_up gr nx (fun _ => none)) = some (va_up hk nx (0, 5), nx + 1, ns + 5, g_pi (va_up g5 1 (tapeF (g5 1) S.taped 20 bt)) 0 1 (N (S.taped + 20)), va_up gr nx (fun _ => none)) := by
      intro cN cS
      refine loop_T (fun i => (N i, va_up hk nx (0, 5), nx + 1, ns + 5, g_pi (va_up g5 1 (tapeF (g5 1) S.taped (4 * i) bt)) 0 1 (N (S.taped + 4 * i)), va_up gr nx (fun _ => none))) 5 ?_ ?_ ?_ (by decide)
      · have ez : tapeF (g5 1) S.taped (4 * 0) bt = g5 1 := by
          funext k; unfold tapeF; rw [if_neg (by omega)]
        have ez2 : g_pi g5 0 1 (N (S.taped + 4 * 0)) = g5 := by
          funext q k
          rw [pi_get]
          by_cases z : q = 0 ∧ k = 1
          · rw [if_pos z, z.1, z.2, r5.taped]; rfl
          · rw [if_neg z]
        rw [ez, up_id, ez2]; rfl
      · intro i hi
        dsimp only
        have e5 : g_pi (va_up g5 1 (tapeF (g5 1) S.taped (4 * i) bt)) 0 1 (N (S.taped + 4 * i)) nx i = five a c d e f (4 * i) := by
          rw [pi_off (by omega), up_ne _ _ _ (by omega)]; exact v5 i hi
        have ih := inner cN cS i hi
        rw [f_X0_feed_l54, show (5 : Int32) = N 5 from rfl, if_le (by omega) (by omega), if_neg (by omega), g_is_of (show (va_up hk nx (0, 5) nx).1 = 0 by rw [up_same]), Option.bind_some, up_same, N_ld hi (by decide), Option.bind_some, e5]
        show (g_loop g_K (fun (s : Int32 × HK × Nat × Nat × GI × GR) => f_X0_feed_l72 cN cS 0 nx 5 (N i) (five a c d e f (4 * i)) s.1 s.2.1 s.2.2.1 s.2.2.2.1 s.2.2.2.2.1 s.2.2.2.2.2) _).bind _ = _
        rw [ih, Option.bind_some, f_X0_feed_x72, show (1 : Int32) = N 1 from rfl, N_add]
        rfl
      · dsimp only
        rw [f_X0_feed_l54, if_pos (by decide)]
    refine ⟨va_up hk nx (0, 5), nx + 1, ns + 5, g_pi (va_up g5 1 (tapeF (g5 1) S.taped 20 bt)) 0 1 (N (S.taped + 20)), va_up gr nx (fun _ => none), by omega, by omega, by omega, by omega, fun cN cS hN hS => ?_, ?_⟩
    · rw [f_X0_feed, e20, show (1600 : Int32) = N 1600 from rfl, if_le (by omega) (by omega), if_pos h, new_of hN hS hx, Option.bind_some]
      dsimp only
      have s0 : ∀ (gj : GI) (x : Int32), g_st gj nx (va_up hk nx (0, 5) nx).2 0 x = some (g_pi gj nx 0 x) := fun gj x => st5 gj 0 x (by decide)
      have s1 : ∀ (gj : GI) (x : Int32), g_st gj nx (va_up hk nx (0, 5) nx).2 1 x = some (g_pi gj nx 1 x) := fun gj x => st5 gj 1 x (by decide)
      have s2 : ∀ (gj : GI) (x : Int32), g_st gj nx (va_up hk nx (0, 5) nx).2 2 x = some (g_pi gj nx 2 x) := fun gj x => st5 gj 2 x (by decide)
      have s3 : ∀ (gj : GI) (x : Int32), g_st gj nx (va_up hk nx (0, 5) nx).2 3 x = some (g_pi gj nx 3 x) := fun gj x => st5 gj 3 x (by decide)
      have s4 : ∀ (gj : GI) (x : Int32), g_st gj nx (va_up hk nx (0, 5) nx).2 4 x = some (g_pi gj nx 4 x) := fun gj x => st5 gj 4 x (by decide)
      rw [s0, Option.bind_some, s1, Option.bind_some, s2, Option.bind_some, s3, Option.bind_some, s4, Option.bind_some, hg5, up_same]
      show (g_loop g_K (fun (s : Int32 × HK × Nat × Nat × GI × GR) => f_X0_feed_l54 cN cS 0 nx 5 s.1 s.2.1 s.2.2.1 s.2.2.2.1 s.2.2.2.2.1 s.2.2.2.2.2) (0, va_up hk nx (0, 5), nx + 1, ns + 5, g5, va_up gr nx (fun _ => none))).bind _ = _
      rw [outer, Option.bind_some, f_X0_feed_x54]
      simp only [pi_get, and_self, if_true]
    · have ec : ∀ q, q ≠ 0 → q ≠ 1 → g_pi (va_up g5 1 (tapeF (g5 1) S.taped 20 bt)) 0 1 (N (S.taped + 20)) q = g5 q := fun q h0 h1 => by rw [pi_off h0, up_ne _ _ _ h1]
      have e0 : ∀ k, k ≠ 1 → g_pi (va_up g5 1 (tapeF (g5 1) S.taped 20 bt)) 0 1 (N (S.taped + 20)) 0 k = g5 0 k := fun k hk => by rw [pi_get, if_neg (by omega), up_ne _ _ _ (by decide)]
      have ep : ∀ p, 2 ≤ p → pl (g_pi (va_up g5 1 (tapeF (g5 1) S.taped 20 bt)) 0 1 (N (S.taped + 20))) p = pl g5 p := fun p hp => pl_same (fun q h1 h2 => ec q (by omega) (by omega))
      refine r5.gen _ rfl rfl rfl (fun q h1 h2 => ec q (by have := not_st h1; omega) (by have := not_st h1; omega)) (ec 38 (by decide) (by decide)) (fun _ _ => rfl) ?_ ?_ ?_ ?_ ?_ ?_ ?_ ?_ r5.rm ?_ ?_ r5.were r5.inj ?_ ?_ ?_
      · rw [ep 11 (by decide)]; exact r5.now
      · rw [pi_get, if_pos ⟨rfl, rfl⟩]; rfl
      · intro k hk
        have hk : k < S.taped + 20 := hk
        rw [pi_off (by decide), up_same]
        show tapeF (g5 1) S.taped 20 bt k = (if S.taped ≤ k ∧ k < S.taped + 20 then byteOf (five a c d e f (k - S.taped)) ((k - S.taped) % 4) else S.tape k)
        unfold tapeF
        by_cases q : S.taped ≤ k ∧ k < S.taped + 20
        · rw [if_pos q, if_pos q, ← hbt]
        · rw [if_neg q, if_neg q]; exact r5.tape k (by omega)
      · rw [e0 2 (by decide)]; exact r5.fk
      · rw [e0 3 (by decide)]; exact r5.fp
      · rw [e0 9 (by decide)]; exact r5.time
      · rw [e0 11 (by decide)]; exact r5.acts
      · rw [e0 12 (by decide)]; exact r5.undone
      · rw [e0 18 (by decide)]; exact r5.laid
      · rw [ec 34 (by decide) (by decide)]; exact r5.lies
      · intro i hi; rw [ep _ (by omega)]; exact r5.was i hi
      · intro q hq h1; rw [ep _ (by omega)]; exact r5.box q hq h1
      · rw [ec 48 (by decide) (by decide)]; exact r5.boxed
  · rw [if_neg h]
    refine ⟨hk, nx, ns, gi, gr, by omega, by omega, by omega, by omega, fun cN cS hN hS => ?_, r⟩
    rw [f_X0_feed, e20, show (1600 : Int32) = N 1600 from rfl, if_le (by omega) (by omega), if_neg h]
end X16

set_option linter.unusedVariables false
set_option linter.unusedSimpArgs false
/-! THE PLAIN LAW: the component: sights untold, boxes, the tape's end, rows, weeks ahead -/
section X10
variable {hk : HK} {nx : Nat} {gi gi' : GI} {gr : GR} {b ask : Nat} {L : List Nat} {sl : Nat} {sf w : Nat → Nat} {S : St}
theorem x_later (r : RX hk nx gi gr b ask L sl sf w S) (o : SOk S) (x : Int32) : ∃ gi', f_X0_later hk gi gr 0 x = some ((s_later S x).1, gi') ∧ RX hk nx gi' gr b ask L sl sf w (s_later S x).2 := by
  have ht := o.time
  rw [f_X0_later, r.time]
  unfold s_later
  by_cases h0 : x < 0
  · rw [if_pos h0, if_neg (fun q => Int32.not_le.mpr h0 q.1)]
    exact ⟨gi, rfl, r⟩
  · rw [if_neg h0]
    by_cases h1 : 1000 < x
    · rw [if_pos h1, if_neg (fun q => Int32.not_le.mpr h1 q.2.1)]
      exact ⟨gi, rfl, r⟩
    · rw [if_neg h1]
      have h0 := Int32.not_lt.mp h0
      have h1 := Int32.not_lt.mp h1
      by_cases h2 : N S.time + x ≤ 100000
      · rw [if_pos h2, if_pos ⟨h0, h1, h2⟩, Option.bind_some]
        have e : N S.time + x = N (S.time + x.toNatClampNeg) := by
          obtain ⟨m, hm⟩ : ∃ m, asQ x 1001 = some m := by
            cases hq : asQ x 1001 with
            | some m => exact ⟨m, rfl⟩
            | none =>
              rcases asQ_none hq with q | q | q
              · exact absurd q (Int32.not_lt.mpr h0)
              · exact absurd (Int32.le_trans q h1) (by decide)
              · omega
          obtain ⟨rfl, hlt⟩ := asQ_some hm
          rw [N_add, N_toNat (by omega)]
        refine ⟨g_pi gi 0 9 (N S.time + x), by simp [pi_get], ?_⟩
        exact r.own (fun c hc => pi_off hc) (tp := S.taped) (t := S.time + x.toNatClampNeg) (l := S.laid) (a := S.fk) (d := S.fp) (Nat.le_refl _) (Nat.le_refl _) (by simp [pi_get, r.taped]) (by simp [pi_get, r.fk]) (by simp [pi_get, r.fp]) (by rw [pi_get, if_pos ⟨rfl, rfl⟩, e]) (by simp [pi_get]) (by simp [pi_get]) (by simp [pi_get, r.laid])
      · rw [if_neg h2, if_neg (fun q => h2 q.2.2)]
        exact ⟨gi, rfl, r⟩
theorem x_end (r : RX hk nx gi gr b ask L sl sf w S) (o : SOk S) (x : Int32) : ∃ gi', f_X0_end hk gi gr 0 x = some ((s_end S x).1, gi') ∧ RX hk nx gi' gr b ask L sl sf w (s_end S x).2 := by
  have ht := o.taped
  rw [f_X0_end, r.taped]
  unfold s_end
  cases h : asQ x (S.taped + 1) with
  | none =>
    refine ⟨gi, ?_, r⟩
    rcases asQ_none h with q | q | q
    · rw [if_pos q]
    · by_cases h0 : x < 0
      · rw [if_pos h0]
      · rw [if_neg h0, if_neg]
        intro c
        have := Int32.le_trans q c
        rw [N_le (by omega) (by omega)] at this
        omega
    · omega
  | some n =>
    obtain ⟨rfl, hn⟩ := asQ_some h
    rw [show (0 : Int32) = N 0 from rfl, if_lt (by omega) (by omega), if_neg (by omega), if_le (by omega) (by omega), if_pos (by omega), Option.bind_some]
    refine ⟨_, rfl, ?_⟩
    exact r.own (fun c hc => pi_off hc) (tp := n) (t := S.time) (l := S.laid) (a := S.fk) (d := S.fp) (by omega) (Nat.le_refl _) (by simp [pi_get]) (by simp [pi_get, r.fk]) (by simp [pi_get, r.fp]) (by simp [pi_get, r.time]) (by simp [pi_get]) (by simp [pi_get]) (by simp [pi_get, r.laid])
theorem x_sgget (r : RX hk nx gi gr b ask L sl sf w S) {i : Nat} (hi : i < S.ns) (o : SOk S) : f_J2_get hk gi gr 38 (N i) = some (sf i) := by
  have hn := o.ns
  obtain ⟨e1, e2, e3, e4, e5⟩ := r.sge
  exact x_get (L := [38, sl]) (n := S.ns) (f := sf) ⟨by simp, r.wd.lay.k38, r.sgn, by omega, sl, by simp, e1, e2, e3, by omega, fun k hk => (r.sgc k hk).1⟩ hi
theorem x_untell (r : RX hk nx gi gr b ask L sl sf w S) (o : SOk S) (x : Int32) : ∃ gi', f_X0_untell hk gi gr 0 x = some ((s_untell S x).1, gi') ∧ RX hk nx gi' gr b ask L sl sf w (s_untell S x).2 := by
  have hn := o.ns
  have hl := r.wd.lay
  rw [f_X0_untell, hl.f25, Option.bind_some, g_is_of hl.k38, Option.bind_some, f_J2_size, Option.bind_some, x_isIn, r.sgn, isIn_asQ x (by omega), Option.bind_some]
  unfold s_untell
  cases h : asQ x S.ns with
  | none => exact ⟨gi, rfl, r⟩
  | some i =>
    obtain ⟨rfl, hi⟩ := asQ_some h
    obtain ⟨c1, c2, c3, c4, c5, c6, c7⟩ := r.sgc i hi
    obtain ⟨v0, v1, v2, v3, v4, v5⟩ := r.sgv i hi
    simp only [Option.isSome_some, if_true]
    rw [if_neg (by decide), Option.bind_some, g_is_of hl.k38, Option.bind_some, x_sgget r hi o, Option.bind_some, g_is_of c2, Option.bind_some, f_X12_untell, v5]
    by_cases h1 : S.sg 5 i < 0
    · rw [if_pos h1, if_pos h1, c7, Option.bind_some, g_is_of hl.k0, Option.bind_some, Option.bind_some, Option.bind_some, r.time]
      dsimp only
      rw [if_neg (by decide)]
      refine ⟨_, rfl, ?_⟩
      have ec : ∀ c, c ≠ sf i → g_pi gi (sf i) 5 (N S.time) c = gi c := fun c hc => pi_off hc
      have ep : ∀ p, p ≤ 259 → pl (g_pi gi (sf i) 5 (N S.time)) p = pl gi p := fun p hp => pl_same (fun c h1 h2 => ec c (by omega))
      refine RX.mk ⟨hl, r.wd.f4, r.wd.bk.over (fun c hc => ec c (fun e => c5 (e ▸ hc))), r.wd.sep⟩ ?_ ?_ ?_ ?_ ?_ ?_ ?_ ?_ r.rm ?_ ?_ r.were r.inj ?_ ?_ ?_ ?_ r.sge r.slx r.sgc r.sgi ?_ r.room
      · rw [ep 11 (by omega)]; exact r.now
      · rw [ec 0 (by omega)]; exact r.taped
      · rw [ec 1 (by omega)]; exact r.tape
      · rw [ec 0 (by omega)]; exact r.fk
      · rw [ec 0 (by omega)]; exact r.fp
      · rw [ec 0 (by omega)]; exact r.time
      · rw [ec 0 (by omega)]; exact r.acts
      · rw [ec 0 (by omega)]; exact r.undone
      · rw [ec 0 (by omega)]; exact r.laid
      · rw [ec 34 (by omega)]; exact r.lies
      · intro k hk
        rw [ep _ (by have := r.plw hk; omega)]; exact r.was k hk
      · intro b hb h1; rw [ep _ (by omega)]; exact r.box b hb h1
      · rw [ec 48 (by omega)]; exact r.boxed
      · rw [ec 38 (by omega)]; exact r.sgn
      · intro k hk
        show _ ∧ _ ∧ _ ∧ _ ∧ _ ∧ _ = (if 5 = 5 ∧ k = i then N S.time else S.sg 5 k)
        by_cases q : k = i
        · subst q
          rw [if_pos ⟨rfl, rfl⟩]
          have e : ∀ j, j ≠ 5 → g_pi gi (sf k) 5 (N S.time) (sf k) j = gi (sf k) j := fun j hj => by rw [pi_get, if_neg (fun q => hj q.2)]
          rw [e 0 (by decide), e 1 (by decide), e 2 (by decide), e 3 (by decide), e 4 (by decide)]
          exact ⟨v0, v1, v2, v3, v4, by rw [pi_get, if_pos ⟨rfl, rfl⟩]⟩
        · have hne : sf k ≠ sf i := fun e => q (r.sgi k i hk hi e)
          obtain ⟨u0, u1, u2, u3, u4, u5⟩ := r.sgv k hk
          rw [ec (sf k) hne, if_neg (fun e => q e.2)]
          exact ⟨u0, u1, u2, u3, u4, u5⟩
    · rw [if_neg h1, if_neg h1, Option.bind_some]
      exact ⟨gi, rfl, r⟩
theorem x_isBox (x : Int32) : f_X0_isBox hk gi gr x = some (if (asQ x 3).isSome then 1 else 0) := by
  rw [f_X0_isBox, x_isIn, show (2 : Int32) = N 3 - 1 from rfl, isIn_asQ x (by decide), Option.bind_some]
  by_cases q : (asQ x 3).isSome <;> simp [q, g_zb]
theorem x_image (r : RX hk nx gi gr b ask L sl sf w S) (x : Int32) : ∃ gi', f_X0_image hk gi gr 0 x = some ((s_image S x).1, gi') ∧ RX hk nx gi' gr b ask L sl sf w (s_image S x).2 := by
  have hl := r.wd.lay
  have ha := r.askst
  have x11 := hl.pls 11 pl11
  rw [f_X0_image, x_isBox, Option.bind_some]
  unfold s_image
  cases h : asQ x 3 with
  | none => exact ⟨gi, rfl, r⟩
  | some c =>
    obtain ⟨rfl, hc⟩ := asQ_some h
    simp only [Option.isSome_some, if_true]
    have hp := isPl_w (show 40 + c < 43 by omega)
    rw [show 49 + 5 * (40 + c) = 249 + 5 * c by omega] at hp
    obtain ⟨g1, a1, a2, a3⟩ := x_copy (gi := gi) (hl.pls _ hp) x11 (Or.inr (by omega))
    rw [if_neg (by decide), hl.f28, Option.bind_some, g_is_of' hl.k47, Option.bind_some, hl.k47, N_ldr hc (by decide), hl.t47 c hc, Option.bind_some, hl.f5, Option.bind_some, g_is_of (hl.pls _ hp).k, Option.bind_some, a1, Option.bind_some, hl.f29, Option.bind_some, g_is_of' hl.k48, Option.bind_some, hl.k48]
    show ∃ gi', ((g_st g1 48 3 (N c) 1).bind _ : Option (Int32 × GI)) = _ ∧ _
    rw [N_st hc (by decide), Option.bind_some, Option.bind_some, g_is_of x11.k, Option.bind_some]
    have ec : ∀ d, ¬ (249 + 5 * c ≤ d ∧ d ≤ 249 + 5 * c + 4) → d ≠ 48 → g_pi g1 48 c 1 d = gi d := fun d h1 h2 => by rw [pi_off h2, a3 d h1]
    have ep : ∀ p, (p = 11 ∨ 49 ≤ p) → (p + 4 < 249 + 5 * c ∨ 249 + 5 * c + 4 < p) → pl (g_pi g1 48 c 1) p = pl gi p := fun p h1 h2 => pl_same (fun d h3 h4 => ec d (by omega) (by omega))
    have eb : pl (g_pi g1 48 c 1) (249 + 5 * c) = S.P := by
      rw [pl_same (gi := g1) (fun d h3 h4 => pi_off (by omega)), a2]; exact r.now
    have e4 : g_pi g1 48 c 1 11 4 = S.P 40 := by rw [← r.now, ← ep 11 (by omega) (by omega)]; rfl
    rw [e4]
    refine ⟨_, rfl, ?_⟩
    refine r.gen _ rfl rfl rfl (fun d h1 h2 => ec d (by have := not_st h1; omega) (by have := not_st h1; omega)) (ec 38 (by omega) (by decide)) (fun _ _ => rfl) ?_ ?_ ?_ ?_ ?_ ?_ ?_ ?_ r.rm ?_ ?_ r.were r.inj ?_ ?_ ?_
    · rw [ep 11 (by omega) (by omega)]; exact r.now
    · rw [ec 0 (by omega) (by decide)]; exact r.taped
    · rw [ec 1 (by omega) (by decide)]; exact r.tape
    · rw [ec 0 (by omega) (by decide)]; exact r.fk
    · rw [ec 0 (by omega) (by decide)]; exact r.fp
    · rw [ec 0 (by omega) (by decide)]; exact r.time
    · rw [ec 0 (by omega) (by decide)]; exact r.acts
    · rw [ec 0 (by omega) (by decide)]; exact r.undone
    · rw [ec 0 (by omega) (by decide)]; exact r.laid
    · rw [ec 34 (by omega) (by decide)]; exact r.lies
    · intro k hk
      rw [ep _ (by omega) (by have := r.plw hk; omega)]; exact r.was k hk
    · intro d hd h1
      show _ = (if d = c then S.P else S.box d)
      by_cases q : d = c
      · rw [if_pos q, q, eb]
      · rw [if_neg q, ep _ (by omega) (by omega)]
        refine r.box d hd ?_
        have h1 : (if d = c then true else S.boxed d) = true := h1
        rw [if_neg q] at h1
        exact h1
    · intro d hd
      show _ = if (if d = c then true else S.boxed d) = true then 1 else 0
      by_cases q : d = c
      · subst q
        rw [if_pos rfl, if_pos rfl, pi_get, if_pos ⟨rfl, rfl⟩]
      · rw [if_neg q, pi_get, if_neg (fun e => q e.2), a3 48 (by omega)]; exact r.boxed d hd
theorem x_back (r : RX hk nx gi gr b ask L sl sf w S) (o : SOk S) (x : Int32) : ∃ gi', f_X0_back hk gi gr 0 x = some ((s_back S x).1, gi') ∧ RX hk nx gi' gr b ask L sl sf w (s_back S x).2 := by
  have hl := r.wd.lay
  have x11 := hl.pls 11 pl11
  rw [f_X0_back, x_isBox, Option.bind_some]
  unfold s_back
  cases h : asQ x 3 with
  | none => exact ⟨gi, rfl, r⟩
  | some c =>
    obtain ⟨rfl, hc⟩ := asQ_some h
    simp only [Option.isSome_some, if_true]
    have hp := isPl_w (show 40 + c < 43 by omega)
    rw [show 49 + 5 * (40 + c) = 249 + 5 * c by omega] at hp
    rw [if_neg (by decide), hl.f29, Option.bind_some, g_is_of' hl.k48, Option.bind_some, hl.k48, N_ld hc (by decide), Option.bind_some, r.boxed c hc]
    by_cases hb : S.boxed c = true
    · rw [if_pos hb, if_neg (by decide), if_pos hb]
      obtain ⟨g1, a1, a2, a3⟩ := x_copy (gi := gi) x11 (hl.pls _ hp) (Or.inl (by omega))
      rw [hl.f5, Option.bind_some, hl.f28, Option.bind_some, g_is_of' hl.k47, Option.bind_some, hl.k47, N_ldr hc (by decide), hl.t47 c hc, Option.bind_some, g_is_of x11.k, Option.bind_some, a1, Option.bind_some, Option.bind_some, Option.bind_some, Option.bind_some, g_is_of x11.k, Option.bind_some]
      have r1 := r.row (gi' := g1) (fun c h1 h2 => a3 c (by omega)) (a2.trans (r.box c hc hb))
      have ec : ∀ d, d ≠ 0 → g_pi (g_pi g1 0 11 0) 0 12 0 d = g1 d := fun d hd => by rw [pi_off hd, pi_off hd]
      have ep : ∀ p, 1 ≤ p → pl (g_pi (g_pi g1 0 11 0) 0 12 0) p = pl g1 p := fun p h1 => pl_same (fun d h3 h4 => ec d (by omega))
      have e0 : ∀ k, k ≠ 11 → k ≠ 12 → g_pi (g_pi g1 0 11 0) 0 12 0 0 k = g1 0 k := fun k h1 h2 => by rw [pi_get, if_neg (by omega), pi_get, if_neg (by omega)]
      have e4 : g_pi (g_pi g1 0 11 0) 0 12 0 11 4 = S.box c 40 := by
        rw [ec 11 (by decide), ← (a2.trans (r.box c hc hb))]; rfl
      refine ⟨g_pi (g_pi g1 0 11 0) 0 12 0, by rw [← e4], ?_⟩
      refine r1.gen _ rfl rfl rfl (fun d h1 h2 => ec d (by have := not_st h1; omega)) (ec 38 (by decide)) (fun _ _ => rfl) ?_ ?_ ?_ ?_ ?_ ?_ ?_ ?_ ?_ ?_ ?_ r1.were r1.inj ?_ ?_ ?_
      · rw [ep 11 (by decide)]; exact r1.now
      · rw [e0 1 (by decide) (by decide)]; exact r1.taped
      · rw [ec 1 (by decide)]; exact r1.tape
      · rw [e0 2 (by decide) (by decide)]; exact r1.fk
      · rw [e0 3 (by decide) (by decide)]; exact r1.fp
      · rw [e0 9 (by decide) (by decide)]; exact r1.time
      · simp [pi_get]; rfl
      · simp [pi_get]; rfl
      · show 0 + 0 ≤ 40; omega
      · rw [e0 18 (by decide) (by decide)]; exact r1.laid
      · rw [ec 34 (by decide)]; exact r1.lies
      · intro i hi
        have hi : i < 0 + 0 := hi
        omega
      · intro d hd h1; rw [ep _ (by omega)]; exact r1.box d hd h1
      · rw [ec 48 (by decide)]; exact r1.boxed
    · rw [if_neg hb, if_pos rfl, if_neg hb]
      exact ⟨gi, rfl, r⟩
theorem x_putBest (r : RX hk nx gi gr b ask L sl sf w S) {v : Row} (hv : rowIs gi 33 v) (x : Int32) : ∃ gi', f_X0_putBest hk gi gr 0 x = some (if x = 0 then gi 0 17 else gi 0 16, gi') ∧ RX hk nx gi' gr b ask L sl sf w ((S.w_laid S.B.nk).w_lies (Row.at v)) := by
  have hl := r.wd.lay
  have h3 := r.wd.bk.ok.nk
  have e1 : g_cpi hk gi 33 0 34 0 (N S.B.nk) = some (va_up gi 34 (va_cpy (gi 33) (gi 34) 0 0 S.B.nk)) := cpi_of (na := 3) (nb := 6) (by rw [hl.k33]) (by rw [hl.k34]) h3 (by omega) (by omega)
  have w1 : XWd hk (va_up gi 34 (va_cpy (gi 33) (gi 34) 0 0 S.B.nk)) gr b ask L S.B := r.wd.over (fun c h1 _ => up_ne _ _ _ (by have := not_st h1; omega))
  rw [f_X0_putBest, hl.f14, Option.bind_some, hl.f15, Option.bind_some, x_kindsN r.wd, Option.bind_some, g_is_of' hl.k33, Option.bind_some, g_is_of' hl.k34, Option.bind_some, e1, Option.bind_some, x_kindsN w1, Option.bind_some, Option.bind_some]
  have e0 : ∀ k, k ≠ 18 → g_pi (va_up gi 34 (va_cpy (gi 33) (gi 34) 0 0 S.B.nk)) 0 18 (N S.B.nk) 0 k = gi 0 k := fun k hk => by rw [pi_get, if_neg (by omega), up_ne _ _ _ (by decide)]
  refine ⟨g_pi (va_up gi 34 (va_cpy (gi 33) (gi 34) 0 0 S.B.nk)) 0 18 (N S.B.nk), ?_, r.lie (fun c h1 h2 => by rw [pi_off h1, up_ne _ _ _ h2]) e0 (by simp [pi_get]) ?_⟩
  · rw [e0 17 (by decide), e0 16 (by decide)]
    split <;> rfl
  · intro i hi
    rw [pi_off (by decide), up_same, va_cpy, if_pos (by omega), show 0 + (i - 0) = i by omega]
    exact hv.at i (by omega)
theorem x_best0 (r : RX hk nx gi gr b ask L sl sf w S) (o : SOk S) {m : Nat} (hm : m < S.B.nm) (y aim : Int32) : ∃ gi' gi'', f_X0_layBest hk (g_pi gi 0 18 0) gr 0 11 (N m) aim = some gi' ∧ f_X0_putBest hk gi' gr 0 y = some (if y = 0 then val S.B S.P m aim (bestRow S.B S.P m aim) else N (Row.sum (bestRow S.B S.P m aim)), gi'') ∧ RX hk nx gi'' gr b ask L sl sf w ((S.w_laid S.B.nk).w_lies (Row.at (bestRow S.B S.P m aim))) := by
  have r0 := r.laid0
  have p0 : pl (g_pi gi 0 18 0) 11 = S.P := r0.now
  obtain ⟨g1, v, a1, a2, a3, a4, a5, a6⟩ := x_layBest r0.wd pl11 (by decide) (by rw [p0]; exact o.row.ok) hm aim
  rw [p0] at a2 a5
  have hb : bestRow S.B S.P m aim = v := bestRow_eq a2
  have r1 := a6.xfr.rx r0
  obtain ⟨g2, b1, b2⟩ := x_putBest r1 a3 y
  refine ⟨g1, g2, a1, ?_, ?_⟩
  · rw [b1, a4, a5, hb]; rfl
  · rw [hb]; exact b2
theorem x_best (r : RX hk nx gi gr b ask L sl sf w S) (o : SOk S) (x y : Int32) : ∃ gi', f_X0_best hk gi gr 0 x y = some ((s_best S x y 0).1, gi') ∧ RX hk nx gi' gr b ask L sl sf w (s_best S x y 0).2 := by
  have r0 := r.laid0
  rw [f_X0_best, Option.bind_some, x_isMan r0.wd, Option.bind_some]
  unfold s_best
  show ∃ gi', (if (if (asQ x S.B.nm).isSome = true then (1 : Int32) else 0) = 0 then _ else _) = _ ∧ _
  cases h : asQ x S.B.nm with
  | none => exact ⟨_, rfl, r0⟩
  | some m =>
    obtain ⟨rfl, hm⟩ := asQ_some h
    simp only [Option.isSome_some, if_true]
    rw [if_neg (by decide), x_isIn, in01, Option.bind_some]
    by_cases hy : y = 0 ∨ y = 1
    · rw [if_pos hy, if_neg (by decide), if_pos hy, r.wd.lay.f5, Option.bind_some]
      obtain ⟨g1, g2, a1, a2, a3⟩ := x_best0 r o hm y 0
      rw [a1, Option.bind_some, a2, Option.bind_some]
      exact ⟨g2, rfl, a3⟩
    · rw [if_neg hy, if_pos rfl, if_neg hy]
      exact ⟨_, rfl, r0⟩
theorem x_good (r : RX hk nx gi gr b ask L sl sf w S) (o : SOk S) (x y : Int32) : ∃ gi', f_X0_good hk gi gr 0 x y = some ((s_best S x y 1).1, gi') ∧ RX hk nx gi' gr b ask L sl sf w (s_best S x y 1).2 := by
  have r0 := r.laid0
  rw [f_X0_good, Option.bind_some, x_isMan r0.wd, Option.bind_some]
  unfold s_best
  show ∃ gi', (if (if (asQ x S.B.nm).isSome = true then (1 : Int32) else 0) = 0 then _ else _) = _ ∧ _
  cases h : asQ x S.B.nm with
  | none => exact ⟨_, rfl, r0⟩
  | some m =>
    obtain ⟨rfl, hm⟩ := asQ_some h
    simp only [Option.isSome_some, if_true]
    rw [if_neg (by decide), x_isIn, in01, Option.bind_some]
    by_cases hy : y = 0 ∨ y = 1
    · rw [if_pos hy, if_neg (by decide), if_pos hy, r.wd.lay.f5, Option.bind_some]
      obtain ⟨g1, g2, a1, a2, a3⟩ := x_best0 r o hm y 1
      rw [a1, Option.bind_some, a2, Option.bind_some]
      exact ⟨g2, rfl, a3⟩
    · rw [if_neg hy, if_pos rfl, if_neg hy]
      exact ⟨_, rfl, r0⟩
/-- a frame: the plots that are tried alone -/
theorem XFr.of (r : RX hk nx gi gr b ask L sl sf w S) (h : ∀ c, c ≠ ask → ¬ (16 ≤ c ∧ c ≤ 30) → gi' c = gi c) : XFr ask gi gi' :=
  ⟨fun k _ => by rw [h 0 (by have := r.askst; omega) (by omega)], fun c h1 h2 h3 _ _ _ => h c h2 h3⟩
theorem x_leaks (r : RX hk nx gi gr b ask L sl sf w S) (o : SOk S) (x : Int32) : ∃ gi', f_X0_leaks hk gi gr 0 x = some (q_leaks S x, gi') ∧ RX hk nx gi' gr b ask L sl sf w S := by
  have h5 := r.wd.bk.ok.nm
  have hl := r.wd.lay
  have x11 := hl.pls 11 pl11
  have x21 := hl.pls 21 pl21
  have ha := r.askst
  rw [f_X0_leaks, x_isMan r.wd, Option.bind_some]
  unfold q_leaks
  cases h : asQ x S.B.nm with
  | none => exact ⟨gi, rfl, r⟩
  | some m =>
    obtain ⟨rfl, hm⟩ := asQ_some h
    simp only [Option.isSome_some, if_true]
    obtain ⟨g1, v, a1, a2, a3, a4, a5, a6⟩ := x_layBest r.wd pl11 (by decide) (r.over0 o) hm 0
    rw [r.now] at a2
    have hb := bestRow_eq a2
    have hw : Rw S.B.nk v := In_Rw a2.1
    have r1 := a6.xfr.rx r
    obtain ⟨g2, b1, b2, b3⟩ := x_copy (gi := g1) x21 x11 (Or.inr (by omega))
    have r2 := (XFr.of r1 (gi' := g2) (fun c _ h2 => b3 c (by omega))).rx r1
    obtain ⟨g3, c1, c2, c3⟩ := x_poursRow r2.wd.bk x21 (r.wd.sp pl21) hm (a := 33) (n := 3) (o := 0) hl.k33 (by omega) (by omega) (by omega)
    have r3 := (XFr.of r2 (gi' := g3) (fun c _ h2 => c3 c (by omega))).rx r2
    have e3 : pl g3 21 = lyR S.B m (Row.at v) 1 S.P := by
      rw [c2, b2, r1.now]
      apply layR_same
      intro k hk3
      rw [Nat.zero_add, b3 33 (by omega)]
      exact a3.at k hk3
    have o3 : ∀ m k, m < 5 → S.B.nk ≤ k → k < 3 → pl g3 21 (20 + 3 * m + k) = 0 := by rw [e3]; exact lyR_over0 hw o.row.ok.over0
    obtain ⟨g4, d1, d2⟩ := x_growths r3.wd.bk x21 (r.wd.sp pl21) o3
    have r4 := (XFr.of r3 (gi' := g4) (fun c h1 _ => d2 c h1)).rx r3
    have e4 : pl g4 21 = pl g3 21 := pl_same (fun c h1 h2 => d2 c (by omega))
    obtain ⟨g5, f1, f2⟩ := x_growth r4.wd.bk x21 (r.wd.sp pl21) (by rw [e4]; exact o3) (show m < 5 by omega)
    have r5 := (XFr.of r4 (gi' := g5) (fun c h1 _ => f2 c h1)).rx r4
    obtain ⟨g6, i1, i2⟩ := x_growths r5.wd.bk x11 (r.wd.sp pl11) (by rw [r5.now]; exact o.row.ok.over0)
    have r6 := (XFr.of r5 (gi' := g6) (fun c h1 _ => i2 c h1)).rx r5
    obtain ⟨g7, j1, j2⟩ := x_growth r6.wd.bk x11 (r.wd.sp pl11) (by rw [r6.now]; exact o.row.ok.over0) (show m < 5 by omega)
    have r7 := (XFr.of r6 (gi' := g7) (fun c h1 _ => j2 c h1)).rx r6
    rw [e3] at d1
    rw [e4, e3] at f1
    rw [r5.now] at i1
    rw [r6.now] at j1
    have c1 : f_X3_poursRow hk g2 gr 21 b (N m) 33 0 = some (21, g3) := c1
    simp only [hl.f5, hl.f7, hl.f14, r.wd.f4, Option.bind_some, g_is_of x11.k, g_is_of x21.k, a1, b1, c1, d1, f1, i1, j1, hb]
    refine ⟨g7, ?_, r7⟩
    rw [if_neg (by decide)]
    congr 2
    generalize growths S.B (lyR S.B m (Row.at v) 1 S.P) S.B.nm = A
    generalize growth S.B (lyR S.B m (Row.at v) 1 S.P) m = B'
    generalize growths S.B S.P S.B.nm = C
    generalize growth S.B S.P m = D
    grind
end X10

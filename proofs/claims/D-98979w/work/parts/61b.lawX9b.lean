set_option linter.unusedVariables false
set_option linter.unusedSimpArgs false
/-! THE PLAIN LAW: what is done to the component, go on -/
section X9b
variable {hk : HK} {nx : Nat} {gi gi' : GI} {gr : GR} {b ask : Nat} {L : List Nat} {sl : Nat} {sf w : Nat → Nat} {S : St}
theorem x_spend (r : RX hk nx gi gr b ask L sl sf w S) (o : SOk S) (x y z : Int32) : ∃ gi' gr' w', f_X0_spend hk gi gr 0 x y z = some ((s_spend S x y z).1, gi', gr') ∧ RX hk nx gi' gr' b ask L sl sf w' (s_spend S x y z).2 := by
  have h5 := r.wd.bk.ok.nm
  have h3 := r.wd.bk.ok.nk
  have xp := r.wd.lay.pls 11 pl11
  rw [f_X0_spend, x_isMan r.wd, Option.bind_some]
  unfold s_spend
  cases h : asQ x S.B.nm with
  | none => exact ⟨gi, gr, w, rfl, r⟩
  | some m =>
    obtain ⟨rfl, hm⟩ := asQ_some h
    simp only [Option.isSome_some, if_true]
    rw [if_neg (by decide), x_isKind r.wd, Option.bind_some]
    cases g : asQ y S.B.nk with
    | none => exact ⟨gi, gr, w, rfl, r⟩
    | some k =>
      obtain ⟨rfl, hk3⟩ := asQ_some g
      simp only [Option.isSome_some, if_true]
      rw [if_neg (by decide), x_isIn, in1, Option.bind_some]
      by_cases z1 : 1 ≤ z ∧ z ≤ 8
      · rw [if_pos z1, if_neg (by decide), r.wd.lay.f5, Option.bind_some, g_is_of xp.k, Option.bind_some, x_purse xp (by omega) (by omega), Option.bind_some, r.now]
        by_cases z2 : z ≤ S.P (3 * m + k)
        · rw [if_neg (Int32.not_lt.mpr z2), Option.bind_some, x_left r.wd pl11 (r.over0 o) (by omega), Option.bind_some, r.now]
          by_cases z3 : z ≤ N (leftN S.B S.P m)
          · rw [if_pos z3, if_pos ⟨z1, z2, z3⟩]
            obtain ⟨g1, gr1, w1, a1, a2⟩ := x_act r o
            have l1 := a2.wd.lay
            have xp1 := l1.pls 11 pl11
            have bk1 := a2.wd.bk
            have b4 := a2.wd.f4
            have p1 := a2.now
            have sp1 := a2.wd.sp pl11
            rw [act_B] at bk1
            rw [act_P] at p1
            obtain ⟨g2, c1, c2, c3⟩ := x_spends bk1 xp1 sp1 hm (show k < 3 by omega) z
            rw [p1] at c2
            have r2 := a2.row (gi' := g2) (fun c h1 h2 => c3 c (by omega)) c2
            rw [a1, Option.bind_some]
            dsimp only
            rw [l1.f5, Option.bind_some, b4, Option.bind_some, g_is_of xp1.k, Option.bind_some, c1, Option.bind_some]
            have bw := r2.wd
            have e : ((s_act S).w_P (ly S.B m k z 1 (add (add S.P (3 * m + k) (-z)) (35 + m) z))).B = S.B := act_B S
            rw [x_over (nx := nx) bw, e, asQ_of hm (by omega), asQ_of hk3 (by omega), at2, Option.bind_some, c2]
            exact ⟨g2, gr1, w1, rfl, r2⟩
          · rw [if_neg z3, if_neg (fun q => z3 q.2.2)]
            exact ⟨gi, gr, w, rfl, r⟩
        · rw [if_pos (Int32.not_le.mp z2), if_neg (fun q => z2 q.2.1)]
          exact ⟨gi, gr, w, rfl, r⟩
      · rw [if_neg z1, if_pos rfl, if_neg (fun q => z1 q.1)]
        exact ⟨gi, gr, w, rfl, r⟩
theorem x_areTwo (wd : XWd hk gi gr b ask L S.B) (x y : Int32) : f_X0_areTwo hk gi gr 0 x y = some (match asQ x S.B.nm, asQ y S.B.nm with | some m, some n => if m = n then 0 else 1 | _, _ => 0) := by
  have h5 := wd.bk.ok.nm
  rw [f_X0_areTwo, x_isMan wd, x_isMan wd, Option.bind_some]
  cases h : asQ x S.B.nm with
  | none => rfl
  | some m =>
    obtain ⟨rfl, hm⟩ := asQ_some h
    cases h' : asQ y S.B.nm with
    | none => rfl
    | some n =>
      obtain ⟨rfl, hn⟩ := asQ_some h'
      simp only [Option.isSome_some, if_true, Option.bind_some]
      rw [if_neg (by decide), if_neg (by decide), if_eq (by omega) (by omega)]
      split <;> rfl
theorem x_give (r : RX hk nx gi gr b ask L sl sf w S) (o : SOk S) (x v y z : Int32) : ∃ gi' gr' w', f_X0_give hk gi gr 0 x v y z = some ((s_give S x v y z).1, gi', gr') ∧ RX hk nx gi' gr' b ask L sl sf w' (s_give S x v y z).2 := by
  have h5 := r.wd.bk.ok.nm
  have h3 := r.wd.bk.ok.nk
  have xp := r.wd.lay.pls 11 pl11
  rw [f_X0_give, x_areTwo r.wd, Option.bind_some]
  unfold s_give
  cases h : asQ x S.B.nm with
  | none => exact ⟨gi, gr, w, rfl, r⟩
  | some m =>
    obtain ⟨rfl, hm⟩ := asQ_some h
    cases h' : asQ v S.B.nm with
    | none => exact ⟨gi, gr, w, rfl, r⟩
    | some n =>
      obtain ⟨rfl, hn⟩ := asQ_some h'
      dsimp only
      by_cases hmn : m = n
      · simp only [if_pos hmn]
        rw [if_pos trivial]
        cases g : asQ y S.B.nk with
        | none => exact ⟨gi, gr, w, rfl, r⟩
        | some k =>
          dsimp only
          rw [if_neg (fun q => q.1 hmn)]
          exact ⟨gi, gr, w, rfl, r⟩
      · simp only [if_neg hmn]
        rw [if_neg (by decide), x_isKind r.wd, Option.bind_some]
        cases g : asQ y S.B.nk with
        | none => exact ⟨gi, gr, w, rfl, r⟩
        | some k =>
          obtain ⟨rfl, hk3⟩ := asQ_some g
          simp only [Option.isSome_some, if_true]
          rw [if_neg (by decide), x_isIn, in1, Option.bind_some]
          obtain ⟨u, u1, u2⟩ := o.row.ok.purse (3 * m + k) (by omega)
          by_cases z1 : 1 ≤ z ∧ z ≤ S.P (3 * m + k)
          · have z9 : z ≤ 99 := Int32.le_trans z1.2 (by rw [u2]; exact (N_le (by omega) (by decide)).mpr u1)
            rw [if_pos (show 1 ≤ z ∧ z ≤ 99 from ⟨z1.1, z9⟩), if_neg (show ¬ (1 : Int32) = 0 by decide), r.wd.lay.f5, Option.bind_some, g_is_of xp.k, Option.bind_some, x_purse xp (by omega) (by omega), Option.bind_some, r.now, if_pos z1.2, if_pos (show m ≠ n ∧ 1 ≤ z ∧ z ≤ S.P (3 * m + k) from ⟨hmn, z1⟩)]
            obtain ⟨g1, gr1, w1, a1, a2⟩ := x_act r o
            have l1 := a2.wd.lay
            have xp1 := l1.pls 11 pl11
            have p1 := a2.now
            rw [act_P] at p1
            have e1 : g1 12 (3 * m + k) = S.P (3 * m + k) := by rw [← p1, pl_at_purse (by omega)]
            have pp : pl (g_pi g1 12 (3 * m + k) (S.P (3 * m + k) - z)) 11 = add S.P (3 * m + k) (-z) := by
              rw [pl_purse g1 11 (3 * m + k) (by omega), p1]
              unfold add
              rw [Int32.sub_eq_add_neg]
            obtain ⟨g2, c1, c2, c3⟩ := x_gets (gi := g_pi g1 12 (3 * m + k) (S.P (3 * m + k) - z)) xp1 (show n < 5 by omega) (show k < 3 by omega) z
            rw [pp] at c2
            have r2 := a2.row (gi' := g2) (fun c h1 h2 => by rw [c3 c (by omega), pi_off (by omega)]) c2
            rw [a1, Option.bind_some]
            dsimp only
            rw [l1.f5, Option.bind_some, g_is_of xp1.k, Option.bind_some, xp1.r0, Option.bind_some, g_is_of' xp1.k1, Option.bind_some, xp1.k1, show (3 : Int32) = N 3 from rfl, N_mul, N_add, N_ld (by omega) (by decide), Option.bind_some, N_st (by omega) (by decide), Option.bind_some, Option.bind_some, g_is_of xp1.k, Option.bind_some]
            show ∃ gi' gr' w', ((f_X3_gets hk (g_pi g1 12 (3 * m + k) (g1 12 (3 * m + k) - z)) gr1 11 (N n) (N k) z).bind _ : Option (Int32 × GI × GR)) = _ ∧ _
            rw [e1, c1, Option.bind_some, Option.bind_some, g_is_of xp1.k, Option.bind_some, x_purse xp1 (by omega) (by omega), Option.bind_some, c2]
            exact ⟨g2, gr1, w1, rfl, r2⟩
          · rw [if_neg (show ¬ (m ≠ n ∧ 1 ≤ z ∧ z ≤ S.P (3 * m + k)) from fun q => z1 q.2)]
            by_cases z2 : 1 ≤ z ∧ z ≤ 99
            · rw [if_pos z2, if_neg (by decide), r.wd.lay.f5, Option.bind_some, g_is_of xp.k, Option.bind_some, x_purse xp (by omega) (by omega), Option.bind_some, r.now, if_neg (fun q => z1 ⟨z2.1, q⟩)]
              exact ⟨gi, gr, w, rfl, r⟩
            · rw [if_neg z2, if_pos rfl]
              exact ⟨gi, gr, w, rfl, r⟩
theorem x_week (r : RX hk nx gi gr b ask L sl sf w S) (o : SOk S) : ∃ gi' gr' w', f_X0_week hk gi gr 0 = some ((s_week S).1, gi', gr') ∧ RX hk nx gi' gr' b ask L sl sf w' (s_week S).2 := by
  have xp := r.wd.lay.pls 11 pl11
  have e40 : gi 11 4 = S.P 40 := by rw [← r.now]; rfl
  rw [f_X0_week, r.wd.lay.f5, Option.bind_some, g_is_of xp.k, Option.bind_some, e40]
  unfold s_week
  by_cases h : S.P 40 = 999
  · rw [if_pos h, if_pos h]
    exact ⟨gi, gr, w, rfl, r⟩
  · rw [if_neg h, if_neg h]
    obtain ⟨g1, gr1, w1, a1, a2⟩ := x_act r o
    have l1 := a2.wd.lay
    have xp1 := l1.pls 11 pl11
    have bk1 := a2.wd.bk
    have b4 := a2.wd.f4
    have p1 := a2.now
    have sp1 := a2.wd.sp pl11
    rw [act_B] at bk1
    rw [act_P] at p1
    obtain ⟨g2, c1, c2, c3⟩ := x_goWeek bk1 xp1 sp1 (by rw [p1]; exact o.row.ok.pu') (by rw [p1]; exact o.row.ok.over0)
    rw [p1] at c1 c2
    have r2 := a2.row (gi' := g2) (fun c h1 h2 => c3 c h1 (by omega)) c2
    rw [a1, Option.bind_some]
    dsimp only
    rw [l1.f5, Option.bind_some, b4, Option.bind_some, g_is_of xp1.k, Option.bind_some, c1, Option.bind_some]
    exact ⟨g2, gr1, w1, rfl, r2⟩
theorem x_exchange (lay : XLay hk gr) {p : Nat} (hp : isPl p) (h11 : p ≠ 11) (h16 : p ≠ 16) : ∃ gi', f_X0_exchange hk gi gr 0 p = some gi' ∧ pl gi' 11 = pl gi p ∧ pl gi' p = pl gi 11 ∧ ∀ c, ¬ (11 ≤ c ∧ c ≤ 20) → ¬ (p ≤ c ∧ c ≤ p + 4) → gi' c = gi c := by
  have x11 := lay.pls 11 pl11
  have x16 := lay.pls 16 pl16
  have xp := lay.pls p hp
  have d1 := hp.apart pl11 h11
  have d2 := hp.apart pl16 h16
  obtain ⟨g1, a1, a2, a3⟩ := x_copy (gi := gi) x16 xp (by omega)
  obtain ⟨g2, b1, b2, b3⟩ := x_copy (gi := g1) xp x11 d1
  obtain ⟨g3, c1, c2, c3⟩ := x_copy (gi := g2) x11 x16 (by omega)
  rw [f_X0_exchange, lay.f6, Option.bind_some, g_is_of x16.k, Option.bind_some, a1, Option.bind_some, lay.f5, Option.bind_some, g_is_of xp.k, Option.bind_some, b1, Option.bind_some, Option.bind_some, Option.bind_some, g_is_of x11.k, Option.bind_some, c1, Option.bind_some]
  refine ⟨g3, rfl, ?_, ?_, ?_⟩
  · rw [c2, pl_same (gi := g1) (fun c h1 h2 => b3 c (by omega)), a2]
  · rw [pl_same (gi := g2) (fun c h1 h2 => c3 c (by omega)), b2, pl_same (gi := gi) (fun c h1 h2 => a3 c (by omega))]
  · intro c h1 h2
    rw [c3 c (by omega), b3 c h2, a3 c (by omega)]
/-- now and a row of those that were change places -/
theorem RX.swap (r : RX hk nx gi gr b ask L sl sf w S) {i a u : Nat} (hi : i < S.acts + S.undone) (hau : a + u = S.acts + S.undone) (hc : ∀ c, c ≠ 0 → ¬ (11 ≤ c ∧ c ≤ 20) → ¬ (49 + 5 * w i ≤ c ∧ c ≤ 49 + 5 * w i + 4) → gi' c = gi c) (h0 : ∀ k, k ≠ 11 → k ≠ 12 → gi' 0 k = gi 0 k) (e11 : gi' 0 11 = N a) (e12 : gi' 0 12 = N u) (p1 : pl gi' 11 = pl gi (49 + 5 * w i)) (p2 : pl gi' (49 + 5 * w i) = pl gi 11) : RX hk nx gi' gr b ask L sl sf w (((s_swap S i).w_acts a).w_undone u) := by
  have hr := r.rm
  have wi := r.plw hi
  have ep : ∀ p, 49 ≤ p → (p + 4 < 49 + 5 * w i ∨ 49 + 5 * w i + 4 < p) → pl gi' p = pl gi p := fun p h1 h2 => pl_same (fun c h3 h4 => hc c (by omega) (by omega) (by omega))
  refine r.gen _ rfl rfl rfl (fun c h1 h2 => hc c (by have := not_st h1; omega) (by have := not_st h1; omega) (by have := not_st h1; omega)) (hc 38 (by decide) (by omega) (by omega)) (fun _ _ => rfl) ?_ ?_ ?_ ?_ ?_ ?_ e11 e12 ?_ ?_ ?_ r.were r.inj ?_ ?_ ?_
  · rw [p1]; exact r.was i hi
  · rw [h0 1 (by decide) (by decide)]; exact r.taped
  · rw [hc 1 (by decide) (by omega) (by omega)]; exact r.tape
  · rw [h0 2 (by decide) (by decide)]; exact r.fk
  · rw [h0 3 (by decide) (by decide)]; exact r.fp
  · rw [h0 9 (by decide) (by decide)]; exact r.time
  · show a + u ≤ 40; omega
  · rw [h0 18 (by decide) (by decide)]; exact r.laid
  · rw [hc 34 (by decide) (by omega) (by omega)]; exact r.lies
  · intro j hj
    have hj : j < a + u := hj
    show _ = (if j = i then S.P else S.was j)
    by_cases q : j = i
    · rw [if_pos q, q, p2]; exact r.now
    · rw [if_neg q]
      have : w j ≠ w i := fun e => q (r.inj j i (by omega) (by omega) e)
      rw [ep _ (by omega) (by omega)]; exact r.was j (by omega)
  · intro b hb h1; rw [ep _ (by omega) (by omega)]; exact r.box b hb h1
  · rw [hc 48 (by decide) (by omega) (by omega)]; exact r.boxed
theorem x_undo (r : RX hk nx gi gr b ask L sl sf w S) (o : SOk S) : ∃ gi', f_X0_undo hk gi gr 0 = some ((s_undo S).1, gi') ∧ RX hk nx gi' gr b ask L sl sf w (s_undo S).2 := by
  have hr := o.room
  have hl := r.wd.lay
  rw [f_X0_undo, r.acts, show (0 : Int32) = N 0 from rfl, if_eq (by omega) (by omega)]
  unfold s_undo
  by_cases h : S.acts = 0
  · rw [if_pos h, if_pos h]
    exact ⟨gi, rfl, r⟩
  · rw [if_neg h, if_neg h, Option.bind_some, Option.bind_some, show (1 : Int32) = N 1 from rfl, N_sub (by omega)]
    have e51 : g_pi gi 0 11 (N (S.acts - 1)) 0 12 = N S.undone := by rw [pi_get, if_neg (by omega), r.undone]
    have wi := r.were (S.acts - 1) (by omega)
    have hw := wi.2
    rw [e51, N_add, hl.f10, Option.bind_some, g_is_of' hl.k31, Option.bind_some, hl.k31]
    have e11 : g_pi (g_pi gi 0 11 (N (S.acts - 1))) 0 12 (N (S.undone + 1)) 0 11 = N (S.acts - 1) := by simp [pi_get]
    rw [e11, N_ldr (by omega) (by decide), wi.1, Option.bind_some]
    obtain ⟨g', a1, a2, a3, a4⟩ := x_exchange (gi := g_pi (g_pi gi 0 11 (N (S.acts - 1))) 0 12 (N (S.undone + 1))) hl (isPl_w (show w (S.acts - 1) < 43 by omega)) (by omega) (by omega)
    rw [a1, Option.bind_some]
    refine ⟨g', rfl, ?_⟩
    have ep : ∀ p, 1 ≤ p → pl (g_pi (g_pi gi 0 11 (N (S.acts - 1))) 0 12 (N (S.undone + 1))) p = pl gi p := fun p hp => pl_same (fun c h1 h2 => by rw [pi_off (by omega), pi_off (by omega)])
    refine r.swap (i := S.acts - 1) (by omega) (by omega) (fun c h1 h2 h3 => ?_) (fun k h1 h2 => ?_) ?_ ?_ ?_ ?_
    · rw [a4 c h2 h3, pi_off h1, pi_off h1]
    · rw [a4 0 (by omega) (by omega), pi_get, if_neg (by omega), pi_get, if_neg (by omega)]
    · rw [a4 0 (by omega) (by omega), e11]
    · rw [a4 0 (by omega) (by omega), pi_get, if_pos ⟨rfl, rfl⟩]
    · rw [a2, ep _ (by omega)]
    · rw [a3, ep _ (by omega)]
theorem x_redo (r : RX hk nx gi gr b ask L sl sf w S) (o : SOk S) : ∃ gi', f_X0_redo hk gi gr 0 = some ((s_redo S).1, gi') ∧ RX hk nx gi' gr b ask L sl sf w (s_redo S).2 := by
  have hr := o.room
  have hl := r.wd.lay
  rw [f_X0_redo, r.undone, show (0 : Int32) = N 0 from rfl, if_eq (by omega) (by omega)]
  unfold s_redo
  by_cases h : S.undone = 0
  · rw [if_pos h, if_pos h]
    exact ⟨gi, rfl, r⟩
  · have wi := r.were S.acts (by omega)
    have hw := wi.2
    obtain ⟨g', a1, a2, a3, a4⟩ := x_exchange (gi := gi) hl (isPl_w (show w S.acts < 43 by omega)) (by omega) (by omega)
    have e0 : g' 0 = gi 0 := a4 0 (by omega) (by omega)
    rw [if_neg h, if_neg h, hl.f10, Option.bind_some, g_is_of' hl.k31, Option.bind_some, hl.k31, r.acts, N_ldr (by omega) (by decide), wi.1, Option.bind_some, a1, Option.bind_some, Option.bind_some, Option.bind_some, e0, r.acts, show (1 : Int32) = N 1 from rfl, N_add]
    have e12 : g_pi g' 0 11 (N (S.acts + 1)) 0 12 = N S.undone := by rw [pi_get, if_neg (by omega), e0, r.undone]
    rw [e12, N_sub (by omega)]
    refine ⟨_, rfl, ?_⟩
    have ep : ∀ p, 1 ≤ p → pl (g_pi (g_pi g' 0 11 (N (S.acts + 1))) 0 12 (N (S.undone - 1))) p = pl g' p := fun p hp => pl_same (fun c h1 h2 => by rw [pi_off (by omega), pi_off (by omega)])
    refine r.swap (i := S.acts) (by omega) (by omega) (fun c h1 h2 h3 => ?_) (fun k h1 h2 => ?_) ?_ ?_ ?_ ?_
    · rw [pi_off h1, pi_off h1, a4 c h2 h3]
    · rw [pi_get, if_neg (by omega), pi_get, if_neg (by omega), e0]
    · simp [pi_get]
    · simp [pi_get]
    · rw [ep _ (by omega), a2]
    · rw [ep _ (by omega), a3]
end X9b

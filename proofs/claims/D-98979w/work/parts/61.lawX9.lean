set_option linter.unusedVariables false
set_option linter.unusedSimpArgs false
/-! THE PLAIN LAW: what is done to the component -/
section X9
variable {hk : HK} {nx : Nat} {gi gi' : GI} {gr : GR} {b ask : Nat} {L : List Nat} {sl : Nat} {sf w : Nat → Nat} {S : St}
/-- the plots of now, told anew -/
theorem RX.row (r : RX hk nx gi gr b ask L sl sf w S) (hc : ∀ c, c ≠ ask → ¬ (11 ≤ c ∧ c ≤ 20) → gi' c = gi c) {P : Nat → Int32} (hP : pl gi' 11 = P) : RX hk nx gi' gr b ask L sl sf w (S.w_P P) := by
  have ha := r.askst
  have c : ∀ c, c = 0 ∨ c = 1 ∨ c = 34 ∨ c = 38 ∨ c = 48 → gi' c = gi c := fun c h => hc c (by omega) (by omega)
  have e : ∀ p, 49 ≤ p ∧ p ≤ 259 → pl gi' p = pl gi p := fun p hp => pl_same (fun c h1 h2 => hc c (by omega) (by omega))
  refine r.gen (S.w_P P) rfl rfl rfl (fun c h1 h2 => hc c h2 (by have := not_st h1; omega)) (c 38 (by omega)) (fun _ _ => rfl) hP ?_ ?_ ?_ ?_ ?_ ?_ ?_ r.rm ?_ ?_ r.were r.inj ?_ ?_ ?_
  · rw [c 0 (by omega)]; exact r.taped
  · rw [c 1 (by omega)]; exact r.tape
  · rw [c 0 (by omega)]; exact r.fk
  · rw [c 0 (by omega)]; exact r.fp
  · rw [c 0 (by omega)]; exact r.time
  · rw [c 0 (by omega)]; exact r.acts
  · rw [c 0 (by omega)]; exact r.undone
  · rw [c 0 (by omega)]; exact r.laid
  · rw [c 34 (by omega)]; exact r.lies
  · intro i hi
    rw [e _ (by have := r.plw hi; omega)]; exact r.was i hi
  · intro b hb h1; rw [e _ (by omega)]; exact r.box b hb h1
  · rw [c 48 (by omega)]; exact r.boxed
/-- numbers of its own, told anew -/
theorem RX.own (r : RX hk nx gi gr b ask L sl sf w S) (hc : ∀ c, c ≠ 0 → gi' c = gi c) {tp t l : Nat} {a d : Int32} (htp : tp ≤ S.taped) (hl : l ≤ S.laid) (e1 : gi' 0 1 = N tp) (e2 : gi' 0 2 = a) (e3 : gi' 0 3 = d) (e9 : gi' 0 9 = N t) (e11 : gi' 0 11 = gi 0 11) (e12 : gi' 0 12 = gi 0 12) (e18 : gi' 0 18 = N l) : RX hk nx gi' gr b ask L sl sf w (((((S.w_taped tp).w_fk a).w_fp d).w_laid l).w_time t) := by
  have e : ∀ p, 1 ≤ p → pl gi' p = pl gi p := fun p hp => pl_same (fun c h1 h2 => hc c (by omega))
  refine r.gen _ rfl rfl rfl (fun c h1 h2 => hc c (by have := not_st h1; omega)) (hc 38 (by decide)) (fun _ _ => rfl) ?_ e1 ?_ e2 e3 e9 ?_ ?_ r.rm e18 ?_ r.were r.inj ?_ ?_ ?_
  · rw [e 11 (by decide)]; exact r.now
  · intro k hk; rw [hc 1 (by decide)]; exact r.tape k (Nat.lt_of_lt_of_le hk htp)
  · rw [e11]; exact r.acts
  · rw [e12]; exact r.undone
  · intro i hi; rw [hc 34 (by decide)]; exact r.lies i (Nat.lt_of_lt_of_le hi hl)
  · intro i hi; rw [e _ (by omega)]; exact r.was i hi
  · intro b hb h1; rw [e _ (by omega)]; exact r.box b hb h1
  · rw [hc 48 (by decide)]; exact r.boxed
theorem RX.laid0 (r : RX hk nx gi gr b ask L sl sf w S) : RX hk nx (g_pi gi 0 18 0) gr b ask L sl sf w (S.w_laid 0) :=
  r.own (fun c hc => pi_off hc) (tp := S.taped) (t := S.time) (l := 0) (a := S.fk) (d := S.fp) (Nat.le_refl _) (Nat.zero_le _) (by simp [pi_get, r.taped]) (by simp [pi_get, r.fk]) (by simp [pi_get, r.fp]) (by simp [pi_get, r.time]) (by simp [pi_get]) (by simp [pi_get]) (by simp [pi_get]; rfl)
/-- what lies there, told anew -/
theorem RX.lie (r : RX hk nx gi gr b ask L sl sf w S) {l : Nat} {f : Nat → Int32} (hc : ∀ c, c ≠ 0 → c ≠ 34 → gi' c = gi c) (h0 : ∀ k, k ≠ 18 → gi' 0 k = gi 0 k) (hl : gi' 0 18 = N l) (hf : ∀ i, i < l → gi' 34 i = f i) : RX hk nx gi' gr b ask L sl sf w ((S.w_laid l).w_lies f) := by
  have e : ∀ p, p = 11 ∨ 49 ≤ p → pl gi' p = pl gi p := fun p hp => pl_same (fun c h1 h2 => hc c (by omega) (by omega))
  refine r.gen _ rfl rfl rfl (fun c h1 h2 => hc c (by have := not_st h1; omega) (by have := not_st h1; omega)) (hc 38 (by decide) (by decide)) (fun _ _ => rfl) ?_ ?_ ?_ ?_ ?_ ?_ ?_ ?_ r.rm hl hf r.were r.inj ?_ ?_ ?_
  · rw [e 11 (by omega)]; exact r.now
  · rw [h0 1 (by decide)]; exact r.taped
  · rw [hc 1 (by decide) (by decide)]; exact r.tape
  · rw [h0 2 (by decide)]; exact r.fk
  · rw [h0 3 (by decide)]; exact r.fp
  · rw [h0 9 (by decide)]; exact r.time
  · rw [h0 11 (by decide)]; exact r.acts
  · rw [h0 12 (by decide)]; exact r.undone
  · intro i hi; rw [e _ (by omega)]; exact r.was i hi
  · intro b hb h1; rw [e _ (by omega)]; exact r.box b hb h1
  · rw [hc 48 (by decide) (by decide)]; exact r.boxed
theorem isPl_w {i : Nat} (h : i < 43) : isPl (49 + 5 * i) := Or.inr (Or.inr (Or.inr (Or.inr ⟨i, h, rfl⟩)))
theorem x_actj (lay : XLay hk gr) (wr : ∀ i, i < 40 → gr 31 i = some (49 + 5 * w i) ∧ w i < 40) {a : Nat} (ha : a < 40) (h11 : gi 0 11 = N a) : ∃ g1, f_X0_act_j49 hk 0 gi gr = some (g_pi (g_pi g1 0 11 (N (a + 1))) 0 12 0, gr) ∧ pl g1 (49 + 5 * w a) = pl gi 11 ∧ ∀ c, ¬ (49 + 5 * w a ≤ c ∧ c ≤ 49 + 5 * w a + 4) → g1 c = gi c := by
  obtain ⟨w1, w2⟩ := wr a ha
  have hp := isPl_w (show w a < 43 by omega)
  obtain ⟨g1, a1, a2, a3⟩ := x_copy (gi := gi) (lay.pls _ hp) (lay.pls 11 pl11) (Or.inr (by omega))
  refine ⟨g1, ?_, a2, a3⟩
  rw [f_X0_act_j49, lay.f10, Option.bind_some, g_is_of' lay.k31, Option.bind_some, lay.k31, h11, N_ldr ha (by decide), w1, Option.bind_some, lay.f5, Option.bind_some, g_is_of (lay.pls _ hp).k, Option.bind_some, a1, Option.bind_some, Option.bind_some, Option.bind_some]
  show some (g_pi (g_pi g1 0 11 (g1 0 11 + 1)) 0 12 0, gr) = _
  rw [a3 0 (by omega), h11, show (1 : Int32) = N 1 from rfl, N_add]
theorem x_actF (r : RX hk nx gi gr b ask L sl sf w S) (o : SOk S) : ∃ gi' gr' w', f_X0_act hk gi gr 0 = some (gi', gr') ∧ RX hk nx gi' gr' b ask L sl sf w' (s_act S) ∧ ∀ c, ¬ isSt c → gi' c = gi c := by
  have hr := o.room
  have hl := r.wd.lay
  have fin : ∀ (gr' : GR) (w' : Nat → Nat) (a : Nat) (gj : GI) (was : Nat → Nat → Int32), (∀ c, c ≠ 0 → gj c = gi c) → (∀ k, k ≠ 11 → gj 0 k = gi 0 k) → gj 0 11 = N a → a < 40 → (∀ c, c ≠ 31 → gr' c = gr c) → (∀ i, i < 40 → gr' 31 i = some (49 + 5 * w' i) ∧ w' i < 40) → (∀ i j, i < 40 → j < 40 → w' i = w' j → i = j) → (∀ i, i < a → pl gi (49 + 5 * w' i) = was i) → was a = S.P → ∃ gi', f_X0_act_j49 hk 0 gj gr' = some (gi', gr') ∧ RX hk nx gi' gr' b ask L sl sf w' (((S.w_was was).w_acts (a + 1)).w_undone 0) ∧ ∀ c, ¬ isSt c → gi' c = gi c := by
    intro gr' w' a gj was c1 c2 c3 c4 c5 c6 c7 c8 c9
    have hl' : XLay hk gr' := hl.gr (fun c _ h1 _ => c5 c h1) (c5 38 (by decide)) (fun k _ => by rw [c5 0 (by decide)])
    obtain ⟨g1, a1, a2, a3⟩ := x_actj hl' c6 c4 c3
    have wa := (c6 a c4).2
    have e0 : ∀ k, k ≠ 11 → k ≠ 12 → g_pi (g_pi g1 0 11 (N (a + 1))) 0 12 0 0 k = gi 0 k := fun k h1 h2 => by
      rw [pi_get, if_neg (by omega), pi_get, if_neg (by omega), a3 0 (by omega), c2 k h1]
    have ec : ∀ c, c ≠ 0 → ¬ (49 + 5 * w' a ≤ c ∧ c ≤ 49 + 5 * w' a + 4) → g_pi (g_pi g1 0 11 (N (a + 1))) 0 12 0 c = gi c := fun c h1 h2 => by
      rw [pi_off h1, pi_off h1, a3 c h2, c1 c h1]
    have ep : ∀ p, 1 ≤ p → (p + 4 < 49 + 5 * w' a ∨ 49 + 5 * w' a + 4 < p) → pl (g_pi (g_pi g1 0 11 (N (a + 1))) 0 12 0) p = pl gi p := fun p h1 h2 => pl_same (fun c h3 h4 => ec c (by omega) (by omega))
    have ew : pl (g_pi (g_pi g1 0 11 (N (a + 1))) 0 12 0) (49 + 5 * w' a) = S.P := by
      rw [pl_same (gi := g1) (fun c h3 h4 => by rw [pi_off (by omega), pi_off (by omega)]), a2, pl_same (gi := gi) (fun c h3 h4 => c1 c (by omega))]
      exact r.now
    refine ⟨_, a1, ?_, fun c hc => ec c (by have := not_st hc; omega) (by have := not_st hc; omega)⟩
    refine r.gen _ rfl rfl rfl (fun c h1 h2 => ec c (by have := not_st h1; omega) (by have := not_st h1; omega)) (ec 38 (by decide) (by omega)) c5 ?_ ?_ ?_ ?_ ?_ ?_ ?_ ?_ ?_ ?_ ?_ c6 c7 ?_ ?_ ?_
    · rw [ep 11 (by decide) (by omega)]; exact r.now
    · rw [e0 1 (by decide) (by decide)]; exact r.taped
    · rw [ec 1 (by decide) (by omega)]; exact r.tape
    · rw [e0 2 (by decide) (by decide)]; exact r.fk
    · rw [e0 3 (by decide) (by decide)]; exact r.fp
    · rw [e0 9 (by decide) (by decide)]; exact r.time
    · rw [pi_get, if_neg (by omega), pi_get, if_pos ⟨rfl, rfl⟩]; rfl
    · rw [pi_get, if_pos ⟨rfl, rfl⟩]; rfl
    · show a + 1 + 0 ≤ 40; omega
    · rw [e0 18 (by decide) (by decide)]; exact r.laid
    · rw [ec 34 (by decide) (by omega)]; exact r.lies
    · intro i hi
      have hi : i < a + 1 + 0 := hi
      show _ = was i
      by_cases q : i = a
      · subst q; rw [ew, c9]
      · have : w' i ≠ w' a := fun e => q (c7 i a (by omega) c4 e)
        rw [ep _ (by omega) (by omega)]; exact c8 i (by omega)
    · intro b hb h1; rw [ep _ (by omega) (by omega)]; exact r.box b hb h1
    · rw [ec 48 (by decide) (by omega)]; exact r.boxed
  unfold s_act
  rw [f_X0_act, r.acts, show (40 : Int32) = N 40 from rfl, if_eq (by omega) (by omega)]
  by_cases h : S.acts = 40
  · rw [if_pos h, if_pos h]
    have w0 := r.were 0 (by decide)
    have hall : g_allk hk gr 31 1 39 13 = true := by
      unfold g_allk
      rw [List.all_eq_true]
      intro i hi
      have hi := List.mem_range.mp hi
      have wi := r.were (1 + i) (by omega)
      rw [wi.1]
      simp [(hl.pls _ (isPl_w (show w (1 + i) < 43 by omega))).k]
    have ecp : g_cprP hk gr 31 1 31 0 39 = some (va_up gr 31 (va_cpy (gr 31) (gr 31) 1 0 39)) := by
      have h1 : (1 : Int32).toNatClampNeg = 1 := rfl
      have h2 : (39 : Int32).toNatClampNeg = 39 := rfl
      have h3 : (0 : Int32).toNatClampNeg = 0 := rfl
      have h4 : g_cp0 1 0 39 40 40 = true := by decide +kernel
      rw [g_cprP, h1, h2, hall, if_pos rfl, g_cpr, hl.k31, h4, if_pos rfl, h1, h2, h3]
    have e0 : ∀ f, va_up gr 31 f 0 = gr 0 := fun f => by simp [va_up]
    have ld0 : g_ldr gr 31 40 0 = some (49 + 5 * w 0) := by rw [show (0 : Int32) = N 0 from rfl, N_ldr (by decide) (by decide), w0.1]
    have st39 : ∀ (gq : GR) (x : Option Nat), g_str gq 31 40 39 x = some (g_pr gq 31 39 x) := fun gq x => by rw [show (39 : Int32) = N 39 from rfl, N_str (by decide) (by decide)]
    have e39 : N S.acts - 1 = N 39 := by rw [h]; rfl
    simp only [hl.f10, Option.bind_some, g_is_of' hl.k31, hl.k31, ld0, ecp, e0, g_is_of (hl.pls _ (isPl_w (show w 0 < 43 by omega))).k, st39, e39]
    obtain ⟨gi', a1, a2, a9⟩ := fin (g_pr (va_up gr 31 (va_cpy (gr 31) (gr 31) 1 0 39)) 31 39 (some (49 + 5 * w 0))) (fun i => if i = 39 then w 0 else w (i + 1)) 39 (g_pi gi 0 11 (N 39)) (fun i => if i = 39 then S.P else S.was (i + 1)) (fun c hc => pi_off hc) (fun k hk => by simp [pi_get, hk]) (by simp [pi_get]) (by decide) (fun c hc => by simp [g_pr, va_up, hc]) (by
        intro i hi
        by_cases q : i = 39
        · subst q
          simp [g_pr, va_up]
          exact w0.2
        · have wi := r.were (i + 1) (by omega)
          simp only [if_neg q, g_pr, va_up, if_true]
          refine ⟨?_, wi.2⟩
          unfold va_cpy
          rw [if_pos (by omega), ← wi.1]
          congr 1
          omega) (by
        intro i j hi hj he
        have hi2 : ∀ k, k < 40 → (if k = 39 then w 0 else w (k + 1)) = w (if k = 39 then 0 else k + 1) := fun k _ => by split <;> rfl
        rw [hi2 i hi, hi2 j hj] at he
        have := r.inj _ _ (by split <;> omega) (by split <;> omega) he
        split at this <;> split at this <;> omega) (by
        intro i hi
        simp only [if_neg (show ¬ i = 39 by omega)]
        exact r.was (i + 1) (by omega)) (by simp)
    refine ⟨gi', _, fun i => if i = 39 then w 0 else w (i + 1), a1, ?_, a9⟩
    have e : (S.w_was (fun i => if i = 39 then S.P else S.was (i + 1))).w_acts 40 = S.w_was (fun i => if i = 39 then S.P else S.was (i + 1)) := by
      conv => lhs; rw [← h]
      rfl
    rw [show (39 : Nat) + 1 = 40 from rfl, e] at a2
    exact a2
  · rw [if_neg h, if_neg h]
    obtain ⟨gi', a1, a2, a9⟩ := fin gr w S.acts gi (fun i => if i = S.acts then S.P else S.was i) (fun _ _ => rfl) (fun _ _ => rfl) r.acts (by omega) (fun _ _ => rfl) r.were r.inj (by
      intro i hi
      simp only [if_neg (show ¬ i = S.acts by omega)]
      exact r.was i (by omega)) (by simp)
    exact ⟨gi', gr, w, a1, a2, a9⟩
theorem x_act (r : RX hk nx gi gr b ask L sl sf w S) (o : SOk S) : ∃ gi' gr' w', f_X0_act hk gi gr 0 = some (gi', gr') ∧ RX hk nx gi' gr' b ask L sl sf w' (s_act S) := by
  obtain ⟨gi', gr', w', a1, a2, _⟩ := x_actF r o
  exact ⟨gi', gr', w', a1, a2⟩
end X9

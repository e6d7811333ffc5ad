set_option linter.unusedVariables false
set_option linter.unusedSimpArgs false
/-! THE PLAIN LAW: the model behind a unit -/
section P12
variable {gi gi' : GI} {gl gl' : GL} {X : Nat → Nat} {n r f w : Nat} {K : Sk} {C : Cde} {e : Es}
/-- the pile's ground -/
def Bot : Sk → Prop
  | [] => False
  | x :: K => 7 ≤ x.1 ∨ Bot K
def lead : Sk → Nat
  | [] => 0
  | x :: K => if x.1 = 5 ∨ x.1 = 6 then lead K + 1 else 0
theorem pil_lead : ∀ {K : Sk}, Pil gi K → Bot K → lead K < K.length ∧ (∀ i, i < lead K → ∃ q, (q = 5 ∨ q = 6) ∧ gi 30 (K.length - 1 - i) = N q) ∧ ∃ q, q ≤ 8 ∧ q ≠ 5 ∧ q ≠ 6 ∧ gi 30 (K.length - 1 - lead K) = N q ∧ cmpd K = decide (q = 4)
  | [], _, b => b.elim
  | x :: K, p, b => by
    obtain ⟨p1, p2, p3, p4, p5⟩ := p
    by_cases q : x.1 = 5 ∨ x.1 = 6
    · have bk : Bot K := by
        rcases b with z | z
        · omega
        · exact z
      obtain ⟨i1, i2, i3⟩ := pil_lead p5 bk
      have el : lead (x :: K) = lead K + 1 := if_pos q
      have ec : cmpd (x :: K) = cmpd K := if_pos q
      rw [el, ec]
      refine ⟨by show lead K + 1 < K.length + 1; omega, fun i hi => ?_, ?_⟩
      · by_cases z : i = 0
        · subst z
          exact ⟨x.1, q, by show gi 30 (K.length + 1 - 1 - 0) = _; rw [show K.length + 1 - 1 - 0 = K.length by omega]; exact p1⟩
        · obtain ⟨q', h1, h2⟩ := i2 (i - 1) (by omega)
          exact ⟨q', h1, by show gi 30 (K.length + 1 - 1 - i) = _; rw [show K.length + 1 - 1 - i = K.length - 1 - (i - 1) by omega]; exact h2⟩
      · obtain ⟨q', h1, h2, h3, h4, h5⟩ := i3
        exact ⟨q', h1, h2, h3, by show gi 30 (K.length + 1 - 1 - (lead K + 1)) = _; rw [show K.length + 1 - 1 - (lead K + 1) = K.length - 1 - lead K by omega]; exact h4, h5⟩
    · have el : lead (x :: K) = 0 := if_neg q
      have ec : cmpd (x :: K) = decide (x.1 = 4) := if_neg q
      rw [el, ec]
      refine ⟨by show 0 < K.length + 1; omega, fun i hi => absurd hi (by omega), x.1, p3, by omega, by omega, ?_, rfl⟩
      show gi 30 (K.length + 1 - 1 - 0) = _
      rw [show K.length + 1 - 1 - 0 = K.length by omega]; exact p1
theorem m_isCompared (hl : K.length ≤ 56) (h45 : gi 0 45 = N K.length) (p : Pil gi K) (b : Bot K) : f_X4_isCompared gi = some (b01 (cmpd K)) := by
  obtain ⟨l1, l2, q, q1, q2, q3, q4, q5⟩ := pil_lead p b
  have sub1 : ∀ k : Nat, 1 ≤ k → N k + (-1) = N (k - 1) := fun k hk9 => by rw [← Int32.sub_eq_add_neg, show (1 : Int32) = N 1 from rfl, N_sub hk9]
  have lp : g_loop g_K (fun (s : Int32) => f_X4_isCompared_l7 gi s) (N K.length - 1) = some (N (K.length - 1 - lead K)) := by
    refine loop_T (fun i => N (K.length - 1 - i)) (lead K) ?_ (fun i hi => ?_) ?_ (by show lead K < 100000; omega)
    · rw [show (1 : Int32) = N 1 from rfl, N_sub (by omega)]; rfl
    · obtain ⟨v, v1, v2⟩ := l2 i hi
      rw [f_X4_isCompared_l7, N_ld (by omega) (by decide), Option.bind_some, v2, show (5 : Int32) = N 5 from rfl, show (6 : Int32) = N 6 from rfl, if_eq (by omega) (by omega), sub1 _ (by omega), show K.length - 1 - i - 1 = K.length - 1 - (i + 1) by omega]
      rcases v1 with z | z
      · rw [if_pos z]
      · rw [if_neg (by omega), Option.bind_some, if_eq (by omega) (by omega), if_pos z]
    · rw [f_X4_isCompared_l7, N_ld (by omega) (by decide), Option.bind_some, q4, show (5 : Int32) = N 5 from rfl, show (6 : Int32) = N 6 from rfl, if_eq (by omega) (by omega), if_neg q2, Option.bind_some, if_eq (by omega) (by omega), if_neg q3]
  rw [f_X4_isCompared, h45, lp, Option.bind_some, f_X4_isCompared_x7, N_ld (by omega) (by decide), Option.bind_some, q4, show (4 : Int32) = N 4 from rfl, if_eq (by omega) (by omega), q5]
  by_cases z : q = 4
  · rw [if_pos z, decide_eq_true z]; rfl
  · rw [if_neg z, decide_eq_false z]; rfl
/-- marks of a rank are taken from the pile -/
theorem m_pops {rk : Nat} (hrk : rk ≤ 6) (h : MM gi gl X n r f K C w e false) (b : Bot K) : ∃ g1, g_loop g_K (fun (s : GI) => f_X4_behindUnit_l23 gl (N rk) s) gi = some g1 ∧ MM g1 gl X n r f (pops rk K C w).1 (pops rk K C w).2.1 (pops rk K C w).2.2 e false ∧ MEx gi g1 gl gl r f ∧ Bot (pops rk K C w).1 ∧ ∃ x K', (pops rk K C w).1 = x :: K' ∧ (x.1 < rk ∨ 7 ≤ x.1) := by
  have kl := h.len.le (by have := h.wi; omega)
  refine loop_J (fun m g => ∃ K1 C1 w1, pops rk K1 C1 w1 = pops rk K C w ∧ m = K1.length ∧ MM g gl X n r f K1 C1 w1 e false ∧ MEx gi g gl gl r f ∧ Bot K1) (fun g1 => MM g1 gl X n r f (pops rk K C w).1 (pops rk K C w).2.1 (pops rk K C w).2.2 e false ∧ MEx gi g1 gl gl r f ∧ Bot (pops rk K C w).1 ∧ ∃ x K', (pops rk K C w).1 = x :: K' ∧ (x.1 < rk ∨ 7 ≤ x.1)) ?_ (n := K.length) ⟨K, C, w, rfl, rfl, h, MEx.refl _ _ _ _, b⟩ (by show K.length < 100000; omega)
  intro m g hI
  obtain ⟨K1, C1, w1, e1, e2, mm, ex, bt⟩ := hI
  have kl1 := mm.len.le (by have := mm.wi; omega)
  cases K1 with
  | nil => exact bt.elim
  | cons x K2 =>
    have kl1 : K2.length + 1 ≤ 56 := kl1
    obtain ⟨p1, p2, p3, p4, p5⟩ := mm.pil.2
    have p45 : g 0 45 = N (K2.length + 1) := mm.pil.1
    have lenN : N (K2.length + 1) - 1 = N K2.length := by rw [show (1 : Int32) = N 1 from rfl, N_sub (by omega)]; rfl
    by_cases q : x.1 ≤ 6 ∧ rk ≤ x.1
    · refine Or.inl ?_
      have stp9 : pops rk (x :: K2) C1 w1 = pops rk K2 (C1 ++ [(N x.2, 0)]) (if x.1 = 3 then w1 - 1 else w1) := if_pos q
      have bt2 : Bot K2 := by
        rcases bt with z | z
        · omega
        · exact z
      obtain ⟨w4, w5, w6⟩ := mm.wi
      have cw : (if x.1 = 3 then w1 - 1 else w1) = c7 K2 + nots K2 ∧ (if x.1 = 3 then w1 - 1 else w1) ≤ 7 := by
        have w5 : w1 = c7 K2 + (if x.1 = 7 then 1 else 0) + (nots K2 + (if x.1 = 3 then 1 else 0)) := w5
        rw [if_neg (show ¬ x.1 = 7 by omega)] at w5
        by_cases z : x.1 = 3
        · rw [if_pos z] at w5 ⊢; omega
        · rw [if_neg z] at w5 ⊢; omega
      have rm : C1.length + (K2.length + 1) ≤ 1 + 9 * e.2.2 + 0 := mm.room
      have ol := mm.own.2
      have fa := mm.far
      generalize hg4 : g_pi g 0 45 (N K2.length) = g4
      have w44 : g4 0 44 = N w1 := by rw [← hg4, pi_get, if_neg (by omega)]; exact w4
      generalize hg5 : (if x.1 = 3 then g_pi g4 0 44 (N (w1 - 1)) else g4) = g5
      have o5 : ∀ k, k ≠ 44 → k ≠ 45 → g5 0 k = g 0 k := fun k k1 k2 => by
        rw [← hg5]
        split
        · rw [pi_get, if_neg (fun z => k1 z.2), ← hg4, pi_get, if_neg (fun z => k2 z.2)]
        · rw [← hg4, pi_get, if_neg (fun z => k2 z.2)]
      have c5 : ∀ c, c ≠ 0 → g5 c = g c := fun c hc => by
        rw [← hg5]
        split
        · rw [pi_off hc, ← hg4, pi_off hc]
        · rw [← hg4, pi_off hc]
      have v45 : g5 0 45 = N K2.length := by
        rw [← hg5]
        split
        · rw [pi_get, if_neg (by omega), ← hg4, pi_get, if_pos ⟨rfl, rfl⟩]
        · rw [← hg4, pi_get, if_pos ⟨rfl, rfl⟩]
      have v44 : g5 0 44 = N (if x.1 = 3 then w1 - 1 else w1) := by
        rw [← hg5]
        by_cases z : x.1 = 3
        · rw [if_pos z, if_pos z, pi_get, if_pos ⟨rfl, rfl⟩]
        · rw [if_neg z, if_neg z]; exact w44
      have v43 : g5 0 43 = N (f + C1.length) := by rw [o5 43 (by decide) (by decide)]; exact mm.cod.1
      have j87 : f_X4_behindUnit_j87 gl (N rk) g5 = some (.inl (g_pi (g_pi (g_pi g5 28 (f + C1.length) (N x.2)) 29 (f + C1.length) 0) 0 43 (N (f + C1.length + 1)))) := by
        rw [f_X4_behindUnit_j87, v45, N_ld (by omega) (by decide), Option.bind_some, c5 31 (by decide), p2, m_emit v43 (by omega), Option.bind_some]
      have body : f_X4_behindUnit_l23 gl (N rk) g = some (.inl (g_pi (g_pi (g_pi g5 28 (f + C1.length) (N x.2)) 29 (f + C1.length) 0) 0 43 (N (f + C1.length + 1)))) := by
        have v30 : g4 30 K2.length = N x.1 := by rw [← hg4, pi_off (by decide)]; exact p1
        have v45' : g4 0 45 = N K2.length := by rw [← hg4, pi_get, if_pos ⟨rfl, rfl⟩]
        rw [f_X4_behindUnit_l23, p45, lenN, N_ld (by omega) (by decide), Option.bind_some, p1, show (6 : Int32) = N 6 from rfl, if_lt (by omega) (by omega), if_neg (by omega), Option.bind_some, if_lt (by omega) (by omega), if_neg (by omega), Option.bind_some, hg4, v45', N_ld (by omega) (by decide), Option.bind_some, v30, show (3 : Int32) = N 3 from rfl, if_eq (by omega) (by omega)]
        by_cases z : x.1 = 3
        · have w1' : N w1 - 1 = N (w1 - 1) := by
            have w5 : w1 = c7 K2 + (if x.1 = 7 then 1 else 0) + (nots K2 + (if x.1 = 3 then 1 else 0)) := w5
            rw [if_pos z] at w5
            rw [show (1 : Int32) = N 1 from rfl, N_sub (by omega)]
          rw [if_pos z, Option.bind_some, w44, w1']
          rw [if_pos z] at hg5
          rw [hg5]; exact j87
        · rw [if_neg z]
          rw [if_neg z] at hg5
          rw [hg5]; exact j87
      have cs : Cod g5 f C1 := mm.cod.2.keep (c5 28 (by decide)) (c5 29 (by decide))
      have cs2 := cs.snoc (c := N x.2) (v := 0)
      refine ⟨_, body, K2.length, by rw [e2]; show K2.length < K2.length + 1; omega, K2, C1 ++ [(N x.2, 0)], (if x.1 = 3 then w1 - 1 else w1), stp9.symm.trans e1, rfl, ?_, ?_, bt2⟩
      · generalize hg6 : g_pi (g_pi (g_pi g5 28 (f + C1.length) (N x.2)) 29 (f + C1.length) 0) 0 43 (N (f + C1.length + 1)) = g6 at cs2
        have o6 : ∀ k, k ≠ 43 → g6 0 k = g5 0 k := fun k hk9 => by rw [← hg6, pi_get, if_neg (fun z => hk9 z.2), pi_off (by decide), pi_off (by decide)]
        have c6 : ∀ c, c ≠ 0 → c ≠ 28 → c ≠ 29 → g6 c = g c := fun c k1 k2 k3 => by rw [← hg6, pi_off k1, pi_off k3, pi_off k2, c5 c k1]
        have oo : ∀ k, k ≠ 43 → k ≠ 44 → k ≠ 45 → g6 0 k = g 0 k := fun k k1 k2 k3 => by rw [o6 k k1, o5 k k2 k3]
        refine ⟨mm.tx.of (oo 3 (by decide) (by decide) (by decide)) (c6 2 (by decide) (by decide) (by decide)), ⟨by rw [oo 6 (by decide) (by decide) (by decide)]; exact mm.tk.place, by rw [oo 8 (by decide) (by decide) (by decide)]; exact mm.tk.kind, by rw [oo 7 (by decide) (by decide) (by decide)]; exact mm.tk.next, by rw [oo 9 (by decide) (by decide) (by decide)]; exact mm.tk.num, mm.tk.nam⟩, mm.tok, by rw [oo 4 (by decide) (by decide) (by decide)]; exact mm.good, ⟨by rw [oo 42 (by decide) (by decide) (by decide)]; exact mm.bank.1, mm.bank.2⟩, ⟨by rw [c6 7 (by decide) (by decide) (by decide)]; exact mm.un.1, mm.un.2⟩, ⟨by rw [oo 46 (by decide) (by decide) (by decide)]; exact mm.own.1, ol⟩, ⟨by rw [o6 44 (by decide)]; exact v44, cw.1, cw.2⟩, ⟨by rw [o6 45 (by decide)]; exact v45, p5.keep (fun i hi => ⟨by rw [c6 30 (by decide) (by decide) (by decide)], by rw [c6 31 (by decide) (by decide) (by decide)]⟩)⟩, ⟨?_, cs2⟩, mm.len.1, ?_, fa⟩
        · rw [← hg6, pi_get, if_pos ⟨rfl, rfl⟩, List.length_append, List.length_singleton]; rfl
        · rw [List.length_append, List.length_singleton, if_neg (by decide)]
          omega
      · refine ex.trans ⟨fun k k1 k2 => by rw [pi_get, if_neg (by omega), pi_off (by decide), pi_off (by decide)]; exact o5 k (by omega) (by omega), fun c k1 k2 k3 => by rw [pi_off k1, pi_off (by omega), pi_off (by omega)]; exact c5 c k1, fun i _ => by rw [pi_off (by decide), pi_off (by decide), pi_off (by decide)]; rw [c5 7 (by decide)], fun i hi => ⟨?_, ?_⟩, fun _ _ _ => rfl⟩
        · rw [pi_off (by decide), pi_off (by decide), pi_get, if_neg (by omega)]; rw [c5 28 (by decide)]
        · rw [pi_off (by decide), pi_get, if_neg (by omega), pi_off (by decide)]; rw [c5 29 (by decide)]
    · refine Or.inr ?_
      have stp9 : pops rk (x :: K2) C1 w1 = (x :: K2, C1, w1) := if_neg q
      rw [← e1, stp9]
      refine ⟨g, ?_, mm, ex, bt, x, K2, rfl, by omega⟩
      rw [f_X4_behindUnit_l23, p45, lenN, N_ld (by omega) (by decide), Option.bind_some, p1, show (6 : Int32) = N 6 from rfl, if_lt (by omega) (by omega)]
      by_cases z : 6 < x.1
      · rw [if_pos z]
      · rw [if_neg z, Option.bind_some, if_lt (by omega) (by omega), if_pos (by omega)]
end P12

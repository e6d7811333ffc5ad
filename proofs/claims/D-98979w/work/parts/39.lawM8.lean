set_option linter.unusedVariables false
set_option linter.unusedSimpArgs false
/-! THE PLAIN LAW: what is done to the model, go on -/
theorem m_give {gi : GI} {S : St} (r : RM gi S) (o : SOk S) (x w y z : Int32) : ∃ gi', f_X4_give gi x w y z = some ((s_give S x w y z).1, gi') ∧ RM gi' (s_give S x w y z).2 := by
  have h5 := r.book.ok.nm
  have h3 := r.book.ok.nk
  rw [f_X4_give, m_isMan r.book, m_isMan r.book, Option.bind_some]
  unfold s_give
  cases h : asQ x S.B.nm with
  | none => exact ⟨gi, rfl, r⟩
  | some m =>
    obtain ⟨rfl, hm⟩ := asQ_some h
    simp only [Option.isSome_some, if_true]
    rw [if_neg (by decide), Option.bind_some]
    cases h' : asQ w S.B.nm with
    | none => exact ⟨gi, rfl, r⟩
    | some n =>
      obtain ⟨rfl, hn⟩ := asQ_some h'
      simp only [Option.isSome_some, if_true]
      rw [if_neg (by decide), if_eq (by omega) (by omega), m_isKind r.book, Option.bind_some]
      cases g : asQ y S.B.nk with
      | none => exact ⟨gi, by split <;> rfl, r⟩
      | some k =>
        obtain ⟨rfl, hk⟩ := asQ_some g
        simp only [Option.isSome_some, if_true]
        by_cases hmn : m = n
        · rw [if_pos hmn, if_neg (fun q => q.1 hmn)]
          exact ⟨gi, rfl, r⟩
        · rw [if_neg hmn, if_neg (by decide), m_inP gi (by omega) (by omega), Option.bind_some, m_isIn, in1, Option.bind_some, r.all]
          by_cases z1 : 1 ≤ z ∧ z ≤ S.P (3 * m + k)
          · rw [if_pos z1, if_neg (by decide), if_pos ⟨hmn, z1⟩]
            obtain ⟨g1, a1, a2, a3, a4⟩ := m_keepAct r o
            have b1 : MBk g1 S.B := by have := a2.book; rw [act_B] at this; exact this
            have p1 : g1 33 = S.P := by rw [a3, r.all]
            rw [a1, Option.bind_some, show (0 : Int32) = N 0 from rfl, show (3 : Int32) = N 3 from rfl, N_mul, N_add, N_add, Nat.zero_add, N_ld (by omega) (by decide), Option.bind_some, N_st (by omega) (by decide), Option.bind_some, all_pi, m_gets _ (by omega) (by omega), Option.bind_some, all_get, all_up, m_inP _ (by omega) (by omega), Option.bind_some, all_get, p1]
            have e : upd S.P (3 * m + k) (S.P (3 * m + k) - z) = add S.P (3 * m + k) (-z) := by
              unfold add
              rw [Int32.sub_eq_add_neg]
            rw [e]
            exact ⟨_, rfl, a2.row _⟩
          · rw [if_neg z1, if_pos rfl, if_neg (fun q => z1 q.2)]
            exact ⟨gi, rfl, r⟩
theorem m_rate {gi : GI} {B : Bk} (b : MBk gi B) {k o : Nat} (hk : k < 3) (ho : o < 3) : g_ld gi 18 18 (9 * gi 0 41 + 3 * N k + N o) = some (N (B.cost k o)) ∧ (B.cost k o ≠ 0 → g_ld gi 19 18 (9 * gi 0 41 + 3 * N k + N o) = some (N (B.brings k o))) := by
  obtain ⟨r, b1, b2⟩ := b
  have := b2.hr
  rw [b1, show (9 : Int32) = N 9 from rfl, show (3 : Int32) = N 3 from rfl, N_mul, N_mul, N_add, N_add, N_ld (by omega) (by decide), N_ld (by omega) (by decide), b2.cost k o hk ho]
  exact ⟨rfl, fun h => by rw [b2.brings k o hk ho h]⟩
theorem m_change {gi : GI} {S : St} (r : RM gi S) (o : SOk S) (x y z : Int32) : ∃ gi', f_X4_change gi x y z = some ((s_change S x y z).1, gi') ∧ RM gi' (s_change S x y z).2 := by
  have h5 := r.book.ok.nm
  have h3 := r.book.ok.nk
  rw [f_X4_change, m_isMan r.book, Option.bind_some]
  unfold s_change
  cases h : asQ x S.B.nm with
  | none => exact ⟨gi, rfl, r⟩
  | some m =>
    obtain ⟨rfl, hm⟩ := asQ_some h
    simp only [Option.isSome_some, if_true]
    rw [if_neg (by decide), m_isKind r.book, m_isKind r.book, Option.bind_some]
    cases g : asQ y S.B.nk with
    | none => exact ⟨gi, rfl, r⟩
    | some k =>
      obtain ⟨rfl, hk⟩ := asQ_some g
      simp only [Option.isSome_some, if_true]
      rw [if_neg (by decide), Option.bind_some]
      cases g' : asQ z S.B.nk with
      | none => exact ⟨gi, rfl, r⟩
      | some q =>
        obtain ⟨rfl, hq⟩ := asQ_some g'
        simp only [Option.isSome_some, if_true]
        have hc := r.book.ok.cost k q
        obtain ⟨r1, r2⟩ := m_rate r.book (show k < 3 by omega) (show q < 3 by omega)
        rw [if_neg (by decide), r1, Option.bind_some, show (0 : Int32) = N 0 from rfl, if_eq (by omega) (by omega)]
        by_cases c0 : S.B.cost k q = 0
        · rw [if_pos c0, if_neg (fun q => q.1 c0)]
          exact ⟨gi, rfl, r⟩
        · rw [if_neg c0, m_inP gi (by omega) (by omega), Option.bind_some, Option.bind_some, r.all]
          by_cases c1 : N (S.B.cost k q) ≤ S.P (3 * m + k)
          · rw [if_pos c1, if_pos ⟨c0, c1⟩]
            obtain ⟨g1, a1, a2, a3, a4⟩ := m_keepAct r o
            have b1 : MBk g1 S.B := by have := a2.book; rw [act_B] at this; exact this
            have p1 : g1 33 = S.P := by rw [a3, r.all]
            obtain ⟨t1, t2⟩ := m_rate b1 (show k < 3 by omega) (show q < 3 by omega)
            rw [a4] at t1 t2
            have t3 : ∀ P, g_ld (va_up g1 33 P) 19 18 (9 * gi 0 41 + 3 * N k + N q) = g_ld g1 19 18 (9 * gi 0 41 + 3 * N k + N q) := fun P => by unfold g_ld; rw [up_ne _ _ _ (by decide)]
            rw [a1, Option.bind_some, t1]
            have e3 : N 0 + 3 * N m + N k = N (3 * m + k) := by rw [show (3 : Int32) = N 3 from rfl, N_mul, N_add, N_add, Nat.zero_add]
            rw [e3, N_ld (by omega) (by decide), Option.bind_some, Option.bind_some, N_st (by omega) (by decide), Option.bind_some, all_pi, t3, t2 c0, Option.bind_some, m_gets _ (by omega) (by omega), Option.bind_some, all_get, all_up, m_inP _ (by omega) (by omega), Option.bind_some, all_get, p1]
            have e : upd S.P (3 * m + k) (S.P (3 * m + k) - N (S.B.cost k q)) = add S.P (3 * m + k) (-(N (S.B.cost k q))) := by
              unfold add
              rw [Int32.sub_eq_add_neg]
            rw [e]
            exact ⟨_, rfl, a2.row _⟩
          · rw [if_neg c1, if_neg (fun q => c1 q.2)]
            exact ⟨gi, rfl, r⟩
theorem m_week {gi : GI} {S : St} (r : RM gi S) (o : SOk S) : ∃ gi', f_X4_week gi = some ((s_week S).1, gi') ∧ RM gi' (s_week S).2 := by
  rw [f_X4_week, show (40 : Int32) = N 40 from rfl, N_ld (by decide) (by decide), Option.bind_some, r.all]
  unfold s_week
  by_cases h : S.P 40 = 999
  · rw [if_pos h, if_pos h]
    exact ⟨gi, rfl, r⟩
  · rw [if_neg h, if_neg h]
    obtain ⟨g1, a1, a2, a3, a4⟩ := m_keepAct r o
    have b1 : MBk g1 S.B := by have := a2.book; rw [act_B] at this; exact this
    have p1 : g1 33 = S.P := by rw [a3, r.all]
    obtain ⟨g2, c1, c2, c3⟩ := m_goWeek b1 (by rw [p1]; exact o.row.ok.seed)
    rw [a1, Option.bind_some, c1, Option.bind_some, p1]
    rw [p1] at c2
    refine ⟨g2, rfl, ?_⟩
    have := c3.mfr.rm (a2.row (g2 33))
    rw [c2] at this
    exact this
theorem m_exchange {gi : GI} {a : Nat} (ha : a < 41) (h : gi 0 50 = N a) : ∃ gi', f_X4_exchange gi = some gi' ∧ (∀ j, j < 42 → gi' 33 j = gi 34 (42 * a + j)) ∧ (∀ j, 42 ≤ j → gi' 33 j = gi 33 j) ∧ gi' 34 = cpo (gi 34) (gi 33) (42 * a) 42 ∧ ∀ c, c ≠ 33 → c ≠ 34 → gi' c = gi c := by
  have hl : g_loop g_K (fun (s : Int32 × GI) => f_X4_exchange_l2 s.1 s.2) (0, gi) = some (va_up (va_up gi 34 (cpo (gi 34) (gi 33) (42 * a) 42)) 33 (fun j => if j < 42 then gi 34 (42 * a + j) else gi 33 j)) := by
    refine loop_T (fun i => (N i, va_up (va_up gi 34 (cpo (gi 34) (gi 33) (42 * a) i)) 33 (fun j => if j < i then gi 34 (42 * a + j) else gi 33 j))) 42 ?_ ?_ rfl (by decide)
    · simp only [Nat.not_lt_zero, if_false, cpo_zero]
      rw [up_id, up_id]; rfl
    · intro i hi
      dsimp only
      have c34 : ∀ f, va_up (va_up gi 34 (cpo (gi 34) (gi 33) (42 * a) i)) 33 f 34 = cpo (gi 34) (gi 33) (42 * a) i := fun f => by rw [up_ne _ _ _ (by decide), up_same]
      rw [f_X4_exchange_l2, show (42 : Int32) = N 42 from rfl, if_le (by omega) (by omega), if_neg (by omega), up_ne _ _ _ (show (0 : Nat) ≠ 33 by decide), up_ne _ _ _ (show (0 : Nat) ≠ 34 by decide), h, N_mul, N_add, N_ld (by omega) (by decide), Option.bind_some, N_ld (by omega) (by decide), Option.bind_some, N_st (by omega) (by decide), Option.bind_some, N_st (by omega) (by decide), Option.bind_some, c34, up_same, if_neg (by omega), show (1 : Int32) = N 1 from rfl, N_add]
      have e1 : cpo (gi 34) (gi 33) (42 * a) i (42 * a + i) = gi 34 (42 * a + i) := by unfold cpo; rw [if_neg (by omega)]
      rw [e1]
      congr 3
      funext c
      by_cases h3 : c = 33
      · subst h3
        rw [up_same]
        unfold g_pi
        rw [up_same, up_ne _ _ _ (by decide), up_same]
        funext j
        unfold upd
        by_cases q : j = i
        · subst q; rw [if_pos rfl, if_pos (by omega)]
        · rw [if_neg q]
          by_cases q2 : j < i
          · simp only [if_pos q2, if_pos (show j < i + 1 by omega)]
          · simp only [if_neg q2, if_neg (show ¬ j < i + 1 by omega)]
      · rw [pi_off h3, up_ne _ _ _ h3]
        by_cases h4 : c = 34
        · subst h4
          rw [up_same, ← cpo_step]
          unfold g_pi
          rw [up_same, c34]
        · rw [pi_off h4, up_ne _ _ _ h3, up_ne _ _ _ h4, up_ne _ _ _ h4]
  rw [f_X4_exchange, hl, Option.bind_some, f_X4_exchange_x2]
  refine ⟨_, rfl, ?_, ?_, ?_, ?_⟩
  · intro j hj
    rw [up_same]
    simp only [if_pos hj]
  · intro j hj
    rw [up_same]
    simp only [if_neg (show ¬ j < 42 by omega)]
  · rw [up_ne _ _ _ (by decide), up_same]
  · intro c h1 h2
    rw [up_ne _ _ _ h1, up_ne _ _ _ h2]

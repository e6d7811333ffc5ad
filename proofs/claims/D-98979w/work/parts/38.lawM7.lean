set_option linter.unusedVariables false
set_option linter.unusedSimpArgs false
/-! THE PLAIN LAW: what is done to the model -/
def cpo (f src : Nat → Int32) (off n : Nat) : Nat → Int32 := fun j => if off ≤ j ∧ j < off + n then src (j - off) else f j
theorem cpo_step (f src : Nat → Int32) (off n : Nat) : upd (cpo f src off n) (off + n) (src n) = cpo f src off (n + 1) := by
  funext j
  unfold upd cpo
  by_cases h : j = off + n
  · subst h
    rw [if_pos rfl, if_pos (by omega), show off + n - off = n by omega]
  · rw [if_neg h]
    by_cases h2 : off ≤ j ∧ j < off + n
    · rw [if_pos h2, if_pos (by omega)]
    · rw [if_neg h2, if_neg (by omega)]
theorem cpo_zero (f src : Nat → Int32) (off : Nat) : cpo f src off 0 = f := by
  funext j; unfold cpo; rw [if_neg (by omega)]
theorem up_pi (gi : GI) (c : Nat) (f : Nat → Int32) (k : Nat) (x : Int32) : g_pi (va_up gi c f) c k x = va_up gi c (upd f k x) := by
  funext i; unfold g_pi va_up; by_cases h : i = c <;> simp [h]
theorem up_id (gi : GI) (c : Nat) : va_up gi c (gi c) = gi := by
  funext i; by_cases h : i = c <;> simp [va_up, h]
/-- a row is copied, place by place -/
theorem loop_copy {body : Int32 × GI → Option ((Int32 × GI) ⊕ GI)} {gi : GI} {c off n : Nat} {src : Nat → Int32} (hn : n < 100000) (hs : ∀ i gj, i < n → (∀ d, d ≠ c → gj d = gi d) → body (N i, gj) = some (.inl (N (i + 1), g_pi gj c (off + i) (src i)))) (he : ∀ gj, body (N n, gj) = some (.inr gj)) : g_loop g_K body (0, gi) = some (va_up gi c (cpo (gi c) src off n)) := by
  refine loop_T (fun i => (N i, va_up gi c (cpo (gi c) src off i))) n ?_ ?_ (he _) hn
  · rw [cpo_zero, up_id]; rfl
  · intro i hi
    show body (N i, _) = _
    rw [hs i _ hi (fun d hd => up_ne _ _ _ hd), up_pi, cpo_step]
theorem RM.row {gi : GI} {S : St} (r : RM gi S) (P : Nat → Int32) : RM (va_up gi 33 P) (S.w_P P) := by
  have e : ∀ c, c ≠ 33 → va_up gi 33 P c = gi c := fun c hc => up_ne _ _ _ hc
  refine ⟨(Fr.all gi P).book r.book, up_same _ _ _, ?_, ?_, ?_, ?_, ?_, ?_, ?_, ?_, ?_, ?_, ?_, ?_, ?_, ?_⟩
  · rw [e 0 (by decide)]; exact r.taped
  · rw [e 1 (by decide)]; exact r.tape
  · rw [e 0 (by decide)]; exact r.fk
  · rw [e 0 (by decide)]; exact r.fp
  · rw [e 0 (by decide)]; exact r.acts
  · rw [e 0 (by decide)]; exact r.undone
  · rw [e 34 (by decide)]; exact r.was
  · rw [e 0 (by decide)]; exact r.laid
  · rw [e 37 (by decide)]; exact r.lies
  · rw [e 0 (by decide)]; exact r.ns
  · intro f i hf hi; rw [e (45 + f) (by omega)]; exact r.sg f i hf hi
  · rw [e 0 (by decide)]; exact r.time
  · rw [e 53 (by decide)]; exact r.box
  · rw [e 54 (by decide)]; exact r.boxed
/-- the acts alone are changed -/
theorem RM.acts' {gi gi' : GI} {S : St} (r : RM gi S) {was : Nat → Nat → Int32} {a u : Nat} (h0 : ∀ k, k ≠ 50 → k ≠ 51 → gi' 0 k = gi 0 k) (hc : ∀ c, c ≠ 0 → c ≠ 34 → gi' c = gi c) (ha : gi' 0 50 = N a) (hu : gi' 0 51 = N u) (hw : ∀ i j, i < a + u → j < 42 → gi' 34 (42 * i + j) = was i j) : RM gi' (((S.w_was was).w_acts a).w_undone u) := by
  refine ⟨(show Fr gi gi' from ⟨h0 41 (by decide) (by decide), fun c h1 h2 => hc c (by omega) (by omega)⟩).book r.book, ?_, ?_, ?_, ?_, ?_, ha, hu, hw, ?_, ?_, ?_, ?_, ?_, ?_, ?_⟩
  · rw [hc 33 (by decide) (by decide)]; exact r.all
  · rw [h0 2 (by decide) (by decide)]; exact r.taped
  · rw [hc 1 (by decide) (by decide)]; exact r.tape
  · rw [h0 4 (by decide) (by decide)]; exact r.fk
  · rw [h0 5 (by decide) (by decide)]; exact r.fp
  · rw [h0 55 (by decide) (by decide)]; exact r.laid
  · rw [hc 37 (by decide) (by decide)]; exact r.lies
  · rw [h0 78 (by decide) (by decide)]; exact r.ns
  · intro f i hf hi; rw [hc (45 + f) (by omega) (by omega)]; exact r.sg f i hf hi
  · rw [h0 79 (by decide) (by decide)]; exact r.time
  · rw [hc 53 (by decide) (by decide)]; exact r.box
  · rw [hc 54 (by decide) (by decide)]; exact r.boxed
theorem m_keep42 {gi : GI} {a : Nat} (ha : a < 41) (h : gi 0 50 = N a) : f_X4_keepAct_j49 gi = some (g_pi (g_pi (va_up gi 34 (cpo (gi 34) (gi 33) (42 * a) 42)) 0 50 (N (a + 1))) 0 51 0) := by
  have hl := loop_copy (body := fun (s : Int32 × GI) => f_X4_keepAct_l51 s.1 s.2) (gi := gi) (c := 34) (off := 42 * a) (n := 42) (src := gi 33) (by decide) (by
    intro i gj hi hg
    show f_X4_keepAct_l51 (N i) gj = _
    rw [f_X4_keepAct_l51, show (42 : Int32) = N 42 from rfl, if_le (by omega) (by omega), if_neg (by omega), N_ld hi (by decide), Option.bind_some, hg 0 (by decide), h, N_mul, N_add, N_st (by omega) (by decide), Option.bind_some, hg 33 (by decide), show (1 : Int32) = N 1 from rfl, N_add]) (fun gj => rfl)
  rw [f_X4_keepAct_j49, hl, Option.bind_some, f_X4_keepAct_x51, Option.bind_some, Option.bind_some, up_ne _ _ _ (by decide), h, show (1 : Int32) = N 1 from rfl, N_add]
theorem m_keepAct {gi : GI} {S : St} (r : RM gi S) (o : SOk S) : ∃ gi', f_X4_keepAct gi = some gi' ∧ RM gi' (s_act S) ∧ gi' 33 = gi 33 ∧ gi' 0 41 = gi 0 41 := by
  have hr := o.room
  unfold s_act
  rw [f_X4_keepAct, r.acts, show (40 : Int32) = N 40 from rfl, if_eq (by omega) (by omega)]
  by_cases h : S.acts = 40
  · rw [if_pos h, if_pos h]
    have hl : g_loop g_K (fun (s : Int32 × GI) => f_X4_keepAct_l11 s.1 s.2) (0, gi) = some (va_up gi 34 (fun j => if j < 1680 then gi 34 (j + 42) else gi 34 j)) := by
      refine loop_T (fun i => (N i, va_up gi 34 (fun j => if j < i then gi 34 (j + 42) else gi 34 j))) 1680 ?_ ?_ rfl (by decide)
      · simp only [Nat.not_lt_zero, if_false]; rw [up_id]; rfl
      · intro i hi
        dsimp only
        rw [f_X4_keepAct_l11, show (1680 : Int32) = N 1680 from rfl, if_le (by omega) (by omega), if_neg (by omega), show (42 : Int32) = N 42 from rfl, N_add, N_ld (by omega) (by decide), Option.bind_some, N_st (by omega) (by decide), Option.bind_some, up_pi, up_same, if_neg (by omega), show (1 : Int32) = N 1 from rfl, N_add]
        congr 4
        funext j
        unfold upd
        by_cases q : j = i
        · subst q; rw [if_pos rfl, if_pos (by omega)]
        · rw [if_neg q]
          by_cases q2 : j < i
          · simp only [if_pos q2, if_pos (show j < i + 1 by omega)]
          · simp only [if_neg q2, if_neg (show ¬ j < i + 1 by omega)]
    rw [hl, Option.bind_some, f_X4_keepAct_x11, Option.bind_some]
    have e0 : va_up gi 34 (fun j => if j < 1680 then gi 34 (j + 42) else gi 34 j) 0 50 = N 40 := by rw [up_ne _ _ _ (by decide), r.acts, h]
    rw [e0, show (1 : Int32) = N 1 from rfl, N_sub (by decide), m_keep42 (a := 39) (by decide) (by simp [pi_get])]
    refine ⟨_, rfl, ?_, ?_, by simp [pi_get, va_up]⟩
    · have := RM.acts' r (gi' := g_pi (g_pi (va_up (g_pi (va_up gi 34 (fun j => if j < 1680 then gi 34 (j + 42) else gi 34 j)) 0 50 (N (40 - 1))) 34 (cpo (g_pi (va_up gi 34 (fun j => if j < 1680 then gi 34 (j + 42) else gi 34 j)) 0 50 (N (40 - 1)) 34) (g_pi (va_up gi 34 (fun j => if j < 1680 then gi 34 (j + 42) else gi 34 j)) 0 50 (N (40 - 1)) 33) (42 * 39) 42)) 0 50 (N (39 + 1))) 0 51 0) (was := fun i => if i = 39 then S.P else S.was (i + 1)) (a := 40) (u := 0) (fun k h1 h2 => by simp [pi_get, h1, h2, va_up]) (fun c h1 h2 => by rw [pi_off h1, pi_off h1, up_ne _ _ _ h2, pi_off h1, up_ne _ _ _ h2]) (by simp [pi_get]) (by simp [pi_get]; rfl) (by
        intro i j hi hj
        rw [pi_off (by decide), pi_off (by decide), up_same, pi_off (by decide), up_same, pi_off (by decide), up_ne _ _ _ (by decide)]
        unfold cpo
        by_cases q : i = 39
        · subst q
          rw [if_pos (by omega), if_pos rfl, r.all, show 42 * 39 + j - 42 * 39 = j by omega]
        · rw [if_neg (by omega), if_neg q]
          show (if 42 * i + j < 1680 then gi 34 (42 * i + j + 42) else gi 34 (42 * i + j)) = _
          rw [if_pos (by omega), show 42 * i + j + 42 = 42 * (i + 1) + j by omega]
          exact r.was (i + 1) j (by omega) hj)
      have e : (S.w_was (fun i => if i = 39 then S.P else S.was (i + 1))).w_acts 40 = S.w_was (fun i => if i = 39 then S.P else S.was (i + 1)) := by
        conv => lhs; rw [← h]
        rfl
      rw [e] at this
      exact this
    · rw [pi_off (by decide), pi_off (by decide), up_ne _ _ _ (by decide), pi_off (by decide), up_ne _ _ _ (by decide)]
  · rw [if_neg h, if_neg h, m_keep42 (by omega) r.acts]
    refine ⟨_, rfl, ?_, ?_, by simp [pi_get, va_up]⟩
    · refine RM.acts' r (fun k h1 h2 => by simp [pi_get, h1, h2, va_up]) (fun c h1 h2 => by rw [pi_off h1, pi_off h1, up_ne _ _ _ h2]) (by simp [pi_get]) (by simp [pi_get]; rfl) ?_
      intro i j hi hj
      rw [pi_off (by decide), pi_off (by decide), up_same]
      unfold cpo
      by_cases q : i = S.acts
      · subst q
        rw [if_pos (by omega), if_pos rfl, r.all, show 42 * S.acts + j - 42 * S.acts = j by omega]
      · rw [if_neg (by omega), if_neg q]
        exact r.was i j (by omega) hj
    · rw [pi_off (by decide), pi_off (by decide), up_ne _ _ _ (by decide)]
theorem act_B (S : St) : (s_act S).B = S.B := by unfold s_act; split <;> rfl
theorem act_P (S : St) : (s_act S).P = S.P := by unfold s_act; split <;> rfl
/-- 1 .. n as the classes ask it -/
theorem in1 (x a c : Int32) : (if x < a then (0 : Int32) else if c < x then 0 else 1) = if a ≤ x ∧ x ≤ c then 1 else 0 := by
  by_cases h : x < a
  · rw [if_pos h, if_neg (fun q => Int32.not_le.mpr h q.1)]
  · rw [if_neg h]
    by_cases h2 : c < x
    · rw [if_pos h2, if_neg (fun q => Int32.not_le.mpr h2 q.2)]
    · rw [if_neg h2, if_pos ⟨Int32.not_lt.mp h, Int32.not_lt.mp h2⟩]
theorem m_spend {gi : GI} {S : St} (r : RM gi S) (o : SOk S) (x y z : Int32) : ∃ gi', f_X4_spend gi x y z = some ((s_spend S x y z).1, gi') ∧ RM gi' (s_spend S x y z).2 := by
  have h5 := r.book.ok.nm
  have h3 := r.book.ok.nk
  rw [f_X4_spend, m_isMan r.book, Option.bind_some]
  unfold s_spend
  cases h : asQ x S.B.nm with
  | none => exact ⟨gi, rfl, r⟩
  | some m =>
    obtain ⟨rfl, hm⟩ := asQ_some h
    simp only [Option.isSome_some, if_true]
    rw [if_neg (by decide), m_isKind r.book, Option.bind_some]
    cases g : asQ y S.B.nk with
    | none => exact ⟨gi, rfl, r⟩
    | some k =>
      obtain ⟨rfl, hk⟩ := asQ_some g
      simp only [Option.isSome_some, if_true]
      rw [if_neg (by decide), m_isIn, in1, Option.bind_some]
      by_cases z1 : 1 ≤ z ∧ z ≤ 8
      · rw [if_pos z1, if_neg (by decide), m_inP gi (by omega) (by omega), Option.bind_some, r.all]
        by_cases z2 : z ≤ S.P (3 * m + k)
        · rw [if_neg (Int32.not_lt.mpr z2), m_leftOf r.book (by rw [r.all]; exact o.row.ok) (by omega), Option.bind_some, r.all]
          by_cases z3 : z ≤ N (leftN S.B S.P m)
          · rw [if_pos z3, if_pos ⟨z1, z2, z3⟩]
            obtain ⟨g1, a1, a2, a3, a4⟩ := m_keepAct r o
            have b1 : MBk g1 S.B := by have := a2.book; rw [act_B] at this; exact this
            have p1 : g1 33 = S.P := by rw [a3, r.all]
            rw [a1, Option.bind_some, show (0 : Int32) = N 0 from rfl, show (3 : Int32) = N 3 from rfl, N_mul, N_add, N_add, Nat.zero_add, N_ld (by omega) (by decide), Option.bind_some, N_st (by omega) (by decide), Option.bind_some, all_pi, show (35 : Int32) = N 35 from rfl, N_add, N_ld (by omega) (by decide), Option.bind_some, N_st (by omega) (by decide), Option.bind_some, all_pi, all_up, all_get, m_lay ((Fr.all g1 _).book b1) hm (by omega), Option.bind_some, all_get, all_up, m_overOf ((Fr.all g1 _).book b1) (by omega) (by omega), if_pos hk, Option.bind_some, all_get, p1]
            have e : upd (upd S.P (3 * m + k) (S.P (3 * m + k) - z)) (35 + m) (upd S.P (3 * m + k) (S.P (3 * m + k) - z) (35 + m) + z) = add (add S.P (3 * m + k) (-z)) (35 + m) z := by
              unfold add
              rw [Int32.sub_eq_add_neg]
            rw [e]
            refine ⟨_, rfl, ?_⟩
            exact a2.row _
          · rw [if_neg z3, if_neg (fun q => z3 q.2.2)]
            exact ⟨gi, rfl, r⟩
        · rw [if_pos (Int32.not_le.mp z2), if_neg (fun q => z2 q.2.1)]
          exact ⟨gi, rfl, r⟩
      · rw [if_neg z1, if_pos rfl, if_neg (fun q => z1 q.1)]
        exact ⟨gi, rfl, r⟩

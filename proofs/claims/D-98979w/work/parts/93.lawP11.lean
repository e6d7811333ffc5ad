set_option linter.unusedVariables false
set_option linter.unusedSimpArgs false
/-! THE PLAIN LAW: the model reads a unit -/
section P11
variable {gi gi' : GI} {gl gl' : GL} {X : Nat → Nat} {n r f w : Nat} {K : Sk} {C : Cde} {e : Es}
def b01 (p : Bool) : Int32 := if p = true then 1 else 0
theorem b01_t : b01 true = 1 := rfl
theorem b01_f : b01 false = 0 := rfl
theorem m_unit36 (h : MM gi gl X n r f K C w e true) (hK : K ≠ []) : f_X4_unit gi gl = f_X4_unit_j56 gi gl (b01 (begins K && eW e 21)) := by
  obtain ⟨w1, w2, w3⟩ := h.wi
  have kl := h.len.le (by omega)
  have wd := m_isWord h.tx.txt h.tok h.tk (i := 21) (by decide) (by decide)
  have wd' : f_X4_isWord gi gl 7237492 = some (if eW e 21 = true then 1 else 0) := by rw [← wd]; rw [show (7237492 : Int64) = L (litV 21) by decide +kernel]
  cases K with
  | nil => exact absurd rfl hK
  | cons x K =>
    obtain ⟨p1, p2⟩ := h.pil
    have kl : K.length + 1 ≤ 56 := kl
    have lenN : N (K.length + 1) - 1 = N K.length := by rw [show (1 : Int32) = N 1 from rfl, N_sub (by omega)]; rfl
    have p1 : gi 0 45 = N (K.length + 1) := p1
    have bg : begins (x :: K) = decide (x.1 ≤ 3 ∨ 7 ≤ x.1) := rfl
    have x8 := p2.2.2.1
    have j1 : f_X4_unit_j36 gi gl 1 = f_X4_unit_j56 gi gl (b01 (eW e 21)) := by
      rw [f_X4_unit_j36, if_neg (by decide), wd', Option.bind_some]
      by_cases q : eW e 21 = true
      · rw [if_pos q, if_neg (by decide), q]; rfl
      · rw [if_neg q, if_pos rfl, Bool.eq_false_iff.mpr q]; rfl
    rw [f_X4_unit, p1, lenN, N_ld (by omega) (by decide), Option.bind_some, p2.1, show (3 : Int32) = N 3 from rfl, if_le (by omega) (by omega)]
    by_cases a : x.1 ≤ 3
    · rw [if_pos a, bg, decide_eq_true (Or.inl a), Bool.true_and]; exact j1
    · rw [if_neg a, Option.bind_some, show (7 : Int32) = N 7 from rfl, if_lt (by omega) (by omega)]
      by_cases b : x.1 < 7
      · rw [if_pos b, bg, decide_eq_false (by omega), Bool.false_and]; rfl
      · rw [if_neg b, bg, decide_eq_true (Or.inr (by omega)), Bool.true_and]; exact j1
theorem m_unit (h : MM gi gl X n r f K C w e true) (hK : K ≠ []) : match mUnit X n K C w e with
    | .inl y => f_X4_unit gi gl = some (1, faulted gi y, gl) ∧ y = eBad e
    | .inr s => ∃ gi' gl', f_X4_unit gi gl = some (b01 s.1, gi', gl') ∧ MM gi' gl' X n r f s.2.1 s.2.2.1 s.2.2.2.1 s.2.2.2.2 s.1 ∧ MEx gi gi' gl gl' r f := by
  obtain ⟨w1, w2, w3⟩ := h.wi
  obtain ⟨u1, u2⟩ := h.un
  obtain ⟨o1, o2⟩ := h.own
  obtain ⟨bk, hr⟩ := h.bank
  have kl := h.len.le (by omega)
  have so := (h.tok.val h.tx.txt).2.2.2
  have sg : f_X4_isSignHere gi 40 = some (if e.1.sort = 40 then 1 else 0) := m_isSign h.tx h.tok h.tk (c := 40) (by decide)
  have wh := m_wordHere h.tx.txt h.tok h.tk
  have bad : ∀ a b c, f_X4_unit_j143 gi gl a b c = some (1, faulted gi (eBad e), gl) := fun a b c => by
    rw [f_X4_unit_j143, m_misplaced h.good h.tk, Option.bind_some, f_X4_unit_j147, m_notGood _ (eBad_ne e), Option.bind_some, if_pos rfl]
  have j98 : ∀ t, f_X4_unit_j56 gi gl t = f_X4_unit_j98 gi gl t (if e.1.sort = 40 then 1 else 0) (askE e) (if e.2.1 = 60 ∨ e.2.2 = 30 then 1 else 0) := fun t => by
    rw [f_X4_unit_j56, sg, Option.bind_some, wh, Option.bind_some, bk, N_ld hr (by decide), Option.bind_some, u1, o1, show (60 : Int32) = N 60 from rfl, show (30 : Int32) = N 30 from rfl, if_eq (by omega) (by omega), if_eq (by omega) (by omega)]
    by_cases a : e.2.1 = 60
    · rw [if_pos a, if_pos (show e.2.1 = 60 ∨ e.2.2 = 30 from Or.inl a)]; rfl
    · rw [if_neg a]
      by_cases b : e.2.2 = 30
      · rw [if_pos b, if_pos (show e.2.1 = 60 ∨ e.2.2 = 30 from Or.inr b)]; rfl
      · rw [if_neg b, if_neg (show ¬ (e.2.1 = 60 ∨ e.2.2 = 30) from fun z => z.elim a b)]
  have j134 : ∀ a b c, f_X4_unit_j134 gi gl a b c = if w = 7 then f_X4_unit_j143 gi gl a b c else f_X4_unit_j147 gi gl a b c := fun a b c => by
    rw [f_X4_unit_j134, w1, show (7 : Int32) = N 7 from rfl, if_eq (by omega) (by omega)]
  have g47 : ∀ (d : Nat) (a b c : Int32), ((a = 0 ∧ d = 1) ∨ (a ≠ 0 ∧ d = 0)) → f_X4_unit_j147 gi gl a b c = f_X4_unit_j208 (g_pi (g_pi gi 7 r (N (e.2.1 + d))) 0 46 (N (e.2.2 + d))) gl a b c (if c = 0 then gi 0 9 else 0) := by
    intro d a b c had
    have own7 : ∀ v, g_pi gi 7 r v 0 46 = N e.2.2 := fun v => by rw [pi_off (by decide)]; exact o1
    have n9 : ∀ v v', g_pi (g_pi gi 7 r v) 0 46 v' 0 9 = gi 0 9 := fun v v' => by rw [pi_get, if_neg (by omega), pi_off (by decide)]
    rw [f_X4_unit_j147, m_isOk h.good, Option.bind_some, if_neg (by decide), bk, N_ld hr (by decide), Option.bind_some, u1]
    rcases had with ⟨a0, d1⟩ | ⟨a0, d0⟩
    · rw [if_pos a0, f_X4_unit_j175, N_st hr (by decide), Option.bind_some, if_pos a0, f_X4_unit_j191, own7, Option.bind_some, n9, d1, show (1 : Int32) = N 1 from rfl, N_add, N_add]
      by_cases q : c = 0
      · rw [if_pos q, if_pos q]
      · rw [if_neg q, if_neg q]
    · rw [if_neg a0, f_X4_unit_j175, N_st hr (by decide), Option.bind_some, if_neg a0, f_X4_unit_j191, own7, Option.bind_some, n9, d0, Int32.add_zero, Int32.add_zero, Nat.add_zero, Nat.add_zero]
      by_cases q : c = 0
      · rw [if_pos q, if_pos q]
      · rw [if_neg q, if_neg q]
  have hu := (m_unit36 h hK).trans (j98 _)
  unfold mUnit
  by_cases nt : begins K = true ∧ eW e 21 = true
  · rw [if_pos nt]
    rw [nt.1, nt.2, show b01 (true && true) = 1 from rfl, f_X4_unit_j98, if_neg (show ¬ (1 : Int32) = 0 by decide), f_X4_unit_j126, if_neg (show ¬ (1 : Int32) = 0 by decide), j134] at hu
    have s1 := eW_sort nt.2
    by_cases w7 : w = 7
    · rw [if_pos w7] at hu
      rw [if_pos w7]
      exact ⟨hu.trans (bad _ _ _), rfl⟩
    · rw [if_neg w7, g47 0 _ _ _ (Or.inr ⟨by decide, rfl⟩)] at hu
      rw [if_neg w7]
      obtain ⟨g2, gl2, a1, a2, a3, a4, a5, a6, a7, a8, a9⟩ := m_count h 0 (by omega) ⟨by omega, by omega⟩ ⟨by omega, by omega⟩
      obtain ⟨g3, b1, b2, b3⟩ := m_piled (x := (3, 126)) (e' := eGo X n e) h a2 a3 a4 a5 a6 a7 a8 a9 ⟨u2, o2, Nat.le_refl _⟩ (by omega) (Or.inl ⟨rfl, nt.1⟩)
      refine ⟨g3, gl2, hu.trans ?_, b2, b3⟩
      rw [f_X4_unit_j208, a1, Option.bind_some, if_neg (by decide), f_X4_unit_j222, if_neg (by decide)]
      exact b1
  · rw [if_neg nt]
    have ntf : (begins K && eW e 21) = false := by
      rw [Bool.eq_false_iff]
      intro z
      rw [Bool.and_eq_true] at z
      exact nt z
    rw [ntf, b01_f] at hu
    by_cases no : eNo e = true ∨ (e.1.sort = 40 ∧ w = 7)
    · rw [if_pos no]
      refine ⟨hu.trans ?_, rfl⟩
      have j121 : (e.2.1 = 60 ∨ e.2.2 = 30) ∨ (e.1.sort = 40 ∧ w = 7) → f_X4_unit_j121 gi gl 0 (if e.1.sort = 40 then 1 else 0) (askE e) (if e.2.1 = 60 ∨ e.2.2 = 30 then 1 else 0) = some (1, faulted gi (eBad e), gl) := by
        intro z
        rw [f_X4_unit_j121]
        by_cases q : e.2.1 = 60 ∨ e.2.2 = 30
        · rw [if_pos q, if_neg (by decide)]; exact bad _ _ _
        · rw [if_neg q, if_pos rfl]
          obtain ⟨z1, z2⟩ := z.resolve_left q
          rw [f_X4_unit_j126, if_pos rfl, if_pos z1, if_neg (by decide), j134, if_pos z2]
          exact bad _ _ _
      rw [f_X4_unit_j98, if_pos rfl]
      by_cases first : e.1.sort ≠ 2 ∧ e.1.sort ≠ 40 ∧ eAsk e = none
      · have a0 : askE e = 0 := by unfold askE; rw [first.2.2]
        rw [a0, if_pos rfl, if_neg (fun z => first.1 ((m_isNum h.tk).mp z)), if_neg first.2.1, if_pos rfl]
        exact bad _ _ _
      · have rest : (e.2.1 = 60 ∨ e.2.2 = 30) ∨ (e.1.sort = 40 ∧ w = 7) := no.imp (fun z => (of_decide_eq_true z).resolve_left first) (fun z => z)
        by_cases a0 : askE e = 0
        · rw [if_pos a0]
          by_cases n4 : gi 0 8 = 4
          · rw [if_pos n4]; exact j121 rest
          · rw [if_neg n4]
            have s40 : e.1.sort = 40 := by
              have s2 : e.1.sort ≠ 2 := fun z => n4 ((m_isNum h.tk).mpr z)
              have an : eAsk e = none := by
                cases ha : eAsk e with
                | none => rfl
                | some k =>
                  unfold askE at a0
                  rw [ha] at a0
                  have : ∀ k, askc k ≠ 0 := fun k => by
                    unfold askc
                    split <;> decide
                  exact absurd a0 (this k)
              by_cases q : e.1.sort = 40
              · exact q
              · exact absurd ⟨s2, q, an⟩ first
            rw [if_pos s40, if_neg (by decide)]
            have := j121 rest
            rw [if_pos s40] at this
            exact this
        · rw [if_neg a0]; exact j121 rest
    · rw [if_neg no]
      have n0 : ¬ (e.2.1 = 60 ∨ e.2.2 = 30) := fun z => no (Or.inl (decide_eq_true (Or.inr z)))
      have n1 : ¬ (e.1.sort ≠ 2 ∧ e.1.sort ≠ 40 ∧ eAsk e = none) := fun z => no (Or.inl (decide_eq_true (Or.inl z)))
      have n2 : ¬ (e.1.sort = 40 ∧ w = 7) := fun z => no (Or.inr z)
      have s03 : e.1.sort ≠ 0 ∧ e.1.sort ≠ 3 := ⟨fun z => n1 ⟨by omega, by omega, if_neg (by omega)⟩, fun z => n1 ⟨by omega, by omega, if_neg (by omega)⟩⟩
      obtain ⟨g2, gl2, a1, a2, a3, a4, a5, a6, a7, a8, a9⟩ := m_count h 1 (by omega) s03 ⟨by omega, by omega⟩
      rw [if_neg n0] at hu
      have to121 : f_X4_unit_j98 gi gl 0 (if e.1.sort = 40 then 1 else 0) (askE e) 0 = f_X4_unit_j121 gi gl 0 (if e.1.sort = 40 then 1 else 0) (askE e) 0 := by
        rw [f_X4_unit_j98, if_pos rfl]
        by_cases a0 : askE e = 0
        · rw [if_pos a0]
          by_cases n4 : gi 0 8 = 4
          · rw [if_pos n4]
          · rw [if_neg n4]
            have s40 : e.1.sort = 40 := by
              have s2 : e.1.sort ≠ 2 := fun z => n4 ((m_isNum h.tk).mpr z)
              have an : eAsk e = none := by
                cases ha : eAsk e with
                | none => rfl
                | some k =>
                  unfold askE at a0
                  rw [ha] at a0
                  have : ∀ k, askc k ≠ 0 := fun k => by
                    unfold askc
                    split <;> decide
                  exact absurd a0 (this k)
              by_cases q : e.1.sort = 40
              · exact q
              · exact absurd ⟨s2, q, an⟩ n1
            rw [if_pos s40, if_neg (by decide)]
        · rw [if_neg a0]
      rw [to121, f_X4_unit_j121, if_pos rfl, f_X4_unit_j126, if_pos rfl] at hu
      by_cases s40 : e.1.sort = 40
      · rw [if_pos s40, if_neg (show ¬ (1 : Int32) = 0 by decide), j134, if_neg (fun z => n2 ⟨s40, z⟩), g47 1 _ _ _ (Or.inl ⟨rfl, rfl⟩)] at hu
        rw [if_pos s40]
        obtain ⟨g3, b1, b2, b3⟩ := m_piled (x := (7, 126)) (e' := eGo X n (eIn e)) h a2 a3 a4 a5 a6 a7 a8 a9 ⟨by show e.2.1 + 1 ≤ 60; omega, by show e.2.2 + 1 ≤ 30; omega, by show e.2.2 ≤ e.2.2 + 1; omega⟩ (by omega) (Or.inr rfl)
        refine ⟨g3, gl2, hu.trans ?_, b2, b3⟩
        rw [f_X4_unit_j208, a1, Option.bind_some, if_pos rfl, if_neg (by decide), f_X4_unit_j222, if_pos rfl]
        exact b1
      · rw [if_neg s40, if_pos rfl, g47 1 _ _ _ (Or.inl ⟨rfl, rfl⟩)] at hu
        rw [if_neg s40]
        have rm := h.room
        rw [if_pos rfl] at rm
        have c43 : g2 0 43 = N (f + C.length) := by rw [a7 43 (by decide) (by decide)]; exact h.cod.1
        have fa := h.far
        have cod2 : Cod g2 f C := h.cod.2.keep (a8 28 (by decide) (by decide)) (a8 29 (by decide) (by decide))
        have out : ∀ c v : Int32, eCode e = [(c, v)] → f_X4_unit_j263 g2 gl2 v c = some (0, g_pi (g_pi (g_pi g2 28 (f + C.length) c) 29 (f + C.length) v) 0 43 (N (f + C.length + 1)), gl2) ∧ MM (g_pi (g_pi (g_pi g2 28 (f + C.length) c) 29 (f + C.length) v) 0 43 (N (f + C.length + 1))) gl2 X n r f K (C ++ eCode e) w (eGo X n (eIn e)) false ∧ MEx gi (g_pi (g_pi (g_pi g2 28 (f + C.length) c) 29 (f + C.length) v) 0 43 (N (f + C.length + 1))) gl gl2 r f := by
          intro c v hcv
          refine ⟨by rw [f_X4_unit_j263, m_emit c43 (by omega), Option.bind_some], ?_, ?_⟩
          · have cs := cod2.snoc (c := c) (v := v)
            generalize hg : g_pi (g_pi (g_pi g2 28 (f + C.length) c) 29 (f + C.length) v) 0 43 (N (f + C.length + 1)) = g3 at cs
            have o3 : ∀ k, k ≠ 43 → g3 0 k = g2 0 k := fun k hk9 => by rw [← hg, pi_get, if_neg (fun z => hk9 z.2), pi_off (by decide), pi_off (by decide)]
            have c3 : ∀ c, c ≠ 0 → c ≠ 28 → c ≠ 29 → g3 c = g2 c := fun c k1 k2 k3 => by rw [← hg, pi_off k1, pi_off k3, pi_off k2]
            rw [hcv]
            refine ⟨a2.of (o3 3 (by decide)) (c3 2 (by decide) (by decide) (by decide)), ⟨by rw [o3 6 (by decide)]; exact a3.place, by rw [o3 8 (by decide)]; exact a3.kind, by rw [o3 7 (by decide)]; exact a3.next, by rw [o3 9 (by decide)]; exact a3.num, a3.nam⟩, a4, by rw [o3 4 (by decide), a7 4 (by decide) (by decide)]; exact h.good, ⟨by rw [o3 42 (by decide), a7 42 (by decide) (by decide)]; exact bk, hr⟩, ⟨by rw [c3 7 (by decide) (by decide) (by decide)]; exact a5, by show e.2.1 + 1 ≤ 60; omega⟩, ⟨by rw [o3 46 (by decide)]; exact a6, by show e.2.2 + 1 ≤ 30; omega⟩, ⟨by rw [o3 44 (by decide), a7 44 (by decide) (by decide)]; exact w1, w2, w3⟩, ⟨by rw [o3 45 (by decide), a7 45 (by decide) (by decide)]; exact h.pil.1, h.pil.2.keep (fun i hi => ⟨by rw [c3 30 (by decide) (by decide) (by decide), a8 30 (by decide) (by decide)], by rw [c3 31 (by decide) (by decide) (by decide), a8 31 (by decide) (by decide)]⟩)⟩, ⟨?_, cs⟩, h.len, ?_, h.far⟩
            · rw [← hg, pi_get, if_pos ⟨rfl, rfl⟩, List.length_append, List.length_singleton]; rfl
            · rw [List.length_append, List.length_singleton, if_neg (by decide)]
              show C.length + 1 + K.length ≤ 1 + 9 * (e.2.2 + 1) + 0
              omega
          · refine a9.trans ⟨fun k k1 k2 => by rw [pi_get, if_neg (by omega), pi_off (by decide), pi_off (by decide)], fun c k1 k2 k3 => by rw [pi_off k1, pi_off (by omega), pi_off (by omega)], fun i _ => by rw [pi_off (by decide), pi_off (by decide), pi_off (by decide)], fun i hi => ⟨?_, ?_⟩, fun _ _ _ => rfl⟩
            · rw [pi_off (by decide), pi_off (by decide), pi_get, if_neg (by omega)]
            · rw [pi_off (by decide), pi_get, if_neg (by omega), pi_off (by decide)]
        cases ha : eAsk e with
        | none =>
          have s2 : e.1.sort = 2 := by
            by_cases q : e.1.sort = 2
            · exact q
            · exact absurd ⟨q, s40, ha⟩ n1
          have ec : eCode e = [(110, N e.1.val)] := by unfold eCode; rw [ha]
          have a0 : askE e = 0 := by unfold askE; rw [ha]
          obtain ⟨z1, z2, z3⟩ := out 110 (N e.1.val) ec
          refine ⟨_, gl2, hu.trans ?_, z2, z3⟩
          rw [a0, if_pos rfl, f_X4_unit_j208, a1, Option.bind_some, if_pos rfl, if_pos rfl, if_pos rfl, h.tk.num s2]
          exact z1
        | some k =>
          have ec : eCode e = [(askc k, 0)] := by unfold eCode; rw [ha]
          have a0 : askE e = askc k := by unfold askE; rw [ha]
          have k0 : askc k ≠ 0 := by
            unfold askc
            split <;> decide
          obtain ⟨z1, z2, z3⟩ := out (askc k) 0 ec
          refine ⟨_, gl2, hu.trans ?_, z2, z3⟩
          rw [a0, if_neg k0, f_X4_unit_j208, a1, Option.bind_some, if_pos rfl, if_pos rfl, if_neg k0]
          exact z1
end P11

set_option linter.unusedVariables false
set_option linter.unusedSimpArgs false
/-! THE PLAIN LAW: the model's formula -/
section P13
variable {gi gi' : GI} {gl gl' : GL} {X : Nat → Nat} {n r f w : Nat} {K : Sk} {C : Cde} {e : Es}
theorem rank_le (e : Es) : eRank e ≤ 6 ∧ (0 < eRank e → e.1.sort ≠ 0 ∧ e.1.sort ≠ 3) ∧ (0 < eRank e → eRank e ≠ 1 → eRank e ≠ 2 → e.1.sort ≠ 0 ∧ e.1.sort ≠ 1 ∧ e.1.sort ≠ 2 ∧ e.1.sort ≠ 3) ∧ eRank e ≠ 3 := by
  unfold eRank
  by_cases a : eW e 19 = true
  · have := eW_sort a
    rw [if_pos a]; exact ⟨by decide, fun _ => by omega, fun _ _ z => absurd rfl z, by decide⟩
  · rw [if_neg a]
    by_cases b : eW e 20 = true
    · have := eW_sort b
      rw [if_pos b]; exact ⟨by decide, fun _ => by omega, fun _ z => absurd rfl z, by decide⟩
    · rw [if_neg b]
      by_cases c : (opC e).isSome = true
      · rw [if_pos c]
        have s : e.1.sort = 60 ∨ e.1.sort = 62 ∨ e.1.sort = 61 := by
          by_cases q : e.1.sort = 60 ∨ e.1.sort = 62 ∨ e.1.sort = 61
          · exact q
          · unfold opC at c; rw [if_neg q] at c; exact absurd c (by decide)
        exact ⟨by decide, fun _ => by omega, fun _ _ _ => by omega, by decide⟩
      · rw [if_neg c]
        by_cases d : (opS e).isSome = true
        · rw [if_pos d]
          have s : e.1.sort = 43 ∨ e.1.sort = 45 := by
            by_cases q : e.1.sort = 43 ∨ e.1.sort = 45
            · exact q
            · unfold opS at d; rw [if_neg q] at d; exact absurd d (by decide)
          exact ⟨by decide, fun _ => by omega, fun _ _ _ => by omega, by decide⟩
        · rw [if_neg d]
          by_cases g : (opT e).isSome = true
          · rw [if_pos g]
            have s : e.1.sort = 42 ∨ e.1.sort = 47 ∨ e.1.sort = 37 := by
              by_cases q : e.1.sort = 42 ∨ e.1.sort = 47 ∨ e.1.sort = 37
              · exact q
              · unfold opT at g; rw [if_neg q] at g; exact absurd g (by decide)
            exact ⟨by decide, fun _ => by omega, fun _ _ _ => by omega, by decide⟩
          · rw [if_neg g]; exact ⟨by decide, fun z => absurd z (by decide), fun z => absurd z (by decide), by decide⟩
/-- a fault is told, whatever else changes -/
def Bad (gi gi' : GI) (gl : GL) (r f : Nat) (y : PE) : Prop := gi' 0 4 = N y.1 ∧ gi' 0 5 = N y.2 ∧ MEx gi gi' gl gl r f
theorem bad_fault (g : GI) (ex : MEx gi g gl gl r f) (y : PE) : Bad gi (faulted g y) gl r f y := by
  refine ⟨?_, ?_, ex.trans (MEx.fault g gl r f y)⟩
  · unfold faulted; rw [pi_get, if_neg (by omega), pi_get, if_pos ⟨rfl, rfl⟩]
  · unfold faulted; rw [pi_get, if_pos ⟨rfl, rfl⟩]
/-- the next token of a running machine -/
theorem m_next {b b' : Bool} {K' : Sk} (h : MM gi gl X n r f K C w e b) (s03 : e.1.sort ≠ 0 ∧ e.1.sort ≠ 3) : ∃ g2 gl2, f_X4_goOn gi gl = some (g2, gl2) ∧ MTx g2 X n ∧ MTk g2 gl2 (lexT X n e.1.next) ∧ TOk X n (lexT X n e.1.next) ∧ (∀ k, ¬ (6 ≤ k ∧ k ≤ 9) → g2 0 k = gi 0 k) ∧ (∀ c, c ≠ 0 → g2 c = gi c) ∧ MEx gi g2 gl gl2 r f := by
  obtain ⟨p, hp, et⟩ := h.tok
  have sp := lexT_spec h.tx.txt hp
  rw [← et] at sp
  obtain ⟨n1, n2⟩ := sp.2.2 s03.2
  obtain ⟨g2, gl2, a1, a2, a3⟩ := m_goOn (gl := gl) h.tx n1 (h.tk.next s03.2)
  refine ⟨g2, gl2, a1, h.tx.go a3, a2, (h.tok.go h.tx.txt s03.1 s03.2).1, fun k hk9 => a3.own k (by omega) (by omega) (by omega) (by omega), a3.cells, ⟨fun k k1 k2 => a3.own k (by omega) (by omega) (by omega) (by omega), fun c k1 _ _ => a3.cells c k1, fun i _ => by rw [a3.cells 7 (by decide)], fun i _ => ⟨by rw [a3.cells 28 (by decide)], by rw [a3.cells 29 (by decide)]⟩, a3.gls⟩⟩
theorem m_behind (h : MM gi gl X n r f K C w e false) (b : Bot K) : match mBehind X n K C w e with
    | .inl y => (∃ v gi', f_X4_behindUnit gi gl = some (v, gi', gl) ∧ Bad gi gi' gl r f y) ∧ y = eBad e
    | .inr s => ∃ gi' gl', f_X4_behindUnit gi gl = some (b01 s.1, gi', gl') ∧ MM gi' gl' X n r f s.2.1 s.2.2.1 s.2.2.2.1 s.2.2.2.2 s.1 ∧ MEx gi gi' gl gl' r f ∧ (s.2.1 = [] ∨ Bot s.2.1 ∨ ∃ x K', (pops 0 K C w).1 = x :: K' ∧ s.2.1 = K') := by
  obtain ⟨w1, w2, w3⟩ := h.wi
  have kl := h.len.le (by omega)
  obtain ⟨r6, r03, rs, r3⟩ := rank_le e
  have rk := m_rank h.tx h.tok h.tk
  have cp := m_isCompared kl h.pil.1 h.pil.2 b
  unfold mBehind
  by_cases c4 : eRank e = 4 ∧ cmpd K = true
  · rw [if_pos c4]
    refine ⟨⟨1, faulted gi (eBad e), ?_, bad_fault gi (MEx.refl _ _ _ _) _⟩, rfl⟩
    rw [f_X4_behindUnit, rk, Option.bind_some, c4.1, if_pos (show N 4 = 4 from rfl), cp, Option.bind_some, c4.2, b01_t, if_neg (by decide), m_misplaced h.good h.tk, Option.bind_some]
  · rw [if_neg c4]
    have hu : f_X4_behindUnit gi gl = f_X4_behindUnit_j23 gi gl (N (eRank e)) := by
      rw [f_X4_behindUnit, rk, Option.bind_some, show (4 : Int32) = N 4 from rfl, if_eq (by omega) (by omega)]
      by_cases z : eRank e = 4
      · have cf : cmpd K = false := by
          rw [Bool.eq_false_iff]; exact fun q => c4 ⟨z, q⟩
        rw [if_pos z, cp, Option.bind_some, cf, b01_f, if_pos rfl]
      · rw [if_neg z]
    obtain ⟨g1, l1, mm, ex, bt, x, K2, ek, xk⟩ := m_pops (rk := eRank e) r6 h b
    rw [f_X4_behindUnit_j23, l1, Option.bind_some] at hu
    by_cases r0 : 0 < eRank e
    · rw [if_pos r0]
      generalize hK1 : (pops (eRank e) K C w).1 = K1 at mm bt ek
      generalize hC1 : (pops (eRank e) K C w).2.1 = C1 at mm
      generalize hw1 : (pops (eRank e) K C w).2.2 = w' at mm
      obtain ⟨w4, w5, w6⟩ := mm.wi
      have kl1 := mm.len.le (by omega)
      have sgn : eSign e < 256 := by
        have := (h.tok.val h.tx.txt).2.2.2
        unfold eSign
        by_cases a : eRank e = 2
        · rw [if_pos a]; decide
        · rw [if_neg a]
          by_cases c : eRank e = 1
          · rw [if_pos c]; decide
          · rw [if_neg c]; exact this
      have j138 : f_X4_behindUnit_x23 gl (N (eRank e)) g1 = f_X4_behindUnit_j138 g1 gl (N (eSign e)) (N (eRank e)) := by
        rw [f_X4_behindUnit_x23, show (0 : Int32) = N 0 from rfl, if_le (by omega) (by omega), if_neg (by omega), show (2 : Int32) = N 2 from rfl, show (1 : Int32) = N 1 from rfl, if_eq (by omega) (by omega), if_eq (by omega) (by omega)]
        unfold eSign
        by_cases a : eRank e = 2
        · rw [if_pos a, if_pos a]; rfl
        · rw [if_neg a, if_neg a]
          by_cases c : eRank e = 1
          · rw [if_pos c, if_pos c]; rfl
          · rw [if_neg c, if_neg c, m_signAt mm.tx mm.tok mm.tk (rs r0 c a), Option.bind_some]
      generalize hg2 : g_pi (g_pi (g_pi g1 30 K1.length (N (eRank e))) 31 K1.length (N (eSign e))) 0 45 (N (K1.length + 1)) = g2
      have pe : f_X4_pushE g1 (N (eRank e)) (N (eSign e)) = some g2 := by rw [m_pushE mm.pil.1 (by omega), hg2]
      have o2 : ∀ k, k ≠ 45 → g2 0 k = g1 0 k := fun k hk9 => by rw [← hg2, pi_get, if_neg (fun z => hk9 z.2), pi_off (by decide), pi_off (by decide)]
      have c2 : ∀ c, c ≠ 0 → c ≠ 30 → c ≠ 31 → g2 c = g1 c := fun c a b d => by rw [← hg2, pi_off a, pi_off d, pi_off b]
      have e30 : ∀ i, g2 30 i = if i = K1.length then N (eRank e) else g1 30 i := fun i => by
        rw [← hg2, pi_off (by decide), pi_off (by decide), pi_get]
        by_cases q : i = K1.length
        · rw [if_pos ⟨rfl, q⟩, if_pos q]
        · rw [if_neg (fun z => q z.2), if_neg q]
      have e31 : ∀ i, g2 31 i = if i = K1.length then N (eSign e) else g1 31 i := fun i => by
        rw [← hg2, pi_off (by decide), pi_get]
        by_cases q : i = K1.length
        · rw [if_pos ⟨rfl, q⟩, if_pos q]
        · rw [if_neg (fun z => q z.2), if_neg q, pi_off (by decide)]
      have ex2 : MEx g1 g2 gl gl r f := ⟨fun k k1 k2 => o2 k (by omega), fun c k1 k2 k3 => c2 c k1 (by omega) (by omega), fun i _ => by rw [c2 7 (by decide) (by decide) (by decide)], fun i _ => ⟨by rw [c2 28 (by decide) (by decide) (by decide)], by rw [c2 29 (by decide) (by decide) (by decide)]⟩, fun _ _ _ => rfl⟩
      have n7 : ¬ eRank e = 7 := by omega
      have cw : c7 ((eRank e, eSign e) :: K1) + nots ((eRank e, eSign e) :: K1) = c7 K1 + nots K1 := by
        show c7 K1 + (if eRank e = 7 then 1 else 0) + (nots K1 + (if eRank e = 3 then 1 else 0)) = _
        rw [if_neg n7, if_neg r3]; rfl
      have rm := mm.room
      have rm : C1.length + K1.length ≤ 1 + 9 * e.2.2 + 0 := rm
      have mm2 : MM g2 gl X n r f ((eRank e, eSign e) :: K1) C1 w' e true := by
        refine ⟨mm.tx.of (o2 3 (by decide)) (c2 2 (by decide) (by decide) (by decide)), ⟨by rw [o2 6 (by decide)]; exact mm.tk.place, by rw [o2 8 (by decide)]; exact mm.tk.kind, by rw [o2 7 (by decide)]; exact mm.tk.next, by rw [o2 9 (by decide)]; exact mm.tk.num, mm.tk.nam⟩, mm.tok, by rw [o2 4 (by decide)]; exact mm.good, ⟨by rw [o2 42 (by decide)]; exact mm.bank.1, mm.bank.2⟩, ⟨by rw [c2 7 (by decide) (by decide) (by decide)]; exact mm.un.1, mm.un.2⟩, ⟨by rw [o2 46 (by decide)]; exact mm.own.1, mm.own.2⟩, ⟨by rw [o2 44 (by decide)]; exact w4, by rw [cw]; exact w5, w6⟩, ⟨by rw [← hg2, pi_get, if_pos ⟨rfl, rfl⟩]; rfl, by rw [e30, if_pos rfl], by rw [e31, if_pos rfl], by show eRank e ≤ 8; omega, sgn, mm.pil.2.keep (fun i hi => ⟨by rw [e30, if_neg (by omega)], by rw [e31, if_neg (by omega)]⟩)⟩, ⟨by rw [o2 43 (by decide)]; exact mm.cod.1, mm.cod.2.keep (c2 28 (by decide) (by decide) (by decide)) (c2 29 (by decide) (by decide) (by decide))⟩, ⟨mm.len, ?_⟩, ?_, mm.far⟩
        · show K1.length + 1 ≤ 7 * (c7 K1 + (if eRank e = 7 then 1 else 0)) + (nots K1 + (if eRank e = 3 then 1 else 0)) + (if eRank e ≤ 6 then eRank e else 0) + 1
          rw [if_neg n7, if_neg r3, if_pos r6]
          have ml := mm.len
          rw [ek] at ml ⊢
          have l2 := ml.2
          have : (if x.1 ≤ 6 then x.1 else 0) + 1 ≤ eRank e := by split <;> omega
          show K2.length + 1 + 1 ≤ _
          omega
        · rw [if_pos rfl]
          show C1.length + (K1.length + 1) ≤ _
          omega
      obtain ⟨g3, gl3, a1, a2, a3, a4, a5, a6, a7⟩ := m_next (b' := true) (K' := K1) mm2 (r03 r0)
      refine ⟨g3, gl3, ?_, ⟨a2, a3, a4, by rw [a5 4 (by decide)]; exact mm2.good, ⟨by rw [a5 42 (by decide)]; exact mm2.bank.1, mm2.bank.2⟩, ⟨by rw [a6 7 (by decide)]; exact mm2.un.1, mm2.un.2⟩, ⟨by rw [a5 46 (by decide)]; exact mm2.own.1, mm2.own.2⟩, ⟨by rw [a5 44 (by decide)]; exact mm2.wi.1, mm2.wi.2⟩, ⟨by rw [a5 45 (by decide)]; exact mm2.pil.1, mm2.pil.2.keep (fun i hi => ⟨by rw [a6 30 (by decide)], by rw [a6 31 (by decide)]⟩)⟩, ⟨by rw [a5 43 (by decide)]; exact mm2.cod.1, mm2.cod.2.keep (a6 28 (by decide)) (a6 29 (by decide))⟩, mm2.len, mm2.room, mm2.far⟩, (ex.trans ex2).trans a7, Or.inr (Or.inl (Or.inr bt))⟩
      rw [hu, j138, f_X4_behindUnit_j138, pe, Option.bind_some, a1, Option.bind_some]
      rfl
    · rw [if_neg r0]
      have z0 : eRank e = 0 := by omega
      rw [z0] at hu mm bt ek xk
      unfold mEnd
      have hps := ek
      rw [ek]
      dsimp only
      generalize hC1 : (pops 0 K C w).2.1 = C1 at mm
      generalize hw1 : (pops 0 K C w).2.2 = w' at mm
      rw [ek] at mm bt
      obtain ⟨w4, w5, w6⟩ := mm.wi
      obtain ⟨p1, p2, p3, p4, p5⟩ := mm.pil.2
      have kl1 : K2.length + 1 ≤ 56 := mm.len.le (by omega)
      have p45 : g1 0 45 = N (K2.length + 1) := mm.pil.1
      have lenN : N (K2.length + 1) - 1 = N K2.length := by rw [show (1 : Int32) = N 1 from rfl, N_sub (by omega)]; rfl
      have rm : C1.length + (K2.length + 1) ≤ 1 + 9 * e.2.2 + 0 := mm.room
      have w5 : w' = c7 K2 + (if x.1 = 7 then 1 else 0) + (nots K2 + (if x.1 = 3 then 1 else 0)) := w5
      rw [if_neg (show ¬ x.1 = 3 by omega)] at w5
      generalize hg2 : g_pi g1 0 45 (N K2.length) = g2
      have o2 : ∀ k, k ≠ 45 → g2 0 k = g1 0 k := fun k hk9 => by rw [← hg2, pi_get, if_neg (fun z => hk9 z.2)]
      have c2 : ∀ c, c ≠ 0 → g2 c = g1 c := fun c a => by rw [← hg2, pi_off a]
      have v45 : g2 0 45 = N K2.length := by rw [← hg2, pi_get, if_pos ⟨rfl, rfl⟩]
      have ex2 : MEx g1 g2 gl gl r f := ⟨fun k k1 k2 => o2 k (by omega), fun c k1 k2 k3 => c2 c k1, fun i _ => by rw [c2 7 (by decide)], fun i _ => ⟨by rw [c2 28 (by decide)], by rw [c2 29 (by decide)]⟩, fun _ _ _ => rfl⟩
      have hu2 : f_X4_behindUnit gi gl = if x.1 = 7 then ((some (g_pi g2 0 44 ((g2 0 44) - 1))).bind fun gi11 => (f_X4_isSignHere gi11 41).bind fun q12 => (f_X4_must gi11 gl q12).bind fun q13 => some (0, q13.1, q13.2)) else some (0, g2, gl) := by
        rw [hu, f_X4_behindUnit_x23, if_pos (by decide), p45, lenN, Option.bind_some, hg2, v45, N_ld (by omega) (by decide), Option.bind_some, c2 30 (by decide), p1, show (7 : Int32) = N 7 from rfl, if_eq (by omega) (by omega)]
      by_cases x7 : x.1 = 7
      · rw [if_pos x7] at hu2 w5 ⊢
        have w44 : g2 0 44 = N w' := by rw [o2 44 (by decide)]; exact w4
        generalize hg3 : g_pi g2 0 44 (N (w' - 1)) = g3
        have w44' : g_pi g2 0 44 ((g2 0 44) - 1) = g3 := by rw [w44, show (1 : Int32) = N 1 from rfl, N_sub (by omega), hg3]
        rw [w44', Option.bind_some] at hu2
        have o3 : ∀ k, k ≠ 44 → k ≠ 45 → g3 0 k = g1 0 k := fun k k1 k2 => by rw [← hg3, pi_get, if_neg (fun z => k1 z.2), o2 k k2]
        have c3 : ∀ c, c ≠ 0 → g3 c = g1 c := fun c a => by rw [← hg3, pi_off a, c2 c a]
        have ex3 : MEx g1 g3 gl gl r f := ⟨fun k k1 k2 => o3 k (by omega) (by omega), fun c k1 k2 k3 => c3 c k1, fun i _ => by rw [c3 7 (by decide)], fun i _ => ⟨by rw [c3 28 (by decide)], by rw [c3 29 (by decide)]⟩, fun _ _ _ => rfl⟩
        have mm3 : MM g3 gl X n r f K2 C1 (w' - 1) e false := by
          refine ⟨mm.tx.of (o3 3 (by decide) (by decide)) (c3 2 (by decide)), ⟨by rw [o3 6 (by decide) (by decide)]; exact mm.tk.place, by rw [o3 8 (by decide) (by decide)]; exact mm.tk.kind, by rw [o3 7 (by decide) (by decide)]; exact mm.tk.next, by rw [o3 9 (by decide) (by decide)]; exact mm.tk.num, mm.tk.nam⟩, mm.tok, by rw [o3 4 (by decide) (by decide)]; exact mm.good, ⟨by rw [o3 42 (by decide) (by decide)]; exact mm.bank.1, mm.bank.2⟩, ⟨by rw [c3 7 (by decide)]; exact mm.un.1, mm.un.2⟩, ⟨by rw [o3 46 (by decide) (by decide)]; exact mm.own.1, mm.own.2⟩, ⟨by rw [← hg3, pi_get, if_pos ⟨rfl, rfl⟩], by omega, by omega⟩, ⟨by rw [← hg3, pi_get, if_neg (by omega)]; exact v45, p5.keep (fun i hi => ⟨by rw [c3 30 (by decide)], by rw [c3 31 (by decide)]⟩)⟩, ⟨by rw [o3 43 (by decide) (by decide)]; exact mm.cod.1, mm.cod.2.keep (c3 28 (by decide)) (c3 29 (by decide))⟩, mm.len.1, ?_, mm.far⟩
          rw [if_neg (by decide)]
          omega
        have sg : f_X4_isSignHere g3 41 = some (if e.1.sort = 41 then 1 else 0) := m_isSign mm3.tx mm3.tok mm3.tk (c := 41) (by decide)
        rw [sg, Option.bind_some, f_X4_must, m_isOk mm3.good, Option.bind_some, if_neg (by decide)] at hu2
        by_cases s41 : e.1.sort = 41
        · rw [if_pos s41, if_neg (by decide)] at hu2
          rw [if_pos s41]
          obtain ⟨g4, gl4, a1, a2, a3, a4, a5, a6, a7⟩ := m_next (b' := true) (K' := K2) mm3 ⟨by omega, by omega⟩
          refine ⟨g4, gl4, ?_, ⟨a2, a3, a4, by rw [a5 4 (by decide)]; exact mm3.good, ⟨by rw [a5 42 (by decide)]; exact mm3.bank.1, mm3.bank.2⟩, ⟨by rw [a6 7 (by decide)]; exact mm3.un.1, mm3.un.2⟩, ⟨by rw [a5 46 (by decide)]; exact mm3.own.1, mm3.own.2⟩, ⟨by rw [a5 44 (by decide)]; exact mm3.wi.1, mm3.wi.2⟩, ⟨by rw [a5 45 (by decide)]; exact mm3.pil.1, mm3.pil.2.keep (fun i hi => ⟨by rw [a6 30 (by decide)], by rw [a6 31 (by decide)]⟩)⟩, ⟨by rw [a5 43 (by decide)]; exact mm3.cod.1, mm3.cod.2.keep (a6 28 (by decide)) (a6 29 (by decide))⟩, mm3.len, mm3.room, mm3.far⟩, (ex.trans ex3).trans a7, Or.inr (Or.inr ⟨x, K2, rfl, rfl⟩)⟩
          rw [hu2, a1, Option.bind_some, Option.bind_some]
          rfl
        · rw [if_neg s41, if_pos rfl, m_misplaced mm3.good mm3.tk, Option.bind_some, Option.bind_some] at hu2
          rw [if_neg s41]
          exact ⟨⟨0, faulted g3 (eBad e), hu2, bad_fault g3 (ex.trans ex3) _⟩, rfl⟩
      · rw [if_neg x7] at hu2 w5 ⊢
        refine ⟨g2, gl, hu2, ⟨mm.tx.of (o2 3 (by decide)) (c2 2 (by decide)), ⟨by rw [o2 6 (by decide)]; exact mm.tk.place, by rw [o2 8 (by decide)]; exact mm.tk.kind, by rw [o2 7 (by decide)]; exact mm.tk.next, by rw [o2 9 (by decide)]; exact mm.tk.num, mm.tk.nam⟩, mm.tok, by rw [o2 4 (by decide)]; exact mm.good, ⟨by rw [o2 42 (by decide)]; exact mm.bank.1, mm.bank.2⟩, ⟨by rw [c2 7 (by decide)]; exact mm.un.1, mm.un.2⟩, ⟨by rw [o2 46 (by decide)]; exact mm.own.1, mm.own.2⟩, ⟨by rw [o2 44 (by decide)]; exact w4, by omega, w6⟩, ⟨v45, p5.keep (fun i hi => ⟨by rw [c2 30 (by decide)], by rw [c2 31 (by decide)]⟩)⟩, ⟨by rw [o2 43 (by decide)]; exact mm.cod.1, mm.cod.2.keep (c2 28 (by decide)) (c2 29 (by decide))⟩, mm.len.1, ?_, mm.far⟩, ex.trans ex2, Or.inr (Or.inr ⟨x, K2, rfl, rfl⟩)⟩
        show C1.length + K2.length ≤ 1 + 9 * e.2.2 + 0
        omega
end P13

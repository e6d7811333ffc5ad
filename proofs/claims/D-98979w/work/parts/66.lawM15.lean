set_option linter.unusedVariables false
set_option linter.unusedSimpArgs false
/-! THE PLAIN LAW: two who pool, of the model -/
theorem POk.ly {B : Bk} (hB : B.Ok) {P : Nat → Int32} (h : POk B P) {m : Nat} (hm : m < B.nm) {r : Row} (hw : Rw B.nk r) : POk B (lyR B m (Row.at r) 1 P) := by
  have h5 := hB.nm
  have off : ∀ j, j < 20 ∨ 35 ≤ j → lyR B m (Row.at r) 1 P j = P j := fun j hj => layR_off B m hm h5 _ _ _ j hj
  refine ⟨fun j hj => by rw [off j (by omega)]; exact h.purse j hj, fun k hk => by rw [off _ (by omega)]; exact h.spent k hk, lyR_over0 hw h.over0, fun k hk => by rw [off _ (by omega)]; exact h.crop k hk, by rw [off _ (by omega)]; exact h.week, by rw [off _ (by omega)]; exact h.seed⟩
theorem leftN_ly {B : Bk} (hB : B.Ok) (P : Nat → Int32) {m : Nat} (hm : m < B.nm) (f : Nat → Int32) (w : Int32) (o : Nat) : leftN B (lyR B m f w P) o = leftN B P o := by
  unfold leftN pn
  rw [layR_off B m hm hB.nm _ _ _ _ (by omega)]
theorem bothR_Rw {B : Bk} {P : Nat → Int32} {m o L : Nat} {r : Row} (h : Row.In (bothR B P m o) L r) : Rw B.nk r := by
  obtain ⟨h1, h2, h3, _⟩ := h
  simp only [bothR, mx] at h1 h2 h3
  refine ⟨fun q => ?_, fun q => ?_, fun q => ?_⟩
  · rw [if_neg (by omega), if_neg (by omega)] at h3; omega
  · rw [if_neg (by omega), if_neg (by omega)] at h2; omega
  · rw [if_neg (by omega), if_neg (by omega)] at h1; omega
theorem lessR_Rw {B : Bk} {P : Nat → Int32} {m o L : Nat} {r q : Row} (h : Row.In (lessR (bothR B P m o) r) L q) : Rw B.nk q := by
  refine bothR_Rw (P := P) (m := m) (o := o) (L := L) ?_
  obtain ⟨h1, h2, h3, h4⟩ := h
  simp only [lessR] at h1 h2 h3
  exact ⟨by omega, by omega, by omega, h4⟩
theorem least_few {n : Nat} (h : n ≤ 8) : least 3 (N n) = N (few n) := by
  unfold least few
  rw [show (3 : Int32) = N 3 from rfl, if_le (by omega) (by decide)]
  by_cases q : n ≤ 3
  · rw [if_pos q]
    by_cases q2 : n < 3
    · rw [if_pos q2]
    · rw [if_neg q2, show n = 3 by omega]
  · rw [if_neg q, if_neg (by omega)]
abbrev PIo (gi : GI) (B : Bk) (m o : Nat) (gj : GI) (b : Option Two) : Prop := (∀ k, k ≠ 47 → k ≠ 62 → k ≠ 63 → gj 0 k = gi 0 k) ∧ (∀ c, c ≠ 0 → c ≠ 32 → c ≠ 33 → c ≠ 35 → c ≠ 37 → c ≠ 39 → c ≠ 40 → c ≠ 41 → gj c = gi c) ∧ (rowIs gj 40 (bothR B (gi 33) m o)) ∧ ((b = none ∧ gj 0 62 = -1) ∨ ∃ p, b = some p ∧ gj 0 62 = N (Two.sum p) ∧ gj 0 63 = poolG B (gi 33) m o p ∧ (∀ i, i < 2 * B.nk → gj 37 i = poolL B.nk p i))
theorem PIo.own {gi : GI} {B : Bk} {m o : Nat} {gj : GI} {b : Option Two} (h : PIo gi B m o gj b) : ∀ k, k ≠ 47 → k ≠ 62 → k ≠ 63 → gj 0 k = gi 0 k := h.1
theorem PIo.cells {gi : GI} {B : Bk} {m o : Nat} {gj : GI} {b : Option Two} (h : PIo gi B m o gj b) : ∀ c, c ≠ 0 → c ≠ 32 → c ≠ 33 → c ≠ 35 → c ≠ 37 → c ≠ 39 → c ≠ 40 → c ≠ 41 → gj c = gi c := h.2.1
theorem PIo.both {gi : GI} {B : Bk} {m o : Nat} {gj : GI} {b : Option Two} (h : PIo gi B m o gj b) : rowIs gj 40 (bothR B (gi 33) m o) := h.2.2.1
theorem PIo.so {gi : GI} {B : Bk} {m o : Nat} {gj : GI} {b : Option Two} (h : PIo gi B m o gj b) : (b = none ∧ gj 0 62 = -1) ∨ ∃ p, b = some p ∧ gj 0 62 = N (Two.sum p) ∧ gj 0 63 = poolG B (gi 33) m o p ∧ (∀ i, i < 2 * B.nk → gj 37 i = poolL B.nk p i) := h.2.2.2
theorem PIo.fr {gi : GI} {B : Bk} {m o : Nat} {gj : GI} {b : Option Two} (h : PIo gi B m o gj b) : Fr gi gj := ⟨h.own 41 (by decide) (by decide) (by decide), fun c h1 h2 => h.cells c (by omega) (by omega) (by omega) (by omega) (by omega) (by omega) (by omega) (by omega)⟩
/-- cells that are not of the pool's changed -/
theorem PIo.keep {gi : GI} {B : Bk} {m o : Nat} {gj gk : GI} {b : Option Two} (h : PIo gi B m o gj b) (h0 : ∀ k, k ≠ 47 → gk 0 k = gj 0 k) (hc : ∀ c, c ≠ 0 → c ≠ 32 → c ≠ 33 → c ≠ 35 → c ≠ 39 → c ≠ 41 → gk c = gj c) : PIo gi B m o gk b := by
  refine ⟨fun k a1 a2 a3 => by rw [h0 k a1]; exact h.own k a1 a2 a3, fun c a1 a2 a3 a4 a5 a6 a7 a8 => by rw [hc c a1 a2 a3 a4 a6 a8]; exact h.cells c a1 a2 a3 a4 a5 a6 a7 a8, ?_, ?_⟩
  · unfold rowIs
    rw [hc 40 (by decide) (by decide) (by decide) (by decide) (by decide) (by decide)]; exact h.both
  · rw [h0 62 (by decide), h0 63 (by decide), hc 37 (by decide) (by decide) (by decide) (by decide) (by decide) (by decide)]; exact h.so
/-- the other one's loop -/
abbrev PJo (gi : GI) (B : Bk) (m o : Nat) (r1 : Row) (gj : GI) (b : Option Two) : Prop := (PIo gi B m o gj b) ∧ (gj 33 = lyR B m (Row.at r1) 1 (gi 33)) ∧ (rowIs gj 39 r1) ∧ (rowIs gj 41 (lessR (bothR B (gi 33) m o) r1))
theorem PJo.pi {gi : GI} {B : Bk} {m o : Nat} {r1 : Row} {gj : GI} {b : Option Two} (h : PJo gi B m o r1 gj b) : PIo gi B m o gj b := h.1
theorem PJo.all {gi : GI} {B : Bk} {m o : Nat} {r1 : Row} {gj : GI} {b : Option Two} (h : PJo gi B m o r1 gj b) : gj 33 = lyR B m (Row.at r1) 1 (gi 33) := h.2.1
theorem PJo.first {gi : GI} {B : Bk} {m o : Nat} {r1 : Row} {gj : GI} {b : Option Two} (h : PJo gi B m o r1 gj b) : rowIs gj 39 r1 := h.2.2.1
theorem PJo.rest {gi : GI} {B : Bk} {m o : Nat} {r1 : Row} {gj : GI} {b : Option Two} (h : PJo gi B m o r1 gj b) : rowIs gj 41 (lessR (bothR B (gi 33) m o) r1) := h.2.2.2
def LPo (gi : GI) (B : Bk) (m o : Nat) (r1 : Row) (n : Nat) (s : Int32 × GI) : Prop :=
  (s.1 = 1 ∧ ∃ cur b, n = 1001 - Row.code cur ∧ PJo gi B m o r1 s.2 b ∧ rowIs s.2 35 cur ∧ Row.In (lessR (bothR B (gi 33) m o) r1) (few (leftN B (gi 33) o)) cur ∧ PB B (gi 33) m o (Two.code (r1, cur)) b) ∨
  (s.1 = 0 ∧ n = 0 ∧ ∃ b, PJo gi B m o r1 s.2 b ∧ PB B (gi 33) m o (1000 * Row.code r1 + 1000) b)
theorem bothR_le {B : Bk} {P : Nat → Int32} (hP : POk B P) {m o : Nat} (hm : m < 5) (ho : o < 5) : (bothR B P m o).1 ≤ 198 ∧ (bothR B P m o).2.1 ≤ 198 ∧ (bothR B P m o).2.2 ≤ 198 := by
  have h1 := (hP.pu (show 3 * m < 15 by omega)).2
  have h2 := (hP.pu (show 3 * m + 1 < 15 by omega)).2
  have h3 := (hP.pu (show 3 * m + 2 < 15 by omega)).2
  have g1 := (hP.pu (show 3 * o < 15 by omega)).2
  have g2 := (hP.pu (show 3 * o + 1 < 15 by omega)).2
  have g3 := (hP.pu (show 3 * o + 2 < 15 by omega)).2
  unfold bothR mx
  refine ⟨?_, ?_, ?_⟩ <;> simp only <;> split <;> omega
section M15
variable {gi : GI} {B : Bk} {m o : Nat} {r1 : Row}
theorem pool_next (bk : MBk gi B) (hP : POk B (gi 33)) (hm : m < B.nm) (ho : o < B.nm) (hin1 : Row.In (bothR B (gi 33) m o) (few (leftN B (gi 33) m)) r1) {gj : GI} {b : Option Two} {cur : Row} (h : PJo gi B m o r1 gj b) (hr : rowIs gj 35 cur) (hin : Row.In (lessR (bothR B (gi 33) m o) r1) (few (leftN B (gi 33) o)) cur) (hb : PB B (gi 33) m o (Two.code (r1, cur) + 1) b) (x3 : Int32) : ∃ s', f_X4_layOther_j170 (N m) (N o) x3 gj = some (.inl s') ∧ ∃ n', n' < 1001 - Row.code cur ∧ LPo gi B m o r1 n' s' := by
  have h5 := bk.ok.nm
  have hL := leftN_le bk.ok (gi 33) o
  have f3 := few_le (leftN B (gi 33) o)
  have bj := h.pi.fr.book bk
  have hw := bothR_Rw hin1
  have bl := bothR_le hP (show m < 5 by omega) (show o < 5 by omega)
  obtain ⟨c1, c2, c3, c4, c5⟩ := In3 f3 hin
  obtain ⟨gk, k1, k2, k3⟩ := m_nextRow (gi := gj) (a := 41) ⟨by decide, rfl, by decide⟩ h.rest hr (L := few (leftN B (gi 33) o)) (by simp only [lessR]; omega) (by omega) (by omega)
  have el : leftN B (gj 33) o = leftN B (gi 33) o := by rw [h.all, leftN_ly bk.ok _ hm]
  rw [f_X4_layOther_j170, m_leftOf bj (by rw [h.all]; exact hP.ly bk.ok hm hw) (by omega), Option.bind_some, m_lesser, Option.bind_some, el, least_few hL, k1, Option.bind_some]
  refine ⟨_, rfl, ?_⟩
  have hk : PJo gi B m o r1 gk b := by
    refine ⟨h.pi.keep (fun k _ => by rw [k3 0 (by decide)]) (fun c _ _ _ a _ _ => k3 c a), by rw [k3 33 (by decide)]; exact h.all, ?_, ?_⟩
    · unfold rowIs; rw [k3 39 (by decide)]; exact h.first
    · unfold rowIs; rw [k3 41 (by decide)]; exact h.rest
  match hn : nxt (lessR (bothR B (gi 33) m o) r1) (few (leftN B (gi 33) o)) cur with
  | (r', true) =>
    rw [hn] at k2
    obtain ⟨n1, n2, n3⟩ := nxt_true (by omega) hin hn
    refine ⟨1001 - Row.code r', by omega, Or.inl ⟨by simp, r', b, rfl, hk, k2, n1, hb.up (by simp only [Two.code]; omega) ?_⟩⟩
    intro p hp hc
    have q1 := hp.b1
    have q2 := hp.b2
    have q3 := In3 (few_le _) hin1
    have q4 := In3 f3 n1
    simp only [Two.code] at hc ⊢
    by_cases e : Row.code p.1 = Row.code r1
    · have e1 : p.1 = r1 := code3_inj ⟨q1.1, q1.2.1, q1.2.2.1⟩ ⟨q3.1, q3.2.1, q3.2.2.1⟩ e
      have := n3 p.2 (by rw [← e1]; exact hp.2) (by omega)
      omega
    · omega
  | (r', false) =>
    obtain ⟨n1, n2⟩ := nxt_false (by omega) hin hn
    refine ⟨0, by omega, Or.inr ⟨by simp, rfl, b, hk, hb.up (by simp only [Two.code]; omega) ?_⟩⟩
    intro p hp hc
    have q1 := hp.b1
    have q2 := hp.b2
    have q3 := In3 (few_le _) hin1
    simp only [Two.code] at hc ⊢
    by_cases e : Row.code p.1 = Row.code r1
    · have e1 : p.1 = r1 := code3_inj ⟨q1.1, q1.2.1, q1.2.2.1⟩ ⟨q3.1, q3.2.1, q3.2.2.1⟩ e
      have := n2 p.2 (by rw [← e1]; exact hp.2)
      omega
    · omega
theorem pool_take (bk : MBk gi B) (hP : POk B (gi 33)) (hm : m < B.nm) (ho : o < B.nm) (hin1 : Row.In (bothR B (gi 33) m o) (few (leftN B (gi 33) m)) r1) {gj : GI} {b : Option Two} {cur : Row} (h : PJo gi B m o r1 gj b) (hr : rowIs gj 35 cur) (hin : Row.In (lessR (bothR B (gi 33) m o) r1) (few (leftN B (gi 33) o)) cur) (hb : PB B (gi 33) m o (Two.code (r1, cur) + 1) (some (r1, cur))) (x3 : Int32) : ∃ s', f_X4_layOther_j132 (N m) (N o) x3 gj (poolG B (gi 33) m o (r1, cur)) (N (Two.sum (r1, cur))) = some (.inl s') ∧ ∃ n', n' < 1001 - Row.code cur ∧ LPo gi B m o r1 n' s' := by
  have h3 := bk.ok.nk
  have bj := h.pi.fr.book bk
  rw [f_X4_layOther_j132, Option.bind_some, Option.bind_some]
  generalize hg1 : g_pi (g_pi gj 0 63 (poolG B (gi 33) m o (r1, cur))) 0 62 (N (Two.sum (r1, cur))) = g1
  have e1 : ∀ c, c ≠ 0 → g1 c = gj c := fun c hc => by rw [← hg1, pi_off hc, pi_off hc]
  have e0 : ∀ k, k ≠ 62 → k ≠ 63 → g1 0 k = gj 0 k := fun k a1 a2 => by rw [← hg1, pi_get, if_neg (by omega), pi_get, if_neg (by omega)]
  have b1 : MBk g1 B := (show Fr gj g1 from ⟨e0 41 (by decide) (by decide), fun c h1 h2 => e1 c (by omega)⟩).book bj
  have s1 : f_X4_showRow g1 39 0 = some (va_up g1 37 (cpo (g1 37) (g1 39) 0 B.nk)) := m_showRow b1 (a := 39) (o := 0) ⟨by decide, rfl, by decide⟩ (by decide)
  generalize hg2 : va_up g1 37 (cpo (g1 37) (g1 39) 0 B.nk) = g2 at s1
  have e2 : ∀ c, c ≠ 37 → g2 c = g1 c := fun c hc => by rw [← hg2, up_ne _ _ _ hc]
  have b2 : MBk g2 B := (show Fr g1 g2 from ⟨by rw [e2 0 (by decide)], fun c h1 h2 => e2 c (by omega)⟩).book b1
  have s2 := m_showRow b2 (a := 35) (o := B.nk) ⟨by decide, rfl, by decide⟩ (by omega)
  rw [s1, Option.bind_some, m_nk b2, Option.bind_some, s2, Option.bind_some]
  generalize hg3 : va_up g2 37 (cpo (g2 37) (g2 35) B.nk B.nk) = g3
  have e3 : ∀ c, c ≠ 37 → g3 c = g2 c := fun c hc => by rw [← hg3, up_ne _ _ _ hc]
  refine pool_next bk hP hm ho hin1 (b := some (r1, cur)) ⟨⟨?_, ?_, ?_, Or.inr ⟨(r1, cur), rfl, ?_, ?_, ?_⟩⟩, ?_, ?_, ?_⟩ ?_ hin hb x3
  · intro k a1 a2 a3
    rw [e3 0 (by decide), e2 0 (by decide), e0 k a2 a3]; exact h.pi.own k a1 a2 a3
  · intro c a1 a2 a3 a4 a5 a6 a7 a8
    rw [e3 c a5, e2 c a5, e1 c a1]; exact h.pi.cells c a1 a2 a3 a4 a5 a6 a7 a8
  · unfold rowIs
    rw [e3 40 (by decide), e2 40 (by decide), e1 40 (by decide)]; exact h.pi.both
  · rw [e3 0 (by decide), e2 0 (by decide), ← hg1]; simp [pi_get]
  · rw [e3 0 (by decide), e2 0 (by decide), ← hg1]; simp [pi_get]
  · intro i hi
    rw [← hg3, up_same]
    unfold cpo poolL
    by_cases q : i < B.nk
    · rw [if_neg (by omega), if_pos q, ← hg2, up_same, cpo, if_pos (by omega), Nat.sub_zero, e1 39 (by decide)]
      exact h.first.at i (by omega)
    · rw [if_pos (by omega), if_neg q, e2 35 (by decide), e1 35 (by decide)]
      exact hr.at (i - B.nk) (by omega)
  · rw [e3 33 (by decide), e2 33 (by decide), e1 33 (by decide)]; exact h.all
  · unfold rowIs
    rw [e3 39 (by decide), e2 39 (by decide), e1 39 (by decide)]; exact h.first
  · unfold rowIs
    rw [e3 41 (by decide), e2 41 (by decide), e1 41 (by decide)]; exact h.rest
  · unfold rowIs
    rw [e3 35 (by decide), e2 35 (by decide), e1 35 (by decide)]; exact hr
theorem m_layOther (bk : MBk gi B) (hP : POk B (gi 33)) (hm : m < B.nm) (ho : o < B.nm) (hin1 : Row.In (bothR B (gi 33) m o) (few (leftN B (gi 33) m)) r1) {gj : GI} {b : Option Two} (h : PIo gi B m o gj b) (h33 : gj 33 = lyR B m (Row.at r1) 1 (gi 33)) (hf : rowIs gj 39 r1) (hb : PB B (gi 33) m o (1000 * Row.code r1) b) : ∃ gk b', f_X4_layOther gj (N m) (N o) (N (Row.sum r1)) = some gk ∧ PIo gi B m o gk b' ∧ gk 33 = lyR B m (Row.at r1) 1 (gi 33) ∧ rowIs gk 39 r1 ∧ PB B (gi 33) m o (1000 * Row.code r1 + 1000) b' := by
  have h5 := bk.ok.nm
  have hw := bothR_Rw hin1
  have r13 := In3 (few_le _) hin1
  have hbo := h.both
  have st : ∀ (gk : GI) (k : Nat), k < 3 → f_X4_layOther_l3 (N m) (N o) (N (Row.sum r1)) (N k) gk = some (.inl (N (k + 1), g_pi gk 41 k (gk 40 k - gk 39 k))) := by
    intro gk k hk
    rw [f_X4_layOther_l3, show (3 : Int32) = N 3 from rfl, if_le (by omega) (by omega), if_neg (by omega), N_ld hk (by decide), Option.bind_some, N_ld hk (by decide), Option.bind_some, N_st hk (by decide), Option.bind_some, show (1 : Int32) = N 1 from rfl, N_add]
  have lp := lp_3 (body := fun (s : Int32 × GI) => f_X4_layOther_l3 (N m) (N o) (N (Row.sum r1)) s.1 s.2) (s0 := (0, gj)) (st gj 0 (by decide)) (st _ 1 (by decide)) (st _ 2 (by decide)) rfl
  rw [f_X4_layOther, lp, Option.bind_some, f_X4_layOther_x3, m_noRow, Option.bind_some]
  generalize hg1 : g_pi (g_pi (g_pi (g_pi (g_pi (g_pi gj 41 0 (gj 40 0 - gj 39 0)) 41 1 (g_pi gj 41 0 (gj 40 0 - gj 39 0) 40 1 - g_pi gj 41 0 (gj 40 0 - gj 39 0) 39 1)) 41 2 (g_pi (g_pi gj 41 0 (gj 40 0 - gj 39 0)) 41 1 (g_pi gj 41 0 (gj 40 0 - gj 39 0) 40 1 - g_pi gj 41 0 (gj 40 0 - gj 39 0) 39 1) 40 2 - g_pi (g_pi gj 41 0 (gj 40 0 - gj 39 0)) 41 1 (g_pi gj 41 0 (gj 40 0 - gj 39 0) 40 1 - g_pi gj 41 0 (gj 40 0 - gj 39 0) 39 1) 39 2)) 35 0 0) 35 1 0) 35 2 0 = g1
  have ec : ∀ c, c ≠ 35 → c ≠ 41 → g1 c = gj c := fun c a1 a2 => by rw [← hg1, pi_off a1, pi_off a1, pi_off a1, pi_off a2, pi_off a2, pi_off a2]
  have p1 : PIo gi B m o g1 b := h.keep (fun k _ => by rw [ec 0 (by decide) (by decide)]) (fun c _ _ _ a4 _ a6 => ec c a4 a6)
  have hz : rowIs g1 35 (0, 0, 0) := by
    rw [← hg1]; refine ⟨?_, ?_, ?_⟩ <;> simp [pi_get] <;> rfl
  have hrest : rowIs g1 41 (lessR (bothR B (gi 33) m o) r1) := by
    obtain ⟨i1, i2, i3, _⟩ := hin1
    obtain ⟨f1, f2, f3⟩ := hf
    obtain ⟨d1, d2, d3⟩ := hbo
    rw [← hg1]
    refine ⟨?_, ?_, ?_⟩ <;> simp only [pi_get, lessR] <;> simp
    · rw [d1, f1, N_sub i1]
    · rw [d2, f2, N_sub i2]
    · rw [d3, f3, N_sub i3]
  have j1 : PJo gi B m o r1 g1 b := ⟨p1, by rw [ec 33 (by decide) (by decide)]; exact h33, by unfold rowIs; rw [ec 39 (by decide) (by decide)]; exact hf, hrest⟩
  obtain ⟨gk, k1, b', k2, k3⟩ := loop_J (body := fun (s : Int32 × GI) => f_X4_layOther_l44 (N m) (N o) (N (Row.sum r1)) s.1 s.2) (LPo gi B m o r1) (fun gk => ∃ b', PJo gi B m o r1 gk b' ∧ PB B (gi 33) m o (1000 * Row.code r1 + 1000) b') (by
    rintro n ⟨x4, gj⟩ (⟨e1, cur, b, e2, hj, hr, hin, hb⟩ | ⟨e1, e2, b, hj, hb⟩)
    · left
      dsimp only at e1 hj hr hb ⊢
      subst e1 e2
      have cur3 := In3 (few_le _) hin
      have hw2 := lessR_Rw hin
      have hv : poolV B (gi 33) m o (r1, cur) := ⟨hin1, hin⟩
      have bj := hj.pi.fr.book bk
      have hat : lyR B o (gj 35) 1 (gj 33) = poolP B (gi 33) m o (r1, cur) := by
        rw [hj.all]; exact layR_same B o (fun k hk => hr.at k hk) 1 _
      have b4 := (Fr.all gj (lyR B o (gj 35) 1 (gj 33))).book bj
      obtain ⟨g5, k1, k2⟩ := m_growthOf b4 (show m < 5 by omega)
      have b5 := k2.fr.book b4
      have f33 : g5 33 = lyR B o (gj 35) 1 (gj 33) := by rw [k2.2 33 (by decide) (by decide), all_get]
      obtain ⟨g6, l1, l2⟩ := m_growthOf b5 (show o < 5 by omega)
      have b6 := l2.fr.book b5
      have h33 : g6 33 = lyR B o (gj 35) 1 (gj 33) := by rw [l2.2 33 (by decide) (by decide), f33]
      have h35 : g6 35 = gj 35 := by rw [l2.2 35 (by decide) (by decide), k2.2 35 (by decide) (by decide), all_ne _ _ _ (by decide)]
      have ek : growth B (va_up gj 33 (lyR B o (gj 35) 1 (gj 33)) 33) m + growth B (g5 33) o = poolG B (gi 33) m o (r1, cur) := by
        rw [all_get, f33, hat]; rfl
      rw [f_X4_layOther_l44, if_neg (show ¬ ((1 : Int32) = 0) by decide), m_layRow bj ho, Option.bind_some, k1, Option.bind_some, l1, Option.bind_some, m_layRow b6 ho, Option.bind_some, h33, h35, layR_back]
      have e6 : ∀ c, c ≠ 0 → c ≠ 32 → va_up g6 33 (gj 33) c = gj c := by
        intro c a1 a2
        by_cases hc : c = 33
        · subst hc; rw [all_get]
        · rw [all_ne _ _ _ hc, l2.2 c a1 a2, k2.2 c a1 a2, all_ne _ _ _ hc]
      have e60 : ∀ k, k ≠ 47 → va_up g6 33 (gj 33) 0 k = gj 0 k := by
        intro k a1
        rw [all_ne _ _ _ (by decide), l2.1 k a1, k2.1 k a1, all_ne _ _ _ (by decide)]
      generalize va_up g6 33 (gj 33) = g7 at e6 e60
      have j7 : PJo gi B m o r1 g7 b := ⟨hj.pi.keep e60 (fun c a1 a2 _ _ _ _ => e6 c a1 a2), by rw [e6 33 (by decide) (by decide)]; exact hj.all, by unfold rowIs; rw [e6 39 (by decide) (by decide)]; exact hj.first, by unfold rowIs; rw [e6 41 (by decide) (by decide)]; exact hj.rest⟩
      have r7 : rowIs g7 35 cur := by unfold rowIs; rw [e6 35 (by decide) (by decide)]; exact hr
      have hs : N (Row.sum r1) + g7 35 0 + g7 35 1 + g7 35 2 = N (Two.sum (r1, cur)) := by
        rw [r7.1, r7.2.1, r7.2.2, N_add, N_add, N_add]
        show N (Row.sum r1 + cur.1 + cur.2.1 + cur.2.2) = N (Row.sum r1 + (cur.1 + cur.2.1 + cur.2.2))
        congr 1
        omega
      have s6 : Two.sum (r1, cur) ≤ 6 := by unfold Two.sum; show Row.sum r1 + Row.sum cur ≤ 6; omega
      dsimp only
      rw [ek, show (0 : Int32) = N 0 from rfl, N_ld (by decide) (by decide), Option.bind_some, show (1 : Int32) = N 1 from rfl, N_ld (by decide) (by decide), Option.bind_some, show (2 : Int32) = N 2 from rfl, N_ld (by decide) (by decide), Option.bind_some, hs]
      rcases j7.pi.so with ⟨q1, q2⟩ | ⟨p, q1, q2, q3, q4⟩
      · rw [q2, if_pos (by decide)]
        refine pool_take bk hP hm ho hin1 j7 r7 hin (PB.take hv hb (fun r hr' => ?_)) _
        rw [q1] at hr'; cases hr'
      · subst q1
        have hp := hb.mem
        have sp := (hp.1.key hp.1).2.1
        rw [q2, q3, if_lt (by omega) (by omega), if_neg (by omega)]
        by_cases w1 : poolG B (gi 33) m o p < poolG B (gi 33) m o (r1, cur)
        · rw [if_pos w1]
          exact pool_take bk hP hm ho hin1 j7 r7 hin (PB.take hv hb (fun r hr' => by cases hr'; exact Or.inl w1)) _
        · rw [if_neg w1]
          by_cases w2 : poolG B (gi 33) m o (r1, cur) = poolG B (gi 33) m o p
          · rw [if_pos w2, if_le (by omega) (by omega)]
            by_cases w3 : Two.sum p ≤ Two.sum (r1, cur)
            · rw [if_pos w3]
              exact pool_next bk hP hm ho hin1 j7 r7 hin (PB.skip hv hb (Or.inr ⟨w2, w3⟩)) _
            · rw [if_neg w3]
              exact pool_take bk hP hm ho hin1 j7 r7 hin (PB.take hv hb (fun r hr' => by cases hr'; exact Or.inr ⟨w2.symm, by omega⟩)) _
          · rw [if_neg w2]
            have w4 : poolG B (gi 33) m o (r1, cur) < poolG B (gi 33) m o p := by
              rcases Int32.lt_or_eq_of_le (Int32.not_lt.mp w1) with u | u
              · exact u
              · exact absurd u w2
            exact pool_next bk hP hm ho hin1 j7 r7 hin (PB.skip hv hb (Or.inl w4)) _
    · right
      dsimp only at e1 hj
      subst e1
      exact ⟨gj, rfl, b, hj, hb⟩) (n := 1001) (s := (1, g1)) (Or.inl ⟨rfl, (0, 0, 0), b, rfl, j1, hz, by simp [Row.In, Row.sum], hb⟩) (by decide)
  rw [k1]
  exact ⟨gk, b', rfl, k2.pi, k2.all, k2.first, k3⟩
end M15

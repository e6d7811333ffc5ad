set_option linter.unusedVariables false
set_option linter.unusedSimpArgs false
/-! THE PLAIN LAW: two who pool, of the model, go on -/
def LQo (gi : GI) (B : Bk) (m o : Nat) (n : Nat) (s : Int32 × GI) : Prop :=
  (s.1 = 1 ∧ ∃ r1 b, n = 1001 - Row.code r1 ∧ PIo gi B m o s.2 b ∧ s.2 33 = gi 33 ∧ rowIs s.2 39 r1 ∧ Row.In (bothR B (gi 33) m o) (few (leftN B (gi 33) m)) r1 ∧ PB B (gi 33) m o (1000 * Row.code r1) b) ∨
  (s.1 = 0 ∧ n = 0 ∧ ∃ b, PIo gi B m o s.2 b ∧ s.2 33 = gi 33 ∧ PB B (gi 33) m o 1000000 b)
theorem m_layPool {gi : GI} {B : Bk} {m o : Nat} (bk : MBk gi B) (hP : POk B (gi 33)) (hm : m < B.nm) (ho : o < B.nm) : ∃ gi', f_X4_layPool gi (N m) (N o) = some gi' ∧ (∀ k, k ≠ 47 → k ≠ 55 → k ≠ 62 → k ≠ 63 → gi' 0 k = gi 0 k) ∧ (∀ c, c ≠ 0 → c ≠ 32 → c ≠ 35 → c ≠ 37 → c ≠ 39 → c ≠ 40 → c ≠ 41 → gi' c = gi c) ∧ gi' 0 55 = N (2 * B.nk) ∧ gi' 0 63 = poolG B (gi 33) m o (poolB B (gi 33) m o) ∧ ∀ i, i < 2 * B.nk → gi' 37 i = poolL B.nk (poolB B (gi 33) m o) i := by
  have h5 := bk.ok.nm
  have h3 := bk.ok.nk
  have bl := bothR_le hP (show m < 5 by omega) (show o < 5 by omega)
  -- what both have
  have st : ∀ (gj : GI) (k : Nat), (∀ c, c ≠ 40 → gj c = gi c) → k < 3 → f_X4_layPool_l2 (N m) (N o) (N k) gj = some (.inl (N (k + 1), g_pi gj 40 k (N (if k < B.nk then pn (gi 33) (3 * m + k) + pn (gi 33) (3 * o + k) else 0)))) := by
    intro gj k hg hk
    have bj : MBk gj B := (show Fr gi gj from ⟨by rw [hg 0 (by decide)], fun c _ _ => hg c (by omega)⟩).book bk
    have hPj : POk B (gj 33) := by rw [hg 33 (by decide)]; exact hP
    rw [f_X4_layPool_l2, show (3 : Int32) = N 3 from rfl, if_le (by omega) (by omega), if_neg (by omega), m_nk bj, Option.bind_some, if_le (by omega) (by omega), m_inPurse hPj (by omega) hk, m_inPurse hPj (by omega) hk, hg 33 (by decide)]
    by_cases h : k < B.nk
    · rw [if_neg (by omega), if_pos h, Option.bind_some, Option.bind_some, N_add, N_st hk (by decide), Option.bind_some, show (1 : Int32) = N 1 from rfl, N_add]
    · rw [if_pos (by omega), if_neg h, N_st hk (by decide), Option.bind_some, show (1 : Int32) = N 1 from rfl, N_add]; rfl
  have nx : ∀ (gj : GI) (k : Nat) (x : Int32), (∀ c, c ≠ 40 → gj c = gi c) → ∀ c, c ≠ 40 → g_pi gj 40 k x c = gi c := by
    intro gj k x hg c hc
    rw [pi_off hc, hg c hc]
  have g0 : ∀ c, c ≠ 40 → gi c = gi c := fun _ _ => rfl
  have g1 := nx gi 0 (N (if 0 < B.nk then pn (gi 33) (3 * m + 0) + pn (gi 33) (3 * o + 0) else 0)) g0
  have g2 := nx _ 1 (N (if 1 < B.nk then pn (gi 33) (3 * m + 1) + pn (gi 33) (3 * o + 1) else 0)) g1
  have g3 := nx _ 2 (N (if 2 < B.nk then pn (gi 33) (3 * m + 2) + pn (gi 33) (3 * o + 2) else 0)) g2
  rw [f_X4_layPool, lp_3 (body := fun (s : Int32 × GI) => f_X4_layPool_l2 (N m) (N o) s.1 s.2) (s0 := (0, gi)) (st gi 0 g0 (by decide)) (st _ 1 g1 (by decide)) (st _ 2 g2 (by decide)) rfl, Option.bind_some, f_X4_layPool_x2, Option.bind_some]
  have hbo : rowIs (g_pi (g_pi (g_pi gi 40 0 (N (if 0 < B.nk then pn (gi 33) (3 * m + 0) + pn (gi 33) (3 * o + 0) else 0))) 40 1 (N (if 1 < B.nk then pn (gi 33) (3 * m + 1) + pn (gi 33) (3 * o + 1) else 0))) 40 2 (N (if 2 < B.nk then pn (gi 33) (3 * m + 2) + pn (gi 33) (3 * o + 2) else 0))) 40 (bothR B (gi 33) m o) := by
    have e : ∀ (c : Prop) (d : Decidable c) (a b : Nat), (if c then a + b else 0) = (if c then a else 0) + (if c then b else 0) := fun c d a b => by split <;> rfl
    refine ⟨?_, ?_, ?_⟩ <;> simp [pi_get, bothR, mx, e]
  generalize g_pi (g_pi (g_pi gi 40 0 (N (if 0 < B.nk then pn (gi 33) (3 * m + 0) + pn (gi 33) (3 * o + 0) else 0))) 40 1 (N (if 1 < B.nk then pn (gi 33) (3 * m + 1) + pn (gi 33) (3 * o + 1) else 0))) 40 2 (N (if 2 < B.nk then pn (gi 33) (3 * m + 2) + pn (gi 33) (3 * o + 2) else 0)) = ga at g3 hbo
  -- the first row: nothing
  have lz : g_loop g_K (fun (s : Int32 × GI) => f_X4_layPool_l56 (N m) (N o) s.1 s.2) (0, g_pi ga 0 62 (-1)) = some (g_pi (g_pi (g_pi (g_pi ga 0 62 (-1)) 39 0 0) 39 1 0) 39 2 0) :=
    lp_3 (body := fun (s : Int32 × GI) => f_X4_layPool_l56 (N m) (N o) s.1 s.2) (s0 := (0, g_pi ga 0 62 (-1))) (s1 := (1, g_pi (g_pi ga 0 62 (-1)) 39 0 0)) (s2 := (2, g_pi (g_pi (g_pi ga 0 62 (-1)) 39 0 0) 39 1 0)) (s3 := (3, g_pi (g_pi (g_pi (g_pi ga 0 62 (-1)) 39 0 0) 39 1 0) 39 2 0)) rfl rfl rfl rfl
  rw [lz, Option.bind_some, f_X4_layPool_x56]
  have ec : ∀ c, c ≠ 0 → c ≠ 39 → c ≠ 40 → g_pi (g_pi (g_pi (g_pi ga 0 62 (-1)) 39 0 0) 39 1 0) 39 2 0 c = gi c := fun c a1 a2 a3 => by rw [pi_off a2, pi_off a2, pi_off a2, pi_off a1, g3 c a3]
  have e0 : ∀ k, k ≠ 62 → g_pi (g_pi (g_pi (g_pi ga 0 62 (-1)) 39 0 0) 39 1 0) 39 2 0 0 k = gi 0 k := fun k a1 => by rw [pi_off (by decide), pi_off (by decide), pi_off (by decide), pi_get, if_neg (by omega), g3 0 (by decide)]
  have e62 : g_pi (g_pi (g_pi (g_pi ga 0 62 (-1)) 39 0 0) 39 1 0) 39 2 0 0 62 = -1 := by simp [pi_get]
  have ez : rowIs (g_pi (g_pi (g_pi (g_pi ga 0 62 (-1)) 39 0 0) 39 1 0) 39 2 0) 39 (0, 0, 0) := by
    refine ⟨?_, ?_, ?_⟩ <;> simp [pi_get] <;> rfl
  have e40 : rowIs (g_pi (g_pi (g_pi (g_pi ga 0 62 (-1)) 39 0 0) 39 1 0) 39 2 0) 40 (bothR B (gi 33) m o) := by
    unfold rowIs
    rw [pi_off (by decide), pi_off (by decide), pi_off (by decide), pi_off (by decide)]; exact hbo
  generalize g_pi (g_pi (g_pi (g_pi ga 0 62 (-1)) 39 0 0) 39 1 0) 39 2 0 = gb at ec e0 e62 ez e40
  have pb : PIo gi B m o gb none := ⟨fun k _ a2 _ => e0 k a2, fun c a1 _ _ _ _ a6 a7 _ => ec c a1 a6 a7, e40, Or.inl ⟨rfl, e62⟩⟩
  obtain ⟨gk, k1, b', k2, k3, k4⟩ := loop_J (body := fun (s : Int32 × GI) => f_X4_layPool_l76 (N m) (N o) s.1 s.2) (LQo gi B m o) (fun gk => ∃ b', PIo gi B m o gk b' ∧ gk 33 = gi 33 ∧ PB B (gi 33) m o 1000000 b') (by
    rintro n ⟨x3, gj⟩ (⟨e1, r1, b, e2, hj, h33, hr, hin, hb⟩ | ⟨e1, e2, b, hj, h33, hb⟩)
    · left
      dsimp only at e1 hj h33 hr hb ⊢
      subst e1 e2
      have r3 := In3 (few_le _) hin
      have hw := bothR_Rw hin
      have bj := hj.fr.book bk
      -- its row comes over the plots
      have s1 : ∀ (P : Nat → Int32) (k : Nat), k < 3 → f_X4_layPool_l83 (N m) (N o) (N k) (va_up gj 33 P) = some (.inl (N (k + 1), va_up gj 33 (ly B m k (gj 39 k) 1 P))) := by
        intro P k hk
        have b1 := (Fr.all gj P).book bj
        rw [f_X4_layPool_l83, show (3 : Int32) = N 3 from rfl, if_le (by omega) (by omega), if_neg (by omega), N_ld (by omega) (by decide), Option.bind_some, all_ne _ _ _ (by decide), m_lay b1 hm hk, Option.bind_some, all_get, all_up, show (1 : Int32) = N 1 from rfl, N_add]
      have h0 := s1 (gj 33) 0 (by decide)
      rw [up_id] at h0
      rw [f_X4_layPool_l76, if_neg (show ¬ ((1 : Int32) = 0) by decide), lp_3 (body := fun (s : Int32 × GI) => f_X4_layPool_l83 (N m) (N o) s.1 s.2) (s0 := (0, gj)) h0 (s1 _ 1 (by decide)) (s1 _ 2 (by decide)) rfl, Option.bind_some]
      have el : ly B m 2 (gj 39 2) 1 (ly B m 1 (gj 39 1) 1 (ly B m 0 (gj 39 0) 1 (gj 33))) = lyR B m (Row.at r1) 1 (gi 33) := by
        rw [h33, hr.at 0 (by decide), hr.at 1 (by decide), hr.at 2 (by decide)]; rfl
      rw [el]
      have pj : PIo gi B m o (va_up gj 33 (lyR B m (Row.at r1) 1 (gi 33))) b := hj.keep (fun k _ => by rw [up_ne _ _ _ (by decide)]) (fun c _ _ a _ _ _ => up_ne _ _ _ a)
      have r39 : rowIs (va_up gj 33 (lyR B m (Row.at r1) 1 (gi 33))) 39 r1 := by unfold rowIs; rw [up_ne _ _ _ (by decide)]; exact hr
      obtain ⟨g4, b4, q1, q2, q3, q4, q5⟩ := m_layOther bk hP hm ho hin pj (up_same _ _ _) r39 hb
      have hs : va_up gj 33 (lyR B m (Row.at r1) 1 (gi 33)) 39 0 + va_up gj 33 (lyR B m (Row.at r1) 1 (gi 33)) 39 1 + va_up gj 33 (lyR B m (Row.at r1) 1 (gi 33)) 39 2 = N (Row.sum r1) := by
        rw [r39.1, r39.2.1, r39.2.2, N_add, N_add]; rfl
      have l0 : ∀ gq : GI, g_ld gq 39 3 0 = some (gq 39 0) := fun gq => by rw [show (0 : Int32) = N 0 from rfl, N_ld (by decide) (by decide)]
      have l1 : ∀ gq : GI, g_ld gq 39 3 1 = some (gq 39 1) := fun gq => by rw [show (1 : Int32) = N 1 from rfl, N_ld (by decide) (by decide)]
      have l2 : ∀ gq : GI, g_ld gq 39 3 2 = some (gq 39 2) := fun gq => by rw [show (2 : Int32) = N 2 from rfl, N_ld (by decide) (by decide)]
      rw [f_X4_layPool_x83]
      dsimp only
      rw [l0, Option.bind_some, l1, Option.bind_some, l2, Option.bind_some, hs, q1, Option.bind_some]
      -- it goes again
      have b4k := q2.fr.book bk
      have s2 : ∀ (P : Nat → Int32) (gq : GI) (k : Nat), k < 3 → (∀ c, c ≠ 33 → c ≠ 35 → gq c = g4 c) → gq 33 = P → ∃ gq', f_X4_layPool_l139 (N m) (N o) (N k) gq = some (.inl (N (k + 1), gq')) ∧ (∀ c, c ≠ 33 → c ≠ 35 → gq' c = g4 c) ∧ gq' 33 = ly B m k (Row.at r1 k) (-1) P ∧ gq' 35 k = Row.at r1 k ∧ ∀ j, j ≠ k → gq' 35 j = gq 35 j := by
        intro P gq k hk hg hp
        have bq : MBk gq B := (show Fr g4 gq from ⟨by rw [hg 0 (by decide) (by decide)], fun c _ _ => hg c (by omega) (by omega)⟩).book b4k
        have e39 : gq 39 k = Row.at r1 k := by rw [hg 39 (by decide) (by decide)]; exact q4.at k hk
        have e39' : va_up gq 33 (ly B m k (Row.at r1 k) (-1) (gq 33)) 39 k = Row.at r1 k := by rw [up_ne _ _ _ (by decide), e39]
        refine ⟨g_pi (va_up gq 33 (ly B m k (Row.at r1 k) (-1) (gq 33))) 35 k (Row.at r1 k), ?_, ?_, ?_, ?_, ?_⟩
        · rw [f_X4_layPool_l139, show (3 : Int32) = N 3 from rfl, if_le (by omega) (by omega), if_neg (by omega), N_ld hk (by decide), Option.bind_some, e39, m_lay bq hm hk, Option.bind_some, N_ld hk (by decide), Option.bind_some, e39', N_st hk (by decide), Option.bind_some, show (1 : Int32) = N 1 from rfl, N_add]
        · intro c a1 a2
          rw [pi_off a2, up_ne _ _ _ a1, hg c a1 a2]
        · rw [pi_off (by decide), up_same, hp]
        · simp [pi_get]
        · intro j hj
          rw [pi_get, if_neg (by omega), up_ne _ _ _ (by decide)]
      obtain ⟨u1, a1, a2, a3, a4, a5⟩ := s2 _ g4 0 (by decide) (fun _ _ _ => rfl) rfl
      obtain ⟨u2, c1, c2, c3, c4, c5⟩ := s2 _ u1 1 (by decide) a2 a3
      obtain ⟨u3, d1, d2, d3, d4, d5⟩ := s2 _ u2 2 (by decide) c2 c3
      rw [lp_3 (body := fun (s : Int32 × GI) => f_X4_layPool_l139 (N m) (N o) s.1 s.2) (s0 := (0, g4)) a1 c1 d1 rfl, Option.bind_some, f_X4_layPool_x139]
      have u33 : u3 33 = gi 33 := by
        rw [d3, q3]
        exact layR_back B m (Row.at r1) (gi 33)
      have u35 : rowIs u3 35 r1 := by
        refine ⟨?_, ?_, ?_⟩
        · rw [d5 0 (by decide), c5 0 (by decide)]; exact a4
        · rw [d5 1 (by decide)]; exact c4
        · exact d4
      have pu : PIo gi B m o u3 b4 := q2.keep (fun k _ => by rw [d2 0 (by decide) (by decide)]) (fun c _ _ a b' _ _ => d2 c a b')
      have bu := pu.fr.book bk
      have hL := leftN_le bk.ok (gi 33) m
      obtain ⟨u4, m1, m2, m3⟩ := m_nextRow (gi := u3) (a := 40) ⟨by decide, rfl, by decide⟩ pu.both u35 (L := few (leftN B (gi 33) m)) (by omega) (by omega) (by have := few_le (leftN B (gi 33) m); omega)
      rw [m_leftOf bu (by rw [u33]; exact hP) (by omega), Option.bind_some, m_lesser, Option.bind_some, u33, least_few hL, m1, Option.bind_some]
      -- the row at hand becomes the first
      have s3 : ∀ (x : Int32) (gq : GI) (k : Nat), k < 3 → f_X4_layPool_l201 (N m) (N o) x (N k) gq = some (.inl (N (k + 1), g_pi gq 39 k (gq 35 k))) := by
        intro x gq k hk
        rw [f_X4_layPool_l201, show (3 : Int32) = N 3 from rfl, if_le (by omega) (by omega), if_neg (by omega), N_ld hk (by decide), Option.bind_some, N_st hk (by decide), Option.bind_some, show (1 : Int32) = N 1 from rfl, N_add]
      dsimp only
      rw [lp_3 (body := fun (s : Int32 × GI) => f_X4_layPool_l201 (N m) (N o) (if (nxt (bothR B (gi 33) m o) (few (leftN B (gi 33) m)) r1).2 = true then 1 else 0) s.1 s.2) (s0 := (0, u4)) (s3 _ _ 0 (by decide)) (s3 _ _ 1 (by decide)) (s3 _ _ 2 (by decide)) rfl, Option.bind_some, f_X4_layPool_x201]
      refine ⟨_, rfl, ?_⟩
      generalize hu5 : g_pi (g_pi (g_pi u4 39 0 (u4 35 0)) 39 1 (g_pi u4 39 0 (u4 35 0) 35 1)) 39 2 (g_pi (g_pi u4 39 0 (u4 35 0)) 39 1 (g_pi u4 39 0 (u4 35 0) 35 1) 35 2) = u5
      have v5 : ∀ c, c ≠ 39 → u5 c = u4 c := fun c a => by rw [← hu5, pi_off a, pi_off a, pi_off a]
      have p5 : PIo gi B m o u5 b4 := pu.keep (fun k _ => by rw [v5 0 (by decide), m3 0 (by decide)]) (fun c _ _ _ a d _ => by rw [v5 c d, m3 c a])
      have w33 : u5 33 = gi 33 := by rw [v5 33 (by decide), m3 33 (by decide), u33]
      have w39 : rowIs u5 39 (nxt (bothR B (gi 33) m o) (few (leftN B (gi 33) m)) r1).1 := by
        obtain ⟨y1, y2, y3⟩ := m2
        rw [← hu5]
        refine ⟨?_, ?_, ?_⟩ <;> simp [pi_get]
        · exact y1
        · exact y2
        · exact y3
      match hn : nxt (bothR B (gi 33) m o) (few (leftN B (gi 33) m)) r1 with
      | (r', true) =>
        rw [hn] at w39
        obtain ⟨n1, n2, n3⟩ := nxt_true (by have := few_le (leftN B (gi 33) m); omega) hin hn
        refine ⟨1001 - Row.code r', by omega, Or.inl ⟨by simp, r', b4, rfl, p5, w33, w39, n1, q5.up (by omega) ?_⟩⟩
        intro p hp hc
        have z1 := hp.b1
        have z2 := hp.b2
        have := n3 p.1 hp.1 (by unfold Two.code at hc; omega)
        unfold Two.code
        omega
      | (r', false) =>
        obtain ⟨n1, n2⟩ := nxt_false (by have := few_le (leftN B (gi 33) m); omega) hin hn
        refine ⟨0, by omega, Or.inr ⟨by simp, rfl, b4, p5, w33, q5.up (by omega) ?_⟩⟩
        intro p hp hc
        have z2 := hp.b2
        have := n2 p.1 hp.1
        unfold Two.code
        omega
    · right
      dsimp only at e1 hj h33
      subst e1
      exact ⟨gj, rfl, b, hj, h33, hb⟩) (n := 1001) (s := (1, gb)) (Or.inl ⟨rfl, (0, 0, 0), none, rfl, pb, ec 33 (by decide) (by decide) (by decide), ez, by simp [Row.In, Row.sum], fun p hp => by have := hp.2; simp [Row.code] at this⟩) (by decide)
  have bk2 := k2.fr.book bk
  rw [k1, Option.bind_some, f_X4_layPool_x76, m_nk bk2, Option.bind_some, Option.bind_some]
  rcases k2.so with ⟨q1, q2⟩ | ⟨p, q1, q2, q3, q4⟩
  · subst q1
    exact absurd ⟨poolV.zero B (gi 33) m o, by decide⟩ (k4 ((0, 0, 0), (0, 0, 0)))
  · subst q1
    have hbst := k4.best
    refine ⟨_, rfl, ?_, ?_, ?_, ?_, ?_⟩
    · intro k a1 a2 a3 a4
      rw [pi_get, if_neg (by omega)]; exact k2.own k a1 a3 a4
    · intro c a1 a2 a3 a4 a5 a6 a7
      rw [pi_off a1]
      by_cases hc : c = 33
      · subst hc; exact k3
      · exact k2.cells c a1 a2 hc a3 a4 a5 a6 a7
    · rw [pi_get, if_pos ⟨rfl, rfl⟩, show (2 : Int32) = N 2 from rfl, N_mul]
    · rw [pi_get, if_neg (by omega), hbst]; exact q3
    · intro i hi
      rw [pi_off (by decide), hbst]; exact q4 i hi
theorem m_areTwo {gi : GI} {B : Bk} (bk : MBk gi B) (x y : Int32) : f_X4_areTwo gi x y = some (match asQ x B.nm, asQ y B.nm with | some m, some n => if m = n then 0 else 1 | _, _ => 0) := by
  have h5 := bk.ok.nm
  rw [f_X4_areTwo, m_isMan bk, m_isMan bk, Option.bind_some]
  cases h : asQ x B.nm with
  | none => rfl
  | some m =>
    obtain ⟨rfl, hm⟩ := asQ_some h
    cases h' : asQ y B.nm with
    | none => rfl
    | some n =>
      obtain ⟨rfl, hn⟩ := asQ_some h'
      simp only [Option.isSome_some, if_true, Option.bind_some]
      rw [if_neg (by decide), if_neg (by decide), if_eq (by omega) (by omega)]
      split <;> rfl
theorem m_pool {gi : GI} {S : St} (r : RM gi S) (o : SOk S) (x y : Int32) : ∃ gi', f_X4_pool gi x y = some ((s_pool S x y).1, gi') ∧ RM gi' (s_pool S x y).2 := by
  have r0 := r.laid0
  have bk0 : MBk (g_pi gi 0 55 0) S.B := r0.book
  have a0 : g_pi gi 0 55 0 33 = S.P := r0.all
  rw [f_X4_pool, Option.bind_some, m_areTwo bk0, Option.bind_some]
  unfold s_pool
  cases h : asQ x S.B.nm with
  | none => exact ⟨_, rfl, r0⟩
  | some m =>
    cases h' : asQ y S.B.nm with
    | none => exact ⟨_, rfl, r0⟩
    | some n =>
      obtain ⟨rfl, hm⟩ := asQ_some h
      obtain ⟨rfl, hn⟩ := asQ_some h'
      dsimp only
      by_cases q : m = n
      · simp only [if_pos q]
        rw [if_pos trivial]
        exact ⟨_, rfl, r0⟩
      · simp only [if_neg q]
        rw [if_neg (by decide)]
        obtain ⟨g1, a1, a2, a3, a4, a5, a6⟩ := m_layPool bk0 (by rw [a0]; exact o.row.ok) hm hn
        rw [a0] at a5 a6
        rw [a1, Option.bind_some, a5]
        refine ⟨g1, rfl, ?_⟩
        have rr : RM (va_up (g_pi g1 0 55 (gi 0 55)) 37 (gi 37)) S := by
          refine MFr.rm ⟨?_, ?_, ?_, ?_⟩ r
          · rw [up_ne _ _ _ (by decide), pi_get, if_neg (by omega), a2 41 (by decide) (by decide) (by decide) (by decide)]; simp [pi_get]
          · intro c h1 h2
            rw [up_ne _ _ _ (by omega), pi_off (by omega), a3 c (by omega) (by omega) (by omega) (by omega) (by omega) (by omega) (by omega), pi_off (by omega)]
          · intro k hk
            rw [up_ne _ _ _ (by decide)]
            by_cases q55 : k = 55
            · subst q55; simp [pi_get]
            · rw [pi_get, if_neg (by omega), a2 k (by omega) q55 (by omega) (by omega), pi_get, if_neg (by omega)]
          · intro c hc
            by_cases q37 : c = 37
            · subst q37; rw [up_same]
            · rw [up_ne _ _ _ q37, pi_off (by omega), a3 c (by omega) (by omega) (by omega) q37 (by omega) (by omega) (by omega), pi_off (by omega)]
        exact rr.lie (fun c h1 h2 => by rw [up_ne _ _ _ h2, pi_off h1]) (fun k hk => by rw [up_ne _ _ _ (by decide), pi_get, if_neg (by omega)]) a4 a6
theorem m_joint {gi : GI} {S : St} (r : RM gi S) (o : SOk S) (x y : Int32) : ∃ gi', f_X4_joint gi x y = some (q_joint S x y, gi') ∧ RM gi' S := by
  have h5 := r.book.ok.nm
  rw [f_X4_joint, m_areTwo r.book, Option.bind_some]
  unfold q_joint
  cases h : asQ x S.B.nm with
  | none => exact ⟨_, rfl, r⟩
  | some m =>
    cases h' : asQ y S.B.nm with
    | none => exact ⟨_, rfl, r⟩
    | some n =>
      obtain ⟨rfl, hm⟩ := asQ_some h
      obtain ⟨rfl, hn⟩ := asQ_some h'
      dsimp only
      by_cases q : m = n
      · simp only [if_pos q]
        rw [if_pos trivial]
        exact ⟨_, rfl, r⟩
      · simp only [if_neg q]
        rw [if_neg (by decide)]
        -- what lies there is kept
        have l1 := loop_copy (body := fun (s : Int32 × GI) => f_X4_joint_l21 (N m) (N n) (gi 0 55) s.1 s.2) (gi := gi) (c := 43) (off := 0) (n := 8) (src := gi 37) (by decide) (by
          intro i gj hi hg
          show f_X4_joint_l21 (N m) (N n) (gi 0 55) (N i) gj = _
          rw [f_X4_joint_l21, show (8 : Int32) = N 8 from rfl, if_le (by omega) (by omega), if_neg (by omega), N_ld hi (by decide), Option.bind_some, N_st hi (by decide), Option.bind_some, hg 37 (by decide), show (1 : Int32) = N 1 from rfl, N_add, Nat.zero_add]) (fun gj => rfl)
        rw [l1, Option.bind_some, f_X4_joint_x21]
        have fr1 : MFr gi (va_up gi 43 (cpo (gi 43) (gi 37) 0 8)) := ⟨by rw [up_ne _ _ _ (by decide)], fun c _ _ => up_ne _ _ _ (by omega), fun k _ => by rw [up_ne _ _ _ (by decide)], fun c hc => up_ne _ _ _ (by omega)⟩
        have r1 := fr1.rm r
        have k43 : ∀ j, j < 8 → va_up gi 43 (cpo (gi 43) (gi 37) 0 8) 43 j = gi 37 j := fun j hj => by rw [up_same, cpo, if_pos (by omega), Nat.sub_zero]
        have u1 : ∀ c, c ≠ 43 → va_up gi 43 (cpo (gi 43) (gi 37) 0 8) c = gi c := fun c hc => up_ne _ _ _ hc
        generalize va_up gi 43 (cpo (gi 43) (gi 37) 0 8) = g1 at r1 k43 u1
        obtain ⟨g2, a1, a2, a3, a4, a5, a6⟩ := m_layPool r1.book (by rw [r1.all]; exact o.row.ok) hm hn
        rw [r1.all] at a5
        rw [a1, Option.bind_some, Option.bind_some]
        have l2 := loop_copy (body := fun (s : Int32 × GI) => f_X4_joint_l62 (N m) (N n) s.1 s.2) (gi := g_pi g2 0 55 (gi 0 55)) (c := 37) (off := 0) (n := 8) (src := g2 43) (by decide) (by
          intro i gj hi hg
          show f_X4_joint_l62 (N m) (N n) (N i) gj = _
          rw [f_X4_joint_l62, show (8 : Int32) = N 8 from rfl, if_le (by omega) (by omega), if_neg (by omega), N_ld hi (by decide), Option.bind_some, N_st hi (by decide), Option.bind_some, hg 43 (by decide), pi_off (by decide), show (1 : Int32) = N 1 from rfl, N_add, Nat.zero_add]) (fun gj => rfl)
        rw [l2, Option.bind_some, f_X4_joint_x62]
        have e43 : ∀ j, j < 8 → g2 43 j = gi 37 j := fun j hj => by rw [a3 43 (by decide) (by decide) (by decide) (by decide) (by decide) (by decide) (by decide)]; exact k43 j hj
        generalize hg3 : va_up (g_pi g2 0 55 (gi 0 55)) 37 (cpo (g_pi g2 0 55 (gi 0 55) 37) (g2 43) 0 8) = g3
        have v3 : ∀ c, c ≠ 0 → c ≠ 37 → g3 c = g2 c := fun c h1 h2 => by rw [← hg3, up_ne _ _ _ h2, pi_off h1]
        have w3 : ∀ k, k ≠ 55 → g3 0 k = g2 0 k := fun k h1 => by rw [← hg3, up_ne _ _ _ (by decide), pi_get, if_neg (by omega)]
        have r3 : RM g3 S := by
          have rr : RM (va_up g3 37 (gi 37)) S := by
            refine MFr.rm ⟨?_, ?_, ?_, ?_⟩ r
            · rw [up_ne _ _ _ (by decide), w3 41 (by decide), a2 41 (by decide) (by decide) (by decide) (by decide), u1 0 (by decide)]
            · intro c h1 h2
              rw [up_ne _ _ _ (by omega), v3 c (by omega) (by omega), a3 c (by omega) (by omega) (by omega) (by omega) (by omega) (by omega) (by omega), u1 c (by omega)]
            · intro k hk
              rw [up_ne _ _ _ (by decide)]
              by_cases q55 : k = 55
              · subst q55; rw [← hg3, up_ne _ _ _ (by decide)]; simp [pi_get]
              · rw [w3 k q55, a2 k (by omega) q55 (by omega) (by omega), u1 0 (by decide)]
            · intro c hc
              by_cases q37 : c = 37
              · subst q37; rw [up_same]
              · rw [up_ne _ _ _ q37, v3 c (by omega) q37, a3 c (by omega) (by omega) (by omega) q37 (by omega) (by omega) (by omega), u1 c (by omega)]
          have := rr.lie (gi' := g3) (l := S.laid) (f := S.lies) (fun c h1 h2 => by rw [up_ne _ _ _ h2]) (fun k hk => by rw [up_ne _ _ _ (by decide)]) (by rw [← hg3, up_ne _ _ _ (by decide), pi_get, if_pos ⟨rfl, rfl⟩]; exact r.laid) (by
            intro i hi
            have h6 := o.laid
            rw [← hg3, up_same, cpo, if_pos (by omega), Nat.sub_zero, e43 i (by omega)]
            exact r.lies i hi)
          exact this
        have g63 : g3 0 63 = poolG S.B S.P m n (poolB S.B S.P m n) := by rw [w3 63 (by decide), a5]
        rw [m_keepNow, Option.bind_some]
        have fr4 : MFr g3 (va_up g3 42 (cpo (g3 42) (g3 33) 0 42)) := ⟨by rw [up_ne _ _ _ (by decide)], fun c _ _ => up_ne _ _ _ (by omega), fun k _ => by rw [up_ne _ _ _ (by decide)], fun c hc => up_ne _ _ _ (by omega)⟩
        have r4 := fr4.rm r3
        have e42 : ∀ j, j < 42 → va_up g3 42 (cpo (g3 42) (g3 33) 0 42) 42 j = S.P j := fun j hj => by
          rw [up_same, cpo, if_pos (by omega), r3.all, Nat.sub_zero]
        have g63 : va_up g3 42 (cpo (g3 42) (g3 33) 0 42) 0 63 = poolG S.B S.P m n (poolB S.B S.P m n) := by rw [up_ne _ _ _ (by decide), g63]
        generalize va_up g3 42 (cpo (g3 42) (g3 33) 0 42) = g4 at r4 e42 g63
        obtain ⟨g5, v, b1, b2, b3, b4, b5, b6⟩ := m_layBest r4.book (by rw [r4.all]; exact o.row.ok) hm 0
        rw [r4.all] at b2
        have hb := bestRow_eq b2
        have hw := In_Rw b2.1
        have r5 := b6.mfr.rm r4
        have d1 := m_layBestRow r5.book hm 1
        rw [layR_same S.B m (fun k hk => b3.at k hk) 1 _, r5.all, ← hb] at d1
        have d1 : f_X4_layBestRow g5 (N m) 1 = some (va_up g5 33 (aloneP S.B S.P m)) := d1
        have ok6 : POk S.B (aloneP S.B S.P m) := by unfold aloneP; rw [hb]; exact o.row.ok.ly o.bok hm hw
        have r6 := r5.row (aloneP S.B S.P m)
        rw [b1, Option.bind_some, d1, Option.bind_some]
        have bk6 : MBk (va_up g5 33 (aloneP S.B S.P m)) S.B := r6.book
        have a6 : va_up g5 33 (aloneP S.B S.P m) 33 = aloneP S.B S.P m := up_same _ _ _
        have o42 : va_up g5 33 (aloneP S.B S.P m) 42 = g4 42 := by rw [up_ne _ _ _ (by decide), b6.2 42 (by decide) (by decide) (by decide) (by decide) (by decide)]
        have o63 : va_up g5 33 (aloneP S.B S.P m) 0 63 = g4 0 63 := by rw [up_ne _ _ _ (by decide), b6.1 63 (by decide) (by decide) (by decide)]
        generalize va_up g5 33 (aloneP S.B S.P m) = g6 at r6 bk6 a6 o42 o63
        obtain ⟨g7, v', c1, c2, c3, c4, c5, c6⟩ := m_layBest bk6 (by rw [a6]; exact ok6) hn 0
        rw [a6] at c2
        have hb' := bestRow_eq c2
        have r7 := c6.mfr.rm r6
        have bk7 : MBk g7 S.B := r7.book
        have a7 : g7 33 = aloneP S.B S.P m := r7.all
        have d2 := m_layBestRow bk7 hn 1
        rw [layR_same S.B n (fun k hk => c3.at k hk) 1 _, a7, ← hb'] at d2
        have d2 : f_X4_layBestRow g7 (N n) 1 = some (va_up g7 33 (aloneP S.B (aloneP S.B S.P m) n)) := d2
        rw [c1, Option.bind_some, d2, Option.bind_some]
        have r8 := r7.row (aloneP S.B (aloneP S.B S.P m) n)
        have bk8 : MBk (va_up g7 33 (aloneP S.B (aloneP S.B S.P m) n)) S.B := r8.book
        obtain ⟨g9, f1, f2⟩ := m_growthOf bk8 (show m < 5 by omega)
        have r9 := f2.mfr.rm r8
        have bk9 : MBk g9 S.B := r9.book
        obtain ⟨g10, i1, i2⟩ := m_growthOf bk9 (show n < 5 by omega)
        have r10 := i2.mfr.rm r9
        have a8 : va_up g7 33 (aloneP S.B (aloneP S.B S.P m) n) 33 = aloneP S.B (aloneP S.B S.P m) n := up_same _ _ _
        have a9 : g9 33 = aloneP S.B (aloneP S.B S.P m) n := r9.all
        have a10 : g10 33 = aloneP S.B (aloneP S.B S.P m) n := r10.all
        rw [a8] at f1
        rw [a9] at i1
        rw [f1, Option.bind_some]
        simp only [i1, Option.bind_some, m_bringBack]
        have big : ∀ j, 42 ≤ j → aloneP S.B (aloneP S.B S.P m) n j = S.P j := fun j hj => by
          unfold aloneP
          rw [layR_off S.B n hn h5 _ _ _ _ (by omega), layR_off S.B m hm h5 _ _ _ _ (by omega)]
        have p42 : ∀ j, j < 42 → g10 42 j = S.P j := fun j hj => by
          rw [i2.2 42 (by decide) (by decide), f2.2 42 (by decide) (by decide), up_ne _ _ _ (by decide), c6.2 42 (by decide) (by decide) (by decide) (by decide) (by decide), o42]
          exact e42 j hj
        have p63 : va_up g10 33 (cpo (g10 33) (g10 42) 0 42) 0 63 = poolG S.B S.P m n (poolB S.B S.P m n) := by
          rw [up_ne _ _ _ (by decide), i2.1 63 (by decide), f2.1 63 (by decide), up_ne _ _ _ (by decide), c6.1 63 (by decide) (by decide) (by decide), o63, g63]
        rw [p63]
        refine ⟨_, rfl, ?_⟩
        exact RM.back (gi := g10) (by rw [a10]; exact r10) p42 (fun j hj => by rw [a10, big j hj])

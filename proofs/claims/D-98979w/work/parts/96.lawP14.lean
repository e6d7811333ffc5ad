set_option linter.unusedVariables false
set_option linter.unusedSimpArgs false
/-! THE PLAIN LAW: the model's formula is the machine's -/
section P14
variable {gi gi' : GI} {gl gl' : GL} {X : Nat → Nat} {n r f w : Nat} {K : Sk} {C : Cde} {e : Es}
def Grd : Sk → Prop
  | [] => False
  | x :: K => (K = [] ∧ x.1 = 8) ∨ (x.1 ≤ 7 ∧ Grd K)
theorem Grd.bot : ∀ {K : Sk}, Grd K → Bot K
  | [], h => h.elim
  | x :: K, h => by
    rcases h with ⟨_, z⟩ | ⟨_, z⟩
    · exact Or.inl (by omega)
    · exact Or.inr z.bot
theorem grd_pops {rk : Nat} : ∀ {K : Sk} {C : Cde} {w : Nat}, Grd K → Grd (pops rk K C w).1
  | [], _, _, h => h.elim
  | x :: K, C, w, h => by
    rw [pops]
    by_cases q : x.1 ≤ 6 ∧ rk ≤ x.1
    · rw [if_pos q]
      rcases h with ⟨_, z⟩ | ⟨_, z⟩
      · omega
      · exact grd_pops z
    · rw [if_neg q]; exact h
theorem pops0_top : ∀ {K : Sk} {C : Cde} {w : Nat} {x : Nat × Nat} {K' : Sk}, (pops 0 K C w).1 = x :: K' → 7 ≤ x.1
  | [], _, _, _, _, h => by
    have h : ([] : Sk) = _ := h
    exact absurd h (by simp)
  | y :: K, C, w, x, K', h => by
    rw [pops] at h
    by_cases q : y.1 ≤ 6 ∧ 0 ≤ y.1
    · rw [if_pos q] at h; exact pops0_top h
    · rw [if_neg q] at h
      have h : y :: K = x :: K' := h
      have e := (List.cons.inj h).1
      rw [← e]; omega
theorem grd_step {b : Bool} {s : MS} (h : Grd K) (st : mStep X n (b, K, C, w, e) = .inr s) : s.2.1 = [] ∨ Grd s.2.1 := by
  cases b with
  | true =>
    have st : mUnit X n K C w e = .inr s := st
    unfold mUnit at st
    by_cases nt : begins K = true ∧ eW e 21 = true
    · rw [if_pos nt] at st
      by_cases w7 : w = 7
      · rw [if_pos w7] at st; exact absurd st (by simp)
      · rw [if_neg w7] at st
        rw [← Sum.inr.inj st]
        exact Or.inr (Or.inr ⟨(show 3 ≤ 7 by decide), h⟩)
    · rw [if_neg nt] at st
      by_cases no : eNo e = true ∨ (e.1.sort = 40 ∧ w = 7)
      · rw [if_pos no] at st; exact absurd st (by simp)
      · rw [if_neg no] at st
        by_cases s40 : e.1.sort = 40
        · rw [if_pos s40] at st
          rw [← Sum.inr.inj st]
          exact Or.inr (Or.inr ⟨Nat.le_refl 7, h⟩)
        · rw [if_neg s40] at st
          rw [← Sum.inr.inj st]
          exact Or.inr h
  | false =>
    have st : mBehind X n K C w e = .inr s := st
    unfold mBehind at st
    by_cases c4 : eRank e = 4 ∧ cmpd K = true
    · rw [if_pos c4] at st; exact absurd st (by simp)
    · rw [if_neg c4] at st
      by_cases r0 : 0 < eRank e
      · rw [if_pos r0] at st
        rw [← Sum.inr.inj st]
        have r6 := (rank_le e).1
        exact Or.inr (Or.inr ⟨(show eRank e ≤ 7 by omega), grd_pops h⟩)
      · rw [if_neg r0] at st
        have gp := grd_pops (rk := 0) (C := C) (w := w) h
        unfold mEnd at st
        cases hp : (pops 0 K C w).1 with
        | nil => rw [hp] at gp; exact gp.elim
        | cons x K' =>
          rw [hp] at st gp
          have t7 := pops0_top hp
          dsimp only at st
          by_cases x7 : x.1 = 7
          · rw [if_pos x7] at st
            have gk : Grd K' := by
              rcases gp with z | z
              · omega
              · exact z.2
            by_cases s41 : e.1.sort = 41
            · rw [if_pos s41] at st
              rw [← Sum.inr.inj st]
              exact Or.inr gk
            · rw [if_neg s41] at st; exact absurd st (by simp)
          · rw [if_neg x7] at st
            rw [← Sum.inr.inj st]
            rcases gp with z | z
            · exact Or.inl z.1
            · omega
/-- what the model holds behind a formula -/
def EOut (gi : GI) (gl : GL) (X : Nat → Nat) (n r f : Nat) (R : ER) : Prop :=
  match R with
  | .inl y => gi 0 4 = N y.1 ∧ gi 0 5 = N y.2
  | .inr q => ∃ b, MM gi gl X n r f [] q.1 0 q.2 b
theorem m_e (tx : MTx gi X n) (tk : MTk gi gl e.1) (tok : TOk X n e.1) (good : gi 0 4 = 0) (bank : gi 0 42 = N r ∧ r < 2) (un : gi 7 r = N e.2.1 ∧ e.2.1 ≤ 60) (own : gi 0 46 = N e.2.2 ∧ e.2.2 ≤ 30) (cod : gi 0 43 = N f) (far : f + 560 ≤ 1120) {F : Nat} (hF : F < 100000) {R : ER} (hR : mRun X n F (true, [(8, 0)], [], 0, e) = R) (hR0 : R ≠ .inl (0, 0)) : ∃ gi' gl', f_X4_e gi gl = some (gi', gl') ∧ MEx gi gi' gl gl' r f ∧ EOut gi' gl' X n r f R := by
  generalize hg1 : g_pi (g_pi gi 0 45 0) 0 44 0 = g1
  have v45 : g1 0 45 = N 0 := by rw [← hg1, pi_get, if_neg (by omega), pi_get, if_pos ⟨rfl, rfl⟩]; rfl
  generalize hg2 : g_pi (g_pi (g_pi g1 30 0 8) 31 0 0) 0 45 (N 1) = g2
  have pe : f_X4_pushE g1 8 0 = some g2 := by rw [m_pushE v45 (by decide), hg2]
  have o2 : ∀ k, k ≠ 44 → k ≠ 45 → g2 0 k = gi 0 k := fun k k1 k2 => by rw [← hg2, pi_get, if_neg (fun z => k2 z.2), pi_off (by decide), pi_off (by decide), ← hg1, pi_get, if_neg (fun z => k1 z.2), pi_get, if_neg (fun z => k2 z.2)]
  have c2 : ∀ c, c ≠ 0 → c ≠ 30 → c ≠ 31 → g2 c = gi c := fun c a b d => by rw [← hg2, pi_off a, pi_off d, pi_off b, ← hg1, pi_off a, pi_off a]
  have ex2 : MEx gi g2 gl gl r f := ⟨fun k k1 k2 => o2 k (by omega) (by omega), fun c k1 k2 k3 => c2 c k1 (by omega) (by omega), fun i _ => by rw [c2 7 (by decide) (by decide) (by decide)], fun i _ => ⟨by rw [c2 28 (by decide) (by decide) (by decide)], by rw [c2 29 (by decide) (by decide) (by decide)]⟩, fun _ _ _ => rfl⟩
  have mm0 : MM g2 gl X n r f [(8, 0)] [] 0 e true := by
    refine ⟨tx.of (o2 3 (by decide) (by decide)) (c2 2 (by decide) (by decide) (by decide)), ⟨by rw [o2 6 (by decide) (by decide)]; exact tk.place, by rw [o2 8 (by decide) (by decide)]; exact tk.kind, by rw [o2 7 (by decide) (by decide)]; exact tk.next, by rw [o2 9 (by decide) (by decide)]; exact tk.num, tk.nam⟩, tok, by rw [o2 4 (by decide) (by decide)]; exact good, ⟨by rw [o2 42 (by decide) (by decide)]; exact bank.1, bank.2⟩, ⟨by rw [c2 7 (by decide) (by decide) (by decide)]; exact un.1, un.2⟩, ⟨by rw [o2 46 (by decide) (by decide)]; exact own.1, own.2⟩, ⟨?_, rfl, by decide⟩, ⟨?_, ?_, ?_, by decide, by decide, trivial⟩, ⟨by rw [o2 43 (by decide) (by decide)]; exact cod, fun i hi => absurd (show i < 0 from hi) (by omega)⟩, ⟨trivial, by decide⟩, ?_, far⟩
    · rw [← hg2, pi_get, if_neg (by omega), pi_off (by decide), pi_off (by decide), ← hg1, pi_get, if_pos ⟨rfl, rfl⟩]; rfl
    · rw [← hg2, pi_get, if_pos ⟨rfl, rfl⟩]; rfl
    · rw [← hg2, pi_off (by decide), pi_off (by decide), pi_get, if_pos ⟨rfl, rfl⟩]; rfl
    · rw [← hg2, pi_off (by decide), pi_get, if_pos ⟨rfl, rfl⟩]; rfl
    · show 0 + 1 ≤ 1 + 9 * e.2.2 + (1 + 0)
      omega
  have lp : ∃ E : GI × GL, g_loop g_K (fun (s : Int32 × GI × GL) => f_X4_e_l19 s.1 s.2.1 s.2.2) (1, g2, gl) = some E ∧ (MEx gi E.1 gl E.2 r f ∧ EOut E.1 E.2 X n r f R) := by
    refine loop_J (fun m s => (∃ b K C w e', s.1 = b01 b ∧ MM s.2.1 s.2.2 X n r f K C w e' b ∧ (K = [] ∨ Grd K) ∧ mRun X n m (b, K, C, w, e') = R ∧ MEx gi s.2.1 gl s.2.2 r f) ∨ (∃ y, R = .inl y ∧ s.2.1 0 4 = N y.1 ∧ s.2.1 0 5 = N y.2 ∧ y.1 ≠ 0 ∧ y.1 < 100 ∧ MEx gi s.2.1 gl s.2.2 r f)) _ ?_ (n := F) (s := (1, g2, gl)) (Or.inl ⟨true, [(8, 0)], [], 0, e, rfl, mm0, Or.inr (Or.inl ⟨rfl, rfl⟩), hR, ex2⟩) hF
    intro m s hI
    obtain ⟨x1, g, l⟩ := s
    rcases hI with ⟨b, K, C, w, e', hb, mm, hK, hrun, ex⟩ | ⟨y, hy, y4, y5, y1, y2, ex⟩
    · dsimp only at hb mm ex
      subst hb
      cases m with
      | zero => exact absurd hrun.symm hR0
      | succ m =>
        obtain ⟨w1, w2, w3⟩ := mm.wi
        have kl := mm.len.le (by omega)
        rw [mRun] at hrun
        by_cases kn : K = []
        · subst kn
          rw [if_pos rfl] at hrun
          refine Or.inr ⟨(g, l), ?_, ex, ?_⟩
          · dsimp only
            rw [f_X4_e_l19, m_isOk mm.good, Option.bind_some, if_neg (by decide), mm.pil.1, if_pos (by decide)]
          · rw [← hrun]
            have w0 : w = 0 := w2
            rw [w0] at mm
            exact ⟨b, mm⟩
        · rw [if_neg kn] at hrun
          have gk := hK.resolve_left kn
          have pos : ¬ (N K.length ≤ (0 : Int32)) := by
            rw [show (0 : Int32) = N 0 from rfl, N_le (by omega) (by omega)]
            intro z
            exact kn (List.eq_nil_of_length_eq_zero (by omega))
          have body : f_X4_e_l19 (b01 b) g l = if b01 b = 0 then ((f_X4_behindUnit g l).bind fun q5 => some (.inl ((q5.1, q5.2.1, q5.2.2)))) else ((f_X4_unit g l).bind fun q6 => some (.inl ((q6.1, q6.2.1, q6.2.2)))) := by
            rw [f_X4_e_l19, m_isOk mm.good, Option.bind_some, if_neg (by decide), mm.pil.1, if_neg pos]
          refine Or.inl ?_
          cases hs : mStep X n (b, K, C, w, e') with
          | inl y =>
            rw [hs] at hrun
            cases b with
            | true =>
              have hm : mUnit X n K C w e' = .inl y := hs
              have mu := m_unit mm kn
              rw [hm] at mu
              obtain ⟨u1, u2⟩ := mu
              have yb := eBad_ne e'
              rw [← u2] at yb
              refine ⟨(1, faulted g y, l), ?_, m, Nat.lt_succ_self m, Or.inr ⟨y, hrun.symm, ?_, ?_, yb.1, yb.2, ex.trans (MEx.fault g l r f y)⟩⟩
              · show f_X4_e_l19 (b01 true) g l = _
                rw [body, if_neg (by decide), u1, Option.bind_some]
              · exact (bad_fault g (MEx.refl g l r f) y).1
              · exact (bad_fault g (MEx.refl g l r f) y).2.1
            | false =>
              have hm : mBehind X n K C w e' = .inl y := hs
              have mu := m_behind mm gk.bot
              rw [hm] at mu
              obtain ⟨⟨v, g', u1, u3⟩, u2⟩ := mu
              have yb := eBad_ne e'
              rw [← u2] at yb
              refine ⟨(v, g', l), ?_, m, Nat.lt_succ_self m, Or.inr ⟨y, hrun.symm, u3.1, u3.2.1, yb.1, yb.2, ex.trans u3.2.2⟩⟩
              show f_X4_e_l19 (b01 false) g l = _
              rw [body, if_pos (show b01 false = 0 from rfl), u1, Option.bind_some]
          | inr s' =>
            rw [hs] at hrun
            have gs := grd_step gk hs
            cases b with
            | true =>
              have hm : mUnit X n K C w e' = .inr s' := hs
              have mu := m_unit mm kn
              rw [hm] at mu
              obtain ⟨g', l', u1, u2, u3⟩ := mu
              refine ⟨(b01 s'.1, g', l'), ?_, m, Nat.lt_succ_self m, Or.inl ⟨s'.1, s'.2.1, s'.2.2.1, s'.2.2.2.1, s'.2.2.2.2, rfl, u2, gs, hrun, ex.trans u3⟩⟩
              show f_X4_e_l19 (b01 true) g l = _
              rw [body, if_neg (by decide), u1, Option.bind_some]
            | false =>
              have hm : mBehind X n K C w e' = .inr s' := hs
              have mu := m_behind mm gk.bot
              rw [hm] at mu
              obtain ⟨g', l', u1, u2, u3, _⟩ := mu
              refine ⟨(b01 s'.1, g', l'), ?_, m, Nat.lt_succ_self m, Or.inl ⟨s'.1, s'.2.1, s'.2.2.1, s'.2.2.2.1, s'.2.2.2.2, rfl, u2, gs, hrun, ex.trans u3⟩⟩
              show f_X4_e_l19 (b01 false) g l = _
              rw [body, if_pos (show b01 false = 0 from rfl), u1, Option.bind_some]
    · dsimp only at y4 y5 ex
      refine Or.inr ⟨(g, l), ?_, ex, ?_⟩
      · show f_X4_e_l19 x1 g l = _
        have ng : f_X4_isGood g = some 0 := by rw [f_X4_isGood, y4, show (0 : Int32) = N 0 from rfl, if_eq (by omega) (by omega), if_neg y1]
        rw [f_X4_e_l19, ng, Option.bind_some, if_pos rfl]
      · rw [hy]
        exact ⟨y4, y5⟩
  obtain ⟨E, e1, e2, e3⟩ := lp
  refine ⟨E.1, E.2, ?_, e2, e3⟩
  rw [f_X4_e, Option.bind_some, Option.bind_some, hg1, pe, Option.bind_some, e1, Option.bind_some]
  rfl
/-- the whole formula: what the descent finds, the model finds -/
theorem e_run (x : Txt X n) (tok : TOk X n e.1) : mRun X n 5000 (true, [(8, 0)], [], 0, e) = match (sBo X n 8).1 0 e with
    | .inl y => .inl y
    | .inr q => if eRank q.2 = 0 then .inr q else .inl (eBad q.2) := by
  have hl := x.len
  have g := (bo_got x 8 (Nat.le_refl _)).1 [(8, 0)] [] 0 e tok ⟨(8, 0), [], rfl, Or.inr (by decide)⟩ (by decide) (by decide)
  cases hr : (sBo X n 8).1 0 e with
  | inl y =>
    rw [hr] at g
    obtain ⟨j, j1, j2⟩ := g
    have := j2 (5000 - j)
    rw [show j + (5000 - j) = 5000 by omega] at this
    exact this
  | inr q =>
    rw [hr] at g
    obtain ⟨P, D, q1, q2, q3, q4, q5, j, j1, j2⟩ := g
    have pl := q4.le x
    have j1 : j + e.1.place ≤ q.2.1.place := j1
    have := j2 (5000 - j)
    rw [show j + (5000 - j) = 5000 by omega] at this
    rw [this, show 5000 - j = 5000 - j - 2 + 1 + 1 by omega, mRun]
    have neK : ¬ ((false, P ++ [(8, 0)], ([] : Cde) ++ D, 0 + nots P, q.2) : MS).2.1 = [] := fun z => List.cons_ne_nil _ _ (List.append_eq_nil_iff.mp (show P ++ [(8, 0)] = [] from z)).2
    rw [if_neg neK]
    have ms : mStep X n (false, P ++ [(8, 0)], ([] : Cde) ++ D, 0 + nots P, q.2) = mBehind X n (P ++ [(8, 0)]) ([] ++ D) (0 + nots P) q.2 := rfl
    rw [ms, mBehind]
    dsimp only
    rcases q3 with r0 | ⟨r4, cm⟩
    · have pp := pops_all (r := 0) (K := [(8, 0)]) ⟨(8, 0), [], rfl, Or.inr (by decide)⟩ (w := 0) P ([] ++ D) (fun y hy => by have := q2 y hy; omega)
      rw [if_neg (fun z => by have := z.1; omega), if_neg (by omega), pp, if_pos r0, mEnd]
      dsimp only
      rw [if_neg (by decide), List.nil_append, q1]
      dsimp only
      rw [mRun, if_pos rfl]
    · rw [if_pos ⟨r4, cmpd_app _ cm⟩, if_neg (by omega)]
end P14

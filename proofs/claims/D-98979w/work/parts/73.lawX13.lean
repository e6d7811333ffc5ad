set_option linter.unusedVariables false
set_option linter.unusedSimpArgs false
/-! THE PLAIN LAW: two who pool, of the component, go on -/
section X13
variable {hk : HK} {nx : Nat} {gi gi' : GI} {gr : GR} {b ask : Nat} {L : List Nat} {sl : Nat} {sf w : Nat → Nat} {S : St}
def topX (v w : Nat) : Nat := 1000 * Row.code (dec v) + Row.code (dec w)
/-- what a search for the best pair leaves -/
def KP (ask : Nat) (gi gj : GI) : Prop := ∀ c, c ≠ ask → ¬ (21 ≤ c ∧ c ≤ 25) → c ≠ 35 → c ≠ 36 → gj c = gi c
theorem KP.refl (ask : Nat) (gi : GI) : KP ask gi gi := fun _ _ _ _ _ => rfl
theorem KP.trans {ask : Nat} {a b c : GI} (h : KP ask a b) (g : KP ask b c) : KP ask a c := fun i h1 h2 h3 h4 => (g i h1 h2 h3 h4).trans (h i h1 h2 h3 h4)
theorem KP.wd {B : Bk} {gj : GI} (h : KP ask gi gj) (wd : XWd hk gi gr b ask L B) : XWd hk gj gr b ask L B :=
  wd.over (fun c h1 h2 => h c h2 (by have := not_st h1; omega) (by have := not_st h1; omega) (by have := not_st h1; omega))
theorem KP.pl {B : Bk} {gj : GI} (h : KP ask gi gj) (wd : XWd hk gi gr b ask L B) {p : Nat} (hp : p = 11 ∨ p = 26) : pl gj p = pl gi p := by
  have ha := not_st (wd.sep ask (Or.inr rfl))
  exact pl_same (fun c h1 h2 => h c (by omega) (by omega) (by omega) (by omega))
/-- the state: the best pair so far -/
abbrev PX (ask : Nat) (gi : GI) (B : Bk) (P : Nat → Int32) (m o : Nat) (x4 x5 : Int32) (gj : GI) (q : Option Two) : Prop := (KP ask gi gj) ∧ ((q = none ∧ x4 = -1000000) ∨ ∃ p, q = some p ∧ x4 = poolG B P m o p ∧ x5 = N (Two.sum p) ∧ (∀ k, k < 3 → gj 36 k = Row.at p.1 k) ∧ (∀ k, k < 3 → gj 36 (3 + k) = Row.at p.2 k))
theorem PX.fr {ask : Nat} {gi : GI} {B : Bk} {P : Nat → Int32} {m o : Nat} {x4 x5 : Int32} {gj : GI} {q : Option Two} (h : PX ask gi B P m o x4 x5 gj q) : KP ask gi gj := h.1
theorem PX.so {ask : Nat} {gi : GI} {B : Bk} {P : Nat → Int32} {m o : Nat} {x4 x5 : Int32} {gj : GI} {q : Option Two} (h : PX ask gi B P m o x4 x5 gj q) : (q = none ∧ x4 = -1000000) ∨ ∃ p, q = some p ∧ x4 = poolG B P m o p ∧ x5 = N (Two.sum p) ∧ (∀ k, k < 3 → gj 36 k = Row.at p.1 k) ∧ (∀ k, k < 3 → gj 36 (3 + k) = Row.at p.2 k) := h.2
theorem growth_gap (B : Bk) (P Q : Nat → Int32) (m o : Nat) : (-1000000 : Int32) < growth B P m + growth B Q o := by
  have c1 := (clamp_le (match B.grow with | none => askv B P m 0 + askv B P m 1 + askv B P m 2 | some e => evC (askv B P m) e))
  have c2 := (clamp_le (match B.grow with | none => askv B Q o 0 + askv B Q o 1 + askv B Q o 2 | some e => evC (askv B Q o) e))
  have g1 : (-20 : Int) ≤ (growth B P m).toInt := Int32.le_iff_toInt_le.mp c1.1
  have g2 : (growth B P m).toInt ≤ 20 := Int32.le_iff_toInt_le.mp c1.2
  have g3 : (-20 : Int) ≤ (growth B Q o).toInt := Int32.le_iff_toInt_le.mp c2.1
  have g4 : (growth B Q o).toInt ≤ 20 := Int32.le_iff_toInt_le.mp c2.2
  rw [Int32.lt_iff_toInt_lt, Int32.toInt_add, Int.bmod_eq_of_le (by omega) (by omega)]
  have e : (-1000000 : Int32).toInt = -1000000 := by decide
  rw [e]
  omega
theorem few_if {n : Nat} (h : n ≤ 8) : (if N n < (3 : Int32) then N n else 3) = N (few n) := by
  unfold few
  rw [show (3 : Int32) = N 3 from rfl, if_lt (by omega) (by decide)]
  split <;> rfl
/-- of the rows of a number: none else is ahead of the next -/
theorem PB.nextW {B : Bk} {P : Nat → Int32} {m o v u : Nat} (hv : v < 64) (hu : u < 64) {q : Option Two} (h : PB B P m o (topX v u + 1) q) : PB B P m o (topX v (u + 1)) q := by
  have c1 := (dec_lt u hu (u + 1) (by omega)).mpr (by omega)
  refine h.up (by unfold topX; omega) ?_
  intro p hp hc
  have b1 := hp.b1
  have b2 := hp.b2
  have d1 := dec3 hv
  unfold topX Two.code at *
  have k1 : Row.code (dec (u + 1)) ≤ 400 := by
    have : ∀ u, u < 64 → Row.code (dec (u + 1)) ≤ 400 := by decide +kernel
    exact this u hu
  by_cases e : Row.code p.1 = Row.code (dec v)
  · have : Row.code p.2 < Row.code (dec (u + 1)) := by omega
    have e2 := (code_dec ⟨b2.1, b2.2.1, b2.2.2.1⟩ (show u + 1 < 65 by omega)).mp this
    have : ¬ Row.code (dec u) < Row.code p.2 := by
      intro c
      have e3 := dec_enc ⟨b2.1, b2.2.1, b2.2.2.1⟩
      rw [← e3.1] at c
      have := (dec_lt u hu (enc p.2) (by omega)).mp c
      omega
    omega
  · omega
theorem PB.nextV {B : Bk} {P : Nat → Int32} {m o v : Nat} (hv : v < 64) {q : Option Two} (h : PB B P m o (topX v 64) q) : PB B P m o (topX (v + 1) 0) q := by
  have c1 := (dec_lt v hv (v + 1) (by omega)).mpr (by omega)
  have c64 : Row.code (dec 64) = 400 := rfl
  have c0 : Row.code (dec 0) = 0 := rfl
  refine h.up (by unfold topX; omega) ?_
  intro p hp hc
  have b1 := hp.b1
  have b2 := hp.b2
  unfold topX Two.code at *
  rw [c0] at hc
  have : Row.code p.1 < Row.code (dec (v + 1)) := by omega
  have e2 := (code_dec ⟨b1.1, b1.2.1, b1.2.2.1⟩ (show v + 1 < 65 by omega)).mp this
  have : ¬ Row.code (dec v) < Row.code p.1 := by
    intro c
    have e3 := dec_enc ⟨b1.1, b1.2.1, b1.2.2.1⟩
    rw [← e3.1] at c
    have := (dec_lt v hv (enc p.1) (by omega)).mp c
    omega
  rw [c64]
  omega
/-- a row that can't be: none of its pairs -/
theorem PB.skipW {B : Bk} {P : Nat → Int32} {m o v u : Nat} (hv : v < 64) (hu : u < 64) {q : Option Two} (h : PB B P m o (topX v u) q) (hn : ¬ poolV B P m o (dec v, dec u)) : PB B P m o (topX v u + 1) q := by
  refine h.up (by omega) ?_
  intro p hp hc
  by_cases e : Two.code p = topX v u
  · exfalso
    have b1 := hp.b1
    have b2 := hp.b2
    have d1 := dec3 hv
    have d2 := dec3 hu
    have k1 : Row.code (dec u) ≤ 333 := by unfold Row.code; omega
    unfold topX Two.code at e
    have e1 : p.1 = dec v := code3_inj ⟨b1.1, b1.2.1, b1.2.2.1⟩ d1 (by omega)
    have e2 : p.2 = dec u := code3_inj ⟨b2.1, b2.2.1, b2.2.2.1⟩ d2 (by omega)
    apply hn
    rw [← e1, ← e2]
    exact hp
  · omega
theorem PB.skipV {B : Bk} {P : Nat → Int32} {m o v : Nat} (hv : v < 64) {q : Option Two} (h : PB B P m o (topX v 0) q) (hn : ∀ u, ¬ poolV B P m o (dec v, u)) : PB B P m o (topX v 64) q := by
  have c64 : Row.code (dec 64) = 400 := rfl
  have c0 : Row.code (dec 0) = 0 := rfl
  refine h.up (by unfold topX; omega) ?_
  intro p hp hc
  have b1 := hp.b1
  have b2 := hp.b2
  unfold topX Two.code at *
  have : Row.code p.1 ≠ Row.code (dec v) := by
    intro e
    have e1 : p.1 = dec v := code3_inj ⟨b1.1, b1.2.1, b1.2.2.1⟩ (dec3 hv) e
    apply hn p.2
    rw [← e1]
    exact hp
  omega
theorem x_pooled {B : Bk} (wd : XWd hk gi gr b ask L B) (hP : POk B (pl gi 11)) {m o : Nat} (hm : m < B.nm) (ho : o < B.nm) : ∃ gi', f_X0_pooled hk gi gr 0 (N m) (N o) = some (poolG B (pl gi 11) m o (poolB B (pl gi 11) m o), gi') ∧ (∀ k, k < 3 → gi' 36 k = Row.at (poolB B (pl gi 11) m o).1 k) ∧ (∀ k, k < 3 → gi' 36 (3 + k) = Row.at (poolB B (pl gi 11) m o).2 k) ∧ KP ask gi gi' := by
  have h5 := wd.bk.ok.nm
  have hl := wd.lay
  have x11 := hl.pls 11 pl11
  have x21 := hl.pls 21 pl21
  have ha := not_st (wd.sep ask (Or.inr rfl))
  have hLm := leftN_le wd.bk.ok (pl gi 11) m
  have hLo := leftN_le wd.bk.ok (pl gi 11) o
  generalize hPP : pl gi 11 = P at hP hLm hLo
  -- the inner loop
  have inner : ∀ (v : Nat) (g0 : GI) (x4 x5 : Int32) (q : Option Two), v < 64 → PX ask gi B P m o x4 x5 g0 q → (∀ k, k < 3 → g0 35 k = Row.at (dec v) k) → Rw B.nk (dec v) ∧ Row.sum (dec v) ≤ few (leftN B P m) → PB B P m o (topX v 0) q → ∃ e q', g_loop g_K (fun (s : Int32 × Int32 × Int32 × GI) => f_X0_pooled_l48 hk gr 0 (N m) (N o) 64 (N v) s.1 s.2.1 s.2.2.1 s.2.2.2) (x4, x5, 0, g0) = some e ∧ PX ask gi B P m o e.1 e.2.1 e.2.2 q' ∧ PB B P m o (topX v 64) q' := by
    intro v g0 x4 x5 q hv px0 hr hok hb0
    have d1 := dec3 hv
    obtain ⟨e, k1, q', k2, k3⟩ := loop_J (body := fun (s : Int32 × Int32 × Int32 × GI) => f_X0_pooled_l48 hk gr 0 (N m) (N o) 64 (N v) s.1 s.2.1 s.2.2.1 s.2.2.2) (fun n s => ∃ u q, n = 64 - u ∧ u ≤ 64 ∧ s.2.2.1 = N u ∧ PX ask gi B P m o s.1 s.2.1 s.2.2.2 q ∧ (∀ k, k < 3 → s.2.2.2 35 k = Row.at (dec v) k) ∧ PB B P m o (topX v u) q) (fun e => ∃ q', PX ask gi B P m o e.1 e.2.1 e.2.2 q' ∧ PB B P m o (topX v 64) q') (by
      rintro n ⟨x4, x5, x7, gj⟩ ⟨u, q, u0, u1, u2, px, hr, hb⟩
      dsimp only at u2 px hr hb ⊢
      subst u2
      rw [f_X0_pooled_l48, show (64 : Int32) = N 64 from rfl, if_le (by omega) (by omega)]
      by_cases hu : u = 64
      · right
        subst hu
        rw [if_pos (Nat.le_refl _)]
        exact ⟨_, rfl, q, px, hb⟩
      · left
        have hu : u < 64 := by omega
        have d2 := dec3 hu
        have wj := px.fr.wd wd
        have pj : pl gj 11 = P := (px.fr.pl wd (Or.inl rfl)).trans hPP
        obtain ⟨g1, c, a1, a2, a3, a4, a5⟩ := x_laysRow wj hu (o := 3) (M := few (leftN B P o)) (by decide) (few_le _)
        have a1 : f_X0_laysRow hk gj gr 0 (N u) 3 (N (few (leftN B P o))) = some (b2i c, g1) := a1
        have e1 : N u + 1 = N (u + 1) := by rw [show (1 : Int32) = N 1 from rfl, N_add]
        rw [if_neg (by omega), hl.f5, Option.bind_some, x_left wj pl11 (by rw [pj]; exact hP) (by omega), Option.bind_some, pj, few_if hLo, a1, Option.bind_some, e1]
        have fr1 : KP ask gi g1 := px.fr.trans (fun d _ _ h3 _ => a5 d h3)
        have px1 : PX ask gi B P m o x4 x5 g1 q := ⟨fr1, by rw [a5 36 (by decide)]; exact px.so⟩
        have hr1 : ∀ k, k < 3 → g1 35 k = Row.at (dec v) k := fun k hk3 => by rw [a4 k (by omega)]; exact hr k hk3
        have w1 := fr1.wd wd
        have p1 : pl g1 11 = P := (fr1.pl wd (Or.inl rfl)).trans hPP
        have skip : ∀ (gq : GI) (hx : PX ask gi B P m o x4 x5 gq q) (hrq : ∀ k, k < 3 → gq 35 k = Row.at (dec v) k), PB B P m o (topX v u + 1) q → ∃ s', some (Sum.inl (x4, x5, N (u + 1), gq) : (Int32 × Int32 × Int32 × GI) ⊕ (Int32 × Int32 × GI)) = some (.inl s') ∧ ∃ n', n' < n ∧ ∃ u q, n' = 64 - u ∧ u ≤ 64 ∧ s'.2.2.1 = N u ∧ PX ask gi B P m o s'.1 s'.2.1 s'.2.2.2 q ∧ (∀ k, k < 3 → s'.2.2.2 35 k = Row.at (dec v) k) ∧ PB B P m o (topX v u) q := by
          intro gq hx hrq hbq
          exact ⟨_, rfl, 64 - (u + 1), by omega, u + 1, q, rfl, by omega, rfl, hx, hrq, hbq.nextW hv hu⟩
        cases c with
        | false =>
          dsimp only
          rw [if_pos (by rfl)]
          refine skip g1 px1 hr1 (hb.skipW hv hu ?_)
          intro hpv
          have := a2.mpr ((poolV_iff wd.bk.ok).mp hpv).2.1
          cases this
        | true =>
          dsimp only
          have ok2 := a2.mp rfl
          obtain ⟨c, b1, b2⟩ := x_arePooled w1 (by rw [p1]; exact hP) (show m < 5 by omega) (show o < 5 by omega) (p := (dec v, dec u)) d1 d2 hr1 a3
          rw [p1] at b2
          rw [if_neg (by decide), b1, Option.bind_some]
          cases c with
          | false =>
            rw [if_pos (by rfl)]
            refine skip g1 px1 hr1 (hb.skipW hv hu ?_)
            intro hpv
            have := b2.mpr ((poolV_iff wd.bk.ok).mp hpv).2.2
            cases this
          | true =>
            have hpv : poolV B P m o (dec v, dec u) := (poolV_iff wd.bk.ok).mpr ⟨hok, ok2, b2.mp rfl⟩
            rw [if_neg (by decide), hl.f7, Option.bind_some, Option.bind_some, g_is_of x21.k, Option.bind_some]
            obtain ⟨g2, c1, c2, c3⟩ := x_copy (gi := g1) x21 x11 (Or.inr (by omega))
            have fr2 : KP ask gi g2 := fr1.trans (fun d _ h2 _ _ => c3 d h2)
            have w2 := fr2.wd wd
            obtain ⟨g3, d1', d2', d3'⟩ := x_poursRow w2.bk x21 (wd.sp pl21) hm (a := 35) (n := 6) (o := 0) hl.k35 (by omega) (by omega) (by omega)
            have fr3 : KP ask gi g3 := fr2.trans (fun d _ h2 _ _ => d3' d (by omega))
            have w3 := fr3.wd wd
            obtain ⟨g4, e1', e2', e3'⟩ := x_poursRow w3.bk x21 (wd.sp pl21) ho (a := 35) (n := 6) (o := 3) hl.k35 (by omega) (by omega) (by omega)
            have fr4 : KP ask gi g4 := fr3.trans (fun d _ h2 _ _ => e3' d (by omega))
            have w4 := fr4.wd wd
            have p4 : pl g4 21 = poolP B P m o (dec v, dec u) := by
              rw [e2', d2', c2, p1]
              unfold poolP
              rw [layR_same B m (g := Row.at (dec v)) (fun k hk3 => by rw [Nat.zero_add, c3 35 (by omega)]; exact hr1 k hk3) 1 _, layR_same B o (g := Row.at (dec u)) (fun k hk3 => by rw [d3' 35 (by omega), c3 35 (by omega)]; exact a3 k hk3) 1 _]
            have o4 : ∀ m k, m < 5 → B.nk ≤ k → k < 3 → pl g4 21 (20 + 3 * m + k) = 0 := by
              rw [p4]
              exact lyR_over0 ok2.1 (lyR_over0 hok.1 hP.over0)
            obtain ⟨g5, i1, i2⟩ := x_growth w4.bk x21 (wd.sp pl21) o4 (show m < 5 by omega)
            have fr5 : KP ask gi g5 := fr4.trans (fun d h1 _ _ _ => i2 d h1)
            have w5 := fr5.wd wd
            have p5 : pl g5 21 = poolP B P m o (dec v, dec u) := by rw [← p4]; exact pl_same (fun c h1 h2 => i2 c (by omega))
            obtain ⟨g6, j1, j2⟩ := x_growth w5.bk x21 (wd.sp pl21) (by rw [p5, ← p4]; exact o4) (show o < 5 by omega)
            have fr6 : KP ask gi g6 := fr5.trans (fun d h1 _ _ _ => j2 d h1)
            rw [p4] at i1
            rw [p5] at j1
            have e35 : g6 35 = g1 35 := by rw [j2 35 (by omega), i2 35 (by omega), e3' 35 (by omega), d3' 35 (by omega), c3 35 (by omega)]
            have e36 : g6 36 = g1 36 := by rw [j2 36 (by omega), i2 36 (by omega), e3' 36 (by omega), d3' 36 (by omega), c3 36 (by omega)]
            have s1 : g6 35 0 + g6 35 (0 + 1) + g6 35 (0 + 2) = N (Row.sum (dec v)) := by
              rw [e35, hr1 0 (by decide), hr1 (0 + 1) (by decide), hr1 (0 + 2) (by decide)]
              show N _ + N _ + N _ = _
              rw [N_add, N_add]; rfl
            have s2 : g6 35 3 + g6 35 (3 + 1) + g6 35 (3 + 2) = N (Row.sum (dec u)) := by
              rw [e35, show g1 35 3 = Row.at (dec u) 0 from a3 0 (by decide), a3 1 (by decide), a3 2 (by decide)]
              show N _ + N _ + N _ = _
              rw [N_add, N_add]; rfl
            have d1' : f_X3_poursRow hk g2 gr 21 b (N m) 35 0 = some (21, g3) := d1'
            have e1' : f_X3_poursRow hk g3 gr 21 b (N o) 35 3 = some (21, g4) := e1'
            have sm0 : f_X0_sum hk g6 gr 35 0 = some (N (Row.sum (dec v))) := by
              have := x_sum (gi := g6) (gr := gr) (o := 0) hl.k35 (by omega) (by omega)
              rw [s1] at this
              exact this
            have sm3 : f_X0_sum hk g6 gr 35 3 = some (N (Row.sum (dec u))) := by
              have := x_sum (gi := g6) (gr := gr) (o := 3) hl.k35 (by omega) (by omega)
              rw [s2] at this
              exact this
            simp only [c1, wd.f4, hl.f19, g_is_of x21.k, d1', e1', i1, j1, sm0, sm3, Option.bind_some]
            rw [N_add]
            have eG : growth B (poolP B P m o (dec v, dec u)) m + growth B (poolP B P m o (dec v, dec u)) o = poolG B P m o (dec v, dec u) := rfl
            have eS : Row.sum (dec v) + Row.sum (dec u) = Two.sum (dec v, dec u) := rfl
            rw [eG, eS]
            have px6 : PX ask gi B P m o x4 x5 g6 q := ⟨fr6, by rw [e36]; exact px1.so⟩
            have hr6 : ∀ k, k < 3 → g6 35 k = Row.at (dec v) k := fun k hk3 => by rw [e35]; exact hr1 k hk3
            have tcode : Two.code (dec v, dec u) = topX v u := rfl
            have s6 : Two.sum (dec v, dec u) ≤ 6 := (hpv.key hpv).2.1
            -- taken
            have take : (∀ r, q = some r → poolG B P m o r < poolG B P m o (dec v, dec u) ∨ (poolG B P m o r = poolG B P m o (dec v, dec u) ∧ Two.sum (dec v, dec u) < Two.sum r)) → ∃ s', f_X0_pooled_j197 hk gr 0 (N m) (N o) (N 64) (N v) g6 (N u) (poolG B P m o (dec v, dec u)) (N (Two.sum (dec v, dec u))) = some (.inl s') ∧ ∃ n', n' < n ∧ ∃ u q, n' = 64 - u ∧ u ≤ 64 ∧ s'.2.2.1 = N u ∧ PX ask gi B P m o s'.1 s'.2.1 s'.2.2.2 q ∧ (∀ k, k < 3 → s'.2.2.2 35 k = Row.at (dec v) k) ∧ PB B P m o (topX v u) q := by
              intro hq
              have ecp : g_cpi hk g6 35 0 36 0 (N 6) = some (va_up g6 36 (va_cpy (g6 35) (g6 36) 0 0 6)) := cpi_of (na := 6) (nb := 6) (by rw [hl.k35]) (by rw [hl.k36]) (by omega) (by omega) (by omega)
              have ecp : g_cpi hk g6 35 0 36 0 6 = some (va_up g6 36 (va_cpy (g6 35) (g6 36) 0 0 6)) := ecp
              rw [f_X0_pooled_j197, hl.f19, Option.bind_some, hl.f20, Option.bind_some, g_is_of' hl.k35, Option.bind_some, g_is_of' hl.k36, Option.bind_some, ecp, Option.bind_some, e1]
              refine ⟨_, rfl, 64 - (u + 1), by omega, u + 1, some (dec v, dec u), rfl, by omega, rfl, ⟨fr6.trans (fun d _ _ _ h4 => up_ne _ _ _ h4), Or.inr ⟨_, rfl, rfl, rfl, ?_, ?_⟩⟩, ?_, ?_⟩
              · intro k hk3
                dsimp only
                rw [up_same, va_cpy, if_pos (by omega), show 0 + (k - 0) = k by omega]; exact hr6 k hk3
              · intro k hk3
                dsimp only
                rw [up_same, va_cpy, if_pos (by omega), show 0 + (3 + k - 0) = 3 + k by omega, e35]; exact a3 k hk3
              · intro k hk3
                dsimp only
                rw [up_ne _ _ _ (by decide)]; exact hr6 k hk3
              · have := PB.take hpv (by rw [tcode]; exact hb) hq
                rw [tcode] at this
                exact this.nextW hv hu
            have keep : (∃ r, q = some r ∧ (poolG B P m o (dec v, dec u) < poolG B P m o r ∨ (poolG B P m o (dec v, dec u) = poolG B P m o r ∧ Two.sum r ≤ Two.sum (dec v, dec u)))) → PB B P m o (topX v u + 1) q := by
              rintro ⟨r, e, hq⟩
              subst e
              have := PB.skip hpv (by rw [tcode]; exact hb) hq
              rw [tcode] at this
              exact this
            rcases px6.so with ⟨q1, q2⟩ | ⟨p, q1, q2, q3, q4, q5⟩
            · have gp : (-1000000 : Int32) < poolG B P m o (dec v, dec u) := growth_gap B _ _ m o
              rw [q2, if_neg (Int32.not_lt.mpr (Int32.le_of_lt gp)), if_neg (fun e => by rw [e] at gp; exact Int32.lt_irrefl gp)]
              exact take (fun r hr' => by rw [q1] at hr'; cases hr')
            · have pv := (show PB B P m o (topX v u) (some p) by rw [← q1]; exact hb).mem
              have sp := (pv.1.key pv.1).2.1
              rw [q2]
              by_cases w1 : poolG B P m o (dec v, dec u) < poolG B P m o p
              · rw [if_pos w1]
                have := skip g6 px6 hr6 (keep ⟨p, q1, Or.inl w1⟩)
                rw [q2] at this
                exact this
              · rw [if_neg w1]
                by_cases w2 : poolG B P m o (dec v, dec u) = poolG B P m o p
                · rw [if_pos w2, q3, if_lt (by omega) (by omega)]
                  by_cases w3 : Two.sum (dec v, dec u) < Two.sum p
                  · rw [if_pos w3]
                    exact take (fun r hr' => by rw [q1] at hr'; cases hr'; exact Or.inr ⟨w2.symm, w3⟩)
                  · rw [if_neg w3]
                    have := skip g6 px6 hr6 (keep ⟨p, q1, Or.inr ⟨w2, by omega⟩⟩)
                    rw [q2, q3] at this
                    exact this
                · rw [if_neg w2]
                  have w4 : poolG B P m o p < poolG B P m o (dec v, dec u) := by
                    rcases Int32.lt_or_eq_of_le (Int32.not_lt.mp w1) with c | c
                    · exact c
                    · exact absurd c.symm w2
                  exact take (fun r hr' => by rw [q1] at hr'; cases hr'; exact Or.inl w4)) (n := 64) (s := (x4, x5, 0, g0)) ⟨0, q, by omega, by omega, rfl, px0, hr, hb0⟩ (by decide)
    exact ⟨e, q', k1, k2, k3⟩
  -- the outer loop
  obtain ⟨e, k1, q, k2, k3⟩ := loop_J (body := fun (s : Int32 × Int32 × Int32 × GI) => f_X0_pooled_l13 hk gr 0 (N m) (N o) 64 s.1 s.2.1 s.2.2.1 s.2.2.2) (fun n s => ∃ v q x5, n = 64 - v ∧ v ≤ 64 ∧ s.2.2.1 = N v ∧ s.2.1 = x5 ∧ PX ask gi B P m o s.1 x5 s.2.2.2 q ∧ PB B P m o (topX v 0) q) (fun e => ∃ q x5, PX ask gi B P m o e.1 x5 e.2 q ∧ PB B P m o (topX 64 0) q) (by
    rintro n ⟨x4, x5, x6, gj⟩ ⟨v, q, x5', v0, v1, v2, v3, px, hb⟩
    dsimp only at v2 v3 px hb ⊢
    subst v2 v3
    rw [f_X0_pooled_l13, show (64 : Int32) = N 64 from rfl, if_le (by omega) (by omega)]
    by_cases hv : v = 64
    · right
      subst hv
      rw [if_pos (Nat.le_refl _)]
      exact ⟨_, rfl, q, x5, px, hb⟩
    · left
      have hv : v < 64 := by omega
      have wj := px.fr.wd wd
      have pj : pl gj 11 = P := (px.fr.pl wd (Or.inl rfl)).trans hPP
      obtain ⟨g1, c, a1, a2, a3, a4, a5⟩ := x_laysRow wj hv (o := 0) (M := few (leftN B P m)) (by decide) (few_le _)
      have a1 : f_X0_laysRow hk gj gr 0 (N v) 0 (N (few (leftN B P m))) = some (b2i c, g1) := a1
      have e1 : N v + 1 = N (v + 1) := by rw [show (1 : Int32) = N 1 from rfl, N_add]
      rw [if_neg (by omega), hl.f5, Option.bind_some, x_left wj pl11 (by rw [pj]; exact hP) (by omega), Option.bind_some, pj, few_if hLm, a1, Option.bind_some, e1]
      have fr1 : KP ask gi g1 := px.fr.trans (fun d _ _ h3 _ => a5 d h3)
      have px1 : PX ask gi B P m o x4 x5 g1 q := ⟨fr1, by rw [a5 36 (by decide)]; exact px.so⟩
      cases c with
      | false =>
        dsimp only
        rw [if_pos (by rfl)]
        refine ⟨_, rfl, 64 - (v + 1), by omega, v + 1, q, _, rfl, by omega, rfl, rfl, px1, (hb.skipV hv ?_).nextV hv⟩
        intro u hpv
        have := a2.mpr ((poolV_iff wd.bk.ok).mp hpv).1
        cases this
      | true =>
        dsimp only
        have a3 : ∀ k, k < 3 → g1 35 k = Row.at (dec v) k := fun k hk3 => by have := a3 k hk3; rw [Nat.zero_add] at this; exact this
        obtain ⟨e, q', c1, c2, c3⟩ := inner v g1 x4 x5 q hv px1 a3 (a2.mp rfl) hb
        rw [if_neg (by decide)]
        have c1 : g_loop g_K (fun (s : Int32 × Int32 × Int32 × GI) => f_X0_pooled_l48 hk gr 0 (N m) (N o) (N 64) (N v) s.1 s.2.1 s.2.2.1 s.2.2.2) (x4, x5, 0, g1) = some e := c1
        rw [c1, Option.bind_some, f_X0_pooled_x48, e1]
        exact ⟨_, rfl, 64 - (v + 1), by omega, v + 1, q', _, rfl, by omega, rfl, rfl, c2, c3.nextV hv⟩) (n := 64) (s := (-1000000, 0, 0, gi)) ⟨0, none, 0, by omega, by omega, rfl, rfl, ⟨KP.refl ask gi, Or.inl ⟨rfl, rfl⟩⟩, fun p hp => by have := hp.2; simp [topX, dec, Row.code] at this⟩ (by decide)
  rw [f_X0_pooled, k1, Option.bind_some, f_X0_pooled_x13]
  have t64 : topX 64 0 = 400000 := rfl
  have k9 : PB B P m o 1000000 q := k3.2.up (by omega) (fun p hp _ => by
    have b1 := hp.b1
    have b2 := hp.b2
    rw [t64]
    unfold Two.code
    omega)
  rcases k3.1.so with ⟨q1, q2⟩ | ⟨p, q1, q2, q3, q4, q5⟩
  · subst q1
    exact absurd ⟨poolV.zero B P m o, by decide⟩ (k9 ((0, 0, 0), (0, 0, 0)))
  · subst q1
    have hb := k9.best
    rw [hb, q2]
    exact ⟨e.2, rfl, q4, q5, k3.1.fr⟩
end X13

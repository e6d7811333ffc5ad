set_option linter.unusedVariables false
set_option linter.unusedSimpArgs false
/-! THE PLAIN LAW: pool, joint, rest of the component -/
section X14
variable {hk : HK} {nx : Nat} {gi gi' : GI} {gr : GR} {b ask : Nat} {L : List Nat} {sl : Nat} {sf w : Nat → Nat} {S : St}
theorem KP.xfr {gj : GI} (h : KP ask gi gj) (wd : XWd hk gi gr b ask L S.B) : XFr ask gi gj := by
  have ha := not_st (wd.sep ask (Or.inr rfl))
  exact ⟨fun k _ => by rw [h 0 (by omega) (by omega) (by omega) (by omega)], fun c _ h2 h3 _ h5 _ => h c h2 (by omega) (by omega) (by omega)⟩
theorem x_pool (r : RX hk nx gi gr b ask L sl sf w S) (o : SOk S) (x y : Int32) : ∃ gi', f_X0_pool hk gi gr 0 x y = some ((s_pool S x y).1, gi') ∧ RX hk nx gi' gr b ask L sl sf w (s_pool S x y).2 := by
  have r0 := r.laid0
  have hl := r.wd.lay
  have h3 := r.wd.bk.ok.nk
  have w0 : XWd hk (g_pi gi 0 18 0) gr b ask L S.B := r0.wd
  have p0 : pl (g_pi gi 0 18 0) 11 = S.P := r0.now
  rw [f_X0_pool, Option.bind_some, x_areTwo (S := S) w0, Option.bind_some]
  unfold s_pool
  cases h : asQ x S.B.nm with
  | none => exact ⟨_, rfl, r0⟩
  | some m =>
    cases h' : asQ y S.B.nm with
    | none => exact ⟨_, rfl, r0⟩
    | some n =>
      obtain ⟨rfl, hm⟩ := asQ_some h
      obtain ⟨rfl, hn⟩ := asQ_some h'
      dsimp only
      by_cases q : m = n
      · simp only [if_pos q]
        rw [if_pos trivial]
        exact ⟨_, rfl, r0⟩
      · simp only [if_neg q]
        rw [if_neg (by decide)]
        obtain ⟨g1, a1, a2, a3, a4⟩ := x_pooled w0 (by rw [p0]; exact o.row.ok) hm hn
        rw [p0] at a1 a2 a3
        have r1 := (a4.xfr (S := S) w0).rx r0
        have w1 : XWd hk g1 gr b ask L S.B := r1.wd
        generalize hp : poolB S.B S.P m n = p at a1 a2 a3
        rw [a1, Option.bind_some]
        have wj : ∀ F, XWd hk (va_up g1 34 F) gr b ask L S.B := fun F => w1.over (fun c h1 _ => up_ne _ _ _ (by have := not_st h1; omega))
        have st : ∀ (F : Nat → Int32) (k : Nat), k < S.B.nk → f_X0_pool_l27 hk gr 0 (poolG S.B S.P m n p) (N k) (va_up g1 34 F) = some (.inl (N (k + 1), va_up g1 34 (upd (upd F k (Row.at p.1 k)) (S.B.nk + k) (Row.at p.2 k)))) := by
          intro F k hk3
          have e1 : va_up g1 34 F 36 k = Row.at p.1 k := by rw [up_ne _ _ _ (by decide)]; exact a2 k (by omega)
          have e2 : va_up g1 34 (upd F k (Row.at p.1 k)) 36 (3 + k) = Row.at p.2 k := by rw [up_ne _ _ _ (by decide)]; exact a3 k (by omega)
          rw [f_X0_pool_l27, x_kindsN (wj F), Option.bind_some, if_le (by omega) (by omega), if_neg (by omega), hl.f15, Option.bind_some, hl.f20, Option.bind_some, g_is_of' hl.k36, Option.bind_some, hl.k36, N_ld (by omega) (by decide), Option.bind_some, g_is_of' hl.k34, Option.bind_some, hl.k34, N_st (by omega) (by decide), Option.bind_some, e1, up_pi, Option.bind_some, x_kindsN (wj _), Option.bind_some, Option.bind_some, g_is_of' hl.k36, Option.bind_some, hl.k36, show (3 : Int32) = N 3 from rfl, N_add, N_ld (by omega) (by decide), Option.bind_some, g_is_of' hl.k34, Option.bind_some, hl.k34, N_add, N_st (by omega) (by decide), Option.bind_some, e2, up_pi, show (1 : Int32) = N 1 from rfl, N_add]
        obtain ⟨g2, c1, c2, c3⟩ := loop_J (body := fun (s : Int32 × GI) => f_X0_pool_l27 hk gr 0 (poolG S.B S.P m n p) s.1 s.2) (fun c s => ∃ k F, c = S.B.nk - k ∧ k ≤ S.B.nk ∧ s.1 = N k ∧ s.2 = va_up g1 34 F ∧ ∀ i, i < k → F i = Row.at p.1 i ∧ F (S.B.nk + i) = Row.at p.2 i) (fun g2 => (∃ F, g2 = va_up g1 34 F) ∧ ∀ i, i < 2 * S.B.nk → g2 34 i = poolL S.B.nk p i) (by
          rintro c ⟨x4, gj⟩ ⟨k, F, k0, k1, k2, k3, k4⟩
          dsimp only at k2 k3 ⊢
          subst k2 k3
          by_cases hkn : k = S.B.nk
          · right
            rw [f_X0_pool_l27, x_kindsN (wj F), Option.bind_some, if_le (by omega) (by omega), if_pos (by omega)]
            refine ⟨_, rfl, ⟨F, rfl⟩, ?_⟩
            intro i hi
            rw [up_same]
            unfold poolL
            by_cases q : i < S.B.nk
            · rw [if_pos q]; exact (k4 i (by omega)).1
            · rw [if_neg q]
              have := (k4 (i - S.B.nk) (by omega)).2
              rw [show S.B.nk + (i - S.B.nk) = i by omega] at this
              exact this
          · left
            rw [st F k (by omega)]
            refine ⟨_, rfl, S.B.nk - (k + 1), by omega, k + 1, _, rfl, by omega, rfl, rfl, ?_⟩
            intro i hi
            unfold upd
            by_cases q : i = k
            · subst q
              rw [if_neg (by omega), if_pos rfl, if_pos rfl]
              exact ⟨rfl, rfl⟩
            · have := k4 i (by omega)
              rw [if_neg (by omega), if_neg q, if_neg (by omega), if_neg (by omega)]
              exact this) (n := S.B.nk) (s := (0, g1)) ⟨0, g1 34, by omega, by omega, rfl, (up_id g1 34).symm, fun i hi => by omega⟩ (by simp only [g_K]; omega)
        obtain ⟨F, rfl⟩ := c2
        have c1 : g_loop g_K (fun (s : Int32 × GI) => f_X0_pool_l27 hk gr 0 (poolG S.B S.P m n p) s.1 s.2) (0, g1) = some (va_up g1 34 F) := c1
        dsimp only
        rw [c1, Option.bind_some, f_X0_pool_x27, x_kindsN (wj F), Option.bind_some, Option.bind_some, show (2 : Int32) = N 2 from rfl, N_mul]
        refine ⟨_, rfl, ?_⟩
        exact r1.lie (l := 2 * S.B.nk) (f := poolL S.B.nk p) (fun c h1 h2 => by rw [pi_off h1, up_ne _ _ _ h2]) (fun k hk => by rw [pi_get, if_neg (by omega), up_ne _ _ _ (by decide)]) (by simp [pi_get]) (fun i hi => by rw [pi_off (by decide)]; exact c3 i hi)
/-- the best row comes over the plots ahead -/
theorem x_alone {B : Bk} (wd : XWd hk gi gr b ask L B) (hP : POk B (pl gi 26)) {m : Nat} (hm : m < B.nm) : ∃ g1 g2, f_X0_layBest hk gi gr 0 26 (N m) 0 = some g1 ∧ f_X3_poursRow hk g1 gr 26 b (N m) 33 0 = some (26, g2) ∧ pl g2 26 = aloneP B (pl gi 26) m ∧ POk B (aloneP B (pl gi 26) m) ∧ (∀ k, k ≠ 16 → k ≠ 17 → g2 0 k = gi 0 k) ∧ ∀ c, c ≠ 0 → c ≠ ask → ¬ (21 ≤ c ∧ c ≤ 30) → c ≠ 32 → c ≠ 33 → g2 c = gi c := by
  obtain ⟨g1, v, a1, a2, a3, a4, a5, a6⟩ := x_layBest wd pl26 (by decide) hP hm 0
  have hb := bestRow_eq a2
  have w1 := a6.wd wd
  have p1 : pl g1 26 = pl gi 26 := a6.pl wd pl26 (by decide)
  obtain ⟨g2, c1, c2, c3⟩ := x_poursRow w1.bk (wd.lay.pls 26 pl26) (wd.sp pl26) hm (a := 33) (n := 3) (o := 0) wd.lay.k33 (by omega) (by omega) (by omega)
  refine ⟨g1, g2, a1, c1, ?_, ?_, ?_, ?_⟩
  · rw [c2, p1]
    unfold aloneP
    rw [hb]
    exact layR_same B m (fun k hk3 => by rw [Nat.zero_add]; exact a3.at k hk3) 1 _
  · unfold aloneP
    rw [hb]
    exact hP.ly wd.bk.ok hm (In_Rw a2.1)
  · intro k h1 h2
    rw [c3 0 (by omega)]; exact a6.1 k h1 h2
  · intro c h1 h2 h3 h4 h5
    rw [c3 c (by omega)]; exact a6.2 c h1 h2 h4 h5 (by omega)
theorem x_joint (r : RX hk nx gi gr b ask L sl sf w S) (o : SOk S) (x y : Int32) : ∃ gi', f_X0_joint hk gi gr 0 x y = some (q_joint S x y, gi') ∧ RX hk nx gi' gr b ask L sl sf w S := by
  have hl := r.wd.lay
  have h5 := r.wd.bk.ok.nm
  have ha := r.askst
  have x11 := hl.pls 11 pl11
  have x26 := hl.pls 26 pl26
  rw [f_X0_joint, x_areTwo r.wd, Option.bind_some]
  unfold q_joint
  cases h : asQ x S.B.nm with
  | none => exact ⟨_, rfl, r⟩
  | some m =>
    cases h' : asQ y S.B.nm with
    | none => exact ⟨_, rfl, r⟩
    | some n =>
      obtain ⟨rfl, hm⟩ := asQ_some h
      obtain ⟨rfl, hn⟩ := asQ_some h'
      dsimp only
      by_cases q : m = n
      · simp only [if_pos q]
        rw [if_pos trivial]
        exact ⟨_, rfl, r⟩
      · simp only [if_neg q]
        rw [if_neg (by decide)]
        obtain ⟨g1, a1, a2, a3⟩ := x_copy (gi := gi) x26 x11 (Or.inr (by omega))
        have r1 := (XFr.of r (gi' := g1) (fun c _ h2 => a3 c (by omega))).rx r
        rw [r.now] at a2
        have fr : ∀ (u v : GI), (∀ k, k ≠ 16 → k ≠ 17 → v 0 k = u 0 k) → (∀ c, c ≠ 0 → c ≠ ask → ¬ (21 ≤ c ∧ c ≤ 30) → c ≠ 32 → c ≠ 33 → v c = u c) → XFr ask u v := fun u v h1 h2 => ⟨fun k hk => h1 k (by omega) (by omega), fun c c1 c2 c3 c4 c5 c6 => h2 c c1 c2 (by omega) (by omega) (by omega)⟩
        obtain ⟨g2, g3, b1, b2, b3, b4, b5, b6⟩ := x_alone r1.wd (by rw [a2]; exact o.row.ok) hm
        rw [a2] at b3 b4
        have r3 := (fr _ _ b5 b6).rx r1
        obtain ⟨g4, g5, c1, c2, c3, c4, c5, c6⟩ := x_alone r3.wd (by rw [b3]; exact b4) hn
        rw [b3] at c3 c4
        have r5 := (fr _ _ c5 c6).rx r3
        obtain ⟨g6, d1, d2, d3, d4⟩ := x_pooled r5.wd (by rw [r5.now]; exact o.row.ok) hm hn
        rw [r5.now] at d1
        have r6 := (d4.xfr (S := S) r5.wd).rx r5
        have p6 : pl g6 26 = aloneP S.B (aloneP S.B S.P m) n := (d4.pl r5.wd (Or.inr rfl)).trans c3
        obtain ⟨g7, e1, e2⟩ := x_growth r6.wd.bk x26 (r.wd.sp pl26) (by rw [p6]; exact c4.over0) (show m < 5 by omega)
        have r7 := (XFr.of r6 (gi' := g7) (fun c h1 _ => e2 c h1)).rx r6
        have p7 : pl g7 26 = aloneP S.B (aloneP S.B S.P m) n := by rw [← p6]; exact pl_same (fun c h1 h2 => e2 c (by omega))
        obtain ⟨g8, f1, f2⟩ := x_growth r7.wd.bk x26 (r.wd.sp pl26) (by rw [p7]; exact c4.over0) (show n < 5 by omega)
        have r8 := (XFr.of r7 (gi' := g8) (fun c h1 _ => f2 c h1)).rx r7
        rw [p6] at e1
        rw [p7] at f1
        simp only [hl.f8, hl.f5, hl.f14, r.wd.f4, g_is_of x26.k, a1, b1, b2, c1, c2, d1, e1, f1, Option.bind_some]
        refine ⟨g8, ?_, r8⟩
        congr 2
        generalize poolG S.B S.P m n (poolB S.B S.P m n) = A
        generalize growth S.B (aloneP S.B (aloneP S.B S.P m) n) m = C
        generalize growth S.B (aloneP S.B (aloneP S.B S.P m) n) n = D
        grind
/-! rest -/
abbrev XRo (ask : Nat) (gi : GI) (S : St) (f : Nat → Int32) (gj : GI) : Prop := (∀ k, k ≠ 16 → k ≠ 17 → gj 0 k = gi 0 k) ∧ (∀ c, c ≠ 0 → c ≠ ask → ¬ (21 ≤ c ∧ c ≤ 30) → c ≠ 32 → c ≠ 33 → c ≠ 37 → gj c = gi c) ∧ (∀ j, j < 15 → gj 37 j = f j) ∧ (RwF S.B.nk f)
theorem XRo.own {ask : Nat} {gi : GI} {S : St} {f : Nat → Int32} {gj : GI} (h : XRo ask gi S f gj) : ∀ k, k ≠ 16 → k ≠ 17 → gj 0 k = gi 0 k := h.1
theorem XRo.cells {ask : Nat} {gi : GI} {S : St} {f : Nat → Int32} {gj : GI} (h : XRo ask gi S f gj) : ∀ c, c ≠ 0 → c ≠ ask → ¬ (21 ≤ c ∧ c ≤ 30) → c ≠ 32 → c ≠ 33 → c ≠ 37 → gj c = gi c := h.2.1
theorem XRo.sp {ask : Nat} {gi : GI} {S : St} {f : Nat → Int32} {gj : GI} (h : XRo ask gi S f gj) : ∀ j, j < 15 → gj 37 j = f j := h.2.2.1
theorem XRo.rw {ask : Nat} {gi : GI} {S : St} {f : Nat → Int32} {gj : GI} (h : XRo ask gi S f gj) : RwF S.B.nk f := h.2.2.2
theorem XRo.xfr {f : Nat → Int32} {gj : GI} (h : XRo ask gi S f gj) : XFr ask gi gj := ⟨fun k hk => h.own k (by omega) (by omega), fun c h1 h2 h3 h4 h5 _ => h.cells c h1 h2 (by omega) (by omega) (by omega) (by omega)⟩
theorem x_layWithout {f : Nat → Int32} (r : RX hk nx gi gr b ask L sl sf w S) (hf : ∀ j, j < 15 → gi 37 j = f j) {m : Nat} (hm : m < S.B.nm) : ∃ gi', f_X0_layWithout hk gi gr 0 (N m) = some gi' ∧ pl gi' 26 = layBut S.B f m S.P S.B.nm ∧ ∀ c, ¬ (26 ≤ c ∧ c ≤ 30) → gi' c = gi c := by
  have hl := r.wd.lay
  have h5 := r.wd.bk.ok.nm
  have x11 := hl.pls 11 pl11
  have x26 := hl.pls 26 pl26
  obtain ⟨g1, a1, a2, a3⟩ := x_copy (gi := gi) x26 x11 (Or.inr (by omega))
  rw [r.now] at a2
  obtain ⟨g2, k1, k2, k3⟩ := loop_J (body := fun (s : Int32 × GI) => f_X0_layWithout_l14 hk gr 0 (N m) s.1 s.2) (fun c s => ∃ i, c = S.B.nm - i ∧ i ≤ S.B.nm ∧ s.1 = N i ∧ pl s.2 26 = layBut S.B f m S.P i ∧ ∀ c, ¬ (26 ≤ c ∧ c ≤ 30) → s.2 c = gi c) (fun g2 => pl g2 26 = layBut S.B f m S.P S.B.nm ∧ ∀ c, ¬ (26 ≤ c ∧ c ≤ 30) → g2 c = gi c) (by
    rintro c ⟨x2, gj⟩ ⟨i, i0, i1, i2, i3, i4⟩
    dsimp only at i2 i3 i4 ⊢
    subst i2
    have wj : XWd hk gj gr b ask L S.B := r.wd.over (fun c h1 _ => i4 c (by have := not_st h1; omega))
    have e1 : N i + 1 = N (i + 1) := by rw [show (1 : Int32) = N 1 from rfl, N_add]
    rw [f_X0_layWithout_l14, x_menN wj, Option.bind_some, if_le (by omega) (by omega)]
    by_cases hi : i = S.B.nm
    · right
      subst hi
      rw [if_pos (Nat.le_refl _)]
      exact ⟨_, rfl, i3, i4⟩
    · left
      rw [if_neg (by omega), if_eq (by omega) (by omega), e1]
      by_cases him : i = m
      · rw [if_pos him]
        refine ⟨_, rfl, S.B.nm - (i + 1), by omega, i + 1, rfl, by omega, rfl, ?_, i4⟩
        rw [layBut, if_pos him]; exact i3
      · obtain ⟨g2, c1, c2, c3⟩ := x_poursRow wj.bk x26 (r.wd.sp pl26) (show i < S.B.nm by omega) (a := 37) (n := 15) (o := 3 * i) hl.k37 (by omega) (by omega) (by omega)
        rw [if_neg him, hl.f8, Option.bind_some, r.wd.f4, Option.bind_some, hl.f21, Option.bind_some, g_is_of x26.k, Option.bind_some, show (3 : Int32) = N 3 from rfl, N_mul, c1, Option.bind_some]
        refine ⟨_, rfl, S.B.nm - (i + 1), by omega, i + 1, rfl, by omega, rfl, ?_, fun c hc => (c3 c (by omega)).trans (i4 c hc)⟩
        show pl g2 26 = _
        rw [c2, i3, layBut, if_neg him]
        exact layR_same S.B i (fun k hk3 => by rw [i4 37 (by omega)]; exact hf _ (by omega)) 1 _) (n := S.B.nm) (s := (0, g1)) ⟨0, by omega, by omega, rfl, a2, fun c hc => a3 c (by omega)⟩ (by simp only [g_K]; omega)
  rw [f_X0_layWithout, hl.f8, Option.bind_some, hl.f5, Option.bind_some, g_is_of x26.k, Option.bind_some, a1, Option.bind_some]
  have k1 : g_loop g_K (fun (s : Int32 × GI) => f_X0_layWithout_l14 hk gr 0 (N m) s.1 s.2) (0, g1) = some g2 := k1
  dsimp only
  rw [k1, Option.bind_some, f_X0_layWithout_x14]
  exact ⟨g2, rfl, k2, k3⟩
theorem x_goRound (r : RX hk nx gi gr b ask L sl sf w S) (o : SOk S) {f : Nat → Int32} {g0 : GI} (h0 : XRo ask gi S f g0) : ∃ g1, f_X0_goRound hk g0 gr 0 = some (b2i (round S.B S.P f S.B.nm).2, g1) ∧ XRo ask gi S (round S.B S.P f S.B.nm).1 g1 := by
  have h5 := o.bok.nm
  have hl := r.wd.lay
  have ha := r.askst
  obtain ⟨e, k1, k2, k3⟩ := loop_J (body := fun (s : Int32 × Int32 × GI) => f_X0_goRound_l4 hk gr 0 s.1 s.2.1 s.2.2) (fun n s => ∃ i, n = S.B.nm - i ∧ i ≤ S.B.nm ∧ s.1 = b2i (round S.B S.P f i).2 ∧ s.2.1 = N i ∧ XRo ask gi S (round S.B S.P f i).1 s.2.2) (fun e => e.1 = b2i (round S.B S.P f S.B.nm).2 ∧ XRo ask gi S (round S.B S.P f S.B.nm).1 e.2) (by
    rintro n ⟨x1, x2, gj⟩ ⟨i, i0, i1, i2, i3, i4⟩
    dsimp only at i2 i3 i4 ⊢
    subst i2 i3
    have rj := i4.xfr.rx r
    rw [f_X0_goRound_l4, x_menN rj.wd, Option.bind_some, if_le (by omega) (by omega)]
    by_cases hi : i = S.B.nm
    · right
      subst hi
      exact ⟨_, if_pos (Nat.le_refl _), rfl, i4⟩
    · left
      have hm : i < S.B.nm := by omega
      rw [if_neg (by omega)]
      generalize hF : (round S.B S.P f i).1 = F at i4
      generalize hC : (round S.B S.P f i).2 = C
      obtain ⟨g2, a1, a2, a3⟩ := x_layWithout rj i4.sp hm
      have r2 := (XFr.of rj (gi' := g2) (fun c _ h2 => a3 c (by omega))).rx rj
      have ok2 := o.row.ok.but o.bok i4.rw i S.B.nm (Nat.le_refl _)
      obtain ⟨g3, v, c1, c2, c3, c4, c5, c6⟩ := x_layBest r2.wd pl26 (by decide) (by rw [a2]; exact ok2) hm 0
      rw [a2] at c2
      have hb := newRow_best c2
      rw [a1, Option.bind_some, hl.f8, Option.bind_some, c1, Option.bind_some]
      have sp3 : ∀ j, j < 15 → g3 37 j = F j := fun j hj => by rw [c6.2 37 (by decide) (by omega) (by decide) (by decide) (by omega), a3 37 (by omega)]; exact i4.sp j hj
      have s2 : ∀ (c : Bool) (gq : GI) (k : Nat), k < 3 → f_X0_goRound_l29 hk gr 0 (N i) (b2i c) (N k) gq = some (.inl (b2i (c || !(gq 37 (3 * i + k) == gq 33 k)), N (k + 1), g_pi gq 37 (3 * i + k) (gq 33 k))) := by
        intro c gq k hk3
        have j62 : ∀ t, f_X0_goRound_j62 hk gr 0 (N i) gq (N k) t = some (.inl (t, N (k + 1), g_pi gq 37 (3 * i + k) (gq 33 k))) := by
          intro t
          rw [f_X0_goRound_j62, hl.f21, Option.bind_some, hl.f14, Option.bind_some, g_is_of' hl.k33, Option.bind_some, hl.k33, N_ld hk3 (by decide), Option.bind_some, g_is_of' hl.k37, Option.bind_some, hl.k37, show (3 : Int32) = N 3 from rfl, N_mul, N_add, N_st (by omega) (by decide), Option.bind_some, show (1 : Int32) = N 1 from rfl, N_add]
        rw [f_X0_goRound_l29, show (3 : Int32) = N 3 from rfl, if_le (by omega) (by omega), if_neg (by omega)]
        cases c with
        | true =>
          rw [if_neg (by decide), f_X0_goRound_j57, j62]; rfl
        | false =>
          rw [if_pos (show b2i false = 0 from rfl), hl.f21, Option.bind_some, g_is_of' hl.k37, Option.bind_some, hl.k37, N_mul, N_add, N_ld (by omega) (by decide), Option.bind_some, hl.f14, Option.bind_some, g_is_of' hl.k33, Option.bind_some, hl.k33, N_ld hk3 (by decide), Option.bind_some]
          by_cases q : gq 37 (3 * i + k) = gq 33 k
          · rw [if_pos q, j62]; simp [q, b2i]
          · rw [if_neg q, f_X0_goRound_j57, j62]; simp [q, b2i]
      have lp := lp_3 (body := fun (s : Int32 × Int32 × GI) => f_X0_goRound_l29 hk gr 0 (N i) s.1 s.2.1 s.2.2) (s0 := (b2i C, 0, g3)) (s2 C g3 0 (by decide)) (s2 _ _ 1 (by decide)) (s2 _ _ 2 (by decide)) rfl
      rw [lp, Option.bind_some, f_X0_goRound_x29]
      generalize hg4 : g_pi (g_pi (g_pi g3 37 (3 * i + 0) (g3 33 0)) 37 (3 * i + 1) (g_pi g3 37 (3 * i + 0) (g3 33 0) 33 1)) 37 (3 * i + 2) (g_pi (g_pi g3 37 (3 * i + 0) (g3 33 0)) 37 (3 * i + 1) (g_pi g3 37 (3 * i + 0) (g3 33 0) 33 1) 33 2) = g4
      have v4 : ∀ c, c ≠ 37 → g4 c = g3 c := fun c hc => by rw [← hg4, pi_off hc, pi_off hc, pi_off hc]
      have eF : (round S.B S.P f (i + 1)).1 = put3 F i v := by rw [round, hF, hb]
      have eC : (round S.B S.P f (i + 1)).2 = (C || !(same3 F i v)) := by rw [round, hF, hC, hb]
      have e36 : g3 33 0 = Row.at v 0 ∧ g3 33 1 = Row.at v 1 ∧ g3 33 2 = Row.at v 2 := ⟨c3.at 0 (by decide), c3.at 1 (by decide), c3.at 2 (by decide)⟩
      refine ⟨_, rfl, S.B.nm - (i + 1), by omega, i + 1, rfl, by omega, ?_, ?_, ⟨?_, ?_, ?_, ?_⟩⟩
      · dsimp only
        rw [eC]
        congr 1
        have t0 : g3 37 (3 * i + 0) = F (3 * i) := sp3 _ (by omega)
        have t1 : g_pi g3 37 (3 * i + 0) (g3 33 0) 37 (3 * i + 1) = F (3 * i + 1) := by rw [pi_get, if_neg (by omega)]; exact sp3 _ (by omega)
        have t2 : g_pi (g_pi g3 37 (3 * i + 0) (g3 33 0)) 37 (3 * i + 1) (g_pi g3 37 (3 * i + 0) (g3 33 0) 33 1) 37 (3 * i + 2) = F (3 * i + 2) := by rw [pi_get, if_neg (by omega), pi_get, if_neg (by omega)]; exact sp3 _ (by omega)
        rw [t0, t1, t2, pi_off (by decide), pi_off (by decide), pi_off (by decide), e36.1, e36.2.1, e36.2.2]
        unfold same3
        cases C <;> cases (F (3 * i) == Row.at v 0) <;> cases (F (3 * i + 1) == Row.at v 1) <;> cases (F (3 * i + 2) == Row.at v 2) <;> rfl
      · exact N_add i 1
      · intro k h1 h2
        show g4 0 k = _
        rw [v4 0 (by decide), c6.1 k h1 h2, a3 0 (by omega)]; exact i4.own k h1 h2
      · intro c h1 h2 h3 h4 h5 h6
        show g4 c = _
        rw [v4 c h6, c6.2 c h1 h2 h4 h5 (by omega), a3 c (by omega)]; exact i4.cells c h1 h2 h3 h4 h5 h6
      · intro j hj
        dsimp only
        rw [eF, ← hg4]
        unfold put3 upd
        simp only [pi_get, true_and]
        by_cases q2 : j = 3 * i + 2
        · rw [if_pos q2, if_pos q2]; simp [e36.2.2]
        · rw [if_neg q2, if_neg q2]
          by_cases q1 : j = 3 * i + 1
          · rw [if_pos q1, if_pos q1]; simp [e36.2.1]
          · rw [if_neg q1, if_neg q1]
            by_cases q0 : j = 3 * i + 0
            · rw [if_pos q0, if_pos (by omega), e36.1]
            · rw [if_neg q0, if_neg (by omega)]; exact sp3 j hj
      · rw [eF]; exact i4.rw.put (In_Rw c2.1)) (n := S.B.nm) (s := (0, 0, g0)) ⟨0, by omega, by omega, rfl, rfl, h0⟩ (by simp only [g_K]; omega)
  rw [f_X0_goRound, k1, Option.bind_some, f_X0_goRound_x4, k2]
  refine ⟨e.2, ?_, k3⟩
  cases (round S.B S.P f S.B.nm).2 <;> rfl
theorem x_rest (r : RX hk nx gi gr b ask L sl sf w S) (o : SOk S) : ∃ gi', f_X0_rest hk gi gr 0 = some ((s_rest S).1, gi') ∧ RX hk nx gi' gr b ask L sl sf w (s_rest S).2 := by
  have h5 := o.bok.nm
  have hl := r.wd.lay
  have ha := r.askst
  have r0 := r.laid0
  have o' : SOk (S.w_laid 0) := ⟨o.bok, o.row, o.was, o.room, o.taped, Nat.zero_le _, o.ns, o.time, o.man, o.other, o.yes, o.untold, o.box, o.rate⟩
  have lz := loop_copy (body := fun (s : Int32 × GI) => f_X0_rest_l7 hk gr 0 s.1 s.2) (gi := g_pi gi 0 18 0) (c := 37) (off := 0) (n := 15) (src := fun _ => 0) (by decide) (by
    intro i gj hi hg
    show f_X0_rest_l7 hk gr 0 (N i) gj = _
    rw [f_X0_rest_l7, show (15 : Int32) = N 15 from rfl, if_le (by omega) (by omega), if_neg (by omega), hl.f21, Option.bind_some, g_is_of' hl.k37, Option.bind_some, hl.k37, N_st hi (by decide), Option.bind_some, show (1 : Int32) = N 1 from rfl, N_add, Nat.zero_add]) (fun gj => rfl)
  rw [f_X0_rest, Option.bind_some, lz, Option.bind_some, f_X0_rest_x7]
  have x0 : XRo ask (g_pi gi 0 18 0) (S.w_laid 0) (rounds S.B S.P 0) (va_up (g_pi gi 0 18 0) 37 (cpo (g_pi gi 0 18 0 37) (fun _ => 0) 0 15)) :=
    ⟨fun k _ _ => by rw [up_ne _ _ _ (by decide)], fun c _ _ _ _ _ h => up_ne _ _ _ h, fun j hj => by rw [up_same, cpo, if_pos (by omega)]; rfl, RwF.zero _⟩
  obtain ⟨e, k1, k2⟩ := loop_J (body := fun (s : Int32 × GI) => f_X0_rest_l28 hk gr 0 s.1 s.2) (fun k s => ∃ n, k = 21 - n ∧ n ≤ 21 ∧ s.1 = N n ∧ XRo ask (g_pi gi 0 18 0) (S.w_laid 0) (rounds S.B S.P n) s.2 ∧ ∀ j, j < n → moves S.B S.P j = true) (fun e => match e with | .inl g => (∀ j, j < 21 → moves S.B S.P j = true) ∧ RX hk nx g gr b ask L sl sf w (S.w_laid 0) | .inr q => ∃ n, n < 21 ∧ q.1 = N n ∧ moves S.B S.P n = false ∧ (∀ j, j < n → moves S.B S.P j = true) ∧ RX hk nx q.2 gr b ask L sl sf w ((S.w_laid S.B.nm).w_lies (fun m => sum3 (rounds S.B S.P (n + 1)) (3 * m)))) (by
    rintro k ⟨x1, gj⟩ ⟨n, n0, n1, n2, n3, n4⟩
    dsimp only at n2 n3 ⊢
    subst n2
    rw [f_X0_rest_l28, show (20 : Int32) = N 20 from rfl, if_lt (by omega) (by omega)]
    by_cases h21 : n = 21
    · right
      subst h21
      rw [if_pos (by omega)]
      exact ⟨.inl gj, rfl, n4, n3.xfr.rx r0⟩
    · rw [if_neg (by omega)]
      obtain ⟨g', d1, d2⟩ := x_goRound r0 o' n3
      have d1 : f_X0_goRound hk gj gr 0 = some (b2i (moves S.B S.P n), g') := d1
      have d2 : XRo ask (g_pi gi 0 18 0) (S.w_laid 0) (rounds S.B S.P (n + 1)) g' := d2
      rw [d1, Option.bind_some]
      cases hm : moves S.B S.P n with
      | true =>
        left
        dsimp only
        rw [if_neg (by decide)]
        refine ⟨_, rfl, 21 - (n + 1), by omega, n + 1, rfl, by omega, N_add n 1, d2, fun j hj => ?_⟩
        by_cases e : j = n
        · rw [e]; exact hm
        · exact n4 j (by omega)
      | false =>
        right
        dsimp only
        rw [if_pos (by rfl)]
        have rb : RX hk nx g' gr b ask L sl sf w (S.w_laid 0) := d2.xfr.rx r0
        have wj : ∀ F, XWd hk (va_up g' 34 F) gr b ask L S.B := fun F => (show XWd hk g' gr b ask L S.B from rb.wd).over (fun c h1 _ => up_ne _ _ _ (by have := not_st h1; omega))
        have lp : g_loop g_K (fun (s : Int32 × GI) => f_X0_rest_l46 hk gr 0 (N n) s.1 s.2) (0, g') = some (va_up g' 34 (cpo (g' 34) (fun m => sum3 (rounds S.B S.P (n + 1)) (3 * m)) 0 S.B.nm)) := by
          refine loop_T (fun i => (N i, va_up g' 34 (cpo (g' 34) (fun m => sum3 (rounds S.B S.P (n + 1)) (3 * m)) 0 i))) S.B.nm (by rw [cpo_zero, up_id]; rfl) ?_ ?_ (by simp only [g_K]; omega)
          · intro i hi
            dsimp only
            have e37 : va_up g' 34 (cpo (g' 34) (fun m => sum3 (rounds S.B S.P (n + 1)) (3 * m)) 0 i) 37 = g' 37 := up_ne _ _ _ (by decide)
            rw [f_X0_rest_l46, x_menN (wj _), Option.bind_some, if_le (by omega) (by omega), if_neg (by omega), hl.f15, Option.bind_some, hl.f21, Option.bind_some, show (3 : Int32) = N 3 from rfl, N_mul, x_sum hl.k37 (by omega) (by omega), Option.bind_some, g_is_of' hl.k34, Option.bind_some, hl.k34, N_st (by omega) (by decide), Option.bind_some, e37, d2.sp _ (by omega), d2.sp _ (by omega), d2.sp _ (by omega), up_pi, ← cpo_step, Nat.zero_add, show (1 : Int32) = N 1 from rfl, N_add]
            rfl
          · dsimp only
            rw [f_X0_rest_l46, x_menN (wj _), Option.bind_some, if_le (by omega) (by omega), if_pos (Nat.le_refl _)]
        rw [lp, Option.bind_some, f_X0_rest_x46, x_menN (wj _), Option.bind_some, Option.bind_some]
        refine ⟨.inr _, rfl, n, by omega, rfl, hm, n4, ?_⟩
        dsimp only
        exact rb.lie (l := S.B.nm) (f := fun m => sum3 (rounds S.B S.P (n + 1)) (3 * m)) (fun c h1 h2 => by rw [pi_off h1, up_ne _ _ _ h2]) (fun k hk => by rw [pi_get, if_neg (by omega), up_ne _ _ _ (by decide)]) (by simp [pi_get]) (fun i hi => by rw [pi_off (by decide), up_same, cpo, if_pos (by omega), Nat.sub_zero])) (n := 21) (s := (0, va_up (g_pi gi 0 18 0) 37 (cpo (g_pi gi 0 18 0 37) (fun _ => 0) 0 15))) ⟨0, by omega, by omega, rfl, x0, fun j hj => by omega⟩ (by decide)
  rw [k1, Option.bind_some]
  unfold s_rest
  cases e with
  | inl g =>
    obtain ⟨k2, k3⟩ := k2
    rw [firstN_no (fun j hj => by rw [k2 j hj]; rfl)]
    exact ⟨g, rfl, k3⟩
  | inr q =>
    obtain ⟨n, n1, n2, n3, n4, n5⟩ := k2
    rw [firstN_is (i := n) n1 (by rw [n3]; rfl) (fun j hj => by rw [n4 j hj]; rfl)]
    obtain ⟨q1, q2⟩ := q
    dsimp only at n2
    subst n2
    exact ⟨q2, rfl, n5⟩
end X14

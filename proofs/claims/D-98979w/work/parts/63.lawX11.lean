set_option linter.unusedVariables false
set_option linter.unusedSimpArgs false
/-! THE PLAIN LAW: the component: weeks ahead, saves, the richest, the gulf, the most -/
theorem loosens_Sm {B : Bk} (hB : B.Ok) {P Q : Nat → Int32} (h : Sm B.nm P Q) (hQ : Pu Q) : ∀ i, i ≤ B.nm → Sm B.nm (loosens B P i) (loosens B Q i) ∧ Pu (loosens B Q i)
  | 0, _ => ⟨h, hQ⟩
  | i + 1, hi => by
    obtain ⟨i1, i2⟩ := loosens_Sm hB h hQ i (by omega)
    rw [loosens, loosens]
    by_cases hl : B.loose i
    · rw [if_pos hl, if_pos hl]
      obtain ⟨⟨v, v1, v2⟩, _⟩ := id i2
      exact ⟨loosen_Sm hB (by omega) hB.nm i1 v1 v2, loosen_Pu hB (by omega) i2⟩
    · rw [if_neg hl, if_neg hl]
      exact ⟨i1, i2⟩
theorem weekP_Sm {B : Bk} (hB : B.Ok) {P Q : Nat → Int32} (h : Sm B.nm P Q) (hQ : Pu Q) : weekP B P = weekP B Q := by
  have h5 := hB.nm
  have e : resets B (crops B (loosens B P B.nm) B.nm) B.nm = resets B (crops B (loosens B Q B.nm) B.nm) B.nm := by
    funext j
    exact resets_Sm h5 (crops_Sm h5 (loosens_Sm hB h hQ B.nm (Nat.le_refl _)).1 B.nm h5) B.nm h5 j (by omega)
  rw [weekP, weekP, e]
section X11
variable {hk : HK} {nx : Nat} {gi gi' : GI} {gr : GR} {b ask : Nat} {L : List Nat} {sl : Nat} {sf w : Nat → Nat} {S : St}
theorem x_will (r : RX hk nx gi gr b ask L sl sf w S) (o : SOk S) (x y : Int32) : ∃ gi', f_X0_will hk gi gr 0 x y = some (q_will S x y, gi') ∧ RX hk nx gi' gr b ask L sl sf w S := by
  have h5 := r.wd.bk.ok.nm
  have hl := r.wd.lay
  have x11 := hl.pls 11 pl11
  have x26 := hl.pls 26 pl26
  have ha := r.askst
  rw [f_X0_will, x_isMan r.wd, Option.bind_some]
  unfold q_will
  cases h : asQ x S.B.nm with
  | none => exact ⟨gi, rfl, r⟩
  | some m =>
    obtain ⟨rfl, hm⟩ := asQ_some h
    simp only [Option.isSome_some, if_true]
    rw [if_neg (by decide), x_isIn, show (30 : Int32) = N 31 - 1 from rfl, isIn_asQ y (by decide), Option.bind_some]
    cases g : asQ y 31 with
    | none => exact ⟨gi, rfl, r⟩
    | some n =>
      obtain ⟨rfl, hn⟩ := asQ_some g
      simp only [Option.isSome_some, if_true]
      obtain ⟨v, v1, v2⟩ := o.row.week
      obtain ⟨g1, a1, a2, a3⟩ := x_copy (gi := gi) x26 x11 (Or.inr (by omega))
      have r1 := (XFr.of r (gi' := g1) (fun c _ h2 => a3 c (by omega))).rx r
      rw [r.now] at a2
      rw [if_neg (by decide), hl.f8, Option.bind_some, hl.f5, Option.bind_some, g_is_of x26.k, Option.bind_some, a1, Option.bind_some]
      obtain ⟨g2, c1, c2, c3⟩ := loop_J (body := fun (s : Int32 × GI) => f_X0_will_l34 hk gr 0 (N m) (N n) s.1 s.2) (fun k s => ∃ i, k = n - i ∧ i ≤ n ∧ s.1 = N i ∧ RX hk nx s.2 gr b ask L sl sf w S ∧ pl s.2 26 = weeks S.B S.P i) (fun g2 => RX hk nx g2 gr b ask L sl sf w S ∧ pl g2 26 = weeks S.B S.P n) (by
        rintro k ⟨q, gj⟩ ⟨i, i0, i1, i2, i3, i4⟩
        dsimp only at i2 i3 i4 ⊢
        subst i2
        rw [f_X0_will_l34, if_le (by omega) (by omega)]
        by_cases hi : i = n
        · right
          subst hi
          exact ⟨gj, if_pos (Nat.le_refl _), i3, i4⟩
        · left
          obtain ⟨k1, k2, k3⟩ := weeks_ok o.bok o.row.ok v2 i (by omega)
          obtain ⟨g', d1, d2, d3⟩ := x_goWeek i3.wd.bk x26 (r.wd.sp pl26) (by rw [i4]; exact k1.pu') (by rw [i4]; exact k1.over0)
          rw [if_neg (by omega), hl.f8, Option.bind_some, r.wd.f4, Option.bind_some, g_is_of x26.k, Option.bind_some, d1, Option.bind_some]
          refine ⟨_, rfl, n - (i + 1), by omega, i + 1, rfl, by omega, N_add i 1, ?_, ?_⟩
          · exact (XFr.of i3 (gi' := g') (fun c h1 h2 => d3 c h1 (by omega))).rx i3
          · show pl g' 26 = _
            rw [d2, i4]; rfl) (n := n) (s := (0, g1)) ⟨0, by omega, by omega, rfl, r1, a2⟩ (by simp only [g_K]; omega)
      show ∃ gi', ((g_loop g_K (fun (s : Int32 × GI) => f_X0_will_l34 hk gr 0 (N m) (N n) s.1 s.2) (0, g1)).bind _ : Option (Int32 × GI)) = _ ∧ _
      rw [c1, Option.bind_some, f_X0_will_x34, hl.f8, Option.bind_some, g_is_of x26.k, Option.bind_some, x26.r2, Option.bind_some, g_is_of' x26.k3, Option.bind_some, x26.k3, N_ld (by omega) (by decide), Option.bind_some, ← c3, pl_at_crop (by omega)]
      exact ⟨g2, rfl, c2⟩
theorem x_thrive (r : RX hk nx gi gr b ask L sl sf w S) (o : SOk S) (x y : Int32) : ∃ gi', f_X0_thrive hk gi gr 0 x y = some (q_thrive S x y, gi') ∧ RX hk nx gi' gr b ask L sl sf w S := by
  have h5 := r.wd.bk.ok.nm
  have hl := r.wd.lay
  have x11 := hl.pls 11 pl11
  have x26 := hl.pls 26 pl26
  have ha := r.askst
  rw [f_X0_thrive, x_isMan r.wd, Option.bind_some]
  unfold q_thrive
  cases h : asQ x S.B.nm with
  | none => exact ⟨gi, rfl, r⟩
  | some m =>
    obtain ⟨rfl, hm⟩ := asQ_some h
    simp only [Option.isSome_some, if_true]
    rw [if_neg (by decide), x_isIn, show (12 : Int32) = N 13 - 1 from rfl, isIn_asQ y (by decide), Option.bind_some]
    cases g : asQ y 13 with
    | none => exact ⟨gi, rfl, r⟩
    | some n =>
      obtain ⟨rfl, hn⟩ := asQ_some g
      simp only [Option.isSome_some, if_true]
      obtain ⟨v, v1, v2⟩ := o.row.week
      obtain ⟨g1, a1, a2, a3⟩ := x_copy (gi := gi) x26 x11 (Or.inr (by omega))
      have r1 := (XFr.of r (gi' := g1) (fun c _ h2 => a3 c (by omega))).rx r
      rw [r.now] at a2
      rw [if_neg (by decide), hl.f8, Option.bind_some, hl.f5, Option.bind_some, g_is_of x26.k, Option.bind_some, a1, Option.bind_some]
      obtain ⟨g2, c1, c2, c3⟩ := loop_J (body := fun (s : Int32 × GI) => f_X0_thrive_l34 hk gr 0 (N m) (N n) s.1 s.2) (fun k s => ∃ i, k = n - i ∧ i ≤ n ∧ s.1 = N i ∧ RX hk nx s.2 gr b ask L sl sf w S ∧ pl s.2 26 = thriveP S.B m S.P i ∧ POk S.B (thriveP S.B m S.P i) ∧ thriveP S.B m S.P i 40 = N (v + i)) (fun g2 => RX hk nx g2 gr b ask L sl sf w S ∧ pl g2 26 = thriveP S.B m S.P n) (by
        rintro k ⟨q, gj⟩ ⟨i, i0, i1, i2, i3, i4, i5, i6⟩
        dsimp only at i2 i3 i4 ⊢
        subst i2
        rw [f_X0_thrive_l34, if_le (by omega) (by omega)]
        by_cases hi : i = n
        · right
          subst hi
          exact ⟨gj, if_pos (Nat.le_refl _), i3, i4⟩
        · left
          obtain ⟨g3, u, b1, b2, b3, b4, b5, b6⟩ := x_layBest i3.wd pl26 (by decide) (by rw [i4]; exact i5) hm 0
          rw [i4] at b2
          have hb := bestRow_eq b2
          have r3 := b6.xfr.rx i3
          have p3 : pl g3 26 = thriveP S.B m S.P i := (b6.pl i3.wd pl26 (by decide)).trans i4
          obtain ⟨g4, d1, d2, d3, d4⟩ := x_spendsRow r3.wd.bk x26 (r.wd.sp pl26) hm (a := 33) hl.k33 (by omega)
          have r4 := (XFr.of r3 (gi' := g4) (fun c _ h2 => d4 c (by omega))).rx r3
          obtain ⟨k1, k2⟩ := spendR_ok o.bok i5 hm b2.1
          have er : lyR S.B m (g3 33) 1 (add (add (add (pl g3 26) (3 * m) (-(g3 33 0))) (3 * m + 1) (-(g3 33 1))) (3 * m + 2) (-(g3 33 2))) = lyR S.B m (Row.at u) 1 (spendR (thriveP S.B m S.P i) m (Row.at u)) := by
            rw [p3, layR_same S.B m (fun k hk => b3.at k hk) 1 _, b3.at 0 (by decide), b3.at 1 (by decide), b3.at 2 (by decide)]
            rfl
          rw [er] at d2
          have sm : Sm S.B.nm (pl g4 26) (lyR S.B m (Row.at u) 1 (spendR (thriveP S.B m S.P i) m (Row.at u))) := by
            intro j hj
            by_cases q : 35 ≤ j ∧ j < 40
            · rw [d3 j q.1 q.2 (by omega), p3, k2 j q.1]
            · exact d2 j q
          have pu4 : Pu (pl g4 26) := by
            obtain ⟨⟨s, s1, s2⟩, s3⟩ := k1.pu'
            refine ⟨⟨s, s1, by rw [sm 41 (by omega)]; exact s2⟩, fun j hj => ?_⟩
            obtain ⟨t, t1, t2⟩ := s3 j hj
            exact ⟨t, t1, by rw [sm j (by omega)]; exact t2⟩
          have o4 : ∀ m k, m < 5 → S.B.nk ≤ k → k < 3 → pl g4 26 (20 + 3 * m + k) = 0 := fun m' k h1 h2 h3 => by rw [sm _ (by omega)]; exact k1.over0 m' k h1 h2 h3
          obtain ⟨g', e1, e2, e3⟩ := x_goWeek r4.wd.bk x26 (r.wd.sp pl26) pu4 o4
          obtain ⟨y1, y2, y3⟩ := weekP_ok o.bok k1 (w := v + i) (by omega) (by rw [k2 40 (by decide)]; exact i6)
          have eth : thriveP S.B m S.P (i + 1) = weekP S.B (lyR S.B m (Row.at u) 1 (spendR (thriveP S.B m S.P i) m (Row.at u))) := by
            rw [← hb]; rfl
          rw [if_neg (by omega), hl.f8, Option.bind_some, b1, Option.bind_some, Option.bind_some, r.wd.f4, Option.bind_some, hl.f14, Option.bind_some, g_is_of x26.k, Option.bind_some, d1, Option.bind_some, Option.bind_some, Option.bind_some, g_is_of x26.k, Option.bind_some, e1, Option.bind_some]
          refine ⟨_, rfl, n - (i + 1), by omega, i + 1, rfl, by omega, N_add i 1, ?_, ?_, ?_, ?_⟩
          · exact (XFr.of r4 (gi' := g') (fun c h1 h2 => e3 c h1 (by omega))).rx r4
          · show pl g' 26 = _
            rw [e2, eth, weekP_Sm o.bok sm k1.pu']
          · rw [eth]; exact y1
          · rw [eth, y2]; rfl) (n := n) (s := (0, g1)) ⟨0, by omega, by omega, rfl, r1, a2, o.row.ok, v2⟩ (by simp only [g_K]; omega)
      show ∃ gi', ((g_loop g_K (fun (s : Int32 × GI) => f_X0_thrive_l34 hk gr 0 (N m) (N n) s.1 s.2) (0, g1)).bind _ : Option (Int32 × GI)) = _ ∧ _
      rw [c1, Option.bind_some, f_X0_thrive_x34, hl.f8, Option.bind_some, g_is_of x26.k, Option.bind_some, x26.r2, Option.bind_some, g_is_of' x26.k3, Option.bind_some, x26.k3, N_ld (by omega) (by decide), Option.bind_some, ← c3, pl_at_crop (by omega)]
      exact ⟨g2, rfl, c2⟩
theorem x_saves (r : RX hk nx gi gr b ask L sl sf w S) (x y z : Int32) : f_X0_saves hk gi gr 0 x y z = some (q_saves S x y z) := by
  have h5 := r.wd.bk.ok.nm
  have h3 := r.wd.bk.ok.nk
  have hl := r.wd.lay
  have x11 := hl.pls 11 pl11
  rw [f_X0_saves, x_isMan r.wd, Option.bind_some]
  unfold q_saves
  cases h : asQ x S.B.nm with
  | none => rfl
  | some m =>
    obtain ⟨rfl, hm⟩ := asQ_some h
    simp only [Option.isSome_some, if_true]
    rw [if_neg (by decide), x_isKind r.wd, Option.bind_some]
    cases g : asQ y S.B.nk with
    | none => rfl
    | some k =>
      obtain ⟨rfl, hk3⟩ := asQ_some g
      simp only [Option.isSome_some, if_true]
      rw [if_neg (by decide), x_isIn, in1, Option.bind_some]
      by_cases hz : 0 ≤ z ∧ z ≤ 99
      · rw [if_pos hz, if_neg (by decide), if_pos hz]
        obtain ⟨ml, f, m1, m2, m3, m4⟩ := x_men r.wd.bk
        obtain ⟨m5, m6⟩ := m4 m hm
        obtain ⟨pa, q1, q2, q3, q4⟩ := m6.pay
        have st : ∀ i, i < 61 → f_X0_saves_l31 hk gi gr 0 (N m) (N k) z (N i) = if z ≤ S.P (3 * m + k) + N i * S.B.pay m k then some (.inr (.inr (N i))) else some (.inl (N (i + 1))) := by
          intro i hi
          rw [f_X0_saves_l31, show (60 : Int32) = N 60 from rfl, if_lt (by omega) (by omega), if_neg (by omega), hl.f5, Option.bind_some, g_is_of x11.k, Option.bind_some, x_purse x11 (by omega) (by omega), Option.bind_some, r.wd.f4, Option.bind_some, g_is_of r.wd.bk.k, Option.bind_some, m1, Option.bind_some, g_is_of m2, Option.bind_some, m5, Option.bind_some, g_is_of m6.k, Option.bind_some, q2, Option.bind_some, g_is_of' q3, Option.bind_some, q3, N_ld (by omega) (by decide), Option.bind_some, q4 k (by omega), r.now]
          by_cases q : z ≤ S.P (3 * m + k) + N i * S.B.pay m k
          · rw [if_pos q, if_neg (Int32.not_lt.mpr q)]
          · rw [if_neg q, if_pos (Int32.not_le.mp q), show (1 : Int32) = N 1 from rfl, N_add]
        cases hf : firstN (fun n => decide (z ≤ S.P (3 * m + k) + N n * S.B.pay m k)) 61 with
        | some i =>
          obtain ⟨f1, f2, f3⟩ := firstN_some hf
          have hl : g_loop g_K (fun (s : Int32) => f_X0_saves_l31 hk gi gr 0 (N m) (N k) z s) 0 = some (.inr (N i)) := by
            refine loop_T (fun j => N j) i rfl ?_ ?_ (by simp only [g_K]; omega)
            · intro j hj
              rw [st j (by omega), if_neg]
              intro c
              have := f3 j hj
              simp [c] at this
            · rw [st i f1, if_pos (by simpa using f2)]
          rw [hl]; rfl
        | none =>
          have f3 := firstN_none hf
          have hl : g_loop g_K (fun (s : Int32) => f_X0_saves_l31 hk gi gr 0 (N m) (N k) z s) 0 = some (.inl ()) := by
            refine loop_T (fun j => N j) 61 rfl ?_ ?_ (by decide)
            · intro j hj
              rw [st j (by omega), if_neg]
              intro c
              have := f3 j hj
              simp [c] at this
            · rw [f_X0_saves_l31, if_pos (by decide)]
          rw [hl]; rfl
      · rw [if_neg hz, if_pos rfl, if_neg hz]
theorem x_richest (r : RX hk nx gi gr b ask L sl sf w S) : f_X0_richest hk gi gr 0 = some (q_richest S) := by
  have h5 := r.wd.bk.ok.nm
  have hl := r.wd.lay
  have x11 := hl.pls 11 pl11
  have hl : g_loop g_K (fun (s : Int32 × Int32) => f_X0_richest_l4 hk gi gr 0 s.1 s.2) (-1, 0) = some (asI (richN S.P S.B.nm)) := by
    refine loop_T (fun i => (asI (richN S.P i), N i)) S.B.nm rfl ?_ ?_ (by simp only [g_K]; omega)
    · intro i hi
      dsimp only
      rw [f_X0_richest_l4, x_menN r.wd, Option.bind_some, if_le (by omega) (by omega), if_neg (by omega), show (1 : Int32) = N 1 from rfl, N_add, richN]
      cases hq : richN S.P i with
      | none => rfl
      | some c =>
        have hb := richN_lt hq
        rw [show asI (some c) = N c from rfl]
        have hz : ¬ (N c < (0 : Int32)) := by rw [show (0 : Int32) = N 0 from rfl, N_lt (by omega) (by omega)]; omega
        rw [if_neg hz, hl.f5, Option.bind_some, g_is_of x11.k, Option.bind_some, x_rich x11 (by omega), Option.bind_some, Option.bind_some, g_is_of x11.k, Option.bind_some, x_rich x11 (by omega), Option.bind_some, r.now]
        by_cases q : sum3 S.P (3 * c) < sum3 S.P (3 * i)
        · rw [if_neg (Int32.not_le.mpr q)]
          simp only [if_pos q]; rfl
        · rw [if_pos (Int32.not_lt.mp q)]
          simp only [if_neg q]; rfl
    · dsimp only
      rw [f_X0_richest_l4, x_menN r.wd, Option.bind_some, if_le (by omega) (by omega), if_pos (Nat.le_refl _)]
  rw [f_X0_richest, hl]; rfl
theorem sum3_in {B : Bk} {P : Nat → Int32} (h : POk B P) {m : Nat} (hm : m < 5) : ∃ v, v ≤ 297 ∧ sum3 P (3 * m) = N v := by
  obtain ⟨a, a1, a2⟩ := h.purse (3 * m) (by omega)
  obtain ⟨c, c1, c2⟩ := h.purse (3 * m + 1) (by omega)
  obtain ⟨d, d1, d2⟩ := h.purse (3 * m + 2) (by omega)
  exact ⟨a + c + d, by omega, by rw [sum3, a2, c2, d2, N_add, N_add]⟩
theorem x_gulf (r : RX hk nx gi gr b ask L sl sf w S) (o : SOk S) : f_X0_gulf hk gi gr 0 = some (q_gulf S) := by
  have h5 := r.wd.bk.ok.nm
  have lay := r.wd.lay
  have x11 := lay.pls 11 pl11
  have st : ∀ (u v : Int32) (i : Nat), i < S.B.nm → f_X0_gulf_l8 hk gi gr 0 u v (N i) = some (.inl (if u < sum3 S.P (3 * i) then sum3 S.P (3 * i) else u, if sum3 S.P (3 * i) < v then sum3 S.P (3 * i) else v, N (i + 1))) := by
    intro u v i hi
    rw [f_X0_gulf_l8, x_menN r.wd, Option.bind_some, if_le (by omega) (by omega), if_neg (by omega), lay.f5, Option.bind_some, g_is_of x11.k, Option.bind_some, x_rich x11 (by omega), Option.bind_some, Option.bind_some, g_is_of x11.k, Option.bind_some, x_rich x11 (by omega), Option.bind_some, show (1 : Int32) = N 1 from rfl, N_add, r.now]
  have hz : f_X0_gulf_l8 hk gi gr 0 = fun u v k => if N S.B.nm ≤ k then some (.inr (u, v)) else f_X0_gulf_l8 hk gi gr 0 u v k := by
    funext u v k
    by_cases q : N S.B.nm ≤ k
    · rw [if_pos q, f_X0_gulf_l8, x_menN r.wd, Option.bind_some, if_pos q]
    · rw [if_neg q]
  rw [f_X0_gulf]
  unfold q_gulf
  by_cases h0 : S.B.nm = 0
  · have hl : g_loop g_K (fun (s : Int32 × Int32 × Int32) => f_X0_gulf_l8 hk gi gr 0 s.1 s.2.1 s.2.2) (-1, 297, 0) = some (-1, 297) := by
      refine loop_T (fun i => (-1, 297, 0)) 0 rfl (fun i hi => by omega) ?_ (by decide)
      dsimp only
      rw [hz]
      dsimp only
      rw [h0]
      rfl
    rw [hl, Option.bind_some, f_X0_gulf_x8, x_menN r.wd, Option.bind_some, h0]
    rfl
  · have hl : g_loop g_K (fun (s : Int32 × Int32 × Int32) => f_X0_gulf_l8 hk gi gr 0 s.1 s.2.1 s.2.2) (-1, 297, 0) = some (sum3 S.P (3 * (richN S.P S.B.nm).getD 0), poorN S.P S.B.nm) := by
      refine loop_T (fun i => if i = 0 then (-1, 297, 0) else (sum3 S.P (3 * (richN S.P i).getD 0), poorN S.P i, N i)) S.B.nm rfl ?_ ?_ (by simp only [g_K]; omega)
      · intro i hi
        rw [if_neg (show ¬ i + 1 = 0 by omega)]
        by_cases hi0 : i = 0
        · subst hi0
          obtain ⟨v, v1, v2⟩ := sum3_in o.row.ok (show 0 < 5 by decide)
          simp only [if_true]
          have := st (-1) 297 0 hi
          show f_X0_gulf_l8 hk gi gr 0 (-1) 297 (N 0) = _
          rw [this, v2]
          have q1 : (-1 : Int32) < N v := by
            rw [Int32.lt_iff_toInt_lt, N_toInt (by omega)]
            show (-1 : Int) < v
            omega
          rw [if_pos q1]
          have q2 : (if N v < (297 : Int32) then N v else 297) = N v := by
            by_cases q : N v < (297 : Int32)
            · rw [if_pos q]
            · rw [if_neg q]
              have : ¬ v < 297 := fun c => q ((N_lt (by omega) (by decide)).mpr c)
              have : v = 297 := by omega
              rw [this]; rfl
          rw [q2]
          have q3 : poorN S.P (0 + 1) = N v := by
            show least (sum3 S.P 0) (sum3 S.P (3 * 0)) = N v
            have : sum3 S.P 0 = N v := v2
            rw [v2, least, if_pos (Int32.le_refl _)]
          rw [q3]
          show some (Sum.inl (N v, N v, N (0 + 1))) = some (Sum.inl (sum3 S.P (3 * 0), N v, N (0 + 1)))
          rw [v2]
        · rw [if_neg hi0]
          dsimp only
          rw [st _ _ i hi]
          obtain ⟨j, rfl⟩ : ∃ j, i = j + 1 := ⟨i - 1, by omega⟩
          congr 3
          · conv => rhs; rw [richN]
            cases hq : richN S.P (j + 1) with
            | none => exact absurd hq (richN_some j)
            | some c =>
              dsimp only [Option.getD_some]
              by_cases q : sum3 S.P (3 * c) < sum3 S.P (3 * (j + 1))
              · rw [if_pos q, if_pos q, Option.getD_some]
              · rw [if_neg q, if_neg q, Option.getD_some]
          · congr 1
            conv => rhs; rw [poorN]
            rw [least]
            by_cases q : sum3 S.P (3 * (j + 1)) < poorN S.P (j + 1)
            · rw [if_pos q, if_pos (Int32.le_of_lt q)]
            · rw [if_neg q]
              by_cases q2 : sum3 S.P (3 * (j + 1)) ≤ poorN S.P (j + 1)
              · rw [if_pos q2]
                rcases Int32.lt_or_eq_of_le q2 with c | c
                · exact absurd c q
                · exact c.symm
              · rw [if_neg q2]
      · rw [if_neg h0]
        dsimp only
        rw [hz]
        dsimp only
        rw [if_pos (Int32.le_refl _)]
    rw [hl, Option.bind_some, f_X0_gulf_x8, x_menN r.wd, Option.bind_some, show (0 : Int32) = N 0 from rfl, if_eq (by omega) (by omega), if_neg h0]
    cases hq : richN S.P S.B.nm with
    | none =>
      obtain ⟨n, hn⟩ : ∃ n, S.B.nm = n + 1 := ⟨S.B.nm - 1, by omega⟩
      rw [hn] at hq
      exact absurd hq (richN_some n)
    | some c => rfl
theorem x_most (r : RX hk nx gi gr b ask L sl sf w S) (x : Int32) : f_X0_most hk gi gr 0 x = some (q_most S x) := by
  have h5 := r.wd.bk.ok.nm
  have h3 := r.wd.bk.ok.nk
  have lay := r.wd.lay
  have x11 := lay.pls 11 pl11
  rw [f_X0_most, x_isMan r.wd, Option.bind_some]
  unfold q_most
  cases h : asQ x S.B.nm with
  | none => rfl
  | some m =>
    obtain ⟨rfl, hm⟩ := asQ_some h
    simp only [Option.isSome_some, if_true]
    rw [if_neg (by decide)]
    have hl : g_loop g_K (fun (s : Int32 × Int32) => f_X0_most_l14 hk gi gr 0 (N m) s.1 s.2) (-1, 0) = some (asI (mostN S.P m S.B.nk)) := by
      refine loop_T (fun i => (asI (mostN S.P m i), N i)) S.B.nk rfl ?_ ?_ (by simp only [g_K]; omega)
      · intro i hi
        dsimp only
        rw [f_X0_most_l14, x_kindsN r.wd, Option.bind_some, if_le (by omega) (by omega), if_neg (by omega), show (1 : Int32) = N 1 from rfl, N_add, mostN]
        cases hq : mostN S.P m i with
        | none => rfl
        | some c =>
          have hb := mostN_lt hq
          rw [show asI (some c) = N c from rfl]
          have hz : ¬ (N c < (0 : Int32)) := by rw [show (0 : Int32) = N 0 from rfl, N_lt (by omega) (by omega)]; omega
          rw [if_neg hz, lay.f5, Option.bind_some, g_is_of x11.k, Option.bind_some, x_purse x11 (by omega) (by omega), Option.bind_some, Option.bind_some, g_is_of x11.k, Option.bind_some, x_purse x11 (by omega) (by omega), Option.bind_some, r.now]
          by_cases q : S.P (3 * m + c) < S.P (3 * m + i)
          · rw [if_neg (Int32.not_le.mpr q)]
            simp only [if_pos q]; rfl
          · rw [if_pos (Int32.not_lt.mp q)]
            simp only [if_neg q]; rfl
      · dsimp only
        rw [f_X0_most_l14, x_kindsN r.wd, Option.bind_some, if_le (by omega) (by omega), if_pos (Nat.le_refl _)]
    rw [hl]; rfl
end X11

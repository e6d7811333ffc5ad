set_option linter.unusedVariables false
set_option linter.unusedSimpArgs false
/-! THE PLAIN LAW: the component's growth -/
theorem g_is_of {hk : HK} {p t : Nat} (h : (hk p).1 = t) : g_is hk p t = some () := by
  rw [g_is, if_pos h]
theorem x_get {hk : HK} {gi : GI} {gr : GR} {L : List Nat} {l n : Nat} {f : Nat → Nat} (x : XLs hk gi gr L l n f) {i : Nat} (hi : i < n) : f_J2_get hk gi gr l (N i) = some (f i) := by
  have hs := x.small
  obtain ⟨e, e1, e2, e3, e4, e5, e6⟩ := x.els
  have hz : ¬ (N i < (0 : Int32)) := by rw [show (0 : Int32) = N 0 from rfl, N_lt (by omega) (by omega)]; omega
  rw [f_J2_get, f_J3_checkIndex, f_J4_checkIndex, if_neg hz, x.size, if_lt (by omega) (by omega), if_pos hi, Option.bind_some, Option.bind_some, f_J2_elementData, e2, Option.bind_some, g_is_of e3, Option.bind_some, N_ldr (by omega) (Nat.le_of_lt e5), e6 i hi]
  rfl
theorem x_hedge {hk : HK} {gi : GI} {gr : GR} {b ask : Nat} {B : Bk} {L : List Nat} (x : XBk hk gi gr b B ask L) {m : Nat} (hm : m < B.nm) : f_X1_hedge hk gi gr b (N m) = some (B.hedge m) := by
  obtain ⟨ml, f, h1, h2, h3⟩ := x.men
  rw [f_X1_hedge, h1, Option.bind_some, g_is_of h2.k, Option.bind_some, x_get h2 hm, Option.bind_some, g_is_of (h3 m hm).k, Option.bind_some, (h3 m hm).hedge]
/-- the book's cells lie apart from a Plots -/
def Sp (L : List Nat) (ask p : Nat) : Prop := (∀ c, c ∈ L → ¬ (p ≤ c ∧ c ≤ p + 4)) ∧ ¬ (p ≤ ask ∧ ask ≤ p + 4)
theorem XBk.over {hk : HK} {gi : GI} {gr : GR} {b ask : Nat} {B : Bk} {L : List Nat} (x : XBk hk gi gr b B ask L) {gi' : GI} (h : ∀ c, c ∈ L → gi' c = gi c) : XBk hk gi' gr b B ask L :=
  x.keep (fun c hc => ⟨rfl, h c hc, rfl⟩) rfl
theorem pi_off {gi : GI} {a k : Nat} {x : Int32} {c : Nat} (h : c ≠ a) : g_pi gi a k x c = gi c := by
  funext j
  rw [pi_get, if_neg]
  omega
theorem x_pours_j {hk : HK} {gi : GI} {gr : GR} {b ask p : Nat} {B : Bk} {L : List Nat} (x : XBk hk gi gr b B ask L) (xp : XPl hk gr p) (sp : Sp L ask p) {m k : Nat} (hm : m < B.nm) (hk3 : k < 3) (n : Int32) : ∃ gi', f_X3_pours_j50 hk gr p b (N m) (N k) n gi = some gi' ∧ pl gi' p = lay2 B m k n 1 (pl gi p) ∧ ∀ c, c ≠ p + 2 → gi' c = gi c := by
  have h5 := x.ok.nm
  obtain ⟨ml, f, h1, h2, h3⟩ := x.men
  rw [f_X3_pours_j50, g_is_of x.k, Option.bind_some, h1, Option.bind_some, g_is_of h2.k, Option.bind_some, f_J2_size, Option.bind_some, h2.size, show (1 : Int32) = N 1 from rfl, N_add, if_le (by omega) (by omega)]
  unfold lay2
  by_cases h : B.nm ≤ m + 1
  · rw [if_pos h, if_pos h]
    exact ⟨gi, rfl, rfl, fun _ _ => rfl⟩
  · rw [if_neg h, if_neg h, xp.r1, Option.bind_some, g_is_of (by rw [xp.k2]), Option.bind_some, xp.k2, show (3 : Int32) = N 3 from rfl, N_mul, N_add, N_ld (by omega) (by decide), Option.bind_some, x_hedge x hm, Option.bind_some, N_st (by omega) (by decide), Option.bind_some]
    refine ⟨_, rfl, ?_, fun c hc => pi_off hc⟩
    rw [pl_over _ _ _ (by omega), add, Nat.add_assoc, pl_at_over (by omega)]
    congr 1
    rw [show N 1 * leak B m n = leak B m n from Int32.one_mul _]
    rfl
theorem x_pours {hk : HK} {gi : GI} {gr : GR} {b ask p : Nat} {B : Bk} {L : List Nat} (x : XBk hk gi gr b B ask L) (xp : XPl hk gr p) (sp : Sp L ask p) {m k : Nat} (hm : m < B.nm) (hk3 : k < 3) (n : Int32) : ∃ gi', f_X3_pours hk gi gr p b (N m) (N k) n = some gi' ∧ pl gi' p = ly B m k n 1 (pl gi p) ∧ ∀ c, c ≠ p + 2 → gi' c = gi c := by
  have h5 := x.ok.nm
  have keep : ∀ gj : GI, (∀ c, c ≠ p + 2 → gj c = gi c) → XBk hk gj gr b B ask L := fun gj h => x.over (fun c hc => h c (fun e => sp.1 c hc (by omega)))
  rw [f_X3_pours, xp.r1, Option.bind_some, g_is_of (by rw [xp.k2]), Option.bind_some, xp.k2, show (3 : Int32) = N 3 from rfl, N_mul, N_add, N_ld (by omega) (by decide), Option.bind_some, N_st (by omega) (by decide), Option.bind_some, show (0 : Int32) = N 0 from rfl, if_le (by omega) (by omega)]
  have e1 : pl (g_pi gi (p + 2) (3 * m + k) (gi (p + 2) (3 * m + k) + n)) p = add (pl gi p) (20 + 3 * m + k) (1 * n) := by
    rw [pl_over _ _ _ (by omega), add, show 20 + 3 * m + k = 20 + (3 * m + k) by omega, pl_at_over (by omega), Int32.one_mul]
  have f1 : ∀ c, c ≠ p + 2 → g_pi gi (p + 2) (3 * m + k) (gi (p + 2) (3 * m + k) + n) c = gi c := fun c hc => pi_off hc
  generalize g_pi gi (p + 2) (3 * m + k) (gi (p + 2) (3 * m + k) + n) = g1 at e1 f1
  unfold ly lay1
  by_cases h0 : m = 0
  · rw [if_pos (by omega), if_pos h0]
    obtain ⟨g', a1, a2, a3⟩ := x_pours_j (keep g1 f1) xp sp hm hk3 n
    exact ⟨g', a1, by rw [a2, e1], fun c hc => (a3 c hc).trans (f1 c hc)⟩
  · rw [if_neg (by omega), if_neg h0, Option.bind_some, g_is_of (by rw [xp.k2]), Option.bind_some, xp.k2, show (1 : Int32) = N 1 from rfl, N_sub (by omega), N_mul, N_add, N_ld (by omega) (by decide), Option.bind_some, g_is_of x.k, Option.bind_some, x_hedge (keep g1 f1) (by omega), Option.bind_some, N_st (by omega) (by decide), Option.bind_some]
    have e2 : ∀ w : Int32, w = g1 (p + 2) (3 * (m - 1) + k) + (n * (10 - B.hedge (m - 1))) / 10 → pl (g_pi g1 (p + 2) (3 * (m - 1) + k) w) p = add (add (pl gi p) (20 + 3 * m + k) (1 * n)) (20 + 3 * (m - 1) + k) (1 * leak B (m - 1) n) := by
      intro w hw
      rw [pl_over _ _ _ (by omega), e1, hw]
      conv => rhs; rw [add]
      rw [show 20 + 3 * (m - 1) + k = 20 + (3 * (m - 1) + k) by omega, ← e1, pl_at_over (by omega), Int32.one_mul]
      rfl
    have e2 := e2 _ rfl
    have f2 : ∀ w, ∀ c, c ≠ p + 2 → g_pi g1 (p + 2) (3 * (m - 1) + k) w c = gi c := fun w c hc => (pi_off hc).trans (f1 c hc)
    obtain ⟨g', a1, a2, a3⟩ := x_pours_j (keep _ (f2 _)) xp sp hm hk3 n
    exact ⟨g', a1, by rw [a2, e2]; rfl, fun c hc => (a3 c hc).trans (f2 _ c hc)⟩
/-! formulas -/
theorem x_two (fo : HK → GI → GR → Nat → Nat → Option Int32) (hk : HK) (gi : GI) (gr : GR) (g a : Nat) {l r : Nat} {x y : Int32} (h1 : gr g 0 = some l) (h2 : gr g 1 = some r) (hx : fo hk gi gr l a = some x) (hy : fo hk gi gr r a = some y) (hc : isTwo (gi g 2)) : f_X11_of_b fo hk gi gr g a = some (two (gi g 2) x y) := by
  rw [f_X11_of_b, h1, Option.bind_some, hx, Option.bind_some, h2, Option.bind_some, hy, Option.bind_some]
  rcases hc with h | h | h | h | h | h | h | h | h | h <;> rw [h]
  · simp [two]
  · simp [two]
  · simp [two]
  · by_cases q : y = 0 <;> simp [two, q, g_nz]
  · by_cases q : y = 0 <;> simp [two, q, g_nz]
  · by_cases q : x < y
    · simp [two, q, Int32.not_le.mpr q]
    · simp [two, q, Int32.not_lt.mp q]
  · by_cases q : y < x
    · simp [two, q, Int32.not_le.mpr q]
    · simp [two, q, Int32.not_lt.mp q]
  · by_cases q : x = y <;> simp [two, q]
  · by_cases q : x = 0 <;> by_cases q2 : y = 0 <;> simp [two, q, q2]
  · by_cases q : x = 0 <;> by_cases q2 : y = 0 <;> simp [two, q, q2]
theorem x_of {hk : HK} {gi : GI} {gr : GR} {L : List Nat} {ask : Nat} (ha : (hk ask).1 = 12) : ∀ (d g : Nat) (C : Cde), XEx hk gi gr L d g C → f_of d hk gi gr g ask = some (evC (fun k => gi ask k) C) := by
  intro d
  induction d with
  | zero => intro g C h; exact h.elim
  | succ d ih =>
    rintro g C ⟨x0, ⟨x1, x2⟩ | ⟨k, x1, x2, x3, x4, x5, x6⟩ | ⟨x1, n, A, x2, x3, x4⟩ | ⟨x1, x2, a, b, A, E, x3, x4, x5, x6, x7⟩⟩
    · rw [f_of, f_of_b, if_pos x1, f_X10_of_b, x2]; rfl
    · subst x6 x1
      rw [f_of, f_of_b, if_neg x3, if_neg x4, if_neg x5, if_pos ⟨by omega, by omega, ha⟩, show 1000000 + k - 1000000 = k by omega, evC_ask _ x2]
    · subst x4
      rw [f_of, f_of_b, if_neg (by rw [x1]; decide), if_pos x1, f_X9_of_b, x2, Option.bind_some, ih n A x3, Option.bind_some, evC_not _ x3.cd]
      split <;> rfl
    · subst x7
      rw [f_of, f_of_b, if_neg (by rw [x1]; decide), if_neg (by rw [x1]; decide), if_pos x1, x_two _ _ _ _ _ _ x3 x4 (ih a A x5) (ih b E x6) x2, evC_two _ x5.cd x6.cd x2]
theorem x_clamp (hk : HK) (gr : GR) (gi : GI) (v : Int32) : f_X1_growth_j109 hk gr gi v = some (clamp v, gi) := by
  unfold f_X1_growth_j109 clamp
  by_cases h : v ≤ 20
  · rw [if_pos h]
    have e : (if v < 20 then v else 20) = v := by
      by_cases q : v < 20
      · rw [if_pos q]
      · rw [if_neg q]; exact Int32.le_antisymm (Int32.not_lt.mp q) h
    rw [e]
    by_cases q : (-20 : Int32) ≤ v
    · rw [if_pos q]
      by_cases q2 : (-20 : Int32) < v
      · rw [if_pos q2]
      · rw [if_neg q2]
        have : v = -20 := Int32.le_antisymm (Int32.not_lt.mp q2) q
        rw [this]
    · rw [if_neg q, if_neg (fun c => q (Int32.le_of_lt c))]
  · rw [if_neg h, if_neg (fun c => h (Int32.le_of_lt c))]
    rfl
theorem ev_same {a b : Nat → Int32} (h : ∀ k, k < 6 → a k = b k) : ∀ {d : Nat} {C : Cde}, Cd d C → evC a C = evC b C := by
  intro d
  induction d with
  | zero => intro C h; exact h.elim
  | succ d ih =>
    rintro C (⟨v, rfl⟩ | ⟨k, hk, rfl⟩ | ⟨A, hA, rfl⟩ | ⟨A, E, c, hA, hE, hc, rfl⟩)
    · rfl
    · rw [evC_ask _ hk, evC_ask _ hk, h k hk]
    · rw [evC_not _ hA, evC_not _ hA, ih hA]
    · rw [evC_two _ hA hE hc, evC_two _ hA hE hc, ih hA, ih hE]
theorem x_growth {hk : HK} {gi : GI} {gr : GR} {b ask p : Nat} {B : Bk} {L : List Nat} (x : XBk hk gi gr b B ask L) (xp : XPl hk gr p) (sp : Sp L ask p) (ho : ∀ m k, m < 5 → B.nk ≤ k → k < 3 → pl gi p (20 + 3 * m + k) = 0) {m : Nat} (hm : m < 5) : ∃ gi', f_X3_growth hk gi gr p b (N m) = some (growth B (pl gi p) m, gi') ∧ ∀ c, c ≠ ask → gi' c = gi c := by
  have av : ∀ k, k < 3 → gi (p + 2) (3 * m + k) = askv B (pl gi p) m k := by
    intro k hk3
    rw [askv, if_neg (by omega), if_neg (by omega), if_neg (by omega)]
    by_cases h : k < B.nk
    · rw [if_pos h, show 20 + 3 * m + k = 20 + (3 * m + k) by omega, pl_at_over (by omega)]
    · rw [if_neg h, ← pl_at_over (gi := gi) (p := p) (by omega), ← ho m k hm (by omega) hk3, show 20 + 3 * m + k = 20 + (3 * m + k) by omega]
  have e0 := av 0 (by decide)
  have e1 := av 1 (by decide)
  have e2 := av 2 (by decide)
  have as := x.ask
  have na : p + 2 ≠ ask := fun e => sp.2 (by omega)
  rw [f_X3_growth, xp.r1, Option.bind_some, xp.r2, Option.bind_some, g_is_of (by rw [xp.k3]), Option.bind_some, xp.k3, N_ld (by omega) (by decide), Option.bind_some, g_is_of x.k, Option.bind_some]
  have ld : ∀ (g : GI) (k : Nat), k < 3 → g (p + 2) = gi (p + 2) → g_ld g (p + 2) 15 (N (3 * m + k)) = some (askv B (pl gi p) m k) := by
    intro g k h1 h2
    rw [N_ld (by omega) (by decide), h2, av k h1]
  have i0 : (3 : Int32) * N m = N (3 * m + 0) := by rw [show (3 : Int32) = N 3 from rfl, N_mul]; rfl
  have i1 : (3 : Int32) * N m + 1 = N (3 * m + 1) := by rw [show (3 : Int32) = N 3 from rfl, N_mul, show (1 : Int32) = N 1 from rfl, N_add]
  have i2 : (3 : Int32) * N m + 2 = N (3 * m + 2) := by rw [show (3 : Int32) = N 3 from rfl, N_mul, show (2 : Int32) = N 2 from rfl, N_add]
  rw [f_X1_growth, g_is_of (by rw [xp.k2]), Option.bind_some, xp.k2, i1, i2, i0, ld gi 0 (by decide) rfl, Option.bind_some, ld gi 1 (by decide) rfl, Option.bind_some, ld gi 2 (by decide) rfl, Option.bind_some]
  obtain ⟨g1, g2⟩ | ⟨e, g, g1, g2, g3⟩ := x.grow
  · rw [g2]
    refine ⟨gi, ?_, fun _ _ => rfl⟩
    show ((f_X1_growth_j109 hk gr gi _).bind _ : Option (Int32 × GI)) = _
    rw [x_clamp]
    simp only [growth, g1, Option.bind_some]
  · have off : ∀ (g : GI) (k : Nat) (v : Int32), g (p + 2) = gi (p + 2) → g_pi g ask k v (p + 2) = gi (p + 2) := fun g k v h => (pi_off na).trans h
    rw [g2]
    show ∃ gi', ((((gr b 4).bind _) : Option (Int32 × GI)).bind _) = _ ∧ _
    simp only [as.1, Option.bind_some, g_is_of as.2.1, ld gi 0 (by decide) rfl]
    rw [ld _ 1 (by decide) (off _ _ _ rfl)]
    simp only [Option.bind_some]
    rw [ld _ 2 (by decide) (off _ _ _ (off _ _ _ rfl))]
    simp only [Option.bind_some]
    have frm : ∀ c, c ≠ ask → g_pi (g_pi (g_pi (g_pi (g_pi (g_pi gi ask 0 (askv B (pl gi p) m 0)) ask 1 (askv B (pl gi p) m 1)) ask 2 (askv B (pl gi p) m 2)) ask 3 (gi (p + 3) m)) ask 4 (gi p 4)) ask 5 (N m) c = gi c := by
      intro c hc
      rw [pi_off hc, pi_off hc, pi_off hc, pi_off hc, pi_off hc, pi_off hc]
    have x6 := x.over (gi' := g_pi (g_pi (g_pi (g_pi (g_pi (g_pi gi ask 0 (askv B (pl gi p) m 0)) ask 1 (askv B (pl gi p) m 1)) ask 2 (askv B (pl gi p) m 2)) ask 3 (gi (p + 3) m)) ask 4 (gi p 4)) ask 5 (N m)) (fun c hc => frm c (fun e => as.2.2 (e ▸ hc)))
    have g3' := g3.keep (M := L) (fun c hc => ⟨rfl, frm c (fun e => as.2.2 (e ▸ hc)), rfl⟩ : Keep hk hk gi _ gr gr L) (fun _ h => h)
    rw [x_of as.2.1 100 g e g3', Option.bind_some, x_clamp]
    refine ⟨_, ?_, frm⟩
    have ev : evC (fun k => g_pi (g_pi (g_pi (g_pi (g_pi (g_pi gi ask 0 (askv B (pl gi p) m 0)) ask 1 (askv B (pl gi p) m 1)) ask 2 (askv B (pl gi p) m 2)) ask 3 (gi (p + 3) m)) ask 4 (gi p 4)) ask 5 (N m) ask k) e = evC (askv B (pl gi p) m) e := by
      refine ev_same ?_ g3.cd
      intro k hk6
      match k, hk6 with
      | 0, _ => simp [pi_get]
      | 1, _ => simp [pi_get]
      | 2, _ => simp [pi_get]
      | 3, _ => simp [pi_get, askv, pl_at_crop hm]
      | 4, _ => simp [pi_get, askv, pl_week]
      | 5, _ => simp [pi_get, askv]
    rw [ev, growth, g1]
    rfl
theorem x_growths {hk : HK} {gi : GI} {gr : GR} {b ask p : Nat} {B : Bk} {L : List Nat} (x : XBk hk gi gr b B ask L) (xp : XPl hk gr p) (sp : Sp L ask p) (ho : ∀ m k, m < 5 → B.nk ≤ k → k < 3 → pl gi p (20 + 3 * m + k) = 0) : ∃ gi', f_X3_growths hk gi gr p b = some (growths B (pl gi p) B.nm, gi') ∧ ∀ c, c ≠ ask → gi' c = gi c := by
  have h5 := x.ok.nm
  have key := loop_J (body := fun (s : Int32 × Int32 × GI) => f_X3_growths_l4 hk gr p b s.1 s.2.1 s.2.2) (fun n s => ∃ i, n = B.nm - i ∧ i ≤ B.nm ∧ s.1 = growths B (pl gi p) i ∧ s.2.1 = N i ∧ ∀ c, c ≠ ask → s.2.2 c = gi c) (fun q => q.1 = growths B (pl gi p) B.nm ∧ ∀ c, c ≠ ask → q.2 c = gi c) (by
    rintro n ⟨v, k, gj⟩ ⟨i, e0, e1, e2, e3, e4⟩
    dsimp only at e2 e3 e4 ⊢
    subst e2 e3
    have xj := x.over (gi' := gj) (fun c hc => e4 c (fun e => x.ask.2.2 (e ▸ hc)))
    have pj : pl gj p = pl gi p := pl_same (fun c c1 c2 => e4 c (fun e => sp.2 (by omega)))
    obtain ⟨ml, f, h1, h2, h3⟩ := xj.men
    rw [f_X3_growths_l4, g_is_of x.k, Option.bind_some, h1, Option.bind_some, g_is_of h2.k, Option.bind_some, f_J2_size, Option.bind_some, h2.size, if_le (by omega) (by omega)]
    by_cases h : i = B.nm
    · right
      subst h
      exact ⟨_, if_pos (Nat.le_refl _), rfl, e4⟩
    · left
      rw [if_neg (by omega)]
      obtain ⟨g', q1, q2⟩ := x_growth xj xp sp (by rw [pj]; exact ho) (show i < 5 by omega)
      rw [q1, Option.bind_some]
      refine ⟨_, rfl, B.nm - (i + 1), by omega, i + 1, rfl, by omega, ?_, N_add i 1, fun c hc => (q2 c hc).trans (e4 c hc)⟩
      show _ + _ = growths B (pl gi p) i + growth B (pl gi p) i
      rw [pj]) (n := B.nm) (s := (0, 0, gi)) ⟨0, by omega, by omega, rfl, rfl, fun _ _ => rfl⟩ (by simp only [g_K]; omega)
  obtain ⟨⟨v, gi'⟩, k1, k2, k3⟩ := key
  dsimp only at k2
  subst k2
  exact ⟨gi', by rw [f_X3_growths, k1]; rfl, k3⟩

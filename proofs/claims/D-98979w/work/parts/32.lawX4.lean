set_option linter.unusedVariables false
set_option linter.unusedSimpArgs false
/-! THE PLAIN LAW: the component's weeks -/
/-- the same but for the hours spent of the first men -/
def Sm (n : Nat) (P Q : Nat → Int32) : Prop := ∀ j, ¬ (35 ≤ j ∧ j < 35 + n) → P j = Q j
theorem loosen_at {B : Bk} {m : Nat} {P : Nat → Int32} {v : Nat} (hv : v ≤ 999) (hs : P 41 = N v) : loosen B m P = if B.nk = 0 then upd P 41 (N ((137 * v + 71) % 1000)) else if P (3 * m + (137 * v + 71) % 1000 % B.nk) = 0 then upd P 41 (N ((137 * v + 71) % 1000)) else ly B m ((137 * v + 71) % 1000 % B.nk) 1 1 (upd (upd P 41 (N ((137 * v + 71) % 1000))) (3 * m + (137 * v + 71) % 1000 % B.nk) (P (3 * m + (137 * v + 71) % 1000 % B.nk) - 1)) := by
  have hlt := Nat.mod_lt (137 * v + 71) (show 1000 > 0 by decide)
  have e : seedOf (P 41) = N ((137 * v + 71) % 1000) := by rw [hs, seedOf_N hv]
  have hpn : pn (upd P 41 (N ((137 * v + 71) % 1000))) 41 = (137 * v + 71) % 1000 := by
    unfold pn upd
    rw [if_pos rfl, N_toNat (by omega)]
  unfold loosen
  rw [e, hpn]
theorem loosen_Sm {B : Bk} (hB : B.Ok) {m n : Nat} (hm : m < B.nm) (hn : n ≤ 5) {P Q : Nat → Int32} (h : Sm n P Q) {v : Nat} (hv : v ≤ 999) (hs : Q 41 = N v) : Sm n (loosen B m P) (loosen B m Q) := by
  have h5 := hB.nm
  have h3 := hB.nk
  have hsP : P 41 = N v := by rw [h 41 (by omega)]; exact hs
  rw [loosen_at hv hs, loosen_at hv hsP]
  by_cases hk : B.nk = 0
  · rw [if_pos hk, if_pos hk]
    intro j hj
    unfold upd
    split
    · rfl
    · exact h j hj
  · rw [if_neg hk, if_neg hk]
    have hkk := Nat.mod_lt ((137 * v + 71) % 1000) (show B.nk > 0 by omega)
    generalize (137 * v + 71) % 1000 % B.nk = k at hkk
    have e : P (3 * m + k) = Q (3 * m + k) := h _ (by omega)
    rw [e]
    by_cases hz : Q (3 * m + k) = 0
    · rw [if_pos hz, if_pos hz]
      intro j hj
      unfold upd
      split
      · rfl
      · exact h j hj
    · rw [if_neg hz, if_neg hz]
      intro j hj
      rw [lay_dl, lay_dl]
      congr 1
      unfold upd
      split
      · rfl
      · split
        · rfl
        · exact h j hj
/-- purses and the seed keep to their numbers -/
def Pu (P : Nat → Int32) : Prop := (∃ v, v ≤ 999 ∧ P 41 = N v) ∧ ∀ j, j < 15 → ∃ v, v ≤ 99 ∧ P j = N v
theorem loosen_Pu {B : Bk} (hB : B.Ok) {m : Nat} (hm : m < B.nm) {P : Nat → Int32} (h : Pu P) : Pu (loosen B m P) := by
  have h5 := hB.nm
  have h3 := hB.nk
  refine ⟨loosen_seed hm hB h.1, ?_⟩
  obtain ⟨v, hv, hs⟩ := h.1
  intro j hj
  rw [loosen_at hv hs]
  by_cases hk : B.nk = 0
  · rw [if_pos hk]
    simp only [upd]
    rw [if_neg (by omega)]
    exact h.2 j hj
  · rw [if_neg hk]
    have hkk := Nat.mod_lt ((137 * v + 71) % 1000) (show B.nk > 0 by omega)
    generalize (137 * v + 71) % 1000 % B.nk = k at hkk
    by_cases hz : P (3 * m + k) = 0
    · rw [if_pos hz]
      simp only [upd]
      rw [if_neg (by omega)]
      exact h.2 j hj
    · rw [if_neg hz, lay_dl, dl_off B m k (by omega) hm h5 _ j (by omega), Int32.mul_zero, Int32.add_zero]
      simp only [upd]
      by_cases he : j = 3 * m + k
      · rw [if_pos he]
        obtain ⟨w, w1, w2⟩ := h.2 (3 * m + k) (by omega)
        have w0 : w ≠ 0 := by
          intro e
          rw [w2, e] at hz
          exact hz rfl
        exact ⟨w - 1, by omega, by rw [w2, show (1 : Int32) = N 1 from rfl, N_sub (by omega)]⟩
      · rw [if_neg he, if_neg (by omega)]
        exact h.2 j hj
theorem loosen_over0 {B : Bk} (hB : B.Ok) {m : Nat} (hm : m < B.nm) {P : Nat → Int32} (h : Pu P) (ho : ∀ m k, m < 5 → B.nk ≤ k → k < 3 → P (20 + 3 * m + k) = 0) : ∀ m' k, m' < 5 → B.nk ≤ k → k < 3 → loosen B m P (20 + 3 * m' + k) = 0 := by
  intro m' k' hm' hk' hk3
  have h5 := hB.nm
  have h3 := hB.nk
  obtain ⟨v, hv, hs⟩ := h.1
  rw [loosen_at hv hs]
  by_cases hk : B.nk = 0
  · rw [if_pos hk]
    simp only [upd]
    rw [if_neg (by omega)]
    exact ho m' k' hm' hk' hk3
  · rw [if_neg hk]
    have hkk := Nat.mod_lt ((137 * v + 71) % 1000) (show B.nk > 0 by omega)
    generalize (137 * v + 71) % 1000 % B.nk = k at hkk
    by_cases hz : P (3 * m + k) = 0
    · rw [if_pos hz]
      simp only [upd]
      rw [if_neg (by omega)]
      exact ho m' k' hm' hk' hk3
    · rw [if_neg hz, lay_dl]
      have : dl B m k 1 (20 + 3 * m' + k') = 0 := by
        rw [dl, if_neg (by omega), if_neg (by omega), if_neg (by omega)]
      rw [this, Int32.mul_zero, Int32.add_zero]
      simp only [upd]
      rw [if_neg (by omega), if_neg (by omega)]
      exact ho m' k' hm' hk' hk3
theorem growth_same {B : Bk} {P Q : Nat → Int32} (h : ∀ j, 15 ≤ j → j < 35 → P j = Q j) (h40 : P 40 = Q 40) {m : Nat} (hm : m < 5) : growth B P m = growth B Q m := by
  have e : ∀ k, k < 6 → askv B P m k = askv B Q m k := by
    intro k hk
    unfold askv
    split
    · exact h _ (by omega) (by omega)
    · split
      · exact h40
      · split
        · rfl
        · split
          · exact h _ (by omega) (by omega)
          · rfl
  unfold growth
  cases hg : B.grow with
  | none => simp only [e 0 (by omega), e 1 (by omega), e 2 (by omega)]
  | some c =>
    simp only
    have : runs (askv B P m) c [] = runs (askv B Q m) c [] := by
      have key : ∀ (c : Cde) (st : List Int32), runs (askv B P m) c st = runs (askv B Q m) c st := by
        intro c
        induction c with
        | nil => intro st; rfl
        | cons x l ih =>
          intro st
          rw [runs, runs, ih]
          congr 1
          unfold stp
          rw [e 0 (by omega), e 1 (by omega), e 2 (by omega), e 3 (by omega), e 4 (by omega), e 5 (by omega)]
      exact key c []
    unfold evC
    rw [this]
theorem growths_same {B : Bk} {P Q : Nat → Int32} (h : ∀ j, 15 ≤ j → j < 35 → P j = Q j) (h40 : P 40 = Q 40) : ∀ n, n ≤ 5 → growths B P n = growths B Q n
  | 0, _ => rfl
  | n + 1, hn => by rw [growths, growths, growths_same h h40 n (by omega), growth_same h h40 (by omega)]
theorem x_drinks {hk : HK} {gi : GI} {gr : GR} {b ask p : Nat} {B : Bk} {L : List Nat} (x : XBk hk gi gr b B ask L) (xp : XPl hk gr p) (sp : Sp L ask p) (hP : Pu (pl gi p)) {m : Nat} (hm : m < B.nm) : ∃ gi', f_X3_drinks hk gi gr p b (N m) = some gi' ∧ Sm B.nm (pl gi' p) (loosen B m (pl gi p)) ∧ ∀ c, ¬ (p ≤ c ∧ c ≤ p + 4) → gi' c = gi c := by
  have h5 := x.ok.nm
  have h3 := x.ok.nk
  obtain ⟨v, hv, hs⟩ := hP.1
  have hlt := Nat.mod_lt (137 * v + 71) (show 1000 > 0 by decide)
  rw [pl_seed] at hs
  have e0 : (gi p 5 * 137 + 71) - (gi p 5 * 137 + 71) / 1000 * 1000 = N ((137 * v + 71) % 1000) := by
    rw [hs, show (137 : Int32) = N 137 from rfl, show (71 : Int32) = N 71 from rfl, show (1000 : Int32) = N 1000 from rfl, N_mul, N_add, N_mod (by omega) (by omega) (by omega), Nat.mul_comm v 137]
  rw [f_X3_drinks, e0, Option.bind_some, loosen_at hv (by rw [pl_seed]; exact hs)]
  have e1 : pl (g_pi gi p 5 (N ((137 * v + 71) % 1000))) p = upd (pl gi p) 41 (N ((137 * v + 71) % 1000)) := pl_own _ _ 5 (Or.inr rfl) _
  have f1 : ∀ c, ¬ (p ≤ c ∧ c ≤ p + 4) → g_pi gi p 5 (N ((137 * v + 71) % 1000)) c = gi c := fun c hc => pi_off (by omega)
  have g5 : g_pi gi p 5 (N ((137 * v + 71) % 1000)) p 5 = N ((137 * v + 71) % 1000) := by simp [pi_get]
  generalize g_pi gi p 5 (N ((137 * v + 71) % 1000)) = g1 at e1 f1 g5
  have x1 := x.over (gi' := g1) (fun c hc => f1 c (sp.1 c hc))
  obtain ⟨kl, f, k1, k2⟩ := x1.kinds
  rw [g_is_of x.k, Option.bind_some, k1, Option.bind_some, g_is_of k2.k, Option.bind_some, f_J2_isEmpty, k2.size]
  by_cases hk0 : B.nk = 0
  · rw [hk0, if_pos (show N 0 = 0 from rfl), if_pos rfl, Option.bind_some, if_neg (by decide)]
    exact ⟨g1, rfl, fun j _ => by rw [e1], f1⟩
  · rw [if_neg (by rw [show (0 : Int32) = N 0 from rfl, N_eq (by omega) (by omega)]; exact hk0), if_neg hk0, Option.bind_some, if_pos rfl, Option.bind_some, g_is_of k2.k, Option.bind_some, f_J2_size, Option.bind_some, k2.size, g_nz, if_neg (by rw [show (0 : Int32) = N 0 from rfl, N_eq (by omega) (by omega)]; exact hk0), Option.bind_some, g5, N_mod (by omega) (by omega) (by omega)]
    have hkk := Nat.mod_lt ((137 * v + 71) % 1000) (show B.nk > 0 by omega)
    generalize hkd : (137 * v + 71) % 1000 % B.nk = k at hkk
    rw [x_purse xp (by omega) (by omega), Option.bind_some, e1]
    have e2 : upd (pl gi p) 41 (N ((137 * v + 71) % 1000)) (3 * m + k) = pl gi p (3 * m + k) := by
      simp only [upd]; rw [if_neg (by omega)]
    rw [e2]
    obtain ⟨w, w1, w2⟩ := hP.2 (3 * m + k) (by omega)
    rw [w2, show (0 : Int32) = N 0 from rfl, if_le (by omega) (by omega), if_eq (by omega) (by omega)]
    by_cases hw : w = 0
    · rw [if_pos (by omega), if_pos hw]
      exact ⟨g1, rfl, fun j _ => by rw [e1], f1⟩
    · rw [if_neg (by omega), if_neg hw]
      obtain ⟨g', a1, a2, a3⟩ := x_spends x1 xp sp hm (show k < 3 by omega) 1
      refine ⟨g', by rw [a1]; rfl, ?_, fun c hc => (a3 c hc).trans (f1 c hc)⟩
      intro j hj
      rw [a2, e1, lay_dl, lay_dl]
      congr 1
      rw [add_get, add_get, if_neg (show ¬ j = 35 + m by omega), Int32.add_zero]
      by_cases he : j = 3 * m + k
      · rw [if_pos he, he, e2, w2]
        simp only [upd, if_true]
        rw [Int32.sub_eq_add_neg]
      · rw [if_neg he, Int32.add_zero]
        conv => rhs; rw [upd]
        simp only [if_neg he]
theorem x_men {hk : HK} {gi : GI} {gr : GR} {b ask : Nat} {B : Bk} {L : List Nat} (x : XBk hk gi gr b B ask L) : ∃ (ml : Nat) (f : Nat → Nat), gr b 1 = some ml ∧ (hk ml).1 = 22 ∧ gi ml 2 = N B.nm ∧ ∀ m, m < B.nm → f_J2_get hk gi gr ml (N m) = some (f m) ∧ XMan hk gi gr L (f m) B m := by
  obtain ⟨ml, f, h1, h2, h3⟩ := x.men
  exact ⟨ml, f, h1, h2.k, h2.size, fun m hm => ⟨x_get h2 hm, h3 m hm⟩⟩
theorem x_week1 {hk : HK} {gi : GI} {gr : GR} {b ask p : Nat} {B : Bk} {L : List Nat} (x : XBk hk gi gr b B ask L) (xp : XPl hk gr p) (sp : Sp L ask p) (hP : Pu (pl gi p)) (ho : ∀ m k, m < 5 → B.nk ≤ k → k < 3 → pl gi p (20 + 3 * m + k) = 0) : ∃ gi', g_loop g_K (fun (s : Int32 × GI) => f_X3_goWeek_l2 hk gr p b s.1 s.2) (0, gi) = some gi' ∧ Sm B.nm (pl gi' p) (loosens B (pl gi p) B.nm) ∧ Pu (loosens B (pl gi p) B.nm) ∧ (∀ m k, m < 5 → B.nk ≤ k → k < 3 → pl gi' p (20 + 3 * m + k) = 0) ∧ ∀ c, ¬ (p ≤ c ∧ c ≤ p + 4) → gi' c = gi c := by
  have h5 := x.ok.nm
  refine loop_J (body := fun (s : Int32 × GI) => f_X3_goWeek_l2 hk gr p b s.1 s.2) (fun n s => ∃ i, n = B.nm - i ∧ i ≤ B.nm ∧ s.1 = N i ∧ Sm B.nm (pl s.2 p) (loosens B (pl gi p) i) ∧ Pu (loosens B (pl gi p) i) ∧ (∀ m k, m < 5 → B.nk ≤ k → k < 3 → pl s.2 p (20 + 3 * m + k) = 0) ∧ ∀ c, ¬ (p ≤ c ∧ c ≤ p + 4) → s.2 c = gi c) _ ?_ (n := B.nm) (s := (0, gi)) ⟨0, by omega, by omega, rfl, fun _ _ => rfl, hP, ho, fun _ _ => rfl⟩ (by simp only [g_K]; omega)
  rintro n ⟨k, gj⟩ ⟨i, e0, e1, e2, e3, e4, e5, e6⟩
  dsimp only at e2 e3 e5 e6 ⊢
  subst e2
  have xj := x.over (gi' := gj) (fun c hc => e6 c (sp.1 c hc))
  obtain ⟨ml, f, m1, m2, m3, m4⟩ := x_men xj
  rw [f_X3_goWeek_l2, g_is_of x.k, Option.bind_some, m1, Option.bind_some, g_is_of m2, Option.bind_some, f_J2_size, Option.bind_some, m3, if_le (by omega) (by omega)]
  by_cases h : i = B.nm
  · right
    subst h
    exact ⟨gj, if_pos (Nat.le_refl _), e3, e4, e5, e6⟩
  · left
    have hi : i < B.nm := by omega
    obtain ⟨m5, m6⟩ := m4 i hi
    rw [if_neg (by omega), Option.bind_some, g_is_of m2, Option.bind_some, m5, Option.bind_some, g_is_of m6.k, Option.bind_some, m6.loose]
    by_cases hl : B.loose i
    · have hPj : Pu (pl gj p) := by
        obtain ⟨⟨v, v1, v2⟩, v3⟩ := e4
        refine ⟨⟨v, v1, by rw [e3 41 (by omega)]; exact v2⟩, fun j hj => ?_⟩
        obtain ⟨w, w1, w2⟩ := v3 j hj
        exact ⟨w, w1, by rw [e3 j (by omega)]; exact w2⟩
      obtain ⟨g', a1, a2, a3⟩ := x_drinks xj xp sp hPj hi
      rw [if_pos hl, if_neg (by decide), a1, Option.bind_some]
      obtain ⟨⟨v, v1, v2⟩, _⟩ := id e4
      have s2 := loosen_Sm x.ok hi h5 e3 v1 v2
      refine ⟨_, rfl, B.nm - (i + 1), by omega, i + 1, rfl, by omega, N_add i 1, ?_, ?_, ?_, fun c hc => (a3 c hc).trans (e6 c hc)⟩
      · intro j hj
        rw [loosens, if_pos hl]
        exact (a2 j hj).trans (s2 j hj)
      · rw [loosens, if_pos hl]
        exact loosen_Pu x.ok hi e4
      · intro m' k' h1 h2 h3
        show pl g' p _ = 0
        rw [a2 _ (by omega)]
        exact loosen_over0 x.ok hi hPj e5 m' k' h1 h2 h3
    · rw [if_neg hl, if_pos rfl]
      refine ⟨_, rfl, B.nm - (i + 1), by omega, i + 1, rfl, by omega, N_add i 1, ?_, ?_, e5, e6⟩
      · rw [loosens, if_neg hl]; exact e3
      · rw [loosens, if_neg hl]; exact e4
theorem crops_off {B : Bk} {P : Nat → Int32} : ∀ (n j : Nat), ¬ (15 ≤ j ∧ j < 15 + n) → crops B P n j = P j
  | 0, _, _ => rfl
  | n + 1, j, h => by
    rw [crops, upd, if_neg (by omega)]
    exact crops_off n j (by omega)
theorem crops_Sm {B : Bk} {n : Nat} {P Q : Nat → Int32} (hn : n ≤ 5) (h : Sm n P Q) : ∀ i, i ≤ 5 → Sm n (crops B P i) (crops B Q i)
  | 0, _ => h
  | i + 1, hi => by
    have ih := crops_Sm (B := B) hn h i (by omega)
    intro j hj
    rw [crops, crops, upd, upd]
    split
    · rw [ih _ (by omega), growth_same (fun j h1 h2 => ih j (by omega)) (ih 40 (by omega)) (by omega)]
    · exact ih j hj
theorem x_week2 {hk : HK} {gi : GI} {gr : GR} {b ask p : Nat} {B : Bk} {L : List Nat} (x : XBk hk gi gr b B ask L) (xp : XPl hk gr p) (sp : Sp L ask p) (ho : ∀ m k, m < 5 → B.nk ≤ k → k < 3 → pl gi p (20 + 3 * m + k) = 0) (v : Int32) : ∃ gi', g_loop g_K (fun (s : Int32 × GI) => f_X3_goWeek_l50 hk gr p b v s.1 s.2) (0, gi) = some gi' ∧ pl gi' p = crops B (pl gi p) B.nm ∧ ∀ c, c ≠ ask → ¬ (p ≤ c ∧ c ≤ p + 4) → gi' c = gi c := by
  have h5 := x.ok.nm
  refine loop_J (body := fun (s : Int32 × GI) => f_X3_goWeek_l50 hk gr p b v s.1 s.2) (fun n s => ∃ i, n = B.nm - i ∧ i ≤ B.nm ∧ s.1 = N i ∧ pl s.2 p = crops B (pl gi p) i ∧ ∀ c, c ≠ ask → ¬ (p ≤ c ∧ c ≤ p + 4) → s.2 c = gi c) _ ?_ (n := B.nm) (s := (0, gi)) ⟨0, by omega, by omega, rfl, rfl, fun _ _ _ => rfl⟩ (by simp only [g_K]; omega)
  rintro n ⟨k, gj⟩ ⟨i, e0, e1, e2, e3, e6⟩
  dsimp only at e2 e3 e6 ⊢
  subst e2
  have xj := x.over (gi' := gj) (fun c hc => e6 c (fun e => x.ask.2.2 (e ▸ hc)) (sp.1 c hc))
  obtain ⟨ml, f, m1, m2, m3, m4⟩ := x_men xj
  rw [f_X3_goWeek_l50, g_is_of x.k, Option.bind_some, m1, Option.bind_some, g_is_of m2, Option.bind_some, f_J2_size, Option.bind_some, m3, if_le (by omega) (by omega)]
  by_cases h : i = B.nm
  · right
    subst h
    exact ⟨gj, if_pos (Nat.le_refl _), e3, e6⟩
  · left
    have oj : ∀ m k, m < 5 → B.nk ≤ k → k < 3 → pl gj p (20 + 3 * m + k) = 0 := by
      intro m k h1 h2 h3
      rw [e3, crops_off _ _ (by omega)]
      exact ho m k h1 h2 h3
    obtain ⟨g', a1, a2⟩ := x_growth xj xp sp oj (show i < 5 by omega)
    rw [if_neg (by omega), xp.r2, Option.bind_some, Option.bind_some, g_is_of' xp.k3, Option.bind_some, xp.k3, N_ld (by omega) (by decide), Option.bind_some, a1, Option.bind_some, Option.bind_some]
    dsimp only
    rw [N_st (by omega) (by decide), Option.bind_some, crop_if]
    have e7 : pl g' p = pl gj p := pl_same (fun c c1 c2 => a2 c (fun e => sp.2 (by omega)))
    refine ⟨_, rfl, B.nm - (i + 1), by omega, i + 1, rfl, by omega, N_add i 1, ?_, ?_⟩
    · show pl (g_pi g' (p + 3) i _) p = _
      rw [pl_crop _ _ _ (by omega), e7, crops, ← e3, pl_at_crop (by omega)]
    · intro c h1 h2
      exact (pi_off (by omega)).trans ((a2 c h1).trans (e6 c h1 h2))
theorem x_week3 {hk : HK} {gi : GI} {gr : GR} {b ask p : Nat} {B : Bk} {L : List Nat} (x : XBk hk gi gr b B ask L) (xp : XPl hk gr p) (sp : Sp L ask p) (v : Int32) : ∃ gi', g_loop g_K (fun (s : Int32 × GI) => f_X3_goWeek_l97 hk gr p b v s.1 s.2) (0, gi) = some gi' ∧ pl gi' p = resets B (pl gi p) B.nm ∧ ∀ c, ¬ (p ≤ c ∧ c ≤ p + 4) → gi' c = gi c := by
  have h5 := x.ok.nm
  refine loop_J (body := fun (s : Int32 × GI) => f_X3_goWeek_l97 hk gr p b v s.1 s.2) (fun n s => ∃ i, n = B.nm - i ∧ i ≤ B.nm ∧ s.1 = N i ∧ pl s.2 p = resets B (pl gi p) i ∧ ∀ c, ¬ (p ≤ c ∧ c ≤ p + 4) → s.2 c = gi c) _ ?_ (n := B.nm) (s := (0, gi)) ⟨0, by omega, by omega, rfl, rfl, fun _ _ => rfl⟩ (by simp only [g_K]; omega)
  rintro n ⟨k, gj⟩ ⟨i, e0, e1, e2, e3, e6⟩
  dsimp only at e2 e3 e6 ⊢
  subst e2
  have xj := x.over (gi' := gj) (fun c hc => e6 c (sp.1 c hc))
  obtain ⟨ml, f, m1, m2, m3, m4⟩ := x_men xj
  rw [f_X3_goWeek_l97, g_is_of x.k, Option.bind_some, m1, Option.bind_some, g_is_of m2, Option.bind_some, f_J2_size, Option.bind_some, m3, if_le (by omega) (by omega)]
  by_cases h : i = B.nm
  · right
    subst h
    exact ⟨gj, if_pos (Nat.le_refl _), e3, e6⟩
  · left
    have hi : i < B.nm := by omega
    rw [if_neg (by omega), xp.r3, Option.bind_some, g_is_of' xp.k4, Option.bind_some, xp.k4, N_st (by omega) (by decide), Option.bind_some]
    have st : ∀ (k : Nat) (gk : GI), k < 3 → (∀ c, ¬ (p ≤ c ∧ c ≤ p + 4) → gk c = gi c) → ∃ gk', f_X3_goWeek_l118 hk gr p b v (N i) (N k) gk = some (.inl (N (k + 1), gk')) ∧ pl gk' p = reset1 B i k (pl gk p) ∧ ∀ c, ¬ (p ≤ c ∧ c ≤ p + 4) → gk' c = gi c := by
      intro k gk hk3 hg
      have xk := x.over (gi' := g_pi gk (p + 2) (3 * i + k) 0) (fun c hc => (pi_off (by have := sp.1 c hc; omega)).trans (hg c (sp.1 c hc)))
      obtain ⟨ml', f', n1, n2, n3, n4⟩ := x_men xk
      obtain ⟨n5, n6⟩ := n4 i hi
      obtain ⟨pa, q1, q2, q3, q4⟩ := n6.pay
      obtain ⟨g', a1, a2, a3⟩ := x_gets (gi := g_pi gk (p + 2) (3 * i + k) 0) xp (show i < 5 by omega) hk3 (B.pay i k)
      refine ⟨g', ?_, ?_, fun c hc => (a3 c (by omega)).trans ((pi_off (by omega)).trans (hg c hc))⟩
      · rw [f_X3_goWeek_l118, show (3 : Int32) = N 3 from rfl, if_le (by omega) (by omega), if_neg (by omega), xp.r1, Option.bind_some, g_is_of' xp.k2, Option.bind_some, xp.k2, N_mul, N_add, N_st (by omega) (by decide), Option.bind_some, n1, Option.bind_some, g_is_of n2, Option.bind_some, n5, Option.bind_some, g_is_of n6.k, Option.bind_some, q2, Option.bind_some, g_is_of' q3, Option.bind_some, q3, N_ld (by omega) (by decide), Option.bind_some, q4 k hk3, a1, Option.bind_some, show (1 : Int32) = N 1 from rfl, N_add]
      · rw [a2, pl_over _ _ _ (by omega), reset1, Nat.add_assoc]
    have g0 : ∀ c, ¬ (p ≤ c ∧ c ≤ p + 4) → g_pi gj (p + 4) i 0 c = gi c := fun c hc => (pi_off (by omega)).trans (e6 c hc)
    obtain ⟨g1, a1, a2, a3⟩ := st 0 (g_pi gj (p + 4) i 0) (by omega) g0
    obtain ⟨g2, b1, b2, b3⟩ := st 1 g1 (by omega) a3
    obtain ⟨g3, c1, c2, c3⟩ := st 2 g2 (by omega) b3
    rw [lp_3 (body := fun (s : Int32 × GI) => f_X3_goWeek_l118 hk gr p b v (N i) s.1 s.2) (s0 := (0, g_pi gj (p + 4) i 0)) a1 b1 c1 rfl, Option.bind_some, f_X3_goWeek_x118]
    refine ⟨_, rfl, B.nm - (i + 1), by omega, i + 1, rfl, by omega, N_add i 1, ?_, c3⟩
    show pl g3 p = _
    rw [c2, b2, a2, pl_spent _ _ _ (by omega), e3, resets]
theorem resets_Sm {B : Bk} {n : Nat} {P Q : Nat → Int32} (hn : n ≤ 5) (h : Sm n P Q) : ∀ i, i ≤ 5 → ∀ j, ¬ (35 + i ≤ j ∧ j < 35 + n) → resets B P i j = resets B Q i j
  | 0, _ => fun j hj => h j (by omega)
  | i + 1, hi => by
    have ih := resets_Sm (B := B) hn h i (by omega)
    intro j hj
    simp only [resets, reset1, getsP, upd]
    have e0 := ih (3 * i + 0) (by omega)
    have e1 := ih (3 * i + 1) (by omega)
    have e2 := ih (3 * i + 2) (by omega)
    by_cases hs : j = 35 + i
    · subst hs
      simp [show ¬ 35 + i = 3 * i + 2 by omega, show ¬ 35 + i = 3 * i + 1 by omega, show ¬ 35 + i = 3 * i by omega, show ¬ 35 + i = 20 + 3 * i + 2 by omega, show ¬ 35 + i = 20 + 3 * i + 1 by omega, show ¬ 35 + i = 20 + 3 * i by omega]
    · have ej := ih j (by omega)
      rw [e0, e1, e2, ej]
theorem x_goWeek {hk : HK} {gi : GI} {gr : GR} {b ask p : Nat} {B : Bk} {L : List Nat} (x : XBk hk gi gr b B ask L) (xp : XPl hk gr p) (sp : Sp L ask p) (hP : Pu (pl gi p)) (ho : ∀ m k, m < 5 → B.nk ≤ k → k < 3 → pl gi p (20 + 3 * m + k) = 0) : ∃ gi', f_X3_goWeek hk gi gr p b = some (weekSum B (pl gi p), gi') ∧ pl gi' p = weekP B (pl gi p) ∧ ∀ c, c ≠ ask → ¬ (p ≤ c ∧ c ≤ p + 4) → gi' c = gi c := by
  have h5 := x.ok.nm
  obtain ⟨g1, a1, a2, a3, a4, a5⟩ := x_week1 x xp sp hP ho
  have x1 := x.over (gi' := g1) (fun c hc => a5 c (sp.1 c hc))
  obtain ⟨g2, b1, b2⟩ := x_growths x1 xp sp a4
  have x2 := x1.over (gi' := g2) (fun c hc => b2 c (fun e => x.ask.2.2 (e ▸ hc)))
  have e2 : pl g2 p = pl g1 p := pl_same (fun c c1 c2 => b2 c (fun e => sp.2 (by omega)))
  obtain ⟨g3, c1, c2, c3⟩ := x_week2 x2 xp sp (by rw [e2]; exact a4) (growths B (pl g1 p) B.nm)
  have x3 := x2.over (gi' := g3) (fun c hc => c3 c (fun e => x.ask.2.2 (e ▸ hc)) (sp.1 c hc))
  obtain ⟨g4, d1, d2, d3⟩ := x_week3 x3 xp sp (growths B (pl g1 p) B.nm)
  have es : growths B (pl g1 p) B.nm = weekSum B (pl gi p) := growths_same (fun j h1 h2 => a2 j (by omega)) (a2 40 (by omega)) B.nm h5
  rw [f_X3_goWeek, a1, Option.bind_some, f_X3_goWeek_x2, b1, Option.bind_some]
  show ∃ gi', ((g_loop g_K (fun (s : Int32 × GI) => f_X3_goWeek_l50 hk gr p b (growths B (pl g1 p) B.nm) s.1 s.2) (0, g2)).bind fun E50 => f_X3_goWeek_x50 hk gr p b (growths B (pl g1 p) B.nm) E50) = _ ∧ _
  rw [c1, Option.bind_some, f_X3_goWeek_x50, d1, Option.bind_some, f_X3_goWeek_x97, Option.bind_some, es]
  refine ⟨_, rfl, ?_, ?_⟩
  · rw [pl_own _ _ 4 (Or.inl rfl), weekP, add]
    have key : pl g4 p = resets B (crops B (loosens B (pl gi p) B.nm) B.nm) B.nm := by
      funext j
      rw [d2, c2, e2]
      exact resets_Sm h5 (crops_Sm h5 a2 B.nm h5) B.nm h5 j (by omega)
    have e4 : g4 p 4 = pl g4 p 40 := rfl
    rw [e4, key]
  · intro c h1 h2
    exact (pi_off (by omega)).trans ((d3 c h2).trans ((c3 c h1 h2).trans ((b2 c h1).trans (a5 c h2))))

set_option linter.unusedVariables false
set_option linter.unusedSimpArgs false
/-! THE PLAIN LAW: the component's plots: copies, rows, weeks -/
theorem pl_big (gi : GI) (p j : Nat) (h : 42 ≤ j) : pl gi p j = 0 := by
  simp [pl, show ¬ (j < 15) by omega, show ¬ (j < 20) by omega, show ¬ (j < 35) by omega, show ¬ (j < 40) by omega, show ¬ (j < 42) by omega]
theorem cpi_of {hk : HK} {gi : GI} {a b n na nb : Nat} (ha : (hk a).2 = na) (hb : (hk b).2 = nb) (h1 : n ≤ na) (h2 : n ≤ nb) (hn : n < 2147483648) : g_cpi hk gi a 0 b 0 (N n) = some (va_up gi b (va_cpy (gi a) (gi b) 0 0 n)) := by
  have h0 : ¬ (N n < (0 : Int32)) := by rw [show (0 : Int32) = N 0 from rfl, N_lt (by omega) (by omega)]; omega
  have hc : g_cp0 0 0 (N n) (hk a).2 (hk b).2 = true := by
    rw [ha, hb]
    simp only [g_cp0, h0, N_toNat hn]
    simp [h1, h2]
  rw [g_cpi, if_pos hc, N_toNat hn]
  rfl
theorem up_same {α : Type} (g : Nat → α) (c : Nat) (v : α) : va_up g c v c = v := by simp [va_up]
theorem up_ne {α : Type} (g : Nat → α) (c : Nat) (v : α) {i : Nat} (h : i ≠ c) : va_up g c v i = g i := by simp [va_up, h]
theorem g_is_of' {hk : HK} {p t n : Nat} (h : hk p = (t, n)) : g_is hk p t = some () := by simp [g_is, h]
theorem x_copy {hk : HK} {gi : GI} {gr : GR} {p q : Nat} (xp : XPl hk gr p) (xq : XPl hk gr q) (hd : p + 4 < q ∨ q + 4 < p) : ∃ gi', f_X3_copy hk gi gr p q = some (p, gi') ∧ pl gi' p = pl gi q ∧ ∀ c, ¬ (p ≤ c ∧ c ≤ p + 4) → gi' c = gi c := by
  have e15 : (15 : Int32) = N 15 := rfl
  have e5 : (5 : Int32) = N 5 := rfl
  rw [f_X3_copy, g_is_of xq.k, Option.bind_some, xq.r0, Option.bind_some, xp.r0, Option.bind_some, g_is_of' xq.k1, Option.bind_some, g_is_of' xp.k1, Option.bind_some, e15, cpi_of (na := 15) (nb := 15) (by rw [xq.k1]) (by rw [xp.k1]) (by omega) (by omega) (by omega), Option.bind_some, xq.r1, Option.bind_some, xp.r1, Option.bind_some, g_is_of' xq.k2, Option.bind_some, g_is_of' xp.k2, Option.bind_some, cpi_of (na := 15) (nb := 15) (by rw [xq.k2]) (by rw [xp.k2]) (by omega) (by omega) (by omega), Option.bind_some, xq.r2, Option.bind_some, xp.r2, Option.bind_some, g_is_of' xq.k3, Option.bind_some, g_is_of' xp.k3, Option.bind_some, e5, cpi_of (na := 5) (nb := 5) (by rw [xq.k3]) (by rw [xp.k3]) (by omega) (by omega) (by omega), Option.bind_some, xq.r3, Option.bind_some, xp.r3, Option.bind_some, g_is_of' xq.k4, Option.bind_some, g_is_of' xp.k4, Option.bind_some, cpi_of (na := 5) (nb := 5) (by rw [xq.k4]) (by rw [xp.k4]) (by omega) (by omega) (by omega), Option.bind_some, Option.bind_some, Option.bind_some]
  refine ⟨_, rfl, ?_, ?_⟩
  · funext j
    have n1 : ∀ i, i ≤ 4 → ∀ k, k ≤ 4 → q + i ≠ p + k := by intro i hi k hk; omega
    have m0 := n1 0 (by omega)
    have m1 := n1 1 (by omega)
    have m2 := n1 2 (by omega)
    have m3 := n1 3 (by omega)
    have m4 := n1 4 (by omega)
    simp only [Nat.add_zero] at m0
    have a01 := m0 0 (by omega)
    simp only [Nat.add_zero] at a01
    unfold pl
    simp only [pi_get, va_up, va_cpy]
    by_cases h1 : j < 15
    · simp [va_cpy, h1, show p + 1 ≠ p by omega, show p + 1 ≠ p + 2 by omega, show p + 1 ≠ p + 3 by omega, show p + 1 ≠ p + 4 by omega]
    · by_cases h2 : j < 20
      · simp [va_cpy, h1, h2, show p + 3 ≠ p by omega, show p + 3 ≠ p + 4 by omega, m3 1 (by omega), m3 2 (by omega), show j - 15 < 5 by omega]
      · by_cases h3 : j < 35
        · simp [va_cpy, h1, h2, h3, show p + 2 ≠ p by omega, show p + 2 ≠ p + 3 by omega, show p + 2 ≠ p + 4 by omega, m2 1 (by omega), show j - 20 < 15 by omega]
        · by_cases h4 : j < 40
          · simp [va_cpy, h1, h2, h3, h4, show p + 4 ≠ p by omega, m4 1 (by omega), m4 2 (by omega), m4 3 (by omega), show j - 35 < 5 by omega]
          · by_cases h5 : j < 42
            · by_cases h6 : j = 40
              · subst h6
                simp [a01, m0 1 (by omega), m0 2 (by omega), m0 3 (by omega), m0 4 (by omega)]
              · have h7 : j = 41 := by omega
                subst h7
                simp [a01, m0 1 (by omega), m0 2 (by omega), m0 3 (by omega), m0 4 (by omega)]
            · simp [h1, h2, h3, h4, h5]
  · intro c hc
    rw [pi_off (by omega), pi_off (by omega), up_ne _ _ _ (by omega), up_ne _ _ _ (by omega), up_ne _ _ _ (by omega), up_ne _ _ _ (by omega)]
/-- a row of hours over a plot -/
theorem x_poursRow {hk : HK} {gi : GI} {gr : GR} {b ask p : Nat} {B : Bk} {L : List Nat} (x : XBk hk gi gr b B ask L) (xp : XPl hk gr p) (sp : Sp L ask p) {m : Nat} (hm : m < B.nm) {a n o : Nat} (ha : hk a = (0, n)) (hn : o + 3 ≤ n) (hn2 : n ≤ 1000) (hap : a ≠ p + 2) : ∃ gi', f_X3_poursRow hk gi gr p b (N m) a (N o) = some (p, gi') ∧ pl gi' p = lyR B m (fun k => gi a (o + k)) 1 (pl gi p) ∧ ∀ c, c ≠ p + 2 → gi' c = gi c := by
  have st : ∀ (k : Nat) (gj : GI), k < 3 → (∀ c, c ≠ p + 2 → gj c = gi c) → ∃ gj', f_X3_poursRow_l3 hk gr p b (N m) a (N o) (N k) gj = some (.inl (N (k + 1), gj')) ∧ pl gj' p = ly B m k (gi a (o + k)) 1 (pl gj p) ∧ ∀ c, c ≠ p + 2 → gj' c = gi c := by
    intro k gj hk3 hg
    have xj := x.over (gi' := gj) (fun c hc => hg c (fun e => sp.1 c hc (by omega)))
    obtain ⟨g', a1, a2, a3⟩ := x_pours xj xp sp hm hk3 (gi a (o + k))
    refine ⟨g', ?_, a2, fun c hc => (a3 c hc).trans (hg c hc)⟩
    rw [f_X3_poursRow_l3, show (3 : Int32) = N 3 from rfl, if_le (by omega) (by omega), if_neg (by omega), g_is_of' ha, Option.bind_some, N_add, N_ld (by rw [ha]; omega) (by rw [ha]; show n ≤ 2147483648; omega), Option.bind_some, hg a hap, a1, Option.bind_some, show (1 : Int32) = N 1 from rfl, N_add]
  obtain ⟨g1, a1, a2, a3⟩ := st 0 gi (by omega) (fun _ _ => rfl)
  obtain ⟨g2, b1, b2, b3⟩ := st 1 g1 (by omega) a3
  obtain ⟨g3, c1, c2, c3⟩ := st 2 g2 (by omega) b3
  refine ⟨g3, ?_, ?_, c3⟩
  · rw [f_X3_poursRow, lp_3 (body := fun (s : Int32 × GI) => f_X3_poursRow_l3 hk gr p b (N m) a (N o) s.1 s.2) (s0 := (0, gi)) a1 b1 c1 rfl]
    rfl
  · rw [c2, b2, a2]; rfl
theorem x_purse {hk : HK} {gi : GI} {gr : GR} {p : Nat} (xp : XPl hk gr p) {m k : Nat} (hm : m < 5) (hk3 : k < 3) : f_X3_purse hk gi gr p (N m) (N k) = some (pl gi p (3 * m + k)) := by
  rw [f_X3_purse, xp.r0, Option.bind_some, g_is_of' xp.k1, Option.bind_some, xp.k1, show (3 : Int32) = N 3 from rfl, N_mul, N_add, N_ld (by omega) (by decide), Option.bind_some, pl_at_purse (by omega)]
/-- hours spent: out of the purse, over the plot -/
theorem x_spends {hk : HK} {gi : GI} {gr : GR} {b ask p : Nat} {B : Bk} {L : List Nat} (x : XBk hk gi gr b B ask L) (xp : XPl hk gr p) (sp : Sp L ask p) {m k : Nat} (hm : m < B.nm) (hk3 : k < 3) (n : Int32) : ∃ gi', f_X3_spends hk gi gr p b (N m) (N k) n = some gi' ∧ pl gi' p = ly B m k n 1 (add (add (pl gi p) (3 * m + k) (-n)) (35 + m) n) ∧ ∀ c, ¬ (p ≤ c ∧ c ≤ p + 4) → gi' c = gi c := by
  have h5 := x.ok.nm
  rw [f_X3_spends, xp.r0, Option.bind_some, g_is_of' xp.k1, Option.bind_some, xp.k1, show (3 : Int32) = N 3 from rfl, N_mul, N_add, N_ld (by omega) (by decide), Option.bind_some, N_st (by omega) (by decide), Option.bind_some, xp.r3, Option.bind_some, g_is_of' xp.k4, Option.bind_some, xp.k4, N_ld (by omega) (by decide), Option.bind_some, N_st (by omega) (by decide), Option.bind_some]
  have e1 : pl (g_pi gi (p + 1) (3 * m + k) (gi (p + 1) (3 * m + k) - n)) p = add (pl gi p) (3 * m + k) (-n) := by
    rw [pl_purse _ _ _ (by omega), add, pl_at_purse (by omega), Int32.sub_eq_add_neg]
  have f1 : ∀ c, ¬ (p ≤ c ∧ c ≤ p + 4) → g_pi gi (p + 1) (3 * m + k) (gi (p + 1) (3 * m + k) - n) c = gi c := fun c hc => pi_off (by omega)
  generalize g_pi gi (p + 1) (3 * m + k) (gi (p + 1) (3 * m + k) - n) = g1 at e1 f1
  have e2 : pl (g_pi g1 (p + 4) m (g1 (p + 4) m + n)) p = add (add (pl gi p) (3 * m + k) (-n)) (35 + m) n := by
    rw [pl_spent _ _ _ (by omega), ← e1]
    conv => rhs; rw [add, pl_at_spent (by omega)]
  have f2 : ∀ c, ¬ (p ≤ c ∧ c ≤ p + 4) → g_pi g1 (p + 4) m (g1 (p + 4) m + n) c = gi c := fun c hc => (pi_off (by omega)).trans (f1 c hc)
  generalize g_pi g1 (p + 4) m (g1 (p + 4) m + n) = g2 at e2 f2
  obtain ⟨g', a1, a2, a3⟩ := x_pours (x.over (gi' := g2) (fun c hc => f2 c (sp.1 c hc))) xp sp hm hk3 n
  refine ⟨g', by rw [a1]; rfl, by rw [a2, e2], fun c hc => (a3 c (by omega)).trans (f2 c hc)⟩
theorem x_spendsRow {hk : HK} {gi : GI} {gr : GR} {b ask p : Nat} {B : Bk} {L : List Nat} (x : XBk hk gi gr b B ask L) (xp : XPl hk gr p) (sp : Sp L ask p) {m : Nat} (hm : m < B.nm) {a : Nat} (ha : hk a = (0, 3)) (hap : ¬ (p ≤ a ∧ a ≤ p + 4)) : ∃ gi', f_X3_spendsRow hk gi gr p b (N m) a = some gi' ∧ (∀ j, ¬ (35 ≤ j ∧ j < 40) → pl gi' p j = lyR B m (gi a) 1 (add (add (add (pl gi p) (3 * m) (-(gi a 0))) (3 * m + 1) (-(gi a 1))) (3 * m + 2) (-(gi a 2))) j) ∧ (∀ j, 35 ≤ j → j < 40 → j ≠ 35 + m → pl gi' p j = pl gi p j) ∧ ∀ c, ¬ (p ≤ c ∧ c ≤ p + 4) → gi' c = gi c := by
  have h5 := x.ok.nm
  have st : ∀ (k : Nat) (gj : GI), k < 3 → (∀ c, ¬ (p ≤ c ∧ c ≤ p + 4) → gj c = gi c) → ∃ gj', f_X3_spendsRow_l3 hk gr p b (N m) a (N k) gj = some (.inl (N (k + 1), gj')) ∧ pl gj' p = ly B m k (gi a k) 1 (add (add (pl gj p) (3 * m + k) (-(gi a k))) (35 + m) (gi a k)) ∧ ∀ c, ¬ (p ≤ c ∧ c ≤ p + 4) → gj' c = gi c := by
    intro k gj hk3 hg
    have xj := x.over (gi' := gj) (fun c hc => hg c (sp.1 c hc))
    obtain ⟨g', a1, a2, a3⟩ := x_spends xj xp sp hm hk3 (gi a k)
    refine ⟨g', ?_, a2, fun c hc => (a3 c hc).trans (hg c hc)⟩
    rw [f_X3_spendsRow_l3, show (3 : Int32) = N 3 from rfl, if_le (by omega) (by omega), if_neg (by omega), g_is_of' ha, Option.bind_some, ha, N_ld (by omega) (by decide), Option.bind_some, hg a hap, a1, Option.bind_some, show (1 : Int32) = N 1 from rfl, N_add]
  obtain ⟨g1, a1, a2, a3⟩ := st 0 gi (by omega) (fun _ _ => rfl)
  obtain ⟨g2, b1, b2, b3⟩ := st 1 g1 (by omega) a3
  obtain ⟨g3, c1, c2, c3⟩ := st 2 g2 (by omega) b3
  refine ⟨g3, ?_, ?_, ?_, c3⟩
  · rw [f_X3_spendsRow, lp_3 (body := fun (s : Int32 × GI) => f_X3_spendsRow_l3 hk gr p b (N m) a s.1 s.2) (s0 := (0, gi)) a1 b1 c1 rfl]
    rfl
  · intro j hj
    rw [c2, b2, a2, lyR]
    simp only [lay_dl, add_get, Nat.add_zero]
    rw [if_neg (show ¬ j = 35 + m by omega)]
    grind
  · intro j h1 h2 h3
    rw [c2, b2, a2]
    simp only [lay_dl, add_get, dl_off B m 0 (by omega) hm h5 _ j (by omega), dl_off B m 1 (by omega) hm h5 _ j (by omega), dl_off B m 2 (by omega) hm h5 _ j (by omega)]
    simp only [if_neg h3, if_neg (show ¬ j = 3 * m + 0 by omega), if_neg (show ¬ j = 3 * m + 1 by omega), if_neg (show ¬ j = 3 * m + 2 by omega)]
    simp
theorem least_if (v : Int32) : (if v < 99 then v else 99) = least 99 v := by
  unfold least
  by_cases h : v < 99
  · rw [if_pos h, if_pos (Int32.le_of_lt h)]
  · rw [if_neg h]
    by_cases h2 : v ≤ 99
    · rw [if_pos h2]; exact Int32.le_antisymm (Int32.not_lt.mp h) h2
    · rw [if_neg h2]
theorem crop_if (v : Int32) : (if 0 < (if v < 99 then v else 99) then (if v < 99 then v else 99) else 0) = cropOf v := by
  rw [least_if]
  unfold cropOf
  by_cases h : (0 : Int32) ≤ v
  · rw [if_pos h]
    by_cases h2 : (0 : Int32) < least 99 v
    · rw [if_pos h2]
    · rw [if_neg h2]
      unfold least at h2 ⊢
      by_cases h3 : v ≤ 99
      · rw [if_pos h3] at h2 ⊢
        exact Int32.le_antisymm h (Int32.not_lt.mp h2)
      · rw [if_neg h3] at h2
        exact absurd (by decide) h2
  · rw [if_neg h]
    have hv : v < 0 := Int32.not_le.mp h
    have h3 : v ≤ 99 := Int32.le_trans (Int32.le_of_lt hv) (by decide)
    unfold least
    rw [if_pos h3, if_neg (fun c => h (Int32.le_of_lt c))]
theorem x_gets {hk : HK} {gi : GI} {gr : GR} {p : Nat} (xp : XPl hk gr p) {m k : Nat} (hm : m < 5) (hk3 : k < 3) (v : Int32) : ∃ gi', f_X3_gets hk gi gr p (N m) (N k) v = some gi' ∧ pl gi' p = getsP (pl gi p) (3 * m + k) v ∧ ∀ c, c ≠ p + 1 → gi' c = gi c := by
  rw [f_X3_gets, xp.r0, Option.bind_some, Option.bind_some, g_is_of' xp.k1, Option.bind_some, xp.k1, show (3 : Int32) = N 3 from rfl, N_mul, N_add, N_ld (by omega) (by decide), Option.bind_some, Option.bind_some, N_st (by omega) (by decide), Option.bind_some, least_if]
  refine ⟨_, rfl, ?_, fun c hc => pi_off hc⟩
  rw [pl_purse _ _ _ (by omega), getsP, pl_at_purse (by omega)]

set_option linter.unusedVariables false
set_option linter.unusedSimpArgs false
/-! THE PLAIN LAW: the model's weeks -/
theorem m_isMan {gi : GI} {B : Bk} (b : MBk gi B) (x : Int32) : f_X4_isMan gi x = some (if (asQ x B.nm).isSome then 1 else 0) := by
  have h5 := b.ok.nm
  have h : f_X4_isIn gi x 0 (N B.nm - 1) = some (if (asQ x B.nm).isSome then 1 else 0) := by
    rw [← isIn_asQ x (by omega)]
    unfold f_X4_isIn
    split
    · rfl
    · split <;> rfl
  rw [f_X4_isMan, m_many b, Option.bind_some, h, Option.bind_some]
  by_cases q : (asQ x B.nm).isSome <;> simp [q, g_zb]
theorem m_isKind {gi : GI} {B : Bk} (b : MBk gi B) (x : Int32) : f_X4_isKind gi x = some (if (asQ x B.nk).isSome then 1 else 0) := by
  have h5 := b.ok.nk
  have h : f_X4_isIn gi x 0 (N B.nk - 1) = some (if (asQ x B.nk).isSome then 1 else 0) := by
    rw [← isIn_asQ x (by omega)]
    unfold f_X4_isIn
    split
    · rfl
    · split <;> rfl
  rw [f_X4_isKind, m_nk b, Option.bind_some, h, Option.bind_some]
  by_cases q : (asQ x B.nk).isSome <;> simp [q, g_zb]
theorem m_lesser (gi : GI) (a b : Int32) : f_X4_lesser gi a b = some (least a b) := by
  unfold f_X4_lesser least
  split <;> rfl
theorem m_payOf {gi : GI} {B : Bk} (b : MBk gi B) {m k : Nat} (hm : m < B.nm) (hk : k < 3) : f_X4_payOf gi (N m) (N k) = some (B.pay m k) := by
  obtain ⟨r, h1, h2⟩ := b
  have := h2.hr
  have := h2.ok.nm
  rw [f_X4_payOf, h1, show (3 : Int32) = N 3 from rfl, show (5 : Int32) = N 5 from rfl, N_mul, N_add, N_mul, N_add, N_ld (by omega) (by decide), h2.pay m k hm hk]
  rfl
theorem m_gets (gi : GI) {m k : Nat} (hm : m < 5) (hk : k < 3) (v : Int32) : f_X4_gets gi (N m) (N k) v = some (va_up gi 33 (getsP (gi 33) (3 * m + k) v)) := by
  rw [f_X4_gets, f_X4_inPurse, show (0 : Int32) = N 0 from rfl, show (3 : Int32) = N 3 from rfl, N_mul, N_add, N_add, Nat.zero_add, N_ld (by omega) (by decide), Option.bind_some, Option.bind_some, m_lesser, Option.bind_some, N_st (by omega) (by decide)]
  rfl
theorem N_mod {a b : Nat} (ha : a < 2147483648) (hb : b < 2147483648) (h0 : 0 < b) : N a - N a / N b * N b = N (a % b) := by
  have hq : N a / N b = N (a / b) := by
    rw [← Int32.toInt_inj, Int32.toInt_div, N_toInt ha, N_toInt hb, N_toInt (Nat.lt_of_le_of_lt (Nat.div_le_self _ _) ha)]
    rw [Int.bmod_eq_of_le]
    · exact Int.ofNat_tdiv a b
    · have : (0 : Int) ≤ (a : Int).tdiv b := Int.tdiv_nonneg (by omega) (by omega)
      omega
    · have : (a : Int).tdiv b = ((a / b : Nat) : Int) := Int.ofNat_tdiv a b
      have : a / b ≤ a := Nat.div_le_self _ _
      omega
  rw [hq, N_mul, N_sub (Nat.div_mul_le_self a b)]
  have := Nat.div_add_mod a b
  have e : a - a / b * b = a % b := by
    have : b * (a / b) = a / b * b := Nat.mul_comm _ _
    omega
  rw [e]
theorem seedOf_N {v : Nat} (h : v ≤ 999) : seedOf (N v) = N ((137 * v + 71) % 1000) := by
  unfold seedOf
  rw [show (137 : Int32) = N 137 from rfl, show (71 : Int32) = N 71 from rfl, show (1000 : Int32) = N 1000 from rfl, N_mul, N_add, N_mod (by omega) (by omega) (by omega)]
theorem m_inP (gi : GI) {m k : Nat} (hm : m < 5) (hk : k < 3) : f_X4_inPurse gi (N m) (N k) = some (gi 33 (3 * m + k)) := by
  rw [f_X4_inPurse, show (0 : Int32) = N 0 from rfl, show (3 : Int32) = N 3 from rfl, N_mul, N_add, N_add, Nat.zero_add, N_ld (by omega) (by decide), Option.bind_some]
theorem m_loosen {gi : GI} {B : Bk} (b : MBk gi B) (hs : ∃ v, v ≤ 999 ∧ gi 33 41 = N v) {m : Nat} (hm : m < B.nm) : f_X4_loosen gi (N m) = some (va_up gi 33 (loosen B m (gi 33))) := by
  have h5 := b.ok.nm
  have h3 := b.ok.nk
  obtain ⟨v, hv, hs⟩ := hs
  have hs' : seedOf (gi 33 41) = N ((137 * v + 71) % 1000) := by rw [hs, seedOf_N hv]
  have b2 := (Fr.all gi (upd (gi 33) 41 (seedOf (gi 33 41)))).book b
  have hpn : pn (upd (gi 33) 41 (seedOf (gi 33 41))) 41 = (137 * v + 71) % 1000 := by
    have := Nat.mod_lt (137 * v + 71) (show 1000 > 0 by decide)
    unfold pn upd
    rw [if_pos rfl, hs', N_toNat (by omega)]
  rw [f_X4_loosen, show (41 : Int32) = N 41 from rfl, N_ld (by decide) (by decide), Option.bind_some, N_st (by decide) (by decide), Option.bind_some, all_pi, show (137 * gi 33 41 + 71) - (137 * gi 33 41 + 71) / 1000 * 1000 = seedOf (gi 33 41) from rfl]
  rw [m_nk b2, Option.bind_some]
  unfold loosen
  by_cases hk : B.nk = 0
  · rw [hk, if_pos rfl]; rfl
  · rw [show (0 : Int32) = N 0 from rfl, if_eq (by omega) (by omega), if_neg hk, if_neg hk, N_ld (by decide) (by decide), Option.bind_some]
    rw [Option.bind_some, g_nz, if_neg (by rw [show (0 : Int32) = N 0 from rfl, N_eq (by omega) (by omega)]; exact hk), Option.bind_some, all_get]
    have e41 : upd (gi 33) 41 (seedOf (gi 33 41)) 41 = N ((137 * v + 71) % 1000) := by simp [upd, hs']
    have hlt := Nat.mod_lt (137 * v + 71) (show 1000 > 0 by decide)
    rw [e41, N_mod (by omega) (by omega) (by omega), hpn]
    generalize hkk : (137 * v + 71) % 1000 % B.nk = k
    have hk3 : k < 3 := by
      have := Nat.mod_lt ((137 * v + 71) % 1000) (show B.nk > 0 by omega)
      omega
    have hne : upd (gi 33) 41 (seedOf (gi 33 41)) (3 * m + k) = gi 33 (3 * m + k) := by simp only [upd]; rw [if_neg (by omega)]
    rw [m_inP _ (by omega) hk3, Option.bind_some, all_get, hne, show (3 : Int32) = N 3 from rfl, N_mul, N_add, N_add, Nat.zero_add, N_ld (by omega) (by decide)]
    by_cases hz : gi 33 (3 * m + k) = N 0
    · rw [if_pos hz, if_pos hz]
    · rw [if_neg hz, if_neg hz, Option.bind_some, N_st (by omega) (by decide), Option.bind_some, all_pi, all_up, all_get, hne, m_lay ((Fr.all gi _).book b) hm hk3, Option.bind_some, all_get, all_up]
theorem m_has (gi : GI) (x y : Int32) : f_X4_has gi x y = some (if ((x >>> (y &&& 31)) &&& 1) = 1 then 1 else 0) := by
  unfold f_X4_has
  split <;> rfl
theorem m_looseBit {gi : GI} {B : Bk} (b : MBk gi B) {m : Nat} (hm : m < 5) : ∃ v, g_ld gi 10 2 (gi 0 41) = some v ∧ ((v >>> (N m &&& 31)) &&& 1) = if B.loose m then 1 else 0 := by
  obtain ⟨r, h1, h2⟩ := b
  exact ⟨_, by rw [h1, N_ld h2.hr (by decide)], h2.loose m hm⟩
/-- the seed stays a seed -/
theorem loosen_seed {B : Bk} {m : Nat} (hm : m < B.nm) (hB : B.Ok) {P : Nat → Int32} (hs : ∃ v, v ≤ 999 ∧ P 41 = N v) : ∃ v, v ≤ 999 ∧ loosen B m P 41 = N v := by
  obtain ⟨v, hv, hs⟩ := hs
  have h5 := hB.nm
  have h3 := hB.nk
  have hlt := Nat.mod_lt (137 * v + 71) (show 1000 > 0 by decide)
  have hu : upd P 41 (seedOf (P 41)) 41 = N ((137 * v + 71) % 1000) := by
    simp only [upd, if_true]; rw [hs, seedOf_N hv]
  refine ⟨(137 * v + 71) % 1000, by omega, ?_⟩
  unfold loosen
  split
  · exact hu
  · rename_i hk
    have hk3 : pn (upd P 41 (seedOf (P 41))) 41 % B.nk < 3 := by
      have := Nat.mod_lt (pn (upd P 41 (seedOf (P 41))) 41) (show B.nk > 0 by omega)
      omega
    split
    · exact hu
    · rw [lay_dl, dl_off B m _ hk3 hm h5 _ 41 (by omega), Int32.mul_zero, Int32.add_zero]
      unfold upd
      rw [if_neg (by unfold upd at hk3; omega)]
      exact hu
theorem m_week1 {gi : GI} {B : Bk} (b : MBk gi B) (hs : ∃ v, v ≤ 999 ∧ gi 33 41 = N v) : g_loop g_K (fun (s : Int32 × GI) => f_X4_goWeek_l2 s.1 s.2) (0, gi) = some (va_up gi 33 (loosens B (gi 33) B.nm)) := by
  have h5 := b.ok.nm
  have e : gi = va_up gi 33 (gi 33) := by funext i; by_cases h : i = 33 <;> simp [va_up, h]
  have sd : ∀ n, n ≤ B.nm → ∃ v, v ≤ 999 ∧ loosens B (gi 33) n 41 = N v := by
    intro n
    induction n with
    | zero => intro _; exact hs
    | succ n ih =>
      intro hn
      unfold loosens
      split
      · exact loosen_seed (by omega) b.ok (ih (by omega))
      · exact ih (by omega)
  refine loop_T (fun i => (N i, va_up gi 33 (loosens B (gi 33) i))) B.nm (by rw [loosens, ← e]; rfl) ?_ ?_ (by simp only [g_K]; omega)
  · intro i hi
    have bi := (Fr.all gi (loosens B (gi 33) i)).book b
    obtain ⟨v, v1, v2⟩ := m_looseBit bi (show i < 5 by omega)
    dsimp only
    rw [f_X4_goWeek_l2, m_many bi, Option.bind_some, if_le (by omega) (by omega), if_neg (by omega), v1, Option.bind_some, m_has, Option.bind_some, v2]
    by_cases hl : B.loose i
    · simp only [hl, if_true, loosens]
      rw [if_neg (by decide), m_loosen bi (by rw [all_get]; exact sd i (by omega)) hi, Option.bind_some, all_get, all_up]
      rw [show (1 : Int32) = N 1 from rfl, N_add]
    · simp only [hl, loosens]
      rw [show (1 : Int32) = N 1 from rfl, N_add]
      rfl
  · have bi := (Fr.all gi (loosens B (gi 33) B.nm)).book b
    dsimp only
    rw [f_X4_goWeek_l2, m_many bi, Option.bind_some, if_le (by omega) (by omega), if_pos (by omega)]
theorem m_week2 {gi : GI} {B : Bk} (b : MBk gi B) (x : Int32) : ∃ gi', g_loop g_K (fun (s : Int32 × GI) => f_X4_goWeek_l44 x s.1 s.2) (0, gi) = some gi' ∧ gi' 33 = crops B (gi 33) B.nm ∧ K1 (va_up gi 33 (gi' 33)) gi' := by
  have h5 := b.ok.nm
  have key := loop_J (body := fun (s : Int32 × GI) => f_X4_goWeek_l44 x s.1 s.2) (fun n s => ∃ i, n = B.nm - i ∧ i ≤ B.nm ∧ s.1 = N i ∧ s.2 33 = crops B (gi 33) i ∧ K1 (va_up gi 33 (s.2 33)) s.2) (fun gi' => gi' 33 = crops B (gi 33) B.nm ∧ K1 (va_up gi 33 (gi' 33)) gi') (by
    rintro n ⟨k, gj⟩ ⟨i, e0, e1, e2, e3, e4⟩
    dsimp only at e2 e3 e4 ⊢
    subst e2
    have bj := e4.fr.book ((Fr.all gi (gj 33)).book b)
    rw [f_X4_goWeek_l44, m_many bj, Option.bind_some, if_le (by omega) (by omega)]
    by_cases h : i = B.nm
    · right
      subst h
      exact ⟨gj, if_pos (Nat.le_refl _), e3, e4⟩
    · left
      obtain ⟨g5, q1, q2⟩ := m_growthOf bj (show i < 5 by omega)
      rw [if_neg (by omega), show (15 : Int32) = N 15 from rfl, N_add, N_ld (by omega) (by decide), Option.bind_some, q1, Option.bind_some]
      have e5 : g5 33 = gj 33 := q2.2 33 (by decide) (by decide)
      have fin : ∀ w : Int32, w = cropOf (gj 33 (15 + i) + growth B (gj 33) i) → ∃ s', ((g_st g5 33 42 (N (15 + i)) w).bind fun gi10 => some (.inl (N i + 1, gi10)) : Option ((Int32 × GI) ⊕ GI)) = some (.inl s') ∧ ∃ n', n' < n ∧ ∃ i, n' = B.nm - i ∧ i ≤ B.nm ∧ s'.1 = N i ∧ s'.2 33 = crops B (gi 33) i ∧ K1 (va_up gi 33 (s'.2 33)) s'.2 := by
        intro w hw
        rw [N_st (by omega) (by decide), Option.bind_some]
        refine ⟨_, rfl, B.nm - (i + 1), by omega, i + 1, rfl, by omega, N_add i 1, ?_, ?_, ?_⟩
        · show g_pi g5 33 (15 + i) w 33 = _
          rw [all_pi, all_get, e5, e3, crops, hw, e3]
        · intro k hk
          show g_pi g5 33 (15 + i) w 0 k = va_up gi 33 _ 0 k
          rw [pi_get, if_neg (by omega), all_ne _ _ _ (by decide), q2.1 k hk, e4.1 k hk, all_ne _ _ _ (by decide)]
        · intro c c1 c2
          show g_pi g5 33 (15 + i) w c = va_up gi 33 (g_pi g5 33 (15 + i) w 33) c
          by_cases hc : c = 33
          · subst hc; rw [all_get]
          · rw [all_ne _ _ _ hc, all_pi, all_ne _ _ _ hc, q2.2 c c1 c2, e4.2 c c1 c2, all_ne _ _ _ hc]
      by_cases hv : 0 ≤ gj 33 (15 + i) + growth B (gj 33) i
      · rw [if_pos hv, m_lesser, Option.bind_some]
        exact fin _ (by rw [cropOf, if_pos hv])
      · rw [if_neg hv]
        exact fin _ (by rw [cropOf, if_neg hv])) (n := B.nm) (s := (0, gi)) ⟨0, by omega, by omega, rfl, rfl, by
      have e : va_up gi 33 (gi 33) = gi := by funext i; by_cases h : i = 33 <;> simp [va_up, h]
      rw [e]; exact K1.refl gi⟩ (by simp only [g_K]; omega)
  exact key
theorem m_week3 {gi : GI} {B : Bk} (b : MBk gi B) (x : Int32) : g_loop g_K (fun (s : Int32 × GI) => f_X4_goWeek_l99 x s.1 s.2) (0, gi) = some (va_up gi 33 (resets B (gi 33) B.nm)) := by
  have h5 := b.ok.nm
  have e : gi = va_up gi 33 (gi 33) := by funext i; by_cases h : i = 33 <;> simp [va_up, h]
  refine loop_T (fun i => (N i, va_up gi 33 (resets B (gi 33) i))) B.nm (by rw [resets, ← e]; rfl) ?_ ?_ (by simp only [g_K]; omega)
  · intro i hi
    have bi := (Fr.all gi (resets B (gi 33) i)).book b
    dsimp only
    rw [f_X4_goWeek_l99, m_many bi, Option.bind_some, if_le (by omega) (by omega), if_neg (by omega), show (35 : Int32) = N 35 from rfl, N_add, N_st (by omega) (by decide), Option.bind_some, all_pi, all_up, all_get]
    have st : ∀ (P : Nat → Int32) (k : Nat), k < 3 → f_X4_goWeek_l119 x (N i) (N k) (va_up gi 33 P) = some (.inl (N (k + 1), va_up gi 33 (reset1 B i k P))) := by
      intro P k hk
      have b1 := (Fr.all gi (upd P (20 + 3 * i + k) 0)).book b
      rw [f_X4_goWeek_l119, show (3 : Int32) = N 3 from rfl, if_le (by omega) (by omega), if_neg (by omega), show (20 : Int32) = N 20 from rfl, N_mul, N_add, N_add, N_st (by omega) (by decide), Option.bind_some, all_pi, all_up, all_get, m_payOf b1 hi hk, Option.bind_some, m_gets _ (by omega) hk, Option.bind_some, all_get, all_up, show (1 : Int32) = N 1 from rfl, N_add]
      rfl
    rw [lp_3 (body := fun (s : Int32 × GI) => f_X4_goWeek_l119 x (N i) s.1 s.2) (s0 := (0, va_up gi 33 (upd (resets B (gi 33) i) (35 + i) 0))) (st _ 0 (by decide)) (st _ 1 (by decide)) (st _ 2 (by decide)) rfl, Option.bind_some, f_X4_goWeek_x119, show (1 : Int32) = N 1 from rfl, N_add]
    rfl
  · have bi := (Fr.all gi (resets B (gi 33) B.nm)).book b
    dsimp only
    rw [f_X4_goWeek_l99, m_many bi, Option.bind_some, if_le (by omega) (by omega), if_pos (by omega)]
theorem m_goWeek {gi : GI} {B : Bk} (b : MBk gi B) (hs : ∃ v, v ≤ 999 ∧ gi 33 41 = N v) : ∃ gi', f_X4_goWeek gi = some (weekSum B (gi 33), gi') ∧ gi' 33 = weekP B (gi 33) ∧ K1 (va_up gi 33 (gi' 33)) gi' := by
  rw [f_X4_goWeek, m_week1 b hs, Option.bind_some, f_X4_goWeek_x2]
  have b1 := (Fr.all gi (loosens B (gi 33) B.nm)).book b
  obtain ⟨g2, k1, k2⟩ := m_growths b1
  rw [k1, Option.bind_some, all_get]
  have b2 := k2.fr.book b1
  obtain ⟨g3, l1, l2, l3⟩ := m_week2 b2 (weekSum B (gi 33))
  have e2 : g2 33 = loosens B (gi 33) B.nm := by rw [k2.2 33 (by decide) (by decide), all_get]
  show ∃ gi', ((g_loop g_K (fun (s : Int32 × GI) => f_X4_goWeek_l44 (weekSum B (gi 33)) s.1 s.2) (0, g2)).bind fun E44 => f_X4_goWeek_x44 (weekSum B (gi 33)) E44) = _ ∧ _
  have b3 := l3.fr.book ((Fr.all g2 (g3 33)).book b2)
  rw [l1, Option.bind_some, f_X4_goWeek_x44, m_week3 b3, Option.bind_some, f_X4_goWeek_x99, show (40 : Int32) = N 40 from rfl, N_ld (by decide) (by decide), Option.bind_some, N_st (by decide) (by decide), Option.bind_some, all_pi, all_up, all_get]
  refine ⟨_, rfl, ?_, ?_, ?_⟩
  · rw [all_get, l2, e2]
    rfl
  · intro k hk
    rw [all_ne _ _ _ (by decide), l3.1 k hk, all_ne _ _ _ (by decide), k2.1 k hk, all_ne _ _ _ (by decide), all_ne _ _ _ (by decide)]
  · intro c c1 c2
    by_cases hc : c = 33
    · subst hc; rw [all_get, all_get]
    · rw [all_ne _ _ _ hc, l3.2 c c1 c2, all_ne _ _ _ hc, k2.2 c c1 c2, all_ne _ _ _ hc, all_ne _ _ _ hc]

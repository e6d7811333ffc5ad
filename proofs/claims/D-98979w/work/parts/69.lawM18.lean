set_option linter.unusedVariables false
set_option linter.unusedSimpArgs false
/-! THE PLAIN LAW: gains, of the model -/
theorem N_div {a b : Nat} (ha : a < 2147483648) (hb : b < 2147483648) : N a / N b = N (a / b) := by
  rw [← Int32.toInt_inj, Int32.toInt_div, N_toInt ha, N_toInt hb, N_toInt (Nat.lt_of_le_of_lt (Nat.div_le_self _ _) ha)]
  rw [Int.bmod_eq_of_le]
  · exact Int.ofNat_tdiv a b
  · have : (0 : Int) ≤ (a : Int).tdiv b := Int.tdiv_nonneg (by omega) (by omega)
    omega
  · have : (a : Int).tdiv b = ((a / b : Nat) : Int) := Int.ofNat_tdiv a b
    have : a / b ≤ a := Nat.div_le_self _ _
    omega
theorem N_pos {a : Nat} (h : a < 2147483648) : (0 : Int32) ≤ N a := by
  rw [show (0 : Int32) = N 0 from rfl, N_le (by decide) h]; omega
theorem N_nneg {a : Nat} (h : a < 2147483648) : ¬ (N a < (0 : Int32)) := Int32.not_lt.mpr (N_pos h)
theorem m_divisor (gi : GI) {u d : Nat} (hu : u < 90000) (hd : d < 90000) : f_X4_divisor gi (N u) (N d) = some (N (Nat.gcd u d)) := by
  obtain ⟨e, k1, k2⟩ := loop_J (body := fun (s : Int32 × Int32) => f_X4_divisor_l4 gi s.1 s.2) (fun n s => ∃ a b, n = b ∧ a < 90000 ∧ b < 90000 ∧ s.1 = N a ∧ s.2 = N b ∧ Nat.gcd a b = Nat.gcd u d) (fun e => e = N (Nat.gcd u d)) (by
    rintro n ⟨x, y⟩ ⟨a, b, h0, h1, h2, h3, h4, h5⟩
    dsimp only at h3 h4 ⊢
    subst h3 h4
    rw [f_X4_divisor_l4, show (0 : Int32) = N 0 from rfl, if_le (by omega) (by omega)]
    by_cases q : b = 0
    · right
      subst q
      rw [if_pos (by omega)]
      exact ⟨_, rfl, by rw [← h5, Nat.gcd_zero_right]⟩
    · left
      rw [if_neg (by omega), g_nz, if_neg (by rw [show (0 : Int32) = N 0 from rfl, N_eq (by omega) (by omega)]; exact q), Option.bind_some, N_mod (by omega) (by omega) (by omega)]
      have hm := Nat.mod_lt a (show b > 0 by omega)
      refine ⟨_, rfl, a % b, by omega, b, a % b, rfl, h2, by omega, rfl, rfl, ?_⟩
      rw [← h5, Nat.gcd_comm a b, Nat.gcd_rec b a, Nat.gcd_comm]) (n := d) (s := (N u, N d)) ⟨u, d, rfl, hu, hd, rfl, rfl, rfl⟩ (by simp only [g_K]; omega)
  rw [f_X4_divisor, k1, Option.bind_some, f_X4_divisor_x4, k2]
def GM (gj : GI) (g : Gn) : Prop :=
  match g with
  | none => gj 0 68 = 0
  | some q => gj 0 67 = N q.1 ∧ gj 0 68 = N q.2.1 ∧ gj 0 69 = N q.2.2 ∧ 1 ≤ q.2.1 ∧ q.2.1 ≤ 729 ∧ q.1 ≤ 729
theorem mul9 {a b c : Nat} (ha : a ≤ 9) (hb : b ≤ 9) (hc : c ≤ 9) : a * b * c ≤ 729 := by
  have h1 := Nat.mul_le_mul ha hb
  exact Nat.mul_le_mul h1 hc
theorem mul81 {a b : Nat} (ha : a ≤ 729) (hb : b ≤ 729) : a * b ≤ 531441 := Nat.mul_le_mul ha hb
/-- a round is taken, if more comes of it -/
theorem m_take {gj : GI} {g : Gn} (h : GM gj g) {x1 x2 x3 : Int32} {up dn t0 t1 of : Nat} (hd : t1 * t0 = dn) (h1 : 1 ≤ dn) (h2 : dn ≤ 729) (hu : up ≤ 729) (hof : (if 0 ≤ x3 then ((100 * x1) + (10 * x2)) + x3 else (10 * x1) + x2) = N of) : ∃ gk, f_X4_tryRound_j162 x1 x2 x3 gj (N up) (N t0) (N t1) = some gk ∧ GM gk (takeG g up dn of) ∧ (∀ k, k ≠ 67 → k ≠ 68 → k ≠ 69 → gk 0 k = gj 0 k) ∧ ∀ c, c ≠ 0 → gk c = gj c := by
  have tk : ∃ gk, f_X4_tryRound_j190 x1 x2 x3 gj (N up) (N dn) = some gk ∧ GM gk (some (up, dn, of)) ∧ (∀ k, k ≠ 67 → k ≠ 68 → k ≠ 69 → gk 0 k = gj 0 k) ∧ ∀ c, c ≠ 0 → gk c = gj c := by
    refine ⟨g_pi (g_pi (g_pi gj 0 67 (N up)) 0 68 (N dn)) 0 69 (N of), ?_, ⟨by simp [pi_get], by simp [pi_get], by simp [pi_get], h1, h2, hu⟩, fun k a b c => by simp [pi_get, a, b, c], fun c hc => by rw [pi_off hc, pi_off hc, pi_off hc]⟩
    rw [f_X4_tryRound_j190, Option.bind_some, Option.bind_some, ← hof]
    split <;> rfl
  rw [f_X4_tryRound_j162, N_mul, hd]
  cases g with
  | none =>
    have h : gj 0 68 = 0 := h
    rw [h, if_pos (by decide)]
    exact tk
  | some q =>
    have h : gj 0 67 = N q.1 ∧ gj 0 68 = N q.2.1 ∧ gj 0 69 = N q.2.2 ∧ 1 ≤ q.2.1 ∧ q.2.1 ≤ 729 ∧ q.1 ≤ 729 := h
    have m1 := mul81 h.2.2.2.2.2 h2
    have m2 := mul81 hu h.2.2.2.2.1
    rw [h.1, h.2.1, show (0 : Int32) = N 0 from rfl, if_le (by omega) (by omega), if_neg (by omega), N_mul, N_mul, if_lt (by omega) (by omega)]
    unfold takeG
    dsimp only
    by_cases w : up * q.2.1 ≤ q.1 * dn
    · rw [if_neg (by omega), if_pos w]
      exact ⟨gj, rfl, h, fun _ _ _ _ => rfl, fun _ _ => rfl⟩
    · rw [if_pos (by omega), if_neg w]
      exact tk
theorem m_try2 {gj : GI} {B : Bk} (bk : MBk gj B) {g : Gn} (h : GM gj g) {a b : Nat} (ha : a < 3) (hb : b < 3) : ∃ gk, f_X4_tryRound gj (N a) (N b) (-1) = some gk ∧ GM gk (tryG2 B a b g) ∧ (∀ k, k ≠ 67 → k ≠ 68 → k ≠ 69 → gk 0 k = gj 0 k) ∧ ∀ c, c ≠ 0 → gk c = gj c := by
  have no : ∃ gk, some gj = some gk ∧ GM gk g ∧ (∀ k, k ≠ 67 → k ≠ 68 → k ≠ 69 → gk 0 k = gj 0 k) ∧ ∀ c, c ≠ 0 → gk c = gj c := ⟨gj, rfl, h, fun _ _ _ _ => rfl, fun _ _ => rfl⟩
  have cst := bk.ok.cost
  have brg := bk.ok.brings
  have nz : ∀ n : Nat, n ≤ 9 → (N n = (0 : Int32) ↔ n = 0) := fun n hn => by rw [show (0 : Int32) = N 0 from rfl, N_eq (by omega) (by omega)]
  have m1 : ∀ n, N n * 1 = N (n * 1) := fun n => by rw [show (1 : Int32) = N 1 from rfl, N_mul]
  unfold tryG2
  obtain ⟨l1, l2⟩ := m_rate bk ha hb
  obtain ⟨l3, l4⟩ := m_rate bk hb ha
  have c1 := cst a b
  have c2 := cst b a
  rw [f_X4_tryRound, if_neg (by decide), f_X4_tryRound_j35, if_neg (by decide), f_X4_tryRound_j59, l1, Option.bind_some, l3]
  by_cases q1 : B.cost a b = 0
  · rw [if_pos ((nz _ c1).mpr q1), if_pos (Or.inl q1)]; exact no
  · rw [if_neg (fun e => q1 ((nz _ c1).mp e)), Option.bind_some]
    by_cases q2 : B.cost b a = 0
    · rw [if_pos ((nz _ c2).mpr q2), if_pos (Or.inr q2)]; exact no
    · rw [if_neg (fun e => q2 ((nz _ c2).mp e)), if_pos (by decide), if_neg (show ¬ (B.cost a b = 0 ∨ B.cost b a = 0) from fun e => e.elim q1 q2), f_X4_tryRound_j97, l2 q1, Option.bind_some, l4 q2, Option.bind_some, if_neg (by decide), f_X4_tryRound_j128, l1, Option.bind_some, l3, Option.bind_some, if_neg (by decide), N_mul, N_mul, m1]
      have p1 := Nat.mul_pos (Nat.pos_of_ne_zero q1) (Nat.pos_of_ne_zero q2)
      have p2 := mul9 c1 c2 (show 1 ≤ 9 by decide)
      have p3 := mul9 (brg a b) (brg b a) (show 1 ≤ 9 by decide)
      refine m_take (t0 := 1) h rfl (by omega) p2 p3 ?_
      rw [if_neg (by decide), show (10 : Int32) = N 10 from rfl, N_mul, N_add]
theorem m_try3 {gj : GI} {B : Bk} (bk : MBk gj B) {g : Gn} (h : GM gj g) {a b c : Nat} (ha : a < 3) (hb : b < 3) (hc : c < 3) : ∃ gk, f_X4_tryRound gj (N a) (N b) (N c) = some gk ∧ GM gk (tryG3 B a b c g) ∧ (∀ k, k ≠ 67 → k ≠ 68 → k ≠ 69 → gk 0 k = gj 0 k) ∧ ∀ c, c ≠ 0 → gk c = gj c := by
  have no : ∃ gk, some gj = some gk ∧ GM gk g ∧ (∀ k, k ≠ 67 → k ≠ 68 → k ≠ 69 → gk 0 k = gj 0 k) ∧ ∀ c, c ≠ 0 → gk c = gj c := ⟨gj, rfl, h, fun _ _ _ _ => rfl, fun _ _ => rfl⟩
  have cst := bk.ok.cost
  have brg := bk.ok.brings
  obtain ⟨r, br, b2⟩ := id bk
  have hr := b2.hr
  have nz : ∀ n : Nat, n ≤ 9 → (N n = (0 : Int32) ↔ n = 0) := fun n hn => by rw [show (0 : Int32) = N 0 from rfl, N_eq (by omega) (by omega)]
  unfold tryG3
  obtain ⟨l1, l2⟩ := m_rate bk ha hb
  obtain ⟨l3, l4⟩ := m_rate bk hb hc
  obtain ⟨l5, l6⟩ := m_rate bk hc ha
  have c1 := cst a b
  have c2 := cst b c
  have c3 := cst c a
  have pos : (0 : Int32) ≤ 9 * gj 0 41 + 3 * N c + N a := by
    rw [br, show (9 : Int32) = N 9 from rfl, show (3 : Int32) = N 3 from rfl, N_mul, N_mul, N_add, N_add]
    exact N_pos (by omega)
  have posc : (0 : Int32) ≤ N c := N_pos (by omega)
  rw [f_X4_tryRound, if_pos posc, f_X4_tryRound_j35, if_pos posc, f_X4_tryRound_j59, l1, Option.bind_some, l3]
  by_cases q1 : B.cost a b = 0
  · rw [if_pos ((nz _ c1).mpr q1), if_pos (Or.inl q1)]; exact no
  · rw [if_neg (fun e => q1 ((nz _ c1).mp e)), Option.bind_some]
    by_cases q2 : B.cost b c = 0
    · rw [if_pos ((nz _ c2).mpr q2), if_pos (Or.inr (Or.inl q2))]; exact no
    · rw [if_neg (fun e => q2 ((nz _ c2).mp e)), if_neg (Int32.not_lt.mpr pos), l5, Option.bind_some]
      by_cases q3 : B.cost c a = 0
      · rw [if_pos ((nz _ c3).mpr q3), if_pos (Or.inr (Or.inr q3))]; exact no
      · rw [if_neg (fun e => q3 ((nz _ c3).mp e)), if_neg (show ¬ (B.cost a b = 0 ∨ B.cost b c = 0 ∨ B.cost c a = 0) from fun e => e.elim q1 (fun e => e.elim q2 q3)), f_X4_tryRound_j97, l2 q1, Option.bind_some, l4 q2, Option.bind_some, if_pos pos, l6 q3, Option.bind_some, f_X4_tryRound_j128, l1, Option.bind_some, l3, Option.bind_some, if_pos pos, l5, Option.bind_some, N_mul, N_mul, N_mul]
        have p1 := Nat.mul_pos (Nat.mul_pos (Nat.pos_of_ne_zero q1) (Nat.pos_of_ne_zero q2)) (Nat.pos_of_ne_zero q3)
        have p2 := mul9 c1 c2 c3
        have p3 := mul9 (brg a b) (brg b c) (brg c a)
        refine m_take h rfl (by omega) p2 p3 ?_
        rw [if_pos posc, show (10 : Int32) = N 10 from rfl, show (100 : Int32) = N 100 from rfl, N_mul, N_mul, N_add, N_add]
theorem m_gain {gi : GI} {S : St} (r : RM gi S) (x : Int32) : ∃ gi', f_X4_gain gi x = some (q_gain S x, gi') ∧ RM gi' S := by
  have e2 : f_X4_isIn gi x 0 2 = some (if (asQ x 3).isSome then 1 else 0) := by
    rw [m_isIn, show (2 : Int32) = N 3 - 1 from rfl, isIn_asQ x (by decide)]
  rw [f_X4_gain, e2, Option.bind_some]
  unfold q_gain
  cases hx : asQ x 3 with
  | none =>
    refine ⟨gi, ?_, r⟩
    cases gainG S.B with
    | none => rfl
    | some q => rfl
  | some w =>
    obtain ⟨rfl, hw⟩ := asQ_some hx
    simp only [Option.isSome_some, if_true]
    rw [if_neg (by decide), Option.bind_some]
    have fr : ∀ (a b : GI), (∀ k, k ≠ 67 → k ≠ 68 → k ≠ 69 → b 0 k = a 0 k) → (∀ c, c ≠ 0 → b c = a c) → MFr a b := fun a b h1 h2 => ⟨h1 41 (by decide) (by decide) (by decide), fun c c1 _ => h2 c (by omega), fun k hk => h1 k (by omega) (by omega) (by omega), fun c hc => h2 c (by omega)⟩
    have r0 : RM (g_pi gi 0 68 0) S := (fr gi _ (fun k _ h _ => by rw [pi_get, if_neg (by omega)]) (fun c hc => pi_off hc)).rm r
    obtain ⟨g1, a1, a2, a3, a4⟩ := m_try2 r0.book (g := none) (by show g_pi gi 0 68 0 0 68 = 0; simp [pi_get]) (show 0 < 3 by decide) (show 1 < 3 by decide)
    have r1 := (fr _ _ a3 a4).rm r0
    obtain ⟨g2, b1, b2, b3, b4⟩ := m_try2 r1.book a2 (show 0 < 3 by decide) (show 2 < 3 by decide)
    have r2 := (fr _ _ b3 b4).rm r1
    obtain ⟨g3, c1, c2, c3, c4⟩ := m_try2 r2.book b2 (show 1 < 3 by decide) (show 2 < 3 by decide)
    have r3 := (fr _ _ c3 c4).rm r2
    obtain ⟨g4, d1, d2, d3, d4⟩ := m_try3 r3.book c2 (show 0 < 3 by decide) (show 1 < 3 by decide) (show 2 < 3 by decide)
    have r4 := (fr _ _ d3 d4).rm r3
    obtain ⟨g5, e1, e2, e3, e4⟩ := m_try3 r4.book d2 (show 0 < 3 by decide) (show 2 < 3 by decide) (show 1 < 3 by decide)
    have r5 := (fr _ _ e3 e4).rm r4
    have a1 : f_X4_tryRound (g_pi gi 0 68 0) 0 1 (-1) = some g1 := a1
    have b1 : f_X4_tryRound g1 0 2 (-1) = some g2 := b1
    have c1 : f_X4_tryRound g2 1 2 (-1) = some g3 := c1
    have d1 : f_X4_tryRound g3 0 1 2 = some g4 := d1
    have e1 : f_X4_tryRound g4 0 2 1 = some g5 := e1
    have e2 : GM g5 (gainG S.B) := e2
    simp only [a1, Option.bind_some, b1, c1, d1, e1]
    refine ⟨g5, ?_, r5⟩
    cases hg : gainG S.B with
    | none =>
      rw [hg] at e2
      have e2 : g5 0 68 = 0 := e2
      rw [if_pos e2]
    | some q =>
      rw [hg] at e2
      have e2 : g5 0 67 = N q.1 ∧ g5 0 68 = N q.2.1 ∧ g5 0 69 = N q.2.2 ∧ 1 ≤ q.2.1 ∧ q.2.1 ≤ 729 ∧ q.1 ≤ 729 := e2
      obtain ⟨h1, h2, h3, h4, h5, h6⟩ := e2
      have gp : 0 < Nat.gcd q.1 q.2.1 := Nat.gcd_pos_of_pos_right q.1 (by omega)
      have gl : Nat.gcd q.1 q.2.1 ≤ q.2.1 := Nat.gcd_le_right q.1 (by omega)
      have nz : g_nz (N (Nat.gcd q.1 q.2.1)) = some () := by
        rw [g_nz, if_neg]
        rw [show (0 : Int32) = N 0 from rfl, N_eq (by omega) (by omega)]
        omega
      have n0 : ¬ (N q.2.1 = (0 : Int32)) := by rw [show (0 : Int32) = N 0 from rfl, N_eq (by omega) (by omega)]; omega
      rw [h1, h2, h3, if_neg n0, m_divisor g5 (by omega) (by omega), Option.bind_some, nz, Option.bind_some, Option.bind_some, N_div (by omega) (by omega), N_div (by omega) (by omega)]
      match w, hw with
      | 0, _ => rfl
      | 1, _ => rfl
      | 2, _ => rfl

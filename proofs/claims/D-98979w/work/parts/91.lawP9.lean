set_option linter.unusedVariables false
set_option linter.unusedSimpArgs false
/-! THE PLAIN LAW: what the model sees of a token -/
section P9
variable {gi gi' : GI} {gl gl' : GL} {X : Nat → Nat} {n : Nat} {t : Tk} {e : Es}
theorem lexA_val (x : Txt X n) {a : Nat} (h : a ≤ n) : ((lexA X n a).sort = 1 → (lexA X n a).val < 9223372036854775808) ∧ ((lexA X n a).sort ≠ 0 → (lexA X n a).sort ≠ 1 → (lexA X n a).sort ≠ 2 → (lexA X n a).sort ≠ 3 → (lexA X n a).sort = X a ∧ a < n ∧ isSg (X a) = true) ∧ ((lexA X n a).sort = 2 → (lexA X n a).val < 10000) ∧ (lexA X n a).sort < 256 := by
  unfold lexA
  by_cases h1 : n ≤ a
  · rw [if_pos h1]
    exact ⟨fun z => absurd (show (0 : Nat) = 1 from z) (by decide), fun z => absurd rfl z, fun z => absurd (show (0 : Nat) = 2 from z) (by decide), (show 0 < 256 by decide)⟩
  · rw [if_neg h1]
    by_cases h2 : isL (X a) = true
    · rw [if_pos h2]
      obtain ⟨s1, s2, s3, s4⟩ := lexL_spec x h
      by_cases h3 : 8 < lexL X n a - a
      · rw [if_pos h3]
        exact ⟨fun z => absurd (show (3 : Nat) = 1 from z) (by decide), fun _ _ _ z => absurd rfl z, fun z => absurd (show (3 : Nat) = 2 from z) (by decide), (show 3 < 256 by decide)⟩
      · rw [if_neg h3]
        refine ⟨fun _ => (pak_63 (by omega) (fun i i1 i2 => (isL_in (s3 i i1 (by omega))).2)).1, fun _ z => absurd rfl z, fun z => absurd (show (1 : Nat) = 2 from z) (by decide), (show 1 < 256 by decide)⟩
    · rw [if_neg h2]
      by_cases h4 : isD (X a) = true
      · rw [if_pos h4]
        obtain ⟨s1, s2, s3, s4⟩ := lexD_spec x h
        by_cases h3 : 4 < lexD X n a - a ∨ isL (X (lexD X n a)) = true
        · rw [if_pos h3]
          exact ⟨fun z => absurd (show (3 : Nat) = 1 from z) (by decide), fun _ _ _ z => absurd rfl z, fun z => absurd (show (3 : Nat) = 2 from z) (by decide), (show 3 < 256 by decide)⟩
        · rw [if_neg h3]
          refine ⟨fun z => absurd (show (2 : Nat) = 1 from z) (by decide), fun _ _ z => absurd rfl z, fun _ => ?_, (show 2 < 256 by decide)⟩
          have := digs_lt (X := X) (a := a) (lexD X n a - a) (fun k k1 k2 => isD_in (s3 k k1 (by omega)))
          have e4 : 10 ^ (lexD X n a - a) ≤ 10 ^ 4 := Nat.pow_le_pow_right (by decide) (by
            have : ¬ 4 < lexD X n a - a := fun z => h3 (Or.inl z)
            omega)
          show digs X a (lexD X n a - a) < 10000
          omega
      · rw [if_neg h4]
        have lo := x.low a (by omega)
        by_cases h5 : isSg (X a) = true
        · rw [if_pos h5]
          have sg := (of_decide_eq_true h5 : X a = 59 ∨ X a = 40 ∨ X a = 41 ∨ X a = 60 ∨ X a = 62 ∨ X a = 61 ∨ X a = 43 ∨ X a = 45 ∨ X a = 42 ∨ X a = 47 ∨ X a = 37)
          exact ⟨fun z => absurd (show X a = 1 from z) (by omega), fun _ _ _ _ => ⟨rfl, by omega, h5⟩, fun z => absurd (show X a = 2 from z) (by omega), lo⟩
        · rw [if_neg h5]
          exact ⟨fun z => absurd (show (3 : Nat) = 1 from z) (by decide), fun _ _ _ z => absurd rfl z, fun z => absurd (show (3 : Nat) = 2 from z) (by decide), (show 3 < 256 by decide)⟩
theorem TOk.val (x : Txt X n) (h : TOk X n t) : (t.sort = 1 → t.val < 9223372036854775808) ∧ (t.sort ≠ 0 → t.sort ≠ 1 → t.sort ≠ 2 → t.sort ≠ 3 → t.sort = X t.place ∧ t.place < n ∧ isSg (X t.place) = true) ∧ (t.sort = 2 → t.val < 10000) ∧ t.sort < 256 := by
  obtain ⟨p, hp, rfl⟩ := h
  obtain ⟨b1, b2, b3, b4⟩ := lexB_spec x hp
  have := lexA_val x b2
  unfold lexT
  rw [lexA_place b2]
  exact this
theorem mKind_le (t : Tk) : mKind t < 6 := by
  unfold mKind
  repeat (first | split | decide)
theorem lit63 : ∀ i, i < 22 → litV i < 9223372036854775808 := by decide +kernel
theorem m_isWord (x : Txt X n) (ok : TOk X n e.1) (m : MTk gi gl e.1) {i : Nat} (h1 : 1 ≤ i) (hi : i < 22) : f_X4_isWord gi gl (L (litV i)) = some (if eW e i = true then 1 else 0) := by
  have kl := mKind_le e.1
  rw [f_X4_isWord, m.kind, show (3 : Int32) = N 3 from rfl, if_eq (by omega) (by omega)]
  by_cases s1 : e.1.sort = 1
  · have kd : mKind e.1 = if kept e.1.val = true then 3 else 2 := by
      unfold mKind
      rw [if_neg (by omega), if_neg (by omega), if_pos s1]
    by_cases kp : kept e.1.val = true
    · rw [kd, if_pos kp, if_pos rfl, m.nam s1]
      have v63 := (ok.val x).1 s1
      by_cases q : e.1.val = litV i
      · rw [if_pos ((lg_cmp0 v63 (lit63 i hi)).mpr q), if_pos (show eW e i = true from decide_eq_true ⟨s1, q⟩)]
      · rw [if_neg (fun z => q ((lg_cmp0 v63 (lit63 i hi)).mp z)), if_neg (show ¬ eW e i = true from fun z => q (of_decide_eq_true z).2)]
    · rw [kd, if_neg kp, if_neg (by decide), if_neg (show ¬ eW e i = true from fun z => kp ((kept_lit _).mpr ⟨i, h1, hi, (of_decide_eq_true z).2⟩))]
  · have kd : mKind e.1 ≠ 3 := by
      unfold mKind
      by_cases a : e.1.sort = 0
      · rw [if_pos a]; decide
      · rw [if_neg a]
        by_cases b : e.1.sort = 3
        · rw [if_pos b]; decide
        · rw [if_neg b, if_neg s1]
          by_cases c : e.1.sort = 2
          · rw [if_pos c]; decide
          · rw [if_neg c]; decide
    rw [if_neg kd, if_neg (show ¬ eW e i = true from fun z => s1 (of_decide_eq_true z).1)]
theorem m_isSign (x : MTx gi X n) (ok : TOk X n t) (m : MTk gi gl t) {c : Nat} (hc : 4 ≤ c ∧ c < 256) : f_X4_isSignHere gi (N c) = some (if t.sort = c then 1 else 0) := by
  have kl := mKind_le t
  have hl := x.txt.len
  rw [f_X4_isSignHere, m.kind, show (5 : Int32) = N 5 from rfl, if_eq (by omega) (by omega)]
  have kd : mKind t = if t.sort = 0 then 0 else if t.sort = 3 then 1 else if t.sort = 1 then (if kept t.val = true then 3 else 2) else if t.sort = 2 then 4 else 5 := rfl
  by_cases a : t.sort = 0
  · rw [if_neg (by rw [kd, if_pos a]; decide), if_neg (by omega)]
  · by_cases b : t.sort = 3
    · rw [if_neg (by rw [kd, if_neg a, if_pos b]; decide), if_neg (by omega)]
    · by_cases d : t.sort = 1
      · rw [if_neg (by rw [kd, if_neg a, if_neg b, if_pos d]; split <;> decide), if_neg (by omega)]
      · by_cases f : t.sort = 2
        · rw [if_neg (by rw [kd, if_neg a, if_neg b, if_neg d, if_pos f]; decide), if_neg (by omega)]
        · obtain ⟨v1, v2, v3⟩ := (ok.val x.txt).2.1 a d f b
          have lo := x.txt.low _ v2
          rw [if_pos (by rw [kd, if_neg a, if_neg b, if_neg d, if_neg f]), m.place, m_sign x (by omega), Option.bind_some, (x.x0 t.place).2.1 v2, if_eq (by omega) (by omega), v1]
          split <;> rfl
theorem m_signAt (x : MTx gi X n) (ok : TOk X n t) (m : MTk gi gl t) (h : t.sort ≠ 0 ∧ t.sort ≠ 1 ∧ t.sort ≠ 2 ∧ t.sort ≠ 3) : f_X4_sign gi (gi 0 6) = some (N t.sort) := by
  have hl := x.txt.len
  obtain ⟨v1, v2, v3⟩ := (ok.val x.txt).2.1 h.1 h.2.1 h.2.2.1 h.2.2.2
  rw [m.place, m_sign x (by omega), (x.x0 t.place).2.1 v2, ← v1]
theorem m_isNum (m : MTk gi gl t) : gi 0 8 = 4 ↔ t.sort = 2 := by
  have kl := mKind_le t
  rw [m.kind, show (4 : Int32) = N 4 from rfl, N_eq (by omega) (by omega)]
  have kd : mKind t = if t.sort = 0 then 0 else if t.sort = 3 then 1 else if t.sort = 1 then (if kept t.val = true then 3 else 2) else if t.sort = 2 then 4 else 5 := rfl
  rw [kd]
  by_cases a : t.sort = 0
  · rw [if_pos a]; omega
  · by_cases b : t.sort = 3
    · rw [if_neg a, if_pos b]; omega
    · by_cases d : t.sort = 1
      · rw [if_neg a, if_neg b, if_pos d]
        split <;> omega
      · by_cases f : t.sort = 2
        · rw [if_neg a, if_neg b, if_neg d, if_pos f]; omega
        · rw [if_neg a, if_neg b, if_neg d, if_neg f]; omega
theorem m_isBad (m : MTk gi gl t) : gi 0 8 = 1 ↔ t.sort = 3 := by
  have kl := mKind_le t
  rw [m.kind, show (1 : Int32) = N 1 from rfl, N_eq (by omega) (by omega)]
  have kd : mKind t = if t.sort = 0 then 0 else if t.sort = 3 then 1 else if t.sort = 1 then (if kept t.val = true then 3 else 2) else if t.sort = 2 then 4 else 5 := rfl
  rw [kd]
  by_cases a : t.sort = 0
  · rw [if_pos a]; omega
  · by_cases b : t.sort = 3
    · rw [if_neg a, if_pos b]; omega
    · by_cases d : t.sort = 1
      · rw [if_neg a, if_neg b, if_pos d]
        split <;> omega
      · by_cases f : t.sort = 2
        · rw [if_neg a, if_neg b, if_neg d, if_pos f]; omega
        · rw [if_neg a, if_neg b, if_neg d, if_neg f]; omega
/-- a fault is told -/
def faulted (gi : GI) (x : PE) : GI := g_pi (g_pi gi 0 4 (N x.1)) 0 5 (N x.2)
theorem m_fails (h4 : gi 0 4 = 0) (a b : Nat) : f_X4_fails gi (N a) (N b) = some (faulted gi (a, b)) := by
  rw [f_X4_fails, h4, if_pos (by decide), Option.bind_some, Option.bind_some]
  rfl
theorem m_misplaced (h4 : gi 0 4 = 0) (m : MTk gi gl e.1) : f_X4_misplaced gi = some (faulted gi (eBad e)) := by
  rw [f_X4_misplaced]
  unfold eBad
  by_cases q : e.1.sort = 3
  · rw [if_pos ((m_isBad m).mpr q), if_pos q, f_X4_misplaced_j14, m.place, show (1 : Int32) = N 1 from rfl, m_fails h4, Option.bind_some]
  · rw [if_neg (fun z => q ((m_isBad m).mp z)), if_neg q, f_X4_misplaced_j14, m.place, show (2 : Int32) = N 2 from rfl, m_fails h4, Option.bind_some]
theorem m_isOk (h4 : gi 0 4 = 0) : f_X4_isGood gi = some 1 := by rw [f_X4_isGood, if_pos h4]
theorem m_notGood (x : PE) (h : x.1 ≠ 0 ∧ x.1 < 100) : f_X4_isGood (faulted gi x) = some 0 := by
  have : faulted gi x 0 4 = N x.1 := by
    unfold faulted
    rw [pi_get, if_neg (by omega), pi_get, if_pos ⟨rfl, rfl⟩]
  rw [f_X4_isGood, this, show (0 : Int32) = N 0 from rfl, if_eq (by omega) (by omega), if_neg h.1]
theorem eBad_ne (e : Es) : (eBad e).1 ≠ 0 ∧ (eBad e).1 < 100 := by
  unfold eBad
  dsimp only
  split <;> omega
def askE (e : Es) : Int32 := match eAsk e with | none => 0 | some k => askc k
theorem eAsk_w (e : Es) : eAsk e = if eW e 14 = true then some 0 else if eW e 15 = true then some 1 else if eW e 16 = true then some 2 else if eW e 3 = true then some 3 else if eW e 17 = true then some 4 else if eW e 18 = true then some 5 else none := by
  unfold eAsk
  by_cases s1 : e.1.sort = 1
  · have w : ∀ i, (eW e i = true) = (e.1.val = litV i) := fun i => propext ⟨fun z => (of_decide_eq_true z).2, fun z => decide_eq_true ⟨s1, z⟩⟩
    rw [if_pos s1]
    unfold askI
    simp only [w]
  · have w : ∀ i, ¬ eW e i = true := fun i z => s1 (of_decide_eq_true z).1
    rw [if_neg s1, if_neg (w 14), if_neg (w 15), if_neg (w 16), if_neg (w 3), if_neg (w 17), if_neg (w 18)]
theorem m_wordHere (x : Txt X n) (ok : TOk X n e.1) (m : MTk gi gl e.1) : f_X4_wordHere gi gl = some (askE e) := by
  have w := fun i (h1 : 1 ≤ i) (hi : i < 22) => m_isWord x ok m h1 hi
  unfold askE
  rw [eAsk_w, f_X4_wordHere, show (439855772532 : Int64) = L (litV 14) by decide +kernel, show (126879297138276 : Int64) = L (litV 15) by decide +kernel, show (499967947364 : Int64) = L (litV 16) by decide +kernel, show (1668444016 : Int64) = L (litV 3) by decide +kernel, show (2003133803 : Int64) = L (litV 17) by decide +kernel, show (1886154612 : Int64) = L (litV 18) by decide +kernel, w 14 (by decide) (by decide), w 15 (by decide) (by decide), w 16 (by decide) (by decide), w 3 (by decide) (by decide), w 17 (by decide) (by decide), w 18 (by decide) (by decide)]
  simp only [Option.bind_some]
  by_cases a : eW e 14 = true
  · rw [if_pos a, if_neg (by decide), if_pos a]; rfl
  · rw [if_neg a, if_pos rfl, if_neg a]
    by_cases b : eW e 15 = true
    · rw [if_pos b, if_neg (by decide), if_pos b]; rfl
    · rw [if_neg b, if_pos rfl, if_neg b]
      by_cases c : eW e 16 = true
      · rw [if_pos c, if_neg (by decide), if_pos c]; rfl
      · rw [if_neg c, if_pos rfl, if_neg c]
        by_cases d : eW e 3 = true
        · rw [if_pos d, if_neg (by decide), if_pos d]; rfl
        · rw [if_neg d, if_pos rfl, if_neg d]
          by_cases f : eW e 17 = true
          · rw [if_pos f, if_neg (by decide), if_pos f]; rfl
          · rw [if_neg f, if_pos rfl, if_neg f]
            by_cases g : eW e 18 = true
            · rw [if_pos g, if_neg (by decide), if_pos g]; rfl
            · rw [if_neg g, if_pos rfl, if_neg g]
theorem m_rank (x : MTx gi X n) (ok : TOk X n e.1) (m : MTk gi gl e.1) : f_X4_rankHere gi gl = some (N (eRank e)) := by
  have w := fun i (h1 : 1 ≤ i) (hi : i < 22) => m_isWord x.txt ok m h1 hi
  have s := fun c (hc : 4 ≤ c ∧ c < 256) => m_isSign x ok m hc
  have s60 : f_X4_isSignHere gi 60 = _ := s 60 (by decide)
  have s62 : f_X4_isSignHere gi 62 = _ := s 62 (by decide)
  have s61 : f_X4_isSignHere gi 61 = _ := s 61 (by decide)
  have s43 : f_X4_isSignHere gi 43 = _ := s 43 (by decide)
  have s45 : f_X4_isSignHere gi 45 = _ := s 45 (by decide)
  have s42 : f_X4_isSignHere gi 42 = _ := s 42 (by decide)
  have s47 : f_X4_isSignHere gi 47 = _ := s 47 (by decide)
  have s37 : f_X4_isSignHere gi 37 = _ := s 37 (by decide)
  rw [f_X4_rankHere, show (6385252 : Int64) = L (litV 19) by decide +kernel, show (28530 : Int64) = L (litV 20) by decide +kernel, w 19 (by decide) (by decide), w 20 (by decide) (by decide), s60, s62, s61, s43, s45, s42, s47, s37]
  simp only [Option.bind_some]
  unfold eRank
  by_cases a : eW e 19 = true
  · rw [if_pos a, if_neg (by decide), if_pos a]; rfl
  · rw [if_neg a, if_pos rfl, if_neg a]
    by_cases b : eW e 20 = true
    · rw [if_pos b, if_neg (by decide), if_pos b]; rfl
    · rw [if_neg b, if_pos rfl, if_neg b]
      by_cases c : e.1.sort = 60 ∨ e.1.sort = 62 ∨ e.1.sort = 61
      · have hc : (opC e).isSome = true := by unfold opC; rw [if_pos c]; rfl
        rw [if_pos hc]
        rcases c with c | c | c
        · rw [if_pos c, if_neg (by decide)]; rfl
        · rw [if_neg (show ¬ e.1.sort = 60 by omega), if_pos rfl, if_pos c, if_neg (by decide)]; rfl
        · rw [if_neg (show ¬ e.1.sort = 60 by omega), if_pos rfl, if_neg (show ¬ e.1.sort = 62 by omega), if_pos rfl, if_pos c, if_neg (by decide)]; rfl
      · have hc : ¬ (opC e).isSome = true := by unfold opC; rw [if_neg c]; decide
        rw [if_neg hc, if_neg (show ¬ e.1.sort = 60 by omega), if_pos rfl, if_neg (show ¬ e.1.sort = 62 by omega), if_pos rfl, if_neg (show ¬ e.1.sort = 61 by omega), if_pos rfl]
        by_cases d : e.1.sort = 43 ∨ e.1.sort = 45
        · have hs : (opS e).isSome = true := by unfold opS; rw [if_pos d]; rfl
          rw [if_pos hs]
          rcases d with d | d
          · rw [if_pos d, if_neg (by decide)]; rfl
          · rw [if_neg (show ¬ e.1.sort = 43 by omega), if_pos rfl, if_pos d, if_neg (by decide)]; rfl
        · have hs : ¬ (opS e).isSome = true := by unfold opS; rw [if_neg d]; decide
          rw [if_neg hs, if_neg (show ¬ e.1.sort = 43 by omega), if_pos rfl, if_neg (show ¬ e.1.sort = 45 by omega), if_pos rfl]
          by_cases f : e.1.sort = 42 ∨ e.1.sort = 47 ∨ e.1.sort = 37
          · have ht : (opT e).isSome = true := by unfold opT; rw [if_pos f]; rfl
            rw [if_pos ht]
            rcases f with f | f | f
            · rw [if_pos f, if_neg (by decide)]; rfl
            · rw [if_neg (show ¬ e.1.sort = 42 by omega), if_pos rfl, if_pos f, if_neg (by decide)]; rfl
            · rw [if_neg (show ¬ e.1.sort = 42 by omega), if_pos rfl, if_neg (show ¬ e.1.sort = 47 by omega), if_pos rfl, if_pos f, if_neg (by decide)]; rfl
          · have ht : ¬ (opT e).isSome = true := by unfold opT; rw [if_neg f]; decide
            rw [if_neg ht, if_neg (show ¬ e.1.sort = 42 by omega), if_pos rfl, if_neg (show ¬ e.1.sort = 47 by omega), if_pos rfl, if_neg (show ¬ e.1.sort = 37 by omega), if_pos rfl]
            rfl
end P9

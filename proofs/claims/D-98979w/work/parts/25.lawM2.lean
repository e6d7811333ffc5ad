set_option linter.unusedVariables false
set_option linter.unusedSimpArgs false
/-! THE PLAIN LAW: the model's formulas -/
def Pl (p : Nat → Int32) : List Int32 → Prop
  | [] => True
  | x :: t => p t.length = x ∧ Pl p t
theorem Pl.up {p : Nat → Int32} {t : List Int32} (h : Pl p t) {n : Nat} (hn : t.length ≤ n) (x : Int32) : Pl (upd p n x) t := by
  induction t with
  | nil => trivial
  | cons y t ih =>
    have hn : t.length + 1 ≤ n := hn
    refine ⟨?_, ih h.2 (by omega)⟩
    have := h.1
    simp only [upd]
    rw [if_neg (by omega)]
    exact this
theorem m_nk {gi : GI} {B : Bk} (b : MBk gi B) : g_ld gi 3 2 (gi 0 41) = some (N B.nk) := by
  obtain ⟨r, h1, h2⟩ := b
  rw [h1, N_ld h2.hr (by decide), h2.nk]
theorem MBk.ok {gi : GI} {B : Bk} (b : MBk gi B) : B.Ok := by
  obtain ⟨r, h1, h2⟩ := b
  exact h2.ok
theorem m_overOf {gi : GI} {B : Bk} (b : MBk gi B) {m k : Nat} (hm : m < 5) (hk : k < 3) : f_X4_overOf gi (N m) (N k) = some (if k < B.nk then gi 33 (20 + 3 * m + k) else 0) := by
  have h3 := b.ok.nk
  simp only [f_X4_overOf, m_nk b, Option.bind_some, N_le (show B.nk < 2147483648 by omega) (show k < 2147483648 by omega), N_lit, N_mul, N_add]
  rw [N_ld (by omega) (by decide)]
  by_cases h : k < B.nk
  · simp [h, Nat.not_le.mpr h]
  · simp [h, Nat.not_lt.mp h]
theorem m_asked {gi : GI} {B : Bk} (b : MBk gi B) {m : Nat} (hm : m < 5) (ha : gi 0 47 = N m) (c v : Int32) (hc : c = 110 ∨ c = 102 ∨ c = 115 ∨ c = 116 ∨ c = 99 ∨ c = 119 ∨ c = 112) (st : List Int32) : ∃ x, f_X4_asked gi c v = some x ∧ stp (askv B (gi 33) m) (c, v) st = x :: st := by
  have h0 := m_overOf b hm (show 0 < 3 by decide)
  have h1 := m_overOf b hm (show 1 < 3 by decide)
  have h2 := m_overOf b hm (show 2 < 3 by decide)
  rcases hc with h | h | h | h | h | h | h <;> subst h
  · exact ⟨v, by simp [f_X4_asked], by simp [stp]⟩
  · exact ⟨_, by simp only [f_X4_asked, ha, show (0 : Int32) = N 0 from rfl, h0]; rfl, by simp [stp, askv]; rfl⟩
  · exact ⟨_, by simp only [f_X4_asked, ha, show (1 : Int32) = N 1 from rfl, h1]; rfl, by simp [stp, askv]⟩
  · exact ⟨_, by simp only [f_X4_asked, ha, show (2 : Int32) = N 2 from rfl, h2]; rfl, by simp [stp, askv]⟩
  · refine ⟨gi 33 (15 + m), ?_, by simp [stp, askv]⟩
    simp only [f_X4_asked, ha, if_true]
    rw [show (15 : Int32) = N 15 from rfl, N_add, N_ld (by omega) (by decide)]
    rfl
  · refine ⟨gi 33 40, ?_, by simp [stp, askv]⟩
    simp only [f_X4_asked]
    rw [show (40 : Int32) = N 40 from rfl, N_ld (by omega) (by decide)]
    rfl
  · exact ⟨gi 0 47, by simp [f_X4_asked], by simp [stp, askv, ha]⟩
theorem m_two (gi : GI) (c x y : Int32) (h : isTwo c) : f_X4_two gi c x y = some (two c x y) := by
  rcases h with h | h | h | h | h | h | h | h | h | h <;> subst h
  · simp [f_X4_two, two]
  · simp [f_X4_two, two]
  · simp [f_X4_two, two]
  · by_cases q : y = 0 <;> simp [f_X4_two, two, q, g_nz]
  · by_cases q : y = 0 <;> simp [f_X4_two, two, q, g_nz]
  · by_cases q : x < y
    · simp [f_X4_two, two, q, Int32.not_le.mpr q]
    · simp [f_X4_two, two, q, Int32.not_lt.mp q]
  · by_cases q : y < x
    · simp [f_X4_two, two, q, Int32.not_le.mpr q]
    · simp [f_X4_two, two, q, Int32.not_lt.mp q]
  · by_cases q : x = y <;> simp [f_X4_two, two, q]
  · by_cases q : x = 0 <;> by_cases q2 : y = 0 <;> simp [f_X4_two, two, q, q2]
  · by_cases q : x = 0 <;> by_cases q2 : y = 0 <;> simp [f_X4_two, two, q, q2]
/-- all but the pile stays -/
def K2 (gi gi' : GI) : Prop := ∀ c, c ≠ 32 → gi' c = gi c
theorem K2.fr {gi gi' : GI} (h : K2 gi gi') : Fr gi gi' := ⟨by rw [h 0 (by decide)], fun c _ q => h c (by omega)⟩
theorem K2.pi {gi gi' : GI} (h : K2 gi gi') (k : Nat) (x : Int32) : K2 gi (g_pi gi' 32 k x) := by
  intro c hc
  rw [← h c hc]
  funext j
  rw [pi_get, if_neg]; omega
theorem pile_pi (gi : GI) (k : Nat) (x : Int32) : g_pi gi 32 k x 32 = upd (gi 32) k x := by
  simp [g_pi, va_up]
theorem isTwo_letter (gi : GI) {c : Int32} (h : isTwo c) : f_X4_isLetter gi c = some 0 := by
  rcases h with h | h | h | h | h | h | h | h | h | h <;> subst h <;> rfl
theorem ask_letter (gi : GI) {c : Int32} (h : c = 110 ∨ c = 102 ∨ c = 115 ∨ c = 116 ∨ c = 99 ∨ c = 119 ∨ c = 112) : f_X4_isLetter gi c = some 1 ∧ c ≠ 126 := by
  rcases h with h | h | h | h | h | h | h <;> subst h <;> exact ⟨rfl, by decide⟩
def ComI (gi : GI) (B : Bk) (m f : Nat) (C : Cde) (v : Int32) (n k : Int32) (gj : GI) : Prop :=
  ∃ i st, n = N st.length ∧ st.length ≤ 60 ∧ k = N (f + i) ∧ i ≤ C.length ∧ K2 gi gj ∧ Pl (gj 32) st ∧ can (C.drop i) st.length ∧ runs (askv B (gi 33) m) (C.drop i) st = [v]
theorem m_comes {gi : GI} {B : Bk} (b : MBk gi B) {m : Nat} (hm : m < 5) (ha : gi 0 47 = N m) {e : Cde} (he : B.grow = some e) : ∃ gi', f_X4_comes gi = some (evC (askv B (gi 33) m) e, gi') ∧ K2 gi gi' := by
  have bb := b
  obtain ⟨r, h1, h2⟩ := b
  obtain ⟨q, _⟩ | ⟨e', f, g1, g2, ⟨g3d, g3⟩, g4, g5, g6, g7, g8⟩ := h2.grow
  · rw [he] at q; cases q
  rw [he] at g1; cases g1
  have hr := h2.hr
  have key := loop_I (body := fun (s : Int32 × Int32 × GI) => f_X4_comes_l12 s.1 s.2.1 s.2.2) (fun s => ComI gi B m f e (evC (askv B (gi 33) m) e) s.1 s.2.1 s.2.2) (fun s => f + e.length - s.2.1.toNatClampNeg) (fun gi' => K2 gi gi' ∧ gi' 32 0 = evC (askv B (gi 33) m) e) (by
    rintro ⟨n, k, gj⟩ hI
    obtain ⟨i, st, e1, e2, e3, e4, e5, e6, e7, e8⟩ : ComI gi B m f e (evC (askv B (gi 33) m) e) n k gj := hI
    subst e1 e3
    have bj := e5.fr.book bb
    show (∃ s', f_X4_comes_l12 _ _ _ = _ ∧ _ ∧ _) ∨ ∃ e, f_X4_comes_l12 _ _ _ = _ ∧ _
    have c22 : g_ld gj 22 2 (gj 0 41) = some (N (f + e.length)) := by
      rw [e5 0 (by decide), h1, N_ld hr (by decide), e5 22 (by decide), g6]
    simp only [f_X4_comes_l12, c22, Option.bind_some, N_le (show f + e.length < 2147483648 by omega) (show f + i < 2147483648 by omega)]
    by_cases hi : i = e.length
    · right
      rw [hi, List.drop_length] at e8
      have e8 : st = [evC (askv B (gi 33) m) e] := e8
      refine ⟨gj, by rw [if_pos (by omega)], e5, ?_⟩
      rw [e8] at e6
      exact e6.1
    · left
      rw [if_neg (by omega)]
      have hlt : i < e.length := by omega
      obtain ⟨c, hc⟩ : ∃ c, e[i]? = some c := ⟨_, List.getElem?_eq_getElem hlt⟩
      have hd : e.drop i = c :: e.drop (i + 1) := by
        have := List.drop_eq_getElem_cons hlt
        rw [List.getElem?_eq_getElem hlt] at hc
        cases hc
        exact this
      have hg := g8 i hlt
      rw [hc] at hg
      cases hg
      rw [hd] at e7 e8
      have l28 : g_ld gj 28 1120 (N (f + i)) = some (gi 28 (f + i)) := by rw [N_ld (by omega) (by decide), e5 28 (by decide)]
      have l29 : g_ld gj 29 1120 (N (f + i)) = some (gi 29 (f + i)) := by rw [N_ld (by omega) (by decide), e5 29 (by decide)]
      have mu : ∀ x y : Nat, f + e.length - (N (f + i) + 1).toNatClampNeg < f + e.length - (N (f + i)).toNatClampNeg := by
        intro _ _
        rw [show (1 : Int32) = N 1 from rfl, N_add, N_toNat (by omega), N_toNat (by omega)]; omega
      have kk : N (f + i) + 1 = N (f + (i + 1)) := by rw [show (1 : Int32) = N 1 from rfl, N_add]; rfl
      rw [l28, Option.bind_some]
      rcases e7 with ⟨q1, q2, q3⟩ | ⟨q1, q2, q3⟩ | ⟨q1, q2, q3⟩
      · have q1 : gi 28 (f + i) = 126 := q1
        rw [if_pos q1]
        match st, e6, q2, q3, e8, e2 with
        | x :: t, e6, q2, q3, e8, e2 =>
          have en : N (x :: t).length - 1 = N t.length := by rw [show (1 : Int32) = N 1 from rfl, N_sub (by simp)]; rfl
          have e2 : t.length + 1 ≤ 60 := e2
          rw [en, N_ld (by omega) (by decide), Option.bind_some, e6.1]
          have hrun : runs (askv B (gi 33) m) (e.drop (i + 1)) ((if x = 0 then 1 else 0) :: t) = [evC (askv B (gi 33) m) e] := by
            rw [← e8]
            simp [runs, stp, q1]
          by_cases hx : x = 0
          · rw [if_pos hx, N_st (by omega) (by decide)]
            refine ⟨_, rfl, ⟨i + 1, 1 :: t, rfl, e2, kk, by omega, e5.pi _ _, ?_, q3, ?_⟩, mu 0 0⟩
            · show Pl (g_pi gj 32 t.length 1 32) (1 :: t)
              rw [pile_pi]
              exact ⟨by simp [upd], e6.2.up (Nat.le_refl _) _⟩
            · rw [if_pos hx] at hrun; exact hrun
          · rw [if_neg hx, N_st (by omega) (by decide)]
            refine ⟨_, rfl, ⟨i + 1, 0 :: t, rfl, e2, kk, by omega, e5.pi _ _, ?_, q3, ?_⟩, mu 0 0⟩
            · show Pl (g_pi gj 32 t.length 0 32) (0 :: t)
              rw [pile_pi]
              exact ⟨by simp [upd], e6.2.up (Nat.le_refl _) _⟩
            · rw [if_neg hx] at hrun; exact hrun
      · have q1 : gi 28 (f + i) = 110 ∨ gi 28 (f + i) = 102 ∨ gi 28 (f + i) = 115 ∨ gi 28 (f + i) = 116 ∨ gi 28 (f + i) = 99 ∨ gi 28 (f + i) = 119 ∨ gi 28 (f + i) = 112 := q1
        obtain ⟨x, hx1, hx2⟩ := m_asked bj hm (by rw [e5 0 (by decide)]; exact ha) (gi 28 (f + i)) (gi 29 (f + i)) q1 st
        rw [if_neg (ask_letter gj q1).2, (ask_letter gj q1).1, Option.bind_some, if_neg (by decide), l29, Option.bind_some, hx1, Option.bind_some, N_st (by omega) (by decide)]
        refine ⟨_, rfl, ⟨i + 1, x :: st, (N_add st.length 1), by simp; omega, kk, by omega, e5.pi _ _, ?_, q3, ?_⟩, mu 0 0⟩
        · show Pl (g_pi gj 32 st.length x 32) (x :: st)
          rw [pile_pi]
          exact ⟨by simp [upd], e6.up (Nat.le_refl _) _⟩
        · rw [← e8, runs, ← hx2, e5 33 (by decide)]
      · have q1 : isTwo (gi 28 (f + i)) := q1
        match st, e6, q2, q3, e8, e2 with
        | y :: x :: t, e6, q2, q3, e8, e2 =>
          have e2 : t.length + 1 + 1 ≤ 60 := e2
          have en : N (y :: x :: t).length + (-1) = N (t.length + 1) := by
            show N (t.length + 1 + 1) + (-1) = _
            rw [show N (t.length + 1 + 1) = N (t.length + 1) + N 1 from (N_add _ _).symm, Int32.add_assoc, show N 1 + (-1) = 0 from rfl, Int32.add_zero]
          have en2 : N (t.length + 1) - 1 = N t.length := by rw [show (1 : Int32) = N 1 from rfl, N_sub (by omega)]; rfl
          have hc := two_not q1
          rw [if_neg hc.1, isTwo_letter gj q1, Option.bind_some, if_pos rfl, en, en2, N_ld (by omega) (by decide), Option.bind_some, N_ld (by omega) (by decide), Option.bind_some, m_two _ _ _ _ q1, Option.bind_some, N_st (by omega) (by decide)]
          refine ⟨_, rfl, ⟨i + 1, two (gi 28 (f + i)) x y :: t, rfl, by simp; omega, kk, by omega, e5.pi _ _, ?_, q3, ?_⟩, mu 0 0⟩
          · show Pl (g_pi gj 32 t.length _ 32) (_ :: t)
            rw [pile_pi]
            refine ⟨?_, e6.2.2.up (Nat.le_refl _) _⟩
            have hy : gj 32 (t.length + 1) = y := e6.1
            have hx : gj 32 t.length = x := e6.2.1
            simp only [upd, if_true, hx, hy]
          · rw [← e8, runs]
            simp [stp, hc]) (s := (0, gi 21 r, gi)) ⟨0, [], rfl, by simp, by rw [g5]; rfl, by omega, fun _ _ => rfl, trivial, by rw [List.drop_zero]; simpa using can_Cd g3d e g3 0 [] (by omega) rfl, by rw [List.drop_zero]; exact runs_Cd _ g3d e g3 []⟩ (by simp only [g_K]; omega)
  obtain ⟨gi', k1, k2, k3⟩ := key
  refine ⟨gi', ?_, k2⟩
  rw [f_X4_comes, h1, N_ld hr (by decide), Option.bind_some, k1, Option.bind_some, f_X4_comes_x12, show (0 : Int32) = N 0 from rfl, N_ld (by omega) (by decide), k3]
  rfl
/-- all but the man asked of and the pile stays -/
def K1 (gi gi' : GI) : Prop := (∀ k, k ≠ 47 → gi' 0 k = gi 0 k) ∧ ∀ c, c ≠ 0 → c ≠ 32 → gi' c = gi c
theorem K1.refl (gi : GI) : K1 gi gi := ⟨fun _ _ => rfl, fun _ _ _ => rfl⟩
theorem K1.trans {a b c : GI} (h : K1 a b) (g : K1 b c) : K1 a c := ⟨fun k h1 => (g.1 k h1).trans (h.1 k h1), fun i h1 h2 => (g.2 i h1 h2).trans (h.2 i h1 h2)⟩
theorem K1.fr {gi gi' : GI} (h : K1 gi gi') : Fr gi gi' := ⟨h.1 41 (by decide), fun c _ _ => h.2 c (by omega) (by omega)⟩
theorem m_clamp (gi : GI) (v : Int32) : f_X4_growthOf_j46 gi v = some (clamp v, gi) := by
  unfold f_X4_growthOf_j46 clamp
  split
  · split <;> rfl
  · rfl
theorem m_growthOf {gi : GI} {B : Bk} (b : MBk gi B) {m : Nat} (hm : m < 5) : ∃ gi', f_X4_growthOf gi (N m) = some (growth B (gi 33) m, gi') ∧ K1 gi gi' := by
  have h0 := m_overOf b hm (show 0 < 3 by decide)
  have h1 := m_overOf b hm (show 1 < 3 by decide)
  have h2 := m_overOf b hm (show 2 < 3 by decide)
  have hl : g_loop g_K (fun (s : Int32 × Int32) => f_X4_growthOf_l4 gi (N m) s.1 s.2) (0, 0) = some (askv B (gi 33) m 0 + askv B (gi 33) m 1 + askv B (gi 33) m 2) := by
    refine loop_T (fun i => (if i = 0 then 0 else if i = 1 then askv B (gi 33) m 0 else if i = 2 then askv B (gi 33) m 0 + askv B (gi 33) m 1 else askv B (gi 33) m 0 + askv B (gi 33) m 1 + askv B (gi 33) m 2, N i)) 3 rfl ?_ rfl (by decide)
    intro i hi
    match i, hi with
    | 0, _ => simp only [f_X4_growthOf_l4, h0]; simp [askv, N]
    | 1, _ => simp only [f_X4_growthOf_l4, h1]; simp [askv, N]
    | 2, _ => simp only [f_X4_growthOf_l4, h2]; simp [askv, N]
  rw [f_X4_growthOf, hl, Option.bind_some, f_X4_growthOf_x4]
  have bb := b
  obtain ⟨r, p1, p2⟩ := b
  have hr := p2.hr
  rw [p1, N_ld hr (by decide), Option.bind_some]
  obtain ⟨q1, q2⟩ | ⟨e, f, q1, q2, _⟩ := p2.grow
  · rw [if_pos q2, m_clamp]
    exact ⟨gi, by simp only [growth, q1], K1.refl gi⟩
  · rw [if_neg (by rw [q2]; decide), Option.bind_some]
    have b3 := (Fr.cell gi 0 47 (N m) (Or.inl ⟨rfl, by decide⟩)).book bb
    obtain ⟨gi', g1, g2⟩ := m_comes b3 hm (by rw [pi_get, if_pos ⟨rfl, rfl⟩]) q1
    rw [g1, Option.bind_some, m_clamp]
    refine ⟨gi', ?_, ?_, ?_⟩
    · have : g_pi gi 0 47 (N m) 33 = gi 33 := by funext j; rw [pi_get, if_neg]; omega
      rw [this]
      simp only [growth, q1]
    · intro k hk
      rw [g2 0 (by decide), pi_get, if_neg]; omega
    · intro c h1 h2
      rw [g2 c h2]
      funext j; rw [pi_get, if_neg]; omega
theorem m_growths {gi : GI} {B : Bk} (b : MBk gi B) : ∃ gi', f_X4_growths gi = some (growths B (gi 33) B.nm, gi') ∧ K1 gi gi' := by
  have h5 := b.ok.nm
  have key := loop_I (body := fun (s : Int32 × Int32 × GI) => f_X4_growths_l4 s.1 s.2.1 s.2.2) (fun s => ∃ i, i ≤ B.nm ∧ s.1 = growths B (gi 33) i ∧ s.2.1 = N i ∧ K1 gi s.2.2) (fun s => B.nm - s.2.1.toNatClampNeg) (fun q => q.1 = growths B (gi 33) B.nm ∧ K1 gi q.2) (by
    rintro ⟨v, k, gj⟩ ⟨i, e1, e2, e3, e4⟩
    have e2 : v = _ := e2
    have e3 : k = N i := e3
    subst e2 e3
    have e4 : K1 gi gj := e4
    show (∃ s', f_X4_growths_l4 _ _ _ = _ ∧ _ ∧ _) ∨ ∃ e, f_X4_growths_l4 _ _ _ = _ ∧ _
    have bj := e4.fr.book b
    simp only [f_X4_growths_l4, m_many bj, Option.bind_some, N_le (show B.nm < 2147483648 by omega) (show i < 2147483648 by omega)]
    by_cases h : i = B.nm
    · right
      subst h
      exact ⟨_, if_pos (Nat.le_refl _), rfl, e4⟩
    · left
      rw [if_neg (by omega)]
      obtain ⟨g', q1, q2⟩ := m_growthOf bj (show i < 5 by omega)
      rw [q1, Option.bind_some]
      refine ⟨_, rfl, ⟨i + 1, by omega, ?_, N_add i 1, e4.trans q2⟩, ?_⟩
      · show _ + _ = growths B (gi 33) i + growth B (gi 33) i
        rw [e4.2 33 (by decide) (by decide)]
      · show B.nm - (N i + N 1).toNatClampNeg < B.nm - (N i).toNatClampNeg
        rw [N_add, N_toNat (by omega), N_toNat (by omega)]; omega) (s := (0, 0, gi)) ⟨0, by omega, rfl, rfl, K1.refl gi⟩ (by simp only [g_K]; omega)
  obtain ⟨⟨v, gi'⟩, k1, k2, k3⟩ := key
  have k2 : v = _ := k2
  subst k2
  exact ⟨gi', by rw [f_X4_growths, k1]; rfl, k3⟩

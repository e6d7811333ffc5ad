set_option linter.unusedVariables false
set_option linter.unusedSimpArgs false
/-! THE PLAIN LAW: the model holds what is kept; what is asked -/
abbrev RM (gi : GI) (S : St) : Prop := (MBk gi S.B) ∧ (gi 33 = S.P) ∧ (gi 0 2 = N S.taped) ∧ (∀ k, k < S.taped → gi 1 k = S.tape k) ∧ (gi 0 4 = S.fk) ∧ (gi 0 5 = S.fp) ∧ (gi 0 50 = N S.acts) ∧ (gi 0 51 = N S.undone) ∧ (∀ i j, i < S.acts + S.undone → j < 42 → gi 34 (42 * i + j) = S.was i j) ∧ (gi 0 55 = N S.laid) ∧ (∀ i, i < S.laid → gi 37 i = S.lies i) ∧ (gi 0 78 = N S.ns) ∧ (∀ f i, f < 6 → i < S.ns → gi (45 + f) i = S.sg f i) ∧ (gi 0 79 = N S.time) ∧ (∀ b j, b < 3 → S.boxed b = true → j < 42 → gi 53 (42 * b + j) = S.box b j) ∧ (∀ b, b < 3 → gi 54 b = if S.boxed b = true then 1 else 0)
theorem RM.book {gi : GI} {S : St} (h : RM gi S) : MBk gi S.B := h.1
theorem RM.all {gi : GI} {S : St} (h : RM gi S) : gi 33 = S.P := h.2.1
theorem RM.taped {gi : GI} {S : St} (h : RM gi S) : gi 0 2 = N S.taped := h.2.2.1
theorem RM.tape {gi : GI} {S : St} (h : RM gi S) : ∀ k, k < S.taped → gi 1 k = S.tape k := h.2.2.2.1
theorem RM.fk {gi : GI} {S : St} (h : RM gi S) : gi 0 4 = S.fk := h.2.2.2.2.1
theorem RM.fp {gi : GI} {S : St} (h : RM gi S) : gi 0 5 = S.fp := h.2.2.2.2.2.1
theorem RM.acts {gi : GI} {S : St} (h : RM gi S) : gi 0 50 = N S.acts := h.2.2.2.2.2.2.1
theorem RM.undone {gi : GI} {S : St} (h : RM gi S) : gi 0 51 = N S.undone := h.2.2.2.2.2.2.2.1
theorem RM.was {gi : GI} {S : St} (h : RM gi S) : ∀ i j, i < S.acts + S.undone → j < 42 → gi 34 (42 * i + j) = S.was i j := h.2.2.2.2.2.2.2.2.1
theorem RM.laid {gi : GI} {S : St} (h : RM gi S) : gi 0 55 = N S.laid := h.2.2.2.2.2.2.2.2.2.1
theorem RM.lies {gi : GI} {S : St} (h : RM gi S) : ∀ i, i < S.laid → gi 37 i = S.lies i := h.2.2.2.2.2.2.2.2.2.2.1
theorem RM.ns {gi : GI} {S : St} (h : RM gi S) : gi 0 78 = N S.ns := h.2.2.2.2.2.2.2.2.2.2.2.1
theorem RM.sg {gi : GI} {S : St} (h : RM gi S) : ∀ f i, f < 6 → i < S.ns → gi (45 + f) i = S.sg f i := h.2.2.2.2.2.2.2.2.2.2.2.2.1
theorem RM.time {gi : GI} {S : St} (h : RM gi S) : gi 0 79 = N S.time := h.2.2.2.2.2.2.2.2.2.2.2.2.2.1
theorem RM.box {gi : GI} {S : St} (h : RM gi S) : ∀ b j, b < 3 → S.boxed b = true → j < 42 → gi 53 (42 * b + j) = S.box b j := h.2.2.2.2.2.2.2.2.2.2.2.2.2.2.1
theorem RM.boxed {gi : GI} {S : St} (h : RM gi S) : ∀ b, b < 3 → gi 54 b = if S.boxed b = true then 1 else 0 := h.2.2.2.2.2.2.2.2.2.2.2.2.2.2.2
/-- what is not kept may change -/
abbrev MFr (gi gi' : GI) : Prop := (gi' 0 41 = gi 0 41) ∧ (∀ c, 3 ≤ c → c < 30 → gi' c = gi c) ∧ (∀ k, k = 2 ∨ k = 4 ∨ k = 5 ∨ k = 50 ∨ k = 51 ∨ k = 55 ∨ k = 78 ∨ k = 79 → gi' 0 k = gi 0 k) ∧ (∀ c, c = 1 ∨ c = 33 ∨ c = 34 ∨ c = 37 ∨ (45 ≤ c ∧ c < 51) ∨ c = 53 ∨ c = 54 → gi' c = gi c)
theorem MFr.bank {gi gi' : GI} (h : MFr gi gi') : gi' 0 41 = gi 0 41 := h.1
theorem MFr.told {gi gi' : GI} (h : MFr gi gi') : ∀ c, 3 ≤ c → c < 30 → gi' c = gi c := h.2.1
theorem MFr.own {gi gi' : GI} (h : MFr gi gi') : ∀ k, k = 2 ∨ k = 4 ∨ k = 5 ∨ k = 50 ∨ k = 51 ∨ k = 55 ∨ k = 78 ∨ k = 79 → gi' 0 k = gi 0 k := h.2.2.1
theorem MFr.cells {gi gi' : GI} (h : MFr gi gi') : ∀ c, c = 1 ∨ c = 33 ∨ c = 34 ∨ c = 37 ∨ (45 ≤ c ∧ c < 51) ∨ c = 53 ∨ c = 54 → gi' c = gi c := h.2.2.2
theorem MFr.rm {gi gi' : GI} {S : St} (h : MFr gi gi') (r : RM gi S) : RM gi' S := by
  have o := h.own
  have c := h.cells
  refine ⟨(show Fr gi gi' from ⟨h.bank, h.told⟩).book r.book, ?_, ?_, ?_, ?_, ?_, ?_, ?_, ?_, ?_, ?_, ?_, ?_, ?_, ?_, ?_⟩
  · rw [c 33 (by omega)]; exact r.all
  · rw [o 2 (by omega)]; exact r.taped
  · rw [c 1 (by omega)]; exact r.tape
  · rw [o 4 (by omega)]; exact r.fk
  · rw [o 5 (by omega)]; exact r.fp
  · rw [o 50 (by omega)]; exact r.acts
  · rw [o 51 (by omega)]; exact r.undone
  · rw [c 34 (by omega)]; exact r.was
  · rw [o 55 (by omega)]; exact r.laid
  · rw [c 37 (by omega)]; exact r.lies
  · rw [o 78 (by omega)]; exact r.ns
  · intro f i hf hi
    rw [c (45 + f) (by omega)]; exact r.sg f i hf hi
  · rw [o 79 (by omega)]; exact r.time
  · rw [c 53 (by omega)]; exact r.box
  · rw [c 54 (by omega)]; exact r.boxed
theorem K1.mfr {gi gi' : GI} (h : K1 gi gi') : MFr gi gi' := ⟨h.1 41 (by decide), fun c _ _ => h.2 c (by omega) (by omega), fun k hk => h.1 k (by omega), fun c hc => h.2 c (by omega) (by omega)⟩
theorem KB.mfr {gi gi' : GI} (h : KB gi gi') : MFr gi gi' := ⟨h.1 41 (by decide) (by decide) (by decide), fun c _ _ => h.2 c (by omega) (by omega) (by omega) (by omega) (by omega), fun k hk => h.1 k (by omega) (by omega) (by omega), fun c hc => h.2 c (by omega) (by omega) (by omega) (by omega) (by omega)⟩
theorem MFr.refl (gi : GI) : MFr gi gi := ⟨rfl, fun _ _ _ => rfl, fun _ _ => rfl, fun _ _ => rfl⟩
theorem MFr.trans {a b c : GI} (h : MFr a b) (g : MFr b c) : MFr a c := ⟨g.bank.trans h.bank, fun i h1 h2 => (g.told i h1 h2).trans (h.told i h1 h2), fun k hk => (g.own k hk).trans (h.own k hk), fun c hc => (g.cells c hc).trans (h.cells c hc)⟩
theorem m_fault {gi : GI} {S : St} (r : RM gi S) (x : Int32) : f_X4_fault gi x = some (q_fault S x) := by
  unfold f_X4_fault q_fault
  rw [r.fk, r.fp]
  split
  · rfl
  · split <;> rfl
theorem m_sumOf (gi : GI) {o m : Nat} (h : o + 3 * m + 2 < 42) : f_X4_sumOf gi (N o) (N m) = some (sum3 (gi 33) (o + 3 * m)) := by
  rw [f_X4_sumOf, show (3 : Int32) = N 3 from rfl, N_mul, N_add, show (1 : Int32) = N 1 from rfl, show (2 : Int32) = N 2 from rfl, N_add, N_add, N_ld (by omega) (by decide), Option.bind_some, N_ld (by omega) (by decide), Option.bind_some, N_ld (by omega) (by decide), Option.bind_some]
  rfl
/-- 0 .. n as the switch asks it -/
theorem sw_in {x : Int32} {n : Nat} (hn : n < 2147483648) (h : ¬ (x.toInt < 0 ∨ (n : Int) < x.toInt)) : ∃ k, k ≤ n ∧ x = N k := by
  refine ⟨x.toInt.toNat, by omega, ?_⟩
  rw [← Int32.toInt_inj, N_toInt (by omega)]
  omega
theorem sw_out {x : Int32} {n k : Nat} (hk : k ≤ n) (hn : n < 2147483648) (h : x.toInt < 0 ∨ (n : Int) < x.toInt) : x ≠ N k := by
  intro e
  rw [e, N_toInt (by omega)] at h
  omega
theorem m_man {gi : GI} {S : St} (r : RM gi S) (x y : Int32) : ∃ gi', f_X4_man gi x y = some (q_man S x y, gi') ∧ MFr gi gi' := by
  have h5 := r.book.ok.nm
  rw [f_X4_man, m_isMan r.book, Option.bind_some]
  unfold q_man
  cases h : asQ x S.B.nm with
  | none => exact ⟨gi, rfl, MFr.refl gi⟩
  | some m =>
    obtain ⟨rfl, hm⟩ := asQ_some h
    simp only [Option.isSome_some, if_true]
    rw [if_neg (by decide)]
    by_cases hy : y.toInt < 0 ∨ 6 < y.toInt
    · have hn := fun k hk => sw_out (n := 6) (k := k) hk (by decide) hy
      have h0 : y ≠ 0 := hn 0 (by decide)
      have h1 : y ≠ 1 := hn 1 (by decide)
      have h2 : y ≠ 2 := hn 2 (by decide)
      have h3 : y ≠ 3 := hn 3 (by decide)
      have h4 : y ≠ 4 := hn 4 (by decide)
      have h5 : y ≠ 5 := hn 5 (by decide)
      have h6 : y ≠ 6 := hn 6 (by decide)
      simp only [if_pos hy, if_neg h0, if_neg h1, if_neg h2, if_neg h3, if_neg h4, if_neg h5, if_neg h6]
      exact ⟨gi, rfl, MFr.refl gi⟩
    · rw [if_neg hy]
      obtain ⟨k, hk, rfl⟩ := sw_in (n := 6) (by decide) hy
      have e15 : g_ld gi 33 42 (15 + N m) = some (S.P (15 + m)) := by rw [show (15 : Int32) = N 15 from rfl, N_add, N_ld (by omega) (by decide), r.all]
      have e35 : g_ld gi 33 42 (35 + N m) = some (S.P (35 + m)) := by rw [show (35 : Int32) = N 35 from rfl, N_add, N_ld (by omega) (by decide), r.all]
      obtain ⟨g', g1, g2⟩ := m_growthOf r.book (show m < 5 by omega)
      have es : f_X4_sumOf gi 0 (N m) = some (sum3 (gi 33) (3 * m)) := by
        have := m_sumOf gi (o := 0) (m := m) (by omega)
        rw [Nat.zero_add] at this
        exact this
      have p0 : f_X4_payOf gi (N m) 0 = some (S.B.pay m 0) := m_payOf r.book hm (show 0 < 3 by decide)
      have p1 : f_X4_payOf gi (N m) 1 = some (S.B.pay m 1) := m_payOf r.book hm (show 1 < 3 by decide)
      have p2 : f_X4_payOf gi (N m) 2 = some (S.B.pay m 2) := m_payOf r.book hm (show 2 < 3 by decide)
      have eh : g_ld gi 13 10 (5 * gi 0 41 + N m) = some (S.B.hedge m) := by
        obtain ⟨b, b1, b2⟩ := r.book
        have := b2.hr
        rw [b1, show (5 : Int32) = N 5 from rfl, N_mul, N_add, N_ld (by omega) (by decide), b2.hedge m hm]
      obtain ⟨v, v1, v2⟩ := m_looseBit r.book (show m < 5 by omega)
      rw [e15, e35, g1, es, p0, eh, v1, r.all]
      simp only [Option.bind_some, p1, p2, v2]
      match k, hk with
      | 0, _ => exact ⟨gi, rfl, MFr.refl gi⟩
      | 1, _ => exact ⟨gi, rfl, MFr.refl gi⟩
      | 2, _ => exact ⟨g', rfl, g2.mfr⟩
      | 3, _ => exact ⟨gi, rfl, MFr.refl gi⟩
      | 4, _ => exact ⟨gi, rfl, MFr.refl gi⟩
      | 5, _ => exact ⟨gi, rfl, MFr.refl gi⟩
      | 6, _ => exact ⟨gi, rfl, MFr.refl gi⟩
theorem m_purse {gi : GI} {S : St} (r : RM gi S) (x y : Int32) : f_X4_purse gi x y = some (q_purse S x y) := by
  have h5 := r.book.ok.nm
  have h3 := r.book.ok.nk
  rw [f_X4_purse, m_isMan r.book, Option.bind_some]
  unfold q_purse at2
  cases h : asQ x S.B.nm with
  | none => rfl
  | some m =>
    obtain ⟨rfl, hm⟩ := asQ_some h
    simp only [Option.isSome_some, if_true]
    rw [if_neg (by decide), m_isKind r.book, Option.bind_some]
    cases g : asQ y S.B.nk with
    | none => rfl
    | some k =>
      obtain ⟨rfl, hk⟩ := asQ_some g
      simp only [Option.isSome_some, if_true]
      rw [if_neg (by decide), m_inP gi (by omega) (by omega), r.all]; rfl
theorem m_over {gi : GI} {S : St} (r : RM gi S) (x y : Int32) : f_X4_over gi x y = some (q_over S x y) := by
  have h5 := r.book.ok.nm
  have h3 := r.book.ok.nk
  rw [f_X4_over, m_isMan r.book, Option.bind_some]
  unfold q_over at2
  cases h : asQ x S.B.nm with
  | none => rfl
  | some m =>
    obtain ⟨rfl, hm⟩ := asQ_some h
    simp only [Option.isSome_some, if_true]
    rw [if_neg (by decide), m_isKind r.book, Option.bind_some]
    cases g : asQ y S.B.nk with
    | none => rfl
    | some k =>
      obtain ⟨rfl, hk⟩ := asQ_some g
      simp only [Option.isSome_some, if_true]
      rw [if_neg (by decide), m_overOf r.book (by omega) (by omega), if_pos hk, r.all]; rfl
theorem m_pay {gi : GI} {S : St} (r : RM gi S) (x y : Int32) : f_X4_pay gi x y = some (q_pay S x y) := by
  have h5 := r.book.ok.nm
  have h3 := r.book.ok.nk
  rw [f_X4_pay, m_isMan r.book, Option.bind_some]
  unfold q_pay at2
  cases h : asQ x S.B.nm with
  | none => rfl
  | some m =>
    obtain ⟨rfl, hm⟩ := asQ_some h
    simp only [Option.isSome_some, if_true]
    rw [if_neg (by decide), m_isKind r.book, Option.bind_some]
    cases g : asQ y S.B.nk with
    | none => rfl
    | some k =>
      obtain ⟨rfl, hk⟩ := asQ_some g
      simp only [Option.isSome_some, if_true]
      rw [if_neg (by decide), m_payOf r.book hm (by omega)]; rfl
theorem m_isIn (gi : GI) (x a c : Int32) : f_X4_isIn gi x a c = some (if x < a then 0 else if c < x then 0 else 1) := by
  unfold f_X4_isIn
  split
  · rfl
  · split <;> rfl
theorem in01 (x : Int32) : (if x < 0 then (0 : Int32) else if 1 < x then 0 else 1) = if x = 0 ∨ x = 1 then 1 else 0 := by
  have := isIn_asQ x (n := 2) (by decide)
  rw [show N 2 - 1 = 1 from rfl] at this
  rw [this]
  cases h : asQ x 2 with
  | none =>
    have h0 : x ≠ 0 := by
      intro e; rw [e, show (0 : Int32) = N 0 from rfl, asQ_of (by decide) (by decide)] at h; cases h
    have h1 : x ≠ 1 := by
      intro e; rw [e, show (1 : Int32) = N 1 from rfl, asQ_of (by decide) (by decide)] at h; cases h
    simp [h0, h1]
  | some m =>
    obtain ⟨rfl, hm⟩ := asQ_some h
    match m, hm with
    | 0, _ => rfl
    | 1, _ => rfl
theorem m_all {gi : GI} {S : St} (r : RM gi S) (x y : Int32) : f_X4_all gi x y = some (q_all S x y) := by
  have h5 := r.book.ok.nm
  have h3 := r.book.ok.nk
  rw [f_X4_all, m_isKind r.book, Option.bind_some]
  unfold q_all
  cases h : asQ x S.B.nk with
  | none => rfl
  | some k =>
    obtain ⟨rfl, hk⟩ := asQ_some h
    simp only [Option.isSome_some, if_true]
    rw [if_neg (by decide), m_isIn, in01, Option.bind_some]
    have key : ∀ f : Nat → Int32, (∀ m, m < 5 → ∀ v, f_X4_all_l24 gi (N k) y v (N m) = if S.B.nm ≤ m then some (.inr v) else some (.inl (v + f m, N (m + 1)))) → g_loop g_K (fun (s : Int32 × Int32) => f_X4_all_l24 gi (N k) y s.1 s.2) (0, 0) = some (sumOver f S.B.nm) := by
      intro f hf
      refine loop_T (fun i => (sumOver f i, N i)) S.B.nm rfl ?_ ?_ (by simp only [g_K]; omega)
      · intro i hi
        dsimp only
        rw [hf i (by omega), if_neg (by omega)]; rfl
      · dsimp only
        by_cases h : S.B.nm < 5
        · rw [hf _ h, if_pos (Nat.le_refl _)]
        · rw [f_X4_all_l24, m_many r.book, Option.bind_some, if_pos (Int32.le_refl _)]
    by_cases y0 : y = 0
    · rw [if_pos (Or.inl y0), if_neg (by decide), if_pos y0, key (fun m => S.P (3 * m + k)) ?_]
      · rfl
      · intro m hm v
        rw [f_X4_all_l24, m_many r.book, Option.bind_some, if_le (by omega) (by omega)]
        by_cases hq : S.B.nm ≤ m
        · rw [if_pos hq, if_pos hq]
        · rw [if_neg hq, if_neg hq, if_pos y0, m_inP gi hm (by omega), Option.bind_some, r.all, show (1 : Int32) = N 1 from rfl, N_add]
    · by_cases y1 : y = 1
      · rw [if_pos (Or.inr y1), if_neg (by decide), if_neg y0, if_pos y1, key (fun m => S.P (20 + 3 * m + k)) ?_]
        · rfl
        · intro m hm v
          rw [f_X4_all_l24, m_many r.book, Option.bind_some, if_le (by omega) (by omega)]
          by_cases hq : S.B.nm ≤ m
          · rw [if_pos hq, if_pos hq]
          · rw [if_neg hq, if_neg hq, if_neg y0, m_overOf r.book hm (by omega), if_pos hk, Option.bind_some, r.all, show (1 : Int32) = N 1 from rfl, N_add]
      · rw [if_neg (show ¬ (y = 0 ∨ y = 1) from fun h => h.elim y0 y1), if_pos rfl, if_neg y0, if_neg y1]
theorem m_left {gi : GI} {S : St} (r : RM gi S) (o : SOk S) (x : Int32) : f_X4_left gi x = some (q_left S x) := by
  have h5 := r.book.ok.nm
  rw [f_X4_left, m_isMan r.book, Option.bind_some]
  unfold q_left
  cases h : asQ x S.B.nm with
  | none => rfl
  | some m =>
    obtain ⟨rfl, hm⟩ := asQ_some h
    simp only [Option.isSome_some, if_true]
    rw [if_neg (by decide), m_leftOf r.book (by rw [r.all]; exact o.row.ok) (by omega), r.all]; rfl
theorem m_lies {gi : GI} {S : St} (r : RM gi S) (o : SOk S) (x : Int32) : f_X4_lies gi x = some (q_lies S x) := by
  have h6 := o.laid
  rw [f_X4_lies, m_isIn, r.laid, isIn_asQ x (by omega), Option.bind_some]
  unfold q_lies
  cases h : asQ x S.laid with
  | none => rfl
  | some m =>
    obtain ⟨rfl, hm⟩ := asQ_some h
    simp only [Option.isSome_some, if_true]
    rw [if_neg (by decide), N_ld (by omega) (by decide), r.lies m hm]; rfl
theorem m_b {gi : GI} {B : Bk} (b : MBk gi B) : g_ld gi 3 2 (gi 0 41) = some (N B.nk) ∧ g_ld gi 5 2 (gi 0 41) = some (N B.nb) ∧ g_ld gi 6 2 (gi 0 41) = some (N B.nr) ∧ g_ld gi 7 2 (gi 0 41) = some (N B.units) ∧ g_ld gi 8 2 (gi 0 41) = some (N B.hours) := by
  obtain ⟨r, h1, h2⟩ := b
  have hr := h2.hr
  rw [h1, N_ld hr (by decide), N_ld hr (by decide), N_ld hr (by decide), N_ld hr (by decide), N_ld hr (by decide), h2.nk, h2.nb, h2.nr, h2.units, h2.hours]
  exact ⟨rfl, rfl, rfl, rfl, rfl⟩
theorem m_about {gi : GI} {S : St} (r : RM gi S) (x : Int32) : f_X4_about gi x = some (q_about S x) := by
  obtain ⟨b1, b2, b3, b4, b5⟩ := m_b r.book
  unfold f_X4_about q_about
  by_cases hy : x.toInt < 0 ∨ 13 < x.toInt
  · have hn := fun k hk => sw_out (n := 13) (k := k) hk (by decide) hy
    have h0 : x ≠ 0 := hn 0 (by decide)
    have h1 : x ≠ 1 := hn 1 (by decide)
    have h2 : x ≠ 2 := hn 2 (by decide)
    have h3 : x ≠ 3 := hn 3 (by decide)
    have h4 : x ≠ 4 := hn 4 (by decide)
    have h5 : x ≠ 5 := hn 5 (by decide)
    have h6 : x ≠ 6 := hn 6 (by decide)
    have h7 : x ≠ 7 := hn 7 (by decide)
    have h8 : x ≠ 8 := hn 8 (by decide)
    have h9 : x ≠ 9 := hn 9 (by decide)
    have h10 : x ≠ 10 := hn 10 (by decide)
    have h11 : x ≠ 11 := hn 11 (by decide)
    have h12 : x ≠ 12 := hn 12 (by decide)
    have h13 : x ≠ 13 := hn 13 (by decide)
    simp only [if_pos hy, if_neg h0, if_neg h1, if_neg h2, if_neg h3, if_neg h4, if_neg h5, if_neg h6, if_neg h7, if_neg h8, if_neg h9, if_neg h10, if_neg h11, if_neg h12, if_neg h13]
  · rw [if_neg hy]
    obtain ⟨k, hk, rfl⟩ := sw_in (n := 13) (by decide) hy
    have e40 : g_ld gi 33 42 40 = some (S.P 40) := by rw [show (40 : Int32) = N 40 from rfl, N_ld (by decide) (by decide), r.all]
    have e41 : g_ld gi 33 42 41 = some (S.P 41) := by rw [show (41 : Int32) = N 41 from rfl, N_ld (by decide) (by decide), r.all]
    have em := m_many r.book
    rw [em, b1, b2, b3, b4, b5, e40, e41, r.acts, r.undone, r.ns, r.time, r.taped, r.laid]
    match k, hk with
    | 0, _ => rfl
    | 1, _ => rfl
    | 2, _ => rfl
    | 3, _ => rfl
    | 4, _ => rfl
    | 5, _ => rfl
    | 6, _ => rfl
    | 7, _ => rfl
    | 8, _ => rfl
    | 9, _ => rfl
    | 10, _ => rfl
    | 11, _ => rfl
    | 12, _ => rfl
    | 13, _ => rfl

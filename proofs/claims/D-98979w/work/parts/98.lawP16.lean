set_option linter.unusedVariables false
set_option linter.unusedSimpArgs false
/-! THE PLAIN LAW: lines of the model: words, numbers, names -/
section P16
variable {gi gi' : GI} {gl gl' : GL} {X : Nat → Nat} {n : Nat} {t : Tk}
def tBad (t : Tk) : PE := (if t.sort = 3 then 1 else 2, t.place)
/-- the model at a token, no fault yet -/
abbrev MT0 (gi : GI) (gl : GL) (X : Nat → Nat) (n : Nat) (t : Tk) : Prop := (MTx gi X n) ∧ (MTk gi gl t) ∧ (TOk X n t) ∧ (gi 0 4 = 0)
theorem MT0.tx {gi : GI} {gl : GL} {X : Nat → Nat} {n : Nat} {t : Tk} (h : MT0 gi gl X n t) : MTx gi X n := h.1
theorem MT0.tk {gi : GI} {gl : GL} {X : Nat → Nat} {n : Nat} {t : Tk} (h : MT0 gi gl X n t) : MTk gi gl t := h.2.1
theorem MT0.tok {gi : GI} {gl : GL} {X : Nat → Nat} {n : Nat} {t : Tk} (h : MT0 gi gl X n t) : TOk X n t := h.2.2.1
theorem MT0.good {gi : GI} {gl : GL} {X : Nat → Nat} {n : Nat} {t : Tk} (h : MT0 gi gl X n t) : gi 0 4 = 0 := h.2.2.2
theorem MT0.next (h : MT0 gi gl X n t) (s03 : t.sort ≠ 0 ∧ t.sort ≠ 3) : ∃ g2 gl2, f_X4_goOn gi gl = some (g2, gl2) ∧ MT0 g2 gl2 X n (lexT X n t.next) ∧ MGo gi g2 gl gl2 := by
  obtain ⟨p, hp, et⟩ := h.tok
  have sp := lexT_spec h.tx.txt hp
  rw [← et] at sp
  obtain ⟨n1, n2⟩ := sp.2.2 s03.2
  obtain ⟨g2, gl2, a1, a2, a3⟩ := m_goOn (gl := gl) h.tx n1 (h.tk.next s03.2)
  exact ⟨g2, gl2, a1, ⟨h.tx.go a3, a2, (h.tok.go h.tx.txt s03.1 s03.2).1, by rw [a3.own 4 (by decide) (by decide) (by decide) (by decide)]; exact h.good⟩, a3⟩
theorem MT0.bad (h : MT0 gi gl X n t) : f_X4_misplaced gi = some (faulted gi (tBad t)) := m_misplaced (e := (t, 0, 0)) h.good h.tk
theorem tBad_ne (t : Tk) : (tBad t).1 ≠ 0 ∧ (tBad t).1 < 100 := eBad_ne (t, 0, 0)
theorem MT0.word (h : MT0 gi gl X n t) {i : Nat} (h1 : 1 ≤ i) (hi : i < 22) : f_X4_isWord gi gl (L (litV i)) = some (if t.sort = 1 ∧ t.val = litV i then 1 else 0) := by
  rw [m_isWord (e := (t, 0, 0)) h.tx.txt h.tok h.tk h1 hi]
  by_cases q : t.sort = 1 ∧ t.val = litV i
  · rw [if_pos q, if_pos (show eW (t, 0, 0) i = true from decide_eq_true q)]
  · rw [if_neg q, if_neg (show ¬ eW (t, 0, 0) i = true from fun z => q (of_decide_eq_true z))]
theorem MT0.name (h : MT0 gi gl X n t) : gi 0 8 = 2 ↔ t.sort = 1 ∧ kept t.val = false := by
  have kl := mKind_le t
  rw [h.tk.kind, show (2 : Int32) = N 2 from rfl, N_eq (by omega) (by omega)]
  have kd : mKind t = if t.sort = 0 then 0 else if t.sort = 3 then 1 else if t.sort = 1 then (if kept t.val = true then 3 else 2) else if t.sort = 2 then 4 else 5 := rfl
  rw [kd]
  by_cases a : t.sort = 0
  · rw [if_pos a]; omega
  · rw [if_neg a]
    by_cases b : t.sort = 3
    · rw [if_pos b]; omega
    · rw [if_neg b]
      by_cases d : t.sort = 1
      · rw [if_pos d]
        by_cases k : kept t.val = true
        · rw [if_pos k]; exact ⟨fun z => absurd z (by decide), fun z => by rw [k] at z; exact absurd z.2 (by decide)⟩
        · rw [if_neg k]; exact ⟨fun _ => ⟨d, Bool.eq_false_iff.mpr k⟩, fun _ => rfl⟩
      · rw [if_neg d]
        by_cases c : t.sort = 2
        · rw [if_pos c]; exact ⟨fun z => absurd z (by decide), fun z => absurd z.1 d⟩
        · rw [if_neg c]; exact ⟨fun z => absurd z (by decide), fun z => absurd z.1 d⟩
theorem m_must_no {x : PE} (hx : x.1 ≠ 0 ∧ x.1 < 100) (v : Int32) : f_X4_must (faulted gi x) gl v = some (faulted gi x, gl) := by
  rw [f_X4_must, m_notGood x hx, Option.bind_some, if_pos rfl]
theorem MT0.must (h : MT0 gi gl X n t) (p : Prop) [Decidable p] (hp : p → t.sort ≠ 0 ∧ t.sort ≠ 3) : (p → ∃ g2 gl2, f_X4_must gi gl (if p then 1 else 0) = some (g2, gl2) ∧ MT0 g2 gl2 X n (lexT X n t.next) ∧ MGo gi g2 gl gl2) ∧ (¬ p → f_X4_must gi gl (if p then 1 else 0) = some (faulted gi (tBad t), gl)) := by
  refine ⟨fun q => ?_, fun q => ?_⟩
  · obtain ⟨g2, gl2, a1, a2, a3⟩ := h.next (hp q)
    exact ⟨g2, gl2, by rw [f_X4_must, m_isOk h.good, Option.bind_some, if_neg (by decide), if_pos q, if_neg (by decide), a1, Option.bind_some], a2, a3⟩
  · rw [f_X4_must, m_isOk h.good, Option.bind_some, if_neg (by decide), if_neg q, if_pos rfl, h.bad, Option.bind_some]
theorem m_numeral_no {x : PE} (hx : x.1 ≠ 0 ∧ x.1 < 100) (a b : Int32) : f_X4_numeral (faulted gi x) gl a b = some (a, faulted gi x, gl) := by
  rw [f_X4_numeral, m_notGood x hx, Option.bind_some, if_pos rfl]
theorem MT0.numeral (h : MT0 gi gl X n t) {lo hi : Nat} (hl : lo < 100000) (hh : hi < 100000) : (t.sort ≠ 2 → f_X4_numeral gi gl (N lo) (N hi) = some (N lo, faulted gi (tBad t), gl)) ∧ (t.sort = 2 → (t.val < lo ∨ hi < t.val) → f_X4_numeral gi gl (N lo) (N hi) = some (N lo, faulted gi (4, t.place), gl)) ∧ (t.sort = 2 → ¬ (t.val < lo ∨ hi < t.val) → ∃ g2 gl2, f_X4_numeral gi gl (N lo) (N hi) = some (N t.val, g2, gl2) ∧ MT0 g2 gl2 X n (lexT X n t.next) ∧ MGo gi g2 gl gl2) := by
  have j69 : ∀ (x : PE) (v : Int32), x.1 ≠ 0 ∧ x.1 < 100 → f_X4_numeral_j53 (N lo) (faulted gi x) gl = some (N lo, faulted gi x, gl) := fun x v hx => by
    rw [f_X4_numeral_j53, m_notGood x hx, Option.bind_some, if_pos rfl, f_X4_numeral_j69, m_notGood x hx, Option.bind_some, if_pos rfl]
  refine ⟨fun s2 => ?_, fun s2 q => ?_, fun s2 q => ?_⟩
  · rw [f_X4_numeral, m_isOk h.good, Option.bind_some, if_neg (by decide), if_neg (fun z => s2 ((m_isNum h.tk).mp z)), h.bad, Option.bind_some, f_X4_numeral_j21, m_notGood _ (tBad_ne t), Option.bind_some, if_pos rfl]
    exact j69 _ 0 (tBad_ne t)
  · have vl := (h.tok.val h.tx.txt).2.2.1 s2
    have j44 : f_X4_numeral_j44 (N lo) gi gl = some (N lo, faulted gi (4, t.place), gl) := by
      rw [f_X4_numeral_j44, h.tk.place, show (4 : Int32) = N 4 from rfl, m_fails h.good, Option.bind_some]
      exact j69 _ 0 ⟨(show (4 : Nat) ≠ 0 by decide), (show 4 < 100 by decide)⟩
    rw [f_X4_numeral, m_isOk h.good, Option.bind_some, if_neg (by decide), if_pos ((m_isNum h.tk).mpr s2), f_X4_numeral_j21, m_isOk h.good, Option.bind_some, if_neg (by decide), h.tk.num s2, if_lt (by omega) (by omega), if_le (by omega) (by omega), j44]
    by_cases a : t.val < lo
    · rw [if_pos a]
    · rw [if_neg a, if_neg (by omega)]
  · have vl := (h.tok.val h.tx.txt).2.2.1 s2
    obtain ⟨g2, gl2, a1, a2, a3⟩ := h.next ⟨by omega, by omega⟩
    refine ⟨g2, gl2, ?_, a2, a3⟩
    rw [f_X4_numeral, m_isOk h.good, Option.bind_some, if_neg (by decide), if_pos ((m_isNum h.tk).mpr s2), f_X4_numeral_j21, m_isOk h.good, Option.bind_some, if_neg (by decide), h.tk.num s2, if_lt (by omega) (by omega), if_neg (by omega), if_le (by omega) (by omega), if_pos (by omega), f_X4_numeral_j53, m_isOk h.good, Option.bind_some, if_neg (by decide), a1, Option.bind_some, f_X4_numeral_j69, m_isOk a2.good, Option.bind_some, if_neg (by decide), h.tk.num s2]
/-- a new name -/
theorem MT0.fresh (h : MT0 gi gl X n t) (o : Option Nat) (ho : ∀ k, o = some k → k < 1000) : (¬ (t.sort = 1 ∧ kept t.val = false) → ∃ v, f_X4_fresh gi gl (asI o) = some (v, faulted gi (tBad t), gl)) ∧ (t.sort = 1 ∧ kept t.val = false → ∀ k, o = some k → ∃ v, f_X4_fresh gi gl (asI o) = some (v, faulted gi (3, t.place), gl)) ∧ (t.sort = 1 ∧ kept t.val = false → o = none → ∃ g2 gl2, f_X4_fresh gi gl (asI o) = some (L t.val, g2, gl2) ∧ MT0 g2 gl2 X n (lexT X n t.next) ∧ MGo gi g2 gl gl2) := by
  have j37 : ∀ x : PE, x.1 ≠ 0 ∧ x.1 < 100 → f_X4_fresh_j37 (faulted gi x) gl = some (gl 0 10, faulted gi x, gl) := fun x hx => by
    rw [f_X4_fresh_j37, m_notGood x hx, Option.bind_some, if_pos rfl]
  refine ⟨fun q => ⟨gl 0 10, ?_⟩, fun q k hk9 => ⟨gl 0 10, ?_⟩, fun q hn => ?_⟩
  · rw [f_X4_fresh, m_isOk h.good, Option.bind_some, if_neg (by decide), if_neg (fun z => q (h.name.mp z)), h.bad, Option.bind_some]
    exact j37 _ (tBad_ne t)
  · have kl := ho k hk9
    subst hk9
    rw [f_X4_fresh, m_isOk h.good, Option.bind_some, if_neg (by decide), if_pos (h.name.mpr q), show asI (some k) = N k from rfl, if_neg (N_nneg (by omega)), h.tk.place, show (3 : Int32) = N 3 from rfl, m_fails h.good, Option.bind_some]
    exact j37 _ ⟨(show (3 : Nat) ≠ 0 by decide), (show 3 < 100 by decide)⟩
  · subst hn
    have s1 := q.1
    obtain ⟨g2, gl2, a1, a2, a3⟩ := h.next ⟨by omega, by omega⟩
    refine ⟨g2, gl2, ?_, a2, a3⟩
    rw [f_X4_fresh, m_isOk h.good, Option.bind_some, if_neg (by decide), if_pos (h.name.mpr q), show asI none = -1 from rfl, if_pos (by decide), f_X4_fresh_j37, m_isOk h.good, Option.bind_some, if_neg (by decide), a1, Option.bind_some, h.tk.nam q.1]
/-- a name that is told -/
theorem MT0.known (h : MT0 gi gl X n t) (o : Option Nat) (ho : ∀ k, o = some k → k < 1000) : (¬ (t.sort = 1 ∧ kept t.val = false) → ∃ v, f_X4_known gi gl (asI o) = some (v, faulted gi (tBad t), gl)) ∧ (t.sort = 1 ∧ kept t.val = false → o = none → ∃ v, f_X4_known gi gl (asI o) = some (v, faulted gi (5, t.place), gl)) ∧ (t.sort = 1 ∧ kept t.val = false → ∀ k, o = some k → ∃ g2 gl2, f_X4_known gi gl (asI o) = some (N k, g2, gl2) ∧ MT0 g2 gl2 X n (lexT X n t.next) ∧ MGo gi g2 gl gl2) := by
  have j44 : ∀ (v : Int32) (g : GI) (l : GL), ∃ u, f_X4_known_j44 v g l = some (u, g, l) := fun v g l => by
    rw [f_X4_known_j44]
    by_cases q : 0 ≤ v
    · rw [if_pos q]; exact ⟨_, rfl⟩
    · rw [if_neg q]; exact ⟨_, rfl⟩
  refine ⟨fun q => ?_, fun q hn => ?_, fun q k hk9 => ?_⟩
  · rw [f_X4_known, m_isOk h.good, Option.bind_some, if_neg (by decide), if_neg (fun z => q (h.name.mp z)), h.bad, Option.bind_some]
    exact j44 _ _ _
  · subst hn
    rw [f_X4_known, m_isOk h.good, Option.bind_some, if_neg (by decide), if_pos (h.name.mpr q), show asI none = -1 from rfl, if_neg (by decide), h.tk.place, show (5 : Int32) = N 5 from rfl, m_fails h.good, Option.bind_some]
    exact j44 _ _ _
  · have kl := ho k hk9
    subst hk9
    have s1 := q.1
    obtain ⟨g2, gl2, a1, a2, a3⟩ := h.next ⟨by omega, by omega⟩
    refine ⟨g2, gl2, ?_, a2, a3⟩
    rw [f_X4_known, m_isOk h.good, Option.bind_some, if_neg (by decide), if_pos (h.name.mpr q), show asI (some k) = N k from rfl, if_pos (N_pos (by omega)), a1, Option.bind_some, f_X4_known_j44, if_pos (N_pos (by omega))]
end P16

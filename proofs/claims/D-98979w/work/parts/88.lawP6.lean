set_option linter.unusedVariables false
set_option linter.unusedSimpArgs false
/-! THE PLAIN LAW: names and asked words of the component (printed by gen_p6.py) -/
theorem hl_1 : hashW (litX 1) (litN 1) = 3292052 := by decide +kernel
theorem hl_2 : hashW (litX 2) (litN 2) = 107866 := by decide +kernel
theorem hl_3 : hashW (litX 3) (litN 3) = 3062416 := by decide +kernel
theorem hl_4 : hashW (litX 4) (litN 4) = 103157406 := by decide +kernel
theorem hl_5 : hashW (litX 5) (litN 5) = 107033119 := by decide +kernel
theorem hl_6 : hashW (litX 6) (litN 6) = 110760 := by decide +kernel
theorem hl_7 : hashW (litX 7) (litN 7) = 99154469 := by decide +kernel
theorem hl_8 : hashW (litX 8) (litN 8) = 3493088 := by decide +kernel
theorem hl_9 : hashW (litX 9) (litN 9) = 101577 := by decide +kernel
theorem hl_10 : hashW (litX 10) (litN 10) = 3029737 := by decide +kernel
theorem hl_11 : hashW (litX 11) (litN 11) = 3181587 := by decide +kernel
theorem hl_12 : hashW (litX 12) (litN 12) = 99469071 := by decide +kernel
theorem hl_13 : hashW (litX 13) (litN 13) = 3091780 := by decide +kernel
theorem hl_14 : hashW (litX 14) (litN 14) = 97440432 := by decide +kernel
theorem hl_15 : hashW (litX 15) (litN 15) = (-906279820) := by decide +kernel
theorem hl_16 : hashW (litX 16) (litN 16) = 110331239 := by decide +kernel
theorem hl_17 : hashW (litX 17) (litN 17) = 3645428 := by decide +kernel
theorem hl_18 : hashW (litX 18) (litN 18) = 3443937 := by decide +kernel
theorem hl_19 : hashW (litX 19) (litN 19) = 96727 := by decide +kernel
theorem hl_20 : hashW (litX 20) (litN 20) = 3555 := by decide +kernel
theorem hl_21 : hashW (litX 21) (litN 21) = 109267 := by decide +kernel
section P6
variable {hk : HK} {gi gi' : GI} {gr : GR} {rd c j : Nat} {w : Nat → Nat}
/-- the word's cell alone changes, its hash -/
abbrev XHs (gi gi' : GI) (c : Nat) (hv : Int32) : Prop := (∀ d, d ≠ c → gi' d = gi d) ∧ (∀ k, k ≠ 2 → k ≠ 3 → gi' c k = gi c k) ∧ (HOk gi' c hv)
theorem XHs.off {gi gi' : GI} {c : Nat} {hv : Int32} (h : XHs gi gi' c hv) : ∀ d, d ≠ c → gi' d = gi d := h.1
theorem XHs.own {gi gi' : GI} {c : Nat} {hv : Int32} (h : XHs gi gi' c hv) : ∀ k, k ≠ 2 → k ≠ 3 → gi' c k = gi c k := h.2.1
theorem XHs.ho {gi gi' : GI} {c : Nat} {hv : Int32} (h : XHs gi gi' c hv) : HOk gi' c hv := h.2.2
theorem nm_no (g : GI) : f_X5_isName_j506 hk gr g (-1) = some (1, g) := by unfold f_X5_isName_j506; rw [if_pos (by decide)]
theorem as_no (g : GI) : f_X5_asked_j161 hk gr g (-1) = some (none, g) := by unfold f_X5_asked_j161; rw [if_pos (by decide)]
theorem nm_15 (g : GI) : f_X5_isName_j506 hk gr g 14 = some (0, g) := rfl
theorem nm_20 (g : GI) : f_X5_isName_j506 hk gr g 19 = some (0, g) := rfl
theorem nm_19 (g : GI) : f_X5_isName_j506 hk gr g 18 = some (0, g) := rfl
theorem nm_9 (g : GI) : f_X5_isName_j506 hk gr g 8 = some (0, g) := rfl
theorem nm_2 (g : GI) : f_X5_isName_j506 hk gr g 1 = some (0, g) := rfl
theorem nm_21 (g : GI) : f_X5_isName_j506 hk gr g 20 = some (0, g) := rfl
theorem nm_6 (g : GI) : f_X5_isName_j506 hk gr g 5 = some (0, g) := rfl
theorem nm_10 (g : GI) : f_X5_isName_j506 hk gr g 9 = some (0, g) := rfl
theorem nm_3 (g : GI) : f_X5_isName_j506 hk gr g 2 = some (0, g) := rfl
theorem nm_13 (g : GI) : f_X5_isName_j506 hk gr g 12 = some (0, g) := rfl
theorem nm_11 (g : GI) : f_X5_isName_j506 hk gr g 10 = some (0, g) := rfl
theorem nm_1 (g : GI) : f_X5_isName_j506 hk gr g 0 = some (0, g) := rfl
theorem nm_18 (g : GI) : f_X5_isName_j506 hk gr g 17 = some (0, g) := rfl
theorem nm_8 (g : GI) : f_X5_isName_j506 hk gr g 7 = some (0, g) := rfl
theorem nm_17 (g : GI) : f_X5_isName_j506 hk gr g 16 = some (0, g) := rfl
theorem nm_14 (g : GI) : f_X5_isName_j506 hk gr g 13 = some (0, g) := rfl
theorem nm_7 (g : GI) : f_X5_isName_j506 hk gr g 6 = some (0, g) := rfl
theorem nm_12 (g : GI) : f_X5_isName_j506 hk gr g 11 = some (0, g) := rfl
theorem nm_4 (g : GI) : f_X5_isName_j506 hk gr g 3 = some (0, g) := rfl
theorem nm_5 (g : GI) : f_X5_isName_j506 hk gr g 4 = some (0, g) := rfl
theorem nm_16 (g : GI) : f_X5_isName_j506 hk gr g 15 = some (0, g) := rfl
theorem as_15 (g : GI) : f_X5_asked_j161 hk gr g 1 = some (some (1000000 + 1), g) := rfl
theorem as_3 (g : GI) : f_X5_asked_j161 hk gr g 3 = some (some (1000000 + 3), g) := rfl
theorem as_18 (g : GI) : f_X5_asked_j161 hk gr g 5 = some (some (1000000 + 5), g) := rfl
theorem as_17 (g : GI) : f_X5_asked_j161 hk gr g 4 = some (some (1000000 + 4), g) := rfl
theorem as_14 (g : GI) : f_X5_asked_j161 hk gr g 0 = some (some (1000000 + 0), g) := rfl
theorem as_16 (g : GI) : f_X5_asked_j161 hk gr g 2 = some (some (1000000 + 2), g) := rfl
theorem x_isName (h1 : gi rd 1 = 1) (h8 : gr rd 8 = some c) (s : Str hk gi gr c j w) (ho : HOk gi c (hashW w j)) : ∃ gi', f_X5_isName hk gi gr rd = some (if kept (pak w 0 j) = true then 0 else 1, gi') ∧ XHs gi gi' c (hashW w j) := by
  obtain ⟨g', a1, a2, a3, a4⟩ := x_hash s ho
  have s' := s.over a2 a3
  refine ⟨g', ?_, ⟨a2, a3, a4⟩⟩
  rw [f_X5_isName, if_pos h1, h8, Option.bind_some, g_is_of s.k, Option.bind_some, a1, Option.bind_some]
  dsimp only
  by_cases kp : kept (pak w 0 j) = true
  · rw [if_pos kp]
    obtain ⟨i, i1, i2, i3⟩ := (kept_lit _).mp kp
    have hh := hash_lit s i2 i3
    have : i = 1 ∨ i = 2 ∨ i = 3 ∨ i = 4 ∨ i = 5 ∨ i = 6 ∨ i = 7 ∨ i = 8 ∨ i = 9 ∨ i = 10 ∨ i = 11 ∨ i = 12 ∨ i = 13 ∨ i = 14 ∨ i = 15 ∨ i = 16 ∨ i = 17 ∨ i = 18 ∨ i = 19 ∨ i = 20 ∨ i = 21 := by omega
    rcases this with z | z | z | z | z | z | z | z | z | z | z | z | z | z | z | z | z | z | z | z | z
    · subst z; rw [hh, hl_1, if_neg (by decide), if_neg (by decide), if_neg (by decide), if_neg (by decide), if_neg (by decide), if_neg (by decide), if_neg (by decide), if_neg (by decide), if_neg (by decide), if_neg (by decide), if_neg (by decide), if_pos rfl, x_eqL s' (by decide), if_pos i3, Option.bind_some, if_neg (by decide), nm_1]
    · subst z; rw [hh, hl_2, if_neg (by decide), if_neg (by decide), if_neg (by decide), if_neg (by decide), if_pos rfl, x_eqL s' (by decide), if_pos i3, Option.bind_some, if_neg (by decide), nm_2]
    · subst z; rw [hh, hl_3, if_neg (by decide), if_neg (by decide), if_neg (by decide), if_neg (by decide), if_neg (by decide), if_neg (by decide), if_neg (by decide), if_neg (by decide), if_pos rfl, x_eqL s' (by decide), if_pos i3, Option.bind_some, if_neg (by decide), nm_3]
    · subst z; rw [hh, hl_4, if_neg (by decide), if_neg (by decide), if_neg (by decide), if_neg (by decide), if_neg (by decide), if_neg (by decide), if_neg (by decide), if_neg (by decide), if_neg (by decide), if_neg (by decide), if_neg (by decide), if_neg (by decide), if_neg (by decide), if_neg (by decide), if_neg (by decide), if_neg (by decide), if_neg (by decide), if_neg (by decide), if_pos rfl, x_eqL s' (by decide), if_pos i3, Option.bind_some, if_neg (by decide), nm_4]
    · subst z; rw [hh, hl_5, if_neg (by decide), if_neg (by decide), if_neg (by decide), if_neg (by decide), if_neg (by decide), if_neg (by decide), if_neg (by decide), if_neg (by decide), if_neg (by decide), if_neg (by decide), if_neg (by decide), if_neg (by decide), if_neg (by decide), if_neg (by decide), if_neg (by decide), if_neg (by decide), if_neg (by decide), if_neg (by decide), if_neg (by decide), if_pos rfl, x_eqL s' (by decide), if_pos i3, Option.bind_some, if_neg (by decide), nm_5]
    · subst z; rw [hh, hl_6, if_neg (by decide), if_neg (by decide), if_neg (by decide), if_neg (by decide), if_neg (by decide), if_neg (by decide), if_pos rfl, x_eqL s' (by decide), if_pos i3, Option.bind_some, if_neg (by decide), nm_6]
    · subst z; rw [hh, hl_7, if_neg (by decide), if_neg (by decide), if_neg (by decide), if_neg (by decide), if_neg (by decide), if_neg (by decide), if_neg (by decide), if_neg (by decide), if_neg (by decide), if_neg (by decide), if_neg (by decide), if_neg (by decide), if_neg (by decide), if_neg (by decide), if_neg (by decide), if_neg (by decide), if_pos rfl, x_eqL s' (by decide), if_pos i3, Option.bind_some, if_neg (by decide), nm_7]
    · subst z; rw [hh, hl_8, if_neg (by decide), if_neg (by decide), if_neg (by decide), if_neg (by decide), if_neg (by decide), if_neg (by decide), if_neg (by decide), if_neg (by decide), if_neg (by decide), if_neg (by decide), if_neg (by decide), if_neg (by decide), if_neg (by decide), if_pos rfl, x_eqL s' (by decide), if_pos i3, Option.bind_some, if_neg (by decide), nm_8]
    · subst z; rw [hh, hl_9, if_neg (by decide), if_neg (by decide), if_neg (by decide), if_pos rfl, x_eqL s' (by decide), if_pos i3, Option.bind_some, if_neg (by decide), nm_9]
    · subst z; rw [hh, hl_10, if_neg (by decide), if_neg (by decide), if_neg (by decide), if_neg (by decide), if_neg (by decide), if_neg (by decide), if_neg (by decide), if_pos rfl, x_eqL s' (by decide), if_pos i3, Option.bind_some, if_neg (by decide), nm_10]
    · subst z; rw [hh, hl_11, if_neg (by decide), if_neg (by decide), if_neg (by decide), if_neg (by decide), if_neg (by decide), if_neg (by decide), if_neg (by decide), if_neg (by decide), if_neg (by decide), if_neg (by decide), if_pos rfl, x_eqL s' (by decide), if_pos i3, Option.bind_some, if_neg (by decide), nm_11]
    · subst z; rw [hh, hl_12, if_neg (by decide), if_neg (by decide), if_neg (by decide), if_neg (by decide), if_neg (by decide), if_neg (by decide), if_neg (by decide), if_neg (by decide), if_neg (by decide), if_neg (by decide), if_neg (by decide), if_neg (by decide), if_neg (by decide), if_neg (by decide), if_neg (by decide), if_neg (by decide), if_neg (by decide), if_pos rfl, x_eqL s' (by decide), if_pos i3, Option.bind_some, if_neg (by decide), nm_12]
    · subst z; rw [hh, hl_13, if_neg (by decide), if_neg (by decide), if_neg (by decide), if_neg (by decide), if_neg (by decide), if_neg (by decide), if_neg (by decide), if_neg (by decide), if_neg (by decide), if_pos rfl, x_eqL s' (by decide), if_pos i3, Option.bind_some, if_neg (by decide), nm_13]
    · subst z; rw [hh, hl_14, if_neg (by decide), if_neg (by decide), if_neg (by decide), if_neg (by decide), if_neg (by decide), if_neg (by decide), if_neg (by decide), if_neg (by decide), if_neg (by decide), if_neg (by decide), if_neg (by decide), if_neg (by decide), if_neg (by decide), if_neg (by decide), if_neg (by decide), if_pos rfl, x_eqL s' (by decide), if_pos i3, Option.bind_some, if_neg (by decide), nm_14]
    · subst z; rw [hh, hl_15, if_pos rfl, x_eqL s' (by decide), if_pos i3, Option.bind_some, if_neg (by decide), nm_15]
    · subst z; rw [hh, hl_16, if_neg (by decide), if_neg (by decide), if_neg (by decide), if_neg (by decide), if_neg (by decide), if_neg (by decide), if_neg (by decide), if_neg (by decide), if_neg (by decide), if_neg (by decide), if_neg (by decide), if_neg (by decide), if_neg (by decide), if_neg (by decide), if_neg (by decide), if_neg (by decide), if_neg (by decide), if_neg (by decide), if_neg (by decide), if_neg (by decide), if_pos rfl, x_eqL s' (by decide), if_pos i3, Option.bind_some, if_neg (by decide), nm_16]
    · subst z; rw [hh, hl_17, if_neg (by decide), if_neg (by decide), if_neg (by decide), if_neg (by decide), if_neg (by decide), if_neg (by decide), if_neg (by decide), if_neg (by decide), if_neg (by decide), if_neg (by decide), if_neg (by decide), if_neg (by decide), if_neg (by decide), if_neg (by decide), if_pos rfl, x_eqL s' (by decide), if_pos i3, Option.bind_some, if_neg (by decide), nm_17]
    · subst z; rw [hh, hl_18, if_neg (by decide), if_neg (by decide), if_neg (by decide), if_neg (by decide), if_neg (by decide), if_neg (by decide), if_neg (by decide), if_neg (by decide), if_neg (by decide), if_neg (by decide), if_neg (by decide), if_neg (by decide), if_pos rfl, x_eqL s' (by decide), if_pos i3, Option.bind_some, if_neg (by decide), nm_18]
    · subst z; rw [hh, hl_19, if_neg (by decide), if_neg (by decide), if_pos rfl, x_eqL s' (by decide), if_pos i3, Option.bind_some, if_neg (by decide), nm_19]
    · subst z; rw [hh, hl_20, if_neg (by decide), if_pos rfl, x_eqL s' (by decide), if_pos i3, Option.bind_some, if_neg (by decide), nm_20]
    · subst z; rw [hh, hl_21, if_neg (by decide), if_neg (by decide), if_neg (by decide), if_neg (by decide), if_neg (by decide), if_pos rfl, x_eqL s' (by decide), if_pos i3, Option.bind_some, if_neg (by decide), nm_21]
  · rw [if_neg kp]
    have ne : ∀ i, 1 ≤ i → i < 22 → ¬ pak w 0 j = litV i := fun i i1 i2 z => kp ((kept_lit _).mpr ⟨i, i1, i2, z⟩)
    simp only [x_eqL s' (show 1 < 22 by decide), if_neg (ne 1 (by decide) (by decide)), x_eqL s' (show 2 < 22 by decide), if_neg (ne 2 (by decide) (by decide)), x_eqL s' (show 3 < 22 by decide), if_neg (ne 3 (by decide) (by decide)), x_eqL s' (show 4 < 22 by decide), if_neg (ne 4 (by decide) (by decide)), x_eqL s' (show 5 < 22 by decide), if_neg (ne 5 (by decide) (by decide)), x_eqL s' (show 6 < 22 by decide), if_neg (ne 6 (by decide) (by decide)), x_eqL s' (show 7 < 22 by decide), if_neg (ne 7 (by decide) (by decide)), x_eqL s' (show 8 < 22 by decide), if_neg (ne 8 (by decide) (by decide)), x_eqL s' (show 9 < 22 by decide), if_neg (ne 9 (by decide) (by decide)), x_eqL s' (show 10 < 22 by decide), if_neg (ne 10 (by decide) (by decide)), x_eqL s' (show 11 < 22 by decide), if_neg (ne 11 (by decide) (by decide)), x_eqL s' (show 12 < 22 by decide), if_neg (ne 12 (by decide) (by decide)), x_eqL s' (show 13 < 22 by decide), if_neg (ne 13 (by decide) (by decide)), x_eqL s' (show 14 < 22 by decide), if_neg (ne 14 (by decide) (by decide)), x_eqL s' (show 15 < 22 by decide), if_neg (ne 15 (by decide) (by decide)), x_eqL s' (show 16 < 22 by decide), if_neg (ne 16 (by decide) (by decide)), x_eqL s' (show 17 < 22 by decide), if_neg (ne 17 (by decide) (by decide)), x_eqL s' (show 18 < 22 by decide), if_neg (ne 18 (by decide) (by decide)), x_eqL s' (show 19 < 22 by decide), if_neg (ne 19 (by decide) (by decide)), x_eqL s' (show 20 < 22 by decide), if_neg (ne 20 (by decide) (by decide)), x_eqL s' (show 21 < 22 by decide), if_neg (ne 21 (by decide) (by decide)), Option.bind_some, if_true, nm_no, ite_self]
theorem x_isNameNot (h1 : gi rd 1 ≠ 1) : f_X5_isName hk gi gr rd = some (0, gi) := by rw [f_X5_isName, if_neg h1]
def askI (v : Nat) : Option Nat := if v = litV 14 then some 0 else if v = litV 15 then some 1 else if v = litV 16 then some 2 else if v = litV 3 then some 3 else if v = litV 17 then some 4 else if v = litV 18 then some 5 else none
theorem x_asked (h1 : gi rd 1 = 1) (h8 : gr rd 8 = some c) (s : Str hk gi gr c j w) (ho : HOk gi c (hashW w j)) : ∃ gi', f_X5_asked hk gi gr rd = some ((askI (pak w 0 j)).map (fun k => 1000000 + k), gi') ∧ XHs gi gi' c (hashW w j) := by
  obtain ⟨g', a1, a2, a3, a4⟩ := x_hash s ho
  have s' := s.over a2 a3
  refine ⟨g', ?_, ⟨a2, a3, a4⟩⟩
  rw [f_X5_asked, if_pos h1, h8, Option.bind_some, g_is_of s.k, Option.bind_some, a1, Option.bind_some]
  dsimp only
  unfold askI
  by_cases q14 : pak w 0 j = litV 14
  · rw [if_pos q14, hash_lit s (show 14 < 22 by decide) q14, hl_14, if_neg (by decide), if_neg (by decide), if_neg (by decide), if_neg (by decide), if_pos rfl, x_eqL s' (by decide), if_pos q14, Option.bind_some, if_neg (by decide), as_14]; rfl
  · by_cases q15 : pak w 0 j = litV 15
    · rw [if_neg q14, if_pos q15, hash_lit s (show 15 < 22 by decide) q15, hl_15, if_pos rfl, x_eqL s' (by decide), if_pos q15, Option.bind_some, if_neg (by decide), as_15]; rfl
    · by_cases q16 : pak w 0 j = litV 16
      · rw [if_neg q14, if_neg q15, if_pos q16, hash_lit s (show 16 < 22 by decide) q16, hl_16, if_neg (by decide), if_neg (by decide), if_neg (by decide), if_neg (by decide), if_neg (by decide), if_pos rfl, x_eqL s' (by decide), if_pos q16, Option.bind_some, if_neg (by decide), as_16]; rfl
      · by_cases q3 : pak w 0 j = litV 3
        · rw [if_neg q14, if_neg q15, if_neg q16, if_pos q3, hash_lit s (show 3 < 22 by decide) q3, hl_3, if_neg (by decide), if_pos rfl, x_eqL s' (by decide), if_pos q3, Option.bind_some, if_neg (by decide), as_3]; rfl
        · by_cases q17 : pak w 0 j = litV 17
          · rw [if_neg q14, if_neg q15, if_neg q16, if_neg q3, if_pos q17, hash_lit s (show 17 < 22 by decide) q17, hl_17, if_neg (by decide), if_neg (by decide), if_neg (by decide), if_pos rfl, x_eqL s' (by decide), if_pos q17, Option.bind_some, if_neg (by decide), as_17]; rfl
          · by_cases q18 : pak w 0 j = litV 18
            · rw [if_neg q14, if_neg q15, if_neg q16, if_neg q3, if_neg q17, if_pos q18, hash_lit s (show 18 < 22 by decide) q18, hl_18, if_neg (by decide), if_neg (by decide), if_pos rfl, x_eqL s' (by decide), if_pos q18, Option.bind_some, if_neg (by decide), as_18]; rfl
            · rw [if_neg q14, if_neg q15, if_neg q16, if_neg q3, if_neg q17, if_neg q18]
              simp only [x_eqL s' (show 14 < 22 by decide), if_neg q14, x_eqL s' (show 15 < 22 by decide), if_neg q15, x_eqL s' (show 16 < 22 by decide), if_neg q16, x_eqL s' (show 3 < 22 by decide), if_neg q3, x_eqL s' (show 17 < 22 by decide), if_neg q17, x_eqL s' (show 18 < 22 by decide), if_neg q18, Option.bind_some, if_true, as_no, ite_self]
              rfl
theorem x_askedNot (h1 : gi rd 1 ≠ 1) : f_X5_asked hk gi gr rd = some (none, gi) := by rw [f_X5_asked, if_neg h1]
end P6

set_option linter.unusedVariables false
set_option linter.unusedSimpArgs false
/-! THE PLAIN LAW: words of the component: equal, kept -/
theorem pak_inj {X Y : Nat → Nat} {a b : Nat} : ∀ j m, (∀ i, i < j → 1 ≤ X (a + i) ∧ X (a + i) < 256) → (∀ i, i < m → 1 ≤ Y (b + i) ∧ Y (b + i) < 256) → pak X a j = pak Y b m → j = m ∧ ∀ i, i < j → X (a + i) = Y (b + i)
  | 0, 0, _, _, _ => ⟨rfl, fun i h => absurd h (by omega)⟩
  | 0, m + 1, _, h2, e => by
    have := h2 m (by omega)
    rw [pak, pak] at e
    omega
  | j + 1, 0, h1, _, e => by
    have := h1 j (by omega)
    rw [pak, pak] at e
    omega
  | j + 1, m + 1, h1, h2, e => by
    have a1 := h1 j (by omega)
    have a2 := h2 m (by omega)
    rw [pak, pak] at e
    obtain ⟨r1, r2⟩ := pak_inj j m (fun i hi => h1 i (by omega)) (fun i hi => h2 i (by omega)) (by omega)
    subst r1
    refine ⟨rfl, fun i hi => ?_⟩
    by_cases z : i = j
    · subst z; omega
    · exact r2 i (by omega)
theorem pak_same {X Y : Nat → Nat} {a b : Nat} : ∀ j, (∀ i, i < j → X (a + i) = Y (b + i)) → pak X a j = pak Y b j
  | 0, _ => rfl
  | j + 1, h => by rw [pak, pak, pak_same j (fun i hi => h i (by omega)), h j (by omega)]
def litX (i k : Nat) : Nat := ((stB.getD i []).getD k 0).toNatClampNeg
def litN (i : Nat) : Nat := stL.getD i 0
def litV (i : Nat) : Nat := pak (litX i) 0 (litN i)
theorem lit_b : ∀ i, i < 22 → ∀ k, k < litN i → (stB.getD i []).getD k 0 = N (litX i k) ∧ 97 ≤ litX i k ∧ litX i k ≤ 122 := by decide +kernel
theorem lit_n : ∀ i, i < 22 → litN i ≤ 6 := by decide +kernel
def hashW (w : Nat → Nat) : Nat → Int32
  | 0 => 0
  | j + 1 => 31 * hashW w j + (N (w j) &&& 255)
theorem hashW_same {w u : Nat → Nat} : ∀ j, (∀ i, i < j → w i = u i) → hashW w j = hashW u j
  | 0, _ => rfl
  | j + 1, h => by rw [hashW, hashW, hashW_same j (fun i hi => h i (by omega)), h j (by omega)]
section P5
variable {hk hk' : HK} {nx nx' ns : Nat} {gi gi' : GI} {gr gr' : GR} {rd c d j m : Nat} {w u : Nat → Nat}
theorem Str.one (s : Str hk gi gr c j w) : ∀ i, i < j → 1 ≤ w (0 + i) ∧ w (0 + i) < 256 := fun i hi => by
  have := (s.low i hi).2
  rw [Nat.zero_add]; omega
/-- where two words part -/
theorem part_at (w u : Nat → Nat) (j : Nat) : (∀ i, i < j → w i = u i) ∨ ∃ e, e < j ∧ (∀ i, i < e → w i = u i) ∧ w e ≠ u e := by
  obtain ⟨h1, h2, h3, h4⟩ := stopN_spec (p := fun k => decide (k < j ∧ w k = u k)) (n := j) (k := 0) (Nat.zero_le _) (fun i hi => decide_eq_false (fun z => absurd z.1 (by omega)))
  by_cases q : stopN (fun k => decide (k < j ∧ w k = u k)) j 0 = j
  · refine Or.inl (fun i hi => ?_)
    have := h3 i (Nat.zero_le _) (by omega)
    exact (of_decide_eq_true this).2
  · refine Or.inr ⟨stopN (fun k => decide (k < j ∧ w k = u k)) j 0, by omega, fun i hi => ?_, fun z => ?_⟩
    · have := h3 i (Nat.zero_le _) hi
      exact (of_decide_eq_true this).2
    · exact of_decide_eq_false h4 ⟨by omega, z⟩
theorem x_eqL (s : Str hk gi gr c j w) {i : Nat} (hi : i < 22) : f_J7_equals_L hk gi gr c i = some (if pak w 0 j = litV i then 1 else 0) := by
  have hj := s.len
  have hn := lit_n i hi
  have in1 : ∀ (k : Nat), k < litN i → 1 ≤ litX i (0 + k) ∧ litX i (0 + k) < 256 := fun k hk9 => by
    have := (lit_b i hi k hk9).2
    rw [Nat.zero_add]; omega
  have core : f_J12_equals_L hk gi gr (c + 1) i = some (if pak w 0 j = litV i then 1 else 0) := by
    rw [f_J12_equals_L, g_is_of (show (hk (c + 1)).1 = 1 by rw [s.kb]), Option.bind_some]
    simp only [s.kb]
    show (if N j = N (litN i) then _ else _) = _
    rw [if_eq (by omega) (by omega)]
    by_cases h : j = litN i
    · rw [if_pos h]
      have step : ∀ k, k < j → f_J12_equals_L_l9 hk gi gr (c + 1) i (N k) = if w k = litX i k then some (.inl (N (k + 1))) else some (.inr (.inr 0)) := by
        intro k hk9
        obtain ⟨l1, l2, l3⟩ := lit_b i hi k (by omega)
        have sl := s.low k hk9
        have gb : g_ldB i (N k) = some (N (litX i k)) := by
          rw [g_ldB, show stL.getD i 0 = litN i from rfl, N_in (by omega) (by omega), if_pos rfl, N_toNat (by omega), l1]
        rw [f_J12_equals_L_l9]
        simp only [s.kb]
        show (if N j ≤ N k then _ else _) = _
        rw [if_le (by omega) (by omega), if_neg (by omega), N_ld hk9 (by omega), Option.bind_some, gb, Option.bind_some, sl.1, if_eq (by omega) (by omega), show (1 : Int32) = N 1 from rfl, N_add]
      have last : f_J12_equals_L_l9 hk gi gr (c + 1) i (N j) = some (.inr (.inl ())) := by
        rw [f_J12_equals_L_l9]
        simp only [s.kb]
        show (if N j ≤ N j then _ else _) = _
        rw [if_le (by omega) (by omega), if_pos (Nat.le_refl _)]
      rcases part_at w (litX i) j with q | ⟨e, e1, e2, e3⟩
      · have lp : g_loop g_K (fun (s : Int32) => f_J12_equals_L_l9 hk gi gr (c + 1) i s) 0 = some (.inl ()) := loop_T (fun k => N k) j rfl (fun k hk9 => by rw [step k hk9, if_pos (q k hk9)]) last (by show j < 100000; omega)
        rw [lp, Option.bind_some, if_pos (show pak w 0 j = litV i by unfold litV; rw [← h]; exact pak_same j (fun k hk9 => by rw [Nat.zero_add]; exact q k hk9))]
        rfl
      · have lp : g_loop g_K (fun (s : Int32) => f_J12_equals_L_l9 hk gi gr (c + 1) i s) 0 = some (.inr 0) := loop_T (fun k => N k) e rfl (fun k hk9 => by rw [step k (by omega), if_pos (e2 k hk9)]) (by rw [step e e1, if_neg e3]) (by show e < 100000; omega)
        rw [lp, Option.bind_some, if_neg (fun z => e3 (by
          have := (pak_inj j (litN i) s.one in1 z).2 e e1
          rw [Nat.zero_add] at this; exact this))]
        rfl
    · rw [if_neg h, if_neg (show ¬ pak w 0 j = litV i from fun z => h (pak_inj j (litN i) s.one in1 z).1)]
  rw [f_J7_equals_L, if_neg (by decide), if_neg (by decide), if_pos s.cod, f_J7_equals_L_j36, s.b, Option.bind_some, show g_lit i = some () from if_pos hi, Option.bind_some, core, Option.bind_some]
  by_cases q : pak w 0 j = litV i
  · rw [if_pos q, if_neg (by decide)]
  · rw [if_neg q, if_pos rfl]
theorem x_eqS (s : Str hk gi gr c j w) (t : Str hk gi gr d m u) : f_J7_equals hk gi gr c d = some (if pak w 0 j = pak u 0 m then 1 else 0) := by
  have hj := s.len
  have hm := t.len
  rw [f_J7_equals, g_is_of t.k, Option.bind_some]
  by_cases cd : c = d
  · rw [if_pos cd]
    subst cd
    have jm : j = m := by
      have := s.kb.symm.trans t.kb
      exact congrArg Prod.snd this
    subst jm
    rw [if_pos (pak_same j (fun i hi => by
      have e := (s.low i hi).1.symm.trans (t.low i hi).1
      have l1 := (s.low i hi).2
      have l2 := (t.low i hi).2
      rw [Nat.zero_add]
      exact (N_eq (by omega) (by omega)).mp e))]
  · rw [if_neg cd, if_neg (by decide), if_neg (by decide), s.cod, t.cod, if_pos rfl, f_J7_equals_j36, s.b, Option.bind_some, g_is_of t.k, Option.bind_some, t.b, Option.bind_some]
    have core : f_J12_equals hk gi gr (c + 1) (d + 1) = some (if pak w 0 j = pak u 0 m then 1 else 0) := by
      rw [f_J12_equals, g_is_of (show (hk (c + 1)).1 = 1 by rw [s.kb]), Option.bind_some, g_is_of (show (hk (d + 1)).1 = 1 by rw [t.kb]), Option.bind_some]
      simp only [s.kb, t.kb]
      show (if N j = N m then _ else _) = _
      rw [if_eq (by omega) (by omega)]
      by_cases h : j = m
      · rw [if_pos h]
        have step : ∀ k, k < j → f_J12_equals_l9 hk gi gr (c + 1) (d + 1) (N k) = if w k = u k then some (.inl (N (k + 1))) else some (.inr (.inr 0)) := by
          intro k hk9
          have sl := s.low k hk9
          have tl := t.low k (by omega)
          rw [f_J12_equals_l9]
          simp only [s.kb, t.kb]
          show (if N j ≤ N k then _ else _) = _
          rw [if_le (by omega) (by omega), if_neg (by omega), N_ld hk9 (by omega), Option.bind_some, N_ld (show k < m by omega) (by omega), Option.bind_some, sl.1, tl.1, if_eq (by omega) (by omega), show (1 : Int32) = N 1 from rfl, N_add]
        have last : f_J12_equals_l9 hk gi gr (c + 1) (d + 1) (N j) = some (.inr (.inl ())) := by
          rw [f_J12_equals_l9]
          simp only [s.kb]
          show (if N j ≤ N j then _ else _) = _
          rw [if_le (by omega) (by omega), if_pos (Nat.le_refl _)]
        rcases part_at w u j with q | ⟨e, e1, e2, e3⟩
        · have lp : g_loop g_K (fun (s : Int32) => f_J12_equals_l9 hk gi gr (c + 1) (d + 1) s) 0 = some (.inl ()) := loop_T (fun k => N k) j rfl (fun k hk9 => by rw [step k hk9, if_pos (q k hk9)]) last (by show j < 100000; omega)
          rw [lp, Option.bind_some, if_pos (show pak w 0 j = pak u 0 m by rw [← h]; exact pak_same j (fun k hk9 => by rw [Nat.zero_add]; exact q k hk9))]
          rfl
        · have lp : g_loop g_K (fun (s : Int32) => f_J12_equals_l9 hk gi gr (c + 1) (d + 1) s) 0 = some (.inr 0) := loop_T (fun k => N k) e rfl (fun k hk9 => by rw [step k (by omega), if_pos (e2 k hk9)]) (by rw [step e e1, if_neg e3]) (by show e < 100000; omega)
          rw [lp, Option.bind_some, if_neg (fun z => e3 (by
            have := (pak_inj j m s.one t.one z).2 e e1
            rw [Nat.zero_add] at this; exact this))]
          rfl
      · rw [if_neg h, if_neg (fun z => h (pak_inj j m s.one t.one z).1)]
    rw [core, Option.bind_some]
    by_cases q : pak w 0 j = pak u 0 m
    · rw [if_pos q, if_neg (by decide)]
    · rw [if_neg q, if_pos rfl]
/-- what is kept of a word's hash -/
def HOk (gi : GI) (c : Nat) (h : Int32) : Prop := (gi c 2 = 0 ∨ gi c 2 = h) ∧ (gi c 3 ≠ 0 → h = 0)
theorem x_hash (s : Str hk gi gr c j w) (ho : HOk gi c (hashW w j)) : ∃ gi', f_J7_hashCode hk gi gr c = some (hashW w j, gi') ∧ (∀ d, d ≠ c → gi' d = gi d) ∧ (∀ k, k ≠ 2 → k ≠ 3 → gi' c k = gi c k) ∧ HOk gi' c (hashW w j) := by
  have hj := s.len
  rw [f_J7_hashCode]
  by_cases h2 : gi c 2 = 0
  · rw [if_pos h2]
    by_cases h3 : gi c 3 = 0
    · rw [if_pos h3, f_J7_isLatin1, if_neg (by decide), if_pos s.cod, Option.bind_some, if_neg (by decide), s.b, Option.bind_some]
      have core : f_J12_hashCode hk gi gr (c + 1) = some (hashW w j) := by
        rw [f_J12_hashCode, g_is_of (show (hk (c + 1)).1 = 1 by rw [s.kb]), Option.bind_some]
        simp only [s.kb]
        show (if N j = N 0 then _ else if N j = N 1 then _ else _) = _
        rw [if_eq (by omega) (by omega), if_neg (by omega), if_eq (by omega) (by omega)]
        by_cases j1 : j = 1
        · subst j1
          rw [if_pos rfl, show (0 : Int32) = N 0 from rfl, N_ld (by decide) (by decide), Option.bind_some, (s.low 0 (by omega)).1]
          show some (N (w 0) &&& 255) = some (31 * 0 + (N (w 0) &&& 255))
          rw [Int32.mul_zero, Int32.zero_add]
        · rw [if_neg j1]
          have sh : f_J9_signedHashCode hk gi gr 0 (c + 1) 0 (N j) = some (hashW w j) := by
            have lp : g_loop g_K (fun (s : Int32 × Int32) => f_J9_signedHashCode_l8 hk gi gr (c + 1) (0 + N j) s.1 s.2) (0, 0) = some (hashW w j) := by
              refine loop_T (fun k => (hashW w k, N k)) j rfl (fun k hk9 => ?_) ?_ (by show j < 100000; omega)
              · dsimp only
                rw [f_J9_signedHashCode_l8, Int32.zero_add, if_le (by omega) (by omega), if_neg (by omega), g_is_of (show (hk (c + 1)).1 = 1 by rw [s.kb]), Option.bind_some]
                simp only [s.kb]
                rw [N_ld hk9 (by omega), Option.bind_some, (s.low k hk9).1, show (1 : Int32) = N 1 from rfl, N_add]
                rfl
              · dsimp only
                rw [f_J9_signedHashCode_l8, Int32.zero_add, if_le (by omega) (by omega), if_pos (Nat.le_refl _)]
            rw [f_J9_signedHashCode, lp, Option.bind_some]
            rfl
          rw [f_J9_vectorizedHashCode, if_neg (by decide), if_pos rfl, g_is_of (show (hk (c + 1)).1 = 1 by rw [s.kb]), Option.bind_some]
          show ((f_J9_signedHashCode hk gi gr 0 (c + 1) 0 (N j)).bind _).bind _ = _
          rw [sh]
          rfl
      rw [core, Option.bind_some, f_J7_hashCode_j40]
      by_cases hz : hashW w j = 0
      · rw [if_pos hz, Option.bind_some]
        refine ⟨_, rfl, fun d hd => pi_off hd, fun k k2 k3 => by rw [pi_get, if_neg (fun z => k3 z.2)], Or.inl ?_, fun _ => hz⟩
        rw [pi_get, if_neg (by omega)]; exact h2
      · rw [if_neg hz, Option.bind_some]
        refine ⟨_, rfl, fun d hd => pi_off hd, fun k k2 k3 => by rw [pi_get, if_neg (fun z => k2 z.2)], Or.inr ?_, fun z => ?_⟩
        · rw [pi_get, if_pos ⟨rfl, rfl⟩]
        · rw [pi_get, if_neg (by omega)] at z; exact absurd h3 z
    · rw [if_neg h3, h2]
      exact ⟨gi, by rw [ho.2 h3], fun _ _ => rfl, fun _ _ _ => rfl, ho⟩
  · rw [if_neg h2]
    rcases ho.1 with z | z
    · exact absurd z h2
    · exact ⟨gi, by rw [z], fun _ _ => rfl, fun _ _ _ => rfl, ho⟩
theorem Str.over (s : Str hk gi gr c j w) (h1 : ∀ d, d ≠ c → gi' d = gi d) (h2 : ∀ k, k ≠ 2 → k ≠ 3 → gi' c k = gi c k) : Str hk gi' gr c j w := ⟨s.k, s.b, s.kb, s.len, by rw [h1 (c + 1) (by omega)]; exact s.low, by rw [h2 1 (by decide) (by decide)]; exact s.cod⟩
/-- a kept word's hash -/
theorem hash_lit (s : Str hk gi gr c j w) {i : Nat} (hi : i < 22) (h : pak w 0 j = litV i) : hashW w j = hashW (litX i) (litN i) := by
  have in1 : ∀ (k : Nat), k < litN i → 1 ≤ litX i (0 + k) ∧ litX i (0 + k) < 256 := fun k hk9 => by
    have := (lit_b i hi k hk9).2
    rw [Nat.zero_add]; omega
  obtain ⟨a, b⟩ := pak_inj j (litN i) s.one in1 h
  rw [← a]
  exact hashW_same j (fun k hk9 => by have := b k hk9; rw [Nat.zero_add] at this; exact this)
theorem kept_lit (v : Nat) : kept v = true ↔ ∃ i, 1 ≤ i ∧ i < 22 ∧ v = litV i := by
  have e : keptL = [litV 1, litV 2, litV 3, litV 4, litV 5, litV 6, litV 7, litV 8, litV 9, litV 10, litV 11, litV 12, litV 13, litV 14, litV 15, litV 16, litV 17, litV 18, litV 20, litV 19, litV 21] := by decide +kernel
  unfold kept
  rw [e]
  simp only [List.contains_cons, List.contains_nil, Bool.or_false, Bool.or_eq_true, beq_iff_eq]
  constructor
  · rintro (h | h | h | h | h | h | h | h | h | h | h | h | h | h | h | h | h | h | h | h | h)
    · exact ⟨1, by decide, by decide, h⟩
    · exact ⟨2, by decide, by decide, h⟩
    · exact ⟨3, by decide, by decide, h⟩
    · exact ⟨4, by decide, by decide, h⟩
    · exact ⟨5, by decide, by decide, h⟩
    · exact ⟨6, by decide, by decide, h⟩
    · exact ⟨7, by decide, by decide, h⟩
    · exact ⟨8, by decide, by decide, h⟩
    · exact ⟨9, by decide, by decide, h⟩
    · exact ⟨10, by decide, by decide, h⟩
    · exact ⟨11, by decide, by decide, h⟩
    · exact ⟨12, by decide, by decide, h⟩
    · exact ⟨13, by decide, by decide, h⟩
    · exact ⟨14, by decide, by decide, h⟩
    · exact ⟨15, by decide, by decide, h⟩
    · exact ⟨16, by decide, by decide, h⟩
    · exact ⟨17, by decide, by decide, h⟩
    · exact ⟨18, by decide, by decide, h⟩
    · exact ⟨20, by decide, by decide, h⟩
    · exact ⟨19, by decide, by decide, h⟩
    · exact ⟨21, by decide, by decide, h⟩
  · rintro ⟨i, h1, h2, h⟩
    have : i = 1 ∨ i = 2 ∨ i = 3 ∨ i = 4 ∨ i = 5 ∨ i = 6 ∨ i = 7 ∨ i = 8 ∨ i = 9 ∨ i = 10 ∨ i = 11 ∨ i = 12 ∨ i = 13 ∨ i = 14 ∨ i = 15 ∨ i = 16 ∨ i = 17 ∨ i = 18 ∨ i = 19 ∨ i = 20 ∨ i = 21 := by omega
    rcases this with z | z | z | z | z | z | z | z | z | z | z | z | z | z | z | z | z | z | z | z | z <;> subst z <;> simp [h]
theorem x_is (h1 : gi rd 1 = 1) (h8 : gr rd 8 = some c) (s : Str hk gi gr c j w) {i : Nat} (hi : i < 22) : f_X5_is hk gi gr rd i = some (if pak w 0 j = litV i then 1 else 0) := by
  rw [f_X5_is, if_pos h1, h8, Option.bind_some, g_is_of s.k, Option.bind_some, x_eqL s hi, Option.bind_some]
  by_cases q : pak w 0 j = litV i
  · rw [if_pos q, if_neg (by decide)]
  · rw [if_neg q, if_pos rfl]
theorem x_isNot (h1 : gi rd 1 ≠ 1) (i : Nat) : f_X5_is hk gi gr rd i = some 0 := by rw [f_X5_is, if_neg h1]
end P5

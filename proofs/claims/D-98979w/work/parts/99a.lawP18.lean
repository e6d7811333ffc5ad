set_option linter.unusedVariables false
set_option linter.unusedSimpArgs false
/-! THE PLAIN LAW: what the descent finds is well made -/
section P18
variable {X : Nat → Nat} {n : Nat}
/-- a code of so many units, so deep -/
def Wf (deep : Nat) (e : Es) (r : ER) : Prop :=
  match r with
  | .inl _ => True
  | .inr q => Cd (q.2.2.2 - e.2.2 + 7 - deep) q.1 ∧ e.2.2 + 1 ≤ q.2.2.2 ∧ q.2.2.2 ≤ 30 ∧ lets q.1 ≤ q.2.2.2 - e.2.2 ∧ q.2.2.1 + e.2.2 = e.2.1 + q.2.2.2 ∧ q.2.2.1 ≤ 60
def WfF (f : FE) : Prop := ∀ deep e, deep ≤ 7 → e.2.1 ≤ 60 → e.2.2 ≤ 30 → Wf deep e (f deep e)
theorem lets_one {c v : Int32} (h : isLet c = false) : lets [(c, v)] = 0 := by
  show (if isLet c then 1 else 0) + 0 = 0
  rw [h]; rfl
theorem cd_two {d1 d2 D : Nat} {A E : Cde} {c : Int32} (h1 : Cd d1 A) (h2 : Cd d2 E) (hc : isTwo c) (a : d1 + 1 ≤ D) (b : d2 + 1 ≤ D) : Cd D (A ++ E ++ [(c, 0)]) := by
  cases D with
  | zero => omega
  | succ D => exact Or.inr (Or.inr (Or.inr ⟨A, E, c, Cd_up h1 (by omega), Cd_up h2 (by omega), hc, rfl⟩))
theorem loop_wf {op : Es → Option Nat} {sub : FE} (hs : WfF sub) (hop : ∀ e c, op e = some c → isTwo (N c) ∧ isLet (N c) = false) {deep : Nat} (d7 : deep ≤ 7) {e0 : Es} (u0 : e0.2.1 ≤ 60) (o0 : e0.2.2 ≤ 30) : ∀ f A e, Wf deep e0 (.inr (A, e)) → Wf deep e0 (eLoop X n op sub deep f A e)
  | 0, _, _, _ => trivial
  | f + 1, A, e, h => by
    rw [eLoop]
    cases ho : op e with
    | none => exact h
    | some c =>
      obtain ⟨c1, c2⟩ := hop e c ho
      obtain ⟨h1, h2, h3, h4, h5, h6⟩ := h
      have h2 : e0.2.2 + 1 ≤ e.2.2 := h2
      have h3 : e.2.2 ≤ 30 := h3
      have h6 : e.2.1 ≤ 60 := h6
      have h5 : e.2.1 + e0.2.2 = e0.2.1 + e.2.2 := h5
      have h4 : lets A ≤ e.2.2 - e0.2.2 := h4
      have h1 : Cd (e.2.2 - e0.2.2 + 7 - deep) A := h1
      have g := hs deep (eGo X n e) d7 h6 h3
      dsimp only
      cases hr : sub deep (eGo X n e) with
      | inl y => trivial
      | inr q =>
        rw [hr] at g
        obtain ⟨g1, g2, g3, g4, g5, g6⟩ := g
        have g2 : e.2.2 + 1 ≤ q.2.2.2 := g2
        have g1 : Cd (q.2.2.2 - e.2.2 + 7 - deep) q.1 := g1
        have g4 : lets q.1 ≤ q.2.2.2 - e.2.2 := g4
        have g5 : q.2.2.1 + e.2.2 = e.2.1 + q.2.2.2 := g5
        dsimp only
        refine loop_wf hs hop d7 u0 o0 f _ q.2 ⟨?_, ?_, g3, ?_, ?_, g6⟩
        · exact cd_two h1 g1 c1 (by show e.2.2 - e0.2.2 + 7 - deep + 1 ≤ q.2.2.2 - e0.2.2 + 7 - deep; omega) (by show q.2.2.2 - e.2.2 + 7 - deep + 1 ≤ q.2.2.2 - e0.2.2 + 7 - deep; omega)
        · show e0.2.2 + 1 ≤ q.2.2.2
          omega
        · show lets (A ++ q.1 ++ [(N c, 0)]) ≤ q.2.2.2 - e0.2.2
          rw [lets_app, lets_app, lets_one c2]
          omega
        · show q.2.2.1 + e0.2.2 = e0.2.1 + q.2.2.2
          omega
theorem seq_wf {op : Es → Option Nat} {sub : FE} (hs : WfF sub) (hop : ∀ e c, op e = some c → isTwo (N c) ∧ isLet (N c) = false) : WfF (eSeq X n op sub) := by
  intro deep e d7 u0 o0
  have g := hs deep e d7 u0 o0
  unfold eSeq
  cases hr : sub deep e with
  | inl y => trivial
  | inr q =>
    rw [hr] at g
    exact loop_wf hs hop d7 u0 o0 2000 q.1 q.2 g
theorem unit_wf {fB : FE} (hB : WfF fB) : WfF (sUnit X n fB) := by
  intro deep e d7 u0 o0
  unfold sUnit
  by_cases h1 : eNo e = true ∨ (e.1.sort = 40 ∧ 6 < deep)
  · rw [if_pos h1]; trivial
  · rw [if_neg h1]
    have n0 : ¬ (e.2.1 = 60 ∨ e.2.2 = 30) := fun z => h1 (Or.inl (decide_eq_true (Or.inr z)))
    by_cases h2 : e.1.sort = 40
    · rw [if_pos h2]
      have d6 : deep ≤ 6 := by
        have : ¬ (e.1.sort = 40 ∧ 6 < deep) := fun z => h1 (Or.inr z)
        omega
      have g := hB (deep + 1) (eGo X n (eIn e)) (by omega) (by show e.2.1 + 1 ≤ 60; omega) (by show e.2.2 + 1 ≤ 30; omega)
      cases hr : fB (deep + 1) (eGo X n (eIn e)) with
      | inl y => trivial
      | inr q =>
        rw [hr] at g
        obtain ⟨g1, g2, g3, g4, g5, g6⟩ := g
        have g1 : Cd (q.2.2.2 - (e.2.2 + 1) + 7 - (deep + 1)) q.1 := g1
        have g2 : e.2.2 + 1 + 1 ≤ q.2.2.2 := g2
        have g4 : lets q.1 ≤ q.2.2.2 - (e.2.2 + 1) := g4
        have g5 : q.2.2.1 + (e.2.2 + 1) = e.2.1 + 1 + q.2.2.2 := g5
        dsimp only
        by_cases h3 : q.2.1.sort = 41
        · rw [if_pos h3]
          exact ⟨Cd_up g1 (by show _ ≤ q.2.2.2 - e.2.2 + 7 - deep; omega), (by show e.2.2 + 1 ≤ q.2.2.2; omega), g3, (by show lets q.1 ≤ q.2.2.2 - e.2.2; omega), (by show q.2.2.1 + e.2.2 = e.2.1 + q.2.2.2; omega), g6⟩
        · rw [if_neg h3]; trivial
    · rw [if_neg h2]
      have c1 : Cd 1 (eCode e) ∧ lets (eCode e) ≤ 1 := by
        have l1 : ∀ x : Int32 × Int32, lets [x] ≤ 1 := fun x => by
          show (if isLet x.1 then 1 else 0) + 0 ≤ 1
          split <;> omega
        refine ⟨?_, l1 _⟩
        unfold eCode
        cases ha : eAsk e with
        | none => exact Or.inl ⟨_, rfl⟩
        | some k =>
          refine Or.inr (Or.inl ⟨k, ?_, rfl⟩)
          rw [eAsk_w] at ha
          repeat (first | (split at ha) | (have := Option.some.inj ha; omega) | (exact absurd ha (by simp)))
      exact ⟨Cd_up c1.1 (by show 1 ≤ e.2.2 + 1 - e.2.2 + 7 - deep; omega), (by show e.2.2 + 1 ≤ e.2.2 + 1; omega), (by show e.2.2 + 1 ≤ 30; omega), (by show lets (eCode e) ≤ e.2.2 + 1 - e.2.2; have := c1.2; omega), (by show e.2.1 + 1 + e.2.2 = e.2.1 + (e.2.2 + 1); omega), (by show e.2.1 + 1 ≤ 60; omega)⟩
theorem two_T (e : Es) (c : Nat) (h : opT e = some c) : isTwo (N c) ∧ isLet (N c) = false := by
  unfold opT at h
  by_cases q : e.1.sort = 42 ∨ e.1.sort = 47 ∨ e.1.sort = 37
  · rw [if_pos q] at h
    rw [← Option.some.inj h]
    rcases q with q | q | q <;> rw [q] <;> exact ⟨by unfold isTwo; decide, by decide⟩
  · rw [if_neg q] at h; exact absurd h (by simp)
theorem two_S (e : Es) (c : Nat) (h : opS e = some c) : isTwo (N c) ∧ isLet (N c) = false := by
  unfold opS at h
  by_cases q : e.1.sort = 43 ∨ e.1.sort = 45
  · rw [if_pos q] at h
    rw [← Option.some.inj h]
    rcases q with q | q <;> rw [q] <;> exact ⟨by unfold isTwo; decide, by decide⟩
  · rw [if_neg q] at h; exact absurd h (by simp)
theorem two_C (e : Es) (c : Nat) (h : opC e = some c) : isTwo (N c) ∧ isLet (N c) = false := by
  unfold opC at h
  by_cases q : e.1.sort = 60 ∨ e.1.sort = 62 ∨ e.1.sort = 61
  · rw [if_pos q] at h
    rw [← Option.some.inj h]
    rcases q with q | q | q <;> rw [q] <;> exact ⟨by unfold isTwo; decide, by decide⟩
  · rw [if_neg q] at h; exact absurd h (by simp)
theorem two_A (e : Es) (c : Nat) (h : opA e = some c) : isTwo (N c) ∧ isLet (N c) = false := by
  unfold opA at h
  by_cases q : eW e 19 = true
  · rw [if_pos q] at h
    rw [← Option.some.inj h]
    exact ⟨by unfold isTwo; decide, by decide⟩
  · rw [if_neg q] at h; exact absurd h (by simp)
theorem two_O (e : Es) (c : Nat) (h : opO e = some c) : isTwo (N c) ∧ isLet (N c) = false := by
  unfold opO at h
  by_cases q : eW e 20 = true
  · rw [if_pos q] at h
    rw [← Option.some.inj h]
    exact ⟨by unfold isTwo; decide, by decide⟩
  · rw [if_neg q] at h; exact absurd h (by simp)
theorem one_wf {fB fO : FE} (hB : WfF fB) (hO : WfF fO) : WfF (sOne X n fB fO) := by
  intro deep e d7 u0 o0
  unfold sOne
  by_cases h1 : eW e 21 = true
  · rw [if_pos h1]
    by_cases h2 : 6 < deep
    · rw [if_pos h2]; trivial
    · rw [if_neg h2]
      have g := hO (deep + 1) (eGo X n e) (by omega) u0 o0
      cases hr : fO (deep + 1) (eGo X n e) with
      | inl y => trivial
      | inr q =>
        rw [hr] at g
        obtain ⟨g1, g2, g3, g4, g5, g6⟩ := g
        have g1 : Cd (q.2.2.2 - e.2.2 + 7 - (deep + 1)) q.1 := g1
        have g2 : e.2.2 + 1 ≤ q.2.2.2 := g2
        have g4 : lets q.1 ≤ q.2.2.2 - e.2.2 := g4
        refine ⟨?_, g2, g3, ?_, g5, g6⟩
        · show Cd (q.2.2.2 - e.2.2 + 7 - deep) (q.1 ++ [(126, 0)])
          rw [show q.2.2.2 - e.2.2 + 7 - deep = q.2.2.2 - e.2.2 + 7 - (deep + 1) + 1 by omega]
          exact Or.inr (Or.inr (Or.inl ⟨q.1, g1, rfl⟩))
        · show lets (q.1 ++ [(126, 0)]) ≤ q.2.2.2 - e.2.2
          rw [lets_app, lets_one (by decide)]
          omega
  · rw [if_neg h1]
    have hS : WfF (sSum X n fB) := seq_wf (seq_wf (unit_wf hB) two_T) two_S
    have g := hS deep e d7 u0 o0
    cases hr : sSum X n fB deep e with
    | inl y => trivial
    | inr q =>
      rw [hr] at g
      dsimp only
      cases hc : opC q.2 with
      | none => exact g
      | some c =>
        obtain ⟨c1, c2⟩ := two_C _ _ hc
        obtain ⟨g1, g2, g3, g4, g5, g6⟩ := g
        have g2 : e.2.2 + 1 ≤ q.2.2.2 := g2
        have k := hS deep (eGo X n q.2) d7 g6 g3
        dsimp only
        cases hr2 : sSum X n fB deep (eGo X n q.2) with
        | inl y => trivial
        | inr t =>
          rw [hr2] at k
          obtain ⟨k1, k2, k3, k4, k5, k6⟩ := k
          have k1 : Cd (t.2.2.2 - q.2.2.2 + 7 - deep) t.1 := k1
          have k2 : q.2.2.2 + 1 ≤ t.2.2.2 := k2
          have k4 : lets t.1 ≤ t.2.2.2 - q.2.2.2 := k4
          have k5 : t.2.2.1 + q.2.2.2 = q.2.2.1 + t.2.2.2 := k5
          refine ⟨?_, ?_, k3, ?_, ?_, k6⟩
          · exact cd_two g1 k1 c1 (by show q.2.2.2 - e.2.2 + 7 - deep + 1 ≤ t.2.2.2 - e.2.2 + 7 - deep; omega) (by show t.2.2.2 - q.2.2.2 + 7 - deep + 1 ≤ t.2.2.2 - e.2.2 + 7 - deep; omega)
          · show e.2.2 + 1 ≤ t.2.2.2
            omega
          · show lets (q.1 ++ t.1 ++ [(N c, 0)]) ≤ t.2.2.2 - e.2.2
            rw [lets_app, lets_app, lets_one c2]
            omega
          · show t.2.2.1 + e.2.2 = e.2.1 + t.2.2.2
            omega
theorem bo_wf : ∀ d, WfF (sBo X n d).1 ∧ WfF (sBo X n d).2
  | 0 => ⟨fun _ _ _ _ _ => trivial, fun _ _ _ _ _ => trivial⟩
  | d + 1 => by
    obtain ⟨a, b⟩ := bo_wf d
    exact ⟨seq_wf (seq_wf (one_wf a b) two_A) two_O, one_wf a b⟩
end P18

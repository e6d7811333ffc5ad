set_option linter.unusedVariables false
set_option linter.unusedSimpArgs false
/-! THE PLAIN LAW: the machine with its stack does what the descent does -/
section P8
variable {X : Nat → Nat} {n : Nat}
theorem lexA_place {a : Nat} (h : a ≤ n) : (lexA X n a).place = a := by
  unfold lexA Tk.place
  by_cases h1 : n ≤ a
  · rw [if_pos h1]; show n = a; omega
  · rw [if_neg h1]
    by_cases h2 : isL (X a) = true
    · rw [if_pos h2]
      by_cases h3 : 8 < lexL X n a - a
      · rw [if_pos h3]
      · rw [if_neg h3]
    · rw [if_neg h2]
      by_cases h4 : isD (X a) = true
      · rw [if_pos h4]
        by_cases h3 : 4 < lexD X n a - a ∨ isL (X (lexD X n a)) = true
        · rw [if_pos h3]
        · rw [if_neg h3]
      · rw [if_neg h4]
        by_cases h5 : isSg (X a) = true
        · rw [if_pos h5]
        · rw [if_neg h5]
theorem lexT_spec (x : Txt X n) {p : Nat} (hp : p ≤ n) : p ≤ (lexT X n p).place ∧ (lexT X n p).place ≤ n ∧ ((lexT X n p).sort ≠ 3 → (lexT X n p).next ≤ n ∧ ((lexT X n p).sort ≠ 0 → (lexT X n p).place < (lexT X n p).next)) := by
  obtain ⟨b1, b2, b3, b4⟩ := lexB_spec x hp
  unfold lexT
  rw [lexA_place b2]
  exact ⟨b1, b2, lexA_next x b2⟩
/-- a token of the text -/
def TOk (X : Nat → Nat) (n : Nat) (t : Tk) : Prop := ∃ p, p ≤ n ∧ t = lexT X n p
theorem TOk.go (x : Txt X n) {t : Tk} (h : TOk X n t) (h0 : t.sort ≠ 0) (h3 : t.sort ≠ 3) : TOk X n (lexT X n t.next) ∧ t.place + 1 ≤ (lexT X n t.next).place := by
  obtain ⟨p, hp, rfl⟩ := h
  obtain ⟨a1, a2, a3⟩ := lexT_spec x hp
  obtain ⟨b1, b2⟩ := a3 h3
  have b3 := b2 h0
  obtain ⟨c1, c2, c3⟩ := lexT_spec x b1
  exact ⟨⟨_, b1, rfl⟩, by omega⟩
theorem TOk.le (x : Txt X n) {t : Tk} (h : TOk X n t) : t.place ≤ n := by
  obtain ⟨p, hp, rfl⟩ := h
  exact (lexT_spec x hp).2.1
def plc (s : MS) : Nat := s.2.2.2.2.1.place
def Rch (X : Nat → Nat) (n : Nat) (s s' : MS) : Prop := ∃ j, j + plc s ≤ plc s' ∧ ∀ k, mRun X n (j + k) s = mRun X n k s'
def Flt (X : Nat → Nat) (n : Nat) (s : MS) (x : PE) : Prop := ∃ j, j + plc s ≤ n + 1 ∧ ∀ k, mRun X n (j + k) s = .inl x
theorem Rch.refl (s : MS) : Rch X n s s := ⟨0, by omega, fun k => by rw [Nat.zero_add]⟩
theorem Rch.trans {a b c : MS} (h : Rch X n a b) (g : Rch X n b c) : Rch X n a c := by
  obtain ⟨j, h1, h2⟩ := h
  obtain ⟨i, g1, g2⟩ := g
  exact ⟨j + i, by omega, fun k => by rw [Nat.add_assoc, h2, g2]⟩
theorem Rch.flt {a b : MS} {x : PE} (h : Rch X n a b) (g : Flt X n b x) : Flt X n a x := by
  obtain ⟨j, h1, h2⟩ := h
  obtain ⟨i, g1, g2⟩ := g
  exact ⟨j + i, by omega, fun k => by rw [Nat.add_assoc, h2, g2]⟩
theorem Rch.step {s s' : MS} (hK : s.2.1 ≠ []) (h : mStep X n s = .inr s') (hp : plc s + 1 ≤ plc s') : Rch X n s s' :=
  ⟨1, by omega, fun k => by rw [Nat.add_comm, mRun, if_neg hK, h]⟩
theorem Flt.step {s : MS} {x : PE} (hK : s.2.1 ≠ []) (h : mStep X n s = .inl x) (hp : plc s ≤ n) : Flt X n s x :=
  ⟨1, by omega, fun k => by rw [Nat.add_comm, mRun, if_neg hK, h]⟩
def Top (lo : Nat) (K : Sk) : Prop := ∃ x K', K = x :: K' ∧ (x.1 < lo ∨ 7 ≤ x.1)
theorem Top.up {a b : Nat} (h : a ≤ b) {K : Sk} (t : Top a K) : Top b K := by
  obtain ⟨x, K', e, h1⟩ := t
  exact ⟨x, K', e, by omega⟩
theorem Top.ne {a : Nat} {K : Sk} (t : Top a K) : K ≠ [] := by
  obtain ⟨x, K', e, _⟩ := t
  rw [e]; exact List.cons_ne_nil _ _
def flush (P : Sk) : Cde := P.map (fun x => (N x.2, 0))
def nots : Sk → Nat
  | [] => 0
  | x :: P => nots P + (if x.1 = 3 then 1 else 0)
theorem nots_app (P Q : Sk) : nots (P ++ Q) = nots P + nots Q := by
  induction P with
  | nil => show nots Q = 0 + nots Q; omega
  | cons x P ih => show nots (P ++ Q) + _ = nots P + _ + nots Q; rw [ih]; omega
theorem flush_app (P Q : Sk) : flush (P ++ Q) = flush P ++ flush Q := List.map_append
theorem pops_all {r : Nat} {K : Sk} (t : Top r K) {w : Nat} : ∀ (P : Sk) (C : Cde), (∀ x, x ∈ P → r ≤ x.1 ∧ x.1 ≤ 6) → pops r (P ++ K) C (w + nots P) = (K, C ++ flush P, w)
  | [], C, _ => by
    obtain ⟨x, K', e, h1⟩ := t
    subst e
    show pops r (x :: K') C (w + 0) = _
    rw [pops, if_neg (by omega), show flush [] = [] from rfl, List.append_nil, Nat.add_zero]
  | x :: P, C, h => by
    have hx := h x List.mem_cons_self
    have ih := pops_all t (w := w) P (C ++ [(N x.2, 0)]) (fun y hy => h y (List.mem_cons_of_mem _ hy))
    show pops r (x :: (P ++ K)) C (w + (nots P + if x.1 = 3 then 1 else 0)) = _
    rw [pops, if_pos ⟨hx.2, hx.1⟩]
    have e : (if x.1 = 3 then w + (nots P + if x.1 = 3 then 1 else 0) - 1 else w + (nots P + if x.1 = 3 then 1 else 0)) = w + nots P := by
      by_cases q : x.1 = 3
      · rw [if_pos q, if_pos q]; omega
      · rw [if_neg q, if_neg q]; rfl
    rw [e, ih, show flush (x :: P) = [(N x.2, 0)] ++ flush P from rfl, List.append_assoc]
theorem cmpd_app {P : Sk} (K : Sk) : cmpd P = true → cmpd (P ++ K) = true := by
  induction P with
  | nil => intro h; exact absurd h (by decide)
  | cons x P ih =>
    show (if x.1 = 5 ∨ x.1 = 6 then cmpd P else decide (x.1 = 4)) = true → (if x.1 = 5 ∨ x.1 = 6 then cmpd (P ++ K) else decide (x.1 = 4)) = true
    by_cases q : x.1 = 5 ∨ x.1 = 6
    · rw [if_pos q, if_pos q]; exact ih
    · rw [if_neg q, if_neg q]; exact fun h => h
theorem cmpd_56 {P : Sk} (K : Sk) (h : ∀ x, x ∈ P → 5 ≤ x.1 ∧ x.1 ≤ 6) : cmpd (P ++ K) = cmpd K := by
  induction P with
  | nil => rfl
  | cons x P ih =>
    have hx := h x List.mem_cons_self
    show (if x.1 = 5 ∨ x.1 = 6 then cmpd (P ++ K) else decide (x.1 = 4)) = _
    rw [if_pos (by omega)]
    exact ih (fun y hy => h y (List.mem_cons_of_mem _ hy))
/-- what the machine makes of a part of a formula -/
def Got (X : Nat → Nat) (n lo : Nat) (E : Es → Sk → Prop) (K : Sk) (C : Cde) (deep : Nat) (e : Es) (r : ER) : Prop :=
  match r with
  | .inl x => Flt X n (true, K, C, deep, e) x
  | .inr q => ∃ P D, D ++ flush P = q.1 ∧ (∀ x, x ∈ P → lo ≤ x.1 ∧ x.1 ≤ 6) ∧ E q.2 P ∧ TOk X n q.2.1 ∧ e.1.place + 1 ≤ q.2.1.place ∧ Rch X n (true, K, C, deep, e) (false, P ++ K, C ++ D, deep + nots P, q.2)
def NNr (b : Bool) (K : Sk) (e : Es) : Prop := b = true → ¬ (begins K = true ∧ eW e 21 = true)
/-- parts joined by signs of one rank -/
theorem seq_got (x : Txt X n) {op : Es → Option Nat} {sub : FE} {r lim : Nat} {b : Bool} {E' E : Es → Sk → Prop} (r1 : 1 ≤ r ∧ r ≤ 6 ∧ r ≠ 3 ∧ r ≠ 4) (hb : b = true → 4 ≤ r)
    (hop : ∀ e c, op e = some c → eRank e = r ∧ eSign e = c ∧ e.1.sort ≠ 0 ∧ e.1.sort ≠ 3)
    (hsub : ∀ K C deep e, TOk X n e.1 → Top (r + 1) K → NNr b K e → deep ≤ 7 → lim ≤ deep → Got X n (r + 1) E' K C deep e (sub deep e))
    (hE : ∀ e P, E' e P → op e = none → E e P) (hE2 : ∀ e P c, E' e P → op e = none → E e (P ++ [(r, c)])) :
    ∀ K C deep e, TOk X n e.1 → Top r K → NNr b K e → deep ≤ 7 → lim ≤ deep → Got X n r E K C deep e (eSeq X n op sub deep e) := by
  intro K C deep e0 ok0 top nn0 d7 dl
  have hl := x.len
  have loop : ∀ f A P D e, D ++ flush P = A → (∀ x, x ∈ P → r ≤ x.1 ∧ x.1 ≤ 6) → (E' e P ∨ ∃ P' c, P = P' ++ [(r, c)] ∧ E' e P') → TOk X n e.1 → n < f + e.1.place →
      match eLoop X n op sub deep f A e with
      | .inl x => Flt X n (false, P ++ K, C ++ D, deep + nots P, e) x
      | .inr q => ∃ P2 D2, D2 ++ flush P2 = q.1 ∧ (∀ x, x ∈ P2 → r ≤ x.1 ∧ x.1 ≤ 6) ∧ E q.2 P2 ∧ TOk X n q.2.1 ∧ e.1.place ≤ q.2.1.place ∧ Rch X n (false, P ++ K, C ++ D, deep + nots P, e) (false, P2 ++ K, C ++ D2, deep + nots P2, q.2) := by
    intro f
    induction f with
    | zero =>
      intro A P D e _ _ _ ok hf
      have := ok.le x
      omega
    | succ f ih =>
      intro A P D e hA hP hEP ok hf
      rw [eLoop]
      cases ho : op e with
      | none =>
        refine ⟨P, D, hA, hP, ?_, ok, Nat.le_refl _, Rch.refl _⟩
        rcases hEP with h | ⟨P', c, rfl, h⟩
        · exact hE e P h ho
        · exact hE2 e P' c h ho
      | some c =>
        obtain ⟨o1, o2, o3, o4⟩ := hop e c ho
        obtain ⟨g1, g2⟩ := ok.go x o3 o4
        have st : Rch X n (false, P ++ K, C ++ D, deep + nots P, e) (true, (r, c) :: K, C ++ A, deep, eGo X n e) := by
          refine Rch.step ?_ ?_ g2
          · show P ++ K ≠ []
            exact fun z => top.ne (List.append_eq_nil_iff.mp z).2
          · show mBehind X n (P ++ K) (C ++ D) (deep + nots P) e = _
            rw [mBehind, if_neg (fun z => r1.2.2.2 (o1.symm.trans z.1)), o1, if_pos (by omega), pops_all top P (C ++ D) hP, o2, List.append_assoc, hA]
        have hs := hsub ((r, c) :: K) (C ++ A) deep (eGo X n e) g1 ⟨(r, c), K, rfl, Or.inl (Nat.lt_succ_self r)⟩ (fun z q => by
          have h4 := hb z
          have : begins ((r, c) :: K) = false := decide_eq_false (by show ¬ (r ≤ 3 ∨ 7 ≤ r); omega)
          rw [this] at q
          exact absurd q.1 (by decide)) d7 dl
        dsimp only
        cases hr : sub deep (eGo X n e) with
        | inl y =>
          rw [hr] at hs
          exact st.flt hs
        | inr q =>
          rw [hr] at hs
          obtain ⟨P', D', q1, q2, q3, q4, q5, q6⟩ := hs
          have nq : nots (P' ++ [(r, c)]) = nots P' := by
            rw [nots_app]
            show nots P' + (0 + if r = 3 then 1 else 0) = nots P'
            rw [if_neg r1.2.2.1]
            rfl
          have q6' : Rch X n (true, (r, c) :: K, C ++ A, deep, eGo X n e) (false, (P' ++ [(r, c)]) ++ K, C ++ (A ++ D'), deep + nots (P' ++ [(r, c)]), q.2) := by
            rw [nq, List.append_assoc, ← List.append_assoc C A D']
            exact q6
          have g2' : e.1.place + 1 ≤ (eGo X n e).1.place := g2
          have nx := ih (A ++ q.1 ++ [(N c, 0)]) (P' ++ [(r, c)]) (A ++ D') q.2 (by rw [flush_app, ← q1, List.append_assoc, List.append_assoc, List.append_assoc]; rfl) (fun y hy => by
            rcases List.mem_append.mp hy with h | h
            · have := q2 y h; omega
            · rw [List.mem_singleton.mp h]; exact ⟨Nat.le_refl _, r1.2.1⟩) (Or.inr ⟨P', c, rfl, q3⟩) q4 (by omega)
          dsimp only
          cases hz : eLoop X n op sub deep f (A ++ q.1 ++ [(N c, 0)]) q.2 with
          | inl y =>
            rw [hz] at nx
            exact st.flt (q6'.flt nx)
          | inr q9 =>
            rw [hz] at nx
            obtain ⟨P2, D2, n1, n2, n3, n4, n5, n6⟩ := nx
            exact ⟨P2, D2, n1, n2, n3, n4, by omega, st.trans (q6'.trans n6)⟩
  have h0 := hsub K C deep e0 ok0 (top.up (by omega)) nn0 d7 dl
  unfold eSeq
  cases hr : sub deep e0 with
  | inl y =>
    rw [hr] at h0
    exact h0
  | inr q =>
    rw [hr] at h0
    obtain ⟨P, D, q1, q2, q3, q4, q5, q6⟩ := h0
    have nx := loop 2000 q.1 P D q.2 q1 (fun y hy => by have := q2 y hy; omega) (Or.inl q3) q4 (by omega)
    dsimp only
    cases hz : eLoop X n op sub deep 2000 q.1 q.2 with
    | inl y =>
      rw [hz] at nx
      exact q6.flt nx
    | inr q9 =>
      rw [hz] at nx
      obtain ⟨P2, D2, n1, n2, n3, n4, n5, n6⟩ := nx
      exact ⟨P2, D2, n1, n2, n3, n4, by omega, q6.trans n6⟩
/-- where a formula within brackets ends -/
def EB (e : Es) (P : Sk) : Prop := eRank e = 0 ∨ (eRank e = 4 ∧ cmpd P = true)
def EA (e : Es) (P : Sk) : Prop := eRank e = 0 ∨ eRank e = 1 ∨ (eRank e = 4 ∧ cmpd P = true)
def EO (e : Es) (P : Sk) : Prop := eRank e = 0 ∨ eRank e = 1 ∨ eRank e = 2 ∨ (eRank e = 4 ∧ cmpd P = true)
def ES (e : Es) (P : Sk) : Prop := opT e = none ∧ opS e = none
theorem eW_sort {e : Es} {i : Nat} (h : eW e i = true) : e.1.sort = 1 := (of_decide_eq_true h).1
theorem opC_spec {e : Es} {c : Nat} (h : opC e = some c) : eRank e = 4 ∧ eSign e = c ∧ e.1.sort ≠ 0 ∧ e.1.sort ≠ 3 ∧ e.1.sort ≠ 41 ∧ e.1.sort = c := by
  unfold opC at h
  by_cases q : e.1.sort = 60 ∨ e.1.sort = 62 ∨ e.1.sort = 61
  · have hs : opC e = some e.1.sort := if_pos q
    rw [if_pos q] at h
    have hc := Option.some.inj h
    have r4 : eRank e = 4 := by
      unfold eRank
      rw [if_neg (fun z => by have := eW_sort z; omega), if_neg (fun z => by have := eW_sort z; omega), hs]
      rfl
    refine ⟨r4, ?_, by omega, by omega, by omega, hc⟩
    unfold eSign
    rw [r4, if_neg (by decide), if_neg (by decide)]; exact hc
  · rw [if_neg q] at h; exact absurd h (by simp)
theorem rank4 {e : Es} (h : eRank e = 4) : ∃ c, opC e = some c := by
  unfold eRank at h
  by_cases a : eW e 19 = true
  · rw [if_pos a] at h; omega
  · rw [if_neg a] at h
    by_cases b : eW e 20 = true
    · rw [if_pos b] at h; omega
    · rw [if_neg b] at h
      cases hc : opC e with
      | some c => exact ⟨c, rfl⟩
      | none =>
        rw [hc, if_neg (by decide)] at h
        by_cases c : (opS e).isSome = true
        · rw [if_pos c] at h; omega
        · rw [if_neg c] at h
          by_cases d : (opT e).isSome = true
          · rw [if_pos d] at h; omega
          · rw [if_neg d] at h; omega
theorem opS_spec {e : Es} {c : Nat} (h : opS e = some c) : eRank e = 5 ∧ eSign e = c ∧ e.1.sort ≠ 0 ∧ e.1.sort ≠ 3 := by
  unfold opS at h
  by_cases q : e.1.sort = 43 ∨ e.1.sort = 45
  · have hs : opS e = some e.1.sort := if_pos q
    have hc9 : opC e = none := if_neg (by omega)
    rw [if_pos q] at h
    have hc := Option.some.inj h
    have r4 : eRank e = 5 := by
      unfold eRank
      rw [if_neg (fun z => by have := eW_sort z; omega), if_neg (fun z => by have := eW_sort z; omega), hc9, if_neg (by decide), hs]
      rfl
    refine ⟨r4, ?_, by omega, by omega⟩
    unfold eSign
    rw [r4, if_neg (by decide), if_neg (by decide)]; exact hc
  · rw [if_neg q] at h; exact absurd h (by simp)
theorem opT_spec {e : Es} {c : Nat} (h : opT e = some c) : eRank e = 6 ∧ eSign e = c ∧ e.1.sort ≠ 0 ∧ e.1.sort ≠ 3 := by
  unfold opT at h
  by_cases q : e.1.sort = 42 ∨ e.1.sort = 47 ∨ e.1.sort = 37
  · have hs : opT e = some e.1.sort := if_pos q
    have hc9 : opC e = none := if_neg (by omega)
    have hs9 : opS e = none := if_neg (by omega)
    rw [if_pos q] at h
    have hc := Option.some.inj h
    have r4 : eRank e = 6 := by
      unfold eRank
      rw [if_neg (fun z => by have := eW_sort z; omega), if_neg (fun z => by have := eW_sort z; omega), hc9, if_neg (by decide), hs9, if_neg (by decide), hs]
      rfl
    refine ⟨r4, ?_, by omega, by omega⟩
    unfold eSign
    rw [r4, if_neg (by decide), if_neg (by decide)]; exact hc
  · rw [if_neg q] at h; exact absurd h (by simp)
theorem opA_spec {e : Es} {c : Nat} (h : opA e = some c) : eRank e = 2 ∧ eSign e = c ∧ e.1.sort ≠ 0 ∧ e.1.sort ≠ 3 := by
  unfold opA at h
  by_cases q : eW e 19 = true
  · rw [if_pos q] at h
    have hc := Option.some.inj h
    have s1 := eW_sort q
    have r4 : eRank e = 2 := by unfold eRank; rw [if_pos q]
    refine ⟨r4, ?_, by omega, by omega⟩
    unfold eSign
    rw [r4, if_pos rfl]; exact hc
  · rw [if_neg q] at h; exact absurd h (by simp)
theorem eW_one {e : Es} {i k : Nat} (h : eW e i = true) (g : eW e k = true) : litV i = litV k := (of_decide_eq_true h).2.symm.trans (of_decide_eq_true g).2
theorem opO_spec {e : Es} {c : Nat} (h : opO e = some c) : eRank e = 1 ∧ eSign e = c ∧ e.1.sort ≠ 0 ∧ e.1.sort ≠ 3 := by
  unfold opO at h
  by_cases q : eW e 20 = true
  · rw [if_pos q] at h
    have hc := Option.some.inj h
    have s1 := eW_sort q
    have r4 : eRank e = 1 := by unfold eRank; rw [if_neg (fun z => absurd (eW_one q z) (by decide +kernel)), if_pos q]
    refine ⟨r4, ?_, by omega, by omega⟩
    unfold eSign
    rw [r4, if_neg (by decide), if_pos rfl]; exact hc
  · rw [if_neg q] at h; exact absurd h (by simp)
/-- the rank behind a sum -/
theorem rank_ES {e : Es} {P : Sk} (h : ES e P) : (opC e = none → eRank e = 0 ∨ eRank e = 1 ∨ eRank e = 2) ∧ (eRank e = 0 ∨ eRank e = 1 ∨ eRank e = 2 ∨ eRank e = 4) := by
  unfold eRank
  rw [h.1, h.2]
  by_cases a : eW e 19 = true
  · rw [if_pos a]; exact ⟨fun _ => by omega, by omega⟩
  · rw [if_neg a]
    by_cases b : eW e 20 = true
    · rw [if_pos b]; exact ⟨fun _ => by omega, by omega⟩
    · rw [if_neg b]
      cases hc : opC e with
      | none => exact ⟨fun _ => Or.inl rfl, Or.inl rfl⟩
      | some c => exact ⟨fun z => absurd z (by simp), Or.inr (Or.inr (Or.inr rfl))⟩
theorem Top.begins {K : Sk} (t : Top 4 K) : begins K = true := by
  obtain ⟨x, K', e, h1⟩ := t
  subst e
  exact decide_eq_true (by omega)
/-- a formula within brackets, of the descent so deep -/
def HB (X : Nat → Nat) (n lim : Nat) (f : FE) : Prop := ∀ K C deep e, TOk X n e.1 → Top 1 K → deep ≤ 7 → lim ≤ deep → Got X n 1 EB K C deep e (f deep e)
def HO (X : Nat → Nat) (n lim : Nat) (f : FE) : Prop := ∀ K C deep e, TOk X n e.1 → Top 4 K → deep ≤ 7 → lim ≤ deep → Got X n 3 EO K C deep e (f deep e)
theorem unit_got (x : Txt X n) {fB : FE} {lim : Nat} (hB : HB X n (lim + 1) fB) (K : Sk) (C : Cde) (deep : Nat) (e : Es) (ok : TOk X n e.1) (top : Top 7 K) (nn : NNr true K e) (d7 : deep ≤ 7) (dl : lim ≤ deep) : Got X n 7 (fun _ _ => True) K C deep e (sUnit X n fB deep e) := by
  have nn := nn rfl
  have pn := ok.le x
  unfold sUnit
  by_cases h1 : eNo e = true ∨ (e.1.sort = 40 ∧ 6 < deep)
  · rw [if_pos h1]
    refine Flt.step top.ne ?_ pn
    show mUnit X n K C deep e = _
    rw [mUnit, if_neg nn, if_pos (show eNo e = true ∨ (e.1.sort = 40 ∧ deep = 7) from h1.imp (fun z => z) (fun z => ⟨z.1, by omega⟩))]
  · rw [if_neg h1]
    have h1' : ¬ (eNo e = true ∨ (e.1.sort = 40 ∧ deep = 7)) := fun z => h1 (z.imp (fun z => z) (fun z => ⟨z.1, by omega⟩))
    have ne : ¬ (e.1.sort ≠ 2 ∧ e.1.sort ≠ 40 ∧ eAsk e = none) := fun z => h1 (Or.inl (decide_eq_true (Or.inl z)))
    have s03 : e.1.sort ≠ 0 ∧ e.1.sort ≠ 3 := by
      refine ⟨fun z => ne ⟨by omega, by omega, if_neg (by omega)⟩, fun z => ne ⟨by omega, by omega, if_neg (by omega)⟩⟩
    obtain ⟨g1, g2⟩ := ok.go x s03.1 s03.2
    by_cases h2 : e.1.sort = 40
    · rw [if_pos h2]
      have st : Rch X n (true, K, C, deep, e) (true, (7, 126) :: K, C, deep + 1, eGo X n (eIn e)) := by
        refine Rch.step top.ne ?_ g2
        show mUnit X n K C deep e = _
        rw [mUnit, if_neg nn, if_neg h1', if_pos h2]
      have hb := hB ((7, 126) :: K) C (deep + 1) (eGo X n (eIn e)) g1 ⟨(7, 126), K, rfl, Or.inr (Nat.le_refl _)⟩ (by
        have : ¬ (e.1.sort = 40 ∧ deep = 7) := fun z => h1' (Or.inr z)
        omega) (by omega)
      cases hr : fB (deep + 1) (eGo X n (eIn e)) with
      | inl y =>
        rw [hr] at hb
        exact st.flt hb
      | inr q =>
        rw [hr] at hb
        obtain ⟨P, D, q1, q2, q3, q4, q5, q6⟩ := hb
        have K7 : Top 0 ((7, 126) :: K) := ⟨(7, 126), K, rfl, Or.inr (Nat.le_refl _)⟩
        have g2' : e.1.place + 1 ≤ (eGo X n (eIn e)).1.place := g2
        have pq := q4.le x
        have neK : P ++ (7, 126) :: K ≠ [] := fun z => List.cons_ne_nil _ _ (List.append_eq_nil_iff.mp z).2
        dsimp only
        rcases q3 with r0 | ⟨r4, cm⟩
        · have pp := pops_all K7 (w := deep + 1) P (C ++ D) (fun y hy => by have := q2 y hy; omega)
          by_cases h3 : q.2.1.sort = 41
          · rw [if_pos h3]
            obtain ⟨u1, u2⟩ := q4.go x (by omega) (by omega)
            have u2' : q.2.1.place + 1 ≤ (eGo X n q.2).1.place := u2
            refine ⟨[], q.1, List.append_nil _, fun y hy => absurd hy (List.not_mem_nil), trivial, u1, by show e.1.place + 1 ≤ (eGo X n q.2).1.place; omega, ?_⟩
            refine st.trans (q6.trans (Rch.step neK ?_ u2))
            show mBehind X n (P ++ (7, 126) :: K) (C ++ D) (deep + 1 + nots P) q.2 = _
            rw [mBehind, if_neg (fun z => by have := z.1; omega), if_neg (by omega), pp, mEnd]
            dsimp only
            rw [if_pos rfl, if_pos h3, List.append_assoc, q1]
            rfl
          · rw [if_neg h3]
            refine st.flt (q6.flt (Flt.step neK ?_ pq))
            show mBehind X n (P ++ (7, 126) :: K) (C ++ D) (deep + 1 + nots P) q.2 = _
            rw [mBehind, if_neg (fun z => by have := z.1; omega), if_neg (by omega), pp, mEnd]
            dsimp only
            rw [if_pos rfl, if_neg h3]
        · obtain ⟨c, hc⟩ := rank4 r4
          obtain ⟨_, _, _, _, n41, _⟩ := opC_spec hc
          rw [if_neg n41]
          refine st.flt (q6.flt (Flt.step neK ?_ pq))
          show mBehind X n (P ++ (7, 126) :: K) (C ++ D) (deep + 1 + nots P) q.2 = _
          rw [mBehind, if_pos ⟨r4, cmpd_app _ cm⟩]
    · rw [if_neg h2]
      refine ⟨[], eCode e, List.append_nil _, fun y hy => absurd hy (List.not_mem_nil), trivial, g1, g2, ?_⟩
      refine Rch.step top.ne ?_ g2
      show mUnit X n K C deep e = _
      rw [mUnit, if_neg nn, if_neg h1', if_neg h2]
      rfl
theorem term_got (x : Txt X n) {fB : FE} {lim : Nat} (hB : HB X n (lim + 1) fB) : ∀ (K : Sk) (C : Cde) (deep : Nat) (e : Es), TOk X n e.1 → Top 6 K → NNr true K e → deep ≤ 7 → lim ≤ deep → Got X n 6 (fun e _ => opT e = none) K C deep e (sTerm X n fB deep e) :=
  seq_got x (r := 6) (b := true) (by decide) (fun _ => by decide) (fun e c h => opT_spec h) (fun K C deep e h1 h2 h3 h4 h5 => unit_got x hB K C deep e h1 h2 h3 h4 h5) (fun _ _ _ h => h) (fun _ _ _ _ h => h)
theorem sum_got (x : Txt X n) {fB : FE} {lim : Nat} (hB : HB X n (lim + 1) fB) : ∀ (K : Sk) (C : Cde) (deep : Nat) (e : Es), TOk X n e.1 → Top 5 K → NNr true K e → deep ≤ 7 → lim ≤ deep → Got X n 5 ES K C deep e (sSum X n fB deep e) :=
  seq_got x (r := 5) (b := true) (by decide) (fun _ => by decide) (fun e c h => opS_spec h) (term_got x hB) (fun _ _ h g => ⟨h, g⟩) (fun _ _ _ h g => ⟨h, g⟩)
theorem one_got (x : Txt X n) {fB fO : FE} {lim : Nat} (hB : HB X n (lim + 1) fB) (hO : HO X n (lim + 1) fO) : HO X n lim (sOne X n fB fO) := by
  intro K C deep e ok top d7 dl
  have pn := ok.le x
  unfold sOne
  by_cases h1 : eW e 21 = true
  · rw [if_pos h1]
    have s1 := eW_sort h1
    by_cases h2 : 6 < deep
    · rw [if_pos h2]
      refine Flt.step top.ne ?_ pn
      show mUnit X n K C deep e = _
      rw [mUnit, if_pos ⟨top.begins, h1⟩, if_pos (by omega)]
    · rw [if_neg h2]
      obtain ⟨g1, g2⟩ := ok.go x (by omega) (by omega)
      have st : Rch X n (true, K, C, deep, e) (true, (3, 126) :: K, C, deep + 1, eGo X n e) := by
        refine Rch.step top.ne ?_ g2
        show mUnit X n K C deep e = _
        rw [mUnit, if_pos ⟨top.begins, h1⟩, if_neg (by omega)]
      have g2' : e.1.place + 1 ≤ (eGo X n e).1.place := g2
      have ho := hO ((3, 126) :: K) C (deep + 1) (eGo X n e) g1 ⟨(3, 126), K, rfl, Or.inl (by decide)⟩ (by omega) (by omega)
      cases hr : fO (deep + 1) (eGo X n e) with
      | inl y =>
        rw [hr] at ho
        exact st.flt ho
      | inr q =>
        rw [hr] at ho
        obtain ⟨P, D, q1, q2, q3, q4, q5, q6⟩ := ho
        refine ⟨P ++ [(3, 126)], D, ?_, fun y hy => ?_, ?_, q4, by show e.1.place + 1 ≤ q.2.1.place; omega, ?_⟩
        · rw [flush_app, ← List.append_assoc, q1]; rfl
        · rcases List.mem_append.mp hy with h | h
          · exact q2 y h
          · rw [List.mem_singleton.mp h]; exact ⟨Nat.le_refl _, by decide⟩
        · rcases q3 with h | h | h | h
          · exact Or.inl h
          · exact Or.inr (Or.inl h)
          · exact Or.inr (Or.inr (Or.inl h))
          · exact Or.inr (Or.inr (Or.inr ⟨h.1, cmpd_app _ h.2⟩))
        · have nq : deep + nots (P ++ [(3, 126)]) = deep + 1 + nots P := by
            rw [nots_app, show nots [(3, 126)] = 1 from rfl]; omega
          rw [nq, List.append_assoc]
          exact st.trans q6
  · rw [if_neg h1]
    have hs := sum_got x hB K C deep e ok (top.up (by decide)) (fun _ z => h1 z.2) d7 dl
    cases hr : sSum X n fB deep e with
    | inl y =>
      rw [hr] at hs
      exact hs
    | inr q =>
      rw [hr] at hs
      obtain ⟨P, D, q1, q2, q3, q4, q5, q6⟩ := hs
      dsimp only
      cases hc : opC q.2 with
      | none =>
        refine ⟨P, D, q1, fun y hy => by have := q2 y hy; omega, ?_, q4, q5, q6⟩
        rcases (rank_ES q3).1 hc with h | h | h
        · exact Or.inl h
        · exact Or.inr (Or.inl h)
        · exact Or.inr (Or.inr (Or.inl h))
      | some c =>
        obtain ⟨c1, c2, c3, c4, c5, c6⟩ := opC_spec hc
        obtain ⟨g1, g2⟩ := q4.go x c3 c4
        have g2' : q.2.1.place + 1 ≤ (eGo X n q.2).1.place := g2
        have cK : cmpd (P ++ K) = false := by
          rw [cmpd_56 K q2]
          obtain ⟨y, K', e', hy⟩ := top
          subst e'
          show (if y.1 = 5 ∨ y.1 = 6 then cmpd K' else decide (y.1 = 4)) = false
          rw [if_neg (by omega)]
          exact decide_eq_false (by omega)
        have st : Rch X n (false, P ++ K, C ++ D, deep + nots P, q.2) (true, (4, c) :: K, C ++ q.1, deep, eGo X n q.2) := by
          refine Rch.step (fun z => top.ne (List.append_eq_nil_iff.mp z).2) ?_ g2
          show mBehind X n (P ++ K) (C ++ D) (deep + nots P) q.2 = _
          rw [mBehind, if_neg (fun z => by have := z.2; rw [cK] at this; exact absurd this (by decide)), c1, if_pos (by decide), pops_all top P (C ++ D) (fun y hy => by have := q2 y hy; omega), c2, List.append_assoc, q1]
        have hs2 := sum_got x hB ((4, c) :: K) (C ++ q.1) deep (eGo X n q.2) g1 ⟨(4, c), K, rfl, Or.inl (show 4 < 5 by decide)⟩ (fun _ z => by
          have : begins ((4, c) :: K) = false := rfl
          rw [this] at z
          exact absurd z.1 (by decide)) d7 dl
        dsimp only
        cases hr2 : sSum X n fB deep (eGo X n q.2) with
        | inl y =>
          rw [hr2] at hs2
          exact q6.flt (st.flt hs2)
        | inr t =>
          rw [hr2] at hs2
          obtain ⟨P2, D2, t1, t2, t3, t4, t5, t6⟩ := hs2
          refine ⟨P2 ++ [(4, c)], q.1 ++ D2, ?_, fun y hy => ?_, ?_, t4, by show e.1.place + 1 ≤ t.2.1.place; omega, ?_⟩
          · rw [flush_app, ← t1, List.append_assoc, List.append_assoc, List.append_assoc]; rfl
          · rcases List.mem_append.mp hy with h | h
            · have := t2 y h; omega
            · rw [List.mem_singleton.mp h]; exact ⟨(show 3 ≤ 4 by decide), (show 4 ≤ 6 by decide)⟩
          · have cm : cmpd (P2 ++ [(4, c)]) = true := by rw [cmpd_56 _ t2]; rfl
            rcases (rank_ES t3).2 with h | h | h | h
            · exact Or.inl h
            · exact Or.inr (Or.inl h)
            · exact Or.inr (Or.inr (Or.inl h))
            · exact Or.inr (Or.inr (Or.inr ⟨h, cm⟩))
          · have nq : deep + nots (P2 ++ [(4, c)]) = deep + nots P2 := by
              rw [nots_app, show nots [(4, c)] = 0 from rfl]; rfl
            rw [nq, List.append_assoc, ← List.append_assoc C q.1 D2]
            exact q6.trans (st.trans t6)
theorem rank_opA {e : Es} (h : opA e = none) : eRank e ≠ 2 := by
  intro z
  have q : ¬ eW e 19 = true := fun q => by
    unfold opA at h
    rw [if_pos q] at h
    exact absurd h (by simp)
  unfold eRank at z
  rw [if_neg q] at z
  by_cases b : eW e 20 = true
  · rw [if_pos b] at z; omega
  · rw [if_neg b] at z
    by_cases c : (opC e).isSome = true
    · rw [if_pos c] at z; omega
    · rw [if_neg c] at z
      by_cases d : (opS e).isSome = true
      · rw [if_pos d] at z; omega
      · rw [if_neg d] at z
        by_cases f : (opT e).isSome = true
        · rw [if_pos f] at z; omega
        · rw [if_neg f] at z; omega
theorem rank_opO {e : Es} (h : opO e = none) : eRank e ≠ 1 := by
  intro z
  have q : ¬ eW e 20 = true := fun q => by
    unfold opO at h
    rw [if_pos q] at h
    exact absurd h (by simp)
  unfold eRank at z
  by_cases b : eW e 19 = true
  · rw [if_pos b] at z; omega
  · rw [if_neg b, if_neg q] at z
    by_cases c : (opC e).isSome = true
    · rw [if_pos c] at z; omega
    · rw [if_neg c] at z
      by_cases d : (opS e).isSome = true
      · rw [if_pos d] at z; omega
      · rw [if_neg d] at z
        by_cases f : (opT e).isSome = true
        · rw [if_pos f] at z; omega
        · rw [if_neg f] at z; omega
theorem all_got (x : Txt X n) {fB fO : FE} {lim : Nat} (hB : HB X n (lim + 1) fB) (hO : HO X n (lim + 1) fO) : ∀ (K : Sk) (C : Cde) (deep : Nat) (e : Es), TOk X n e.1 → Top 2 K → NNr false K e → deep ≤ 7 → lim ≤ deep → Got X n 2 EA K C deep e (sAll X n fB fO deep e) :=
  seq_got x (r := 2) (b := false) (by decide) (fun z => absurd z (by decide)) (fun e c h => opA_spec h) (fun K C deep e h1 h2 _ h4 h5 => one_got x hB hO K C deep e h1 (h2.up (by decide)) h4 h5)
    (fun e P h g => by
      rcases h with h | h | h | h
      · exact Or.inl h
      · exact Or.inr (Or.inl h)
      · exact absurd h (rank_opA g)
      · exact Or.inr (Or.inr h))
    (fun e P c h g => by
      rcases h with h | h | h | h
      · exact Or.inl h
      · exact Or.inr (Or.inl h)
      · exact absurd h (rank_opA g)
      · exact Or.inr (Or.inr ⟨h.1, cmpd_app _ h.2⟩))
theorem both_got (x : Txt X n) {fB fO : FE} {lim : Nat} (hB : HB X n (lim + 1) fB) (hO : HO X n (lim + 1) fO) : HB X n lim (sBoth X n fB fO) := by
  intro K C deep e h1 h2 h4 h5
  refine seq_got x (r := 1) (b := false) (E' := EA) (by decide) (fun z => absurd z (by decide)) (fun e c h => opO_spec h) (all_got x hB hO) ?_ ?_ K C deep e h1 h2 (fun z => absurd z (by decide)) h4 h5
  · intro e P h g
    rcases h with h | h | h
    · exact Or.inl h
    · exact absurd h (rank_opO g)
    · exact Or.inr h
  · intro e P c h g
    rcases h with h | h | h
    · exact Or.inl h
    · exact absurd h (rank_opO g)
    · exact Or.inr ⟨h.1, cmpd_app _ h.2⟩
theorem bo_got (x : Txt X n) : ∀ d, d ≤ 8 → HB X n (8 - d) (sBo X n d).1 ∧ HO X n (8 - d) (sBo X n d).2
  | 0, _ => ⟨fun K C deep e _ _ h4 h5 => absurd h5 (by omega), fun K C deep e _ _ h4 h5 => absurd h5 (by omega)⟩
  | d + 1, h => by
    obtain ⟨a, b⟩ := bo_got x d (by omega)
    rw [show 8 - d = 8 - (d + 1) + 1 by omega] at a b
    exact ⟨both_got x a b, one_got x a b⟩
end P8

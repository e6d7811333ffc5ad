set_option linter.unusedVariables false
set_option linter.unusedSimpArgs false
/-! THE PLAIN LAW: whose book is which, of the model -/
theorem getD_snoc (l : List Nat) (x d : Nat) : (l ++ [x]).getD l.length d = x := by
  rw [List.getD_eq_getElem?_getD, List.getElem?_append_right (Nat.le_refl _), Nat.sub_self]; rfl
theorem getD_left (l r : List Nat) (d : Nat) {i : Nat} (h : i < l.length) : (l ++ r).getD i d = l.getD i d := by
  rw [List.getD_eq_getElem?_getD, List.getD_eq_getElem?_getD, List.getElem?_append_left h]
theorem m_hasB {gi : GI} {a b : Nat} (ha : a < 32) (hb : b < 5) : f_X4_has gi (N a) (N b) = some (if a.testBit b then 1 else 0) := by
  rw [f_X4_has, (bits a ha b hb).1]
  cases a.testBit b <;> rfl
theorem m_tells {gi : GI} {B : Bk} (bk : MBk gi B) {m v : Nat} (hm : m < 5) (hv : gi 51 m = N v) (hb : v < B.nb) : f_X4_tells gi (N m) = some (B.book v) := by
  obtain ⟨r, b1, b2⟩ := bk
  have hr := b2.hr
  have h6 := b2.ok.nb
  rw [f_X4_tells, N_ld hm (by decide), Option.bind_some, hv, b1, show (5 : Int32) = N 5 from rfl, N_mul, N_add, N_ld (by omega) (by decide), Option.bind_some, b2.book v hb]
theorem firsts_nb (B : Bk) : firsts B ≤ B.nb := by
  unfold firsts
  split <;> omega
/-- an order lies in the model -/
def liesM (gi : GI) (F : Nat) (p : List Nat) : Prop := p.length = F ∧ ∀ i, i < F → gi 51 i = N (p.getD i 9) ∧ p.getD i 9 < F
theorem m_doesFit {gi : GI} {S : St} (r : RM gi S) (o : SOk S) {p : List Nat} (hp : liesM gi (firsts S.B) p) (k : Int32) : f_X4_doesFit gi k = some (if fits' S k p then 1 else 0) := by
  have h30 := o.ns
  have hF := firsts_le o.bok
  have hnb := firsts_nb S.B
  have tell : ∀ x m, x = N m → m < firsts S.B → f_X4_tells gi x = some (bookP S p x) := by
    intro x m hx hm
    subst hx
    obtain ⟨q1, q2⟩ := hp.2 m hm
    rw [m_tells r.book (by omega) q1 (by omega), bookP, N_toNat (by omega)]
  have st : ∀ i, i < S.ns → f_X4_doesFit_l2 gi k (N i) = if fitI S k p i then some (.inl (N (i + 1))) else some (.inr (.inr 0)) := by
    intro i hi
    have e1 : N i + 1 = N (i + 1) := by rw [show (1 : Int32) = N 1 from rfl, N_add]
    obtain ⟨m, m1, m2⟩ := o.man i hi
    have s0 := r.sg 0 i (by decide) hi
    have s1 := r.sg 1 i (by decide) hi
    have s2 := r.sg 2 i (by decide) hi
    have s3 := r.sg 3 i (by decide) hi
    have s4 := r.sg 4 i (by decide) hi
    have s5 := r.sg 5 i (by decide) hi
    have j101 : ∀ b : Bool, f_X4_doesFit_j101 gi k (N i) (if b then 1 else 0) = if b == decide (S.sg 3 i = 1) then some (.inl (N (i + 1))) else some (.inr (.inr 0)) := by
      intro b
      rw [f_X4_doesFit_j101, N_ld (by omega) (by decide), Option.bind_some]
      show (if (if b = true then (1 : Int32) else 0) = gi (45 + 3) i then _ else _) = _
      rw [s3, e1]
      rcases o.yes i hi with y | y <;> rw [y] <;> cases b <;> rfl
    have j42 : f_X4_doesFit_j42 gi k (N i) = if (if S.sg 1 i < 0 then decide (S.sg 2 i ≤ bookP S p (S.sg 0 i)) else decide (bookP S p (S.sg 1 i) < bookP S p (S.sg 0 i))) == decide (S.sg 3 i = 1) then some (.inl (N (i + 1))) else some (.inr (.inr 0)) := by
      have l45 : g_ld gi 45 30 (N i) = some (S.sg 0 i) := by rw [N_ld (by omega) (by decide)]; exact congrArg some s0
      have l46 : g_ld gi 46 30 (N i) = some (S.sg 1 i) := by rw [N_ld (by omega) (by decide)]; exact congrArg some s1
      have l47 : g_ld gi 47 30 (N i) = some (S.sg 2 i) := by rw [N_ld (by omega) (by decide)]; exact congrArg some s2
      rw [f_X4_doesFit_j42, l45, l46, l47, Option.bind_some, Option.bind_some, Option.bind_some, tell _ m m2 m1, Option.bind_some, Option.bind_some, Option.bind_some, Option.bind_some]
      rcases o.other i hi with q | ⟨n, n1, n2⟩
      · rw [q, if_neg (by decide), show (if (-1 : Int32) < 0 then decide (S.sg 2 i ≤ bookP S p (S.sg 0 i)) else decide (bookP S p (-1) < bookP S p (S.sg 0 i))) = decide (S.sg 2 i ≤ bookP S p (S.sg 0 i)) from if_pos (by decide)]
        have := j101 (decide (S.sg 2 i ≤ bookP S p (S.sg 0 i)))
        rw [← this]
        by_cases w : S.sg 2 i ≤ bookP S p (S.sg 0 i)
        · rw [if_neg (Int32.not_lt.mpr w), f_X4_doesFit_j96]; simp [w]
        · rw [if_pos (Int32.not_le.mp w), f_X4_doesFit_j100]; simp [w]
      · have t2 := tell _ n n2 n1
        rw [n2] at t2 ⊢
        rw [if_pos (N_pos (by omega)), t2, Option.bind_some, if_neg (N_nneg (by omega))]
        have := j101 (decide (bookP S p (N n) < bookP S p (S.sg 0 i)))
        rw [← this]
        by_cases w : bookP S p (N n) < bookP S p (S.sg 0 i)
        · rw [if_neg (Int32.not_le.mpr w), f_X4_doesFit_j96]; simp [w]
        · rw [if_pos (Int32.not_lt.mp w), f_X4_doesFit_j100]; simp [w]
    have l49 : g_ld gi 49 30 (N i) = some (S.sg 4 i) := by rw [N_ld (by omega) (by decide)]; exact congrArg some s4
    have l50 : g_ld gi 50 30 (N i) = some (S.sg 5 i) := by rw [N_ld (by omega) (by decide)]; exact congrArg some s5
    rw [f_X4_doesFit_l2, r.ns, if_le (by omega) (by omega), if_neg (by omega), l49, Option.bind_some, l50, Option.bind_some, Option.bind_some, j42, e1]
    unfold fitI
    by_cases w1 : k < S.sg 4 i
    · rw [if_pos w1, if_pos w1]; rfl
    · rw [if_neg w1, if_neg w1]
      by_cases w2 : S.sg 5 i < 0
      · rw [if_pos w2, if_neg (show ¬ (¬ S.sg 5 i < 0 ∧ S.sg 5 i ≤ k) from fun q => q.1 w2)]
      · rw [if_neg w2]
        by_cases w3 : k < S.sg 5 i
        · rw [if_pos w3, if_neg (show ¬ (¬ S.sg 5 i < 0 ∧ S.sg 5 i ≤ k) from fun q => Int32.not_le.mpr w3 q.2)]
        · rw [if_neg w3, if_pos (show ¬ S.sg 5 i < 0 ∧ S.sg 5 i ≤ k from ⟨w2, Int32.not_lt.mp w3⟩)]; rfl
  have all : ∀ n, n ≤ S.ns → (∀ j, j < n → fitI S k p j = true) → fitN S k p n = true := by
    intro n
    induction n with
    | zero => intro _ _; rfl
    | succ n ih => intro h1 h2; rw [fitN, ih (by omega) (fun j hj => h2 j (by omega)), h2 n (by omega)]; rfl
  have none_ : ∀ n i, i < n → fitI S k p i = false → fitN S k p n = false := by
    intro n
    induction n with
    | zero => intro i hi; omega
    | succ n ih =>
      intro i hi h
      rw [fitN]
      by_cases e : i = n
      · subst e; rw [h, Bool.and_false]
      · rw [ih i (by omega) h, Bool.false_and]
  rw [f_X4_doesFit]
  cases hf : firstN (fun i => !(fitI S k p i)) S.ns with
  | some i =>
    obtain ⟨f1, f2, f3⟩ := firstN_some hf
    have hl : g_loop g_K (fun (s : Int32) => f_X4_doesFit_l2 gi k s) 0 = some (.inr 0) := by
      refine loop_T (fun j => N j) i rfl ?_ ?_ (by simp only [g_K]; omega)
      · intro j hj
        have := f3 j hj
        simp only [Bool.not_eq_false'] at this
        rw [st j (by omega), this]; rfl
      · simp only [Bool.not_eq_true'] at f2
        rw [st i f1, f2]; rfl
    simp only [Bool.not_eq_true'] at f2
    rw [hl, fits', none_ S.ns i f1 f2]; rfl
  | none =>
    have f3 := firstN_none hf
    have hl : g_loop g_K (fun (s : Int32) => f_X4_doesFit_l2 gi k s) 0 = some (.inl ()) := by
      refine loop_T (fun j => N j) S.ns rfl ?_ ?_ (by simp only [g_K]; omega)
      · intro j hj
        have := f3 j hj
        simp only [Bool.not_eq_false'] at this
        rw [st j (by omega), this]; rfl
      · rw [f_X4_doesFit_l2, r.ns, if_pos (Int32.le_refl _)]
    rw [hl, fits', all S.ns (Nat.le_refl _) (fun j hj => by have := f3 j hj; simpa using this)]; rfl
/-- only cell 51 is written -/
theorem m_layOrder {gi : GI} {B : Bk} (bk : MBk gi B) {v : Nat} (hv : v < 3125) : ∃ gi', f_X4_layOrder gi (N v) = some (if dOk (firsts B) v (firsts B) then 1 else 0, gi') ∧ (dOk (firsts B) v (firsts B) = true → liesM gi' (firsts B) (dgs (firsts B) v (firsts B))) ∧ ∀ c, c ≠ 51 → gi' c = gi c := by
  have h5 := firsts_le bk.ok
  generalize hF : firsts B = F at h5
  have key := loop_J (body := fun (s : Int32 × Int32 × Int32 × GI) => f_X4_layOrder_l7 s.1 s.2.1 s.2.2.1 s.2.2.2) (fun n s => ∃ m, n = F - m ∧ m ≤ F ∧ s.1 = N (v / F ^ m) ∧ s.2.1 = N (mask (dgs F v m)) ∧ s.2.2.1 = N m ∧ dOk F v m = true ∧ (∀ i, i < m → s.2.2.2 51 i = N ((dgs F v m).getD i 9)) ∧ ∀ c, c ≠ 51 → s.2.2.2 c = gi c) (fun e => match e with | .inl g => dOk F v F = true ∧ (∀ i, i < F → g 51 i = N ((dgs F v F).getD i 9)) ∧ ∀ c, c ≠ 51 → g c = gi c | .inr q => q.1 = 0 ∧ dOk F v F = false ∧ ∀ c, c ≠ 51 → q.2 c = gi c) (by
    rintro n ⟨x2, x3, x4, gj⟩ ⟨m, m0, m1, m2, m3, m4, m5, m6, m7⟩
    dsimp only at m2 m3 m4 m6 m7 ⊢
    subst m2 m3 m4
    have bj : MBk gj B := (show Fr gi gj from ⟨by rw [m7 0 (by decide)], fun c _ _ => m7 c (by omega)⟩).book bk
    have fj : f_X4_firsts gj = some (N F) := by rw [m_firsts bj, hF]
    rw [f_X4_layOrder_l7, fj, Option.bind_some, if_le (by omega) (by omega)]
    by_cases hm : m = F
    · right
      subst hm
      rw [if_pos (Nat.le_refl _)]
      exact ⟨_, rfl, m5, m6, m7⟩
    · have F0 : 0 < F := by omega
      have dl : v / F ^ m < 3125 := Nat.lt_of_le_of_lt (Nat.div_le_self _ _) hv
      have dm := Nat.mod_lt (v / F ^ m) F0
      have hz : g_nz (N F) = some () := by rw [g_nz, if_neg]; rw [show (0 : Int32) = N 0 from rfl, N_eq (by omega) (by omega)]; omega
      have b2 : MBk (g_pi gj 51 m (N (v / F ^ m % F))) B := (show Fr gj _ from ⟨by rw [pi_off (by decide)], fun c _ _ => pi_off (by omega)⟩).book bj
      have f2 : f_X4_firsts (g_pi gj 51 m (N (v / F ^ m % F))) = some (N F) := by rw [m_firsts b2, hF]
      have ml : mask (dgs F v m) < 32 := Nat.lt_of_lt_of_le (mask_lt _ (fun x hx => dgs_lt F0 m x hx)) (Nat.pow_le_pow_right (by decide) h5)
      have e51 : g_pi gj 51 m (N (v / F ^ m % F)) 51 m = N (v / F ^ m % F) := by simp [pi_get]
      rw [if_neg (by omega), Option.bind_some, hz, Option.bind_some, N_mod (by omega) (by omega) F0, N_st (by omega) (by decide), Option.bind_some, f2, Option.bind_some, hz, Option.bind_some, N_ld (by omega) (by decide), Option.bind_some, e51, m_hasB ml (by omega), Option.bind_some, mask_bit]
      have d1 : dOk F v (m + 1) = !((dgs F v m).contains (v / F ^ m % F)) := by rw [dOk, m5, Bool.true_and]
      cases hc : (dgs F v m).contains (v / F ^ m % F) with
      | true =>
        right
        rw [if_pos rfl, if_neg (by decide)]
        refine ⟨_, rfl, rfl, ?_, fun c hc => (pi_off hc).trans (m7 c hc)⟩
        rw [hc] at d1
        have up : ∀ t, m + 1 + t ≤ F → dOk F v (m + 1 + t) = false := by
          intro t
          induction t with
          | zero => intro _; exact d1
          | succ t ih => intro h; rw [show m + 1 + (t + 1) = (m + 1 + t) + 1 by omega, dOk, ih (by omega), Bool.false_and]
        have := up (F - (m + 1)) (by omega)
        rw [show m + 1 + (F - (m + 1)) = F by omega] at this
        exact this
      | false =>
        left
        rw [hc] at d1
        rw [if_pos (by rfl), Option.bind_some, N_div (by omega) (by omega), (bits _ ml _ (by omega)).2, Nat.div_div_eq_div_mul, ← Nat.pow_succ, show (1 : Int32) = N 1 from rfl, N_add, ← mask_snoc]
        refine ⟨_, rfl, F - (m + 1), by omega, m + 1, rfl, by omega, rfl, rfl, rfl, d1, ?_, fun c hc => (pi_off hc).trans (m7 c hc)⟩
        intro i hi
        dsimp only
        rw [dgs]
        by_cases q : i = m
        · subst q
          have := getD_snoc (dgs F v i) (v / F ^ i % F) 9
          rw [dgs_len] at this
          rw [e51, this]
        · rw [pi_get, if_neg (by omega), getD_left _ _ _ (by rw [dgs_len]; omega)]
          exact m6 i (by omega)) (n := F) (s := (N v, 0, 0, gi)) ⟨0, by omega, by omega, by simp, rfl, rfl, rfl, fun i hi => by omega, fun _ _ => rfl⟩ (by simp only [g_K]; omega)
  obtain ⟨e, k1, k2⟩ := key
  rw [f_X4_layOrder, k1, Option.bind_some]
  cases e with
  | inl g =>
    obtain ⟨k2, k3, k4⟩ := k2
    refine ⟨g, by rw [k2]; rfl, fun _ => ⟨dgs_len F v F, fun i hi => ⟨k3 i hi, ?_⟩⟩, k4⟩
    have hl : i < (dgs F v F).length := by rw [dgs_len]; exact hi
    have : (dgs F v F).getD i 9 = (dgs F v F)[i] := by simp [List.getD_eq_getElem?_getD, List.getElem?_eq_getElem hl]
    rw [this]
    exact dgs_lt (by omega) F _ (List.getElem_mem hl)
  | inr q =>
    obtain ⟨k2, k3, k4⟩ := k2
    exact ⟨q.2, by rw [k3, ← k2]; rfl, fun h => absurd (k3.symm.trans h) (by decide), k4⟩
theorem perM_succ (F n : Nat) : perM F (n + 1) = perM F n ++ (if dOk F n F then [dgs F n F] else []) := by
  unfold perM
  rw [List.range_succ, List.filter_append, List.map_append]
  congr 1
  cases h : dOk F n F <;> simp [h]
/-- counts lie in the model -/
abbrev MO (gi : GI) (S : St) (k : Int32) (n : Nat) (gj : GI) : Prop := (gj 0 80 = N ((perM (firsts S.B) n).countP (fits' S k))) ∧ (∀ m b, m < 5 → b < 5 → gj 52 (5 * m + b) = N ((perM (firsts S.B) n).countP (fitB S k m b))) ∧ (∀ c, c ≠ 80 → gj 0 c = gi 0 c) ∧ (∀ c, c ≠ 0 → c ≠ 51 → c ≠ 52 → gj c = gi c)
theorem MO.cnt {gi : GI} {S : St} {k : Int32} {n : Nat} {gj : GI} (h : MO gi S k n gj) : gj 0 80 = N ((perM (firsts S.B) n).countP (fits' S k)) := h.1
theorem MO.tal {gi : GI} {S : St} {k : Int32} {n : Nat} {gj : GI} (h : MO gi S k n gj) : ∀ m b, m < 5 → b < 5 → gj 52 (5 * m + b) = N ((perM (firsts S.B) n).countP (fitB S k m b)) := h.2.1
theorem MO.own {gi : GI} {S : St} {k : Int32} {n : Nat} {gj : GI} (h : MO gi S k n gj) : ∀ c, c ≠ 80 → gj 0 c = gi 0 c := h.2.2.1
theorem MO.cells {gi : GI} {S : St} {k : Int32} {n : Nat} {gj : GI} (h : MO gi S k n gj) : ∀ c, c ≠ 0 → c ≠ 51 → c ≠ 52 → gj c = gi c := h.2.2.2
theorem MO.fr {gi gj : GI} {S : St} {k : Int32} {n : Nat} (h : MO gi S k n gj) : MFr gi gj := ⟨h.own 41 (by decide), fun c h1 h2 => h.cells c (by omega) (by omega) (by omega), fun j hj => h.own j (by omega), fun c hc => h.cells c (by omega) (by omega) (by omega)⟩
theorem m_layOrders {gi : GI} {S : St} (r : RM gi S) (o : SOk S) (k : Int32) : ∃ gi', f_X4_layOrders gi k = some gi' ∧ RM gi' S ∧ gi' 0 80 = N (oN S k) ∧ ∀ m b, m < 5 → b < 5 → gi' 52 (5 * m + b) = N (oT S k m b) := by
  have h5 := firsts_le o.bok
  have hp5 := pow5 (firsts S.B) (by omega)
  generalize hF : firsts S.B = F at h5 hp5
  have pw : ∀ m, m ≤ F → F ^ m ≤ 3125 := by
    intro m hm
    by_cases q : F = 0
    · subst q
      have : m = 0 := by omega
      subst this; decide
    · exact Nat.le_trans (Nat.pow_le_pow_right (by omega) hm) hp5
  have l1 : g_loop g_K (fun (s : Int32 × Int32) => f_X4_layOrders_l4 gi k s.1 s.2) (1, 0) = some (N (F ^ F)) := by
    refine loop_T (fun i => (N (F ^ i), N i)) F rfl ?_ ?_ (by simp only [g_K]; omega)
    · intro i hi
      dsimp only
      rw [f_X4_layOrders_l4, m_firsts r.book, hF, Option.bind_some, if_le (by omega) (by omega), if_neg (by omega), Option.bind_some, N_mul, show (1 : Int32) = N 1 from rfl, N_add, Nat.pow_succ]
    · dsimp only
      rw [f_X4_layOrders_l4, m_firsts r.book, hF, Option.bind_some, if_le (by omega) (by omega), if_pos (Nat.le_refl _)]
  have l2 := loop_copy (body := fun (s : Int32 × GI) => f_X4_layOrders_l32 k (N (F ^ F)) s.1 s.2) (gi := g_pi gi 0 80 0) (c := 52) (off := 0) (n := 25) (src := fun _ => 0) (by decide) (by
    intro i gj hi hg
    show f_X4_layOrders_l32 k (N (F ^ F)) (N i) gj = _
    rw [f_X4_layOrders_l32, show (25 : Int32) = N 25 from rfl, if_le (by omega) (by omega), if_neg (by omega), N_st hi (by decide), Option.bind_some, show (1 : Int32) = N 1 from rfl, N_add, Nat.zero_add]) (fun gj => rfl)
  rw [f_X4_layOrders, l1, Option.bind_some, f_X4_layOrders_x4, Option.bind_some, l2, Option.bind_some, f_X4_layOrders_x32]
  have mo0 : MO gi S k 0 (va_up (g_pi gi 0 80 0) 52 (cpo (g_pi gi 0 80 0 52) (fun _ => 0) 0 25)) := by
    refine ⟨?_, ?_, ?_, ?_⟩
    · rw [up_ne _ _ _ (by decide), pi_get, if_pos ⟨rfl, rfl⟩]; rfl
    · intro m b hm hb
      rw [up_same, cpo, if_pos (by omega)]; rfl
    · intro c hc
      rw [up_ne _ _ _ (by decide), pi_get, if_neg (by omega)]
    · intro c h1 h2 h3
      rw [up_ne _ _ _ h3, pi_off h1]
  obtain ⟨gi', k1, k2⟩ := loop_J (body := fun (s : Int32 × GI) => f_X4_layOrders_l53 k (N (F ^ F)) s.1 s.2) (fun n s => ∃ v, n = F ^ F - v ∧ v ≤ F ^ F ∧ s.1 = N v ∧ MO gi S k v s.2) (fun e => MO gi S k (F ^ F) e) (by
    rintro n ⟨x3, gj⟩ ⟨v, v0, v1, v2, v3⟩
    dsimp only at v2 v3 ⊢
    subst v2
    rw [f_X4_layOrders_l53, if_le (by omega) (by omega)]
    by_cases hv : v = F ^ F
    · right
      rw [if_pos (by omega)]
      exact ⟨_, rfl, by rw [← hv]; exact v3⟩
    · left
      have rj := v3.fr.rm r
      obtain ⟨g1, a1, a2, a3⟩ := m_layOrder rj.book (show v < 3125 by omega)
      rw [hF] at a1 a2
      have e1 : N v + 1 = N (v + 1) := by rw [show (1 : Int32) = N 1 from rfl, N_add]
      have f1 : MFr gj g1 := ⟨by rw [a3 0 (by decide)], fun c _ _ => a3 c (by omega), fun j _ => by rw [a3 0 (by decide)], fun c hc => a3 c (by omega)⟩
      have r1 := f1.rm rj
      rw [if_neg (by omega), a1, Option.bind_some, e1]
      cases hd : dOk F v F with
      | false =>
        dsimp only
        rw [if_pos (by rfl)]
        refine ⟨_, rfl, F ^ F - (v + 1), by omega, v + 1, rfl, by omega, rfl, ?_⟩
        have ep : perM (firsts S.B) (v + 1) = perM (firsts S.B) v := by rw [perM_succ, hF, hd]; simp
        show MO gi S k (v + 1) g1
        refine ⟨?_, ?_, ?_, ?_⟩
        · rw [ep, a3 0 (by decide)]; exact v3.cnt
        · rw [ep, a3 52 (by decide)]; exact v3.tal
        · rw [a3 0 (by decide)]; exact v3.own
        · intro c h1 h2 h3; rw [a3 c h2]; exact v3.cells c h1 h2 h3
      | true =>
        dsimp only
        have lies := a2 hd
        rw [if_neg (by decide), m_doesFit r1 o (by rw [hF]; exact lies) k, Option.bind_some]
        have ep : perM (firsts S.B) (v + 1) = perM (firsts S.B) v ++ [dgs F v F] := by rw [perM_succ, hF, hd]; simp
        cases hf : fits' S k (dgs F v F) with
        | false =>
          rw [if_pos (by rfl)]
          refine ⟨_, rfl, F ^ F - (v + 1), by omega, v + 1, rfl, by omega, rfl, ?_⟩
          show MO gi S k (v + 1) g1
          refine ⟨?_, ?_, ?_, ?_⟩
          · rw [ep, List.countP_append, List.countP_singleton, hf, a3 0 (by decide)]; exact v3.cnt
          · intro m b hm hb
            have : fitB S k m b (dgs F v F) = false := by unfold fitB; rw [hf, Bool.false_and]
            rw [ep, List.countP_append, List.countP_singleton, this, a3 52 (by decide)]; exact v3.tal m b hm hb
          · rw [a3 0 (by decide)]; exact v3.own
          · intro c h1 h2 h3; rw [a3 c h2]; exact v3.cells c h1 h2 h3
        | true =>
          rw [if_neg (by decide), Option.bind_some]
          generalize hg2 : g_pi g1 0 80 (g1 0 80 + 1) = g2
          have w2 : ∀ c, c ≠ 0 → g2 c = g1 c := fun c hc => by rw [← hg2, pi_off hc]
          have b2 : MBk g2 S.B := (show Fr g1 g2 from ⟨by rw [← hg2, pi_get, if_neg (by omega)], fun c _ _ => w2 c (by omega)⟩).book r1.book
          obtain ⟨g3, c1, c2, c3⟩ := loop_J (body := fun (s : Int32 × GI) => f_X4_layOrders_l90 k (N (F ^ F)) (N v) s.1 s.2) (fun n s => ∃ m, n = F - m ∧ m ≤ F ∧ s.1 = N m ∧ (∀ c, c ≠ 52 → s.2 c = g2 c) ∧ ∀ i b, i < 5 → b < 5 → s.2 52 (5 * i + b) = g2 52 (5 * i + b) + (if i < m ∧ (dgs F v F).getD i 9 = b then 1 else 0)) (fun g => (∀ c, c ≠ 52 → g c = g2 c) ∧ ∀ i b, i < 5 → b < 5 → g 52 (5 * i + b) = g2 52 (5 * i + b) + (if i < F ∧ (dgs F v F).getD i 9 = b then 1 else 0)) (by
            rintro n ⟨x, gq⟩ ⟨m, m0, m1, m2, m3, m4⟩
            dsimp only at m2 m3 m4 ⊢
            subst m2
            have bq : MBk gq S.B := (show Fr g2 gq from ⟨by rw [m3 0 (by decide)], fun c _ _ => m3 c (by omega)⟩).book b2
            rw [f_X4_layOrders_l90, m_firsts bq, hF, Option.bind_some, if_le (by omega) (by omega)]
            by_cases hm : m = F
            · right
              subst hm
              rw [if_pos (Nat.le_refl _)]
              exact ⟨_, rfl, m3, m4⟩
            · left
              obtain ⟨q1, q2⟩ := lies.2 m (by omega)
              have e51 : gq 51 m = N ((dgs F v F).getD m 9) := by rw [m3 51 (by decide), w2 51 (by decide)]; exact q1
              rw [if_neg (by omega), N_ld (by omega) (by decide), Option.bind_some, e51, show (5 : Int32) = N 5 from rfl, N_mul, N_add, N_ld (by omega) (by decide), Option.bind_some, N_st (by omega) (by decide), Option.bind_some]
              refine ⟨_, rfl, F - (m + 1), by omega, m + 1, rfl, by omega, N_add m 1, fun c hc => (pi_off hc).trans (m3 c hc), ?_⟩
              intro i b hi hb
              dsimp only
              rw [pi_get]
              by_cases w : i = m ∧ (dgs F v F).getD m 9 = b
              · obtain ⟨w1, w2⟩ := w
                subst w1
                rw [if_pos ⟨rfl, by rw [w2]⟩, if_pos (show i < i + 1 ∧ (dgs F v F).getD i 9 = b from ⟨by omega, w2⟩), w2, m4 i b hi hb, if_neg (show ¬ (i < i ∧ (dgs F v F).getD i 9 = b) from fun u => absurd u.1 (Nat.lt_irrefl _)), Int32.add_zero]
              · rw [if_neg (by omega), m4 i b hi hb]
                by_cases w2 : i < m ∧ (dgs F v F).getD i 9 = b
                · rw [if_pos w2, if_pos (show i < m + 1 ∧ (dgs F v F).getD i 9 = b from ⟨by omega, w2.2⟩)]
                · rw [if_neg w2, if_neg (show ¬ (i < m + 1 ∧ (dgs F v F).getD i 9 = b) from fun u => by
                    by_cases e : i = m
                    · subst e; exact w ⟨rfl, u.2⟩
                    · exact w2 ⟨by omega, u.2⟩)]) (n := F) (s := (0, g2)) ⟨0, by omega, by omega, rfl, fun _ _ => rfl, fun i b hi hb => by rw [if_neg (show ¬ (i < 0 ∧ (dgs F v F).getD i 9 = b) from fun u => absurd u.1 (Nat.not_lt_zero _)), Int32.add_zero]⟩ (by simp only [g_K]; omega)
          rw [c1, Option.bind_some, f_X4_layOrders_x90, e1]
          refine ⟨_, rfl, F ^ F - (v + 1), by omega, v + 1, rfl, by omega, rfl, ?_⟩
          have t2 : ∀ c, c ≠ 0 → c ≠ 52 → g3 c = g1 c := fun c h1 h2 => by rw [c2 c h2, w2 c h1]
          refine ⟨?_, ?_, ?_, ?_⟩
          · rw [ep, List.countP_append, List.countP_singleton, hf]
            show g3 0 80 = _
            rw [c2 0 (by decide), ← hg2, pi_get, if_pos ⟨rfl, rfl⟩, a3 0 (by decide), v3.cnt, show (1 : Int32) = N 1 from rfl, N_add]; rfl
          · intro m b hm hb
            show g3 52 (5 * m + b) = _
            rw [ep, List.countP_append, List.countP_singleton, c3 m b hm hb, w2 52 (by decide), a3 52 (by decide), v3.tal m b hm hb]
            unfold fitB
            rw [hf, Bool.true_and]
            by_cases w : (dgs F v F).getD m 9 = b
            · have hmF : m < F := by
                apply Classical.byContradiction
                intro c
                have : (dgs F v F).getD m 9 = 9 := by
                  rw [List.getD_eq_getElem?_getD, List.getElem?_eq_none (by rw [dgs_len]; omega)]; rfl
                omega
              rw [if_pos ⟨hmF, w⟩, w, show (1 : Int32) = N 1 from rfl, N_add]; simp
            · rw [if_neg (fun q => w q.2), Int32.add_zero]
              have : ((dgs F v F).getD m 9 == b) = false := by simpa using w
              rw [this]; simp
          · intro c hc
            show g3 0 c = _
            rw [c2 0 (by decide), ← hg2, pi_get, if_neg (by omega), a3 0 (by decide)]; exact v3.own c hc
          · intro c h1 h2 h3
            show g3 c = _
            rw [t2 c h1 h3, a3 c h2]; exact v3.cells c h1 h2 h3) (n := F ^ F) (s := (0, va_up (g_pi gi 0 80 0) 52 (cpo (g_pi gi 0 80 0 52) (fun _ => 0) 0 25))) ⟨0, by omega, by omega, rfl, mo0⟩ (by simp only [g_K]; omega)
  rw [k1, Option.bind_some, f_X4_layOrders_x53]
  refine ⟨gi', rfl, k2.fr.rm r, ?_, ?_⟩
  · rw [k2.cnt, oN, hF]
  · intro m b hm hb
    rw [k2.tal m b hm hb, oT, hF]
theorem m_orders {gi : GI} {S : St} (r : RM gi S) (o : SOk S) (k : Int32) : ∃ gi', f_X4_orders gi k = some (q_orders S k, gi') ∧ RM gi' S := by
  obtain ⟨g1, a1, a2, a3, a4⟩ := m_layOrders r o k
  rw [f_X4_orders, a1, Option.bind_some, a3]
  exact ⟨g1, rfl, a2⟩
theorem m_sure {gi : GI} {S : St} (r : RM gi S) (o : SOk S) (x k : Int32) : ∃ gi', f_X4_sure gi x k = some (q_sure S x k, gi') ∧ RM gi' S := by
  have h5 := firsts_le o.bok
  have hle := oN_le S k (by omega)
  rw [f_X4_sure, m_isFirst r.book, Option.bind_some]
  unfold q_sure
  cases h : asQ x (firsts S.B) with
  | none => exact ⟨gi, rfl, r⟩
  | some m =>
    obtain ⟨rfl, hm⟩ := asQ_some h
    simp only [Option.isSome_some, if_true]
    obtain ⟨g1, a1, a2, a3, a4⟩ := m_layOrders r o k
    rw [if_neg (by decide), a1, Option.bind_some]
    refine ⟨g1, ?_, a2⟩
    have x17 : f_X4_sure_x17 g1 = some (if oN S k = 0 then -1 else -2, g1) := by
      rw [f_X4_sure_x17, a3, show (0 : Int32) = N 0 from rfl, if_eq (by omega) (by omega)]
      split <;> rfl
    by_cases h0 : oN S k = 0
    · have hl : g_loop g_K (fun (s : Int32) => f_X4_sure_l17 g1 (N m) s) 0 = some (.inl ()) := by
        refine loop_T (fun j => N j) 0 rfl (fun i hi => by omega) ?_ (by decide)
        rw [f_X4_sure_l17, if_neg (by decide), a3, h0, if_pos (by decide)]
      rw [hl, Option.bind_some, if_pos h0]
      show f_X4_sure_x17 g1 = _
      rw [x17, if_pos h0]
    · rw [if_neg h0]
      have st : ∀ b, b < 5 → f_X4_sure_l17 g1 (N m) (N b) = if oT S k m b = oN S k then some (.inr (.inr (N b, g1))) else some (.inl (N (b + 1))) := by
        intro b hb
        have := oT_le S k m b
        rw [f_X4_sure_l17, show (5 : Int32) = N 5 from rfl, if_le (by omega) (by omega), if_neg (by omega), a3, show (0 : Int32) = N 0 from rfl, if_le (by omega) (by omega), if_neg (by omega), N_mul, N_add, N_ld (by omega) (by decide), Option.bind_some, a4 m b (by omega) hb, if_eq (by omega) (by omega), show (1 : Int32) = N 1 from rfl, N_add]
      cases hf : firstN (fun b => decide (oT S k m b = oN S k)) 5 with
      | some b =>
        obtain ⟨f1, f2, f3⟩ := firstN_some hf
        have hl : g_loop g_K (fun (s : Int32) => f_X4_sure_l17 g1 (N m) s) 0 = some (.inr (N b, g1)) := by
          refine loop_T (fun j => N j) b rfl ?_ ?_ (by simp only [g_K]; omega)
          · intro j hj
            rw [st j (by omega), if_neg (by simpa using f3 j hj)]
          · rw [st b f1, if_pos (by simpa using f2)]
        rw [hl]; rfl
      | none =>
        have f3 := firstN_none hf
        have hl : g_loop g_K (fun (s : Int32) => f_X4_sure_l17 g1 (N m) s) 0 = some (.inl ()) := by
          refine loop_T (fun j => N j) 5 rfl ?_ ?_ (by decide)
          · intro j hj
            rw [st j (by omega), if_neg (by simpa using f3 j hj)]
          · rw [f_X4_sure_l17, if_pos (by decide)]
        rw [hl, Option.bind_some]
        show f_X4_sure_x17 g1 = _
        rw [x17, if_neg h0]
theorem m_ask {gi : GI} {S : St} (r : RM gi S) (o : SOk S) (x k : Int32) : ∃ gi', f_X4_ask gi x k = some (q_ask S x k, gi') ∧ RM gi' S := by
  have h5 := firsts_le o.bok
  have hle := oN_le S k (by omega)
  rw [f_X4_ask, m_isIn, in01, Option.bind_some]
  unfold q_ask
  by_cases hx : x = 0 ∨ x = 1
  · rw [if_pos hx, if_neg (by decide), if_pos hx]
    obtain ⟨g1, a1, a2, a3, a4⟩ := m_layOrders r o k
    rw [a1, Option.bind_some]
    refine ⟨g1, ?_, a2⟩
    have fs := m_firsts a2.book
    by_cases h0 : oN S k = 0
    · have hl : g_loop g_K (fun (s : Int32 × Int32 × Int32) => f_X4_ask_l24 g1 x s.1 s.2.1 s.2.2) (-1, 0, 0) = some (-1, 0) := by
        refine loop_T (fun j => (-1, 0, 0)) 0 rfl (fun i hi => by omega) ?_ (by decide)
        dsimp only
        rw [f_X4_ask_l24, fs, Option.bind_some, a3, h0]
        split
        · rfl
        · rw [if_pos (by decide)]
      rw [hl, Option.bind_some, f_X4_ask_x24, if_pos h0, if_neg (by decide)]
    · rw [if_neg h0]
      have inn : ∀ (x3 x4 : Int32) (m : Nat), m < 5 → g_loop g_K (fun (s : Int32 × Int32) => f_X4_ask_l46 g1 x x3 x4 (N m) s.1 s.2) (0, 0) = some (N (mostT S k m 5)) := by
        intro x3 x4 m hm
        refine loop_T (fun b => (N (mostT S k m b), N b)) 5 rfl ?_ ?_ (by decide)
        · intro b hb
          dsimp only
          have t1 := oT_le S k m b
          have t2 := mostT_le S k m b
          rw [f_X4_ask_l46, show (5 : Int32) = N 5 from rfl, if_le (by omega) (by omega), if_neg (by omega), N_mul, N_add, N_ld (by omega) (by decide), Option.bind_some, a4 m b hm hb, if_le (by omega) (by omega), Option.bind_some, show (1 : Int32) = N 1 from rfl, N_add, mostT]
          by_cases q : mostT S k m b < oT S k m b
          · rw [if_neg (by omega), if_pos q]
          · rw [if_pos (by omega), if_neg q]
        · dsimp only
          rw [f_X4_ask_l46, if_pos (by decide)]
      have hl : g_loop g_K (fun (s : Int32 × Int32 × Int32) => f_X4_ask_l24 g1 x s.1 s.2.1 s.2.2) (-1, 0, 0) = some (match askN S k (firsts S.B) with | none => (-1, 0) | some q => (N q.1, N q.2)) := by
        refine loop_T (fun m => match askN S k m with | none => (-1, 0, N m) | some q => (N q.1, N q.2, N m)) (firsts S.B) rfl ?_ ?_ (by simp only [g_K]; omega)
        · intro m hm
          have e1 : N m + 1 = N (m + 1) := by rw [show (1 : Int32) = N 1 from rfl, N_add]
          have mm := mostT_le S k m 5
          cases hq : askN S k m with
          | none =>
            dsimp only
            rw [f_X4_ask_l24, fs, Option.bind_some, if_le (by omega) (by omega), if_neg (by omega), a3, show (0 : Int32) = N 0 from rfl, if_le (by omega) (by omega), if_neg (by omega)]
            show ((g_loop g_K (fun (s : Int32 × Int32) => f_X4_ask_l46 g1 x (-1) 0 (N m) s.1 s.2) (0, 0)).bind _ : Option ((Int32 × Int32 × Int32) ⊕ (Int32 × Int32))) = _
            rw [inn _ _ m (by omega), Option.bind_some, f_X4_ask_x46, if_pos (by decide), f_X4_ask_j103, e1, askN, hq]
          | some q =>
            obtain ⟨l1, l2⟩ := askN_le S k m q hq
            dsimp only
            rw [f_X4_ask_l24, fs, Option.bind_some, if_le (by omega) (by omega), if_neg (by omega), a3, show (0 : Int32) = N 0 from rfl, if_le (by omega) (by omega), if_neg (by omega)]
            show ((g_loop g_K (fun (s : Int32 × Int32) => f_X4_ask_l46 g1 x (N q.1) (N q.2) (N m) s.1 s.2) (0, 0)).bind _ : Option ((Int32 × Int32 × Int32) ⊕ (Int32 × Int32))) = _
            rw [inn _ _ m (by omega), Option.bind_some, f_X4_ask_x46, if_neg (N_nneg (by omega)), if_lt (by omega) (by omega), f_X4_ask_j103, e1, askN, hq]
            dsimp only
            by_cases w : mostT S k m 5 < q.2
            · rw [if_pos w, if_pos w]
            · rw [if_neg w, if_neg w]
        · cases hq : askN S k (firsts S.B) with
          | none =>
            dsimp only
            rw [f_X4_ask_l24, fs, Option.bind_some, if_pos (Int32.le_refl _)]
          | some q =>
            dsimp only
            rw [f_X4_ask_l24, fs, Option.bind_some, if_pos (Int32.le_refl _)]
      rw [hl, Option.bind_some]
      cases hq : askN S k (firsts S.B) with
      | none => rw [f_X4_ask_x24, if_neg (by decide)]
      | some q =>
        obtain ⟨l1, l2⟩ := askN_le S k _ q hq
        dsimp only
        rw [f_X4_ask_x24, if_pos (N_pos (by omega))]
        split <;> rfl
  · rw [if_neg hx, if_pos rfl, if_neg hx]
    exact ⟨gi, rfl, r⟩

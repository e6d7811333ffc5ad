set_option linter.unusedVariables false
set_option linter.unusedSimpArgs false
/-! THE PLAIN LAW: whose book is which, of the component -/
section X15
variable {hk : HK} {nx : Nat} {gi gi' : GI} {gr : GR} {b ask : Nat} {L : List Nat} {sl : Nat} {sf w : Nat → Nat} {S : St}
theorem x_firstMen {B : Bk} (wd : XWd hk gi gr b ask L B) : f_X0_firstMen hk gi gr 0 = some (N (firsts B)) := by
  have h5 := wd.bk.ok.nm
  have h6 := wd.bk.ok.nb
  rw [f_X0_firstMen, x_menN wd, Option.bind_some, wd.f4, Option.bind_some, g_is_of wd.bk.k, Option.bind_some, wd.bk.nb, if_lt (by omega) (by omega)]
  unfold firsts
  by_cases h : B.nm ≤ B.nb
  · rw [if_neg (by omega), if_pos h]
  · rw [if_pos (by omega), if_neg h]
theorem x_isFirst {B : Bk} (wd : XWd hk gi gr b ask L B) (x : Int32) : f_X0_isFirst hk gi gr 0 x = some (if (asQ x (firsts B)).isSome then 1 else 0) := by
  have h5 := firsts_le wd.bk.ok
  rw [f_X0_isFirst, x_firstMen wd, Option.bind_some, x_isIn, isIn_asQ x (by omega), Option.bind_some]
  by_cases q : (asQ x (firsts B)).isSome <;> simp [q, g_zb]
/-- an order lies in the component -/
def liesX (gi : GI) (F : Nat) (p : List Nat) : Prop := ∀ i, i < p.length → gi 40 i = N (p.getD i 9) ∧ p.getD i 9 < F
theorem x_bookOf {B : Bk} (wd : XWd hk gi gr b ask L B) {p : List Nat} (hp : liesX gi (firsts B) p) {m : Nat} (hm : m < p.length) (hm5 : m < 5) : f_X0_bookOf hk gi gr 0 (N m) = some (B.book (p.getD m 9)) := by
  have hl := wd.lay
  obtain ⟨ba, a1, a2, a3, a4⟩ := wd.bk.books
  obtain ⟨q1, q2⟩ := hp m hm
  have hnb := firsts_nb B
  have h6 := wd.bk.ok.nb
  rw [f_X0_bookOf, wd.f4, Option.bind_some, g_is_of wd.bk.k, Option.bind_some, a2, Option.bind_some, hl.f26, Option.bind_some, g_is_of' hl.k40, Option.bind_some, hl.k40, N_ld hm5 (by decide), Option.bind_some, g_is_of' a3, Option.bind_some, a3, q1, N_ld (by omega) (by decide), Option.bind_some, a4 _ (by omega)]
theorem x_fits (r : RX hk nx gi gr b ask L sl sf w S) (o : SOk S) {p : List Nat} (hp : liesX gi (firsts S.B) p) (hlen : p.length = firsts S.B) (rc : HK → GI → GR → Nat → Int32 → Int32 → Int32 → Option (Int32 × GI)) (x1 k : Int32) : g_loop g_K (fun (s : Int32) => f_X0_giveFrom_l11 rc hk gi gr 0 x1 k s) 0 = some (if fits' S k p then .inl () else .inr (0, gi)) := by
  have h30 := o.ns
  have hF := firsts_le o.bok
  have hl := r.wd.lay
  have st : ∀ i, i < S.ns → f_X0_giveFrom_l11 rc hk gi gr 0 x1 k (N i) = if fitI S k p i then some (.inl (N (i + 1))) else some (.inr (.inr (0, gi))) := by
    intro i hi
    have e1 : N i + 1 = N (i + 1) := by rw [show (1 : Int32) = N 1 from rfl, N_add]
    obtain ⟨m, m1, m2⟩ := o.man i hi
    obtain ⟨c1, c2, c3, c4, c5, c6, c7⟩ := r.sgc i hi
    obtain ⟨v0, v1, v2, v3, v4, v5⟩ := r.sgv i hi
    have tell : ∀ x n, x = N n → n < firsts S.B → f_X0_bookOf hk gi gr 0 x = some (bookP S p x) := by
      intro x n hx hn
      subst hx
      rw [x_bookOf r.wd hp (by omega) (by omega), bookP, N_toNat (by omega)]
    have j63 : ∀ c : Bool, f_X12_isSo_j63 hk gi gr (sf i) (if c then 1 else 0) = some (if c == decide (S.sg 3 i = 1) then 1 else 0) := by
      intro c
      rw [f_X12_isSo_j63, v4]
      rcases o.yes i hi with y | y <;> rw [y] <;> cases c <;> rfl
    have so : f_X12_isSo hk gi gr (sf i) = some (if (if S.sg 1 i < 0 then decide (S.sg 2 i ≤ bookP S p (S.sg 0 i)) else decide (bookP S p (S.sg 1 i) < bookP S p (S.sg 0 i))) == decide (S.sg 3 i = 1) then 1 else 0) := by
      rcases o.other i hi with q | ⟨n, n1, n2⟩
      · have v2 := v2 (by rw [q]; decide)
        simp only [f_X12_isSo, v0, v1, c7, g_is_of hl.k0, tell _ m m2 m1, Option.bind_some]
        rw [q, if_neg (by decide), v2, show (if (-1 : Int32) < 0 then decide (S.sg 2 i ≤ bookP S p (S.sg 0 i)) else decide (bookP S p (-1) < bookP S p (S.sg 0 i))) = decide (S.sg 2 i ≤ bookP S p (S.sg 0 i)) from if_pos (by decide), ← j63]
        by_cases u : S.sg 2 i ≤ bookP S p (S.sg 0 i)
        · rw [if_neg (Int32.not_lt.mpr u)]; simp [u]
        · rw [if_pos (Int32.not_le.mp u)]; simp [u]
      · have t2 := tell _ n n2 n1
        simp only [f_X12_isSo, v0, v1, c7, g_is_of hl.k0, tell _ m m2 m1, t2, Option.bind_some]
        rw [n2, if_pos (N_pos (by omega)), if_neg (N_nneg (by omega)), ← j63]
        by_cases u : bookP S p (N n) < bookP S p (S.sg 0 i)
        · rw [if_neg (Int32.not_le.mpr u)]; simp [u]
        · rw [if_pos (Int32.not_lt.mp u)]; simp [u]
    rw [f_X0_giveFrom_l11, hl.f25, Option.bind_some, g_is_of hl.k38, Option.bind_some, f_J2_size, Option.bind_some, r.sgn, if_le (by omega) (by omega), if_neg (by omega), Option.bind_some, g_is_of hl.k38, Option.bind_some, x_sgget r hi o, Option.bind_some, g_is_of c2, Option.bind_some, f_X12_isKnown, v3, v5, e1]
    unfold fitI
    by_cases w1 : k < S.sg 4 i
    · rw [if_pos w1, if_pos w1]; rfl
    · rw [if_neg w1, if_neg w1]
      have known : (if S.sg 5 i < 0 then some (1 : Int32) else if S.sg 5 i ≤ k then some 0 else some 1) = some (if ¬ S.sg 5 i < 0 ∧ S.sg 5 i ≤ k then 0 else 1) := by
        by_cases w2 : S.sg 5 i < 0
        · rw [if_pos w2, if_neg (show ¬ (¬ S.sg 5 i < 0 ∧ S.sg 5 i ≤ k) from fun q => q.1 w2)]
        · rw [if_neg w2]
          by_cases w3 : S.sg 5 i ≤ k
          · rw [if_pos w3, if_pos (show ¬ S.sg 5 i < 0 ∧ S.sg 5 i ≤ k from ⟨w2, w3⟩)]
          · rw [if_neg w3, if_neg (show ¬ (¬ S.sg 5 i < 0 ∧ S.sg 5 i ≤ k) from fun q => w3 q.2)]
      rw [known, Option.bind_some]
      by_cases w4 : ¬ S.sg 5 i < 0 ∧ S.sg 5 i ≤ k
      · rw [if_pos w4, if_pos w4, if_pos rfl]; rfl
      · rw [if_neg w4, if_neg w4, if_neg (by decide), Option.bind_some, g_is_of hl.k38, Option.bind_some, x_sgget r hi o, Option.bind_some, g_is_of c2, Option.bind_some, so, Option.bind_some]
        cases ((if S.sg 1 i < 0 then decide (S.sg 2 i ≤ bookP S p (S.sg 0 i)) else decide (bookP S p (S.sg 1 i) < bookP S p (S.sg 0 i))) == decide (S.sg 3 i = 1)) <;> rfl
  have all : ∀ n, n ≤ S.ns → (∀ j, j < n → fitI S k p j = true) → fitN S k p n = true := by
    intro n
    induction n with
    | zero => intro _ _; rfl
    | succ n ih => intro h1 h2; rw [fitN, ih (by omega) (fun j hj => h2 j (by omega)), h2 n (by omega)]; rfl
  have none_ : ∀ n i, i < n → fitI S k p i = false → fitN S k p n = false := by
    intro n
    induction n with
    | zero => intro i hi; omega
    | succ n ih =>
      intro i hi h
      rw [fitN]
      by_cases e : i = n
      · subst e; rw [h, Bool.and_false]
      · rw [ih i (by omega) h, Bool.false_and]
  cases hf : firstN (fun i => !(fitI S k p i)) S.ns with
  | some i =>
    obtain ⟨f1, f2, f3⟩ := firstN_some hf
    simp only [Bool.not_eq_true'] at f2
    rw [fits', none_ S.ns i f1 f2]
    refine loop_T (fun j => N j) i rfl ?_ ?_ (by simp only [g_K]; omega)
    · intro j hj
      have := f3 j hj
      simp only [Bool.not_eq_false'] at this
      rw [st j (by omega), this]; rfl
    · rw [st i f1, f2]; rfl
  | none =>
    have f3 := firstN_none hf
    rw [fits', all S.ns (Nat.le_refl _) (fun j hj => by have := f3 j hj; simpa using this)]
    refine loop_T (fun j => N j) S.ns rfl ?_ ?_ (by simp only [g_K]; omega)
    · intro j hj
      have := f3 j hj
      simp only [Bool.not_eq_false'] at this
      rw [st j (by omega), this]; rfl
    · rw [f_X0_giveFrom_l11, hl.f25, Option.bind_some, g_is_of hl.k38, Option.bind_some, f_J2_size, Option.bind_some, r.sgn, if_pos (Int32.le_refl _)]; rfl
/-- what the search for orders leaves -/
def KO (gi gj : GI) : Prop := ∀ c, c ≠ 40 → ¬ (42 ≤ c ∧ c ≤ 46) → gj c = gi c
theorem KO.xfr {gj : GI} (h : KO gi gj) (ask : Nat) : XFr ask gi gj := ⟨fun k _ => by rw [h 0 (by decide) (by omega)], fun c _ _ _ _ _ h6 => h c (by omega) (by omega)⟩
def extE (F n : Nat) (pre : List Nat) (j : Nat) : List (List Nat) := (List.range j).flatMap (fun b => if pre.contains b then [] else exts F n (pre ++ [b]))
theorem extE_succ (F n : Nat) (pre : List Nat) (j : Nat) : extE F n pre (j + 1) = extE F n pre j ++ (if pre.contains j then [] else exts F n (pre ++ [j])) := by
  unfold extE
  rw [List.range_succ, List.flatMap_append]
  simp
theorem liesX.mask {F : Nat} (hF : F ≤ 5) {p : List Nat} (h : liesX gi F p) : mask p < 32 := by
  refine Nat.lt_of_lt_of_le (mask_lt (n := F) p (fun x hx => ?_)) (Nat.pow_le_pow_right (by decide) hF)
  obtain ⟨i, hi, e⟩ := List.mem_iff_getElem.mp hx
  have := (h i hi).2
  rw [List.getD_eq_getElem?_getD, List.getElem?_eq_getElem hi, Option.getD_some, e] at this
  exact this
theorem x_give_all (r : RX hk nx gi gr b ask L sl sf w S) (o : SOk S) (k : Int32) : ∀ (n d : Nat) (pre : List Nat) (gj : GI), pre.length + n = firsts S.B → n < d → KO gi gj → liesX gj (firsts S.B) pre → ∃ gk, f_X0_giveFrom d hk gj gr 0 (N pre.length) (N (mask pre)) k = some (N ((exts (firsts S.B) n pre).countP (fits' S k)), gk) ∧ KO gi gk ∧ (∀ i, i < pre.length → gk 40 i = gj 40 i) ∧ ∀ m c, m < 5 → c < 5 → gk (42 + m) c = gj (42 + m) c + N ((exts (firsts S.B) n pre).countP (fitB S k m c)) := by
  have hF5 := firsts_le o.bok
  have hl := r.wd.lay
  generalize hF : firsts S.B = F at hF5
  intro n
  induction n with
  | zero =>
    intro d pre gj hlen hd ko hp
    obtain ⟨d, rfl⟩ : ∃ d', d = d' + 1 := ⟨d - 1, by omega⟩
    have rj := (ko.xfr ask).rx r
    have fm := x_firstMen rj.wd
    rw [hF] at fm
    have hlen : pre.length = F := by omega
    rw [f_X0_giveFrom, f_X0_giveFrom_b, fm, Option.bind_some, hlen, if_pos rfl, x_fits rj o (by rw [hF]; exact hp) (by rw [hF]; exact hlen), Option.bind_some, exts]
    cases hf : fits' S k pre with
    | false =>
      refine ⟨gj, ?_, ko, fun _ _ => rfl, fun m c _ _ => ?_⟩
      · simp [hf]; rfl
      · have : fitB S k m c pre = false := by unfold fitB; rw [hf, Bool.false_and]
        rw [List.countP_singleton, this]
        exact (Int32.add_zero _).symm
    | true =>
      obtain ⟨g3, c1, c2, c3⟩ := loop_J (body := fun (s : Int32 × GI) => f_X0_giveFrom_l71 (f_X0_giveFrom d) hk gr 0 (N F) s.1 s.2) (fun n s => ∃ m, n = F - m ∧ m ≤ F ∧ s.1 = N m ∧ (∀ c, ¬ (42 ≤ c ∧ c ≤ 46) → s.2 c = gj c) ∧ ∀ i c, i < 5 → c < 5 → s.2 (42 + i) c = gj (42 + i) c + (if i < m ∧ pre.getD i 9 = c then 1 else 0)) (fun g => (∀ c, ¬ (42 ≤ c ∧ c ≤ 46) → g c = gj c) ∧ ∀ i c, i < 5 → c < 5 → g (42 + i) c = gj (42 + i) c + (if i < F ∧ pre.getD i 9 = c then 1 else 0)) (by
        rintro n ⟨x, gq⟩ ⟨m, m0, m1, m2, m3, m4⟩
        dsimp only at m2 m3 m4 ⊢
        subst m2
        rw [f_X0_giveFrom_l71, if_le (by omega) (by omega)]
        by_cases hm : m = F
        · right
          subst hm
          rw [if_pos (Nat.le_refl _)]
          exact ⟨_, rfl, m3, m4⟩
        · left
          obtain ⟨q1, q2⟩ := hp m (by omega)
          obtain ⟨t1, t2⟩ := hl.t41 m (by omega)
          have e40 : gq 40 m = N (pre.getD m 9) := by rw [m3 40 (by omega)]; exact q1
          have e1 : N m + 1 = N (m + 1) := by rw [show (1 : Int32) = N 1 from rfl, N_add]
          rw [if_neg (by omega), hl.f27, Option.bind_some, g_is_of' hl.k41, Option.bind_some, hl.k41, N_ldr (by omega) (by decide), t1, Option.bind_some, hl.f26, Option.bind_some, g_is_of' hl.k40, Option.bind_some, hl.k40, N_ld (by omega) (by decide), Option.bind_some, g_is_of' t2, Option.bind_some, t2, e40, N_ld (by omega) (by decide), Option.bind_some, N_st (by omega) (by decide), Option.bind_some, e1]
          refine ⟨_, rfl, F - (m + 1), by omega, m + 1, rfl, by omega, rfl, fun c hc => (pi_off (by omega)).trans (m3 c hc), ?_⟩
          intro i c hi hc
          dsimp only
          rw [pi_get]
          by_cases u : i = m ∧ pre.getD m 9 = c
          · obtain ⟨u1, u2⟩ := u
            subst u1
            rw [if_pos ⟨rfl, by rw [u2]⟩, if_pos (show i < i + 1 ∧ pre.getD i 9 = c from ⟨by omega, u2⟩), u2, m4 i c hi hc, if_neg (show ¬ (i < i ∧ pre.getD i 9 = c) from fun u => absurd u.1 (Nat.lt_irrefl _)), Int32.add_zero]
          · rw [if_neg (by omega), m4 i c hi hc]
            by_cases u2 : i < m ∧ pre.getD i 9 = c
            · rw [if_pos u2, if_pos (show i < m + 1 ∧ pre.getD i 9 = c from ⟨by omega, u2.2⟩)]
            · rw [if_neg u2, if_neg (show ¬ (i < m + 1 ∧ pre.getD i 9 = c) from fun z => by
                by_cases e : i = m
                · subst e; exact u ⟨rfl, z.2⟩
                · exact u2 ⟨by omega, z.2⟩)]) (n := F) (s := (0, gj)) ⟨0, by omega, by omega, rfl, fun _ _ => rfl, fun i c hi hc => by rw [if_neg (show ¬ (i < 0 ∧ pre.getD i 9 = c) from fun u => absurd u.1 (Nat.not_lt_zero _)), Int32.add_zero]⟩ (by simp only [g_K]; omega)
      refine ⟨g3, ?_, fun c h1 h2 => (c2 c h2).trans (ko c h1 h2), fun i _ => by rw [c2 40 (by omega)], ?_⟩
      · rw [if_pos rfl]
        show f_X0_giveFrom_x11 (f_X0_giveFrom d) hk gj gr 0 (N F) = _
        rw [f_X0_giveFrom_x11, c1, Option.bind_some, f_X0_giveFrom_x71, List.countP_singleton, hf]; rfl
      · intro m c hm hc
        rw [c3 m c hm hc, List.countP_singleton]
        unfold fitB
        rw [hf, Bool.true_and]
        by_cases u : pre.getD m 9 = c
        · have hmF : m < F := by
            apply Classical.byContradiction
            intro z
            have : pre.getD m 9 = 9 := by
              rw [List.getD_eq_getElem?_getD, List.getElem?_eq_none (by omega)]; rfl
            omega
          have : (pre.getD m 9 == c) = true := by simpa using u
          rw [if_pos ⟨hmF, u⟩, this]; rfl
        · have : (pre.getD m 9 == c) = false := by simpa using u
          rw [if_neg (fun q => u q.2), this]; rfl
  | succ n ih =>
    intro d pre gj hlen hd ko hp
    obtain ⟨d, rfl⟩ : ∃ d', d = d' + 1 := ⟨d - 1, by omega⟩
    have rj := (ko.xfr ask).rx r
    have fm := x_firstMen rj.wd
    rw [hF] at fm
    have hml : pre.length < F := by omega
    have m32 := hp.mask hF5
    have ee : exts F (n + 1) pre = extE F n pre F := rfl
    obtain ⟨e, k1, k2, k3, k4, k5⟩ := loop_J (body := fun (s : Int32 × Int32 × GI) => f_X0_giveFrom_l110 (f_X0_giveFrom d) hk gr 0 (N pre.length) (N (mask pre)) k s.1 s.2.1 s.2.2) (fun c s => ∃ j, c = F - j ∧ j ≤ F ∧ s.1 = N ((extE F n pre j).countP (fits' S k)) ∧ s.2.1 = N j ∧ KO gi s.2.2 ∧ (∀ i, i < pre.length → s.2.2 40 i = gj 40 i) ∧ ∀ m c, m < 5 → c < 5 → s.2.2 (42 + m) c = gj (42 + m) c + N ((extE F n pre j).countP (fitB S k m c))) (fun e => e.1 = N ((extE F n pre F).countP (fits' S k)) ∧ KO gi e.2 ∧ (∀ i, i < pre.length → e.2 40 i = gj 40 i) ∧ ∀ m c, m < 5 → c < 5 → e.2 (42 + m) c = gj (42 + m) c + N ((extE F n pre F).countP (fitB S k m c))) (by
      rintro c ⟨x4, x5, gq⟩ ⟨j, j0, j1, j2, j3, j4, j5, j6⟩
      dsimp only at j2 j3 j4 j5 j6 ⊢
      subst j2 j3
      have rq := (j4.xfr ask).rx r
      have fq := x_firstMen rq.wd
      rw [hF] at fq
      have e1 : N j + 1 = N (j + 1) := by rw [show (1 : Int32) = N 1 from rfl, N_add]
      rw [f_X0_giveFrom_l110, fq, Option.bind_some, if_le (by omega) (by omega)]
      by_cases hj : j = F
      · right
        subst hj
        rw [if_pos (Nat.le_refl _)]
        exact ⟨_, rfl, rfl, j4, j5, j6⟩
      · left
        obtain ⟨b1, b2⟩ := bits _ m32 j (by omega)
        rw [if_neg (by omega), b1, mask_bit, e1]
        have es := extE_succ F n pre j
        cases hc : pre.contains j with
        | true =>
          rw [if_pos rfl, if_pos rfl]
          rw [hc, if_pos rfl, List.append_nil] at es
          refine ⟨_, rfl, F - (j + 1), by omega, j + 1, rfl, by omega, by rw [es], rfl, j4, j5, ?_⟩
          rw [es]; exact j6
        | false =>
          rw [hc, if_neg (by decide)] at es
          rw [if_neg (by decide), hl.f26, Option.bind_some, g_is_of' hl.k40, Option.bind_some, hl.k40, N_st (by omega) (by decide), Option.bind_some, b2, ← mask_snoc, show (1 : Int32) = N 1 from rfl, N_add]
          have kq : KO gi (g_pi gq 40 pre.length (N j)) := fun c h1 h2 => (pi_off h1).trans (j4 c h1 h2)
          have lq : liesX (g_pi gq 40 pre.length (N j)) F (pre ++ [j]) := by
            intro i hi
            rw [List.length_append] at hi
            have hi : i < pre.length + 1 := hi
            by_cases u : i = pre.length
            · subst u
              rw [getD_snoc, pi_get, if_pos ⟨rfl, rfl⟩]
              exact ⟨rfl, by omega⟩
            · rw [getD_left _ _ _ (by omega), pi_get, if_neg (by omega), j5 i (by omega)]
              exact hp i (by omega)
          have ln : (pre ++ [j]).length = pre.length + 1 := by rw [List.length_append]; rfl
          obtain ⟨gk, c1, c2, c3, c4⟩ := ih d (pre ++ [j]) (g_pi gq 40 pre.length (N j)) (by rw [ln]; omega) (by omega) kq lq
          rw [ln] at c1 c3
          rw [c1, Option.bind_some, N_add]
          refine ⟨_, rfl, F - (j + 1), by omega, j + 1, rfl, by omega, ?_, rfl, c2, ?_, ?_⟩
          · rw [es, List.countP_append]
          · intro i hi
            show gk 40 i = _
            rw [c3 i (by omega), pi_get, if_neg (by omega)]; exact j5 i hi
          · intro m c hm hc
            show gk (42 + m) c = _
            rw [c4 m c hm hc, pi_off (by omega), j6 m c hm hc, es, List.countP_append, ← N_add, Int32.add_assoc]) (n := F) (s := (0, 0, gj)) ⟨0, by omega, by omega, rfl, rfl, ko, fun _ _ => rfl, fun m c _ _ => (Int32.add_zero _).symm⟩ (by simp only [g_K]; omega)
    rw [f_X0_giveFrom, f_X0_giveFrom_b, fm, Option.bind_some, if_eq (by omega) (by omega), if_neg (by omega), k1, Option.bind_some, f_X0_giveFrom_x110, k2, ee]
    exact ⟨e.2, rfl, k3, k4, k5⟩
theorem x_layOrders (r : RX hk nx gi gr b ask L sl sf w S) (o : SOk S) (k : Int32) : ∃ gi', f_X0_layOrders hk gi gr 0 k = some (N (oN S k), gi') ∧ RX hk nx gi' gr b ask L sl sf w S ∧ ∀ m c, m < 5 → c < 5 → gi' (42 + m) c = N (oT S k m c) := by
  have hF5 := firsts_le o.bok
  have hl := r.wd.lay
  obtain ⟨g1, k1, k2, k3⟩ := loop_J (body := fun (s : Int32 × GI) => f_X0_layOrders_l11 hk gr 0 k 41 5 s.1 s.2) (fun n s => ∃ i, n = 5 - i ∧ i ≤ 5 ∧ s.1 = N i ∧ (∀ c, ¬ (42 ≤ c ∧ c ≤ 46) → s.2 c = gi c) ∧ ∀ m c, m < i → c < 5 → s.2 (42 + m) c = 0) (fun g => (∀ c, ¬ (42 ≤ c ∧ c ≤ 46) → g c = gi c) ∧ ∀ m c, m < 5 → c < 5 → g (42 + m) c = 0) (by
    rintro n ⟨x, gj⟩ ⟨i, i0, i1, i2, i3, i4⟩
    dsimp only at i2 i3 i4 ⊢
    subst i2
    rw [f_X0_layOrders_l11, show (5 : Int32) = N 5 from rfl, if_le (by omega) (by omega)]
    by_cases hi : i = 5
    · right
      subst hi
      rw [if_pos (Nat.le_refl _)]
      exact ⟨_, rfl, i3, i4⟩
    · left
      obtain ⟨t1, t2⟩ := hl.t41 i (by omega)
      have lz := loop_copy (body := fun (s : Int32 × GI) => f_X0_layOrders_l26 hk gr 0 k 41 (N 5) (N i) (42 + i) s.1 s.2) (gi := gj) (c := 42 + i) (off := 0) (n := 5) (src := fun _ => 0) (by decide) (by
        intro j gq hj hg
        show f_X0_layOrders_l26 hk gr 0 k 41 (N 5) (N i) (42 + i) (N j) gq = _
        rw [f_X0_layOrders_l26, show (5 : Int32) = N 5 from rfl, if_le (by omega) (by omega), if_neg (by omega), g_is_of' t2, Option.bind_some, t2, N_st hj (by decide), Option.bind_some, show (1 : Int32) = N 1 from rfl, N_add, Nat.zero_add]) (fun gj => rfl)
      rw [if_neg (by omega), hl.k41, N_ldr (by omega) (by decide), t1, Option.bind_some, lz, Option.bind_some, f_X0_layOrders_x26]
      refine ⟨_, rfl, 5 - (i + 1), by omega, i + 1, rfl, by omega, N_add i 1, fun c hc => (up_ne _ _ _ (by omega)).trans (i3 c hc), ?_⟩
      intro m c hm hc
      dsimp only
      by_cases u : m = i
      · subst u; rw [up_same, cpo, if_pos (by omega)]
      · rw [up_ne _ _ _ (by omega)]; exact i4 m c (by omega) hc) (n := 5) (s := (0, gi)) ⟨0, by omega, by omega, rfl, fun _ _ => rfl, fun m c hm => by omega⟩ (by decide)
  have ko : KO gi g1 := fun c _ h2 => k2 c h2
  obtain ⟨g2, a1, a2, a3, a4⟩ := x_give_all r o k (firsts S.B) 8 [] g1 (by simp) (by omega) ko (fun i hi => by simp at hi)
  have hp := per_eq (show firsts S.B < 6 by omega)
  have a1 : f_X0_giveFrom 8 hk g1 gr 0 0 0 k = some (N (oN S k), g2) := by
    have e : (exts (firsts S.B) (firsts S.B) []).countP (fits' S k) = oN S k := hp.countP_eq _
    rw [e] at a1
    exact a1
  rw [f_X0_layOrders, hl.f27, Option.bind_some, g_is_of' hl.k41, Option.bind_some, hl.k41]
  have k1 : g_loop g_K (fun (s : Int32 × GI) => f_X0_layOrders_l11 hk gr 0 k 41 (Int32.ofNat 5) s.1 s.2) (0, gi) = some g1 := k1
  dsimp only
  rw [k1, Option.bind_some, f_X0_layOrders_x11, a1, Option.bind_some]
  refine ⟨g2, rfl, (a2.xfr ask).rx r, ?_⟩
  intro m c hm hc
  have e : (exts (firsts S.B) (firsts S.B) []).countP (fitB S k m c) = oT S k m c := hp.countP_eq _
  rw [a4 m c hm hc, k3 m c hm hc, Int32.zero_add, e]
theorem x_orders (r : RX hk nx gi gr b ask L sl sf w S) (o : SOk S) (k : Int32) : ∃ gi', f_X0_orders hk gi gr 0 k = some (q_orders S k, gi') ∧ RX hk nx gi' gr b ask L sl sf w S := by
  obtain ⟨g1, a1, a2, a3⟩ := x_layOrders r o k
  rw [f_X0_orders, a1, Option.bind_some]
  exact ⟨g1, rfl, a2⟩
theorem x_sure (r : RX hk nx gi gr b ask L sl sf w S) (o : SOk S) (x k : Int32) : ∃ gi', f_X0_sure hk gi gr 0 x k = some (q_sure S x k, gi') ∧ RX hk nx gi' gr b ask L sl sf w S := by
  have h5 := firsts_le o.bok
  have hle := oN_le S k (by omega)
  have hl := r.wd.lay
  rw [f_X0_sure, x_isFirst r.wd, Option.bind_some]
  unfold q_sure
  cases h : asQ x (firsts S.B) with
  | none => exact ⟨gi, rfl, r⟩
  | some m =>
    obtain ⟨rfl, hm⟩ := asQ_some h
    simp only [Option.isSome_some, if_true]
    obtain ⟨g1, a1, a2, a3⟩ := x_layOrders r o k
    obtain ⟨t1, t2⟩ := hl.t41 m (by omega)
    rw [if_neg (by decide), a1, Option.bind_some]
    refine ⟨g1, ?_, a2⟩
    have st : ∀ (v : Int32) (c : Nat), c < 5 → f_X0_sure_l23 hk g1 gr 0 (N m) (N (oN S k)) v (N c) = some (.inl (if oT S k m c = oN S k then N c else v, N (c + 1))) := by
      intro v c hc
      have := oT_le S k m c
      rw [f_X0_sure_l23, show (5 : Int32) = N 5 from rfl, if_le (by omega) (by omega), if_neg (by omega), hl.f27, Option.bind_some, g_is_of' hl.k41, Option.bind_some, hl.k41, N_ldr (by omega) (by decide), t1, Option.bind_some, g_is_of' t2, Option.bind_some, t2, N_ld hc (by decide), Option.bind_some, a3 m c (by omega) hc, if_eq (by omega) (by omega), show (1 : Int32) = N 1 from rfl, N_add]
      split <;> rfl
    by_cases h0 : oN S k = 0
    · rw [if_pos h0]
      obtain ⟨e, k1, k2⟩ := loop_J (body := fun (s : Int32 × Int32) => f_X0_sure_l23 hk g1 gr 0 (N m) (N (oN S k)) s.1 s.2) (fun n s => ∃ c, n = 5 - c ∧ c ≤ 5 ∧ s.2 = N c) (fun e => True) (by
        rintro n ⟨v, x⟩ ⟨c, c0, c1, c2⟩
        dsimp only at c2 ⊢
        subst c2
        by_cases hc : c = 5
        · right
          subst hc
          exact ⟨v, by rw [f_X0_sure_l23, if_pos (by decide)], trivial⟩
        · left
          rw [st v c (by omega)]
          exact ⟨_, rfl, 5 - (c + 1), by omega, c + 1, rfl, by omega, rfl⟩) (n := 5) (s := (-2, 0)) ⟨0, by omega, by omega, rfl⟩ (by decide)
      dsimp only
      rw [k1, Option.bind_some, f_X0_sure_x23, show (0 : Int32) = N 0 from rfl, if_eq (by omega) (by omega), if_pos h0]
    · rw [if_neg h0]
      have hl2 : g_loop g_K (fun (s : Int32 × Int32) => f_X0_sure_l23 hk g1 gr 0 (N m) (N (oN S k)) s.1 s.2) (-2, 0) = some (match firstN (fun b => decide (oT S k m b = oN S k)) 5 with | none => -2 | some b => N b) := by
        refine loop_T (fun i => (match firstN (fun b => decide (oT S k m b = oN S k)) i with | none => -2 | some b => N b, N i)) 5 rfl ?_ ?_ (by decide)
        · intro i hi
          dsimp only
          rw [st _ i hi]
          congr 3
          rw [firstN]
          cases hq : firstN (fun b => decide (oT S k m b = oN S k)) i with
          | none =>
            dsimp only
            by_cases u : oT S k m i = oN S k
            · rw [if_pos u]; simp [u]
            · rw [if_neg u]; simp [u]
          | some c =>
            obtain ⟨f1, f2, f3⟩ := firstN_some hq
            dsimp only
            rw [if_neg]
            intro u
            simp only [decide_eq_true_eq] at f2
            exact h0 (oT_one S k m (show c ≠ i by omega) f2 u)
        · dsimp only
          rw [f_X0_sure_l23, if_pos (by decide)]
      dsimp only
      rw [hl2, Option.bind_some, f_X0_sure_x23, show (0 : Int32) = N 0 from rfl, if_eq (by omega) (by omega), if_neg h0]
      cases firstN (fun b => decide (oT S k m b = oN S k)) 5 <;> rfl
theorem x_ask (r : RX hk nx gi gr b ask L sl sf w S) (o : SOk S) (x k : Int32) : ∃ gi', f_X0_ask hk gi gr 0 x k = some (q_ask S x k, gi') ∧ RX hk nx gi' gr b ask L sl sf w S := by
  have h5 := firsts_le o.bok
  have hle := oN_le S k (by omega)
  have hl := r.wd.lay
  obtain ⟨g1, a1, a2, a3⟩ := x_layOrders r o k
  rw [f_X0_ask, a1, Option.bind_some, x_isIn, in01, Option.bind_some]
  unfold q_ask
  refine ⟨g1, ?_, a2⟩
  have fs := x_firstMen a2.wd
  by_cases hx : x = 0 ∨ x = 1
  · rw [if_pos hx, if_neg (by decide), if_pos hx]
    dsimp only
    rw [show (0 : Int32) = N 0 from rfl, if_eq (by omega) (by omega)]
    by_cases h0 : oN S k = 0
    · rw [if_pos h0, if_pos h0]
    · rw [if_neg h0, if_neg h0]
      have inn : ∀ (x4 x5 : Int32) (m : Nat), m < 5 → g_loop g_K (fun (s : Int32 × Int32) => f_X0_ask_l61 hk g1 gr 0 x x4 x5 (N m) (42 + m) 5 s.1 s.2) (0, 0) = some (N (mostT S k m 5)) := by
        intro x4 x5 m hm
        obtain ⟨t1, t2⟩ := hl.t41 m hm
        refine loop_T (fun c => (N (mostT S k m c), N c)) 5 rfl ?_ ?_ (by decide)
        · intro c hc
          dsimp only
          have u1 := oT_le S k m c
          have u2 := mostT_le S k m c
          rw [f_X0_ask_l61, show (5 : Int32) = N 5 from rfl, if_le (by omega) (by omega), if_neg (by omega), t2, N_ld hc (by decide), Option.bind_some, a3 m c hm hc, if_lt (by omega) (by omega), show (1 : Int32) = N 1 from rfl, N_add, mostT]
          split <;> rfl
        · dsimp only
          rw [f_X0_ask_l61, if_pos (by decide)]
      have hloop : g_loop g_K (fun (s : Int32 × Int32 × Int32) => f_X0_ask_l32 hk g1 gr 0 x s.1 s.2.1 s.2.2) (-1, N (oN S k) + 1, N 0) = some (match askN S k (firsts S.B) with | none => (-1, N (oN S k + 1)) | some q => (N q.1, N q.2)) := by
        refine loop_T (fun m => match askN S k m with | none => (-1, N (oN S k + 1), N m) | some q => (N q.1, N q.2, N m)) (firsts S.B) (by rw [show (1 : Int32) = N 1 from rfl, N_add]; rfl) ?_ ?_ (by simp only [g_K]; omega)
        · intro m hm
          have e1 : N m + 1 = N (m + 1) := by rw [show (1 : Int32) = N 1 from rfl, N_add]
          have mm := mostT_le S k m 5
          obtain ⟨t1, t2⟩ := hl.t41 m (by omega)
          have i5 : (Int32.ofNat 5 : Int32) = 5 := rfl
          cases hq : askN S k m with
          | none =>
            have := inn (-1) (N (oN S k + 1)) m (by omega)
            dsimp only
            rw [f_X0_ask_l32, fs, Option.bind_some, if_le (by omega) (by omega), if_neg (by omega), hl.f27, Option.bind_some, g_is_of' hl.k41, Option.bind_some, hl.k41, N_ldr (by omega) (by decide), t1, Option.bind_some, g_is_of' t2, Option.bind_some, t2, i5, this, Option.bind_some, f_X0_ask_x61, if_lt (by omega) (by omega), if_pos (by omega), e1, askN, hq]
          | some q =>
            obtain ⟨l1, l2⟩ := askN_le S k m q hq
            have := inn (N q.1) (N q.2) m (by omega)
            dsimp only
            rw [f_X0_ask_l32, fs, Option.bind_some, if_le (by omega) (by omega), if_neg (by omega), hl.f27, Option.bind_some, g_is_of' hl.k41, Option.bind_some, hl.k41, N_ldr (by omega) (by decide), t1, Option.bind_some, g_is_of' t2, Option.bind_some, t2, i5, this, Option.bind_some, f_X0_ask_x61, if_lt (by omega) (by omega), e1, askN, hq]
            dsimp only
            by_cases u : mostT S k m 5 < q.2
            · rw [if_pos u, if_pos u]
            · rw [if_neg u, if_neg u]
        · cases hq : askN S k (firsts S.B) with
          | none =>
            dsimp only
            rw [f_X0_ask_l32, fs, Option.bind_some, if_pos (Int32.le_refl _)]
          | some q =>
            dsimp only
            rw [f_X0_ask_l32, fs, Option.bind_some, if_pos (Int32.le_refl _)]
      rw [hloop, Option.bind_some]
      cases hq : askN S k (firsts S.B) with
      | none =>
        dsimp only
        rw [f_X0_ask_x32, if_neg (by decide)]
      | some q =>
        obtain ⟨l1, l2⟩ := askN_le S k _ q hq
        dsimp only
        rw [f_X0_ask_x32, if_pos (N_pos (by omega))]
        show (if x = N 0 then _ else _) = _
        split <;> rfl
  · rw [if_neg hx, if_pos rfl, if_neg hx]
end X15

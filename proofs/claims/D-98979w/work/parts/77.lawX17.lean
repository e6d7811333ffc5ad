set_option linter.unusedVariables false
set_option linter.unusedSimpArgs false
/-! THE PLAIN LAW: rates, change, gains of the component -/
section X17
variable {hk hk' : HK} {nx nx' : Nat} {gi gi' : GI} {gr gr' : GR} {b ask : Nat} {L : List Nat} {sl : Nat} {sf w : Nat → Nat} {S : St}
/-- a rate found -/
def Rt (hk : HK) (gi : GI) (L : List Nat) (B : Bk) (a c : Nat) (o : Option Nat) : Prop :=
  (o = none ∧ B.cost a c = 0) ∨ ∃ v, o = some v ∧ v ∈ L ∧ (hk v).1 = 17 ∧ gi v 2 = N (B.cost a c) ∧ gi v 3 = N (B.brings a c) ∧ B.cost a c ≠ 0
theorem x_rate {B : Bk} (bk : XBk hk gi gr b B ask L) (hL : ∀ c, c ∈ L → c < nx ∨ 1000000 ≤ c) (hx : nx < 1000000) (ns : Nat) {a c : Nat} (ha : a < 3) (hc : c < 3) : ∃ o hk' gi' gr', (∀ cN cS, nx + 1 ≤ cN → ns + 4 ≤ cS → f_X1_rate cN cS hk nx ns gi gr b (N a) (N c) = some (o, hk', nx + 1, ns + 4, gi', gr')) ∧ Old nx hk hk' gi gi' gr gr' ∧ Rt hk gi L B a c o := by
  obtain ⟨rl, f, r1, r2, r3⟩ := bk.rates
  obtain ⟨e, e1, e2, e3, e4, e5, e6⟩ := r2.els
  have nL : ∀ q, q ∈ L → q ≠ nx := fun q hq => by have := hL q hq; omega
  have hsm := r2.small
  -- the iterator
  generalize hh : va_up hk nx (23, 0) = hk1
  generalize hg : g_pi (g_pi (va_up gi nx (fun _ => 0)) nx 1 (-1)) nx 2 (gi rl 0) = g1
  generalize hr : g_pr (va_up gr nx (fun _ => none)) nx 3 (some rl) = gr1
  have k1 : ∀ q, q ≠ nx → hk1 q = hk q := fun q hq => by rw [← hh, up_ne _ _ _ hq]
  have i1 : ∀ q, q ≠ nx → g1 q = gi q := fun q hq => by rw [← hg, pi_off hq, pi_off hq, up_ne _ _ _ hq]
  have l1 : ∀ q, q ≠ nx → gr1 q = gr q := fun q hq => by rw [← hr]; simp [g_pr, va_up, hq]
  have g0 : g1 nx 0 = 0 := by rw [← hg]; simp [pi_get, va_up]
  have g2 : g1 nx 2 = gi rl 0 := by rw [← hg]; simp [pi_get]
  have gr3 : gr1 nx 3 = some rl := by rw [← hr]; simp [g_pr, va_up]
  have rln := nL rl r2.mem
  have it : ∀ cN cS, nx + 1 ≤ cN → ns + 4 ≤ cS → f_J2_iterator cN cS hk nx ns gi gr rl = some (nx, hk1, nx + 1, ns + 4, g1, gr1) := by
    intro cN cS h1 h2
    have ini : ∀ c1 c2 : Nat, f_J15_init c1 c2 hk1 (nx + 1) (ns + 4) (va_up gi nx (fun _ => 0)) (va_up gr nx (fun _ => none)) nx rl = some (hk1, nx + 1, ns + 4, g1, gr1) := by
      intro c1 c2
      have ok : g_ok hk1 rl = some () := by rw [g_ok, k1 rl rln, r2.k, if_pos (by decide)]
      have e22 : (hk1 rl).1 = 22 := by rw [k1 rl rln]; exact r2.k
      have e0 : g_pi (va_up gi nx (fun _ => 0)) nx 1 (-1) rl 0 = gi rl 0 := by rw [pi_off rln, up_ne _ _ _ rln]
      rw [f_J15_init, ok, Option.bind_some, Option.bind_some, Option.bind_some, hr, gr3, Option.bind_some, g_is_of e22, Option.bind_some, Option.bind_some, e0, hg]
    rw [f_J2_iterator, new_of h1 h2 hx, Option.bind_some]
    dsimp only
    rw [hh, cc_of (q := (hk1, nx + 1, ns + 4, g1, gr1)) (fun c1 c2 _ _ => ini c1 c2) (Nat.le_refl _) (Nat.le_refl _) h1 h2, Option.bind_some]
  -- the loop
  have ml : ∀ q, q ∈ L → hk1 q = hk q ∧ gr1 q = gr q := fun q hq => ⟨k1 q (nL q hq), l1 q (nL q hq)⟩
  have e23 : (hk1 nx).1 = 23 := by rw [← hh, up_same]
  have e22 : (hk1 rl).1 = 22 := by rw [(ml rl r2.mem).1]; exact r2.k
  have e4' : (hk1 e).1 = 4 := by rw [(ml e e1).1]; exact e3
  have nxt : ∀ (i : Nat) (gj : GI), i < B.nr → gj nx 0 = N i → gj nx 2 = gi rl 0 → (∀ q, q ≠ nx → gj q = gi q) → f_J15_next hk1 gj gr1 nx = some (f i, g_pi (g_pi gj nx 0 (N (i + 1))) nx 1 (N i)) := by
    intro i gj hlt h0 h2 hgj
    have erl : gj rl = gi rl := hgj rl rln
    have ck : f_J15_checkForComodification hk1 gj gr1 nx = some () := by
      rw [f_J15_checkForComodification, gr3, Option.bind_some, g_is_of e22, Option.bind_some, h2, erl, if_pos rfl]
    have cap : N i < Int32.ofNat (hk1 e).2 := by
      rw [(ml e e1).1]
      exact (N_lt (by omega) (by omega)).mpr (by omega)
    have ld : g_ldr gr1 e (hk1 e).2 (N i) = some (f i) := by
      rw [(ml e e1).1, N_ldr (by omega) (Nat.le_of_lt e5), (ml e e1).2, e6 i hlt]
    have n1 : N i + 1 = N (i + 1) := by rw [show (1 : Int32) = N 1 from rfl, N_add]
    rw [f_J15_next, ck, Option.bind_some, gr3, Option.bind_some, g_is_of e22, Option.bind_some, h0, erl, r2.size, if_lt (by omega) (by omega), if_pos hlt, Option.bind_some, g_is_of e22, Option.bind_some, (ml rl r2.mem).2, e2, Option.bind_some, g_is_of e4', Option.bind_some, if_pos cap, Option.bind_some, Option.bind_some, ld, Option.bind_some, n1]
  have hn : ∀ (i : Nat) (gj : GI), i ≤ B.nr → gj nx 0 = N i → (∀ q, q ≠ nx → gj q = gi q) → f_J15_hasNext hk1 gj gr1 nx = some (if i = B.nr then 0 else 1) := by
    intro i gj hi h0 hgj
    rw [f_J15_hasNext, gr3, Option.bind_some, g_is_of e22, Option.bind_some, h0, hgj rl rln, r2.size, if_eq (by omega) (by omega)]
    split <;> rfl
  -- what is found among the first
  have key : ∀ n, n ≤ B.nr → ∃ o gj, gj nx 0 = N n ∧ gj nx 2 = gi rl 0 ∧ (∀ q, q ≠ nx → gj q = gi q) ∧ (∀ j, j < n → gi (f j) 0 = N a → gi (f j) 1 = N c → o ≠ none) ∧ (∀ v, o = some v → ∃ j, j < B.nr ∧ v = f j ∧ gi (f j) 0 = N a ∧ gi (f j) 1 = N c) ∧ ∀ cN cS K, g_loop (K + n) (fun (s : Option Nat × HK × Nat × Nat × GI × GR) => f_X1_rate_l11 cN cS b (N a) (N c) nx s.1 s.2.1 s.2.2.1 s.2.2.2.1 s.2.2.2.2.1 s.2.2.2.2.2) (none, hk1, nx + 1, ns + 4, g1, gr1) = g_loop K (fun (s : Option Nat × HK × Nat × Nat × GI × GR) => f_X1_rate_l11 cN cS b (N a) (N c) nx s.1 s.2.1 s.2.2.1 s.2.2.2.1 s.2.2.2.2.1 s.2.2.2.2.2) (o, hk1, nx + 1, ns + 4, gj, gr1) := by
    intro n
    induction n with
    | zero =>
      intro _
      exact ⟨none, g1, g0, g2, i1, fun j hj => by omega, fun v h => (by cases h), fun _ _ _ => rfl⟩
    | succ n ih =>
      intro hn1
      obtain ⟨o, gj, h0, h2, hgj, o1, o2, lp⟩ := ih (by omega)
      obtain ⟨c1, c2, a', b', _⟩ := r3.cell n (by omega)
      have fn : f n ≠ nx := nL _ c1
      have hnn := hn n gj (by omega) h0 hgj
      rw [if_neg (by omega)] at hnn
      have e17 : (hk1 (f n)).1 = 17 := by rw [(ml _ c1).1]; exact c2
      have offg : ∀ q, q ≠ nx → g_pi (g_pi gj nx 0 (N (n + 1))) nx 1 (N n) q = gi q := fun q hq => by rw [pi_off hq, pi_off hq, hgj q hq]
      have bd : ∀ cN cS, f_X1_rate_l11 cN cS b (N a) (N c) nx o hk1 (nx + 1) (ns + 4) gj gr1 = some (.inl (if gi (f n) 0 = N a ∧ gi (f n) 1 = N c then some (f n) else o, hk1, nx + 1, ns + 4, g_pi (g_pi gj nx 0 (N (n + 1))) nx 1 (N n), gr1)) := by
        intro cN cS
        rw [f_X1_rate_l11, g_is_of e23, Option.bind_some, hnn, Option.bind_some, if_neg (by decide), nxt n gj (by omega) h0 h2 hgj, Option.bind_some]
        dsimp only
        have f0 : g_pi (g_pi gj nx 0 (N (n + 1))) nx 1 (N n) (f n) 0 = gi (f n) 0 := by rw [offg _ fn]
        have f1 : g_pi (g_pi gj nx 0 (N (n + 1))) nx 1 (N n) (f n) 1 = gi (f n) 1 := by rw [offg _ fn]
        rw [g_is_of e17, Option.bind_some]
        simp only [f0, f1]
        by_cases q1 : gi (f n) 0 = N a
        · by_cases q2 : gi (f n) 1 = N c
          · rw [if_pos q1, if_pos q2, if_pos ⟨q1, q2⟩]
          · rw [if_pos q1, if_neg q2, if_neg (fun z => q2 z.2)]
        · rw [if_neg q1, if_neg (fun z => q1 z.1)]
      refine ⟨if gi (f n) 0 = N a ∧ gi (f n) 1 = N c then some (f n) else o, g_pi (g_pi gj nx 0 (N (n + 1))) nx 1 (N n), by simp [pi_get], by simp [pi_get, h2], offg, ?_, ?_, ?_⟩
      · intro j hj q1 q2
        by_cases e : j = n
        · subst e; rw [if_pos ⟨q1, q2⟩]; simp
        · have := o1 j (by omega) q1 q2
          split
          · simp
          · exact this
      · intro v hv
        by_cases q : gi (f n) 0 = N a ∧ gi (f n) 1 = N c
        · rw [if_pos q] at hv
          cases hv
          exact ⟨n, by omega, rfl, q⟩
        · rw [if_neg q] at hv
          exact o2 v hv
      · intro cN cS K
        rw [show K + (n + 1) = (K + 1) + n by omega, lp cN cS (K + 1), g_loop]
        dsimp only
        rw [bd cN cS]
        rfl
  obtain ⟨o, gj, h0, h2, hgj, o1, o2, lp⟩ := key B.nr (Nat.le_refl _)
  have hnn := hn B.nr gj (Nat.le_refl _) h0 hgj
  rw [if_pos rfl] at hnn
  refine ⟨o, hk1, gj, gr1, fun cN cS h1 h2 => ?_, fun q hq => ⟨k1 q (by omega), hgj q (by omega), l1 q (by omega)⟩, ?_⟩
  · have lpp := lp cN cS (g_K - B.nr)
    rw [show g_K - B.nr + B.nr = g_K by simp only [g_K]; omega] at lpp
    obtain ⟨K, hK⟩ : ∃ K, g_K - B.nr = K + 1 := ⟨g_K - B.nr - 1, by simp only [g_K]; omega⟩
    rw [f_X1_rate, r1, Option.bind_some, g_is_of r2.k, Option.bind_some, cc_of (q := (nx, hk1, nx + 1, ns + 4, g1, gr1)) (fun c1 c2 h1 h2 => it c1 c2 h1 h2) (by show nx ≤ nx + 1; omega) (by show ns ≤ ns + 4; omega) h1 h2, Option.bind_some]
    dsimp only
    rw [lpp, hK, g_loop]
    dsimp only
    rw [f_X1_rate_l11, g_is_of e23, Option.bind_some, hnn, Option.bind_some, if_pos rfl]
    rfl
  · cases ho : o with
    | none =>
      left
      refine ⟨rfl, ?_⟩
      apply Classical.byContradiction
      intro hne
      obtain ⟨i, q1, q2, q3⟩ := r3.has a c ha hc hne
      exact o1 i q1 q2 q3 ho
    | some v =>
      right
      obtain ⟨j, j1, j2, j3, j4⟩ := o2 v ho
      obtain ⟨c1, c2, a', c', c3, c4, c5, c6, c7, c8, c9⟩ := r3.cell j j1
      rw [c5] at j3
      rw [c6] at j4
      have ea := (N_eq (by omega) (by omega)).mp j3
      have ec := (N_eq (by omega) (by omega)).mp j4
      subst ea ec j2
      exact ⟨f j, rfl, c1, c2, c7, c8, c9⟩
theorem x_change (r : RX hk nx gi gr b ask L sl sf w S) (o : SOk S) (hx : nx < 1000000) (ns : Nat) (x y z : Int32) : ∃ hk' nx' ns' gi' gr' w', nx ≤ nx' ∧ nx' ≤ nx + 1 ∧ ns ≤ ns' ∧ ns' ≤ ns + 4 ∧ (∀ cN cS, nx' ≤ cN → ns' ≤ cS → f_X0_change cN cS hk nx ns gi gr 0 x y z = some ((s_change S x y z).1, hk', nx', ns', gi', gr')) ∧ RX hk' nx' gi' gr' b ask L sl sf w' (s_change S x y z).2 := by
  have h5 := r.wd.bk.ok.nm
  have h3 := r.wd.bk.ok.nk
  have rm := r.room
  unfold s_change
  cases h : asQ x S.B.nm with
  | none => exact ⟨hk, nx, ns, gi, gr, w, by omega, by omega, by omega, by omega, fun cN cS _ _ => by rw [f_X0_change, x_isMan r.wd, h]; rfl, r⟩
  | some m =>
    obtain ⟨rfl, hm⟩ := asQ_some h
    cases g : asQ y S.B.nk with
    | none => exact ⟨hk, nx, ns, gi, gr, w, by omega, by omega, by omega, by omega, fun cN cS _ _ => by rw [f_X0_change, x_isMan r.wd, h, Option.bind_some, Option.isSome_some, if_pos rfl, if_neg (by decide), x_isKind r.wd, g]; rfl, r⟩
    | some k =>
      obtain ⟨rfl, hkk⟩ := asQ_some g
      cases g' : asQ z S.B.nk with
      | none => exact ⟨hk, nx, ns, gi, gr, w, by omega, by omega, by omega, by omega, fun cN cS _ _ => by rw [f_X0_change, x_isMan r.wd, h, Option.bind_some, Option.isSome_some, if_pos rfl, if_neg (by decide), x_isKind r.wd, g, Option.bind_some, Option.isSome_some, if_pos rfl, if_neg (by decide), x_isKind r.wd, g']; rfl, r⟩
      | some q =>
        obtain ⟨rfl, hq⟩ := asQ_some g'
        obtain ⟨rt, hk1, g1, gr1, a1, a2, a3⟩ := x_rate (nx := nx) r.wd.bk rm.2.2.2 hx ns (show k < 3 by omega) (show q < 3 by omega)
        have r1 := r.grow a2 (nx' := nx + 1) (by omega)
        have hl := r1.wd.lay
        have xp := hl.pls 11 pl11
        have hc := r.wd.bk.ok.cost k q
        have st : ∀ cN cS, nx + 1 ≤ cN → ns + 4 ≤ cS → f_X0_change cN cS hk nx ns gi gr 0 (N m) (N k) (N q) = rt.elim (some (-1, hk1, nx + 1, ns + 4, g1, gr1)) (fun v11 => (g_is hk1 v11 17).bind fun _ => (gr1 0 5).bind fun v14 => (g_is hk1 v14 13).bind fun _ => (f_X3_purse hk1 g1 gr1 v14 (N m) (N k)).bind fun q17 => if (g1 v11 2) ≤ q17 then ((f_X0_act hk1 g1 gr1 0).bind fun q18 => (q18.2 0 5).bind fun v19 => (g_is hk1 v19 13).bind fun _ => (q18.2 v19 0).bind fun v22 => (g_is hk1 v22 0).bind fun _ => (g_ld q18.1 v22 (hk1 v22).2 ((3 * N m) + N k)).bind fun v25 => (g_st q18.1 v22 (hk1 v22).2 ((3 * N m) + N k) (v25 - (q18.1 v11 2))).bind fun gi26 => (q18.2 0 5).bind fun v27 => (g_is hk1 v27 13).bind fun _ => (f_X3_gets hk1 gi26 q18.2 v27 (N m) (N q) (gi26 v11 3)).bind fun q30 => (q18.2 0 5).bind fun v31 => (g_is hk1 v31 13).bind fun _ => (f_X3_purse hk1 q30 q18.2 v31 (N m) (N q)).bind fun q34 => some (q34, hk1, nx + 1, ns + 4, q30, q18.2)) else some (-1, hk1, nx + 1, ns + 4, g1, gr1)) := by
          intro cN cS h1 h2
          rw [f_X0_change, x_isMan r.wd, h, Option.bind_some, Option.isSome_some, if_pos rfl, if_neg (by decide), x_isKind r.wd, g, Option.bind_some, Option.isSome_some, if_pos rfl, if_neg (by decide), x_isKind r.wd, g', Option.bind_some, Option.isSome_some, if_pos rfl, if_neg (by decide), r.wd.f4, Option.bind_some, g_is_of r.wd.bk.k, Option.bind_some, cc_of (q := (rt, hk1, nx + 1, ns + 4, g1, gr1)) (fun c1 c2 h1 h2 => a1 c1 c2 h1 h2) (by show nx ≤ nx + 1; omega) (by show ns ≤ ns + 4; omega) h1 h2, Option.bind_some]
        dsimp only
        rcases a3 with ⟨q1, q2⟩ | ⟨v, q1, q2, q3, q4, q5, q6⟩
        · subst q1
          rw [if_neg (fun z => z.1 q2)]
          exact ⟨hk1, nx + 1, ns + 4, g1, gr1, w, by omega, by omega, by omega, by omega, fun cN cS h1 h2 => by rw [st cN cS h1 h2]; rfl, r1⟩
        · subst q1
          obtain ⟨o1, o2, o3⟩ := a2 v (rm.2.2.2 v q2)
          have vn := not_st (r.wd.sep v (Or.inl q2))
          have va : v ≠ ask := fun e => r.wd.bk.ask.2.2 (e ▸ q2)
          by_cases cc : N (S.B.cost k q) ≤ S.P (3 * m + k)
          · rw [if_pos (show S.B.cost k q ≠ 0 ∧ N (S.B.cost k q) ≤ S.P (3 * m + k) from ⟨q6, cc⟩)]
            obtain ⟨g2, gr2, w2, c1, c2, c3⟩ := x_actF r1 o
            have l2 := c2.wd.lay
            have xp2 := l2.pls 11 pl11
            have p2 := c2.now
            rw [act_P] at p2
            have ev : g2 v = gi v := (c3 v (r.wd.sep v (Or.inl q2))).trans o2
            have e1 : g2 (11 + 1) (3 * m + k) = S.P (3 * m + k) := by rw [← p2, pl_at_purse (by omega)]
            have pp : pl (g_pi g2 (11 + 1) (3 * m + k) (S.P (3 * m + k) - N (S.B.cost k q))) 11 = add S.P (3 * m + k) (-(N (S.B.cost k q))) := by
              rw [pl_purse g2 11 (3 * m + k) (by omega), p2]
              unfold add
              rw [Int32.sub_eq_add_neg]
            obtain ⟨g4, d1, d2, d3⟩ := x_gets (gi := g_pi g2 (11 + 1) (3 * m + k) (S.P (3 * m + k) - N (S.B.cost k q))) xp2 (show m < 5 by omega) (show q < 3 by omega) (N (S.B.brings k q))
            rw [pp] at d2
            have r4 := c2.row (gi' := g4) (fun c h1 h2 => by rw [d3 c (by omega), pi_off (by omega)]) d2
            have ev3 : g_pi g2 (11 + 1) (3 * m + k) (S.P (3 * m + k) - N (S.B.cost k q)) v 3 = N (S.B.brings k q) := by rw [pi_off (by omega), ev, q5]
            have e3 : 3 * N m + N k = N (3 * m + k) := by rw [show (3 : Int32) = N 3 from rfl, N_mul, N_add]
            have ld : g_ld g2 (11 + 1) 15 (N (3 * m + k)) = some (S.P (3 * m + k)) := by rw [N_ld (by omega) (by decide), e1]
            have sst : ∀ X, g_st g2 (11 + 1) 15 (N (3 * m + k)) X = some (g_pi g2 (11 + 1) (3 * m + k) X) := fun X => N_st (by omega) (by decide)
            refine ⟨hk1, nx + 1, ns + 4, g4, gr2, w2, by omega, by omega, by omega, by omega, fun cN cS h1 h2 => ?_, r4⟩
            rw [st cN cS h1 h2]
            show ((g_is hk1 v 17).bind _ : Option (Int32 × HK × Nat × Nat × GI × GR)) = _
            rw [g_is_of (show (hk1 v).1 = 17 by rw [o1]; exact q3), Option.bind_some, hl.f5, Option.bind_some, g_is_of xp.k, Option.bind_some, x_purse xp (by omega) (by omega), Option.bind_some, r1.now, o2, q4, if_pos cc]
            simp only [c1, Option.bind_some, l2.f5, g_is_of xp2.k, xp2.r0, g_is_of' xp2.k1, xp2.k1, e3, ld, ev, q4, sst, ev3, d1, x_purse xp2 (show m < 5 by omega) (show q < 3 by omega), d2]
          · rw [if_neg (fun z => cc z.2)]
            refine ⟨hk1, nx + 1, ns + 4, g1, gr1, w, by omega, by omega, by omega, by omega, fun cN cS h1 h2 => ?_, r1⟩
            rw [st cN cS h1 h2]
            show ((g_is hk1 v 17).bind _ : Option (Int32 × HK × Nat × Nat × GI × GR)) = _
            rw [g_is_of (show (hk1 v).1 = 17 by rw [o1]; exact q3), Option.bind_some, hl.f5, Option.bind_some, g_is_of xp.k, Option.bind_some, x_purse xp (by omega) (by omega), Option.bind_some, r1.now, o2, q4, if_neg cc]
end X17

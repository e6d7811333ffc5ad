set_option linter.unusedVariables false
set_option linter.unusedSimpArgs false
/-! THE PLAIN LAW: the component goes to the next token -/
section P4
variable {hk hk' : HK} {nx nx' ns : Nat} {gi gi' : GI} {gr gr' : GR} {rd : Nat} {X : Nat → Nat} {n p : Nat}
/-- the reader's token; a new word lies from cell nx on -/
abbrev XTk (hk : HK) (gi : GI) (gr : GR) (rd nx nx' : Nat) (X : Nat → Nat) (t : Tk) : Prop := (gi rd 2 = N t.place) ∧ (gi rd 1 = N t.sort) ∧ (t.sort ≠ 3 → gi rd 0 = N t.next) ∧ (t.sort = 2 → gi rd 3 = N t.val) ∧ (t.sort = 1 → ∃ c, gr rd 8 = some c ∧ nx ≤ c ∧ c + 2 ≤ nx' ∧ Str hk gi gr c (t.next - t.place) (fun i => X (t.place + i)) ∧ gi c 2 = 0 ∧ gi c 3 = 0 ∧ t.val = pak X t.place (t.next - t.place))
theorem XTk.place {hk : HK} {gi : GI} {gr : GR} {rd nx nx' : Nat} {X : Nat → Nat} {t : Tk} (h : XTk hk gi gr rd nx nx' X t) : gi rd 2 = N t.place := h.1
theorem XTk.sort {hk : HK} {gi : GI} {gr : GR} {rd nx nx' : Nat} {X : Nat → Nat} {t : Tk} (h : XTk hk gi gr rd nx nx' X t) : gi rd 1 = N t.sort := h.2.1
theorem XTk.next {hk : HK} {gi : GI} {gr : GR} {rd nx nx' : Nat} {X : Nat → Nat} {t : Tk} (h : XTk hk gi gr rd nx nx' X t) : t.sort ≠ 3 → gi rd 0 = N t.next := h.2.2.1
theorem XTk.num {hk : HK} {gi : GI} {gr : GR} {rd nx nx' : Nat} {X : Nat → Nat} {t : Tk} (h : XTk hk gi gr rd nx nx' X t) : t.sort = 2 → gi rd 3 = N t.val := h.2.2.2.1
theorem XTk.word {hk : HK} {gi : GI} {gr : GR} {rd nx nx' : Nat} {X : Nat → Nat} {t : Tk} (h : XTk hk gi gr rd nx nx' X t) : t.sort = 1 → ∃ c, gr rd 8 = some c ∧ nx ≤ c ∧ c + 2 ≤ nx' ∧ Str hk gi gr c (t.next - t.place) (fun i => X (t.place + i)) ∧ gi c 2 = 0 ∧ gi c 3 = 0 ∧ t.val = pak X t.place (t.next - t.place) := h.2.2.2.2
/-- only the reader's token changes, and new cells -/
abbrev XGo (nx rd : Nat) (hk hk' : HK) (gi gi' : GI) (gr gr' : GR) : Prop := (∀ c, c < nx ∨ 1000000 ≤ c → hk' c = hk c) ∧ (∀ c, c < nx ∨ 1000000 ≤ c → c ≠ rd → gi' c = gi c) ∧ (∀ c, c < nx ∨ 1000000 ≤ c → c ≠ rd → gr' c = gr c) ∧ (∀ k, 4 ≤ k → gi' rd k = gi rd k) ∧ (∀ k, k ≠ 8 → gr' rd k = gr rd k)
theorem XGo.hks {nx rd : Nat} {hk hk' : HK} {gi gi' : GI} {gr gr' : GR} (h : XGo nx rd hk hk' gi gi' gr gr') : ∀ c, c < nx ∨ 1000000 ≤ c → hk' c = hk c := h.1
theorem XGo.gis {nx rd : Nat} {hk hk' : HK} {gi gi' : GI} {gr gr' : GR} (h : XGo nx rd hk hk' gi gi' gr gr') : ∀ c, c < nx ∨ 1000000 ≤ c → c ≠ rd → gi' c = gi c := h.2.1
theorem XGo.grs {nx rd : Nat} {hk hk' : HK} {gi gi' : GI} {gr gr' : GR} (h : XGo nx rd hk hk' gi gi' gr gr') : ∀ c, c < nx ∨ 1000000 ≤ c → c ≠ rd → gr' c = gr c := h.2.2.1
theorem XGo.own {nx rd : Nat} {hk hk' : HK} {gi gi' : GI} {gr gr' : GR} (h : XGo nx rd hk hk' gi gi' gr gr') : ∀ k, 4 ≤ k → gi' rd k = gi rd k := h.2.2.2.1
theorem XGo.refs {nx rd : Nat} {hk hk' : HK} {gi gi' : GI} {gr gr' : GR} (h : XGo nx rd hk hk' gi gi' gr gr') : ∀ k, k ≠ 8 → gr' rd k = gr rd k := h.2.2.2.2
theorem XTx.go (x : XTx hk gi gr rd X n) (h : XGo nx rd hk hk' gi gi' gr gr') (hx : 2 ≤ nx) : XTx hk' gi' gr' rd X n := by
  have hf := x.far
  refine ⟨x.txt, by rw [h.refs 10 (by decide)]; exact x.out, by rw [h.hks 0 (by omega)]; exact x.k0, by rw [h.gis 0 (by omega) (by omega)]; exact x.size, by rw [h.grs 0 (by omega) (by omega)]; exact x.tp, by rw [h.hks 1 (by omega)]; exact x.k1, by rw [h.gis 1 (by omega) (by omega)]; exact x.text, hf⟩
theorem XTx.of (x : XTx hk gi gr rd X n) (h0 : gi' 0 1 = gi 0 1) (h1 : gi' 1 = gi 1) : XTx hk gi' gr rd X n := ⟨x.txt, x.out, x.k0, by rw [h0]; exact x.size, x.tp, x.k1, by rw [h1]; exact x.text, x.far⟩
theorem x_go (x : XTx hk gi gr rd X n) (hp : p ≤ n) (h0 : gi rd 0 = N p) (hr : rd < nx) (hx : nx + 4 ≤ 1000000) (ns : Nat) : ∃ hk' nx' ns' gi' gr', nx ≤ nx' ∧ nx' ≤ nx + 4 ∧ ns ≤ ns' ∧ ns' ≤ ns + 24 ∧ ((lexT X n p).sort ≠ 1 → (lexT X n p).sort ≠ 3 → nx' = nx ∧ ns' = ns) ∧ ((lexT X n p).sort ≠ 1 → gr' rd 8 = gr rd 8) ∧ (∀ cN cS, nx' ≤ cN → ns' ≤ cS → f_X5_go cN cS hk nx ns gi gr rd = some (hk', nx', ns', gi', gr')) ∧ XTk hk' gi' gr' rd nx nx' X (lexT X n p) ∧ XGo nx rd hk hk' gi gi' gr gr' := by
  have hl := x.txt.len
  have hf := x.far
  have one : (1 : Int32) = N 1 := rfl
  obtain ⟨b1, b2, b3, b4⟩ := lexB_spec x.txt hp
  unfold lexT
  generalize hA : lexB X n p = a at b1 b2 b3 b4
  have tx : ∀ i, XTx hk (g_pi gi rd 0 (N i)) gr rd X n := fun i => x.of (by rw [pi_off (by omega)]) (pi_off (by omega))
  have t0 : ∀ i, g_pi gi rd 0 (N i) rd 0 = N i := fun i => by simp [pi_get]
  have z0 : (0 : Int32) = N 0 := rfl
  have lp : ∀ cN cS : Nat, g_loop g_K (fun (s : HK × Nat × Nat × GI × GR) => f_X5_go_l0 cN cS rd s.1 s.2.1 s.2.2.1 s.2.2.2.1 s.2.2.2.2) (hk, nx, ns, gi, gr) = some (hk, nx, ns, g_pi gi rd 0 (N a), gr) := by
    intro cN cS
    refine loop_T (fun i => (hk, nx, ns, g_pi gi rd 0 (N (p + i)), gr)) (a - p) ?_ (fun i hi => ?_) ?_ (by show a - p < 100000; omega)
    · have : g_pi gi rd 0 (N (p + 0)) = gi := by
        funext c k
        rw [pi_get]
        by_cases z : c = rd ∧ k = 0
        · rw [if_pos z, z.1, z.2, h0]; rfl
        · rw [if_neg z]
      rw [this]
    · dsimp only
      have lo := x.txt.low (p + i) (by omega)
      have bl : X (p + i) = 32 ∨ X (p + i) = 10 := of_decide_eq_true (b3 (p + i) (by omega) (by omega))
      have he : f_X5_here hk (g_pi gi rd 0 (N (p + i))) gr rd 0 = _ := x_here (tx (p + i)) (t0 (p + i)) (k := 0) (by omega)
      rw [Nat.add_zero, if_neg (by omega)] at he
      have j : f_X5_go_j20 cN cS rd hk nx ns (g_pi gi rd 0 (N (p + i))) gr = some (.inl (hk, nx, ns, g_pi gi rd 0 (N (p + (i + 1))), gr)) := by
        rw [f_X5_go_j20, Option.bind_some, t0, one, N_add, pi_pi]
        rfl
      rw [f_X5_go_l0, he, Option.bind_some, show (32 : Int32) = N 32 from rfl, show (10 : Int32) = N 10 from rfl, if_eq (by omega) (by omega)]
      rcases bl with z | z
      · rw [if_pos z]; exact j
      · rw [if_neg (by omega), Option.bind_some, if_eq (by omega) (by omega), if_pos z]; exact j
    · dsimp only
      rw [show p + (a - p) = a by omega]
      have he : f_X5_here hk (g_pi gi rd 0 (N a)) gr rd 0 = _ := x_here (tx a) (t0 a) (k := 0) (by omega)
      rw [Nat.add_zero] at he
      rw [f_X5_go_l0, he, Option.bind_some]
      by_cases h : n ≤ a
      · rw [if_pos h, if_neg (by decide), Option.bind_some, if_neg (by decide)]
      · have nb : ¬ (X a = 32 ∨ X a = 10) := of_decide_eq_false b4
        have lo := x.txt.low a (by omega)
        rw [if_neg h, show (32 : Int32) = N 32 from rfl, show (10 : Int32) = N 10 from rfl, if_eq (by omega) (by omega), if_neg (by omega), Option.bind_some, if_eq (by omega) (by omega), if_neg (by omega)]
  -- the token's place is set
  generalize hg7 : g_pi (g_pi gi rd 0 (N a)) rd 2 (N a) = g7
  have x7 : XTx hk g7 gr rd X n := (tx a).of (by rw [← hg7, pi_off (by omega)]) (by rw [← hg7, pi_off (by omega)])
  have s0 : g7 rd 0 = N a := by rw [← hg7]; simp [pi_get]
  generalize hg9 : g_pi g7 rd 1 3 = g9
  have x9 : XTx hk g9 gr rd X n := x7.of (by rw [← hg9, pi_off (by omega)]) (by rw [← hg9, pi_off (by omega)])
  have v0 : g9 rd 0 = N a := by rw [← hg9, pi_get, if_neg (by omega)]; exact s0
  have v1 : g9 rd 1 = 3 := by rw [← hg9]; simp [pi_get]
  have v2 : g9 rd 2 = N a := by rw [← hg9, ← hg7]; simp [pi_get]
  have w4 : ∀ k, 3 ≤ k → g9 rd k = gi rd k := fun k hk9 => by rw [← hg9, ← hg7, pi_get, if_neg (by omega), pi_get, if_neg (by omega), pi_get, if_neg (by omega)]
  have wc : ∀ c, c ≠ rd → g9 c = gi c := fun c hc => by rw [← hg9, ← hg7, pi_off hc, pi_off hc, pi_off hc]
  have he : f_X5_here hk g7 gr rd 0 = _ := x_here x7 s0 (k := 0) (by omega)
  have le : f_X5_isLetter hk g9 gr rd 0 = _ := x_letter x9 v0 (k := 0) (by omega)
  have di : f_X5_isDigit hk g9 gr rd 0 = _ := x_digit x9 v0 (k := 0) (by omega)
  rw [Nat.add_zero] at he le di
  -- changes of the reader's own numbers alone
  have fin : ∀ (g : GI), (∀ c, c ≠ rd → g c = gi c) → (∀ k, 4 ≤ k → g rd k = gi rd k) → XGo nx rd hk hk gi g gr gr := fun g g1 g2 => ⟨fun _ _ => rfl, fun c _ hc => g1 c hc, fun _ _ _ => rfl, g2, fun _ _ => rfl⟩
  have own9 : ∀ (g : GI) (k : Nat) (v : Int32), (∀ c, c ≠ rd → g c = gi c) → ∀ c, c ≠ rd → g_pi g rd k v c = gi c := fun g k v hg c hc => by rw [pi_off hc]; exact hg c hc
  have j226 : ∀ (cN cS : Nat) (g : GI) (m : Nat), g rd 0 = N a → f_X5_go_j226 cN cS rd hk nx ns g gr (N m) = some (hk, nx, ns, g_pi g rd 0 (N (a + m)), gr) := fun cN cS g m hg => by rw [f_X5_go_j226, Option.bind_some, hg, N_add]
  unfold lexA
  by_cases h : n ≤ a
  · rw [if_pos h] at he
    refine ⟨hk, nx, ns, g_pi (g_pi g9 rd 1 0) rd 0 (N (a + 0)), gr, Nat.le_refl _, by omega, Nat.le_refl _, by omega, fun _ _ => ⟨rfl, rfl⟩, fun _ => rfl, fun cN cS _ _ => ?_, ?_, fin _ (own9 _ _ _ (own9 _ _ _ wc)) (fun k hk9 => by rw [pi_get, if_neg (by omega), pi_get, if_neg (by omega)]; exact w4 k (by omega))⟩
    · rw [f_X5_go, lp, Option.bind_some]
      dsimp only
      rw [f_X5_go_x0, t0, Option.bind_some, hg7, he, Option.bind_some, Option.bind_some, hg9, if_neg (by decide), Option.bind_some]
      exact j226 cN cS _ 0 (by rw [pi_get, if_neg (by omega)]; exact v0)
    · rw [if_pos h]
      refine ⟨?_, ?_, fun _ => ?_, fun z => absurd (show (0 : Nat) = 2 from z) (by decide), fun z => absurd (show (0 : Nat) = 1 from z) (by decide)⟩
      · rw [pi_get, if_neg (by omega), pi_get, if_neg (by omega), v2, show a = n by omega]; rfl
      · rw [pi_get, if_neg (by omega), pi_get, if_pos ⟨rfl, rfl⟩]; rfl
      · rw [pi_get, if_pos ⟨rfl, rfl⟩, show a + 0 = n by omega]; rfl
  · have lo := x.txt.low a (by omega)
    rw [if_neg h] at he
    rw [if_neg h]
    by_cases h2 : isL (X a) = true
    · -- a word
      rw [if_pos h2]
      obtain ⟨s1, s2, s3, s4⟩ := lexL_spec x.txt b2
      generalize hE : lexL X n a = e at s1 s2 s3 s4
      have ne : e ≠ a := fun z => by rw [z, h2] at s4; exact absurd s4 (by decide)
      have xl : ∀ i, a ≤ i → i < e → 97 ≤ X i ∧ X i ≤ 122 := fun i i1 i2 => isL_in (s3 i i1 i2)
      generalize hh2 : va_up (va_up hk nx (24, 0)) (nx + 1) (1, 8) = hk2
      generalize hg2 : g_pi (va_up (va_up g9 nx (fun _ => (0 : Int32))) (nx + 1) (fun _ => (0 : Int32))) nx 1 0 = g2
      generalize hr2 : g_pr (va_up (va_up gr nx (fun _ => none)) (nx + 1) (fun _ => none)) nx 0 (some (nx + 1)) = gr2
      have ini : ∀ c1 c2, nx + 2 ≤ c1 → ns + 12 ≤ c2 → f_J6_init c1 c2 (va_up hk nx (24, 0)) (nx + 1) (ns + 4) (va_up g9 nx (fun _ => 0)) (va_up gr nx (fun _ => none)) nx 8 = some (hk2, nx + 2, ns + 12, g2, gr2) := by
        intro c1 c2 q1 q2
        have i5 : ∀ c1 c2, nx + 2 ≤ c1 → ns + 12 ≤ c2 → f_J5_init c1 c2 (va_up hk nx (24, 0)) (nx + 1) (ns + 4) (va_up g9 nx (fun _ => 0)) (va_up gr nx (fun _ => none)) nx 8 = some (hk2, nx + 2, ns + 12, g2, gr2) := by
          intro c1 c2 q1 q2
          rw [f_J5_init, if_neg (by decide), show (8 : Int32) = N 8 from rfl, g_len_of (by decide), Option.bind_some, N_toNat (by decide), new_of (by omega) (by omega) (by omega), Option.bind_some, Option.bind_some, Option.bind_some]
          dsimp only
          rw [hh2, hg2, hr2]
        rw [f_J6_init, cc_of (q := (hk2, nx + 2, ns + 12, g2, gr2)) (fun c1 c2 q1 q2 => i5 c1 c2 q1 q2) (by show nx + 1 ≤ nx + 2; omega) (by show ns + 4 ≤ ns + 12; omega) q1 q2, Option.bind_some]
      have k2 : ∀ c, c ≠ nx → c ≠ nx + 1 → hk2 c = hk c := fun c c1 c2 => by rw [← hh2, up_ne _ _ _ c2, up_ne _ _ _ c1]
      have gg2 : ∀ c, c ≠ nx → c ≠ nx + 1 → g2 c = g9 c := fun c c1 c2 => by rw [← hg2, pi_off c1, up_ne _ _ _ c2, up_ne _ _ _ c1]
      have rr2 : ∀ c, c ≠ nx → c ≠ nx + 1 → gr2 c = gr c := fun c c1 c2 => by
        rw [← hr2]; funext k; rw [pr_get, if_neg (fun z => c1 z.1), up_ne _ _ _ c2, up_ne _ _ _ c1]
      have k2b : (hk2 nx).1 = 24 := by rw [← hh2, up_ne _ _ _ (by omega), up_same]
      have k2c : hk2 (nx + 1) = (1, 8) := by rw [← hh2, up_same]
      have r2b : gr2 nx 0 = some (nx + 1) := by rw [← hr2, pr_get, if_pos ⟨rfl, rfl⟩]
      have g2n : ∀ k, g2 nx k = 0 := fun k => by
        rw [← hg2, pi_get]
        by_cases z : nx = nx ∧ k = 1
        · rw [if_pos z]
        · rw [if_neg z, up_ne _ _ _ (by omega), up_same]
      have wg := wordG_spec (X := X) (a := a) (c := nx) (g := g2) (g2n 3)
      have x2 : ∀ i, XTx hk2 (wordG g2 nx a X i) gr2 rd X n := fun i => by
        have q0 : wordG g2 nx a X i 0 = g9 0 := by rw [(wg i).2.2.2 0 (by omega) (by omega), gg2 0 (by omega) (by omega)]
        have q1 : wordG g2 nx a X i 1 = g9 1 := by rw [(wg i).2.2.2 1 (by omega) (by omega), gg2 1 (by omega) (by omega)]
        refine ⟨x.txt, by rw [rr2 rd (by omega) (by omega)]; exact x.out, by rw [k2 0 (by omega) (by omega)]; exact x.k0, by rw [q0]; exact x9.size, by rw [rr2 0 (by omega) (by omega)]; exact x.tp, by rw [k2 1 (by omega) (by omega)]; exact x.k1, by rw [q1]; exact x9.text, hf⟩
      have u0 : ∀ i, wordG g2 nx a X i rd = g9 rd := fun i => by rw [(wg i).2.2.2 rd (by omega) (by omega), gg2 rd (by omega) (by omega)]
      have lp2 : ∀ cN cS, nx + 2 ≤ cN → ns + 12 ≤ cS → g_loop g_K (fun (s : Int32 × HK × Nat × Nat × GI × GR) => f_X5_go_l84 cN cS rd nx s.1 s.2.1 s.2.2.1 s.2.2.2.1 s.2.2.2.2.1 s.2.2.2.2.2) (0, hk2, nx + 2, ns + 12, g2, gr2) = some (N (e - a), hk2, nx + 2, ns + 12, wordG g2 nx a X (e - a), gr2) := by
        intro cN cS q1 q2
        refine loop_T (fun i => (N i, hk2, nx + 2, ns + 12, wordG g2 nx a X i, gr2)) (e - a) rfl (fun i hi => ?_) ?_ (by show e - a < 100000; omega)
        · dsimp only
          have r0 : wordG g2 nx a X i rd 0 = N a := by rw [u0]; exact v0
          have xi := xl (a + i) (by omega) (by omega)
          rw [f_X5_go_l84, x_letter (x2 i) r0 (by omega), Option.bind_some, s3 _ (by omega) (by omega), if_pos rfl, if_neg (by decide), show (8 : Int32) = N 8 from rfl, if_le (by omega) (by omega)]
          by_cases q : 8 ≤ i
          · rw [if_pos q, one, N_add, wordG, if_neg (by omega)]
          · rw [if_neg q, x_here (x2 i) r0 (by omega), if_neg (by omega), Option.bind_some, g_is_of k2b, Option.bind_some, chr_b _ (by omega), cc_of (q := (nx, hk2, nx + 2, ns + 12, g_pi (g_pi (wordG g2 nx a X i) nx 3 (N (i + 1))) (nx + 1) i (N (X (a + i))), gr2)) (fun c1 c2 q1 q2 => x_append k2b r2b k2c (by rw [(wg i).2.1 1 (by decide)]; exact g2n 1) (by rw [(wg i).1, if_neg (by omega)]) (by omega) (by omega) c1 c2 q1 q2) (Nat.le_refl _) (Nat.le_refl _) q1 q2, Option.bind_some, one, N_add, wordG, if_pos (by omega)]
        · dsimp only
          have r0 : wordG g2 nx a X (e - a) rd 0 = N a := by rw [u0]; exact v0
          rw [f_X5_go_l84, x_letter (x2 (e - a)) r0 (by omega), Option.bind_some, show a + (e - a) = e by omega, s4, if_neg (show ¬ (false = true) by decide), if_pos rfl]
      have wd : ∀ cN cS, nx + 2 ≤ cN → ns + 12 ≤ cS → f_X5_go cN cS hk nx ns gi gr rd = f_X5_go_x84 cN cS rd nx (N (e - a)) hk2 (nx + 2) (ns + 12) (wordG g2 nx a X (e - a)) gr2 := by
        intro cN cS q1 q2
        rw [f_X5_go, lp, Option.bind_some]
        dsimp only
        rw [f_X5_go_x0, t0, Option.bind_some, hg7, he, Option.bind_some, Option.bind_some, hg9, if_pos (N_pos (by omega)), le, Option.bind_some, if_pos h2, if_neg (by decide), new_of (by omega) (by omega) (by omega), Option.bind_some]
        dsimp only
        rw [cc_of (q := (hk2, nx + 2, ns + 12, g2, gr2)) (fun c1 c2 q1 q2 => ini c1 c2 q1 q2) (by show nx + 1 ≤ nx + 2; omega) (by show ns + 4 ≤ ns + 12; omega) q1 q2, Option.bind_some]
        dsimp only
        rw [lp2 cN cS q1 q2, Option.bind_some]
      generalize hgW : wordG g2 nx a X (e - a) = gW at wd
      have W := wg (e - a)
      rw [hgW] at W
      have Wr : gW rd = g9 rd := by rw [← hgW]; exact u0 _
      have Wc : ∀ c, c ≠ nx → c ≠ nx + 1 → gW c = g9 c := fun c c1 c2 => by rw [W.2.2.2 c c1 c2, gg2 c c1 c2]
      by_cases h3 : 8 < e - a
      · rw [if_pos h3]
        refine ⟨hk2, nx + 2, ns + 12, gW, gr2, by omega, by omega, by omega, by omega, fun _ z => absurd rfl z, fun _ => by rw [rr2 rd (by omega) (by omega)], fun cN cS q1 q2 => ?_, ⟨?_, ?_, fun z => absurd rfl z, fun z => absurd (show (3 : Nat) = 2 from z) (by decide), fun z => absurd (show (3 : Nat) = 1 from z) (by decide)⟩, ⟨fun c hc => k2 c (by omega) (by omega), fun c hc hcr => by rw [Wc c (by omega) (by omega), wc c hcr], fun c hc hcr => rr2 c (by omega) (by omega), fun k hk9 => by rw [Wr]; exact w4 k (by omega), fun k _ => by rw [rr2 rd (by omega) (by omega)]⟩⟩
        · rw [wd cN cS q1 q2, f_X5_go_x84, show (8 : Int32) = N 8 from rfl, if_le (by omega) (by omega), if_neg (by omega)]
        · rw [Wr, v2]; rfl
        · rw [Wr, v1]; rfl
      · rw [if_neg h3]
        obtain ⟨hk3, g3, gr3, t1, t2, t3, t4, t5⟩ := x_toString (hk := hk2) (gi := gW) (gr := gr2) (nx := nx + 2) (ns := ns + 12) (b := nx) (c := nx + 1) (j := e - a) (w := fun i => X (a + i)) k2b r2b k2c (by rw [W.2.1 1 (by decide)]; exact g2n 1) (by rw [W.1, if_neg h3]) ⟨by omega, by omega⟩ (fun k hk9 => W.2.2.1 k hk9 (by omega)) (fun k hk9 => xl (a + k) (by omega) (by omega)) (by omega) (by omega) (by omega)
        have k3 : (hk3 (nx + 2)).1 = 25 := t2.k
        have t5r := t5 rd (by omega) (by omega)
        have g3r : g3 rd = g9 rd := by rw [t5r.2.1, Wr]
        generalize hgF : g_pi (g_pi g3 rd 1 1) rd 0 (N (a + (e - a))) = gF
        generalize hrF : g_pr gr3 rd 8 (some (nx + 2)) = rF
        have Fc : ∀ c, c ≠ rd → gF c = g3 c := fun c hc => by rw [← hgF, pi_off hc, pi_off hc]
        have Rc : ∀ c, c ≠ rd → rF c = gr3 c := fun c hc => by rw [← hrF]; funext k; rw [pr_get, if_neg (fun z => hc z.1)]
        refine ⟨hk3, nx + 4, ns + 12 + 4 + (e - a), gF, rF, by omega, by omega, by omega, by omega, fun z => absurd rfl z, fun z => absurd rfl z, fun cN cS q1 q2 => ?_, ⟨?_, ?_, fun _ => ?_, fun z => absurd (show (1 : Nat) = 2 from z) (by decide), fun _ => ?_⟩, ⟨fun c hc => ?_, fun c hc hcr => ?_, fun c hc hcr => ?_, fun k hk9 => ?_, fun k hk9 => ?_⟩⟩
        · have ok3 : g_ok hk3 (nx + 2) = some () := by rw [g_ok, k3, if_pos (by decide)]
          rw [wd cN cS (by omega) (by omega), f_X5_go_x84, show (8 : Int32) = N 8 from rfl, if_le (by omega) (by omega), if_pos (by omega), g_is_of k2b, Option.bind_some, cc_of (q := (nx + 2, hk3, nx + 2 + 2, ns + 12 + 4 + (e - a), g3, gr3)) (fun c1 c2 q1 q2 => t1 c1 c2 q1 q2) (by show nx + 2 ≤ nx + 2 + 2; omega) (by show ns + 12 ≤ ns + 12 + 4 + (e - a); omega) q1 q2, Option.bind_some]
          dsimp only
          rw [ok3, Option.bind_some, Option.bind_some, Option.bind_some, f_X5_go_j226, Option.bind_some, pi_get, if_neg (by omega), g3r, v0, N_add, hgF, hrF]
        · rw [← hgF, pi_get, if_neg (by omega), pi_get, if_neg (by omega), g3r, v2]; rfl
        · rw [← hgF, pi_get, if_neg (by omega), pi_get, if_pos ⟨rfl, rfl⟩]; rfl
        · rw [← hgF, pi_get, if_pos ⟨rfl, rfl⟩, show a + (e - a) = e by omega]; rfl
        · refine ⟨nx + 2, by rw [← hrF, pr_get, if_pos ⟨rfl, rfl⟩], by omega, by omega, ⟨k3, by rw [Rc _ (by omega)]; exact t2.b, t2.kb, t2.len, fun i hi => by rw [Fc _ (by omega)]; exact t2.low i hi, by rw [Fc _ (by omega)]; exact t2.cod⟩, by rw [Fc _ (by omega)]; exact t3, by rw [Fc _ (by omega)]; exact t4, rfl⟩
        · rw [(t5 c (by omega) (by omega)).1]; exact k2 c (by omega) (by omega)
        · rw [Fc c hcr, (t5 c (by omega) (by omega)).2.1, Wc c (by omega) (by omega), wc c hcr]
        · rw [Rc c hcr, (t5 c (by omega) (by omega)).2.2]; exact rr2 c (by omega) (by omega)
        · rw [← hgF, pi_get, if_neg (by omega), pi_get, if_neg (by omega), g3r]; exact w4 k (by omega)
        · rw [← hrF, pr_get, if_neg (fun z => hk9 z.2), t5r.2.2, rr2 rd (by omega) (by omega)]
    · rw [if_neg h2]
      by_cases h4 : isD (X a) = true
      · -- a number
        rw [if_pos h4]
        obtain ⟨s1, s2, s3, s4⟩ := lexD_spec x.txt b2
        generalize hE : lexD X n a = e at s1 s2 s3 s4
        have ne : e ≠ a := fun z => by rw [z, h4] at s4; exact absurd s4 (by decide)
        have xd : ∀ i, a ≤ i → i < e → 48 ≤ X i ∧ X i ≤ 57 := fun i i1 i2 => isD_in (s3 i i1 i2)
        generalize hT : (fun i => g_pi g9 rd 3 (N (digs X a (if 4 < i then 4 else i)))) = T
        have Tv : ∀ i, T i = g_pi g9 rd 3 (N (digs X a (if 4 < i then 4 else i))) := fun i => by rw [← hT]
        have Tc : ∀ i c, c ≠ rd → T i c = gi c := fun i c hc => by rw [Tv, pi_off hc]; exact wc c hc
        have T0 : ∀ i, T i rd 0 = N a := fun i => by rw [Tv, pi_get, if_neg (by omega)]; exact v0
        have T1 : ∀ i, T i rd 1 = 3 := fun i => by rw [Tv, pi_get, if_neg (by omega)]; exact v1
        have T2 : ∀ i, T i rd 2 = N a := fun i => by rw [Tv, pi_get, if_neg (by omega)]; exact v2
        have T3 : ∀ i, T i rd 3 = N (digs X a (if 4 < i then 4 else i)) := fun i => by rw [Tv, pi_get, if_pos ⟨rfl, rfl⟩]
        have T4 : ∀ i k, 4 ≤ k → T i rd k = gi rd k := fun i k hk9 => by rw [Tv, pi_get, if_neg (by omega)]; exact w4 k (by omega)
        have xT : ∀ i, XTx hk (T i) gr rd X n := fun i => x.of (by rw [Tc i 0 (by omega)]) (Tc i 1 (by omega))
        have lp2 : ∀ cN cS : Nat, g_loop g_K (fun (s : Int32 × HK × Nat × Nat × GI × GR) => f_X5_go_l151 cN cS rd s.1 s.2.1 s.2.2.1 s.2.2.2.1 s.2.2.2.2.1 s.2.2.2.2.2) (0, hk, nx, ns, g_pi g9 rd 3 0, gr) = some (N (e - a), hk, nx, ns, T (e - a), gr) := by
          intro cN cS
          refine loop_T (fun i => (N i, hk, nx, ns, T i, gr)) (e - a) (by rw [Tv]; rfl) (fun i hi => ?_) ?_ (by show e - a < 100000; omega)
          · dsimp only
            have dd := xd (a + i) (by omega) (by omega)
            rw [f_X5_go_l151, x_digit (xT i) (T0 i) (by omega), Option.bind_some, s3 _ (by omega) (by omega), if_pos rfl, if_neg (by decide), show (4 : Int32) = N 4 from rfl, if_le (by omega) (by omega)]
            by_cases q : 4 ≤ i
            · rw [if_pos q, one, N_add, Tv, Tv, if_pos (show 4 < i + 1 by omega)]
              by_cases q2 : 4 < i
              · rw [if_pos q2]
              · rw [if_neg q2, show i = 4 by omega]
            · have dsub : N (10 * digs X a i) + N (X (a + i)) - 48 = N (digs X a (i + 1)) := by rw [N_add, show (48 : Int32) = N 48 from rfl, N_sub (by omega)]; rfl
              rw [if_neg q, x_here (xT i) (T0 i) (by omega), if_neg (by omega), Option.bind_some, Option.bind_some, T3, if_neg (by omega), show (10 : Int32) = N 10 from rfl, N_mul, dsub, one, N_add, Tv, Tv, pi_pi, if_neg (by omega)]
          · dsimp only
            rw [f_X5_go_l151, x_digit (xT (e - a)) (T0 (e - a)) (by omega), Option.bind_some, show a + (e - a) = e by omega, s4, if_neg (show ¬ (false = true) by decide), if_pos rfl]
        have wd : ∀ cN cS : Nat, f_X5_go cN cS hk nx ns gi gr rd = f_X5_go_x151 cN cS rd (N (e - a)) hk nx ns (T (e - a)) gr := by
          intro cN cS
          rw [f_X5_go, lp, Option.bind_some]
          dsimp only
          rw [f_X5_go_x0, t0, Option.bind_some, hg7, he, Option.bind_some, Option.bind_some, hg9, if_pos (N_pos (by omega)), le, Option.bind_some, if_neg h2, if_pos rfl, di, Option.bind_some, if_pos h4, if_neg (by decide), Option.bind_some, lp2, Option.bind_some]
        have bad : ∃ hk' nx' ns' gi' gr', nx ≤ nx' ∧ nx' ≤ nx + 4 ∧ ns ≤ ns' ∧ ns' ≤ ns + 24 ∧ ((3 : Nat) ≠ 1 → (3 : Nat) ≠ 3 → nx' = nx ∧ ns' = ns) ∧ ((3 : Nat) ≠ 1 → gr' rd 8 = gr rd 8) ∧ (∀ cN cS : Nat, nx' ≤ cN → ns' ≤ cS → (some (hk, nx, ns, T (e - a), gr) : Option (HK × Nat × Nat × GI × GR)) = some (hk', nx', ns', gi', gr')) ∧ XTk hk' gi' gr' rd nx nx' X ((3, a, 0, a) : Tk) ∧ XGo nx rd hk hk' gi gi' gr gr' :=
          ⟨hk, nx, ns, T (e - a), gr, Nat.le_refl _, by omega, Nat.le_refl _, by omega, fun _ z => absurd rfl z, fun _ => rfl, fun _ _ _ _ => rfl, ⟨T2 _, T1 _, fun z => absurd rfl z, fun z => absurd (show (3 : Nat) = 2 from z) (by decide), fun z => absurd (show (3 : Nat) = 1 from z) (by decide)⟩, fin _ (Tc _) (T4 _)⟩
        by_cases q : 4 < e - a
        · rw [if_pos (Or.inl q)]
          have ww : ∀ cN cS : Nat, f_X5_go cN cS hk nx ns gi gr rd = some (hk, nx, ns, T (e - a), gr) := fun cN cS => by
            rw [wd, f_X5_go_x151, show (4 : Int32) = N 4 from rfl, if_lt (by omega) (by omega), if_pos q]
          simp only [ww]
          exact bad
        · have le2 := x_letter (xT (e - a)) (T0 (e - a)) (k := e - a) (by omega)
          rw [show a + (e - a) = e by omega] at le2
          by_cases q2 : isL (X e) = true
          · rw [if_pos (Or.inr q2)]
            have ww : ∀ cN cS : Nat, f_X5_go cN cS hk nx ns gi gr rd = some (hk, nx, ns, T (e - a), gr) := fun cN cS => by
              rw [wd, f_X5_go_x151, show (4 : Int32) = N 4 from rfl, if_lt (by omega) (by omega), if_neg q, le2, Option.bind_some, if_pos q2, if_neg (by decide)]
            simp only [ww]
            exact bad
          · rw [if_neg (fun z => z.elim q q2)]
            refine ⟨hk, nx, ns, g_pi (g_pi (T (e - a)) rd 1 2) rd 0 (N (a + (e - a))), gr, Nat.le_refl _, by omega, Nat.le_refl _, by omega, fun _ _ => ⟨rfl, rfl⟩, fun _ => rfl, fun cN cS _ _ => ?_, ⟨?_, ?_, fun _ => ?_, fun _ => ?_, fun z => absurd (show (2 : Nat) = 1 from z) (by decide)⟩, fin _ (own9 _ _ _ (own9 _ _ _ (Tc _))) (fun k hk9 => by rw [pi_get, if_neg (by omega), pi_get, if_neg (by omega)]; exact T4 _ k hk9)⟩
            · rw [wd, f_X5_go_x151, show (4 : Int32) = N 4 from rfl, if_lt (by omega) (by omega), if_neg q, le2, Option.bind_some, if_neg q2, if_pos rfl, Option.bind_some, j226 cN cS _ (e - a) (by rw [pi_get, if_neg (by omega)]; exact T0 _)]
            · rw [pi_get, if_neg (by omega), pi_get, if_neg (by omega), T2]; rfl
            · rw [pi_get, if_neg (by omega), pi_get, if_pos ⟨rfl, rfl⟩]; rfl
            · rw [pi_get, if_pos ⟨rfl, rfl⟩, show a + (e - a) = e by omega]; rfl
            · rw [pi_get, if_neg (by omega), pi_get, if_neg (by omega), T3, if_neg q]; rfl
      · rw [if_neg h4]
        by_cases h5 : isSg (X a) = true
        · rw [if_pos h5]
          have sg := (of_decide_eq_true h5 : X a = 59 ∨ X a = 40 ∨ X a = 41 ∨ X a = 60 ∨ X a = 62 ∨ X a = 61 ∨ X a = 43 ∨ X a = 45 ∨ X a = 42 ∨ X a = 47 ∨ X a = 37)
          refine ⟨hk, nx, ns, g_pi (g_pi g9 rd 1 (N (X a))) rd 0 (N (a + 1)), gr, Nat.le_refl _, by omega, Nat.le_refl _, by omega, fun _ _ => ⟨rfl, rfl⟩, fun _ => rfl, fun cN cS _ _ => ?_, ⟨?_, ?_, fun _ => ?_, fun z => absurd (show X a = 2 from z) (by omega), fun z => absurd (show X a = 1 from z) (by omega)⟩, fin _ (own9 _ _ _ (own9 _ _ _ wc)) (fun k hk9 => by rw [pi_get, if_neg (by omega), pi_get, if_neg (by omega)]; exact w4 k (by omega))⟩
          · rw [f_X5_go, lp, Option.bind_some]
            dsimp only
            rw [f_X5_go_x0, t0, Option.bind_some, hg7, he, Option.bind_some, Option.bind_some, hg9, if_pos (N_pos (by omega)), le, Option.bind_some, if_neg h2, if_pos rfl, di, Option.bind_some, if_neg h4, if_pos rfl, x_isSign lo, Option.bind_some, if_pos h5, if_neg (by decide), Option.bind_some]
            exact j226 cN cS _ 1 (by rw [pi_get, if_neg (by omega)]; exact v0)
          · rw [pi_get, if_neg (by omega), pi_get, if_neg (by omega), v2]; rfl
          · rw [pi_get, if_neg (by omega), pi_get, if_pos ⟨rfl, rfl⟩]; rfl
          · rw [pi_get, if_pos ⟨rfl, rfl⟩]; rfl
        · rw [if_neg h5]
          refine ⟨hk, nx, ns, g_pi g9 rd 0 (N (a + 0)), gr, Nat.le_refl _, by omega, Nat.le_refl _, by omega, fun _ _ => ⟨rfl, rfl⟩, fun _ => rfl, fun cN cS _ _ => ?_, ⟨?_, ?_, fun z => absurd rfl z, fun z => absurd (show (3 : Nat) = 2 from z) (by decide), fun z => absurd (show (3 : Nat) = 1 from z) (by decide)⟩, fin _ (own9 _ _ _ wc) (fun k hk9 => by rw [pi_get, if_neg (by omega)]; exact w4 k (by omega))⟩
          · rw [f_X5_go, lp, Option.bind_some]
            dsimp only
            rw [f_X5_go_x0, t0, Option.bind_some, hg7, he, Option.bind_some, Option.bind_some, hg9, if_pos (N_pos (by omega)), le, Option.bind_some, if_neg h2, if_pos rfl, di, Option.bind_some, if_neg h4, if_pos rfl, x_isSign lo, Option.bind_some, if_neg h5, if_pos rfl]
            exact j226 cN cS _ 0 v0
          · rw [pi_get, if_neg (by omega), v2]; rfl
          · rw [pi_get, if_neg (by omega), v1]; rfl
end P4

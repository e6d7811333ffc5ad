set_option linter.unusedVariables false
set_option linter.unusedSimpArgs false
/-! THE PLAIN LAW: tokens of the component -/
theorem fits_b : ∀ x, x < 128 → fits .byte (.int (N x)) = true := by decide +kernel
theorem nar_b0 : ∀ x, x < 128 → (N x).toInt8.toInt32.toInt8.toInt32 = N x := by decide +kernel
theorem nar_b {x : Nat} (h : x < 128) : vp_nar .byte ((N x).toInt8.toInt32) = N x := by rw [vp_nar_byte]; exact nar_b0 x h
theorem chr_b : ∀ x, x < 256 → ((N x).toUInt32 % 65536).toInt32 = N x := by decide +kernel
theorem cap8 : ∀ i, i < 8 → (N (i + 1) - ((Int32.ofNat 8) >>> ((0 : Int32) &&& 31))) ≤ 0 := by decide +kernel
section P3
variable {hk hk' : HK} {nx nx' ns : Nat} {gi gi' : GI} {gr gr' : GR} {rd : Nat} {X : Nat → Nat} {n p : Nat}
/-- the component's text, as the reader at rd sees it -/
abbrev XTx (hk : HK) (gi : GI) (gr : GR) (rd : Nat) (X : Nat → Nat) (n : Nat) : Prop := (Txt X n) ∧ (gr rd 10 = some 0) ∧ ((hk 0).1 = 10) ∧ (gi 0 1 = N n) ∧ (gr 0 0 = some 1) ∧ (hk 1 = (1, 1600)) ∧ (∀ k, k < n → gi 1 k &&& 255 = N (X k)) ∧ (2 ≤ rd)
theorem XTx.txt {hk : HK} {gi : GI} {gr : GR} {rd : Nat} {X : Nat → Nat} {n : Nat} (h : XTx hk gi gr rd X n) : Txt X n := h.1
theorem XTx.out {hk : HK} {gi : GI} {gr : GR} {rd : Nat} {X : Nat → Nat} {n : Nat} (h : XTx hk gi gr rd X n) : gr rd 10 = some 0 := h.2.1
theorem XTx.k0 {hk : HK} {gi : GI} {gr : GR} {rd : Nat} {X : Nat → Nat} {n : Nat} (h : XTx hk gi gr rd X n) : (hk 0).1 = 10 := h.2.2.1
theorem XTx.size {hk : HK} {gi : GI} {gr : GR} {rd : Nat} {X : Nat → Nat} {n : Nat} (h : XTx hk gi gr rd X n) : gi 0 1 = N n := h.2.2.2.1
theorem XTx.tp {hk : HK} {gi : GI} {gr : GR} {rd : Nat} {X : Nat → Nat} {n : Nat} (h : XTx hk gi gr rd X n) : gr 0 0 = some 1 := h.2.2.2.2.1
theorem XTx.k1 {hk : HK} {gi : GI} {gr : GR} {rd : Nat} {X : Nat → Nat} {n : Nat} (h : XTx hk gi gr rd X n) : hk 1 = (1, 1600) := h.2.2.2.2.2.1
theorem XTx.text {hk : HK} {gi : GI} {gr : GR} {rd : Nat} {X : Nat → Nat} {n : Nat} (h : XTx hk gi gr rd X n) : ∀ k, k < n → gi 1 k &&& 255 = N (X k) := h.2.2.2.2.2.2.1
theorem XTx.far {hk : HK} {gi : GI} {gr : GR} {rd : Nat} {X : Nat → Nat} {n : Nat} (h : XTx hk gi gr rd X n) : 2 ≤ rd := h.2.2.2.2.2.2.2
/-- a word's cell c, its letters in the next -/
abbrev Str (hk : HK) (gi : GI) (gr : GR) (c j : Nat) (w : Nat → Nat) : Prop := ((hk c).1 = 25) ∧ (gr c 0 = some (c + 1)) ∧ (hk (c + 1) = (1, j)) ∧ (1 ≤ j ∧ j ≤ 8) ∧ (∀ i, i < j → gi (c + 1) i = N (w i) ∧ 97 ≤ w i ∧ w i ≤ 122) ∧ (gi c 1 = 0)
theorem Str.k {hk : HK} {gi : GI} {gr : GR} {c j : Nat} {w : Nat → Nat} (h : Str hk gi gr c j w) : (hk c).1 = 25 := h.1
theorem Str.b {hk : HK} {gi : GI} {gr : GR} {c j : Nat} {w : Nat → Nat} (h : Str hk gi gr c j w) : gr c 0 = some (c + 1) := h.2.1
theorem Str.kb {hk : HK} {gi : GI} {gr : GR} {c j : Nat} {w : Nat → Nat} (h : Str hk gi gr c j w) : hk (c + 1) = (1, j) := h.2.2.1
theorem Str.len {hk : HK} {gi : GI} {gr : GR} {c j : Nat} {w : Nat → Nat} (h : Str hk gi gr c j w) : 1 ≤ j ∧ j ≤ 8 := h.2.2.2.1
theorem Str.low {hk : HK} {gi : GI} {gr : GR} {c j : Nat} {w : Nat → Nat} (h : Str hk gi gr c j w) : ∀ i, i < j → gi (c + 1) i = N (w i) ∧ 97 ≤ w i ∧ w i ≤ 122 := h.2.2.2.2.1
theorem Str.cod {hk : HK} {gi : GI} {gr : GR} {c j : Nat} {w : Nat → Nat} (h : Str hk gi gr c j w) : gi c 1 = 0 := h.2.2.2.2.2
theorem x_here (x : XTx hk gi gr rd X n) (h0 : gi rd 0 = N p) {k : Nat} (hk9 : p + k < 100000) : f_X5_here hk gi gr rd (N k) = some (if n ≤ p + k then -1 else N (X (p + k))) := by
  have hl := x.txt.len
  rw [f_X5_here, x.out, Option.bind_some, g_is_of x.k0, Option.bind_some, x.size, h0, N_add, if_le (by omega) (by omega)]
  by_cases h : n ≤ p + k
  · rw [if_pos h, if_pos h]
  · rw [if_neg h, if_neg h, Option.bind_some, g_is_of x.k0, Option.bind_some, x.tp, Option.bind_some, g_is_of (show (hk 1).1 = 1 by rw [x.k1]), Option.bind_some, x.k1, N_ld (by show p + k < 1600; omega) (by decide), Option.bind_some, x.text _ (by omega)]
theorem x_letter (x : XTx hk gi gr rd X n) (h0 : gi rd 0 = N p) {k : Nat} (hk9 : p + k < 100000) : f_X5_isLetter hk gi gr rd (N k) = some (if isL (X (p + k)) = true then 1 else 0) := by
  rw [f_X5_isLetter, x_here x h0 hk9, Option.bind_some]
  by_cases h : n ≤ p + k
  · rw [if_pos h, if_pos (by decide), x.txt.l _ h, if_neg (show ¬ (false = true) by decide)]
  · have lo := x.txt.low (p + k) (by omega)
    rw [if_neg h, Option.bind_some, show (97 : Int32) = N 97 from rfl, show (122 : Int32) = N 122 from rfl, if_lt (by omega) (by omega), if_lt (by omega) (by omega)]
    unfold isL
    simp only [decide_eq_true_eq]
    by_cases h1 : X (p + k) < 97
    · rw [if_pos h1, if_neg (by omega)]
    · rw [if_neg h1]
      by_cases h2 : 122 < X (p + k)
      · rw [if_pos h2, if_neg (by omega)]
      · rw [if_neg h2, if_pos (by omega)]
theorem x_digit (x : XTx hk gi gr rd X n) (h0 : gi rd 0 = N p) {k : Nat} (hk9 : p + k < 100000) : f_X5_isDigit hk gi gr rd (N k) = some (if isD (X (p + k)) = true then 1 else 0) := by
  rw [f_X5_isDigit, x_here x h0 hk9, Option.bind_some]
  by_cases h : n ≤ p + k
  · rw [if_pos h, if_pos (by decide), x.txt.d _ h, if_neg (show ¬ (false = true) by decide)]
  · have lo := x.txt.low (p + k) (by omega)
    rw [if_neg h, Option.bind_some, show (48 : Int32) = N 48 from rfl, show (57 : Int32) = N 57 from rfl, if_lt (by omega) (by omega), if_lt (by omega) (by omega)]
    unfold isD
    simp only [decide_eq_true_eq]
    by_cases h1 : X (p + k) < 48
    · rw [if_pos h1, if_neg (by omega)]
    · rw [if_neg h1]
      by_cases h2 : 57 < X (p + k)
      · rw [if_pos h2, if_neg (by omega)]
      · rw [if_neg h2, if_pos (by omega)]
theorem x_isSign {c : Nat} (hc : c < 256) : f_X5_isSign hk gi gr (N c) = some (if isSg c = true then 1 else 0) := by
  rw [← sgn_all c hc gi]
  rfl
/-- letters that are added to a StringBuilder at c -/
def wordG (g : GI) (c a : Nat) (X : Nat → Nat) : Nat → GI
  | 0 => g
  | i + 1 => if i < 8 then g_pi (g_pi (wordG g c a X i) c 3 (N (i + 1))) (c + 1) i (N (X (a + i))) else wordG g c a X i
theorem wordG_spec {g : GI} {c a : Nat} (h3 : g c 3 = N 0) : ∀ i, wordG g c a X i c 3 = N (if 8 < i then 8 else i) ∧ (∀ k, k ≠ 3 → wordG g c a X i c k = g c k) ∧ (∀ k, k < i → k < 8 → wordG g c a X i (c + 1) k = N (X (a + k))) ∧ ∀ d, d ≠ c → d ≠ c + 1 → wordG g c a X i d = g d
  | 0 => ⟨h3, fun _ _ => rfl, fun k h => absurd h (by omega), fun _ _ _ => rfl⟩
  | i + 1 => by
    obtain ⟨i1, i2, i3, i4⟩ := wordG_spec h3 i
    rw [wordG]
    by_cases q : i < 8
    · rw [if_pos q]
      refine ⟨?_, fun k hk9 => ?_, fun k k1 k2 => ?_, fun d d1 d2 => ?_⟩
      · rw [pi_get, if_neg (by omega), pi_get, if_pos ⟨rfl, rfl⟩, if_neg (by omega)]
      · rw [pi_get, if_neg (by omega), pi_get, if_neg (by omega)]; exact i2 k hk9
      · rw [pi_get]
        by_cases z : k = i
        · rw [if_pos ⟨rfl, z⟩, z]
        · rw [if_neg (fun y => z y.2), pi_get, if_neg (by omega)]; exact i3 k (by omega) k2
      · rw [pi_off d2, pi_off d1]; exact i4 d d1 d2
    · rw [if_neg q]
      refine ⟨?_, i2, fun k k1 k2 => i3 k (by omega) k2, i4⟩
      rw [i1, if_pos (show 8 < i + 1 by omega)]
      by_cases z : 8 < i
      · rw [if_pos z]
      · rw [if_neg z, show i = 8 by omega]
theorem x_append {b c : Nat} (k24 : (hk b).1 = 24) (gb : gr b 0 = some c) (kc : hk c = (1, 8)) (g1 : gi b 1 = 0) {i x : Nat} (g3 : gi b 3 = N i) (hi : i < 8) (hx : x < 128) : ∀ cN cS, nx ≤ cN → ns ≤ cS → f_J6_append cN cS hk nx ns gi gr b (N x) = some (b, hk, nx, ns, g_pi (g_pi gi b 3 (N (i + 1))) c i (N x), gr) := by
  intro cN cS h1 h2
  have en : ∀ c1 c2 : Nat, f_J5_ensureCapacityInternal c1 c2 hk nx ns gi gr b (N i + 1) = some (hk, nx, ns, gi, gr) := by
    intro c1 c2
    rw [f_J5_ensureCapacityInternal, gb, Option.bind_some, g_is_of (show (hk c).1 = 1 by rw [kc]), Option.bind_some, kc, g1, show (1 : Int32) = N 1 from rfl, N_add]
    exact if_pos (cap8 i hi)
  have ap : ∀ c1 c2, nx ≤ c1 → ns ≤ c2 → f_J5_append c1 c2 hk nx ns gi gr b (N x) = some (b, hk, nx, ns, g_pi (g_pi gi b 3 (N (i + 1))) c i (N x), gr) := by
    intro c1 c2 q1 q2
    have la : f_J5_isLatin1 hk gi gr b = some 1 := by rw [f_J5_isLatin1, if_neg (by decide), if_pos g1]
    have ce : f_J12_canEncode hk gi gr (N x) = some 1 := by rw [f_J12_canEncode, show (255 : Int32) = N 255 from rfl, if_lt (by omega) (by omega), if_neg (by omega)]
    rw [f_J5_append, g3, cc_of (q := (hk, nx, ns, gi, gr)) (fun c1 c2 _ _ => en c1 c2) (Nat.le_refl _) (Nat.le_refl _) q1 q2, Option.bind_some]
    dsimp only
    rw [la, Option.bind_some, if_neg (by decide), ce, Option.bind_some, if_neg (by decide), gb, Option.bind_some, Option.bind_some, g_is_of (show (hk c).1 = 1 by rw [kc]), Option.bind_some, g3, kc, N_st (by show i < 8; exact hi) (by decide), Option.bind_some, nar_b hx, show (1 : Int32) = N 1 from rfl, N_add]
  rw [f_J6_append, cc_of (q := (b, hk, nx, ns, g_pi (g_pi gi b 3 (N (i + 1))) c i (N x), gr)) (fun c1 c2 q1 q2 => ap c1 c2 q1 q2) (Nat.le_refl _) (Nat.le_refl _) h1 h2, Option.bind_some]
theorem g_len_of {j : Nat} (h : j ≤ 100) : g_len (N j) = some () := by
  rw [g_len, if_neg]
  rintro (c | c)
  · exact absurd c (N_nneg (by omega))
  · rw [N_toNat (by omega)] at c; omega
/-- the word that a StringBuilder holds -/
theorem x_toString {b c j : Nat} {w : Nat → Nat} (k24 : (hk b).1 = 24) (gb : gr b 0 = some c) (kc : hk c = (1, 8)) (g1 : gi b 1 = 0) (g3 : gi b 3 = N j) (hj : 1 ≤ j ∧ j ≤ 8) (gc : ∀ k, k < j → gi c k = N (w k)) (hw : ∀ k, k < j → 97 ≤ w k ∧ w k ≤ 122) (bn : b < nx) (cn : c < nx) (hx : nx + 1 < 1000000) : ∃ hk' gi' gr', (∀ cN cS, nx + 2 ≤ cN → ns + 4 + j ≤ cS → f_J6_toString cN cS hk nx ns gi gr b = some (nx, hk', nx + 2, ns + 4 + j, gi', gr')) ∧ Str hk' gi' gr' nx j w ∧ gi' nx 2 = 0 ∧ gi' nx 3 = 0 ∧ ∀ d, d ≠ nx → d ≠ nx + 1 → hk' d = hk d ∧ gi' d = gi d ∧ gr' d = gr d := by
  generalize hh3 : va_up hk nx (25, 0) = hk3
  generalize hg3 : g_pi (va_up gi nx (fun _ => (0 : Int32))) nx 1 0 = g3'
  generalize hr3 : va_up gr nx (fun _ => none) = gr3
  have kk : ∀ d, d ≠ nx → hk3 d = hk d := fun d hd => by rw [← hh3, up_ne _ _ _ hd]
  have gg : ∀ d, d ≠ nx → g3' d = gi d := fun d hd => by rw [← hg3, pi_off hd, up_ne _ _ _ hd]
  have rr : ∀ d, d ≠ nx → gr3 d = gr d := fun d hd => by rw [← hr3, up_ne _ _ _ hd]
  have g0 : ∀ k, g3' nx k = 0 := fun k => by
    rw [← hg3, pi_get]
    by_cases z : nx = nx ∧ k = 1
    · rw [if_pos z]
    · rw [if_neg z, up_same]
  have kc3 : hk3 c = (1, 8) := by rw [kk c (by omega)]; exact kc
  have okc : g_ok hk3 c = some () := by rw [g_ok, kc3]; exact if_pos (show 1 < 1000 by decide)
  -- the copy
  have cp : ∃ f : Nat → Int32, (∀ k, k < j → f k = N (w k)) ∧ ∀ c1 c2, nx + 2 ≤ c1 → ns + 4 + j ≤ c2 → f_J11_copyOfRange c1 c2 hk3 (nx + 1) (ns + 4) g3' gr3 c 0 (N j) = some (nx + 1, va_up hk3 (nx + 1) (1, j), nx + 2, ns + 4 + j, va_up g3' (nx + 1) f, va_up gr3 (nx + 1) (fun _ => none)) := by
    have fb : g_fb (g3' c) 0 j = true := by
      unfold g_fb
      rw [List.all_eq_true]
      intro i hi
      have hi := List.mem_range.mp hi
      have := hw i hi
      rw [gg c (by omega), Nat.zero_add, gc i hi]
      exact fits_b _ (by omega)
    by_cases j8 : j = 8
    · subst j8
      refine ⟨g3' c, fun k hk9 => by rw [gg c (by omega)]; exact gc k hk9, fun c1 c2 q1 q2 => ?_⟩
      rw [f_J11_copyOfRange, if_pos rfl, g_is_of (show (hk3 c).1 = 1 by rw [kc3]), Option.bind_some]
      simp only [kc3]
      rw [if_pos trivial, g_clone, kc3, if_pos ⟨⟨by omega, by show ns + 4 + 8 ≤ c2; omega, by omega⟩, fb⟩, Option.bind_some]
    · generalize hk4 : va_up hk3 (nx + 1) (1, j) = kk4
      have kc4 : kk4 c = (1, 8) := by rw [← hk4, up_ne _ _ _ (by omega)]; exact kc3
      have kn4 : kk4 (nx + 1) = (1, j) := by rw [← hk4, up_same]
      refine ⟨va_cpy (g3' c) (fun _ => 0) 0 0 j, fun k hk9 => ?_, fun c1 c2 q1 q2 => ?_⟩
      · rw [va_cpy, if_pos ⟨Nat.zero_le _, by omega⟩, show 0 + (k - 0) = k by omega, gg c (by omega)]; exact gc k hk9
      · have s0 : N j - 0 = N j := by rw [show (0 : Int32) = N 0 from rfl, N_sub (by omega)]; rfl
        have e0 : (0 : Int32).toNatClampNeg = 0 := rfl
        have fb2 : g_fb (va_up g3' (nx + 1) (fun _ => (0 : Int32)) c) 0 j = true := by rw [up_ne _ _ _ (by omega)]; exact fb
        have rb : ∀ c1 c2, nx + 2 ≤ c1 → ns + 4 + j ≤ c2 → f_J11_copyOfRangeByte c1 c2 hk3 (nx + 1) (ns + 4) g3' gr3 c 0 (N j) = some (nx + 1, kk4, nx + 2, ns + 4 + j, va_up g3' (nx + 1) (va_cpy (g3' c) (fun _ => 0) 0 0 j), va_up gr3 (nx + 1) (fun _ => none)) := by
          intro c1 c2 q1 q2
          have cl : f_J11_checkLength hk3 g3' gr3 0 (N j) = some () := by rw [f_J11_checkLength, if_pos (N_pos (by omega))]
          have mn : (if N j < (Int32.ofNat 8) - 0 then N j else (Int32.ofNat 8) - 0) = N j := by
            rw [show (Int32.ofNat 8) - 0 = N 8 from rfl, if_lt (by omega) (by omega), if_pos (by omega)]
          have cb : g_cpb kk4 (va_up g3' (nx + 1) (fun _ => (0 : Int32))) c 0 (nx + 1) 0 (N j) = some (va_up (va_up g3' (nx + 1) (fun _ => (0 : Int32))) (nx + 1) (va_cpy (g3' c) (fun _ => 0) 0 0 j)) := by
            rw [g_cpb, kc4, kn4, e0, N_toNat (by omega), if_pos ⟨cp0_of (by show j ≤ 8; omega) (Nat.le_refl _) (by omega), fb2⟩, up_ne _ _ _ (show c ≠ nx + 1 by omega), up_same]
          have uu : va_up (va_up g3' (nx + 1) (fun _ => (0 : Int32))) (nx + 1) (va_cpy (g3' c) (fun _ => 0) 0 0 j) = va_up g3' (nx + 1) (va_cpy (g3' c) (fun _ => 0) 0 0 j) := by
            funext d
            by_cases z : d = nx + 1
            · rw [z, up_same, up_same]
            · rw [up_ne _ _ _ z, up_ne _ _ _ z, up_ne _ _ _ z]
          rw [f_J11_copyOfRangeByte, cl, Option.bind_some, okc, Option.bind_some, s0, g_len_of (by omega), Option.bind_some, N_toNat (by omega), new_of (by omega) (by omega) (by omega), Option.bind_some]
          dsimp only
          rw [hk4, g_is_of (show (kk4 c).1 = 1 by rw [kc4]), Option.bind_some]
          simp only [kc4]
          rw [mn, cb, Option.bind_some, uu]
        rw [f_J11_copyOfRange, if_pos rfl, g_is_of (show (hk3 c).1 = 1 by rw [kc3]), Option.bind_some]
        simp only [kc3]
        rw [show (Int32.ofNat 8) = N 8 from rfl, if_eq (by omega) (by omega), if_neg j8, f_J11_copyOfRange_j10, okc, Option.bind_some, cc_of (q := (nx + 1, kk4, nx + 2, ns + 4 + j, va_up g3' (nx + 1) (va_cpy (g3' c) (fun _ => 0) 0 0 j), va_up gr3 (nx + 1) (fun _ => none))) (fun c1 c2 q1 q2 => rb c1 c2 q1 q2) (by show nx + 1 ≤ nx + 2; omega) (by show ns + 4 ≤ ns + 4 + j; omega) q1 q2, Option.bind_some]
  obtain ⟨f, f1, f2⟩ := cp
  generalize hh4 : va_up hk3 (nx + 1) (1, j) = hk4 at f2
  generalize hg4 : va_up g3' (nx + 1) f = g4 at f2
  generalize hr4 : va_up gr3 (nx + 1) (fun _ => none) = gr4 at f2
  have k4n : hk4 nx = (25, 0) := by rw [← hh4, up_ne _ _ _ (by omega), ← hh3, up_same]
  have k4n1 : hk4 (nx + 1) = (1, j) := by rw [← hh4, up_same]
  have g4n : ∀ k, g4 nx k = 0 := fun k => by rw [← hg4, up_ne _ _ _ (by omega)]; exact g0 k
  refine ⟨hk4, g4, g_pr gr4 nx 0 (some (nx + 1)), fun cN cS h1 h2 => ?_, ⟨by rw [k4n], by rw [pr_get, if_pos ⟨rfl, rfl⟩], k4n1, hj, fun i hi => ⟨by rw [← hg4, up_same]; exact f1 i hi, hw i hi⟩, g4n 1⟩, g4n 2, g4n 3, fun d d1 d2 => ⟨by rw [← hh4, up_ne _ _ _ d2, kk d d1], by rw [← hg4, up_ne _ _ _ d2, gg d d1], ?_⟩⟩
  · have g1' : va_up gi nx (fun _ => (0 : Int32)) b 1 = 0 := by rw [up_ne _ _ _ (by omega)]; exact g1
    have g3b : va_up gi nx (fun _ => (0 : Int32)) b 3 = N j := by rw [up_ne _ _ _ (by omega)]; exact g3
    have gv : ∀ c1 c2 : Nat, f_J5_getValue c1 c2 hk3 (nx + 1) (ns + 4) (va_up gi nx (fun _ => 0)) gr3 b = some (c, hk3, nx + 1, ns + 4, va_up gi nx (fun _ => 0), gr3) := by
      intro c1 c2
      rw [f_J5_getValue, rr b (by omega), gb, Option.bind_some]
    have okn : g_ok hk4 (nx + 1) = some () := by rw [g_ok, k4n1]; exact if_pos (show 1 < 1000 by decide)
    have i2 : ∀ c1 c2, nx + 2 ≤ c1 → ns + 4 + j ≤ c2 → f_J7_init_2 c1 c2 hk3 (nx + 1) (ns + 4) (va_up gi nx (fun _ => 0)) gr3 nx b = some (hk4, nx + 2, ns + 4 + j, g4, g_pr gr4 nx 0 (some (nx + 1))) := by
      intro c1 c2 q1 q2
      rw [f_J7_init_2, g_is_of (show (hk3 b).1 = 24 by rw [kk b (by omega)]; exact k24), Option.bind_some, cc_of (q := (c, hk3, nx + 1, ns + 4, va_up gi nx (fun _ => 0), gr3)) (fun c1 c2 _ _ => gv c1 c2) (Nat.le_refl _) (Nat.le_refl _) (by show nx + 1 ≤ c1; omega) (by show ns + 4 ≤ c2; omega), Option.bind_some]
      dsimp only
      rw [f_J6_length, f_J5_length, Option.bind_some, Option.bind_some, g3b, f_J5_isLatin1, if_neg (by decide), if_pos g1', Option.bind_some, if_neg (by decide), Option.bind_some, hg3, okc, Option.bind_some, cc_of (q := (nx + 1, hk4, nx + 2, ns + 4 + j, g4, gr4)) (fun c1 c2 q1 q2 => f2 c1 c2 q1 q2) (by show nx + 1 ≤ nx + 2; omega) (by show ns + 4 ≤ ns + 4 + j; omega) q1 q2, Option.bind_some]
      dsimp only
      rw [okn, Option.bind_some, Option.bind_some]
    have i1 : ∀ c1 c2, nx + 2 ≤ c1 → ns + 4 + j ≤ c2 → f_J7_init c1 c2 hk3 (nx + 1) (ns + 4) (va_up gi nx (fun _ => 0)) gr3 nx b = some (hk4, nx + 2, ns + 4 + j, g4, g_pr gr4 nx 0 (some (nx + 1))) := by
      intro c1 c2 q1 q2
      have okb : g_ok hk3 b = some () := by rw [g_ok, kk b (by omega), k24, if_pos (by decide)]
      rw [f_J7_init, okb, Option.bind_some, cc_of (q := (hk4, nx + 2, ns + 4 + j, g4, g_pr gr4 nx 0 (some (nx + 1)))) (fun c1 c2 q1 q2 => i2 c1 c2 q1 q2) (by show nx + 1 ≤ nx + 2; omega) (by show ns + 4 ≤ ns + 4 + j; omega) q1 q2, Option.bind_some]
    rw [f_J6_toString, new_of (by omega) (by omega) (by omega), Option.bind_some]
    dsimp only
    rw [hh3, hr3, cc_of (q := (hk4, nx + 2, ns + 4 + j, g4, g_pr gr4 nx 0 (some (nx + 1)))) (fun c1 c2 q1 q2 => i1 c1 c2 q1 q2) (by show nx + 1 ≤ nx + 2; omega) (by show ns + 4 ≤ ns + 4 + j; omega) h1 h2, Option.bind_some]
  · funext k
    rw [pr_get, if_neg (fun z => d1 z.1), ← hr4, up_ne _ _ _ d2, rr d d1]
end P3

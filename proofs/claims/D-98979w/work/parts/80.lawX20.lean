set_option linter.unusedVariables false
set_option linter.unusedSimpArgs false
/-! THE PLAIN LAW: lists that grow; sights are told -/
theorem half : ∀ c, c < 61 → (N c >>> ((1 : Int32) &&& 31)) = N (c / 2) := by decide +kernel
theorem cp0_of {n a b : Nat} (h1 : n ≤ a) (h2 : n ≤ b) (hn : n < 2147483648) : g_cp0 0 0 (N n) a b = true := by
  have hz : ¬ (N n < (0 : Int32)) := by rw [show (0 : Int32) = N 0 from rfl, N_lt (by omega) (by omega)]; omega
  have e0 : (0 : Int32).toNatClampNeg = 0 := rfl
  unfold g_cp0
  rw [N_toNat hn, e0]
  simp [hz, h1, h2]
section X20
variable {hk hk' : HK} {nx nx' : Nat} {gi gi' : GI} {gr gr' : GR} {b ask : Nat} {L : List Nat} {sl : Nat} {sf w : Nat → Nat} {S : St}
def grown (n : Nat) : Nat := n + (if 1 < n / 2 then n / 2 else 1)
theorem x_newLength {n : Nat} (h : n ≤ 60) : f_J9_newLength hk gi gr (N n) (N n + 1 - N n) (N n >>> ((1 : Int32) &&& 31)) = some (N (grown n)) := by
  have e1 : N n + 1 - N n = N 1 := by rw [show (1 : Int32) = N 1 from rfl, N_add, N_sub (by omega), Nat.add_sub_cancel_left]
  have em : (if N 1 < N (n / 2) then N (n / 2) else N 1) = N (if 1 < n / 2 then n / 2 else 1) := by
    rw [if_lt (by omega) (by omega)]
    split <;> rfl
  have g1 : grown n ≤ 91 := by unfold grown; split <;> omega
  have g2 : 1 ≤ grown n := by unfold grown; split <;> omega
  rw [f_J9_newLength, e1, half n (by omega), em, N_add]
  show (if N (grown n) ≤ 0 then _ else if 2147483639 < N (grown n) then _ else some (N (grown n))) = _
  rw [if_neg (by rw [show (0 : Int32) = N 0 from rfl, N_le (by omega) (by omega)]; omega), if_neg (by rw [show (2147483639 : Int32) = N 2147483639 from rfl, N_lt (by omega) (by omega)]; omega)]
theorem x_copyOf {ns e n m : Nat} (k4 : hk e = (4, n)) (hm : n ≤ m) (hm2 : m ≤ 1000) (en : e ≠ nx) (hobj : ∀ i, i < n → ∀ y, gr e i = some y → g_obj hk y = some () ∧ y ≠ nx) (hx : nx < 1000000) : ∀ cN cS, nx + 1 ≤ cN → ns + m ≤ cS → f_J11_copyOf_3 cN cS hk nx ns gi gr e (N m) = some (nx, va_up hk nx (4, m), nx + 1, ns + m, va_up gi nx (fun _ => 0), va_up (va_up gr nx (fun _ => none)) nx (va_cpy (gr e) (fun _ => none) 0 0 n)) := by
  intro cN cS h1 h2
  have ok : g_ok hk e = some () := by rw [g_ok, k4]; exact if_pos (show 4 < 1000 by decide)
  have gl : g_len (N m) = some () := by
    rw [g_len, if_neg]
    rintro (c | c)
    · exact absurd c (by rw [show (0 : Int32) = N 0 from rfl, N_lt (by omega) (by omega)]; omega)
    · rw [N_toNat (by omega)] at c; omega
  have ke : va_up hk nx (4, m) e = (4, n) := by rw [up_ne _ _ _ en]; exact k4
  have kn : va_up hk nx (4, m) nx = (4, m) := up_same _ _ _
  have mn : (if N m < N n then N m else N n) = N n := by
    rw [if_lt (by omega) (by omega)]
    by_cases q : m < n
    · omega
    · rw [if_neg q]
  have all : g_allo (va_up hk nx (4, m)) (va_up gr nx (fun _ => none)) e 0 n = true := by
    unfold g_allo
    rw [List.all_eq_true]
    intro i hi
    have hi := List.mem_range.mp hi
    rw [up_ne _ _ _ en, Nat.zero_add]
    cases hy : gr e i with
    | none => rfl
    | some y =>
      obtain ⟨o1, o2⟩ := hobj i hi y hy
      have : g_obj (va_up hk nx (4, m)) y = g_obj hk y := by unfold g_obj; rw [up_ne _ _ _ o2]
      show (g_obj (va_up hk nx (4, m)) y).isSome = true
      rw [this, o1]; rfl
  have cp : g_cprO (va_up hk nx (4, m)) (va_up gr nx (fun _ => none)) e 0 nx 0 (N n) = some (va_up (va_up gr nx (fun _ => none)) nx (va_cpy (gr e) (fun _ => none) 0 0 n)) := by
    have e0 : (0 : Int32).toNatClampNeg = 0 := rfl
    rw [g_cprO, e0, N_toNat (by omega), all, if_pos rfl, g_cpr, ke, kn, cp0_of (Nat.le_refl _) hm (by omega), if_pos rfl, e0, N_toNat (by omega), up_ne _ _ _ en, up_same]
  rw [f_J11_copyOf_3, ok, Option.bind_some, gl, Option.bind_some, N_toNat (by omega), new_of h1 h2 hx, Option.bind_some, f_J11_copyOf_3_j24]
  dsimp only
  rw [g_is_of (show (va_up hk nx (4, m) e).1 = 4 by rw [ke]), Option.bind_some, g_is_of (show (va_up hk nx (4, m) nx).1 = 4 by rw [kn]), Option.bind_some]
  simp only [ke]
  show ((g_cprO _ _ e 0 nx 0 (if N m < N n then N m else N n)).bind _ : Option (Nat × HK × Nat × Nat × GI × GR)) = _
  rw [mn, cp, Option.bind_some]
/-- what a list is behind one more -/
abbrev Added (hk hk' : HK) (nx : Nat) (gi gi' : GI) (gr gr' : GR) (l n e a1 e' : Nat) : Prop := (gi' l 2 = N (n + 1)) ∧ (∀ k, k ≠ 0 → k ≠ 2 → gi' l k = gi l k) ∧ (∀ c, c ≠ l → c ≠ nx → gi' c = gi c) ∧ (gr' l 1 = some e') ∧ (∀ k, k ≠ 1 → gr' l k = gr l k) ∧ (∀ c, c ≠ l → c ≠ e → c ≠ nx → gr' c = gr c) ∧ ((hk' e').1 = 4) ∧ (n + 1 ≤ (hk' e').2 ∧ ((hk' e').2 = (hk e).2 ∨ (n = (hk e).2 ∧ (hk' e').2 = grown n)) ∧ 1 ≤ (hk' e').2) ∧ (gr' e' n = some a1) ∧ (∀ i, i < n → gr' e' i = gr e i) ∧ (e' = e ∨ e' = nx) ∧ (∀ c, c ≠ nx → hk' c = hk c)
theorem Added.size {hk hk' : HK} {nx : Nat} {gi gi' : GI} {gr gr' : GR} {l n e a1 e' : Nat} (h : Added hk hk' nx gi gi' gr gr' l n e a1 e') : gi' l 2 = N (n + 1) := h.1
theorem Added.own {hk hk' : HK} {nx : Nat} {gi gi' : GI} {gr gr' : GR} {l n e a1 e' : Nat} (h : Added hk hk' nx gi gi' gr gr' l n e a1 e') : ∀ k, k ≠ 0 → k ≠ 2 → gi' l k = gi l k := h.2.1
theorem Added.gis {hk hk' : HK} {nx : Nat} {gi gi' : GI} {gr gr' : GR} {l n e a1 e' : Nat} (h : Added hk hk' nx gi gi' gr gr' l n e a1 e') : ∀ c, c ≠ l → c ≠ nx → gi' c = gi c := h.2.2.1
theorem Added.el {hk hk' : HK} {nx : Nat} {gi gi' : GI} {gr gr' : GR} {l n e a1 e' : Nat} (h : Added hk hk' nx gi gi' gr gr' l n e a1 e') : gr' l 1 = some e' := h.2.2.2.1
theorem Added.grl {hk hk' : HK} {nx : Nat} {gi gi' : GI} {gr gr' : GR} {l n e a1 e' : Nat} (h : Added hk hk' nx gi gi' gr gr' l n e a1 e') : ∀ k, k ≠ 1 → gr' l k = gr l k := h.2.2.2.2.1
theorem Added.grs {hk hk' : HK} {nx : Nat} {gi gi' : GI} {gr gr' : GR} {l n e a1 e' : Nat} (h : Added hk hk' nx gi gi' gr gr' l n e a1 e') : ∀ c, c ≠ l → c ≠ e → c ≠ nx → gr' c = gr c := h.2.2.2.2.2.1
theorem Added.k4 {hk hk' : HK} {nx : Nat} {gi gi' : GI} {gr gr' : GR} {l n e a1 e' : Nat} (h : Added hk hk' nx gi gi' gr gr' l n e a1 e') : (hk' e').1 = 4 := h.2.2.2.2.2.2.1
theorem Added.room {hk hk' : HK} {nx : Nat} {gi gi' : GI} {gr gr' : GR} {l n e a1 e' : Nat} (h : Added hk hk' nx gi gi' gr gr' l n e a1 e') : n + 1 ≤ (hk' e').2 ∧ ((hk' e').2 = (hk e).2 ∨ (n = (hk e).2 ∧ (hk' e').2 = grown n)) ∧ 1 ≤ (hk' e').2 := h.2.2.2.2.2.2.2.1
theorem Added.last {hk hk' : HK} {nx : Nat} {gi gi' : GI} {gr gr' : GR} {l n e a1 e' : Nat} (h : Added hk hk' nx gi gi' gr gr' l n e a1 e') : gr' e' n = some a1 := h.2.2.2.2.2.2.2.2.1
theorem Added.rest {hk hk' : HK} {nx : Nat} {gi gi' : GI} {gr gr' : GR} {l n e a1 e' : Nat} (h : Added hk hk' nx gi gi' gr gr' l n e a1 e') : ∀ i, i < n → gr' e' i = gr e i := h.2.2.2.2.2.2.2.2.2.1
theorem Added.which {hk hk' : HK} {nx : Nat} {gi gi' : GI} {gr gr' : GR} {l n e a1 e' : Nat} (h : Added hk hk' nx gi gi' gr gr' l n e a1 e') : e' = e ∨ e' = nx := h.2.2.2.2.2.2.2.2.2.2.1
theorem Added.hks {hk hk' : HK} {nx : Nat} {gi gi' : GI} {gr gr' : GR} {l n e a1 e' : Nat} (h : Added hk hk' nx gi gi' gr gr' l n e a1 e') : ∀ c, c ≠ nx → hk' c = hk c := h.2.2.2.2.2.2.2.2.2.2.2
theorem x_add {ns l n e a1 : Nat} (k22 : (hk l).1 = 22) (sz : gi l 2 = N n) (el : gr l 1 = some e) (k4 : (hk e).1 = 4) (hn : n ≤ (hk e).2) (cap : 1 ≤ (hk e).2 ∧ (hk e).2 ≤ 60) (hobj : ∀ i, i < n → ∀ y, gr e i = some y → g_obj hk y = some () ∧ y ≠ nx) (ho : g_obj hk a1 = some ()) (h1k : (hk a1).1 < 1000) (ln : l ≠ nx) (en : e ≠ nx) (an : a1 ≠ nx) (le : l ≠ e) (hx : nx < 1000000) : ∃ hk' nx' ns' gi' gr' e', (nx' = nx ∨ nx' = nx + 1) ∧ (e' = nx → nx' = nx + 1) ∧ ns ≤ ns' ∧ ns' ≤ ns + 91 ∧ (∀ cN cS, nx' ≤ cN → ns' ≤ cS → f_J2_add cN cS hk nx ns gi gr l a1 = some (1, hk', nx', ns', gi', gr')) ∧ Added hk hk' nx gi gi' gr gr' l n e a1 e' := by
  have ok1 : g_ok hk a1 = some () := by rw [g_ok, if_pos h1k]
  have ek : hk e = (4, (hk e).2) := by rw [← k4]
  have e02 : g_pi gi l 0 (gi l 0 + 1) l 2 = N n := by rw [pi_get, if_neg (by omega)]; exact sz
  have n1 : N n + 1 = N (n + 1) := by rw [show (1 : Int32) = N 1 from rfl, N_add]
  by_cases hc : n = (hk e).2
  · -- it grows
    have gc : grown n ≤ 91 ∧ n + 1 ≤ grown n := by unfold grown; split <;> omega
    have en' : hk e = (4, n) := by rw [hc]; exact ek
    generalize hh : va_up hk nx (4, grown n) = hk2
    generalize hg : va_up (g_pi gi l 0 (gi l 0 + 1)) nx (fun _ => (0 : Int32)) = g2
    generalize hr : va_up (va_up gr nx (fun _ => none)) nx (va_cpy (gr e) (fun _ => none) 0 0 n) = gr2
    have cpy : ∀ cN cS, nx + 1 ≤ cN → ns + grown n ≤ cS → f_J11_copyOf_3 cN cS hk nx ns (g_pi gi l 0 (gi l 0 + 1)) gr e (N (grown n)) = some (nx, hk2, nx + 1, ns + grown n, g2, gr2) := by
      intro cN cS h1 h2
      rw [x_copyOf en' (by omega) (by omega) en hobj hx cN cS h1 h2, hh, hg, hr]
    have kl : (hk2 l).1 = 22 := by rw [← hh, up_ne _ _ _ ln]; exact k22
    have kn : hk2 nx = (4, grown n) := by rw [← hh, up_same]
    have gl : g2 l 2 = N n := by rw [← hg, up_ne _ _ _ ln]; exact e02
    have rl : ∀ c, c ≠ nx → gr2 c = gr c := fun c hc => by rw [← hr, up_ne _ _ _ hc, up_ne _ _ _ hc]
    have rn : ∀ i, gr2 nx i = if i < n then gr e i else none := by
      intro i
      rw [← hr, up_same, va_cpy]
      by_cases q : i < n
      · rw [if_pos ⟨Nat.zero_le _, by omega⟩, if_pos q, show 0 + (i - 0) = i by omega]
      · rw [if_neg (by omega), if_neg q]
    have grw : ∀ cN cS, nx + 1 ≤ cN → ns + grown n ≤ cS → f_J2_grow_2 cN cS hk nx ns (g_pi gi l 0 (gi l 0 + 1)) gr l (N n + 1) = some (nx, hk2, nx + 1, ns + grown n, g2, g_pr gr2 l 1 (some nx)) := by
      intro cN cS h1 h2
      have c2 : ∀ c1 c2, nx + 1 ≤ c1 → ns + grown n ≤ c2 → f_J11_copyOf_2 c1 c2 hk nx ns (g_pi gi l 0 (gi l 0 + 1)) gr e (N (grown n)) = some (nx, hk2, nx + 1, ns + grown n, g2, gr2) := by
        intro c1 c2 q1 q2
        rw [f_J11_copyOf_2, g_is_of k4, Option.bind_some, cc_of (q := (nx, hk2, nx + 1, ns + grown n, g2, gr2)) (fun c1 c2 q1 q2 => cpy c1 c2 q1 q2) (by show nx ≤ nx + 1; omega) (by show ns ≤ ns + grown n; omega) q1 q2, Option.bind_some]
      have okn : g_ok hk2 nx = some () := by rw [g_ok, kn]; exact if_pos (show 4 < 1000 by decide)
      have pos : (0 : Int32) < Int32.ofNat (hk e).2 := by
        exact (show N 0 < N (hk e).2 from (N_lt (by decide) (by omega)).mpr (by omega))
      rw [f_J2_grow_2, el, Option.bind_some, g_is_of k4, Option.bind_some, if_pos pos, f_J2_grow_2_j20, ← hc]
      show ((f_J9_newLength hk (g_pi gi l 0 (gi l 0 + 1)) gr (N n) (N n + 1 - N n) (N n >>> ((1 : Int32) &&& 31))).bind _ : Option (Nat × HK × Nat × Nat × GI × GR)) = _
      rw [x_newLength (by omega), Option.bind_some, el, Option.bind_some, cc_of (q := (nx, hk2, nx + 1, ns + grown n, g2, gr2)) (fun c1 c2' q1 q2 => c2 c1 c2' q1 q2) (by show nx ≤ nx + 1; omega) (by show ns ≤ ns + grown n; omega) h1 h2, Option.bind_some]
      dsimp only
      rw [okn, Option.bind_some, Option.bind_some]
    have ob2 : g_obj hk2 a1 = some () := by
      have : g_obj hk2 a1 = g_obj hk a1 := by unfold g_obj; rw [← hh, up_ne _ _ _ an]
      rw [this]; exact ho
    refine ⟨hk2, nx + 1, ns + grown n, g_pi g2 l 2 (N (n + 1)), g_pr (g_pr gr2 l 1 (some nx)) nx n (some a1), nx, Or.inr rfl, fun _ => rfl, by omega, by omega, fun cN cS h1 h2 => ?_, ⟨?_, ?_, ?_, ?_, ?_, ?_, ?_, ?_, ?_, ?_, Or.inr rfl, ?_⟩⟩
    · have g1 : ∀ c1 c2, nx + 1 ≤ c1 → ns + grown n ≤ c2 → f_J2_grow c1 c2 hk nx ns (g_pi gi l 0 (gi l 0 + 1)) gr l = some (nx, hk2, nx + 1, ns + grown n, g2, g_pr gr2 l 1 (some nx)) := by
        intro c1 c2 q1 q2
        rw [f_J2_grow, e02, cc_of (q := (nx, hk2, nx + 1, ns + grown n, g2, g_pr gr2 l 1 (some nx))) (fun c1 c2 q1 q2 => grw c1 c2 q1 q2) (by show nx ≤ nx + 1; omega) (by show ns ≤ ns + grown n; omega) q1 q2, Option.bind_some]
      have a2 : ∀ c1 c2, nx + 1 ≤ c1 → ns + grown n ≤ c2 → f_J2_add_2 c1 c2 hk nx ns (g_pi gi l 0 (gi l 0 + 1)) gr l a1 e (N n) = some (hk2, nx + 1, ns + grown n, g_pi g2 l 2 (N (n + 1)), g_pr (g_pr gr2 l 1 (some nx)) nx n (some a1)) := by
        intro c1 c2 q1 q2
        rw [f_J2_add_2, g_is_of k4, Option.bind_some, ← hc]
        show (if N n = N n then _ else _) = _
        rw [if_pos rfl, ok1, Option.bind_some, cc_of (q := (nx, hk2, nx + 1, ns + grown n, g2, g_pr gr2 l 1 (some nx))) (fun c1 c2 q1 q2 => g1 c1 c2 q1 q2) (by show nx ≤ nx + 1; omega) (by show ns ≤ ns + grown n; omega) q1 q2, Option.bind_some, f_J2_add_2_j11]
        dsimp only
        rw [g_is_of (show (hk2 nx).1 = 4 by rw [kn]), Option.bind_some, ob2, Option.bind_some, kn, N_str (by omega) (by show grown n ≤ _; omega), Option.bind_some, Option.bind_some, n1]
      rw [f_J2_add, Option.bind_some, el, Option.bind_some, ok1, Option.bind_some, e02, cc_of (q := (hk2, nx + 1, ns + grown n, g_pi g2 l 2 (N (n + 1)), g_pr (g_pr gr2 l 1 (some nx)) nx n (some a1))) (fun c1 c2 q1 q2 => a2 c1 c2 q1 q2) (by show nx ≤ nx + 1; omega) (by show ns ≤ ns + grown n; omega) h1 h2, Option.bind_some]
    · simp [pi_get]
    · intro k k0 k2
      rw [pi_get, if_neg (by omega), ← hg, up_ne _ _ _ ln, pi_get, if_neg (by omega)]
    · intro c c1 c2
      rw [pi_off c1, ← hg, up_ne _ _ _ c2, pi_off c1]
    · rw [pr_get, if_neg (by omega), pr_get, if_pos ⟨rfl, rfl⟩]
    · intro k hk1
      rw [pr_get, if_neg (by omega), pr_get, if_neg (by omega), rl l ln]
    · intro c c1 c2 c3
      funext k
      rw [pr_get, if_neg (by omega), pr_get, if_neg (by omega), rl c c3]
    · rw [kn]
    · rw [kn]; exact ⟨gc.2, Or.inr ⟨hc, rfl⟩, by show 1 ≤ grown n; omega⟩
    · rw [pr_get, if_pos ⟨rfl, rfl⟩]
    · intro i hi
      rw [pr_get, if_neg (by omega), pr_get, if_neg (fun q => ln q.1.symm), rn i, if_pos hi]
    · intro c c1
      rw [← hh, up_ne _ _ _ c1]
  · -- there is room
    have hlt : n < (hk e).2 := by omega
    refine ⟨hk, nx, ns, g_pi (g_pi gi l 0 (gi l 0 + 1)) l 2 (N (n + 1)), g_pr gr e n (some a1), e, Or.inl rfl, fun h => absurd h en, by omega, by omega, fun cN cS h1 h2 => ?_, ⟨?_, ?_, ?_, ?_, ?_, ?_, k4, ?_, ?_, ?_, Or.inl rfl, fun _ _ => rfl⟩⟩
    · have a2 : ∀ c1 c2 : Nat, f_J2_add_2 c1 c2 hk nx ns (g_pi gi l 0 (gi l 0 + 1)) gr l a1 e (N n) = some (hk, nx, ns, g_pi (g_pi gi l 0 (gi l 0 + 1)) l 2 (N (n + 1)), g_pr gr e n (some a1)) := by
        intro c1 c2
        rw [f_J2_add_2, g_is_of k4, Option.bind_some]
        show (if N n = N (hk e).2 then _ else _) = _
        rw [if_eq (by omega) (by omega), if_neg hc, f_J2_add_2_j11, g_is_of k4, Option.bind_some, ho, Option.bind_some, N_str hlt (by omega), Option.bind_some, Option.bind_some, n1]
      rw [f_J2_add, Option.bind_some, el, Option.bind_some, ok1, Option.bind_some, e02, cc_of (q := (hk, nx, ns, g_pi (g_pi gi l 0 (gi l 0 + 1)) l 2 (N (n + 1)), g_pr gr e n (some a1))) (fun c1 c2 _ _ => a2 c1 c2) (Nat.le_refl _) (Nat.le_refl _) h1 h2, Option.bind_some]
    · simp [pi_get]
    · intro k k0 k2
      rw [pi_get, if_neg (by omega), pi_get, if_neg (by omega)]
    · intro c c1 c2
      rw [pi_off c1, pi_off c1]
    · rw [pr_get, if_neg (by omega)]; exact el
    · intro k hk1
      rw [pr_get, if_neg (by omega)]
    · intro c c1 c2 c3
      funext k
      rw [pr_get, if_neg (by omega)]
    · exact ⟨by omega, Or.inl rfl, cap.1⟩
    · rw [pr_get, if_pos ⟨rfl, rfl⟩]
    · intro i hi
      rw [pr_get, if_neg (by omega)]
end X20

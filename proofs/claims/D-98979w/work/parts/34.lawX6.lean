set_option linter.unusedVariables false
set_option linter.unusedSimpArgs false
/-! THE PLAIN LAW: the component's best row -/
theorem x_isRowOf {hk : HK} {gi : GI} {gr : GR} (w : XLay hk gr) {p : Nat} (hp : isPl p) {r : Row} (hr : rowIs gi 32 r) (bs : Row.sum r ≤ 8) {m : Nat} (hm : m < 5) (hP : ∀ j, j < 15 → ∃ v, v ≤ 99 ∧ pl gi p j = N v) : f_X0_isRowOf hk gi gr 0 p (N m) = some (if r.1 ≤ pn (pl gi p) (3 * m) ∧ r.2.1 ≤ pn (pl gi p) (3 * m + 1) ∧ r.2.2 ≤ pn (pl gi p) (3 * m + 2) then 1 else 0) := by
  obtain ⟨x0, x1, x2⟩ := r
  obtain ⟨r0, r1, r2⟩ := hr
  simp only [Row.sum] at r0 r1 r2 bs ⊢
  have xp := w.pls p hp
  have pv : ∀ k, k < 3 → pl gi p (3 * m + k) = N (pn (pl gi p) (3 * m + k)) ∧ pn (pl gi p) (3 * m + k) ≤ 99 := by
    intro k hk3
    obtain ⟨v, v1, v2⟩ := hP (3 * m + k) (by omega)
    have : pn (pl gi p) (3 * m + k) = v := by unfold pn; rw [v2, N_toNat (by omega)]
    rw [this]; exact ⟨v2, v1⟩
  have st0 : ∀ k, k < 3 → f_X0_isRowOf_l5 hk gi gr 0 p (N m) 0 (N k) = some (.inl (0, N (k + 1))) := by
    intro k hk3
    rw [f_X0_isRowOf_l5, show (3 : Int32) = N 3 from rfl, if_le (by omega) (by omega), if_neg (by omega), if_pos rfl, show (1 : Int32) = N 1 from rfl, N_add]
  have st : ∀ k x, k < 3 → gi 32 k = N x → x ≤ 8 → f_X0_isRowOf_l5 hk gi gr 0 p (N m) 1 (N k) = some (.inl (if x ≤ pn (pl gi p) (3 * m + k) then 1 else 0, N (k + 1))) := by
    intro k x hk3 hx hx8
    obtain ⟨v1, v2⟩ := pv k hk3
    rw [f_X0_isRowOf_l5, show (3 : Int32) = N 3 from rfl, if_le (by omega) (by omega), if_neg (by omega), if_neg (by decide), w.f13, Option.bind_some, g_is_of' w.k32, Option.bind_some, w.k32, N_ld hk3 (by decide), Option.bind_some, g_is_of xp.k, Option.bind_some, x_purse xp hm hk3, Option.bind_some, hx, v1, if_lt (by omega) (by omega)]
    by_cases q : x ≤ pn (pl gi p) (3 * m + k)
    · rw [if_neg (by omega), if_pos q, show (1 : Int32) = N 1 from rfl, N_add]
    · rw [if_pos (by omega), if_neg q, show (1 : Int32) = N 1 from rfl, N_add]
  have s0 := st 0 x0 (by omega) r0 (by omega)
  have s1 := st 1 x1 (by omega) r1 (by omega)
  have s2 := st 2 x2 (by omega) r2 (by omega)
  rw [Nat.add_zero] at s0
  have fin : ∀ v : Int32, f_X0_isRowOf_l5 hk gi gr 0 p (N m) v (N (2 + 1)) = some (.inr v) := fun v => rfl
  rw [f_X0_isRowOf]
  by_cases q0 : x0 ≤ pn (pl gi p) (3 * m)
  · rw [if_pos q0] at s0
    by_cases q1 : x1 ≤ pn (pl gi p) (3 * m + 1)
    · rw [if_pos q1] at s1
      rw [lp_3 (body := fun (s : Int32 × Int32) => f_X0_isRowOf_l5 hk gi gr 0 p (N m) s.1 s.2) (s0 := (1, 0)) s0 s1 s2 (fin _), Option.bind_some, f_X0_isRowOf_x5]
      by_cases q2 : x2 ≤ pn (pl gi p) (3 * m + 2)
      · simp [q0, q1, q2, g_zb]
      · simp [q0, q1, q2, g_zb]
    · rw [if_neg q1] at s1
      rw [lp_3 (body := fun (s : Int32 × Int32) => f_X0_isRowOf_l5 hk gi gr 0 p (N m) s.1 s.2) (s0 := (1, 0)) s0 s1 (st0 2 (by omega)) (fin _), Option.bind_some, f_X0_isRowOf_x5]
      simp [q1, g_zb]
  · rw [if_neg q0] at s0
    rw [lp_3 (body := fun (s : Int32 × Int32) => f_X0_isRowOf_l5 hk gi gr 0 p (N m) s.1 s.2) (s0 := (1, 0)) s0 (st0 1 (by omega)) (st0 2 (by omega)) (fin _), Option.bind_some, f_X0_isRowOf_x5]
    simp [q0, g_zb]
/-- laying hours keeps kinds that are not there clear -/
theorem lyR_over0 {B : Bk} {m : Nat} {r : Row} (hw : Rw B.nk r) {P : Nat → Int32} (ho : ∀ m k, m < 5 → B.nk ≤ k → k < 3 → P (20 + 3 * m + k) = 0) : ∀ m' k, m' < 5 → B.nk ≤ k → k < 3 → lyR B m (Row.at r) 1 P (20 + 3 * m' + k) = 0 := by
  intro m' k h1 h2 h3
  rw [layR_dl, ho m' k h1 h2 h3]
  have z : ∀ i, i < 3 → dl B m i (Row.at r i) (20 + 3 * m' + k) = 0 := by
    intro i hi
    by_cases e : i = k
    · subst e
      have : Row.at r i = 0 := by
        obtain ⟨a, b, c⟩ := r
        simp only [Rw] at hw
        match i, hi with
        | 0, _ => simp only [Row.at]; rw [hw.2.2 h2]; rfl
        | 1, _ => simp only [Row.at]; rw [hw.2.1 h2]; rfl
        | 2, _ => simp only [Row.at]; rw [hw.1 h2]; rfl
      rw [this]
      have lz : ∀ m, leak B m 0 = 0 := fun m => by unfold leak; rw [Int32.zero_mul]; rfl
      unfold dl
      split
      · rfl
      · split
        · exact lz _
        · split
          · exact lz _
          · rfl
    · rw [dl, if_neg (by omega), if_neg (by omega), if_neg (by omega)]
  rw [dR, z 0 (by omega), z 1 (by omega), z 2 (by omega)]
  rfl
theorem x_growthBy {hk : HK} {gi : GI} {gr : GR} {b ask : Nat} {L : List Nat} {B : Bk} (w : XWd hk gi gr b ask L B) {p : Nat} (hp : isPl p) (hp2 : p ≠ 21) {r : Row} (hr : rowIs gi 32 r) (hw : Rw B.nk r) (ho : ∀ m k, m < 5 → B.nk ≤ k → k < 3 → pl gi p (20 + 3 * m + k) = 0) {m : Nat} (hm : m < B.nm) (aim : Int32) : ∃ gi', f_X0_growthBy hk gi gr 0 p (N m) aim = some (val B (pl gi p) m aim r, gi') ∧ ∀ c, c ≠ ask → ¬ (21 ≤ c ∧ c ≤ 25) → gi' c = gi c := by
  have h5 := w.bk.ok.nm
  have xt := w.lay.pls 21 pl21
  obtain ⟨g1, a1, a2, a3⟩ := x_copy (gi := gi) xt (w.lay.pls p hp) (pl21.apart hp (fun e => hp2 e.symm))
  have w1 := w.over (gi' := g1) (fun c hc _ => a3 c (fun h => hc (pl21.st h.1 h.2)))
  obtain ⟨g2, b1, b2, b3⟩ := x_poursRow w1.bk xt (w.sp pl21) hm (a := 32) (n := 3) (o := 0) w.lay.k32 (by omega) (by omega) (by omega)
  have w2 := w1.over (gi' := g2) (fun c hc _ => b3 c (fun h => hc (by unfold isSt; omega)))
  have row1 : lyR B m (fun k => g1 32 (0 + k)) 1 (pl g1 21) = lyR B m (Row.at r) 1 (pl gi p) := by
    rw [a2]
    apply layR_same
    intro k hk3
    rw [Nat.zero_add, a3 32 (by omega)]
    exact hr.at k hk3
  rw [row1] at b2
  have ho2 : ∀ m k, m < 5 → B.nk ≤ k → k < 3 → pl g2 21 (20 + 3 * m + k) = 0 := by rw [b2]; exact lyR_over0 hw ho
  rw [f_X0_growthBy, w.lay.f7, Option.bind_some, g_is_of xt.k, Option.bind_some, a1, Option.bind_some, w.f4, Option.bind_some, w.lay.f13, Option.bind_some, g_is_of xt.k, Option.bind_some]
  show ∃ gi', ((f_X3_poursRow hk g1 gr 21 b (N m) 32 (N 0)).bind _ : Option (Int32 × GI)) = _ ∧ _
  rw [b1, Option.bind_some, Option.bind_some, Option.bind_some]
  unfold val
  by_cases ha : aim = 0
  · rw [if_pos ha, if_pos ha, g_is_of xt.k, Option.bind_some]
    obtain ⟨g3, c1, c2⟩ := x_growth w2.bk xt (w.sp pl21) ho2 (show m < 5 by omega)
    refine ⟨g3, ?_, fun c h1 h2 => (c2 c h1).trans ((b3 c (by omega)).trans (a3 c h2))⟩
    show ((f_X3_growth hk g2 gr 21 b (N m)).bind _ : Option (Int32 × GI)) = _
    rw [c1, b2]; rfl
  · rw [if_neg ha, if_neg ha, Option.bind_some, Option.bind_some, g_is_of xt.k, Option.bind_some]
    obtain ⟨g3, c1, c2⟩ := x_growths w2.bk xt (w.sp pl21) ho2
    refine ⟨g3, ?_, fun c h1 h2 => (c2 c h1).trans ((b3 c (by omega)).trans (a3 c h2))⟩
    show ((f_X3_growths hk g2 gr 21 b).bind _ : Option (Int32 × GI)) = _
    rw [c1, b2]; rfl
theorem growths_in (B : Bk) (P : Nat → Int32) : ∀ n : Nat, n ≤ 5 → -20 * (n : Int) ≤ (growths B P n).toInt ∧ (growths B P n).toInt ≤ 20 * (n : Int)
  | 0, _ => by
    show -20 * ((0 : Nat) : Int) ≤ (0 : Int32).toInt ∧ (0 : Int32).toInt ≤ 20 * ((0 : Nat) : Int)
    decide
  | n + 1, hn => by
    obtain ⟨i1, i2⟩ := growths_in B P n (by omega)
    obtain ⟨c1, c2⟩ := clamp_le (match B.grow with | none => askv B P n 0 + askv B P n 1 + askv B P n 2 | some e => evC (askv B P n) e)
    have g1 : (-20 : Int) ≤ (growth B P n).toInt := Int32.le_iff_toInt_le.mp c1
    have g2 : (growth B P n).toInt ≤ 20 := Int32.le_iff_toInt_le.mp c2
    rw [growths, Int32.toInt_add, Int.bmod_eq_of_le (by omega) (by omega)]
    omega
theorem val_gap (B : Bk) (hB : B.Ok) (P : Nat → Int32) (m : Nat) (aim : Int32) (r : Row) : (-1000000 : Int32) < val B P m aim r := by
  unfold val
  split
  · exact Int32.lt_of_lt_of_le (by decide) (clamp_le _).1
  · have := (growths_in B (lyR B m (Row.at r) 1 P) B.nm hB.nm).1
    have h5 := hB.nm
    rw [Int32.lt_iff_toInt_lt]
    have e : (-1000000 : Int32).toInt = -1000000 := by decide
    rw [e]
    omega
/-- what a search for the best row leaves -/
def KX (ask : Nat) (gi gi' : GI) : Prop := (∀ k, k ≠ 16 → k ≠ 17 → gi' 0 k = gi 0 k) ∧ ∀ c, c ≠ 0 → c ≠ ask → c ≠ 32 → c ≠ 33 → ¬ (21 ≤ c ∧ c ≤ 25) → gi' c = gi c
theorem KX.refl (ask : Nat) (gi : GI) : KX ask gi gi := ⟨fun _ _ _ => rfl, fun _ _ _ _ _ _ => rfl⟩
theorem KX.trans {ask : Nat} {a b c : GI} (h : KX ask a b) (g : KX ask b c) : KX ask a c := ⟨fun k h1 h2 => (g.1 k h1 h2).trans (h.1 k h1 h2), fun i h1 h2 h3 h4 h5 => (g.2 i h1 h2 h3 h4 h5).trans (h.2 i h1 h2 h3 h4 h5)⟩
theorem KX.put {ask : Nat} {gi gj : GI} (h : KX ask gi gj) {c k : Nat} {x : Int32} (hc : (c = 0 ∧ (k = 16 ∨ k = 17)) ∨ c = 32 ∨ c = 33) : KX ask gi (g_pi gj c k x) := by
  refine h.trans ⟨fun j h1 h2 => ?_, fun d h1 h2 h3 h4 h5 => pi_off (by omega)⟩
  rw [pi_get, if_neg]; omega
theorem KX.wd {hk : HK} {gi gi' : GI} {gr : GR} {b ask : Nat} {L : List Nat} {B : Bk} (h : KX ask gi gi') (w : XWd hk gi gr b ask L B) : XWd hk gi' gr b ask L B :=
  w.over (fun c h1 h2 => h.2 c (fun e => h1 (by unfold isSt; omega)) h2 (fun e => h1 (by unfold isSt; omega)) (fun e => h1 (by unfold isSt; omega)) (fun e => h1 (by unfold isSt; omega)))
theorem KX.pl {hk : HK} {gi gi' : GI} {gr : GR} {b ask : Nat} {L : List Nat} {B : Bk} (h : KX ask gi gi') (w : XWd hk gi gr b ask L B) {p : Nat} (hp : isPl p) (hp2 : p ≠ 21) : pl gi' p = pl gi p := by
  apply pl_same
  intro c c1 c2
  have h0 := hp.low
  have ha := (w.sp hp).2
  have hb := hp.apart pl21 hp2
  exact h.2 c (by omega) (fun e => ha (by omega)) (by omega) (by omega) (by omega)
/-- the best of those ahead of a key -/
def BestTo {α : Type} (key : α → Nat) (v : α → Int32) (V : α → Prop) (top : Nat) (r : α) : Prop := V r ∧ key r < top ∧ ∀ r', V r' → key r' < top → r' ≠ r → v r' < v r ∨ (v r' = v r ∧ key r < key r')
theorem In_iff {B : Bk} {P : Nat → Int32} {m L : Nat} {r : Row} (hw : Rw B.nk r) : Row.In (mx B P m) L r ↔ (r.1 ≤ pn P (3 * m) ∧ r.2.1 ≤ pn P (3 * m + 1) ∧ r.2.2 ≤ pn P (3 * m + 2)) ∧ Row.sum r ≤ L := by
  obtain ⟨a, b, c⟩ := r
  simp only [Rw] at hw
  simp only [Row.In, mx]
  constructor
  · rintro ⟨h1, h2, h3, h4⟩
    refine ⟨⟨?_, ?_, ?_⟩, h4⟩
    · split at h1 <;> omega
    · split at h2 <;> omega
    · split at h3 <;> omega
  · rintro ⟨⟨h1, h2, h3⟩, h4⟩
    refine ⟨?_, ?_, ?_, h4⟩
    · split <;> omega
    · split <;> omega
    · split <;> omega
theorem In_Rw {B : Bk} {P : Nat → Int32} {m L : Nat} {r : Row} (h : Row.In (mx B P m) L r) : Rw B.nk r := by
  obtain ⟨a, b, c⟩ := r
  simp only [Row.In, mx] at h
  simp only [Rw]
  refine ⟨fun q => ?_, fun q => ?_, fun q => ?_⟩
  · have := h.2.2.1; rw [if_neg (by omega)] at this; omega
  · have := h.2.1; rw [if_neg (by omega)] at this; omega
  · have := h.1; rw [if_neg (by omega)] at this; omega
theorem key_inj {r q : Row} (hr : Row.sum r ≤ 9) (hq : Row.sum q ≤ 9) (h : Row.key r = Row.key q) : r = q := by
  obtain ⟨a, b, c⟩ := r
  obtain ⟨p, q, s⟩ := q
  simp only [Row.key, Row.sum, Row.code] at *
  have h1 : a = p := by omega
  have h2 : b = q := by omega
  have h3 : c = s := by omega
  rw [h1, h2, h3]

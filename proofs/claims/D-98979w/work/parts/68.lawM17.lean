set_option linter.unusedVariables false
set_option linter.unusedSimpArgs false
/-! THE PLAIN LAW: how it comes to rest, of the model -/
def sD (B : Bk) (f : Nat → Int32) (m j : Nat) : Nat → Int32
  | 0 => 0
  | n + 1 => if n = m then sD B f m j n else sD B f m j n + dR B n (rowOf f n) j
theorem layBut_get (B : Bk) (f : Nat → Int32) (m : Nat) (P : Nat → Int32) (j : Nat) : ∀ n, layBut B f m P n j = P j + sD B f m j n
  | 0 => by rw [layBut, sD, Int32.add_zero]
  | n + 1 => by
    rw [layBut, sD]
    by_cases h : n = m
    · rw [if_pos h, if_pos h]; exact layBut_get B f m P j n
    · rw [if_neg h, if_neg h, layR_dl, layBut_get B f m P j n]
      grind
theorem sD_far (B : Bk) (f : Nat → Int32) (m m' j : Nat) : ∀ n, n ≤ m → n ≤ m' → sD B f m j n = sD B f m' j n
  | 0, _, _ => rfl
  | n + 1, h1, h2 => by
    rw [sD, sD, if_neg (by omega), if_neg (by omega), sD_far B f m m' j n (by omega) (by omega)]
theorem sD_split (B : Bk) (f : Nat → Int32) (m j : Nat) : ∀ n, m < n → n ≤ 100 → sD B f 100 j n = sD B f m j n + dR B m (rowOf f m) j
  | 0, h, _ => by omega
  | n + 1, h, h100 => by
    rw [sD, sD, if_neg (by omega)]
    by_cases e : n = m
    · rw [if_pos e, e, sD_far B f 100 m j m (by omega) (Nat.le_refl _)]
    · rw [if_neg e, sD_split B f m j n (by omega) (by omega)]
      grind
theorem sD_congr (B : Bk) {f g : Nat → Int32} (m j : Nat) (h : ∀ i k, i ≠ m → k < 3 → f (3 * i + k) = g (3 * i + k)) : ∀ n, sD B f m j n = sD B g m j n
  | 0 => rfl
  | n + 1 => by
    rw [sD, sD, sD_congr B m j h n]
    by_cases e : n = m
    · rw [if_pos e, if_pos e]
    · rw [if_neg e, if_neg e]
      have : dR B n (rowOf f n) j = dR B n (rowOf g n) j := by
        unfold dR rowOf
        rw [h n 0 e (by decide), h n 1 e (by decide), h n 2 e (by decide)]
      rw [this]
theorem put3_off (f : Nat → Int32) (m : Nat) (r : Row) (i k : Nat) (hi : i ≠ m) (hk : k < 3) : put3 f m r (3 * i + k) = f (3 * i + k) := by
  unfold put3 upd
  rw [if_neg (by omega), if_neg (by omega), if_neg (by omega)]
theorem put3_at (f : Nat → Int32) (m : Nat) (r : Row) (k : Nat) (hk : k < 3) : put3 f m r (3 * m + k) = Row.at r k := by
  unfold put3 upd
  match k, hk with
  | 0, _ => rw [if_neg (by omega), if_neg (by omega), if_pos (by omega)]
  | 1, _ => rw [if_neg (by omega), if_pos (by omega)]
  | 2, _ => rw [if_pos (by omega)]
/-- a man's row goes -/
theorem layBut_out (B : Bk) (f : Nat → Int32) (P : Nat → Int32) {m n : Nat} (hm : m < n) (hn : n ≤ 100) : lyR B m (rowOf f m) (-1) (layBut B f 100 P n) = layBut B f m P n := by
  funext j
  rw [layR_dl, layBut_get, layBut_get, sD_split B f m j n hm hn]
  grind
/-- his new row comes -/
theorem layBut_in (B : Bk) (f : Nat → Int32) (P : Nat → Int32) {m n : Nat} (hm : m < n) (hn : n ≤ 100) (r : Row) : lyR B m (Row.at r) 1 (layBut B f m P n) = layBut B (put3 f m r) 100 P n := by
  funext j
  rw [layR_dl, layBut_get, layBut_get, sD_split B _ m j n hm hn, sD_congr B m j (fun i k hi hk => put3_off f m r i k hi hk) n]
  have : dR B m (rowOf (put3 f m r) m) j = dR B m (Row.at r) j := by
    unfold dR rowOf
    rw [put3_at f m r 0 (by decide), put3_at f m r 1 (by decide), put3_at f m r 2 (by decide)]
  rw [this]
  grind
/-- rows that can be spent -/
def RwF (nk : Nat) (f : Nat → Int32) : Prop := ∀ i, i < 5 → ∃ r : Row, Rw nk r ∧ ∀ k, k < 3 → f (3 * i + k) = Row.at r k
theorem RwF.zero (nk : Nat) : RwF nk (fun _ => 0) := fun i _ => ⟨(0, 0, 0), by simp [Rw], fun k hk => by
  match k, hk with
  | 0, _ => rfl
  | 1, _ => rfl
  | 2, _ => rfl⟩
theorem RwF.put {nk : Nat} {f : Nat → Int32} (h : RwF nk f) {m : Nat} {r : Row} (hr : Rw nk r) : RwF nk (put3 f m r) := by
  intro i hi
  by_cases e : i = m
  · subst e; exact ⟨r, hr, fun k hk => put3_at f i r k hk⟩
  · obtain ⟨q, q1, q2⟩ := h i hi
    exact ⟨q, q1, fun k hk => by rw [put3_off f m r i k e hk]; exact q2 k hk⟩
theorem POk.but {B : Bk} (hB : B.Ok) {P : Nat → Int32} (h : POk B P) {f : Nat → Int32} (hf : RwF B.nk f) (m : Nat) : ∀ n, n ≤ B.nm → POk B (layBut B f m P n)
  | 0, _ => h
  | n + 1, hn => by
    have ih := POk.but hB h hf m n (by omega)
    have h5 := hB.nm
    rw [layBut]
    by_cases e : n = m
    · rw [if_pos e]; exact ih
    · rw [if_neg e]
      obtain ⟨q, q1, q2⟩ := hf n (by omega)
      rw [layR_same B n (f := rowOf f n) (g := Row.at q) (fun k hk => q2 k hk) 1 _]
      exact ih.ly hB (by omega) q1
theorem layBut_big {B : Bk} (hB : B.Ok) (f : Nat → Int32) (m : Nat) (P : Nat → Int32) {j : Nat} (hj : 35 ≤ j) : ∀ n, n ≤ B.nm → layBut B f m P n j = P j
  | 0, _ => rfl
  | n + 1, hn => by
    have ih := layBut_big hB f m P hj n (by omega)
    rw [layBut]
    by_cases e : n = m
    · rw [if_pos e]; exact ih
    · rw [if_neg e, layR_off B n (by omega) hB.nm _ _ _ _ (by omega), ih]
theorem layBut_zero (B : Bk) (P : Nat → Int32) : ∀ n, layBut B (fun _ => 0) 100 P n = P := by
  have dz : ∀ m j, dR B m (rowOf (fun _ => 0) m) j = 0 := by
    intro m j
    have lz : ∀ k, leak B k 0 = 0 := fun k => by unfold leak; rw [Int32.zero_mul]; rfl
    unfold dR rowOf dl
    simp only [lz, ite_self, Int32.add_zero]
  have sz : ∀ j n, sD B (fun _ => 0) 100 j n = 0 := by
    intro j n
    induction n with
    | zero => rfl
    | succ n ih =>
      rw [sD, ih, dz, Int32.add_zero, ite_self]
  intro n
  funext j
  rw [layBut_get, sz, Int32.add_zero]
theorem newRow_best {B : Bk} {P f : Nat → Int32} {m : Nat} {r : Row} (h : Best Row.key (val B (layBut B f m P B.nm) m 0) (Row.In (mx B (layBut B f m P B.nm) m) (leftN B (layBut B f m P B.nm) m)) r) : newRow B P f m = r := bestRow_eq h
def b2i (b : Bool) : Int32 := if b then 1 else 0
theorem firstN_is {f : Nat → Bool} {n i : Nat} (hi : i < n) (h : f i = true) (hb : ∀ j, j < i → f j = false) : firstN f n = some i := by
  cases hq : firstN f n with
  | none => have := firstN_none hq i hi; rw [h] at this; cases this
  | some k =>
    obtain ⟨a, b, c⟩ := firstN_some hq
    by_cases e1 : k < i
    · rw [hb k e1] at b; cases b
    · by_cases e2 : i < k
      · rw [c i e2] at h; cases h
      · rw [show k = i by omega]
theorem firstN_no {f : Nat → Bool} {n : Nat} (hb : ∀ j, j < n → f j = false) : firstN f n = none := by
  cases hq : firstN f n with
  | none => rfl
  | some k =>
    obtain ⟨a, b, c⟩ := firstN_some hq
    rw [hb k a] at b; cases b
/-- the state within a round -/
abbrev MR (gi : GI) (S : St) (f : Nat → Int32) (gj : GI) : Prop := (RM gj (S.w_P (layBut S.B f 100 S.P S.B.nm))) ∧ (∀ j, j < 15 → gj 44 j = f j) ∧ (gj 42 = gi 42) ∧ (RwF S.B.nk f)
theorem MR.rm {gi : GI} {S : St} {f : Nat → Int32} {gj : GI} (h : MR gi S f gj) : RM gj (S.w_P (layBut S.B f 100 S.P S.B.nm)) := h.1
theorem MR.sp {gi : GI} {S : St} {f : Nat → Int32} {gj : GI} (h : MR gi S f gj) : ∀ j, j < 15 → gj 44 j = f j := h.2.1
theorem MR.kept {gi : GI} {S : St} {f : Nat → Int32} {gj : GI} (h : MR gi S f gj) : gj 42 = gi 42 := h.2.2.1
theorem MR.rw {gi : GI} {S : St} {f : Nat → Int32} {gj : GI} (h : MR gi S f gj) : RwF S.B.nk f := h.2.2.2
theorem m_goRound {gi : GI} {S : St} (o : SOk S) {f : Nat → Int32} {g0 : GI} (h0 : MR gi S f g0) : ∃ g1, f_X4_goRound g0 = some (b2i (round S.B S.P f S.B.nm).2, g1) ∧ MR gi S (round S.B S.P f S.B.nm).1 g1 := by
  have h5 := o.bok.nm
  obtain ⟨e, k1, k2, k3⟩ := loop_J (body := fun (s : Int32 × Int32 × GI) => f_X4_goRound_l4 s.1 s.2.1 s.2.2) (fun n s => ∃ i, n = S.B.nm - i ∧ i ≤ S.B.nm ∧ s.1 = b2i (round S.B S.P f i).2 ∧ s.2.1 = N i ∧ MR gi S (round S.B S.P f i).1 s.2.2) (fun e => e.1 = b2i (round S.B S.P f S.B.nm).2 ∧ MR gi S (round S.B S.P f S.B.nm).1 e.2) (by
    rintro n ⟨x1, x2, gj⟩ ⟨i, i0, i1, i2, i3, i4⟩
    dsimp only at i2 i3 i4 ⊢
    subst i2 i3
    have bj : MBk gj S.B := i4.rm.book
    rw [f_X4_goRound_l4, m_many bj, Option.bind_some, if_le (by omega) (by omega)]
    by_cases hi : i = S.B.nm
    · right
      subst hi
      exact ⟨_, if_pos (Nat.le_refl _), rfl, i4⟩
    · left
      have hm : i < S.B.nm := by omega
      rw [if_neg (by omega)]
      generalize hF : (round S.B S.P f i).1 = F at i4
      generalize hC : (round S.B S.P f i).2 = C
      have a33 : gj 33 = layBut S.B F 100 S.P S.B.nm := i4.rm.all
      -- his row goes
      have s1 : ∀ (P : Nat → Int32) (k : Nat), k < 3 → f_X4_goRound_l14 (b2i C) (N i) (N k) (va_up gj 33 P) = some (.inl (N (k + 1), va_up gj 33 (ly S.B i k (F (3 * i + k)) (-1) P))) := by
        intro P k hk
        have b1 := (Fr.all gj P).book bj
        rw [f_X4_goRound_l14, show (3 : Int32) = N 3 from rfl, if_le (by omega) (by omega), if_neg (by omega), N_mul, N_add, N_ld (by omega) (by decide), Option.bind_some, all_ne _ _ _ (by decide), i4.sp _ (by omega), m_lay b1 hm hk, Option.bind_some, all_get, all_up, show (1 : Int32) = N 1 from rfl, N_add]
      have h0 := s1 (gj 33) 0 (by decide)
      rw [up_id] at h0
      rw [lp_3 (body := fun (s : Int32 × GI) => f_X4_goRound_l14 (b2i C) (N i) s.1 s.2) (s0 := (0, gj)) h0 (s1 _ 1 (by decide)) (s1 _ 2 (by decide)) rfl, Option.bind_some, f_X4_goRound_x14]
      have el : ly S.B i 2 (F (3 * i + 2)) (-1) (ly S.B i 1 (F (3 * i + 1)) (-1) (ly S.B i 0 (F (3 * i + 0)) (-1) (gj 33))) = layBut S.B F i S.P S.B.nm := by
        rw [a33]; exact layBut_out S.B F S.P hm (by omega)
      rw [el]
      have r2 := i4.rm.row (layBut S.B F i S.P S.B.nm)
      have b2 : MBk (va_up gj 33 (layBut S.B F i S.P S.B.nm)) S.B := r2.book
      have ok2 := o.row.ok.but o.bok i4.rw i S.B.nm (Nat.le_refl _)
      obtain ⟨g3, v, c1, c2, c3, c4, c5, c6⟩ := m_layBest b2 (by rw [up_same]; exact ok2) hm 0
      rw [up_same] at c2
      have hb := newRow_best c2
      have r3 := c6.mfr.rm r2
      have b3 : MBk g3 S.B := r3.book
      rw [c1, Option.bind_some]
      -- what he spends is told anew
      have sp3 : ∀ j, j < 15 → g3 44 j = F j := fun j hj => by rw [c6.2 44 (by decide) (by decide) (by decide) (by decide) (by decide), up_ne _ _ _ (by decide)]; exact i4.sp j hj
      have s2 : ∀ (c : Bool) (gq : GI) (k : Nat), k < 3 → f_X4_goRound_l50 (N i) (b2i c) (N k) gq = some (.inl (b2i (c || !(gq 44 (3 * i + k) == gq 36 k)), N (k + 1), g_pi gq 44 (3 * i + k) (gq 36 k))) := by
        intro c gq k hk
        have j83 : ∀ t, f_X4_goRound_j83 (N i) gq (N k) t = some (.inl (t, N (k + 1), g_pi gq 44 (3 * i + k) (gq 36 k))) := by
          intro t
          rw [f_X4_goRound_j83, N_ld hk (by decide), Option.bind_some, show (3 : Int32) = N 3 from rfl, N_mul, N_add, N_st (by omega) (by decide), Option.bind_some, show (1 : Int32) = N 1 from rfl, N_add]
        rw [f_X4_goRound_l50, show (3 : Int32) = N 3 from rfl, if_le (by omega) (by omega), if_neg (by omega)]
        cases c with
        | true =>
          rw [if_neg (by decide), f_X4_goRound_j78, j83]; rfl
        | false =>
          rw [if_pos (show b2i false = 0 from rfl), N_mul, N_add, N_ld (by omega) (by decide), Option.bind_some, N_ld hk (by decide), Option.bind_some]
          by_cases q : gq 44 (3 * i + k) = gq 36 k
          · rw [if_pos q, j83]; simp [q, b2i]
          · rw [if_neg q, f_X4_goRound_j78, j83]; simp [q, b2i]
      have lp := lp_3 (body := fun (s : Int32 × Int32 × GI) => f_X4_goRound_l50 (N i) s.1 s.2.1 s.2.2) (s0 := (b2i C, 0, g3)) (s2 C g3 0 (by decide)) (s2 _ _ 1 (by decide)) (s2 _ _ 2 (by decide)) rfl
      rw [lp, Option.bind_some, f_X4_goRound_x50]
      generalize hg4 : g_pi (g_pi (g_pi g3 44 (3 * i + 0) (g3 36 0)) 44 (3 * i + 1) (g_pi g3 44 (3 * i + 0) (g3 36 0) 36 1)) 44 (3 * i + 2) (g_pi (g_pi g3 44 (3 * i + 0) (g3 36 0)) 44 (3 * i + 1) (g_pi g3 44 (3 * i + 0) (g3 36 0) 36 1) 36 2) = g4
      have v4 : ∀ c, c ≠ 44 → g4 c = g3 c := fun c hc => by rw [← hg4, pi_off hc, pi_off hc, pi_off hc]
      have b4 : MBk g4 S.B := (show Fr g3 g4 from ⟨by rw [v4 0 (by decide)], fun c _ _ => v4 c (by omega)⟩).book b3
      have m4 : MFr g3 g4 := ⟨by rw [v4 0 (by decide)], fun c _ _ => v4 c (by omega), fun k _ => by rw [v4 0 (by decide)], fun c hc => v4 c (by omega)⟩
      have r4 := m4.rm r3
      have a4 : g4 33 = layBut S.B F i S.P S.B.nm := r4.all
      have d1 := m_layBestRow b4 hm 1
      rw [layR_same S.B i (g := Row.at v) (fun k hk => by rw [v4 36 (by decide)]; exact c3.at k hk) 1 _, a4, layBut_in S.B F S.P hm (by omega) v] at d1
      rw [d1, Option.bind_some]
      have eF : (round S.B S.P f (i + 1)).1 = put3 F i v := by rw [round, hF, hb]
      have eC : (round S.B S.P f (i + 1)).2 = (C || !(same3 F i v)) := by rw [round, hF, hC, hb]
      have e36 : g3 36 0 = Row.at v 0 ∧ g3 36 1 = Row.at v 1 ∧ g3 36 2 = Row.at v 2 := ⟨c3.at 0 (by decide), c3.at 1 (by decide), c3.at 2 (by decide)⟩
      refine ⟨_, rfl, S.B.nm - (i + 1), by omega, i + 1, rfl, by omega, ?_, ?_, ⟨?_, ?_, ?_, ?_⟩⟩
      · dsimp only
        rw [eC]
        congr 1
        have t0 : g3 44 (3 * i + 0) = F (3 * i) := sp3 _ (by omega)
        have t1 : g_pi g3 44 (3 * i + 0) (g3 36 0) 44 (3 * i + 1) = F (3 * i + 1) := by rw [pi_get, if_neg (by omega)]; exact sp3 _ (by omega)
        have t2 : g_pi (g_pi g3 44 (3 * i + 0) (g3 36 0)) 44 (3 * i + 1) (g_pi g3 44 (3 * i + 0) (g3 36 0) 36 1) 44 (3 * i + 2) = F (3 * i + 2) := by rw [pi_get, if_neg (by omega), pi_get, if_neg (by omega)]; exact sp3 _ (by omega)
        rw [t0, t1, t2, pi_off (by decide), pi_off (by decide), pi_off (by decide), e36.1, e36.2.1, e36.2.2]
        unfold same3
        cases C <;> cases (F (3 * i) == Row.at v 0) <;> cases (F (3 * i + 1) == Row.at v 1) <;> cases (F (3 * i + 2) == Row.at v 2) <;> rfl
      · exact N_add i 1
      · rw [eF]
        exact r4.row _
      · intro j hj
        dsimp only
        rw [eF, up_ne _ _ _ (by decide), ← hg4]
        unfold put3 upd
        simp only [pi_get, true_and]
        by_cases q2 : j = 3 * i + 2
        · rw [if_pos q2, if_pos q2]; simp [e36.2.2]
        · rw [if_neg q2, if_neg q2]
          by_cases q1 : j = 3 * i + 1
          · rw [if_pos q1, if_pos q1]; simp [e36.2.1]
          · rw [if_neg q1, if_neg q1]
            by_cases q0 : j = 3 * i + 0
            · rw [if_pos q0, if_pos (by omega), e36.1]
            · rw [if_neg q0, if_neg (by omega)]; exact sp3 j hj
      · dsimp only
        rw [up_ne _ _ _ (by decide), v4 42 (by decide), c6.2 42 (by decide) (by decide) (by decide) (by decide) (by decide), up_ne _ _ _ (by decide)]; exact i4.kept
      · rw [eF]; exact i4.rw.put (In_Rw c2.1)) (n := S.B.nm) (s := (0, 0, g0)) ⟨0, by omega, by omega, rfl, rfl, h0⟩ (by simp only [g_K]; omega)
  rw [f_X4_goRound, k1, Option.bind_some, f_X4_goRound_x4, k2]
  refine ⟨e.2, ?_, k3⟩
  cases (round S.B S.P f S.B.nm).2 <;> rfl
theorem m_rest {gi : GI} {S : St} (r : RM gi S) (o : SOk S) : ∃ gi', f_X4_rest gi = some ((s_rest S).1, gi') ∧ RM gi' (s_rest S).2 := by
  have h5 := o.bok.nm
  have r0 := r.laid0
  rw [f_X4_rest, Option.bind_some, m_keepNow, Option.bind_some]
  have a33 : g_pi gi 0 55 0 33 = S.P := r0.all
  have fr0 : MFr (g_pi gi 0 55 0) (va_up (g_pi gi 0 55 0) 42 (cpo (g_pi gi 0 55 0 42) (g_pi gi 0 55 0 33) 0 42)) := ⟨by rw [up_ne _ _ _ (by decide)], fun c _ _ => up_ne _ _ _ (by omega), fun k _ => by rw [up_ne _ _ _ (by decide)], fun c hc => up_ne _ _ _ (by omega)⟩
  have r1 := fr0.rm r0
  have e42 : ∀ j, j < 42 → va_up (g_pi gi 0 55 0) 42 (cpo (g_pi gi 0 55 0 42) (g_pi gi 0 55 0 33) 0 42) 42 j = S.P j := fun j hj => by rw [up_same, cpo, if_pos (by omega), a33, Nat.sub_zero]
  generalize va_up (g_pi gi 0 55 0) 42 (cpo (g_pi gi 0 55 0 42) (g_pi gi 0 55 0 33) 0 42) = g1 at r1 e42
  have lz := loop_copy (body := fun (s : Int32 × GI) => f_X4_rest_l11 s.1 s.2) (gi := g1) (c := 44) (off := 0) (n := 15) (src := fun _ => 0) (by decide) (by
    intro i gj hi hg
    show f_X4_rest_l11 (N i) gj = _
    rw [f_X4_rest_l11, show (15 : Int32) = N 15 from rfl, if_le (by omega) (by omega), if_neg (by omega), N_st hi (by decide), Option.bind_some, show (1 : Int32) = N 1 from rfl, N_add, Nat.zero_add]) (fun gj => rfl)
  rw [lz, Option.bind_some, f_X4_rest_x11]
  have fr2 : MFr g1 (va_up g1 44 (cpo (g1 44) (fun _ => 0) 0 15)) := ⟨by rw [up_ne _ _ _ (by decide)], fun c _ _ => up_ne _ _ _ (by omega), fun k _ => by rw [up_ne _ _ _ (by decide)], fun c hc => up_ne _ _ _ (by omega)⟩
  have r2 := fr2.rm r1
  have mr : MR g1 (S.w_laid 0) (rounds S.B S.P 0) (va_up g1 44 (cpo (g1 44) (fun _ => 0) 0 15)) := by
    refine ⟨?_, fun j hj => by rw [up_same, cpo, if_pos (by omega)]; rfl, up_ne _ _ _ (by decide), RwF.zero _⟩
    have : layBut (S.w_laid 0).B (rounds S.B S.P 0) 100 (S.w_laid 0).P (S.w_laid 0).B.nm = S.P := layBut_zero _ _ _
    rw [this]
    exact r2
  have o' : SOk (S.w_laid 0) := ⟨o.bok, o.row, o.was, o.room, o.taped, Nat.zero_le _, o.ns, o.time, o.man, o.other, o.yes, o.untold, o.box, o.rate⟩
  obtain ⟨g3, c1, c2⟩ := m_goRound o' mr
  have c1 : f_X4_goRound (va_up g1 44 (cpo (g1 44) (fun _ => 0) 0 15)) = some (b2i (moves S.B S.P 0), g3) := c1
  have c2 : MR g1 (S.w_laid 0) (rounds S.B S.P 1) g3 := c2
  rw [c1, Option.bind_some]
  obtain ⟨e, k1, n, k2, k3, k4, k5, k6⟩ := loop_J (body := fun (s : Int32 × Int32 × GI) => f_X4_rest_l37 s.1 s.2.1 s.2.2) (fun k s => ∃ n, k = 20 - n ∧ n ≤ 20 ∧ s.1 = N n ∧ s.2.1 = b2i (moves S.B S.P n) ∧ MR g1 (S.w_laid 0) (rounds S.B S.P (n + 1)) s.2.2 ∧ ∀ j, j < n → moves S.B S.P j = true) (fun e => ∃ n, n ≤ 20 ∧ e.1 = N n ∧ e.2.1 = b2i (moves S.B S.P n) ∧ MR g1 (S.w_laid 0) (rounds S.B S.P (n + 1)) e.2.2 ∧ (∀ j, j < n → moves S.B S.P j = true) ∧ (moves S.B S.P n = true → n = 20)) (by
    rintro k ⟨x1, x2, gj⟩ ⟨n, n0, n1, n2, n3, n4, n5⟩
    dsimp only at n2 n3 n4 ⊢
    subst n2 n3
    rw [f_X4_rest_l37]
    cases hm : moves S.B S.P n with
    | false =>
      right
      rw [if_pos (by rfl)]
      exact ⟨_, rfl, n, n1, rfl, by rw [hm], n4, n5, fun c => by rw [hm] at c; cases c⟩
    | true =>
      rw [if_neg (by decide), show (20 : Int32) = N 20 from rfl, if_le (by omega) (by omega)]
      by_cases h20 : n = 20
      · right
        rw [if_pos (by omega)]
        exact ⟨_, rfl, n, n1, rfl, by rw [hm], n4, n5, fun _ => h20⟩
      · left
        rw [if_neg (by omega)]
        obtain ⟨g', d1, d2⟩ := m_goRound o' n4
        have d1 : f_X4_goRound gj = some (b2i (moves S.B S.P (n + 1)), g') := d1
        rw [d1, Option.bind_some]
        refine ⟨_, rfl, 20 - (n + 1), by omega, n + 1, rfl, by omega, N_add n 1, rfl, d2, fun j hj => ?_⟩
        by_cases e : j = n
        · rw [e]; exact hm
        · exact n5 j (by omega)) (n := 20) (s := (0, b2i (moves S.B S.P 0), g3)) ⟨0, by omega, by omega, rfl, rfl, c2, fun j hj => by omega⟩ (by decide)
  have hl : (g_loop g_K (fun (s : Int32 × Int32 × GI) => f_X4_rest_l37 s.1 s.2.1 s.2.2) (0, b2i (moves S.B S.P 0), g3)) = some e := k1
  dsimp only
  rw [hl, Option.bind_some, f_X4_rest_x37, m_bringBack, Option.bind_some, k3, k4]
  have p42 : ∀ j, j < 42 → e.2.2 42 j = S.P j := fun j hj => by rw [k5.kept]; exact e42 j hj
  have big : ∀ j, 42 ≤ j → e.2.2 33 j = S.P j := fun j hj => by
    rw [k5.rm.all]
    exact layBut_big o.bok _ _ _ (by omega) _ (Nat.le_refl _)
  have rb : RM (va_up e.2.2 33 (cpo (e.2.2 33) (e.2.2 42) 0 42)) (S.w_laid 0) := RM.back (gi := e.2.2) (S := S.w_laid 0) (by rw [k5.rm.all]; exact k5.rm) p42 big
  have b44 : ∀ j, j < 15 → va_up e.2.2 33 (cpo (e.2.2 33) (e.2.2 42) 0 42) 44 j = rounds S.B S.P (n + 1) j := fun j hj => by rw [up_ne _ _ _ (by decide)]; exact k5.sp j hj
  generalize va_up e.2.2 33 (cpo (e.2.2 33) (e.2.2 42) 0 42) = gb at rb b44
  unfold s_rest
  cases hm : moves S.B S.P n with
  | true =>
    have hn := k6.2 hm
    subst hn
    rw [if_neg (by decide), firstN_no (fun j hj => by
      by_cases e : j = 20
      · rw [e, hm]; rfl
      · rw [k6.1 j (by omega)]; rfl)]
    exact ⟨gb, rfl, rb⟩
  | false =>
    rw [if_pos (by rfl), firstN_is (i := n) (by omega) (by rw [hm]; rfl) (fun j hj => by rw [k6.1 j hj]; rfl)]
    have bb : MBk gb S.B := rb.book
    have bj : ∀ F, MBk (va_up gb 37 F) S.B := fun F => (show Fr gb (va_up gb 37 F) from ⟨by rw [up_ne _ _ _ (by decide)], fun c _ _ => up_ne _ _ _ (by omega)⟩).book bb
    have lp : g_loop g_K (fun (s : Int32 × GI) => f_X4_rest_l70 (N n) s.1 s.2) (0, gb) = some (va_up gb 37 (cpo (gb 37) (fun m => sum3 (rounds S.B S.P (n + 1)) (3 * m)) 0 S.B.nm)) := by
      refine loop_T (fun i => (N i, va_up gb 37 (cpo (gb 37) (fun m => sum3 (rounds S.B S.P (n + 1)) (3 * m)) 0 i))) S.B.nm (by rw [cpo_zero, up_id]; rfl) ?_ ?_ (by simp only [g_K]; omega)
      · intro i hi
        dsimp only
        rw [f_X4_rest_l70, m_many (bj _), Option.bind_some, if_le (by omega) (by omega), if_neg (by omega), f_X4_spendsOf, show (3 : Int32) = N 3 from rfl, N_mul, show (1 : Int32) = N 1 from rfl, show (2 : Int32) = N 2 from rfl, N_add, N_add, N_ld (by omega) (by decide), Option.bind_some, N_ld (by omega) (by decide), Option.bind_some, N_ld (by omega) (by decide), Option.bind_some, Option.bind_some, N_st (by omega) (by decide), Option.bind_some, N_add, up_ne _ _ _ (show (44 : Nat) ≠ 37 by decide), b44 _ (by omega), b44 _ (by omega), b44 _ (by omega), up_pi, ← cpo_step, Nat.zero_add]
        rfl
      · dsimp only
        rw [f_X4_rest_l70, m_many (bj _), Option.bind_some, if_le (by omega) (by omega), if_pos (Nat.le_refl _)]
    rw [lp, Option.bind_some, f_X4_rest_x70, m_many (bj _), Option.bind_some, Option.bind_some]
    refine ⟨_, rfl, ?_⟩
    have := rb.lie (gi' := g_pi (va_up gb 37 (cpo (gb 37) (fun m => sum3 (rounds S.B S.P (n + 1)) (3 * m)) 0 S.B.nm)) 0 55 (N S.B.nm)) (l := S.B.nm) (f := fun m => sum3 (rounds S.B S.P (n + 1)) (3 * m)) (fun c h1 h2 => by rw [pi_off h1, up_ne _ _ _ h2]) (fun k hk => by rw [pi_get, if_neg (by omega), up_ne _ _ _ (by decide)]) (by simp [pi_get]) (fun i hi => by rw [pi_off (by decide), up_same, cpo, if_pos (by omega), Nat.sub_zero])
    exact this

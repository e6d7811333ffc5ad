set_option linter.unusedVariables false
set_option linter.unusedSimpArgs false
/-! THE PLAIN LAW: the model's rows -/
theorem lp_3 {S E : Type} {body : S → Option (S ⊕ E)} {s0 s1 s2 s3 : S} {e : E} (h0 : body s0 = some (.inl s1)) (h1 : body s1 = some (.inl s2)) (h2 : body s2 = some (.inl s3)) (h3 : body s3 = some (.inr e)) : g_loop g_K body s0 = some e := by
  refine loop_T (fun i => if i = 0 then s0 else if i = 1 then s1 else if i = 2 then s2 else s3) 3 rfl ?_ h3 (by decide)
  intro i hi
  match i, hi with
  | 0, _ => exact h0
  | 1, _ => exact h1
  | 2, _ => exact h2
theorem lp_2 {S E : Type} {body : S → Option (S ⊕ E)} {s0 s1 s2 : S} {e : E} (h0 : body s0 = some (.inl s1)) (h1 : body s1 = some (.inl s2)) (h3 : body s2 = some (.inr e)) : g_loop g_K body s0 = some e := by
  refine loop_T (fun i => if i = 0 then s0 else if i = 1 then s1 else s2) 2 rfl ?_ h3 (by decide)
  intro i hi
  match i, hi with
  | 0, _ => exact h0
  | 1, _ => exact h1
theorem lp_1 {S E : Type} {body : S → Option (S ⊕ E)} {s0 s1 : S} {e : E} (h0 : body s0 = some (.inl s1)) (h3 : body s1 = some (.inr e)) : g_loop g_K body s0 = some e := by
  refine loop_T (fun i => if i = 0 then s0 else s1) 1 rfl ?_ h3 (by decide)
  intro i hi
  match i, hi with
  | 0, _ => exact h0
theorem lp_0 {S E : Type} {body : S → Option (S ⊕ E)} {s0 : S} {e : E} (h3 : body s0 = some (.inr e)) : g_loop g_K body s0 = some e :=
  loop_T (fun _ => s0) 0 rfl (fun i hi => absurd hi (Nat.not_lt_zero i)) h3 (by decide)
def rowIs (gi : GI) (c : Nat) (r : Row) : Prop := gi c 0 = N r.1 ∧ gi c 1 = N r.2.1 ∧ gi c 2 = N r.2.2
theorem rowIs.at {gi : GI} {c : Nat} {r : Row} (h : rowIs gi c r) (k : Nat) (hk : k < 3) : gi c k = Row.at r k := by
  match k, hk with
  | 0, _ => exact h.1
  | 1, _ => exact h.2.1
  | 2, _ => exact h.2.2
theorem m_layRow {gi : GI} {B : Bk} (b : MBk gi B) {m : Nat} (hm : m < B.nm) (w : Int32) : f_X4_layRow gi (N m) w = some (va_up gi 33 (lyR B m (gi 35) w (gi 33))) := by
  have st : ∀ (P : Nat → Int32) (k : Nat), k < 3 → f_X4_layRow_l2 (N m) w (N k) (va_up gi 33 P) = some (.inl (N (k + 1), va_up gi 33 (ly B m k (gi 35 k) w P))) := by
    intro P k hk
    have b1 := (Fr.all gi P).book b
    rw [f_X4_layRow_l2, show (3 : Int32) = N 3 from rfl, if_le (by omega) (by omega), if_neg (by omega), N_ld (by omega) (by decide), Option.bind_some, all_ne _ _ _ (by decide), m_lay b1 hm hk, Option.bind_some, all_get, all_up, show (1 : Int32) = N 1 from rfl, N_add]
  rw [f_X4_layRow]
  have e : gi = va_up gi 33 (gi 33) := by funext i; by_cases h : i = 33 <;> simp [va_up, h]
  have h0 := st (gi 33) 0 (by decide)
  rw [← e] at h0
  rw [lp_3 (body := fun (s : Int32 × GI) => f_X4_layRow_l2 (N m) w s.1 s.2) (s0 := (0, gi)) h0 (st _ 1 (by decide)) (st _ 2 (by decide)) rfl]
  rfl
theorem m_layBestRow {gi : GI} {B : Bk} (b : MBk gi B) {m : Nat} (hm : m < B.nm) (w : Int32) : f_X4_layBestRow gi (N m) w = some (va_up gi 33 (lyR B m (gi 36) w (gi 33))) := by
  have st : ∀ (P : Nat → Int32) (k : Nat), k < 3 → f_X4_layBestRow_l2 (N m) w (N k) (va_up gi 33 P) = some (.inl (N (k + 1), va_up gi 33 (ly B m k (gi 36 k) w P))) := by
    intro P k hk
    have b1 := (Fr.all gi P).book b
    rw [f_X4_layBestRow_l2, show (3 : Int32) = N 3 from rfl, if_le (by omega) (by omega), if_neg (by omega), N_ld (by omega) (by decide), Option.bind_some, all_ne _ _ _ (by decide), m_lay b1 hm hk, Option.bind_some, all_get, all_up, show (1 : Int32) = N 1 from rfl, N_add]
  rw [f_X4_layBestRow]
  have e : gi = va_up gi 33 (gi 33) := by funext i; by_cases h : i = 33 <;> simp [va_up, h]
  have h0 := st (gi 33) 0 (by decide)
  rw [← e] at h0
  rw [lp_3 (body := fun (s : Int32 × GI) => f_X4_layBestRow_l2 (N m) w s.1 s.2) (s0 := (0, gi)) h0 (st _ 1 (by decide)) (st _ 2 (by decide)) rfl]
  rfl
theorem m_noRow (gi : GI) : f_X4_noRow gi = some (g_pi (g_pi (g_pi gi 35 0 0) 35 1 0) 35 2 0) := by
  rw [f_X4_noRow, lp_3 (body := fun (s : Int32 × GI) => f_X4_noRow_l2 s.1 s.2) (s0 := (0, gi)) (s1 := (1, g_pi gi 35 0 0)) (s2 := (2, g_pi (g_pi gi 35 0 0) 35 1 0)) (s3 := (3, g_pi (g_pi (g_pi gi 35 0 0) 35 1 0) 35 2 0)) rfl rfl rfl rfl]
  rfl
/-- only row 35 is written -/
def K35 (gi gi' : GI) : Prop := ∀ c, c ≠ 35 → gi' c = gi c
theorem K35.refl (gi : GI) : K35 gi gi := fun _ _ => rfl
theorem K35.pi {gi gi' : GI} (h : K35 gi gi') (k : Nat) (x : Int32) : K35 gi (g_pi gi' 35 k x) := by
  intro c hc
  rw [← h c hc]
  funext j
  rw [pi_get, if_neg]; omega
theorem nextRow_st {gi gj : GI} {a : Nat} (ha : a < 55 ∧ (hkM a) = (0, 3) ∧ a ≠ 35) (hK : K35 gi gj) {x p L : Nat} (k : Nat) (hk : k < 3) (hx : gi a k = N x) (hp : gj 35 k = N p) {q0 q1 q2 : Nat} (h0 : g_pi gj 35 k (N (p + 1)) 35 0 = N q0) (h1 : g_pi gj 35 k (N (p + 1)) 35 1 = N q1) (h2 : g_pi gj 35 k (N (p + 1)) 35 2 = N q2) (bx : x < 1000) (bp : p < 1000) (bq : q0 < 1000 ∧ q1 < 1000 ∧ q2 < 1000) (bL : L < 1000) :
    f_X4_nextRow_l2 a (N L) (N k) gj = if p + 1 ≤ x ∧ q0 + q1 + q2 ≤ L then some (.inr (.inr (1, g_pi gj 35 k (N (p + 1))))) else some (.inl (N k + (-1), g_pi (g_pi gj 35 k (N (p + 1))) 35 k 0)) := by
  have hld : g_ldP (g_pi gj 35 k (N (p + 1))) a (N k) = some (N x) := by
    rw [g_ldP, if_pos ⟨ha.1, by rw [ha.2.1]⟩, ha.2.1, N_ld hk (by decide), pi_get, if_neg (by omega), hK a ha.2.2, hx]
  have hz : ¬ (N k < (0 : Int32)) := by rw [show (0 : Int32) = N 0 from rfl, N_lt (by omega) (by omega)]; omega
  rw [f_X4_nextRow_l2, if_neg hz, N_ld hk (by decide), Option.bind_some, hp, show (1 : Int32) = N 1 from rfl, N_add, N_st hk (by decide), Option.bind_some, N_ld hk (by decide), Option.bind_some, hld, Option.bind_some, pi_get, if_pos (And.intro rfl rfl), if_lt (by omega) (by omega)]
  have hj : f_X4_nextRow_j54 a (N L) (g_pi gj 35 k (N (p + 1))) (N k) = some (.inl (N k + (-1), g_pi (g_pi gj 35 k (N (p + 1))) 35 k 0)) := by
    rw [f_X4_nextRow_j54, N_st hk (by decide), Option.bind_some]
  rw [hj]
  by_cases c1 : p + 1 ≤ x
  · rw [if_neg (by omega), show (0 : Int32) = N 0 from rfl, N_ld (by decide) (by decide), Option.bind_some, N_ld (by decide) (by decide), Option.bind_some, show (2 : Int32) = N 2 from rfl, N_ld (by decide) (by decide), Option.bind_some, h0, h1, h2, N_add, N_add, if_lt (by omega) (by omega)]
    by_cases c2 : q0 + q1 + q2 ≤ L
    · rw [if_neg (by omega), if_pos ⟨c1, c2⟩]
    · rw [if_pos (by omega), if_neg (by omega)]; rfl
  · rw [if_pos (by omega), if_neg (by omega)]; rfl
theorem m_nextRow {gi : GI} {a : Nat} (ha : a < 55 ∧ (hkM a) = (0, 3) ∧ a ≠ 35) {x r : Row} {L : Nat} (hx : rowIs gi a x) (hr : rowIs gi 35 r) (bx : x.1 < 1000 ∧ x.2.1 < 1000 ∧ x.2.2 < 1000) (br : r.1 < 900 ∧ r.2.1 < 900 ∧ r.2.2 < 900) (bL : L < 1000) : ∃ gi', f_X4_nextRow gi a (N L) = some (if (nxt x L r).2 then 1 else 0, gi') ∧ rowIs gi' 35 (nxt x L r).1 ∧ K35 gi gi' := by
  obtain ⟨x0, x1, x2⟩ := x
  obtain ⟨r0, r1, r2⟩ := r
  obtain ⟨hx0, hx1, hx2⟩ := hx
  obtain ⟨hr0, hr1, hr2⟩ := hr
  simp only at hx0 hx1 hx2 hr0 hr1 hr2 bx br
  have s1 := nextRow_st ha (K35.refl gi) 2 (by decide) hx2 hr2 (q0 := r0) (q1 := r1) (q2 := r2 + 1) (L := L) (by simp [pi_get, hr0]) (by simp [pi_get, hr1]) (by simp [pi_get]) bx.2.2 (by omega) (by omega) bL
  have k1 := ((K35.refl gi).pi 2 (N (r2 + 1))).pi 2 0
  have s2 := nextRow_st ha k1 1 (by decide) hx1 (p := r1) (by simp [pi_get, hr1]) (q0 := r0) (q1 := r1 + 1) (q2 := 0) (L := L) (by simp [pi_get, hr0]) (by simp [pi_get]) (by simp [pi_get]; rfl) bx.2.1 (by omega) (by omega) bL
  have k2 := (k1.pi 1 (N (r1 + 1))).pi 1 0
  have s3 := nextRow_st ha k2 0 (by decide) hx0 (p := r0) (by simp [pi_get, hr0]) (q0 := r0 + 1) (q1 := 0) (q2 := 0) (L := L) (by simp [pi_get]) (by simp [pi_get]; rfl) (by simp [pi_get]; rfl) bx.1 (by omega) (by omega) bL
  have k3 := (k2.pi 0 (N (r0 + 1))).pi 0 0
  simp only [f_X4_nextRow, nxt]
  by_cases c1 : r2 + 1 ≤ x2 ∧ r0 + r1 + (r2 + 1) ≤ L
  · rw [if_pos c1] at s1
    rw [if_pos c1, lp_0 (body := fun (s : Int32 × GI) => f_X4_nextRow_l2 a (N L) s.1 s.2) (s0 := (2, gi)) s1]
    exact ⟨_, rfl, ⟨by simp [pi_get, hr0], by simp [pi_get, hr1], by simp [pi_get]⟩, (K35.refl gi).pi _ _⟩
  · rw [if_neg c1] at s1
    rw [if_neg c1]
    by_cases c2 : r1 + 1 ≤ x1 ∧ r0 + (r1 + 1) + 0 ≤ L
    · rw [if_pos c2] at s2
      rw [if_pos c2, lp_1 (body := fun (s : Int32 × GI) => f_X4_nextRow_l2 a (N L) s.1 s.2) (s0 := (2, gi)) s1 s2]
      exact ⟨_, rfl, ⟨by simp [pi_get, hr0], by simp [pi_get], by simp [pi_get]; rfl⟩, k1.pi _ _⟩
    · rw [if_neg c2] at s2
      rw [if_neg c2]
      by_cases c3 : r0 + 1 ≤ x0 ∧ r0 + 1 + 0 + 0 ≤ L
      · rw [if_pos c3] at s3
        rw [if_pos c3, lp_2 (body := fun (s : Int32 × GI) => f_X4_nextRow_l2 a (N L) s.1 s.2) (s0 := (2, gi)) s1 s2 s3]
        exact ⟨_, rfl, ⟨by simp [pi_get], by simp [pi_get]; rfl, by simp [pi_get]; rfl⟩, k2.pi _ _⟩
      · rw [if_neg c3] at s3
        rw [if_neg c3, lp_3 (body := fun (s : Int32 × GI) => f_X4_nextRow_l2 a (N L) s.1 s.2) (s0 := (2, gi)) s1 s2 s3 rfl]
        exact ⟨_, rfl, ⟨by simp [pi_get]; rfl, by simp [pi_get]; rfl, by simp [pi_get]; rfl⟩, k3⟩

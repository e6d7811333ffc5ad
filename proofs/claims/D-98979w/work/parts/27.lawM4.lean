set_option linter.unusedVariables false
set_option linter.unusedSimpArgs false
/-! THE PLAIN LAW: the model's best row -/
theorem m_hours {gi : GI} {B : Bk} (b : MBk gi B) : g_ld gi 8 2 (gi 0 41) = some (N B.hours) := by
  obtain ⟨r, h1, h2⟩ := b
  rw [h1, N_ld h2.hr (by decide), h2.hours]
theorem m_leftOf {gi : GI} {B : Bk} (b : MBk gi B) (hP : POk B (gi 33)) {m : Nat} (hm : m < 5) : f_X4_leftOf gi (N m) = some (N (leftN B (gi 33) m)) := by
  have h := hP.sp b.ok hm
  rw [f_X4_leftOf, m_hours b, Option.bind_some, show (35 : Int32) = N 35 from rfl, N_add, N_ld (by omega) (by decide), Option.bind_some, h.1, N_sub h.2]
  rfl
theorem m_inPurse {gi : GI} {B : Bk} (hP : POk B (gi 33)) {m k : Nat} (hm : m < 5) (hk : k < 3) : f_X4_inPurse gi (N m) (N k) = some (N (pn (gi 33) (3 * m + k))) := by
  rw [f_X4_inPurse, show (0 : Int32) = N 0 from rfl, show (3 : Int32) = N 3 from rfl, N_mul, N_add, N_add, Nat.zero_add, N_ld (by omega) (by decide), Option.bind_some, (hP.pu (show 3 * m + k < 15 by omega)).1]
theorem m_layMost {gi : GI} {B : Bk} (b : MBk gi B) (hP : POk B (gi 33)) {m : Nat} (hm : m < 5) : ∃ gi', f_X4_layMost gi (N m) = some gi' ∧ rowIs gi' 38 (mx B (gi 33) m) ∧ ∀ c, c ≠ 38 → gi' c = gi c := by
  have st : ∀ (gj : GI) (k : Nat), (∀ c, c ≠ 38 → gj c = gi c) → k < 3 → f_X4_layMost_l2 (N m) (N k) gj = some (.inl (N (k + 1), g_pi gj 38 k (N (if k < B.nk then pn (gi 33) (3 * m + k) else 0)))) := by
    intro gj k hg hk
    have bj : MBk gj B := (show Fr gi gj from ⟨by rw [hg 0 (by decide)], fun c _ _ => hg c (by omega)⟩).book b
    have := b.ok.nk
    rw [f_X4_layMost_l2, show (3 : Int32) = N 3 from rfl, if_le (by omega) (by omega), if_neg (by omega), m_nk bj, Option.bind_some, if_le (by omega) (by omega), m_inPurse (B := B) (by rw [hg 33 (by decide)]; exact hP) hm hk, hg 33 (by decide)]
    by_cases h : k < B.nk
    · rw [if_neg (by omega), if_pos h, Option.bind_some, N_st hk (by decide), Option.bind_some, show (1 : Int32) = N 1 from rfl, N_add]
    · rw [if_pos (by omega), if_neg h, N_st hk (by decide), Option.bind_some, show (1 : Int32) = N 1 from rfl, N_add]; rfl
  have nx : ∀ (gj : GI) (k : Nat) (x : Int32), (∀ c, c ≠ 38 → gj c = gi c) → ∀ c, c ≠ 38 → g_pi gj 38 k x c = gi c := by
    intro gj k x hg c hc
    rw [← hg c hc]; funext j; rw [pi_get, if_neg]; omega
  have g0 : ∀ c, c ≠ 38 → gi c = gi c := fun _ _ => rfl
  have g1 := nx gi 0 (N (if 0 < B.nk then pn (gi 33) (3 * m + 0) else 0)) g0
  have g2 := nx _ 1 (N (if 1 < B.nk then pn (gi 33) (3 * m + 1) else 0)) g1
  have g3 := nx _ 2 (N (if 2 < B.nk then pn (gi 33) (3 * m + 2) else 0)) g2
  rw [f_X4_layMost, lp_3 (body := fun (s : Int32 × GI) => f_X4_layMost_l2 (N m) s.1 s.2) (s0 := (0, gi)) (st gi 0 g0 (by decide)) (st _ 1 g1 (by decide)) (st _ 2 g2 (by decide)) rfl]
  exact ⟨_, rfl, ⟨by simp [pi_get, mx], by simp [pi_get, mx], by simp [pi_get, mx]⟩, g3⟩
/-- what a search for the best row leaves -/
def KB (gi gi' : GI) : Prop := (∀ k, k ≠ 47 → k ≠ 56 → k ≠ 57 → gi' 0 k = gi 0 k) ∧ ∀ c, c ≠ 0 → c ≠ 32 → c ≠ 35 → c ≠ 36 → c ≠ 38 → gi' c = gi c
theorem KB.trans {a b c : GI} (h : KB a b) (g : KB b c) : KB a c := ⟨fun k h1 h2 h3 => (g.1 k h1 h2 h3).trans (h.1 k h1 h2 h3), fun i h1 h2 h3 h4 h5 => (g.2 i h1 h2 h3 h4 h5).trans (h.2 i h1 h2 h3 h4 h5)⟩
theorem KB.fr {gi gi' : GI} (h : KB gi gi') : Fr gi gi' := ⟨h.1 41 (by decide) (by decide) (by decide), fun c _ _ => h.2 c (by omega) (by omega) (by omega) (by omega) (by omega)⟩
theorem KB.of1 {gi gi' : GI} (h : K1 gi gi') : KB gi gi' := ⟨fun k h1 _ _ => h.1 k h1, fun c h1 h2 _ _ _ => h.2 c h1 h2⟩
theorem KB.of35 {gi gi' : GI} (h : K35 gi gi') : KB gi gi' := ⟨fun k _ _ _ => by rw [h 0 (by decide)], fun c _ _ h1 _ _ => h c h1⟩
theorem KB.pi (gi : GI) (c k : Nat) (x : Int32) (h : (c = 0 ∧ (k = 47 ∨ k = 56 ∨ k = 57)) ∨ c = 32 ∨ c = 35 ∨ c = 36 ∨ c = 38) : KB gi (g_pi gi c k x) := by
  constructor
  · intro j h1 h2 h3
    rw [pi_get, if_neg]; omega
  · intro d h1 h2 h3 h4 h5
    funext j; rw [pi_get, if_neg]; omega
theorem KB.put {gi gj : GI} (h : KB gi gj) {c k : Nat} {x : Int32} (hc : (c = 0 ∧ (k = 47 ∨ k = 56 ∨ k = 57)) ∨ c = 32 ∨ c = 35 ∨ c = 36 ∨ c = 38) : KB gi (g_pi gj c k x) := h.trans (KB.pi gj c k x hc)
/-- the search's state: the row at hand, the best so far -/
abbrev BI (gi : GI) (B : Bk) (m : Nat) (aim : Int32) (gj : GI) (cur : Row) : Prop := (KB gi gj) ∧ (rowIs gj 38 (mx B (gi 33) m)) ∧ (rowIs gj 35 cur) ∧ (Row.In (mx B (gi 33) m) (leftN B (gi 33) m) cur)
theorem BI.fr {gi : GI} {B : Bk} {m : Nat} {aim : Int32} {gj : GI} {cur : Row} (h : BI gi B m aim gj cur) : KB gi gj := h.1
theorem BI.mxr {gi : GI} {B : Bk} {m : Nat} {aim : Int32} {gj : GI} {cur : Row} (h : BI gi B m aim gj cur) : rowIs gj 38 (mx B (gi 33) m) := h.2.1
theorem BI.row {gi : GI} {B : Bk} {m : Nat} {aim : Int32} {gj : GI} {cur : Row} (h : BI gi B m aim gj cur) : rowIs gj 35 cur := h.2.2.1
theorem BI.hin {gi : GI} {B : Bk} {m : Nat} {aim : Int32} {gj : GI} {cur : Row} (h : BI gi B m aim gj cur) : Row.In (mx B (gi 33) m) (leftN B (gi 33) m) cur := h.2.2.2
def bestOf (gi : GI) (B : Bk) (m : Nat) (aim : Int32) (gj : GI) (top : Nat) : Prop :=
  ∃ rb, rowIs gj 36 rb ∧ gj 0 56 = N (Row.sum rb) ∧ gj 0 57 = val B (gi 33) m aim rb ∧ Row.In (mx B (gi 33) m) (leftN B (gi 33) m) rb ∧ Row.code rb < top ∧ ∀ r', Row.In (mx B (gi 33) m) (leftN B (gi 33) m) r' → Row.code r' < top → r' ≠ rb → val B (gi 33) m aim r' < val B (gi 33) m aim rb ∨ (val B (gi 33) m aim r' = val B (gi 33) m aim rb ∧ Row.key rb < Row.key r')
theorem bestOf.keep {gi gj gk : GI} {B : Bk} {m : Nat} {aim : Int32} {top : Nat} (h : bestOf gi B m aim gj top) (h1 : gk 36 = gj 36) (h2 : gk 0 56 = gj 0 56) (h3 : gk 0 57 = gj 0 57) : bestOf gi B m aim gk top := by
  obtain ⟨rb, a, b, c, d⟩ := h
  refine ⟨rb, ?_, h2.trans b, h3.trans c, d⟩
  unfold rowIs
  rw [h1]
  exact a
theorem In_code {x r : Row} {L : Nat} (hL : L ≤ 8) (h : Row.In x L r) : Row.code r < 1000 ∧ r.1 < 9 ∧ r.2.1 < 9 ∧ r.2.2 < 9 := by
  obtain ⟨a, b, c⟩ := r
  simp only [Row.In, Row.sum, Row.code] at *
  omega
theorem leftN_le {B : Bk} (hB : B.Ok) (P : Nat → Int32) (m : Nat) : leftN B P m ≤ 8 := by
  have := hB.hours
  unfold leftN
  omega
theorem mx_le {B : Bk} {P : Nat → Int32} (hP : POk B P) {m : Nat} (hm : m < 5) : (mx B P m).1 < 1000 ∧ (mx B P m).2.1 < 1000 ∧ (mx B P m).2.2 < 1000 := by
  have h1 := (hP.pu (show 3 * m < 15 by omega)).2
  have h2 := (hP.pu (show 3 * m + 1 < 15 by omega)).2
  have h3 := (hP.pu (show 3 * m + 2 < 15 by omega)).2
  unfold mx
  refine ⟨?_, ?_, ?_⟩ <;> simp only <;> split <;> omega
/-- the loop's invariant -/
def LI (gi : GI) (B : Bk) (m : Nat) (aim : Int32) (n : Nat) (s : Int32 × GI) : Prop :=
  (s.1 = 1 ∧ ∃ cur, n = 1001 - Row.code cur ∧ BI gi B m aim s.2 cur ∧ (bestOf gi B m aim s.2 (Row.code cur) ∨ (s.2 0 56 = -1 ∧ ∀ r', Row.In (mx B (gi 33) m) (leftN B (gi 33) m) r' → ¬ Row.code r' < Row.code cur))) ∨
  (s.1 = 0 ∧ n = 0 ∧ KB gi s.2 ∧ bestOf gi B m aim s.2 1000)
/-- the row at hand goes on -/
theorem best_next {gi : GI} {B : Bk} (b : MBk gi B) (hP : POk B (gi 33)) {m : Nat} (hm : m < B.nm) {aim : Int32} {gj : GI} {cur : Row} (h : BI gi B m aim gj cur) (hb : bestOf gi B m aim gj (Row.code cur + 1)) : ∃ s', f_X4_layBest_j147 (N m) aim gj = some (.inl s') ∧ ∃ n', n' < 1001 - Row.code cur ∧ LI gi B m aim n' s' := by
  have h5 := b.ok.nm
  have hL := leftN_le b.ok (gi 33) m
  have e33 : gj 33 = gi 33 := h.fr.2 33 (by decide) (by decide) (by decide) (by decide) (by decide)
  have bj := h.fr.fr.book b
  obtain ⟨c1, c2⟩ := In_code hL h.hin
  obtain ⟨gk, k1, k2, k3⟩ := m_nextRow (gi := gj) (a := 38) ⟨by decide, rfl, by decide⟩ h.mxr h.row (L := leftN B (gi 33) m) (mx_le hP (by omega)) (by omega) (by omega)
  rw [f_X4_layBest_j147, m_leftOf bj (by rw [e33]; exact hP) (by omega), Option.bind_some, e33, k1, Option.bind_some]
  refine ⟨_, rfl, ?_⟩
  have hb' := hb.keep (gk := gk) (k3 36 (by decide)) (by rw [k3 0 (by decide)]) (by rw [k3 0 (by decide)])
  have hfr := h.fr.trans (KB.of35 k3)
  match hn : nxt (mx B (gi 33) m) (leftN B (gi 33) m) cur with
  | (r', true) =>
    rw [hn] at k2
    obtain ⟨n1, n2, n3⟩ := nxt_true hL h.hin hn
    refine ⟨1001 - Row.code r', by omega, Or.inl ⟨by simp, r', rfl, ⟨hfr, ?_, k2, n1⟩, Or.inl ?_⟩⟩
    · unfold rowIs; simp only; rw [k3 38 (by decide)]; exact h.mxr
    · obtain ⟨rb, q1, q2, q3, q4, q5, q6⟩ := hb'
      exact ⟨rb, q1, q2, q3, q4, by omega, fun r2 v1 v2 v3 => q6 r2 v1 (by have := n3 r2 v1 v2; omega) v3⟩
  | (r', false) =>
    obtain ⟨n1, n2⟩ := nxt_false hL h.hin hn
    refine ⟨0, by omega, Or.inr ⟨by simp, rfl, hfr, ?_⟩⟩
    obtain ⟨rb, q1, q2, q3, q4, q5, q6⟩ := hb'
    exact ⟨rb, q1, q2, q3, q4, by omega, fun r2 v1 v2 v3 => q6 r2 v1 (by have := n2 r2 v1; omega) v3⟩
/-- the row at hand becomes the best -/
theorem best_take {gi : GI} {B : Bk} (b : MBk gi B) (hP : POk B (gi 33)) {m : Nat} (hm : m < B.nm) {aim : Int32} {gj : GI} {cur : Row} (h : BI gi B m aim gj cur) (hb : ∀ r', Row.In (mx B (gi 33) m) (leftN B (gi 33) m) r' → Row.code r' < Row.code cur → val B (gi 33) m aim r' < val B (gi 33) m aim cur ∨ (val B (gi 33) m aim r' = val B (gi 33) m aim cur ∧ Row.key cur < Row.key r')) : ∃ s', f_X4_layBest_j106 (N m) aim gj (val B (gi 33) m aim cur) (N (Row.sum cur)) = some (.inl s') ∧ ∃ n', n' < 1001 - Row.code cur ∧ LI gi B m aim n' s' := by
  have hL := leftN_le b.ok (gi 33) m
  rw [f_X4_layBest_j106, Option.bind_some, Option.bind_some]
  have st : ∀ (gk : GI) (k : Nat), k < 3 → f_X4_layBest_l121 (N m) aim (N k) gk = some (.inl (N (k + 1), g_pi gk 36 k (gk 35 k))) := by
    intro gk k hk
    rw [f_X4_layBest_l121, show (3 : Int32) = N 3 from rfl, if_le (by omega) (by omega), if_neg (by omega), N_ld hk (by decide), Option.bind_some, N_st hk (by decide), Option.bind_some, show (1 : Int32) = N 1 from rfl, N_add]
  have st3 : ∀ gk : GI, f_X4_layBest_l121 (N m) aim (N (2 + 1)) gk = some (.inr gk) := fun gk => rfl
  rw [lp_3 (body := fun (s : Int32 × GI) => f_X4_layBest_l121 (N m) aim s.1 s.2) (s0 := (0, g_pi (g_pi gj 0 57 (val B (gi 33) m aim cur)) 0 56 (N (Row.sum cur)))) (st _ 0 (by decide)) (st _ 1 (by decide)) (st _ 2 (by decide)) (st3 _), Option.bind_some, f_X4_layBest_x121]
  have hr := h.row
  refine best_next b hP hm ⟨?_, ?_, ?_, h.hin⟩ ⟨cur, ?_, ?_, ?_, h.hin, by omega, ?_⟩
  · exact ((((h.fr.put (by omega)).put (by omega)).put (by omega)).put (by omega)).put (by omega)
  · have := h.mxr
    simpa [rowIs, pi_get] using this
  · simpa [rowIs, pi_get] using hr
  · simpa [rowIs, pi_get] using hr
  · simp [pi_get]
  · simp [pi_get]
  · intro r' v1 v2 v3
    refine hb r' v1 ?_
    have : Row.code r' ≠ Row.code cur := fun e => v3 (code_inj hL v1 h.hin e)
    omega
theorem m_layBest {gi : GI} {B : Bk} (b : MBk gi B) (hP : POk B (gi 33)) {m : Nat} (hm : m < B.nm) (aim : Int32) : ∃ gi' r, f_X4_layBest gi (N m) aim = some gi' ∧ Best Row.key (val B (gi 33) m aim) (Row.In (mx B (gi 33) m) (leftN B (gi 33) m)) r ∧ rowIs gi' 36 r ∧ gi' 0 56 = N (Row.sum r) ∧ gi' 0 57 = val B (gi 33) m aim r ∧ KB gi gi' := by
  have h5 := b.ok.nm
  have hL := leftN_le b.ok (gi 33) m
  obtain ⟨g1, a1, a2, a3⟩ := m_layMost b hP (show m < 5 by omega)
  rw [f_X4_layBest, a1, Option.bind_some, m_noRow, Option.bind_some, Option.bind_some]
  have key := loop_J (body := fun (s : Int32 × GI) => f_X4_layBest_l16 (N m) aim s.1 s.2) (LI gi B m aim) (fun gj => KB gi gj ∧ bestOf gi B m aim gj 1000) (by
    rintro n ⟨x3, gj⟩ (⟨e1, cur, e2, h, hb⟩ | ⟨e1, e2, h, hb⟩)
    · left
      have e1 : x3 = 1 := e1
      subst e1 e2
      have h : BI gi B m aim gj cur := h
      have hb : bestOf gi B m aim gj (Row.code cur) ∨ (gj 0 56 = -1 ∧ ∀ r', Row.In (mx B (gi 33) m) (leftN B (gi 33) m) r' → ¬ Row.code r' < Row.code cur) := hb
      show ∃ s', f_X4_layBest_l16 _ _ _ _ = _ ∧ _
      have bj := h.fr.fr.book b
      have e33 : gj 33 = gi 33 := h.fr.2 33 (by decide) (by decide) (by decide) (by decide) (by decide)
      have b4 := (Fr.all gj (lyR B m (gj 35) 1 (gj 33))).book bj
      have hat : lyR B m (gj 35) 1 (gi 33) = lyR B m (Row.at cur) 1 (gi 33) := layR_same B m (fun k hk => h.row.at k hk) 1 (gi 33)
      -- behind the growth
      have fin : ∀ g5 : GI, K1 (va_up gj 33 (lyR B m (gj 35) 1 (gj 33))) g5 → ∃ s', f_X4_layBest_j42 (N m) aim g5 (val B (gi 33) m aim cur) = some (.inl s') ∧ ∃ n', n' < 1001 - Row.code cur ∧ LI gi B m aim n' s' := by
        intro g5 hk
        have b5 := hk.fr.book b4
        have f33 : g5 33 = lyR B m (gj 35) 1 (gj 33) := by rw [hk.2 33 (by decide) (by decide), all_get]
        have f35 : g5 35 = gj 35 := by rw [hk.2 35 (by decide) (by decide), all_ne _ _ _ (by decide)]
        rw [f_X4_layBest_j42, m_layRow b5 hm, Option.bind_some, f33, f35, layR_back]
        -- the world is gj again, but for what is asked
        have hk6 : KB gj (va_up g5 33 (gj 33)) := by
          constructor
          · intro k v1 v2 v3
            rw [all_ne _ _ _ (by decide), hk.1 k v1, all_ne _ _ _ (by decide)]
          · intro c v1 v2 v3 v4 v5
            by_cases hc : c = 33
            · subst hc; rw [all_get]
            · rw [all_ne _ _ _ hc, hk.2 c v1 v2, all_ne _ _ _ hc]
        have o35 : va_up g5 33 (gj 33) 35 = gj 35 := by rw [all_ne _ _ _ (by decide), f35]
        have o36 : va_up g5 33 (gj 33) 36 = gj 36 := by rw [all_ne _ _ _ (by decide), hk.2 36 (by decide) (by decide), all_ne _ _ _ (by decide)]
        have o38 : va_up g5 33 (gj 33) 38 = gj 38 := by rw [all_ne _ _ _ (by decide), hk.2 38 (by decide) (by decide), all_ne _ _ _ (by decide)]
        have o56 : va_up g5 33 (gj 33) 0 56 = gj 0 56 := by rw [all_ne _ _ _ (by decide), hk.1 56 (by decide), all_ne _ _ _ (by decide)]
        have o57 : va_up g5 33 (gj 33) 0 57 = gj 0 57 := by rw [all_ne _ _ _ (by decide), hk.1 57 (by decide), all_ne _ _ _ (by decide)]
        generalize va_up g5 33 (gj 33) = g6 at hk6 o35 o36 o38 o56 o57
        have h6 : BI gi B m aim g6 cur := ⟨h.fr.trans hk6, by unfold rowIs; rw [o38]; exact h.mxr, by unfold rowIs; rw [o35]; exact h.row, h.hin⟩
        obtain ⟨c1, c2, c3, c4⟩ := In_code hL h.hin
        have hs : g6 35 0 + g6 35 1 + g6 35 2 = N (Row.sum cur) := by
          rw [h6.row.1, h6.row.2.1, h6.row.2.2, N_add, N_add]; rfl
        rw [show (0 : Int32) = N 0 from rfl, N_ld (by decide) (by decide), Option.bind_some, show (1 : Int32) = N 1 from rfl, N_ld (by decide) (by decide), Option.bind_some, show (2 : Int32) = N 2 from rfl, N_ld (by decide) (by decide), Option.bind_some, hs]
        have sum8 : Row.sum cur ≤ 8 := by have := h.hin.2.2.2; omega
        rcases hb with hb | ⟨hb1, hb2⟩
        · have hb6 := hb.keep (gk := g6) o36 o56 o57
          obtain ⟨rb, q1, q2, q3, q4, q5, q6⟩ := hb6
          have sumb : Row.sum rb ≤ 8 := by have := q4.2.2.2; omega
          have cb := (In_code hL q4).1
          rw [q2, q3, if_lt (by omega) (by omega), if_neg (by omega)]
          by_cases w1 : val B (gi 33) m aim rb < val B (gi 33) m aim cur
          · rw [if_pos w1]
            refine best_take b hP hm h6 ?_
            intro r' v1 v2
            by_cases v3 : r' = rb
            · subst v3; exact Or.inl w1
            · rcases q6 r' v1 v2 v3 with u | ⟨u, _⟩
              · exact Or.inl (Int32.lt_trans u w1)
              · exact Or.inl (by rw [u]; exact w1)
          · rw [if_neg w1]
            by_cases w2 : val B (gi 33) m aim cur = val B (gi 33) m aim rb
            · rw [if_pos w2, if_le (by omega) (by omega)]
              by_cases w3 : Row.sum rb ≤ Row.sum cur
              · rw [if_pos w3]
                refine best_next b hP hm h6 ⟨rb, q1, q2, q3, q4, by omega, ?_⟩
                intro r' v1 v2 v3
                by_cases v4 : Row.code r' < Row.code cur
                · exact q6 r' v1 v4 v3
                · have : r' = cur := code_inj hL v1 h.hin (by omega)
                  subst this
                  exact Or.inr ⟨w2, by simp only [Row.key]; omega⟩
              · rw [if_neg w3]
                refine best_take b hP hm h6 ?_
                intro r' v1 v2
                by_cases v3 : r' = rb
                · subst v3
                  exact Or.inr ⟨w2.symm, by simp only [Row.key]; omega⟩
                · rcases q6 r' v1 v2 v3 with u | ⟨u, u2⟩
                  · exact Or.inl (by rw [w2]; exact u)
                  · refine Or.inr ⟨by rw [w2]; exact u, ?_⟩
                    have := (In_code hL v1).1
                    simp only [Row.key] at *; omega
            · rw [if_neg w2]
              have w4 : val B (gi 33) m aim cur < val B (gi 33) m aim rb := by
                rcases Int32.lt_or_eq_of_le (Int32.not_lt.mp w1) with u | u
                · exact u
                · exact absurd u w2
              refine best_next b hP hm h6 ⟨rb, q1, q2, q3, q4, by omega, ?_⟩
              intro r' v1 v2 v3
              by_cases v4 : Row.code r' < Row.code cur
              · exact q6 r' v1 v4 v3
              · have : r' = cur := code_inj hL v1 h.hin (by omega)
                subst this
                exact Or.inl w4
        · rw [o56, hb1, if_pos (by decide)]
          refine best_take b hP hm h6 ?_
          intro r' v1 v2
          exact absurd v2 (hb2 r' v1)
      rw [f_X4_layBest_l16, if_neg (show ¬ ((1 : Int32) = 0) by decide), m_layRow bj hm, Option.bind_some]
      by_cases ha : aim = 0
      · rw [if_pos ha]
        obtain ⟨g5, k1, k2⟩ := m_growthOf b4 (show m < 5 by omega)
        rw [k1, Option.bind_some]
        have : growth B (va_up gj 33 (lyR B m (gj 35) 1 (gj 33)) 33) m = val B (gi 33) m aim cur := by
          rw [all_get, e33, hat, val, if_pos ha]
        rw [this]
        exact fin g5 k2
      · rw [if_neg ha]
        obtain ⟨g5, k1, k2⟩ := m_growths b4
        rw [k1, Option.bind_some]
        have : growths B (va_up gj 33 (lyR B m (gj 35) 1 (gj 33)) 33) B.nm = val B (gi 33) m aim cur := by
          rw [all_get, e33, hat, val, if_neg ha]
        rw [this]
        exact fin g5 k2
    · right
      have e1 : x3 = 0 := e1
      subst e1
      exact ⟨gj, rfl, h, hb⟩) (n := 1001) (s := (1, g_pi (g_pi (g_pi (g_pi g1 35 0 0) 35 1 0) 35 2 0) 0 56 (-1))) (by
    refine Or.inl ⟨rfl, (0, 0, 0), rfl, ⟨?_, ?_, ?_, ?_⟩, Or.inr ⟨by simp [pi_get], fun r' _ => by simp [Row.code]⟩⟩
    · have k0 : KB gi g1 := ⟨fun k _ _ _ => by rw [a3 0 (by decide)], fun c _ _ _ _ v => a3 c v⟩
      exact (((k0.put (by omega)).put (by omega)).put (by omega)).put (by omega)
    · simpa [rowIs, pi_get] using a2
    · simp [rowIs, pi_get]; rfl
    · simp [Row.In, Row.sum]) (by decide)
  obtain ⟨gi', k1, k2, rb, q1, q2, q3, q4, q5, q6⟩ := key
  refine ⟨gi', rb, by rw [k1]; rfl, ⟨q4, fun r' v1 v2 => q6 r' v1 ?_ v2⟩, q1, q2, q3, k2⟩
  exact (In_code hL v1).1

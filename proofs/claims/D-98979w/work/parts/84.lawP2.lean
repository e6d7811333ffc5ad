set_option linter.unusedVariables false
set_option linter.unusedSimpArgs false
/-! THE PLAIN LAW: tokens of the model -/
theorem pi_pi (gi : GI) (c k : Nat) (x y : Int32) : g_pi (g_pi gi c k x) c k y = g_pi gi c k y := by
  funext i j
  simp only [pi_get]
  by_cases h : i = c ∧ j = k
  · rw [if_pos h, if_pos h]
  · rw [if_neg h, if_neg h, if_neg h]
theorem pl_get (gl : GL) (c k : Nat) (x : Int64) (i j : Nat) : g_pl gl c k x i j = if i = c ∧ j = k then x else gl i j := by
  unfold g_pl
  by_cases h : i = c
  · subst h
    rw [up_same]
    unfold vp_updL
    by_cases h2 : j = k
    · rw [if_pos h2, if_pos ⟨rfl, h2⟩]
    · rw [if_neg h2, if_neg (fun z => h2 z.2)]
  · rw [up_ne _ _ _ h, if_neg (fun z => h z.1)]
def L (n : Nat) : Int64 := Int64.ofNat n
theorem L_eq {a b : Nat} (ha : a < 9223372036854775808) (hb : b < 9223372036854775808) : L a = L b ↔ a = b := by
  refine ⟨fun h => ?_, fun h => by rw [h]⟩
  have h1 := congrArg Int64.toInt h
  unfold L at h1
  rw [Int64.toInt_ofNat_of_lt (by omega), Int64.toInt_ofNat_of_lt (by omega)] at h1
  omega
theorem lg_cmp0 {a b : Nat} (ha : a < 9223372036854775808) (hb : b < 9223372036854775808) : lg_cmp (L a) (L b) = 0 ↔ a = b := by
  rw [← L_eq ha hb]
  unfold lg_cmp
  by_cases h1 : L a = L b
  · rw [if_neg (by rw [h1]; exact Int64.lt_irrefl), if_pos h1]
    exact ⟨fun _ => h1, fun _ => rfl⟩
  · by_cases h2 : L a > L b
    · rw [if_pos h2]; exact ⟨fun z => absurd z (by decide), fun z => absurd z h1⟩
    · rw [if_neg h2, if_neg h1]; exact ⟨fun z => absurd z (by decide), fun z => absurd z h1⟩
theorem toI64 : ∀ x, x < 256 → (N x).toInt64 = L x := by decide +kernel
theorem L_shift {v x : Nat} (hv : v < 72057594037927936) (hx : x < 256) : (L v <<< ((8 : Int32).toInt64 &&& 63)) ||| L x = L (256 * v + x) := by
  have e8 : ((8 : Int32).toInt64 &&& 63) = 8 := by decide
  rw [e8]
  apply Int64.toBitVec_inj.mp
  apply BitVec.eq_of_toNat_eq
  rw [Int64.toBitVec_or, Int64.toBitVec_shiftLeft, BitVec.toNat_or]
  unfold L
  rw [Int64.toBitVec_ofNat', Int64.toBitVec_ofNat', Int64.toBitVec_ofNat']
  have e : ((8 : Int64).toBitVec.smod 64).toNat = 8 := by decide
  simp only [BitVec.shiftLeft_eq', BitVec.toNat_shiftLeft, BitVec.toNat_ofNat]
  rw [e, Nat.mod_eq_of_lt (show v < 2 ^ 64 by omega), Nat.mod_eq_of_lt (show x < 2 ^ 64 by omega), Nat.mod_eq_of_lt (show 256 * v + x < 2 ^ 64 by omega), Nat.shiftLeft_eq, Nat.mod_eq_of_lt (show v * 2 ^ 8 < 2 ^ 64 by omega), ← Nat.shiftLeft_eq, ← Nat.shiftLeft_add_eq_or_of_lt (show x < 2 ^ 8 by omega), Nat.shiftLeft_eq]
  omega
def keptL : List Nat := [1802071652, 7168366, 1668444016, 465726042981, 483006772069, 7364985, 448377677669, 1918989413, 6713202, 1651470187, 1735552887, 448546566771, 1685217655, 439855772532, 126879297138276, 499967947364, 2003133803, 1886154612, 28530, 6385252, 7237492]
def kept (v : Nat) : Bool := keptL.contains v
theorem m_isKept (gi : GI) {v : Nat} (hv : v < 9223372036854775808) : f_X4_isKept gi (L v) = some (if kept v = true then 1 else 0) := by
  have c : ∀ k, k < 9223372036854775808 → ∀ (x y : Option Int32), (if lg_cmp (L v) (L k) = 0 then x else y) = if v = k then x else y := fun k hk9 x y => by
    by_cases h : v = k
    · rw [if_pos h, if_pos ((lg_cmp0 hv hk9).mpr h)]
    · rw [if_neg h, if_neg (fun z => h ((lg_cmp0 hv hk9).mp z))]
  have e : f_X4_isKept gi (L v) = (if v = 1802071652 then some 1 else if v = 7168366 then some 1 else if v = 1668444016 then some 1 else if v = 465726042981 then some 1 else if v = 483006772069 then some 1 else if v = 7364985 then some 1 else if v = 448377677669 then some 1 else if v = 1918989413 then some 1 else if v = 6713202 then some 1 else if v = 1651470187 then some 1 else if v = 1735552887 then some 1 else if v = 448546566771 then some 1 else if v = 1685217655 then some 1 else if v = 439855772532 then some 1 else if v = 126879297138276 then some 1 else if v = 499967947364 then some 1 else if v = 2003133803 then some 1 else if v = 1886154612 then some 1 else if v = 28530 then some 1 else if v = 6385252 then some 1 else if v = 7237492 then some 1 else some 0) := by
    have j : ∀ g, f_X4_isKept_j88 g (L v) = some 1 := fun _ => rfl
    rw [← c 1802071652 (by decide), ← c 7168366 (by decide), ← c 1668444016 (by decide), ← c 465726042981 (by decide), ← c 483006772069 (by decide), ← c 7364985 (by decide), ← c 448377677669 (by decide), ← c 1918989413 (by decide), ← c 6713202 (by decide), ← c 1651470187 (by decide), ← c 1735552887 (by decide), ← c 448546566771 (by decide), ← c 1685217655 (by decide), ← c 439855772532 (by decide), ← c 126879297138276 (by decide), ← c 499967947364 (by decide), ← c 2003133803 (by decide), ← c 1886154612 (by decide), ← c 28530 (by decide), ← c 6385252 (by decide), ← c 7237492 (by decide)]
    rfl
  rw [e]
  unfold kept keptL
  simp only [List.contains_cons, List.contains_nil, Bool.or_false, Bool.or_eq_true, beq_iff_eq]
  by_cases h1 : v = 1802071652 ∨ v = 7168366 ∨ v = 1668444016 ∨ v = 465726042981 ∨ v = 483006772069 ∨ v = 7364985 ∨ v = 448377677669 ∨ v = 1918989413 ∨ v = 6713202 ∨ v = 1651470187 ∨ v = 1735552887 ∨ v = 448546566771 ∨ v = 1685217655 ∨ v = 439855772532 ∨ v = 126879297138276 ∨ v = 499967947364 ∨ v = 2003133803 ∨ v = 1886154612 ∨ v = 28530 ∨ v = 6385252 ∨ v = 7237492
  · rw [if_pos h1]
    rcases h1 with h | h | h | h | h | h | h | h | h | h | h | h | h | h | h | h | h | h | h | h | h <;> subst h <;> rfl
  · rw [if_neg h1]
    simp only [not_or] at h1
    simp only [h1, if_false]
section P2
variable {gi : GI} {gl : GL} {X : Nat → Nat} {n p : Nat}
/-- the model's text -/
abbrev MTx (gi : GI) (X : Nat → Nat) (n : Nat) : Prop := (Txt X n) ∧ (gi 0 3 = N n) ∧ (∀ k, k < n → gi 2 k &&& 255 = N (X k))
theorem MTx.txt {gi : GI} {X : Nat → Nat} {n : Nat} (h : MTx gi X n) : Txt X n := h.1
theorem MTx.size {gi : GI} {X : Nat → Nat} {n : Nat} (h : MTx gi X n) : gi 0 3 = N n := h.2.1
theorem MTx.text {gi : GI} {X : Nat → Nat} {n : Nat} (h : MTx gi X n) : ∀ k, k < n → gi 2 k &&& 255 = N (X k) := h.2.2
def X0 (c : Nat) : Nat := if c = 256 then 0 else c
theorem m_sign (x : MTx gi X n) {k : Nat} (hk9 : k < 100000) : f_X4_sign gi (N k) = some (N (X0 (X k))) := by
  have hl := x.txt.len
  unfold f_X4_sign X0
  rw [x.size, if_le (by omega) (by omega)]
  by_cases h : n ≤ k
  · rw [if_pos h, x.txt.over k h]; rfl
  · have lo := x.txt.low k (by omega)
    rw [if_neg h, N_ld (by omega) (by decide), Option.bind_some, x.text k (by omega), if_neg (by omega)]
theorem MTx.x0 (x : MTx gi X n) (k : Nat) : X0 (X k) < 256 ∧ (k < n → X0 (X k) = X k) ∧ isL (X0 (X k)) = isL (X k) ∧ isD (X0 (X k)) = isD (X k) ∧ isB (X0 (X k)) = isB (X k) := by
  unfold X0
  by_cases h : n ≤ k
  · rw [x.txt.over k h]
    exact ⟨by decide, fun z => absurd z (by omega), by decide, by decide, by decide⟩
  · have lo := x.txt.low k (by omega)
    rw [if_neg (show ¬ X k = 256 by omega)]
    exact ⟨lo, fun _ => rfl, rfl, rfl, rfl⟩
theorem m_isLetter (gi : GI) {c : Nat} (h : c < 1000) : f_X4_isLetter gi (N c) = some (if isL c = true then 1 else 0) := by
  unfold f_X4_isLetter isL
  rw [show (97 : Int32) = N 97 from rfl, show (122 : Int32) = N 122 from rfl, if_lt (by omega) (by omega), if_lt (by omega) (by omega)]
  simp only [decide_eq_true_eq]
  by_cases h1 : c < 97
  · rw [if_pos h1, if_neg (by omega)]
  · rw [if_neg h1]
    by_cases h2 : 122 < c
    · rw [if_pos h2, if_neg (by omega)]
    · rw [if_neg h2, if_pos (by omega)]
theorem m_isDigit (gi : GI) {c : Nat} (h : c < 1000) : f_X4_isDigit gi (N c) = some (if isD c = true then 1 else 0) := by
  unfold f_X4_isDigit isD
  rw [show (48 : Int32) = N 48 from rfl, show (57 : Int32) = N 57 from rfl, if_lt (by omega) (by omega), if_lt (by omega) (by omega)]
  simp only [decide_eq_true_eq]
  by_cases h1 : c < 48
  · rw [if_pos h1, if_neg (by omega)]
  · rw [if_neg h1]
    by_cases h2 : 57 < c
    · rw [if_pos h2, if_neg (by omega)]
    · rw [if_neg h2, if_pos (by omega)]
theorem sgn_all : ∀ c, c < 256 → (∀ gi : GI, f_X4_isSign gi (N c) = some (if isSg c = true then 1 else 0)) := by
  intro c hc gi
  unfold f_X4_isSign isSg
  have e : ∀ k, k < 256 → ∀ (x y : Option Int32), (if N c = N k then x else y) = if c = k then x else y := fun k hk9 x y => if_eq (by omega) (by omega) x y
  rw [show (59 : Int32) = N 59 from rfl, show (40 : Int32) = N 40 from rfl, show (41 : Int32) = N 41 from rfl, show (60 : Int32) = N 60 from rfl, show (62 : Int32) = N 62 from rfl, show (61 : Int32) = N 61 from rfl, show (43 : Int32) = N 43 from rfl, show (45 : Int32) = N 45 from rfl, show (42 : Int32) = N 42 from rfl, show (47 : Int32) = N 47 from rfl, show (37 : Int32) = N 37 from rfl]
  simp only [decide_eq_true_eq]
  rw [e 59 (by decide), e 40 (by decide), e 41 (by decide), e 60 (by decide), e 62 (by decide), e 61 (by decide), e 43 (by decide), e 45 (by decide), e 42 (by decide), e 47 (by decide), e 37 (by decide)]
  by_cases h1 : c = 59 ∨ c = 40 ∨ c = 41 ∨ c = 60 ∨ c = 62 ∨ c = 61 ∨ c = 43 ∨ c = 45 ∨ c = 42 ∨ c = 47 ∨ c = 37
  · rw [if_pos h1]
    rcases h1 with h | h | h | h | h | h | h | h | h | h | h <;> subst h <;> rfl
  · rw [if_neg h1]
    simp only [not_or] at h1
    simp only [h1, if_false]
/-- the model's token -/
def mKind (t : Tk) : Nat := if t.sort = 0 then 0 else if t.sort = 3 then 1 else if t.sort = 1 then (if kept t.val = true then 3 else 2) else if t.sort = 2 then 4 else 5
abbrev MTk (gi : GI) (gl : GL) (t : Tk) : Prop := (gi 0 6 = N t.place) ∧ (gi 0 8 = N (mKind t)) ∧ (t.sort ≠ 3 → gi 0 7 = N t.next) ∧ (t.sort = 2 → gi 0 9 = N t.val) ∧ (t.sort = 1 → gl 0 10 = L t.val)
theorem MTk.place {gi : GI} {gl : GL} {t : Tk} (h : MTk gi gl t) : gi 0 6 = N t.place := h.1
theorem MTk.kind {gi : GI} {gl : GL} {t : Tk} (h : MTk gi gl t) : gi 0 8 = N (mKind t) := h.2.1
theorem MTk.next {gi : GI} {gl : GL} {t : Tk} (h : MTk gi gl t) : t.sort ≠ 3 → gi 0 7 = N t.next := h.2.2.1
theorem MTk.num {gi : GI} {gl : GL} {t : Tk} (h : MTk gi gl t) : t.sort = 2 → gi 0 9 = N t.val := h.2.2.2.1
theorem MTk.nam {gi : GI} {gl : GL} {t : Tk} (h : MTk gi gl t) : t.sort = 1 → gl 0 10 = L t.val := h.2.2.2.2
/-- only the token changes -/
abbrev MGo (gi gi' : GI) (gl gl' : GL) : Prop := (∀ k, k ≠ 6 → k ≠ 7 → k ≠ 8 → k ≠ 9 → gi' 0 k = gi 0 k) ∧ (∀ c, c ≠ 0 → gi' c = gi c) ∧ (∀ c k, c ≠ 0 ∨ k ≠ 10 → gl' c k = gl c k)
theorem MGo.own {gi gi' : GI} {gl gl' : GL} (h : MGo gi gi' gl gl') : ∀ k, k ≠ 6 → k ≠ 7 → k ≠ 8 → k ≠ 9 → gi' 0 k = gi 0 k := h.1
theorem MGo.cells {gi gi' : GI} {gl gl' : GL} (h : MGo gi gi' gl gl') : ∀ c, c ≠ 0 → gi' c = gi c := h.2.1
theorem MGo.gls {gi gi' : GI} {gl gl' : GL} (h : MGo gi gi' gl gl') : ∀ c k, c ≠ 0 ∨ k ≠ 10 → gl' c k = gl c k := h.2.2
theorem MTx.go {gi' : GI} {gl' : GL} (x : MTx gi X n) (h : MGo gi gi' gl gl') : MTx gi' X n := ⟨x.txt, by rw [h.own 3 (by decide) (by decide) (by decide) (by decide)]; exact x.size, by rw [h.cells 2 (by decide)]; exact x.text⟩
theorem MTx.of {gi' : GI} (x : MTx gi X n) (h1 : gi' 0 3 = gi 0 3) (h2 : gi' 2 = gi 2) : MTx gi' X n := ⟨x.txt, by rw [h1]; exact x.size, by rw [h2]; exact x.text⟩
theorem m_goOn (x : MTx gi X n) (hp : p ≤ n) (h7 : gi 0 7 = N p) : ∃ gi' gl', f_X4_goOn gi gl = some (gi', gl') ∧ MTk gi' gl' (lexT X n p) ∧ MGo gi gi' gl gl' := by
  have hl := x.txt.len
  have one : (1 : Int32) = N 1 := rfl
  obtain ⟨b1, b2, b3, b4⟩ := lexB_spec x.txt hp
  unfold lexT
  generalize hA : lexB X n p = a at b1 b2 b3 b4
  -- blanks
  have tx : ∀ i, MTx (g_pi gi 0 6 (N i)) X n := fun i => x.of (by simp [pi_get]) (pi_off (by decide))
  have lp : g_loop g_K (fun (s : GI) => f_X4_goOn_l8 gl s) (g_pi gi 0 6 (gi 0 7)) = some (g_pi gi 0 6 (N a)) := by
    refine loop_T (fun i => g_pi gi 0 6 (N (p + i))) (a - p) (by rw [h7]; rfl) (fun i hi => ?_) ?_ (by show a - p < 100000; omega)
    · have g6 : g_pi gi 0 6 (N (p + i)) 0 6 = N (p + i) := by simp [pi_get]
      have x0 := (tx (p + i)).x0 (p + i)
      have bl := b3 (p + i) (by omega) (by omega)
      rw [f_X4_goOn_l8, (tx (p + i)).size, g6, if_le (by omega) (by omega), if_neg (by omega), m_sign (tx (p + i)) (by omega), Option.bind_some, x0.2.1 (by omega)]
      have j : f_X4_goOn_j45 gl (g_pi gi 0 6 (N (p + i))) = some (.inl (g_pi gi 0 6 (N (p + (i + 1))))) := by
        rw [f_X4_goOn_j45, Option.bind_some, g6, one, N_add, pi_pi]
        rfl
      have lo := x.txt.low (p + i) (by omega)
      have bl : X (p + i) = 32 ∨ X (p + i) = 10 := of_decide_eq_true bl
      rw [show (32 : Int32) = N 32 from rfl, show (10 : Int32) = N 10 from rfl, if_eq (by omega) (by omega)]
      rcases bl with z | z
      · rw [if_pos z]; exact j
      · rw [if_neg (by omega), Option.bind_some, if_eq (by omega) (by omega), if_pos z]; exact j
    · rw [show p + (a - p) = a by omega]
      have g6 : g_pi gi 0 6 (N a) 0 6 = N a := by simp [pi_get]
      have x0 := (tx a).x0 a
      rw [f_X4_goOn_l8, (tx a).size, g6, if_le (by omega) (by omega)]
      by_cases h : n ≤ a
      · rw [if_pos h]
      · have nb : ¬ (X a = 32 ∨ X a = 10) := of_decide_eq_false b4
        have lo := x.txt.low a (by omega)
        rw [if_neg h, m_sign (tx a) (by omega), Option.bind_some, x0.2.1 (by omega), show (32 : Int32) = N 32 from rfl, show (10 : Int32) = N 10 from rfl, if_eq (by omega) (by omega), if_neg (by omega), Option.bind_some, if_eq (by omega) (by omega), if_neg (by omega)]
  rw [f_X4_goOn, Option.bind_some, lp, Option.bind_some]
  -- the token
  have ga6 : g_pi gi 0 6 (N a) 0 6 = N a := by simp [pi_get]
  generalize hg6 : g_pi (g_pi gi 0 6 (N a)) 0 7 (N (a + 1)) = g6
  have v6 : g6 0 6 = N a := by rw [← hg6]; simp [pi_get]
  have v7 : g6 0 7 = N (a + 1) := by rw [← hg6]; simp [pi_get]
  have fr6 : MGo gi g6 gl gl := ⟨fun k k6 k7 _ _ => by rw [← hg6, pi_get, if_neg (by omega), pi_get, if_neg (by omega)], fun c hc => by rw [← hg6, pi_off hc, pi_off hc], fun _ _ _ => rfl⟩
  have x6 : MTx g6 X n := x.go fr6
  have x0 := x6.x0 a
  rw [f_X4_goOn_x8, ga6, m_sign (tx a) (by omega), Option.bind_some, Option.bind_some, one, N_add, hg6, v6, x6.size, if_lt (by omega) (by omega)]
  unfold lexA
  by_cases h : n ≤ a
  · rw [if_neg (by omega), if_pos h, Option.bind_some, Option.bind_some, Option.bind_some]
    refine ⟨_, _, rfl, ⟨?_, ?_, ?_, ?_, ?_⟩, ⟨fun k k6 k7 k8 _ => ?_, fun c hc => ?_, fun _ _ _ => rfl⟩⟩
    · simp [pi_get, x6.size, Tk.place]
    · simp [pi_get, mKind, Tk.sort] <;> rfl
    · intro _; simp [pi_get, x6.size, Tk.next]
    · intro z; exact absurd (show (0 : Nat) = 2 from z) (by decide)
    · intro z; exact absurd (show (0 : Nat) = 1 from z) (by decide)
    · rw [pi_get, if_neg (by omega), pi_get, if_neg (by omega), pi_get, if_neg (by omega)]; exact fr6.own k k6 k7 k8 ‹_›
    · rw [pi_off hc, pi_off hc, pi_off hc]; exact fr6.cells c hc
  · have lo := x.txt.low a (by omega)
    rw [if_pos (by omega), if_neg h, m_isLetter _ (by omega), Option.bind_some, x0.2.2.1]
    by_cases h2 : isL (X a) = true
    · -- a word
      rw [if_pos h2, if_pos h2, if_neg (by decide)]
      obtain ⟨s1, s2, s3, s4⟩ := lexL_spec x.txt b2
      generalize hE : lexL X n a = e at s1 s2 s3 s4
      have ne : e ≠ a := fun z => by rw [z, h2] at s4; exact absurd s4 (by decide)
      have txe : ∀ i, MTx (g_pi g6 0 7 (N i)) X n := fun i => x6.of (by simp [pi_get]) (pi_off (by decide))
      have lp2 : g_loop g_K (fun (s : GI) => f_X4_goOn_l119 gl s) g6 = some (g_pi g6 0 7 (N e)) := by
        refine loop_T (fun i => g_pi g6 0 7 (N (a + 1 + i))) (e - (a + 1)) ?_ (fun i hi => ?_) ?_ (by show e - (a + 1) < 100000; omega)
        · funext c k
          rw [pi_get]
          by_cases z : c = 0 ∧ k = 7
          · rw [if_pos z, z.1, z.2, v7]
          · rw [if_neg z]
        · have g7 : g_pi g6 0 7 (N (a + 1 + i)) 0 7 = N (a + 1 + i) := by simp [pi_get]
          have xx := (txe (a + 1 + i)).x0 (a + 1 + i)
          rw [f_X4_goOn_l119, g7, m_sign (txe _) (by omega), Option.bind_some, m_isLetter _ (by omega), Option.bind_some, xx.2.2.1, s3 _ (by omega) (by omega), if_pos rfl, if_neg (by decide), Option.bind_some, one, N_add, pi_pi]
          rfl
        · rw [show a + 1 + (e - (a + 1)) = e by omega]
          have g7 : g_pi g6 0 7 (N e) 0 7 = N e := by simp [pi_get]
          have xx := (txe e).x0 e
          rw [f_X4_goOn_l119, g7, m_sign (txe _) (by omega), Option.bind_some, m_isLetter _ (by omega), Option.bind_some, xx.2.2.1, s4, if_neg (show ¬ (false = true) by decide), if_pos rfl]
      rw [lp2, Option.bind_some]
      generalize hg7 : g_pi g6 0 7 (N e) = g7
      have w6 : g7 0 6 = N a := by rw [← hg7, pi_get, if_neg (by omega)]; exact v6
      have w7 : g7 0 7 = N e := by rw [← hg7]; simp [pi_get]
      have fr7 : MGo gi g7 gl gl := ⟨fun k k6 k7 k8 k9 => by rw [← hg7, pi_get, if_neg (by omega)]; exact fr6.own k k6 k7 k8 k9, fun c hc => by rw [← hg7, pi_off hc]; exact fr6.cells c hc, fun _ _ _ => rfl⟩
      have x7 : MTx g7 X n := x.go fr7
      have e8 : (8 : Int32) = N 8 := rfl
      have xl : ∀ i, a ≤ i → i < e → X i ≤ 122 := fun i i1 i2 => (isL_in (s3 i i1 i2)).2
      have lp3 : g_loop g_K (fun (s : Int32 × GL) => f_X4_goOn_l156 g7 s.1 s.2) (N a, g_pl gl 0 10 0) = some (g_pl gl 0 10 (L (pak X a (if 8 < e - a then 8 else e - a)))) := by
        refine loop_T (fun i => (N (a + i), g_pl gl 0 10 (L (pak X a i)))) (if 8 < e - a then 8 else e - a) rfl (fun i hi => ?_) ?_ (by show (if 8 < e - a then 8 else e - a) < 100000; split <;> omega)
        · have hi8 : i < 8 ∧ a + i < e := by split at hi <;> omega
          dsimp only
          have px := pak_63 (X := X) (a := a) (j := i) (by omega) (fun k k1 k2 => xl k k1 (by omega))
          have xi := x7.x0 (a + i)
          rw [f_X4_goOn_l156, w7, w6, if_le (by omega) (by omega), if_neg (by omega), e8, N_add, if_le (by omega) (by omega), if_neg (by omega), m_sign x7 (by omega), Option.bind_some, Option.bind_some, toI64 _ xi.1, pl_get, if_pos ⟨rfl, rfl⟩, one, N_add]
          have sh := L_shift (px.2 (by omega)) xi.1
          rw [show (N 8).toInt64 = (8 : Int32).toInt64 from rfl, sh, xi.2.1 (by omega)]
          have pp : g_pl (g_pl gl 0 10 (L (pak X a i))) 0 10 (L (256 * pak X a i + X (a + i))) = g_pl gl 0 10 (L (pak X a (i + 1))) := by
            funext c k
            rw [pl_get, pl_get, pl_get]
            by_cases z : c = 0 ∧ k = 10
            · rw [if_pos z, if_pos z]; rfl
            · rw [if_neg z, if_neg z, if_neg z]
          rw [pp]
          rfl
        · dsimp only
          by_cases q : 8 < e - a
          · rw [if_pos q, f_X4_goOn_l156, w7, w6, if_le (by omega) (by omega), if_neg (by omega), e8, N_add, if_le (by omega) (by omega), if_pos (by omega)]
          · rw [if_neg q, f_X4_goOn_l156, w7, if_le (by omega) (by omega), if_pos (by omega)]
      have gln : ∀ v, MGo gi g7 gl (g_pl gl 0 10 v) := fun v => ⟨fr7.own, fr7.cells, fun c k hck => by rw [pl_get, if_neg (by omega)]⟩
      rw [f_X4_goOn_x119, Option.bind_some, w6, lp3, Option.bind_some, f_X4_goOn_x156, w7, w6, N_sub s1, e8, if_le (by omega) (by omega)]
      by_cases q : 8 < e - a
      · rw [if_neg (by omega), if_pos q, if_pos q, Option.bind_some]
        refine ⟨_, _, rfl, ⟨?_, ?_, ?_, ?_, ?_⟩, ⟨fun k k6 k7 k8 k9 => ?_, fun c hc => ?_, (gln _).gls⟩⟩
        · simp [pi_get, w6, Tk.place]
        · simp [pi_get, mKind, Tk.sort] <;> rfl
        · intro z; exact absurd rfl z
        · intro z; exact absurd (show (3 : Nat) = 2 from z) (by decide)
        · intro z; exact absurd (show (3 : Nat) = 1 from z) (by decide)
        · rw [pi_get, if_neg (by omega)]; exact fr7.own k k6 k7 k8 k9
        · rw [pi_off hc]; exact fr7.cells c hc
      · rw [if_pos (by omega), if_neg q, if_neg q, pl_get, if_pos ⟨rfl, rfl⟩, m_isKept _ (pak_63 (by omega) (fun i i1 i2 => xl i i1 (by omega))).1, Option.bind_some]
        generalize pak X a (e - a) = v
        by_cases kp : kept v = true
        · rw [if_pos kp, if_neg (by decide), Option.bind_some]
          refine ⟨_, _, rfl, ⟨?_, ?_, ?_, ?_, ?_⟩, ⟨fun k k6 k7 k8 k9 => ?_, fun c hc => ?_, (gln _).gls⟩⟩
          · simp [pi_get, w6, Tk.place]
          · simp [pi_get, mKind, Tk.sort, Tk.val, kp]; rfl
          · intro z; simp [pi_get, w7, Tk.next]
          · intro z; exact absurd (show (1 : Nat) = 2 from z) (by decide)
          · intro z; simp [pl_get, Tk.val]
          · rw [pi_get, if_neg (by omega)]; exact fr7.own k k6 k7 k8 k9
          · rw [pi_off hc]; exact fr7.cells c hc
        · rw [if_neg kp, if_pos rfl, Option.bind_some]
          refine ⟨_, _, rfl, ⟨?_, ?_, ?_, ?_, ?_⟩, ⟨fun k k6 k7 k8 k9 => ?_, fun c hc => ?_, (gln _).gls⟩⟩
          · simp [pi_get, w6, Tk.place]
          · simp [pi_get, mKind, Tk.sort, Tk.val, kp]; rfl
          · intro z; simp [pi_get, w7, Tk.next]
          · intro z; exact absurd (show (1 : Nat) = 2 from z) (by decide)
          · intro z; simp [pl_get, Tk.val]
          · rw [pi_get, if_neg (by omega)]; exact fr7.own k k6 k7 k8 k9
          · rw [pi_off hc]; exact fr7.cells c hc
    · rw [if_neg h2, if_neg h2, if_pos rfl, m_isDigit _ (by omega), Option.bind_some, x0.2.2.2.1]
      by_cases h4 : isD (X a) = true
      · -- a number
        rw [if_pos h4, if_pos h4, if_neg (by decide), Option.bind_some, Option.bind_some]
        obtain ⟨s1, s2, s3, s4⟩ := lexD_spec x.txt b2
        generalize hE : lexD X n a = e at s1 s2 s3 s4
        have ne : e ≠ a := fun z => by rw [z, h4] at s4; exact absurd s4 (by decide)
        have xd : ∀ i, a ≤ i → i < e → 48 ≤ X i ∧ X i ≤ 57 := fun i i1 i2 => isD_in (s3 i i1 i2)
        have g96 : g_pi g6 0 9 0 0 6 = N a := by rw [pi_get, if_neg (by omega)]; exact v6
        rw [g96]
        generalize hT : (fun i => g_pi (g_pi g6 0 9 (N (digs X a (if 4 < i then 4 else i)))) 0 7 (N (a + i))) = T
        have t6 : ∀ i, T i 0 6 = N a := fun i => by rw [← hT]; simp [pi_get, v6]
        have t7 : ∀ i, T i 0 7 = N (a + i) := fun i => by rw [← hT]; simp [pi_get]
        have t9 : ∀ i, T i 0 9 = N (digs X a (if 4 < i then 4 else i)) := fun i => by rw [← hT]; simp [pi_get]
        have frT : ∀ i, MGo gi (T i) gl gl := fun i => ⟨fun k k6 k7 k8 k9 => by rw [← hT]; dsimp only; rw [pi_get, if_neg (by omega), pi_get, if_neg (by omega)]; exact fr6.own k k6 k7 k8 k9, fun c hc => by rw [← hT]; dsimp only; rw [pi_off hc, pi_off hc]; exact fr6.cells c hc, fun _ _ _ => rfl⟩
        have xT : ∀ i, MTx (T i) X n := fun i => x.go (frT i)
        have lp2 : g_loop g_K (fun (s : GI) => f_X4_goOn_l259 gl s) (g_pi (g_pi g6 0 9 0) 0 7 (N a)) = some (T (e - a)) := by
          refine loop_T T (e - a) (by rw [← hT]; rfl) (fun i hi => ?_) ?_ (by show e - a < 100000; omega)
          · have xx := (xT i).x0 (a + i)
            have dd := xd (a + i) (by omega) (by omega)
            have dl : digs X a (if 4 < i then 4 else i) < 10000 := by
              have := digs_lt (X := X) (a := a) (if 4 < i then 4 else i) (fun k k1 k2 => xd k k1 (by split at k2 <;> omega))
              have e4 : 10 ^ (if 4 < i then 4 else i) ≤ 10 ^ 4 := Nat.pow_le_pow_right (by decide) (by split <;> omega)
              omega
            rw [f_X4_goOn_l259, t7, m_sign (xT i) (by omega), Option.bind_some, m_isDigit _ (by omega), Option.bind_some, xx.2.2.2.1, s3 _ (by omega) (by omega), if_pos rfl, if_neg (by decide), t6, N_sub (by omega), show a + i - a = i by omega, show (4 : Int32) = N 4 from rfl, if_le (by omega) (by omega)]
            by_cases q : 4 ≤ i
            · rw [if_pos q, f_X4_goOn_j309, Option.bind_some, t7, one, N_add, ← hT]
              dsimp only
              rw [pi_pi, if_pos (show 4 < i + 1 by omega)]
              by_cases q2 : 4 < i
              · rw [if_pos q2]; rfl
              · rw [if_neg q2, show i = 4 by omega]
            · have dsub : N (10 * digs X a i) + N (X (a + i)) - 48 = N (digs X a (i + 1)) := by rw [N_add, show (48 : Int32) = N 48 from rfl, N_sub (by omega)]; rfl
              rw [if_neg q, Option.bind_some, Option.bind_some, t9, if_neg (by omega), show (10 : Int32) = N 10 from rfl, N_mul, xx.2.1 (by omega), dsub, f_X4_goOn_j309, Option.bind_some, pi_get, if_neg (by omega), t7, one, N_add, ← hT]
              dsimp only
              rw [if_neg (by omega), if_neg (by omega)]
              congr 2
              funext c k
              simp only [pi_get]
              by_cases z : c = 0 ∧ k = 7
              · rw [if_pos z, if_pos z]; rfl
              · rw [if_neg z, if_neg z]
                by_cases z2 : c = 0 ∧ k = 9
                · rw [if_pos z2, if_pos z2, if_neg z]
                · rw [if_neg z2, if_neg z2, if_neg z, if_neg z2]
          · have xx := (xT (e - a)).x0 e
            rw [f_X4_goOn_l259, t7, show a + (e - a) = e by omega, m_sign (xT (e - a)) (by omega), Option.bind_some, m_isDigit _ (by omega), Option.bind_some, xx.2.2.2.1, s4, if_neg (show ¬ (false = true) by decide), if_pos rfl]
        rw [lp2, Option.bind_some, f_X4_goOn_x259, t7, t6, show a + (e - a) = e by omega, N_sub s1, show (4 : Int32) = N 4 from rfl, if_lt (by omega) (by omega)]
        have xx := (xT (e - a)).x0 e
        have fr := frT (e - a)
        have u6 := t6 (e - a)
        have u7 := t7 (e - a)
        have u9 := t9 (e - a)
        rw [show a + (e - a) = e by omega] at u7
        have bad : ∀ g, g = T (e - a) → MTk (g_pi g 0 8 1) gl ((3, a, 0, a) : Tk) ∧ MGo gi (g_pi g 0 8 1) gl gl := by
          intro g hg
          subst hg
          refine ⟨⟨?_, ?_, ?_, ?_, ?_⟩, ⟨fun k k6 k7 k8 k9 => ?_, fun c hc => ?_, fun _ _ _ => rfl⟩⟩
          · simp [pi_get, u6, Tk.place]
          · simp [pi_get, mKind, Tk.sort] <;> rfl
          · intro z; exact absurd rfl z
          · intro z; exact absurd (show (3 : Nat) = 2 from z) (by decide)
          · intro z; exact absurd (show (3 : Nat) = 1 from z) (by decide)
          · rw [pi_get, if_neg (by omega)]; exact fr.own k k6 k7 k8 k9
          · rw [pi_off hc]; exact fr.cells c hc
        by_cases q : 4 < e - a
        · rw [if_pos q, if_pos (Or.inl q), Option.bind_some]
          exact ⟨_, _, rfl, bad _ rfl⟩
        · rw [if_neg q, m_sign (xT (e - a)) (by omega), Option.bind_some, m_isLetter _ (by omega), Option.bind_some, xx.2.2.1]
          by_cases q2 : isL (X e) = true
          · rw [if_pos q2, if_neg (by decide), if_pos (Or.inr q2), Option.bind_some]
            exact ⟨_, _, rfl, bad _ rfl⟩
          · rw [if_neg q2, if_pos rfl, if_neg (fun z => z.elim q q2), Option.bind_some]
            refine ⟨_, _, rfl, ⟨?_, ?_, ?_, ?_, ?_⟩, ⟨fun k k6 k7 k8 k9 => ?_, fun c hc => ?_, fun _ _ _ => rfl⟩⟩
            · simp [pi_get, u6, Tk.place]
            · simp [pi_get, mKind, Tk.sort] <;> rfl
            · intro z; simp [pi_get, u7, Tk.next]
            · intro z; rw [if_neg q] at u9; simp [pi_get, u9, Tk.val]
            · intro z; exact absurd (show (2 : Nat) = 1 from z) (by decide)
            · rw [pi_get, if_neg (by omega)]; exact fr.own k k6 k7 k8 k9
            · rw [pi_off hc]; exact fr.cells c hc
      · rw [if_neg h4, if_neg h4, if_pos rfl, x0.2.1 (by omega), sgn_all _ lo, Option.bind_some]
        by_cases h5 : isSg (X a) = true
        · rw [if_pos h5, if_pos h5, if_neg (by decide), Option.bind_some]
          have sg := (of_decide_eq_true h5 : X a = 59 ∨ X a = 40 ∨ X a = 41 ∨ X a = 60 ∨ X a = 62 ∨ X a = 61 ∨ X a = 43 ∨ X a = 45 ∨ X a = 42 ∨ X a = 47 ∨ X a = 37)
          refine ⟨_, _, rfl, ⟨?_, ?_, ?_, ?_, ?_⟩, ⟨fun k k6 k7 k8 k9 => ?_, fun c hc => ?_, fun _ _ _ => rfl⟩⟩
          · simp [pi_get, v6, Tk.place]
          · rw [pi_get, if_pos ⟨rfl, rfl⟩]
            unfold mKind Tk.sort
            dsimp only
            rw [if_neg (by omega), if_neg (by omega), if_neg (by omega), if_neg (by omega)]
            rfl
          · intro z; simp [pi_get, v7, Tk.next]
          · intro z; exact absurd (show X a = 2 from z) (by omega)
          · intro z; exact absurd (show X a = 1 from z) (by omega)
          · rw [pi_get, if_neg (by omega)]; exact fr6.own k k6 k7 k8 k9
          · rw [pi_off hc]; exact fr6.cells c hc
        · rw [if_neg h5, if_neg h5, if_pos rfl, Option.bind_some]
          refine ⟨_, _, rfl, ⟨?_, ?_, ?_, ?_, ?_⟩, ⟨fun k k6 k7 k8 k9 => ?_, fun c hc => ?_, fun _ _ _ => rfl⟩⟩
          · simp [pi_get, v6, Tk.place]
          · simp [pi_get, mKind, Tk.sort] <;> rfl
          · intro z; exact absurd rfl z
          · intro z; exact absurd (show (3 : Nat) = 2 from z) (by decide)
          · intro z; exact absurd (show (3 : Nat) = 1 from z) (by decide)
          · rw [pi_get, if_neg (by omega)]; exact fr6.own k k6 k7 k8 k9
          · rw [pi_off hc]; exact fr6.cells c hc
end P2

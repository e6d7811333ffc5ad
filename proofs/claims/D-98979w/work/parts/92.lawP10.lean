set_option linter.unusedVariables false
set_option linter.unusedSimpArgs false
/-! THE PLAIN LAW: the model's machine: a unit -/
section P10
variable {gi gi' : GI} {gl gl' : GL} {X : Nat → Nat} {n r f w : Nat} {K : Sk} {C : Cde} {e : Es}
def Pil (gi : GI) : Sk → Prop
  | [] => True
  | x :: K => gi 30 K.length = N x.1 ∧ gi 31 K.length = N x.2 ∧ x.1 ≤ 8 ∧ x.2 < 256 ∧ Pil gi K
theorem Pil.keep : ∀ {K : Sk}, (∀ i, i < K.length → gi' 30 i = gi 30 i ∧ gi' 31 i = gi 31 i) → Pil gi K → Pil gi' K
  | [], _, _ => trivial
  | x :: K, h, p => by
    obtain ⟨p1, p2, p3, p4, p5⟩ := p
    have hx := h K.length (by show K.length < K.length + 1; omega)
    exact ⟨by rw [hx.1]; exact p1, by rw [hx.2]; exact p2, p3, p4, Pil.keep (fun i hi => h i (by show i < K.length + 1; omega)) p5⟩
def Cod (gi : GI) (f : Nat) (C : Cde) : Prop := ∀ i, i < C.length → some (gi 28 (f + i), gi 29 (f + i)) = C[i]?
def c7 : Sk → Nat
  | [] => 0
  | x :: K => c7 K + (if x.1 = 7 then 1 else 0)
def LenOk : Sk → Prop
  | [] => True
  | x :: K => LenOk K ∧ K.length + 1 ≤ 7 * c7 (x :: K) + nots (x :: K) + (if x.1 ≤ 6 then x.1 else 0) + 1
theorem LenOk.le {K : Sk} (h : LenOk K) (hw : c7 K + nots K ≤ 7) : K.length ≤ 56 := by
  cases K with
  | nil => show 0 ≤ 56; omega
  | cons x K =>
    have h2 := h.2
    have : (if x.1 ≤ 6 then x.1 else 0) ≤ 6 := by split <;> omega
    show K.length + 1 ≤ 56
    omega
abbrev MM (gi : GI) (gl : GL) (X : Nat → Nat) (n r f : Nat) (K : Sk) (C : Cde) (w : Nat) (e : Es) (b : Bool) : Prop := (MTx gi X n) ∧ (MTk gi gl e.1) ∧ (TOk X n e.1) ∧ (gi 0 4 = 0) ∧ (gi 0 42 = N r ∧ r < 2) ∧ (gi 7 r = N e.2.1 ∧ e.2.1 ≤ 60) ∧ (gi 0 46 = N e.2.2 ∧ e.2.2 ≤ 30) ∧ (gi 0 44 = N w ∧ w = c7 K + nots K ∧ w ≤ 7) ∧ (gi 0 45 = N K.length ∧ Pil gi K) ∧ (gi 0 43 = N (f + C.length) ∧ Cod gi f C) ∧ (LenOk K) ∧ (C.length + K.length ≤ 1 + 9 * e.2.2 + (if b = true then 1 + w else 0)) ∧ (f + 560 ≤ 1120)
theorem MM.tx {gi : GI} {gl : GL} {X : Nat → Nat} {n r f : Nat} {K : Sk} {C : Cde} {w : Nat} {e : Es} {b : Bool} (h : MM gi gl X n r f K C w e b) : MTx gi X n := h.1
theorem MM.tk {gi : GI} {gl : GL} {X : Nat → Nat} {n r f : Nat} {K : Sk} {C : Cde} {w : Nat} {e : Es} {b : Bool} (h : MM gi gl X n r f K C w e b) : MTk gi gl e.1 := h.2.1
theorem MM.tok {gi : GI} {gl : GL} {X : Nat → Nat} {n r f : Nat} {K : Sk} {C : Cde} {w : Nat} {e : Es} {b : Bool} (h : MM gi gl X n r f K C w e b) : TOk X n e.1 := h.2.2.1
theorem MM.good {gi : GI} {gl : GL} {X : Nat → Nat} {n r f : Nat} {K : Sk} {C : Cde} {w : Nat} {e : Es} {b : Bool} (h : MM gi gl X n r f K C w e b) : gi 0 4 = 0 := h.2.2.2.1
theorem MM.bank {gi : GI} {gl : GL} {X : Nat → Nat} {n r f : Nat} {K : Sk} {C : Cde} {w : Nat} {e : Es} {b : Bool} (h : MM gi gl X n r f K C w e b) : gi 0 42 = N r ∧ r < 2 := h.2.2.2.2.1
theorem MM.un {gi : GI} {gl : GL} {X : Nat → Nat} {n r f : Nat} {K : Sk} {C : Cde} {w : Nat} {e : Es} {b : Bool} (h : MM gi gl X n r f K C w e b) : gi 7 r = N e.2.1 ∧ e.2.1 ≤ 60 := h.2.2.2.2.2.1
theorem MM.own {gi : GI} {gl : GL} {X : Nat → Nat} {n r f : Nat} {K : Sk} {C : Cde} {w : Nat} {e : Es} {b : Bool} (h : MM gi gl X n r f K C w e b) : gi 0 46 = N e.2.2 ∧ e.2.2 ≤ 30 := h.2.2.2.2.2.2.1
theorem MM.wi {gi : GI} {gl : GL} {X : Nat → Nat} {n r f : Nat} {K : Sk} {C : Cde} {w : Nat} {e : Es} {b : Bool} (h : MM gi gl X n r f K C w e b) : gi 0 44 = N w ∧ w = c7 K + nots K ∧ w ≤ 7 := h.2.2.2.2.2.2.2.1
theorem MM.pil {gi : GI} {gl : GL} {X : Nat → Nat} {n r f : Nat} {K : Sk} {C : Cde} {w : Nat} {e : Es} {b : Bool} (h : MM gi gl X n r f K C w e b) : gi 0 45 = N K.length ∧ Pil gi K := h.2.2.2.2.2.2.2.2.1
theorem MM.cod {gi : GI} {gl : GL} {X : Nat → Nat} {n r f : Nat} {K : Sk} {C : Cde} {w : Nat} {e : Es} {b : Bool} (h : MM gi gl X n r f K C w e b) : gi 0 43 = N (f + C.length) ∧ Cod gi f C := h.2.2.2.2.2.2.2.2.2.1
theorem MM.len {gi : GI} {gl : GL} {X : Nat → Nat} {n r f : Nat} {K : Sk} {C : Cde} {w : Nat} {e : Es} {b : Bool} (h : MM gi gl X n r f K C w e b) : LenOk K := h.2.2.2.2.2.2.2.2.2.2.1
theorem MM.room {gi : GI} {gl : GL} {X : Nat → Nat} {n r f : Nat} {K : Sk} {C : Cde} {w : Nat} {e : Es} {b : Bool} (h : MM gi gl X n r f K C w e b) : C.length + K.length ≤ 1 + 9 * e.2.2 + (if b = true then 1 + w else 0) := h.2.2.2.2.2.2.2.2.2.2.2.1
theorem MM.far {gi : GI} {gl : GL} {X : Nat → Nat} {n r f : Nat} {K : Sk} {C : Cde} {w : Nat} {e : Es} {b : Bool} (h : MM gi gl X n r f K C w e b) : f + 560 ≤ 1120 := h.2.2.2.2.2.2.2.2.2.2.2.2
/-- what a formula may change -/
abbrev MEx (gi gi' : GI) (gl gl' : GL) (r f : Nat) : Prop := (∀ k, ¬ (4 ≤ k ∧ k ≤ 9) → ¬ (43 ≤ k ∧ k ≤ 46) → gi' 0 k = gi 0 k) ∧ (∀ c, c ≠ 0 → c ≠ 7 → ¬ (28 ≤ c ∧ c ≤ 31) → gi' c = gi c) ∧ (∀ i, i ≠ r → gi' 7 i = gi 7 i) ∧ (∀ i, i < f ∨ f + 560 ≤ i → gi' 28 i = gi 28 i ∧ gi' 29 i = gi 29 i) ∧ (∀ c k, c ≠ 0 ∨ k ≠ 10 → gl' c k = gl c k)
theorem MEx.own {gi gi' : GI} {gl gl' : GL} {r f : Nat} (h : MEx gi gi' gl gl' r f) : ∀ k, ¬ (4 ≤ k ∧ k ≤ 9) → ¬ (43 ≤ k ∧ k ≤ 46) → gi' 0 k = gi 0 k := h.1
theorem MEx.cells {gi gi' : GI} {gl gl' : GL} {r f : Nat} (h : MEx gi gi' gl gl' r f) : ∀ c, c ≠ 0 → c ≠ 7 → ¬ (28 ≤ c ∧ c ≤ 31) → gi' c = gi c := h.2.1
theorem MEx.u7 {gi gi' : GI} {gl gl' : GL} {r f : Nat} (h : MEx gi gi' gl gl' r f) : ∀ i, i ≠ r → gi' 7 i = gi 7 i := h.2.2.1
theorem MEx.c28 {gi gi' : GI} {gl gl' : GL} {r f : Nat} (h : MEx gi gi' gl gl' r f) : ∀ i, i < f ∨ f + 560 ≤ i → gi' 28 i = gi 28 i ∧ gi' 29 i = gi 29 i := h.2.2.2.1
theorem MEx.gls {gi gi' : GI} {gl gl' : GL} {r f : Nat} (h : MEx gi gi' gl gl' r f) : ∀ c k, c ≠ 0 ∨ k ≠ 10 → gl' c k = gl c k := h.2.2.2.2
theorem MEx.refl (gi : GI) (gl : GL) (r f : Nat) : MEx gi gi gl gl r f := ⟨fun _ _ _ => rfl, fun _ _ _ _ => rfl, fun _ _ => rfl, fun _ _ => ⟨rfl, rfl⟩, fun _ _ _ => rfl⟩
theorem MEx.trans {g1 g2 g3 : GI} {l1 l2 l3 : GL} (a : MEx g1 g2 l1 l2 r f) (b : MEx g2 g3 l2 l3 r f) : MEx g1 g3 l1 l3 r f :=
  ⟨fun k h1 h2 => (b.own k h1 h2).trans (a.own k h1 h2), fun c h1 h2 h3 => (b.cells c h1 h2 h3).trans (a.cells c h1 h2 h3), fun i h => (b.u7 i h).trans (a.u7 i h), fun i h => ⟨(b.c28 i h).1.trans (a.c28 i h).1, (b.c28 i h).2.trans (a.c28 i h).2⟩, fun c k h => (b.gls c k h).trans (a.gls c k h)⟩
theorem MEx.fault (gi : GI) (gl : GL) (r f : Nat) (y : PE) : MEx gi (faulted gi y) gl gl r f :=
  ⟨fun k h1 h2 => by unfold faulted; rw [pi_get, if_neg (by omega), pi_get, if_neg (by omega)], fun c h1 _ _ => by unfold faulted; rw [pi_off h1, pi_off h1], fun i h => by unfold faulted; rw [pi_off (by decide), pi_off (by decide)], fun i h => by unfold faulted; rw [pi_off (by decide), pi_off (by decide), pi_off (by decide), pi_off (by decide)]; exact ⟨rfl, rfl⟩, fun _ _ _ => rfl⟩
theorem m_pushE {k : Nat} (h : gi 0 45 = N k) (hk9 : k < 90) (x y : Int32) : f_X4_pushE gi x y = some (g_pi (g_pi (g_pi gi 30 k x) 31 k y) 0 45 (N (k + 1))) := by
  have h2 : g_pi gi 30 k x 0 45 = N k := by rw [pi_off (by decide)]; exact h
  have h3 : g_pi (g_pi gi 30 k x) 31 k y 0 45 = N k := by rw [pi_off (by decide)]; exact h2
  rw [f_X4_pushE, h, N_st hk9 (by decide), Option.bind_some, h2, N_st hk9 (by decide), Option.bind_some, Option.bind_some, h3, show (1 : Int32) = N 1 from rfl, N_add]
theorem m_emit {k : Nat} (h : gi 0 43 = N k) (hk9 : k < 1120) (x y : Int32) : f_X4_emit gi x y = some (g_pi (g_pi (g_pi gi 28 k x) 29 k y) 0 43 (N (k + 1))) := by
  have h2 : g_pi gi 28 k x 0 43 = N k := by rw [pi_off (by decide)]; exact h
  have h3 : g_pi (g_pi gi 28 k x) 29 k y 0 43 = N k := by rw [pi_off (by decide)]; exact h2
  rw [f_X4_emit, h, N_st hk9 (by decide), Option.bind_some, h2, N_st hk9 (by decide), Option.bind_some, Option.bind_some, h3, show (1 : Int32) = N 1 from rfl, N_add]
theorem Cod.snoc {c v : Int32} (h : Cod gi f C) : Cod (g_pi (g_pi (g_pi gi 28 (f + C.length) c) 29 (f + C.length) v) 0 43 (N (f + C.length + 1))) f (C ++ [(c, v)]) := by
  intro i hi
  rw [List.length_append, List.length_singleton] at hi
  have e28 : ∀ j, g_pi (g_pi (g_pi gi 28 (f + C.length) c) 29 (f + C.length) v) 0 43 (N (f + C.length + 1)) 28 j = if j = f + C.length then c else gi 28 j := fun j => by
    rw [pi_off (by decide), pi_off (by decide), pi_get]
    by_cases q : j = f + C.length
    · rw [if_pos ⟨rfl, q⟩, if_pos q]
    · rw [if_neg (fun z => q z.2), if_neg q]
  have e29 : ∀ j, g_pi (g_pi (g_pi gi 28 (f + C.length) c) 29 (f + C.length) v) 0 43 (N (f + C.length + 1)) 29 j = if j = f + C.length then v else gi 29 j := fun j => by
    rw [pi_off (by decide), pi_get]
    by_cases q : j = f + C.length
    · rw [if_pos ⟨rfl, q⟩, if_pos q]
    · rw [if_neg (fun z => q z.2), if_neg q, pi_off (by decide)]
  rw [e28, e29]
  by_cases q : i = C.length
  · subst q
    rw [if_pos rfl, if_pos rfl, List.getElem?_append_right (Nat.le_refl _), Nat.sub_self]
    rfl
  · rw [if_neg (by omega), if_neg (by omega), List.getElem?_append_left (by omega)]
    exact h i (by omega)
theorem Cod.keep (h : Cod gi f C) (h28 : gi' 28 = gi 28) (h29 : gi' 29 = gi 29) : Cod gi' f C := by
  intro i hi
  rw [h28, h29]; exact h i hi
/-- units are counted, and the next token is read -/
theorem m_count (h : MM gi gl X n r f K C w e true) (d : Nat) (hd : d ≤ 1) (s03 : e.1.sort ≠ 0 ∧ e.1.sort ≠ 3) (hu : e.2.1 + d ≤ 60 ∧ e.2.2 + d ≤ 30) : ∃ g2 gl2, f_X4_goOn (g_pi (g_pi gi 7 r (N (e.2.1 + d))) 0 46 (N (e.2.2 + d))) gl = some (g2, gl2) ∧ MTx g2 X n ∧ MTk g2 gl2 (lexT X n e.1.next) ∧ TOk X n (lexT X n e.1.next) ∧ g2 7 r = N (e.2.1 + d) ∧ g2 0 46 = N (e.2.2 + d) ∧ (∀ k, k ≠ 46 → ¬ (6 ≤ k ∧ k ≤ 9) → g2 0 k = gi 0 k) ∧ (∀ c, c ≠ 0 → c ≠ 7 → g2 c = gi c) ∧ MEx gi g2 gl gl2 r f := by
  obtain ⟨p, hp, et⟩ := h.tok
  have sp := lexT_spec h.tx.txt hp
  rw [← et] at sp
  obtain ⟨n1, n2⟩ := sp.2.2 s03.2
  generalize hg : g_pi (g_pi gi 7 r (N (e.2.1 + d))) 0 46 (N (e.2.2 + d)) = g1
  have c1 : ∀ c, c ≠ 0 → c ≠ 7 → g1 c = gi c := fun c a b => by rw [← hg, pi_off a, pi_off b]
  have o1 : ∀ k, k ≠ 46 → g1 0 k = gi 0 k := fun k a => by rw [← hg, pi_get, if_neg (fun z => a z.2), pi_off (by decide)]
  have x1 : MTx g1 X n := h.tx.of (o1 3 (by decide)) (c1 2 (by decide) (by decide))
  obtain ⟨g2, gl2, a1, a2, a3⟩ := m_goOn (gl := gl) x1 n1 (by rw [o1 7 (by decide)]; exact h.tk.next s03.2)
  have u7 : ∀ i, g2 7 i = if i = r then N (e.2.1 + d) else gi 7 i := fun i => by
    rw [a3.cells 7 (by decide), ← hg, pi_off (by decide), pi_get]
    by_cases q : i = r
    · rw [if_pos ⟨rfl, q⟩, if_pos q]
    · rw [if_neg (fun z => q z.2), if_neg q]
  have oo : ∀ k, k ≠ 46 → ¬ (6 ≤ k ∧ k ≤ 9) → g2 0 k = gi 0 k := fun k k1 k2 => by rw [a3.own k (by omega) (by omega) (by omega) (by omega), o1 k k1]
  have cc : ∀ c, c ≠ 0 → c ≠ 7 → g2 c = gi c := fun c k1 k2 => by rw [a3.cells c k1, c1 c k1 k2]
  refine ⟨g2, gl2, a1, x1.go a3, a2, (h.tok.go h.tx.txt s03.1 s03.2).1, by rw [u7, if_pos rfl], ?_, oo, cc, ⟨fun k k1 k2 => oo k (by omega) (by omega), fun c k1 k2 _ => cc c k1 k2, fun i hi => by rw [u7, if_neg hi], fun i _ => ⟨by rw [cc 28 (by decide) (by decide)], by rw [cc 29 (by decide) (by decide)]⟩, a3.gls⟩⟩
  rw [a3.own 46 (by decide) (by decide) (by decide) (by decide), ← hg, pi_get, if_pos ⟨rfl, rfl⟩]
/-- a mark is piled -/
theorem m_piled {g2 : GI} {gl2 : GL} {x : Nat × Nat} {e' : Es} (h : MM gi gl X n r f K C w e true) (t1 : MTx g2 X n) (t2 : MTk g2 gl2 e'.1) (t3 : TOk X n e'.1) (t4 : g2 7 r = N e'.2.1) (t5 : g2 0 46 = N e'.2.2) (t6 : ∀ k, k ≠ 46 → ¬ (6 ≤ k ∧ k ≤ 9) → g2 0 k = gi 0 k) (t7 : ∀ c, c ≠ 0 → c ≠ 7 → g2 c = gi c) (t8 : MEx gi g2 gl gl2 r f) (hu : e'.2.1 ≤ 60 ∧ e'.2.2 ≤ 30 ∧ e.2.2 ≤ e'.2.2) (hw : w < 7) (hx : (x = (3, 126) ∧ begins K = true) ∨ x = (7, 126)) : ∃ gi', f_X4_unit_j233 g2 gl2 (N x.1) = some (1, gi', gl2) ∧ MM gi' gl2 X n r f (x :: K) C (w + 1) e' true ∧ MEx gi gi' gl gl2 r f := by
  obtain ⟨w1, w2, w3⟩ := h.wi
  have kl := h.len.le (by omega)
  have p45 : g2 0 45 = N K.length := by rw [t6 45 (by decide) (by decide)]; exact h.pil.1
  rw [f_X4_unit_j233, show (126 : Int32) = N 126 from rfl, m_pushE p45 (by omega), Option.bind_some, Option.bind_some]
  generalize hg : g_pi (g_pi (g_pi g2 30 K.length (N x.1)) 31 K.length (N 126)) 0 45 (N (K.length + 1)) = g3
  have o3 : ∀ k, k ≠ 45 → g3 0 k = g2 0 k := fun k hk9 => by rw [← hg, pi_get, if_neg (fun z => hk9 z.2), pi_off (by decide), pi_off (by decide)]
  have c3 : ∀ c, c ≠ 0 → c ≠ 30 → c ≠ 31 → g3 c = g2 c := fun c a b d => by rw [← hg, pi_off a, pi_off d, pi_off b]
  have e30 : ∀ i, g3 30 i = if i = K.length then N x.1 else g2 30 i := fun i => by
    rw [← hg, pi_off (by decide), pi_off (by decide), pi_get]
    by_cases q : i = K.length
    · rw [if_pos ⟨rfl, q⟩, if_pos q]
    · rw [if_neg (fun z => q z.2), if_neg q]
  have e31 : ∀ i, g3 31 i = if i = K.length then N 126 else g2 31 i := fun i => by
    rw [← hg, pi_off (by decide), pi_get]
    by_cases q : i = K.length
    · rw [if_pos ⟨rfl, q⟩, if_pos q]
    · rw [if_neg (fun z => q z.2), if_neg q, pi_off (by decide)]
  have w44 : g3 0 44 = N w := by rw [o3 44 (by decide), t6 44 (by decide) (by decide)]; exact w1
  rw [w44, show (1 : Int32) = N 1 from rfl, N_add]
  have q4 : ∀ k, k ≠ 44 → g_pi g3 0 44 (N (w + 1)) 0 k = g3 0 k := fun k hk9 => by rw [pi_get, if_neg (fun z => hk9 z.2)]
  have cq : ∀ c, c ≠ 0 → g_pi g3 0 44 (N (w + 1)) c = g3 c := fun c hc => pi_off hc
  have x2 : x.2 = 126 := by rcases hx with ⟨z, _⟩ | z <;> rw [z]
  have x1 : x.1 = 3 ∨ x.1 = 7 := by
    rcases hx with ⟨z, _⟩ | z
    · exact Or.inl (by rw [z])
    · exact Or.inr (by rw [z])
  have cw : c7 (x :: K) + nots (x :: K) = c7 K + nots K + 1 := by
    show c7 K + (if x.1 = 7 then 1 else 0) + (nots K + (if x.1 = 3 then 1 else 0)) = _
    rcases x1 with z | z
    · rw [if_neg (by omega), if_pos z]; omega
    · rw [if_pos z, if_neg (by omega)]; omega
  refine ⟨_, rfl, ⟨?_, ?_, t3, ?_, ⟨?_, h.bank.2⟩, ⟨?_, hu.1⟩, ⟨?_, hu.2.1⟩, ⟨?_, by omega, by omega⟩, ⟨?_, ?_⟩, ⟨?_, ?_⟩, ⟨h.len, ?_⟩, ?_, h.far⟩, ?_⟩
  · exact t1.of (by rw [q4 3 (by decide), o3 3 (by decide)]) (by rw [cq 2 (by decide), c3 2 (by decide) (by decide) (by decide)])
  · exact ⟨by rw [q4 6 (by decide), o3 6 (by decide)]; exact t2.place, by rw [q4 8 (by decide), o3 8 (by decide)]; exact t2.kind, by rw [q4 7 (by decide), o3 7 (by decide)]; exact t2.next, by rw [q4 9 (by decide), o3 9 (by decide)]; exact t2.num, t2.nam⟩
  · rw [q4 4 (by decide), o3 4 (by decide), t6 4 (by decide) (by decide)]; exact h.good
  · rw [q4 42 (by decide), o3 42 (by decide), t6 42 (by decide) (by decide)]; exact h.bank.1
  · rw [cq 7 (by decide), c3 7 (by decide) (by decide) (by decide)]; exact t4
  · rw [q4 46 (by decide), o3 46 (by decide)]; exact t5
  · rw [pi_get, if_pos ⟨rfl, rfl⟩]
  · rw [q4 45 (by decide), ← hg, pi_get, if_pos ⟨rfl, rfl⟩]; rfl
  · refine ⟨by rw [cq 30 (by decide), e30, if_pos rfl], by rw [cq 31 (by decide), e31, if_pos rfl, x2], by omega, by omega, h.pil.2.keep (fun i hi => ⟨?_, ?_⟩)⟩
    · rw [cq 30 (by decide), e30, if_neg (by omega), t7 30 (by decide) (by decide)]
    · rw [cq 31 (by decide), e31, if_neg (by omega), t7 31 (by decide) (by decide)]
  · rw [q4 43 (by decide), o3 43 (by decide), t6 43 (by decide) (by decide)]; exact h.cod.1
  · exact h.cod.2.keep (by rw [cq 28 (by decide), c3 28 (by decide) (by decide) (by decide), t7 28 (by decide) (by decide)]) (by rw [cq 29 (by decide), c3 29 (by decide) (by decide) (by decide), t7 29 (by decide) (by decide)])
  · show K.length + 1 ≤ 7 * (c7 K + (if x.1 = 7 then 1 else 0)) + (nots K + (if x.1 = 3 then 1 else 0)) + (if x.1 ≤ 6 then x.1 else 0) + 1
    have hlen := h.len
    rcases hx with ⟨z, bg⟩ | z
    · rw [z]
      show K.length + 1 ≤ 7 * (c7 K + 0) + (nots K + 1) + 3 + 1
      cases K with
      | nil => show 0 + 1 ≤ _; omega
      | cons y K' =>
        have l2 := hlen.2
        have yb : y.1 ≤ 3 ∨ 7 ≤ y.1 := of_decide_eq_true bg
        have : (if y.1 ≤ 6 then y.1 else 0) ≤ 3 := by split <;> omega
        show K'.length + 1 + 1 ≤ _
        omega
    · rw [z]
      show K.length + 1 ≤ 7 * (c7 K + 1) + (nots K + 0) + 0 + 1
      cases K with
      | nil => show 0 + 1 ≤ _; omega
      | cons y K' =>
        have l2 := hlen.2
        have : (if y.1 ≤ 6 then y.1 else 0) ≤ 6 := by split <;> omega
        show K'.length + 1 + 1 ≤ _
        omega
  · have rm := h.room
    rw [if_pos rfl] at rm
    rw [if_pos rfl]
    show C.length + (K.length + 1) ≤ _
    omega
  · refine t8.trans ⟨fun k k1 k2 => by rw [q4 k (by omega), o3 k (by omega)], fun c k1 k2 k3 => by rw [cq c k1, c3 c k1 (by omega) (by omega)], fun i _ => by rw [cq 7 (by decide), c3 7 (by decide) (by decide) (by decide)], fun i _ => ⟨by rw [cq 28 (by decide), c3 28 (by decide) (by decide) (by decide)], by rw [cq 29 (by decide), c3 29 (by decide) (by decide) (by decide)]⟩, fun _ _ _ => rfl⟩
end P10

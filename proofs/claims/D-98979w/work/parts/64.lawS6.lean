set_option linter.unusedVariables false
set_option linter.unusedSimpArgs false
/-! THE PLAIN LAW: needs, pools, rest, gains: what they answer -/
/-- the best of some, so far -/
def BO {α : Type} (key : α → Nat) (v : α → Int32) (D : α → Prop) (o : Option α) : Prop :=
  match o with
  | none => ∀ x, ¬ D x
  | some r => Best key v D r
theorem BO.best {α : Type} {key : α → Nat} {v : α → Int32} {D : α → Prop} {r : α} (h : BO key v D (some r)) : Best key v D r := h
theorem BO.congr {α : Type} {key : α → Nat} {v : α → Int32} {D E : α → Prop} {o : Option α} (h : BO key v D o) (he : ∀ x, D x ↔ E x) : BO key v E o := by
  have : D = E := funext fun x => propext (he x)
  rw [← this]; exact h
theorem BO.take {α : Type} {key : α → Nat} {v : α → Int32} {D : α → Prop} {o : Option α} (h : BO key v D o) {c : α} (hc : ∀ r, o = some r → v r < v c ∨ (v r = v c ∧ key c < key r)) : BO key v (fun x => D x ∨ x = c) (some c) := by
  refine ⟨Or.inr rfl, fun x hx hne => ?_⟩
  rcases hx with hx | hx
  · cases o with
    | none => exact absurd hx (h x)
    | some r =>
      have h : Best key v D r := h
      have hr := hc r rfl
      by_cases e : x = r
      · rw [e]; exact hr
      · rcases h.2 x hx e with u | ⟨u, u2⟩
        · rcases hr with s | ⟨s, _⟩
          · exact Or.inl (Int32.lt_trans u s)
          · exact Or.inl (by rw [← s]; exact u)
        · rcases hr with s | ⟨s, s2⟩
          · exact Or.inl (by rw [u]; exact s)
          · exact Or.inr ⟨by rw [u]; exact s, by omega⟩
  · exact absurd hx hne
theorem BO.skip {α : Type} {key : α → Nat} {v : α → Int32} {D : α → Prop} {r : α} (h : BO key v D (some r)) {c : α} (hc : v c < v r ∨ (v c = v r ∧ key r < key c)) : BO key v (fun x => D x ∨ x = c) (some r) := by
  have h : Best key v D r := h
  refine ⟨Or.inl h.1, fun x hx hne => ?_⟩
  rcases hx with hx | hx
  · exact h.2 x hx hne
  · rw [hx]; exact hc
noncomputable def theBO {α : Type} (key : α → Nat) (v : α → Int32) (D : α → Prop) : Option α := @Classical.epsilon (Option α) ⟨none⟩ (fun o => BO key v D o)
theorem BO.unique {α : Type} {key : α → Nat} {v : α → Int32} {D : α → Prop} {o p : Option α} (h : BO key v D o) (g : BO key v D p) : o = p := by
  cases o with
  | none =>
    cases p with
    | none => rfl
    | some r => exact absurd (show Best key v D r from g).1 (h r)
  | some r =>
    cases p with
    | none => exact absurd (show Best key v D r from h).1 (g r)
    | some q => exact congrArg some (Best.unique (show Best key v D r from h) (show Best key v D q from g))
theorem theBO_eq {α : Type} {key : α → Nat} {v : α → Int32} {D : α → Prop} {o : Option α} (h : BO key v D o) : theBO key v D = o :=
  BO.unique (@Classical.epsilon_spec_aux (Option α) ⟨none⟩ (fun o => BO key v D o) ⟨o, h⟩) h
/-! needs -/
def fitV (B : Bk) (P : Nat → Int32) (m : Nat) (y : Int32) (r : Row) : Prop := Row.In (mx B P m) (leftN B P m) r ∧ y ≤ val B P m 0 r
noncomputable def fitRow (B : Bk) (P : Nat → Int32) (m : Nat) (y : Int32) : Option Row := theBO Row.key (fun _ => 0) (fitV B P m y)
noncomputable def s_needs (S : St) (x y : Int32) : Int32 × St :=
  match asQ x S.B.nm with
  | none => (-1, S.w_laid 0)
  | some m => if -20 ≤ y ∧ y ≤ 20 then
      (match fitRow S.B S.P m y with
        | none => (-1, S.w_laid 0)
        | some r => (N (Row.sum r), (S.w_laid S.B.nk).w_lies (Row.at r)))
    else (-1, S.w_laid 0)
/-! pools -/
abbrev Two : Type := Row × Row
def Two.sum (p : Two) : Nat := Row.sum p.1 + Row.sum p.2
def Two.code (p : Two) : Nat := 1000 * Row.code p.1 + Row.code p.2
def Two.key (p : Two) : Nat := 1000000 * Two.sum p + Two.code p
def few (n : Nat) : Nat := if n < 3 then n else 3
def bothR (B : Bk) (P : Nat → Int32) (m o : Nat) : Row := ((mx B P m).1 + (mx B P o).1, (mx B P m).2.1 + (mx B P o).2.1, (mx B P m).2.2 + (mx B P o).2.2)
def lessR (x r : Row) : Row := (x.1 - r.1, x.2.1 - r.2.1, x.2.2 - r.2.2)
def poolV (B : Bk) (P : Nat → Int32) (m o : Nat) (p : Two) : Prop := Row.In (bothR B P m o) (few (leftN B P m)) p.1 ∧ Row.In (lessR (bothR B P m o) p.1) (few (leftN B P o)) p.2
def poolP (B : Bk) (P : Nat → Int32) (m o : Nat) (p : Two) : Nat → Int32 := lyR B o (Row.at p.2) 1 (lyR B m (Row.at p.1) 1 P)
def poolG (B : Bk) (P : Nat → Int32) (m o : Nat) (p : Two) : Int32 := growth B (poolP B P m o p) m + growth B (poolP B P m o p) o
noncomputable def poolB (B : Bk) (P : Nat → Int32) (m o : Nat) : Two := theBest (((0, 0, 0), (0, 0, 0)) : Two) Two.key (poolG B P m o) (poolV B P m o)
def poolL (nk : Nat) (p : Two) (i : Nat) : Int32 := if i < nk then Row.at p.1 i else Row.at p.2 (i - nk)
noncomputable def s_pool (S : St) (x y : Int32) : Int32 × St :=
  match asQ x S.B.nm, asQ y S.B.nm with
  | some m, some o => if m = o then (-1000000, S.w_laid 0) else (poolG S.B S.P m o (poolB S.B S.P m o), (S.w_laid (2 * S.B.nk)).w_lies (poolL S.B.nk (poolB S.B S.P m o)))
  | _, _ => (-1000000, S.w_laid 0)
noncomputable def aloneP (B : Bk) (P : Nat → Int32) (m : Nat) : Nat → Int32 := lyR B m (Row.at (bestRow B P m 0)) 1 P
noncomputable def q_joint (S : St) (x y : Int32) : Int32 :=
  match asQ x S.B.nm, asQ y S.B.nm with
  | some m, some o => if m = o then -1000000 else poolG S.B S.P m o (poolB S.B S.P m o) - (growth S.B (aloneP S.B (aloneP S.B S.P m) o) m + growth S.B (aloneP S.B (aloneP S.B S.P m) o) o)
  | _, _ => -1000000
theorem few_le (n : Nat) : few n ≤ 3 := by unfold few; split <;> omega
theorem In3 {x : Row} {L : Nat} (hL : L ≤ 3) {r : Row} (h : Row.In x L r) : r.1 ≤ 3 ∧ r.2.1 ≤ 3 ∧ r.2.2 ≤ 3 ∧ Row.sum r ≤ 3 ∧ Row.code r ≤ 333 := by
  obtain ⟨a, b, c⟩ := r
  simp only [Row.In, Row.sum, Row.code] at *
  omega
theorem code3_inj {r q : Row} (hr : r.1 ≤ 3 ∧ r.2.1 ≤ 3 ∧ r.2.2 ≤ 3) (hq : q.1 ≤ 3 ∧ q.2.1 ≤ 3 ∧ q.2.2 ≤ 3) (h : Row.code r = Row.code q) : r = q := by
  obtain ⟨a, b, c⟩ := r
  obtain ⟨d, e, f⟩ := q
  simp only [Row.code] at *
  have h1 : a = d := by omega
  have h2 : b = e := by omega
  have h3 : c = f := by omega
  rw [h1, h2, h3]
theorem poolV.b1 {B : Bk} {P : Nat → Int32} {m o : Nat} {p : Two} (h : poolV B P m o p) : p.1.1 ≤ 3 ∧ p.1.2.1 ≤ 3 ∧ p.1.2.2 ≤ 3 ∧ Row.sum p.1 ≤ 3 ∧ Row.code p.1 ≤ 333 := In3 (few_le _) h.1
theorem poolV.b2 {B : Bk} {P : Nat → Int32} {m o : Nat} {p : Two} (h : poolV B P m o p) : p.2.1 ≤ 3 ∧ p.2.2.1 ≤ 3 ∧ p.2.2.2 ≤ 3 ∧ Row.sum p.2 ≤ 3 ∧ Row.code p.2 ≤ 333 := In3 (few_le _) h.2
theorem poolV.inj {B : Bk} {P : Nat → Int32} {m o : Nat} {p q : Two} (h : poolV B P m o p) (g : poolV B P m o q) (e : Two.code p = Two.code q) : p = q := by
  have h1 := h.b1
  have h2 := h.b2
  have g1 := g.b1
  have g2 := g.b2
  have e1 : Row.code p.1 = Row.code q.1 := by unfold Two.code at e; omega
  have e2 : Row.code p.2 = Row.code q.2 := by unfold Two.code at e; omega
  exact Prod.ext (code3_inj ⟨h1.1, h1.2.1, h1.2.2.1⟩ ⟨g1.1, g1.2.1, g1.2.2.1⟩ e1) (code3_inj ⟨h2.1, h2.2.1, h2.2.2.1⟩ ⟨g2.1, g2.2.1, g2.2.2.1⟩ e2)
theorem poolV.key {B : Bk} {P : Nat → Int32} {m o : Nat} {p q : Two} (h : poolV B P m o p) (g : poolV B P m o q) : Two.code p < 1000000 ∧ Two.sum p ≤ 6 ∧ (Two.sum p < Two.sum q → Two.key p < Two.key q) ∧ (Two.sum p ≤ Two.sum q → Two.code p < Two.code q → Two.key p < Two.key q) := by
  have h1 := h.b1
  have h2 := h.b2
  have g1 := g.b1
  have g2 := g.b2
  have c1 : Two.code p < 1000000 := by unfold Two.code; omega
  have c2 : Two.code q < 1000000 := by unfold Two.code; omega
  refine ⟨c1, by unfold Two.sum; omega, ?_, ?_⟩
  · intro hs
    unfold Two.key
    omega
  · intro hs hc
    unfold Two.key
    omega
/-- the best pair so far -/
def PB (B : Bk) (P : Nat → Int32) (m o : Nat) (top : Nat) (b : Option Two) : Prop := BO Two.key (poolG B P m o) (fun p => poolV B P m o p ∧ Two.code p < top) b
theorem PB.mem {B : Bk} {P : Nat → Int32} {m o top : Nat} {r : Two} (h : PB B P m o top (some r)) : poolV B P m o r ∧ Two.code r < top := (BO.best (key := Two.key) (v := poolG B P m o) (D := fun p => poolV B P m o p ∧ Two.code p < top) h).1
theorem PB.up {B : Bk} {P : Nat → Int32} {m o top top' : Nat} {b : Option Two} (h : PB B P m o top b) (h1 : top ≤ top') (h2 : ∀ p, poolV B P m o p → Two.code p < top' → Two.code p < top) : PB B P m o top' b :=
  BO.congr h (fun p => ⟨fun q => ⟨q.1, by omega⟩, fun q => ⟨q.1, h2 p q.1 q.2⟩⟩)
theorem PB.step {B : Bk} {P : Nat → Int32} {m o : Nat} {b b' : Option Two} {c : Two} (hc : poolV B P m o c) (h : BO Two.key (poolG B P m o) (fun x => (poolV B P m o x ∧ Two.code x < Two.code c) ∨ x = c) b') : PB B P m o (Two.code c + 1) b' := by
  refine BO.congr h (fun p => ⟨fun q => ?_, fun q => ?_⟩)
  · rcases q with q | q
    · exact ⟨q.1, by omega⟩
    · rw [q]; exact ⟨hc, by omega⟩
  · by_cases e : Two.code p = Two.code c
    · exact Or.inr (poolV.inj q.1 hc e)
    · exact Or.inl ⟨q.1, by omega⟩
theorem PB.take {B : Bk} {P : Nat → Int32} {m o : Nat} {b : Option Two} {c : Two} (hc : poolV B P m o c) (h : PB B P m o (Two.code c) b) (hb : ∀ r, b = some r → poolG B P m o r < poolG B P m o c ∨ (poolG B P m o r = poolG B P m o c ∧ Two.sum c < Two.sum r)) : PB B P m o (Two.code c + 1) (some c) := by
  refine PB.step (b := b) hc (BO.take h (fun r hr => ?_))
  subst hr
  rcases hb r rfl with u | ⟨u, u2⟩
  · exact Or.inl u
  · exact Or.inr ⟨u, (hc.key h.mem.1).2.2.1 u2⟩
theorem PB.skip {B : Bk} {P : Nat → Int32} {m o : Nat} {r c : Two} (hc : poolV B P m o c) (h : PB B P m o (Two.code c) (some r)) (hb : poolG B P m o c < poolG B P m o r ∨ (poolG B P m o c = poolG B P m o r ∧ Two.sum r ≤ Two.sum c)) : PB B P m o (Two.code c + 1) (some r) := by
  refine PB.step (b := some r) hc (BO.skip h ?_)
  rcases hb with u | ⟨u, u2⟩
  · exact Or.inl u
  · exact Or.inr ⟨u, (h.mem.1.key hc).2.2.2 u2 h.mem.2⟩
theorem PB.best {B : Bk} {P : Nat → Int32} {m o : Nat} {r : Two} (h : PB B P m o 1000000 (some r)) : poolB B P m o = r := by
  have h : Best Two.key (poolG B P m o) (fun p => poolV B P m o p ∧ Two.code p < 1000000) r := BO.best h
  refine theBest_eq ⟨h.1.1, fun p hp hne => h.2 p ⟨hp, (hp.key hp).1⟩ hne⟩
theorem poolV.zero (B : Bk) (P : Nat → Int32) (m o : Nat) : poolV B P m o ((0, 0, 0), (0, 0, 0)) := by
  simp [poolV, Row.In, Row.sum]
/-! rest -/
def rowOf (f : Nat → Int32) (m : Nat) : Nat → Int32 := fun k => f (3 * m + k)
/-- all that is spent comes over the plots, but one man's -/
def layBut (B : Bk) (f : Nat → Int32) (m : Nat) (P : Nat → Int32) : Nat → Nat → Int32
  | 0 => P
  | n + 1 => if n = m then layBut B f m P n else lyR B n (rowOf f n) 1 (layBut B f m P n)
def put3 (f : Nat → Int32) (m : Nat) (r : Row) : Nat → Int32 := upd (upd (upd f (3 * m) (Row.at r 0)) (3 * m + 1) (Row.at r 1)) (3 * m + 2) (Row.at r 2)
def same3 (f : Nat → Int32) (m : Nat) (r : Row) : Bool := f (3 * m) == Row.at r 0 && f (3 * m + 1) == Row.at r 1 && f (3 * m + 2) == Row.at r 2
noncomputable def newRow (B : Bk) (P f : Nat → Int32) (m : Nat) : Row := bestRow B (layBut B f m P B.nm) m 0
/-- a round, of so many men: what each spends, whether it changes something -/
noncomputable def round (B : Bk) (P f : Nat → Int32) : Nat → (Nat → Int32) × Bool
  | 0 => (f, false)
  | n + 1 => (put3 (round B P f n).1 n (newRow B P (round B P f n).1 n), (round B P f n).2 || !(same3 (round B P f n).1 n (newRow B P (round B P f n).1 n)))
/-- what each spends behind so many rounds -/
noncomputable def rounds (B : Bk) (P : Nat → Int32) : Nat → Nat → Int32
  | 0 => fun _ => 0
  | n + 1 => (round B P (rounds B P n) B.nm).1
noncomputable def moves (B : Bk) (P : Nat → Int32) (n : Nat) : Bool := (round B P (rounds B P n) B.nm).2
noncomputable def s_rest (S : St) : Int32 × St :=
  match firstN (fun n => !(moves S.B S.P n)) 21 with
  | none => (-1, S.w_laid 0)
  | some n => (N n, (S.w_laid S.B.nm).w_lies (fun m => sum3 (rounds S.B S.P (n + 1)) (3 * m)))
/-! gains -/
abbrev Gn : Type := Option (Nat × Nat × Nat)
def takeG (g : Gn) (up dn of : Nat) : Gn :=
  match g with
  | none => some (up, dn, of)
  | some q => if up * q.2.1 ≤ q.1 * dn then some q else some (up, dn, of)
def tryG2 (B : Bk) (a b : Nat) (g : Gn) : Gn :=
  if B.cost a b = 0 ∨ B.cost b a = 0 then g else takeG g (B.brings a b * B.brings b a * 1) (B.cost a b * B.cost b a * 1) (10 * a + b)
def tryG3 (B : Bk) (a b c : Nat) (g : Gn) : Gn :=
  if B.cost a b = 0 ∨ B.cost b c = 0 ∨ B.cost c a = 0 then g else takeG g (B.brings a b * B.brings b c * B.brings c a) (B.cost a b * B.cost b c * B.cost c a) (100 * a + 10 * b + c)
def gainG (B : Bk) : Gn := tryG3 B 0 2 1 (tryG3 B 0 1 2 (tryG2 B 1 2 (tryG2 B 0 2 (tryG2 B 0 1 none))))
def q_gain (S : St) (x : Int32) : Int32 :=
  match gainG S.B, asQ x 3 with
  | some q, some w => if w = 0 then N (q.1 / Nat.gcd q.1 q.2.1) else if w = 1 then N (q.2.1 / Nat.gcd q.1 q.2.1) else N q.2.2
  | _, _ => -1

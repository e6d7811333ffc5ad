set_option linter.unusedVariables false
set_option linter.unusedSimpArgs false
/-! THE PLAIN LAW: every change keeps the state's bounds -/
theorem inN {z : Int32} {v : Nat} (h0 : 0 ≤ z) (h1 : z ≤ N v) (hv : v < 2147483648) : ∃ t, t ≤ v ∧ z = N t := by
  have a0 : (0 : Int) ≤ z.toInt := Int32.le_iff_toInt_le.mp h0
  have a1 : z.toInt ≤ (N v).toInt := Int32.le_iff_toInt_le.mp h1
  rw [N_toInt hv] at a1
  refine ⟨z.toInt.toNat, by omega, ?_⟩
  rw [← Int32.toInt_inj, N_toInt (by omega)]
  omega
theorem one_le {z : Int32} (h : 1 ≤ z) : 0 ≤ z := Int32.le_trans (show (0 : Int32) ≤ 1 by decide) h
section SO
variable {B : Bk} {P : Nat → Int32} {S : St}
theorem RowOk.sub (h : RowOk B P) {i t : Nat} (hi : i < 15) (ht : t ≤ pn P i) : RowOk B (add P i (-(N t))) := by
  have e : ∀ j, j ≠ i → add P i (-(N t)) j = P j := fun j hj => by rw [add_get, if_neg hj, Int32.add_zero]
  refine ⟨⟨?_, fun m hm => by rw [e _ (by omega)]; exact h.ok.spent m hm, fun m k h1 h2 h3 => by rw [e _ (by omega)]; exact h.ok.over0 m k h1 h2 h3, fun m hm => by rw [e _ (by omega)]; exact h.ok.crop m hm, by rw [e _ (by omega)]; exact h.ok.week, by rw [e _ (by omega)]; exact h.ok.seed⟩, by rw [e _ (by omega)]; exact h.week, fun j hj => by rw [e _ (by omega)]; exact h.big j hj⟩
  intro j hj
  by_cases q : j = i
  · subst q
    obtain ⟨v1, v2⟩ := h.ok.pu hj
    rw [add_get, if_pos rfl, v1, ← Int32.sub_eq_add_neg, N_sub ht]
    exact ⟨_, by omega, rfl⟩
  · rw [e j q]; exact h.ok.purse j hj
theorem RowOk.gets (h : RowOk B P) {i u : Nat} (hi : i < 15) (hu : u ≤ 1000) : RowOk B (getsP P i (N u)) := by
  have e : ∀ j, j ≠ i → getsP P i (N u) j = P j := fun j hj => by rw [getsP, upd, if_neg hj]
  refine ⟨⟨?_, fun m hm => by rw [e _ (by omega)]; exact h.ok.spent m hm, fun m k h1 h2 h3 => by rw [e _ (by omega)]; exact h.ok.over0 m k h1 h2 h3, fun m hm => by rw [e _ (by omega)]; exact h.ok.crop m hm, by rw [e _ (by omega)]; exact h.ok.week, by rw [e _ (by omega)]; exact h.ok.seed⟩, by rw [e _ (by omega)]; exact h.week, fun j hj => by rw [e _ (by omega)]; exact h.big j hj⟩
  intro j hj
  by_cases q : j = i
  · subst q
    obtain ⟨v1, v2⟩ := h.ok.pu hj
    rw [getsP, upd, if_pos rfl, v1, N_add]
    exact least99 (by omega)
  · rw [e j q]; exact h.ok.purse j hj
theorem RowOk.spends (hB : B.Ok) (h : RowOk B P) {m k t : Nat} (hm : m < B.nm) (hkk : k < B.nk) (ht : t ≤ leftN B P m) : RowOk B (ly B m k (N t) 1 (add P (35 + m) (N t))) := by
  have h5 := hB.nm
  have h3 := hB.nk
  have h8 := hB.hours
  have o : ∀ j, j < 20 ∨ 35 ≤ j → ly B m k (N t) 1 (add P (35 + m) (N t)) j = add P (35 + m) (N t) j := fun j hj => by
    rw [lay_dl, dl_off B m k (by omega) hm h5 _ j hj, Int32.mul_zero, Int32.add_zero]
  have e : ∀ j, j ≠ 35 + m → add P (35 + m) (N t) j = P j := fun j hj => by rw [add_get, if_neg hj, Int32.add_zero]
  refine ⟨⟨fun j hj => by rw [o _ (by omega), e _ (by omega)]; exact h.ok.purse j hj, ?_, ?_, fun m hm => by rw [o _ (by omega), e _ (by omega)]; exact h.ok.crop m hm, by rw [o _ (by omega), e _ (by omega)]; exact h.ok.week, by rw [o _ (by omega), e _ (by omega)]; exact h.ok.seed⟩, by rw [o _ (by omega), e _ (by omega)]; exact h.week, fun j hj => by rw [o _ (by omega), e _ (by omega)]; exact h.big j hj⟩
  · intro m' hm'
    rw [o _ (by omega)]
    by_cases q : m' = m
    · subst q
      obtain ⟨v1, v2⟩ := h.ok.sp hB hm'
      unfold leftN at ht
      rw [add_get, if_pos rfl, v1, N_add]
      exact ⟨_, by omega, rfl⟩
    · rw [e _ (by omega)]; exact h.ok.spent m' hm'
  · intro m' k' h1 h2 h3
    have z : dl B m k (N t) (20 + 3 * m' + k') = 0 := by
      rw [dl, if_neg (by omega), if_neg (by omega), if_neg (by omega)]
    rw [lay_dl, z, Int32.mul_zero, Int32.add_zero, e _ (by omega)]
    exact h.ok.over0 m' k' h1 h2 h3
theorem so_act (o : SOk S) (h : RowOk S.B P) : SOk ((s_act S).w_P P) := by
  have rm := o.room
  unfold s_act
  by_cases q : S.acts = 40
  · rw [if_pos q]
    refine ⟨o.bok, h, ?_, (show S.acts + 0 ≤ 40 by omega), o.taped, o.laid, o.ns, o.time, o.man, o.other, o.yes, o.untold, o.box, o.rate⟩
    intro i hi
    have hi : i < S.acts + 0 := hi
    show RowOk S.B (if i = 39 then S.P else S.was (i + 1))
    by_cases q2 : i = 39
    · rw [if_pos q2]; exact o.row
    · rw [if_neg q2]; exact o.was (i + 1) (by omega)
  · rw [if_neg q]
    refine ⟨o.bok, h, ?_, (show S.acts + 1 + 0 ≤ 40 by omega), o.taped, o.laid, o.ns, o.time, o.man, o.other, o.yes, o.untold, o.box, o.rate⟩
    intro i hi
    have hi : i < S.acts + 1 + 0 := hi
    show RowOk S.B (if i = S.acts then S.P else S.was i)
    by_cases q2 : i = S.acts
    · rw [if_pos q2]; exact o.row
    · rw [if_neg q2]; exact o.was i (by omega)
theorem so_laid (o : SOk S) {n : Nat} (h : n ≤ 6) (f : Nat → Int32) : SOk ((S.w_laid n).w_lies f) := ⟨o.bok, o.row, o.was, o.room, o.taped, h, o.ns, o.time, o.man, o.other, o.yes, o.untold, o.box, o.rate⟩
theorem so_laid0 (o : SOk S) : SOk (S.w_laid 0) := ⟨o.bok, o.row, o.was, o.room, o.taped, Nat.zero_le _, o.ns, o.time, o.man, o.other, o.yes, o.untold, o.box, o.rate⟩
theorem so_spend (o : SOk S) (x y z : Int32) : SOk (s_spend S x y z).2 := by
  unfold s_spend
  cases h : asQ x S.B.nm with
  | none => exact o
  | some m =>
    cases g : asQ y S.B.nk with
    | none => exact o
    | some k =>
      obtain ⟨rfl, hm⟩ := asQ_some h
      obtain ⟨rfl, hkk⟩ := asQ_some g
      dsimp only
      have h5 := o.bok.nm
      have h3 := o.bok.nk
      by_cases q : (1 ≤ z ∧ z ≤ 8) ∧ z ≤ S.P (3 * m + k) ∧ z ≤ N (leftN S.B S.P m)
      · rw [if_pos q]
        refine so_act o ?_
        obtain ⟨v1, v2⟩ := o.row.ok.pu (show 3 * m + k < 15 by omega)
        rw [v1] at q
        obtain ⟨t, t1, rfl⟩ := inN (one_le q.1.1) q.2.1 (by omega)
        have tl : t ≤ leftN S.B S.P m := (N_le (by omega) (by unfold leftN; have := o.bok.hours; omega)).mp q.2.2
        have r1 := o.row.sub (show 3 * m + k < 15 by omega) t1
        refine r1.spends o.bok hm hkk ?_
        have : leftN S.B (add S.P (3 * m + k) (-(N t))) m = leftN S.B S.P m := by
          unfold leftN pn
          rw [add_get, if_neg (by omega), Int32.add_zero]
        rw [this]; exact tl
      · rw [if_neg q]; exact o
theorem so_give (o : SOk S) (x u y z : Int32) : SOk (s_give S x u y z).2 := by
  unfold s_give
  cases h : asQ x S.B.nm with
  | none => exact o
  | some m =>
    cases h2 : asQ u S.B.nm with
    | none => exact o
    | some n =>
      cases g : asQ y S.B.nk with
      | none => exact o
      | some k =>
        obtain ⟨rfl, hm⟩ := asQ_some h
        obtain ⟨rfl, hn⟩ := asQ_some h2
        obtain ⟨rfl, hkk⟩ := asQ_some g
        dsimp only
        have h5 := o.bok.nm
        have h3 := o.bok.nk
        by_cases q : m ≠ n ∧ 1 ≤ z ∧ z ≤ S.P (3 * m + k)
        · rw [if_pos q]
          refine so_act o ?_
          obtain ⟨v1, v2⟩ := o.row.ok.pu (show 3 * m + k < 15 by omega)
          rw [v1] at q
          obtain ⟨t, t1, rfl⟩ := inN (one_le q.2.1) q.2.2 (by omega)
          exact (o.row.sub (show 3 * m + k < 15 by omega) t1).gets (by omega) (by omega)
        · rw [if_neg q]; exact o
theorem so_change (o : SOk S) (x y z : Int32) : SOk (s_change S x y z).2 := by
  unfold s_change
  cases h : asQ x S.B.nm with
  | none => exact o
  | some m =>
    cases h2 : asQ y S.B.nk with
    | none => exact o
    | some k =>
      cases g : asQ z S.B.nk with
      | none => exact o
      | some p =>
        obtain ⟨rfl, hm⟩ := asQ_some h
        obtain ⟨rfl, hn⟩ := asQ_some h2
        obtain ⟨rfl, hkk⟩ := asQ_some g
        dsimp only
        have h5 := o.bok.nm
        have h3 := o.bok.nk
        have c1 := o.bok.cost k p
        have c2 := o.bok.brings k p
        by_cases q : S.B.cost k p ≠ 0 ∧ N (S.B.cost k p) ≤ S.P (3 * m + k)
        · rw [if_pos q]
          refine so_act o ?_
          obtain ⟨v1, v2⟩ := o.row.ok.pu (show 3 * m + k < 15 by omega)
          rw [v1] at q
          have t1 := (N_le (by omega) (by omega)).mp q.2
          exact (o.row.sub (show 3 * m + k < 15 by omega) t1).gets (by omega) (by omega)
        · rw [if_neg q]; exact o
theorem so_week (o : SOk S) : SOk (s_week S).2 := by
  unfold s_week
  by_cases q : S.P 40 = 999
  · rw [if_pos q]; exact o
  · rw [if_neg q]
    refine so_act o ?_
    obtain ⟨v, v1, v2⟩ := o.row.week
    have vn : v ≠ 999 := fun e => q (by rw [v2, e]; rfl)
    obtain ⟨w1, w2, w3⟩ := weekP_ok o.bok o.row.ok (show v < 2000 by omega) v2
    exact ⟨w1, ⟨v + 1, by omega, w2⟩, fun j hj => by rw [w3 j hj]; exact o.row.big j hj⟩
theorem so_undo (o : SOk S) : SOk (s_undo S).2 := by
  have rm := o.room
  unfold s_undo
  by_cases q : S.acts = 0
  · rw [if_pos q]; exact o
  · rw [if_neg q]
    refine ⟨o.bok, o.was (S.acts - 1) (by omega), ?_, (show S.acts - 1 + (S.undone + 1) ≤ 40 by omega), o.taped, o.laid, o.ns, o.time, o.man, o.other, o.yes, o.untold, o.box, o.rate⟩
    intro i hi
    have hi : i < S.acts - 1 + (S.undone + 1) := hi
    show RowOk S.B (if i = S.acts - 1 then S.P else S.was i)
    by_cases q2 : i = S.acts - 1
    · rw [if_pos q2]; exact o.row
    · rw [if_neg q2]; exact o.was i (by omega)
theorem so_redo (o : SOk S) : SOk (s_redo S).2 := by
  have rm := o.room
  unfold s_redo
  by_cases q : S.undone = 0
  · rw [if_pos q]; exact o
  · rw [if_neg q]
    refine ⟨o.bok, o.was S.acts (by omega), ?_, (show S.acts + 1 + (S.undone - 1) ≤ 40 by omega), o.taped, o.laid, o.ns, o.time, o.man, o.other, o.yes, o.untold, o.box, o.rate⟩
    intro i hi
    have hi : i < S.acts + 1 + (S.undone - 1) := hi
    show RowOk S.B (if i = S.acts then S.P else S.was i)
    by_cases q2 : i = S.acts
    · rw [if_pos q2]; exact o.row
    · rw [if_neg q2]; exact o.was i (by omega)
theorem so_best (o : SOk S) (x y aim : Int32) : SOk (s_best S x y aim).2 := by
  unfold s_best
  have h3 := o.bok.nk
  cases h : asQ x S.B.nm with
  | none => exact so_laid0 o
  | some m =>
    dsimp only
    by_cases q : y = 0 ∨ y = 1
    · rw [if_pos q]; exact so_laid o (by omega) _
    · rw [if_neg q]; exact so_laid0 o
theorem so_needs (o : SOk S) (x y : Int32) : SOk (s_needs S x y).2 := by
  unfold s_needs
  have h3 := o.bok.nk
  cases h : asQ x S.B.nm with
  | none => exact so_laid0 o
  | some m =>
    dsimp only
    by_cases q : -20 ≤ y ∧ y ≤ 20
    · rw [if_pos q]
      cases fitRow S.B S.P m y with
      | none => exact so_laid0 o
      | some r => exact so_laid o (by omega) _
    · rw [if_neg q]; exact so_laid0 o
theorem so_pool (o : SOk S) (x y : Int32) : SOk (s_pool S x y).2 := by
  unfold s_pool
  have h3 := o.bok.nk
  cases h : asQ x S.B.nm with
  | none => exact so_laid0 o
  | some m =>
    cases g : asQ y S.B.nm with
    | none => exact so_laid0 o
    | some p =>
      dsimp only
      by_cases q : m = p
      · rw [if_pos q]; exact so_laid0 o
      · rw [if_neg q]; exact so_laid o (by omega) _
theorem so_rest (o : SOk S) : SOk (s_rest S).2 := by
  unfold s_rest
  have h5 := o.bok.nm
  cases firstN (fun n => !(moves S.B S.P n)) 21 with
  | none => exact so_laid0 o
  | some n => exact so_laid o (by omega) _
theorem so_later (o : SOk S) (x : Int32) : SOk (s_later S x).2 := by
  have ht := o.time
  unfold s_later
  by_cases q : 0 ≤ x ∧ x ≤ 1000 ∧ N S.time + x ≤ 100000
  · rw [if_pos q]
    obtain ⟨t, t1, rfl⟩ := inN q.1 (show x ≤ N 1000 from q.2.1) (by omega)
    have e := q.2.2
    rw [N_add, show (100000 : Int32) = N 100000 from rfl, N_le (by omega) (by omega)] at e
    refine ⟨o.bok, o.row, o.was, o.room, o.taped, o.laid, o.ns, (show S.time + (N t).toNatClampNeg ≤ 100000 by rw [N_toNat (by omega)]; exact e), o.man, o.other, o.yes, o.untold, o.box, o.rate⟩
  · rw [if_neg q]; exact o
theorem so_tell (o : SOk S) (h30 : S.ns < 30) {m : Nat} (hm : m < firsts S.B) {ot nu z : Int32} (ho : ot = -1 ∨ ∃ m, m < firsts S.B ∧ ot = N m) (hz : z = 0 ∨ z = 1) : SOk (s_tell S (N m) ot nu z).2 := by
  have sg : ∀ f i, (s_tell S (N m) ot nu z).2.sg f i = if i = S.ns then (if f = 0 then N m else if f = 1 then ot else if f = 2 then nu else if f = 3 then z else if f = 4 then N S.time else -1) else S.sg f i := fun _ _ => rfl
  refine ⟨o.bok, o.row, o.was, o.room, o.taped, o.laid, (show S.ns + 1 ≤ 30 by omega), o.time, ?_, ?_, ?_, ?_, o.box, o.rate⟩
  · intro i hi
    have hi : i < S.ns + 1 := hi
    rw [sg]
    by_cases q : i = S.ns
    · rw [if_pos q]; exact ⟨m, hm, rfl⟩
    · rw [if_neg q]; exact o.man i (by omega)
  · intro i hi
    have hi : i < S.ns + 1 := hi
    rw [sg]
    by_cases q : i = S.ns
    · rw [if_pos q]; exact ho
    · rw [if_neg q]; exact o.other i (by omega)
  · intro i hi
    have hi : i < S.ns + 1 := hi
    rw [sg]
    by_cases q : i = S.ns
    · rw [if_pos q]; exact hz
    · rw [if_neg q]; exact o.yes i (by omega)
  · intro i hi
    have hi : i < S.ns + 1 := hi
    rw [sg]
    by_cases q : i = S.ns
    · rw [if_pos q]; exact Or.inl rfl
    · rw [if_neg q]; exact o.untold i (by omega)
theorem zz01 (z : Int32) : (if z = 0 then (0 : Int32) else 1) = 0 ∨ (if z = 0 then (0 : Int32) else 1) = 1 := by
  by_cases h : z = 0
  · rw [if_pos h]; exact Or.inl rfl
  · rw [if_neg h]; exact Or.inr rfl
theorem so_least (o : SOk S) (x y z : Int32) : SOk (s_least S x y z).2 := by
  unfold s_least
  cases h : asQ x (firsts S.B) with
  | none => exact o
  | some m =>
    obtain ⟨rfl, hm⟩ := asQ_some h
    dsimp only
    by_cases q : (0 ≤ y ∧ y ≤ 99) ∧ S.ns < 30
    · rw [if_pos q]; exact so_tell o q.2 hm (Or.inl rfl) (zz01 z)
    · rw [if_neg q]; exact o
theorem so_more (o : SOk S) (x y z : Int32) : SOk (s_more S x y z).2 := by
  unfold s_more
  cases h : asQ x (firsts S.B) with
  | none => exact o
  | some m =>
    cases g : asQ y (firsts S.B) with
    | none => exact o
    | some p =>
      obtain ⟨rfl, hm⟩ := asQ_some h
      obtain ⟨rfl, hp⟩ := asQ_some g
      dsimp only
      by_cases q : m ≠ p ∧ S.ns < 30
      · rw [if_pos q]; exact so_tell o q.2 hm (Or.inr ⟨p, hp, rfl⟩) (zz01 z)
      · rw [if_neg q]; exact o
theorem so_untell (o : SOk S) (x : Int32) : SOk (s_untell S x).2 := by
  unfold s_untell
  cases h : asQ x S.ns with
  | none => exact o
  | some i =>
    dsimp only
    by_cases q : S.sg 5 i < 0
    · rw [if_pos q]
      refine ⟨o.bok, o.row, o.was, o.room, o.taped, o.laid, o.ns, o.time, o.man, o.other, o.yes, ?_, o.box, o.rate⟩
      intro k hk2
      show (if 5 = 5 ∧ k = i then N S.time else S.sg 5 k) = -1 ∨ ∃ t, t ≤ 100000 ∧ (if 5 = 5 ∧ k = i then N S.time else S.sg 5 k) = N t
      by_cases e : k = i
      · rw [if_pos ⟨rfl, e⟩]; exact Or.inr ⟨S.time, o.time, rfl⟩
      · rw [if_neg (fun z => e z.2)]; exact o.untold k hk2
    · rw [if_neg q]; exact o
theorem so_image (o : SOk S) (x : Int32) : SOk (s_image S x).2 := by
  unfold s_image
  cases h : asQ x 3 with
  | none => exact o
  | some c =>
    refine ⟨o.bok, o.row, o.was, o.room, o.taped, o.laid, o.ns, o.time, o.man, o.other, o.yes, o.untold, ?_, o.rate⟩
    intro k hk2
    show (if k = c then true else S.boxed k) = true → RowOk S.B (if k = c then S.P else S.box k)
    by_cases e : k = c
    · rw [if_pos e, if_pos e]; exact fun _ => o.row
    · rw [if_neg e, if_neg e]; exact o.box k hk2
theorem so_back (o : SOk S) (x : Int32) : SOk (s_back S x).2 := by
  unfold s_back
  cases h : asQ x 3 with
  | none => exact o
  | some c =>
    obtain ⟨rfl, hc⟩ := asQ_some h
    dsimp only
    by_cases q : S.boxed c = true
    · rw [if_pos q]
      exact ⟨o.bok, o.box c hc q, fun i hi => absurd (show i < 0 + 0 from hi) (by omega), (show 0 + 0 ≤ 40 by decide), o.taped, o.laid, o.ns, o.time, o.man, o.other, o.yes, o.untold, o.box, o.rate⟩
    · rw [if_neg q]; exact o
theorem so_feed (o : SOk S) (a b c d e : Int32) : SOk (s_feed S a b c d e).2 := by
  unfold s_feed
  by_cases q : S.taped + 20 ≤ 1600
  · rw [if_pos q]
    exact ⟨o.bok, o.row, o.was, o.room, q, o.laid, o.ns, o.time, o.man, o.other, o.yes, o.untold, o.box, o.rate⟩
  · rw [if_neg q]; exact o
theorem so_end (o : SOk S) (x : Int32) : SOk (s_end S x).2 := by
  have ht := o.taped
  unfold s_end
  cases h : asQ x (S.taped + 1) with
  | none => exact o
  | some n =>
    obtain ⟨_, hn⟩ := asQ_some h
    exact ⟨o.bok, o.row, o.was, o.room, (show n ≤ 1600 by omega), o.laid, o.ns, o.time, o.man, o.other, o.yes, o.untold, o.box, o.rate⟩
end SO

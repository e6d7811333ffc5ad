set_option linter.unusedVariables false
set_option linter.unusedSimpArgs false
/-! THE PLAIN LAW: what is done to the model: undone, sights, boxes, the tape -/
theorem m_undo {gi : GI} {S : St} (r : RM gi S) (o : SOk S) : ∃ gi', f_X4_undo gi = some ((s_undo S).1, gi') ∧ RM gi' (s_undo S).2 := by
  have hr := o.room
  rw [f_X4_undo, r.acts, show (0 : Int32) = N 0 from rfl, if_eq (by omega) (by omega)]
  unfold s_undo
  by_cases h : S.acts = 0
  · rw [if_pos h, if_pos h]
    exact ⟨gi, rfl, r⟩
  · rw [if_neg h, if_neg h, Option.bind_some, Option.bind_some, show (1 : Int32) = N 1 from rfl, N_sub (by omega)]
    have e51 : g_pi gi 0 50 (N (S.acts - 1)) 0 51 = N S.undone := by rw [pi_get, if_neg (by omega), r.undone]
    rw [e51, N_add]
    obtain ⟨g', a1, a2, a3, a4, a5⟩ := m_exchange (gi := g_pi (g_pi gi 0 50 (N (S.acts - 1))) 0 51 (N (S.undone + 1))) (a := S.acts - 1) (by omega) (by simp [pi_get])
    rw [a1, Option.bind_some]
    refine ⟨g', rfl, ?_⟩
    have o34 : g_pi (g_pi gi 0 50 (N (S.acts - 1))) 0 51 (N (S.undone + 1)) 34 = gi 34 := by rw [pi_off (by decide), pi_off (by decide)]
    have o33 : g_pi (g_pi gi 0 50 (N (S.acts - 1))) 0 51 (N (S.undone + 1)) 33 = gi 33 := by rw [pi_off (by decide), pi_off (by decide)]
    rw [o34] at a2 a4
    rw [o33] at a3 a4
    have e33 : g' 33 = S.was (S.acts - 1) := by
      funext j
      by_cases hj : j < 42
      · rw [a2 j hj]; exact r.was _ j (by omega) hj
      · rw [a3 j (by omega), r.all, o.row.big j (by omega), (o.was (S.acts - 1) (by omega)).big j (by omega)]
    refine RM.acts' (r.row (S.was (S.acts - 1))) ?_ ?_ ?_ ?_ ?_
    · intro k h1 h2
      rw [a5 0 (by decide) (by decide), up_ne _ _ _ (by decide)]
      simp [pi_get, h1, h2]
    · intro c h1 h2
      by_cases h3 : c = 33
      · subst h3; rw [up_same, e33]
      · rw [a5 c h3 h2, up_ne _ _ _ h3, pi_off h1, pi_off h1]
    · rw [a5 0 (by decide) (by decide)]; simp [pi_get]
    · rw [a5 0 (by decide) (by decide)]; simp [pi_get]
    · intro i j hi hj
      rw [a4]
      unfold cpo
      by_cases q : i = S.acts - 1
      · subst q
        rw [if_pos (by omega), if_pos rfl, r.all, show 42 * (S.acts - 1) + j - 42 * (S.acts - 1) = j by omega]
      · rw [if_neg (by omega), if_neg q]
        exact r.was i j (by omega) hj
theorem m_redo {gi : GI} {S : St} (r : RM gi S) (o : SOk S) : ∃ gi', f_X4_redo gi = some ((s_redo S).1, gi') ∧ RM gi' (s_redo S).2 := by
  have hr := o.room
  rw [f_X4_redo, r.undone, show (0 : Int32) = N 0 from rfl, if_eq (by omega) (by omega)]
  unfold s_redo
  by_cases h : S.undone = 0
  · rw [if_pos h, if_pos h]
    exact ⟨gi, rfl, r⟩
  · rw [if_neg h, if_neg h]
    obtain ⟨g', a1, a2, a3, a4, a5⟩ := m_exchange (gi := gi) (a := S.acts) (by omega) r.acts
    have e0 : ∀ k, g' 0 k = gi 0 k := fun k => by rw [a5 0 (by decide) (by decide)]
    rw [a1, Option.bind_some, Option.bind_some, Option.bind_some, e0 50, r.acts, show (1 : Int32) = N 1 from rfl, N_add]
    have e51 : g_pi g' 0 50 (N (S.acts + 1)) 0 51 = N S.undone := by rw [pi_get, if_neg (by omega), e0, r.undone]
    rw [e51, N_sub (by omega)]
    refine ⟨_, rfl, ?_⟩
    have e33 : g' 33 = S.was S.acts := by
      funext j
      by_cases hj : j < 42
      · rw [a2 j hj]; exact r.was _ j (by omega) hj
      · rw [a3 j (by omega), r.all, o.row.big j (by omega), (o.was S.acts (by omega)).big j (by omega)]
    refine RM.acts' (r.row (S.was S.acts)) ?_ ?_ ?_ ?_ ?_
    · intro k h1 h2
      rw [up_ne _ _ _ (by decide), pi_get, if_neg (by omega), pi_get, if_neg (by omega), e0]
    · intro c h1 h2
      rw [pi_off h1, pi_off h1]
      by_cases h3 : c = 33
      · subst h3; rw [up_same, e33]
      · rw [a5 c h3 h2, up_ne _ _ _ h3]
    · simp [pi_get]
    · simp [pi_get]
    · intro i j hi hj
      rw [pi_off (by decide), pi_off (by decide), a4]
      unfold cpo
      by_cases q : i = S.acts
      · subst q
        rw [if_pos (by omega), if_pos rfl, r.all, show 42 * S.acts + j - 42 * S.acts = j by omega]
      · rw [if_neg (by omega), if_neg q]
        exact r.was i j (by omega) hj
/-- a number of the object's own is changed -/
theorem MFr.own1 (gi : GI) (k : Nat) (x : Int32) (h : ¬ (k = 2 ∨ k = 4 ∨ k = 5 ∨ k = 50 ∨ k = 51 ∨ k = 55 ∨ k = 78 ∨ k = 79) ∧ k ≠ 41) : MFr gi (g_pi gi 0 k x) := by
  refine ⟨by rw [pi_get, if_neg (by omega)], fun c h1 _ => pi_off (by omega), fun j hj => by rw [pi_get, if_neg (by omega)], fun c hc => pi_off (by omega)⟩
/-- the kept numbers, one changed -/
theorem RM.own {gi gi' : GI} {S : St} (r : RM gi S) (hc : ∀ c, c ≠ 0 → gi' c = gi c) (h41 : gi' 0 41 = gi 0 41) {tp t l n : Nat} {a b : Int32} (htp : tp ≤ S.taped) (hl : l ≤ S.laid) (hn : n = S.ns) (e2 : gi' 0 2 = N tp) (e4 : gi' 0 4 = a) (e5 : gi' 0 5 = b) (e50 : gi' 0 50 = gi 0 50) (e51 : gi' 0 51 = gi 0 51) (e55 : gi' 0 55 = N l) (e78 : gi' 0 78 = N n) (e79 : gi' 0 79 = N t) : RM gi' (((((S.w_taped tp).w_fk a).w_fp b).w_laid l).w_time t) := by
  refine ⟨(show Fr gi gi' from ⟨h41, fun c h1 h2 => hc c (by omega)⟩).book r.book, ?_, e2, ?_, e4, e5, ?_, ?_, ?_, e55, ?_, ?_, ?_, e79, ?_, ?_⟩
  · rw [hc 33 (by decide)]; exact r.all
  · intro k hk; rw [hc 1 (by decide)]; exact r.tape k (Nat.lt_of_lt_of_le hk htp)
  · rw [e50]; exact r.acts
  · rw [e51]; exact r.undone
  · rw [hc 34 (by decide)]; exact r.was
  · intro i hi; rw [hc 37 (by decide)]; exact r.lies i (Nat.lt_of_lt_of_le hi hl)
  · rw [e78, hn]; rfl
  · intro f i hf hi; rw [hc (45 + f) (by omega)]; exact r.sg f i hf hi
  · rw [hc 53 (by decide)]; exact r.box
  · rw [hc 54 (by decide)]; exact r.boxed
theorem RM.laid0 {gi : GI} {S : St} (r : RM gi S) : RM (g_pi gi 0 55 0) (S.w_laid 0) :=
  RM.own r (fun c hc => pi_off hc) (by simp [pi_get]) (tp := S.taped) (t := S.time) (l := 0) (n := S.ns) (a := S.fk) (b := S.fp) (Nat.le_refl _) (Nat.zero_le _) rfl (by simp [pi_get, r.taped]) (by simp [pi_get, r.fk]) (by simp [pi_get, r.fp]) (by simp [pi_get]) (by simp [pi_get]) (by simp [pi_get]; rfl) (by simp [pi_get, r.ns]) (by simp [pi_get, r.time])
theorem m_later {gi : GI} {S : St} (r : RM gi S) (o : SOk S) (x : Int32) : ∃ gi', f_X4_later gi x = some ((s_later S x).1, gi') ∧ RM gi' (s_later S x).2 := by
  have ht := o.time
  rw [f_X4_later, m_isIn, in1, Option.bind_some, r.time]
  unfold s_later
  by_cases h : 0 ≤ x ∧ x ≤ 1000
  · rw [if_pos h, if_neg (by decide)]
    by_cases h2 : N S.time + x ≤ 100000
    · rw [if_pos h2, if_pos ⟨h.1, h.2, h2⟩, Option.bind_some]
      have e : gi 0 79 + x = N (S.time + x.toNatClampNeg) := by
        obtain ⟨m, hm⟩ : ∃ m, asQ x 1001 = some m := by
          cases hq : asQ x 1001 with
          | some m => exact ⟨m, rfl⟩
          | none =>
            rcases asQ_none hq with q | q | q
            · exact absurd q (Int32.not_lt.mpr h.1)
            · exact absurd (Int32.le_trans q h.2) (by decide)
            · omega
        obtain ⟨rfl, hlt⟩ := asQ_some hm
        rw [r.time, N_add, N_toNat (by omega)]
      refine ⟨g_pi gi 0 79 (N S.time + x), by simp [pi_get], ?_⟩
      exact RM.own r (fun c hc => pi_off hc) (by simp [pi_get]) (tp := S.taped) (t := S.time + x.toNatClampNeg) (l := S.laid) (n := S.ns) (a := S.fk) (b := S.fp) (Nat.le_refl _) (Nat.le_refl _) rfl (by simp [pi_get, r.taped]) (by simp [pi_get, r.fk]) (by simp [pi_get, r.fp]) (by simp [pi_get]) (by simp [pi_get]) (by simp [pi_get, r.laid]) (by simp [pi_get, r.ns]) (by rw [pi_get, if_pos ⟨rfl, rfl⟩, ← r.time, e])
    · rw [if_neg h2, if_neg (fun q => h2 q.2.2)]
      exact ⟨gi, rfl, r⟩
  · rw [if_neg h, if_pos rfl, if_neg (fun q => h ⟨q.1, q.2.1⟩)]
    exact ⟨gi, rfl, r⟩
theorem m_firsts {gi : GI} {B : Bk} (b : MBk gi B) : f_X4_firsts gi = some (N (firsts B)) := by
  have h5 := b.ok.nm
  have h6 := b.ok.nb
  rw [f_X4_firsts, m_many b, Option.bind_some, (m_b b).2.1, Option.bind_some, m_lesser, Option.bind_some]
  unfold least firsts
  rw [if_le (by omega) (by omega)]
  by_cases h : B.nm ≤ B.nb
  · rw [if_pos h]
    by_cases h2 : B.nb ≤ B.nm
    · rw [if_pos h2, show B.nb = B.nm by omega]
    · rw [if_neg h2]
  · rw [if_neg h, if_pos (by omega)]
theorem firsts_le {B : Bk} (h : B.Ok) : firsts B ≤ 5 := by
  have h5 := h.nm
  have h6 := h.nb
  unfold firsts
  split <;> omega
theorem m_isFirst {gi : GI} {B : Bk} (b : MBk gi B) (x : Int32) : f_X4_isFirst gi x = some (if (asQ x (firsts B)).isSome then 1 else 0) := by
  have h5 := firsts_le b.ok
  rw [f_X4_isFirst, m_firsts b, Option.bind_some, m_isIn, isIn_asQ x (by omega), Option.bind_some]
  by_cases q : (asQ x (firsts B)).isSome <;> simp [q, g_zb]
theorem m_tell {gi : GI} {S : St} (r : RM gi S) (hs : S.ns < 30) (x y z w : Int32) : ∃ gi', f_X4_tell gi x y z w = some ((s_tell S x y z (if w = 0 then 0 else 1)).1, gi') ∧ RM gi' (s_tell S x y z (if w = 0 then 0 else 1)).2 := by
  have j48 : ∀ v : Int32, ∀ g3 : GI, (∀ c, c ≠ 45 → c ≠ 46 → c ≠ 47 → g3 c = gi c) → f_X4_tell_j48 g3 v (N S.ns) = some (N S.ns, g_pi (g_pi (g_pi (g_pi g3 48 S.ns v) 49 S.ns (N S.time)) 50 S.ns (-1)) 0 78 (N (S.ns + 1))) := by
    intro v g3 h
    have e78 : g3 0 78 = N S.ns := by rw [h 0 (by decide) (by decide) (by decide), r.ns]
    have e79 : g3 0 79 = N S.time := by rw [h 0 (by decide) (by decide) (by decide), r.time]
    have a78 : g_pi g3 48 S.ns v 0 78 = N S.ns := by rw [pi_off (by decide), e78]
    have a79 : g_pi g3 48 S.ns v 0 79 = N S.time := by rw [pi_off (by decide), e79]
    rw [f_X4_tell_j48, N_st hs (by decide), Option.bind_some, a78, a79, N_st hs (by decide), Option.bind_some]
    have b78 : g_pi (g_pi g3 48 S.ns v) 49 S.ns (N S.time) 0 78 = N S.ns := by rw [pi_off (by decide), a78]
    rw [b78, N_st hs (by decide), Option.bind_some]
    have c78 : g_pi (g_pi (g_pi g3 48 S.ns v) 49 S.ns (N S.time)) 50 S.ns (-1) 0 78 = N S.ns := by rw [pi_off (by decide), b78]
    rw [c78, Option.bind_some, pi_get, if_pos ⟨rfl, rfl⟩, show (1 : Int32) = N 1 from rfl, N_add, N_sub (by omega), Nat.add_sub_cancel]
  have e0 : gi 0 78 = N S.ns := r.ns
  have e1 : g_pi gi 45 S.ns x 0 78 = N S.ns := by rw [pi_off (by decide), e0]
  have e2 : g_pi (g_pi gi 45 S.ns x) 46 S.ns y 0 78 = N S.ns := by rw [pi_off (by decide), e1]
  have e3 : g_pi (g_pi (g_pi gi 45 S.ns x) 46 S.ns y) 47 S.ns z 0 78 = N S.ns := by rw [pi_off (by decide), e2]
  have hf : ∀ c, c ≠ 45 → c ≠ 46 → c ≠ 47 → g_pi (g_pi (g_pi gi 45 S.ns x) 46 S.ns y) 47 S.ns z c = gi c := fun c h1 h2 h3 => by rw [pi_off h3, pi_off h2, pi_off h1]
  have fin : ∀ v : Int32, RM (g_pi (g_pi (g_pi (g_pi (g_pi (g_pi (g_pi gi 45 S.ns x) 46 S.ns y) 47 S.ns z) 48 S.ns v) 49 S.ns (N S.time)) 50 S.ns (-1)) 0 78 (N (S.ns + 1))) (s_tell S x y z v).2 := by
    intro v
    have ec : ∀ c, c ≠ 0 → ¬ (45 ≤ c ∧ c < 51) → g_pi (g_pi (g_pi (g_pi (g_pi (g_pi (g_pi gi 45 S.ns x) 46 S.ns y) 47 S.ns z) 48 S.ns v) 49 S.ns (N S.time)) 50 S.ns (-1)) 0 78 (N (S.ns + 1)) c = gi c := by
      intro c h1 h2
      rw [pi_off h1, pi_off (by omega), pi_off (by omega), pi_off (by omega), pi_off (by omega), pi_off (by omega), pi_off (by omega)]
    have e0 : ∀ k, k ≠ 78 → g_pi (g_pi (g_pi (g_pi (g_pi (g_pi (g_pi gi 45 S.ns x) 46 S.ns y) 47 S.ns z) 48 S.ns v) 49 S.ns (N S.time)) 50 S.ns (-1)) 0 78 (N (S.ns + 1)) 0 k = gi 0 k := by
      intro k h1
      simp [pi_get, h1]
    refine ⟨(show Fr gi _ from ⟨e0 41 (by decide), fun c h1 h2 => ec c (by omega) (by omega)⟩).book r.book, ?_, ?_, ?_, ?_, ?_, ?_, ?_, ?_, ?_, ?_, ?_, ?_, ?_, ?_, ?_⟩
    · rw [ec 33 (by decide) (by decide)]; exact r.all
    · rw [e0 2 (by decide)]; exact r.taped
    · rw [ec 1 (by decide) (by decide)]; exact r.tape
    · rw [e0 4 (by decide)]; exact r.fk
    · rw [e0 5 (by decide)]; exact r.fp
    · rw [e0 50 (by decide)]; exact r.acts
    · rw [e0 51 (by decide)]; exact r.undone
    · rw [ec 34 (by decide) (by decide)]; exact r.was
    · rw [e0 55 (by decide)]; exact r.laid
    · rw [ec 37 (by decide) (by decide)]; exact r.lies
    · rw [pi_get, if_pos ⟨rfl, rfl⟩]; rfl
    · intro f i hf hi
      have hi : i < S.ns + 1 := hi
      show _ = (if i = S.ns then (if f = 0 then x else if f = 1 then y else if f = 2 then z else if f = 3 then v else if f = 4 then N S.time else -1) else S.sg f i)
      by_cases q : i = S.ns
      · rw [if_pos q, q]
        match f, hf with
        | 0, _ => simp [pi_get]
        | 1, _ => simp [pi_get]
        | 2, _ => simp [pi_get]
        | 3, _ => simp [pi_get]
        | 4, _ => simp [pi_get]
        | 5, _ => simp [pi_get]
      · rw [if_neg q]
        simp only [pi_get, q, and_false, if_false]
        rw [if_neg (by omega)]
        exact r.sg f i hf (by omega)
    · rw [e0 79 (by decide)]; exact r.time
    · rw [ec 53 (by decide) (by decide)]; exact r.box
    · rw [ec 54 (by decide) (by decide)]; exact r.boxed
  rw [f_X4_tell, e0, N_st hs (by decide), Option.bind_some, e1, N_st hs (by decide), Option.bind_some, e2, N_st hs (by decide), Option.bind_some, e3, j48 0 _ hf, j48 1 _ hf]
  by_cases hw : w = 0
  · rw [if_pos hw, if_pos hw]
    exact ⟨_, rfl, fin 0⟩
  · rw [if_neg hw, if_neg hw]
    exact ⟨_, rfl, fin 1⟩
theorem m_least {gi : GI} {S : St} (r : RM gi S) (o : SOk S) (x y z : Int32) : ∃ gi', f_X4_least gi x y z = some ((s_least S x y z).1, gi') ∧ RM gi' (s_least S x y z).2 := by
  have hn := o.ns
  rw [f_X4_least, m_isFirst r.book, Option.bind_some]
  unfold s_least
  cases h : asQ x (firsts S.B) with
  | none => exact ⟨gi, rfl, r⟩
  | some m =>
    simp only [Option.isSome_some, if_true]
    rw [if_neg (by decide), m_isIn, in1, Option.bind_some, r.ns, show (30 : Int32) = N 30 from rfl, if_le (by omega) (by omega)]
    by_cases h1 : 0 ≤ y ∧ y ≤ 99
    · rw [if_pos h1, if_neg (by decide)]
      by_cases h2 : S.ns < 30
      · rw [if_neg (by omega), if_pos ⟨h1, h2⟩]
        obtain ⟨g', a1, a2⟩ := m_tell r h2 x (-1) y z
        rw [a1]
        exact ⟨g', rfl, a2⟩
      · rw [if_pos (by omega), if_neg (fun q => h2 q.2)]
        exact ⟨gi, rfl, r⟩
    · rw [if_neg h1, if_pos rfl, if_neg (fun q => h1 q.1)]
      exact ⟨gi, rfl, r⟩
theorem m_more {gi : GI} {S : St} (r : RM gi S) (o : SOk S) (x y z : Int32) : ∃ gi', f_X4_more gi x y z = some ((s_more S x y z).1, gi') ∧ RM gi' (s_more S x y z).2 := by
  have hn := o.ns
  have h5 := firsts_le r.book.ok
  rw [f_X4_more, m_isFirst r.book, m_isFirst r.book, Option.bind_some]
  unfold s_more
  cases h : asQ x (firsts S.B) with
  | none => exact ⟨gi, rfl, r⟩
  | some m =>
    obtain ⟨rfl, hm⟩ := asQ_some h
    simp only [Option.isSome_some, if_true]
    rw [if_neg (by decide), Option.bind_some]
    cases g : asQ y (firsts S.B) with
    | none => exact ⟨gi, rfl, r⟩
    | some k =>
      obtain ⟨rfl, hk⟩ := asQ_some g
      simp only [Option.isSome_some, if_true]
      rw [if_neg (by decide), r.ns, show (30 : Int32) = N 30 from rfl, if_le (by omega) (by omega), if_eq (by omega) (by omega)]
      by_cases h1 : m = k
      · rw [if_pos h1, if_neg (fun q => q.1 h1)]
        exact ⟨gi, rfl, r⟩
      · rw [if_neg h1]
        by_cases h2 : S.ns < 30
        · rw [if_neg (by omega), if_pos ⟨h1, h2⟩]
          obtain ⟨g', a1, a2⟩ := m_tell r h2 (N m) (N k) 0 z
          rw [a1]
          exact ⟨g', rfl, a2⟩
        · rw [if_pos (by omega), if_neg (fun q => h2 q.2)]
          exact ⟨gi, rfl, r⟩
theorem m_untell {gi : GI} {S : St} (r : RM gi S) (o : SOk S) (x : Int32) : ∃ gi', f_X4_untell gi x = some ((s_untell S x).1, gi') ∧ RM gi' (s_untell S x).2 := by
  have hn := o.ns
  rw [f_X4_untell, m_isIn, r.ns, isIn_asQ x (by omega), Option.bind_some]
  unfold s_untell
  cases h : asQ x S.ns with
  | none => exact ⟨gi, rfl, r⟩
  | some i =>
    obtain ⟨rfl, hi⟩ := asQ_some h
    simp only [Option.isSome_some, if_true]
    rw [if_neg (by decide), N_ld (by omega) (by decide), Option.bind_some, r.sg 5 i (by decide) hi]
    by_cases h1 : S.sg 5 i < 0
    · rw [if_pos h1, if_pos h1, N_st (by omega) (by decide), Option.bind_some, r.time]
      refine ⟨_, rfl, ?_⟩
      have ec : ∀ c, c ≠ 50 → g_pi gi 50 i (N S.time) c = gi c := fun c hc => pi_off hc
      refine ⟨(show Fr gi _ from ⟨by rw [ec 0 (by decide)], fun c h1 h2 => ec c (by omega)⟩).book r.book, ?_, ?_, ?_, ?_, ?_, ?_, ?_, ?_, ?_, ?_, ?_, ?_, ?_, ?_, ?_⟩
      · rw [ec 33 (by decide)]; exact r.all
      · rw [ec 0 (by decide)]; exact r.taped
      · rw [ec 1 (by decide)]; exact r.tape
      · rw [ec 0 (by decide)]; exact r.fk
      · rw [ec 0 (by decide)]; exact r.fp
      · rw [ec 0 (by decide)]; exact r.acts
      · rw [ec 0 (by decide)]; exact r.undone
      · rw [ec 34 (by decide)]; exact r.was
      · rw [ec 0 (by decide)]; exact r.laid
      · rw [ec 37 (by decide)]; exact r.lies
      · rw [ec 0 (by decide)]; exact r.ns
      · intro f k hf hk
        show _ = (if f = 5 ∧ k = i then N S.time else S.sg f k)
        rw [pi_get]
        by_cases q : f = 5 ∧ k = i
        · rw [if_pos q, if_pos (by omega)]
        · rw [if_neg q, if_neg (by omega)]; exact r.sg f k hf hk
      · rw [ec 0 (by decide)]; exact r.time
      · rw [ec 53 (by decide)]; exact r.box
      · rw [ec 54 (by decide)]; exact r.boxed
    · rw [if_neg h1, if_neg h1]
      exact ⟨gi, rfl, r⟩

set_option linter.unusedVariables false
set_option linter.unusedSimpArgs false
/-! THE PLAIN LAW: what is done to the model: boxes, the tape -/
theorem m_image {gi : GI} {S : St} (r : RM gi S) (x : Int32) : ∃ gi', f_X4_image gi x = some ((s_image S x).1, gi') ∧ RM gi' (s_image S x).2 := by
  rw [f_X4_image, m_isIn, show (2 : Int32) = N 3 - 1 from rfl, isIn_asQ x (by decide), Option.bind_some]
  unfold s_image
  cases h : asQ x 3 with
  | none => exact ⟨gi, rfl, r⟩
  | some b =>
    obtain ⟨rfl, hb⟩ := asQ_some h
    simp only [Option.isSome_some, if_true]
    rw [if_neg (by decide)]
    have hl := loop_copy (body := fun (s : Int32 × GI) => f_X4_image_l13 (N b) s.1 s.2) (gi := gi) (c := 53) (off := 42 * b) (n := 42) (src := gi 33) (by decide) (by
      intro i gj hi hg
      show f_X4_image_l13 (N b) (N i) gj = _
      rw [f_X4_image_l13, show (42 : Int32) = N 42 from rfl, if_le (by omega) (by omega), if_neg (by omega), N_ld hi (by decide), Option.bind_some, N_mul, N_add, N_st (by omega) (by decide), Option.bind_some, hg 33 (by decide), show (1 : Int32) = N 1 from rfl, N_add]) (fun gj => rfl)
    rw [hl, Option.bind_some, f_X4_image_x13, N_st hb (by decide), Option.bind_some, show (40 : Int32) = N 40 from rfl, N_ld (by decide) (by decide), Option.bind_some]
    have e33 : g_pi (va_up gi 53 (cpo (gi 53) (gi 33) (42 * b) 42)) 54 b (vp_nar .boolean 1) 33 = gi 33 := by rw [pi_off (by decide), up_ne _ _ _ (by decide)]
    have ec : ∀ c, c ≠ 53 → c ≠ 54 → g_pi (va_up gi 53 (cpo (gi 53) (gi 33) (42 * b) 42)) 54 b (vp_nar .boolean 1) c = gi c := fun c h1 h2 => by rw [pi_off h2, up_ne _ _ _ h1]
    rw [e33, r.all]
    refine ⟨_, rfl, ?_⟩
    rw [r.all] at ec
    refine ⟨(show Fr gi _ from ⟨by rw [ec 0 (by decide) (by decide)], fun c h1 h2 => ec c (by omega) (by omega)⟩).book r.book, ?_, ?_, ?_, ?_, ?_, ?_, ?_, ?_, ?_, ?_, ?_, ?_, ?_, ?_, ?_⟩
    · rw [ec 33 (by decide) (by decide)]; exact r.all
    · rw [ec 0 (by decide) (by decide)]; exact r.taped
    · rw [ec 1 (by decide) (by decide)]; exact r.tape
    · rw [ec 0 (by decide) (by decide)]; exact r.fk
    · rw [ec 0 (by decide) (by decide)]; exact r.fp
    · rw [ec 0 (by decide) (by decide)]; exact r.acts
    · rw [ec 0 (by decide) (by decide)]; exact r.undone
    · rw [ec 34 (by decide) (by decide)]; exact r.was
    · rw [ec 0 (by decide) (by decide)]; exact r.laid
    · rw [ec 37 (by decide) (by decide)]; exact r.lies
    · rw [ec 0 (by decide) (by decide)]; exact r.ns
    · intro f i hf hi; rw [ec (45 + f) (by omega) (by omega)]; exact r.sg f i hf hi
    · rw [ec 0 (by decide) (by decide)]; exact r.time
    · intro k j hk hb2 hj
      have hb2 : (if k = b then true else S.boxed k) = true := hb2
      show _ = (if k = b then S.P else S.box k) j
      rw [pi_off (by decide), up_same]
      unfold cpo
      by_cases q : k = b
      · rw [if_pos (by omega), if_pos q, q, show 42 * b + j - 42 * b = j by omega]
      · rw [if_neg q] at hb2
        rw [if_neg (by omega), if_neg q]
        exact r.box k j hk hb2 hj
    · intro k hk
      show _ = if (if k = b then true else S.boxed k) = true then 1 else 0
      rw [pi_get]
      by_cases q : k = b
      · rw [if_pos ⟨rfl, q⟩, if_pos q, if_pos rfl]; rfl
      · rw [if_neg (fun e => q e.2), if_neg q, up_ne _ _ _ (by decide)]
        exact r.boxed k hk
theorem m_back {gi : GI} {S : St} (r : RM gi S) (o : SOk S) (x : Int32) : ∃ gi', f_X4_back gi x = some ((s_back S x).1, gi') ∧ RM gi' (s_back S x).2 := by
  rw [f_X4_back, m_isIn, show (2 : Int32) = N 3 - 1 from rfl, isIn_asQ x (by decide), Option.bind_some]
  unfold s_back
  cases h : asQ x 3 with
  | none => exact ⟨gi, rfl, r⟩
  | some b =>
    obtain ⟨rfl, hb⟩ := asQ_some h
    simp only [Option.isSome_some, if_true]
    rw [if_neg (by decide), N_ld hb (by decide), Option.bind_some, r.boxed b hb]
    by_cases hx : S.boxed b = true
    · rw [if_pos hx, if_pos hx, if_neg (by decide)]
      have hl := loop_copy (body := fun (s : Int32 × GI) => f_X4_back_l22 (N b) s.1 s.2) (gi := gi) (c := 33) (off := 0) (n := 42) (src := fun j => gi 53 (42 * b + j)) (by decide) (by
        intro i gj hi hg
        show f_X4_back_l22 (N b) (N i) gj = _
        rw [f_X4_back_l22, show (42 : Int32) = N 42 from rfl, if_le (by omega) (by omega), if_neg (by omega), N_mul, N_add, N_ld (by omega) (by decide), Option.bind_some, N_st (by omega) (by decide), Option.bind_some, hg 53 (by decide), show (1 : Int32) = N 1 from rfl, N_add, Nat.zero_add]) (fun gj => rfl)
      have e33 : cpo (gi 33) (fun j => gi 53 (42 * b + j)) 0 42 = S.box b := by
        funext j
        unfold cpo
        by_cases hj : j < 42
        · rw [if_pos (by omega)]; exact r.box b j hb hx hj
        · rw [if_neg (by omega), r.all, o.row.big j (by omega), (o.box b hb hx).big j (by omega)]
      rw [hl, Option.bind_some, e33, f_X4_back_x22, Option.bind_some, Option.bind_some, show (40 : Int32) = N 40 from rfl, N_ld (by decide) (by decide), Option.bind_some, pi_off (by decide), pi_off (by decide), up_same]
      refine ⟨_, rfl, ?_⟩
      exact RM.acts' (r.row (S.box b)) (was := S.was) (a := 0) (u := 0) (fun k h1 h2 => by simp [pi_get, h1, h2]) (fun c h1 h2 => by rw [pi_off h1, pi_off h1]) (by simp [pi_get]; rfl) (by simp [pi_get]; rfl) (fun i j hi => by omega)
    · rw [if_neg hx, if_neg hx, if_pos rfl]
      exact ⟨gi, rfl, r⟩
theorem m_end {gi : GI} {S : St} (r : RM gi S) (o : SOk S) (x : Int32) : ∃ gi', f_X4_end gi x = some ((s_end S x).1, gi') ∧ RM gi' (s_end S x).2 := by
  have ht := o.taped
  rw [f_X4_end, r.taped]
  unfold s_end
  cases h : asQ x (S.taped + 1) with
  | none =>
    rcases asQ_none h with q | q | q
    · rw [if_pos q]; exact ⟨gi, rfl, r⟩
    · by_cases h0 : x < 0
      · rw [if_pos h0]; exact ⟨gi, rfl, r⟩
      · rw [if_neg h0, if_neg (Int32.not_le.mpr (Int32.lt_of_lt_of_le ((N_lt (by omega) (by omega)).mpr (by omega)) q))]
        exact ⟨gi, rfl, r⟩
    · omega
  | some n =>
    obtain ⟨rfl, hn⟩ := asQ_some h
    rw [show (0 : Int32) = N 0 from rfl, if_lt (by omega) (by omega), if_neg (by omega), if_le (by omega) (by omega), if_pos (by omega), Option.bind_some]
    refine ⟨_, rfl, ?_⟩
    exact RM.own r (fun c hc => pi_off hc) (by simp [pi_get]) (tp := n) (t := S.time) (l := S.laid) (n := S.ns) (a := S.fk) (b := S.fp) (by omega) (Nat.le_refl _) rfl (by simp [pi_get]) (by simp [pi_get, r.fk]) (by simp [pi_get, r.fp]) (by simp [pi_get]) (by simp [pi_get]) (by simp [pi_get, r.laid]) (by simp [pi_get, r.ns]) (by simp [pi_get, r.time])
theorem nar_byte (x : Int32) : vp_nar .byte (x.toInt8.toInt32) = x.toInt8.toInt32 := by
  rw [vp_nar_byte]
  simp
theorem m_feed {gi : GI} {S : St} (r : RM gi S) (o : SOk S) (a b c d e : Int32) : ∃ gi', f_X4_feed gi a b c d e = some ((s_feed S a b c d e).1, gi') ∧ RM gi' (s_feed S a b c d e).2 := by
  have ht := o.taped
  rw [f_X4_feed, r.taped, show (20 : Int32) = N 20 from rfl, N_add, show (1600 : Int32) = N 1600 from rfl, if_le (by omega) (by omega)]
  unfold s_feed
  by_cases h : S.taped + 20 ≤ 1600
  · rw [if_pos h, if_pos h]
    have hl := loop_copy (body := fun (s : Int32 × GI) => f_X4_feed_l18 a b c d e s.1 s.2) (gi := gi) (c := 1) (off := S.taped) (n := 20) (src := fun k => byteOf (five a b c d e k) (k % 4)) (by decide) (by
      intro i gj hi hg
      show f_X4_feed_l18 a b c d e (N i) gj = _
      have hj : ∀ v : Int32, f_X4_feed_j71 a b c d e gj (N i) v = some (.inl (N (i + 1), g_pi gj 1 (S.taped + i) (byteOf v (i % 4)))) := by
        intro v
        have e3 : N i &&& 3 = N (i % 4) := by
          match i, hi with
          | 0, _ => rfl
          | 1, _ => rfl
          | 2, _ => rfl
          | 3, _ => rfl
          | 4, _ => rfl
          | 5, _ => rfl
          | 6, _ => rfl
          | 7, _ => rfl
          | 8, _ => rfl
          | 9, _ => rfl
          | 10, _ => rfl
          | 11, _ => rfl
          | 12, _ => rfl
          | 13, _ => rfl
          | 14, _ => rfl
          | 15, _ => rfl
          | 16, _ => rfl
          | 17, _ => rfl
          | 18, _ => rfl
          | 19, _ => rfl
          | n + 20, hq => exact absurd hq (by omega)
        have h4 := Nat.mod_lt i (show 4 > 0 by decide)
        rw [f_X4_feed_j71, hg 0 (by decide), r.taped, N_add, e3, show (8 : Int32) = N 8 from rfl, N_mul, show (24 : Int32) = N 24 from rfl, N_sub (by omega), nar_byte, N_st (by omega) (by decide), Option.bind_some, show (1 : Int32) = N 1 from rfl, N_add]
        rfl
      rw [f_X4_feed_l18, hj, hj, hj, hj, hj, show (20 : Int32) = N 20 from rfl, if_le (by omega) (by omega), if_neg (by omega), show (4 : Int32) = N 4 from rfl, if_le (by omega) (by omega), show (8 : Int32) = N 8 from rfl, if_le (by omega) (by omega), show (12 : Int32) = N 12 from rfl, if_le (by omega) (by omega), show (16 : Int32) = N 16 from rfl, if_le (by omega) (by omega)]
      unfold five
      by_cases q1 : i < 4
      · rw [if_neg (by omega), if_pos q1]
      · rw [if_pos (by omega), if_neg q1]
        by_cases q2 : i < 8
        · rw [if_neg (by omega), if_pos q2]
        · rw [if_pos (by omega), if_neg q2]
          by_cases q3 : i < 12
          · rw [if_neg (by omega), if_pos q3]
          · rw [if_pos (by omega), if_neg q3]
            by_cases q4 : i < 16
            · rw [if_neg (by omega), if_pos q4]
            · rw [if_pos (by omega), if_neg q4]) (fun gj => rfl)
    rw [hl, Option.bind_some, f_X4_feed_x18, Option.bind_some, up_ne _ _ _ (by decide), r.taped, show (20 : Int32) = N 20 from rfl, N_add]
    refine ⟨g_pi (va_up gi 1 (cpo (gi 1) (fun k => byteOf (five a b c d e k) (k % 4)) S.taped 20)) 0 2 (N (S.taped + 20)), by simp [pi_get], ?_⟩
    have ec : ∀ q, q ≠ 0 → q ≠ 1 → g_pi (va_up gi 1 (cpo (gi 1) (fun k => byteOf (five a b c d e k) (k % 4)) S.taped 20)) 0 2 (N (S.taped + 20)) q = gi q := fun q h1 h2 => by rw [pi_off h1, up_ne _ _ _ h2]
    have e0 : ∀ k, k ≠ 2 → g_pi (va_up gi 1 (cpo (gi 1) (fun k => byteOf (five a b c d e k) (k % 4)) S.taped 20)) 0 2 (N (S.taped + 20)) 0 k = gi 0 k := fun k hk => by
      rw [pi_get, if_neg (by omega), up_ne _ _ _ (by decide)]
    refine ⟨(show Fr gi _ from ⟨e0 41 (by decide), fun c h1 h2 => ec c (by omega) (by omega)⟩).book r.book, ?_, ?_, ?_, ?_, ?_, ?_, ?_, ?_, ?_, ?_, ?_, ?_, ?_, ?_, ?_⟩
    · rw [ec 33 (by decide) (by decide)]; exact r.all
    · rw [pi_get, if_pos ⟨rfl, rfl⟩]; rfl
    · intro k hk
      have hk : k < S.taped + 20 := hk
      show _ = if S.taped ≤ k ∧ k < S.taped + 20 then byteOf (five a b c d e (k - S.taped)) ((k - S.taped) % 4) else S.tape k
      rw [pi_off (by decide), up_same]
      unfold cpo
      by_cases q : S.taped ≤ k ∧ k < S.taped + 20
      · rw [if_pos q, if_pos q]
      · rw [if_neg q, if_neg q]
        exact r.tape k (by omega)
    · rw [e0 4 (by decide)]; exact r.fk
    · rw [e0 5 (by decide)]; exact r.fp
    · rw [e0 50 (by decide)]; exact r.acts
    · rw [e0 51 (by decide)]; exact r.undone
    · rw [ec 34 (by decide) (by decide)]; exact r.was
    · rw [e0 55 (by decide)]; exact r.laid
    · rw [ec 37 (by decide) (by decide)]; exact r.lies
    · rw [e0 78 (by decide)]; exact r.ns
    · intro f i hf hi; rw [ec (45 + f) (by omega) (by omega)]; exact r.sg f i hf hi
    · rw [e0 79 (by decide)]; exact r.time
    · rw [ec 53 (by decide) (by decide)]; exact r.box
    · rw [ec 54 (by decide) (by decide)]; exact r.boxed
  · rw [if_neg h, if_neg h]
    exact ⟨gi, rfl, r⟩

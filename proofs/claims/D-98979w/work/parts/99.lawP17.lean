set_option linter.unusedVariables false
set_option linter.unusedSimpArgs false
/-! THE PLAIN LAW: names of the model -/
section P17
variable {gi gi' : GI} {gl gl' : GL} {X : Nat → Nat} {n : Nat} {t : Tk}
theorem findN_spec (g : Nat → Nat) (v : Nat) : ∀ m, (findN g v m = none ∧ ∀ k, k < m → g k ≠ v) ∨ ∃ k, findN g v m = some k ∧ k < m ∧ g k = v ∧ ∀ i, i < k → g i ≠ v
  | 0 => Or.inl ⟨rfl, fun k hk9 => absurd hk9 (by omega)⟩
  | m + 1 => by
    rcases findN_spec g v m with ⟨h1, h2⟩ | ⟨k, h1, h2, h3, h4⟩
    · by_cases q : g m = v
      · refine Or.inr ⟨m, ?_, by omega, q, h2⟩
        rw [findN, h1]
        exact if_pos q
      · refine Or.inl ⟨?_, fun k hk9 => ?_⟩
        · rw [findN, h1]
          exact if_neg q
        · by_cases z : k = m
          · rw [z]; exact q
          · exact h2 k (by omega)
    · refine Or.inr ⟨k, ?_, by omega, h3, h4⟩
      rw [findN, h1]
def foundN (t : Tk) (g : Nat → Nat) (m : Nat) : Option Nat := if t.sort = 1 ∧ kept t.val = false then findN g t.val m else none
theorem foundN_lt {t : Tk} {g : Nat → Nat} {m k : Nat} (h : foundN t g m = some k) : k < m := by
  unfold foundN at h
  by_cases q : t.sort = 1 ∧ kept t.val = false
  · rw [if_pos q] at h
    rcases findN_spec g t.val m with ⟨h1, _⟩ | ⟨k', h1, h2, _⟩
    · rw [h1] at h; exact absurd h (by simp)
    · rw [h1] at h
      have := Option.some.inj h
      omega
  · rw [if_neg q] at h; exact absurd h (by simp)
theorem m_here {a len base m : Nat} (ha : a < NM) (hk9 : hkM a = (3, len)) (h : MT0 gi gl X n t) {g : Nat → Nat} (hg : ∀ k, k < m → gl a (base + k) = L (g k) ∧ g k < 9223372036854775808) (hb : base + m ≤ len) (hl : len ≤ 100) : f_X4_here gi gl a (N base) (N m) = some (asI (foundN t g m)) := by
  have ld : ∀ k, k < m → g_ldPL gl a (N base + N k) = some (L (g k)) := fun k hm => by
    rw [N_add, g_ldPL, if_pos ⟨ha, by rw [hk9]⟩, hk9, g_ldL, N_in (by show base + k < len; omega) (by show len ≤ 2147483648; omega), if_pos rfl, N_toNat (by omega), (hg k hm).1]
  have one : (1 : Int32) = N 1 := rfl
  have last : f_X4_here_l3 gi gl a (N base) (N m) (N m) = some (.inr (.inl ())) := by
    rw [f_X4_here_l3, if_le (by omega) (by omega), if_pos (Nat.le_refl _)]
  unfold foundN
  by_cases nm : t.sort = 1 ∧ kept t.val = false
  · rw [if_pos nm]
    have v63 := (h.tok.val h.tx.txt).1 nm.1
    have step : ∀ k, k < m → f_X4_here_l3 gi gl a (N base) (N m) (N k) = if g k = t.val then some (.inr (.inr (N k))) else some (.inl (N (k + 1))) := fun k hm => by
      rw [f_X4_here_l3, if_le (by omega) (by omega), if_neg (by omega), if_pos (h.name.mpr nm), ld k hm, Option.bind_some, h.tk.nam nm.1, one, N_add]
      by_cases q : g k = t.val
      · rw [if_pos q, if_pos ((lg_cmp0 (hg k hm).2 v63).mpr q)]
      · rw [if_neg q, if_neg (fun z => q ((lg_cmp0 (hg k hm).2 v63).mp z))]
    rcases findN_spec g t.val m with ⟨h1, h2⟩ | ⟨k, h1, h2, h3, h4⟩
    · have lp : g_loop g_K (fun (s : Int32) => f_X4_here_l3 gi gl a (N base) (N m) s) 0 = some (.inl ()) := loop_T (fun k => N k) m rfl (fun k hm => by rw [step k hm, if_neg (h2 k hm)]) last (by show m < 100000; omega)
      rw [f_X4_here, lp, Option.bind_some, h1]
      rfl
    · have lp : g_loop g_K (fun (s : Int32) => f_X4_here_l3 gi gl a (N base) (N m) s) 0 = some (.inr (N k)) := loop_T (fun k => N k) k rfl (fun i hm => by rw [step i (by omega), if_neg (h4 i hm)]) (by rw [step k h2, if_pos h3]) (by show k < 100000; omega)
      rw [f_X4_here, lp, Option.bind_some, h1]
      rfl
  · rw [if_neg nm]
    have step : ∀ k, k < m → f_X4_here_l3 gi gl a (N base) (N m) (N k) = some (.inl (N (k + 1))) := fun k hm => by
      rw [f_X4_here_l3, if_le (by omega) (by omega), if_neg (by omega), if_neg (fun z => nm (h.name.mp z)), one, N_add]
    have lp : g_loop g_K (fun (s : Int32) => f_X4_here_l3 gi gl a (N base) (N m) s) 0 = some (.inl ()) := loop_T (fun k => N k) m rfl (fun k hm => step k hm) last (by show m < 100000; omega)
    rw [f_X4_here, lp, Option.bind_some]
    rfl
/-- the names that the bank r knows -/
abbrev MNs (gl : GL) (r nk nm : Nat) (kn mn : Nat → Nat) : Prop := (∀ k, k < nk → gl 26 (3 * r + k) = L (kn k) ∧ kn k < 9223372036854775808) ∧ (∀ k, k < nm → gl 27 (5 * r + k) = L (mn k) ∧ mn k < 9223372036854775808) ∧ (r < 2) ∧ (nk ≤ 3) ∧ (nm ≤ 5)
theorem MNs.kinds {gl : GL} {r nk nm : Nat} {kn mn : Nat → Nat} (h : MNs gl r nk nm kn mn) : ∀ k, k < nk → gl 26 (3 * r + k) = L (kn k) ∧ kn k < 9223372036854775808 := h.1
theorem MNs.men {gl : GL} {r nk nm : Nat} {kn mn : Nat → Nat} (h : MNs gl r nk nm kn mn) : ∀ k, k < nm → gl 27 (5 * r + k) = L (mn k) ∧ mn k < 9223372036854775808 := h.2.1
theorem MNs.hr {gl : GL} {r nk nm : Nat} {kn mn : Nat → Nat} (h : MNs gl r nk nm kn mn) : r < 2 := h.2.2.1
theorem MNs.hk {gl : GL} {r nk nm : Nat} {kn mn : Nat → Nat} (h : MNs gl r nk nm kn mn) : nk ≤ 3 := h.2.2.2.1
theorem MNs.hm {gl : GL} {r nk nm : Nat} {kn mn : Nat → Nat} (h : MNs gl r nk nm kn mn) : nm ≤ 5 := h.2.2.2.2
theorem m_kindHere {r nk nm : Nat} {kn mn : Nat → Nat} (h : MT0 gi gl X n t) (ns : MNs gl r nk nm kn mn) (h42 : gi 0 42 = N r) (h3 : gi 3 r = N nk) : f_X4_kindHere gi gl = some (asI (foundN t kn nk)) := by
  have a1 := ns.hr
  have a2 := ns.hk
  rw [f_X4_kindHere, h42, N_ld a1 (by decide), Option.bind_some, h3, show (3 : Int32) = N 3 from rfl, N_mul, m_here (len := 6) (by decide) rfl h ns.kinds (by omega) (by decide), Option.bind_some]
theorem m_manHere {r nk nm : Nat} {kn mn : Nat → Nat} (h : MT0 gi gl X n t) (ns : MNs gl r nk nm kn mn) (h42 : gi 0 42 = N r) (h4 : gi 4 r = N nm) : f_X4_manHere gi gl = some (asI (foundN t mn nm)) := by
  have a1 := ns.hr
  have a2 := ns.hm
  rw [f_X4_manHere, h42, N_ld a1 (by decide), Option.bind_some, h4, show (5 : Int32) = N 5 from rfl, N_mul, m_here (len := 10) (by decide) rfl h ns.men (by omega) (by decide), Option.bind_some]
end P17

set_option linter.unusedVariables false
set_option linter.unusedSimpArgs false
/-! THE PLAIN LAW: the component holds what is kept; what is asked -/
def RX (hk : HK) (nx : Nat) (gi : GI) (gr : GR) (b ask : Nat) (L : List Nat) (sl : Nat) (sf w : Nat → Nat) (S : St) : Prop := (XWd hk gi gr b ask L S.B) ∧ (pl gi 11 = S.P) ∧ (gi 0 1 = N S.taped) ∧ (∀ k, k < S.taped → gi 1 k = S.tape k) ∧ (gi 0 2 = S.fk) ∧ (gi 0 3 = S.fp) ∧ (gi 0 9 = N S.time) ∧ (gi 0 11 = N S.acts) ∧ (gi 0 12 = N S.undone) ∧ (S.acts + S.undone ≤ 40) ∧ (gi 0 18 = N S.laid) ∧ (∀ i, i < S.laid → gi 34 i = S.lies i) ∧ (∀ i, i < 40 → gr 31 i = some (49 + 5 * w i) ∧ w i < 40) ∧ (∀ i j, i < 40 → j < 40 → w i = w j → i = j) ∧ (∀ i, i < S.acts + S.undone → pl gi (49 + 5 * w i) = S.was i) ∧ (∀ c, c < 3 → S.boxed c = true → pl gi (249 + 5 * c) = S.box c) ∧ (∀ c, c < 3 → gi 48 c = if S.boxed c = true then 1 else 0) ∧ (gi 38 2 = N S.ns) ∧ (gr 38 1 = some sl ∧ (hk sl).1 = 4 ∧ S.ns ≤ (hk sl).2 ∧ (hk sl).2 ≤ 60 ∧ 2 ≤ (hk sl).2) ∧ (sl = 39 ∨ (264 ≤ sl ∧ sl ∉ L ∧ sl ≠ ask)) ∧ (∀ i, i < S.ns → gr sl i = some (sf i) ∧ (hk (sf i)).1 = 21 ∧ 264 ≤ sf i ∧ sf i < nx ∧ sf i ∉ L ∧ sf i ≠ ask ∧ gr (sf i) 6 = some 0) ∧ (∀ i j, i < S.ns → j < S.ns → sf i = sf j → i = j) ∧ (∀ i, i < S.ns → gi (sf i) 0 = S.sg 0 i ∧ gi (sf i) 1 = S.sg 1 i ∧ (S.sg 1 i < 0 → gi (sf i) 2 = S.sg 2 i) ∧ gi (sf i) 3 = S.sg 4 i ∧ gi (sf i) 4 = S.sg 3 i ∧ gi (sf i) 5 = S.sg 5 i) ∧ (264 ≤ nx ∧ sl < nx ∧ ask < nx ∧ ∀ c, c ∈ L → c < nx ∨ 1000000 ≤ c)
theorem RX.mk {hk : HK} {nx : Nat} {gi : GI} {gr : GR} {b ask : Nat} {L : List Nat} {sl : Nat} {sf w : Nat → Nat} {S : St} (wd_ : XWd hk gi gr b ask L S.B) (now_ : pl gi 11 = S.P) (taped_ : gi 0 1 = N S.taped) (tape_ : ∀ k, k < S.taped → gi 1 k = S.tape k) (fk_ : gi 0 2 = S.fk) (fp_ : gi 0 3 = S.fp) (time_ : gi 0 9 = N S.time) (acts_ : gi 0 11 = N S.acts) (undone_ : gi 0 12 = N S.undone) (rm_ : S.acts + S.undone ≤ 40) (laid_ : gi 0 18 = N S.laid) (lies_ : ∀ i, i < S.laid → gi 34 i = S.lies i) (were_ : ∀ i, i < 40 → gr 31 i = some (49 + 5 * w i) ∧ w i < 40) (inj_ : ∀ i j, i < 40 → j < 40 → w i = w j → i = j) (was_ : ∀ i, i < S.acts + S.undone → pl gi (49 + 5 * w i) = S.was i) (box_ : ∀ c, c < 3 → S.boxed c = true → pl gi (249 + 5 * c) = S.box c) (boxed_ : ∀ c, c < 3 → gi 48 c = if S.boxed c = true then 1 else 0) (sgn_ : gi 38 2 = N S.ns) (sge_ : gr 38 1 = some sl ∧ (hk sl).1 = 4 ∧ S.ns ≤ (hk sl).2 ∧ (hk sl).2 ≤ 60 ∧ 2 ≤ (hk sl).2) (slx_ : sl = 39 ∨ (264 ≤ sl ∧ sl ∉ L ∧ sl ≠ ask)) (sgc_ : ∀ i, i < S.ns → gr sl i = some (sf i) ∧ (hk (sf i)).1 = 21 ∧ 264 ≤ sf i ∧ sf i < nx ∧ sf i ∉ L ∧ sf i ≠ ask ∧ gr (sf i) 6 = some 0) (sgi_ : ∀ i j, i < S.ns → j < S.ns → sf i = sf j → i = j) (sgv_ : ∀ i, i < S.ns → gi (sf i) 0 = S.sg 0 i ∧ gi (sf i) 1 = S.sg 1 i ∧ (S.sg 1 i < 0 → gi (sf i) 2 = S.sg 2 i) ∧ gi (sf i) 3 = S.sg 4 i ∧ gi (sf i) 4 = S.sg 3 i ∧ gi (sf i) 5 = S.sg 5 i) (room_ : 264 ≤ nx ∧ sl < nx ∧ ask < nx ∧ ∀ c, c ∈ L → c < nx ∨ 1000000 ≤ c) : RX hk nx gi gr b ask L sl sf w S := And.intro wd_ (And.intro now_ (And.intro taped_ (And.intro tape_ (And.intro fk_ (And.intro fp_ (And.intro time_ (And.intro acts_ (And.intro undone_ (And.intro rm_ (And.intro laid_ (And.intro lies_ (And.intro were_ (And.intro inj_ (And.intro was_ (And.intro box_ (And.intro boxed_ (And.intro sgn_ (And.intro sge_ (And.intro slx_ (And.intro sgc_ (And.intro sgi_ (And.intro sgv_ room_))))))))))))))))))))))
theorem RX.wd {hk : HK} {nx : Nat} {gi : GI} {gr : GR} {b ask : Nat} {L : List Nat} {sl : Nat} {sf w : Nat → Nat} {S : St} (h : RX hk nx gi gr b ask L sl sf w S) : XWd hk gi gr b ask L S.B := h.1
theorem RX.now {hk : HK} {nx : Nat} {gi : GI} {gr : GR} {b ask : Nat} {L : List Nat} {sl : Nat} {sf w : Nat → Nat} {S : St} (h : RX hk nx gi gr b ask L sl sf w S) : pl gi 11 = S.P := h.2.1
theorem RX.taped {hk : HK} {nx : Nat} {gi : GI} {gr : GR} {b ask : Nat} {L : List Nat} {sl : Nat} {sf w : Nat → Nat} {S : St} (h : RX hk nx gi gr b ask L sl sf w S) : gi 0 1 = N S.taped := h.2.2.1
theorem RX.tape {hk : HK} {nx : Nat} {gi : GI} {gr : GR} {b ask : Nat} {L : List Nat} {sl : Nat} {sf w : Nat → Nat} {S : St} (h : RX hk nx gi gr b ask L sl sf w S) : ∀ k, k < S.taped → gi 1 k = S.tape k := h.2.2.2.1
theorem RX.fk {hk : HK} {nx : Nat} {gi : GI} {gr : GR} {b ask : Nat} {L : List Nat} {sl : Nat} {sf w : Nat → Nat} {S : St} (h : RX hk nx gi gr b ask L sl sf w S) : gi 0 2 = S.fk := h.2.2.2.2.1
theorem RX.fp {hk : HK} {nx : Nat} {gi : GI} {gr : GR} {b ask : Nat} {L : List Nat} {sl : Nat} {sf w : Nat → Nat} {S : St} (h : RX hk nx gi gr b ask L sl sf w S) : gi 0 3 = S.fp := h.2.2.2.2.2.1
theorem RX.time {hk : HK} {nx : Nat} {gi : GI} {gr : GR} {b ask : Nat} {L : List Nat} {sl : Nat} {sf w : Nat → Nat} {S : St} (h : RX hk nx gi gr b ask L sl sf w S) : gi 0 9 = N S.time := h.2.2.2.2.2.2.1
theorem RX.acts {hk : HK} {nx : Nat} {gi : GI} {gr : GR} {b ask : Nat} {L : List Nat} {sl : Nat} {sf w : Nat → Nat} {S : St} (h : RX hk nx gi gr b ask L sl sf w S) : gi 0 11 = N S.acts := h.2.2.2.2.2.2.2.1
theorem RX.undone {hk : HK} {nx : Nat} {gi : GI} {gr : GR} {b ask : Nat} {L : List Nat} {sl : Nat} {sf w : Nat → Nat} {S : St} (h : RX hk nx gi gr b ask L sl sf w S) : gi 0 12 = N S.undone := h.2.2.2.2.2.2.2.2.1
theorem RX.rm {hk : HK} {nx : Nat} {gi : GI} {gr : GR} {b ask : Nat} {L : List Nat} {sl : Nat} {sf w : Nat → Nat} {S : St} (h : RX hk nx gi gr b ask L sl sf w S) : S.acts + S.undone ≤ 40 := h.2.2.2.2.2.2.2.2.2.1
theorem RX.laid {hk : HK} {nx : Nat} {gi : GI} {gr : GR} {b ask : Nat} {L : List Nat} {sl : Nat} {sf w : Nat → Nat} {S : St} (h : RX hk nx gi gr b ask L sl sf w S) : gi 0 18 = N S.laid := h.2.2.2.2.2.2.2.2.2.2.1
theorem RX.lies {hk : HK} {nx : Nat} {gi : GI} {gr : GR} {b ask : Nat} {L : List Nat} {sl : Nat} {sf w : Nat → Nat} {S : St} (h : RX hk nx gi gr b ask L sl sf w S) : ∀ i, i < S.laid → gi 34 i = S.lies i := h.2.2.2.2.2.2.2.2.2.2.2.1
theorem RX.were {hk : HK} {nx : Nat} {gi : GI} {gr : GR} {b ask : Nat} {L : List Nat} {sl : Nat} {sf w : Nat → Nat} {S : St} (h : RX hk nx gi gr b ask L sl sf w S) : ∀ i, i < 40 → gr 31 i = some (49 + 5 * w i) ∧ w i < 40 := h.2.2.2.2.2.2.2.2.2.2.2.2.1
theorem RX.inj {hk : HK} {nx : Nat} {gi : GI} {gr : GR} {b ask : Nat} {L : List Nat} {sl : Nat} {sf w : Nat → Nat} {S : St} (h : RX hk nx gi gr b ask L sl sf w S) : ∀ i j, i < 40 → j < 40 → w i = w j → i = j := h.2.2.2.2.2.2.2.2.2.2.2.2.2.1
theorem RX.was {hk : HK} {nx : Nat} {gi : GI} {gr : GR} {b ask : Nat} {L : List Nat} {sl : Nat} {sf w : Nat → Nat} {S : St} (h : RX hk nx gi gr b ask L sl sf w S) : ∀ i, i < S.acts + S.undone → pl gi (49 + 5 * w i) = S.was i := h.2.2.2.2.2.2.2.2.2.2.2.2.2.2.1
theorem RX.box {hk : HK} {nx : Nat} {gi : GI} {gr : GR} {b ask : Nat} {L : List Nat} {sl : Nat} {sf w : Nat → Nat} {S : St} (h : RX hk nx gi gr b ask L sl sf w S) : ∀ c, c < 3 → S.boxed c = true → pl gi (249 + 5 * c) = S.box c := h.2.2.2.2.2.2.2.2.2.2.2.2.2.2.2.1
theorem RX.boxed {hk : HK} {nx : Nat} {gi : GI} {gr : GR} {b ask : Nat} {L : List Nat} {sl : Nat} {sf w : Nat → Nat} {S : St} (h : RX hk nx gi gr b ask L sl sf w S) : ∀ c, c < 3 → gi 48 c = if S.boxed c = true then 1 else 0 := h.2.2.2.2.2.2.2.2.2.2.2.2.2.2.2.2.1
theorem RX.sgn {hk : HK} {nx : Nat} {gi : GI} {gr : GR} {b ask : Nat} {L : List Nat} {sl : Nat} {sf w : Nat → Nat} {S : St} (h : RX hk nx gi gr b ask L sl sf w S) : gi 38 2 = N S.ns := h.2.2.2.2.2.2.2.2.2.2.2.2.2.2.2.2.2.1
theorem RX.sge {hk : HK} {nx : Nat} {gi : GI} {gr : GR} {b ask : Nat} {L : List Nat} {sl : Nat} {sf w : Nat → Nat} {S : St} (h : RX hk nx gi gr b ask L sl sf w S) : gr 38 1 = some sl ∧ (hk sl).1 = 4 ∧ S.ns ≤ (hk sl).2 ∧ (hk sl).2 ≤ 60 ∧ 2 ≤ (hk sl).2 := h.2.2.2.2.2.2.2.2.2.2.2.2.2.2.2.2.2.2.1
theorem RX.slx {hk : HK} {nx : Nat} {gi : GI} {gr : GR} {b ask : Nat} {L : List Nat} {sl : Nat} {sf w : Nat → Nat} {S : St} (h : RX hk nx gi gr b ask L sl sf w S) : sl = 39 ∨ (264 ≤ sl ∧ sl ∉ L ∧ sl ≠ ask) := h.2.2.2.2.2.2.2.2.2.2.2.2.2.2.2.2.2.2.2.1
theorem RX.sgc {hk : HK} {nx : Nat} {gi : GI} {gr : GR} {b ask : Nat} {L : List Nat} {sl : Nat} {sf w : Nat → Nat} {S : St} (h : RX hk nx gi gr b ask L sl sf w S) : ∀ i, i < S.ns → gr sl i = some (sf i) ∧ (hk (sf i)).1 = 21 ∧ 264 ≤ sf i ∧ sf i < nx ∧ sf i ∉ L ∧ sf i ≠ ask ∧ gr (sf i) 6 = some 0 := h.2.2.2.2.2.2.2.2.2.2.2.2.2.2.2.2.2.2.2.2.1
theorem RX.sgi {hk : HK} {nx : Nat} {gi : GI} {gr : GR} {b ask : Nat} {L : List Nat} {sl : Nat} {sf w : Nat → Nat} {S : St} (h : RX hk nx gi gr b ask L sl sf w S) : ∀ i j, i < S.ns → j < S.ns → sf i = sf j → i = j := h.2.2.2.2.2.2.2.2.2.2.2.2.2.2.2.2.2.2.2.2.2.1
theorem RX.sgv {hk : HK} {nx : Nat} {gi : GI} {gr : GR} {b ask : Nat} {L : List Nat} {sl : Nat} {sf w : Nat → Nat} {S : St} (h : RX hk nx gi gr b ask L sl sf w S) : ∀ i, i < S.ns → gi (sf i) 0 = S.sg 0 i ∧ gi (sf i) 1 = S.sg 1 i ∧ (S.sg 1 i < 0 → gi (sf i) 2 = S.sg 2 i) ∧ gi (sf i) 3 = S.sg 4 i ∧ gi (sf i) 4 = S.sg 3 i ∧ gi (sf i) 5 = S.sg 5 i := h.2.2.2.2.2.2.2.2.2.2.2.2.2.2.2.2.2.2.2.2.2.2.1
theorem RX.room {hk : HK} {nx : Nat} {gi : GI} {gr : GR} {b ask : Nat} {L : List Nat} {sl : Nat} {sf w : Nat → Nat} {S : St} (h : RX hk nx gi gr b ask L sl sf w S) : 264 ≤ nx ∧ sl < nx ∧ ask < nx ∧ ∀ c, c ∈ L → c < nx ∨ 1000000 ≤ c := h.2.2.2.2.2.2.2.2.2.2.2.2.2.2.2.2.2.2.2.2.2.2.2
/-- what is not kept may change -/
abbrev XFr (ask : Nat) (gi gi' : GI) : Prop := (∀ k, k = 1 ∨ k = 2 ∨ k = 3 ∨ k = 9 ∨ k = 11 ∨ k = 12 ∨ k = 18 → gi' 0 k = gi 0 k) ∧ (∀ c, c ≠ 0 → c ≠ ask → ¬ (16 ≤ c ∧ c ≤ 30) → ¬ (32 ≤ c ∧ c ≤ 33) → ¬ (35 ≤ c ∧ c ≤ 37) → ¬ (40 ≤ c ∧ c ≤ 46) → gi' c = gi c)
theorem XFr.own {ask : Nat} {gi gi' : GI} (h : XFr ask gi gi') : ∀ k, k = 1 ∨ k = 2 ∨ k = 3 ∨ k = 9 ∨ k = 11 ∨ k = 12 ∨ k = 18 → gi' 0 k = gi 0 k := h.1
theorem XFr.cells {ask : Nat} {gi gi' : GI} (h : XFr ask gi gi') : ∀ c, c ≠ 0 → c ≠ ask → ¬ (16 ≤ c ∧ c ≤ 30) → ¬ (32 ≤ c ∧ c ≤ 33) → ¬ (35 ≤ c ∧ c ≤ 37) → ¬ (40 ≤ c ∧ c ≤ 46) → gi' c = gi c := h.2
theorem XFr.refl (ask : Nat) (gi : GI) : XFr ask gi gi := ⟨fun _ _ => rfl, fun _ _ _ _ _ _ _ => rfl⟩
theorem XFr.trans {ask : Nat} {a b c : GI} (h : XFr ask a b) (g : XFr ask b c) : XFr ask a c := ⟨fun k hk => (g.own k hk).trans (h.own k hk), fun c h1 h2 h3 h4 h5 h6 => (g.cells c h1 h2 h3 h4 h5 h6).trans (h.cells c h1 h2 h3 h4 h5 h6)⟩
theorem KX.xfr {ask : Nat} {gi gi' : GI} (h : KX ask gi gi') : XFr ask gi gi' := ⟨fun k hk => h.1 k (by omega) (by omega), fun c h1 h2 h3 h4 h5 h6 => h.2 c h1 h2 (by omega) (by omega) (by omega)⟩
theorem not_st {c : Nat} (h : ¬ isSt c) : 2 ≤ c ∧ ¬ (11 ≤ c ∧ c < 264) := by
  unfold isSt at h
  omega
theorem st_not {c : Nat} (h : 264 ≤ c) : ¬ isSt c := by
  unfold isSt
  omega
theorem RX.askst {hk : HK} {nx : Nat} {gi : GI} {gr : GR} {b ask : Nat} {L : List Nat} {sl : Nat} {sf w : Nat → Nat} {S : St} (r : RX hk nx gi gr b ask L sl sf w S) : 2 ≤ ask ∧ ¬ (11 ≤ ask ∧ ask < 264) := not_st (r.wd.sep ask (Or.inr rfl))
theorem XFr.wd {hk : HK} {gi gi' : GI} {gr : GR} {b ask : Nat} {L : List Nat} {B : Bk} (h : XFr ask gi gi') (w : XWd hk gi gr b ask L B) : XWd hk gi' gr b ask L B :=
  w.over (fun c h1 h2 => by
    have := not_st h1
    exact h.cells c (by omega) h2 (by omega) (by omega) (by omega) (by omega))
/-- the Plots that are kept -/
theorem XFr.plk {ask : Nat} {gi gi' : GI} (h : XFr ask gi gi') (ha : ¬ (11 ≤ ask ∧ ask < 264)) {p : Nat} (hp : p = 11 ∨ (49 ≤ p ∧ p ≤ 259)) : pl gi' p = pl gi p :=
  pl_same (fun c h1 h2 => h.cells c (by omega) (by omega) (by omega) (by omega) (by omega) (by omega))
theorem XFr.plw {ask : Nat} {gi gi' : GI} (h : XFr ask gi gi') (ha : ¬ (11 ≤ ask ∧ ask < 264)) (i : Nat) (hi : i < 40) : pl gi' (49 + 5 * i) = pl gi (49 + 5 * i) := h.plk ha (Or.inr (by omega))
theorem XPl.gr {hk : HK} {gr gr' : GR} {p : Nat} (h : gr' p = gr p) (x : XPl hk gr p) : XPl hk gr' p := by
  obtain ⟨a, b, c, d, e, f⟩ := x
  refine ⟨a, ?_, ?_, ?_, ?_, f⟩ <;> rw [h] <;> assumption
theorem XLay.gr {hk : HK} {gr gr' : GR} (h : ∀ c, isSt c → c ≠ 31 → c ≠ 39 → gr' c = gr c) (h38 : gr' 38 = gr 38) (h0 : ∀ k, k ≠ 4 → gr' 0 k = gr 0 k) (x : XLay hk gr) : XLay hk gr' := by
  have e41 := h 41 (by unfold isSt; omega) (by decide) (by decide)
  have e47 := h 47 (by unfold isSt; omega) (by decide) (by decide)
  refine ⟨x.k0, ?_, x.k1, ?_, ?_, ?_, ?_, ?_, ?_, x.k31, ?_, x.k32, ?_, x.k33, ?_, x.k34, ?_, x.k35, ?_, x.k36, ?_, x.k37, ?_, x.k38, ?_, x.k40, ?_, x.k41, ?_, ?_, x.k47, ?_, ?_, x.k48⟩
  · rw [h0 0 (by decide)]; exact x.f0
  · rw [h0 5 (by decide)]; exact x.f5
  · rw [h0 6 (by decide)]; exact x.f6
  · rw [h0 7 (by decide)]; exact x.f7
  · rw [h0 8 (by decide)]; exact x.f8
  · intro p hp
    have := hp.low
    exact (x.pls p hp).gr (h p (hp.st (Nat.le_refl _) (by omega)) (by omega) (by omega))
  · rw [h0 10 (by decide)]; exact x.f10
  · rw [h0 13 (by decide)]; exact x.f13
  · rw [h0 14 (by decide)]; exact x.f14
  · rw [h0 15 (by decide)]; exact x.f15
  · rw [h0 19 (by decide)]; exact x.f19
  · rw [h0 20 (by decide)]; exact x.f20
  · rw [h0 21 (by decide)]; exact x.f21
  · rw [h0 25 (by decide)]; exact x.f25
  · rw [h0 26 (by decide)]; exact x.f26
  · rw [h0 27 (by decide)]; exact x.f27
  · rw [e41]; exact x.t41
  · rw [h0 28 (by decide)]; exact x.f28
  · rw [e47]; exact x.t47
  · rw [h0 29 (by decide)]; exact x.f29
/-- the sights as they are, the rest told anew -/
theorem RX.gen {hk : HK} {nx : Nat} {gi : GI} {gr : GR} {b ask : Nat} {L : List Nat} {sl : Nat} {sf w : Nat → Nat} {S : St} (r : RX hk nx gi gr b ask L sl sf w S) {gi' : GI} {gr' : GR} {w' : Nat → Nat} (S' : St) (hB : S'.B = S.B) (hn : S'.ns = S.ns) (hs : S'.sg = S.sg) (hc : ∀ c, ¬ isSt c → c ≠ ask → gi' c = gi c) (h38 : gi' 38 = gi 38) (hg : ∀ c, c ≠ 31 → gr' c = gr c)
    (now : pl gi' 11 = S'.P) (taped : gi' 0 1 = N S'.taped) (tape : ∀ k, k < S'.taped → gi' 1 k = S'.tape k) (fk : gi' 0 2 = S'.fk) (fp : gi' 0 3 = S'.fp) (time : gi' 0 9 = N S'.time) (acts : gi' 0 11 = N S'.acts) (undone : gi' 0 12 = N S'.undone) (rm : S'.acts + S'.undone ≤ 40) (laid : gi' 0 18 = N S'.laid) (lies : ∀ i, i < S'.laid → gi' 34 i = S'.lies i)
    (were : ∀ i, i < 40 → gr' 31 i = some (49 + 5 * w' i) ∧ w' i < 40) (inj : ∀ i j, i < 40 → j < 40 → w' i = w' j → i = j) (was : ∀ i, i < S'.acts + S'.undone → pl gi' (49 + 5 * w' i) = S'.was i) (box : ∀ c, c < 3 → S'.boxed c = true → pl gi' (249 + 5 * c) = S'.box c) (boxed : ∀ c, c < 3 → gi' 48 c = if S'.boxed c = true then 1 else 0) : RX hk nx gi' gr' b ask L sl sf w' S' := by
  have h31 : ∀ c, ¬ isSt c → c ≠ 31 := fun c hc e => hc (by unfold isSt; omega)
  have wd : XWd hk gi' gr' b ask L S'.B := by
    rw [hB]
    refine ⟨r.wd.lay.gr (fun c _ h1 _ => hg c h1) (hg 38 (by decide)) (fun k _ => by rw [hg 0 (by decide)]), by rw [hg 0 (by decide)]; exact r.wd.f4, ?_, r.wd.sep⟩
    refine r.wd.bk.keep (fun c hcL => ?_) rfl
    have h1 := r.wd.sep c (Or.inl hcL)
    exact ⟨rfl, hc c h1 (fun e => r.wd.bk.ask.2.2 (e ▸ hcL)), hg c (h31 c h1)⟩
  have sl31 : sl ≠ 31 := by
    rcases r.slx with h | h <;> omega
  refine RX.mk wd now taped tape fk fp time acts undone rm laid lies were inj was box boxed ?_ ?_ r.slx ?_ ?_ ?_ r.room
  · rw [h38, hn]; exact r.sgn
  · rw [hg 38 (by decide), hn]; exact r.sge
  · intro i hi
    rw [hn] at hi
    obtain ⟨a1, a2, a3, a4, a5, a6, a7⟩ := r.sgc i hi
    rw [hg sl sl31, hg (sf i) (by omega)]
    exact ⟨a1, a2, a3, a4, a5, a6, a7⟩
  · rw [hn]; exact r.sgi
  · intro i hi
    rw [hn] at hi
    obtain ⟨a1, a2, a3, a4, a5, a6, a7⟩ := r.sgc i hi
    rw [hc (sf i) (st_not a3) a6, hs]
    exact r.sgv i hi
theorem RX.plw {hk : HK} {nx : Nat} {gi : GI} {gr : GR} {b ask : Nat} {L : List Nat} {sl : Nat} {sf w : Nat → Nat} {S : St} (r : RX hk nx gi gr b ask L sl sf w S) {i : Nat} (hi : i < S.acts + S.undone) : w i < 40 := (r.were i (by have := r.rm; omega)).2
theorem XFr.rx {hk : HK} {nx : Nat} {gi gi' : GI} {gr : GR} {b ask : Nat} {L : List Nat} {sl : Nat} {sf w : Nat → Nat} {S : St} (h : XFr ask gi gi') (r : RX hk nx gi gr b ask L sl sf w S) : RX hk nx gi' gr b ask L sl sf w S := by
  have ha := r.askst
  have o := h.own
  have c : ∀ c, c = 1 ∨ c = 34 ∨ c = 38 ∨ c = 48 ∨ (264 ≤ c ∧ c ≠ ask) → gi' c = gi c := fun c hc => h.cells c (by omega) (by omega) (by omega) (by omega) (by omega) (by omega)
  refine r.gen S rfl rfl rfl (fun c h1 h2 => ?_) (c 38 (by omega)) (fun _ _ => rfl) ?_ ?_ ?_ ?_ ?_ ?_ ?_ ?_ r.rm ?_ ?_ r.were r.inj ?_ ?_ ?_
  · have := not_st h1
    exact h.cells c (by omega) h2 (by omega) (by omega) (by omega) (by omega)
  · rw [h.plk ha.2 (Or.inl rfl)]; exact r.now
  · rw [o 1 (by omega)]; exact r.taped
  · rw [c 1 (by omega)]; exact r.tape
  · rw [o 2 (by omega)]; exact r.fk
  · rw [o 3 (by omega)]; exact r.fp
  · rw [o 9 (by omega)]; exact r.time
  · rw [o 11 (by omega)]; exact r.acts
  · rw [o 12 (by omega)]; exact r.undone
  · rw [o 18 (by omega)]; exact r.laid
  · rw [c 34 (by omega)]; exact r.lies
  · intro i hi
    rw [h.plw ha.2 _ (r.plw hi)]; exact r.was i hi
  · intro b hb h1; rw [h.plk ha.2 (Or.inr (by omega))]; exact r.box b hb h1
  · rw [c 48 (by omega)]; exact r.boxed
theorem RX.over0 {hk : HK} {nx : Nat} {gi : GI} {gr : GR} {b ask : Nat} {L : List Nat} {sl : Nat} {sf w : Nat → Nat} {S : St} (r : RX hk nx gi gr b ask L sl sf w S) (o : SOk S) : POk S.B (pl gi 11) := by rw [r.now]; exact o.row.ok
theorem x_fault {hk : HK} {nx : Nat} {gi : GI} {gr : GR} {b ask : Nat} {L : List Nat} {sl : Nat} {sf w : Nat → Nat} {S : St} (r : RX hk nx gi gr b ask L sl sf w S) (x : Int32) : f_X0_fault hk gi gr 0 x = some (q_fault S x) := by
  unfold f_X0_fault q_fault
  rw [r.fk, r.fp]
  split
  · rfl
  · split <;> rfl
theorem x_rich {hk : HK} {gi : GI} {gr : GR} {p : Nat} (xp : XPl hk gr p) {m : Nat} (hm : m < 5) : f_X3_rich hk gi gr p (N m) = some (sum3 (pl gi p) (3 * m)) := by
  rw [f_X3_rich, show (0 : Int32) = N 0 from rfl, show (1 : Int32) = N 1 from rfl, show (2 : Int32) = N 2 from rfl, x_purse xp hm (by decide), Option.bind_some, x_purse xp hm (by decide), Option.bind_some, x_purse xp hm (by decide), Option.bind_some]
  rfl
theorem x_wages {hk : HK} {gi : GI} {gr : GR} {L : List Nat} {c : Nat} {B : Bk} {m : Nat} (x : XMan hk gi gr L c B m) : f_X7_wages hk gi gr c = some (B.pay m 0 + B.pay m 1 + B.pay m 2) := by
  obtain ⟨a, a1, a2, a3, a4⟩ := x.pay
  have l0 : g_ld gi a 3 0 = some (B.pay m 0) := by rw [show (0 : Int32) = N 0 from rfl, N_ld (by decide) (by decide), a4 0 (by decide)]
  have l1 : g_ld gi a 3 1 = some (B.pay m 1) := by rw [show (1 : Int32) = N 1 from rfl, N_ld (by decide) (by decide), a4 1 (by decide)]
  have l2 : g_ld gi a 3 2 = some (B.pay m 2) := by rw [show (2 : Int32) = N 2 from rfl, N_ld (by decide) (by decide), a4 2 (by decide)]
  simp only [f_X7_wages, a2, Option.bind_some, g_is_of' a3, a3, l0, l1, l2]
theorem x_manq {hk : HK} {nx : Nat} {gi : GI} {gr : GR} {b ask : Nat} {L : List Nat} {sl : Nat} {sf w : Nat → Nat} {S : St} (r : RX hk nx gi gr b ask L sl sf w S) (o : SOk S) (x y : Int32) : ∃ gi', f_X0_man hk gi gr 0 x y = some (q_man S x y, gi') ∧ XFr ask gi gi' := by
  have h5 := r.wd.bk.ok.nm
  have xp := r.wd.lay.pls 11 pl11
  rw [f_X0_man, x_isMan r.wd, Option.bind_some]
  unfold q_man
  cases h : asQ x S.B.nm with
  | none => exact ⟨gi, rfl, XFr.refl ask gi⟩
  | some m =>
    obtain ⟨rfl, hm⟩ := asQ_some h
    simp only [Option.isSome_some, if_true]
    obtain ⟨ml, f, m1, m2, m3, m4⟩ := x_men r.wd.bk
    obtain ⟨m5, m6⟩ := m4 m hm
    rw [if_neg (by decide), r.wd.f4, Option.bind_some, g_is_of r.wd.bk.k, Option.bind_some, m1, Option.bind_some, g_is_of m2, Option.bind_some, m5, Option.bind_some, g_is_of m6.k, Option.bind_some]
    by_cases hy : y.toInt < 0 ∨ 6 < y.toInt
    · have hn := fun k hk => sw_out (n := 6) (k := k) hk (by decide) hy
      have h0 : y ≠ 0 := hn 0 (by decide)
      have h1 : y ≠ 1 := hn 1 (by decide)
      have h2 : y ≠ 2 := hn 2 (by decide)
      have h3 : y ≠ 3 := hn 3 (by decide)
      have h4 : y ≠ 4 := hn 4 (by decide)
      have h5 : y ≠ 5 := hn 5 (by decide)
      have h6 : y ≠ 6 := hn 6 (by decide)
      simp only [if_pos hy, if_neg h0, if_neg h1, if_neg h2, if_neg h3, if_neg h4, if_neg h5, if_neg h6]
      exact ⟨gi, rfl, XFr.refl ask gi⟩
    · rw [if_neg hy]
      obtain ⟨k, hk6, rfl⟩ := sw_in (n := 6) (by decide) hy
      obtain ⟨g', g1, g2⟩ := x_growth r.wd.bk xp (r.wd.sp pl11) (r.over0 o).over0 (show m < 5 by omega)
      have e15 : g_ld gi (11 + 3) (hk (11 + 3)).2 (N m) = some (S.P (15 + m)) := by rw [xp.k3, N_ld (by omega) (by decide), ← r.now, pl_at_crop (by omega)]
      have e35 : g_ld gi (11 + 4) (hk (11 + 4)).2 (N m) = some (S.P (35 + m)) := by rw [xp.k4, N_ld (by omega) (by decide), ← r.now, pl_at_spent (by omega)]
      simp only [r.wd.lay.f5, Option.bind_some, g_is_of xp.k, xp.r2, xp.r3, g_is_of' xp.k3, g_is_of' xp.k4, e15, e35, g1, x_rich xp (show m < 5 by omega), x_wages m6, m6.hedge, m6.loose, r.now]
      match k, hk6 with
      | 0, _ => exact ⟨gi, rfl, XFr.refl ask gi⟩
      | 1, _ => exact ⟨gi, rfl, XFr.refl ask gi⟩
      | 2, _ =>
        have ha := r.askst
        exact ⟨g', rfl, fun k hk => by rw [g2 0 (by omega)], fun c _ h2 _ _ _ _ => g2 c h2⟩
      | 3, _ => exact ⟨gi, rfl, XFr.refl ask gi⟩
      | 4, _ => exact ⟨gi, rfl, XFr.refl ask gi⟩
      | 5, _ => exact ⟨gi, rfl, XFr.refl ask gi⟩
      | 6, _ =>
        refine ⟨gi, ?_, XFr.refl ask gi⟩
        by_cases hl : S.B.loose m = true
        · rw [hl]; rfl
        · have hl : S.B.loose m = false := by simpa using hl
          rw [hl]; rfl
theorem x_pursq {hk : HK} {nx : Nat} {gi : GI} {gr : GR} {b ask : Nat} {L : List Nat} {sl : Nat} {sf w : Nat → Nat} {S : St} (r : RX hk nx gi gr b ask L sl sf w S) (x y : Int32) : f_X0_purse hk gi gr 0 x y = some (q_purse S x y) := by
  have h5 := r.wd.bk.ok.nm
  have h3 := r.wd.bk.ok.nk
  have xp := r.wd.lay.pls 11 pl11
  rw [f_X0_purse, x_isMan r.wd, Option.bind_some]
  unfold q_purse at2
  cases h : asQ x S.B.nm with
  | none => rfl
  | some m =>
    obtain ⟨rfl, hm⟩ := asQ_some h
    simp only [Option.isSome_some, if_true]
    rw [if_neg (by decide), x_isKind r.wd, Option.bind_some]
    cases g : asQ y S.B.nk with
    | none => rfl
    | some k =>
      obtain ⟨rfl, hkk⟩ := asQ_some g
      simp only [Option.isSome_some, if_true]
      rw [if_neg (by decide), r.wd.lay.f5, Option.bind_some, g_is_of xp.k, Option.bind_some, x_purse xp (by omega) (by omega), r.now]; rfl
theorem x_over {hk : HK} {nx : Nat} {gi : GI} {gr : GR} {b ask : Nat} {L : List Nat} {B : Bk} (w : XWd hk gi gr b ask L B) (x y : Int32) : f_X0_over hk gi gr 0 x y = some (at2 (asQ x B.nm) (asQ y B.nk) (fun m k => pl gi 11 (20 + 3 * m + k)) (-1)) := by
  have h5 := w.bk.ok.nm
  have h3 := w.bk.ok.nk
  have xp := w.lay.pls 11 pl11
  rw [f_X0_over, x_isMan w, Option.bind_some]
  unfold at2
  cases h : asQ x B.nm with
  | none => rfl
  | some m =>
    obtain ⟨rfl, hm⟩ := asQ_some h
    simp only [Option.isSome_some, if_true]
    rw [if_neg (by decide), x_isKind w, Option.bind_some]
    cases g : asQ y B.nk with
    | none => rfl
    | some k =>
      obtain ⟨rfl, hkk⟩ := asQ_some g
      simp only [Option.isSome_some, if_true]
      rw [if_neg (by decide), w.lay.f5, Option.bind_some, g_is_of xp.k, Option.bind_some, xp.r1, Option.bind_some, g_is_of' xp.k2, Option.bind_some, xp.k2, show (3 : Int32) = N 3 from rfl, N_mul, N_add, N_ld (by omega) (by decide), Option.bind_some, show 20 + 3 * m + k = 20 + (3 * m + k) by omega, pl_at_over (by omega)]
theorem x_overq {hk : HK} {nx : Nat} {gi : GI} {gr : GR} {b ask : Nat} {L : List Nat} {sl : Nat} {sf w : Nat → Nat} {S : St} (r : RX hk nx gi gr b ask L sl sf w S) (x y : Int32) : f_X0_over hk gi gr 0 x y = some (q_over S x y) := by
  rw [x_over (nx := nx) r.wd, r.now]; rfl
theorem x_payq {hk : HK} {nx : Nat} {gi : GI} {gr : GR} {b ask : Nat} {L : List Nat} {sl : Nat} {sf w : Nat → Nat} {S : St} (r : RX hk nx gi gr b ask L sl sf w S) (x y : Int32) : f_X0_pay hk gi gr 0 x y = some (q_pay S x y) := by
  have h5 := r.wd.bk.ok.nm
  have h3 := r.wd.bk.ok.nk
  rw [f_X0_pay, x_isMan r.wd, Option.bind_some]
  unfold q_pay at2
  cases h : asQ x S.B.nm with
  | none => rfl
  | some m =>
    obtain ⟨rfl, hm⟩ := asQ_some h
    simp only [Option.isSome_some, if_true]
    rw [if_neg (by decide), x_isKind r.wd, Option.bind_some]
    cases g : asQ y S.B.nk with
    | none => rfl
    | some k =>
      obtain ⟨rfl, hkk⟩ := asQ_some g
      simp only [Option.isSome_some, if_true]
      obtain ⟨ml, f, m1, m2, m3, m4⟩ := x_men r.wd.bk
      obtain ⟨m5, m6⟩ := m4 m hm
      obtain ⟨a, a1, a2, a3, a4⟩ := m6.pay
      rw [if_neg (by decide), r.wd.f4, Option.bind_some, g_is_of r.wd.bk.k, Option.bind_some, m1, Option.bind_some, g_is_of m2, Option.bind_some, m5, Option.bind_some, g_is_of m6.k, Option.bind_some, a2, Option.bind_some, g_is_of' a3, Option.bind_some, a3, N_ld (by omega) (by decide), Option.bind_some, a4 k (by omega)]
theorem x_allq {hk : HK} {nx : Nat} {gi : GI} {gr : GR} {b ask : Nat} {L : List Nat} {sl : Nat} {sf w : Nat → Nat} {S : St} (r : RX hk nx gi gr b ask L sl sf w S) (x y : Int32) : f_X0_all hk gi gr 0 x y = some (q_all S x y) := by
  have h5 := r.wd.bk.ok.nm
  have h3 := r.wd.bk.ok.nk
  have xp := r.wd.lay.pls 11 pl11
  rw [f_X0_all, x_isKind r.wd, Option.bind_some]
  unfold q_all
  cases h : asQ x S.B.nk with
  | none => rfl
  | some k =>
    obtain ⟨rfl, hkk⟩ := asQ_some h
    simp only [Option.isSome_some, if_true]
    rw [if_neg (by decide), x_isIn, in01, Option.bind_some]
    have key : ∀ f : Nat → Int32, (∀ m, m < 5 → ∀ v, f_X0_all_l24 hk gi gr 0 (N k) y v (N m) = if S.B.nm ≤ m then some (.inr v) else some (.inl (v + f m, N (m + 1)))) → g_loop g_K (fun (s : Int32 × Int32) => f_X0_all_l24 hk gi gr 0 (N k) y s.1 s.2) (0, 0) = some (sumOver f S.B.nm) := by
      intro f hf
      refine loop_T (fun i => (sumOver f i, N i)) S.B.nm rfl ?_ ?_ (by simp only [g_K]; omega)
      · intro i hi
        dsimp only
        rw [hf i (by omega), if_neg (by omega)]; rfl
      · dsimp only
        by_cases h : S.B.nm < 5
        · rw [hf _ h, if_pos (Nat.le_refl _)]
        · rw [f_X0_all_l24, x_menN r.wd, Option.bind_some, if_pos (Int32.le_refl _)]
    by_cases y0 : y = 0
    · rw [if_pos (Or.inl y0), if_neg (by decide), if_pos y0, key (fun m => S.P (3 * m + k)) ?_]
      · rfl
      · intro m hm v
        rw [f_X0_all_l24, x_menN r.wd, Option.bind_some, if_le (by omega) (by omega)]
        by_cases hq : S.B.nm ≤ m
        · rw [if_pos hq, if_pos hq]
        · rw [if_neg hq, if_neg hq, if_pos y0, r.wd.lay.f5, Option.bind_some, g_is_of xp.k, Option.bind_some, x_purse xp hm (by omega), Option.bind_some, r.now, show (1 : Int32) = N 1 from rfl, N_add]
    · by_cases y1 : y = 1
      · rw [if_pos (Or.inr y1), if_neg (by decide), if_neg y0, if_pos y1, key (fun m => S.P (20 + 3 * m + k)) ?_]
        · rfl
        · intro m hm v
          rw [f_X0_all_l24, x_menN r.wd, Option.bind_some, if_le (by omega) (by omega)]
          by_cases hq : S.B.nm ≤ m
          · rw [if_pos hq, if_pos hq]
          · rw [if_neg hq, if_neg hq, if_neg y0, x_overq r, q_over, asQ_of (by omega) (by omega), asQ_of hkk (by omega), at2, Option.bind_some, show (1 : Int32) = N 1 from rfl, N_add]
      · rw [if_neg (show ¬ (y = 0 ∨ y = 1) from fun h => h.elim y0 y1), if_pos rfl, if_neg y0, if_neg y1]
theorem x_leftq {hk : HK} {nx : Nat} {gi : GI} {gr : GR} {b ask : Nat} {L : List Nat} {sl : Nat} {sf w : Nat → Nat} {S : St} (r : RX hk nx gi gr b ask L sl sf w S) (o : SOk S) (x : Int32) : f_X0_left hk gi gr 0 x = some (q_left S x) := by
  have h5 := r.wd.bk.ok.nm
  rw [f_X0_left, x_isMan r.wd, Option.bind_some]
  unfold q_left
  cases h : asQ x S.B.nm with
  | none => rfl
  | some m =>
    obtain ⟨rfl, hm⟩ := asQ_some h
    simp only [Option.isSome_some, if_true]
    rw [if_neg (by decide), r.wd.lay.f5, Option.bind_some, x_left r.wd pl11 (r.over0 o) (by omega), r.now]; rfl
theorem x_liesq {hk : HK} {nx : Nat} {gi : GI} {gr : GR} {b ask : Nat} {L : List Nat} {sl : Nat} {sf w : Nat → Nat} {S : St} (r : RX hk nx gi gr b ask L sl sf w S) (o : SOk S) (x : Int32) : f_X0_lies hk gi gr 0 x = some (q_lies S x) := by
  have h6 := o.laid
  rw [f_X0_lies, x_isIn, r.laid, isIn_asQ x (by omega), Option.bind_some]
  unfold q_lies
  cases h : asQ x S.laid with
  | none => rfl
  | some m =>
    obtain ⟨rfl, hm⟩ := asQ_some h
    simp only [Option.isSome_some, if_true]
    rw [if_neg (by decide), r.wd.lay.f15, Option.bind_some, g_is_of' r.wd.lay.k34, Option.bind_some, r.wd.lay.k34, N_ld (by omega) (by decide), r.lies m hm]; rfl
theorem x_aboutq {hk : HK} {nx : Nat} {gi : GI} {gr : GR} {b ask : Nat} {L : List Nat} {sl : Nat} {sf w : Nat → Nat} {S : St} (r : RX hk nx gi gr b ask L sl sf w S) (x : Int32) : f_X0_about hk gi gr 0 x = some (q_about S x) := by
  have xp := r.wd.lay.pls 11 pl11
  unfold f_X0_about q_about
  by_cases hy : x.toInt < 0 ∨ 13 < x.toInt
  · have hn := fun k hk => sw_out (n := 13) (k := k) hk (by decide) hy
    have h0 : x ≠ 0 := hn 0 (by decide)
    have h1 : x ≠ 1 := hn 1 (by decide)
    have h2 : x ≠ 2 := hn 2 (by decide)
    have h3 : x ≠ 3 := hn 3 (by decide)
    have h4 : x ≠ 4 := hn 4 (by decide)
    have h5 : x ≠ 5 := hn 5 (by decide)
    have h6 : x ≠ 6 := hn 6 (by decide)
    have h7 : x ≠ 7 := hn 7 (by decide)
    have h8 : x ≠ 8 := hn 8 (by decide)
    have h9 : x ≠ 9 := hn 9 (by decide)
    have h10 : x ≠ 10 := hn 10 (by decide)
    have h11 : x ≠ 11 := hn 11 (by decide)
    have h12 : x ≠ 12 := hn 12 (by decide)
    have h13 : x ≠ 13 := hn 13 (by decide)
    simp only [if_pos hy, if_neg h0, if_neg h1, if_neg h2, if_neg h3, if_neg h4, if_neg h5, if_neg h6, if_neg h7, if_neg h8, if_neg h9, if_neg h10, if_neg h11, if_neg h12, if_neg h13]
  · rw [if_neg hy]
    obtain ⟨k, hk13, rfl⟩ := sw_in (n := 13) (by decide) hy
    obtain ⟨rl, rf, r1, r2, r3⟩ := r.wd.bk.rates
    have e40 : gi 11 4 = S.P 40 := by rw [← r.now]; rfl
    have e41 : gi 11 5 = S.P 41 := by rw [← r.now]; rfl
    simp only [x_menN r.wd, x_kindsN r.wd, r.wd.f4, g_is_of r.wd.bk.k, Option.bind_some, r.wd.bk.nb, r1, g_is_of r2.k, f_J2_size, r2.size, r.wd.lay.f5, g_is_of xp.k, e40, e41, r.wd.bk.hours, r.wd.bk.units, r.acts, r.undone, r.time, r.taped, r.laid, r.wd.lay.f25, g_is_of r.wd.lay.k38, r.sgn]
    match k, hk13 with
    | 0, _ => rfl
    | 1, _ => rfl
    | 2, _ => rfl
    | 3, _ => rfl
    | 4, _ => rfl
    | 5, _ => rfl
    | 6, _ => rfl
    | 7, _ => rfl
    | 8, _ => rfl
    | 9, _ => rfl
    | 10, _ => rfl
    | 11, _ => rfl
    | 12, _ => rfl
    | 13, _ => rfl

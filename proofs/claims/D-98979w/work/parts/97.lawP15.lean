set_option linter.unusedVariables false
set_option linter.unusedSimpArgs false
/-! THE PLAIN LAW: lines and texts -/
def Ps : Type := (Tk) × (Bk) × (Nat → Nat) × (Nat → Nat) × (Nat → Nat → Bool) × (Nat → Nat → Bool) × (Nat → Bool) × (Bool) × (Bool)
def Ps.t (h : Ps) : Tk := h.1
def Ps.B (h : Ps) : Bk := h.2.1
def Ps.kn (h : Ps) : Nat → Nat := h.2.2.1
def Ps.mn (h : Ps) : Nat → Nat := h.2.2.2.1
def Ps.pd (h : Ps) : Nat → Nat → Bool := h.2.2.2.2.1
def Ps.yd (h : Ps) : Nat → Nat → Bool := h.2.2.2.2.2.1
def Ps.hd (h : Ps) : Nat → Bool := h.2.2.2.2.2.2.1
def Ps.hh (h : Ps) : Bool := h.2.2.2.2.2.2.2.1
def Ps.dd (h : Ps) : Bool := h.2.2.2.2.2.2.2.2
def Ps.mk (t_ : Tk) (B_ : Bk) (kn_ : Nat → Nat) (mn_ : Nat → Nat) (pd_ : Nat → Nat → Bool) (yd_ : Nat → Nat → Bool) (hd_ : Nat → Bool) (hh_ : Bool) (dd_ : Bool) : Ps := (t_, B_, kn_, mn_, pd_, yd_, hd_, hh_, dd_)
def Ps.w_t (h : Ps) (x : Tk) : Ps := (x, h.2.1, h.2.2.1, h.2.2.2.1, h.2.2.2.2.1, h.2.2.2.2.2.1, h.2.2.2.2.2.2.1, h.2.2.2.2.2.2.2.1, h.2.2.2.2.2.2.2.2)
def Ps.w_B (h : Ps) (x : Bk) : Ps := (h.1, x, h.2.2.1, h.2.2.2.1, h.2.2.2.2.1, h.2.2.2.2.2.1, h.2.2.2.2.2.2.1, h.2.2.2.2.2.2.2.1, h.2.2.2.2.2.2.2.2)
def Ps.w_kn (h : Ps) (x : Nat → Nat) : Ps := (h.1, h.2.1, x, h.2.2.2.1, h.2.2.2.2.1, h.2.2.2.2.2.1, h.2.2.2.2.2.2.1, h.2.2.2.2.2.2.2.1, h.2.2.2.2.2.2.2.2)
def Ps.w_mn (h : Ps) (x : Nat → Nat) : Ps := (h.1, h.2.1, h.2.2.1, x, h.2.2.2.2.1, h.2.2.2.2.2.1, h.2.2.2.2.2.2.1, h.2.2.2.2.2.2.2.1, h.2.2.2.2.2.2.2.2)
def Ps.w_pd (h : Ps) (x : Nat → Nat → Bool) : Ps := (h.1, h.2.1, h.2.2.1, h.2.2.2.1, x, h.2.2.2.2.2.1, h.2.2.2.2.2.2.1, h.2.2.2.2.2.2.2.1, h.2.2.2.2.2.2.2.2)
def Ps.w_yd (h : Ps) (x : Nat → Nat → Bool) : Ps := (h.1, h.2.1, h.2.2.1, h.2.2.2.1, h.2.2.2.2.1, x, h.2.2.2.2.2.2.1, h.2.2.2.2.2.2.2.1, h.2.2.2.2.2.2.2.2)
def Ps.w_hd (h : Ps) (x : Nat → Bool) : Ps := (h.1, h.2.1, h.2.2.1, h.2.2.2.1, h.2.2.2.2.1, h.2.2.2.2.2.1, x, h.2.2.2.2.2.2.2.1, h.2.2.2.2.2.2.2.2)
def Ps.w_hh (h : Ps) (x : Bool) : Ps := (h.1, h.2.1, h.2.2.1, h.2.2.2.1, h.2.2.2.2.1, h.2.2.2.2.2.1, h.2.2.2.2.2.2.1, x, h.2.2.2.2.2.2.2.2)
def Ps.w_dd (h : Ps) (x : Bool) : Ps := (h.1, h.2.1, h.2.2.1, h.2.2.2.1, h.2.2.2.2.1, h.2.2.2.2.2.1, h.2.2.2.2.2.2.1, h.2.2.2.2.2.2.2.1, x)
abbrev PR : Type := PE ⊕ Ps
section P15
variable (X : Nat → Nat) (n : Nat)
def pGo (s : Ps) : Ps := s.w_t (lexT X n s.t.next)
def pBad (s : Ps) : PE := (if s.t.sort = 3 then 1 else 2, s.t.place)
def pW (s : Ps) (i : Nat) : Bool := decide (s.t.sort = 1 ∧ s.t.val = litV i)
def pNm (s : Ps) : Bool := decide (s.t.sort = 1 ∧ kept s.t.val = false)
/-- the name's number among so many -/
def findN (g : Nat → Nat) (v : Nat) : Nat → Option Nat
  | 0 => none
  | m + 1 => match findN g v m with | some k => some k | none => if g m = v then some m else none
def set1 {α : Type} (g : Nat → α) (i : Nat) (v : α) : Nat → α := fun k => if k = i then v else g k
def set2 {α : Type} (g : Nat → Nat → α) (i j : Nat) (v : α) : Nat → Nat → α := fun a b => if a = i ∧ b = j then v else g a b
def pNum (lo hi : Nat) (s : Ps) (k : Nat → Ps → PR) : PR := if s.t.sort = 2 then (if s.t.val < lo ∨ hi < s.t.val then .inl (4, s.t.place) else k s.t.val (pGo X n s)) else .inl (pBad s)
def pKey (i : Nat) (s : Ps) (k : Ps → PR) : PR := if pW s i = true then k (pGo X n s) else .inl (pBad s)
def pNew (g : Nat → Nat) (m : Nat) (s : Ps) (k : Nat → Ps → PR) : PR := if pNm s = true then (match findN g s.t.val m with | some _ => .inl (3, s.t.place) | none => k s.t.val (pGo X n s)) else .inl (pBad s)
def pOld (g : Nat → Nat) (m : Nat) (s : Ps) (k : Nat → Ps → PR) : PR := if pNm s = true then (match findN g s.t.val m with | some j => k j s | none => .inl (5, s.t.place)) else .inl (pBad s)
def lKind (s0 : Ps) : PR := pNew X n s0.kn s0.B.nk (pGo X n s0) fun v s => .inr ((s.w_kn (set1 s.kn s.B.nk v)).w_B (s.B.w_nk (s.B.nk + 1)))
def addMan (s : Ps) (v c : Nat) (lo : Bool) : Ps :=
  (((((s.w_mn (set1 s.mn s.B.nm v)).w_pd (set1 s.pd s.B.nm (fun _ => false))).w_yd (set1 s.yd s.B.nm (fun _ => false))).w_hd (set1 s.hd s.B.nm false)).w_B
    ((((((s.B.w_crop (set1 s.B.crop s.B.nm (N c))).w_purse (set1 s.B.purse s.B.nm (fun _ => 0))).w_pay (set1 s.B.pay s.B.nm (fun _ => 0))).w_hedge (set1 s.B.hedge s.B.nm 10)).w_loose (set1 s.B.loose s.B.nm lo)).w_nm (s.B.nm + 1)))
def lMan (s0 : Ps) : PR := pNew X n s0.mn s0.B.nm (pGo X n s0) fun v s => pKey X n 3 s fun s => pNum X n 0 99 s fun c s => .inr (addMan (if pW s 4 = true then pGo X n s else s) v c (pW s 4))
def lPurse (s0 : Ps) : PR := pOld s0.mn s0.B.nm (pGo X n s0) fun m s => pOld s.kn s.B.nk (pGo X n s) fun k s => if s.pd m k = true then .inl (3, s.t.place) else pNum X n 0 60 (pGo X n s) fun v s => .inr ((s.w_pd (set2 s.pd m k true)).w_B (s.B.w_purse (set2 s.B.purse m k (N v))))
def lPay (s0 : Ps) : PR := pOld s0.mn s0.B.nm (pGo X n s0) fun m s => pOld s.kn s.B.nk (pGo X n s) fun k s => if s.yd m k = true then .inl (3, s.t.place) else pNum X n 0 9 (pGo X n s) fun v s => .inr ((s.w_yd (set2 s.yd m k true)).w_B (s.B.w_pay (set2 s.B.pay m k (N v))))
def lHedge (s0 : Ps) : PR := pOld s0.mn s0.B.nm (pGo X n s0) fun m s => if s.hd m = true then .inl (3, s.t.place) else pNum X n 0 10 (pGo X n s) fun v s => .inr ((s.w_hd (set1 s.hd m true)).w_B (s.B.w_hedge (set1 s.B.hedge m (N v))))
def lRate (s0 : Ps) : PR := pOld s0.kn s0.B.nk (pGo X n s0) fun a s => pNum X n 1 9 (pGo X n s) fun c s => pKey X n 9 s fun s => pOld s.kn s.B.nk s fun b s => if a = b ∨ s.B.cost a b ≠ 0 then .inl (3, s.t.place) else pNum X n 1 9 (pGo X n s) fun v s => .inr (s.w_B (((s.B.w_cost (set2 s.B.cost a b c)).w_brings (set2 s.B.brings a b v)).w_nr (s.B.nr + 1)))
def lBook (s0 : Ps) : PR := pNum X n 0 99 (pGo X n s0) fun v s => .inr (s.w_B ((s.B.w_book (set1 s.B.book s.B.nb (N v))).w_nb (s.B.nb + 1)))
def lHours (s0 : Ps) : PR := pNum X n 1 8 (pGo X n s0) fun v s => .inr ((s.w_hh true).w_B (s.B.w_hours v))
def lDraw (s0 : Ps) : PR := pNum X n 0 999 (pGo X n s0) fun v s => .inr ((s.w_dd true).w_B (s.B.w_seed (N v)))
def lGrow (s0 : Ps) : PR :=
  match (sBo X n 8).1 0 ((pGo X n s0).t, s0.B.units, 0) with
  | .inl y => .inl y
  | .inr q => .inr ((s0.w_t q.2.1).w_B ((s0.B.w_units q.2.2.1).w_grow (some q.1)))
def pLine (s : Ps) : PR :=
  if pW s 1 = true ∧ s.B.nk < 3 then lKind X n s
  else if pW s 2 = true ∧ s.B.nm < 5 then lMan X n s
  else if pW s 5 = true then lPurse X n s
  else if pW s 6 = true then lPay X n s
  else if pW s 7 = true then lHedge X n s
  else if pW s 8 = true then lRate X n s
  else if pW s 10 = true ∧ s.B.nb < 5 then lBook X n s
  else if pW s 11 = true ∧ s.B.grow = none then lGrow X n s
  else if pW s 12 = true ∧ s.hh = false then lHours X n s
  else if pW s 13 = true ∧ s.dd = false then lDraw X n s
  else .inl (pBad s)
def pText : Nat → Ps → PR
  | 0, _ => .inl (0, 0)
  | k + 1, s =>
    if s.t.sort = 0 then .inr s
    else match pLine X n s with
      | .inl y => .inl y
      | .inr s1 => if s1.t.sort = 59 then pText k (pGo X n s1) else .inl (pBad s1)
def noBk : Bk := Bk.mk 0 0 0 0 6 0 0 (fun _ => 0) (fun _ _ => 0) (fun _ _ => 0) (fun _ => 0) (fun _ => false) (fun _ _ => 0) (fun _ _ => 0) (fun _ => 0) none
def pStart : Ps := Ps.mk (lexT X n 0) noBk (fun _ => 0) (fun _ => 0) (fun _ _ => false) (fun _ _ => false) (fun _ => false) false false
end P15
/-- the text on the tape -/
def chT (T : Nat → Int32) (n k : Nat) : Nat := if k < n then (T k &&& 255).toNatClampNeg else 256
/-- the first row of a book -/
def begP (B : Bk) : Nat → Int32 := fun j => if j < 15 then (if j / 3 < B.nm then B.purse (j / 3) (j % 3) else 0) else if j < 20 then (if j - 15 < B.nm then B.crop (j - 15) else 0) else if j = 41 then B.seed else 0
def s_mill (S : St) : Int32 × St :=
  match pText (chT S.tape S.taped) S.taped 2000 (pStart (chT S.tape S.taped) S.taped) with
  | .inl y => (-1, ((S.w_taped 0).w_fk (N y.1)).w_fp (N y.2))
  | .inr s => (N s.B.nm, (((((((((S.w_taped 0).w_fk 0).w_fp (-1)).w_B s.B).w_P (begP s.B)).w_acts 0).w_undone 0).w_laid 0).w_ns 0).w_boxed (fun _ => false))
theorem and255 (v : Int32) : v &&& 255 = N (v &&& 255).toNatClampNeg ∧ (v &&& 255).toNatClampNeg < 256 := by
  have h0 : 0 ≤ (v &&& 255).toInt ∧ (v &&& 255).toInt < 256 := by
    have e : (v &&& 255).toBitVec = v.toBitVec &&& 255#32 := rfl
    have lt : (v &&& 255).toBitVec.toNat < 256 := by
      rw [e, BitVec.toNat_and]
      exact Nat.lt_of_le_of_lt Nat.and_le_right (by decide)
    have ti : (v &&& 255).toInt = ((v &&& 255).toBitVec.toNat : Int) := by
      show (v &&& 255).toBitVec.toInt = _
      rw [BitVec.toInt_eq_toNat_cond, if_pos (by omega)]
    omega
  have tn : ((v &&& 255).toNatClampNeg : Int) = (v &&& 255).toInt := by
    show ((v &&& 255).toInt.toNat : Int) = _
    omega
  have lt : (v &&& 255).toNatClampNeg < 256 := by omega
  refine ⟨?_, lt⟩
  rw [← Int32.toInt_inj, N_toInt (by omega), tn]
theorem chT_txt (T : Nat → Int32) {n : Nat} (h : n ≤ 1600) : Txt (chT T n) n :=
  ⟨fun k hk9 => by unfold chT; rw [if_pos hk9]; exact (and255 (T k)).2, fun k hk9 => by unfold chT; rw [if_neg (by omega)], h⟩
theorem chT_at (T : Nat → Int32) {n k : Nat} (h : k < n) : T k &&& 255 = N (chT T n k) := by
  unfold chT
  rw [if_pos h]; exact (and255 (T k)).1

/-! WHAT EACH CALL ANSWERS, and the bath behind it -/
set_option maxRecDepth 100000
theorem mE_Bhe {ca : Nat → ClassId} {ad : Nat → Nat} {B X : Nat → Nat → Int32} {Y : Nat → Nat → Int64} {kp k : Nat} (hk : 0 < k ∧ k < 6) : mE ca ad B X Y kp k = .inl (ca 0, 6, .inl (B k)) := by
  unfold mE
  rw [if_neg (by omega), if_pos hk.2]
theorem mF_c0 {ad : Nat → Nat} {B X : Nat → Nat → Int32} {kp n : Nat} (h : B 0 0 = nI n) : (mF ad B X kp)[0]? = some (.int (nI n)) := by
  show some (Value.int (B 0 0)) = _
  rw [h]
def oChild (n : Nat) (B : Nat → Nat → Int32) (c w : Int32) : Int32 :=
  if isC n c = true then
    (if w = 0 then B 1 c.toNatClampNeg else if w = 1 then B 2 c.toNatClampNeg else if w = 2 then B 3 c.toNatClampNeg else if w = 3 then B 4 c.toNatClampNeg else if w = 4 then B 5 c.toNatClampNeg
     else if w = 5 then holdsF (B 1 c.toNatClampNeg) (B 2 c.toNatClampNeg) else if w = 6 then (if B 4 c.toNatClampNeg = 7 then 0 else needsF (B 1 c.toNatClampNeg) (B 2 c.toNatClampNeg) (B 4 c.toNatClampNeg))
     else if w = 7 then frightF (B 1 c.toNatClampNeg) (B 2 c.toNatClampNeg) else if w = 8 then bearsF (B 1 c.toNatClampNeg) (B 2 c.toNatClampNeg) else if w = 9 then passesF (B 1 c.toNatClampNeg) else -1)
  else -1
def feelsOk (n : Nat) (c w v : Int32) : Bool := isC n c && inI w 0 1 && inI v 0 (if w = 0 then 20 else 7)
def oFeels (n : Nat) (B : Nat → Nat → Int32) (c w v : Int32) : Int32 := if feelsOk n c w v = true then (if w = 0 then B 3 c.toNatClampNeg else B 4 c.toNatClampNeg) else -1
def oFeelsB (n : Nat) (B : Nat → Nat → Int32) (c w v : Int32) : Nat → Nat → Int32 := if feelsOk n c w v = true then (if w = 0 then st B 3 c.toNatClampNeg v else st B 4 c.toNatClampNeg v) else B
def canM (n : Nat) (B : Nat → Nat → Int32) (c w : Int32) : Bool := isC n c && decide (w < 4) && decide (B 4 c.toNatClampNeg < 7) && decide (B 0 1 < 999)
def sMinC (n : Nat) (B : Nat → Nat → Int32) (c w : Int32) : Nat → Nat → Int32 := if canM n B c w = true then sMin n B c.toNatClampNeg w else B
def oMinute (n : Nat) (B : Nat → Nat → Int32) (c w : Int32) : Int32 := if isC n c = true then (if inI w 0 3 = true then (if canM n B c w = true then sMinC n B c w 3 c.toNatClampNeg else -3) else -1) else -1
def oMinuteB (n : Nat) (B : Nat → Nat → Int32) (c w : Int32) : Nat → Nat → Int32 := if isC n c = true then (if inI w 0 3 = true then sMinC n B c w else B) else B
def sSw1 (B : Nat → Nat → Int32) (k a b : Nat) : Nat → Nat → Int32 := st (st B k a (B k b)) k b (B k a)
def sSwap (B : Nat → Nat → Int32) (a b : Nat) : Nat → Nat → Int32 := sSw1 (sSw1 (sSw1 (sSw1 (sSw1 B 1 a b) 2 a b) 3 a b) 4 a b) 5 a b
def twoOk (n : Nat) (a b : Int32) : Bool := isC n a && isC n b && !decide (a.toNatClampNeg = b.toNatClampNeg)
def oChangeB (n : Nat) (B : Nat → Nat → Int32) (a b : Int32) : Nat → Nat → Int32 := if twoOk n a b = true then sSwap B a.toNatClampNeg b.toNatClampNeg else B
def oChange (n : Nat) (a b : Int32) : Int32 := if twoOk n a b = true then 1 else -1
def oRestB (n : Nat) (B : Nat → Nat → Int32) (w : Int32) : Nat → Nat → Int32 := if inI w 0 9 = true then sRestTo w B n else B
def oRest (n : Nat) (B : Nat → Nat → Int32) (w : Int32) : Int32 := if inI w 0 9 = true then sumTo (sRestTo w B n 4) n else -1
def cameB (n : Nat) (k t : Int32) : Bool := decide (k < 8) && !decide (20 < t) && decide (n < 6)
def sCome (n : Nat) (B : Nat → Nat → Int32) (k f t : Int32) : Nat → Nat → Int32 := if cameB n k t = true then st (st (st (st (st (st B 1 n k) 2 n f) 3 n t) 4 n 0) 5 n 0) 0 0 (nI (n + 1)) else B
def comeN (n : Nat) (k t : Int32) : Nat := if cameB n k t = true then n + 1 else n
/-- wrongRow over holdsWhat -/
def wrR (W : Nat → Int32) (d : Int32) : Int32 := if inI d 0 7 = true then (if W d.toNatClampNeg = 0 then -11 else if W d.toNatClampNeg = 2 then 0 else -12) else -1
def wrK (W : Nat → Int32) (d : Int32) : Int32 := if inI d 0 7 = true then (if W d.toNatClampNeg = 0 then -11 else if W d.toNatClampNeg = 1 then 0 else -12) else -1
theorem wrR_0 {W : Nat → Int32} {d : Int32} (h : ¬ wrR W d < 0) : ∃ j, j < 8 ∧ d = nI j ∧ W j = 2 := by
  unfold wrR at h
  split at h
  · rename_i h1
    obtain ⟨j, hj, rfl⟩ := inI_nat (k := 7) (by decide) (by decide) h1
    rw [nI_clamp (by omega)] at h
    split at h
    · exact absurd (by decide) h
    · split at h
      · exact ⟨j, hj, rfl, by assumption⟩
      · exact absurd (by decide) h
  · exact absurd (by decide) h
theorem wrK_0 {W : Nat → Int32} {d : Int32} (h : ¬ wrK W d < 0) : ∃ j, j < 8 ∧ d = nI j ∧ W j = 1 := by
  unfold wrK at h
  split at h
  · rename_i h1
    obtain ⟨j, hj, rfl⟩ := inI_nat (k := 7) (by decide) (by decide) h1
    rw [nI_clamp (by omega)] at h
    split at h
    · exact absurd (by decide) h
    · split at h
      · exact ⟨j, hj, rfl, by assumption⟩
      · exact absurd (by decide) h
  · exact absurd (by decide) h
theorem wrR_at {W : Nat → Int32} {j : Nat} (hj : j < 8) (h : W j = 2) : wrR W (nI j) = 0 := by
  unfold wrR
  rw [inI_nI (k := 7) (by decide) (by omega), nI_clamp (by omega), h]; decide
theorem wrK_at {W : Nat → Int32} {j : Nat} (hj : j < 8) (h : W j = 1) : wrK W (nI j) = 0 := by
  unfold wrK
  rw [inI_nI (k := 7) (by decide) (by omega), nI_clamp (by omega), h]; decide
def besF (n i : Nat) : Int32 := (if 0 < i then 1 else 0) + (if i + 1 < n then 1 else 0)
def hlpTo (n : Nat) (B : Nat → Nat → Int32) : Nat → Int32 × Int32
  | 0 => (-4, -1)
  | i + 1 => if rdy B i = true ∧ (hlpTo n B i).2 < passesF (B 1 i) * besF n i then (nI i, passesF (B 1 i) * besF n i) else hlpTo n B i
def cldTo (B : Nat → Nat → Int32) (j : Nat) (x : Int32) : Nat → Int32
  | 0 => 0
  | o + 1 => cldTo B j x o + (if o ≠ j ∧ B 4 o < 7 ∧ bearsF (B 1 o) (B 2 o) < hdI (B 5 o + x) 20 then 1 else 0)
def oColdest (n : Nat) (B : Nat → Nat → Int32) (c x : Int32) : Int32 := if isC n c = true then (if inI x 0 60 = true then cldTo B c.toNatClampNeg x n else -1) else -1
def lstTo (B : Nat → Nat → Int32) : Nat → Int32
  | 0 => -4
  | i + 1 => if lstTo B i < 0 ∨ B 4 i < B 4 (lstTo B i).toNatClampNeg ∨ (B 4 i = B 4 (lstTo B i).toNatClampNeg ∧ B 3 i < B 3 (lstTo B i).toNatClampNeg) then nI i else lstTo B i
theorem lst_in (B : Nat → Nat → Int32) : ∀ i, i ≤ 6 → lstTo B i = -4 ∨ vp_in (lstTo B i) i
  | 0, _ => Or.inl rfl
  | i + 1, h => by
    unfold lstTo
    split
    · exact Or.inr (vp_in_nI (by omega) (by omega))
    · rcases lst_in B i (by omega) with h1 | h1
      · exact Or.inl h1
      · refine Or.inr (vp_in_iff.mpr ?_)
        have := vp_in_iff.mp h1
        omega
theorem lst_vp {B : Nat → Nat → Int32} {i : Nat} (h : i ≤ 6) (h0 : ¬ lstTo B i < 0) : vp_in (lstTo B i) 6 := by
  rcases lst_in B i h with h1 | h1
  · rw [h1] at h0; exact absurd (by decide) h0
  · have := vp_in_iff.mp h1
    exact vp_in_iff.mpr ⟨this.1, by omega⟩
def oCount (n : Nat) (B : Nat → Nat → Int32) (w : Int32) : Int32 :=
  if w = 0 then nI n else if w = 1 then B 0 1 else if w = 2 then sumTo (B 3) n else if w = 3 then sumTo (B 4) n else if w = 4 then sumTo (B 5) n else if w = 5 then orTo (swB B) n else -1
def getsF (B : Nat → Nat → Int32) (j : Nat) (own other : Int32) : Int32 :=
  if own = 0 then (if other = 1 then -1 else 0) else (if other = 1 then 2 else 1) - (if B 4 j = 7 ∨ rdy B j = true then 0 else frightF (B 1 j) (B 2 j))
def dareRest (B : Nat → Nat → Int32) (a b : Nat) (x y : Int32) : Bool := !decide (getsF B a x y < getsF B a (1 - x) y) && !decide (getsF B b y x < getsF B b (1 - y) x)
def oDare (n : Nat) (B : Nat → Nat → Int32) (a b : Int32) : Int32 :=
  if twoOk n a b = true then
    (if dareRest B a.toNatClampNeg b.toNatClampNeg 0 0 = true then 0 else if dareRest B a.toNatClampNeg b.toNatClampNeg 0 1 = true then 1 else if dareRest B a.toNatClampNeg b.toNatClampNeg 1 0 = true then 10 else if dareRest B a.toNatClampNeg b.toNatClampNeg 1 1 = true then 11 else -4)
  else -1
/-! the ranges stay -/
theorem inI_rng {v K : Int32} {k : Int} (hK : K.toInt = k) (h : inI v 0 K = true) : rng v k := (inI_iff hK).mp h
theorem wf_minC {n : Nat} {B : Nat → Nat → Int32} (h : wfB n B) (c w : Int32) : wfB n (sMinC n B c w) := by
  unfold sMinC
  split
  · rename_i hc
    unfold canM at hc
    simp only [Bool.and_eq_true, decide_eq_true_eq, Int32.lt_iff_toInt_lt] at hc
    obtain ⟨j, hj, rfl⟩ := isC_nat h.1 hc.1.1.1
    have h6 := h.1
    rw [nI_clamp (by omega)] at hc ⊢
    have e7 : (7 : Int32).toInt = 7 := by decide
    exact wf_min h hj w (by rw [e7] at hc; exact hc.1.2)
  · exact h
theorem wf_feels {n : Nat} {B : Nat → Nat → Int32} (h : wfB n B) (c w v : Int32) : wfB n (oFeelsB n B c w v) := by
  unfold oFeelsB
  split
  · rename_i hc
    unfold feelsOk at hc
    simp only [Bool.and_eq_true] at hc
    obtain ⟨j, hj, rfl⟩ := isC_nat h.1 hc.1.1
    have h6 := h.1
    rw [nI_clamp (by omega)]
    by_cases hw : w = 0
    · rw [if_pos hw] at hc ⊢
      exact wf_st3 h (by omega) (inI_rng (by decide) hc.2)
    · rw [if_neg hw] at hc ⊢
      exact wf_st4 h (by omega) (inI_rng (by decide) hc.2)
  · exact h
theorem rng_sw {f : Nat → Int32} {a b : Nat} {m : Int} (h : ∀ j, rng (f j) m) : ∀ j, rng (upd (upd f a (f b)) b (f a) j) m := rng_upd (rng_upd h (h b)) (h a)
theorem sw1_ne {B : Nat → Nat → Int32} {k a b r : Nat} (h : r ≠ k) : sSw1 B k a b r = B r := by unfold sSw1; rw [st_ne h, st_ne h]
theorem sw1_eq {B : Nat → Nat → Int32} {k a b : Nat} : sSw1 B k a b k = upd (upd (B k) a (B k b)) b (B k a) := by unfold sSw1; rw [st_eq, st_eq]
theorem canB_sw1 {B : Nat → Nat → Int32} {k a b : Nat} (h : canB B) (hk : 0 < k ∧ k < 6) (ha : a < 6) (hb : b < 6) : canB (sSw1 B k a b) := canB_st (canB_st h (posn_in hk ha)) (posn_in hk hb)
theorem wf_swap {n : Nat} {B : Nat → Nat → Int32} (h : wfB n B) {a b : Nat} (ha : a < 6) (hb : b < 6) : wfB n (sSwap B a b) := by
  obtain ⟨h0, h1, h2, h3, h4, h5, h6, h7⟩ := h
  have key : ∀ k, 0 < k → k < 6 → sSwap B a b k = upd (upd (B k) a (B k b)) b (B k a) := by
    intro k k0 k6
    unfold sSwap
    rcases (show k = 1 ∨ k = 2 ∨ k = 3 ∨ k = 4 ∨ k = 5 by omega) with rfl | rfl | rfl | rfl | rfl
    · rw [sw1_ne (by decide), sw1_ne (by decide), sw1_ne (by decide), sw1_ne (by decide), sw1_eq]
    · rw [sw1_ne (by decide), sw1_ne (by decide), sw1_ne (by decide), sw1_eq, sw1_ne (by decide)]
    · rw [sw1_ne (by decide), sw1_ne (by decide), sw1_eq, sw1_ne (by decide), sw1_ne (by decide)]
    · rw [sw1_ne (by decide), sw1_eq, sw1_ne (by decide), sw1_ne (by decide), sw1_ne (by decide)]
    · rw [sw1_eq, sw1_ne (by decide), sw1_ne (by decide), sw1_ne (by decide), sw1_ne (by decide)]
  refine ⟨h0, h1, ?_, ?_, ?_, ?_, ?_, ?_⟩
  · rw [key 1 (by decide) (by decide)]; exact rng_sw h2
  · rw [key 2 (by decide) (by decide)]; exact rng_sw h3
  · rw [key 3 (by decide) (by decide)]; exact rng_sw h4
  · rw [key 4 (by decide) (by decide)]; exact rng_sw h5
  · rw [key 5 (by decide) (by decide)]; exact rng_sw h6
  · exact canB_sw1 (canB_sw1 (canB_sw1 (canB_sw1 (canB_sw1 h7 (by decide) ha hb) (by decide) ha hb) (by decide) ha hb) (by decide) ha hb) (by decide) ha hb
theorem wf_change {n : Nat} {B : Nat → Nat → Int32} (h : wfB n B) (a b : Int32) : wfB n (oChangeB n B a b) := by
  unfold oChangeB
  split
  · rename_i hc
    unfold twoOk at hc
    simp only [Bool.and_eq_true] at hc
    obtain ⟨i, hi, rfl⟩ := isC_nat h.1 hc.1.1
    obtain ⟨j, hj, rfl⟩ := isC_nat h.1 hc.1.2
    have h6 := h.1
    rw [nI_clamp (by omega), nI_clamp (by omega)]
    exact wf_swap h (by omega) (by omega)
  · exact h
theorem wf_restO {n : Nat} {B : Nat → Nat → Int32} (h : wfB n B) (w : Int32) : wfB n (oRestB n B w) := by
  unfold oRestB
  split
  · exact wf_restTo h n (Nat.le_refl _)
  · exact h
theorem wf_minuteO {n : Nat} {B : Nat → Nat → Int32} (h : wfB n B) (c w : Int32) : wfB n (oMinuteB n B c w) := by
  unfold oMinuteB
  split
  · split
    · exact wf_minC h c w
    · exact h
  · exact h
theorem wf_come {n : Nat} {B : Nat → Nat → Int32} (h : wfB n B) {k f t : Int32} (hk : 0 ≤ k.toInt) (hf : rng f 9) (ht : 0 ≤ t.toInt) : wfB (comeN n k t) (sCome n B k f t) := by
  unfold comeN sCome
  by_cases hc : cameB n k t = true
  · rw [if_pos hc, if_pos hc]
    unfold cameB at hc
    simp only [Bool.and_eq_true, decide_eq_true_eq, Bool.not_eq_true', decide_eq_false_iff_not, Int32.lt_iff_toInt_lt] at hc
    have e8 : (8 : Int32).toInt = 8 := by decide
    have e20 : (20 : Int32).toInt = 20 := by decide
    rw [e8, e20] at hc
    obtain ⟨h0, h1, h2, h3, h4, h5, h6, h7⟩ := h
    refine ⟨by omega, by simp [st, upd], rng_upd h2 ⟨hk, by omega⟩, rng_upd h3 hf, rng_upd h4 ⟨ht, by omega⟩, rng_upd h5 (rng_0 (by decide)), rng_upd h6 (rng_0 (by decide)), ?_⟩
    exact canB_st (canB_st (canB_st (canB_st (canB_st (canB_st h7 (posn_in (by decide) hc.2)) (posn_in (by decide) hc.2)) (posn_in (by decide) hc.2)) (posn_in (by decide) hc.2)) (posn_in (by decide) hc.2)) (by decide)
  · rw [if_neg hc, if_neg hc]; exact h
/-- the model's scratch may change, its shelves and its image stay -/
def kpX (X X1 : Nat → Nat → Int32) : Prop := (∀ r, (6 ≤ r ∧ r ≤ 10) ∨ r = 16 → X1 r = X r) ∧ X1 0 5 = X 0 5

/-! WHAT IS COMPUTED: a bath B (rows 1..5: kinds, figures, trusts, steps, colds; B 0 0 how many, B 0 1 the minute) and its laws -/
set_option maxRecDepth 100000
def inL (v lo hi : Int64) : Bool := !decide (v < lo) && !decide (hi < v)
def hasB (b k : Int32) : Bool := decide ((b >>> (k &&& 31)) &&& 1 = 1)
def hdI (v h : Int32) : Int32 := if v < 0 then 0 else if h < v then h else v
def holdsF (k f : Int32) : Int32 := if k = 0 then 2 else if k = 2 ∨ k = 3 then 3 else if k = 6 then 3 + f / 3 else 1
def needsF (k f s : Int32) : Int32 := if k = 0 then s + 4 else if k = 2 then 2 * (s + 4) else if k = 3 then s + 4 + f / 4 else if k = 6 then 2 * (s + 4) - 1 else if k = 7 then (s + 2) / 2 else s + 2
def frightF (k f : Int32) : Int32 := if k = 0 ∨ k = 3 then 3 else if k = 2 then 3 + f / 2 else if k = 4 then 0 else if k = 6 then 2 * (3 + f / 2) else 2
def bearsF (k f : Int32) : Int32 := if k = 0 ∨ k = 3 then 5 else if k = 2 ∨ k = 6 then 4 else if k = 7 then 20 else 5 + f
def passesF (k : Int32) : Int32 := if k = 2 ∨ k = 6 then 0 else if k = 4 then 2 else if k = 5 then 3 else 1
def costF (k f : Int32) : Int32 := if k = 0 then 5 else if k = 1 then 5 + f else if k = 2 then 3 else if k = 3 then 10 else if k = 4 then 5 + f - 1 else if k = 5 then 5 + f + 4 else if k = 6 then 3 + f else (5 + f) / 2
def isLet (c : Int32) : Bool := decide (c = 99) || decide (c = 109) || decide (c = 98) || decide (c = 120) || decide (c = 116) || decide (c = 115)
def narL (v k : Int32) : Int64 := if k = 0 then v.toInt8.toInt32.toInt64 else if k = 1 then v.toInt16.toInt32.toInt64 else v.toInt64
def rng (x : Int32) (m : Int) : Prop := 0 ≤ x.toInt ∧ x.toInt ≤ m
/-- the place of a bath's number in a saved row; 32: none -/
def posn (r i : Nat) : Nat := if r = 0 then (if i < 2 then i else 32) else if r < 6 ∧ i < 6 then 2 + 5 * i + (r - 1) else 32
def canB (B : Nat → Nat → Int32) : Prop := ∀ r i, posn r i = 32 → B r i = 0
theorem canB_st {B : Nat → Nat → Int32} {r i : Nat} {x : Int32} (h : canB B) (hp : posn r i ≠ 32) : canB (st B r i x) := by
  intro r' i' h'
  unfold st
  by_cases hr : r' = r
  · subst hr
    rw [if_pos rfl]
    unfold upd
    by_cases hi : i' = i
    · subst hi; exact absurd h' hp
    · rw [if_neg hi]; exact h _ _ h'
  · rw [if_neg hr]; exact h _ _ h'
theorem posn_in {r i : Nat} (hr : 0 < r ∧ r < 6) (hi : i < 6) : posn r i ≠ 32 := by
  unfold posn
  rw [if_neg (by omega), if_pos ⟨hr.2, hi⟩]; omega
def wfB (n : Nat) (B : Nat → Nat → Int32) : Prop := n ≤ 6 ∧ B 0 0 = nI n ∧ (∀ j, rng (B 1 j) 7) ∧ (∀ j, rng (B 2 j) 9) ∧ (∀ j, rng (B 3 j) 20) ∧ (∀ j, rng (B 4 j) 7) ∧ (∀ j, rng (B 5 j) 20) ∧ canB B
def isC (n : Nat) (c : Int32) : Bool := decide (0 ≤ c.toInt ∧ c.toInt < n)
theorem mF_ch {ad : Nat → Nat} {B X : Nat → Nat → Int32} {kp n : Nat} (h : wfB n B) : (mF ad B X kp)[0]? = some (.int (nI n)) := by
  show some (Value.int (B 0 0)) = _
  rw [h.2.1]
theorem isC_in {n : Nat} {c : Int32} (hn : n ≤ 6) (h : isC n c = true) : vp_in c 6 := by
  have h1 := of_decide_eq_true h
  exact vp_in_iff.mpr ⟨h1.1, by omega⟩
theorem isC_nat {n : Nat} {c : Int32} (hn : n ≤ 6) (h : isC n c = true) : ∃ j, j < n ∧ c = nI j := by
  have h1 := of_decide_eq_true h
  exact vp_in_of (vp_in_iff.mpr h1) (by omega)
theorem isC_nI {n j : Nat} (hn : n ≤ 6) (h : j < n) : isC n (nI j) = true := by
  unfold isC
  rw [nI_toInt (by omega)]
  exact decide_eq_true (by omega)
theorem isC_of {n : Nat} {c : Int32} (h : 0 ≤ c.toInt ∧ c.toInt < n) : isC n c = true := decide_eq_true h
theorem isC_nI_ge {n j : Nat} (hj : j < 2 ^ 31) (h : n ≤ j) : isC n (nI j) = false := by
  unfold isC
  rw [nI_toInt hj]
  exact decide_eq_false (by omega)
theorem nI_m1_toInt {n : Nat} (hn : n ≤ 6) : (nI n - 1).toInt = (n : Int) - 1 := by
  have h := pk_sub_toInt (a := n) (b := 1) (by omega) (by decide)
  exact h
theorem inL_isC {n : Nat} {c : Int32} (hn : n ≤ 6) : inL c.toInt64 0 (nI n - 1).toInt64 = isC n c := by
  have h1 := nI_m1_toInt hn
  unfold inL isC
  rw [Bool.eq_iff_iff]
  simp only [Bool.and_eq_true, Bool.not_eq_true', decide_eq_false_iff_not, decide_eq_true_eq, Int64.lt_iff_toInt_lt, Int32.toInt_toInt64, h1]
  have h0 : (0 : Int64).toInt = 0 := by decide
  rw [h0]
  omega
def inI (v lo hi : Int32) : Bool := !decide (v < lo) && !decide (hi < v)
theorem inL_I {v lo hi : Int32} {a b : Int64} (ha : lo.toInt64 = a) (hb : hi.toInt64 = b) : inL v.toInt64 a b = inI v lo hi := by
  subst ha; subst hb
  unfold inL inI
  simp only [Int64.lt_iff_toInt_lt, Int32.lt_iff_toInt_lt, Int32.toInt_toInt64]
theorem inI_isC {n : Nat} {c : Int32} (hn : n ≤ 6) : inI c 0 (nI n - 1) = isC n c := by
  have h1 := nI_m1_toInt hn
  unfold inI isC
  rw [Bool.eq_iff_iff]
  simp only [Bool.and_eq_true, Bool.not_eq_true', decide_eq_false_iff_not, decide_eq_true_eq, Int32.lt_iff_toInt_lt, h1]
  have h0 : (0 : Int32).toInt = 0 := by decide
  rw [h0]
  omega
/-- a number between 0 and K -/
theorem inI_iff {v : Int32} {K : Int32} {k : Int} (hK : K.toInt = k) : inI v 0 K = true ↔ 0 ≤ v.toInt ∧ v.toInt ≤ k := by
  subst hK
  unfold inI
  simp only [Bool.and_eq_true, Bool.not_eq_true', decide_eq_false_iff_not, Int32.lt_iff_toInt_lt]
  have h0 : (0 : Int32).toInt = 0 := by decide
  rw [h0]; omega
theorem inI_nat {v : Int32} {K : Int32} {k : Nat} (hK : K.toInt = k) (h31 : k + 1 < 2 ^ 31) (h : inI v 0 K = true) : ∃ j, j < k + 1 ∧ v = nI j := by
  have h1 := (inI_iff hK).mp h
  exact vp_in_of (vp_in_iff.mpr ⟨h1.1, by omega⟩) h31
theorem inI_nI {j : Nat} {K : Int32} {k : Nat} (hK : K.toInt = k) (h : j ≤ k) : inI (nI j) 0 K = true := by
  have h2 := Int32.toInt_lt K
  rw [inI_iff hK, nI_toInt (by omega)]; omega
def rdy (B : Nat → Nat → Int32) (j : Nat) : Bool := decide (B 4 j < 7) && !decide (B 3 j < needsF (B 1 j) (B 2 j) (B 4 j))
def sGain (n : Nat) (B : Nat → Nat → Int32) (c v : Int32) : Nat → Nat → Int32 := if isC n c = true then st B 3 c.toNatClampNeg (hdI (B 3 c.toNatClampNeg + v) 20) else B
def sLet (n : Nat) (B : Nat → Nat → Int32) (j : Nat) : Nat → Nat → Int32 :=
  if rdy B j = true then sGain n (sGain n (st B 4 j (B 4 j + 1)) (nI j - 1) (passesF (B 1 j))) (nI (j + 1)) (passesF (B 1 j))
  else sGain n (sGain n (sGain n B (nI j) (-frightF (B 1 j) (B 2 j))) (nI j - 1) (-passesF (B 1 j))) (nI (j + 1)) (-passesF (B 1 j))
def anyTo (B : Nat → Nat → Int32) (j : Nat) : Nat → Bool
  | 0 => false
  | o + 1 => anyTo B j o || decide (B 4 j < B 4 o)
def nearTo (B : Nat → Nat → Int32) (j : Nat) : Nat → Bool
  | 0 => false
  | o + 1 => nearTo B j o || (decide (B 4 j < B 4 o) && (decide (nI o = nI j - 1) || decide (o = j + 1)))
theorem near_any (B : Nat → Nat → Int32) (j : Nat) : ∀ o, nearTo B j o = true → anyTo B j o = true
  | 0, h => by simp [nearTo] at h
  | o + 1, h => by
    simp only [nearTo, Bool.or_eq_true, Bool.and_eq_true] at h
    simp only [anyTo, Bool.or_eq_true]
    rcases h with h | h
    · exact Or.inl (near_any B j o h)
    · exact Or.inr h.1
def shV (n : Nat) (B : Nat → Nat → Int32) (j : Nat) : Int32 := if anyTo B j n = true then (if nearTo B j n = true then 2 else 1) else 0
def sShow (n : Nat) (B : Nat → Nat → Int32) (j : Nat) : Nat → Nat → Int32 := sGain n B (nI j) (shV n B j)
def sCold1 (n : Nat) (B : Nat → Nat → Int32) (o : Nat) : Nat → Nat → Int32 :=
  if bearsF (B 1 o) (B 2 o) < hdI (B 5 o + 1) 20 then sGain n (st (st B 5 o (hdI (B 5 o + 1) 20)) 5 o 0) (nI o) (-1) else st B 5 o (hdI (B 5 o + 1) 20)
def sColdTo (n : Nat) (B : Nat → Nat → Int32) (j : Nat) : Nat → Nat → Nat → Int32
  | 0 => B
  | o + 1 => if o ≠ j ∧ sColdTo n B j o 4 o < 7 then sCold1 n (sColdTo n B j o) o else sColdTo n B j o
def sWay (n : Nat) (B : Nat → Nat → Int32) (j : Nat) (w : Int32) : Nat → Nat → Int32 :=
  if w = 0 then sGain n B (nI j) (holdsF (B 1 j) (B 2 j))
  else if w = 1 then
    st (sGain n B (nI j) (holdsF (B 1 j) (B 2 j) / 2 + 1)) 4 j (sGain n B (nI j) (holdsF (B 1 j) (B 2 j) / 2 + 1) 4 j + (if sGain n B (nI j) (holdsF (B 1 j) (B 2 j) / 2 + 1) 3 j < needsF (sGain n B (nI j) (holdsF (B 1 j) (B 2 j) / 2 + 1) 1 j) (sGain n B (nI j) (holdsF (B 1 j) (B 2 j) / 2 + 1) 2 j) (sGain n B (nI j) (holdsF (B 1 j) (B 2 j) / 2 + 1) 4 j) + 3 then 0 else 1))
  else if w = 2 then sLet n B j else sShow n B j
def sMin (n : Nat) (B : Nat → Nat → Int32) (j : Nat) (w : Int32) : Nat → Nat → Int32 := st (sColdTo n (sWay n B j w) j n) 0 1 (sColdTo n (sWay n B j w) j n 0 1 + 1)
def sRest1 (w : Int32) (B : Nat → Nat → Int32) (i : Nat) : Nat → Nat → Int32 :=
  st (st (st B 4 i (if B 4 i = 7 then 7 else hdI (B 4 i - w / 3) 7)) 3 i (hdI (B 3 i - w) 20)) 5 i 0
def sRestTo (w : Int32) (B : Nat → Nat → Int32) : Nat → Nat → Nat → Int32
  | 0 => B
  | i + 1 => sRest1 w (sRestTo w B i) i
def sumTo (f : Nat → Int32) : Nat → Int32
  | 0 => 0
  | i + 1 => sumTo f i + f i
def orTo (q : Nat → Bool) : Nat → Int32
  | 0 => 0
  | i + 1 => orTo q i ||| (if q i = true then 1 <<< (nI i &&& 31) else 0)
theorem nx_and (a b : Nat) : nI a &&& nI b = nI (a &&& b) := by
  apply Int32.toBitVec_inj.1
  show BitVec.ofNat 32 a &&& BitVec.ofNat 32 b = BitVec.ofNat 32 (a &&& b)
  apply BitVec.eq_of_getLsbD_eq
  intro i hi
  simp [hi]
/-- how many of the lowest 8 bits are set -/
def pop (m : Nat) : Nat := m % 2 + m / 2 % 2 + m / 4 % 2 + m / 8 % 2 + m / 16 % 2 + m / 32 % 2 + m / 64 % 2 + m / 128 % 2
theorem pop_lt (m : Nat) : pop m ≤ 8 := by unfold pop; omega
theorem pop_step : ∀ a, a < 256 → a ≠ 0 → pop (a &&& (a - 1)) + 1 = pop a ∧ a &&& (a - 1) < a := by decide +kernel
theorem nI_andpred {a : Nat} (h : a ≠ 0) : nI a &&& (nI a - 1) = nI (a &&& (a - 1)) := by
  obtain ⟨b, rfl⟩ : ∃ b, a = b + 1 := ⟨a - 1, by omega⟩
  rw [nI_pred, nx_and, Nat.add_sub_cancel]
def swB (B : Nat → Nat → Int32) (j : Nat) : Bool := decide (B 4 j = 7)
/-! the ranges stay -/
theorem rng_0 {m : Int} (h : 0 ≤ m) : rng 0 m := ⟨by decide, h⟩
theorem rng_upd {f : Nat → Int32} {i : Nat} {x : Int32} {m : Int} (h : ∀ j, rng (f j) m) (hx : rng x m) : ∀ j, rng (upd f i x j) m := by
  intro j
  unfold upd
  by_cases q : j = i
  · rw [if_pos q]; exact hx
  · rw [if_neg q]; exact h j
theorem hdI_rng {v h : Int32} {m : Int} (hm : h.toInt = m) (h0 : 0 ≤ m) : rng (hdI v h) m := by
  have e0 : (0 : Int32).toInt = 0 := by decide
  unfold hdI rng
  by_cases a : v < 0
  · rw [if_pos a, e0]; omega
  · rw [if_neg a]
    rw [Int32.lt_iff_toInt_lt, e0] at a
    by_cases b : h < v
    · rw [if_pos b]; omega
    · rw [if_neg b]
      rw [Int32.lt_iff_toInt_lt] at b
      omega
theorem wf_st3 {n : Nat} {B : Nat → Nat → Int32} {i : Nat} {x : Int32} (h : wfB n B) (hi : i < 6) (hx : rng x 20) : wfB n (st B 3 i x) := by
  obtain ⟨h0, h1, h2, h3, h4, h5, h6, h7⟩ := h
  exact ⟨h0, h1, h2, h3, rng_upd h4 hx, h5, h6, canB_st h7 (posn_in (by decide) hi)⟩
theorem wf_st4 {n : Nat} {B : Nat → Nat → Int32} {i : Nat} {x : Int32} (h : wfB n B) (hi : i < 6) (hx : rng x 7) : wfB n (st B 4 i x) := by
  obtain ⟨h0, h1, h2, h3, h4, h5, h6, h7⟩ := h
  exact ⟨h0, h1, h2, h3, h4, rng_upd h5 hx, h6, canB_st h7 (posn_in (by decide) hi)⟩
theorem wf_st5 {n : Nat} {B : Nat → Nat → Int32} {i : Nat} {x : Int32} (h : wfB n B) (hi : i < 6) (hx : rng x 20) : wfB n (st B 5 i x) := by
  obtain ⟨h0, h1, h2, h3, h4, h5, h6, h7⟩ := h
  exact ⟨h0, h1, h2, h3, h4, h5, rng_upd h6 hx, canB_st h7 (posn_in (by decide) hi)⟩
theorem wf_st01 {n : Nat} {B : Nat → Nat → Int32} {x : Int32} (h : wfB n B) : wfB n (st B 0 1 x) := by
  obtain ⟨h0, h1, h2, h3, h4, h5, h6, h7⟩ := h
  exact ⟨h0, h1, h2, h3, h4, h5, h6, canB_st h7 (by decide)⟩
theorem wf_gain {n : Nat} {B : Nat → Nat → Int32} (h : wfB n B) (c v : Int32) : wfB n (sGain n B c v) := by
  unfold sGain
  split
  · rename_i hc
    have h1 := of_decide_eq_true hc
    have h2 := h.1
    refine wf_st3 h ?_ (hdI_rng (by decide) (by decide))
    show c.toInt.toNat < 6
    omega
  · exact h
theorem gain_4 {n : Nat} {B : Nat → Nat → Int32} {c v : Int32} {r : Nat} (hr : r ≠ 3) : sGain n B c v r = B r := by
  unfold sGain
  split
  · exact st_ne hr
  · rfl
theorem rng_add1 {x : Int32} {m : Int} (h : 0 ≤ x.toInt ∧ x.toInt < m) (hm : m ≤ 1000) : rng (x + 1) m := by
  have e : (x + 1).toInt = x.toInt + 1 := by
    rw [Int32.toInt_add]
    have e1 : (1 : Int32).toInt = 1 := by decide
    rw [e1]
    exact Int.bmod_eq_of_le (by omega) (by omega)
  unfold rng
  rw [e]; omega
theorem rdy_lt {B : Nat → Nat → Int32} {j : Nat} (h : rdy B j = true) : (B 4 j).toInt < 7 := by
  unfold rdy at h
  simp only [Bool.and_eq_true, decide_eq_true_eq, Int32.lt_iff_toInt_lt] at h
  have e1 : (7 : Int32).toInt = 7 := by decide
  rw [e1] at h
  omega
theorem wf_let {n : Nat} {B : Nat → Nat → Int32} (h : wfB n B) {j : Nat} (hj : j < 6) : wfB n (sLet n B j) := by
  unfold sLet
  split
  · rename_i hr
    exact wf_gain (wf_gain (wf_st4 h hj (rng_add1 ⟨(h.2.2.2.2.2.1 j).1, rdy_lt hr⟩ (by decide))) _ _) _ _
  · exact wf_gain (wf_gain (wf_gain h _ _) _ _) _ _
theorem wf_cold1 {n : Nat} {B : Nat → Nat → Int32} (h : wfB n B) {o : Nat} (ho : o < 6) : wfB n (sCold1 n B o) := by
  unfold sCold1
  have h1 : wfB n (st B 5 o (hdI (B 5 o + 1) 20)) := wf_st5 h ho (hdI_rng (by decide) (by decide))
  split
  · exact wf_gain (wf_st5 h1 ho (rng_0 (by decide))) _ _
  · exact h1
theorem wf_coldTo {n : Nat} {B : Nat → Nat → Int32} (h : wfB n B) (j : Nat) : ∀ o, o ≤ n → wfB n (sColdTo n B j o)
  | 0, _ => h
  | o + 1, ho => by
    have h6 := h.1
    unfold sColdTo
    split
    · exact wf_cold1 (wf_coldTo h j o (by omega)) (by omega)
    · exact wf_coldTo h j o (by omega)
theorem wf_w1a {n : Nat} {B : Nat → Nat → Int32} {j : Nat} {c v : Int32} (h : wfB n B) (hj : j < 6) (h7 : (B 4 j).toInt < 7) : wfB n (st (sGain n B c v) 4 j (sGain n B c v 4 j + 1)) := by
  have h1 := wf_gain h c v
  have e1 : sGain n B c v 4 = B 4 := gain_4 (by decide)
  refine wf_st4 h1 hj ?_
  rw [e1]
  exact rng_add1 ⟨(h.2.2.2.2.2.1 j).1, h7⟩ (by decide)
theorem wf_w1b {n : Nat} {B : Nat → Nat → Int32} {j : Nat} {c v : Int32} (h : wfB n B) (hj : j < 6) (_ : (B 4 j).toInt < 7) : wfB n (st (sGain n B c v) 4 j (sGain n B c v 4 j + 0)) := by
  have h1 := wf_gain h c v
  refine wf_st4 h1 hj ?_
  rw [Int32.add_zero]; exact h1.2.2.2.2.2.1 j
theorem wf_way {n : Nat} {B : Nat → Nat → Int32} (h : wfB n B) {j : Nat} (hj : j < 6) (w : Int32) (h7 : (B 4 j).toInt < 7) : wfB n (sWay n B j w) := by
  unfold sWay
  split
  · exact wf_gain h _ _
  · split
    · split
      · exact wf_w1b h hj h7
      · exact wf_w1a h hj h7
    · split
      · exact wf_let h hj
      · exact wf_gain h _ _
theorem wf_min {n : Nat} {B : Nat → Nat → Int32} (h : wfB n B) {j : Nat} (hj : j < n) (w : Int32) (h7 : (B 4 j).toInt < 7) : wfB n (sMin n B j w) :=
  wf_st01 (wf_coldTo (wf_way h (Nat.lt_of_lt_of_le hj h.1) w h7) j n (Nat.le_refl n))
theorem wf_rest1 {n : Nat} {w : Int32} {B : Nat → Nat → Int32} (h : wfB n B) {i : Nat} (hi : i < 6) : wfB n (sRest1 w B i) := by
  unfold sRest1
  refine wf_st5 (wf_st3 (wf_st4 h hi ?_) hi (hdI_rng (by decide) (by decide))) hi (rng_0 (by decide))
  split
  · exact ⟨by decide, by decide⟩
  · exact hdI_rng (by decide) (by decide)
theorem wf_restTo {n : Nat} {w : Int32} {B : Nat → Nat → Int32} (h : wfB n B) : ∀ i, i ≤ n → wfB n (sRestTo w B i)
  | 0, _ => h
  | i + 1, hi => wf_rest1 (wf_restTo h i (by omega)) (by have := h.1; omega)

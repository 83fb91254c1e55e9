/-! TURNS, WEEKS, BREAKS: what is gone through in mind -/
set_option maxRecDepth 100000
theorem rem2 {a : Nat} (ha : a < 2 ^ 31) : nI a - nI a / 2 * 2 = nI (a % 2) := pk_rem (d := 2) ha (by decide) (by decide)
theorem div2 {a : Nat} (ha : a < 2 ^ 31) : nI a / 2 = nI (a / 2) := pk_div (d := 2) ha (by decide) (by decide)
theorem wrR_neg {W : Nat → Int32} {d : Int32} (h : ¬ wrR W d = 0) : wrR W d < 0 := Classical.byContradiction fun z => by
  obtain ⟨j, hj, rfl, hW⟩ := wrR_0 z
  exact h (wrR_at hj hW)
theorem wrK_neg {W : Nat → Int32} {d : Int32} (h : ¬ wrK W d = 0) : wrK W d < 0 := Classical.byContradiction fun z => by
  obtain ⟨j, hj, rfl, hW⟩ := wrK_0 z
  exact h (wrK_at hj hW)
theorem many_nI {x : Int32} {m : Nat} (h : rng x m) : x = nI x.toNatClampNeg := by
  obtain ⟨h1, h2⟩ := h
  have h3 := Int32.toInt_lt x
  have e0 : ¬ x < 0 := by
    rw [Int32.lt_iff_toInt_lt]
    have e0 : (0 : Int32).toInt = 0 := by decide
    omega
  obtain ⟨j, hj, rfl⟩ := nI_of e0
  rw [nI_clamp hj]
theorem many_le {x : Int32} {m : Nat} (h : rng x m) : x.toNatClampNeg ≤ m := by
  obtain ⟨h1, h2⟩ := h
  show x.toInt.toNat ≤ m
  omega
/-- the set of those of i children for whom q holds, as a number -/
def orN (q : Nat → Bool) : Nat → Nat
  | 0 => 0
  | i + 1 => orN q i + (if q i = true then 2 ^ i else 0)
theorem or_bit : ∀ i, i < 8 → ∀ a, a < 2 ^ i → nI a ||| (1 <<< (nI i &&& 31)) = nI (a + 2 ^ i) := by decide +kernel
theorem orN_lt (q : Nat → Bool) : ∀ i, orN q i < 2 ^ i
  | 0 => Nat.zero_lt_one
  | i + 1 => by
    have ih := orN_lt q i
    unfold orN
    rw [Nat.pow_succ]
    split <;> omega
theorem orTo_nat (q : Nat → Bool) : ∀ i, i ≤ 8 → orTo q i = nI (orN q i)
  | 0, _ => rfl
  | i + 1, h => by
    unfold orTo orN
    rw [orTo_nat q i (by omega)]
    split
    · exact or_bit i (by omega) _ (orN_lt q i)
    · rw [Int32.or_zero, Nat.add_zero]
theorem orN_256 (q : Nat → Bool) {n : Nat} (h : n ≤ 8) : orN q n < 256 := Nat.lt_of_lt_of_le (orN_lt q n) (by
  have := Nat.pow_le_pow_right (n := 2) (by decide) h
  exact this)
theorem shl1 : ∀ n, n ≤ 8 → (1 : Int32) <<< (nI n &&& 31) = nI (2 ^ n) := by decide +kernel
/-- the first number from lo on, of k, for which q holds; -4: none -/
def fstTo (q : Nat → Bool) : Nat → Nat → Int32
  | _, 0 => -4
  | lo, k + 1 => if q lo = true then nI lo else fstTo q (lo + 1) k
/-- by turns: the next one who does not swim, from t on; n: none -/
def trTo (n : Nat) (B : Nat → Nat → Int32) (t : Nat) : Nat → Nat
  | 0 => n
  | k + 1 => if B 4 ((t + (n - (k + 1))) % n) < 7 then (t + (n - (k + 1))) % n else trTo n B t k
def trC (n : Nat) (B : Nat → Nat → Int32) (t : Nat) : Nat := trTo n B t n
theorem trTo_lt (n : Nat) (B : Nat → Nat → Int32) (t : Nat) : ∀ k, trTo n B t k < n → (B 4 (trTo n B t k)).toInt < 7
  | 0, h => absurd h (Nat.lt_irrefl _)
  | k + 1, h => by
    unfold trTo at h ⊢
    split
    · rename_i h1
      exact Int32.lt_iff_toInt_lt.mp h1
    · rename_i h1
      rw [if_neg h1] at h
      exact trTo_lt n B t k h
def sTurnB (n : Nat) (B : Nat → Nat → Int32) (t : Nat) : Nat → Nat → Int32 := if trC n B t < n then sMin n B (trC n B t) (if rdy B (trC n B t) = true then 2 else 0) else B
def sTurnT (n : Nat) (B : Nat → Nat → Int32) (t : Nat) : Nat := if trC n B t < n then trC n B t + 1 else t
def sTurnH (n : Nat) (B : Nat → Nat → Int32) (t : Nat) : Int32 := if trC n B t < n then (if rdy B (trC n B t) = true then 0 else 1) else -4
theorem wf_turn {n : Nat} {B : Nat → Nat → Int32} (h : wfB n B) (t : Nat) : wfB n (sTurnB n B t) := by
  unfold sTurnB
  split
  · rename_i h1
    exact wf_min h h1 _ (trTo_lt n B t n h1)
  · exact h
theorem turnT_le {n : Nat} {B : Nat → Nat → Int32} {t : Nat} (h : t ≤ n) : sTurnT n B t ≤ n := by
  unfold sTurnT
  split <;> omega
def trn (n : Nat) (B : Nat → Nat → Int32) : Nat → (Nat → Nat → Int32) × Nat × Int32
  | 0 => (B, 0, 0)
  | k + 1 => (sTurnB n (trn n B k).1 (trn n B k).2.1, sTurnT n (trn n B k).1 (trn n B k).2.1, (trn n B k).2.2 + (if sTurnH n (trn n B k).1 (trn n B k).2.1 = 1 then 1 else 0))
theorem wf_trn {n : Nat} {B : Nat → Nat → Int32} (h : wfB n B) : ∀ k, wfB n (trn n B k).1
  | 0 => h
  | k + 1 => wf_turn (wf_trn h k) _
theorem trn_le (n : Nat) (B : Nat → Nat → Int32) : ∀ k, (trn n B k).2.1 ≤ n
  | 0 => Nat.zero_le _
  | k + 1 => turnT_le (trn_le n B k)
def turnsOk (x w : Int32) : Bool := inI x 0 99 && inI w 0 1
def oByTurns (n : Nat) (B : Nat → Nat → Int32) (x w : Int32) : Int32 :=
  if turnsOk x w = true then (if w = 0 then nI (pop (orN (swB (trn n B x.toNatClampNeg).1) n)) else (trn n B x.toNatClampNeg).2.2) else -1
def swA (n : Nat) (B : Nat → Nat → Int32) : Bool := decide (orTo (swB B) n = nI (2 ^ n) - 1)
def oAllSwim (n : Nat) (B : Nat → Nat → Int32) : Int32 := fstTo (fun k => swA n (trn n B k).1) 0 100
def oForget (n : Nat) (B : Nat → Nat → Int32) : Int32 := fstTo (fun m => decide (orTo (rdy (sRestTo (nI m) B n)) n = 0)) 0 10
/-! lots -/
def lcg (x : Int32) : Int32 := x * 1103515245 + 12345
def drN (x : Int32) (m : Nat) : Nat := (lcg x).toBitVec.toNat % 2 ^ 31 / 65536 % m
theorem dr_eq (x : Int32) {m : Nat} (h0 : 0 < m) (hm : m < 2 ^ 31) : (lcg x &&& 2147483647) / 65536 - (lcg x &&& 2147483647) / 65536 / nI m * nI m = nI (drN x m) := by
  rw [pk_and (lcg x) (m := 2147483647) 31 (by decide)]
  have h1 : (lcg x).toBitVec.toNat % 2 ^ 31 < 2 ^ 31 := Nat.mod_lt _ (by decide)
  rw [show (65536 : Int32) = nI 65536 from rfl, pk_div h1 (by decide) (by decide), pk_rem (Nat.lt_of_le_of_lt (Nat.div_le_self _ _) h1) h0 hm]
  rfl
/-- ten draws: the bath, the lots, the swallows -/
def wk1 (n : Nat) (s : (Nat → Nat → Int32) × Int32 × Int32) : (Nat → Nat → Int32) × Int32 × Int32 :=
  if s.1 4 (drN s.2.1 n) < 7 then (sMin n s.1 (drN s.2.1 n) (nI (drN (lcg s.2.1) 4)), lcg (lcg s.2.1), s.2.2 + (if drN (lcg s.2.1) 4 = 2 ∧ rdy s.1 (drN s.2.1 n) = false then 1 else 0))
  else (s.1, lcg (lcg s.2.1), s.2.2)
def wkI (n : Nat) (s : (Nat → Nat → Int32) × Int32 × Int32) : Nat → (Nat → Nat → Int32) × Int32 × Int32
  | 0 => s
  | i + 1 => wk1 n (wkI n s i)
def wkTen : Nat := 10
/-- a week: the lots, the steps gained, the swallows -/
def wkR (n : Nat) (B : Nat → Nat → Int32) (g : Int32) (r : (Nat → Nat → Int32) × Int32 × Int32) : Int32 × Int32 × Int32 := (r.2.1, g + (sumTo (r.1 4) n - sumTo (B 4) n), r.2.2)
def wkS (n : Nat) (B : Nat → Nat → Int32) (s : Int32 × Int32 × Int32) : Int32 × Int32 × Int32 := wkR n B s.2.1 (wkI n (B, s.1, s.2.2) wkTen)
def wkO (n : Nat) (B : Nat → Nat → Int32) (z : Int32) : Nat → Int32 × Int32 × Int32
  | 0 => (z, 0, 0)
  | k + 1 => wkS n B (wkO n B z k)
theorem wkS_eq {n : Nat} {B B2 : Nat → Nat → Int32} {sd g sw sd1 sw1 : Int32} (hi : wkI n (B, sd, sw) wkTen = (B2, sd1, sw1)) : wkS n B (sd, g, sw) = (sd1, g + (sumTo (B2 4) n - sumTo (B 4) n), sw1) := by
  have h : wkS n B (sd, g, sw) = wkR n B g (wkI n (B, sd, sw) wkTen) := rfl
  rw [h, hi]
  rfl
theorem wkO_step {n : Nat} {B B2 : Nat → Nat → Int32} {z sd g sw sd1 sw1 : Int32} {k : Nat} (hw : wkO n B z k = (sd, g, sw)) (hi : wkI n (B, sd, sw) wkTen = (B2, sd1, sw1)) : wkO n B z (k + 1) = (sd1, g + (sumTo (B2 4) n - sumTo (B 4) n), sw1) := by
  have h : wkO n B z (k + 1) = wkS n B (wkO n B z k) := rfl
  rw [h, hw]
  exact wkS_eq hi
def weeksOk (x w : Int32) : Bool := inI x 1 20 && inI w 0 1
def oWeeks (n : Nat) (B : Nat → Nat → Int32) (x z w : Int32) : Int32 :=
  if weeksOk x w = true then (if n = 0 then -3 else if w = 0 then (wkO n B z x.toNatClampNeg).2.1 else (wkO n B z x.toNatClampNeg).2.2) else -1
theorem inI_1 {v K : Int32} {k : Nat} (hK : K.toInt = k) (h31 : k + 1 < 2 ^ 31) (h : inI v 1 K = true) : ∃ j, 1 ≤ j ∧ j < k + 1 ∧ v = nI j := by
  unfold inI at h
  simp only [Bool.and_eq_true, Bool.not_eq_true', decide_eq_false_iff_not, Int32.lt_iff_toInt_lt] at h
  have h1 : (1 : Int32).toInt = 1 := by decide
  rw [h1] at h
  obtain ⟨j, hj, hj2⟩ := vp_in_of (vp_in_iff.mpr ⟨show 0 ≤ v.toInt by omega, show v.toInt < ((k + 1 : Nat) : Int) by omega⟩) h31
  subst hj2
  rw [nI_toInt (by omega)] at h
  exact ⟨j, by omega, hj, rfl⟩
/-! told minutes: m longs R c, R c of who and how -/
def fgGood (n : Nat) (B : Nat → Nat → Int32) (c w : Int64) : Bool := inL c 0 (nI n - 1).toInt64 && inL w 0 3 && decide (B 4 c.toInt32.toNatClampNeg < 7)
def fgB (n : Nat) (B : Nat → Nat → Int32) (R : Nat → Int64) : Nat → Nat → Nat → Int32
  | 0 => B
  | k + 1 => if fgGood n (fgB n B R k) (R (2 * k)) (R (2 * k + 1)) = true then sMin n (fgB n B R k) (R (2 * k)).toInt32.toNatClampNeg (R (2 * k + 1)).toInt32 else fgB n B R k
theorem inL_nat {c b : Int64} {k : Nat} (hb : b.toInt = (k : Int) - 1) (hk : k < 2 ^ 31) (h : inL c 0 b = true) : ∃ j : Nat, j < k ∧ c = lN j := by
  unfold inL at h
  simp only [Bool.and_eq_true, Bool.not_eq_true', decide_eq_false_iff_not, Int64.lt_iff_toInt_lt] at h
  have h0 : (0 : Int64).toInt = 0 := by decide
  rw [h0, hb] at h
  obtain ⟨j, hj, rfl⟩ := pk_lOf (x := c) (by rw [Int64.lt_iff_toInt_lt, h0]; omega)
  rw [pk_lT hj] at h
  exact ⟨j, by omega, rfl⟩
theorem fg_nat {n : Nat} {B : Nat → Nat → Int32} {c w : Int64} (hn : n ≤ 6) (h : fgGood n B c w = true) : ∃ j v : Nat, j < n ∧ v < 4 ∧ c = lN j ∧ w = lN v ∧ (B 4 j).toInt < 7 := by
  unfold fgGood at h
  simp only [Bool.and_eq_true, decide_eq_true_eq] at h
  obtain ⟨j, hj, rfl⟩ := inL_nat (k := n) (by rw [Int32.toInt_toInt64, nI_m1_toInt hn]) (by omega) h.1.1
  obtain ⟨v, hv, rfl⟩ := inL_nat (k := 4) (by decide) (by decide) h.1.2
  refine ⟨j, v, hj, hv, rfl, rfl, ?_⟩
  have h3 := h.2
  rw [lN_i, nI_clamp (by omega)] at h3
  exact Int32.lt_iff_toInt_lt.mp h3
theorem wf_fg {n : Nat} {B : Nat → Nat → Int32} {R : Nat → Int64} (h : wfB n B) : ∀ k, wfB n (fgB n B R k)
  | 0 => h
  | k + 1 => by
    unfold fgB
    have ih := wf_fg (R := R) h k
    split
    · rename_i hg
      obtain ⟨j, v, hj, hv, e1, e2, h7⟩ := fg_nat h.1 hg
      have h6 := h.1
      rw [e1, lN_i, nI_clamp (by omega)]
      exact wf_min ih hj _ h7
    · exact ih
def rowY (Y : Nat → Nat → Int64) (d : Nat) : Nat → Int64 := fun q => Y 11 (100 * d + q)
def frgQ (n : Nat) (B : Nat → Nat → Int32) (R : Nat → Int64) (k : Nat) : Bool := !fgGood n (fgB n B R k) (R (2 * k)) (R (2 * k + 1))
def frgN (n : Nat) (B X : Nat → Nat → Int32) (Y : Nat → Nat → Int64) (d : Nat) : Int32 :=
  if (X 10 d).toNatClampNeg % 2 = 1 then -13 else fstTo (frgQ n B (rowY Y d)) 0 ((X 10 d).toNatClampNeg / 2)
def oForged (n : Nat) (B X : Nat → Nat → Int32) (Y : Nat → Nat → Int64) (d : Int32) : Int32 := if wrR (X 6) d < 0 then wrR (X 6) d else frgN n B X Y d.toNatClampNeg
def skipL (s : Int32) : Int64 := if s = 0 then -128 else if s = 1 then -32768 else -2147483648
def jgBad (n : Nat) (B : Nat → Nat → Int32) (s : Int32) (R : Nat → Int64) (c k : Nat) : Bool := !decide (R k = skipL s) && !decide (R k = ((trn n B k).1 3 c).toInt64)
def oJudge (n : Nat) (B X : Nat → Nat → Int32) (Y : Nat → Nat → Int64) (d c : Int32) : Int32 :=
  if isC n c = true then
    (if wrR (X 6) d < 0 then wrR (X 6) d
     else fstTo (jgBad n B (X 9 d.toNatClampNeg) (rowY Y d.toNatClampNeg) c.toNatClampNeg) 0 (X 10 d.toNatClampNeg).toNatClampNeg)
  else -1
/-! what stays of the scratch -/
theorem kpX_rf {X : Nat → Nat → Int32} : kpX X X := ⟨fun _ _ => rfl, rfl⟩
theorem kpX_tr {X X1 X2 : Nat → Nat → Int32} (h : kpX X X1) (h2 : kpX X1 X2) : kpX X X2 := ⟨fun r hr => (h2.1 r hr).trans (h.1 r hr), h2.2.trans h.2⟩
theorem kpX_fr {X X1 : Nat → Nat → Int32} {k : Nat} (hk : k = 15 ∨ k = 19) (h : frX X X1 k) : kpX X X1 := ⟨fun r hr => h.1 r (by omega) (by omega), h.2 5 (by decide) (by decide)⟩
theorem kpX_0 {X : Nat → Nat → Int32} {i : Nat} {x : Int32} (h : i ≠ 5) : kpX X (st X 0 i x) := ⟨fun r hr => st_ne (by omega), by simp [st, upd, Ne.symm h]⟩
theorem kpX_st {X : Nat → Nat → Int32} {k i : Nat} {x : Int32} (h : 11 ≤ k) (h2 : k ≠ 16) : kpX X (st X k i x) := ⟨fun r hr => st_ne (by omega), by rw [st_ne (by omega)]⟩
theorem fr_st10 {X X1 : Nat → Nat → Int32} {k : Nat} (h : frX X X1 k) : X1 0 10 = X 0 10 := h.2 10 (by decide) (by decide)

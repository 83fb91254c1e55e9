/-! ROWS AND SETS: was, group, bands, parts of a whole -/
set_option maxRecDepth 100000
theorem cp_nat1 {a : Nat} {i m : Int32} (ha : a < 2 ^ 31) (hm : rng m 100) (hi : ¬ i < 0) (h : ¬ m - nI a < i) : ∃ b : Nat, i = nI b ∧ (a : Int) + b ≤ m.toInt := by
  obtain ⟨a', b, e1, e2, h3⟩ := cp_nat hm (nI_pos ha) hi h
  refine ⟨b, e2, ?_⟩
  by_cases ha' : a' < 2 ^ 31
  · rw [(nI_eq ha ha').mp e1]; exact h3
  · obtain ⟨h1, h2⟩ := hm
    omega
def rowGo (R : Nat → Int64) (v h : Int32) : Nat → Bool
  | 0 => true
  | i + 1 => rowGo R v h i && decide (R i = (hdI (v + nI i * h) 20).toInt64)
def wasQ (R : Nat → Int64) (v f : Int32) (m k : Nat) : Bool := rowGo R v (holdsF (nI k) f) m
def wasOk (v f w : Int32) : Bool := inI v 0 20 && inI f 0 9 && inI w 0 1
def oWas (X : Nat → Nat → Int32) (Y : Nat → Nat → Int64) (d v f w : Int32) : Int32 :=
  if wasOk v f w = true then
    (if wrR (X 6) d < 0 then wrR (X 6) d
     else if w = 0 then orTo (wasQ (rowY Y d.toNatClampNeg) v f (X 10 d.toNatClampNeg).toNatClampNeg) 8 else nI (pop (orN (wasQ (rowY Y d.toNatClampNeg) v f (X 10 d.toNatClampNeg).toNatClampNeg) 8)))
  else -1
def hsTo (B : Nat → Nat → Int32) (s : Nat) : Nat → Int32
  | 0 => 0
  | c + 1 => hsTo B s c + (if hasB (nI s) (nI c) = true then holdsF (B 1 c) (B 2 c) else 0)
def grp (n : Nat) (B : Nat → Nat → Int32) (h : Int32) : Nat → Nat
  | 0 => 0
  | k + 1 => if ¬ h < hsTo B (k + 1) n ∧ pop (grp n B h k) < pop (k + 1) then k + 1 else grp n B h k
theorem grp_le (n : Nat) (B : Nat → Nat → Int32) (h : Int32) : ∀ k, grp n B h k ≤ k
  | 0 => Nat.le_refl _
  | k + 1 => by
    unfold grp
    have := grp_le n B h k
    split <;> omega
theorem pow_64 {n : Nat} (h : n ≤ 6) : 2 ^ n ≤ 64 := Nat.pow_le_pow_right (n := 2) (by decide) h
def groupOk (h w : Int32) : Bool := inI h 0 30 && inI w 0 1
def oGroup (n : Nat) (B : Nat → Nat → Int32) (h w : Int32) : Int32 := if groupOk h w = true then (if w = 0 then nI (grp n B h (2 ^ n - 1)) else nI (pop (grp n B h (2 ^ n - 1)))) else -1
def bndF (B : Nat → Nat → Int32) (j v : Nat) : Nat → Nat → Nat → Int32
  | 0, _, _ => -4
  | f + 1, w, r => if hdI (B 3 j + nI w) 20 < hdI (needsF (B 1 j) (B 2 j) (B 4 j) - nI r) 99 then nI w else if r = 0 then -4 else bndF B j v f (w + 1) (r - v)
def bandsOk (n : Nat) (c a v : Int32) : Bool := isC n c && inI a 0 9 && inI v 1 9
def oBands (n : Nat) (B : Nat → Nat → Int32) (c a v : Int32) : Int32 :=
  if bandsOk n c a v = true then (if B 4 c.toNatClampNeg = 7 then -3 else bndF B c.toNatClampNeg v.toNatClampNeg 12 0 a.toNatClampNeg) else -1
theorem hd_sub : ∀ r, r < 10 → ∀ v, v < 10 → hdI (nI r - nI v) 9 = nI (r - v) := by decide +kernel
def prtF (u d : Nat) (part : Int32) : Int64 := if u = 0 then part.toInt64 else lN ((if part = 0 then u else d) / Nat.gcd u d)

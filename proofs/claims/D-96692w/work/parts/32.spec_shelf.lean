/-! THE SHELVES: X 6 what a shelf holds (0 nothing, 1 a child, 2 a row), X 7 kinds, X 8 figures, X 9 sorts, X 10 how many; Y 11 the rows, 100 by the shelf -/
set_option maxRecDepth 100000
def wfX (X : Nat → Nat → Int32) : Prop := (∀ j, rng (X 6 j) 2) ∧ (∀ j, rng (X 7 j) 7) ∧ (∀ j, rng (X 8 j) 9) ∧ (∀ j, rng (X 9 j) 2) ∧ ∀ j, rng (X 10 j) 100
theorem inI_many {x i : Int32} (hx : rng x 100) (h : inI i 0 (x - 1) = true) : ∃ j : Nat, (j : Int) < x.toInt ∧ j < 100 ∧ i = nI j := by
  have e1 : (1 : Int32).toInt = 1 := by decide
  have e : (x - 1).toInt = x.toInt - 1 := by
    rw [Int32.toInt_sub, e1]
    obtain ⟨h1, h2⟩ := hx
    exact Int.bmod_eq_of_le (by omega) (by omega)
  have h1 := (inI_iff e).mp h
  obtain ⟨h2, h3⟩ := hx
  obtain ⟨j, hj, hj2⟩ := vp_in_of (vp_in_iff.mpr ⟨h1.1, show i.toInt < ((100 : Nat) : Int) by omega⟩) (by decide)
  subst hj2
  rw [nI_toInt (by omega)] at h1
  exact ⟨j, by omega, hj, rfl⟩
def putOk (X : Nat → Nat → Int32) (d i : Int32) : Bool := inI i 0 (X 10 d.toNatClampNeg - 1)
def oPut (X : Nat → Nat → Int32) (d i : Int32) : Int32 := if wrR (X 6) d < 0 then wrR (X 6) d else if putOk X d i = true then 0 else -13
def oPutY (X : Nat → Nat → Int32) (Y : Nat → Nat → Int64) (d i v : Int32) : Nat → Nat → Int64 := if wrR (X 6) d < 0 then Y else if putOk X d i = true then stL Y 11 (100 * d.toNatClampNeg + i.toNatClampNeg) (narL v (X 9 d.toNatClampNeg)) else Y
def eltT (X : Nat → Nat → Int32) (d i : Int32) : Int32 := if wrR (X 6) d = -1 then 1 else if wrR (X 6) d < 0 then 2 else if putOk X d i = true then 0 else 2
def eltV (X : Nat → Nat → Int32) (Y : Nat → Nat → Int64) (d i : Int32) : Int64 := if eltT X d i = 0 then Y 11 (100 * d.toNatClampNeg + i.toNatClampNeg) else 0
def keepOk (d w k f : Int32) : Bool := inI d 0 7 && inI w 0 1 && (!decide (w = 1) || (inI k 0 7 && inI f 0 9))
def oKeepX (X : Nat → Nat → Int32) (d w k f : Int32) : Nat → Nat → Int32 :=
  if keepOk d w k f = true then st (st (st X 6 d.toNatClampNeg w) 7 d.toNatClampNeg (if w = 1 then k else 0)) 8 d.toNatClampNeg (if w = 1 then f else 0) else X
def rowOk (d s x : Int32) : Bool := inI d 0 7 && inI s 0 2 && !decide (100 < x)
def oRow (d s x : Int32) : Int32 := if rowOk d s x = true then (if x < 0 then -14 else 0) else -1
def oRowX (X : Nat → Nat → Int32) (d s x : Int32) : Nat → Nat → Int32 := if rowOk d s x = true then (if x < 0 then X else st (st (st X 6 d.toNatClampNeg 2) 9 d.toNatClampNeg s) 10 d.toNatClampNeg x) else X
def zerTo (Y : Nat → Nat → Int64) (d : Nat) : Nat → Nat → Nat → Int64
  | 0 => Y
  | i + 1 => stL (zerTo Y d i) 11 (100 * d + i) 0
def oRowY (Y : Nat → Nat → Int64) (d s x : Int32) : Nat → Nat → Int64 := if rowOk d s x = true then (if x < 0 then Y else zerTo Y d.toNatClampNeg 100) else Y
def cpA (Y : Nat → Nat → Int64) (a : Nat) : Nat → Nat → Nat → Int64
  | 0 => Y
  | k + 1 => stL (cpA Y a k) 22 k (cpA Y a k 11 (a + k))
def cpB (Y : Nat → Nat → Int64) (b : Nat) : Nat → Nat → Nat → Int64
  | 0 => Y
  | k + 1 => stL (cpB Y b k) 11 (b + k) (cpB Y b k 22 k)
/-- why a copy isn't made; 0: it is -/
def cpW (X : Nat → Nat → Int32) (d i e j x : Int32) : Int32 :=
  if inI d 0 7 = true ∧ inI e 0 7 = true then
    (if X 6 d.toNatClampNeg = 0 ∨ X 6 e.toNatClampNeg = 0 then -11
     else if ¬ X 6 d.toNatClampNeg = 2 ∨ ¬ X 6 e.toNatClampNeg = 2 ∨ ¬ X 9 d.toNatClampNeg = X 9 e.toNatClampNeg then -12
     else if x < 0 ∨ i < 0 ∨ j < 0 ∨ X 10 d.toNatClampNeg - x < i ∨ X 10 e.toNatClampNeg - x < j then -13 else 0)
  else -1
def oCopy (X : Nat → Nat → Int32) (d i e j x : Int32) : Int32 := if cpW X d i e j x = 0 then x else cpW X d i e j x
def oCopyY (X : Nat → Nat → Int32) (Y : Nat → Nat → Int64) (d i e j x : Int32) : Nat → Nat → Int64 :=
  if cpW X d i e j x = 0 then cpB (cpA Y (100 * d.toNatClampNeg + i.toNatClampNeg) x.toNatClampNeg) (100 * e.toNatClampNeg + j.toNatClampNeg) x.toNatClampNeg else Y
def oCost (X : Nat → Nat → Int32) (d : Int32) : Int32 := if wrK (X 6) d < 0 then wrK (X 6) d else costF (X 7 d.toNatClampNeg) (X 8 d.toNatClampNeg)
def tossF (k f : Int32) : Int32 := if k = 2 ∨ k = 3 ∨ k = 6 ∨ f = 0 then -15 else if k = 0 then f else if k = 7 then 200 + costF k f else 100 + f
def oToss (X : Nat → Nat → Int32) (d : Int32) : Int32 := if wrK (X 6) d < 0 then wrK (X 6) d else tossF (X 7 d.toNatClampNeg) (X 8 d.toNatClampNeg)
/-- what a copy's bounds say -/
theorem cp_nat {x i m : Int32} (hm : rng m 100) (hx : ¬ x < 0) (hi : ¬ i < 0) (h : ¬ m - x < i) : ∃ a b : Nat, x = nI a ∧ i = nI b ∧ (a : Int) + b ≤ m.toInt := by
  have e0 : (0 : Int32).toInt = 0 := by decide
  rw [Int32.lt_iff_toInt_lt, e0] at hx hi
  obtain ⟨a, ha, rfl⟩ := nI_of (x := x) (by rw [Int32.lt_iff_toInt_lt, e0]; exact hx)
  obtain ⟨b, hb, rfl⟩ := nI_of (x := i) (by rw [Int32.lt_iff_toInt_lt, e0]; exact hi)
  refine ⟨a, b, rfl, rfl, ?_⟩
  obtain ⟨h1, h2⟩ := hm
  rw [Int32.lt_iff_toInt_lt, Int32.toInt_sub, nI_toInt ha, nI_toInt hb, Int.bmod_eq_of_le (by omega) (by omega)] at h
  omega

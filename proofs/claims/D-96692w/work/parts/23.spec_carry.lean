/-! THE BATH IN A ROW OF 32: saving and loading it -/
set_option maxRecDepth 100000
def rowOf (q : Nat) : Nat := if q < 2 then 0 else (q - 2) % 5 + 1
def idxOf (q : Nat) : Nat := if q < 2 then q else (q - 2) / 5
def pk (B : Nat → Nat → Int32) (q : Nat) : Int32 := B (rowOf q) (idxOf q)
def savTo (B : Nat → Nat → Int32) (R : Nat → Int32) : Nat → Nat → Int32
  | 0 => R
  | q + 1 => upd (savTo B R q) q (pk B q)
def ldTo (B : Nat → Nat → Int32) (R : Nat → Int32) : Nat → Nat → Nat → Int32
  | 0 => B
  | q + 1 => st (ldTo B R q) (rowOf q) (idxOf q) (R q)
theorem rowOf_c {c k : Nat} (h : k < 5) : rowOf (2 + 5 * c + k) = k + 1 := by unfold rowOf; rw [if_neg (by omega)]; omega
theorem idxOf_c {c k : Nat} (h : k < 5) : idxOf (2 + 5 * c + k) = c := by unfold idxOf; rw [if_neg (by omega)]; omega
theorem sav_at {B : Nat → Nat → Int32} {R : Nat → Int32} {q r i : Nat} (hr : rowOf q = r) (hi : idxOf q = i) : upd (savTo B R q) q (B r i) = savTo B R (q + 1) := by subst hr; subst hi; rfl
theorem ld_at {B : Nat → Nat → Int32} {R : Nat → Int32} {q r i : Nat} (hr : rowOf q = r) (hi : idxOf q = i) : st (ldTo B R q) r i (R q) = ldTo B R (q + 1) := by subst hr; subst hi; rfl
theorem sav_get {B : Nat → Nat → Int32} {R : Nat → Int32} : ∀ q j, j < q → savTo B R q j = pk B j
  | 0, j, h => absurd h (Nat.not_lt_zero _)
  | q + 1, j, h => by
    show upd (savTo B R q) q (pk B q) j = _
    unfold upd
    by_cases hj : j = q
    · rw [if_pos hj, hj]
    · rw [if_neg hj]; exact sav_get q j (by omega)
theorem ld_get {B : Nat → Nat → Int32} {R : Nat → Int32} : ∀ q, q ≤ 32 → ∀ r i, ldTo B R q r i = if posn r i < q then R (posn r i) else B r i
  | 0, _, r, i => by rw [if_neg (by omega)]; rfl
  | q + 1, h, r, i => by
    have ih := ld_get (B := B) (R := R) q (by omega) r i
    show st (ldTo B R q) (rowOf q) (idxOf q) (R q) r i = _
    have key : (r = rowOf q ∧ i = idxOf q) ↔ posn r i = q := by
      unfold rowOf idxOf posn
      by_cases h2 : q < 2
      · rw [if_pos h2, if_pos h2]
        split
        · split <;> omega
        · split <;> omega
      · rw [if_neg h2, if_neg h2]
        split
        · split <;> omega
        · split <;> omega
    unfold st
    by_cases hr : r = rowOf q
    · subst hr
      rw [if_pos rfl]
      unfold upd
      by_cases hi : i = idxOf q
      · have h3 := key.mp ⟨rfl, hi⟩
        rw [if_pos hi, if_pos (by omega), h3]
      · have h3 : ¬ posn (rowOf q) i = q := fun z => hi (key.mpr z).2
        rw [if_neg hi, ih]
        by_cases h4 : posn (rowOf q) i < q
        · rw [if_pos h4, if_pos (by omega)]
        · rw [if_neg h4, if_neg (by omega)]
    · have h3 : ¬ posn r i = q := fun z => hr (key.mpr z).1
      rw [if_neg hr, ih]
      by_cases h4 : posn r i < q
      · rw [if_pos h4, if_pos (by omega)]
      · rw [if_neg h4, if_neg (by omega)]
theorem pk_posn {B : Nat → Nat → Int32} {r i : Nat} (h : posn r i < 32) : pk B (posn r i) = B r i := by
  unfold pk
  have : rowOf (posn r i) = r ∧ idxOf (posn r i) = i := by
    unfold posn at h ⊢
    unfold rowOf idxOf
    by_cases h0 : r = 0
    · rw [if_pos h0] at h ⊢
      by_cases h1 : i < 2
      · rw [if_pos h1, if_pos h1, if_pos h1]; exact ⟨h0.symm, rfl⟩
      · rw [if_neg h1] at h; omega
    · rw [if_neg h0] at h ⊢
      by_cases h1 : r < 6 ∧ i < 6
      · rw [if_pos h1] at h ⊢
        rw [if_neg (by omega), if_neg (by omega)]; omega
      · rw [if_neg h1] at h; omega
  rw [this.1, this.2]
theorem posn_le (r i : Nat) : posn r i ≤ 32 := by
  unfold posn
  split
  · split <;> omega
  · split <;> omega
/-- what is loaded is what was saved -/
theorem ld_sav {B B1 : Nat → Nat → Int32} {R : Nat → Int32} (hR : ∀ q, q < 32 → R q = pk B1 q) (h : canB B) (h1 : canB B1) : ldTo B R 32 = B1 := by
  funext r i
  rw [ld_get 32 (Nat.le_refl _)]
  by_cases hp : posn r i < 32
  · rw [if_pos hp, hR _ hp, pk_posn hp]
  · have h2 : posn r i = 32 := Nat.le_antisymm (posn_le r i) (Nat.le_of_not_lt hp)
    rw [if_neg hp, h r i h2, h1 r i h2]
def cX (X : Nat → Nat → Int32) (kq : Nat) (tk : Bool) (row : Nat → Int32) (q : Nat) : Nat → Nat → Int32 := fun r => if r = 0 then upd (upd (X 0) 7 (bI tk)) 6 (nI q) else if r = kq then row else X r
abbrev okq (kq : Nat) : Prop := kq = 15 ∨ kq = 16 ∨ kq = 19
section CXE
variable {ca : Nat → ClassId} {ad : Nat → Nat} {B X : Nat → Nat → Int32} {Y : Nat → Nat → Int64} {kp kq q : Nat} {tk : Bool} {row : Nat → Int32}
theorem cX_init (hk : okq kq) : st (st X 0 7 (bI tk)) 0 6 0 = cX X kq tk (X kq) 0 := by
  funext r
  unfold st cX
  by_cases h0 : r = 0
  · subst h0; rfl
  · rw [if_neg h0, if_neg h0, if_neg h0]
    by_cases h1 : r = kq
    · rw [if_pos h1, h1]
    · rw [if_neg h1]
theorem mE_cX_he (hk : okq kq) : mE ca ad B (cX X kq tk row q) Y kp kq = .inl (ca 0, 32, .inl row) := by
  rcases hk with rfl | rfl | rfl <;> rfl
theorem mE_cX_st (hk : okq kq) {f : Nat → Int32} : va_up (mE ca ad B (cX X kq tk row q) Y kp) kq (.inl (ca 0, 32, .inl f)) = mE ca ad B (cX X kq tk f q) Y kp := by
  funext j
  unfold va_up
  by_cases hj : j = kq
  · rw [if_pos hj, hj, mE_cX_he hk]
  · rw [if_neg hj]
    unfold mE
    by_cases h0 : j = 0
    · rw [if_pos h0, if_pos h0]; rfl
    · rw [if_neg h0, if_neg h0]
      have : cX X kq tk row q j = cX X kq tk f q j := by unfold cX; rw [if_neg h0, if_neg h0, if_neg hj, if_neg hj]
      rw [this]
theorem mE_cX_p {q' : Nat} {fs : List Value} (hf : fs = mF ad B (cX X kq tk row q') kp) : va_up (mE ca ad B (cX X kq tk row q) Y kp) 0 (.inr (3, fs)) = mE ca ad B (cX X kq tk row q') Y kp :=
  mE_0 (X := cX X kq tk row q) (X' := cX X kq tk row q') (fun _ _ => rfl) (fun k hk => by
    have h0 : ¬ k = 0 := by omega
    simp [cX, h0]) hf
theorem mF_kq (hk : okq kq) : (mF ad B X kq)[26]? = some (.ref (ad kq)) := by
  rcases hk with rfl | rfl | rfl <;> rfl
theorem mF_kset (hk : okq kq) : (mF ad B X kp).set 26 (.ref (ad kq)) = mF ad B X kq := by
  rcases hk with rfl | rfl | rfl <;> rfl
theorem carT {r i : Nat} {z : Int32} {w : Nat → Int32} (hr : rowOf q = r) (hi : idxOf q = i) : mE ca ad (st B r i (if true = true then B r i else z)) (cX X kq true (if true = true then upd (savTo B (X kq) q) q (B r i) else w) (q + 1)) Y kp = mE ca ad B (cX X kq true (savTo B (X kq) (q + 1)) (q + 1)) Y kp := by
  rw [if_pos rfl, if_pos rfl, st_same, sav_at hr hi]
theorem carF {r i : Nat} {z : Int32} {w : Nat → Int32} (hr : rowOf q = r) (hi : idxOf q = i) : mE ca ad (st (ldTo B (X kq) q) r i (if false = true then z else X kq q)) (cX X kq false (if false = true then w else X kq) (q + 1)) Y kp = mE ca ad (ldTo B (X kq) (q + 1)) (cX X kq false (X kq) (q + 1)) Y kp := by
  rw [if_neg (by decide), if_neg (by decide), ld_at hr hi]
end CXE
/-- all of X stays but what saving and loading need -/
def frX (X X1 : Nat → Nat → Int32) (k : Nat) : Prop := (∀ r, r ≠ 0 → r ≠ k → X1 r = X r) ∧ ∀ j, j ≠ 6 → j ≠ 7 → X1 0 j = X 0 j
theorem frX_cX {X : Nat → Nat → Int32} {kq : Nat} {tk : Bool} {row : Nat → Int32} {q : Nat} (hk : okq kq) : frX X (cX X kq tk row q) kq := by
  refine ⟨fun r h0 h1 => by unfold cX; rw [if_neg h0, if_neg h1], fun j h6 h7 => ?_⟩
  show upd (upd (X 0) 7 (bI tk)) 6 (nI q) j = _
  unfold upd
  rw [if_neg h6, if_neg h7]

/-! BASE: a world of fixed places: N cells, the k-th at ad k with content e k; rows over it; what every walk of ours has -/
set_option maxRecDepth 100000
abbrev vwCl : List vw_C := [(RX1, TX1, 13), (RX2, TX2, 7), (RX3, TX3, 1), (RX4, TX4, 37), (RX5, TX5, 2), (RX6, TX6, 4), (RX8, TX8, 1), (RX9, TX9, 1), (RX10, TX10, 1), (RX11, TX11, 1), (RX12, TX12, 1), (RX13, TX13, 1), (RX14, TX14, 1), (RX15, TX15, 1), (RX7, TX7, 7), (RX16, TX16, 7)]
abbrev tyk (ca : Nat → ClassId) : List (ClassId × FieldType) := [(ca 0, .int), (ca 1, .long), (ca 2, .byte), (ca 3, .short), (ca 4, .object "HandUnderTheChin$Child"), (ca 5, .object "HandUnderTheChin$Bath"), (ca 6, .object "HandUnderTheChin$Told"), (ca 7, .object "HandUnderTheChin$Shelf")]
def wl (N : Nat) (ad : Nat → Nat) (e : Nat → va_E) : va_W := (List.range N).map (fun k => (ad k, e k))
theorem wl_len {N : Nat} {ad : Nat → Nat} {e : Nat → va_E} : (wl N ad e).length = N := by simp [wl]
theorem wl_get {N : Nat} {ad : Nat → Nat} {e : Nat → va_E} {k : Nat} (h : k < N) : (wl N ad e)[k]? = some (ad k, e k) := by simp [wl, h]
theorem wl_lt {N : Nat} {ad : Nat → Nat} {e : Nat → va_E} {k : Nat} {q : Nat × va_E} (h : (wl N ad e)[k]? = some q) : k < N ∧ q = (ad k, e k) := by
  have h1 : k < N := by
    have := (List.getElem?_eq_some_iff.mp h).1
    rwa [wl_len] at this
  rw [wl_get h1] at h
  exact ⟨h1, (Option.some.inj h).symm⟩
theorem wl_set {N : Nat} {ad : Nat → Nat} {e : Nat → va_E} {k : Nat} {v : va_E} (h : k < N) : (wl N ad e).set k (ad k, v) = wl N ad (va_up e k v) := by
  apply List.ext_getElem?
  intro i
  by_cases hi : i = k
  · subst hi
    rw [List.getElem?_set_self (by rw [wl_len]; exact h), wl_get h]
    simp [va_up]
  · rw [List.getElem?_set_ne (Ne.symm hi)]
    by_cases hN : i < N
    · rw [wl_get hN, wl_get hN]
      simp [va_up, hi]
    · rw [List.getElem?_eq_none (by rw [wl_len]; omega), List.getElem?_eq_none (by rw [wl_len]; omega)]
/-- the addresses are apart, may be written, and so may what is new -/
def okA (N : Nat) (ad : Nat → Nat) (A : Nat → Prop) (sz : Nat) : Prop := (∀ i j, i < N → j < N → ad i = ad j → i = j) ∧ (∀ k, k < N → A (ad k)) ∧ ∀ q : Nat, sz ≤ q → A q
theorem wl_D {N : Nat} {ad : Nat → Nat} {e : Nat → va_E} {A : Nat → Prop} (h1 : ∀ i j, i < N → j < N → ad i = ad j → i = j) (h2 : ∀ k, k < N → A (ad k)) : va_D A (wl N ad e) := by
  refine ⟨fun i j p q hi hj hpq => ?_, fun k q hk => ?_⟩
  · obtain ⟨a1, rfl⟩ := wl_lt hi
    obtain ⟨a2, rfl⟩ := wl_lt hj
    exact h1 i j a1 a2 hpq
  · obtain ⟨a1, rfl⟩ := wl_lt hk
    exact h2 k a1
theorem wl_D1 {N : Nat} {ad : Nat → Nat} {e : Nat → va_E} {A : Nat → Prop} (h : va_D A (wl N ad e)) : (∀ i j, i < N → j < N → ad i = ad j → i = j) ∧ ∀ k, k < N → A (ad k) :=
  ⟨fun i j hi hj hij => h.1 i j _ _ (wl_get hi) (wl_get hj) hij, fun k hk => h.2 k _ (wl_get hk)⟩
theorem wl_D2 {N : Nat} {ad : Nat → Nat} {e e' : Nat → va_E} {A : Nat → Prop} (h : va_D A (wl N ad e)) : va_D A (wl N ad e') := wl_D (wl_D1 h).1 (wl_D1 h).2
def RW (D : va_G) (N : Nat) (ad : Nat → Nat) (e : Nat → va_E) (A : Nat → Prop) (H0 H : Heap) (locs : List Loc) : Prop := va_P D vwCl (wl N ad e) H ∧ va_D A (wl N ad e) ∧ va_S A H0 H locs ∧ ∀ q : Nat, H0.size ≤ q → A q
theorem RW.ok {D : va_G} {N : Nat} {ad : Nat → Nat} {e : Nat → va_E} {A : Nat → Prop} {H0 H : Heap} {locs : List Loc} (h : RW D N ad e A H0 H locs) : okA N ad A H.size :=
  ⟨(wl_D1 h.2.1).1, (wl_D1 h.2.1).2, fun q hq => h.2.2.2 q (Nat.le_trans h.2.2.1.1 hq)⟩
theorem RW.start {D : va_G} {N : Nat} {ad : Nat → Nat} {e : Nat → va_E} {A : Nat → Prop} {H : Heap} (h : okA N ad A H.size) (hP : va_P D vwCl (wl N ad e) H) : RW D N ad e A H H [] := ⟨hP, wl_D h.1 h.2.1, va_S.rf, h.2.2⟩
/-- a heap in which all old cells stay -/
theorem RW.grow {D : va_G} {N : Nat} {ad : Nat → Nat} {e : Nat → va_E} {A : Nat → Prop} {H0 H H1 : Heap} {locs locs1 : List Loc} (h : RW D N ad e A H0 H locs) (hk : ∀ q : Nat, q < H.size → H1[q]? = H[q]?) (hS : va_S A H0 H1 locs1) : RW D N ad e A H0 H1 locs1 :=
  ⟨h.1.kept (fun k q hq => hk q.1 (h.1 k q hq).lt), h.2.1, hS, h.2.2.2⟩
def bI (b : Bool) : Int32 := if b = true then 1 else 0
theorem bI_z {b : Bool} : bI b = 0 ↔ b = false := by cases b <;> decide
theorem bI_o {b : Bool} : bI b = 1 ↔ b = true := by cases b <;> decide
theorem bI_nz {b : Bool} : ¬ bI b = 0 ↔ b = true := by cases b <;> decide
theorem bI_nar (b : Bool) : narrow .boolean (.int (bI b)) = .int (bI b) := by cases b <;> rfl
abbrev rmN (h : Nat) : Room := { frames := h, cells := 0, slots := 0, locals := 40 * h + 12 }
section BASEROWS
variable {p : Program} {l : Launch} {e : Env} {R : Room} {s : State} {m : MethodId} {args : Array Value} {below : List Frame} {meth : Method} {c : Code} {H H0 : Heap} {locs : List Loc} {cells slots : Nat} {Q : State → Prop}
variable {cc : ByteArray} {pc : Nat} {ls : Array Slot} {rest : List Value} {D : va_G} {A : Nat → Prop} {ca : Nat → ClassId} {N : Nat} {ad : Nat → Nat} {w : Nat → va_E}
theorem rw_iald (hx : p.tables.exec = Jvm.exec) (hb : c.code = cc) (hK : va_K D vwCl (tyk ca) s) (hR : RW D N ad w A H0 H locs) (k : Nat) (hk : k < N) {n : Nat} {f : Nat → Int32} (he : w k = .inl (ca 0, n, .inl f)) {i : Int32} (hin : vp_in i n) (hdg : decode cc pc = .ok (.iaload, 1))
    (kk : W p l e R s m args below meth c H locs cells slots Q (F0 m (pc + 1) ls (.int (f i.toNatClampNeg) :: rest))) : W p l e R s m args below meth c H locs cells slots Q (F0 m pc ls (.int i :: .ref (ad k) :: rest)) :=
  va_iald hx hb hK hR.1 k 0 (by rw [wl_get hk, he]) rfl hin hdg kk
theorem rw_ialdN (hx : p.tables.exec = Jvm.exec) (hb : c.code = cc) (hK : va_K D vwCl (tyk ca) s) (hR : RW D N ad w A H0 H locs) (k : Nat) (hk : k < N) {n : Nat} {f : Nat → Int32} (he : w k = .inl (ca 0, n, .inl f)) (j : Nat) {i : Int32} (hi : i = nI j) (hj : j < n) (hn : n < 2 ^ 31) (hdg : decode cc pc = .ok (.iaload, 1))
    (kk : W p l e R s m args below meth c H locs cells slots Q (F0 m (pc + 1) ls (.int (f j) :: rest))) : W p l e R s m args below meth c H locs cells slots Q (F0 m pc ls (.int i :: .ref (ad k) :: rest)) := by
  subst hi
  refine rw_iald hx hb hK hR k hk he (vp_in_nI hj hn) hdg ?_
  rw [nI_clamp (Nat.lt_trans hj hn)]
  exact kk
theorem rw_lald (hx : p.tables.exec = Jvm.exec) (hb : c.code = cc) (hK : va_K D vwCl (tyk ca) s) (hR : RW D N ad w A H0 H locs) (k : Nat) (hk : k < N) {n : Nat} {f : Nat → Int64} (he : w k = .inl (ca 1, n, .inr (.inl f))) {i : Int32} (hin : vp_in i n) (hdg : decode cc pc = .ok (.laload, 1))
    (kk : W p l e R s m args below meth c H locs cells slots Q (F0 m (pc + 1) ls (.long (f i.toNatClampNeg) :: rest))) : W p l e R s m args below meth c H locs cells slots Q (F0 m pc ls (.int i :: .ref (ad k) :: rest)) :=
  va_lald hx hb hK hR.1 k 1 (by rw [wl_get hk, he]) rfl hin hdg kk
theorem rw_laldN (hx : p.tables.exec = Jvm.exec) (hb : c.code = cc) (hK : va_K D vwCl (tyk ca) s) (hR : RW D N ad w A H0 H locs) (k : Nat) (hk : k < N) {n : Nat} {f : Nat → Int64} (he : w k = .inl (ca 1, n, .inr (.inl f))) (j : Nat) {i : Int32} (hi : i = nI j) (hj : j < n) (hn : n < 2 ^ 31) (hdg : decode cc pc = .ok (.laload, 1))
    (kk : W p l e R s m args below meth c H locs cells slots Q (F0 m (pc + 1) ls (.long (f j) :: rest))) : W p l e R s m args below meth c H locs cells slots Q (F0 m pc ls (.int i :: .ref (ad k) :: rest)) := by
  subst hi
  refine rw_lald hx hb hK hR k hk he (vp_in_nI hj hn) hdg ?_
  rw [nI_clamp (Nat.lt_trans hj hn)]
  exact kk
theorem rw_iast (hx : p.tables.exec = Jvm.exec) (hb : c.code = cc) (hK : va_K D vwCl (tyk ca) s) (hR : RW D N ad w A H0 H locs) (k : Nat) (hk : k < N) {n : Nat} {f : Nat → Int32} (he : w k = .inl (ca 0, n, .inl f)) {i x : Int32} (hin : vp_in i n) (hdg : decode cc pc = .ok (.iastore, 1)) {w' : Nat → va_E} (hw : va_up w k (.inl (ca 0, n, .inl (upd f i.toNatClampNeg x))) = w')
    (kk : ∀ (H1 : Heap) (locs1 : List Loc), RW D N ad w' A H0 H1 locs1 → W p l e R s m args below meth c H1 locs1 cells slots Q (F0 m (pc + 1) ls rest)) : W p l e R s m args below meth c H locs cells slots Q (F0 m pc ls (.int x :: .int i :: .ref (ad k) :: rest)) :=
  va_iast hx hb hK hR.1 hR.2.1 hR.2.2.1 k 0 (by rw [wl_get hk, he]) rfl hin hdg (fun H1 locs1 hP hD hS => by
    rw [wl_set hk, hw] at hP hD
    exact kk H1 locs1 ⟨hP, hD, hS, hR.2.2.2⟩)
theorem rw_iastN (hx : p.tables.exec = Jvm.exec) (hb : c.code = cc) (hK : va_K D vwCl (tyk ca) s) (hR : RW D N ad w A H0 H locs) (k : Nat) (hk : k < N) {n : Nat} {f : Nat → Int32} (he : w k = .inl (ca 0, n, .inl f)) (j : Nat) {i x : Int32} (hi : i = nI j) (hj : j < n) (hn : n < 2 ^ 31) (hdg : decode cc pc = .ok (.iastore, 1)) {w' : Nat → va_E} (hw : va_up w k (.inl (ca 0, n, .inl (upd f j x))) = w')
    (kk : ∀ (H1 : Heap) (locs1 : List Loc), RW D N ad w' A H0 H1 locs1 → W p l e R s m args below meth c H1 locs1 cells slots Q (F0 m (pc + 1) ls rest)) : W p l e R s m args below meth c H locs cells slots Q (F0 m pc ls (.int x :: .int i :: .ref (ad k) :: rest)) := by
  subst hi
  exact rw_iast hx hb hK hR k hk he (vp_in_nI hj hn) hdg (by rw [nI_clamp (Nat.lt_trans hj hn)]; exact hw) kk
theorem rw_last (hx : p.tables.exec = Jvm.exec) (hb : c.code = cc) (hK : va_K D vwCl (tyk ca) s) (hR : RW D N ad w A H0 H locs) (k : Nat) (hk : k < N) {n : Nat} {f : Nat → Int64} (he : w k = .inl (ca 1, n, .inr (.inl f))) {i : Int32} {x : Int64} (hin : vp_in i n) (hdg : decode cc pc = .ok (.lastore, 1)) {w' : Nat → va_E} (hw : va_up w k (.inl (ca 1, n, .inr (.inl (vp_updL f i.toNatClampNeg x)))) = w')
    (kk : ∀ (H1 : Heap) (locs1 : List Loc), RW D N ad w' A H0 H1 locs1 → W p l e R s m args below meth c H1 locs1 cells slots Q (F0 m (pc + 1) ls rest)) : W p l e R s m args below meth c H locs cells slots Q (F0 m pc ls (.long x :: .int i :: .ref (ad k) :: rest)) :=
  va_last hx hb hK hR.1 hR.2.1 hR.2.2.1 k 1 (by rw [wl_get hk, he]) rfl hin hdg (fun H1 locs1 hP hD hS => by
    rw [wl_set hk, hw] at hP hD
    exact kk H1 locs1 ⟨hP, hD, hS, hR.2.2.2⟩)
theorem rw_lastN (hx : p.tables.exec = Jvm.exec) (hb : c.code = cc) (hK : va_K D vwCl (tyk ca) s) (hR : RW D N ad w A H0 H locs) (k : Nat) (hk : k < N) {n : Nat} {f : Nat → Int64} (he : w k = .inl (ca 1, n, .inr (.inl f))) (j : Nat) {i : Int32} {x : Int64} (hi : i = nI j) (hj : j < n) (hn : n < 2 ^ 31) (hdg : decode cc pc = .ok (.lastore, 1)) {w' : Nat → va_E} (hw : va_up w k (.inl (ca 1, n, .inr (.inl (vp_updL f j x)))) = w')
    (kk : ∀ (H1 : Heap) (locs1 : List Loc), RW D N ad w' A H0 H1 locs1 → W p l e R s m args below meth c H1 locs1 cells slots Q (F0 m (pc + 1) ls rest)) : W p l e R s m args below meth c H locs cells slots Q (F0 m pc ls (.long x :: .int i :: .ref (ad k) :: rest)) := by
  subst hi
  exact rw_last hx hb hK hR k hk he (vp_in_nI hj hn) hdg (by rw [nI_clamp (Nat.lt_trans hj hn)]; exact hw) kk
theorem rw_get (hx : p.tables.exec = Jvm.exec) (hb : c.code = cc) {own ref C : String} {T : u_T} {NF ci index : Nat} (hts : ∀ w ∈ lw_all, w.before args s = true) (hin : ∀ w ∈ u_ws C T NF, w ∈ lw_all) (hown : s.vm.findClass own = some m.cls) (hK : va_K D vwCl (tyk ca) s) (hR : RW D N ad w A H0 H locs) (k : Nat) (hk : k < N) {fs : List Value} (he : w k = .inr (ci, fs)) (hc : vwCl[ci]? = some (C, T, NF)) (fk : Nat) (hfk : fk < NF) (hlink : (Cond.fieldLink own index ref (T fk).2.1 (T fk).2.2.1) ∈ lw_all) (hsame : (T fk).1 = ref) {v : Value} (hv : fs[fk]? = some v) (hdg : decode cc pc = .ok (.getfield index, 3))
    (kk : W p l e R s m args below meth c H locs cells slots Q (F0 m (pc + 3) ls (v :: rest))) : W p l e R s m args below meth c H locs cells slots Q (F0 m pc ls (.ref (ad k) :: rest)) :=
  va_get hx hb hts hin hown hK hR.1 k (by rw [wl_get hk, he]) hc fk hfk (hts _ hlink) (fun x h => by rw [← hsame]; exact h) hv hdg kk
theorem rw_put (hx : p.tables.exec = Jvm.exec) (hb : c.code = cc) {own ref C : String} {T : u_T} {NF ci index : Nat} (hts : ∀ w ∈ lw_all, w.before args s = true) (hin : ∀ w ∈ u_ws C T NF, w ∈ lw_all) (ty0 : Nat → FieldType) (hty : ∀ k, k < NF → parseFieldDescriptor (T k).2.2.1 = some (ty0 k)) (hnm : ∀ a, a < NF → ∀ b, b < NF → a ≠ b → (T a).2.1 ≠ (T b).2.1) (hown : s.vm.findClass own = some m.cls) (hK : va_K D vwCl (tyk ca) s) (hR : RW D N ad w A H0 H locs) (k : Nat) (hk : k < N) {fs : List Value} (he : w k = .inr (ci, fs)) (hc : vwCl[ci]? = some (C, T, NF)) (fk : Nat) (hfk : fk < NF) (hlink : (Cond.fieldLink own index ref (T fk).2.1 (T fk).2.2.1) ∈ lw_all) (hsame : (T fk).1 = ref) (hfin : (T fk).2.2.2 = false) {v : Value} (hn : narrow (ty0 fk) v = v) (hfit : fits (ty0 fk) v = true) (hl : fk < fs.length) (hdg : decode cc pc = .ok (.putfield index, 3)) {w' : Nat → va_E} (hw : va_up w k (.inr (ci, fs.set fk v)) = w')
    (kk : ∀ (H1 : Heap) (locs1 : List Loc), RW D N ad w' A H0 H1 locs1 → W p l e R s m args below meth c H1 locs1 cells slots Q (F0 m (pc + 3) ls rest)) : W p l e R s m args below meth c H locs cells slots Q (F0 m pc ls (v :: .ref (ad k) :: rest)) :=
  va_put hx hb hts hin ty0 hty hnm hown hK hR.1 hR.2.1 hR.2.2.1 k (by rw [wl_get hk, he]) hc fk hfk (hts _ hlink) (fun x h => by rw [← hsame]; exact h) hfin (hty fk hfk) hn hfit hl hdg (fun H1 locs1 hP hD hS => by
    rw [wl_set hk, hw] at hP hD
    exact kk H1 locs1 ⟨hP, hD, hS, hR.2.2.2⟩)
/-- a branch over a truth value -/
theorem lb_eq (hx : p.tables.exec = Jvm.exec) (hb : c.code = cc) {b : Bool} {off : Int} {tgt : Nat} (hdg : decode cc pc = .ok (.ifCond .eq off, 3)) (ht : (pc : Int) + off = (tgt : Int)) (kt : b = false → W p l e R s m args below meth c H locs cells slots Q (F0 m tgt ls rest)) (kf : b = true → W p l e R s m args below meth c H locs cells slots Q (F0 m (pc + 3) ls rest)) : W p l e R s m args below meth c H locs cells slots Q (F0 m pc ls (.int (bI b) :: rest)) :=
  lv_if_eq hx hb hdg ht (fun h => kt (bI_z.mp h)) (fun h => kf (bI_nz.mp h))
theorem lb_ne (hx : p.tables.exec = Jvm.exec) (hb : c.code = cc) {b : Bool} {off : Int} {tgt : Nat} (hdg : decode cc pc = .ok (.ifCond .ne off, 3)) (ht : (pc : Int) + off = (tgt : Int)) (kt : b = true → W p l e R s m args below meth c H locs cells slots Q (F0 m tgt ls rest)) (kf : b = false → W p l e R s m args below meth c H locs cells slots Q (F0 m (pc + 3) ls rest)) : W p l e R s m args below meth c H locs cells slots Q (F0 m pc ls (.int (bI b) :: rest)) :=
  lv_if_ne hx hb hdg ht (fun h => kt (bI_nz.mp h)) (fun h => kf (bI_z.mp h))
/-- branches over numbers that are written as nI -/
theorem ln_ge (hx : p.tables.exec = Jvm.exec) (hb : c.code = cc) (a b : Nat) {x y : Int32} {off : Int} {tgt : Nat} (hxa : x = nI a) (hyb : y = nI b) (ha : a < 2 ^ 31) (hbb : b < 2 ^ 31) (hdg : decode cc pc = .ok (.if_icmp .ge off, 3)) (ht : (pc : Int) + off = (tgt : Int)) (kt : b ≤ a → W p l e R s m args below meth c H locs cells slots Q (F0 m tgt ls rest)) (kf : a < b → W p l e R s m args below meth c H locs cells slots Q (F0 m (pc + 3) ls rest)) : W p l e R s m args below meth c H locs cells slots Q (F0 m pc ls (.int y :: .int x :: rest)) := by
  subst hxa; subst hyb
  exact lv_icmp_ge hx hb hdg ht (fun h => kt ((nI_leI hbb ha).mp h)) (fun h => kf (Nat.lt_of_not_le fun z => h ((nI_leI hbb ha).mpr z)))
theorem ln_gt (hx : p.tables.exec = Jvm.exec) (hb : c.code = cc) (a b : Nat) {x y : Int32} {off : Int} {tgt : Nat} (hxa : x = nI a) (hyb : y = nI b) (ha : a < 2 ^ 31) (hbb : b < 2 ^ 31) (hdg : decode cc pc = .ok (.if_icmp .gt off, 3)) (ht : (pc : Int) + off = (tgt : Int)) (kt : b < a → W p l e R s m args below meth c H locs cells slots Q (F0 m tgt ls rest)) (kf : a ≤ b → W p l e R s m args below meth c H locs cells slots Q (F0 m (pc + 3) ls rest)) : W p l e R s m args below meth c H locs cells slots Q (F0 m pc ls (.int y :: .int x :: rest)) := by
  subst hxa; subst hyb
  exact lv_icmp_gt hx hb hdg ht (fun h => kt ((nI_ltI hbb ha).mp h)) (fun h => kf (Nat.le_of_not_lt fun z => h ((nI_ltI hbb ha).mpr z)))
theorem ln_le (hx : p.tables.exec = Jvm.exec) (hb : c.code = cc) (a b : Nat) {x y : Int32} {off : Int} {tgt : Nat} (hxa : x = nI a) (hyb : y = nI b) (ha : a < 2 ^ 31) (hbb : b < 2 ^ 31) (hdg : decode cc pc = .ok (.if_icmp .le off, 3)) (ht : (pc : Int) + off = (tgt : Int)) (kt : a ≤ b → W p l e R s m args below meth c H locs cells slots Q (F0 m tgt ls rest)) (kf : b < a → W p l e R s m args below meth c H locs cells slots Q (F0 m (pc + 3) ls rest)) : W p l e R s m args below meth c H locs cells slots Q (F0 m pc ls (.int y :: .int x :: rest)) := by
  subst hxa; subst hyb
  exact lv_icmp_le hx hb hdg ht (fun h => kt ((nI_leI ha hbb).mp h)) (fun h => kf (Nat.lt_of_not_le fun z => h ((nI_leI ha hbb).mpr z)))
theorem ln_lt (hx : p.tables.exec = Jvm.exec) (hb : c.code = cc) (a b : Nat) {x y : Int32} {off : Int} {tgt : Nat} (hxa : x = nI a) (hyb : y = nI b) (ha : a < 2 ^ 31) (hbb : b < 2 ^ 31) (hdg : decode cc pc = .ok (.if_icmp .lt off, 3)) (ht : (pc : Int) + off = (tgt : Int)) (kt : a < b → W p l e R s m args below meth c H locs cells slots Q (F0 m tgt ls rest)) (kf : b ≤ a → W p l e R s m args below meth c H locs cells slots Q (F0 m (pc + 3) ls rest)) : W p l e R s m args below meth c H locs cells slots Q (F0 m pc ls (.int y :: .int x :: rest)) := by
  subst hxa; subst hyb
  exact lv_icmp_lt hx hb hdg ht (fun h => kt ((nI_ltI ha hbb).mp h)) (fun h => kf (Nat.le_of_not_lt fun z => h ((nI_ltI ha hbb).mpr z)))
theorem ln_eq (hx : p.tables.exec = Jvm.exec) (hb : c.code = cc) (a b : Nat) {x y : Int32} {off : Int} {tgt : Nat} (hxa : x = nI a) (hyb : y = nI b) (ha : a < 2 ^ 31) (hbb : b < 2 ^ 31) (hdg : decode cc pc = .ok (.if_icmp .eq off, 3)) (ht : (pc : Int) + off = (tgt : Int)) (kt : a = b → W p l e R s m args below meth c H locs cells slots Q (F0 m tgt ls rest)) (kf : ¬ a = b → W p l e R s m args below meth c H locs cells slots Q (F0 m (pc + 3) ls rest)) : W p l e R s m args below meth c H locs cells slots Q (F0 m pc ls (.int y :: .int x :: rest)) := by
  subst hxa; subst hyb
  exact lv_icmp_eq hx hb hdg ht (fun h => kt ((nI_eq ha hbb).mp h)) (fun h => kf (fun z => h ((nI_eq ha hbb).mpr z)))
theorem ln_ne (hx : p.tables.exec = Jvm.exec) (hb : c.code = cc) (a b : Nat) {x y : Int32} {off : Int} {tgt : Nat} (hxa : x = nI a) (hyb : y = nI b) (ha : a < 2 ^ 31) (hbb : b < 2 ^ 31) (hdg : decode cc pc = .ok (.if_icmp .ne off, 3)) (ht : (pc : Int) + off = (tgt : Int)) (kt : ¬ a = b → W p l e R s m args below meth c H locs cells slots Q (F0 m tgt ls rest)) (kf : a = b → W p l e R s m args below meth c H locs cells slots Q (F0 m (pc + 3) ls rest)) : W p l e R s m args below meth c H locs cells slots Q (F0 m pc ls (.int y :: .int x :: rest)) := by
  subst hxa; subst hyb
  exact lv_icmp_ne hx hb hdg ht (fun h => kt (fun z => h ((nI_eq ha hbb).mpr z))) (fun h => kf ((nI_eq ha hbb).mp h))
end BASEROWS

/-! CONTRACTS: static methods that answer out of their arguments (SS..), and what calls them -/
set_option maxRecDepth 100000
def SSi (l : Launch) (y : MethodName) (ws : List Cond) (rm : Room) (As : List Value) (r : Int32) : Prop := Met l y ws rm (va_Pc As (fun _ => True)) (va_Qi (fun v (_ : Unit) => v = r) (fun _ _ => True) (fun _ => False)) 0 0 (fun _ => False)
def SSl (l : Launch) (y : MethodName) (ws : List Cond) (rm : Room) (As : List Value) (r : Int64) : Prop := Met l y ws rm (va_Pc As (fun _ => True)) (va_Ql (fun v (_ : Unit) => v = r) (fun _ _ => True) (fun _ => False)) 0 0 (fun _ => False)
theorem SSi_start {l : Launch} {y : MethodName} {cc : ByteArray} {maxL : Nat} {rt : FieldType} {rm : Room} {As : List Value} {r : Int32} (hy : plainName y.cls = true) (hrt : rt = .int ∨ (rt = .boolean ∧ narrow .boolean (.int r) = .int r)) (hlen : (lg_sl As).length ≤ maxL)
    (body : ∀ (p : Program) (e : Env) (s : State) (m : MethodId) (args : Array Value) (below : List Frame) (meth : Method) (c : Code) (Q : State → Prop) (ls : Array Slot), p.tables.exec = Jvm.exec → c.code = cc → c.maxLocals = maxL → s.vm.findClass y.cls = some m.cls → (∀ w ∈ lw_all, w.before args s = true) → va_S (fun _ => False) s.heap s.heap [] → lv_has ls maxL (lv_args 0 As) →
      (∀ (pc : Nat) (ls : Array Slot) (H : Heap) (locs : List Loc) (v : Int32), v = r → va_S (fun _ => False) s.heap H locs → decode cc pc = .ok (.ireturn, 1) → W p l e rm s m args below meth c H locs 0 0 Q (F0 m pc ls [.int v])) →
      W p l e rm s m args below meth c s.heap [] 0 0 Q (F0 m 0 ls [])) : SSi l y (ws_ y cc maxL (some rt)) rm As r := by
  refine Met.ofW (cc := cc) (maxL := maxL) (ret := some rt) hy rfl ?_
  intro p e s m args below meth c s₁ B hml hv
  obtain ⟨rfl, -⟩ := hv
  have hts := atoms_spec (ws := ws_ y cc maxL (some rt)) B.pre
  have hts : ∀ w ∈ lw_all, w.before _ s = true := fun w h => hts w (List.mem_cons_of_mem _ h)
  have hl := lv_entry As (n := maxL) hlen
  rw [lg_entry_eq]
  generalize (lg_sl As ++ List.replicate (maxL - (lg_sl As).length) Slot.unset).toArray = ls at hl ⊢
  refine body p e s m _ below meth c _ ls B.exec B.bytes hml (findClass_of_methodNamed B.named) hts va_S.rf hl ?_
  intro pc ls H locs v hv hS hd
  subst hv
  have hlocks := B.notSynchronized
  rcases hrt with rfl | ⟨rfl, hn⟩
  · exact W.iret B.exec B.bytes B.returns (fun t ht hW => ⟨⟨_, (), rfl, rfl, trivial⟩, hS.F ht⟩) hS.2.2 hd
  · exact W.zret B.exec B.bytes B.returns hn (fun t ht hW => ⟨⟨_, (), rfl, rfl, trivial⟩, hS.F ht⟩) hS.2.2 hd
theorem SSl_start {l : Launch} {y : MethodName} {cc : ByteArray} {maxL : Nat} {rm : Room} {As : List Value} {r : Int64} (hy : plainName y.cls = true) (hlen : (lg_sl As).length ≤ maxL)
    (body : ∀ (p : Program) (e : Env) (s : State) (m : MethodId) (args : Array Value) (below : List Frame) (meth : Method) (c : Code) (Q : State → Prop) (ls : Array Slot), p.tables.exec = Jvm.exec → c.code = cc → c.maxLocals = maxL → s.vm.findClass y.cls = some m.cls → (∀ w ∈ lw_all, w.before args s = true) → va_S (fun _ => False) s.heap s.heap [] → lv_has ls maxL (lv_args 0 As) →
      (∀ (pc : Nat) (ls : Array Slot) (H : Heap) (locs : List Loc) (v : Int64), v = r → va_S (fun _ => False) s.heap H locs → decode cc pc = .ok (.lreturn, 1) → W p l e rm s m args below meth c H locs 0 0 Q (F0 m pc ls [.long v])) →
      W p l e rm s m args below meth c s.heap [] 0 0 Q (F0 m 0 ls [])) : SSl l y (ws_ y cc maxL (some .long)) rm As r := by
  refine Met.ofW (cc := cc) (maxL := maxL) (ret := some .long) hy rfl ?_
  intro p e s m args below meth c s₁ B hml hv
  obtain ⟨rfl, -⟩ := hv
  have hts := atoms_spec (ws := ws_ y cc maxL (some .long)) B.pre
  have hts : ∀ w ∈ lw_all, w.before _ s = true := fun w h => hts w (List.mem_cons_of_mem _ h)
  have hl := lv_entry As (n := maxL) hlen
  rw [lg_entry_eq]
  generalize (lg_sl As ++ List.replicate (maxL - (lg_sl As).length) Slot.unset).toArray = ls at hl ⊢
  refine body p e s m _ below meth c _ ls B.exec B.bytes hml (findClass_of_methodNamed B.named) hts va_S.rf hl ?_
  intro pc ls H locs v hv hS hd
  subst hv
  have hlocks := B.notSynchronized
  exact W.lret B.exec B.bytes B.returns (fun t ht hW => ⟨⟨_, (), rfl, rfl, trivial⟩, hS.F ht⟩) hS.2.2 hd
section SCALL
variable {p : Program} {l : Launch} {e : Env} {R : Room} {s : State} {m : MethodId} {args : Array Value} {below : List Frame} {meth : Method} {c : Code} {H H0 : Heap} {locs : List Loc} {cells slots : Nat} {Q : State → Prop}
variable {cc bytes : ByteArray} {pc nL maxL index n : Nat} {ls : Array Slot} {rest st0 : List Value} {D : va_G} {A : Nat → Prop} {ca : Nat → ClassId} {N : Nat} {ad : Nat → Nat} {w : Nat → va_E} {own : String} {y : MethodName} {ws : List Cond} {rm : Room} {As : List Value} {ret : Option FieldType}
theorem ss_calli {r : Int32} (hx : p.tables.exec = Jvm.exec) (hb : c.code = cc) (hml : c.maxLocals = nL) (hown : s.vm.findClass own = some m.cls) (hts : ∀ w ∈ lw_all, w.before args s = true) (hl : ls.size = nL) (hS : va_S A H0 H locs) (hM : SSi l y ws rm As r) (cw : CallB R s args own index y bytes maxL ret ws rm 0 0 n ∧ (Cond.static y).before args s = true) (hn : As.length = n) (hst : st0 = As.reverse ++ rest) (hW : (rest.map fun v => v.category).sum ≤ 8) (hdg : decode cc pc = .ok (.invokestatic index, 3)) (hf : cells ≤ R.cells ∧ slots ≤ R.slots)
    (kk : ∀ (H1 : Heap) (locs1 : List Loc), H.size ≤ H1.size → (∀ q : Nat, q < H.size → H1[q]? = H[q]?) → va_S A H0 H1 locs1 → W p l e R s m args below meth c H1 locs1 cells slots Q (F0 m (pc + 3) ls (.int r :: rest))) : W p l e R s m args below meth c H locs cells slots Q (F0 m pc ls st0) := by
  subst hst
  refine va_calli (va_runS (As := As) (rest := rest) ⟨hx, hb, hml, hown, hts⟩ hM cw ⟨fun a U g mk q => ⟨q.1, trivial⟩, fun U hU hW => ⟨rfl, trivial⟩⟩ rfl hn hl rfl (lv_room hW) hdg hf) hS (fun q _ h => h.elim) (fun q h => h.elim) (fun v u t H1 locs1 ht hvm hw hB hz hk hS1 => ?_)
  subst hw
  exact kk H1 locs1 hz (fun q hq => hk q hq (fun z => z)) hS1
theorem ss_calll {r : Int64} (hx : p.tables.exec = Jvm.exec) (hb : c.code = cc) (hml : c.maxLocals = nL) (hown : s.vm.findClass own = some m.cls) (hts : ∀ w ∈ lw_all, w.before args s = true) (hl : ls.size = nL) (hS : va_S A H0 H locs) (hM : SSl l y ws rm As r) (cw : CallB R s args own index y bytes maxL ret ws rm 0 0 n ∧ (Cond.static y).before args s = true) (hn : As.length = n) (hst : st0 = As.reverse ++ rest) (hW : (rest.map fun v => v.category).sum ≤ 8) (hdg : decode cc pc = .ok (.invokestatic index, 3)) (hf : cells ≤ R.cells ∧ slots ≤ R.slots)
    (kk : ∀ (H1 : Heap) (locs1 : List Loc), H.size ≤ H1.size → (∀ q : Nat, q < H.size → H1[q]? = H[q]?) → va_S A H0 H1 locs1 → W p l e R s m args below meth c H1 locs1 cells slots Q (F0 m (pc + 3) ls (.long r :: rest))) : W p l e R s m args below meth c H locs cells slots Q (F0 m pc ls st0) := by
  subst hst
  refine va_calll (va_runS (As := As) (rest := rest) ⟨hx, hb, hml, hown, hts⟩ hM cw ⟨fun a U g mk q => ⟨q.1, trivial⟩, fun U hU hW => ⟨rfl, trivial⟩⟩ rfl hn hl rfl (lv_room hW) hdg hf) hS (fun q _ h => h.elim) (fun q h => h.elim) (fun v u t H1 locs1 ht hvm hw hB hz hk hS1 => ?_)
  subst hw
  exact kk H1 locs1 hz (fun q hq => hk q hq (fun z => z)) hS1
/-- the same, in a world -/
theorem rs_calli {r : Int32} (hx : p.tables.exec = Jvm.exec) (hb : c.code = cc) (hml : c.maxLocals = nL) (hown : s.vm.findClass own = some m.cls) (hts : ∀ w ∈ lw_all, w.before args s = true) (hl : ls.size = nL) (hR : RW D N ad w A H0 H locs) (hM : SSi l y ws rm As r) (cw : CallB R s args own index y bytes maxL ret ws rm 0 0 n ∧ (Cond.static y).before args s = true) (hn : As.length = n) (hst : st0 = As.reverse ++ rest) (hW : (rest.map fun v => v.category).sum ≤ 8) (hdg : decode cc pc = .ok (.invokestatic index, 3)) (hf : cells ≤ R.cells ∧ slots ≤ R.slots)
    (kk : ∀ (H1 : Heap) (locs1 : List Loc), RW D N ad w A H0 H1 locs1 → W p l e R s m args below meth c H1 locs1 cells slots Q (F0 m (pc + 3) ls (.int r :: rest))) : W p l e R s m args below meth c H locs cells slots Q (F0 m pc ls st0) :=
  ss_calli hx hb hml hown hts hl hR.2.2.1 hM cw hn hst hW hdg hf (fun H1 locs1 _ hk hS => kk H1 locs1 (hR.grow hk hS))
theorem rs_calll {r : Int64} (hx : p.tables.exec = Jvm.exec) (hb : c.code = cc) (hml : c.maxLocals = nL) (hown : s.vm.findClass own = some m.cls) (hts : ∀ w ∈ lw_all, w.before args s = true) (hl : ls.size = nL) (hR : RW D N ad w A H0 H locs) (hM : SSl l y ws rm As r) (cw : CallB R s args own index y bytes maxL ret ws rm 0 0 n ∧ (Cond.static y).before args s = true) (hn : As.length = n) (hst : st0 = As.reverse ++ rest) (hW : (rest.map fun v => v.category).sum ≤ 8) (hdg : decode cc pc = .ok (.invokestatic index, 3)) (hf : cells ≤ R.cells ∧ slots ≤ R.slots)
    (kk : ∀ (H1 : Heap) (locs1 : List Loc), RW D N ad w A H0 H1 locs1 → W p l e R s m args below meth c H1 locs1 cells slots Q (F0 m (pc + 3) ls (.long r :: rest))) : W p l e R s m args below meth c H locs cells slots Q (F0 m pc ls st0) :=
  ss_calll hx hb hml hown hts hl hR.2.2.1 hM cw hn hst hW hdg hf (fun H1 locs1 _ hk hS => kk H1 locs1 (hR.grow hk hS))
end SCALL
/-! THE MODEL's WORLD: HandUnderTheChinModel's object (place 0) and its 22 arrays. B: the bath (rows 1..5: kinds, figures, trusts, steps, colds; B 0 0 the children, B 0 1 the minute). X: all else of ints (X 0 j its numbers, X k the array at place k), Y: the arrays of longs, kp: which array keptIn is (0: none) -/
def mKp (ad : Nat → Nat) (kp : Nat) : Value := if kp = 0 then .null else .ref (ad kp)
def mF (ad : Nat → Nat) (B X : Nat → Nat → Int32) (kp : Nat) : List Value :=
  [.int (B 0 0), .ref (ad 1), .ref (ad 2), .ref (ad 3), .ref (ad 4), .ref (ad 5), .int (B 0 1), .ref (ad 6), .ref (ad 7), .ref (ad 8), .ref (ad 9), .ref (ad 10), .ref (ad 11), .int (X 0 0), .int (X 0 1), .int (X 0 2), .int (X 0 3), .int (X 0 4), .ref (ad 12), .ref (ad 13), .ref (ad 14), .ref (ad 15), .ref (ad 16), .int (X 0 5), .int (X 0 6), .int (X 0 7), mKp ad kp, .ref (ad 17), .ref (ad 18), .ref (ad 19), .ref (ad 20), .int (X 0 8), .int (X 0 9), .int (X 0 10), .ref (ad 21), .int (X 0 11), .ref (ad 22)]
def mLen (k : Nat) : Nat := match k with
  | 6 => 8 | 7 => 8 | 8 => 8 | 9 => 8 | 10 => 8 | 11 => 800 | 12 => 51 | 13 => 51 | 14 => 153 | 15 => 32 | 16 => 32 | 17 => 168 | 18 => 96 | 19 => 32 | 20 => 3 | 21 => 6 | 22 => 100 | _ => 6
def mE (ca : Nat → ClassId) (ad : Nat → Nat) (B X : Nat → Nat → Int32) (Y : Nat → Nat → Int64) (kp : Nat) : Nat → va_E := fun k =>
  if k = 0 then .inr (3, mF ad B X kp) else if k < 6 then .inl (ca 0, 6, .inl (B k)) else if k = 11 ∨ k = 22 then .inl (ca 1, mLen k, .inr (.inl (Y k))) else .inl (ca 0, mLen k, .inl (X k))
/-- one place of one row anew -/
def st (f : Nat → Nat → Int32) (k i : Nat) (x : Int32) : Nat → Nat → Int32 := fun r => if r = k then upd (f k) i x else f r
def stL (f : Nat → Nat → Int64) (k i : Nat) (x : Int64) : Nat → Nat → Int64 := fun r => if r = k then vp_updL (f k) i x else f r
theorem st_eq {f : Nat → Nat → Int32} {k i : Nat} {x : Int32} : st f k i x k = upd (f k) i x := by simp [st]
theorem st_ne {f : Nat → Nat → Int32} {k i r : Nat} {x : Int32} (h : r ≠ k) : st f k i x r = f r := by simp [st, h]
theorem st_same {f : Nat → Nat → Int32} {k i : Nat} : st f k i (f k i) = f := by
  funext r j
  by_cases h : r = k
  · subst h
    by_cases hj : j = i
    · subst hj; simp [st, upd]
    · simp [st, upd, hj]
  · simp [st, h]
section MEQ
variable {ca : Nat → ClassId} {ad : Nat → Nat} {B X : Nat → Nat → Int32} {Y : Nat → Nat → Int64} {kp : Nat}
theorem mE_B (k : Nat) (h : 0 < k ∧ k < 6) {i : Nat} {x : Int32} : va_up (mE ca ad B X Y kp) k (.inl (ca 0, 6, .inl (upd (B k) i x))) = mE ca ad (st B k i x) X Y kp := by
  funext j
  by_cases hj : j = k
  · subst hj
    have h0 : ¬ j = 0 := by omega
    simp [va_up, mE, h0, h.2, st_eq]
  · by_cases h0 : j = 0
    · subst h0
      simp [va_up, hj, mE, mF, st, show ¬ 0 = k from hj]
    · simp [va_up, hj, mE, h0, st, hj]
theorem mE_X (k : Nat) (h : 6 ≤ k ∧ k < 23 ∧ k ≠ 11 ∧ k ≠ 22) {i : Nat} {x : Int32} : va_up (mE ca ad B X Y kp) k (.inl (ca 0, mLen k, .inl (upd (X k) i x))) = mE ca ad B (st X k i x) Y kp := by
  funext j
  by_cases hj : j = k
  · subst hj
    have h0 : ¬ j = 0 := by omega
    have h1 : ¬ j < 6 := by omega
    simp [va_up, mE, h0, h1, h.2.2.1, h.2.2.2, st_eq]
  · by_cases h0 : j = 0
    · subst h0
      simp [va_up, hj, mE, mF, st, show ¬ 0 = k from hj]
    · simp [va_up, hj, mE, h0, st, hj]
theorem mE_Y (k : Nat) (h : k = 11 ∨ k = 22) {i : Nat} {x : Int64} : va_up (mE ca ad B X Y kp) k (.inl (ca 1, mLen k, .inr (.inl (vp_updL (Y k) i x)))) = mE ca ad B X (stL Y k i x) kp := by
  funext j
  by_cases hj : j = k
  · subst hj
    have h0 : ¬ j = 0 := by omega
    have h1 : ¬ j < 6 := by omega
    simp [va_up, mE, h0, h1, h, stL]
  · by_cases h0 : j = 0
    · subst h0
      simp [va_up, hj, mE]
    · simp [va_up, hj, mE, h0, stL, hj]
theorem mE_0 {B' X' : Nat → Nat → Int32} {kp' : Nat} {fs : List Value} (hB : ∀ k, 0 < k → B' k = B k) (hX : ∀ k, 0 < k → X' k = X k) (hf : fs = mF ad B' X' kp') : va_up (mE ca ad B X Y kp) 0 (.inr (3, fs)) = mE ca ad B' X' Y kp' := by
  subst hf
  funext j
  by_cases hj : j = 0
  · subst hj
    simp [va_up, mE]
  · simp [va_up, hj, mE, hB j (by omega), hX j (by omega)]
theorem mE_pB (i : Nat) {x : Int32} {fs : List Value} (hf : fs = mF ad (st B 0 i x) X kp) : va_up (mE ca ad B X Y kp) 0 (.inr (3, fs)) = mE ca ad (st B 0 i x) X Y kp := mE_0 (fun k hk => st_ne (by omega)) (fun _ _ => rfl) hf
theorem mE_pX (i : Nat) {x : Int32} {fs : List Value} (hf : fs = mF ad B (st X 0 i x) kp) : va_up (mE ca ad B X Y kp) 0 (.inr (3, fs)) = mE ca ad B (st X 0 i x) Y kp := mE_0 (fun _ _ => rfl) (fun k hk => st_ne (by omega)) hf
theorem mE_pK {kp' : Nat} {fs : List Value} (hf : fs = mF ad B X kp') : va_up (mE ca ad B X Y kp) 0 (.inr (3, fs)) = mE ca ad B X Y kp' := mE_0 (fun _ _ => rfl) (fun _ _ => rfl) hf
end MEQ
abbrev mW (D : va_G) (ca : Nat → ClassId) (ad : Nat → Nat) (B X : Nat → Nat → Int32) (Y : Nat → Nat → Int64) (kp : Nat) (t : State) : Prop := va_P D vwCl (wl 23 ad (mE ca ad B X Y kp)) t.heap ∧ va_K D vwCl (tyk ca) t
def MMi (l : Launch) (D : va_G) (ca : Nat → ClassId) (y : MethodName) (ws : List Cond) (rm : Room) (As : (Nat → Nat) → List Value) (B X : Nat → Nat → Int32) (Y : Nat → Nat → Int64) (kp : Nat) (r : Int32) (B' X' : Nat → Nat → Int32) (Y' : Nat → Nat → Int64) (kp' : Nat) : Prop :=
  ∀ (ad : Nat → Nat) (A : Nat → Prop) (sz : Nat), okA 23 ad A sz → Met l y ws rm (va_Pc (.ref (ad 0) :: As ad) (fun U => U.heap.size = sz ∧ mW D ca ad B X Y kp U)) (va_Qi (fun v (_ : Unit) => v = r) (fun _ t => mW D ca ad B' X' Y' kp' t) A) 0 0 A
def MMl (l : Launch) (D : va_G) (ca : Nat → ClassId) (y : MethodName) (ws : List Cond) (rm : Room) (As : (Nat → Nat) → List Value) (B X : Nat → Nat → Int32) (Y : Nat → Nat → Int64) (kp : Nat) (r : Int64) (B' X' : Nat → Nat → Int32) (Y' : Nat → Nat → Int64) (kp' : Nat) : Prop :=
  ∀ (ad : Nat → Nat) (A : Nat → Prop) (sz : Nat), okA 23 ad A sz → Met l y ws rm (va_Pc (.ref (ad 0) :: As ad) (fun U => U.heap.size = sz ∧ mW D ca ad B X Y kp U)) (va_Ql (fun v (_ : Unit) => v = r) (fun _ t => mW D ca ad B' X' Y' kp' t) A) 0 0 A
def MMv (l : Launch) (D : va_G) (ca : Nat → ClassId) (y : MethodName) (ws : List Cond) (rm : Room) (As : (Nat → Nat) → List Value) (B X : Nat → Nat → Int32) (Y : Nat → Nat → Int64) (kp : Nat) (B' X' : Nat → Nat → Int32) (Y' : Nat → Nat → Int64) (kp' : Nat) : Prop :=
  ∀ (ad : Nat → Nat) (A : Nat → Prop) (sz : Nat), okA 23 ad A sz → Met l y ws rm (va_Pc (.ref (ad 0) :: As ad) (fun U => U.heap.size = sz ∧ mW D ca ad B X Y kp U)) (va_Qv (fun (_ : Unit) => True) (fun _ t => mW D ca ad B' X' Y' kp' t) A) 0 0 A
theorem MMi_start {l : Launch} {D : va_G} {ca : Nat → ClassId} {y : MethodName} {cc : ByteArray} {maxL : Nat} {rt : FieldType} {rm : Room} {As : (Nat → Nat) → List Value} {B X : Nat → Nat → Int32} {Y : Nat → Nat → Int64} {kp : Nat} {r : Int32} {B' X' : Nat → Nat → Int32} {Y' : Nat → Nat → Int64} {kp' : Nat} (hy : plainName y.cls = true) (hrt : rt = .int ∨ (rt = .boolean ∧ narrow .boolean (.int r) = .int r)) (hlen : ∀ ad, (lg_sl (.ref (ad 0) :: As ad)).length ≤ maxL)
    (body : ∀ (p : Program) (e : Env) (s : State) (m : MethodId) (args : Array Value) (below : List Frame) (meth : Method) (c : Code) (ad : Nat → Nat) (A : Nat → Prop) (Q : State → Prop) (ls : Array Slot), p.tables.exec = Jvm.exec → c.code = cc → c.maxLocals = maxL → s.vm.findClass y.cls = some m.cls → (∀ w ∈ lw_all, w.before args s = true) → va_K D vwCl (tyk ca) s → RW D 23 ad (mE ca ad B X Y kp) A s.heap s.heap [] → lv_has ls maxL (lv_args 0 (.ref (ad 0) :: As ad)) →
      (∀ (pc : Nat) (ls : Array Slot) (H : Heap) (locs : List Loc) (v : Int32), v = r → RW D 23 ad (mE ca ad B' X' Y' kp') A s.heap H locs → decode cc pc = .ok (.ireturn, 1) → W p l e rm s m args below meth c H locs 0 0 Q (F0 m pc ls [.int v])) →
      W p l e rm s m args below meth c s.heap [] 0 0 Q (F0 m 0 ls [])) : MMi l D ca y (ws_ y cc maxL (some rt)) rm As B X Y kp r B' X' Y' kp' := by
  intro ad A sz ok
  refine Met.ofW (cc := cc) (maxL := maxL) (ret := some rt) hy rfl ?_
  intro p e s m args below meth c s₁ Bd hml hv
  obtain ⟨rfl, hsz, hP, hK⟩ := hv
  subst hsz
  have hts := atoms_spec (ws := ws_ y cc maxL (some rt)) Bd.pre
  have hts : ∀ w ∈ lw_all, w.before _ s = true := fun w h => hts w (List.mem_cons_of_mem _ h)
  have hl := lv_entry (.ref (ad 0) :: As ad) (n := maxL) (hlen ad)
  rw [lg_entry_eq]
  generalize (lg_sl (.ref (ad 0) :: As ad) ++ List.replicate (maxL - (lg_sl (.ref (ad 0) :: As ad)).length) Slot.unset).toArray = ls at hl ⊢
  refine body p e s m _ below meth c ad A _ ls Bd.exec Bd.bytes hml (findClass_of_methodNamed Bd.named) hts hK (RW.start ok hP) hl ?_
  intro pc ls H locs v hv hR hd
  subst hv
  have hlocks := Bd.notSynchronized
  rcases hrt with rfl | ⟨rfl, hn⟩
  · exact W.iret Bd.exec Bd.bytes Bd.returns (fun t ht hW => ⟨⟨_, (), rfl, rfl, by rw [ht]; exact hR.1, va_K.moved hW.alike hK⟩, hR.2.2.1.F ht⟩) hR.2.2.1.2.2 hd
  · exact W.zret Bd.exec Bd.bytes Bd.returns hn (fun t ht hW => ⟨⟨_, (), rfl, rfl, by rw [ht]; exact hR.1, va_K.moved hW.alike hK⟩, hR.2.2.1.F ht⟩) hR.2.2.1.2.2 hd
theorem MMl_start {l : Launch} {D : va_G} {ca : Nat → ClassId} {y : MethodName} {cc : ByteArray} {maxL : Nat} {rm : Room} {As : (Nat → Nat) → List Value} {B X : Nat → Nat → Int32} {Y : Nat → Nat → Int64} {kp : Nat} {r : Int64} {B' X' : Nat → Nat → Int32} {Y' : Nat → Nat → Int64} {kp' : Nat} (hy : plainName y.cls = true) (hlen : ∀ ad, (lg_sl (.ref (ad 0) :: As ad)).length ≤ maxL)
    (body : ∀ (p : Program) (e : Env) (s : State) (m : MethodId) (args : Array Value) (below : List Frame) (meth : Method) (c : Code) (ad : Nat → Nat) (A : Nat → Prop) (Q : State → Prop) (ls : Array Slot), p.tables.exec = Jvm.exec → c.code = cc → c.maxLocals = maxL → s.vm.findClass y.cls = some m.cls → (∀ w ∈ lw_all, w.before args s = true) → va_K D vwCl (tyk ca) s → RW D 23 ad (mE ca ad B X Y kp) A s.heap s.heap [] → lv_has ls maxL (lv_args 0 (.ref (ad 0) :: As ad)) →
      (∀ (pc : Nat) (ls : Array Slot) (H : Heap) (locs : List Loc) (v : Int64), v = r → RW D 23 ad (mE ca ad B' X' Y' kp') A s.heap H locs → decode cc pc = .ok (.lreturn, 1) → W p l e rm s m args below meth c H locs 0 0 Q (F0 m pc ls [.long v])) →
      W p l e rm s m args below meth c s.heap [] 0 0 Q (F0 m 0 ls [])) : MMl l D ca y (ws_ y cc maxL (some .long)) rm As B X Y kp r B' X' Y' kp' := by
  intro ad A sz ok
  refine Met.ofW (cc := cc) (maxL := maxL) (ret := some .long) hy rfl ?_
  intro p e s m args below meth c s₁ Bd hml hv
  obtain ⟨rfl, hsz, hP, hK⟩ := hv
  subst hsz
  have hts := atoms_spec (ws := ws_ y cc maxL (some .long)) Bd.pre
  have hts : ∀ w ∈ lw_all, w.before _ s = true := fun w h => hts w (List.mem_cons_of_mem _ h)
  have hl := lv_entry (.ref (ad 0) :: As ad) (n := maxL) (hlen ad)
  rw [lg_entry_eq]
  generalize (lg_sl (.ref (ad 0) :: As ad) ++ List.replicate (maxL - (lg_sl (.ref (ad 0) :: As ad)).length) Slot.unset).toArray = ls at hl ⊢
  refine body p e s m _ below meth c ad A _ ls Bd.exec Bd.bytes hml (findClass_of_methodNamed Bd.named) hts hK (RW.start ok hP) hl ?_
  intro pc ls H locs v hv hR hd
  subst hv
  have hlocks := Bd.notSynchronized
  exact W.lret Bd.exec Bd.bytes Bd.returns (fun t ht hW => ⟨⟨_, (), rfl, rfl, by rw [ht]; exact hR.1, va_K.moved hW.alike hK⟩, hR.2.2.1.F ht⟩) hR.2.2.1.2.2 hd
theorem MMv_start {l : Launch} {D : va_G} {ca : Nat → ClassId} {y : MethodName} {cc : ByteArray} {maxL : Nat} {rm : Room} {As : (Nat → Nat) → List Value} {B X : Nat → Nat → Int32} {Y : Nat → Nat → Int64} {kp : Nat} {B' X' : Nat → Nat → Int32} {Y' : Nat → Nat → Int64} {kp' : Nat} (hy : plainName y.cls = true) (hlen : ∀ ad, (lg_sl (.ref (ad 0) :: As ad)).length ≤ maxL)
    (body : ∀ (p : Program) (e : Env) (s : State) (m : MethodId) (args : Array Value) (below : List Frame) (meth : Method) (c : Code) (ad : Nat → Nat) (A : Nat → Prop) (Q : State → Prop) (ls : Array Slot), p.tables.exec = Jvm.exec → c.code = cc → c.maxLocals = maxL → s.vm.findClass y.cls = some m.cls → (∀ w ∈ lw_all, w.before args s = true) → va_K D vwCl (tyk ca) s → RW D 23 ad (mE ca ad B X Y kp) A s.heap s.heap [] → lv_has ls maxL (lv_args 0 (.ref (ad 0) :: As ad)) →
      (∀ (pc : Nat) (ls : Array Slot) (H : Heap) (locs : List Loc), RW D 23 ad (mE ca ad B' X' Y' kp') A s.heap H locs → decode cc pc = .ok (.return_, 1) → W p l e rm s m args below meth c H locs 0 0 Q (F0 m pc ls [])) →
      W p l e rm s m args below meth c s.heap [] 0 0 Q (F0 m 0 ls [])) : MMv l D ca y (ws_ y cc maxL none) rm As B X Y kp B' X' Y' kp' := by
  intro ad A sz ok
  refine Met.ofW (cc := cc) (maxL := maxL) (ret := none) hy rfl ?_
  intro p e s m args below meth c s₁ Bd hml hv
  obtain ⟨rfl, hsz, hP, hK⟩ := hv
  subst hsz
  have hts := atoms_spec (ws := ws_ y cc maxL none) Bd.pre
  have hts : ∀ w ∈ lw_all, w.before _ s = true := fun w h => hts w (List.mem_cons_of_mem _ h)
  have hl := lv_entry (.ref (ad 0) :: As ad) (n := maxL) (hlen ad)
  rw [lg_entry_eq]
  generalize (lg_sl (.ref (ad 0) :: As ad) ++ List.replicate (maxL - (lg_sl (.ref (ad 0) :: As ad)).length) Slot.unset).toArray = ls at hl ⊢
  refine body p e s m _ below meth c ad A _ ls Bd.exec Bd.bytes hml (findClass_of_methodNamed Bd.named) hts hK (RW.start ok hP) hl ?_
  intro pc ls H locs hR hd
  have hlocks := Bd.notSynchronized
  exact W.vret Bd.exec Bd.bytes Bd.returns (fun t ht hW => ⟨⟨(), rfl, trivial, by rw [ht]; exact hR.1, va_K.moved hW.alike hK⟩, hR.2.2.1.F ht⟩) hR.2.2.1.2.2 hd
section MCALL
variable {p : Program} {l : Launch} {e : Env} {R : Room} {s : State} {m : MethodId} {args : Array Value} {below : List Frame} {meth : Method} {c : Code} {H : Heap} {locs : List Loc} {cells slots : Nat} {Q : State → Prop}
variable {cc bytes : ByteArray} {pc nL maxL index n : Nat} {ls : Array Slot} {rest st0 : List Value} {D : va_G} {A : Nat → Prop} {ca : Nat → ClassId} {ad : Nat → Nat} {own : String} {y : MethodName} {ws : List Cond} {rm : Room} {As : (Nat → Nat) → List Value} {ret : Option FieldType} {B X : Nat → Nat → Int32} {Y : Nat → Nat → Int64} {kp : Nat} {B' X' : Nat → Nat → Int32} {Y' : Nat → Nat → Int64} {kp' : Nat}
theorem mm_blind (av : List Value) (sz : Nat) : FrameBlind (va_Pc av (fun U => U.heap.size = sz ∧ mW D ca ad B X Y kp U)) := fun a U g mk q => by
  obtain ⟨q0, q1, qP, qK⟩ := q
  exact ⟨q0, q1, qP, va_K.moved (u := U) (U := U.calling g mk a) (Vm.Alike.refl U.vm) qK⟩
theorem mm_calli {r : Int32} (hx : p.tables.exec = Jvm.exec) (hb : c.code = cc) (hml : c.maxLocals = nL) (hown : s.vm.findClass own = some m.cls) (hts : ∀ w ∈ lw_all, w.before args s = true) (hK : va_K D vwCl (tyk ca) s) (hl : ls.size = nL) (hR : RW D 23 ad (mE ca ad B X Y kp) A s.heap H locs) (hM : MMi l D ca y ws rm As B X Y kp r B' X' Y' kp') (cw : CallW R s args own RX4 index y bytes maxL ret ws rm 0 0 n) (hn : (As ad).length = n) (hst : st0 = (As ad).reverse ++ .ref (ad 0) :: rest) (hW : (rest.map fun v => v.category).sum ≤ 8) (hdg : decode cc pc = .ok (.invokevirtual index, 3)) (hf : cells ≤ R.cells ∧ slots ≤ R.slots)
    (kk : ∀ (H1 : Heap) (locs1 : List Loc), RW D 23 ad (mE ca ad B' X' Y' kp') A s.heap H1 locs1 → W p l e R s m args below meth c H1 locs1 cells slots Q (F0 m (pc + 3) ls (.int r :: rest))) : W p l e R s m args below meth c H locs cells slots Q (F0 m pc ls st0) := by
  subst hst
  have ok := hR.ok
  obtain ⟨hP, hD, hS, hA⟩ := hR
  refine va_calli (va_runV (As := As ad) (rest := rest) ⟨hx, hb, hml, hown, hts⟩ (hM ad A H.size ok) cw ⟨mm_blind _ _, va_recv hK hP (ci := 3) (q0 := 0) rfl (wl_get (by decide)), fun U hU hW => ⟨rfl, by rw [hU], by rw [hU]; exact hP, va_K.moved hW.alike hK⟩⟩ rfl hn hl rfl (lv_room hW) hdg hf) hS (fun q _ h => h) (fun q h => h) (fun v u t H1 locs1 ht hvm hw hB hz hk hS1 => ?_)
  subst hw
  obtain ⟨hP1, -⟩ := hB
  rw [ht] at hP1
  exact kk H1 locs1 ⟨hP1, wl_D2 hD, hS1, hA⟩
theorem mm_calll {r : Int64} (hx : p.tables.exec = Jvm.exec) (hb : c.code = cc) (hml : c.maxLocals = nL) (hown : s.vm.findClass own = some m.cls) (hts : ∀ w ∈ lw_all, w.before args s = true) (hK : va_K D vwCl (tyk ca) s) (hl : ls.size = nL) (hR : RW D 23 ad (mE ca ad B X Y kp) A s.heap H locs) (hM : MMl l D ca y ws rm As B X Y kp r B' X' Y' kp') (cw : CallW R s args own RX4 index y bytes maxL ret ws rm 0 0 n) (hn : (As ad).length = n) (hst : st0 = (As ad).reverse ++ .ref (ad 0) :: rest) (hW : (rest.map fun v => v.category).sum ≤ 8) (hdg : decode cc pc = .ok (.invokevirtual index, 3)) (hf : cells ≤ R.cells ∧ slots ≤ R.slots)
    (kk : ∀ (H1 : Heap) (locs1 : List Loc), RW D 23 ad (mE ca ad B' X' Y' kp') A s.heap H1 locs1 → W p l e R s m args below meth c H1 locs1 cells slots Q (F0 m (pc + 3) ls (.long r :: rest))) : W p l e R s m args below meth c H locs cells slots Q (F0 m pc ls st0) := by
  subst hst
  have ok := hR.ok
  obtain ⟨hP, hD, hS, hA⟩ := hR
  refine va_calll (va_runV (As := As ad) (rest := rest) ⟨hx, hb, hml, hown, hts⟩ (hM ad A H.size ok) cw ⟨mm_blind _ _, va_recv hK hP (ci := 3) (q0 := 0) rfl (wl_get (by decide)), fun U hU hW => ⟨rfl, by rw [hU], by rw [hU]; exact hP, va_K.moved hW.alike hK⟩⟩ rfl hn hl rfl (lv_room hW) hdg hf) hS (fun q _ h => h) (fun q h => h) (fun v u t H1 locs1 ht hvm hw hB hz hk hS1 => ?_)
  subst hw
  obtain ⟨hP1, -⟩ := hB
  rw [ht] at hP1
  exact kk H1 locs1 ⟨hP1, wl_D2 hD, hS1, hA⟩
theorem mm_callv (hx : p.tables.exec = Jvm.exec) (hb : c.code = cc) (hml : c.maxLocals = nL) (hown : s.vm.findClass own = some m.cls) (hts : ∀ w ∈ lw_all, w.before args s = true) (hK : va_K D vwCl (tyk ca) s) (hl : ls.size = nL) (hR : RW D 23 ad (mE ca ad B X Y kp) A s.heap H locs) (hM : MMv l D ca y ws rm As B X Y kp B' X' Y' kp') (cw : CallW R s args own RX4 index y bytes maxL ret ws rm 0 0 n) (hn : (As ad).length = n) (hst : st0 = (As ad).reverse ++ .ref (ad 0) :: rest) (hW : (rest.map fun v => v.category).sum ≤ 8) (hdg : decode cc pc = .ok (.invokevirtual index, 3)) (hf : cells ≤ R.cells ∧ slots ≤ R.slots)
    (kk : ∀ (H1 : Heap) (locs1 : List Loc), RW D 23 ad (mE ca ad B' X' Y' kp') A s.heap H1 locs1 → W p l e R s m args below meth c H1 locs1 cells slots Q (F0 m (pc + 3) ls rest)) : W p l e R s m args below meth c H locs cells slots Q (F0 m pc ls st0) := by
  subst hst
  have ok := hR.ok
  obtain ⟨hP, hD, hS, hA⟩ := hR
  refine va_callv (va_runV (As := As ad) (rest := rest) ⟨hx, hb, hml, hown, hts⟩ (hM ad A H.size ok) cw ⟨mm_blind _ _, va_recv hK hP (ci := 3) (q0 := 0) rfl (wl_get (by decide)), fun U hU hW => ⟨rfl, by rw [hU], by rw [hU]; exact hP, va_K.moved hW.alike hK⟩⟩ rfl hn hl rfl (lv_room hW) hdg hf) hS (fun q _ h => h) (fun q h => h) (fun u t H1 locs1 ht hvm hw hB hz hk hS1 => ?_)
  obtain ⟨hP1, -⟩ := hB
  rw [ht] at hP1
  exact kk H1 locs1 ⟨hP1, wl_D2 hD, hS1, hA⟩
end MCALL

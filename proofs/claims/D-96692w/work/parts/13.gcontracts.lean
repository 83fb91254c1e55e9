/-! MORE CONTRACTS of the model: what is left of its scratch (X, kp) is said by a predicate P -/
set_option maxRecDepth 100000
abbrev mU : Type := (Nat → Nat → Int32) × Nat
def MMgi (l : Launch) (D : va_G) (ca : Nat → ClassId) (y : MethodName) (ws : List Cond) (rm : Room) (As : (Nat → Nat) → List Value) (B X : Nat → Nat → Int32) (Y : Nat → Nat → Int64) (kp : Nat) (r : Int32) (B' : Nat → Nat → Int32) (Y' : Nat → Nat → Int64) (P : (Nat → Nat → Int32) → Nat → Prop) : Prop :=
  ∀ (ad : Nat → Nat) (A : Nat → Prop) (sz : Nat), okA 23 ad A sz → Met l y ws rm (va_Pc (.ref (ad 0) :: As ad) (fun U => U.heap.size = sz ∧ mW D ca ad B X Y kp U)) (va_Qi (fun v (u : mU) => v = r ∧ P u.1 u.2) (fun u t => mW D ca ad B' u.1 Y' u.2 t) A) 0 0 A
def MMgl (l : Launch) (D : va_G) (ca : Nat → ClassId) (y : MethodName) (ws : List Cond) (rm : Room) (As : (Nat → Nat) → List Value) (B X : Nat → Nat → Int32) (Y : Nat → Nat → Int64) (kp : Nat) (r : Int64) (B' : Nat → Nat → Int32) (Y' : Nat → Nat → Int64) (P : (Nat → Nat → Int32) → Nat → Prop) : Prop :=
  ∀ (ad : Nat → Nat) (A : Nat → Prop) (sz : Nat), okA 23 ad A sz → Met l y ws rm (va_Pc (.ref (ad 0) :: As ad) (fun U => U.heap.size = sz ∧ mW D ca ad B X Y kp U)) (va_Ql (fun v (u : mU) => v = r ∧ P u.1 u.2) (fun u t => mW D ca ad B' u.1 Y' u.2 t) A) 0 0 A
def MMgv (l : Launch) (D : va_G) (ca : Nat → ClassId) (y : MethodName) (ws : List Cond) (rm : Room) (As : (Nat → Nat) → List Value) (B X : Nat → Nat → Int32) (Y : Nat → Nat → Int64) (kp : Nat) (B' : Nat → Nat → Int32) (Y' : Nat → Nat → Int64) (P : (Nat → Nat → Int32) → Nat → Prop) : Prop :=
  ∀ (ad : Nat → Nat) (A : Nat → Prop) (sz : Nat), okA 23 ad A sz → Met l y ws rm (va_Pc (.ref (ad 0) :: As ad) (fun U => U.heap.size = sz ∧ mW D ca ad B X Y kp U)) (va_Qv (fun (u : mU) => P u.1 u.2) (fun u t => mW D ca ad B' u.1 Y' u.2 t) A) 0 0 A
theorem MMgi_start {l : Launch} {D : va_G} {ca : Nat → ClassId} {y : MethodName} {cc : ByteArray} {maxL : Nat} {rt : FieldType} {rm : Room} {As : (Nat → Nat) → List Value} {B X : Nat → Nat → Int32} {Y : Nat → Nat → Int64} {kp : Nat} {r : Int32} {B' : Nat → Nat → Int32} {Y' : Nat → Nat → Int64} {P : (Nat → Nat → Int32) → Nat → Prop} (hy : plainName y.cls = true) (hrt : rt = .int ∨ (rt = .boolean ∧ narrow .boolean (.int r) = .int r)) (hlen : ∀ ad, (lg_sl (.ref (ad 0) :: As ad)).length ≤ maxL)
    (body : ∀ (p : Program) (e : Env) (s : State) (m : MethodId) (args : Array Value) (below : List Frame) (meth : Method) (c : Code) (ad : Nat → Nat) (A : Nat → Prop) (Q : State → Prop) (ls : Array Slot), p.tables.exec = Jvm.exec → c.code = cc → c.maxLocals = maxL → s.vm.findClass y.cls = some m.cls → (∀ w ∈ lw_all, w.before args s = true) → va_K D vwCl (tyk ca) s → RW D 23 ad (mE ca ad B X Y kp) A s.heap s.heap [] → lv_has ls maxL (lv_args 0 (.ref (ad 0) :: As ad)) →
      (∀ (pc : Nat) (ls : Array Slot) (H : Heap) (locs : List Loc) (v : Int32) (X' : Nat → Nat → Int32) (kp' : Nat), v = r → P X' kp' → RW D 23 ad (mE ca ad B' X' Y' kp') A s.heap H locs → decode cc pc = .ok (.ireturn, 1) → W p l e rm s m args below meth c H locs 0 0 Q (F0 m pc ls [.int v])) →
      W p l e rm s m args below meth c s.heap [] 0 0 Q (F0 m 0 ls [])) : MMgi l D ca y (ws_ y cc maxL (some rt)) rm As B X Y kp r B' Y' P := by
  intro ad A sz ok
  refine Met.ofW (cc := cc) (maxL := maxL) (ret := some rt) hy rfl ?_
  intro p e s m args below meth c s₁ Bd hml hv
  obtain ⟨rfl, hsz, hP, hK⟩ := hv
  subst hsz
  have hts := atoms_spec (ws := ws_ y cc maxL (some rt)) Bd.pre
  have hts : ∀ w ∈ lw_all, w.before _ s = true := fun w h => hts w (List.mem_cons_of_mem _ h)
  have hl := lv_entry (.ref (ad 0) :: As ad) (n := maxL) (hlen ad)
  rw [lg_entry_eq]
  generalize (lg_sl (.ref (ad 0) :: As ad) ++ List.replicate (maxL - (lg_sl (.ref (ad 0) :: As ad)).length) Slot.unset).toArray = ls at hl ⊢
  refine body p e s m _ below meth c ad A _ ls Bd.exec Bd.bytes hml (findClass_of_methodNamed Bd.named) hts hK (RW.start ok hP) hl ?_
  intro pc ls H locs v X' kp' hv hp hR hd
  subst hv
  have hlocks := Bd.notSynchronized
  rcases hrt with rfl | ⟨rfl, hn⟩
  · exact W.iret Bd.exec Bd.bytes Bd.returns (fun t ht hW => ⟨⟨_, (X', kp'), rfl, ⟨rfl, hp⟩, by rw [ht]; exact hR.1, va_K.moved hW.alike hK⟩, hR.2.2.1.F ht⟩) hR.2.2.1.2.2 hd
  · exact W.zret Bd.exec Bd.bytes Bd.returns hn (fun t ht hW => ⟨⟨_, (X', kp'), rfl, ⟨rfl, hp⟩, by rw [ht]; exact hR.1, va_K.moved hW.alike hK⟩, hR.2.2.1.F ht⟩) hR.2.2.1.2.2 hd
theorem MMgl_start {l : Launch} {D : va_G} {ca : Nat → ClassId} {y : MethodName} {cc : ByteArray} {maxL : Nat} {rm : Room} {As : (Nat → Nat) → List Value} {B X : Nat → Nat → Int32} {Y : Nat → Nat → Int64} {kp : Nat} {r : Int64} {B' : Nat → Nat → Int32} {Y' : Nat → Nat → Int64} {P : (Nat → Nat → Int32) → Nat → Prop} (hy : plainName y.cls = true) (hlen : ∀ ad, (lg_sl (.ref (ad 0) :: As ad)).length ≤ maxL)
    (body : ∀ (p : Program) (e : Env) (s : State) (m : MethodId) (args : Array Value) (below : List Frame) (meth : Method) (c : Code) (ad : Nat → Nat) (A : Nat → Prop) (Q : State → Prop) (ls : Array Slot), p.tables.exec = Jvm.exec → c.code = cc → c.maxLocals = maxL → s.vm.findClass y.cls = some m.cls → (∀ w ∈ lw_all, w.before args s = true) → va_K D vwCl (tyk ca) s → RW D 23 ad (mE ca ad B X Y kp) A s.heap s.heap [] → lv_has ls maxL (lv_args 0 (.ref (ad 0) :: As ad)) →
      (∀ (pc : Nat) (ls : Array Slot) (H : Heap) (locs : List Loc) (v : Int64) (X' : Nat → Nat → Int32) (kp' : Nat), v = r → P X' kp' → RW D 23 ad (mE ca ad B' X' Y' kp') A s.heap H locs → decode cc pc = .ok (.lreturn, 1) → W p l e rm s m args below meth c H locs 0 0 Q (F0 m pc ls [.long v])) →
      W p l e rm s m args below meth c s.heap [] 0 0 Q (F0 m 0 ls [])) : MMgl l D ca y (ws_ y cc maxL (some .long)) rm As B X Y kp r B' Y' P := by
  intro ad A sz ok
  refine Met.ofW (cc := cc) (maxL := maxL) (ret := some .long) hy rfl ?_
  intro p e s m args below meth c s₁ Bd hml hv
  obtain ⟨rfl, hsz, hP, hK⟩ := hv
  subst hsz
  have hts := atoms_spec (ws := ws_ y cc maxL (some .long)) Bd.pre
  have hts : ∀ w ∈ lw_all, w.before _ s = true := fun w h => hts w (List.mem_cons_of_mem _ h)
  have hl := lv_entry (.ref (ad 0) :: As ad) (n := maxL) (hlen ad)
  rw [lg_entry_eq]
  generalize (lg_sl (.ref (ad 0) :: As ad) ++ List.replicate (maxL - (lg_sl (.ref (ad 0) :: As ad)).length) Slot.unset).toArray = ls at hl ⊢
  refine body p e s m _ below meth c ad A _ ls Bd.exec Bd.bytes hml (findClass_of_methodNamed Bd.named) hts hK (RW.start ok hP) hl ?_
  intro pc ls H locs v X' kp' hv hp hR hd
  subst hv
  have hlocks := Bd.notSynchronized
  exact W.lret Bd.exec Bd.bytes Bd.returns (fun t ht hW => ⟨⟨_, (X', kp'), rfl, ⟨rfl, hp⟩, by rw [ht]; exact hR.1, va_K.moved hW.alike hK⟩, hR.2.2.1.F ht⟩) hR.2.2.1.2.2 hd
theorem MMgv_start {l : Launch} {D : va_G} {ca : Nat → ClassId} {y : MethodName} {cc : ByteArray} {maxL : Nat} {rm : Room} {As : (Nat → Nat) → List Value} {B X : Nat → Nat → Int32} {Y : Nat → Nat → Int64} {kp : Nat} {B' : Nat → Nat → Int32} {Y' : Nat → Nat → Int64} {P : (Nat → Nat → Int32) → Nat → Prop} (hy : plainName y.cls = true) (hlen : ∀ ad, (lg_sl (.ref (ad 0) :: As ad)).length ≤ maxL)
    (body : ∀ (p : Program) (e : Env) (s : State) (m : MethodId) (args : Array Value) (below : List Frame) (meth : Method) (c : Code) (ad : Nat → Nat) (A : Nat → Prop) (Q : State → Prop) (ls : Array Slot), p.tables.exec = Jvm.exec → c.code = cc → c.maxLocals = maxL → s.vm.findClass y.cls = some m.cls → (∀ w ∈ lw_all, w.before args s = true) → va_K D vwCl (tyk ca) s → RW D 23 ad (mE ca ad B X Y kp) A s.heap s.heap [] → lv_has ls maxL (lv_args 0 (.ref (ad 0) :: As ad)) →
      (∀ (pc : Nat) (ls : Array Slot) (H : Heap) (locs : List Loc) (X' : Nat → Nat → Int32) (kp' : Nat), P X' kp' → RW D 23 ad (mE ca ad B' X' Y' kp') A s.heap H locs → decode cc pc = .ok (.return_, 1) → W p l e rm s m args below meth c H locs 0 0 Q (F0 m pc ls [])) →
      W p l e rm s m args below meth c s.heap [] 0 0 Q (F0 m 0 ls [])) : MMgv l D ca y (ws_ y cc maxL none) rm As B X Y kp B' Y' P := by
  intro ad A sz ok
  refine Met.ofW (cc := cc) (maxL := maxL) (ret := none) hy rfl ?_
  intro p e s m args below meth c s₁ Bd hml hv
  obtain ⟨rfl, hsz, hP, hK⟩ := hv
  subst hsz
  have hts := atoms_spec (ws := ws_ y cc maxL none) Bd.pre
  have hts : ∀ w ∈ lw_all, w.before _ s = true := fun w h => hts w (List.mem_cons_of_mem _ h)
  have hl := lv_entry (.ref (ad 0) :: As ad) (n := maxL) (hlen ad)
  rw [lg_entry_eq]
  generalize (lg_sl (.ref (ad 0) :: As ad) ++ List.replicate (maxL - (lg_sl (.ref (ad 0) :: As ad)).length) Slot.unset).toArray = ls at hl ⊢
  refine body p e s m _ below meth c ad A _ ls Bd.exec Bd.bytes hml (findClass_of_methodNamed Bd.named) hts hK (RW.start ok hP) hl ?_
  intro pc ls H locs X' kp' hp hR hd
  have hlocks := Bd.notSynchronized
  exact W.vret Bd.exec Bd.bytes Bd.returns (fun t ht hW => ⟨⟨(X', kp'), rfl, hp, by rw [ht]; exact hR.1, va_K.moved hW.alike hK⟩, hR.2.2.1.F ht⟩) hR.2.2.1.2.2 hd
section GCALL
variable {p : Program} {l : Launch} {e : Env} {R : Room} {s : State} {m : MethodId} {args : Array Value} {below : List Frame} {meth : Method} {c : Code} {H : Heap} {locs : List Loc} {cells slots : Nat} {Q : State → Prop}
variable {cc bytes : ByteArray} {pc nL maxL index n : Nat} {ls : Array Slot} {rest st0 : List Value} {D : va_G} {A : Nat → Prop} {ca : Nat → ClassId} {ad : Nat → Nat} {own : String} {y : MethodName} {ws : List Cond} {rm : Room} {As : (Nat → Nat) → List Value} {ret : Option FieldType} {B X : Nat → Nat → Int32} {Y : Nat → Nat → Int64} {kp : Nat} {B' : Nat → Nat → Int32} {Y' : Nat → Nat → Int64} {P : (Nat → Nat → Int32) → Nat → Prop}
theorem mg_calli {r : Int32} (hx : p.tables.exec = Jvm.exec) (hb : c.code = cc) (hml : c.maxLocals = nL) (hown : s.vm.findClass own = some m.cls) (hts : ∀ w ∈ lw_all, w.before args s = true) (hK : va_K D vwCl (tyk ca) s) (hl : ls.size = nL) (hR : RW D 23 ad (mE ca ad B X Y kp) A s.heap H locs) (hM : MMgi l D ca y ws rm As B X Y kp r B' Y' P) (cw : CallW R s args own RX4 index y bytes maxL ret ws rm 0 0 n) (hn : (As ad).length = n) (hst : st0 = (As ad).reverse ++ .ref (ad 0) :: rest) (hW : (rest.map fun v => v.category).sum ≤ 8) (hdg : decode cc pc = .ok (.invokevirtual index, 3)) (hf : cells ≤ R.cells ∧ slots ≤ R.slots)
    (kk : ∀ (X' : Nat → Nat → Int32) (kp' : Nat), P X' kp' → ∀ (H1 : Heap) (locs1 : List Loc), RW D 23 ad (mE ca ad B' X' Y' kp') A s.heap H1 locs1 → W p l e R s m args below meth c H1 locs1 cells slots Q (F0 m (pc + 3) ls (.int r :: rest))) : W p l e R s m args below meth c H locs cells slots Q (F0 m pc ls st0) := by
  subst hst
  have ok := hR.ok
  obtain ⟨hP, hD, hS, hA⟩ := hR
  refine va_calli (va_runV (As := As ad) (rest := rest) ⟨hx, hb, hml, hown, hts⟩ (hM ad A H.size ok) cw ⟨mm_blind _ _, va_recv hK hP (ci := 3) (q0 := 0) rfl (wl_get (by decide)), fun U hU hW => ⟨rfl, by rw [hU], by rw [hU]; exact hP, va_K.moved hW.alike hK⟩⟩ rfl hn hl rfl (lv_room hW) hdg hf) hS (fun q _ h => h) (fun q h => h) (fun v u t H1 locs1 ht hvm hw hB hz hk hS1 => ?_)
  obtain ⟨rfl, hp⟩ := hw
  obtain ⟨hP1, -⟩ := hB
  rw [ht] at hP1
  exact kk u.1 u.2 hp H1 locs1 ⟨hP1, wl_D2 hD, hS1, hA⟩
theorem mg_calll {r : Int64} (hx : p.tables.exec = Jvm.exec) (hb : c.code = cc) (hml : c.maxLocals = nL) (hown : s.vm.findClass own = some m.cls) (hts : ∀ w ∈ lw_all, w.before args s = true) (hK : va_K D vwCl (tyk ca) s) (hl : ls.size = nL) (hR : RW D 23 ad (mE ca ad B X Y kp) A s.heap H locs) (hM : MMgl l D ca y ws rm As B X Y kp r B' Y' P) (cw : CallW R s args own RX4 index y bytes maxL ret ws rm 0 0 n) (hn : (As ad).length = n) (hst : st0 = (As ad).reverse ++ .ref (ad 0) :: rest) (hW : (rest.map fun v => v.category).sum ≤ 8) (hdg : decode cc pc = .ok (.invokevirtual index, 3)) (hf : cells ≤ R.cells ∧ slots ≤ R.slots)
    (kk : ∀ (X' : Nat → Nat → Int32) (kp' : Nat), P X' kp' → ∀ (H1 : Heap) (locs1 : List Loc), RW D 23 ad (mE ca ad B' X' Y' kp') A s.heap H1 locs1 → W p l e R s m args below meth c H1 locs1 cells slots Q (F0 m (pc + 3) ls (.long r :: rest))) : W p l e R s m args below meth c H locs cells slots Q (F0 m pc ls st0) := by
  subst hst
  have ok := hR.ok
  obtain ⟨hP, hD, hS, hA⟩ := hR
  refine va_calll (va_runV (As := As ad) (rest := rest) ⟨hx, hb, hml, hown, hts⟩ (hM ad A H.size ok) cw ⟨mm_blind _ _, va_recv hK hP (ci := 3) (q0 := 0) rfl (wl_get (by decide)), fun U hU hW => ⟨rfl, by rw [hU], by rw [hU]; exact hP, va_K.moved hW.alike hK⟩⟩ rfl hn hl rfl (lv_room hW) hdg hf) hS (fun q _ h => h) (fun q h => h) (fun v u t H1 locs1 ht hvm hw hB hz hk hS1 => ?_)
  obtain ⟨rfl, hp⟩ := hw
  obtain ⟨hP1, -⟩ := hB
  rw [ht] at hP1
  exact kk u.1 u.2 hp H1 locs1 ⟨hP1, wl_D2 hD, hS1, hA⟩
theorem mg_callv (hx : p.tables.exec = Jvm.exec) (hb : c.code = cc) (hml : c.maxLocals = nL) (hown : s.vm.findClass own = some m.cls) (hts : ∀ w ∈ lw_all, w.before args s = true) (hK : va_K D vwCl (tyk ca) s) (hl : ls.size = nL) (hR : RW D 23 ad (mE ca ad B X Y kp) A s.heap H locs) (hM : MMgv l D ca y ws rm As B X Y kp B' Y' P) (cw : CallW R s args own RX4 index y bytes maxL ret ws rm 0 0 n) (hn : (As ad).length = n) (hst : st0 = (As ad).reverse ++ .ref (ad 0) :: rest) (hW : (rest.map fun v => v.category).sum ≤ 8) (hdg : decode cc pc = .ok (.invokevirtual index, 3)) (hf : cells ≤ R.cells ∧ slots ≤ R.slots)
    (kk : ∀ (X' : Nat → Nat → Int32) (kp' : Nat), P X' kp' → ∀ (H1 : Heap) (locs1 : List Loc), RW D 23 ad (mE ca ad B' X' Y' kp') A s.heap H1 locs1 → W p l e R s m args below meth c H1 locs1 cells slots Q (F0 m (pc + 3) ls rest)) : W p l e R s m args below meth c H locs cells slots Q (F0 m pc ls st0) := by
  subst hst
  have ok := hR.ok
  obtain ⟨hP, hD, hS, hA⟩ := hR
  refine va_callv (va_runV (As := As ad) (rest := rest) ⟨hx, hb, hml, hown, hts⟩ (hM ad A H.size ok) cw ⟨mm_blind _ _, va_recv hK hP (ci := 3) (q0 := 0) rfl (wl_get (by decide)), fun U hU hW => ⟨rfl, by rw [hU], by rw [hU]; exact hP, va_K.moved hW.alike hK⟩⟩ rfl hn hl rfl (lv_room hW) hdg hf) hS (fun q _ h => h) (fun q h => h) (fun u t H1 locs1 ht hvm hw hB hz hk hS1 => ?_)
  obtain ⟨hP1, -⟩ := hB
  rw [ht] at hP1
  exact kk u.1 u.2 hw H1 locs1 ⟨hP1, wl_D2 hD, hS1, hA⟩
end GCALL

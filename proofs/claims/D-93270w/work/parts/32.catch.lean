/-! METHODS WITH HANDLERS: the catch, the contract -/
section CATCH
variable {p : Program} {l : Launch} {e : Env} {R : Room} {s : State} {m : MethodId} {args : Array Value} {below : List Frame} {meth : Method} {c : Code} {H : Heap} {locs : List Loc} {cells slots : Nat} {Q : State → Prop}
variable {cc : ByteArray} {nL pc : Nat} {ls : Array Slot} {rest st0 : List Value} {D : va_G} {dA : Nat → ClassId} {ad : Nat → Nat} {fv : Nat → Value} {a : CS} {A : Nat → Prop} {own : String}
/-- one step: what is thrown is caught in this frame by the row whose class is of the name given, resolved already or resolved now -/
theorem catch_step {T : State} (X : Stand p l e R s m args below meth c T locs cells slots) {xa : Addr} {g : JFrame} (hg : g.method = m) (hown : s.vm.findClass own = some m.cls) {pre post : List ExceptionTableEntry} {x : ExceptionTableEntry} (htab : c.exceptionTable.toList = pre ++ x :: post) (hpre : ∀ y ∈ pre, covers y g.pc = false) (hcov : covers x g.pc = true) (h0 : x.catchType ≠ 0) {nm : String} (hlink : (Cond.classLink own x.catchType nm).before args s = true) {cell : Cell} (hcell : T.heap[xa]? = some cell) (hob : cell.vm.isStatics = false) (hcl : s.vm.findClass nm = some cell.cls) :
    ∃ vm', Stand p l e R s m args below meth c (T.setVm vm') locs cells slots ∧ ∀ t, Steps p.tables e below ((T.setVm vm').setTop { g with pc := x.handlerPc, stack := [.ref xa] }) t → Steps p.tables e below ((T.setTop g).pushFrame (.throwing xa)) t := by
  subst hg
  have hpl : e.platform.magicAccessors = ({} : Platform).magicAccessors := by rw [X.admits.platform]
  obtain ⟨c1, hc1, hcl1⟩ := Cond.classLink_spec hown hlink e.platform hpl
  cases hcl.symm.trans hc1
  obtain ⟨dk, _, _, kt, hd, _, _, _, _, hkt, _, hopen⟩ := hcl1.here
  have hal := X.warmed.alike
  obtain ⟨kt1, hkt1, -⟩ := hal.2.2 _ _ hkt
  have hlT := X.warmed.classLinks hcl1
  refine ⟨T.vm.noted g.method.cls x.catchType (.cls cell.cls), X.noted (X.warmed.noted hd hopen (State.rightAt_cls hcl1)), fun t hst => ?_⟩
  obtain ⟨hgo, hwi⟩ := X.here.throwing xa
  refine Steps.head hgo hwi ?_
  rw [stepThread_throwing (frames_entered X.here.top _)]
  have hvm : ((T.setTop g).pushFrame (.throwing xa)).vm = T.vm := Stand.throwing_vm T g xa
  have hhp : ((T.setTop g).pushFrame (.throwing xa)).heap = T.heap := Stand.throwing_heap T g xa
  have hfind : ∀ (K : Handler → Pre) (E : CtlPost) (d : Bool) (acts : List Action), wp (findHandler g xa) K E e d acts ((T.setTop g).pushFrame (.throwing xa)) ↔ K (.found x.handlerPc) d acts (((T.setTop g).pushFrame (.throwing xa)).setVm (T.vm.noted g.method.cls x.catchType (.cls cell.cls))) := by
    intro K E d acts
    rw [W.findHandler_eq (meth := meth) (code := c) (by rw [hvm]; exact X.method') X.code, htab]
    clear htab
    induction pre with
    | cons y ys ih =>
      rw [List.cons_append, W.findHandler_go_skip (hpre y List.mem_cons_self)]
      exact ih (fun z hz => hpre z (List.mem_cons_of_mem _ hz))
    | nil =>
      rw [List.nil_append]
      obtain ⟨ha, ht⟩ := (resolveClass_links e.toSetting hlT).op (op := VmOp.resolveClass g.method.cls x.catchType) rfl
      have hal2 : T.vm.Alike (T.vm.noted g.method.cls x.catchType (.cls cell.cls)) := (Vm.Alike.refl T.vm).noted _ _ _
      obtain ⟨kt2, hkt2, -⟩ := hal2.2.2 _ _ hkt1
      have hfit : (T.vm.noted g.method.cls x.catchType (.cls cell.cls)).assignable cell.cls cell.cls = true := va_asg _ _
      have hob2 := VmData.ne_statics_of hob
      simp only [covers] at hcov
      simp [findHandler.go, hcov, h0, hvm, hhp, ha, ht, hcell, hob2, hkt2, hfit, VmOp.dirties, VmOp.acts]
  have hstep : (stepThrowing e ((T.setTop g).pushFrame (.throwing xa)) xa (.java g :: T.frames.tail)).1 = (((T.setTop g).pushFrame (.throwing xa)).setVm (T.vm.noted g.method.cls x.catchType (.cls cell.cls))).setFrames (.java { g with pc := x.handlerPc, stack := [.ref xa] } :: T.frames.tail) := by
    simp only [stepThrowing, searchFrame, vmDo]
    generalize hr : Sem.go _ e false [] _ = res
    obtain ⟨as, rfl, -⟩ := Sem.eq_ok_of hr (a := Handler.found x.handlerPc) (s' := ((T.setTop g).pushFrame (.throwing xa)).setVm (T.vm.noted g.method.cls x.catchType (.cls cell.cls))) (acts' := []) (by simp [hfind])
    rfl
  rw [hstep]
  obtain ⟨g₀, hg0⟩ := Option.isSome_iff_exists.mp X.here.top
  obtain ⟨r, hr⟩ := State.topJava?_eq_some.mp hg0
  have hr2 : (T.setVm (T.vm.noted g.method.cls x.catchType (.cls cell.cls))).frames = .java g₀ :: r := hr
  rw [State.setTop_of_frames _ hr2] at hst
  have e1 : (((T.setTop g).pushFrame (.throwing xa)).setVm (T.vm.noted g.method.cls x.catchType (.cls cell.cls))).setFrames (.java { g with pc := x.handlerPc, stack := [.ref xa] } :: T.frames.tail) = (T.setVm (T.vm.noted g.method.cls x.catchType (.cls cell.cls))).setFrames (.java { g with pc := x.handlerPc, stack := [.ref xa] } :: r) := by
    rw [hr, List.tail_cons, State.pushFrame, State.setTop_of_frames _ hr, State.setFrames_setFrames]
    show ((T.setVm _).setFrames _).setFrames _ = _
    rw [State.setFrames_setFrames]
    rfl
  rw [e1]
  exact hst
variable {EX : Addr → Heap → Vm → Prop} {E : CS → Prop} {mc ms : Nat} {arr : Array Value}
/-- caught: the walk goes on at the handler -/
theorem c_catch (S : CallFix p m c cc nL s args lw_all own) (hw : CW D dA ad fv A a s H locs) {pre post : List ExceptionTableEntry} {x : ExceptionTableEntry} (htab : c.exceptionTable.toList = pre ++ x :: post) (hpre : ∀ y ∈ pre, covers y pc = false) (hcov : covers x pc = true) (h0 : x.catchType ≠ 0) {nm : String} (hlink : Cond.classLink own x.catchType nm ∈ lw_all)
    (hE : ∀ (xa : Addr) (T : State), T.heap = H → s.WarmedH T.vm → EX xa T.heap T.vm → ∃ cell : Cell, T.heap[xa]? = some cell ∧ cell.vm.isStatics = false ∧ s.vm.findClass nm = some cell.cls)
    (kk : ∀ xa, (∃ vm', EX xa H vm') → W p l e R s m args below meth c H locs cells slots Q (F0 m x.handlerPc ls [.ref xa])) : WX p l e R s m args below meth c H locs cells slots Q EX (F0 m pc ls rest) := by
  intro xa T hT hx X
  obtain ⟨cell, h1, h2, h3⟩ := hE xa T hT X.warmed hx
  obtain ⟨vm', X', st⟩ := catch_step X (g := F0 m pc ls rest) rfl S.2.2.2.1 htab hpre hcov h0 (S.2.2.2.2 _ hlink) h1 h2 h3
  obtain ⟨t, a1, b1⟩ := kk xa ⟨T.vm, by rw [← hT]; exact hx⟩ (T.setVm vm') hT X'
  exact ⟨t, st t a1, b1⟩
/-- the Fault is caught -/
theorem c_catchF (S : CallFix p m c cc nL s args lw_all own) (hw : CW D dA ad fv A a s H locs) {pre post : List ExceptionTableEntry} {x : ExceptionTableEntry} (htab : c.exceptionTable.toList = pre ++ x :: post) (hpre : ∀ y ∈ pre, covers y pc = false) (hcov : covers x pc = true) (h0 : x.catchType ≠ 0) (hlink : Cond.classLink own x.catchType RX3 ∈ lw_all)
    (kk : W p l e R s m args below meth c H locs cells slots Q (F0 m x.handlerPc ls [.ref (ad 85)])) : WX p l e R s m args below meth c H locs cells slots Q (exF ad) (F0 m pc ls rest) := by
  refine c_catch S hw htab hpre hcov h0 hlink (fun xa T hT hW hx => ?_) (fun xa hx => ?_)
  · have hx : xa = ad 85 := hx
    subst hx
    rw [hT]
    exact hw.recv (n := 85) (cOk.s (by decide)) (isO_F _) rfl
  · obtain ⟨_, hx⟩ := hx
    have hx : xa = ad 85 := hx
    subst hx
    exact kk
/-- an exception that the machine made is caught -/
theorem c_catchV (S : CallFix p m c cc nL s args lw_all own) (hw : CW D dA ad fv A a s H locs) {pre post : List ExceptionTableEntry} {x : ExceptionTableEntry} (htab : c.exceptionTable.toList = pre ++ x :: post) (hpre : ∀ y ∈ pre, covers y pc = false) (hcov : covers x pc = true) (h0 : x.catchType ≠ 0) {nm : String} (hlink : Cond.classLink own x.catchType nm ∈ lw_all)
    (kk : ∀ xa, W p l e R s m args below meth c H locs cells slots Q (F0 m x.handlerPc ls [.ref xa])) : WX p l e R s m args below meth c H locs cells slots Q (exV nm) (F0 m pc ls rest) := by
  refine c_catch S hw htab hpre hcov h0 hlink (fun xa T hT hW hx => ?_) (fun xa hx => kk xa)
  obtain ⟨cell, h1, h2, h3⟩ := hx
  refine ⟨cell, h1, h2, ?_⟩
  rw [← hW.alike.findClass]
  exact h3
theorem MetT.ofWH {y : MethodName} {ws ws' : List Cond} {rm : Room} {Pc : Array Value → State → Prop} {Qc : Array Value → State → Outcome → State → Prop} {mc ms : Nat} {free : Addr → Prop} {cc : ByteArray} {maxL : Nat} {ret : Option FieldType} {hh : List (Nat × Nat × Nat × Nat)}
    (hy : plainName y.cls = true) (hw : ws = Cond.codeWith y cc maxL ret hh :: ws')
    (body : ∀ p e s m args below meth c s₁, BodyLoose p l y (headSpec ws rm) cc maxL ret e s m args below meth c s₁ → c.maxLocals = maxL → c.exceptionTable.toList.map (fun h => (h.startPc, h.endPc, h.handlerPc, h.catchType)) = hh → Pc args s →
      W p l e (headSpec ws rm).room s m args below meth c s.heap [] 0 0 (MQT below Qc args s mc ms free) (entryFrame m args maxL)) : MetT l y ws rm Pc Qc mc ms free := by
  refine MetFree.of_bodyS (code := cc) (maxLocals := maxL) (ret := ret) hy ?_ ?_
  · intro args s m h hn
    obtain ⟨m2, meth, c, h0, h1, h2, h3, h4, h5, h6, h7, h8⟩ := Cond.codeWith_spec (atoms_spec (ws := ws) h _ (by rw [hw]; exact List.mem_cons_self))
    cases hn.symm.trans h0
    exact ⟨meth, c, h1, h2, h3, h4, h6, h7⟩
  · intro p e s m args below meth c s₁ B hml hP _
    have hh0 : s₁.heap = s.heap := by rw [B.state]; rfl
    obtain ⟨m2, meth2, c2, h0, h1, h2, h3, h4, h5, h6, h7, h8⟩ := Cond.codeWith_spec (atoms_spec (ws := ws) B.pre _ (by rw [hw]; exact List.mem_cons_self))
    cases B.named.symm.trans h0
    cases B.method.symm.trans h1
    cases (Stand.of_body B).code.symm.trans h2
    obtain ⟨t, a1, o, b1, b2, b3⟩ := body p e s m args below meth c s₁ B hml h5 hP s₁ hh0 (Stand.of_body B)
    exact ⟨t, o, a1, b1, b2, ⟨b3.1, b3.2⟩⟩
variable {y : MethodName} {bytes : ByteArray} {maxL : Nat} {ret : Option FieldType} {ws : List Cond} {rm : Room} {As : List Value}
/-- a contract out of a walk of a method with handlers -/
theorem c_metH {Qc : Array Value → State → Outcome → State → Prop} {hh : List (Nat × Nat × Nat × Nat)} {mc ms : Nat} (hy : plainName y.cls = true) (hcls : y.cls = own) (hlen : (lg_sl As).length ≤ maxL)
    (body : ∀ (p : Program) (e : Env) (s : State) (m : MethodId) (below : List Frame) (meth : Method) (c : Code) (ls : Array Slot), CallFix p m c bytes maxL s As.toArray lw_all own → meth.sig.returnType = ret → meth.locks = false → c.exceptionTable.toList.map (fun h => (h.startPc, h.endPc, h.handlerPc, h.catchType)) = hh → CW D dA ad fv A a s s.heap [] → lv_has ls maxL (lv_args 0 As) → W p l e rm s m As.toArray below meth c s.heap [] 0 0 (MQT below Qc As.toArray s mc ms A) (F0 m 0 ls [])) : MetT l y (wsW_ y bytes maxL ret hh) rm (cPc D dA ad fv A a As) Qc mc ms A := by
  refine MetT.ofWH (cc := bytes) (maxL := maxL) (ret := ret) (hh := hh) hy rfl ?_
  intro p e s m args below meth c s₁ B hml htab hv
  obtain ⟨rfl, hI⟩ := hv
  have hts := atoms_spec (ws := wsW_ y bytes maxL ret hh) B.pre
  have hts : ∀ w ∈ lw_all, w.before _ s = true := fun w h => hts w (List.mem_cons_of_mem _ h)
  have hown : s.vm.findClass own = some m.cls := by rw [← hcls]; exact findClass_of_methodNamed B.named
  have hl := lv_entry As (n := maxL) hlen
  rw [lg_entry_eq]
  exact body p e s m below meth c _ ⟨B.exec, B.bytes, hml, hown, hts⟩ B.returns B.notSynchronized htab hI.cw hl
/-- a table's rows out of their numbers -/
theorem tab_split {t : List ExceptionTableEntry} {r : Nat × Nat × Nat × Nat} {ps qs : List (Nat × Nat × Nat × Nat)} (h : t.map (fun h => (h.startPc, h.endPc, h.handlerPc, h.catchType)) = ps ++ r :: qs) {pc : Nat} (hps : ∀ z ∈ ps, ¬ (z.1 ≤ pc ∧ pc < z.2.1)) (hr : r.1 ≤ pc ∧ pc < r.2.1) :
    ∃ (pre post : List ExceptionTableEntry) (x : ExceptionTableEntry), t = pre ++ x :: post ∧ (∀ y ∈ pre, covers y pc = false) ∧ covers x pc = true ∧ x.handlerPc = r.2.2.1 ∧ x.catchType = r.2.2.2 := by
  obtain ⟨pre, post, rfl, h1, h2⟩ := List.map_eq_append_iff.mp h
  obtain ⟨x, post, rfl, h3, h4⟩ := List.map_eq_cons_iff.mp h2
  subst h3
  refine ⟨pre, post, x, rfl, fun y hy => ?_, ?_, rfl, rfl⟩
  · have h5 := hps (y.startPc, y.endPc, y.handlerPc, y.catchType) (by rw [← h1]; exact List.mem_map_of_mem hy)
    simp only [covers, Bool.and_eq_false_iff, decide_eq_false_iff_not]
    by_cases q : y.startPc ≤ pc
    · exact Or.inr (fun z => h5 ⟨q, z⟩)
    · exact Or.inl q
  · simp only [covers, Bool.and_eq_true, decide_eq_true_eq]
    exact hr
end CATCH

/-! THE TWO DEFAULTS (they give back their first number) walked in place: their interfaces are not said to be initialised, so no contract of theirs could be used -/
theorem nd_in1 {tb : Tables} [Ours tb] {e : Env} {below : List Frame} {s target : State} {g : JFrame} {c : Code} (h : At s g.method c below) (hexec : tb.exec = Jvm.exec)
    {m : MethodId} {meth : Method} {code : Code} {a : Nat} {v : Int32} {ig : Instr} {len : Nat} (acts : List Action)
    (hm : s.vm.method? m = some meth) (hc : meth.code = some code) (hplain : s.plainMethod m) (hl : meth.locks = false) (hret : meth.sig.returnType = some .int) (hlocals : code.maxLocals = 2)
    (h0 : decode code.code 0 = .ok (.iload_n 1, 1)) (h1 : decode code.code 1 = .ok (.ireturn, 1))
    (hroom : e.platform.stackFull (((s.setTop g).threads[(s.setTop g).cur]?).getD { frames := [] }) (s.setTop g).frames code.maxLocals = false)
    (hdg : decode c.code g.pc = .ok (ig, len))
    (hrest : Steps tb e below (s.setTop { g with pc := g.pc + len, stack := .int v :: g.stack }) target) :
    Steps tb e below (doInvoke e (s.setTop g) acts m #[.ref a, .int v]).1 target := by
  rw [doInvoke_enter h.top acts hm hc hl hroom]
  have hT := At.enter (g := g) h #[.ref a, .int v] hm hc hplain
  have hf := frames_entered (g := g) h.top (.java (entryFrame m #[.ref a, .int v] code.maxLocals))
  rw [hlocals] at hT hf ⊢
  show Steps tb e below (((s.setTop g).pushFrame (.java (entryFrame m #[.ref a, .int v] 2))).setTop { method := m, pc := 0, locals := #[.val (.ref a), .val (.int v)], stack := [], locked := none }) target
  jvm_step hT [hexec, h0, Value.isRef]
  jvm_step hT [hexec, h1, (show ((s.setTop g).pushFrame (.java (entryFrame m #[.ref a, .int v] 2))).vm.method? m = some meth from hm), hret, narrow]
  intro acts'
  rw [doReturn_leave (u := (s.setTop g).pushFrame (.java (entryFrame m #[.ref a, .int v] 2))) (g := g) (meth := meth) (cg := c) (ig := ig) (len := len)
      (f := { method := m, pc := 1, locals := #[.val (.ref a), .val (.int v)], stack := [], locked := none }) acts' hf hm hl rfl rfl
      (by have := h.code; rw [State.code?_eq] at this ⊢; simpa [State.pushFrame, State.setFrames] using this) hdg,
    setFrames_entered h.top, State.setTop_setTop]
  simpa using hrest
theorem nd_in2 {tb : Tables} [Ours tb] {e : Env} {below : List Frame} {s target : State} {g : JFrame} {c : Code} (h : At s g.method c below) (hexec : tb.exec = Jvm.exec)
    {m : MethodId} {meth : Method} {code : Code} {a : Nat} {v w : Int32} {ig : Instr} {len : Nat} (acts : List Action)
    (hm : s.vm.method? m = some meth) (hc : meth.code = some code) (hplain : s.plainMethod m) (hl : meth.locks = false) (hret : meth.sig.returnType = some .int) (hlocals : code.maxLocals = 3)
    (h0 : decode code.code 0 = .ok (.iload_n 1, 1)) (h1 : decode code.code 1 = .ok (.ireturn, 1))
    (hroom : e.platform.stackFull (((s.setTop g).threads[(s.setTop g).cur]?).getD { frames := [] }) (s.setTop g).frames code.maxLocals = false)
    (hdg : decode c.code g.pc = .ok (ig, len))
    (hrest : Steps tb e below (s.setTop { g with pc := g.pc + len, stack := .int v :: g.stack }) target) :
    Steps tb e below (doInvoke e (s.setTop g) acts m #[.ref a, .int v, .int w]).1 target := by
  rw [doInvoke_enter h.top acts hm hc hl hroom]
  have hT := At.enter (g := g) h #[.ref a, .int v, .int w] hm hc hplain
  have hf := frames_entered (g := g) h.top (.java (entryFrame m #[.ref a, .int v, .int w] code.maxLocals))
  rw [hlocals] at hT hf ⊢
  show Steps tb e below (((s.setTop g).pushFrame (.java (entryFrame m #[.ref a, .int v, .int w] 3))).setTop { method := m, pc := 0, locals := #[.val (.ref a), .val (.int v), .val (.int w)], stack := [], locked := none }) target
  jvm_step hT [hexec, h0, Value.isRef]
  jvm_step hT [hexec, h1, (show ((s.setTop g).pushFrame (.java (entryFrame m #[.ref a, .int v, .int w] 3))).vm.method? m = some meth from hm), hret, narrow]
  intro acts'
  rw [doReturn_leave (u := (s.setTop g).pushFrame (.java (entryFrame m #[.ref a, .int v, .int w] 3))) (g := g) (meth := meth) (cg := c) (ig := ig) (len := len)
      (f := { method := m, pc := 1, locals := #[.val (.ref a), .val (.int v), .val (.int w)], stack := [], locked := none }) acts' hf hm hl rfl rfl
      (by have := h.code; rw [State.code?_eq] at this ⊢; simpa [State.pushFrame, State.setFrames] using this) hdg,
    setFrames_entered h.top, State.setTop_setTop]
  simpa using hrest
/-- the default y gives back the first of its numbers -/
def ndFirst (y : MethodName) (As : List Value) (v : Int32) : Prop := (y = yX16_room ∧ As = [.int v]) ∨ (y = yX17_miss ∧ ∃ w : Int32, As = [.int v, .int w])
/-- what such a call asks of the tables -/
def ndAsk (s : State) (args : Array Value) (own : String) (index : Nat) (x y : MethodName) : Prop :=
  (Cond.methodLink own index x).before args s = true ∧ (Cond.sameMethod x.cls y.cls x.name x.desc).before args s = true ∧ (y.name = x.name ∧ y.desc = x.desc ∧ y.cls ≠ "java/lang/invoke/MethodHandle" ∧ y.cls ≠ "java/lang/invoke/VarHandle" ∧ x.name ≠ "<init>")
section ND5
variable {p : Program} {l : Launch} {e : Env} {R : Room} {s : State} {m : MethodId} {args : Array Value} {below : List Frame} {meth : Method} {c : Code} {T : State} {locs : List Loc} {cells slots : Nat} {H : Heap} {Q : State → Prop}
theorem nd_body {nL : Nat} {cc : ByteArray} {own : String} (X : Stand p l e R s m args below meth c T locs cells slots) (S : CallFix p m c cc nL s args lw_all own) {y : MethodName} {As : List Value} {v : Int32} {b : Addr} (hy : ndFirst y As v) {mk : MethodId} (hnamed : s.methodNamed? y = some mk)
    {g : JFrame} (hg : g.method = m) (hsize : g.locals.size = nL) (hW : 2 * g.monitorRoom + (g.stack.map fun v => v.category).sum ≤ 8) {ig : Instr} (hdg : decode cc g.pc = .ok (ig, 3)) (hF : 1 ≤ R.frames) (hL : 24 ≤ R.locals) (acts : List Action) {target : State}
    (hrest : Steps p.tables e below (T.setTop { g with pc := g.pc + 3, stack := .int v :: g.stack }) target) : Steps p.tables e below (doInvoke e (T.setTop g) acts mk (Value.ref b :: As).toArray).1 target := by
  obtain ⟨hx, hb, hml, ho, hts⟩ := S
  subst hg
  rcases hy with ⟨rfl, rfl⟩ | ⟨rfl, w, rfl⟩
  · obtain ⟨meth1, c1, hm1, hc1, hb1, hl1, hr1, hk1, -, -⟩ := Cond.code_spec hnamed (hts _ q748)
    have hm2 : T.vm.method? mk = some meth1 := by rw [X.warmed.alike.method?]; exact hm1
    refine nd_in1 X.here hx acts hm2 hc1 ?_ hk1 hr1 hl1 (by rw [hb1]; exact dX16_room_0) (by rw [hb1]; exact dX16_room_1) (X.notFull (hsize.trans hml.symm) hF (by rw [hl1]; omega)) (by rw [hb]; exact hdg) hrest
    exact State.plainMethod.of_named (s := T) (x := yX16_room) (plainFor_of_name (by decide)) (X.named hnamed) hm2
  · obtain ⟨meth1, c1, hm1, hc1, hb1, hl1, hr1, hk1, -, -⟩ := Cond.code_spec hnamed (hts _ q778)
    have hm2 : T.vm.method? mk = some meth1 := by rw [X.warmed.alike.method?]; exact hm1
    refine nd_in2 X.here hx acts hm2 hc1 ?_ hk1 hr1 hl1 (by rw [hb1]; exact dX17_miss_0) (by rw [hb1]; exact dX17_miss_1) (X.notFull (hsize.trans hml.symm) hF (by rw [hl1]; omega)) (by rw [hb]; exact hdg) hrest
    exact State.plainMethod.of_named (s := T) (x := yX17_miss) (plainFor_of_name (by decide)) (X.named hnamed) hm2
theorem nd_inst {y : MethodName} {As : List Value} {v : Int32} (hy : ndFirst y As v) (hts : ∀ w ∈ lw_all, w.before args s = true) : ∃ mk methM, s.methodNamed? y = some mk ∧ s.vm.method? mk = some methM ∧ methM.isStatic = false ∧ methM.isAbstract = false ∧ As.length = methM.sig.parameters.length := by
  rcases hy with ⟨rfl, rfl⟩ | ⟨rfl, w, rfl⟩
  · obtain ⟨mk, methM, hnamed, hmethM, hstM, habM⟩ := Cond.instanceMethod_spec (hts _ q747)
    obtain ⟨methM', cM, hmethM', -, -, -, -, -, -, hsigM⟩ := Cond.code_spec hnamed (hts _ q748)
    cases hmethM.symm.trans hmethM'
    refine ⟨mk, methM, hnamed, hmethM, hstM, habM, ?_⟩
    have h2 : (parseMethodDescriptor "(I)I").map (fun d => d.parameters.length) = some 1 := by decide +kernel
    rw [hsigM] at h2
    exact (Option.some.inj h2).symm
  · obtain ⟨mk, methM, hnamed, hmethM, hstM, habM⟩ := Cond.instanceMethod_spec (hts _ q777)
    obtain ⟨methM', cM, hmethM', -, -, -, -, -, -, hsigM⟩ := Cond.code_spec hnamed (hts _ q778)
    cases hmethM.symm.trans hmethM'
    refine ⟨mk, methM, hnamed, hmethM, hstM, habM, ?_⟩
    have h2 : (parseMethodDescriptor "(II)I").map (fun d => d.parameters.length) = some 2 := by decide +kernel
    rw [hsigM] at h2
    exact (Option.some.inj h2).symm
theorem nd_super {x y : MethodName} {cc : ByteArray} {nL index : Nat} {own C : String} {cC : ClassId} {b : Addr} {As rest st0 : List Value} {v : Int32} {pc : Nat} {ls : Array Slot}
    (hat : ClassAt s C cC) (S : CallFix p m c cc nL s args lw_all own) (hy : ndFirst y As v) (hask : ndAsk s args own index x y) (hLD : LDw x.cls x y s) (hsup : (Cond.superclass own x.cls).before args s = true) (hr : ∃ cell : Cell, H[b]? = some cell ∧ cell.vm.isStatics = false ∧ s.vm.findClass C = some cell.cls)
    (hsize : ls.size = nL) (hst : st0 = As.reverse ++ .ref b :: rest) (hW : (rest.map fun v => v.category).sum ≤ 8) (hdg : decode cc pc = .ok (.invokespecial index, 3)) (hF : 1 ≤ R.frames) (hL : 24 ≤ R.locals)
    (kk : W p l e R s m args below meth c H locs cells slots Q (F0 m (pc + 3) ls (.int v :: rest))) : W p l e R s m args below meth c H locs cells slots Q (F0 m pc ls st0) := by
  have S0 := S
  obtain ⟨hlink, hsame, hy1, hy2, hy3, hy4, hno⟩ := hask
  obtain ⟨hx, hb, hml, ho, hts⟩ := S
  obtain ⟨cellB, hcB, hoB, hclB⟩ := hr
  obtain ⟨hfc, kB, hkB, -⟩ := hat
  cases hfc.symm.trans hclB
  intro T hT X
  obtain ⟨mk, methM, hnamed, hmethM, hstM, habM, hlen⟩ := nd_inst hy hts
  have hn0 : s.methodNamed? ⟨y.cls, x.name, x.desc⟩ = some mk := by rw [← hy1, ← hy2]; exact hnamed
  obtain ⟨cn, ck, r1, hcn, hck, hni, hfd, hn1⟩ := Cond.sameMethod_found hsame
  cases hn0.symm.trans hn1
  obtain ⟨c2, r2, m2, rm2, q1, q2, q3, q5, q4, hif, q7, q8, -⟩ := hLD
  cases hcn.symm.trans q1
  cases hfd.symm.trans q2
  cases hnamed.symm.trans q3
  cases hmethM.symm.trans q5
  obtain ⟨ps, dk, kp, hps, hdk, hkp, hsuper, -, -, hnid⟩ := Cond.superclass_spec ho hsup
  cases hps.symm.trans hcn
  have hpl : e.platform.magicAccessors = ({} : Platform).magicAccessors := by rw [X.admits.platform]
  obtain ⟨ci, hl, hright⟩ := Cond.methodLink_specUp ho hcn hck hni hfd hlink e.platform hpl (by rw [X.admits.platform])
  obtain ⟨kr, hkr, -⟩ := className_of_methodNamed hn0
  obtain ⟨hrn, hrd⟩ := name_of_methodNamed hn0 hmethM
  obtain ⟨dk₀, cfile, nt, _, _, ck₀, _, _, hd₀, hcf, hcp, -, -, -, hc₀, -, hpoly, -⟩ := hl.here
  cases hdk.symm.trans hd₀
  cases hck.symm.trans hc₀
  have hup : s.vm.lookupUp cn x.name x.desc = some mk := ((State.methodFound?_class hcn hck hni hpoly mk).mp hfd).1
  have hfound0 : lookupSpecial s.vm cn x.name x.desc = .method mk := nd_special hck hni hup hmethM hstM hrn hrd q8 hif q4
  obtain ⟨vm₁, hW', st⟩ := Steps.invokeSuperColdArgs (tb := p.tables) (e := e) (s₀ := s) (U := T) (f := F0 m pc ls st0) (args := As) (rest := rest) (a := b) (cell := cellB) (m := mk) X.here hx (by rw [hb]; exact hdg) X.warmed hl hright hdk hcf hcp hmethM hck
    (by rw [hrn]; simp [hno]) hstM (by rw [hrn, hrd, hsuper]; simpa using hfound0) hnid hkr habM hlen hst (by rw [hT]; exact hcB) (fun z h => by rw [h] at hoB; cases hoB) hkB
  have X₁ := X.noted hW'
  obtain ⟨t, a1, b1⟩ := kk (T.setVm vm₁) hT X₁
  exact ⟨t, st _ (nd_body X₁ S0 hy hnamed (g := { (F0 m pc ls st0) with stack := rest }) rfl hsize (by show 2 * 0 + (rest.map fun v => v.category).sum ≤ 8; omega) hdg hF hL [] a1), b1⟩
theorem nd_virt1 {x y : MethodName} {cc : ByteArray} {nL index : Nat} {own C : String} {b : Addr} {As rest st0 : List Value} {v : Int32} {pc : Nat} {ls : Array Slot} (X : Stand p l e R s m args below meth c T locs cells slots)
    (S : CallFix p m c cc nL s args lw_all own) (hy : ndFirst y As v) (hask : ndAsk s args own index x y) (hLD : LDw C x y s) (hr : ∃ cell : Cell, T.heap[b]? = some cell ∧ cell.vm.isStatics = false ∧ s.vm.findClass C = some cell.cls)
    (hsize : ls.size = nL) (hst : st0 = As.reverse ++ .ref b :: rest) (hW : (rest.map fun v => v.category).sum ≤ 8) (hdg : decode cc pc = .ok (.invokevirtual index, 3)) (hF : 1 ≤ R.frames) (hL : 24 ≤ R.locals) :
    ∃ vm', Stand p l e R s m args below meth c (T.setVm vm') locs cells slots ∧ ∀ target, Steps p.tables e below ((T.setVm vm').setTop (F0 m (pc + 3) ls (.int v :: rest))) target → Steps p.tables e below (T.setTop (F0 m pc ls st0)) target := by
  have S0 := S
  obtain ⟨hlink, hsame, hy1, hy2, hy3, hy4, hno⟩ := hask
  obtain ⟨hx, hb, hml, ho, hts⟩ := S
  obtain ⟨cellB, hcB, hoB, hclB⟩ := hr
  obtain ⟨mk, methM, hnamed, hmethM, hstM, habM, hlen⟩ := nd_inst hy hts
  have hn0 : s.methodNamed? ⟨y.cls, x.name, x.desc⟩ = some mk := by rw [← hy1, ← hy2]; exact hnamed
  obtain ⟨cn, ck, r1, hcn, hck, hni, hfd, hn1⟩ := Cond.sameMethod_found hsame
  cases hn0.symm.trans hn1
  obtain ⟨c2, r2, m2, rm2, q1, q2, q3, q5, q4, ⟨kP, hkP, hkPi⟩, q7, q8, -⟩ := hLD
  cases hclB.symm.trans q1
  cases hfd.symm.trans q2
  cases hnamed.symm.trans q3
  cases hmethM.symm.trans q5
  have hselP : selectMethod e.platform s.vm cellB.cls mk = .method mk := by rw [Launch.admits_selectMethod X.admits]; exact q4
  obtain ⟨vm₁, X₁, hstep₁⟩ := nd_virt X hx ho hlink hsame ⟨hy3, hy4⟩ hn0 hmethM hstM (a := b) (cell := cellB) hcB
    (fun z h => by rw [h] at hoB; cases hoB) hselP hmethM habM hkP hkPi q7 (g := F0 m pc ls st0) rfl (argsL := As) (rest := rest) hlen hst (by rw [hb]; exact hdg)
  exact ⟨vm₁, X₁, fun target h => hstep₁ _ fun acts => nd_body X₁ S0 hy hnamed (g := { (F0 m pc ls st0) with stack := rest }) rfl hsize (by show 2 * 0 + (rest.map fun v => v.category).sum ≤ 8; omega) hdg hF hL acts h⟩
end ND5

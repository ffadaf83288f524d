/-! CALLS THAT MAY THROW -/
section TH1
variable {p : Program} {l : Launch} {e : Env} {R : Room} {s : State} {m : MethodId} {args : Array Value} {below : List Frame} {meth : Method} {c : Code} {T : State} {H : Heap} {locs : List Loc} {cells slots : Nat} {Q Q' : State → Prop}
/-- the end of a run, thrown or not -/
def FEnd (first : State) (t : State) (L : List Loc) (k n : Nat) : Prop := first.WarmedH t.vm ∧ first.sameButNew ({ t with vm := first.vm } : State) L k n
def MetT (l : Launch) (y : MethodName) (ws : List Cond) (rm : Room) (Pc : Array Value → State → Prop) (Qc : Array Value → State → Outcome → State → Prop) (mc ms : Nat) (free : Addr → Prop) : Prop :=
  MetFree l y (headSpec ws rm) Pc (fun _ _ _ _ _ => True) (fun a st o t => Qc a st o t ∧ ∃ L, FEnd st t L mc ms ∧ ∀ q ∈ L, free q.base)
def MQT (below : List Frame) (Qc : Array Value → State → Outcome → State → Prop) (a : Array Value) (s : State) (mc ms : Nat) (free : Addr → Prop) : State → Prop := fun t =>
  ∃ o, t.status = .running ∧ Ended t below o ∧ Qc a s o t ∧ ∃ L, FEnd s t L mc ms ∧ ∀ q ∈ L, free q.base
theorem W.mono {g : JFrame} (h : ∀ t, Q t → Q' t) (k : W p l e R s m args below meth c H locs cells slots Q g) : W p l e R s m args below meth c H locs cells slots Q' g := by
  intro T hT X
  obtain ⟨t, a, b⟩ := k T hT X
  exact ⟨t, a, h t b⟩
theorem MQ.toT {Qc Qc' : Array Value → State → Outcome → State → Prop} {a : Array Value} {mc ms : Nat} {free : Addr → Prop} (h : ∀ o t, Qc a s o t → Qc' a s o t) : ∀ t, MQ below Qc a s mc ms free t → MQT below Qc' a s mc ms free t := by
  rintro t ⟨o, h1, h2, h3, L, h4, h5⟩
  exact ⟨o, h1, h2, h _ _ h3, L, h4.2, h5⟩
theorem MetT.ofW {y : MethodName} {ws ws' : List Cond} {rm : Room} {Pc : Array Value → State → Prop} {Qc : Array Value → State → Outcome → State → Prop} {mc ms : Nat} {free : Addr → Prop} {cc : ByteArray} {maxL : Nat} {ret : Option FieldType}
    (hy : plainName y.cls = true) (hw : ws = Cond.code y cc maxL ret :: ws')
    (body : ∀ p e s m args below meth c s₁, BodyLoose p l y (headSpec ws rm) cc maxL ret e s m args below meth c s₁ → c.maxLocals = maxL → Pc args s →
      W p l e (headSpec ws rm).room s m args below meth c s.heap [] 0 0 (MQT below Qc args s mc ms free) (entryFrame m args maxL)) : MetT l y ws rm Pc Qc mc ms free := by
  refine MetFree.of_bodyS (code := cc) (maxLocals := maxL) (ret := ret) hy ?_ ?_
  · intro args s m h hn
    obtain ⟨meth, c, h1, h2, h3, h4, h5, h6, -, -⟩ := Cond.code_spec hn (atoms_spec (ws := ws) h _ (by rw [hw]; exact List.mem_cons_self))
    exact ⟨meth, c, h1, h2, h3, h4, h5, h6⟩
  · intro p e s m args below meth c s₁ B hml hP _
    have hh0 : s₁.heap = s.heap := by rw [B.state]; rfl
    obtain ⟨t, a1, o, b1, b2, b3⟩ := body p e s m args below meth c s₁ B hml hP s₁ hh0 (Stand.of_body B)
    exact ⟨t, o, a1, b1, b2, ⟨b3.1, b3.2⟩⟩
/-- a call of a method that returns or throws -/
theorem callT_of {y : MethodName} {ws : List Cond} {rm : Room} {Pc : Array Value → State → Prop} {Qc : Array Value → State → Outcome → State → Prop} {mc ms : Nat} {free : Addr → Prop} {maxL : Nat}
    (X : Stand p l e R s m args below meth c T locs cells slots) (hM : MetT l y ws rm Pc Qc mc ms free) (hrc : rm.cells = mc) (hrs : rm.slots = ms) (hframes : rm.frames + 1 ≤ R.frames)
    {g : JFrame} (hg : g.method = m) (hsize : g.locals.size = c.maxLocals) {ig : Instr} {len : Nat} (hdg : decode c.code g.pc = .ok (ig, len)) (hlocals : 2 * g.monitorRoom + (g.stack.map fun v => v.category).sum + (maxL + 11) + rm.locals ≤ R.locals)
    {mk : MethodId} {a : Array Value} (hn : T.methodNamed? y = some mk) (hws : ∀ w ∈ ws, w.before a T = true)
    {methY : Method} {cY : Code} (hmY : T.vm.method? mk = some methY) (hcY : methY.code = some cY) (hlY : cY.maxLocals = maxL) (hini : (Cond.initialized y.cls).before a T = true)
    (hcells : cells + mc ≤ R.cells) (hslots : slots + ms ≤ R.slots) (hP : Pc a (T.calling g mk a)) :
    ∃ (o : Outcome) (t T' : State) (L : List Loc), Qc a (T.calling g mk a) o t ∧ (∀ q ∈ L, free q.base) ∧ Stand p l e R s m args below meth c T' (locs ++ L) (cells + mc) (slots + ms) ∧ T'.heap = t.heap ∧ T'.vm = t.vm ∧
      ((∃ v, o = .returned v ∧ Steps p.tables e below (doInvoke e (T.setTop g) [] mk a).1 (T'.setTop { g with pc := g.pc + len, stack := v.toList ++ g.stack })) ∨
       (∃ x, o = .threw x ∧ Steps p.tables e below (doInvoke e (T.setTop g) [] mk a).1 ((T'.setTop g).pushFrame (.throwing x)))) := by
  obtain ⟨kY, hkY, -⟩ := className_of_methodNamed hn
  have hinitY : kY.init = .initialized := Cond.initialized_spec (findClass_of_methodNamed hn) hkY hini
  have h : At T g.method c below := by rw [hg]; exact X.here
  have happ : (headSpec ws rm).appliesLoose y e.platform (T.calling g mk a) = true :=
    Spec.appliesLoose_calling (g := g) h hdg hn hkY hinitY
      (X.room_calling (g := g) (R' := (headSpec ws rm).room) hsize hmY hcY hframes (by rw [hlY]; exact hlocals) (by rw [show (headSpec ws rm).room.cells = mc from hrc]; exact hcells) (by rw [show (headSpec ws rm).room.slots = ms from hrs]; exact hslots)) (atoms_intro hws)
  obtain ⟨mid, hmid⟩ := h.above
  have hfr : (T.setTop g).frames = (.java g :: mid) ++ below := by rw [State.frames_setTop' g h.top, hmid]; rfl
  obtain ⟨o, s₂, hsteps, -, hend, hq⟩ := Steps.callFree hM p X.admits X.cas X.clock (acts := []) hfr happ hP trivial
  have hq' : Qc a (T.calling g mk a) o s₂ ∧ ∃ L, FEnd (T.calling g mk a) s₂ L mc ms ∧ ∀ q ∈ L, free q.base := hq
  obtain ⟨hQ, L, ⟨hW, hsame⟩, hL⟩ := hq'
  have hF : (T.setTop g).frames = .java g :: below := by rw [State.frames_setTop' _ X.here.top, X.tail]
  rw [hF] at hend
  cases o with
  | returned v =>
    obtain ⟨T', X', -, -, hT'⟩ := X.outOf hg hdg (mk := mk) (a := a) hend hW hsame
    refine ⟨.returned v, s₂, T', L, hQ, hL, X', by rw [hT']; rfl, by rw [hT']; rfl, Or.inl ⟨v, rfl, ?_⟩⟩
    rw [← hT']
    exact hsteps
  | threw x =>
    obtain ⟨T', X', -, -, hT'⟩ := X.outOfThrown hg (mk := mk) (a := a) hend hW hsame
    refine ⟨.threw x, s₂, T', L, hQ, hL, X', by rw [hT']; exact (Stand.throwing_heap T' g x).symm, by rw [hT']; exact (Stand.throwing_vm T' g x).symm, Or.inr ⟨x, rfl, ?_⟩⟩
    rw [← hT']
    exact hsteps
end TH1

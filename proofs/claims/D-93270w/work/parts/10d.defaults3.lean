/-! DEFAULT METHODS: the two calls as runs -/
section ND3
variable {p : Program} {l : Launch} {e : Env} {R : Room} {s : State} {m : MethodId} {args : Array Value} {below : List Frame} {meth : Method} {c : Code} {T : State} {locs : List Loc} {cells slots : Nat} {H : Heap}
/-- what such a call asks of the default method -/
def nd_B (R : Room) (s : State) (args : Array Value) (own : String) (index : Nat) (x y : MethodName) (bytes : ByteArray) (maxL : Nat) (ret : Option FieldType) (ws : List Cond) (rm : Room) (mc ms n : Nat) : Prop :=
  (rm.cells = mc ∧ rm.slots = ms ∧ rm.frames + 1 ≤ R.frames ∧ 8 + (maxL + 11) + rm.locals ≤ R.locals ∧ (∀ w ∈ ws, ∀ (a' : Array Value) (U : State), s.WarmedH U.vm → w.before a' U = true) ∧ Cond.code y bytes maxL ret ∈ ws) ∧
  (Cond.initialized y.cls).before args s = true ∧ (Cond.methodLink own index x).before args s = true ∧ (Cond.sameMethod x.cls y.cls x.name x.desc).before args s = true ∧ (Cond.instanceMethod y).before args s = true ∧ (Cond.code y bytes maxL ret).before args s = true ∧
  (y.name = x.name ∧ y.desc = x.desc ∧ y.cls ≠ "java/lang/invoke/MethodHandle" ∧ y.cls ≠ "java/lang/invoke/VarHandle" ∧ x.name ≠ "<init>") ∧ (∀ sig, parseMethodDescriptor y.desc = some sig → n = sig.parameters.length)
theorem nd_runV {x y : MethodName} {bytes cc : ByteArray} {maxL nL mc ms n index : Nat} {ret : Option FieldType} {ws : List Cond} {rm : Room} {Pc : Array Value → State → Prop} {Qc : Array Value → State → Outcome → State → Prop} {free : Addr → Prop} {Ts : List Cond} {own C : String} {b : Addr} {As rest : List Value} {g : JFrame}
    (S : CallFix p m c cc nL s args Ts own) (hM : Met l y ws rm Pc Qc mc ms free) (cw : nd_B R s args own index x y bytes maxL ret ws rm mc ms n) (hLD : LDw C x y s) (hp : PreV s H C b Pc As)
    (hg : g.method = m) (hn : As.length = n) (hsize : g.locals.size = nL) (hstack : g.stack = As.reverse ++ .ref b :: rest) (hW : 2 * g.monitorRoom + (rest.map fun v => v.category).sum ≤ 8) (hdg : decode cc g.pc = .ok (.invokevirtual index, 3)) (hf : cells + mc ≤ R.cells ∧ slots + ms ≤ R.slots) :
    va_Run p l e R s m args below meth c H locs cells slots mc ms g rest (Qc (Value.ref b :: As).toArray) (free) := by
  obtain ⟨⟨hrc, hrs, hfr, hlo, hws, hcw⟩, hini, hlink, hsame, hinst, hcode, ⟨hy1, hy2, hy3, hy4, -⟩, hlen⟩ := cw
  have hK : Back l R p e below s args y 3 8 (PreOf R mc ms Pc) (PostOf Qc mc ms free) := back_of (bytes := bytes) (maxL := maxL) (ret := ret) hM hp.1 hrc hrs hfr hlo hws hcw (fun a' U hW => word_at hW (Or.inl (by first | rfl | simp [Cond.onTables, Cond.keeps, Cond.steady])) hini)
  obtain ⟨hx, hb, hml, ho, -⟩ := S
  obtain ⟨-, ⟨cellB, hcB, hoB, hclB⟩, hPc⟩ := hp
  intro T hT X
  obtain ⟨mk, methM, hnamed, hmethM, hstM, habM⟩ := Cond.instanceMethod_spec hinst
  obtain ⟨methM', cM, hmethM', -, -, -, -, -, -, hsigM⟩ := Cond.code_spec hnamed hcode
  cases hmethM.symm.trans hmethM'
  have hn0 : s.methodNamed? ⟨y.cls, x.name, x.desc⟩ = some mk := by rw [← hy1, ← hy2]; exact hnamed
  obtain ⟨cn, ck, r1, hcn, hck, hni, hfd, hn1⟩ := Cond.sameMethod_found hsame
  cases hn0.symm.trans hn1
  obtain ⟨c2, r2, m2, rm2, q1, q2, q3, q5, q4, ⟨kP, hkP, hkPi⟩, q7, q8, -⟩ := hLD
  cases hclB.symm.trans q1
  cases hfd.symm.trans q2
  cases hnamed.symm.trans q3
  cases hmethM.symm.trans q5
  have hselP : selectMethod e.platform s.vm cellB.cls mk = .method mk := by rw [Launch.admits_selectMethod X.admits]; exact q4
  obtain ⟨vm₁, X₁, hstep₁⟩ := nd_virt X hx ho hlink hsame ⟨hy3, hy4⟩ hn0 hmethM hstM (a := b) (cell := cellB) (by rw [hT]; exact hcB)
    (fun z h => by rw [h] at hoB; cases hoB) hselP hmethM habM hkP hkPi q7 (g := g) hg (argsL := As) (rest := rest) (hn.trans (hlen _ hsigM)) hstack (by rw [hb]; exact hdg)
  obtain ⟨v, B, X', hpost, hsteps⟩ := hK m meth c ⟨T.setVm vm₁, locs, cells, slots⟩ { g with stack := rest } (.invokevirtual index) mk (Value.ref b :: As).toArray X₁ hg (hsize.trans hml.symm) (by rw [hb]; exact hdg) hW (X₁.named hnamed) ⟨hf.1, hf.2, hPc (T.setVm vm₁) hT X₁.warmed⟩
  obtain ⟨U', l2, c3, s2⟩ := B
  obtain ⟨g', mk', t, L, e1, e2, hq, h1, hL, h2, h3⟩ := hpost
  dsimp only [Pt.U, Pt.locs, Pt.cells, Pt.slots] at X' e1 e2 h1 h2 h3 hsteps
  subst h1; subst h2; subst h3
  exact ⟨v, (T.setVm vm₁).calling g' mk' (Value.ref b :: As).toArray, t, U', L, hT, X', hL, e1, e2, hq, fun target h => hstep₁ _ fun acts => by rw [doInvoke_state]; exact hsteps.trans h⟩
theorem nd_runS {x y : MethodName} {bytes cc : ByteArray} {maxL nL mc ms n index : Nat} {ret : Option FieldType} {ws : List Cond} {rm : Room} {Pc : Array Value → State → Prop} {Qc : Array Value → State → Outcome → State → Prop} {free : Addr → Prop} {Ts : List Cond} {own C : String} {cC : ClassId} {b : Addr} {As rest : List Value} {g : JFrame}
    (hat : ClassAt s C cC) (S : CallFix p m c cc nL s args Ts own) (hM : Met l y ws rm Pc Qc mc ms free) (cw : nd_B R s args own index x y bytes maxL ret ws rm mc ms n) (hLD : LDw x.cls x y s) (hsup : (Cond.superclass own x.cls).before args s = true) (hp : PreV s H C b Pc As)
    (hg : g.method = m) (hn : As.length = n) (hsize : g.locals.size = nL) (hstack : g.stack = As.reverse ++ .ref b :: rest) (hW : 2 * g.monitorRoom + (rest.map fun v => v.category).sum ≤ 8) (hdg : decode cc g.pc = .ok (.invokespecial index, 3)) (hf : cells + mc ≤ R.cells ∧ slots + ms ≤ R.slots) :
    va_Run p l e R s m args below meth c H locs cells slots mc ms g rest (Qc (Value.ref b :: As).toArray) (free) := by
  obtain ⟨⟨hrc, hrs, hfr, hlo, hws, hcw⟩, hini, hlink, hsame, hinst, hcode, ⟨hy1, hy2, hy3, hy4, hno⟩, hlen⟩ := cw
  have hK : Back l R p e below s args y 3 8 (PreOf R mc ms Pc) (PostOf Qc mc ms free) := back_of (bytes := bytes) (maxL := maxL) (ret := ret) hM hp.1 hrc hrs hfr hlo hws hcw (fun a' U hW => word_at hW (Or.inl (by first | rfl | simp [Cond.onTables, Cond.keeps, Cond.steady])) hini)
  obtain ⟨hx, hb, hml, ho, -⟩ := S
  obtain ⟨-, ⟨cellB, hcB, hoB, hclB⟩, hPc⟩ := hp
  obtain ⟨hfc, kB, hkB, -⟩ := hat
  cases hfc.symm.trans hclB
  intro T hT X
  obtain ⟨mk, methM, hnamed, hmethM, hstM, habM⟩ := Cond.instanceMethod_spec hinst
  obtain ⟨methM', cM, hmethM', -, -, -, -, -, -, hsigM⟩ := Cond.code_spec hnamed hcode
  cases hmethM.symm.trans hmethM'
  have hn0 : s.methodNamed? ⟨y.cls, x.name, x.desc⟩ = some mk := by rw [← hy1, ← hy2]; exact hnamed
  obtain ⟨cn, ck, r1, hcn, hck, hni, hfd, hn1⟩ := Cond.sameMethod_found hsame
  cases hn0.symm.trans hn1
  obtain ⟨c2, r2, m2, rm2, q1, q2, q3, q5, q4, hif, q7, q8, -⟩ := hLD
  cases hcn.symm.trans q1
  cases hfd.symm.trans q2
  cases hnamed.symm.trans q3
  cases hmethM.symm.trans q5
  obtain ⟨ps, dk, kp, hps, hdk, hkp, hsuper, -, -, hnid⟩ := Cond.superclass_spec ho hsup
  cases hps.symm.trans hcn
  have hpl : e.platform.magicAccessors = ({} : Platform).magicAccessors := by rw [X.admits.platform]
  obtain ⟨ci, hl, hright⟩ := Cond.methodLink_specUp ho hcn hck hni hfd hlink e.platform hpl (by rw [X.admits.platform])
  obtain ⟨kr, hkr, -⟩ := className_of_methodNamed hn0
  obtain ⟨hrn, hrd⟩ := name_of_methodNamed hn0 hmethM
  obtain ⟨dk₀, cfile, nt, _, _, ck₀, _, _, hd₀, hcf, hcp, -, -, -, hc₀, -, hpoly, -⟩ := hl.here
  cases hdk.symm.trans hd₀
  cases hck.symm.trans hc₀
  have hup : s.vm.lookupUp cn x.name x.desc = some mk := ((State.methodFound?_class hcn hck hni hpoly mk).mp hfd).1
  have hfound0 : lookupSpecial s.vm cn x.name x.desc = .method mk := nd_special hck hni hup hmethM hstM hrn hrd q8 hif q4
  subst hg
  obtain ⟨vm₁, hW', st⟩ := Steps.invokeSuperColdArgs (tb := p.tables) (e := e) (s₀ := s) (U := T) (f := g) (args := As) (rest := rest) (a := b) (cell := cellB) (m := mk) X.here hx (by rw [hb]; exact hdg) X.warmed hl hright hdk hcf hcp hmethM hck
    (by rw [hrn]; simp [hno]) hstM (by rw [hrn, hrd, hsuper]; simpa using hfound0) hnid hkr habM (hn.trans (hlen _ hsigM)) hstack (by rw [hT]; exact hcB) (fun z h => by rw [h] at hoB; cases hoB) hkB
  have X₁ := X.noted hW'
  obtain ⟨v, B, X', hpost, hsteps⟩ := hK g.method meth c ⟨T.setVm vm₁, locs, cells, slots⟩ { g with stack := rest } (.invokespecial index) mk (Value.ref b :: As).toArray X₁ rfl (hsize.trans hml.symm) (by rw [hb]; exact hdg) hW (X₁.named hnamed) ⟨hf.1, hf.2, hPc (T.setVm vm₁) hT X₁.warmed⟩
  obtain ⟨U', l2, c3, s2⟩ := B
  obtain ⟨g', mk', t, L, e1, e2, hq, h1, hL, h2, h3⟩ := hpost
  dsimp only [Pt.U, Pt.locs, Pt.cells, Pt.slots] at X' e1 e2 h1 h2 h3 hsteps
  subst h1; subst h2; subst h3
  exact ⟨v, (T.setVm vm₁).calling g' mk' (Value.ref b :: As).toArray, t, U', L, hT, X', hL, e1, e2, hq, fun target h => st _ (by rw [doInvoke_state]; exact hsteps.trans h)⟩
end ND3

/-! CALLS THAT MAY THROW: in the component's world -/
section TH3
variable {p : Program} {l : Launch} {e : Env} {R : Room} {s : State} {m : MethodId} {args : Array Value} {below : List Frame} {meth : Method} {c : Code} {H : Heap} {locs : List Loc} {cells slots : Nat} {Q : State → Prop}
variable {cc : ByteArray} {nL pc : Nat} {ls : Array Slot} {rest st0 : List Value} {D : va_G} {dA : Nat → ClassId} {ad : Nat → Nat} {fv : Nat → Value} {a : CS} {A : Nat → Prop} {own : String}
/-- the end by a throw: which object (EX), in which state (E) -/
def cE (D : va_G) (dA : Nat → ClassId) (ad : Nat → Nat) (fv : Nat → Value) (A : Nat → Prop) (EX : Addr → Heap → Vm → Prop) (E : CS → Prop) : State → Outcome → State → Prop := fun st o t => (∃ (x : Addr) (u : CS), o = .threw x ∧ EX x t.heap t.vm ∧ E u ∧ CI D dA ad fv A u t) ∧ va_F A st t
abbrev cT (Qr : Array Value → State → Outcome → State → Prop) (Ex : State → Outcome → State → Prop) : Array Value → State → Outcome → State → Prop := fun a st o t => Qr a st o t ∨ Ex st o t
/-- the Fault, made once -/
def exF (ad : Nat → Nat) : Addr → Heap → Vm → Prop := fun x _ _ => x = ad 85
/-- an exception made by the machine -/
def exV (cls : String) : Addr → Heap → Vm → Prop := fun x h v => ∃ cell : Cell, h[x]? = some cell ∧ cell.vm.isStatics = false ∧ v.findClass cls = some cell.cls
variable {EX : Addr → Heap → Vm → Prop} {E : CS → Prop} {mc ms : Nat} {arr : Array Value}
/-- the walk goes on from a throw in this frame -/
def WX (p : Program) (l : Launch) (e : Env) (R : Room) (s : State) (m : MethodId) (args : Array Value) (below : List Frame) (meth : Method) (c : Code) (H : Heap) (locs : List Loc) (cells slots : Nat) (Q : State → Prop) (EX : Addr → Heap → Vm → Prop) (g : JFrame) : Prop :=
  ∀ (x : Addr) (T : State), T.heap = H → EX x T.heap T.vm → Stand p l e R s m args below meth c T locs cells slots → ∃ t, Steps p.tables e below ((T.setTop g).pushFrame (.throwing x)) t ∧ Q t
theorem c_callTi {K : Int32 → CS → Prop} (hw : CW D dA ad fv A a s H locs) (hr : RunT p l e R s m args below meth c H locs cells slots mc ms (F0 m pc ls st0) rest (cT (cQi D dA ad fv A K) (cE D dA ad fv A EX E) arr) A)
    (kx : ∀ (a1 : CS) (H1 : Heap) (locs1 : List Loc), E a1 → CW D dA ad fv A a1 s H1 locs1 → WX p l e R s m args below meth c H1 locs1 (cells + mc) (slots + ms) Q EX (F0 m pc ls rest))
    (kk : ∀ (r : Int32) (a1 : CS) (H1 : Heap) (locs1 : List Loc), K r a1 → CW D dA ad fv A a1 s H1 locs1 → W p l e R s m args below meth c H1 locs1 (cells + mc) (slots + ms) Q (F0 m (pc + 3) ls (.int r :: rest))) : W p l e R s m args below meth c H locs cells slots Q (F0 m pc ls st0) := by
  intro T hT X
  obtain ⟨o, st₀, t, T', L, h0, X', hL, e1, e2, hq, hst⟩ := hr T hT X
  have hS := hw.st
  have hS1 : va_F A st₀ t → va_S A s.heap T'.heap (locs ++ L) := by
    rintro ⟨hz, hk⟩
    rw [h0] at hz hk
    exact ⟨Nat.le_trans hS.1 (by rw [e1]; exact hz), fun q h1 h2 => by rw [e1, hk q (Nat.lt_of_lt_of_le h1 hS.1) h2]; exact hS.2.1 q h1 h2, fun q hq => by
      rcases List.mem_append.mp hq with h | h
      · exact hS.2.2 q h
      · exact hL q h⟩
  rcases hq with ⟨⟨r, u, hv, hp, hb⟩, hF⟩ | ⟨⟨x, u, hv, hx, hp, hb⟩, hF⟩
  · rcases hst with ⟨v, hv', st⟩ | ⟨x, hv', st⟩
    · cases hv.symm.trans hv'
      obtain ⟨t2, a1, b1⟩ := kk r u T'.heap (locs ++ L) hp (hw.back hb e1.symm (hS1 hF)) T' rfl X'
      exact ⟨t2, st t2 a1, b1⟩
    · cases hv.symm.trans hv'
  · rcases hst with ⟨v, hv', st⟩ | ⟨x', hv', st⟩
    · cases hv.symm.trans hv'
    · cases hv.symm.trans hv'
      obtain ⟨t2, a1, b1⟩ := kx u T'.heap (locs ++ L) hp (hw.back hb e1.symm (hS1 hF)) x T' rfl (by rw [e1, e2]; exact hx) X'
      exact ⟨t2, st t2 a1, b1⟩
theorem c_callTv {K : CS → Prop} (hw : CW D dA ad fv A a s H locs) (hr : RunT p l e R s m args below meth c H locs cells slots mc ms (F0 m pc ls st0) rest (cT (cQv D dA ad fv A K) (cE D dA ad fv A EX E) arr) A)
    (kx : ∀ (a1 : CS) (H1 : Heap) (locs1 : List Loc), E a1 → CW D dA ad fv A a1 s H1 locs1 → WX p l e R s m args below meth c H1 locs1 (cells + mc) (slots + ms) Q EX (F0 m pc ls rest))
    (kk : ∀ (a1 : CS) (H1 : Heap) (locs1 : List Loc), K a1 → CW D dA ad fv A a1 s H1 locs1 → W p l e R s m args below meth c H1 locs1 (cells + mc) (slots + ms) Q (F0 m (pc + 3) ls rest)) : W p l e R s m args below meth c H locs cells slots Q (F0 m pc ls st0) := by
  intro T hT X
  obtain ⟨o, st₀, t, T', L, h0, X', hL, e1, e2, hq, hst⟩ := hr T hT X
  have hS := hw.st
  have hS1 : va_F A st₀ t → va_S A s.heap T'.heap (locs ++ L) := by
    rintro ⟨hz, hk⟩
    rw [h0] at hz hk
    exact ⟨Nat.le_trans hS.1 (by rw [e1]; exact hz), fun q h1 h2 => by rw [e1, hk q (Nat.lt_of_lt_of_le h1 hS.1) h2]; exact hS.2.1 q h1 h2, fun q hq => by
      rcases List.mem_append.mp hq with h | h
      · exact hS.2.2 q h
      · exact hL q h⟩
  rcases hq with ⟨⟨u, hv, hp, hb⟩, hF⟩ | ⟨⟨x, u, hv, hx, hp, hb⟩, hF⟩
  · rcases hst with ⟨v, hv', st⟩ | ⟨x, hv', st⟩
    · cases hv.symm.trans hv'
      obtain ⟨t2, a1, b1⟩ := kk u T'.heap (locs ++ L) hp (hw.back hb e1.symm (hS1 hF)) T' rfl X'
      exact ⟨t2, st t2 a1, b1⟩
    · cases hv.symm.trans hv'
  · rcases hst with ⟨v, hv', st⟩ | ⟨x', hv', st⟩
    · cases hv.symm.trans hv'
    · cases hv.symm.trans hv'
      obtain ⟨t2, a1, b1⟩ := kx u T'.heap (locs ++ L) hp (hw.back hb e1.symm (hS1 hF)) x T' rfl (by rw [e1, e2]; exact hx) X'
      exact ⟨t2, st t2 a1, b1⟩
theorem c_callTr {K : Nat → CS → Prop} (hw : CW D dA ad fv A a s H locs) (hr : RunT p l e R s m args below meth c H locs cells slots mc ms (F0 m pc ls st0) rest (cT (cQr D dA ad fv A K) (cE D dA ad fv A EX E) arr) A)
    (kx : ∀ (a1 : CS) (H1 : Heap) (locs1 : List Loc), E a1 → CW D dA ad fv A a1 s H1 locs1 → WX p l e R s m args below meth c H1 locs1 (cells + mc) (slots + ms) Q EX (F0 m pc ls rest))
    (kk : ∀ (x : Nat) (a1 : CS) (H1 : Heap) (locs1 : List Loc), K x a1 → CW D dA ad fv A a1 s H1 locs1 → W p l e R s m args below meth c H1 locs1 (cells + mc) (slots + ms) Q (F0 m (pc + 3) ls (.ref (ad x) :: rest))) : W p l e R s m args below meth c H locs cells slots Q (F0 m pc ls st0) := by
  intro T hT X
  obtain ⟨o, st₀, t, T', L, h0, X', hL, e1, e2, hq, hst⟩ := hr T hT X
  have hS := hw.st
  have hS1 : va_F A st₀ t → va_S A s.heap T'.heap (locs ++ L) := by
    rintro ⟨hz, hk⟩
    rw [h0] at hz hk
    exact ⟨Nat.le_trans hS.1 (by rw [e1]; exact hz), fun q h1 h2 => by rw [e1, hk q (Nat.lt_of_lt_of_le h1 hS.1) h2]; exact hS.2.1 q h1 h2, fun q hq => by
      rcases List.mem_append.mp hq with h | h
      · exact hS.2.2 q h
      · exact hL q h⟩
  rcases hq with ⟨⟨u, ra, hv, hp, hb⟩, hF⟩ | ⟨⟨x, u, hv, hx, hp, hb⟩, hF⟩
  · rcases hst with ⟨v, hv', st⟩ | ⟨x, hv', st⟩
    · cases hv.symm.trans hv'
      obtain ⟨rfl, hb⟩ := hb
      obtain ⟨t2, a1, b1⟩ := kk u.1 u.2 T'.heap (locs ++ L) hp (hw.back hb e1.symm (hS1 hF)) T' rfl X'
      exact ⟨t2, st t2 a1, b1⟩
    · cases hv.symm.trans hv'
  · rcases hst with ⟨v, hv', st⟩ | ⟨x', hv', st⟩
    · cases hv.symm.trans hv'
    · cases hv.symm.trans hv'
      obtain ⟨t2, a1, b1⟩ := kx u T'.heap (locs ++ L) hp (hw.back hb e1.symm (hS1 hF)) x T' rfl (by rw [e1, e2]; exact hx) X'
      exact ⟨t2, st t2 a1, b1⟩
/-- the throw goes on out of this method -/
theorem c_leaveT {Qr : Array Value → State → Outcome → State → Prop} {k n : Nat} (hw : CW D dA ad fv A a s H locs) (h : E a) (hlk : meth.locks = false) (hout : ∀ x ∈ c.exceptionTable.toList, covers x pc = false) (h1 : cells ≤ k) (h2 : slots ≤ n) :
    WX p l e R s m args below meth c H locs cells slots (MQT below (cT Qr (cE D dA ad fv A EX E)) args s k n A) EX (F0 m pc ls rest) := by
  intro x T hT hx X
  obtain ⟨st, hrun, hend, hW, hsame⟩ := (stand_widen X h1 h2).leaveThrown x (g := F0 m pc ls rest) rfl rfl rfl hout hlk
  exact ⟨_, st, .threw x, hrun, hend, Or.inr ⟨⟨x, a, rfl, hx, h, hw.to hT hW⟩, hw.st.F hT⟩, locs, ⟨hW, hsame⟩, hw.st.2.2⟩
/-- athrow of the Fault -/
theorem c_athrow {Qr : Array Value → State → Outcome → State → Prop} {k n : Nat} (S : CallFix p m c cc nL s args lw_all own) (hw : CW D dA ad fv A a s H locs) (h : E a) (hlk : meth.locks = false) (hout : ∀ x ∈ c.exceptionTable.toList, covers x pc = false) (h1 : cells ≤ k) (h2 : slots ≤ n) (hdg : decode cc pc = .ok (.athrow, 1)) :
    W p l e R s m args below meth c H locs cells slots (MQT below (cT Qr (cE D dA ad fv A (exF ad) E)) args s k n A) (F0 m pc ls (.ref (ad 85) :: rest)) := by
  intro T hT X
  obtain ⟨st, hrun, hend, hW, hsame⟩ := (stand_widen X h1 h2).athrowLeaves S.1 (g := F0 m pc ls (.ref (ad 85) :: rest)) rfl rfl rfl hout rfl (by rw [S.2.1]; exact hdg) hlk
  exact ⟨_, st, .threw (ad 85), hrun, hend, Or.inr ⟨⟨ad 85, a, rfl, rfl, h, hw.to hT hW⟩, hw.st.F hT⟩, locs, ⟨hW, hsame⟩, hw.st.2.2⟩
variable {y : MethodName} {bytes : ByteArray} {maxL : Nat} {ret : Option FieldType} {ws : List Cond} {rm : Room} {As : List Value}
/-- a contract out of a walk that may throw -/
theorem c_metT {Qc : Array Value → State → Outcome → State → Prop} {ws' : List Cond} {mc ms : Nat} (hy : plainName y.cls = true) (hcls : y.cls = own) (hw : ws = Cond.code y bytes maxL ret :: ws') (hws : ws' = lw_all) (hlen : (lg_sl As).length ≤ maxL)
    (body : ∀ (p : Program) (e : Env) (s : State) (m : MethodId) (below : List Frame) (meth : Method) (c : Code) (ls : Array Slot), CallFix p m c bytes maxL s As.toArray lw_all own → meth.sig.returnType = ret → meth.locks = false → (∀ pc, ∀ x ∈ c.exceptionTable.toList, covers x pc = false) → CW D dA ad fv A a s s.heap [] → lv_has ls maxL (lv_args 0 As) → W p l e rm s m As.toArray below meth c s.heap [] 0 0 (MQT below Qc As.toArray s mc ms A) (F0 m 0 ls [])) : MetT l y ws rm (cPc D dA ad fv A a As) Qc mc ms A := by
  refine MetT.ofW (cc := bytes) (maxL := maxL) (ret := ret) hy hw ?_
  intro p e s m args below meth c s₁ B hml hv
  obtain ⟨rfl, hI⟩ := hv
  have hts := atoms_spec (ws := ws) B.pre
  have hcode : (Cond.code y bytes maxL ret).before As.toArray s = true := hts _ (by rw [hw]; exact List.mem_cons_self)
  have hno := B.noHandlers hcode
  subst hws
  have hts : ∀ w ∈ lw_all, w.before _ s = true := fun w h => hts w (by rw [hw]; exact List.mem_cons_of_mem _ h)
  have hown : s.vm.findClass own = some m.cls := by rw [← hcls]; exact findClass_of_methodNamed B.named
  have hl := lv_entry As (n := maxL) hlen
  rw [lg_entry_eq]
  refine body p e s m below meth c _ ⟨B.exec, B.bytes, hml, hown, hts⟩ B.returns B.notSynchronized (fun pc x hx => ?_) hI.cw hl
  have : c.exceptionTable.toList = [] := by
    have h1 : c.exceptionTable = #[] := by simpa using hno
    rw [h1]
  rw [this] at hx
  exact absurd hx List.not_mem_nil
end TH3

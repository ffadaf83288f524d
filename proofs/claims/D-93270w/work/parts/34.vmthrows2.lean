/-! EXCEPTIONS THAT THE MACHINE MAKES: up to the note over the frame -/
section VMT
variable {p : Program} {l : Launch} {e : Env} {R : Room} {s : State} {m : MethodId} {args : Array Value} {below : List Frame} {meth : Method} {c : Code} {cells slots : Nat}
/-- from the note that asks for the exception to the note that throws it: one theorem for frames that catch and frames that don't -/
theorem vm_throwing (hexec : p.tables.exec = Jvm.exec) (hfl : l.flags = flags0) {cls text : String} (hcls : cls = "java/lang/ClassCastException" ∨ cls = "java/lang/NegativeArraySizeException") (harm : ∀ w ∈ Bundle.messageArmAtoms cls ["java/lang/RuntimeException", "java/lang/Exception"], w.before args s = true) (htx : txOk text)
    {T : State} {locs : List Loc} (X : Stand p l e R s m args below meth c T locs cells slots) (hT : ∀ (cf : ClassId) (k : Class) (i : Nat) (f : Field) (aa : Nat), s.fieldFound? "java/lang/Throwable" "UNASSIGNED_STACK" "[Ljava/lang/StackTraceElement;" = some (cf, k, i, f) → k.statics = some aa → T.heap[aa]? = s.heap[aa]?) {g : JFrame} (hg : g.method = m) (hsize : g.locals.size = c.maxLocals) (hR1 : 6 < R.frames) (hR2 : 2 * g.monitorRoom + (g.stack.map fun v => v.category).sum + 10240 ≤ R.locals) (hR3 : cells + 3 ≤ R.cells) (hR4 : slots + 1010 ≤ R.slots) :
    ∃ (U : State) (locs1 : List Loc), Stand p l e R s m args below meth c U locs1 (cells + 3) (slots + 1010) ∧ (∀ q ∈ locs1, q ∈ locs ∨ T.heap.size ≤ q.base) ∧ T.heap.size ≤ U.heap.size ∧ (∀ q, q < T.heap.size → U.heap[q]? = T.heap[q]?) ∧ exV cls (T.heap.size + 2) U.heap U.vm ∧ ∀ t, Steps p.tables e below ((U.setTop g).pushFrame (.throwing (T.heap.size + 2))) t → Steps p.tables e below ((T.setTop g).pushFrame (.throwNew cls (some text) none)) t := by
  have htr : e.platform.stackTraces = false := Launch.traces_off hfl X.admits
  have hpl : e.platform.magicAccessors = ({} : Platform).magicAccessors := by rw [X.admits.platform]
  have w : ∀ x, x ∈ Bundle.messageArmAtoms cls ["java/lang/RuntimeException", "java/lang/Exception"] → x.holds args s none s [] = true := fun x hx => harm x hx
  have hfit : Bundle.fit cls = true ∧ (cls == "java/lang/StackOverflowError") = false ∧ (cls == "java/lang/OutOfMemoryError") = false := by
    rcases hcls with h | h <;> (rw [h]; decide +kernel)
  obtain ⟨K, Z0, KL, -, KY⟩ := ThrowableC.of_atoms (args := args) (by rw [X.admits.platform] : e.platform.frameOwnsMonitors = true) (by rw [X.admits.platform] : e.platform.finalization = false) hpl (fun x hx => harm x (by simp [Bundle.messageArmAtoms, hx]))
  obtain ⟨Z, M, LZ, LM, hnZ⟩ := Init0T.ofS_atoms (args := args) hpl KL KY (fun x hx => harm x (by simp [Bundle.messageArmAtoms, hx]))
  obtain ⟨P1, Ps, hlen, L1, hL, hP1m, hlink1, hlink⟩ := Bundle.chainS (args := args) hpl hnZ ["java/lang/RuntimeException", "java/lang/Exception"] cls hfit.1 (by decide +kernel) (fun x hx => harm x (by simp [Bundle.messageArmAtoms, hx]))
  obtain ⟨G, LG, hn4, hfitv, hfitc⟩ := StringT.of_atoms (args := args) (fun x hx => harm x (by simp [Bundle.messageArmAtoms, hx]))
  have hfound : s.vm.findClass cls = some P1.m.cls := findClass_of_methodNamed hP1m
  obtain ⟨c1, kX, hc1, hk, hord, -, -, hn6⟩ := Cond.instantiable_spec (w (.instantiable cls 6) (by simp [Bundle.messageArmAtoms]))
  cases Option.some.inj (hc1.symm.trans hfound)
  have hinit := Cond.initialized_spec hfound hk (w (.initialized cls) (by simp [Bundle.messageArmAtoms]))
  have hctor : kX.findMethod "<init>" "(Ljava/lang/String;)V" = some P1.m.idx := findMethod_of_methodNamed hP1m hk
  have hsel0 : selectMethod e.platform s.vm P1.m.cls K.fill0 = .method K.fill0 := by
    obtain ⟨c2, r2, m2, q1, q2, q3, q4, -⟩ := Cond.selects_spec (w (.selects cls Bundle.tFill0 Bundle.tFill0) (by simp [Bundle.messageArmAtoms]))
    cases Option.some.inj (q1.symm.trans hfound)
    cases Option.some.inj (q2.symm.trans (State.methodFound?_of_named KY.fill0 (by decide)))
    cases Option.some.inj (q3.symm.trans KY.fill0)
    rw [Launch.admits_selectMethod X.admits]
    exact q4
  have hselF : selectMethod e.platform s.vm P1.m.cls K.fill = .method K.fill := by
    obtain ⟨c2, r2, m2, q1, q2, q3, q4, -⟩ := Cond.selects_spec (w (.selects cls Bundle.tFill Bundle.tFill) (by simp [Bundle.messageArmAtoms]))
    cases Option.some.inj (q1.symm.trans hfound)
    cases Option.some.inj (q2.symm.trans (State.methodFound?_of_named KY.fill (by decide)))
    cases Option.some.inj (q3.symm.trans KY.fill)
    rw [Launch.admits_selectMethod X.admits]
    exact q4
  obtain ⟨cS, hcS, hiss⟩ := KY.statics
  obtain ⟨u0, hu0⟩ := Cond.staticRefV KY.unassigned KL.unassignedStatic KL.statics hcS hiss (w (.isRef (.static Bundle.tN "UNASSIGNED_STACK" Bundle.steD)) (by simp [Bundle.messageArmAtoms]))
  obtain ⟨sen, hsen⟩ := Cond.staticRefV KY.sentinel KL.sentinelStatic KL.statics hcS hiss (w (.isRef (.static Bundle.tN "SUPPRESSED_SENTINEL" Bundle.listD)) (by simp [Bundle.messageArmAtoms]))
  obtain ⟨ci198, i198, fB, hk198, hg198, ha198, hsB, -, hnB, htB, hffB⟩ := Cond.ownField (t := .object "java/lang/Object") KY.found KL.cls (by decide +kernel) (w (.fieldLink Bundle.tN 198 Bundle.tN "backtrace" "Ljava/lang/Object;") (by simp [Bundle.messageArmAtoms])) (w (.lays Bundle.tN Bundle.tN "backtrace" "Ljava/lang/Object;") (by simp [Bundle.messageArmAtoms])) e.platform hpl
  have hcellS : T.heap[K.aS]? = some cS := by rw [hT _ _ _ _ _ KY.unassigned KL.statics]; exact hcS
  have hknown : cS.vm ≠ .unknown := by
    intro hu
    rw [hu] at hiss
    cases hiss
  obtain ⟨iM, hffM⟩ := KY.msg
  obtain ⟨tyC, dC, hdC, hdnC⟩ := Cond.laysAt hfound hk KY.cause (w (.lays cls Bundle.tN "cause" "Ljava/lang/Throwable;") (by simp [Bundle.messageArmAtoms]))
  obtain ⟨tyS, dS, hdS, hdnS⟩ := Cond.laysAt hfound hk KY.stack (w (.lays cls Bundle.tN "stackTrace" Bundle.steD) (by simp [Bundle.messageArmAtoms]))
  obtain ⟨tyP, dP, hdP, hdnP⟩ := Cond.laysAt hfound hk KY.supp (w (.lays cls Bundle.tN "suppressedExceptions" Bundle.listD) (by simp [Bundle.messageArmAtoms]))
  obtain ⟨tyM, dM, hdM, hdnM⟩ := Cond.laysAt hfound hk hffM (w (.lays cls Bundle.tN "detailMessage" "Ljava/lang/String;") (by simp [Bundle.messageArmAtoms]))
  obtain ⟨tyB, dB, hdB, hdnB⟩ := Cond.laysAt hfound hk hffB (w (.lays cls Bundle.tN "backtrace" "Ljava/lang/Object;") (by simp [Bundle.messageArmAtoms]))
  have bC := Cond.laysApart hdB hdC hdnB hdnC (by rw [hnB, KY.causeName]; decide)
  have bS := Cond.laysApart hdB hdS hdnB hdnS (by rw [hnB, KY.stackName]; decide)
  have bP := Cond.laysApart hdB hdP hdnB hdnP (by rw [hnB, KY.suppName]; decide)
  have hskip : SkipFacts K e.platform s (fun u => u) u0 ((preparedCellV K.toThrowableT (freshCell P1.m.cls kX) (T.heap.size + 2) u0 sen).withEntry T.cur) :=
    ⟨{ ci198 := ci198, i198 := i198, fBack := fB }, ⟨hk198, hg198, ha198, hsB⟩, by
      have := fresh_default (c := P1.m.cls) tyB
      rw [htB] at this
      simpa [preparedCellV, Cell.setSlot, Cell.withEntry, Array.getElem?_setIfInBounds, bC, bS, bP, bC.symm, bS.symm, bP.symm, defaultValue] using this, fun _ _ => rfl⟩
  have hAt : At T g.method c below := by rw [hg]; exact X.here
  have hPs : Ps.length = 2 := hlen
  have htb : (stringBytes (stringToUtf16 text)).size ≤ 1000 := htx.1
  obtain ⟨hbeyond, hfreeW⟩ := X.vmMayThrow hsize (.throwNew cls (some text) none) (fun f hf => by cases hf) rfl hR2
  have hfr : T.frames.length + Ps.length + 4 < (e.platform.stackLimits T.me).1 := by have := X.framesAbove hR1; omega
  have hwd : (stackUse (.java g :: T.frames.tail)).2 + 13 * Ps.length + 55 ≤ (e.platform.stackLimits T.me).2 := by have := X.stackAbove hsize (K := 13 * Ps.length + 55) (by omega); omega
  have hsl : T.slotsUsed + (stringBytes (stringToUtf16 text)).size + G.kS.instanceTypes.size + kX.instanceTypes.size ≤ e.platform.maxSlots := by
    have := X.slotsAbove (n := (stringBytes (stringToUtf16 text)).size + G.kS.instanceTypes.size + kX.instanceTypes.size) (by omega)
    omega
  obtain ⟨vm', hW, st⟩ := Steps.vmThrowsMessageColdByV p (s₀ := s) (S := T) (g := g) hAt hexec K KL Z LZ M LM X.warmed (t := T.cur) rfl G LG P1 L1 Ps hL hlink1 hlink hfit.2.1 hfit.2.2 hfound hk hinit hord hctor
    (Launch.admits_hotImplicitExceptions X.admits) hbeyond hfreeW htx.2 (by rw [Launch.admits_arrayLengthLimit X.admits]; omega) (by rw [Launch.admits_maxHeapBytes X.admits]; show ¬ _ * 1 > 536870912; omega) (X.cellsAbove hR3) hsl (hfitv _) (hfitc _)
    (Nn := fun u => u) heapOnly_id (fun _ _ => rfl) (fun _ => rfl) (fun u x y => setCell_twice _ _ _ _) (fun _ => Nat.le_refl _) (cN := ((preparedCellV K.toThrowableT (freshCell P1.m.cls kX) (T.heap.size + 2) u0 sen).withEntry T.cur))
    hsel0 hcellS hknown hu0 (Takes.of_laid hk hord tyS (by rw [KY.stackType]; exact fits_refV_array _ u0)) (fun _ hu => hu) (fun _ hu => hu) rfl rfl rfl (by simp [preparedCellV, Cell.setSlot, Cell.withEntry]) hskip (fun _ _ hA hW _ hroom _ hrest => KL.nativeOff p htr hA hW hroom hrest) hselF hsen
    (Takes.of_laid hk hord tyC (by rw [KY.causeType]; rfl)) (Takes.of_laid hk hord tyP (by rw [KY.suppType]; exact fits_refV_object _ sen)) (Takes.of_laid hk hord tyM (by rw [KY.msgType]; rfl)) KY.objLocals rfl hfr hwd
  rw [plainBareV_eq K.toThrowableT (T.heap.size + 2) u0 sen (.ref (T.heap.size + 1)) T.cur rfl rfl] at st
  obtain ⟨-, -, w3, w4, -, -, -⟩ := withThrown_facts e.platform T G text P1.m.cls kX
  have X3 := ((X.pushed (bytesOf G.cB (stringToUtf16 text))).pushed (stringAt G.cS G.kS G.fv G.fc (stringToUtf16 text) T.heap.size)).pushed (freshCell P1.m.cls kX)
  rw [← withString_eq] at X3
  have X4 := X3.noted hW
  have ha : (T.heap.size + 2) < ((withThrown T G text P1.m.cls kX).setVm vm').heap.size := by show _ < (withThrown T G text P1.m.cls kX).heap.size; rw [w3]; omega
  have hcell : ((withThrown T G text P1.m.cls kX).setVm vm').heap[(T.heap.size + 2)]? = some (freshCell P1.m.cls kX) := w4
  have X5 := ((((X4.stored hcell K.fCause.slot (.ref (T.heap.size + 2))).storedAgain ha K.fStack.slot u0.v).storedAgain ha K.fSupp.slot sen.v).storedAgain ha K.fStack.slot u0.v).storedAgain ha K.fMsg.slot (.ref (T.heap.size + 1))
  have b1 : (bytesOf G.cB (stringToUtf16 text)).slots.size = (stringBytes (stringToUtf16 text)).size := by
    rw [(Cell.writeAll_facts _ _).2.2]; simp [bytes0]
  have b2 : (stringAt G.cS G.kS G.fv G.fc (stringToUtf16 text) T.heap.size).slots.size = 4 := by simp [string0, Cell.setSlot, hn4]
  have b3 : (freshCell P1.m.cls kX).slots.size = 6 := by simp [hn6]
  have X6 := stand_widen X5 (k := cells + 3) (n := slots + 1010) (by omega) (by omega)
  have hlow : ∀ q, q < T.heap.size → ((withThrown T G text P1.m.cls kX)).heap[q]? = T.heap[q]? := by
    intro q hq
    have z1 := heap_pushCell_below T (bytesOf G.cB (stringToUtf16 text)) hq
    have z2 := heap_pushCell_below (T.pushCell (bytesOf G.cB (stringToUtf16 text))) (stringAt G.cS G.kS G.fv G.fc (stringToUtf16 text) T.heap.size) (i := q) (by simp; omega)
    have z3 := heap_pushCell_below (withString T G.cB G.cS G.kS G.fv G.fc (stringToUtf16 text)) (freshCell P1.m.cls kX) (i := q) (by rw [withString_eq]; simp; omega)
    refine z3.trans ?_
    rw [withString_eq]
    exact z2.trans z1
  refine ⟨_, _, X6, fun q hq => ?_, ?_, fun q hq => ?_, ?_, fun t ht => st t ?_⟩
  · simp only [List.append_assoc, List.cons_append, List.nil_append] at hq
    rcases List.mem_append.mp hq with h1 | h1
    · exact Or.inl h1
    · refine Or.inr ?_
      simp only [List.mem_cons, List.not_mem_nil, or_false] at h1
      have : q.base = T.heap.size + 2 := by rcases h1 with h | h | h | h | h <;> rw [h]
      rw [this]
      exact Nat.le_add_right _ 2
  · have z := ha
    have z2 : ∀ (u : State) (b : Nat) (y : Cell), (u.setCell b y).heap.size = u.heap.size := fun u b y => by simp [State.setCell]
    rw [z2]
    exact Nat.le_of_lt (Nat.lt_of_le_of_lt (Nat.le_add_right _ 2) z)
  · exact (heapAt_setCell_ne _ (show T.heap.size + 2 ≠ q by omega)).trans (hlow q hq)
  · refine ⟨_, heapAt_setCell_self (s := (withThrown T G text P1.m.cls kX).setVm vm') _ ha, rfl, ?_⟩
    show vm'.findClass cls = _
    rw [hW.alike.findClass]
    exact hfound
  · obtain ⟨g₁, hfrM⟩ := X6.frames_eq
    rw [X.tail]
    rw [State.pushFrame, State.frames_setTop _ hfrM, State.setTop_of_frames _ hfrM, State.setFrames_setFrames] at ht
    exact ht
end VMT

/-! ROWS: a cast that fails, a row of a negative length -/
section VMR
variable {p : Program} {l : Launch} {e : Env} {R : Room} {s : State} {m : MethodId} {args : Array Value} {below : List Frame} {meth : Method} {c : Code} {H : Heap} {locs : List Loc} {cells slots : Nat} {Q : State → Prop}
variable {cc : ByteArray} {nL pc : Nat} {ls : Array Slot} {rest st0 : List Value} {D : va_G} {dA : Nat → ClassId} {ad : Nat → Nat} {fv : Nat → Value} {a : CS} {A : Nat → Prop} {own : String}
theorem CW.more {H1 : Heap} {locs1 : List Loc} (hw : CW D dA ad fv A a s H locs) (hs : H.size ≤ H1.size) (hk : ∀ q, q < H.size → H1[q]? = H[q]?) (hl : ∀ q ∈ locs1, q ∈ locs ∨ H.size ≤ q.base) : CW D dA ad fv A a s H1 locs1 := by
  obtain ⟨dyn, ⟨hP, hD, hS, hA, hK⟩, hd, hon, had, hN⟩ := hw
  refine ⟨dyn, ⟨hP.kept (fun k q hq => hk q.1 ((hP k q hq).lt)), hD, ⟨Nat.le_trans hS.1 hs, fun q h1 h2 => (hk q (Nat.lt_of_lt_of_le h1 hS.1)).trans (hS.2.1 q h1 h2), fun q hq => ?_⟩, hA, hK⟩, hd, hon, had, hN⟩
  rcases hl q hq with h | h
  · exact hS.2.2 q h
  · exact hA _ (Nat.le_trans hS.1 h)
theorem CW.thr (hw : CW D dA ad fv A a s H locs) {T : State} (hT : T.heap = H) : ∀ (cf : ClassId) (k : Class) (i : Nat) (f : Field) (aa : Nat), s.fieldFound? "java/lang/Throwable" "UNASSIGNED_STACK" "[Ljava/lang/StackTraceElement;" = some (cf, k, i, f) → k.statics = some aa → T.heap[aa]? = s.heap[aa]? := by
  intro cf k i f aa h1 h2
  obtain ⟨c, k2, i2, f2, a2, cell, v, z1, z2, z3, z4, z5, z6, z7, z8, z9, z10, z11, z12, z13⟩ := hw.kw.2.2.2.2.1
  cases h1.symm.trans z2
  cases h2.symm.trans z5
  rw [hT]
  exact hw.st.2.1 aa (Array.getElem?_eq_some_iff.mp z6).1 z13
/-- the machine makes an exception -/
theorem c_vmT (hfl : l.flags = flags0) (S : CallFix p m c cc nL s args lw_all own) (hw : CW D dA ad fv A a s H locs) {cls : String} (hcls : cls = "java/lang/ClassCastException" ∨ cls = "java/lang/NegativeArraySizeException") {g : JFrame} (hsz : ls.size = nL)
    (hnote : ∀ T : State, T.heap = H → Stand p l e R s m args below meth c T locs cells slots → ∃ (vm' : Vm) (text : String), txOk text ∧ Stand p l e R s m args below meth c (T.setVm vm') locs cells slots ∧ ∀ t, Steps p.tables e below (((T.setVm vm').setTop (F0 m pc ls rest)).pushFrame (.throwNew cls (some text) none)) t → Steps p.tables e below (T.setTop g) t)
    (hR1 : 6 < R.frames) (hR2 : (rest.map fun v => v.category).sum + 10240 ≤ R.locals) (hR3 : cells + 3 ≤ R.cells) (hR4 : slots + 1010 ≤ R.slots)
    (kx : ∀ (H1 : Heap) (locs1 : List Loc), CW D dA ad fv A a s H1 locs1 → WX p l e R s m args below meth c H1 locs1 (cells + 3) (slots + 1010) Q (exV cls) (F0 m pc ls rest)) : W p l e R s m args below meth c H locs cells slots Q g := by
  intro T hT X
  obtain ⟨vm', text, htx, X1, st1⟩ := hnote T hT X
  have harm : ∀ w ∈ Bundle.messageArmAtoms cls ["java/lang/RuntimeException", "java/lang/Exception"], w.before args s = true := by
    rcases hcls with h | h
    · rw [h]; exact arm_atomsC S.2.2.2.2 hw.nw hw.kw
    · rw [h]; exact arm_atomsN S.2.2.2.2 hw.nw hw.kw
  obtain ⟨U, locs1, XU, hl, hs, hk, hx, st2⟩ := vm_throwing S.1 hfl hcls harm htx X1 (hw.thr (T := T.setVm vm') hT) (g := F0 m pc ls rest) rfl (by rw [S.2.2.1]; exact hsz) hR1 (by show 2 * 0 + _ + 10240 ≤ _; show 2 * 0 + (rest.map fun v => v.category).sum + 10240 ≤ _; omega) hR3 hR4
  have e1 : (T.setVm vm').heap = H := hT
  rw [e1] at hl hs hk hx st2
  obtain ⟨t, a1, b1⟩ := kx U.heap locs1 (hw.more hs hk hl) _ U rfl hx XU
  exact ⟨t, st1 t (st2 t a1), b1⟩
/-- a row of a negative length -/
theorem c_negNew (hfl : l.flags = flags0) (S : CallFix p m c cc nL s args lw_all own) (hw : CW D dA ad fv A a s H locs) (hsz : ls.size = nL) {v : Int32} (hv : v < 0) {aty : ArrayType} (hdg : decode cc pc = .ok (.newarray aty, 2))
    (hR1 : 6 < R.frames) (hR2 : (rest.map fun v => v.category).sum + 10240 ≤ R.locals) (hR3 : cells + 3 ≤ R.cells) (hR4 : slots + 1010 ≤ R.slots)
    (kx : ∀ (H1 : Heap) (locs1 : List Loc), CW D dA ad fv A a s H1 locs1 → WX p l e R s m args below meth c H1 locs1 (cells + 3) (slots + 1010) Q (exV "java/lang/NegativeArraySizeException") (F0 m pc ls rest)) : W p l e R s m args below meth c H locs cells slots Q (F0 m pc ls (.int v :: rest)) := by
  refine c_vmT hfl S hw (Or.inr rfl) hsz (fun T hT X => ?_) hR1 hR2 hR3 hR4 kx
  refine ⟨T.vm, toString v, ⟨Nat.le_trans (negative_text_bytes v) (by decide), negative_text_modelled hv⟩, X, fun t ht => ?_⟩
  exact X.newarrayNegative S.1 (g := F0 m pc ls (.int v :: rest)) rfl hv rfl (by rw [S.2.1]; exact hdg) t ht
/-- a cast that fails -/
theorem c_castNo (hfl : l.flags = flags0) (S : CallFix p m c cc nL s args lw_all own) (hw : CW D dA ad fv A a s H locs) (hsz : ls.size = nL) {index n : Nat} {N : String} (h : objK a n) (hlink : Cond.classLink own index N ∈ lw_all) (hno : (kcls (a.2.2.1 n).1, N) ∈ cNot) (hn1 : kcls (a.2.2.1 n).1 ∈ cNames) (hn2 : N ∈ cNames) (hdg : decode cc pc = .ok (.checkcast index, 3))
    (hR1 : 6 < R.frames) (hR2 : ((.ref (ad n) :: rest : List Value).map fun v => v.category).sum + 10240 ≤ R.locals) (hR3 : cells + 3 ≤ R.cells) (hR4 : slots + 1010 ≤ R.slots)
    (kx : ∀ (H1 : Heap) (locs1 : List Loc), CW D dA ad fv A a s H1 locs1 → WX p l e R s m args below meth c H1 locs1 (cells + 3) (slots + 1010) Q (exV "java/lang/ClassCastException") (F0 m pc ls (.ref (ad n) :: rest))) : W p l e R s m args below meth c H locs cells slots Q (F0 m pc ls (.ref (ad n) :: rest)) := by
  refine c_vmT hfl S hw (Or.inl rfl) hsz (fun T hT X => ?_) hR1 hR2 hR3 hR4 kx
  obtain ⟨hx, hb, -, hown, hts⟩ := S
  obtain ⟨cell, h1, h2, h3⟩ := h.recv hw
  obtain ⟨c0, t0, f1, f2, f3⟩ := hw.nw.2.1 _ hno
  cases h3.symm.trans f1
  have hpl : e.platform.magicAccessors = ({} : Platform).magicAccessors := by rw [X.admits.platform]
  obtain ⟨c', hc', hcl⟩ := Cond.classLink_spec hown (hts _ hlink) e.platform hpl
  cases f2.symm.trans hc'
  obtain ⟨dk, _, _, kt, hd, _, _, _, _, hkt, _, hopen⟩ := hcl.here
  have hcl0 := X.warmed.classLinks hcl
  have hW : s.WarmedH (T.vm.noted m.cls index (.cls t0)) := X.warmed.noted hd hopen (State.rightAt_cls hcl)
  obtain ⟨k1, hk1, l1, d1, n1⟩ := find_facts (vm := T.vm.noted m.cls index (.cls t0)) (nm := kcls (a.2.2.1 n).1) (c := cell.cls) (by rw [hW.alike.findClass]; exact h3)
  obtain ⟨k2, hk2, l2, d2, n2⟩ := find_facts (vm := T.vm.noted m.cls index (.cls t0)) (nm := N) (c := t0) (by rw [hW.alike.findClass]; exact f2)
  refine ⟨T.vm.noted m.cls index (.cls t0), checkcast.message (T.vm.noted m.cls index (.cls t0)) k1 k2, ?_, X.noted hW, fun t ht => ?_⟩
  · exact cast_text (s := T.setVm (T.vm.noted m.cls index (.cls t0))) (mods_moved (s := s) (U := T.setVm (T.vm.noted m.cls index (.cls t0))) hW.alike hw.kw.2.2.2.2.2.2.2) ⟨l1, d1, by rw [n1]; exact hn1⟩ ⟨l2, d2, by rw [n2]; exact hn2⟩
  · jvm_step X.here [hx, hb, hdg, checkcast.wp_cold (e := e) (s := T) (f := F0 m pc ls (.ref (ad n) :: rest)) X.here.top rfl (resolveClass_links e.toSetting hcl0) hcl0.ready,
      checkcast.wp_ready (e := e) (s := T.setVm (T.vm.noted m.cls index (.cls t0))) (f := F0 m pc ls (.ref (ad n) :: rest)) X.here.top hcl0.ready rfl]
    refine ⟨cell, by rw [hT]; exact h1, VmData.noStatics_of h2, k1, hk1, k2, hk2, ?_⟩
    rw [if_neg (by rw [hW.alike.assignable, f3]; decide)]
    exact ht
/-- what a slot may hold, and what it may be taken for -/
def heldK (a : CS) (n : Nat) : Prop := 1000 ≤ n ∧ ((a.2.2.1 n).1 = 104 ∨ (a.2.2.1 n).1 = 115 ∨ (107 ≤ (a.2.2.1 n).1 ∧ (a.2.2.1 n).1 ≤ 112))
def cstT (k t : Nat) : Bool := k == 100 + t || (t == 7 && Nat.ble 107 k && Nat.ble k 112) || (t == 8 && k == 110) || (t == 9 && k == 111)
theorem heldK.obj {n : Nat} (h : heldK a n) : objK a n := ⟨h.1, by have := h.2; omega⟩
abbrev kKinds : List Nat := [104, 115, 107, 108, 109, 110, 111, 112]
theorem heldK.mem {n : Nat} (h : heldK a n) : (a.2.2.1 n).1 ∈ kKinds := by
  rcases (show (a.2.2.1 n).1 = 104 ∨ (a.2.2.1 n).1 = 115 ∨ (a.2.2.1 n).1 = 107 ∨ (a.2.2.1 n).1 = 108 ∨ (a.2.2.1 n).1 = 109 ∨ (a.2.2.1 n).1 = 110 ∨ (a.2.2.1 n).1 = 111 ∨ (a.2.2.1 n).1 = 112 by have := h.2; omega) with e | e | e | e | e | e | e | e <;> (rw [e]; decide)
theorem kcls_in : ∀ k ∈ kKinds, kcls k ∈ cNames := by decide +kernel
theorem cst_no : ∀ k ∈ kKinds, ∀ t ∈ ([4, 7, 8, 9, 10, 11, 12] : List Nat), cstT k t = false → (kcls k, kcls (100 + t)) ∈ cNot := by decide +kernel
theorem cst_yes : ∀ k ∈ kKinds, ∀ t ∈ ([4, 7, 8, 9, 10, 11, 12] : List Nat), cstT k t = true → kcls k = kcls (100 + t) ∨ (k, t) ∈ ([(108, 7), (109, 7), (110, 7), (111, 7), (112, 7), (110, 8), (111, 9)] : List (Nat × Nat)) := by decide +kernel
theorem cst_cast : ∀ q ∈ ([(108, 7), (109, 7), (110, 7), (111, 7), (112, 7), (110, 8), (111, 9)] : List (Nat × Nat)), Cond.castable (kcls q.1) (kcls (100 + q.2)) ∈ cNest := by
  intro q hq
  simp only [List.mem_cons, List.not_mem_nil, or_false] at hq
  rcases hq with e | e | e | e | e | e | e
  · subst e; exact List.mem_of_getElem? (i := 60) rfl
  · subst e; exact List.mem_of_getElem? (i := 63) rfl
  · subst e; exact List.mem_of_getElem? (i := 47) rfl
  · subst e; exact List.mem_of_getElem? (i := 51) rfl
  · subst e; exact List.mem_of_getElem? (i := 54) rfl
  · subst e; exact List.mem_of_getElem? (i := 46) rfl
  · subst e; exact List.mem_of_getElem? (i := 50) rfl
/-- a cast, that may fail -/
theorem c_castT (hfl : l.flags = flags0) (S : CallFix p m c cc nL s args lw_all own) (hw : CW D dA ad fv A a s H locs) (hsz : ls.size = nL) {index n t : Nat} (ht : t ∈ ([4, 7, 8, 9, 10, 11, 12] : List Nat)) (h : heldK a n) (hlink : Cond.classLink own index (kcls (100 + t)) ∈ lw_all) (hdg : decode cc pc = .ok (.checkcast index, 3))
    (hR1 : 6 < R.frames) (hR2 : ((.ref (ad n) :: rest : List Value).map fun v => v.category).sum + 10240 ≤ R.locals) (hR3 : cells + 3 ≤ R.cells) (hR4 : slots + 1010 ≤ R.slots)
    (kx : cstT (a.2.2.1 n).1 t = false → ∀ (H1 : Heap) (locs1 : List Loc), CW D dA ad fv A a s H1 locs1 → WX p l e R s m args below meth c H1 locs1 (cells + 3) (slots + 1010) Q (exV "java/lang/ClassCastException") (F0 m pc ls (.ref (ad n) :: rest)))
    (kk : cstT (a.2.2.1 n).1 t = true → W p l e R s m args below meth c H locs cells slots Q (F0 m (pc + 3) ls (.ref (ad n) :: rest))) : W p l e R s m args below meth c H locs cells slots Q (F0 m pc ls (.ref (ad n) :: rest)) := by
  have hT : kcls (100 + t) ∈ cNames := (by decide +kernel : ∀ t ∈ ([4, 7, 8, 9, 10, 11, 12] : List Nat), kcls (100 + t) ∈ cNames) t ht
  by_cases hc : cstT (a.2.2.1 n).1 t = true
  · refine c_cast S hw h.obj hlink ?_ hdg (kk hc)
    rcases cst_yes _ h.mem t ht hc with e | e
    · exact Or.inl e
    · exact Or.inr (cst_cast _ e)
  · have hc : cstT (a.2.2.1 n).1 t = false := by simpa using hc
    exact c_castNo hfl S hw hsz h.obj hlink (cst_no _ h.mem t ht hc) (kcls_in _ h.mem) hT hdg hR1 hR2 hR3 hR4 (kx hc)
end VMR

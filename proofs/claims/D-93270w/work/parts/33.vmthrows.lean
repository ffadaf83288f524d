/-! EXCEPTIONS THAT THE MACHINE MAKES -/
theorem arm_atomsC {args : Array Value} {s : State} {ad : Nat → Nat} {A : Nat → Prop} (hts : ∀ w ∈ lw_all, w.before args s = true) (hn : NW s) (hk : KW ad A s) : ∀ w ∈ Bundle.messageArmAtoms "java/lang/ClassCastException" ["java/lang/RuntimeException", "java/lang/Exception"], w.before args s = true := by
  intro w hw
  simp only [Bundle.messageArmAtoms, Bundle.throwableAtoms, Bundle.throwableSAtoms, Bundle.chainSAtoms, Bundle.passSAtoms, Bundle.stringAtoms, List.cons_append, List.nil_append, List.append_assoc, List.mem_cons, List.not_mem_nil, or_false] at hw
  rcases hw with e | e | e | e | e | e | e | e | e | e | e | e | e | e | e | e | e | e | e | e | e | e | e | e | e | e | e | e | e | e | e | e | e | e | e | e | e | e | e | e | e | e | e | e | e | e | e | e | e | e | e | e | e | e | e | e | e | e | e | e | e | e | e | e
  · subst e; exact hts _ q106
  · subst e; exact hts _ q253
  · subst e; exact hts _ q262
  · subst e; exact hts _ q266
  · subst e; exact hts _ q269
  · subst e; exact hts _ q271
  · subst e; exact hts _ q254
  · subst e; exact hts _ q255
  · subst e; exact hts _ q136
  · subst e; exact hts _ q137
  · subst e; exact hts _ q256
  · subst e; exact hts _ q261
  · subst e; exact hts _ q267
  · subst e; exact hts _ q285
  · subst e; exact hts _ q243
  · subst e; exact hts _ q286
  · subst e; exact hts _ q245
  · subst e; exact hts _ q287
  · subst e; exact hts _ q247
  · subst e; exact hts _ q257
  · subst e; exact hk.2.2.2.2.1.lays
  · subst e; exact hts _ q259
  · subst e; exact hk.2.2.2.2.2.1.lays
  · subst e; exact hts _ q249
  · subst e; exact hts _ q864
  · subst e; exact hts _ q865
  · subst e; exact hts _ q284
  · subst e; exact hts _ q249
  · subst e; exact hts _ q855
  · subst e; exact hts _ q856
  · subst e; exact hts _ q857
  · subst e; exact hts _ q858
  · subst e; exact va_Nw.use rfl hk.2.2.2.2.2.2.1.1
  · subst e; exact hts _ q858
  · subst e; exact hts _ q859
  · subst e; exact hts _ q860
  · subst e; exact hts _ q861
  · subst e; exact va_Nw.use rfl hk.2.2.2.2.2.2.1.2.1
  · subst e; exact hts _ q861
  · subst e; exact hts _ q862
  · subst e; exact hts _ q863
  · subst e; exact hts _ q864
  · subst e; exact va_Nw.use rfl hk.2.2.2.2.2.2.1.2.2
  · subst e; exact hts _ q121
  · subst e; exact hts _ q875
  · subst e; exact hts _ q298
  · subst e; exact hts _ q876
  · subst e; exact hts _ q878
  · subst e; exact hts _ q877
  · subst e; exact hts _ q879
  · subst e; exact hts _ q120
  · subst e; exact hts _ q854
  · subst e; exact va_Nw.use rfl (hn.1 _ (List.mem_of_getElem? (i := 0) rfl))
  · subst e; exact hts _ q874
  · subst e; exact hts _ q264
  · subst e; exact hts _ q868
  · subst e; exact hts _ q869
  · subst e; exact hts _ q871
  · subst e; exact hts _ q867
  · subst e; exact hk.2.2.2.2.1.ref
  · subst e; exact hk.2.2.2.2.2.1.ref
  · subst e; exact hts _ q252
  · subst e; exact hts _ q251
  · subst e; exact hts _ q866
theorem arm_atomsN {args : Array Value} {s : State} {ad : Nat → Nat} {A : Nat → Prop} (hts : ∀ w ∈ lw_all, w.before args s = true) (hn : NW s) (hk : KW ad A s) : ∀ w ∈ Bundle.messageArmAtoms "java/lang/NegativeArraySizeException" ["java/lang/RuntimeException", "java/lang/Exception"], w.before args s = true := by
  intro w hw
  simp only [Bundle.messageArmAtoms, Bundle.throwableAtoms, Bundle.throwableSAtoms, Bundle.chainSAtoms, Bundle.passSAtoms, Bundle.stringAtoms, List.cons_append, List.nil_append, List.append_assoc, List.mem_cons, List.not_mem_nil, or_false] at hw
  rcases hw with e | e | e | e | e | e | e | e | e | e | e | e | e | e | e | e | e | e | e | e | e | e | e | e | e | e | e | e | e | e | e | e | e | e | e | e | e | e | e | e | e | e | e | e | e | e | e | e | e | e | e | e | e | e | e | e | e | e | e | e | e | e | e | e
  · subst e; exact hts _ q106
  · subst e; exact hts _ q253
  · subst e; exact hts _ q262
  · subst e; exact hts _ q266
  · subst e; exact hts _ q269
  · subst e; exact hts _ q271
  · subst e; exact hts _ q254
  · subst e; exact hts _ q255
  · subst e; exact hts _ q136
  · subst e; exact hts _ q137
  · subst e; exact hts _ q256
  · subst e; exact hts _ q261
  · subst e; exact hts _ q267
  · subst e; exact hts _ q285
  · subst e; exact hts _ q243
  · subst e; exact hts _ q286
  · subst e; exact hts _ q245
  · subst e; exact hts _ q287
  · subst e; exact hts _ q247
  · subst e; exact hts _ q257
  · subst e; exact hk.2.2.2.2.1.lays
  · subst e; exact hts _ q259
  · subst e; exact hk.2.2.2.2.2.1.lays
  · subst e; exact hts _ q249
  · subst e; exact hts _ q864
  · subst e; exact hts _ q865
  · subst e; exact hts _ q284
  · subst e; exact hts _ q249
  · subst e; exact hts _ q1102
  · subst e; exact hts _ q1103
  · subst e; exact hts _ q1104
  · subst e; exact hts _ q858
  · subst e; exact va_Nw.use rfl hk.2.2.2.2.2.2.1.1
  · subst e; exact hts _ q858
  · subst e; exact hts _ q859
  · subst e; exact hts _ q860
  · subst e; exact hts _ q861
  · subst e; exact va_Nw.use rfl hk.2.2.2.2.2.2.1.2.1
  · subst e; exact hts _ q861
  · subst e; exact hts _ q862
  · subst e; exact hts _ q863
  · subst e; exact hts _ q864
  · subst e; exact va_Nw.use rfl hk.2.2.2.2.2.2.1.2.2
  · subst e; exact hts _ q121
  · subst e; exact hts _ q875
  · subst e; exact hts _ q298
  · subst e; exact hts _ q876
  · subst e; exact hts _ q878
  · subst e; exact hts _ q877
  · subst e; exact hts _ q879
  · subst e; exact hts _ q128
  · subst e; exact hts _ q1101
  · subst e; exact va_Nw.use rfl (hn.1 _ (List.mem_of_getElem? (i := 1) rfl))
  · subst e; exact hts _ q1113
  · subst e; exact hts _ q265
  · subst e; exact hts _ q1107
  · subst e; exact hts _ q1108
  · subst e; exact hts _ q1110
  · subst e; exact hts _ q1106
  · subst e; exact hk.2.2.2.2.1.ref
  · subst e; exact hk.2.2.2.2.2.1.ref
  · subst e; exact hts _ q252
  · subst e; exact hts _ q251
  · subst e; exact hts _ q1105
/-- where a class of the bootstrap loader lives -/
theorem home_two {s : State} (hm : modulesRight_1 s = true) {k : Class} (hl : k.loader = none) (hp : packageOf k.name = "") : s.vm.home k = "module java.base of loader 'bootstrap'" ∨ s.vm.home k = "unnamed module of loader 'bootstrap'" := by
  unfold Vm.home
  rw [hl]
  cases hmod : s.vm.moduleOf k with
  | none =>
    refine Or.inr ?_
    show "unnamed module" ++ " of loader " ++ "'bootstrap'" = _
    decide +kernel
  | some md =>
    refine Or.inl ?_
    have hname : md.name = "java.base" := by
      unfold Vm.moduleOf at hmod
      by_cases hpr : k.ofPrimitives = true
      · rw [if_pos hpr] at hmod
        simpa using List.find?_some hmod
      · rw [if_neg hpr] at hmod
        have h1 := List.find?_some hmod
        have h2 := List.mem_of_find?_eq_some hmod
        have h3 := List.all_eq_true.mp hm md h2
        rw [hl, hp] at h1
        simp only [Bool.and_eq_true, beq_iff_eq] at h1
        simp only [Bool.or_eq_true, beq_iff_eq, h1.1, castPackages_1, List.any_cons, h1.2] at h3
        simpa using h3
    show "module " ++ md.name ++ " of loader " ++ "'bootstrap'" = _
    rw [hname]
    decide +kernel
abbrev cHome : List String := ["module java.base of loader 'bootstrap'", "unnamed module of loader 'bootstrap'"]
abbrev cNames : List String := ["KeptLeaves$Leaf", "KeptLeaves$OldLeaf", "KeptLeaves$CopyLeaf", "KeptLeaves$TornLeaf", "KeptLeaves$FadedLeaf", "KeptLeaves$ListLeaf", "KeptLeaves$Sheet", "KeptLeaves$Figure"]
def cmA (a b h : String) : String := "class " ++ a ++ " cannot be cast to class " ++ b ++ " (" ++ (a ++ " and " ++ b ++ " are in " ++ h) ++ ")"
def cmB (a b h g : String) : String := "class " ++ a ++ " cannot be cast to class " ++ b ++ " (" ++ (a ++ " is in " ++ h ++ "; " ++ b ++ " is in " ++ g) ++ ")"
abbrev txOk (t : String) : Prop := (stringBytes (stringToUtf16 t)).size ≤ 1000 ∧ (t == notModelled) = false
theorem tx_ok {t u : String} (e : t = "class " ++ u) (h1 : u.toList.length ≤ 244) : txOk t := by
  subst e
  have l0 : ("class " : String).toList.length = 6 := by decide
  have l1 : ("class " ++ u).toList.length ≤ 250 := by rw [String.toList_append, List.length_append]; omega
  have b1 := stringBytes_size_le (stringToUtf16 ("class " ++ u))
  have b2 := utf16_size_le ("class " ++ u)
  refine ⟨by omega, ?_⟩
  rw [beq_eq_false_iff_ne]
  intro h
  have h2 := congrArg (fun z => z.toList.head?) h
  simp only [String.toList_append] at h2
  have h3 : ("class " : String).toList = ['c', 'l', 'a', 's', 's', ' '] := by decide
  rw [h3] at h2
  have h4 : notModelled.toList.head? ≠ some 'c' := by decide +kernel
  exact h4 (by rw [← h2]; rfl)
theorem cN_len : ∀ a ∈ cNames, a.toList.length ≤ 20 := by decide +kernel
theorem cH_len : ∀ a ∈ cHome, a.toList.length ≤ 40 := by decide +kernel
theorem cmA_ok : ∀ a ∈ cNames, ∀ b ∈ cNames, ∀ h ∈ cHome, txOk (cmA a b h) := by
  intro a ha b hb h hh
  have q1 := cN_len a ha
  have q2 := cN_len b hb
  have q3 := cH_len h hh
  have k1 : (" cannot be cast to class " : String).toList.length = 25 := by decide
  have k2 : (" (" : String).toList.length = 2 := by decide
  have k3 : (" and " : String).toList.length = 5 := by decide
  have k4 : (" are in " : String).toList.length = 8 := by decide
  have k5 : (")" : String).toList.length = 1 := by decide
  refine tx_ok (u := a ++ (" cannot be cast to class " ++ (b ++ (" (" ++ ((a ++ " and " ++ b ++ " are in " ++ h) ++ ")"))))) ?_ ?_
  · unfold cmA
    simp only [String.append_assoc]
  · simp only [String.toList_append, List.length_append]
    omega
theorem cmB_ok : ∀ a ∈ cNames, ∀ b ∈ cNames, ∀ h ∈ cHome, ∀ g ∈ cHome, txOk (cmB a b h g) := by
  intro a ha b hb h hh g hg
  have q1 := cN_len a ha
  have q2 := cN_len b hb
  have q3 := cH_len h hh
  have q4 := cH_len g hg
  have k1 : (" cannot be cast to class " : String).toList.length = 25 := by decide
  have k2 : (" (" : String).toList.length = 2 := by decide
  have k3 : (" is in " : String).toList.length = 7 := by decide
  have k4 : ("; " : String).toList.length = 2 := by decide
  have k5 : (")" : String).toList.length = 1 := by decide
  refine tx_ok (u := a ++ (" cannot be cast to class " ++ (b ++ (" (" ++ ((a ++ " is in " ++ h ++ "; " ++ b ++ " is in " ++ g) ++ ")"))))) ?_ ?_
  · unfold cmB
    simp only [String.append_assoc]
  · simp only [String.toList_append, List.length_append]
    omega
theorem cName_ok : ∀ a ∈ cNames, dotted a = a ∧ packageOf a = "" := by decide +kernel
theorem cast_text {s : State} (hm : modulesRight_1 s = true) {ks kt : Class} (h1 : ks.loader = none ∧ ks.hidden = none ∧ ks.name ∈ cNames) (h2 : kt.loader = none ∧ kt.hidden = none ∧ kt.name ∈ cNames) : txOk (checkcast.message s.vm ks kt) := by
  have e1 : ks.shown = ks.name := by unfold Class.shown; rw [h1.2.1]; exact (cName_ok _ h1.2.2).1
  have e2 : kt.shown = kt.name := by unfold Class.shown; rw [h2.2.1]; exact (cName_ok _ h2.2.2).1
  have g1 : s.vm.home ks ∈ cHome := by
    rcases home_two hm h1.1 (cName_ok _ h1.2.2).2 with e | e <;> (rw [e]; simp)
  have g2 : s.vm.home kt ∈ cHome := by
    rcases home_two hm h2.1 (cName_ok _ h2.2.2).2 with e | e <;> (rw [e]; simp)
  unfold checkcast.message Vm.homes
  rw [e1, e2]
  by_cases hs : s.vm.sameModule ks kt = true
  · rw [if_pos hs]
    exact cmA_ok _ h1.2.2 _ h2.2.2 _ g1
  · rw [if_neg hs]
    exact cmB_ok _ h1.2.2 _ h2.2.2 _ g1 _ g2
theorem find_facts {vm : Vm} {nm : String} {c : ClassId} (h : vm.findClass nm = some c) : ∃ k : Class, vm.classes[c]? = some k ∧ k.loader = none ∧ k.hidden = none ∧ k.name = nm := by
  obtain ⟨hlt, h1, -⟩ := Array.findIdx?_eq_some_iff_getElem.mp h
  refine ⟨vm.classes[c], Array.getElem?_eq_getElem hlt, ?_⟩
  simp only [Bool.and_eq_true, beq_iff_eq] at h1
  obtain ⟨⟨⟨q1, q2⟩, -⟩, q4⟩ := h1
  exact ⟨by simpa using q4, by simpa using q2, q1⟩

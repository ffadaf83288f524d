/-! ROWS OF THE COMPONENT's WORLD: what is made; leaves' own methods -/
section CR4
variable {p : Program} {l : Launch} {e : Env} {R : Room} {s : State} {m : MethodId} {args : Array Value} {below : List Frame} {meth : Method} {c : Code} {H : Heap} {locs : List Loc} {cells slots : Nat} {Q : State → Prop}
variable {cc : ByteArray} {nL pc : Nat} {ls : Array Slot} {rest st0 : List Value} {D : va_G} {dA : Nat → ClassId} {ad : Nat → Nat} {fv : Nat → Value} {a : CS} {A : Nat → Prop} {own : String}
theorem wN_T {a : CS} {n g : Nat} {t : Nat × Nat} : (wN a n t).2.2.1 g = if g = n then t else a.2.2.1 g := rfl
/-- a new cell joins the world -/
theorem CW.grow {q : Nat} {H1 : Heap} {t : Nat × Nat} {x : va_E} (hw : CW D dA ad fv A a s H locs) (hq : H.size ≤ q) (ht : t.1 ≠ 0) (hx : cC dA ad fv (wN a (q + 1000) t) (q + 1000) = x) :
    (a.2.2.1 (q + 1000)).1 = 0 ∧ ∀ (P : Prop), (∀ dyn : List Nat, va_P D vwCl (fw (sL ++ dyn) ad (cC dA ad fv a)) H → va_D A (fw (sL ++ dyn) ad (cC dA ad fv a)) → va_S A s.heap H locs → (∀ q, s.heap.size ≤ q → A q) → va_K D vwCl (tyA dA) s →
      (va_P D vwCl (fw (sL ++ dyn) ad (cC dA ad fv a) ++ [(q, x)]) H1 → va_D A (fw (sL ++ dyn) ad (cC dA ad fv a) ++ [(q, x)]) → va_S A s.heap H1 locs → CW D dA ad fv A (wN a (q + 1000) t) s H1 locs) → P) → P := by
  obtain ⟨dyn, ⟨hP, hD, hS, hA, hK⟩, hd, hon, had, hN⟩ := hw
  have fresh : q + 1000 ∉ sL ++ dyn := by
    intro hm
    obtain ⟨pos, hpos⟩ := List.getElem?_of_mem hm
    have h1 := (hP pos _ (fw_at hpos)).lt
    have h2 : ad (q + 1000) = q := had q
    have h3 : ad (q + 1000) < H.size := h1
    omega
  have h0 : (a.2.2.1 (q + 1000)).1 = 0 := by
    by_cases hz : (a.2.2.1 (q + 1000)).1 = 0
    · exact hz
    · exact absurd (List.mem_append_right _ ((hd _).mpr ⟨by omega, hz⟩)) fresh
  refine ⟨h0, fun P k => k dyn hP hD hS hA hK (fun hP1 hD1 hS1 => ?_)⟩
  have heq : fw (sL ++ dyn) ad (cC dA ad fv a) ++ [(q, x)] = fw (sL ++ (dyn ++ [q + 1000])) ad (cC dA ad fv (wN a (q + 1000) t)) := by
    have e1 : fw (sL ++ (dyn ++ [q + 1000])) ad (cC dA ad fv (wN a (q + 1000) t)) = fw (sL ++ dyn) ad (cC dA ad fv (wN a (q + 1000) t)) ++ [(ad (q + 1000), cC dA ad fv (wN a (q + 1000) t) (q + 1000))] := by
      rw [← List.append_assoc]
      simp [fw]
    have e2 : fw (sL ++ dyn) ad (cC dA ad fv (wN a (q + 1000) t)) = fw (sL ++ dyn) ad (cC dA ad fv a) := by
      generalize hl : sL ++ dyn = L at fresh
      unfold fw
      apply List.map_congr_left
      intro g hg
      have hne : g ≠ q + 1000 := fun e => fresh (e ▸ hg)
      obtain ⟨h1, h2, h3, h4⟩ := wN_off (a := a) (n := q + 1000) (t := t) g hne
      simp only [cC, h1, h2, h3, h4]
    rw [e1, had, hx, e2]
  rw [heq] at hP1 hD1
  refine ⟨dyn ++ [q + 1000], ⟨hP1, hD1, hS1, hA, hK⟩, fun n => ?_, ?_, had, hN⟩
  · rw [wN_T]
    by_cases hn : n = q + 1000
    · subst hn
      simp [ht]
    · simp [hn, hd n]
  · have : (wN a (q + 1000) t).2.1 0 = a.2.1 0 := by simp [wN, va_up]
    rw [this]
    exact hon
theorem c_new (S : CallFix p m c cc nL s args lw_all own) (hw : CW D dA ad fv A a s H locs) {C : String} {T : u_T} {N ci index : Nat} (hin : ∀ w ∈ u_ws C T N, w ∈ lw_all) (ty : Nat → FieldType) (hty : ∀ k, k < N → parseFieldDescriptor (T k).2.2.1 = some (ty k)) (hcl : (Cond.classLink own index C) ∈ lw_all) (hinst : (Cond.instantiable C N) ∈ lw_all) (hini : (Cond.initialized C) ∈ lw_all) (hc : vwCl[ci]? = some (C, T, N)) {fs : List Value} (hfs : ∀ j, j < N → defaultValue (ty j) = vp_V fs j)
    (hcell : ∀ n, 1000 ≤ n → cC dA ad fv (wN a n (100 + ci, 0)) n = .inr (ci, fs)) (hcells : cells + 1 ≤ R.cells) (hslots : slots + N ≤ R.slots) (hdg : decode cc pc = .ok (.new index, 3))
    (kk : ∀ (n : Nat) (a1 : CS) (H1 : Heap), 1000 ≤ n → (a.2.2.1 n).1 = 0 → a1 = wN a n (100 + ci, 0) → CW D dA ad fv A a1 s H1 locs → W p l e R s m args below meth c H1 locs (cells + 1) (slots + N) Q (F0 m (pc + 3) ls (.ref (ad n) :: rest))) : W p l e R s m args below meth c H locs cells slots Q (F0 m pc ls rest) := by
  obtain ⟨hx, hb, -, hown, hts⟩ := S
  have had : ∀ q, ad (q + 1000) = q := by obtain ⟨dyn, -, -, -, had, -⟩ := hw; exact had
  obtain ⟨dyn, ⟨hP, hD, hS, hA, hK⟩, hd, hon, had', hN⟩ := id hw
  have hKn := hK.1 ci _ hc
  refine W.newcK hx hb hown (hts _ hcl) (hts _ hinst) (hts _ hini) rfl hdg hcells hslots hKn.2.1 rfl fun H1 kC hkC e1 z1 o1 => ?_
  obtain ⟨h0, kG⟩ := hw.grow (q := H.size) (H1 := H1) (t := (100 + ci, 0)) (Nat.le_refl _) (by show 100 + ci ≠ 0; omega) (hcell (H.size + 1000) (by omega))
  refine kG _ (fun dyn hP hD hS hA hK back => ?_)
  have hk : ∀ (k : Nat) (x : Nat × va_E), (fw (sL ++ dyn) ad (cC dA ad fv a))[k]? = some x → H1[x.1]? = H[x.1]? := fun k x hx => o1 x.1 ((hP k x hx).lt)
  have hw1 := back ((hP.kept hk).app (fun k x hx => by
      have hz : k < 1 := (List.getElem?_eq_some_iff.mp hx).1
      rw [show k = 0 by omega] at hx
      cases hx
      exact ⟨_, hc, (u_born ty hts hin hKn hkC e1 hty).to hfs⟩)) (hD.push hP rfl (hA _ hS.1)) ⟨Nat.le_trans hS.1 (by omega), fun x h1 h2 => (o1 x (Nat.lt_of_lt_of_le h1 hS.1)).trans (hS.2.1 x h1 h2), hS.2.2⟩
  have hres := kk (H.size + 1000) _ H1 (by omega) h0 rfl hw1
  rw [had] at hres
  exact hres
theorem cell_new {ci : Nat} {fs : List Value} (h : ∀ n, 1000 ≤ n → dCell dA ad (fun _ => 0) (fun _ => 0) (100 + ci, 0) (fun _ => 0) = .inr (ci, fs)) : ∀ n, 1000 ≤ n → cC dA ad fv (wN a n (100 + ci, 0)) n = .inr (ci, fs) := by
  intro n hn
  show cCell dA ad fv n ((wN a n (100 + ci, 0)).1 n) ((wN a n (100 + ci, 0)).2.1 n) ((wN a n (100 + ci, 0)).2.2.1 n) ((wN a n (100 + ci, 0)).2.2.2 n) = _
  rw [cCell_d hn]
  have e1 : (wN a n (100 + ci, 0)).1 n = fun _ => 0 := by simp [wN, va_up]
  have e2 : (wN a n (100 + ci, 0)).2.1 n = fun _ => 0 := by simp [wN, va_up]
  have e3 : (wN a n (100 + ci, 0)).2.2.1 n = (100 + ci, 0) := by simp [wN, va_up]
  have e4 : (wN a n (100 + ci, 0)).2.2.2 n = fun _ => 0 := by simp [wN, va_up]
  rw [e1, e2, e3, e4]
  exact h n hn
end CR4
section CR5
variable {p : Program} {l : Launch} {e : Env} {R : Room} {s : State} {m : MethodId} {args : Array Value} {below : List Frame} {meth : Method} {c : Code} {H : Heap} {locs : List Loc} {cells slots : Nat} {Q : State → Prop}
variable {cc : ByteArray} {nL pc : Nat} {ls : Array Slot} {rest st0 : List Value} {D : va_G} {dA : Nat → ClassId} {ad : Nat → Nat} {fv : Nat → Value} {a : CS} {A : Nat → Prop} {own : String}
theorem c_aret {K : Nat → CS → Prop} {x : Nat} {rt : FieldType} (S : CallFix p m c cc nL s args lw_all own) (hr : meth.sig.returnType = some rt) (hlk : meth.locks = false) (hw : CW D dA ad fv A a s H locs) (h : K x a) (hrt : ∃ n, rt = .object n) (hdg : decode cc pc = .ok (.areturn, 1)) : W p l e R s m args below meth c H locs cells slots (MQ below (cQr D dA ad fv A K) args s cells slots A) (F0 m pc ls [.ref (ad x)]) :=
  W.aret (v := .ref (ad x)) S.1 S.2.1 hr (Or.inl hrt) (Or.inr ⟨_, rfl⟩) (fun t ht hW => ⟨⟨(x, a), ad x, rfl, h, rfl, hw.to ht hW⟩, hw.st.F ht⟩) hw.st.2.2 hdg hlk
theorem c_preL (hw : CW D dA ad fv A a s H locs) {As : List Value} {n : Nat} (h : leafK a n) : ∃ (C : String) (cC0 : ClassId), ClassAt s C cC0 ∧ PreV s H C (ad n) (cPc D dA ad fv A a (.ref (ad n) :: As)) As := by
  have hK : va_K D vwCl (tyA dA) s := by obtain ⟨dyn, hx, -⟩ := hw; exact hx.2.2.2.2
  have h6 : (a.2.2.1 n).1 = 107 ∨ (a.2.2.1 n).1 = 108 ∨ (a.2.2.1 n).1 = 109 ∨ (a.2.2.1 n).1 = 110 ∨ (a.2.2.1 n).1 = 111 ∨ (a.2.2.1 n).1 = 112 := by have h1 := h.2.1; have h2 := h.2.2; omega
  rcases h6 with q | q | q | q | q | q
  · exact ⟨RX7, _, (hK.1 7 _ rfl).2, c_preV hw h.ok (isO_Lc (k := 7) h q _) rfl⟩
  · exact ⟨RX8, _, (hK.1 8 _ rfl).2, c_preV hw h.ok (isO_Lc (k := 8) h q _) rfl⟩
  · exact ⟨RX9, _, (hK.1 9 _ rfl).2, c_preV hw h.ok (isO_Lc (k := 9) h q _) rfl⟩
  · exact ⟨RX10, _, (hK.1 10 _ rfl).2, c_preV hw h.ok (isO_Lc (k := 10) h q _) rfl⟩
  · exact ⟨RX11, _, (hK.1 11 _ rfl).2, c_preV hw h.ok (isO_Lc (k := 11) h q _) rfl⟩
  · exact ⟨RX12, _, (hK.1 12 _ rfl).2, c_preV hw h.ok (isO_Lc (k := 12) h q _) rfl⟩
theorem c_getS (S : CallFix p m c cc nL s args lw_all own) (hw : CW D dA ad fv A a s H locs) {ref C : String} {T : u_T} {N ci index n : Nat} (hm : cOk a n) {fs : List Value} (he : cC dA ad fv a n = .inr (ci, fs)) (hc : vwCl[ci]? = some (C, T, N)) (hin : ∀ w ∈ u_ws C T N, w ∈ lw_all) (k : Nat) (hk : k < N) (hlink : Cond.fieldLink own index ref (T k).2.1 (T k).2.2.1 ∈ lw_all) (hsm : Cond.sameField ref (T k).1 (T k).2.1 (T k).2.2.1 ∈ lw_all) {v : Value} (hv : fs[k]? = some v) (hdg : decode cc pc = .ok (.getfield index, 3))
    (kk : W p l e R s m args below meth c H locs cells slots Q (F0 m (pc + 3) ls (v :: rest))) : W p l e R s m args below meth c H locs cells slots Q (F0 m pc ls (.ref (ad n) :: rest)) := by
  obtain ⟨hx, hb, -, hown, hts⟩ := S
  obtain ⟨dyn, ⟨hP, -, -, -, hK⟩, hd, -, -, hN⟩ := hw
  obtain ⟨pos, hpos⟩ := List.getElem?_of_mem (hm.mem hd)
  exact va_get hx hb hts hin hown hK hP pos (by rw [fw_at hpos, he]) hc k hk (hts _ hlink) (fun x h9 => u_same (hts _ hsm) x h9) hv hdg kk
theorem c_lgetS (S : CallFix p m c cc nL s args lw_all own) (hw : CW D dA ad fv A a s H locs) {index n : Nat} {ref : String} (h : leafK a n) (k : Nat) (hk : k < 4) (hlink : Cond.fieldLink own index ref (TX7 k).2.1 "I" ∈ lw_all) (hsm : Cond.sameField ref "KeptLeaves$Leaf" (TX7 k).2.1 "I" ∈ lw_all) (hdg : decode cc pc = .ok (.getfield index, 3))
    (kk : W p l e R s m args below meth c H locs cells slots Q (F0 m (pc + 3) ls (.int (a.1 n k) :: rest))) : W p l e R s m args below meth c H locs cells slots Q (F0 m pc ls (.ref (ad n) :: rest)) := by
  have h6 : (a.2.2.1 n).1 = 107 ∨ (a.2.2.1 n).1 = 108 ∨ (a.2.2.1 n).1 = 109 ∨ (a.2.2.1 n).1 = 110 ∨ (a.2.2.1 n).1 = 111 ∨ (a.2.2.1 n).1 = 112 := by have h1 := h.2.1; have h2 := h.2.2; omega
  have h4 : k = 0 ∨ k = 1 ∨ k = 2 ∨ k = 3 := by omega
  rcases h6 with q | q | q | q | q | q
  · rcases h4 with e | e | e | e
    · subst e; exact c_getS S hw h.ok (isO_Lc (k := 7) h q _) rfl in_X7 0 (by decide) hlink hsm rfl hdg kk
    · subst e; exact c_getS S hw h.ok (isO_Lc (k := 7) h q _) rfl in_X7 1 (by decide) hlink hsm rfl hdg kk
    · subst e; exact c_getS S hw h.ok (isO_Lc (k := 7) h q _) rfl in_X7 2 (by decide) hlink hsm rfl hdg kk
    · subst e; exact c_getS S hw h.ok (isO_Lc (k := 7) h q _) rfl in_X7 3 (by decide) hlink hsm rfl hdg kk
  · rcases h4 with e | e | e | e
    · subst e; exact c_getS S hw h.ok (isO_Lc (k := 8) h q _) rfl in_X8 0 (by decide) hlink hsm rfl hdg kk
    · subst e; exact c_getS S hw h.ok (isO_Lc (k := 8) h q _) rfl in_X8 1 (by decide) hlink hsm rfl hdg kk
    · subst e; exact c_getS S hw h.ok (isO_Lc (k := 8) h q _) rfl in_X8 2 (by decide) hlink hsm rfl hdg kk
    · subst e; exact c_getS S hw h.ok (isO_Lc (k := 8) h q _) rfl in_X8 3 (by decide) hlink hsm rfl hdg kk
  · rcases h4 with e | e | e | e
    · subst e; exact c_getS S hw h.ok (isO_Lc (k := 9) h q _) rfl in_X9 0 (by decide) hlink hsm rfl hdg kk
    · subst e; exact c_getS S hw h.ok (isO_Lc (k := 9) h q _) rfl in_X9 1 (by decide) hlink hsm rfl hdg kk
    · subst e; exact c_getS S hw h.ok (isO_Lc (k := 9) h q _) rfl in_X9 2 (by decide) hlink hsm rfl hdg kk
    · subst e; exact c_getS S hw h.ok (isO_Lc (k := 9) h q _) rfl in_X9 3 (by decide) hlink hsm rfl hdg kk
  · rcases h4 with e | e | e | e
    · subst e; exact c_getS S hw h.ok (isO_Lc (k := 10) h q _) rfl in_X10 0 (by decide) hlink hsm rfl hdg kk
    · subst e; exact c_getS S hw h.ok (isO_Lc (k := 10) h q _) rfl in_X10 1 (by decide) hlink hsm rfl hdg kk
    · subst e; exact c_getS S hw h.ok (isO_Lc (k := 10) h q _) rfl in_X10 2 (by decide) hlink hsm rfl hdg kk
    · subst e; exact c_getS S hw h.ok (isO_Lc (k := 10) h q _) rfl in_X10 3 (by decide) hlink hsm rfl hdg kk
  · rcases h4 with e | e | e | e
    · subst e; exact c_getS S hw h.ok (isO_Lc (k := 11) h q _) rfl in_X11 0 (by decide) hlink hsm rfl hdg kk
    · subst e; exact c_getS S hw h.ok (isO_Lc (k := 11) h q _) rfl in_X11 1 (by decide) hlink hsm rfl hdg kk
    · subst e; exact c_getS S hw h.ok (isO_Lc (k := 11) h q _) rfl in_X11 2 (by decide) hlink hsm rfl hdg kk
    · subst e; exact c_getS S hw h.ok (isO_Lc (k := 11) h q _) rfl in_X11 3 (by decide) hlink hsm rfl hdg kk
  · rcases h4 with e | e | e | e
    · subst e; exact c_getS S hw h.ok (isO_Lc (k := 12) h q _) rfl in_X12 0 (by decide) hlink hsm rfl hdg kk
    · subst e; exact c_getS S hw h.ok (isO_Lc (k := 12) h q _) rfl in_X12 1 (by decide) hlink hsm rfl hdg kk
    · subst e; exact c_getS S hw h.ok (isO_Lc (k := 12) h q _) rfl in_X12 2 (by decide) hlink hsm rfl hdg kk
    · subst e; exact c_getS S hw h.ok (isO_Lc (k := 12) h q _) rfl in_X12 3 (by decide) hlink hsm rfl hdg kk
end CR5
/-- a word of selection by the owner's name, for the reference's own name -/
theorem sel_same {args : Array Value} {s : State} {C owner : String} {x y : MethodName} (howner : owner ≠ "java/lang/invoke/MethodHandle" ∧ owner ≠ "java/lang/invoke/VarHandle") (hsame : (Cond.sameMethod x.cls owner x.name x.desc).before args s = true) (h : (Cond.selects C ⟨owner, x.name, x.desc⟩ y).before args s = true) : (Cond.selects C x y).before args s = true := by
  obtain ⟨cn, ck, r1, hcn, hck, hni, hfd, hn1⟩ := Cond.sameMethod_found hsame
  have hf2 : s.methodFound? owner x.name x.desc = some r1 := State.methodFound?_of_named (x := ⟨owner, x.name, x.desc⟩) hn1 howner
  simp only [Cond.before, Cond.holds, Cond.value, hfd, hf2] at h ⊢
  exact h

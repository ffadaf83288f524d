/-! THE MODEL's WORLD: a row a field (names 0..37), the object's own whole numbers as row 38. -/
abbrev MS : Type := Nat → Nat → Int32
abbrev ishl (x y : Int32) : Int32 := x <<< (y &&& 31)
abbrev ishr (x y : Int32) : Int32 := x >>> (y &&& 31)
abbrev iush (x y : Int32) : Int32 := (x.toUInt32 >>> (y.toUInt32 &&& Int32.toUInt32 31)).toInt32
theorem vlit {i : Int32} {n : Nat} (h : (!(decide (i < 0)) && decide (i.toNatClampNeg < n)) = true) : vp_in i n := by
  simp only [Bool.and_eq_true, Bool.not_eq_true', decide_eq_true_eq, decide_eq_false_iff_not] at h
  rintro (q | q)
  · exact h.1 q
  · exact absurd h.2 (Nat.not_lt.mpr q)
def mLen : Nat → Nat := fun f => match f with
  | 0 => 3098 | 1 => 3098 | 2 => 3098 | 4 => 4 | 5 => 4 | 6 => 96 | 7 => 5 | 8 => 5 | 9 => 5 | 10 => 5 | 11 => 120 | 12 => 8 | 13 => 8 | 14 => 256 | 15 => 98 | 16 => 24 | 17 => 256 | 18 => 256 | 20 => 96 | 32 => 128 | 33 => 100 | 34 => 24 | 35 => 60 | _ => 60
abbrev mNm : List Nat := [38, 0, 1, 2, 4, 5, 6, 7, 8, 9, 10, 11, 12, 13, 14, 15, 16, 17, 18, 20, 32, 33, 34, 35, 37]
abbrev mObj (ad : Nat → Nat) (b : Nat → Int32) : List Value := [.ref (ad 0), .ref (ad 1), .ref (ad 2), .int (b 3), .ref (ad 4), .ref (ad 5), .ref (ad 6), .ref (ad 7), .ref (ad 8), .ref (ad 9), .ref (ad 10), .ref (ad 11), .ref (ad 12), .ref (ad 13), .ref (ad 14), .ref (ad 15), .ref (ad 16), .ref (ad 17), .ref (ad 18), .int (b 19), .ref (ad 20), .int (b 21), .int (b 22), .int (b 23), .int (b 24), .int (b 25), .int (b 26), .int (b 27), .int (b 28), .int (b 29), .int (b 30), .int (b 31), .ref (ad 32), .ref (ad 33), .ref (ad 34), .ref (ad 35), .int (b 36), .ref (ad 37)]
def cM (dA : Nat → ClassId) (ad : Nat → Nat) (a : MS) : Nat → va_E := fun f => if f = 38 then .inr (6, mObj ad (a 38)) else .inl (dA 0, mLen f, .inl (a f))
theorem cM_38 {dA : Nat → ClassId} {ad : Nat → Nat} {a : MS} : cM dA ad a 38 = .inr (6, mObj ad (a 38)) := if_pos rfl
theorem cM_f {dA : Nat → ClassId} {ad : Nat → Nat} {a : MS} {f n : Nat} (hf : f ≠ 38) (hn : mLen f = n) : cM dA ad a f = .inl (dA 0, n, .inl (a f)) := by
  subst hn
  exact if_neg hf
theorem up2_row {a : MS} {f j : Nat} {v : Int32} : up2 a f j v f = upd (a f) j v := by
  funext q
  simp [up2, upd]
theorem up2_off {a : MS} {f g j : Nat} {v : Int32} (h : g ≠ f) : up2 a f j v g = a g := by
  funext q
  simp [up2, h]
theorem cM_arr {dA : Nat → ClassId} {ad : Nat → Nat} {a : MS} {f n j : Nat} {v : Int32} (hf : f ≠ 38) (hn : mLen f = n) : va_up (cM dA ad a) f (.inl (dA 0, n, .inl (upd (a f) j v))) = cM dA ad (up2 a f j v) := by
  subst hn
  funext g
  by_cases hg : g = f
  · subst hg
    simp only [va_up, cM, if_pos, if_neg hf, up2_row]
  · by_cases h38 : g = 38
    · subst h38
      simp only [va_up, cM, if_neg hg, if_pos, up2_off hg]
    · simp only [va_up, cM, if_neg hg, if_neg h38, up2_off hg]
theorem cM_obj {dA : Nat → ClassId} {ad : Nat → Nat} {a : MS} {k : Nat} {v : Int32} (h : (mObj ad (a 38)).set k (.int v) = mObj ad (upd (a 38) k v)) : va_up (cM dA ad a) 38 (.inr (6, (mObj ad (a 38)).set k (.int v))) = cM dA ad (up2 a 38 k v) := by
  funext g
  by_cases hg : g = 38
  · subst hg
    simp only [va_up, cM, if_pos, up2_row]
    rw [h]
  · simp only [va_up, cM, if_neg hg, up2_off hg]
/-- the model's world in a walk, at a contract's start and end -/
abbrev MW (D : va_G) (dA : Nat → ClassId) (ad : Nat → Nat) (A : Nat → Prop) (a : MS) (s : State) (H : Heap) (locs : List Loc) : Prop := xw D dA mNm ad (cM dA ad a) A s H locs
abbrev MI (D : va_G) (dA : Nat → ClassId) (ad : Nat → Nat) (A : Nat → Prop) (a : MS) (U : State) : Prop := xi D dA mNm ad (cM dA ad a) A U
section MWs
variable {p : Program} {l : Launch} {e : Env} {R : Room} {s : State} {m : MethodId} {args : Array Value} {below : List Frame} {meth : Method} {c : Code} {H : Heap} {locs : List Loc} {cells slots : Nat} {Q : State → Prop}
variable {cc : ByteArray} {nL pc : Nat} {ls : Array Slot} {rest st0 : List Value} {D : va_G} {dA : Nat → ClassId} {ad : Nat → Nat} {a : MS} {A : Nat → Prop}
theorem m_get (S : CallFix p m c cc nL s args lw_all RX6) (hw : MW D dA ad A a s H locs) {index : Nat} {v : Value} (k : Nat) (hk : k < 38) (hlink : (Cond.fieldLink RX6 index RX6 (TX6 k).2.1 (TX6 k).2.2.1) ∈ lw_all) (hsame : RX6 = (TX6 k).1) (hv : (mObj ad (a 38))[k]? = some v) (hdg : decode cc pc = .ok (.getfield index, 3))
    (kk : W p l e R s m args below meth c H locs cells slots Q (F0 m (pc + 3) ls (v :: rest))) : W p l e R s m args below meth c H locs cells slots Q (F0 m pc ls (.ref (ad 38) :: rest)) :=
  xw_get S hw (pos := 0) (ci := 6) rfl cM_38 rfl in_X6 k hk hlink hsame hv hdg kk
theorem m_puti (S : CallFix p m c cc nL s args lw_all RX6) (hw : MW D dA ad A a s H locs) {index : Nat} {v : Int32} (k : Nat) (hk : k < 38) (hlink : (Cond.fieldLink RX6 index RX6 (TX6 k).2.1 (TX6 k).2.2.1) ∈ lw_all) (hsame : RX6 = (TX6 k).1) (hfin : (TX6 k).2.2.2 = false) (hn : narrow (tyX6 k) (.int v) = .int v) (hfit : fits (tyX6 k) (.int v) = true) (hset : (mObj ad (a 38)).set k (.int v) = mObj ad (upd (a 38) k v)) (hdg : decode cc pc = .ok (.putfield index, 3))
    (kk : ∀ (a1 : MS) (H1 : Heap) (locs1 : List Loc), a1 = up2 a 38 k v → MW D dA ad A a1 s H1 locs1 → W p l e R s m args below meth c H1 locs1 cells slots Q (F0 m (pc + 3) ls rest)) : W p l e R s m args below meth c H locs cells slots Q (F0 m pc ls (.int v :: .ref (ad 38) :: rest)) :=
  xw_put S hw (pos := 0) (ci := 6) rfl cM_38 rfl in_X6 tyX6 tyX6_ok nmX6 k hk hlink hsame hfin hn hfit hk hdg (fun H1 locs1 hw1 => kk _ H1 locs1 rfl (by rw [cM_obj hset] at hw1; exact hw1))
theorem m_ald (S : CallFix p m c cc nL s args lw_all RX6) (hw : MW D dA ad A a s H locs) (pos f n : Nat) (hpos : mNm[pos]? = some f) (hf : f ≠ 38) (hn : mLen f = n) {i : Int32} (hin : vp_in i n) (hdg : decode cc pc = .ok (.iaload, 1))
    (kk : W p l e R s m args below meth c H locs cells slots Q (F0 m (pc + 1) ls (.int (a f i.toNatClampNeg) :: rest))) : W p l e R s m args below meth c H locs cells slots Q (F0 m pc ls (.int i :: .ref (ad f) :: rest)) :=
  xw_iald S hw (pos := pos) hpos (cM_f hf hn) hin hdg kk
theorem m_ast (S : CallFix p m c cc nL s args lw_all RX6) (hw : MW D dA ad A a s H locs) (pos f n : Nat) (hpos : mNm[pos]? = some f) (hf : f ≠ 38) (hn : mLen f = n) {i x : Int32} (hin : vp_in i n) (hdg : decode cc pc = .ok (.iastore, 1))
    (kk : ∀ (a1 : MS) (H1 : Heap) (locs1 : List Loc), a1 = up2 a f i.toNatClampNeg x → MW D dA ad A a1 s H1 locs1 → W p l e R s m args below meth c H1 locs1 cells slots Q (F0 m (pc + 1) ls rest)) : W p l e R s m args below meth c H locs cells slots Q (F0 m pc ls (.int x :: .int i :: .ref (ad f) :: rest)) :=
  xw_iast S hw (pos := pos) hpos (cM_f hf hn) hin hdg (fun H1 locs1 hw1 => kk _ H1 locs1 rfl (by rw [cM_arr hf hn] at hw1; exact hw1))
theorem m_alen (S : CallFix p m c cc nL s args lw_all RX6) (hw : MW D dA ad A a s H locs) (pos f n : Nat) (hpos : mNm[pos]? = some f) (hf : f ≠ 38) (hn : mLen f = n) {v : Int32} (hv : Int32.ofNat n = v) (hdg : decode cc pc = .ok (.arraylength, 1))
    (kk : W p l e R s m args below meth c H locs cells slots Q (F0 m (pc + 1) ls (.int v :: rest))) : W p l e R s m args below meth c H locs cells slots Q (F0 m pc ls (.ref (ad f) :: rest)) :=
  xw_alen S hw (pos := pos) hpos (t0 := 0) (cM_f hf hn) rfl hv hdg kk
/-- what a method of the model asks and leaves -/
abbrev mPc (D : va_G) (dA : Nat → ClassId) (ad : Nat → Nat) (A : Nat → Prop) (a : MS) (As : List Value) : Array Value → State → Prop := va_Pc As (fun U => MI D dA ad A a U)
abbrev mQi (D : va_G) (dA : Nat → ClassId) (ad : Nat → Nat) (A : Nat → Prop) (Q : Int32 → MS → Prop) : Array Value → State → Outcome → State → Prop := va_Qi Q (fun u t => MI D dA ad A u t) A
abbrev mQl (D : va_G) (dA : Nat → ClassId) (ad : Nat → Nat) (A : Nat → Prop) (Q : Int64 → MS → Prop) : Array Value → State → Outcome → State → Prop := va_Ql Q (fun u t => MI D dA ad A u t) A
abbrev mQv (D : va_G) (dA : Nat → ClassId) (ad : Nat → Nat) (A : Nat → Prop) (Q : MS → Prop) : Array Value → State → Outcome → State → Prop := va_Qv Q (fun u t => MI D dA ad A u t) A
variable {y : MethodName} {bytes : ByteArray} {maxL n index : Nat} {ret : Option FieldType} {ws : List Cond} {rm : Room} {As : List Value}
theorem m_iret {K : Int32 → MS → Prop} {v : Int32} (S : CallFix p m c cc nL s args lw_all RX6) (hr : meth.sig.returnType = some .int) (hlk : meth.locks = false) (hw : MW D dA ad A a s H locs) (h : K v a) (hdg : decode cc pc = .ok (.ireturn, 1)) : W p l e R s m args below meth c H locs 0 0 (MQ below (mQi D dA ad A K) args s 0 0 A) (F0 m pc ls [.int v]) :=
  W.iret (v := v) S.1 S.2.1 hr (fun t ht hW => ⟨⟨v, a, rfl, h, hw.to ht hW⟩, hw.2.2.1.F ht⟩) hw.2.2.1.2.2 hdg hlk
theorem m_zret {K : Int32 → MS → Prop} {v : Int32} (S : CallFix p m c cc nL s args lw_all RX6) (hr : meth.sig.returnType = some .boolean) (hlk : meth.locks = false) (hw : MW D dA ad A a s H locs) (hz : zok v) (h : K v a) (hdg : decode cc pc = .ok (.ireturn, 1)) : W p l e R s m args below meth c H locs 0 0 (MQ below (mQi D dA ad A K) args s 0 0 A) (F0 m pc ls [.int v]) :=
  W.zret (v := v) S.1 S.2.1 hr hz.nar (fun t ht hW => ⟨⟨v, a, rfl, h, hw.to ht hW⟩, hw.2.2.1.F ht⟩) hw.2.2.1.2.2 hdg hlk
theorem m_lret {K : Int64 → MS → Prop} {v : Int64} (S : CallFix p m c cc nL s args lw_all RX6) (hr : meth.sig.returnType = some .long) (hlk : meth.locks = false) (hw : MW D dA ad A a s H locs) (h : K v a) (hdg : decode cc pc = .ok (.lreturn, 1)) : W p l e R s m args below meth c H locs 0 0 (MQ below (mQl D dA ad A K) args s 0 0 A) (F0 m pc ls [.long v]) :=
  W.lret (v := v) S.1 S.2.1 hr (fun t ht hW => ⟨⟨v, a, rfl, h, hw.to ht hW⟩, hw.2.2.1.F ht⟩) hw.2.2.1.2.2 hdg hlk
theorem m_vret {K : MS → Prop} (S : CallFix p m c cc nL s args lw_all RX6) (hr : meth.sig.returnType = none) (hlk : meth.locks = false) (hw : MW D dA ad A a s H locs) (h : K a) (hdg : decode cc pc = .ok (.return_, 1)) : W p l e R s m args below meth c H locs 0 0 (MQ below (mQv D dA ad A K) args s 0 0 A) (F0 m pc ls []) :=
  W.vret S.1 S.2.1 hr (fun t ht hW => ⟨⟨a, rfl, h, hw.to ht hW⟩, hw.2.2.1.F ht⟩) hw.2.2.1.2.2 hdg hlk
theorem m_blind : FrameBlind (mPc D dA ad A a As) := fun _ _ _ _ q => ⟨q.1, q.2.blind⟩
theorem m_preV (hw : MW D dA ad A a s H locs) : PreV s H RX6 (ad 38) (mPc D dA ad A a (.ref (ad 38) :: As)) As :=
  ⟨m_blind, hw.recv (pos := 0) (ci := 6) (q := (RX6, TX6, 38)) rfl cM_38 rfl, fun U hU hW => ⟨rfl, hw.give hU hW⟩⟩
theorem m_preS (hw : MW D dA ad A a s H locs) : PreS s H (mPc D dA ad A a As) As :=
  ⟨m_blind, fun U hU hW => ⟨rfl, hw.give hU hW⟩⟩
theorem m_calli {K : Int32 → MS → Prop} (S : CallFix p m c cc nL s args lw_all RX6) (hw : MW D dA ad A a s H locs) (As rest : List Value) (hM : Met l y ws rm (mPc D dA ad A a (.ref (ad 38) :: As)) (mQi D dA ad A K) 0 0 A) (cw : CallW R s args RX6 RX6 index y bytes maxL ret ws rm 0 0 n) (hn : As.length = n) (hsize : ls.size = nL) (hst : st0 = As.reverse ++ .ref (ad 38) :: rest) (hW : (rest.map fun v => v.category).sum ≤ 8) (hdg : decode cc pc = .ok (.invokevirtual index, 3)) (hf : cells ≤ R.cells ∧ slots ≤ R.slots)
    (kk : ∀ (r : Int32) (a1 : MS) (H1 : Heap) (locs1 : List Loc), K r a1 → MW D dA ad A a1 s H1 locs1 → W p l e R s m args below meth c H1 locs1 cells slots Q (F0 m (pc + 3) ls (.int r :: rest))) : W p l e R s m args below meth c H locs cells slots Q (F0 m pc ls st0) :=
  va_calli (va_runV (As := As) (rest := rest) S hM cw (m_preV hw) rfl hn hsize hst (lv_room (pc := pc) (ls := ls) (rest := st0) (m := m) hW) hdg hf) hw.2.2.1 (fun _ _ h => h) (fun _ h => h) (fun r u t H1 locs1 ht _ hp hB _ _ hS => kk r u H1 locs1 hp (hw.back hB ht hS))
theorem m_calll {K : Int64 → MS → Prop} (S : CallFix p m c cc nL s args lw_all RX6) (hw : MW D dA ad A a s H locs) (As rest : List Value) (hM : Met l y ws rm (mPc D dA ad A a (.ref (ad 38) :: As)) (mQl D dA ad A K) 0 0 A) (cw : CallW R s args RX6 RX6 index y bytes maxL ret ws rm 0 0 n) (hn : As.length = n) (hsize : ls.size = nL) (hst : st0 = As.reverse ++ .ref (ad 38) :: rest) (hW : (rest.map fun v => v.category).sum ≤ 8) (hdg : decode cc pc = .ok (.invokevirtual index, 3)) (hf : cells ≤ R.cells ∧ slots ≤ R.slots)
    (kk : ∀ (r : Int64) (a1 : MS) (H1 : Heap) (locs1 : List Loc), K r a1 → MW D dA ad A a1 s H1 locs1 → W p l e R s m args below meth c H1 locs1 cells slots Q (F0 m (pc + 3) ls (.long r :: rest))) : W p l e R s m args below meth c H locs cells slots Q (F0 m pc ls st0) :=
  va_calll (va_runV (As := As) (rest := rest) S hM cw (m_preV hw) rfl hn hsize hst (lv_room (pc := pc) (ls := ls) (rest := st0) (m := m) hW) hdg hf) hw.2.2.1 (fun _ _ h => h) (fun _ h => h) (fun r u t H1 locs1 ht _ hp hB _ _ hS => kk r u H1 locs1 hp (hw.back hB ht hS))
theorem m_callv {K : MS → Prop} (S : CallFix p m c cc nL s args lw_all RX6) (hw : MW D dA ad A a s H locs) (As rest : List Value) (hM : Met l y ws rm (mPc D dA ad A a (.ref (ad 38) :: As)) (mQv D dA ad A K) 0 0 A) (cw : CallW R s args RX6 RX6 index y bytes maxL ret ws rm 0 0 n) (hn : As.length = n) (hsize : ls.size = nL) (hst : st0 = As.reverse ++ .ref (ad 38) :: rest) (hW : (rest.map fun v => v.category).sum ≤ 8) (hdg : decode cc pc = .ok (.invokevirtual index, 3)) (hf : cells ≤ R.cells ∧ slots ≤ R.slots)
    (kk : ∀ (a1 : MS) (H1 : Heap) (locs1 : List Loc), K a1 → MW D dA ad A a1 s H1 locs1 → W p l e R s m args below meth c H1 locs1 cells slots Q (F0 m (pc + 3) ls rest)) : W p l e R s m args below meth c H locs cells slots Q (F0 m pc ls st0) :=
  va_callv (va_runV (As := As) (rest := rest) S hM cw (m_preV hw) rfl hn hsize hst (lv_room (pc := pc) (ls := ls) (rest := st0) (m := m) hW) hdg hf) hw.2.2.1 (fun _ _ h => h) (fun _ h => h) (fun u t H1 locs1 ht _ hp hB _ _ hS => kk u H1 locs1 hp (hw.back hB ht hS))
theorem m_callSi {K : Int32 → MS → Prop} (S : CallFix p m c cc nL s args lw_all RX6) (hw : MW D dA ad A a s H locs) (As rest : List Value) (hM : Met l y ws rm (mPc D dA ad A a As) (mQi D dA ad A K) 0 0 A) (cw : CallB R s args RX6 index y bytes maxL ret ws rm 0 0 n ∧ (Cond.static y).before args s = true) (hn : As.length = n) (hsize : ls.size = nL) (hst : st0 = As.reverse ++ rest) (hW : (rest.map fun v => v.category).sum ≤ 8) (hdg : decode cc pc = .ok (.invokestatic index, 3)) (hf : cells ≤ R.cells ∧ slots ≤ R.slots)
    (kk : ∀ (r : Int32) (a1 : MS) (H1 : Heap) (locs1 : List Loc), K r a1 → MW D dA ad A a1 s H1 locs1 → W p l e R s m args below meth c H1 locs1 cells slots Q (F0 m (pc + 3) ls (.int r :: rest))) : W p l e R s m args below meth c H locs cells slots Q (F0 m pc ls st0) :=
  va_calli (va_runS (As := As) (rest := rest) S hM cw (m_preS hw) rfl hn hsize hst (lv_room (pc := pc) (ls := ls) (rest := st0) (m := m) hW) hdg hf) hw.2.2.1 (fun _ _ h => h) (fun _ h => h) (fun r u t H1 locs1 ht _ hp hB _ _ hS => kk r u H1 locs1 hp (hw.back hB ht hS))
/-- a contract out of a walk -/
theorem m_met {Qc : Array Value → State → Outcome → State → Prop} {ws' : List Cond} (hy : plainName y.cls = true) (hcls : y.cls = RX6) (hw : ws = Cond.code y bytes maxL ret :: ws') (hws : ws' = lw_all) (hlen : (lg_sl As).length ≤ maxL)
    (body : ∀ (p : Program) (e : Env) (s : State) (m : MethodId) (below : List Frame) (meth : Method) (c : Code) (ls : Array Slot), CallFix p m c bytes maxL s As.toArray lw_all RX6 → meth.sig.returnType = ret → meth.locks = false → MW D dA ad A a s s.heap [] → lv_has ls maxL (lv_args 0 As) → W p l e rm s m As.toArray below meth c s.heap [] 0 0 (MQ below Qc As.toArray s 0 0 A) (F0 m 0 ls [])) : Met l y ws rm (mPc D dA ad A a As) Qc 0 0 A := by
  refine Met.ofW (cc := bytes) (maxL := maxL) (ret := ret) hy hw ?_
  intro p e s m args below meth c s₁ B hml hv
  obtain ⟨rfl, hI⟩ := hv
  have hts := atoms_spec (ws := ws) B.pre
  subst hws
  have hts : ∀ w ∈ lw_all, w.before _ s = true := fun w h => hts w (by rw [hw]; exact List.mem_cons_of_mem _ h)
  have hown : s.vm.findClass RX6 = some m.cls := by rw [← hcls]; exact findClass_of_methodNamed B.named
  have hl := lv_entry As (n := maxL) hlen
  rw [lg_entry_eq]
  exact body p e s m below meth c _ ⟨B.exec, B.bytes, hml, hown, hts⟩ B.returns B.notSynchronized (xw_of hI) hl
end MWs

section CWalk
variable {p : Program} {l : Launch} {e : Env} {s : State} {m : MethodId} {args : Array Value} {below : List Frame} {meth : Method} {c : Code} {D : va_G} {dA : Nat → ClassId} {ad : Nat → Nat} {fv : Nat → Value} {A : Nat → Prop}
/-! X0.takenFor -/
abbrev rmC_X0_takenFor : Room := { frames := 7, cells := 3, slots := 1010, locals := 10300 }
def wpC_X0_takenFor (a : CS) (x0 : Nat) (x1 : Int32) (Q : Nat → CS → Prop) (E : CS → Prop) : Prop := if x1 = (1 : Int32) then ((heldK a x0) ∧ (if cstT (a.2.2.1 x0).1 8 = true then (Q x0 a) else (E a))) else (if x1 = (2 : Int32) then ((heldK a x0) ∧ (if cstT (a.2.2.1 x0).1 9 = true then (Q x0 a) else (E a))) else (if x1 = (3 : Int32) then ((heldK a x0) ∧ (if cstT (a.2.2.1 x0).1 10 = true then (Q x0 a) else (E a))) else (if x1 = (4 : Int32) then ((heldK a x0) ∧ (if cstT (a.2.2.1 x0).1 11 = true then (Q x0 a) else (E a))) else (if x1 = (5 : Int32) then ((heldK a x0) ∧ (if cstT (a.2.2.1 x0).1 12 = true then (Q x0 a) else (E a))) else ((heldK a x0) ∧ (if cstT (a.2.2.1 x0).1 7 = true then (Q x0 a) else (E a)))))))
set_option maxHeartbeats 4000000 in
set_option maxRecDepth 100000 in
theorem wkC_X0_takenFor_e (S : CallFix p m c cX0_takenFor 2 s args lw_all RX0) (hr : meth.sig.returnType = (some (.object "KeptLeaves$Leaf"))) (hlk : meth.locks = false) (hout : ∀ pc, ∀ x ∈ c.exceptionTable.toList, covers x pc = false) (hfl : l.flags = flags0) (Q : Nat → CS → Prop) (E : CS → Prop) (x0 : Nat) (x1 : Int32) (a : CS) (H : Heap) (locs : List Loc) (ls : Array Slot) (h : wpC_X0_takenFor a x0 x1 Q E) (hw : CW D dA ad fv A a s H locs) (hl : lv_has ls 2 [(0, .ref (ad x0)), (1, .int x1)]) : W p l e rmC_X0_takenFor s m args below meth c H locs 0 0 (MQT below (cT (cQr D dA ad fv A Q) (cE D dA ad fv A (exV "java/lang/ClassCastException") E)) args s 3 1010 A) (F0 m 0 ls []) := by
  have hx := S.1
  have hb := S.2.1
  have hown := S.2.2.2.1
  have hts := S.2.2.2.2
  unfold wpC_X0_takenFor at h
  refine lv_iload_n hx hb dX0_takenFor_0 rfl (lv_at hl 1 rfl) ?_
  by_cases c1_0 : x1 = (1 : Int32)
  · replace h := if_t c1_0 h
    refine lv_tableIn (off := 35) (tgt := 36) hx hb dX0_takenFor_1 (by rw [c1_0]; decide) (by rw [c1_0]; decide) (by rw [c1_0]; decide) (by decide) ?_
    refine lv_aload_n hx hb dX0_takenFor_36 rfl (lv_at hl 0 rfl) ?_
    have hd37 := h.1
    replace h := h.2
    refine c_castT hfl S hw hl.1 (t := 8) (by decide) hd37 q633 dX0_takenFor_37 (Nat.le_of_ble_eq_true rfl) (Nat.le_of_ble_eq_true rfl) (Nat.le_of_ble_eq_true rfl) (Nat.le_of_ble_eq_true rfl) (fun c37 H locs hw => c_leaveT hw (if_f (by rw [c37]; decide) h) hlk (hout _) (Nat.le_of_ble_eq_true rfl) (Nat.le_of_ble_eq_true rfl)) (fun c37 => ?_)
    replace h := if_t c37 h
    refine W.widen (k := 3) (n := 1010) (Nat.le_of_ble_eq_true rfl) (Nat.le_of_ble_eq_true rfl) ?_
    exact W.mono (MQ.toT (fun _ _ h9 => Or.inl h9)) (c_aret S hr hlk hw h ⟨_, rfl⟩ dX0_takenFor_40)
  replace h := if_f c1_0 h
  by_cases c1_1 : x1 = (2 : Int32)
  · replace h := if_t c1_1 h
    refine lv_tableIn (off := 40) (tgt := 41) hx hb dX0_takenFor_1 (by rw [c1_1]; decide) (by rw [c1_1]; decide) (by rw [c1_1]; decide) (by decide) ?_
    refine lv_aload_n hx hb dX0_takenFor_41 rfl (lv_at hl 0 rfl) ?_
    have hd42 := h.1
    replace h := h.2
    refine c_castT hfl S hw hl.1 (t := 9) (by decide) hd42 q663 dX0_takenFor_42 (Nat.le_of_ble_eq_true rfl) (Nat.le_of_ble_eq_true rfl) (Nat.le_of_ble_eq_true rfl) (Nat.le_of_ble_eq_true rfl) (fun c42 H locs hw => c_leaveT hw (if_f (by rw [c42]; decide) h) hlk (hout _) (Nat.le_of_ble_eq_true rfl) (Nat.le_of_ble_eq_true rfl)) (fun c42 => ?_)
    replace h := if_t c42 h
    refine W.widen (k := 3) (n := 1010) (Nat.le_of_ble_eq_true rfl) (Nat.le_of_ble_eq_true rfl) ?_
    exact W.mono (MQ.toT (fun _ _ h9 => Or.inl h9)) (c_aret S hr hlk hw h ⟨_, rfl⟩ dX0_takenFor_45)
  replace h := if_f c1_1 h
  by_cases c1_2 : x1 = (3 : Int32)
  · replace h := if_t c1_2 h
    refine lv_tableIn (off := 45) (tgt := 46) hx hb dX0_takenFor_1 (by rw [c1_2]; decide) (by rw [c1_2]; decide) (by rw [c1_2]; decide) (by decide) ?_
    refine lv_aload_n hx hb dX0_takenFor_46 rfl (lv_at hl 0 rfl) ?_
    have hd47 := h.1
    replace h := h.2
    refine c_castT hfl S hw hl.1 (t := 10) (by decide) hd47 q674 dX0_takenFor_47 (Nat.le_of_ble_eq_true rfl) (Nat.le_of_ble_eq_true rfl) (Nat.le_of_ble_eq_true rfl) (Nat.le_of_ble_eq_true rfl) (fun c47 H locs hw => c_leaveT hw (if_f (by rw [c47]; decide) h) hlk (hout _) (Nat.le_of_ble_eq_true rfl) (Nat.le_of_ble_eq_true rfl)) (fun c47 => ?_)
    replace h := if_t c47 h
    refine W.widen (k := 3) (n := 1010) (Nat.le_of_ble_eq_true rfl) (Nat.le_of_ble_eq_true rfl) ?_
    exact W.mono (MQ.toT (fun _ _ h9 => Or.inl h9)) (c_aret S hr hlk hw h ⟨_, rfl⟩ dX0_takenFor_50)
  replace h := if_f c1_2 h
  by_cases c1_3 : x1 = (4 : Int32)
  · replace h := if_t c1_3 h
    refine lv_tableIn (off := 50) (tgt := 51) hx hb dX0_takenFor_1 (by rw [c1_3]; decide) (by rw [c1_3]; decide) (by rw [c1_3]; decide) (by decide) ?_
    refine lv_aload_n hx hb dX0_takenFor_51 rfl (lv_at hl 0 rfl) ?_
    have hd52 := h.1
    replace h := h.2
    refine c_castT hfl S hw hl.1 (t := 11) (by decide) hd52 q685 dX0_takenFor_52 (Nat.le_of_ble_eq_true rfl) (Nat.le_of_ble_eq_true rfl) (Nat.le_of_ble_eq_true rfl) (Nat.le_of_ble_eq_true rfl) (fun c52 H locs hw => c_leaveT hw (if_f (by rw [c52]; decide) h) hlk (hout _) (Nat.le_of_ble_eq_true rfl) (Nat.le_of_ble_eq_true rfl)) (fun c52 => ?_)
    replace h := if_t c52 h
    refine W.widen (k := 3) (n := 1010) (Nat.le_of_ble_eq_true rfl) (Nat.le_of_ble_eq_true rfl) ?_
    exact W.mono (MQ.toT (fun _ _ h9 => Or.inl h9)) (c_aret S hr hlk hw h ⟨_, rfl⟩ dX0_takenFor_55)
  replace h := if_f c1_3 h
  by_cases c1_4 : x1 = (5 : Int32)
  · replace h := if_t c1_4 h
    refine lv_tableIn (off := 55) (tgt := 56) hx hb dX0_takenFor_1 (by rw [c1_4]; decide) (by rw [c1_4]; decide) (by rw [c1_4]; decide) (by decide) ?_
    refine lv_aload_n hx hb dX0_takenFor_56 rfl (lv_at hl 0 rfl) ?_
    have hd57 := h.1
    replace h := h.2
    refine c_castT hfl S hw hl.1 (t := 12) (by decide) hd57 q696 dX0_takenFor_57 (Nat.le_of_ble_eq_true rfl) (Nat.le_of_ble_eq_true rfl) (Nat.le_of_ble_eq_true rfl) (Nat.le_of_ble_eq_true rfl) (fun c57 H locs hw => c_leaveT hw (if_f (by rw [c57]; decide) h) hlk (hout _) (Nat.le_of_ble_eq_true rfl) (Nat.le_of_ble_eq_true rfl)) (fun c57 => ?_)
    replace h := if_t c57 h
    refine W.widen (k := 3) (n := 1010) (Nat.le_of_ble_eq_true rfl) (Nat.le_of_ble_eq_true rfl) ?_
    exact W.mono (MQ.toT (fun _ _ h9 => Or.inl h9)) (c_aret S hr hlk hw h ⟨_, rfl⟩ dX0_takenFor_60)
  replace h := if_f c1_4 h
  have houtT : x1.toInt < 1 ∨ 5 < x1.toInt ∨ (#[35, 40, 45, 50, 55] : Array Int)[(x1.toInt - 1).toNat]? = some 60 := by
    have n0 := lv_neT c1_0 (a := 1) (by decide)
    have n1 := lv_neT c1_1 (a := 2) (by decide)
    have n2 := lv_neT c1_2 (a := 3) (by decide)
    have n3 := lv_neT c1_3 (a := 4) (by decide)
    have n4 := lv_neT c1_4 (a := 5) (by decide)
    by_cases h1 : x1.toInt < 1
    · exact Or.inl h1
    by_cases h2 : 5 < x1.toInt
    · exact Or.inr (Or.inl h2)
    exfalso
    omega
  refine lv_tableD (tgt := 61) hx hb dX0_takenFor_1 houtT (by decide) ?_
  refine lv_aload_n hx hb dX0_takenFor_61 rfl (lv_at hl 0 rfl) ?_
  have hd62 := h.1
  replace h := h.2
  refine c_castT hfl S hw hl.1 (t := 7) (by decide) hd62 q707 dX0_takenFor_62 (Nat.le_of_ble_eq_true rfl) (Nat.le_of_ble_eq_true rfl) (Nat.le_of_ble_eq_true rfl) (Nat.le_of_ble_eq_true rfl) (fun c62 H locs hw => c_leaveT hw (if_f (by rw [c62]; decide) h) hlk (hout _) (Nat.le_of_ble_eq_true rfl) (Nat.le_of_ble_eq_true rfl)) (fun c62 => ?_)
  replace h := if_t c62 h
  refine W.widen (k := 3) (n := 1010) (Nat.le_of_ble_eq_true rfl) (Nat.le_of_ble_eq_true rfl) ?_
  exact W.mono (MQ.toT (fun _ _ h9 => Or.inl h9)) (c_aret S hr hlk hw h ⟨_, rfl⟩ dX0_takenFor_65)
theorem ctC_X0_takenFor (l : Launch) (D : va_G) (dA : Nat → ClassId) (ad : Nat → Nat) (fv : Nat → Value) (A : Nat → Prop) (a : CS) (x0 : Nat) (x1 : Int32) (Q : Nat → CS → Prop) (E : CS → Prop) (hfl : l.flags = flags0) (h : wpC_X0_takenFor a x0 x1 Q E) : MetT l yX0_takenFor (ws_ yX0_takenFor cX0_takenFor 2 (some (.object "KeptLeaves$Leaf"))) rmC_X0_takenFor (cPc D dA ad fv A a [.ref (ad x0), .int x1]) (cT (cQr D dA ad fv A Q) (cE D dA ad fv A (exV "java/lang/ClassCastException") E)) 3 1010 A :=
  c_metT (by decide) rfl rfl rfl (Nat.le_of_ble_eq_true rfl) (fun p e s m below meth c ls S hr hlk hout hw hl => wkC_X0_takenFor_e S hr hlk hout hfl Q E x0 x1 a _ _ ls h hw hl)
theorem cwC_X0_X0_takenFor {R : Room} {s : State} {args : Array Value} {rm : Room} (hts : ∀ w ∈ lw_all, w.before args s = true) (hR : rm.frames + 1 ≤ R.frames ∧ 8 + (2 + 11) + rm.locals ≤ R.locals) (hc : rm.cells = 3 := by rfl) (hs : rm.slots = 1010 := by rfl) : CallB R s args RX0 367 yX0_takenFor cX0_takenFor 2 (some (.object "KeptLeaves$Leaf")) (ws_ yX0_takenFor cX0_takenFor 2 (some (.object "KeptLeaves$Leaf"))) rm 3 1010 2 ∧ (Cond.static yX0_takenFor).before args s = true :=
  va_cwS 2 hts (lw_S q880 q881 q103 q882) rfl hc hs (by decide +kernel) hR
/-! X0.rowOf, any length -/
abbrev rmC_X0_rowOfT : Room := { frames := 7, cells := 3, slots := 1010, locals := 10300 }
def wpC_X0_rowOfT (a : CS) (x0 : Int32) (x1 : Int32) (Q : Nat → CS → Prop) (E : CS → Prop) : Prop := if x0 = 0 then (if x1 < 0 then (E a) else ((¬ x1 < 0 ∧ x1.toNatClampNeg ≤ 24) ∧ (∀ o9 : Nat, 1000 ≤ o9 → (a.2.2.1 o9).1 = 0 → ∀ a9 : CS, a9 = wN a o9 (24, x1.toNatClampNeg) → (Q o9 a9)))) else (if x1 < 0 then (E a) else ((¬ x1 < 0 ∧ x1.toNatClampNeg ≤ 24) ∧ (∀ o5 : Nat, 1000 ≤ o5 → (a.2.2.1 o5).1 = 0 → ∀ a5 : CS, a5 = wN a o5 (23, x1.toNatClampNeg) → (Q o5 a5))))
set_option maxHeartbeats 4000000 in
set_option maxRecDepth 100000 in
theorem wkC_X0_rowOfT_e (S : CallFix p m c cX0_rowOf 2 s args lw_all RX0) (hr : meth.sig.returnType = (some (.object "java/lang/Object"))) (hlk : meth.locks = false) (hout : ∀ pc, ∀ x ∈ c.exceptionTable.toList, covers x pc = false) (hfl : l.flags = flags0) (Q : Nat → CS → Prop) (E : CS → Prop) (x0 : Int32) (x1 : Int32) (a : CS) (H : Heap) (locs : List Loc) (ls : Array Slot) (h : wpC_X0_rowOfT a x0 x1 Q E) (hw : CW D dA ad fv A a s H locs) (hl : lv_has ls 2 [(0, .int x0), (1, .int x1)]) : W p l e rmC_X0_rowOfT s m args below meth c H locs 0 0 (MQT below (cT (cQr D dA ad fv A Q) (cE D dA ad fv A (exV "java/lang/NegativeArraySizeException") E)) args s 3 1010 A) (F0 m 0 ls []) := by
  have hx := S.1
  have hb := S.2.1
  have hown := S.2.2.2.1
  have hts := S.2.2.2.2
  unfold wpC_X0_rowOfT at h
  refine lv_iload_n hx hb dX0_rowOf_0 rfl (lv_at hl 0 rfl) ?_
  refine lv_if_eq (tgt := 8) hx hb dX0_rowOf_1 (by decide) (fun c1 => ?_) (fun c1 => ?_)
  · replace h := if_t c1 h
    refine lv_iload_n hx hb dX0_rowOf_8 rfl (lv_at hl 1 rfl) ?_
    by_cases c9 : x1 < 0
    · replace h := if_t c9 h
      exact c_negNew hfl S hw hl.1 c9 dX0_rowOf_9 (Nat.le_of_ble_eq_true rfl) (Nat.le_of_ble_eq_true rfl) (Nat.le_of_ble_eq_true rfl) (Nat.le_of_ble_eq_true rfl) (fun H locs hw => c_leaveT hw h hlk (hout _) (Nat.le_of_ble_eq_true rfl) (Nat.le_of_ble_eq_true rfl))
    replace h := if_f c9 h
    have hz9 := h.1
    replace h := h.2
    refine c_newS S hw q1121 hz9.1 hz9.2 (Nat.le_of_ble_eq_true rfl) (Nat.le_of_ble_eq_true rfl) dX0_rowOf_9 (fun o9 a9 H go9 zo9 ea9 hw => ?_)
    replace h := h o9 go9 zo9 a9 ea9
    refine W.widen (k := 1) (n := 24) (Nat.le_of_ble_eq_true rfl) (Nat.le_of_ble_eq_true rfl) ?_
    refine W.widen (k := 3) (n := 1010) (Nat.le_of_ble_eq_true rfl) (Nat.le_of_ble_eq_true rfl) ?_
    exact W.mono (MQ.toT (fun _ _ h9 => Or.inl h9)) (c_aret S hr hlk hw h ⟨_, rfl⟩ dX0_rowOf_11)
  · replace h := if_f c1 h
    refine lv_iload_n hx hb dX0_rowOf_4 rfl (lv_at hl 1 rfl) ?_
    by_cases c5 : x1 < 0
    · replace h := if_t c5 h
      exact c_negNew hfl S hw hl.1 c5 dX0_rowOf_5 (Nat.le_of_ble_eq_true rfl) (Nat.le_of_ble_eq_true rfl) (Nat.le_of_ble_eq_true rfl) (Nat.le_of_ble_eq_true rfl) (fun H locs hw => c_leaveT hw h hlk (hout _) (Nat.le_of_ble_eq_true rfl) (Nat.le_of_ble_eq_true rfl))
    replace h := if_f c5 h
    have hz5 := h.1
    replace h := h.2
    refine c_newF S hw q418 hz5.1 hz5.2 (Nat.le_of_ble_eq_true rfl) (Nat.le_of_ble_eq_true rfl) dX0_rowOf_5 (fun o5 a5 H go5 zo5 ea5 hw => ?_)
    replace h := h o5 go5 zo5 a5 ea5
    refine W.widen (k := 1) (n := 24) (Nat.le_of_ble_eq_true rfl) (Nat.le_of_ble_eq_true rfl) ?_
    refine W.widen (k := 3) (n := 1010) (Nat.le_of_ble_eq_true rfl) (Nat.le_of_ble_eq_true rfl) ?_
    exact W.mono (MQ.toT (fun _ _ h9 => Or.inl h9)) (c_aret S hr hlk hw h ⟨_, rfl⟩ dX0_rowOf_7)
theorem ctC_X0_rowOfT (l : Launch) (D : va_G) (dA : Nat → ClassId) (ad : Nat → Nat) (fv : Nat → Value) (A : Nat → Prop) (a : CS) (x0 : Int32) (x1 : Int32) (Q : Nat → CS → Prop) (E : CS → Prop) (hfl : l.flags = flags0) (h : wpC_X0_rowOfT a x0 x1 Q E) : MetT l yX0_rowOf (ws_ yX0_rowOf cX0_rowOf 2 (some (.object "java/lang/Object"))) rmC_X0_rowOfT (cPc D dA ad fv A a [.int x0, .int x1]) (cT (cQr D dA ad fv A Q) (cE D dA ad fv A (exV "java/lang/NegativeArraySizeException") E)) 3 1010 A :=
  c_metT (by decide) rfl rfl rfl (Nat.le_of_ble_eq_true rfl) (fun p e s m below meth c ls S hr hlk hout hw hl => wkC_X0_rowOfT_e S hr hlk hout hfl Q E x0 x1 a _ _ ls h hw hl)
theorem cwC_X0_X0_rowOfT {R : Room} {s : State} {args : Array Value} {rm : Room} (hts : ∀ w ∈ lw_all, w.before args s = true) (hR : rm.frames + 1 ≤ R.frames ∧ 8 + (2 + 11) + rm.locals ≤ R.locals) (hc : rm.cells = 3 := by rfl) (hs : rm.slots = 1010 := by rfl) : CallB R s args RX0 494 yX0_rowOf cX0_rowOf 2 (some (.object "java/lang/Object")) (ws_ yX0_rowOf cX0_rowOf 2 (some (.object "java/lang/Object"))) rm 3 1010 2 ∧ (Cond.static yX0_rowOf).before args s = true :=
  va_cwS 2 hts (lw_S q1117 q1118 q103 q1119) rfl hc hs (by decide +kernel) hR
/-! X0.as -/
abbrev rmC_X0_as : Room := { frames := 8, cells := 3, slots := 1010, locals := 10321 }
def wpC_X0_as (a : CS) (x1 : Int32) (x2 : Int32) (Q : Int32 → CS → Prop) : Prop := wpC_X0_isLeaf a x1 (fun r2 a2 => if r2 = 0 then (Q (-1000000001 : Int32) a2) else (wpC_X0_isIn a2 x2 (0 : Int32) (5 : Int32) (fun r11 a11 => if r11 = 0 then (Q (-1000000001 : Int32) a11) else ((vp_in x1 8) ∧ ((leafK a11 (a11.2.1 41 x1.toNatClampNeg)) ∧ (wpC_X0_takenFor a11 (a11.2.1 41 x1.toNatClampNeg) x2 (fun r32 a32 => (leafK a32 r32) ∧ (Q (a32.1 r32 0) a32)) (fun aE32 => Q (-1000000012 : Int32) aE32)))))))
set_option maxHeartbeats 4000000 in
set_option maxRecDepth 100000 in
theorem wkC_X0_as_e (S : CallFix p m c cX0_as 5 s args lw_all RX0) (hr : meth.sig.returnType = (some .int)) (hlk : meth.locks = false) (hfl : l.flags = flags0) (htb : c.exceptionTable.toList.map (fun h => (h.startPc, h.endPc, h.handlerPc, h.catchType)) = [(30, 38, 39, 371)]) (Q : Int32 → CS → Prop) (x1 : Int32) (x2 : Int32) (a : CS) (H : Heap) (locs : List Loc) (ls : Array Slot) (h : wpC_X0_as a x1 x2 Q) (hw : CW D dA ad fv A a s H locs) (hl : lv_has ls 5 [(0, .ref (ad 0)), (1, .int x1), (2, .int x2)]) : W p l e rmC_X0_as s m args below meth c H locs 0 0 (MQT below (cQi D dA ad fv A Q) args s 3 1010 A) (F0 m 0 ls []) := by
  have hx := S.1
  have hb := S.2.1
  have hown := S.2.2.2.1
  have hts := S.2.2.2.2
  unfold wpC_X0_as at h
  refine lv_aload_n hx hb dX0_as_0 rfl (lv_at hl 0 rfl) ?_
  refine lv_iload_n hx hb dX0_as_1 rfl (lv_at hl 1 rfl) ?_
  refine c_calli hw (va_runV (As := [.int x1]) (rest := []) S (ctC_X0_isLeaf l D dA ad fv A a x1 _ h) (cwC_X0_X0_isLeaf hts ⟨Nat.le_of_ble_eq_true rfl, Nat.le_of_ble_eq_true rfl⟩) (c_preV hw (n := 0) (cOk.s (by decide)) (isO_K _) rfl) rfl rfl hl.1 rfl (lv_room (Nat.le_of_ble_eq_true rfl)) dX0_as_2 ⟨Nat.le_of_ble_eq_true rfl, Nat.le_of_ble_eq_true rfl⟩) (fun r2 a2 H locs h hw => ?_)
  refine lv_if_eq (tgt := 17) hx hb dX0_as_5 (by decide) (fun c5 => ?_) (fun c5 => ?_)
  · replace h := if_t c5 h
    refine lv_ldc hx hb hown (hts _ q435) dX0_as_17 ?_
    refine W.widen (k := 3) (n := 1010) (Nat.le_of_ble_eq_true rfl) (Nat.le_of_ble_eq_true rfl) ?_
    exact W.mono (MQ.toT (fun _ _ h9 => h9)) (c_iret S hr hlk hw h dX0_as_19)
  · replace h := if_f c5 h
    refine lv_iload_n hx hb dX0_as_8 rfl (lv_at hl 2 rfl) ?_
    refine lv_iconst (v := (0 : Int32)) hx hb dX0_as_9 (by decide) ?_
    refine lv_iconst (v := (5 : Int32)) hx hb dX0_as_10 (by decide) ?_
    refine c_calli hw (va_runS (As := [.int x2, .int (0 : Int32), .int (5 : Int32)]) (rest := []) S (ctC_X0_isIn l D dA ad fv A a2 x2 (0 : Int32) (5 : Int32) _ h) (cwC_X0_X0_isIn hts ⟨Nat.le_of_ble_eq_true rfl, Nat.le_of_ble_eq_true rfl⟩) (c_preS hw) rfl rfl hl.1 rfl (lv_room (Nat.le_of_ble_eq_true rfl)) dX0_as_11 ⟨Nat.le_of_ble_eq_true rfl, Nat.le_of_ble_eq_true rfl⟩) (fun r11 a11 H locs h hw => ?_)
    refine lv_if_ne (tgt := 20) hx hb dX0_as_14 (by decide) (fun c14 => ?_) (fun c14 => ?_)
    · replace h := if_f c14 h
      refine lv_aload_n hx hb dX0_as_20 rfl (lv_at hl 0 rfl) ?_
      refine c_get S hw (n := 0) (ci := 0) (cOk.s (by decide)) (isO_K _) rfl in_X0 0 (by decide) (Or.inl q324) rfl rfl dX0_as_21 ?_
      refine c_get S hw (n := 1) (cOk.s (by decide)) ((isO_S (by decide) (by decide)) _) rfl in_X1 2 (by decide) (Or.inr (List.mem_of_getElem? (i := 13) rfl)) rfl rfl dX0_as_24 ?_
      refine lv_iload_n hx hb dX0_as_27 rfl (lv_at hl 1 rfl) ?_
      have hi28 := h.1
      replace h := h.2
      have hk28_0 := h.1
      replace h := h.2
      refine c_aald S hw (n := 41) (cOk.s (by decide)) ((isR_lf (by decide) (by decide)) _) rfl hi28 (rv_n hk28_0.ne) dX0_as_28 ?_
      refine lv_astore_n (lv' := [(3, .ref (ad (a11.2.1 41 x1.toNatClampNeg))), (0, .ref (ad 0)), (1, .int x1), (2, .int x2)]) hx hb dX0_as_29 rfl hl (by decide) rfl (fun ls hl => ?_)
      refine lv_aload_n hx hb dX0_as_30 rfl (lv_at hl 0 rfl) ?_
      refine lv_iload_n hx hb dX0_as_31 rfl (lv_at hl 3 rfl) ?_
      refine c_callTr hw (runTS (As := [.ref (ad (a11.2.1 41 x1.toNatClampNeg)), .int x2]) (rest := []) S (ctC_X0_takenFor l D dA ad fv A a11 (a11.2.1 41 x1.toNatClampNeg) x2 _ _ hfl h) (cwC_X0_X0_takenFor hts ⟨Nat.le_of_ble_eq_true rfl, Nat.le_of_ble_eq_true rfl⟩) (c_preS hw) rfl rfl hl.1 rfl (lv_room (Nat.le_of_ble_eq_true rfl)) dX0_as_32 ⟨Nat.le_of_ble_eq_true rfl, Nat.le_of_ble_eq_true rfl⟩) (fun aE32 H locs h hw => ?_) (fun r32 a32 H locs h hw => ?_)
      · obtain ⟨pre9, post9, x9, htab9, hpre9, hcov9, hh9, ht9⟩ := tab_split (pc := 32) (ps := []) (r := (30, 38, 39, 371)) (qs := []) htb (by decide) (by decide)
        refine c_catchV S hw htab9 hpre9 hcov9 (by rw [ht9]; decide) (by rw [ht9]; exact q853) (fun xa => ?_)
        rw [hh9]
        refine lv_astore (lv' := [(4, .ref xa), (3, .ref (ad (a11.2.1 41 x1.toNatClampNeg))), (0, .ref (ad 0)), (1, .int x1), (2, .int x2)]) hx hb dX0_as_39 hl (by decide) rfl (fun ls hl => ?_)
        refine lv_ldcw hx hb hown (hts _ q883) dX0_as_41 ?_
        exact W.mono (MQ.toT (fun _ _ h9 => h9)) (c_iret S hr hlk hw h dX0_as_44)
      refine W.widen (k := 3) (n := 1010) (Nat.le_of_ble_eq_true rfl) (Nat.le_of_ble_eq_true rfl) ?_
      have hk35_1 := h.1
      replace h := h.2
      refine c_lget S hw hk35_1 0 (by decide) (Or.inl q645) dX0_as_35 ?_
      exact W.mono (MQ.toT (fun _ _ h9 => h9)) (c_iret S hr hlk hw h dX0_as_38)
    · replace h := if_t c14 h
      refine lv_ldc hx hb hown (hts _ q435) dX0_as_17 ?_
      refine W.widen (k := 3) (n := 1010) (Nat.le_of_ble_eq_true rfl) (Nat.le_of_ble_eq_true rfl) ?_
      exact W.mono (MQ.toT (fun _ _ h9 => h9)) (c_iret S hr hlk hw h dX0_as_19)
theorem ctC_X0_as (l : Launch) (D : va_G) (dA : Nat → ClassId) (ad : Nat → Nat) (fv : Nat → Value) (A : Nat → Prop) (a : CS) (x1 : Int32) (x2 : Int32) (Q : Int32 → CS → Prop) (hfl : l.flags = flags0) (h : wpC_X0_as a x1 x2 Q) : MetT l yX0_as (wsW_ yX0_as cX0_as 5 (some .int) [(30, 38, 39, 371)]) rmC_X0_as (cPc D dA ad fv A a [.ref (ad 0), .int x1, .int x2]) (cQi D dA ad fv A Q) 3 1010 A :=
  c_metH (by decide) rfl (Nat.le_of_ble_eq_true rfl) (fun p e s m below meth c ls S hr hlk htb hw hl => wkC_X0_as_e S hr hlk hfl htb Q x1 x2 a _ _ ls h hw hl)
/-! X0.sheet -/
abbrev rmC_X0_sheet : Room := { frames := 8, cells := 3, slots := 1010, locals := 10321 }
def bkC_X0_sheet_61 (Q : Int32 → CS → Prop) (x1 : Int32) (x2 : Int32) (x3 : Int32) : Nat → Int32 → CS → Prop := fun s0 s1 a => wpC_X0_rowOfT a s1 x3 (fun r62 a62 => (shK a62 s0) ∧ ((objK a62 r62) ∧ (∀ a65 : CS, a65 = wR a62 s0 0 r62 → (Q x3 a65)))) (fun aE62 => Q (-1000000014 : Int32) aE62)
set_option maxHeartbeats 4000000 in
set_option maxRecDepth 100000 in
theorem wkC_X0_sheet_61 (S : CallFix p m c cX0_sheet 5 s args lw_all RX0) (hr : meth.sig.returnType = (some .int)) (hlk : meth.locks = false) (hfl : l.flags = flags0) (htb : c.exceptionTable.toList.map (fun h => (h.startPc, h.endPc, h.handlerPc, h.catchType)) = [(45, 69, 70, 498)]) (Q : Int32 → CS → Prop) (x1 : Int32) (x2 : Int32) (x3 : Int32) : ∀ (s0 : Nat) (s1 : Int32) (a : CS) (H : Heap) (locs : List Loc) (ls : Array Slot), bkC_X0_sheet_61 Q x1 x2 x3 s0 s1 a → CW D dA ad fv A a s H locs → lv_has ls 5 [(3, .int x3)] → W p l e rmC_X0_sheet s m args below meth c H locs 0 0 (MQT below (cQi D dA ad fv A Q) args s 3 1010 A) (F0 m 61 ls [.int s1, .ref (ad s0)]) := by
  have hx := S.1
  have hb := S.2.1
  have hown := S.2.2.2.1
  have hts := S.2.2.2.2
  intro s0 s1 a H locs ls h hw hl
  unfold bkC_X0_sheet_61 at h
  refine lv_iload_n hx hb dX0_sheet_61 rfl (lv_at hl 0 rfl) ?_
  refine c_callTr hw (runTS (As := [.int s1, .int x3]) (rest := [.ref (ad s0)]) S (ctC_X0_rowOfT l D dA ad fv A a s1 x3 _ _ hfl h) (cwC_X0_X0_rowOfT hts ⟨Nat.le_of_ble_eq_true rfl, Nat.le_of_ble_eq_true rfl⟩) (c_preS hw) rfl rfl hl.1 rfl (lv_room (Nat.le_of_ble_eq_true rfl)) dX0_sheet_62 ⟨Nat.le_of_ble_eq_true rfl, Nat.le_of_ble_eq_true rfl⟩) (fun aE62 H locs h hw => ?_) (fun r62 a62 H locs h hw => ?_)
  · obtain ⟨pre9, post9, x9, htab9, hpre9, hcov9, hh9, ht9⟩ := tab_split (pc := 62) (ps := []) (r := (45, 69, 70, 498)) (qs := []) htb (by decide) (by decide)
    refine c_catchV S hw htab9 hpre9 hcov9 (by rw [ht9]; decide) (by rw [ht9]; exact q1100) (fun xa => ?_)
    rw [hh9]
    refine lv_astore (lv' := [(4, .ref xa), (3, .int x3)]) hx hb dX0_sheet_70 hl (by decide) rfl (fun ls hl => ?_)
    refine lv_ldcw hx hb hown (hts _ q1120) dX0_sheet_72 ?_
    exact W.mono (MQ.toT (fun _ _ h9 => h9)) (c_iret S hr hlk hw h dX0_sheet_75)
  refine W.widen (k := 3) (n := 1010) (Nat.le_of_ble_eq_true rfl) (Nat.le_of_ble_eq_true rfl) ?_
  have hk65_0 := h.1
  replace h := h.2
  have hk65_1 := h.1
  replace h := h.2
  refine c_putX S hw (n := s0) (x := r62) hk65_0.ne hk65_0.ok hk65_0.isX rfl in_X4 tyX4 tyX4_ok nmX4 (Or.inr (List.mem_of_getElem? (i := 25) rfl)) rfl rfl (rv_n hk65_1.ne).symm rfl dX0_sheet_65 (fun a65 H locs ea65 hw => ?_)
  replace h := h a65 ea65
  refine lv_iload_n hx hb dX0_sheet_68 rfl (lv_at hl 0 rfl) ?_
  exact W.mono (MQ.toT (fun _ _ h9 => h9)) (c_iret S hr hlk hw h dX0_sheet_69)
def bkC_X0_sheet_29 (Q : Int32 → CS → Prop) (x1 : Int32) (x2 : Int32) (x3 : Int32) : CS → Prop := fun a => if 0 ≤ x2 then ((vp_in x1 4) ∧ (if x2 = (1 : Int32) then (bkC_X0_sheet_61 Q x1 x2 x3 (x1.toNatClampNeg + 86) (1 : Int32) a) else (bkC_X0_sheet_61 Q x1 x2 x3 (x1.toNatClampNeg + 86) (0 : Int32) a))) else ((vp_in x1 4) ∧ (∀ a40 : CS, a40 = wR a (x1.toNatClampNeg + 86) 0 0 → (Q (0 : Int32) a40)))
set_option maxHeartbeats 4000000 in
set_option maxRecDepth 100000 in
theorem wkC_X0_sheet_29 (S : CallFix p m c cX0_sheet 5 s args lw_all RX0) (hr : meth.sig.returnType = (some .int)) (hlk : meth.locks = false) (hfl : l.flags = flags0) (htb : c.exceptionTable.toList.map (fun h => (h.startPc, h.endPc, h.handlerPc, h.catchType)) = [(45, 69, 70, 498)]) (Q : Int32 → CS → Prop) (x1 : Int32) (x2 : Int32) (x3 : Int32) : ∀ (a : CS) (H : Heap) (locs : List Loc) (ls : Array Slot), bkC_X0_sheet_29 Q x1 x2 x3 a → CW D dA ad fv A a s H locs → lv_has ls 5 [(0, .ref (ad 0)), (1, .int x1), (2, .int x2), (3, .int x3)] → W p l e rmC_X0_sheet s m args below meth c H locs 0 0 (MQT below (cQi D dA ad fv A Q) args s 3 1010 A) (F0 m 29 ls []) := by
  have hx := S.1
  have hb := S.2.1
  have hown := S.2.2.2.1
  have hts := S.2.2.2.2
  intro  a H locs ls h hw hl
  unfold bkC_X0_sheet_29 at h
  refine lv_iload_n hx hb dX0_sheet_29 rfl (lv_at hl 2 rfl) ?_
  refine lv_if_ge (tgt := 45) hx hb dX0_sheet_30 (by decide) (fun c30 => ?_) (fun c30 => ?_)
  · replace h := if_t c30 h
    refine lv_aload_n hx hb dX0_sheet_45 rfl (lv_at hl 0 rfl) ?_
    refine c_get S hw (n := 0) (ci := 0) (cOk.s (by decide)) (isO_K _) rfl in_X0 25 (by decide) (Or.inl q349) rfl rfl dX0_sheet_46 ?_
    refine lv_iload_n hx hb dX0_sheet_49 rfl (lv_at hl 1 rfl) ?_
    have hi50 := h.1
    replace h := h.2
    refine c_aald S hw (n := 83) (t := 7) (len := 4) (r := fun j => j + 86) (cOk.s (by decide)) rfl rfl hi50 (rv_n (by omega)) dX0_sheet_50 ?_
    refine lv_iload_n hx hb dX0_sheet_51 rfl (lv_at hl 2 rfl) ?_
    refine lv_iconst (v := (1 : Int32)) hx hb dX0_sheet_52 (by decide) ?_
    refine lv_icmp_ne (tgt := 60) hx hb dX0_sheet_53 (by decide) (fun c53 => ?_) (fun c53 => ?_)
    · replace h := if_f c53 h
      refine lv_iconst (v := (0 : Int32)) hx hb dX0_sheet_60 (by decide) ?_
      exact wkC_X0_sheet_61 S hr hlk hfl htb Q x1 x2 x3 _ _ _ _ _ _ h hw (lv_sub hl [3] rfl)
    · replace h := if_t c53 h
      refine lv_iconst (v := (1 : Int32)) hx hb dX0_sheet_56 (by decide) ?_
      refine lv_goto (tgt := 61) hx hb dX0_sheet_57 (by decide) ?_
      exact wkC_X0_sheet_61 S hr hlk hfl htb Q x1 x2 x3 _ _ _ _ _ _ h hw (lv_sub hl [3] rfl)
  · replace h := if_f c30 h
    refine lv_aload_n hx hb dX0_sheet_33 rfl (lv_at hl 0 rfl) ?_
    refine c_get S hw (n := 0) (ci := 0) (cOk.s (by decide)) (isO_K _) rfl in_X0 25 (by decide) (Or.inl q349) rfl rfl dX0_sheet_34 ?_
    refine lv_iload_n hx hb dX0_sheet_37 rfl (lv_at hl 1 rfl) ?_
    have hi38 := h.1
    replace h := h.2
    refine c_aald S hw (n := 83) (t := 7) (len := 4) (r := fun j => j + 86) (cOk.s (by decide)) rfl rfl hi38 (rv_n (by omega)) dX0_sheet_38 ?_
    refine lv_null hx hb dX0_sheet_39 ?_
    refine c_putX S hw (n := (x1.toNatClampNeg + 86)) (x := 0) (by omega) (cOk.s (mem_sheet (by omega) (by have := vin_lt hi38; omega))) (isX_sh (by omega) (by have := vin_lt hi38; omega)) rfl in_X4 tyX4 tyX4_ok nmX4 (Or.inr (List.mem_of_getElem? (i := 25) rfl)) rfl rfl rv_0.symm rfl dX0_sheet_40 (fun a40 H locs ea40 hw => ?_)
    replace h := h a40 ea40
    refine lv_iconst (v := (0 : Int32)) hx hb dX0_sheet_43 (by decide) ?_
    refine W.widen (k := 3) (n := 1010) (Nat.le_of_ble_eq_true rfl) (Nat.le_of_ble_eq_true rfl) ?_
    exact W.mono (MQ.toT (fun _ _ h9 => h9)) (c_iret S hr hlk hw h dX0_sheet_44)
def wpC_X0_sheet (a : CS) (x1 : Int32) (x2 : Int32) (x3 : Int32) (Q : Int32 → CS → Prop) : Prop := wpC_X0_isSheet a x1 (fun r1 a1 => if r1 = 0 then (Q (-1000000001 : Int32) a1) else (wpC_X0_isIn a1 x2 (-1 : Int32) (1 : Int32) (fun r10 a10 => if r10 = 0 then (Q (-1000000001 : Int32) a10) else (if x2 < 0 then (bkC_X0_sheet_29 Q x1 x2 x3 a10) else (if x3 ≤ (24 : Int32) then (bkC_X0_sheet_29 Q x1 x2 x3 a10) else (Q (-1000000001 : Int32) a10))))))
set_option maxHeartbeats 4000000 in
set_option maxRecDepth 100000 in
theorem wkC_X0_sheet_e (S : CallFix p m c cX0_sheet 5 s args lw_all RX0) (hr : meth.sig.returnType = (some .int)) (hlk : meth.locks = false) (hfl : l.flags = flags0) (htb : c.exceptionTable.toList.map (fun h => (h.startPc, h.endPc, h.handlerPc, h.catchType)) = [(45, 69, 70, 498)]) (Q : Int32 → CS → Prop) (x1 : Int32) (x2 : Int32) (x3 : Int32) (a : CS) (H : Heap) (locs : List Loc) (ls : Array Slot) (h : wpC_X0_sheet a x1 x2 x3 Q) (hw : CW D dA ad fv A a s H locs) (hl : lv_has ls 5 [(0, .ref (ad 0)), (1, .int x1), (2, .int x2), (3, .int x3)]) : W p l e rmC_X0_sheet s m args below meth c H locs 0 0 (MQT below (cQi D dA ad fv A Q) args s 3 1010 A) (F0 m 0 ls []) := by
  have hx := S.1
  have hb := S.2.1
  have hown := S.2.2.2.1
  have hts := S.2.2.2.2
  unfold wpC_X0_sheet at h
  refine lv_iload_n hx hb dX0_sheet_0 rfl (lv_at hl 1 rfl) ?_
  refine c_calli hw (va_runS (As := [.int x1]) (rest := []) S (ctC_X0_isSheet l D dA ad fv A a x1 _ h) (cwC_X0_X0_isSheet hts ⟨Nat.le_of_ble_eq_true rfl, Nat.le_of_ble_eq_true rfl⟩) (c_preS hw) rfl rfl hl.1 rfl (lv_room (Nat.le_of_ble_eq_true rfl)) dX0_sheet_1 ⟨Nat.le_of_ble_eq_true rfl, Nat.le_of_ble_eq_true rfl⟩) (fun r1 a1 H locs h hw => ?_)
  refine lv_if_eq (tgt := 26) hx hb dX0_sheet_4 (by decide) (fun c4 => ?_) (fun c4 => ?_)
  · replace h := if_t c4 h
    refine lv_ldc hx hb hown (hts _ q435) dX0_sheet_26 ?_
    refine W.widen (k := 3) (n := 1010) (Nat.le_of_ble_eq_true rfl) (Nat.le_of_ble_eq_true rfl) ?_
    exact W.mono (MQ.toT (fun _ _ h9 => h9)) (c_iret S hr hlk hw h dX0_sheet_28)
  · replace h := if_f c4 h
    refine lv_iload_n hx hb dX0_sheet_7 rfl (lv_at hl 2 rfl) ?_
    refine lv_iconst (v := (-1 : Int32)) hx hb dX0_sheet_8 (by decide) ?_
    refine lv_iconst (v := (1 : Int32)) hx hb dX0_sheet_9 (by decide) ?_
    refine c_calli hw (va_runS (As := [.int x2, .int (-1 : Int32), .int (1 : Int32)]) (rest := []) S (ctC_X0_isIn l D dA ad fv A a1 x2 (-1 : Int32) (1 : Int32) _ h) (cwC_X0_X0_isIn hts ⟨Nat.le_of_ble_eq_true rfl, Nat.le_of_ble_eq_true rfl⟩) (c_preS hw) rfl rfl hl.1 rfl (lv_room (Nat.le_of_ble_eq_true rfl)) dX0_sheet_10 ⟨Nat.le_of_ble_eq_true rfl, Nat.le_of_ble_eq_true rfl⟩) (fun r10 a10 H locs h hw => ?_)
    refine lv_if_eq (tgt := 26) hx hb dX0_sheet_13 (by decide) (fun c13 => ?_) (fun c13 => ?_)
    · replace h := if_t c13 h
      refine lv_ldc hx hb hown (hts _ q435) dX0_sheet_26 ?_
      refine W.widen (k := 3) (n := 1010) (Nat.le_of_ble_eq_true rfl) (Nat.le_of_ble_eq_true rfl) ?_
      exact W.mono (MQ.toT (fun _ _ h9 => h9)) (c_iret S hr hlk hw h dX0_sheet_28)
    · replace h := if_f c13 h
      refine lv_iload_n hx hb dX0_sheet_16 rfl (lv_at hl 2 rfl) ?_
      refine lv_if_lt (tgt := 29) hx hb dX0_sheet_17 (by decide) (fun c17 => ?_) (fun c17 => ?_)
      · replace h := if_t c17 h
        exact wkC_X0_sheet_29 S hr hlk hfl htb Q x1 x2 x3 _ _ _ _ h hw (lv_sub hl [0, 1, 2, 3] rfl)
      · replace h := if_f c17 h
        refine lv_iload_n hx hb dX0_sheet_20 rfl (lv_at hl 3 rfl) ?_
        refine lv_bipush (v := (24 : Int32)) hx hb dX0_sheet_21 (by decide) ?_
        refine lv_icmp_le (tgt := 29) hx hb dX0_sheet_23 (by decide) (fun c23 => ?_) (fun c23 => ?_)
        · replace h := if_t c23 h
          exact wkC_X0_sheet_29 S hr hlk hfl htb Q x1 x2 x3 _ _ _ _ h hw (lv_sub hl [0, 1, 2, 3] rfl)
        · replace h := if_f c23 h
          refine lv_ldc hx hb hown (hts _ q435) dX0_sheet_26 ?_
          refine W.widen (k := 3) (n := 1010) (Nat.le_of_ble_eq_true rfl) (Nat.le_of_ble_eq_true rfl) ?_
          exact W.mono (MQ.toT (fun _ _ h9 => h9)) (c_iret S hr hlk hw h dX0_sheet_28)
theorem ctC_X0_sheet (l : Launch) (D : va_G) (dA : Nat → ClassId) (ad : Nat → Nat) (fv : Nat → Value) (A : Nat → Prop) (a : CS) (x1 : Int32) (x2 : Int32) (x3 : Int32) (Q : Int32 → CS → Prop) (hfl : l.flags = flags0) (h : wpC_X0_sheet a x1 x2 x3 Q) : MetT l yX0_sheet (wsW_ yX0_sheet cX0_sheet 5 (some .int) [(45, 69, 70, 498)]) rmC_X0_sheet (cPc D dA ad fv A a [.ref (ad 0), .int x1, .int x2, .int x3]) (cQi D dA ad fv A Q) 3 1010 A :=
  c_metH (by decide) rfl (Nat.le_of_ble_eq_true rfl) (fun p e s m below meth c ls S hr hlk htb hw hl => wkC_X0_sheet_e S hr hlk hfl htb Q x1 x2 x3 a _ _ ls h hw hl)
/-! X0.ask -/
abbrev rmC_X0_ask : Room := { frames := 8, cells := 3, slots := 1010, locals := 10321 }
def wpC_X0_ask (a : CS) (x1 : Int32) (x2 : Int32) (Q : Int32 → CS → Prop) : Prop := wpC_X0_isSlot a x1 (fun r1 a1 => if r1 = 0 then (Q (-1000000001 : Int32) a1) else (wpC_X0_isIn a1 x2 (0 : Int32) (5 : Int32) (fun r10 a10 => if r10 = 0 then (Q (-1000000001 : Int32) a10) else ((vp_in x1 5) ∧ (if (a10.2.1 (x1.toNatClampNeg + 90) 0) = 0 then (Q (-1000000011 : Int32) a10) else (wpC_X0_takenFor a10 (a10.2.1 (x1.toNatClampNeg + 90) 0) x2 (fun r39 a39 => vwpC_worth a39 r39 (fun r46 a46 => Q r46 a46)) (fun aE39 => Q (-1000000012 : Int32) aE39)))))))
set_option maxHeartbeats 4000000 in
set_option maxRecDepth 100000 in
theorem wkC_X0_ask_e (S : CallFix p m c cX0_ask 5 s args lw_all RX0) (hr : meth.sig.returnType = (some .int)) (hlk : meth.locks = false) (hfl : l.flags = flags0) (htb : c.exceptionTable.toList.map (fun h => (h.startPc, h.endPc, h.handlerPc, h.catchType)) = [(37, 51, 52, 371)]) (Q : Int32 → CS → Prop) (x1 : Int32) (x2 : Int32) (a : CS) (H : Heap) (locs : List Loc) (ls : Array Slot) (h : wpC_X0_ask a x1 x2 Q) (hw : CW D dA ad fv A a s H locs) (hl : lv_has ls 5 [(0, .ref (ad 0)), (1, .int x1), (2, .int x2)]) : W p l e rmC_X0_ask s m args below meth c H locs 0 0 (MQT below (cQi D dA ad fv A Q) args s 3 1010 A) (F0 m 0 ls []) := by
  have hx := S.1
  have hb := S.2.1
  have hown := S.2.2.2.1
  have hts := S.2.2.2.2
  unfold wpC_X0_ask at h
  refine lv_iload_n hx hb dX0_ask_0 rfl (lv_at hl 1 rfl) ?_
  refine c_calli hw (va_runS (As := [.int x1]) (rest := []) S (ctC_X0_isSlot l D dA ad fv A a x1 _ h) (cwC_X0_X0_isSlot hts ⟨Nat.le_of_ble_eq_true rfl, Nat.le_of_ble_eq_true rfl⟩) (c_preS hw) rfl rfl hl.1 rfl (lv_room (Nat.le_of_ble_eq_true rfl)) dX0_ask_1 ⟨Nat.le_of_ble_eq_true rfl, Nat.le_of_ble_eq_true rfl⟩) (fun r1 a1 H locs h hw => ?_)
  refine lv_if_eq (tgt := 16) hx hb dX0_ask_4 (by decide) (fun c4 => ?_) (fun c4 => ?_)
  · replace h := if_t c4 h
    refine lv_ldc hx hb hown (hts _ q435) dX0_ask_16 ?_
    refine W.widen (k := 3) (n := 1010) (Nat.le_of_ble_eq_true rfl) (Nat.le_of_ble_eq_true rfl) ?_
    exact W.mono (MQ.toT (fun _ _ h9 => h9)) (c_iret S hr hlk hw h dX0_ask_18)
  · replace h := if_f c4 h
    refine lv_iload_n hx hb dX0_ask_7 rfl (lv_at hl 2 rfl) ?_
    refine lv_iconst (v := (0 : Int32)) hx hb dX0_ask_8 (by decide) ?_
    refine lv_iconst (v := (5 : Int32)) hx hb dX0_ask_9 (by decide) ?_
    refine c_calli hw (va_runS (As := [.int x2, .int (0 : Int32), .int (5 : Int32)]) (rest := []) S (ctC_X0_isIn l D dA ad fv A a1 x2 (0 : Int32) (5 : Int32) _ h) (cwC_X0_X0_isIn hts ⟨Nat.le_of_ble_eq_true rfl, Nat.le_of_ble_eq_true rfl⟩) (c_preS hw) rfl rfl hl.1 rfl (lv_room (Nat.le_of_ble_eq_true rfl)) dX0_ask_10 ⟨Nat.le_of_ble_eq_true rfl, Nat.le_of_ble_eq_true rfl⟩) (fun r10 a10 H locs h hw => ?_)
    refine lv_if_ne (tgt := 19) hx hb dX0_ask_13 (by decide) (fun c13 => ?_) (fun c13 => ?_)
    · replace h := if_f c13 h
      refine lv_aload_n hx hb dX0_ask_19 rfl (lv_at hl 0 rfl) ?_
      refine c_get S hw (n := 0) (ci := 0) (cOk.s (by decide)) (isO_K _) rfl in_X0 26 (by decide) (Or.inl q350) rfl rfl dX0_ask_20 ?_
      refine lv_iload_n hx hb dX0_ask_23 rfl (lv_at hl 1 rfl) ?_
      have hi24 := h.1
      replace h := h.2
      refine c_aald S hw (n := 84) (t := 8) (len := 5) (r := fun j => j + 90) (cOk.s (by decide)) rfl rfl hi24 (rv_n (by omega)) dX0_ask_24 ?_
      by_cases c25 : (a10.2.1 (x1.toNatClampNeg + 90) 0) = 0
      · replace h := if_t c25 h
        refine c_getn S hw (n := (x1.toNatClampNeg + 90)) (x := (a10.2.1 (x1.toNatClampNeg + 90) 0)) (cOk.s (mem_sheet (by omega) (by have := vin_lt hi24; omega))) ((isO_sl (by omega) (by have := vin_lt hi24; omega)) _) rfl in_X5 0 (by decide) (Or.inr (List.mem_of_getElem? (i := 27) rfl)) rfl rfl c25 dX0_ask_25 ?_
        refine lv_astore_nN (lv' := [(3, .null), (0, .ref (ad 0)), (1, .int x1), (2, .int x2)]) hx hb dX0_ask_28 rfl hl (by decide) rfl (fun ls hl => ?_)
        refine lv_aload_nN hx hb dX0_ask_29 rfl (lv_at hl 0 rfl) ?_
        refine lv_ifnonnullN hx hb dX0_ask_30 ?_
        refine lv_ldcw hx hb hown (hts _ q1130) dX0_ask_33 ?_
        refine W.widen (k := 3) (n := 1010) (Nat.le_of_ble_eq_true rfl) (Nat.le_of_ble_eq_true rfl) ?_
        exact W.mono (MQ.toT (fun _ _ h9 => h9)) (c_iret S hr hlk hw h dX0_ask_36)
      replace h := if_f c25 h
      refine c_getr S hw (n := (x1.toNatClampNeg + 90)) (x := (a10.2.1 (x1.toNatClampNeg + 90) 0)) (cOk.s (mem_sheet (by omega) (by have := vin_lt hi24; omega))) ((isO_sl (by omega) (by have := vin_lt hi24; omega)) _) rfl in_X5 0 (by decide) (Or.inr (List.mem_of_getElem? (i := 27) rfl)) rfl rfl c25 dX0_ask_25 ?_
      refine lv_astore_n (lv' := [(3, .ref (ad (a10.2.1 (x1.toNatClampNeg + 90) 0))), (0, .ref (ad 0)), (1, .int x1), (2, .int x2)]) hx hb dX0_ask_28 rfl hl (by decide) rfl (fun ls hl => ?_)
      refine lv_aload_n hx hb dX0_ask_29 rfl (lv_at hl 0 rfl) ?_
      refine lv_ifnonnull (tgt := 37) hx hb dX0_ask_30 (by decide) ?_
      refine lv_aload_n hx hb dX0_ask_37 rfl (lv_at hl 0 rfl) ?_
      refine lv_iload_n hx hb dX0_ask_38 rfl (lv_at hl 3 rfl) ?_
      refine c_callTr hw (runTS (As := [.ref (ad (a10.2.1 (x1.toNatClampNeg + 90) 0)), .int x2]) (rest := []) S (ctC_X0_takenFor l D dA ad fv A a10 (a10.2.1 (x1.toNatClampNeg + 90) 0) x2 _ _ hfl h) (cwC_X0_X0_takenFor hts ⟨Nat.le_of_ble_eq_true rfl, Nat.le_of_ble_eq_true rfl⟩) (c_preS hw) rfl rfl hl.1 rfl (lv_room (Nat.le_of_ble_eq_true rfl)) dX0_ask_39 ⟨Nat.le_of_ble_eq_true rfl, Nat.le_of_ble_eq_true rfl⟩) (fun aE39 H locs h hw => ?_) (fun r39 a39 H locs h hw => ?_)
      · obtain ⟨pre9, post9, x9, htab9, hpre9, hcov9, hh9, ht9⟩ := tab_split (pc := 39) (ps := []) (r := (37, 51, 52, 371)) (qs := []) htb (by decide) (by decide)
        refine c_catchV S hw htab9 hpre9 hcov9 (by rw [ht9]; decide) (by rw [ht9]; exact q853) (fun xa => ?_)
        rw [hh9]
        refine lv_astore (lv' := [(4, .ref xa), (3, .ref (ad (a10.2.1 (x1.toNatClampNeg + 90) 0))), (0, .ref (ad 0)), (1, .int x1), (2, .int x2)]) hx hb dX0_ask_52 hl (by decide) rfl (fun ls hl => ?_)
        refine lv_ldcw hx hb hown (hts _ q883) dX0_ask_54 ?_
        exact W.mono (MQ.toT (fun _ _ h9 => h9)) (c_iret S hr hlk hw h dX0_ask_57)
      refine W.widen (k := 3) (n := 1010) (Nat.le_of_ble_eq_true rfl) (Nat.le_of_ble_eq_true rfl) ?_
      refine lv_astore (lv' := [(4, .ref (ad r39)), (3, .ref (ad (a10.2.1 (x1.toNatClampNeg + 90) 0))), (0, .ref (ad 0)), (1, .int x1), (2, .int x2)]) hx hb dX0_ask_42 hl (by decide) rfl (fun ls hl => ?_)
      refine lv_aload hx hb dX0_ask_44 (lv_at hl 0 rfl) ?_
      refine c_calliF hw (runF_worth S hw h [] hl.1 rfl (Nat.le_of_ble_eq_true rfl) dX0_ask_46 ⟨Nat.le_of_ble_eq_true rfl, Nat.le_of_ble_eq_true rfl⟩ (Nat.le_of_ble_eq_true rfl) (Nat.le_of_ble_eq_true rfl)) (fun r46 a46 H locs h hw => ?_)
      exact W.mono (MQ.toT (fun _ _ h9 => h9)) (c_iret S hr hlk hw h dX0_ask_51)
    · replace h := if_t c13 h
      refine lv_ldc hx hb hown (hts _ q435) dX0_ask_16 ?_
      refine W.widen (k := 3) (n := 1010) (Nat.le_of_ble_eq_true rfl) (Nat.le_of_ble_eq_true rfl) ?_
      exact W.mono (MQ.toT (fun _ _ h9 => h9)) (c_iret S hr hlk hw h dX0_ask_18)
theorem ctC_X0_ask (l : Launch) (D : va_G) (dA : Nat → ClassId) (ad : Nat → Nat) (fv : Nat → Value) (A : Nat → Prop) (a : CS) (x1 : Int32) (x2 : Int32) (Q : Int32 → CS → Prop) (hfl : l.flags = flags0) (h : wpC_X0_ask a x1 x2 Q) : MetT l yX0_ask (wsW_ yX0_ask cX0_ask 5 (some .int) [(37, 51, 52, 371)]) rmC_X0_ask (cPc D dA ad fv A a [.ref (ad 0), .int x1, .int x2]) (cQi D dA ad fv A Q) 3 1010 A :=
  c_metH (by decide) rfl (Nat.le_of_ble_eq_true rfl) (fun p e s m below meth c ls S hr hlk htb hw hl => wkC_X0_ask_e S hr hlk hfl htb Q x1 x2 a _ _ ls h hw hl)
/-! X0.item -/
abbrev rmC_X0_item : Room := { frames := 7, cells := 3, slots := 1010, locals := 10300 }
def wpC_X0_item (a : CS) (x1 : Int32) (x2 : Int32) (Q : Int32 → CS → Prop) : Prop := wpC_X0_isSlot a x1 (fun r1 a1 => if r1 = 0 then (Q (-1000000001 : Int32) a1) else ((vp_in x1 5) ∧ (if (a1.2.1 (x1.toNatClampNeg + 90) 0) = 0 then (Q (-1000000011 : Int32) a1) else ((heldK a1 (a1.2.1 (x1.toNatClampNeg + 90) 0)) ∧ (if cstT (a1.2.2.1 (a1.2.1 (x1.toNatClampNeg + 90) 0)).1 4 = true then ((shK a1 (a1.2.1 (x1.toNatClampNeg + 90) 0)) ∧ (wpC_X4_size a1 (a1.2.1 (x1.toNatClampNeg + 90) 0) (fun r38 a38 => wpC_X0_isIn a38 x2 (0 : Int32) (r38 - (1 : Int32)) (fun r43 a43 => if r43 = 0 then (Q (-1000000013 : Int32) a43) else ((shK a43 (a1.2.1 (x1.toNatClampNeg + 90) 0)) ∧ (wpC_X4_isNumber a43 (a1.2.1 (x1.toNatClampNeg + 90) 0) x2 (fun r56 a56 => if r56 = 0 then (Q (-1000000012 : Int32) a56) else ((shK a56 (a1.2.1 (x1.toNatClampNeg + 90) 0)) ∧ (wpC_X4_at a56 (a1.2.1 (x1.toNatClampNeg + 90) 0) x2 (fun r65 a65 => Q r65 a65)))))))))) else (Q (-1000000012 : Int32) a1))))))
set_option maxHeartbeats 4000000 in
set_option maxRecDepth 100000 in
theorem wkC_X0_item_e (S : CallFix p m c cX0_item 5 s args lw_all RX0) (hr : meth.sig.returnType = (some .int)) (hlk : meth.locks = false) (hfl : l.flags = flags0) (htb : c.exceptionTable.toList.map (fun h => (h.startPc, h.endPc, h.handlerPc, h.catchType)) = [(28, 52, 75, 371), (53, 74, 75, 371)]) (Q : Int32 → CS → Prop) (x1 : Int32) (x2 : Int32) (a : CS) (H : Heap) (locs : List Loc) (ls : Array Slot) (h : wpC_X0_item a x1 x2 Q) (hw : CW D dA ad fv A a s H locs) (hl : lv_has ls 5 [(0, .ref (ad 0)), (1, .int x1), (2, .int x2)]) : W p l e rmC_X0_item s m args below meth c H locs 0 0 (MQT below (cQi D dA ad fv A Q) args s 3 1010 A) (F0 m 0 ls []) := by
  have hx := S.1
  have hb := S.2.1
  have hown := S.2.2.2.1
  have hts := S.2.2.2.2
  unfold wpC_X0_item at h
  refine lv_iload_n hx hb dX0_item_0 rfl (lv_at hl 1 rfl) ?_
  refine c_calli hw (va_runS (As := [.int x1]) (rest := []) S (ctC_X0_isSlot l D dA ad fv A a x1 _ h) (cwC_X0_X0_isSlot hts ⟨Nat.le_of_ble_eq_true rfl, Nat.le_of_ble_eq_true rfl⟩) (c_preS hw) rfl rfl hl.1 rfl (lv_room (Nat.le_of_ble_eq_true rfl)) dX0_item_1 ⟨Nat.le_of_ble_eq_true rfl, Nat.le_of_ble_eq_true rfl⟩) (fun r1 a1 H locs h hw => ?_)
  refine lv_if_ne (tgt := 10) hx hb dX0_item_4 (by decide) (fun c4 => ?_) (fun c4 => ?_)
  · replace h := if_f c4 h
    refine lv_aload_n hx hb dX0_item_10 rfl (lv_at hl 0 rfl) ?_
    refine c_get S hw (n := 0) (ci := 0) (cOk.s (by decide)) (isO_K _) rfl in_X0 26 (by decide) (Or.inl q350) rfl rfl dX0_item_11 ?_
    refine lv_iload_n hx hb dX0_item_14 rfl (lv_at hl 1 rfl) ?_
    have hi15 := h.1
    replace h := h.2
    refine c_aald S hw (n := 84) (t := 8) (len := 5) (r := fun j => j + 90) (cOk.s (by decide)) rfl rfl hi15 (rv_n (by omega)) dX0_item_15 ?_
    by_cases c16 : (a1.2.1 (x1.toNatClampNeg + 90) 0) = 0
    · replace h := if_t c16 h
      refine c_getn S hw (n := (x1.toNatClampNeg + 90)) (x := (a1.2.1 (x1.toNatClampNeg + 90) 0)) (cOk.s (mem_sheet (by omega) (by have := vin_lt hi15; omega))) ((isO_sl (by omega) (by have := vin_lt hi15; omega)) _) rfl in_X5 0 (by decide) (Or.inr (List.mem_of_getElem? (i := 27) rfl)) rfl rfl c16 dX0_item_16 ?_
      refine lv_astore_nN (lv' := [(3, .null), (0, .ref (ad 0)), (1, .int x1), (2, .int x2)]) hx hb dX0_item_19 rfl hl (by decide) rfl (fun ls hl => ?_)
      refine lv_aload_nN hx hb dX0_item_20 rfl (lv_at hl 0 rfl) ?_
      refine lv_ifnonnullN hx hb dX0_item_21 ?_
      refine lv_ldcw hx hb hown (hts _ q1130) dX0_item_24 ?_
      refine W.widen (k := 3) (n := 1010) (Nat.le_of_ble_eq_true rfl) (Nat.le_of_ble_eq_true rfl) ?_
      exact W.mono (MQ.toT (fun _ _ h9 => h9)) (c_iret S hr hlk hw h dX0_item_27)
    replace h := if_f c16 h
    refine c_getr S hw (n := (x1.toNatClampNeg + 90)) (x := (a1.2.1 (x1.toNatClampNeg + 90) 0)) (cOk.s (mem_sheet (by omega) (by have := vin_lt hi15; omega))) ((isO_sl (by omega) (by have := vin_lt hi15; omega)) _) rfl in_X5 0 (by decide) (Or.inr (List.mem_of_getElem? (i := 27) rfl)) rfl rfl c16 dX0_item_16 ?_
    refine lv_astore_n (lv' := [(3, .ref (ad (a1.2.1 (x1.toNatClampNeg + 90) 0))), (0, .ref (ad 0)), (1, .int x1), (2, .int x2)]) hx hb dX0_item_19 rfl hl (by decide) rfl (fun ls hl => ?_)
    refine lv_aload_n hx hb dX0_item_20 rfl (lv_at hl 0 rfl) ?_
    refine lv_ifnonnull (tgt := 28) hx hb dX0_item_21 (by decide) ?_
    refine lv_aload_n hx hb dX0_item_28 rfl (lv_at hl 0 rfl) ?_
    have hd29 := h.1
    replace h := h.2
    refine c_castT hfl S hw hl.1 (t := 4) (by decide) hd29 q299 dX0_item_29 (Nat.le_of_ble_eq_true rfl) (Nat.le_of_ble_eq_true rfl) (Nat.le_of_ble_eq_true rfl) (Nat.le_of_ble_eq_true rfl) (fun c29 H locs hw => ?_) (fun c29 => ?_)
    · replace h := if_f (by rw [c29]; decide) h
      obtain ⟨pre9, post9, x9, htab9, hpre9, hcov9, hh9, ht9⟩ := tab_split (pc := 29) (ps := []) (r := (28, 52, 75, 371)) (qs := [(53, 74, 75, 371)]) htb (by decide) (by decide)
      refine c_catchV S hw htab9 hpre9 hcov9 (by rw [ht9]; decide) (by rw [ht9]; exact q853) (fun xa => ?_)
      rw [hh9]
      refine lv_astore (lv' := [(4, .ref xa), (3, .ref (ad (a1.2.1 (x1.toNatClampNeg + 90) 0))), (0, .ref (ad 0)), (1, .int x1), (2, .int x2)]) hx hb dX0_item_75 hl (by decide) rfl (fun ls hl => ?_)
      refine lv_ldcw hx hb hown (hts _ q883) dX0_item_77 ?_
      exact W.mono (MQ.toT (fun _ _ h9 => h9)) (c_iret S hr hlk hw h dX0_item_80)
    replace h := if_t c29 h
    refine lv_astore (lv' := [(4, .ref (ad (a1.2.1 (x1.toNatClampNeg + 90) 0))), (3, .ref (ad (a1.2.1 (x1.toNatClampNeg + 90) 0))), (0, .ref (ad 0)), (1, .int x1), (2, .int x2)]) hx hb dX0_item_32 hl (by decide) rfl (fun ls hl => ?_)
    refine lv_iload_n hx hb dX0_item_34 rfl (lv_at hl 4 rfl) ?_
    refine lv_iconst (v := (0 : Int32)) hx hb dX0_item_35 (by decide) ?_
    refine lv_aload hx hb dX0_item_36 (lv_at hl 0 rfl) ?_
    have hk38_0 := h.1
    replace h := h.2
    refine c_calli hw (va_runV (As := []) (rest := [.int (0 : Int32), .int x2]) S (ctC_X4_size l D dA ad fv A a1 (a1.2.1 (x1.toNatClampNeg + 90) 0) _ h) (cwC_X0_X4_size hts ⟨Nat.le_of_ble_eq_true rfl, Nat.le_of_ble_eq_true rfl⟩) (c_preV hw (n := (a1.2.1 (x1.toNatClampNeg + 90) 0)) hk38_0.ok (hk38_0.isO _) rfl) rfl rfl hl.1 rfl (lv_room (Nat.le_of_ble_eq_true rfl)) dX0_item_38 ⟨Nat.le_of_ble_eq_true rfl, Nat.le_of_ble_eq_true rfl⟩) (fun r38 a38 H locs h hw => ?_)
    refine lv_iconst (v := (1 : Int32)) hx hb dX0_item_41 (by decide) ?_
    refine lv_isub hx hb dX0_item_42 ?_
    refine c_calli hw (va_runS (As := [.int x2, .int (0 : Int32), .int (r38 - (1 : Int32))]) (rest := []) S (ctC_X0_isIn l D dA ad fv A a38 x2 (0 : Int32) (r38 - (1 : Int32)) _ h) (cwC_X0_X0_isIn hts ⟨Nat.le_of_ble_eq_true rfl, Nat.le_of_ble_eq_true rfl⟩) (c_preS hw) rfl rfl hl.1 rfl (lv_room (Nat.le_of_ble_eq_true rfl)) dX0_item_43 ⟨Nat.le_of_ble_eq_true rfl, Nat.le_of_ble_eq_true rfl⟩) (fun r43 a43 H locs h hw => ?_)
    refine lv_if_ne (tgt := 53) hx hb dX0_item_46 (by decide) (fun c46 => ?_) (fun c46 => ?_)
    · replace h := if_f c46 h
      refine lv_aload hx hb dX0_item_53 (lv_at hl 0 rfl) ?_
      refine lv_iload_n hx hb dX0_item_55 rfl (lv_at hl 4 rfl) ?_
      have hk56_1 := h.1
      replace h := h.2
      refine c_calli hw (va_runV (As := [.int x2]) (rest := []) S (ctC_X4_isNumber l D dA ad fv A a43 (a1.2.1 (x1.toNatClampNeg + 90) 0) x2 _ h) (cwC_X0_X4_isNumber hts ⟨Nat.le_of_ble_eq_true rfl, Nat.le_of_ble_eq_true rfl⟩) (c_preV hw (n := (a1.2.1 (x1.toNatClampNeg + 90) 0)) hk56_1.ok (hk56_1.isO _) rfl) rfl rfl hl.1 rfl (lv_room (Nat.le_of_ble_eq_true rfl)) dX0_item_56 ⟨Nat.le_of_ble_eq_true rfl, Nat.le_of_ble_eq_true rfl⟩) (fun r56 a56 H locs h hw => ?_)
      refine lv_if_eq (tgt := 71) hx hb dX0_item_59 (by decide) (fun c59 => ?_) (fun c59 => ?_)
      · replace h := if_t c59 h
        refine lv_ldcw hx hb hown (hts _ q883) dX0_item_71 ?_
        refine W.widen (k := 3) (n := 1010) (Nat.le_of_ble_eq_true rfl) (Nat.le_of_ble_eq_true rfl) ?_
        exact W.mono (MQ.toT (fun _ _ h9 => h9)) (c_iret S hr hlk hw h dX0_item_74)
      · replace h := if_f c59 h
        refine lv_aload hx hb dX0_item_62 (lv_at hl 0 rfl) ?_
        refine lv_iload_n hx hb dX0_item_64 rfl (lv_at hl 4 rfl) ?_
        have hk65_2 := h.1
        replace h := h.2
        refine c_calli hw (va_runV (As := [.int x2]) (rest := []) S (ctC_X4_at l D dA ad fv A a56 (a1.2.1 (x1.toNatClampNeg + 90) 0) x2 _ h) (cwC_X0_X4_at hts ⟨Nat.le_of_ble_eq_true rfl, Nat.le_of_ble_eq_true rfl⟩) (c_preV hw (n := (a1.2.1 (x1.toNatClampNeg + 90) 0)) hk65_2.ok (hk65_2.isO _) rfl) rfl rfl hl.1 rfl (lv_room (Nat.le_of_ble_eq_true rfl)) dX0_item_65 ⟨Nat.le_of_ble_eq_true rfl, Nat.le_of_ble_eq_true rfl⟩) (fun r65 a65 H locs h hw => ?_)
        refine lv_goto (tgt := 74) hx hb dX0_item_68 (by decide) ?_
        refine W.widen (k := 3) (n := 1010) (Nat.le_of_ble_eq_true rfl) (Nat.le_of_ble_eq_true rfl) ?_
        exact W.mono (MQ.toT (fun _ _ h9 => h9)) (c_iret S hr hlk hw h dX0_item_74)
    · replace h := if_t c46 h
      refine lv_ldcw hx hb hown (hts _ q1153) dX0_item_49 ?_
      refine W.widen (k := 3) (n := 1010) (Nat.le_of_ble_eq_true rfl) (Nat.le_of_ble_eq_true rfl) ?_
      exact W.mono (MQ.toT (fun _ _ h9 => h9)) (c_iret S hr hlk hw h dX0_item_52)
  · replace h := if_t c4 h
    refine lv_ldc hx hb hown (hts _ q435) dX0_item_7 ?_
    refine W.widen (k := 3) (n := 1010) (Nat.le_of_ble_eq_true rfl) (Nat.le_of_ble_eq_true rfl) ?_
    exact W.mono (MQ.toT (fun _ _ h9 => h9)) (c_iret S hr hlk hw h dX0_item_9)
theorem ctC_X0_item (l : Launch) (D : va_G) (dA : Nat → ClassId) (ad : Nat → Nat) (fv : Nat → Value) (A : Nat → Prop) (a : CS) (x1 : Int32) (x2 : Int32) (Q : Int32 → CS → Prop) (hfl : l.flags = flags0) (h : wpC_X0_item a x1 x2 Q) : MetT l yX0_item (wsW_ yX0_item cX0_item 5 (some .int) [(28, 52, 75, 371), (53, 74, 75, 371)]) rmC_X0_item (cPc D dA ad fv A a [.ref (ad 0), .int x1, .int x2]) (cQi D dA ad fv A Q) 3 1010 A :=
  c_metH (by decide) rfl (Nat.le_of_ble_eq_true rfl) (fun p e s m below meth c ls S hr hlk htb hw hl => wkC_X0_item_e S hr hlk hfl htb Q x1 x2 a _ _ ls h hw hl)
/-! X0.text -/
abbrev rmC_X0_text : Room := { frames := 810, cells := 4, slots := 198, locals := 17616 }
def wpC_X0_text (a : CS) (Q : Int32 → CS → Prop) : Prop := wpC_X0_textRead a (fun r1 a1 => if (a1.1 1 8) = (14 : Int32) then (∀ a22 : CS, a22 = wI a1 0 8 (0 : Int32) → (Q (-1000000003 : Int32) a22)) else ((vp_in (a1.1 1 8) 14) ∧ ((kindK a1 r1 114) ∧ (∀ a42 : CS, a42 = wR a1 61 (a1.1 1 8).toNatClampNeg r1 → (∀ a53 : CS, a53 = wI a42 1 8 ((a42.1 1 8) + (1 : Int32)) → (∀ a68 : CS, a68 = wI a53 0 8 (0 : Int32) → (Q ((a53.1 1 8) - (1 : Int32)) a68))))))) (fun aE1 => ∀ a84 : CS, a84 = wI aE1 0 8 (0 : Int32) → (Q ((-100 : Int32) - (aE1.1 85 6)) a84))
set_option maxHeartbeats 4000000 in
set_option maxRecDepth 100000 in
theorem wkC_X0_text_e (S : CallFix p m c cX0_text 4 s args lw_all RX0) (hr : meth.sig.returnType = (some .int)) (hlk : meth.locks = false) (hfl : l.flags = flags0) (htb : c.exceptionTable.toList.map (fun h => (h.startPc, h.endPc, h.handlerPc, h.catchType)) = [(0, 20, 73, 77), (27, 66, 73, 77), (0, 20, 89, 0), (27, 66, 89, 0), (73, 82, 89, 0)]) (Q : Int32 → CS → Prop) (a : CS) (H : Heap) (locs : List Loc) (ls : Array Slot) (h : wpC_X0_text a Q) (hw : CW D dA ad fv A a s H locs) (hl : lv_has ls 4 [(0, .ref (ad 0))]) : W p l e rmC_X0_text s m args below meth c H locs 0 0 (MQT below (cQi D dA ad fv A Q) args s 4 198 A) (F0 m 0 ls []) := by
  have hx := S.1
  have hb := S.2.1
  have hown := S.2.2.2.1
  have hts := S.2.2.2.2
  unfold wpC_X0_text at h
  refine lv_aload_n hx hb dX0_text_0 rfl (lv_at hl 0 rfl) ?_
  refine c_callTr hw (runTV (As := []) (rest := []) S (ctC_X0_textRead l D dA ad fv A a _ _ h) (cwC_X0_X0_textRead hts ⟨Nat.le_of_ble_eq_true rfl, Nat.le_of_ble_eq_true rfl⟩) (c_preV hw (n := 0) (cOk.s (by decide)) (isO_K _) rfl) rfl rfl hl.1 rfl (lv_room (Nat.le_of_ble_eq_true rfl)) dX0_text_1 ⟨Nat.le_of_ble_eq_true rfl, Nat.le_of_ble_eq_true rfl⟩) (fun aE1 H locs h hw => ?_) (fun r1 a1 H locs h hw => ?_)
  · obtain ⟨pre9, post9, x9, htab9, hpre9, hcov9, hh9, ht9⟩ := tab_split (pc := 1) (ps := []) (r := (0, 20, 73, 77)) (qs := [(27, 66, 73, 77), (0, 20, 89, 0), (27, 66, 89, 0), (73, 82, 89, 0)]) htb (by decide) (by decide)
    refine c_catchF S hw htab9 hpre9 hcov9 (by rw [ht9]; decide) (by rw [ht9]; exact q231) ?_
    rw [hh9]
    refine lv_astore_n (lv' := [(1, .ref (ad 85)), (0, .ref (ad 0))]) hx hb dX0_text_73 rfl hl (by decide) rfl (fun ls hl => ?_)
    refine lv_bipush (v := (-100 : Int32)) hx hb dX0_text_74 (by decide) ?_
    refine lv_aload_n hx hb dX0_text_76 rfl (lv_at hl 0 rfl) ?_
    refine c_get S hw (n := 85) (cOk.s (by decide)) (isO_F _) rfl in_X3 6 (by decide) (Or.inr (List.mem_of_getElem? (i := 23) rfl)) rfl rfl dX0_text_77 ?_
    refine lv_isub hx hb dX0_text_80 ?_
    refine lv_istore_n (lv' := [(2, .int ((-100 : Int32) - (aE1.1 85 6))), (1, .ref (ad 85)), (0, .ref (ad 0))]) hx hb dX0_text_81 rfl hl (by decide) rfl (fun ls hl => ?_)
    refine lv_aload_n hx hb dX0_text_82 rfl (lv_at hl 2 rfl) ?_
    refine lv_iconst (v := (0 : Int32)) hx hb dX0_text_83 (by decide) ?_
    refine c_putI S hw (n := 0) (cOk.s (by decide)) isO_K rfl in_X0 tyX0 tyX0_ok nmX0 8 (by decide) (Or.inl q332) rfl rfl rfl rfl (Nat.le_of_ble_eq_true rfl) (fun _ => kset_8) dX0_text_84 (fun a84 H locs ea84 hw => ?_)
    replace h := h a84 ea84
    refine lv_iload_n hx hb dX0_text_87 rfl (lv_at hl 0 rfl) ?_
    exact W.mono (MQ.toT (fun _ _ h9 => h9)) (c_iret S hr hlk hw h dX0_text_88)
  refine W.widen (k := 4) (n := 198) (Nat.le_of_ble_eq_true rfl) (Nat.le_of_ble_eq_true rfl) ?_
  refine lv_astore_n (lv' := [(1, .ref (ad r1)), (0, .ref (ad 0))]) hx hb dX0_text_4 rfl hl (by decide) rfl (fun ls hl => ?_)
  refine lv_aload_n hx hb dX0_text_5 rfl (lv_at hl 1 rfl) ?_
  refine c_get S hw (n := 0) (ci := 0) (cOk.s (by decide)) (isO_K _) rfl in_X0 0 (by decide) (Or.inl q324) rfl rfl dX0_text_6 ?_
  refine c_get S hw (n := 1) (cOk.s (by decide)) ((isO_S (by decide) (by decide)) _) rfl in_X1 8 (by decide) (Or.inr (List.mem_of_getElem? (i := 19) rfl)) rfl rfl dX0_text_9 ?_
  refine lv_bipush (v := (14 : Int32)) hx hb dX0_text_12 (by decide) ?_
  refine lv_icmp_ne (tgt := 27) hx hb dX0_text_14 (by decide) (fun c14 => ?_) (fun c14 => ?_)
  · replace h := if_f c14 h
    refine lv_aload_n hx hb dX0_text_27 rfl (lv_at hl 1 rfl) ?_
    refine c_get S hw (n := 0) (ci := 0) (cOk.s (by decide)) (isO_K _) rfl in_X0 0 (by decide) (Or.inl q324) rfl rfl dX0_text_28 ?_
    refine c_get S hw (n := 1) (cOk.s (by decide)) ((isO_S (by decide) (by decide)) _) rfl in_X1 9 (by decide) (Or.inr (List.mem_of_getElem? (i := 20) rfl)) rfl rfl dX0_text_31 ?_
    refine lv_aload_n hx hb dX0_text_34 rfl (lv_at hl 1 rfl) ?_
    refine c_get S hw (n := 0) (ci := 0) (cOk.s (by decide)) (isO_K _) rfl in_X0 0 (by decide) (Or.inl q324) rfl rfl dX0_text_35 ?_
    refine c_get S hw (n := 1) (cOk.s (by decide)) ((isO_S (by decide) (by decide)) _) rfl in_X1 8 (by decide) (Or.inr (List.mem_of_getElem? (i := 19) rfl)) rfl rfl dX0_text_38 ?_
    refine lv_aload_n hx hb dX0_text_41 rfl (lv_at hl 0 rfl) ?_
    have hi42 := h.1
    replace h := h.2
    have hk42_0 := h.1
    replace h := h.2
    refine c_aast S hw (n := 61) (by decide) (cOk.s (by decide)) (isR_tx (by decide) (by decide)) rfl hk42_0.ne (hw.any (hk42_0.ok (by decide)) ((isO_T hk42_0) _) rfl self_asg) hi42 dX0_text_42 (fun a42 H locs ea42 hw => ?_)
    replace h := h a42 ea42
    refine lv_aload_n hx hb dX0_text_43 rfl (lv_at hl 1 rfl) ?_
    refine c_get S hw (n := 0) (ci := 0) (cOk.s (by decide)) (isO_K _) rfl in_X0 0 (by decide) (Or.inl q324) rfl rfl dX0_text_44 ?_
    refine lv_dup hx hb dX0_text_47 rfl ?_
    refine c_get S hw (n := 1) (cOk.s (by decide)) ((isO_S (by decide) (by decide)) _) rfl in_X1 8 (by decide) (Or.inr (List.mem_of_getElem? (i := 19) rfl)) rfl rfl dX0_text_48 ?_
    refine lv_iconst (v := (1 : Int32)) hx hb dX0_text_51 (by decide) ?_
    refine lv_iadd hx hb dX0_text_52 ?_
    refine c_putI S hw (n := 1) (cOk.s (by decide)) (isO_S (by decide) (by decide)) rfl in_X1 tyX1 tyX1_ok nmX1 8 (by decide) (Or.inr (List.mem_of_getElem? (i := 19) rfl)) rfl rfl rfl rfl (Nat.le_of_ble_eq_true rfl) (fun _ => sset_8) dX0_text_53 (fun a53 H locs ea53 hw => ?_)
    replace h := h a53 ea53
    refine lv_aload_n hx hb dX0_text_56 rfl (lv_at hl 1 rfl) ?_
    refine c_get S hw (n := 0) (ci := 0) (cOk.s (by decide)) (isO_K _) rfl in_X0 0 (by decide) (Or.inl q324) rfl rfl dX0_text_57 ?_
    refine c_get S hw (n := 1) (cOk.s (by decide)) ((isO_S (by decide) (by decide)) _) rfl in_X1 8 (by decide) (Or.inr (List.mem_of_getElem? (i := 19) rfl)) rfl rfl dX0_text_60 ?_
    refine lv_iconst (v := (1 : Int32)) hx hb dX0_text_63 (by decide) ?_
    refine lv_isub hx hb dX0_text_64 ?_
    refine lv_istore_n (lv' := [(2, .int ((a53.1 1 8) - (1 : Int32))), (1, .ref (ad r1)), (0, .ref (ad 0))]) hx hb dX0_text_65 rfl hl (by decide) rfl (fun ls hl => ?_)
    refine lv_aload_n hx hb dX0_text_66 rfl (lv_at hl 2 rfl) ?_
    refine lv_iconst (v := (0 : Int32)) hx hb dX0_text_67 (by decide) ?_
    refine c_putI S hw (n := 0) (cOk.s (by decide)) isO_K rfl in_X0 tyX0 tyX0_ok nmX0 8 (by decide) (Or.inl q332) rfl rfl rfl rfl (Nat.le_of_ble_eq_true rfl) (fun _ => kset_8) dX0_text_68 (fun a68 H locs ea68 hw => ?_)
    replace h := h a68 ea68
    refine lv_iload_n hx hb dX0_text_71 rfl (lv_at hl 0 rfl) ?_
    exact W.mono (MQ.toT (fun _ _ h9 => h9)) (c_iret S hr hlk hw h dX0_text_72)
  · replace h := if_t c14 h
    refine lv_ldc hx hb hown (hts _ q423) dX0_text_17 ?_
    refine lv_istore_n (lv' := [(2, .int (-1000000003 : Int32)), (1, .ref (ad r1)), (0, .ref (ad 0))]) hx hb dX0_text_19 rfl hl (by decide) rfl (fun ls hl => ?_)
    refine lv_aload_n hx hb dX0_text_20 rfl (lv_at hl 2 rfl) ?_
    refine lv_iconst (v := (0 : Int32)) hx hb dX0_text_21 (by decide) ?_
    refine c_putI S hw (n := 0) (cOk.s (by decide)) isO_K rfl in_X0 tyX0 tyX0_ok nmX0 8 (by decide) (Or.inl q332) rfl rfl rfl rfl (Nat.le_of_ble_eq_true rfl) (fun _ => kset_8) dX0_text_22 (fun a22 H locs ea22 hw => ?_)
    replace h := h a22 ea22
    refine lv_iload_n hx hb dX0_text_25 rfl (lv_at hl 0 rfl) ?_
    exact W.mono (MQ.toT (fun _ _ h9 => h9)) (c_iret S hr hlk hw h dX0_text_26)
theorem ctC_X0_text (l : Launch) (D : va_G) (dA : Nat → ClassId) (ad : Nat → Nat) (fv : Nat → Value) (A : Nat → Prop) (a : CS) (Q : Int32 → CS → Prop) (hfl : l.flags = flags0) (h : wpC_X0_text a Q) : MetT l yX0_text (wsW_ yX0_text cX0_text 4 (some .int) [(0, 20, 73, 77), (27, 66, 73, 77), (0, 20, 89, 0), (27, 66, 89, 0), (73, 82, 89, 0)]) rmC_X0_text (cPc D dA ad fv A a [.ref (ad 0)]) (cQi D dA ad fv A Q) 4 198 A :=
  c_metH (by decide) rfl (Nat.le_of_ble_eq_true rfl) (fun p e s m below meth c ls S hr hlk htb hw hl => wkC_X0_text_e S hr hlk hfl htb Q a _ _ ls h hw hl)
end CWalk

section CWalk
variable {p : Program} {l : Launch} {e : Env} {s : State} {m : MethodId} {args : Array Value} {below : List Frame} {meth : Method} {c : Code} {D : va_G} {dA : Nat → ClassId} {ad : Nat → Nat} {fv : Nat → Value} {A : Nat → Prop}
/-! X7.copy -/
abbrev rmC_X7_copy : Room := { frames := 8, cells := 1, slots := 4, locals := 300 }
def wpC_X7_copy (a : CS) (n0 : Nat) (Q : Nat → CS → Prop) : Prop := vwpC_another a n0 (fun r1 a1 => vwpC_takes a1 r1 n0 (fun a7 => Q r1 a7))
set_option maxHeartbeats 4000000 in
set_option maxRecDepth 100000 in
theorem wkC_X7_copy_e (S : CallFix p m c cX7_copy 2 s args lw_all RX7) (hr : meth.sig.returnType = (some (.object "KeptLeaves$Leaf"))) (hlk : meth.locks = false) (Q : Nat → CS → Prop) (n0 : Nat) (a : CS) (H : Heap) (locs : List Loc) (ls : Array Slot) (h : wpC_X7_copy a n0 Q) (hw : CW D dA ad fv A a s H locs) (hl : lv_has ls 2 [(0, .ref (ad n0))]) : W p l e rmC_X7_copy s m args below meth c H locs 0 0 (MQ below (cQr D dA ad fv A Q) args s 1 4 A) (F0 m 0 ls []) := by
  have hx := S.1
  have hb := S.2.1
  have hown := S.2.2.2.1
  have hts := S.2.2.2.2
  unfold wpC_X7_copy at h
  refine lv_aload_n hx hb dX7_copy_0 rfl (lv_at hl 0 rfl) ?_
  refine c_callr hw (runL_X7_another S hw h [] hl.1 rfl (Nat.le_of_ble_eq_true rfl) dX7_copy_1 ⟨Nat.le_of_ble_eq_true rfl, Nat.le_of_ble_eq_true rfl⟩ (Nat.le_of_ble_eq_true rfl) (Nat.le_of_ble_eq_true rfl)) (fun r1 a1 H locs h hw => ?_)
  refine W.widen (k := 1) (n := 4) (Nat.le_of_ble_eq_true rfl) (Nat.le_of_ble_eq_true rfl) ?_
  refine lv_astore_n (lv' := [(1, .ref (ad r1)), (0, .ref (ad n0))]) hx hb dX7_copy_4 rfl hl (by decide) rfl (fun ls hl => ?_)
  refine lv_aload_n hx hb dX7_copy_5 rfl (lv_at hl 0 rfl) ?_
  refine lv_aload_n hx hb dX7_copy_6 rfl (lv_at hl 1 rfl) ?_
  refine c_callv hw (runL_X7_takes S hw h [] hl.1 rfl (Nat.le_of_ble_eq_true rfl) dX7_copy_7 ⟨Nat.le_of_ble_eq_true rfl, Nat.le_of_ble_eq_true rfl⟩ (Nat.le_of_ble_eq_true rfl) (Nat.le_of_ble_eq_true rfl)) (fun a7 H locs h hw => ?_)
  refine lv_aload_n hx hb dX7_copy_10 rfl (lv_at hl 0 rfl) ?_
  exact c_aret S hr hlk hw h ⟨_, rfl⟩ dX7_copy_11
theorem ctC_X7_copy (l : Launch) (D : va_G) (dA : Nat → ClassId) (ad : Nat → Nat) (fv : Nat → Value) (A : Nat → Prop) (a : CS) (n0 : Nat) (Q : Nat → CS → Prop) (h : wpC_X7_copy a n0 Q) : Met l yX7_copy (ws_ yX7_copy cX7_copy 2 (some (.object "KeptLeaves$Leaf"))) rmC_X7_copy (cPc D dA ad fv A a [.ref (ad n0)]) (cQr D dA ad fv A Q) 1 4 A :=
  c_met (by decide) rfl rfl rfl (Nat.le_of_ble_eq_true rfl) (fun p e s m below meth c ls S hr hlk hin2 hw hl => wkC_X7_copy_e S hr hlk Q n0 a _ _ ls h hw hl)
/-! X0.comes -/
abbrev rmC_X0_comes : Room := { frames := 5, cells := 1, slots := 4, locals := 100 }
def wpC_X0_comes (a : CS) (x1 : Int32) (x2 : Int32) (x3 : Int32) (x4 : Int32) (Q : Int32 → CS → Prop) : Prop := wpC_X0_leafOf a x1 (fun r19 a19 => (vp_in (a.1 1 1) 8) ∧ ((leafK a19 r19) ∧ (∀ a22 : CS, a22 = wR a19 41 (a.1 1 1).toNatClampNeg r19 → ((vp_in (a.1 1 1) 8) ∧ ((leafK a22 (a22.2.1 41 (a.1 1 1).toNatClampNeg)) ∧ (∀ a34 : CS, a34 = wI a22 (a22.2.1 41 (a.1 1 1).toNatClampNeg) 0 x2 → ((vp_in (a.1 1 1) 8) ∧ ((leafK a34 (a34.2.1 41 (a.1 1 1).toNatClampNeg)) ∧ (∀ a48 : CS, a48 = wI a34 (a34.2.1 41 (a.1 1 1).toNatClampNeg) 1 x3 → ((vp_in (a.1 1 1) 8) ∧ ((leafK a48 (a48.2.1 41 (a.1 1 1).toNatClampNeg)) ∧ (∀ a63 : CS, a63 = wI a48 (a48.2.1 41 (a.1 1 1).toNatClampNeg) 3 x4 → ((vp_in (a.1 1 1) 8) ∧ (∀ a79 : CS, a79 = wI a63 24 (a.1 1 1).toNatClampNeg (0 : Int32) → ((vp_in (a.1 1 1) 8) ∧ (∀ a93 : CS, a93 = wI a79 34 (a.1 1 1).toNatClampNeg (0 : Int32) → (∀ a104 : CS, a104 = wI a93 1 1 ((a93.1 1 1) + (1 : Int32)) → (Q (a.1 1 1) a104))))))))))))))))))
set_option maxHeartbeats 4000000 in
set_option maxRecDepth 100000 in
theorem wkC_X0_comes_e (S : CallFix p m c cX0_comes 6 s args lw_all RX0) (hr : meth.sig.returnType = (some .int)) (hlk : meth.locks = false) (Q : Int32 → CS → Prop) (x1 : Int32) (x2 : Int32) (x3 : Int32) (x4 : Int32) (a : CS) (H : Heap) (locs : List Loc) (ls : Array Slot) (h : wpC_X0_comes a x1 x2 x3 x4 Q) (hw : CW D dA ad fv A a s H locs) (hl : lv_has ls 6 [(0, .ref (ad 0)), (1, .int x1), (2, .int x2), (3, .int x3), (4, .int x4)]) : W p l e rmC_X0_comes s m args below meth c H locs 0 0 (MQ below (cQi D dA ad fv A Q) args s 1 4 A) (F0 m 0 ls []) := by
  have hx := S.1
  have hb := S.2.1
  have hown := S.2.2.2.1
  have hts := S.2.2.2.2
  unfold wpC_X0_comes at h
  refine lv_aload_n hx hb dX0_comes_0 rfl (lv_at hl 0 rfl) ?_
  refine c_get S hw (n := 0) (ci := 0) (cOk.s (by decide)) (isO_K _) rfl in_X0 0 (by decide) (Or.inl q324) rfl rfl dX0_comes_1 ?_
  refine c_get S hw (n := 1) (cOk.s (by decide)) ((isO_S (by decide) (by decide)) _) rfl in_X1 1 (by decide) (Or.inr (List.mem_of_getElem? (i := 12) rfl)) rfl rfl dX0_comes_4 ?_
  refine lv_istore (lv' := [(5, .int (a.1 1 1)), (0, .ref (ad 0)), (1, .int x1), (2, .int x2), (3, .int x3), (4, .int x4)]) hx hb dX0_comes_7 hl (by decide) rfl (fun ls hl => ?_)
  refine lv_aload_n hx hb dX0_comes_9 rfl (lv_at hl 1 rfl) ?_
  refine c_get S hw (n := 0) (ci := 0) (cOk.s (by decide)) (isO_K _) rfl in_X0 0 (by decide) (Or.inl q324) rfl rfl dX0_comes_10 ?_
  refine c_get S hw (n := 1) (cOk.s (by decide)) ((isO_S (by decide) (by decide)) _) rfl in_X1 2 (by decide) (Or.inr (List.mem_of_getElem? (i := 13) rfl)) rfl rfl dX0_comes_13 ?_
  refine lv_iload hx hb dX0_comes_16 (lv_at hl 0 rfl) ?_
  refine lv_iload_n hx hb dX0_comes_18 rfl (lv_at hl 2 rfl) ?_
  refine c_callr hw (va_runS (As := [.int x1]) (rest := [.int (a.1 1 1), .ref (ad 41)]) S (ctC_X0_leafOf l D dA ad fv A a x1 _ h) (cwC_X0_X0_leafOf hts ⟨Nat.le_of_ble_eq_true rfl, Nat.le_of_ble_eq_true rfl⟩) (c_preS hw) rfl rfl hl.1 rfl (lv_room (Nat.le_of_ble_eq_true rfl)) dX0_comes_19 ⟨Nat.le_of_ble_eq_true rfl, Nat.le_of_ble_eq_true rfl⟩) (fun r19 a19 H locs h hw => ?_)
  refine W.widen (k := 1) (n := 4) (Nat.le_of_ble_eq_true rfl) (Nat.le_of_ble_eq_true rfl) ?_
  have hi22 := h.1
  replace h := h.2
  have hk22_0 := h.1
  replace h := h.2
  refine c_aast S hw (n := 41) (by decide) (cOk.s (by decide)) (isR_lf (by decide) (by decide)) rfl hk22_0.ne (c_anyL hw hk22_0) hi22 dX0_comes_22 (fun a22 H locs ea22 hw => ?_)
  replace h := h a22 ea22
  refine lv_aload_n hx hb dX0_comes_23 rfl (lv_at hl 1 rfl) ?_
  refine c_get S hw (n := 0) (ci := 0) (cOk.s (by decide)) (isO_K _) rfl in_X0 0 (by decide) (Or.inl q324) rfl rfl dX0_comes_24 ?_
  refine c_get S hw (n := 1) (cOk.s (by decide)) ((isO_S (by decide) (by decide)) _) rfl in_X1 2 (by decide) (Or.inr (List.mem_of_getElem? (i := 13) rfl)) rfl rfl dX0_comes_27 ?_
  refine lv_iload hx hb dX0_comes_30 (lv_at hl 0 rfl) ?_
  have hi32 := h.1
  replace h := h.2
  have hk32_1 := h.1
  replace h := h.2
  refine c_aald S hw (n := 41) (cOk.s (by decide)) ((isR_lf (by decide) (by decide)) _) rfl hi32 (rv_n hk32_1.ne) dX0_comes_32 ?_
  refine lv_iload_n hx hb dX0_comes_33 rfl (lv_at hl 3 rfl) ?_
  refine c_lput S hw hk32_1 0 (by decide) (Or.inl q645) dX0_comes_34 (fun a34 H locs ea34 hw => ?_)
  replace h := h a34 ea34
  refine lv_aload_n hx hb dX0_comes_37 rfl (lv_at hl 1 rfl) ?_
  refine c_get S hw (n := 0) (ci := 0) (cOk.s (by decide)) (isO_K _) rfl in_X0 0 (by decide) (Or.inl q324) rfl rfl dX0_comes_38 ?_
  refine c_get S hw (n := 1) (cOk.s (by decide)) ((isO_S (by decide) (by decide)) _) rfl in_X1 2 (by decide) (Or.inr (List.mem_of_getElem? (i := 13) rfl)) rfl rfl dX0_comes_41 ?_
  refine lv_iload hx hb dX0_comes_44 (lv_at hl 0 rfl) ?_
  have hi46 := h.1
  replace h := h.2
  have hk46_2 := h.1
  replace h := h.2
  refine c_aald S hw (n := 41) (cOk.s (by decide)) ((isR_lf (by decide) (by decide)) _) rfl hi46 (rv_n hk46_2.ne) dX0_comes_46 ?_
  refine lv_iload_n hx hb dX0_comes_47 rfl (lv_at hl 4 rfl) ?_
  refine c_lput S hw hk46_2 1 (by decide) (Or.inl q647) dX0_comes_48 (fun a48 H locs ea48 hw => ?_)
  replace h := h a48 ea48
  refine lv_aload_n hx hb dX0_comes_51 rfl (lv_at hl 1 rfl) ?_
  refine c_get S hw (n := 0) (ci := 0) (cOk.s (by decide)) (isO_K _) rfl in_X0 0 (by decide) (Or.inl q324) rfl rfl dX0_comes_52 ?_
  refine c_get S hw (n := 1) (cOk.s (by decide)) ((isO_S (by decide) (by decide)) _) rfl in_X1 2 (by decide) (Or.inr (List.mem_of_getElem? (i := 13) rfl)) rfl rfl dX0_comes_55 ?_
  refine lv_iload hx hb dX0_comes_58 (lv_at hl 0 rfl) ?_
  have hi60 := h.1
  replace h := h.2
  have hk60_3 := h.1
  replace h := h.2
  refine c_aald S hw (n := 41) (cOk.s (by decide)) ((isR_lf (by decide) (by decide)) _) rfl hi60 (rv_n hk60_3.ne) dX0_comes_60 ?_
  refine lv_iload hx hb dX0_comes_61 (lv_at hl 5 rfl) ?_
  refine c_lput S hw hk60_3 3 (by decide) (Or.inl q653) dX0_comes_63 (fun a63 H locs ea63 hw => ?_)
  replace h := h a63 ea63
  refine lv_aload_n hx hb dX0_comes_66 rfl (lv_at hl 1 rfl) ?_
  refine c_get S hw (n := 0) (ci := 0) (cOk.s (by decide)) (isO_K _) rfl in_X0 0 (by decide) (Or.inl q324) rfl rfl dX0_comes_67 ?_
  refine c_get S hw (n := 1) (cOk.s (by decide)) ((isO_S (by decide) (by decide)) _) rfl in_X1 0 (by decide) (Or.inr (List.mem_of_getElem? (i := 11) rfl)) rfl rfl dX0_comes_70 ?_
  refine c_get S hw (n := 4) (cOk.s (by decide)) ((isO_H (by decide) (by decide)) _) rfl in_X2 6 (by decide) (Or.inr (List.mem_of_getElem? (i := 9) rfl)) rfl rfl dX0_comes_73 ?_
  refine lv_iload hx hb dX0_comes_76 (lv_at hl 0 rfl) ?_
  refine lv_iconst (v := (0 : Int32)) hx hb dX0_comes_78 (by decide) ?_
  have hi79 := h.1
  replace h := h.2
  refine c_ast S hw (n := 24) (by decide) (cOk.s (by decide)) (isA_8 (by decide) (by decide)) hi79 (Or.inl ⟨rfl, rfl, dX0_comes_79⟩) (fun a79 H locs ea79 hw => ?_)
  replace h := h a79 ea79
  refine lv_aload_n hx hb dX0_comes_80 rfl (lv_at hl 1 rfl) ?_
  refine c_get S hw (n := 0) (ci := 0) (cOk.s (by decide)) (isO_K _) rfl in_X0 0 (by decide) (Or.inl q324) rfl rfl dX0_comes_81 ?_
  refine c_get S hw (n := 1) (cOk.s (by decide)) ((isO_S (by decide) (by decide)) _) rfl in_X1 0 (by decide) (Or.inr (List.mem_of_getElem? (i := 11) rfl)) rfl rfl dX0_comes_84 ?_
  refine c_get S hw (n := 4) (cOk.s (by decide)) ((isO_H (by decide) (by decide)) _) rfl in_X2 7 (by decide) (Or.inr (List.mem_of_getElem? (i := 10) rfl)) rfl rfl dX0_comes_87 ?_
  refine lv_iload hx hb dX0_comes_90 (lv_at hl 0 rfl) ?_
  refine lv_iconst (v := (0 : Int32)) hx hb dX0_comes_92 (by decide) ?_
  have hi93 := h.1
  replace h := h.2
  refine c_ast S hw (n := 34) (by decide) (cOk.s (by decide)) (isA_8 (by decide) (by decide)) hi93 (Or.inl ⟨rfl, rfl, dX0_comes_93⟩) (fun a93 H locs ea93 hw => ?_)
  replace h := h a93 ea93
  refine lv_aload_n hx hb dX0_comes_94 rfl (lv_at hl 1 rfl) ?_
  refine c_get S hw (n := 0) (ci := 0) (cOk.s (by decide)) (isO_K _) rfl in_X0 0 (by decide) (Or.inl q324) rfl rfl dX0_comes_95 ?_
  refine lv_dup hx hb dX0_comes_98 rfl ?_
  refine c_get S hw (n := 1) (cOk.s (by decide)) ((isO_S (by decide) (by decide)) _) rfl in_X1 1 (by decide) (Or.inr (List.mem_of_getElem? (i := 12) rfl)) rfl rfl dX0_comes_99 ?_
  refine lv_iconst (v := (1 : Int32)) hx hb dX0_comes_102 (by decide) ?_
  refine lv_iadd hx hb dX0_comes_103 ?_
  refine c_putI S hw (n := 1) (cOk.s (by decide)) (isO_S (by decide) (by decide)) rfl in_X1 tyX1 tyX1_ok nmX1 1 (by decide) (Or.inr (List.mem_of_getElem? (i := 12) rfl)) rfl rfl rfl rfl (Nat.le_of_ble_eq_true rfl) (fun _ => sset_1) dX0_comes_104 (fun a104 H locs ea104 hw => ?_)
  replace h := h a104 ea104
  refine lv_iload hx hb dX0_comes_107 (lv_at hl 0 rfl) ?_
  exact c_iret S hr hlk hw h dX0_comes_109
theorem ctC_X0_comes (l : Launch) (D : va_G) (dA : Nat → ClassId) (ad : Nat → Nat) (fv : Nat → Value) (A : Nat → Prop) (a : CS) (x1 : Int32) (x2 : Int32) (x3 : Int32) (x4 : Int32) (Q : Int32 → CS → Prop) (h : wpC_X0_comes a x1 x2 x3 x4 Q) : Met l yX0_comes (ws_ yX0_comes cX0_comes 6 (some .int)) rmC_X0_comes (cPc D dA ad fv A a [.ref (ad 0), .int x1, .int x2, .int x3, .int x4]) (cQi D dA ad fv A Q) 1 4 A :=
  c_met (by decide) rfl rfl rfl (Nat.le_of_ble_eq_true rfl) (fun p e s m below meth c ls S hr hlk hin2 hw hl => wkC_X0_comes_e S hr hlk Q x1 x2 x3 x4 a _ _ ls h hw hl)
theorem cwC_X0_X0_comes {R : Room} {s : State} {args : Array Value} {rm : Room} (hts : ∀ w ∈ lw_all, w.before args s = true) (hR : rm.frames + 1 ≤ R.frames ∧ 8 + (6 + 11) + rm.locals ≤ R.locals) (hc : rm.cells = 1 := by rfl) (hs : rm.slots = 4 := by rfl) : CallW R s args RX0 RX0 317 yX0_comes cX0_comes 6 (some .int) (ws_ yX0_comes cX0_comes 6 (some .int)) rm 1 4 4 :=
  cwV 4 hts (lw_V q626 q628 qs19 q103 q629) rfl hc hs (by decide +kernel) hR
/-! X0.turns -/
abbrev rmC_X0_turns : Room := { frames := 8, cells := 1, slots := 4, locals := 300 }
def wpC_X0_turns (a : CS) (x1 : Int32) (x2 : Int32) (Q : Int32 → CS → Prop) : Prop := wpC_X0_isLeaf a x1 (fun r2 a2 => if r2 = 0 then (Q (-1000000001 : Int32) a2) else (wpC_X0_isIn a2 x2 (0 : Int32) (5 : Int32) (fun r11 a11 => if r11 = 0 then (Q (-1000000001 : Int32) a11) else ((vp_in x1 8) ∧ ((leafK a11 (a11.2.1 41 x1.toNatClampNeg)) ∧ (wpC_X0_leafOf a11 x2 (fun r39 a39 => (vp_in x1 8) ∧ ((leafK a39 r39) ∧ (∀ a42 : CS, a42 = wR a39 41 x1.toNatClampNeg r39 → ((vp_in x1 8) ∧ ((leafK a42 (a42.2.1 41 x1.toNatClampNeg)) ∧ (vwpC_takes a42 (a42.2.1 41 x1.toNatClampNeg) (a11.2.1 41 x1.toNatClampNeg) (fun a53 => vwpC_kind a53 (a11.2.1 41 x1.toNatClampNeg) (fun r57 a57 => Q r57 a57))))))))))))))
set_option maxHeartbeats 4000000 in
set_option maxRecDepth 100000 in
theorem wkC_X0_turns_e (S : CallFix p m c cX0_turns 4 s args lw_all RX0) (hr : meth.sig.returnType = (some .int)) (hlk : meth.locks = false) (Q : Int32 → CS → Prop) (x1 : Int32) (x2 : Int32) (a : CS) (H : Heap) (locs : List Loc) (ls : Array Slot) (h : wpC_X0_turns a x1 x2 Q) (hw : CW D dA ad fv A a s H locs) (hl : lv_has ls 4 [(0, .ref (ad 0)), (1, .int x1), (2, .int x2)]) : W p l e rmC_X0_turns s m args below meth c H locs 0 0 (MQ below (cQi D dA ad fv A Q) args s 1 4 A) (F0 m 0 ls []) := by
  have hx := S.1
  have hb := S.2.1
  have hown := S.2.2.2.1
  have hts := S.2.2.2.2
  unfold wpC_X0_turns at h
  refine lv_aload_n hx hb dX0_turns_0 rfl (lv_at hl 0 rfl) ?_
  refine lv_iload_n hx hb dX0_turns_1 rfl (lv_at hl 1 rfl) ?_
  refine c_calli hw (va_runV (As := [.int x1]) (rest := []) S (ctC_X0_isLeaf l D dA ad fv A a x1 _ h) (cwC_X0_X0_isLeaf hts ⟨Nat.le_of_ble_eq_true rfl, Nat.le_of_ble_eq_true rfl⟩) (c_preV hw (n := 0) (cOk.s (by decide)) (isO_K _) rfl) rfl rfl hl.1 rfl (lv_room (Nat.le_of_ble_eq_true rfl)) dX0_turns_2 ⟨Nat.le_of_ble_eq_true rfl, Nat.le_of_ble_eq_true rfl⟩) (fun r2 a2 H locs h hw => ?_)
  refine lv_if_eq (tgt := 17) hx hb dX0_turns_5 (by decide) (fun c5 => ?_) (fun c5 => ?_)
  · replace h := if_t c5 h
    refine lv_ldc hx hb hown (hts _ q435) dX0_turns_17 ?_
    refine W.widen (k := 1) (n := 4) (Nat.le_of_ble_eq_true rfl) (Nat.le_of_ble_eq_true rfl) ?_
    exact c_iret S hr hlk hw h dX0_turns_19
  · replace h := if_f c5 h
    refine lv_iload_n hx hb dX0_turns_8 rfl (lv_at hl 2 rfl) ?_
    refine lv_iconst (v := (0 : Int32)) hx hb dX0_turns_9 (by decide) ?_
    refine lv_iconst (v := (5 : Int32)) hx hb dX0_turns_10 (by decide) ?_
    refine c_calli hw (va_runS (As := [.int x2, .int (0 : Int32), .int (5 : Int32)]) (rest := []) S (ctC_X0_isIn l D dA ad fv A a2 x2 (0 : Int32) (5 : Int32) _ h) (cwC_X0_X0_isIn hts ⟨Nat.le_of_ble_eq_true rfl, Nat.le_of_ble_eq_true rfl⟩) (c_preS hw) rfl rfl hl.1 rfl (lv_room (Nat.le_of_ble_eq_true rfl)) dX0_turns_11 ⟨Nat.le_of_ble_eq_true rfl, Nat.le_of_ble_eq_true rfl⟩) (fun r11 a11 H locs h hw => ?_)
    refine lv_if_ne (tgt := 20) hx hb dX0_turns_14 (by decide) (fun c14 => ?_) (fun c14 => ?_)
    · replace h := if_f c14 h
      refine lv_aload_n hx hb dX0_turns_20 rfl (lv_at hl 0 rfl) ?_
      refine c_get S hw (n := 0) (ci := 0) (cOk.s (by decide)) (isO_K _) rfl in_X0 0 (by decide) (Or.inl q324) rfl rfl dX0_turns_21 ?_
      refine c_get S hw (n := 1) (cOk.s (by decide)) ((isO_S (by decide) (by decide)) _) rfl in_X1 2 (by decide) (Or.inr (List.mem_of_getElem? (i := 13) rfl)) rfl rfl dX0_turns_24 ?_
      refine lv_iload_n hx hb dX0_turns_27 rfl (lv_at hl 1 rfl) ?_
      have hi28 := h.1
      replace h := h.2
      have hk28_0 := h.1
      replace h := h.2
      refine c_aald S hw (n := 41) (cOk.s (by decide)) ((isR_lf (by decide) (by decide)) _) rfl hi28 (rv_n hk28_0.ne) dX0_turns_28 ?_
      refine lv_astore_n (lv' := [(3, .ref (ad (a11.2.1 41 x1.toNatClampNeg))), (0, .ref (ad 0)), (1, .int x1), (2, .int x2)]) hx hb dX0_turns_29 rfl hl (by decide) rfl (fun ls hl => ?_)
      refine lv_aload_n hx hb dX0_turns_30 rfl (lv_at hl 1 rfl) ?_
      refine c_get S hw (n := 0) (ci := 0) (cOk.s (by decide)) (isO_K _) rfl in_X0 0 (by decide) (Or.inl q324) rfl rfl dX0_turns_31 ?_
      refine c_get S hw (n := 1) (cOk.s (by decide)) ((isO_S (by decide) (by decide)) _) rfl in_X1 2 (by decide) (Or.inr (List.mem_of_getElem? (i := 13) rfl)) rfl rfl dX0_turns_34 ?_
      refine lv_iload_n hx hb dX0_turns_37 rfl (lv_at hl 2 rfl) ?_
      refine lv_iload_n hx hb dX0_turns_38 rfl (lv_at hl 3 rfl) ?_
      refine c_callr hw (va_runS (As := [.int x2]) (rest := [.int x1, .ref (ad 41)]) S (ctC_X0_leafOf l D dA ad fv A a11 x2 _ h) (cwC_X0_X0_leafOf hts ⟨Nat.le_of_ble_eq_true rfl, Nat.le_of_ble_eq_true rfl⟩) (c_preS hw) rfl rfl hl.1 rfl (lv_room (Nat.le_of_ble_eq_true rfl)) dX0_turns_39 ⟨Nat.le_of_ble_eq_true rfl, Nat.le_of_ble_eq_true rfl⟩) (fun r39 a39 H locs h hw => ?_)
      refine W.widen (k := 1) (n := 4) (Nat.le_of_ble_eq_true rfl) (Nat.le_of_ble_eq_true rfl) ?_
      have hi42 := h.1
      replace h := h.2
      have hk42_1 := h.1
      replace h := h.2
      refine c_aast S hw (n := 41) (by decide) (cOk.s (by decide)) (isR_lf (by decide) (by decide)) rfl hk42_1.ne (c_anyL hw hk42_1) hi42 dX0_turns_42 (fun a42 H locs ea42 hw => ?_)
      replace h := h a42 ea42
      refine lv_aload_n hx hb dX0_turns_43 rfl (lv_at hl 1 rfl) ?_
      refine c_get S hw (n := 0) (ci := 0) (cOk.s (by decide)) (isO_K _) rfl in_X0 0 (by decide) (Or.inl q324) rfl rfl dX0_turns_44 ?_
      refine c_get S hw (n := 1) (cOk.s (by decide)) ((isO_S (by decide) (by decide)) _) rfl in_X1 2 (by decide) (Or.inr (List.mem_of_getElem? (i := 13) rfl)) rfl rfl dX0_turns_47 ?_
      refine lv_iload_n hx hb dX0_turns_50 rfl (lv_at hl 2 rfl) ?_
      have hi51 := h.1
      replace h := h.2
      have hk51_2 := h.1
      replace h := h.2
      refine c_aald S hw (n := 41) (cOk.s (by decide)) ((isR_lf (by decide) (by decide)) _) rfl hi51 (rv_n hk51_2.ne) dX0_turns_51 ?_
      refine lv_aload_n hx hb dX0_turns_52 rfl (lv_at hl 0 rfl) ?_
      refine c_callv hw (runL_X0_takes S hw h [] hl.1 rfl (Nat.le_of_ble_eq_true rfl) dX0_turns_53 ⟨Nat.le_of_ble_eq_true rfl, Nat.le_of_ble_eq_true rfl⟩ (Nat.le_of_ble_eq_true rfl) (Nat.le_of_ble_eq_true rfl)) (fun a53 H locs h hw => ?_)
      refine lv_aload_n hx hb dX0_turns_56 rfl (lv_at hl 0 rfl) ?_
      refine c_calli hw (runL_X0_kind S hw h [] hl.1 rfl (Nat.le_of_ble_eq_true rfl) dX0_turns_57 ⟨Nat.le_of_ble_eq_true rfl, Nat.le_of_ble_eq_true rfl⟩ (Nat.le_of_ble_eq_true rfl) (Nat.le_of_ble_eq_true rfl)) (fun r57 a57 H locs h hw => ?_)
      exact c_iret S hr hlk hw h dX0_turns_60
    · replace h := if_t c14 h
      refine lv_ldc hx hb hown (hts _ q435) dX0_turns_17 ?_
      refine W.widen (k := 1) (n := 4) (Nat.le_of_ble_eq_true rfl) (Nat.le_of_ble_eq_true rfl) ?_
      exact c_iret S hr hlk hw h dX0_turns_19
theorem ctC_X0_turns (l : Launch) (D : va_G) (dA : Nat → ClassId) (ad : Nat → Nat) (fv : Nat → Value) (A : Nat → Prop) (a : CS) (x1 : Int32) (x2 : Int32) (Q : Int32 → CS → Prop) (h : wpC_X0_turns a x1 x2 Q) : Met l yX0_turns (ws_ yX0_turns cX0_turns 4 (some .int)) rmC_X0_turns (cPc D dA ad fv A a [.ref (ad 0), .int x1, .int x2]) (cQi D dA ad fv A Q) 1 4 A :=
  c_met (by decide) rfl rfl rfl (Nat.le_of_ble_eq_true rfl) (fun p e s m below meth c ls S hr hlk hin2 hw hl => wkC_X0_turns_e S hr hlk Q x1 x2 a _ _ ls h hw hl)
/-! X0.leaf -/
abbrev rmC_X0_leaf : Room := { frames := 6, cells := 1, slots := 4, locals := 125 }
def bkC_X0_leaf_79 (Q : Int32 → CS → Prop) (x1 : Int32) (x2 : Int32) (x3 : Int32) (x4 : Int32) : Int32 → Int32 → Int32 → Int32 → CS → Prop := fun s1 s2 s3 s4 a => wpC_X0_comes a s1 s2 s3 s4 (fun r79 a79 => Q r79 a79)
set_option maxHeartbeats 4000000 in
set_option maxRecDepth 100000 in
theorem wkC_X0_leaf_79 (S : CallFix p m c cX0_leaf 5 s args lw_all RX0) (hr : meth.sig.returnType = (some .int)) (hlk : meth.locks = false) (Q : Int32 → CS → Prop) (x1 : Int32) (x2 : Int32) (x3 : Int32) (x4 : Int32) : ∀ (s1 : Int32) (s2 : Int32) (s3 : Int32) (s4 : Int32) (a : CS) (H : Heap) (locs : List Loc) (ls : Array Slot), bkC_X0_leaf_79 Q x1 x2 x3 x4 s1 s2 s3 s4 a → CW D dA ad fv A a s H locs → lv_has ls 5 [] → W p l e rmC_X0_leaf s m args below meth c H locs 0 0 (MQ below (cQi D dA ad fv A Q) args s 1 4 A) (F0 m 79 ls [.int s4, .int s3, .int s2, .int s1, .ref (ad 0)]) := by
  have hx := S.1
  have hb := S.2.1
  have hown := S.2.2.2.1
  have hts := S.2.2.2.2
  intro s1 s2 s3 s4 a H locs ls h hw hl
  unfold bkC_X0_leaf_79 at h
  refine c_calli hw (va_runV (As := [.int s1, .int s2, .int s3, .int s4]) (rest := []) S (ctC_X0_comes l D dA ad fv A a s1 s2 s3 s4 _ h) (cwC_X0_X0_comes hts ⟨Nat.le_of_ble_eq_true rfl, Nat.le_of_ble_eq_true rfl⟩) (c_preV hw (n := 0) (cOk.s (by decide)) (isO_K _) rfl) rfl rfl hl.1 rfl (lv_room (Nat.le_of_ble_eq_true rfl)) dX0_leaf_79 ⟨Nat.le_of_ble_eq_true rfl, Nat.le_of_ble_eq_true rfl⟩) (fun r79 a79 H locs h hw => ?_)
  refine W.widen (k := 1) (n := 4) (Nat.le_of_ble_eq_true rfl) (Nat.le_of_ble_eq_true rfl) ?_
  exact c_iret S hr hlk hw h dX0_leaf_82
def bkC_X0_leaf_45 (Q : Int32 → CS → Prop) (x1 : Int32) (x2 : Int32) (x3 : Int32) (x4 : Int32) : CS → Prop := fun a => if (a.1 1 1) = (8 : Int32) then (Q (-1000000003 : Int32) a) else (if x4 = (-1000000005 : Int32) then (bkC_X0_leaf_79 Q x1 x2 x3 x4 x1 x2 x3 (-1 : Int32) a) else (bkC_X0_leaf_79 Q x1 x2 x3 x4 x1 x2 x3 x4 a))
set_option maxHeartbeats 4000000 in
set_option maxRecDepth 100000 in
theorem wkC_X0_leaf_45 (S : CallFix p m c cX0_leaf 5 s args lw_all RX0) (hr : meth.sig.returnType = (some .int)) (hlk : meth.locks = false) (Q : Int32 → CS → Prop) (x1 : Int32) (x2 : Int32) (x3 : Int32) (x4 : Int32) : ∀ (a : CS) (H : Heap) (locs : List Loc) (ls : Array Slot), bkC_X0_leaf_45 Q x1 x2 x3 x4 a → CW D dA ad fv A a s H locs → lv_has ls 5 [(0, .ref (ad 0)), (1, .int x1), (2, .int x2), (3, .int x3), (4, .int x4)] → W p l e rmC_X0_leaf s m args below meth c H locs 0 0 (MQ below (cQi D dA ad fv A Q) args s 1 4 A) (F0 m 45 ls []) := by
  have hx := S.1
  have hb := S.2.1
  have hown := S.2.2.2.1
  have hts := S.2.2.2.2
  intro  a H locs ls h hw hl
  unfold bkC_X0_leaf_45 at h
  refine lv_aload_n hx hb dX0_leaf_45 rfl (lv_at hl 0 rfl) ?_
  refine c_get S hw (n := 0) (ci := 0) (cOk.s (by decide)) (isO_K _) rfl in_X0 0 (by decide) (Or.inl q324) rfl rfl dX0_leaf_46 ?_
  refine c_get S hw (n := 1) (cOk.s (by decide)) ((isO_S (by decide) (by decide)) _) rfl in_X1 1 (by decide) (Or.inr (List.mem_of_getElem? (i := 12) rfl)) rfl rfl dX0_leaf_49 ?_
  refine lv_bipush (v := (8 : Int32)) hx hb dX0_leaf_52 (by decide) ?_
  refine lv_icmp_ne (tgt := 62) hx hb dX0_leaf_54 (by decide) (fun c54 => ?_) (fun c54 => ?_)
  · replace h := if_f c54 h
    refine lv_aload_n hx hb dX0_leaf_62 rfl (lv_at hl 0 rfl) ?_
    refine lv_iload_n hx hb dX0_leaf_63 rfl (lv_at hl 1 rfl) ?_
    refine lv_iload_n hx hb dX0_leaf_64 rfl (lv_at hl 2 rfl) ?_
    refine lv_iload_n hx hb dX0_leaf_65 rfl (lv_at hl 3 rfl) ?_
    refine lv_iload hx hb dX0_leaf_66 (lv_at hl 4 rfl) ?_
    refine lv_ldc hx hb hown (hts _ q614) dX0_leaf_68 ?_
    refine lv_icmp_ne (tgt := 77) hx hb dX0_leaf_70 (by decide) (fun c70 => ?_) (fun c70 => ?_)
    · replace h := if_f c70 h
      refine lv_iload hx hb dX0_leaf_77 (lv_at hl 4 rfl) ?_
      exact wkC_X0_leaf_79 S hr hlk Q x1 x2 x3 x4 _ _ _ _ _ _ _ _ h hw (lv_sub hl [] rfl)
    · replace h := if_t c70 h
      refine lv_iconst (v := (-1 : Int32)) hx hb dX0_leaf_73 (by decide) ?_
      refine lv_goto (tgt := 79) hx hb dX0_leaf_74 (by decide) ?_
      exact wkC_X0_leaf_79 S hr hlk Q x1 x2 x3 x4 _ _ _ _ _ _ _ _ h hw (lv_sub hl [] rfl)
  · replace h := if_t c54 h
    refine lv_ldc hx hb hown (hts _ q423) dX0_leaf_57 ?_
    refine lv_goto (tgt := 82) hx hb dX0_leaf_59 (by decide) ?_
    refine W.widen (k := 1) (n := 4) (Nat.le_of_ble_eq_true rfl) (Nat.le_of_ble_eq_true rfl) ?_
    exact c_iret S hr hlk hw h dX0_leaf_82
def wpC_X0_leaf (a : CS) (x1 : Int32) (x2 : Int32) (x3 : Int32) (x4 : Int32) (Q : Int32 → CS → Prop) : Prop := wpC_X0_isIn a x1 (0 : Int32) (5 : Int32) (fun r3 a3 => if r3 = 0 then (Q (-1000000001 : Int32) a3) else (wpC_X0_isSize a3 x2 (fun r10 a10 => if r10 = 0 then (Q (-1000000001 : Int32) a10) else (wpC_X0_isIn a10 x3 (0 : Int32) (99 : Int32) (fun r20 a20 => if r20 = 0 then (Q (-1000000001 : Int32) a20) else (if x4 = (-1000000005 : Int32) then (bkC_X0_leaf_45 Q x1 x2 x3 x4 a20) else (wpC_X0_isLeaf a20 x4 (fun r36 a36 => if r36 = 0 then (Q (-1000000001 : Int32) a36) else (bkC_X0_leaf_45 Q x1 x2 x3 x4 a36)))))))))
set_option maxHeartbeats 4000000 in
set_option maxRecDepth 100000 in
theorem wkC_X0_leaf_e (S : CallFix p m c cX0_leaf 5 s args lw_all RX0) (hr : meth.sig.returnType = (some .int)) (hlk : meth.locks = false) (Q : Int32 → CS → Prop) (x1 : Int32) (x2 : Int32) (x3 : Int32) (x4 : Int32) (a : CS) (H : Heap) (locs : List Loc) (ls : Array Slot) (h : wpC_X0_leaf a x1 x2 x3 x4 Q) (hw : CW D dA ad fv A a s H locs) (hl : lv_has ls 5 [(0, .ref (ad 0)), (1, .int x1), (2, .int x2), (3, .int x3), (4, .int x4)]) : W p l e rmC_X0_leaf s m args below meth c H locs 0 0 (MQ below (cQi D dA ad fv A Q) args s 1 4 A) (F0 m 0 ls []) := by
  have hx := S.1
  have hb := S.2.1
  have hown := S.2.2.2.1
  have hts := S.2.2.2.2
  unfold wpC_X0_leaf at h
  refine lv_iload_n hx hb dX0_leaf_0 rfl (lv_at hl 1 rfl) ?_
  refine lv_iconst (v := (0 : Int32)) hx hb dX0_leaf_1 (by decide) ?_
  refine lv_iconst (v := (5 : Int32)) hx hb dX0_leaf_2 (by decide) ?_
  refine c_calli hw (va_runS (As := [.int x1, .int (0 : Int32), .int (5 : Int32)]) (rest := []) S (ctC_X0_isIn l D dA ad fv A a x1 (0 : Int32) (5 : Int32) _ h) (cwC_X0_X0_isIn hts ⟨Nat.le_of_ble_eq_true rfl, Nat.le_of_ble_eq_true rfl⟩) (c_preS hw) rfl rfl hl.1 rfl (lv_room (Nat.le_of_ble_eq_true rfl)) dX0_leaf_3 ⟨Nat.le_of_ble_eq_true rfl, Nat.le_of_ble_eq_true rfl⟩) (fun r3 a3 H locs h hw => ?_)
  refine lv_if_eq (tgt := 42) hx hb dX0_leaf_6 (by decide) (fun c6 => ?_) (fun c6 => ?_)
  · replace h := if_t c6 h
    refine lv_ldc hx hb hown (hts _ q435) dX0_leaf_42 ?_
    refine W.widen (k := 1) (n := 4) (Nat.le_of_ble_eq_true rfl) (Nat.le_of_ble_eq_true rfl) ?_
    exact c_iret S hr hlk hw h dX0_leaf_44
  · replace h := if_f c6 h
    refine lv_iload_n hx hb dX0_leaf_9 rfl (lv_at hl 2 rfl) ?_
    refine c_calli hw (va_runS (As := [.int x2]) (rest := []) S (ctC_X0_isSize l D dA ad fv A a3 x2 _ h) (cwC_X0_X0_isSize hts ⟨Nat.le_of_ble_eq_true rfl, Nat.le_of_ble_eq_true rfl⟩) (c_preS hw) rfl rfl hl.1 rfl (lv_room (Nat.le_of_ble_eq_true rfl)) dX0_leaf_10 ⟨Nat.le_of_ble_eq_true rfl, Nat.le_of_ble_eq_true rfl⟩) (fun r10 a10 H locs h hw => ?_)
    refine lv_if_eq (tgt := 42) hx hb dX0_leaf_13 (by decide) (fun c13 => ?_) (fun c13 => ?_)
    · replace h := if_t c13 h
      refine lv_ldc hx hb hown (hts _ q435) dX0_leaf_42 ?_
      refine W.widen (k := 1) (n := 4) (Nat.le_of_ble_eq_true rfl) (Nat.le_of_ble_eq_true rfl) ?_
      exact c_iret S hr hlk hw h dX0_leaf_44
    · replace h := if_f c13 h
      refine lv_iload_n hx hb dX0_leaf_16 rfl (lv_at hl 3 rfl) ?_
      refine lv_iconst (v := (0 : Int32)) hx hb dX0_leaf_17 (by decide) ?_
      refine lv_bipush (v := (99 : Int32)) hx hb dX0_leaf_18 (by decide) ?_
      refine c_calli hw (va_runS (As := [.int x3, .int (0 : Int32), .int (99 : Int32)]) (rest := []) S (ctC_X0_isIn l D dA ad fv A a10 x3 (0 : Int32) (99 : Int32) _ h) (cwC_X0_X0_isIn hts ⟨Nat.le_of_ble_eq_true rfl, Nat.le_of_ble_eq_true rfl⟩) (c_preS hw) rfl rfl hl.1 rfl (lv_room (Nat.le_of_ble_eq_true rfl)) dX0_leaf_20 ⟨Nat.le_of_ble_eq_true rfl, Nat.le_of_ble_eq_true rfl⟩) (fun r20 a20 H locs h hw => ?_)
      refine lv_if_eq (tgt := 42) hx hb dX0_leaf_23 (by decide) (fun c23 => ?_) (fun c23 => ?_)
      · replace h := if_t c23 h
        refine lv_ldc hx hb hown (hts _ q435) dX0_leaf_42 ?_
        refine W.widen (k := 1) (n := 4) (Nat.le_of_ble_eq_true rfl) (Nat.le_of_ble_eq_true rfl) ?_
        exact c_iret S hr hlk hw h dX0_leaf_44
      · replace h := if_f c23 h
        refine lv_iload hx hb dX0_leaf_26 (lv_at hl 4 rfl) ?_
        refine lv_ldc hx hb hown (hts _ q614) dX0_leaf_28 ?_
        refine lv_icmp_eq (tgt := 45) hx hb dX0_leaf_30 (by decide) (fun c30 => ?_) (fun c30 => ?_)
        · replace h := if_t c30 h
          exact wkC_X0_leaf_45 S hr hlk Q x1 x2 x3 x4 _ _ _ _ h hw (lv_sub hl [0, 1, 2, 3, 4] rfl)
        · replace h := if_f c30 h
          refine lv_aload_n hx hb dX0_leaf_33 rfl (lv_at hl 0 rfl) ?_
          refine lv_iload hx hb dX0_leaf_34 (lv_at hl 4 rfl) ?_
          refine c_calli hw (va_runV (As := [.int x4]) (rest := []) S (ctC_X0_isLeaf l D dA ad fv A a20 x4 _ h) (cwC_X0_X0_isLeaf hts ⟨Nat.le_of_ble_eq_true rfl, Nat.le_of_ble_eq_true rfl⟩) (c_preV hw (n := 0) (cOk.s (by decide)) (isO_K _) rfl) rfl rfl hl.1 rfl (lv_room (Nat.le_of_ble_eq_true rfl)) dX0_leaf_36 ⟨Nat.le_of_ble_eq_true rfl, Nat.le_of_ble_eq_true rfl⟩) (fun r36 a36 H locs h hw => ?_)
          refine lv_if_ne (tgt := 45) hx hb dX0_leaf_39 (by decide) (fun c39 => ?_) (fun c39 => ?_)
          · replace h := if_f c39 h
            exact wkC_X0_leaf_45 S hr hlk Q x1 x2 x3 x4 _ _ _ _ h hw (lv_sub hl [0, 1, 2, 3, 4] rfl)
          · replace h := if_t c39 h
            refine lv_ldc hx hb hown (hts _ q435) dX0_leaf_42 ?_
            refine W.widen (k := 1) (n := 4) (Nat.le_of_ble_eq_true rfl) (Nat.le_of_ble_eq_true rfl) ?_
            exact c_iret S hr hlk hw h dX0_leaf_44
theorem ctC_X0_leaf (l : Launch) (D : va_G) (dA : Nat → ClassId) (ad : Nat → Nat) (fv : Nat → Value) (A : Nat → Prop) (a : CS) (x1 : Int32) (x2 : Int32) (x3 : Int32) (x4 : Int32) (Q : Int32 → CS → Prop) (h : wpC_X0_leaf a x1 x2 x3 x4 Q) : Met l yX0_leaf (ws_ yX0_leaf cX0_leaf 5 (some .int)) rmC_X0_leaf (cPc D dA ad fv A a [.ref (ad 0), .int x1, .int x2, .int x3, .int x4]) (cQi D dA ad fv A Q) 1 4 A :=
  c_met (by decide) rfl rfl rfl (Nat.le_of_ble_eq_true rfl) (fun p e s m below meth c ls S hr hlk hin2 hw hl => wkC_X0_leaf_e S hr hlk Q x1 x2 x3 x4 a _ _ ls h hw hl)
/-! X1.takesLeaf -/
abbrev rmC_X1_takesLeaf : Room := { frames := 8, cells := 1, slots := 4, locals := 300 }
def bkC_X1_takesLeaf_35 (Q : CS → Prop) (n0 : Nat) (x1 : Int32) (x2 : Nat) : CS → Prop := fun a => (vp_in x1 8) ∧ ((leafK a (a.2.1 (n0 + 40) x1.toNatClampNeg)) ∧ (vwpC_takes a (a.2.1 (n0 + 40) x1.toNatClampNeg) x2 (fun a42 => Q a42)))
set_option maxHeartbeats 4000000 in
set_option maxRecDepth 100000 in
theorem wkC_X1_takesLeaf_35 (S : CallFix p m c cX1_takesLeaf 3 s args lw_all RX1) (hr : meth.sig.returnType = none) (hlk : meth.locks = false) (Q : CS → Prop) (n0 : Nat) (x1 : Int32) (x2 : Nat) (hn0 : 1 ≤ n0 ∧ n0 ≤ 3) : ∀ (a : CS) (H : Heap) (locs : List Loc) (ls : Array Slot), bkC_X1_takesLeaf_35 Q n0 x1 x2 a → CW D dA ad fv A a s H locs → lv_has ls 3 [(0, .ref (ad n0)), (1, .int x1), (2, .ref (ad x2))] → W p l e rmC_X1_takesLeaf s m args below meth c H locs 1 4 (MQ below (cQv D dA ad fv A Q) args s 1 4 A) (F0 m 35 ls []) := by
  have hx := S.1
  have hb := S.2.1
  have hown := S.2.2.2.1
  have hts := S.2.2.2.2
  intro  a H locs ls h hw hl
  unfold bkC_X1_takesLeaf_35 at h
  refine lv_aload_n hx hb dX1_takesLeaf_35 rfl (lv_at hl 0 rfl) ?_
  refine c_get S hw (n := n0) (cOk.s (mem_st hn0.1 hn0.2)) ((isO_S hn0.1 hn0.2) _) rfl in_X1 2 (by decide) (Or.inl q192) rfl rfl dX1_takesLeaf_36 ?_
  refine lv_iload_n hx hb dX1_takesLeaf_39 rfl (lv_at hl 1 rfl) ?_
  have hi40 := h.1
  replace h := h.2
  have hk40_0 := h.1
  replace h := h.2
  refine c_aald S hw (n := (n0 + 40)) (cOk.s (mem_lf hn0.1 hn0.2)) ((isR_lf (by have q1 := hn0.1; have q2 := hn0.2; omega) (by have q1 := hn0.1; have q2 := hn0.2; omega)) _) rfl hi40 (rv_n hk40_0.ne) dX1_takesLeaf_40 ?_
  refine lv_aload_n hx hb dX1_takesLeaf_41 rfl (lv_at hl 2 rfl) ?_
  refine c_callv hw (runL_X1_takes S hw h [] hl.1 rfl (Nat.le_of_ble_eq_true rfl) dX1_takesLeaf_42 ⟨Nat.le_of_ble_eq_true rfl, Nat.le_of_ble_eq_true rfl⟩ (Nat.le_of_ble_eq_true rfl) (Nat.le_of_ble_eq_true rfl)) (fun a42 H locs h hw => ?_)
  exact c_vret S hr hlk hw h dX1_takesLeaf_45
def wpC_X1_takesLeaf (a : CS) (n0 : Nat) (x1 : Int32) (x2 : Nat) (Q : CS → Prop) : Prop := (1 ≤ n0 ∧ n0 ≤ 3) ∧ (vp_in x1 8) ∧ (if (a.2.1 (n0 + 40) x1.toNatClampNeg) = 0 then (vwpC_another a x2 (fun r31 a31 => (vp_in x1 8) ∧ ((leafK a31 r31) ∧ (∀ a34 : CS, a34 = wR a31 (n0 + 40) x1.toNatClampNeg r31 → (bkC_X1_takesLeaf_35 Q n0 x1 x2 a34))))) else ((vp_in x1 8) ∧ ((leafK a (a.2.1 (n0 + 40) x1.toNatClampNeg)) ∧ (vwpC_kind a (a.2.1 (n0 + 40) x1.toNatClampNeg) (fun r15 a15 => vwpC_kind a15 x2 (fun r19 a19 => if r15 = r19 then (bkC_X1_takesLeaf_35 Q n0 x1 x2 a19) else (vwpC_another a19 x2 (fun r31 a31 => (vp_in x1 8) ∧ ((leafK a31 r31) ∧ (∀ a34 : CS, a34 = wR a31 (n0 + 40) x1.toNatClampNeg r31 → (bkC_X1_takesLeaf_35 Q n0 x1 x2 a34)))))))))))
set_option maxHeartbeats 4000000 in
set_option maxRecDepth 100000 in
theorem wkC_X1_takesLeaf_e (S : CallFix p m c cX1_takesLeaf 3 s args lw_all RX1) (hr : meth.sig.returnType = none) (hlk : meth.locks = false) (Q : CS → Prop) (n0 : Nat) (x1 : Int32) (x2 : Nat) (a : CS) (H : Heap) (locs : List Loc) (ls : Array Slot) (h : wpC_X1_takesLeaf a n0 x1 x2 Q) (hw : CW D dA ad fv A a s H locs) (hl : lv_has ls 3 [(0, .ref (ad n0)), (1, .int x1), (2, .ref (ad x2))]) : W p l e rmC_X1_takesLeaf s m args below meth c H locs 0 0 (MQ below (cQv D dA ad fv A Q) args s 1 4 A) (F0 m 0 ls []) := by
  have hx := S.1
  have hb := S.2.1
  have hown := S.2.2.2.1
  have hts := S.2.2.2.2
  unfold wpC_X1_takesLeaf at h
  obtain ⟨hn0, h⟩ := h
  refine lv_aload_n hx hb dX1_takesLeaf_0 rfl (lv_at hl 0 rfl) ?_
  refine c_get S hw (n := n0) (cOk.s (mem_st hn0.1 hn0.2)) ((isO_S hn0.1 hn0.2) _) rfl in_X1 2 (by decide) (Or.inl q192) rfl rfl dX1_takesLeaf_1 ?_
  refine lv_iload_n hx hb dX1_takesLeaf_4 rfl (lv_at hl 1 rfl) ?_
  have hi5 := h.1
  replace h := h.2
  by_cases c5 : (a.2.1 (n0 + 40) x1.toNatClampNeg) = 0
  · replace h := if_t c5 h
    refine c_aald S hw (n := (n0 + 40)) (cOk.s (mem_lf hn0.1 hn0.2)) ((isR_lf (by have q1 := hn0.1; have q2 := hn0.2; omega) (by have q1 := hn0.1; have q2 := hn0.2; omega)) _) rfl hi5 (by rw [c5, rv_0]) dX1_takesLeaf_5 ?_
    refine lv_ifnullN (tgt := 25) hx hb dX1_takesLeaf_6 (by decide) ?_
    refine lv_aload_n hx hb dX1_takesLeaf_25 rfl (lv_at hl 0 rfl) ?_
    refine c_get S hw (n := n0) (cOk.s (mem_st hn0.1 hn0.2)) ((isO_S hn0.1 hn0.2) _) rfl in_X1 2 (by decide) (Or.inl q192) rfl rfl dX1_takesLeaf_26 ?_
    refine lv_iload_n hx hb dX1_takesLeaf_29 rfl (lv_at hl 1 rfl) ?_
    refine lv_aload_n hx hb dX1_takesLeaf_30 rfl (lv_at hl 2 rfl) ?_
    refine c_callr hw (runL_X1_another S hw h [.int x1, .ref (ad (n0 + 40))] hl.1 rfl (Nat.le_of_ble_eq_true rfl) dX1_takesLeaf_31 ⟨Nat.le_of_ble_eq_true rfl, Nat.le_of_ble_eq_true rfl⟩ (Nat.le_of_ble_eq_true rfl) (Nat.le_of_ble_eq_true rfl)) (fun r31 a31 H locs h hw => ?_)
    refine W.widen (k := 1) (n := 4) (Nat.le_of_ble_eq_true rfl) (Nat.le_of_ble_eq_true rfl) ?_
    have hi34 := h.1
    replace h := h.2
    have hk34_0 := h.1
    replace h := h.2
    refine c_aast S hw (n := (n0 + 40)) (by omega) (cOk.s (mem_lf hn0.1 hn0.2)) (isR_lf (by have q1 := hn0.1; have q2 := hn0.2; omega) (by have q1 := hn0.1; have q2 := hn0.2; omega)) rfl hk34_0.ne (c_anyL hw hk34_0) hi34 dX1_takesLeaf_34 (fun a34 H locs ea34 hw => ?_)
    replace h := h a34 ea34
    exact wkC_X1_takesLeaf_35 S hr hlk Q n0 x1 x2 hn0 _ _ _ _ h hw (lv_sub hl [0, 1, 2] rfl)
  replace h := if_f c5 h
  refine c_aald S hw (n := (n0 + 40)) (cOk.s (mem_lf hn0.1 hn0.2)) ((isR_lf (by have q1 := hn0.1; have q2 := hn0.2; omega) (by have q1 := hn0.1; have q2 := hn0.2; omega)) _) rfl hi5 (rv_n c5) dX1_takesLeaf_5 ?_
  refine lv_ifnull hx hb dX1_takesLeaf_6 ?_
  refine lv_aload_n hx hb dX1_takesLeaf_9 rfl (lv_at hl 0 rfl) ?_
  refine c_get S hw (n := n0) (cOk.s (mem_st hn0.1 hn0.2)) ((isO_S hn0.1 hn0.2) _) rfl in_X1 2 (by decide) (Or.inl q192) rfl rfl dX1_takesLeaf_10 ?_
  refine lv_iload_n hx hb dX1_takesLeaf_13 rfl (lv_at hl 1 rfl) ?_
  have hi14 := h.1
  replace h := h.2
  have hk14_0 := h.1
  replace h := h.2
  refine c_aald S hw (n := (n0 + 40)) (cOk.s (mem_lf hn0.1 hn0.2)) ((isR_lf (by have q1 := hn0.1; have q2 := hn0.2; omega) (by have q1 := hn0.1; have q2 := hn0.2; omega)) _) rfl hi14 (rv_n hk14_0.ne) dX1_takesLeaf_14 ?_
  refine c_calli hw (runL_X1_kind S hw h [] hl.1 rfl (Nat.le_of_ble_eq_true rfl) dX1_takesLeaf_15 ⟨Nat.le_of_ble_eq_true rfl, Nat.le_of_ble_eq_true rfl⟩ (Nat.le_of_ble_eq_true rfl) (Nat.le_of_ble_eq_true rfl)) (fun r15 a15 H locs h hw => ?_)
  refine lv_aload_n hx hb dX1_takesLeaf_18 rfl (lv_at hl 2 rfl) ?_
  refine c_calli hw (runL_X1_kind S hw h [.int r15] hl.1 rfl (Nat.le_of_ble_eq_true rfl) dX1_takesLeaf_19 ⟨Nat.le_of_ble_eq_true rfl, Nat.le_of_ble_eq_true rfl⟩ (Nat.le_of_ble_eq_true rfl) (Nat.le_of_ble_eq_true rfl)) (fun r19 a19 H locs h hw => ?_)
  refine lv_icmp_eq (tgt := 35) hx hb dX1_takesLeaf_22 (by decide) (fun c22 => ?_) (fun c22 => ?_)
  · replace h := if_t c22 h
    refine W.widen (k := 1) (n := 4) (Nat.le_of_ble_eq_true rfl) (Nat.le_of_ble_eq_true rfl) ?_
    exact wkC_X1_takesLeaf_35 S hr hlk Q n0 x1 x2 hn0 _ _ _ _ h hw (lv_sub hl [0, 1, 2] rfl)
  · replace h := if_f c22 h
    refine lv_aload_n hx hb dX1_takesLeaf_25 rfl (lv_at hl 0 rfl) ?_
    refine c_get S hw (n := n0) (cOk.s (mem_st hn0.1 hn0.2)) ((isO_S hn0.1 hn0.2) _) rfl in_X1 2 (by decide) (Or.inl q192) rfl rfl dX1_takesLeaf_26 ?_
    refine lv_iload_n hx hb dX1_takesLeaf_29 rfl (lv_at hl 1 rfl) ?_
    refine lv_aload_n hx hb dX1_takesLeaf_30 rfl (lv_at hl 2 rfl) ?_
    refine c_callr hw (runL_X1_another S hw h [.int x1, .ref (ad (n0 + 40))] hl.1 rfl (Nat.le_of_ble_eq_true rfl) dX1_takesLeaf_31 ⟨Nat.le_of_ble_eq_true rfl, Nat.le_of_ble_eq_true rfl⟩ (Nat.le_of_ble_eq_true rfl) (Nat.le_of_ble_eq_true rfl)) (fun r31 a31 H locs h hw => ?_)
    refine W.widen (k := 1) (n := 4) (Nat.le_of_ble_eq_true rfl) (Nat.le_of_ble_eq_true rfl) ?_
    have hi34 := h.1
    replace h := h.2
    have hk34_1 := h.1
    replace h := h.2
    refine c_aast S hw (n := (n0 + 40)) (by omega) (cOk.s (mem_lf hn0.1 hn0.2)) (isR_lf (by have q1 := hn0.1; have q2 := hn0.2; omega) (by have q1 := hn0.1; have q2 := hn0.2; omega)) rfl hk34_1.ne (c_anyL hw hk34_1) hi34 dX1_takesLeaf_34 (fun a34 H locs ea34 hw => ?_)
    replace h := h a34 ea34
    exact wkC_X1_takesLeaf_35 S hr hlk Q n0 x1 x2 hn0 _ _ _ _ h hw (lv_sub hl [0, 1, 2] rfl)
theorem ctC_X1_takesLeaf (l : Launch) (D : va_G) (dA : Nat → ClassId) (ad : Nat → Nat) (fv : Nat → Value) (A : Nat → Prop) (a : CS) (n0 : Nat) (x1 : Int32) (x2 : Nat) (Q : CS → Prop) (h : wpC_X1_takesLeaf a n0 x1 x2 Q) : Met l yX1_takesLeaf (ws_ yX1_takesLeaf cX1_takesLeaf 3 none) rmC_X1_takesLeaf (cPc D dA ad fv A a [.ref (ad n0), .int x1, .ref (ad x2)]) (cQv D dA ad fv A Q) 1 4 A :=
  c_met (by decide) rfl rfl rfl (Nat.le_of_ble_eq_true rfl) (fun p e s m below meth c ls S hr hlk hin2 hw hl => wkC_X1_takesLeaf_e S hr hlk Q n0 x1 x2 a _ _ ls h hw hl)
theorem cwC_X1_X1_takesLeaf {R : Room} {s : State} {args : Array Value} {rm : Room} (hts : ∀ w ∈ lw_all, w.before args s = true) (hR : rm.frames + 1 ≤ R.frames ∧ 8 + (3 + 11) + rm.locals ≤ R.locals) (hc : rm.cells = 1 := by rfl) (hs : rm.slots = 4 := by rfl) : CallW R s args RX1 RX1 45 yX1_takesLeaf cX1_takesLeaf 3 none (ws_ yX1_takesLeaf cX1_takesLeaf 3 none) rm 1 4 2 :=
  cwV 2 hts (lw_V q1307 q1309 qs48 q104 q1310) rfl hc hs (by decide +kernel) hR
/-! X1.copyOf -/
abbrev rmC_X1_copyOf : Room := { frames := 9, cells := 8, slots := 32, locals := 322 }
def bkC_X1_copyOf_21 (Q : CS → Prop) (n0 : Nat) (x1 : Nat) : Nat → Nat → Int32 → CS → Prop
  | 0 => fun _ _ _ => False
  | n + 1 => fun k x2 a => (k ≤ 8) ∧ (if (a.1 n0 1) ≤ x2 then (∀ a51 : CS, a51 = wI a n0 3 (a.1 x1 3) → (∀ a59 : CS, a59 = wI a51 n0 4 (a51.1 x1 4) → (∀ a67 : CS, a67 = wI a59 n0 5 (a59.1 x1 5) → (∀ a75 : CS, a75 = wI a67 n0 6 (a67.1 x1 6) → (wpC_X0_copyRow a75 (x1 + 50) (n0 + 50) (fun a86 => ∀ a94 : CS, a94 = wI a86 n0 8 (a86.1 x1 8) → ((txRow a94 (x1 + 60)) ∧ (∀ a109 : CS, a109 = wCr a94 (n0 + 60) (va_cpy (a94.2.1 (x1 + 60)) (a94.2.1 (n0 + 60)) 0 0 14) → (Q a109))))))))) else ((vp_in x2 8) ∧ ((leafK a (a.2.1 (x1 + 40) x2.toNatClampNeg)) ∧ ((k < 8) ∧ (wpC_X1_takesLeaf a n0 x2 (a.2.1 (x1 + 40) x2.toNatClampNeg) (fun a37 => bkC_X1_copyOf_21 Q n0 x1 n (k + 1) (x2 + (1 : Int32)) a37))))))
set_option maxHeartbeats 4000000 in
set_option maxRecDepth 100000 in
theorem wkC_X1_copyOf_21 (S : CallFix p m c cX1_copyOf 3 s args lw_all RX1) (hr : meth.sig.returnType = none) (hlk : meth.locks = false) (Q : CS → Prop) (n0 : Nat) (x1 : Nat) (hn0 : 1 ≤ n0 ∧ n0 ≤ 3) (hx1 : 1 ≤ x1 ∧ x1 ≤ 3) : ∀ (n : Nat) (k : Nat) (x2 : Int32) (a : CS) (H : Heap) (locs : List Loc) (ls : Array Slot), bkC_X1_copyOf_21 Q n0 x1 n k x2 a → CW D dA ad fv A a s H locs → lv_has ls 3 [(0, .ref (ad n0)), (1, .ref (ad x1)), (2, .int x2)] → W p l e rmC_X1_copyOf s m args below meth c H locs (k * 1) (k * 4) (MQ below (cQv D dA ad fv A Q) args s 8 32 A) (F0 m 21 ls []) := by
  have hx := S.1
  have hb := S.2.1
  have hown := S.2.2.2.1
  have hts := S.2.2.2.2
  intro n
  induction n with
  | zero =>
    intro k x2 a H locs ls h
    exact False.elim h
  | succ n ih =>
    intro k x2 a H locs ls h hw hl
    unfold bkC_X1_copyOf_21 at h
    have hkb := h.1
    replace h := h.2
    refine lv_iload_n hx hb dX1_copyOf_21 rfl (lv_at hl 2 rfl) ?_
    refine lv_aload_n hx hb dX1_copyOf_22 rfl (lv_at hl 0 rfl) ?_
    refine c_get S hw (n := n0) (cOk.s (mem_st hn0.1 hn0.2)) ((isO_S hn0.1 hn0.2) _) rfl in_X1 1 (by decide) (Or.inl q190) rfl rfl dX1_copyOf_23 ?_
    refine lv_icmp_ge (tgt := 46) hx hb dX1_copyOf_26 (by decide) (fun c26 => ?_) (fun c26 => ?_)
    · replace h := if_t c26 h
      refine lv_aload_n hx hb dX1_copyOf_46 rfl (lv_at hl 0 rfl) ?_
      refine lv_aload_n hx hb dX1_copyOf_47 rfl (lv_at hl 1 rfl) ?_
      refine c_get S hw (n := x1) (cOk.s (mem_st hx1.1 hx1.2)) ((isO_S hx1.1 hx1.2) _) rfl in_X1 3 (by decide) (Or.inl q194) rfl rfl dX1_copyOf_48 ?_
      refine c_putI S hw (n := n0) (cOk.s (mem_st hn0.1 hn0.2)) (isO_S hn0.1 hn0.2) rfl in_X1 tyX1 tyX1_ok nmX1 3 (by decide) (Or.inl q194) rfl rfl rfl rfl (Nat.le_of_ble_eq_true rfl) (fun _ => sset_3) dX1_copyOf_51 (fun a51 H locs ea51 hw => ?_)
      replace h := h a51 ea51
      refine lv_aload_n hx hb dX1_copyOf_54 rfl (lv_at hl 0 rfl) ?_
      refine lv_aload_n hx hb dX1_copyOf_55 rfl (lv_at hl 1 rfl) ?_
      refine c_get S hw (n := x1) (cOk.s (mem_st hx1.1 hx1.2)) ((isO_S hx1.1 hx1.2) _) rfl in_X1 4 (by decide) (Or.inl q196) rfl rfl dX1_copyOf_56 ?_
      refine c_putI S hw (n := n0) (cOk.s (mem_st hn0.1 hn0.2)) (isO_S hn0.1 hn0.2) rfl in_X1 tyX1 tyX1_ok nmX1 4 (by decide) (Or.inl q196) rfl rfl rfl rfl (Nat.le_of_ble_eq_true rfl) (fun _ => sset_4) dX1_copyOf_59 (fun a59 H locs ea59 hw => ?_)
      replace h := h a59 ea59
      refine lv_aload_n hx hb dX1_copyOf_62 rfl (lv_at hl 0 rfl) ?_
      refine lv_aload_n hx hb dX1_copyOf_63 rfl (lv_at hl 1 rfl) ?_
      refine c_get S hw (n := x1) (cOk.s (mem_st hx1.1 hx1.2)) ((isO_S hx1.1 hx1.2) _) rfl in_X1 5 (by decide) (Or.inl q198) rfl rfl dX1_copyOf_64 ?_
      refine c_putI S hw (n := n0) (cOk.s (mem_st hn0.1 hn0.2)) (isO_S hn0.1 hn0.2) rfl in_X1 tyX1 tyX1_ok nmX1 5 (by decide) (Or.inl q198) rfl rfl rfl rfl (Nat.le_of_ble_eq_true rfl) (fun _ => sset_5) dX1_copyOf_67 (fun a67 H locs ea67 hw => ?_)
      replace h := h a67 ea67
      refine lv_aload_n hx hb dX1_copyOf_70 rfl (lv_at hl 0 rfl) ?_
      refine lv_aload_n hx hb dX1_copyOf_71 rfl (lv_at hl 1 rfl) ?_
      refine c_get S hw (n := x1) (cOk.s (mem_st hx1.1 hx1.2)) ((isO_S hx1.1 hx1.2) _) rfl in_X1 6 (by decide) (Or.inl q200) rfl rfl dX1_copyOf_72 ?_
      refine c_putI S hw (n := n0) (cOk.s (mem_st hn0.1 hn0.2)) (isO_S hn0.1 hn0.2) rfl in_X1 tyX1 tyX1_ok nmX1 6 (by decide) (Or.inl q200) rfl rfl rfl rfl (Nat.le_of_ble_eq_true rfl) (fun _ => sset_6) dX1_copyOf_75 (fun a75 H locs ea75 hw => ?_)
      replace h := h a75 ea75
      refine lv_aload_n hx hb dX1_copyOf_78 rfl (lv_at hl 1 rfl) ?_
      refine c_get S hw (n := x1) (cOk.s (mem_st hx1.1 hx1.2)) ((isO_S hx1.1 hx1.2) _) rfl in_X1 7 (by decide) (Or.inl q202) rfl rfl dX1_copyOf_79 ?_
      refine lv_aload_n hx hb dX1_copyOf_82 rfl (lv_at hl 0 rfl) ?_
      refine c_get S hw (n := n0) (cOk.s (mem_st hn0.1 hn0.2)) ((isO_S hn0.1 hn0.2) _) rfl in_X1 7 (by decide) (Or.inl q202) rfl rfl dX1_copyOf_83 ?_
      refine c_callv hw (va_runSN (As := [.ref (ad (x1 + 50)), .ref (ad (n0 + 50))]) (rest := []) S (ctC_X0_copyRow l D dA ad fv A a75 (x1 + 50) (n0 + 50) _ h) (cwC_X1_X0_copyRow hts hw.nw ⟨Nat.le_of_ble_eq_true rfl, Nat.le_of_ble_eq_true rfl⟩) (c_preS hw) rfl rfl hl.1 rfl (lv_room (Nat.le_of_ble_eq_true rfl)) dX1_copyOf_86 ⟨by dsimp only; omega, by dsimp only; omega⟩) (fun a86 H locs h hw => ?_)
      refine lv_aload_n hx hb dX1_copyOf_89 rfl (lv_at hl 0 rfl) ?_
      refine lv_aload_n hx hb dX1_copyOf_90 rfl (lv_at hl 1 rfl) ?_
      refine c_get S hw (n := x1) (cOk.s (mem_st hx1.1 hx1.2)) ((isO_S hx1.1 hx1.2) _) rfl in_X1 8 (by decide) (Or.inl q204) rfl rfl dX1_copyOf_91 ?_
      refine c_putI S hw (n := n0) (cOk.s (mem_st hn0.1 hn0.2)) (isO_S hn0.1 hn0.2) rfl in_X1 tyX1 tyX1_ok nmX1 8 (by decide) (Or.inl q204) rfl rfl rfl rfl (Nat.le_of_ble_eq_true rfl) (fun _ => sset_8) dX1_copyOf_94 (fun a94 H locs ea94 hw => ?_)
      replace h := h a94 ea94
      refine lv_aload_n hx hb dX1_copyOf_97 rfl (lv_at hl 1 rfl) ?_
      refine c_get S hw (n := x1) (cOk.s (mem_st hx1.1 hx1.2)) ((isO_S hx1.1 hx1.2) _) rfl in_X1 9 (by decide) (Or.inl q206) rfl rfl dX1_copyOf_98 ?_
      refine lv_iconst (v := (0 : Int32)) hx hb dX1_copyOf_101 (by decide) ?_
      refine lv_aload_n hx hb dX1_copyOf_102 rfl (lv_at hl 0 rfl) ?_
      refine c_get S hw (n := n0) (cOk.s (mem_st hn0.1 hn0.2)) ((isO_S hn0.1 hn0.2) _) rfl in_X1 9 (by decide) (Or.inl q206) rfl rfl dX1_copyOf_103 ?_
      refine lv_iconst (v := (0 : Int32)) hx hb dX1_copyOf_106 (by decide) ?_
      refine lv_bipush (v := (14 : Int32)) hx hb dX1_copyOf_107 (by decide) ?_
      have hc109 := h.1
      replace h := h.2
      refine c_copyt S hl.1 hw (f := (x1 + 60)) (g := (n0 + 60)) (by omega) (cOk.s (mem_tx hx1.1 hx1.2)) (cOk.s (mem_tx hn0.1 hn0.2)) (isR_tx (by have q1 := hx1.1; have q2 := hx1.2; omega) (by have q1 := hx1.1; have q2 := hx1.2; omega)) (isR_tx (by have q1 := hn0.1; have q2 := hn0.2; omega) (by have q1 := hn0.1; have q2 := hn0.2; omega)) q1315 q1033 q1032 q122 hc109 (Nat.le_of_ble_eq_true rfl) (Nat.le_of_ble_eq_true rfl) dX1_copyOf_109 (fun a109 H locs ea109 hw => ?_)
      replace h := h a109 ea109
      refine W.widen (k := 8) (n := 32) (by omega) (by omega) ?_
      exact c_vret S hr hlk hw h dX1_copyOf_112
    · replace h := if_f c26 h
      refine lv_aload_n hx hb dX1_copyOf_29 rfl (lv_at hl 0 rfl) ?_
      refine lv_iload_n hx hb dX1_copyOf_30 rfl (lv_at hl 2 rfl) ?_
      refine lv_aload_n hx hb dX1_copyOf_31 rfl (lv_at hl 1 rfl) ?_
      refine c_get S hw (n := x1) (cOk.s (mem_st hx1.1 hx1.2)) ((isO_S hx1.1 hx1.2) _) rfl in_X1 2 (by decide) (Or.inl q192) rfl rfl dX1_copyOf_32 ?_
      refine lv_iload_n hx hb dX1_copyOf_35 rfl (lv_at hl 2 rfl) ?_
      have hi36 := h.1
      replace h := h.2
      have hk36_0 := h.1
      replace h := h.2
      refine c_aald S hw (n := (x1 + 40)) (cOk.s (mem_lf hx1.1 hx1.2)) ((isR_lf (by have q1 := hx1.1; have q2 := hx1.2; omega) (by have q1 := hx1.1; have q2 := hx1.2; omega)) _) rfl hi36 (rv_n hk36_0.ne) dX1_copyOf_36 ?_
      have hkc := h.1
      replace h := h.2
      refine c_callv hw (va_runV (As := [.int x2, .ref (ad (a.2.1 (x1 + 40) x2.toNatClampNeg))]) (rest := []) S (ctC_X1_takesLeaf l D dA ad fv A a n0 x2 (a.2.1 (x1 + 40) x2.toNatClampNeg) _ h) (cwC_X1_X1_takesLeaf hts ⟨Nat.le_of_ble_eq_true rfl, Nat.le_of_ble_eq_true rfl⟩) (c_preV hw (n := n0) (cOk.s (mem_st hn0.1 hn0.2)) ((isO_S hn0.1 hn0.2) _) rfl) rfl rfl hl.1 rfl (lv_room (Nat.le_of_ble_eq_true rfl)) dX1_copyOf_37 ⟨by dsimp only; omega, by dsimp only; omega⟩) (fun a37 H locs h hw => ?_)
      refine W.widen (k := (k + 1) * 1) (n := (k + 1) * 4) (by omega) (by omega) ?_
      refine lv_iinc (v := (x2 + (1 : Int32))) (lv' := [(2, .int (x2 + (1 : Int32))), (0, .ref (ad n0)), (1, .ref (ad x1))]) hx hb dX1_copyOf_40 hl (k := 2) rfl rfl (by decide) rfl (fun ls hl => ?_)
      refine lv_goto (tgt := 21) hx hb dX1_copyOf_43 (by decide) ?_
      exact ih _ _ _ _ _ _ h hw (lv_sub hl [1, 2, 0] rfl)
def wpC_X1_copyOf (a : CS) (n0 : Nat) (x1 : Nat) (Q : CS → Prop) : Prop := (1 ≤ n0 ∧ n0 ≤ 3) ∧ (1 ≤ x1 ∧ x1 ≤ 3) ∧ wpC_X2_copyOf a (n0 + 3) (x1 + 3) (fun a8 => ∀ a16 : CS, a16 = wI a8 n0 1 (a8.1 x1 1) → (∃ n21, bkC_X1_copyOf_21 Q n0 x1 n21 0 (0 : Int32) a16))
set_option maxHeartbeats 4000000 in
set_option maxRecDepth 100000 in
theorem wkC_X1_copyOf_e (S : CallFix p m c cX1_copyOf 3 s args lw_all RX1) (hr : meth.sig.returnType = none) (hlk : meth.locks = false) (Q : CS → Prop) (n0 : Nat) (x1 : Nat) (a : CS) (H : Heap) (locs : List Loc) (ls : Array Slot) (h : wpC_X1_copyOf a n0 x1 Q) (hw : CW D dA ad fv A a s H locs) (hl : lv_has ls 3 [(0, .ref (ad n0)), (1, .ref (ad x1))]) : W p l e rmC_X1_copyOf s m args below meth c H locs 0 0 (MQ below (cQv D dA ad fv A Q) args s 8 32 A) (F0 m 0 ls []) := by
  have hx := S.1
  have hb := S.2.1
  have hown := S.2.2.2.1
  have hts := S.2.2.2.2
  unfold wpC_X1_copyOf at h
  obtain ⟨hn0, h⟩ := h
  obtain ⟨hx1, h⟩ := h
  refine lv_aload_n hx hb dX1_copyOf_0 rfl (lv_at hl 0 rfl) ?_
  refine c_get S hw (n := n0) (cOk.s (mem_st hn0.1 hn0.2)) ((isO_S hn0.1 hn0.2) _) rfl in_X1 0 (by decide) (Or.inl q188) rfl rfl dX1_copyOf_1 ?_
  refine lv_aload_n hx hb dX1_copyOf_4 rfl (lv_at hl 1 rfl) ?_
  refine c_get S hw (n := x1) (cOk.s (mem_st hx1.1 hx1.2)) ((isO_S hx1.1 hx1.2) _) rfl in_X1 0 (by decide) (Or.inl q188) rfl rfl dX1_copyOf_5 ?_
  refine c_callv hw (va_runV (As := [.ref (ad (x1 + 3))]) (rest := []) S (ctC_X2_copyOf l D dA ad fv A a (n0 + 3) (x1 + 3) _ h) (cwC_X1_X2_copyOf hts ⟨Nat.le_of_ble_eq_true rfl, Nat.le_of_ble_eq_true rfl⟩) (c_preV hw (n := (n0 + 3)) (cOk.s (mem_sh (by have q1 := hn0.1; have q2 := hn0.2; omega) (by have q1 := hn0.1; have q2 := hn0.2; omega))) ((isO_H (by have q1 := hn0.1; have q2 := hn0.2; omega) (by have q1 := hn0.1; have q2 := hn0.2; omega)) _) rfl) rfl rfl hl.1 rfl (lv_room (Nat.le_of_ble_eq_true rfl)) dX1_copyOf_8 ⟨Nat.le_of_ble_eq_true rfl, Nat.le_of_ble_eq_true rfl⟩) (fun a8 H locs h hw => ?_)
  refine lv_aload_n hx hb dX1_copyOf_11 rfl (lv_at hl 0 rfl) ?_
  refine lv_aload_n hx hb dX1_copyOf_12 rfl (lv_at hl 1 rfl) ?_
  refine c_get S hw (n := x1) (cOk.s (mem_st hx1.1 hx1.2)) ((isO_S hx1.1 hx1.2) _) rfl in_X1 1 (by decide) (Or.inl q190) rfl rfl dX1_copyOf_13 ?_
  refine c_putI S hw (n := n0) (cOk.s (mem_st hn0.1 hn0.2)) (isO_S hn0.1 hn0.2) rfl in_X1 tyX1 tyX1_ok nmX1 1 (by decide) (Or.inl q190) rfl rfl rfl rfl (Nat.le_of_ble_eq_true rfl) (fun _ => sset_1) dX1_copyOf_16 (fun a16 H locs ea16 hw => ?_)
  replace h := h a16 ea16
  refine lv_iconst (v := (0 : Int32)) hx hb dX1_copyOf_19 (by decide) ?_
  refine lv_istore_n (lv' := [(2, .int (0 : Int32)), (0, .ref (ad n0)), (1, .ref (ad x1))]) hx hb dX1_copyOf_20 rfl hl (by decide) rfl (fun ls hl => ?_)
  refine W.widen (k := 0 * 1) (n := 0 * 4) (Nat.le_of_ble_eq_true rfl) (Nat.le_of_ble_eq_true rfl) ?_
  obtain ⟨n21, h⟩ := h
  exact wkC_X1_copyOf_21 S hr hlk Q n0 x1 hn0 hx1 n21 _ _ _ _ _ _ h hw (lv_sub hl [1, 2, 0] rfl)
theorem ctC_X1_copyOf (l : Launch) (D : va_G) (dA : Nat → ClassId) (ad : Nat → Nat) (fv : Nat → Value) (A : Nat → Prop) (a : CS) (n0 : Nat) (x1 : Nat) (Q : CS → Prop) (h : wpC_X1_copyOf a n0 x1 Q) : Met l yX1_copyOf (ws_ yX1_copyOf cX1_copyOf 3 none) rmC_X1_copyOf (cPc D dA ad fv A a [.ref (ad n0), .ref (ad x1)]) (cQv D dA ad fv A Q) 8 32 A :=
  c_met (by decide) rfl rfl rfl (Nat.le_of_ble_eq_true rfl) (fun p e s m below meth c ls S hr hlk hin2 hw hl => wkC_X1_copyOf_e S hr hlk Q n0 x1 a _ _ ls h hw hl)
theorem cwC_X0_X1_copyOf {R : Room} {s : State} {args : Array Value} {rm : Room} (hts : ∀ w ∈ lw_all, w.before args s = true) (hR : rm.frames + 1 ≤ R.frames ∧ 8 + (3 + 11) + rm.locals ≤ R.locals) (hc : rm.cells = 8 := by rfl) (hs : rm.slots = 32 := by rfl) : CallW R s args RX0 RX1 567 yX1_copyOf cX1_copyOf 3 none (ws_ yX1_copyOf cX1_copyOf 3 none) rm 8 32 1 :=
  cwV 1 hts (lw_V q1302 q1303 q1304 q104 q1305) rfl hc hs (by decide +kernel) hR
/-! X0.deal -/
abbrev rmC_X0_deal : Room := { frames := 6, cells := 8, slots := 32, locals := 125 }
def bkC_X0_deal_108 (Q : Int32 → CS → Prop) (x1 : Int32) (O15 : Nat → Int32 → CS → Prop) : Nat → Int32 → Int32 → Int32 → Int32 → Int32 → CS → Prop := fun k x2 s1 s2 s3 s4 a => (k < 8) ∧ (wpC_X0_comes a s1 s2 s3 s4 (fun r108 a108 => O15 (k + 1) (x2 + (1 : Int32)) a108))
set_option maxHeartbeats 4000000 in
set_option maxRecDepth 100000 in
theorem wkC_X0_deal_108 (S : CallFix p m c cX0_deal 7 s args lw_all RX0) (hr : meth.sig.returnType = (some .int)) (hlk : meth.locks = false) (Q : Int32 → CS → Prop) (x1 : Int32) {O15 : Nat → Int32 → CS → Prop} (hO15 : ∀ (k : Nat) (x2 : Int32) (a : CS) (H : Heap) (locs : List Loc) (ls : Array Slot), O15 k x2 a → CW D dA ad fv A a s H locs → lv_has ls 7 [(0, .ref (ad 0)), (1, .int x1), (2, .int x2)] → W p l e rmC_X0_deal s m args below meth c H locs (k * 1) (k * 4) (MQ below (cQi D dA ad fv A Q) args s 8 32 A) (F0 m 15 ls [])) : ∀ (k : Nat) (x2 : Int32) (s1 : Int32) (s2 : Int32) (s3 : Int32) (s4 : Int32) (a : CS) (H : Heap) (locs : List Loc) (ls : Array Slot), bkC_X0_deal_108 Q x1 O15 k x2 s1 s2 s3 s4 a → CW D dA ad fv A a s H locs → lv_has ls 7 [(0, .ref (ad 0)), (1, .int x1), (2, .int x2)] → W p l e rmC_X0_deal s m args below meth c H locs (k * 1) (k * 4) (MQ below (cQi D dA ad fv A Q) args s 8 32 A) (F0 m 108 ls [.int s4, .int s3, .int s2, .int s1, .ref (ad 0)]) := by
  have hx := S.1
  have hb := S.2.1
  have hown := S.2.2.2.1
  have hts := S.2.2.2.2
  intro k x2 s1 s2 s3 s4 a H locs ls h hw hl
  unfold bkC_X0_deal_108 at h
  have hkc := h.1
  replace h := h.2
  refine c_calli hw (va_runV (As := [.int s1, .int s2, .int s3, .int s4]) (rest := []) S (ctC_X0_comes l D dA ad fv A a s1 s2 s3 s4 _ h) (cwC_X0_X0_comes hts ⟨Nat.le_of_ble_eq_true rfl, Nat.le_of_ble_eq_true rfl⟩) (c_preV hw (n := 0) (cOk.s (by decide)) (isO_K _) rfl) rfl rfl hl.1 rfl (lv_room (Nat.le_of_ble_eq_true rfl)) dX0_deal_108 ⟨by dsimp only; omega, by dsimp only; omega⟩) (fun r108 a108 H locs h hw => ?_)
  refine W.widen (k := (k + 1) * 1) (n := (k + 1) * 4) (by omega) (by omega) ?_
  refine lv_istore (lv' := [(6, .int r108), (0, .ref (ad 0)), (1, .int x1), (2, .int x2)]) hx hb dX0_deal_111 hl (by decide) rfl (fun ls hl => ?_)
  refine lv_iinc (v := (x2 + (1 : Int32))) (lv' := [(2, .int (x2 + (1 : Int32))), (6, .int r108), (0, .ref (ad 0)), (1, .int x1)]) hx hb dX0_deal_113 hl (k := 3) rfl rfl (by decide) rfl (fun ls hl => ?_)
  refine lv_goto (tgt := 15) hx hb dX0_deal_116 (by decide) ?_
  exact hO15 _ _ _ _ _ _ h hw (lv_sub hl [2, 3, 0] rfl)
def bkC_X0_deal_15 (Q : Int32 → CS → Prop) (x1 : Int32) : Nat → Nat → Int32 → CS → Prop
  | 0 => fun _ _ _ => False
  | n + 1 => fun k x2 a => (k ≤ 8) ∧ (if x1 ≤ x2 then (Q x2 a) else (if (8 : Int32) ≤ (a.1 1 1) then (Q x2 a) else (wpC_X2_draw a 4 (fun r40 a40 => wpC_X2_draw a40 4 (fun r55 a55 => wpC_X2_draw a55 4 (fun r70 a70 => (¬ ((a70.1 1 1) + (1 : Int32)) = 0) ∧ (if (irm r70 ((a70.1 1 1) + (1 : Int32))) = (a70.1 1 1) then (bkC_X0_deal_108 Q x1 (bkC_X0_deal_15 Q x1 n) k x2 (0 : Int32) ((1 : Int32) + (irm r40 (9 : Int32))) (irm r55 (100 : Int32)) (-1 : Int32) a70) else (bkC_X0_deal_108 Q x1 (bkC_X0_deal_15 Q x1 n) k x2 (0 : Int32) ((1 : Int32) + (irm r40 (9 : Int32))) (irm r55 (100 : Int32)) (irm r70 ((a70.1 1 1) + (1 : Int32))) a70))))))))
set_option maxHeartbeats 4000000 in
set_option maxRecDepth 100000 in
theorem wkC_X0_deal_15 (S : CallFix p m c cX0_deal 7 s args lw_all RX0) (hr : meth.sig.returnType = (some .int)) (hlk : meth.locks = false) (Q : Int32 → CS → Prop) (x1 : Int32) : ∀ (n : Nat) (k : Nat) (x2 : Int32) (a : CS) (H : Heap) (locs : List Loc) (ls : Array Slot), bkC_X0_deal_15 Q x1 n k x2 a → CW D dA ad fv A a s H locs → lv_has ls 7 [(0, .ref (ad 0)), (1, .int x1), (2, .int x2)] → W p l e rmC_X0_deal s m args below meth c H locs (k * 1) (k * 4) (MQ below (cQi D dA ad fv A Q) args s 8 32 A) (F0 m 15 ls []) := by
  have hx := S.1
  have hb := S.2.1
  have hown := S.2.2.2.1
  have hts := S.2.2.2.2
  intro n
  induction n with
  | zero =>
    intro k x2 a H locs ls h
    exact False.elim h
  | succ n ih =>
    intro k x2 a H locs ls h hw hl
    unfold bkC_X0_deal_15 at h
    have hkb := h.1
    replace h := h.2
    refine lv_iload_n hx hb dX0_deal_15 rfl (lv_at hl 2 rfl) ?_
    refine lv_iload_n hx hb dX0_deal_16 rfl (lv_at hl 1 rfl) ?_
    refine lv_icmp_ge (tgt := 119) hx hb dX0_deal_17 (by decide) (fun c17 => ?_) (fun c17 => ?_)
    · replace h := if_t c17 h
      refine lv_iload_n hx hb dX0_deal_119 rfl (lv_at hl 2 rfl) ?_
      refine W.widen (k := 8) (n := 32) (by omega) (by omega) ?_
      exact c_iret S hr hlk hw h dX0_deal_120
    · replace h := if_f c17 h
      refine lv_aload_n hx hb dX0_deal_20 rfl (lv_at hl 0 rfl) ?_
      refine c_get S hw (n := 0) (ci := 0) (cOk.s (by decide)) (isO_K _) rfl in_X0 0 (by decide) (Or.inl q324) rfl rfl dX0_deal_21 ?_
      refine c_get S hw (n := 1) (cOk.s (by decide)) ((isO_S (by decide) (by decide)) _) rfl in_X1 1 (by decide) (Or.inr (List.mem_of_getElem? (i := 12) rfl)) rfl rfl dX0_deal_24 ?_
      refine lv_bipush (v := (8 : Int32)) hx hb dX0_deal_27 (by decide) ?_
      refine lv_icmp_ge (tgt := 119) hx hb dX0_deal_29 (by decide) (fun c29 => ?_) (fun c29 => ?_)
      · replace h := if_t c29 h
        refine lv_iload_n hx hb dX0_deal_119 rfl (lv_at hl 2 rfl) ?_
        refine W.widen (k := 8) (n := 32) (by omega) (by omega) ?_
        exact c_iret S hr hlk hw h dX0_deal_120
      · replace h := if_f c29 h
        refine lv_iconst (v := (1 : Int32)) hx hb dX0_deal_32 (by decide) ?_
        refine lv_aload_n hx hb dX0_deal_33 rfl (lv_at hl 0 rfl) ?_
        refine c_get S hw (n := 0) (ci := 0) (cOk.s (by decide)) (isO_K _) rfl in_X0 0 (by decide) (Or.inl q324) rfl rfl dX0_deal_34 ?_
        refine c_get S hw (n := 1) (cOk.s (by decide)) ((isO_S (by decide) (by decide)) _) rfl in_X1 0 (by decide) (Or.inr (List.mem_of_getElem? (i := 11) rfl)) rfl rfl dX0_deal_37 ?_
        refine c_calli hw (va_runV (As := []) (rest := [.int (1 : Int32)]) S (ctC_X2_draw l D dA ad fv A a 4 _ h) (cwC_X0_X2_draw hts ⟨Nat.le_of_ble_eq_true rfl, Nat.le_of_ble_eq_true rfl⟩) (c_preV hw (n := 4) (cOk.s (by decide)) ((isO_H (by decide) (by decide)) _) rfl) rfl rfl hl.1 rfl (lv_room (Nat.le_of_ble_eq_true rfl)) dX0_deal_40 ⟨by dsimp only; omega, by dsimp only; omega⟩) (fun r40 a40 H locs h hw => ?_)
        refine lv_bipush (v := (9 : Int32)) hx hb dX0_deal_43 (by decide) ?_
        refine lv_irem hx hb dX0_deal_45 (by decide) ?_
        refine lv_iadd hx hb dX0_deal_46 ?_
        refine lv_istore_n (lv' := [(3, .int ((1 : Int32) + (irm r40 (9 : Int32)))), (0, .ref (ad 0)), (1, .int x1), (2, .int x2)]) hx hb dX0_deal_47 rfl hl (by decide) rfl (fun ls hl => ?_)
        refine lv_aload_n hx hb dX0_deal_48 rfl (lv_at hl 1 rfl) ?_
        refine c_get S hw (n := 0) (ci := 0) (cOk.s (by decide)) (isO_K _) rfl in_X0 0 (by decide) (Or.inl q324) rfl rfl dX0_deal_49 ?_
        refine c_get S hw (n := 1) (cOk.s (by decide)) ((isO_S (by decide) (by decide)) _) rfl in_X1 0 (by decide) (Or.inr (List.mem_of_getElem? (i := 11) rfl)) rfl rfl dX0_deal_52 ?_
        refine c_calli hw (va_runV (As := []) (rest := []) S (ctC_X2_draw l D dA ad fv A a40 4 _ h) (cwC_X0_X2_draw hts ⟨Nat.le_of_ble_eq_true rfl, Nat.le_of_ble_eq_true rfl⟩) (c_preV hw (n := 4) (cOk.s (by decide)) ((isO_H (by decide) (by decide)) _) rfl) rfl rfl hl.1 rfl (lv_room (Nat.le_of_ble_eq_true rfl)) dX0_deal_55 ⟨by dsimp only; omega, by dsimp only; omega⟩) (fun r55 a55 H locs h hw => ?_)
        refine lv_bipush (v := (100 : Int32)) hx hb dX0_deal_58 (by decide) ?_
        refine lv_irem hx hb dX0_deal_60 (by decide) ?_
        refine lv_istore (lv' := [(4, .int (irm r55 (100 : Int32))), (3, .int ((1 : Int32) + (irm r40 (9 : Int32)))), (0, .ref (ad 0)), (1, .int x1), (2, .int x2)]) hx hb dX0_deal_61 hl (by decide) rfl (fun ls hl => ?_)
        refine lv_aload_n hx hb dX0_deal_63 rfl (lv_at hl 2 rfl) ?_
        refine c_get S hw (n := 0) (ci := 0) (cOk.s (by decide)) (isO_K _) rfl in_X0 0 (by decide) (Or.inl q324) rfl rfl dX0_deal_64 ?_
        refine c_get S hw (n := 1) (cOk.s (by decide)) ((isO_S (by decide) (by decide)) _) rfl in_X1 0 (by decide) (Or.inr (List.mem_of_getElem? (i := 11) rfl)) rfl rfl dX0_deal_67 ?_
        refine c_calli hw (va_runV (As := []) (rest := []) S (ctC_X2_draw l D dA ad fv A a55 4 _ h) (cwC_X0_X2_draw hts ⟨Nat.le_of_ble_eq_true rfl, Nat.le_of_ble_eq_true rfl⟩) (c_preV hw (n := 4) (cOk.s (by decide)) ((isO_H (by decide) (by decide)) _) rfl) rfl rfl hl.1 rfl (lv_room (Nat.le_of_ble_eq_true rfl)) dX0_deal_70 ⟨by dsimp only; omega, by dsimp only; omega⟩) (fun r70 a70 H locs h hw => ?_)
        refine lv_aload_n hx hb dX0_deal_73 rfl (lv_at hl 2 rfl) ?_
        refine c_get S hw (n := 0) (ci := 0) (cOk.s (by decide)) (isO_K _) rfl in_X0 0 (by decide) (Or.inl q324) rfl rfl dX0_deal_74 ?_
        refine c_get S hw (n := 1) (cOk.s (by decide)) ((isO_S (by decide) (by decide)) _) rfl in_X1 1 (by decide) (Or.inr (List.mem_of_getElem? (i := 12) rfl)) rfl rfl dX0_deal_77 ?_
        refine lv_iconst (v := (1 : Int32)) hx hb dX0_deal_80 (by decide) ?_
        refine lv_iadd hx hb dX0_deal_81 ?_
        have hz82 := h.1
        replace h := h.2
        refine lv_irem hx hb dX0_deal_82 hz82 ?_
        refine lv_istore (lv' := [(5, .int (irm r70 ((a70.1 1 1) + (1 : Int32)))), (4, .int (irm r55 (100 : Int32))), (3, .int ((1 : Int32) + (irm r40 (9 : Int32)))), (0, .ref (ad 0)), (1, .int x1), (2, .int x2)]) hx hb dX0_deal_83 hl (by decide) rfl (fun ls hl => ?_)
        refine lv_aload_n hx hb dX0_deal_85 rfl (lv_at hl 3 rfl) ?_
        refine lv_iconst (v := (0 : Int32)) hx hb dX0_deal_86 (by decide) ?_
        refine lv_iload_n hx hb dX0_deal_87 rfl (lv_at hl 2 rfl) ?_
        refine lv_iload hx hb dX0_deal_88 (lv_at hl 1 rfl) ?_
        refine lv_iload hx hb dX0_deal_90 (lv_at hl 0 rfl) ?_
        refine lv_aload_n hx hb dX0_deal_92 rfl (lv_at hl 3 rfl) ?_
        refine c_get S hw (n := 0) (ci := 0) (cOk.s (by decide)) (isO_K _) rfl in_X0 0 (by decide) (Or.inl q324) rfl rfl dX0_deal_93 ?_
        refine c_get S hw (n := 1) (cOk.s (by decide)) ((isO_S (by decide) (by decide)) _) rfl in_X1 1 (by decide) (Or.inr (List.mem_of_getElem? (i := 12) rfl)) rfl rfl dX0_deal_96 ?_
        refine lv_icmp_ne (tgt := 106) hx hb dX0_deal_99 (by decide) (fun c99 => ?_) (fun c99 => ?_)
        · replace h := if_f c99 h
          refine lv_iload hx hb dX0_deal_106 (lv_at hl 0 rfl) ?_
          exact wkC_X0_deal_108 S hr hlk Q x1 ih _ _ _ _ _ _ _ _ _ _ h hw (lv_sub hl [3, 4, 5] rfl)
        · replace h := if_t c99 h
          refine lv_iconst (v := (-1 : Int32)) hx hb dX0_deal_102 (by decide) ?_
          refine lv_goto (tgt := 108) hx hb dX0_deal_103 (by decide) ?_
          exact wkC_X0_deal_108 S hr hlk Q x1 ih _ _ _ _ _ _ _ _ _ _ h hw (lv_sub hl [3, 4, 5] rfl)
def wpC_X0_deal (a : CS) (x1 : Int32) (Q : Int32 → CS → Prop) : Prop := wpC_X0_isIn a x1 (1 : Int32) (8 : Int32) (fun r4 a4 => if r4 = 0 then (Q (-1000000001 : Int32) a4) else (∃ n15, bkC_X0_deal_15 Q x1 n15 0 (0 : Int32) a4))
set_option maxHeartbeats 4000000 in
set_option maxRecDepth 100000 in
theorem wkC_X0_deal_e (S : CallFix p m c cX0_deal 7 s args lw_all RX0) (hr : meth.sig.returnType = (some .int)) (hlk : meth.locks = false) (Q : Int32 → CS → Prop) (x1 : Int32) (a : CS) (H : Heap) (locs : List Loc) (ls : Array Slot) (h : wpC_X0_deal a x1 Q) (hw : CW D dA ad fv A a s H locs) (hl : lv_has ls 7 [(0, .ref (ad 0)), (1, .int x1)]) : W p l e rmC_X0_deal s m args below meth c H locs 0 0 (MQ below (cQi D dA ad fv A Q) args s 8 32 A) (F0 m 0 ls []) := by
  have hx := S.1
  have hb := S.2.1
  have hown := S.2.2.2.1
  have hts := S.2.2.2.2
  unfold wpC_X0_deal at h
  refine lv_iload_n hx hb dX0_deal_0 rfl (lv_at hl 1 rfl) ?_
  refine lv_iconst (v := (1 : Int32)) hx hb dX0_deal_1 (by decide) ?_
  refine lv_bipush (v := (8 : Int32)) hx hb dX0_deal_2 (by decide) ?_
  refine c_calli hw (va_runS (As := [.int x1, .int (1 : Int32), .int (8 : Int32)]) (rest := []) S (ctC_X0_isIn l D dA ad fv A a x1 (1 : Int32) (8 : Int32) _ h) (cwC_X0_X0_isIn hts ⟨Nat.le_of_ble_eq_true rfl, Nat.le_of_ble_eq_true rfl⟩) (c_preS hw) rfl rfl hl.1 rfl (lv_room (Nat.le_of_ble_eq_true rfl)) dX0_deal_4 ⟨Nat.le_of_ble_eq_true rfl, Nat.le_of_ble_eq_true rfl⟩) (fun r4 a4 H locs h hw => ?_)
  refine lv_if_ne (tgt := 13) hx hb dX0_deal_7 (by decide) (fun c7 => ?_) (fun c7 => ?_)
  · replace h := if_f c7 h
    refine lv_iconst (v := (0 : Int32)) hx hb dX0_deal_13 (by decide) ?_
    refine lv_istore_n (lv' := [(2, .int (0 : Int32)), (0, .ref (ad 0)), (1, .int x1)]) hx hb dX0_deal_14 rfl hl (by decide) rfl (fun ls hl => ?_)
    refine W.widen (k := 0 * 1) (n := 0 * 4) (Nat.le_of_ble_eq_true rfl) (Nat.le_of_ble_eq_true rfl) ?_
    obtain ⟨n15, h⟩ := h
    exact wkC_X0_deal_15 S hr hlk Q x1 n15 _ _ _ _ _ _ h hw (lv_sub hl [1, 2, 0] rfl)
  · replace h := if_t c7 h
    refine lv_ldc hx hb hown (hts _ q435) dX0_deal_10 ?_
    refine W.widen (k := 8) (n := 32) (Nat.le_of_ble_eq_true rfl) (Nat.le_of_ble_eq_true rfl) ?_
    exact c_iret S hr hlk hw h dX0_deal_12
theorem ctC_X0_deal (l : Launch) (D : va_G) (dA : Nat → ClassId) (ad : Nat → Nat) (fv : Nat → Value) (A : Nat → Prop) (a : CS) (x1 : Int32) (Q : Int32 → CS → Prop) (h : wpC_X0_deal a x1 Q) : Met l yX0_deal (ws_ yX0_deal cX0_deal 7 (some .int)) rmC_X0_deal (cPc D dA ad fv A a [.ref (ad 0), .int x1]) (cQi D dA ad fv A Q) 8 32 A :=
  c_met (by decide) rfl rfl rfl (Nat.le_of_ble_eq_true rfl) (fun p e s m below meth c ls S hr hlk hin2 hw hl => wkC_X0_deal_e S hr hlk Q x1 a _ _ ls h hw hl)
end CWalk

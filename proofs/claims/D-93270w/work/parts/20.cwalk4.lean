section CWalk
variable {p : Program} {l : Launch} {e : Env} {s : State} {m : MethodId} {args : Array Value} {below : List Frame} {meth : Method} {c : Code} {D : va_G} {dA : Nat → ClassId} {ad : Nat → Nat} {fv : Nat → Value} {A : Nat → Prop}
/-! X0.roomOf -/
abbrev rmC_X0_roomOf : Room := { frames := 8, cells := 0, slots := 0, locals := 300 }
def bkC_X0_roomOf_70 (Q : Int32 → CS → Prop) (x1 : Int32) : Nat → Int32 → CS → Prop := fun x2 x4 a => vwpC_room a x2 x4 (fun r73 a73 => Q r73 a73)
set_option maxHeartbeats 4000000 in
set_option maxRecDepth 100000 in
theorem wkC_X0_roomOf_70 (S : CallFix p m c cX0_roomOf 5 s args lw_all RX0) (hr : meth.sig.returnType = (some .int)) (hlk : meth.locks = false) (Q : Int32 → CS → Prop) (x1 : Int32) : ∀ (x2 : Nat) (x4 : Int32) (a : CS) (H : Heap) (locs : List Loc) (ls : Array Slot), bkC_X0_roomOf_70 Q x1 x2 x4 a → CW D dA ad fv A a s H locs → lv_has ls 5 [(2, .ref (ad x2)), (4, .int x4)] → W p l e rmC_X0_roomOf s m args below meth c H locs 0 0 (MQ below (cQi D dA ad fv A Q) args s 0 0 A) (F0 m 70 ls []) := by
  have hx := S.1
  have hb := S.2.1
  have hown := S.2.2.2.1
  have hts := S.2.2.2.2
  intro x2 x4 a H locs ls h hw hl
  unfold bkC_X0_roomOf_70 at h
  refine lv_aload_n hx hb dX0_roomOf_70 rfl (lv_at hl 0 rfl) ?_
  refine lv_iload hx hb dX0_roomOf_71 (lv_at hl 1 rfl) ?_
  refine c_calli hw (runL_X0_room S hw h [] hl.1 rfl (Nat.le_of_ble_eq_true rfl) dX0_roomOf_73 ⟨Nat.le_of_ble_eq_true rfl, Nat.le_of_ble_eq_true rfl⟩ (Nat.le_of_ble_eq_true rfl) (Nat.le_of_ble_eq_true rfl)) (fun r73 a73 H locs h hw => ?_)
  exact c_iret S hr hlk hw h dX0_roomOf_76
def wpC_X0_roomOf (a : CS) (x1 : Int32) (Q : Int32 → CS → Prop) : Prop := (vp_in x1 8) ∧ ((leafK a (a.2.1 41 x1.toNatClampNeg)) ∧ (wpC_X0_counts a (0 : Int32) (fun r12 a12 => (leafK a12 (a.2.1 41 x1.toNatClampNeg)) ∧ (if r12 = (-1 : Int32) then (bkC_X0_roomOf_70 Q x1 (a.2.1 41 x1.toNatClampNeg) (a12.1 (a.2.1 41 x1.toNatClampNeg) 0) a12) else (∀ a37 : CS, a37 = wI a12 72 (115 : Int32).toNatClampNeg (a12.1 (a.2.1 41 x1.toNatClampNeg) 0) → (∀ a45 : CS, a45 = wI a37 72 (110 : Int32).toNatClampNeg x1 → ((vp_in r12 14) ∧ ((kindK a45 (a45.2.1 61 r12.toNatClampNeg) 114) ∧ ((kindK a45 (a45.2.1 (a45.2.1 61 r12.toNatClampNeg) 1) 113) ∧ (wpC_X0_reckon a45 (a45.2.1 (a45.2.1 61 r12.toNatClampNeg) 1) (fun r59 a59 => wpC_X0_within a59 r59 (1 : Int32) (9 : Int32) (fun r65 a65 => bkC_X0_roomOf_70 Q x1 (a.2.1 41 x1.toNatClampNeg) r65 a65))))))))))))
set_option maxHeartbeats 4000000 in
set_option maxRecDepth 100000 in
theorem wkC_X0_roomOf_e (S : CallFix p m c cX0_roomOf 5 s args lw_all RX0) (hr : meth.sig.returnType = (some .int)) (hlk : meth.locks = false) (Q : Int32 → CS → Prop) (x1 : Int32) (a : CS) (H : Heap) (locs : List Loc) (ls : Array Slot) (h : wpC_X0_roomOf a x1 Q) (hw : CW D dA ad fv A a s H locs) (hl : lv_has ls 5 [(0, .ref (ad 0)), (1, .int x1)]) : W p l e rmC_X0_roomOf s m args below meth c H locs 0 0 (MQ below (cQi D dA ad fv A Q) args s 0 0 A) (F0 m 0 ls []) := by
  have hx := S.1
  have hb := S.2.1
  have hown := S.2.2.2.1
  have hts := S.2.2.2.2
  unfold wpC_X0_roomOf at h
  refine lv_aload_n hx hb dX0_roomOf_0 rfl (lv_at hl 0 rfl) ?_
  refine c_get S hw (n := 0) (ci := 0) (cOk.s (by decide)) (isO_K _) rfl in_X0 0 (by decide) (Or.inl q324) rfl rfl dX0_roomOf_1 ?_
  refine c_get S hw (n := 1) (cOk.s (by decide)) ((isO_S (by decide) (by decide)) _) rfl in_X1 2 (by decide) (Or.inr (List.mem_of_getElem? (i := 13) rfl)) rfl rfl dX0_roomOf_4 ?_
  refine lv_iload_n hx hb dX0_roomOf_7 rfl (lv_at hl 1 rfl) ?_
  have hi8 := h.1
  replace h := h.2
  have hk8_0 := h.1
  replace h := h.2
  refine c_aald S hw (n := 41) (cOk.s (by decide)) ((isR_lf (by decide) (by decide)) _) rfl hi8 (rv_n hk8_0.ne) dX0_roomOf_8 ?_
  refine lv_astore_n (lv' := [(2, .ref (ad (a.2.1 41 x1.toNatClampNeg))), (0, .ref (ad 0)), (1, .int x1)]) hx hb dX0_roomOf_9 rfl hl (by decide) rfl (fun ls hl => ?_)
  refine lv_aload_n hx hb dX0_roomOf_10 rfl (lv_at hl 1 rfl) ?_
  refine lv_iconst (v := (0 : Int32)) hx hb dX0_roomOf_11 (by decide) ?_
  refine c_calli hw (va_runV (As := [.int (0 : Int32)]) (rest := []) S (ctC_X0_counts l D dA ad fv A a (0 : Int32) _ h) (cwC_X0_X0_counts hts ⟨Nat.le_of_ble_eq_true rfl, Nat.le_of_ble_eq_true rfl⟩) (c_preV hw (n := 0) (cOk.s (by decide)) (isO_K _) rfl) rfl rfl hl.1 rfl (lv_room (Nat.le_of_ble_eq_true rfl)) dX0_roomOf_12 ⟨Nat.le_of_ble_eq_true rfl, Nat.le_of_ble_eq_true rfl⟩) (fun r12 a12 H locs h hw => ?_)
  refine lv_istore_n (lv' := [(3, .int r12), (2, .ref (ad (a.2.1 41 x1.toNatClampNeg))), (0, .ref (ad 0)), (1, .int x1)]) hx hb dX0_roomOf_15 rfl hl (by decide) rfl (fun ls hl => ?_)
  refine lv_aload_n hx hb dX0_roomOf_16 rfl (lv_at hl 1 rfl) ?_
  have hk17_1 := h.1
  replace h := h.2
  refine c_lget S hw hk17_1 0 (by decide) (Or.inl q645) dX0_roomOf_17 ?_
  refine lv_istore (lv' := [(4, .int (a12.1 (a.2.1 41 x1.toNatClampNeg) 0)), (3, .int r12), (2, .ref (ad (a.2.1 41 x1.toNatClampNeg))), (0, .ref (ad 0)), (1, .int x1)]) hx hb dX0_roomOf_20 hl (by decide) rfl (fun ls hl => ?_)
  refine lv_iload_n hx hb dX0_roomOf_22 rfl (lv_at hl 1 rfl) ?_
  refine lv_iconst (v := (-1 : Int32)) hx hb dX0_roomOf_23 (by decide) ?_
  refine lv_icmp_eq (tgt := 70) hx hb dX0_roomOf_24 (by decide) (fun c24 => ?_) (fun c24 => ?_)
  · replace h := if_t c24 h
    exact wkC_X0_roomOf_70 S hr hlk Q x1 _ _ _ _ _ _ h hw (lv_sub hl [2, 0] rfl)
  · replace h := if_f c24 h
    refine lv_aload_n hx hb dX0_roomOf_27 rfl (lv_at hl 3 rfl) ?_
    refine c_get S hw (n := 0) (ci := 0) (cOk.s (by decide)) (isO_K _) rfl in_X0 17 (by decide) (Or.inl q341) rfl rfl dX0_roomOf_28 ?_
    refine lv_bipush (v := (115 : Int32)) hx hb dX0_roomOf_31 (by decide) ?_
    refine lv_aload_n hx hb dX0_roomOf_33 rfl (lv_at hl 2 rfl) ?_
    refine c_lget S hw hk17_1 0 (by decide) (Or.inl q645) dX0_roomOf_34 ?_
    refine c_ast S hw (n := 72) (by decide) (cOk.s (by decide)) (fun _ => rfl) (vlit (by decide)) (Or.inl ⟨rfl, rfl, dX0_roomOf_37⟩) (fun a37 H locs ea37 hw => ?_)
    replace h := h a37 ea37
    refine lv_aload_n hx hb dX0_roomOf_38 rfl (lv_at hl 3 rfl) ?_
    refine c_get S hw (n := 0) (ci := 0) (cOk.s (by decide)) (isO_K _) rfl in_X0 17 (by decide) (Or.inl q341) rfl rfl dX0_roomOf_39 ?_
    refine lv_bipush (v := (110 : Int32)) hx hb dX0_roomOf_42 (by decide) ?_
    refine lv_iload_n hx hb dX0_roomOf_44 rfl (lv_at hl 4 rfl) ?_
    refine c_ast S hw (n := 72) (by decide) (cOk.s (by decide)) (fun _ => rfl) (vlit (by decide)) (Or.inl ⟨rfl, rfl, dX0_roomOf_45⟩) (fun a45 H locs ea45 hw => ?_)
    replace h := h a45 ea45
    refine lv_aload_n hx hb dX0_roomOf_46 rfl (lv_at hl 3 rfl) ?_
    refine lv_aload_n hx hb dX0_roomOf_47 rfl (lv_at hl 3 rfl) ?_
    refine c_get S hw (n := 0) (ci := 0) (cOk.s (by decide)) (isO_K _) rfl in_X0 0 (by decide) (Or.inl q324) rfl rfl dX0_roomOf_48 ?_
    refine c_get S hw (n := 1) (cOk.s (by decide)) ((isO_S (by decide) (by decide)) _) rfl in_X1 9 (by decide) (Or.inr (List.mem_of_getElem? (i := 20) rfl)) rfl rfl dX0_roomOf_51 ?_
    refine lv_iload_n hx hb dX0_roomOf_54 rfl (lv_at hl 1 rfl) ?_
    have hi55 := h.1
    replace h := h.2
    have hk55_2 := h.1
    replace h := h.2
    refine c_aald S hw (n := 61) (cOk.s (by decide)) ((isR_tx (by decide) (by decide)) _) rfl hi55 (rv_n hk55_2.ne) dX0_roomOf_55 ?_
    have hk56_3 := h.1
    replace h := h.2
    refine c_getr S hw (n := (a45.2.1 61 r12.toNatClampNeg)) (x := (a45.2.1 (a45.2.1 61 r12.toNatClampNeg) 1)) (hk55_2.ok (by decide)) ((isO_T hk55_2) _) rfl in_X14 1 (by decide) (Or.inr (List.mem_of_getElem? (i := 33) rfl)) rfl rfl hk56_3.ne dX0_roomOf_56 ?_
    refine c_calli hw (va_runV (As := [.ref (ad (a45.2.1 (a45.2.1 61 r12.toNatClampNeg) 1))]) (rest := []) S (ctC_X0_reckon l D dA ad fv A a45 (a45.2.1 (a45.2.1 61 r12.toNatClampNeg) 1) _ h) (cwC_X0_X0_reckon hts ⟨Nat.le_of_ble_eq_true rfl, Nat.le_of_ble_eq_true rfl⟩) (c_preV hw (n := 0) (cOk.s (by decide)) (isO_K _) rfl) rfl rfl hl.1 rfl (lv_room (Nat.le_of_ble_eq_true rfl)) dX0_roomOf_59 ⟨Nat.le_of_ble_eq_true rfl, Nat.le_of_ble_eq_true rfl⟩) (fun r59 a59 H locs h hw => ?_)
    refine lv_iconst (v := (1 : Int32)) hx hb dX0_roomOf_62 (by decide) ?_
    refine lv_bipush (v := (9 : Int32)) hx hb dX0_roomOf_63 (by decide) ?_
    refine c_calli hw (va_runS (As := [.int r59, .int (1 : Int32), .int (9 : Int32)]) (rest := []) S (ctC_X0_within l D dA ad fv A a59 r59 (1 : Int32) (9 : Int32) _ h) (cwC_X0_X0_within hts ⟨Nat.le_of_ble_eq_true rfl, Nat.le_of_ble_eq_true rfl⟩) (c_preS hw) rfl rfl hl.1 rfl (lv_room (Nat.le_of_ble_eq_true rfl)) dX0_roomOf_65 ⟨Nat.le_of_ble_eq_true rfl, Nat.le_of_ble_eq_true rfl⟩) (fun r65 a65 H locs h hw => ?_)
    refine lv_istore (lv' := [(4, .int r65), (3, .int r12), (2, .ref (ad (a.2.1 41 x1.toNatClampNeg))), (0, .ref (ad 0)), (1, .int x1)]) hx hb dX0_roomOf_68 hl (by decide) rfl (fun ls hl => ?_)
    exact wkC_X0_roomOf_70 S hr hlk Q x1 _ _ _ _ _ _ h hw (lv_sub hl [2, 0] rfl)
theorem ctC_X0_roomOf (l : Launch) (D : va_G) (dA : Nat → ClassId) (ad : Nat → Nat) (fv : Nat → Value) (A : Nat → Prop) (a : CS) (x1 : Int32) (Q : Int32 → CS → Prop) (h : wpC_X0_roomOf a x1 Q) : Met l yX0_roomOf (ws_ yX0_roomOf cX0_roomOf 5 (some .int)) rmC_X0_roomOf (cPc D dA ad fv A a [.ref (ad 0), .int x1]) (cQi D dA ad fv A Q) 0 0 A :=
  c_met (by decide) rfl rfl rfl (Nat.le_of_ble_eq_true rfl) (fun p e s m below meth c ls S hr hlk hin2 hw hl => wkC_X0_roomOf_e S hr hlk Q x1 a _ _ ls h hw hl)
theorem cwC_X0_X0_roomOf {R : Room} {s : State} {args : Array Value} {rm : Room} (hts : ∀ w ∈ lw_all, w.before args s = true) (hR : rm.frames + 1 ≤ R.frames ∧ 8 + (5 + 11) + rm.locals ≤ R.locals) (hc : rm.cells = 0 := by rfl) (hs : rm.slots = 0 := by rfl) : CallW R s args RX0 RX0 339 yX0_roomOf cX0_roomOf 5 (some .int) (ws_ yX0_roomOf cX0_roomOf 5 (some .int)) rm 0 0 1 :=
  cwV 1 hts (lw_V q723 q725 qs21 q103 q726) rfl hc hs (by decide +kernel) hR
/-! X0.missOf -/
abbrev rmC_X0_missOf : Room := { frames := 8, cells := 0, slots := 0, locals := 300 }
def bkC_X0_missOf_82 (Q : Int32 → CS → Prop) (x1 : Int32) : Nat → Int32 → CS → Prop := fun x2 x4 a => wpC_X0_leaningOn a x1 (fun r87 a87 => vwpC_miss a87 x2 x4 r87 (fun r90 a90 => Q r90 a90))
set_option maxHeartbeats 4000000 in
set_option maxRecDepth 100000 in
theorem wkC_X0_missOf_82 (S : CallFix p m c cX0_missOf 5 s args lw_all RX0) (hr : meth.sig.returnType = (some .int)) (hlk : meth.locks = false) (Q : Int32 → CS → Prop) (x1 : Int32) : ∀ (x2 : Nat) (x4 : Int32) (a : CS) (H : Heap) (locs : List Loc) (ls : Array Slot), bkC_X0_missOf_82 Q x1 x2 x4 a → CW D dA ad fv A a s H locs → lv_has ls 5 [(0, .ref (ad 0)), (1, .int x1), (2, .ref (ad x2)), (4, .int x4)] → W p l e rmC_X0_missOf s m args below meth c H locs 0 0 (MQ below (cQi D dA ad fv A Q) args s 0 0 A) (F0 m 82 ls []) := by
  have hx := S.1
  have hb := S.2.1
  have hown := S.2.2.2.1
  have hts := S.2.2.2.2
  intro x2 x4 a H locs ls h hw hl
  unfold bkC_X0_missOf_82 at h
  refine lv_aload_n hx hb dX0_missOf_82 rfl (lv_at hl 2 rfl) ?_
  refine lv_iload hx hb dX0_missOf_83 (lv_at hl 3 rfl) ?_
  refine lv_aload_n hx hb dX0_missOf_85 rfl (lv_at hl 0 rfl) ?_
  refine lv_iload_n hx hb dX0_missOf_86 rfl (lv_at hl 1 rfl) ?_
  refine c_calli hw (va_runV (As := [.int x1]) (rest := [.int x4, .ref (ad x2)]) S (ctC_X0_leaningOn l D dA ad fv A a x1 _ h) (cwC_X0_X0_leaningOn hts ⟨Nat.le_of_ble_eq_true rfl, Nat.le_of_ble_eq_true rfl⟩) (c_preV hw (n := 0) (cOk.s (by decide)) (isO_K _) rfl) rfl rfl hl.1 rfl (lv_room (Nat.le_of_ble_eq_true rfl)) dX0_missOf_87 ⟨Nat.le_of_ble_eq_true rfl, Nat.le_of_ble_eq_true rfl⟩) (fun r87 a87 H locs h hw => ?_)
  refine c_calli hw (runL_X0_miss S hw h [] hl.1 rfl (Nat.le_of_ble_eq_true rfl) dX0_missOf_90 ⟨Nat.le_of_ble_eq_true rfl, Nat.le_of_ble_eq_true rfl⟩ (Nat.le_of_ble_eq_true rfl) (Nat.le_of_ble_eq_true rfl)) (fun r90 a90 H locs h hw => ?_)
  exact c_iret S hr hlk hw h dX0_missOf_93
def wpC_X0_missOf (a : CS) (x1 : Int32) (Q : Int32 → CS → Prop) : Prop := (vp_in x1 8) ∧ ((leafK a (a.2.1 41 x1.toNatClampNeg)) ∧ (wpC_X0_counts a (1 : Int32) (fun r12 a12 => (leafK a12 (a.2.1 41 x1.toNatClampNeg)) ∧ (if r12 = (-1 : Int32) then (bkC_X0_missOf_82 Q x1 (a.2.1 41 x1.toNatClampNeg) (a12.1 (a.2.1 41 x1.toNatClampNeg) 1) a12) else (∀ a37 : CS, a37 = wI a12 72 (108 : Int32).toNatClampNeg (a12.1 (a.2.1 41 x1.toNatClampNeg) 1) → (∀ a45 : CS, a45 = wI a37 72 (110 : Int32).toNatClampNeg x1 → ((leafK a45 (a.2.1 41 x1.toNatClampNeg)) ∧ (∀ a56 : CS, a56 = wI a45 72 (115 : Int32).toNatClampNeg (a45.1 (a.2.1 41 x1.toNatClampNeg) 0) → ((vp_in r12 14) ∧ ((kindK a56 (a56.2.1 61 r12.toNatClampNeg) 114) ∧ ((kindK a56 (a56.2.1 (a56.2.1 61 r12.toNatClampNeg) 1) 113) ∧ (wpC_X0_reckon a56 (a56.2.1 (a56.2.1 61 r12.toNatClampNeg) 1) (fun r70 a70 => wpC_X0_within a70 r70 (0 : Int32) (999 : Int32) (fun r77 a77 => bkC_X0_missOf_82 Q x1 (a.2.1 41 x1.toNatClampNeg) r77 a77))))))))))))))
set_option maxHeartbeats 4000000 in
set_option maxRecDepth 100000 in
theorem wkC_X0_missOf_e (S : CallFix p m c cX0_missOf 5 s args lw_all RX0) (hr : meth.sig.returnType = (some .int)) (hlk : meth.locks = false) (Q : Int32 → CS → Prop) (x1 : Int32) (a : CS) (H : Heap) (locs : List Loc) (ls : Array Slot) (h : wpC_X0_missOf a x1 Q) (hw : CW D dA ad fv A a s H locs) (hl : lv_has ls 5 [(0, .ref (ad 0)), (1, .int x1)]) : W p l e rmC_X0_missOf s m args below meth c H locs 0 0 (MQ below (cQi D dA ad fv A Q) args s 0 0 A) (F0 m 0 ls []) := by
  have hx := S.1
  have hb := S.2.1
  have hown := S.2.2.2.1
  have hts := S.2.2.2.2
  unfold wpC_X0_missOf at h
  refine lv_aload_n hx hb dX0_missOf_0 rfl (lv_at hl 0 rfl) ?_
  refine c_get S hw (n := 0) (ci := 0) (cOk.s (by decide)) (isO_K _) rfl in_X0 0 (by decide) (Or.inl q324) rfl rfl dX0_missOf_1 ?_
  refine c_get S hw (n := 1) (cOk.s (by decide)) ((isO_S (by decide) (by decide)) _) rfl in_X1 2 (by decide) (Or.inr (List.mem_of_getElem? (i := 13) rfl)) rfl rfl dX0_missOf_4 ?_
  refine lv_iload_n hx hb dX0_missOf_7 rfl (lv_at hl 1 rfl) ?_
  have hi8 := h.1
  replace h := h.2
  have hk8_0 := h.1
  replace h := h.2
  refine c_aald S hw (n := 41) (cOk.s (by decide)) ((isR_lf (by decide) (by decide)) _) rfl hi8 (rv_n hk8_0.ne) dX0_missOf_8 ?_
  refine lv_astore_n (lv' := [(2, .ref (ad (a.2.1 41 x1.toNatClampNeg))), (0, .ref (ad 0)), (1, .int x1)]) hx hb dX0_missOf_9 rfl hl (by decide) rfl (fun ls hl => ?_)
  refine lv_aload_n hx hb dX0_missOf_10 rfl (lv_at hl 1 rfl) ?_
  refine lv_iconst (v := (1 : Int32)) hx hb dX0_missOf_11 (by decide) ?_
  refine c_calli hw (va_runV (As := [.int (1 : Int32)]) (rest := []) S (ctC_X0_counts l D dA ad fv A a (1 : Int32) _ h) (cwC_X0_X0_counts hts ⟨Nat.le_of_ble_eq_true rfl, Nat.le_of_ble_eq_true rfl⟩) (c_preV hw (n := 0) (cOk.s (by decide)) (isO_K _) rfl) rfl rfl hl.1 rfl (lv_room (Nat.le_of_ble_eq_true rfl)) dX0_missOf_12 ⟨Nat.le_of_ble_eq_true rfl, Nat.le_of_ble_eq_true rfl⟩) (fun r12 a12 H locs h hw => ?_)
  refine lv_istore_n (lv' := [(3, .int r12), (2, .ref (ad (a.2.1 41 x1.toNatClampNeg))), (0, .ref (ad 0)), (1, .int x1)]) hx hb dX0_missOf_15 rfl hl (by decide) rfl (fun ls hl => ?_)
  refine lv_aload_n hx hb dX0_missOf_16 rfl (lv_at hl 1 rfl) ?_
  have hk17_1 := h.1
  replace h := h.2
  refine c_lget S hw hk17_1 1 (by decide) (Or.inl q647) dX0_missOf_17 ?_
  refine lv_istore (lv' := [(4, .int (a12.1 (a.2.1 41 x1.toNatClampNeg) 1)), (3, .int r12), (2, .ref (ad (a.2.1 41 x1.toNatClampNeg))), (0, .ref (ad 0)), (1, .int x1)]) hx hb dX0_missOf_20 hl (by decide) rfl (fun ls hl => ?_)
  refine lv_iload_n hx hb dX0_missOf_22 rfl (lv_at hl 1 rfl) ?_
  refine lv_iconst (v := (-1 : Int32)) hx hb dX0_missOf_23 (by decide) ?_
  refine lv_icmp_eq (tgt := 82) hx hb dX0_missOf_24 (by decide) (fun c24 => ?_) (fun c24 => ?_)
  · replace h := if_t c24 h
    exact wkC_X0_missOf_82 S hr hlk Q x1 _ _ _ _ _ _ h hw (lv_sub hl [3, 4, 2, 0] rfl)
  · replace h := if_f c24 h
    refine lv_aload_n hx hb dX0_missOf_27 rfl (lv_at hl 3 rfl) ?_
    refine c_get S hw (n := 0) (ci := 0) (cOk.s (by decide)) (isO_K _) rfl in_X0 17 (by decide) (Or.inl q341) rfl rfl dX0_missOf_28 ?_
    refine lv_bipush (v := (108 : Int32)) hx hb dX0_missOf_31 (by decide) ?_
    refine lv_aload_n hx hb dX0_missOf_33 rfl (lv_at hl 2 rfl) ?_
    refine c_lget S hw hk17_1 1 (by decide) (Or.inl q647) dX0_missOf_34 ?_
    refine c_ast S hw (n := 72) (by decide) (cOk.s (by decide)) (fun _ => rfl) (vlit (by decide)) (Or.inl ⟨rfl, rfl, dX0_missOf_37⟩) (fun a37 H locs ea37 hw => ?_)
    replace h := h a37 ea37
    refine lv_aload_n hx hb dX0_missOf_38 rfl (lv_at hl 3 rfl) ?_
    refine c_get S hw (n := 0) (ci := 0) (cOk.s (by decide)) (isO_K _) rfl in_X0 17 (by decide) (Or.inl q341) rfl rfl dX0_missOf_39 ?_
    refine lv_bipush (v := (110 : Int32)) hx hb dX0_missOf_42 (by decide) ?_
    refine lv_iload_n hx hb dX0_missOf_44 rfl (lv_at hl 4 rfl) ?_
    refine c_ast S hw (n := 72) (by decide) (cOk.s (by decide)) (fun _ => rfl) (vlit (by decide)) (Or.inl ⟨rfl, rfl, dX0_missOf_45⟩) (fun a45 H locs ea45 hw => ?_)
    replace h := h a45 ea45
    refine lv_aload_n hx hb dX0_missOf_46 rfl (lv_at hl 3 rfl) ?_
    refine c_get S hw (n := 0) (ci := 0) (cOk.s (by decide)) (isO_K _) rfl in_X0 17 (by decide) (Or.inl q341) rfl rfl dX0_missOf_47 ?_
    refine lv_bipush (v := (115 : Int32)) hx hb dX0_missOf_50 (by decide) ?_
    refine lv_aload_n hx hb dX0_missOf_52 rfl (lv_at hl 2 rfl) ?_
    have hk53_2 := h.1
    replace h := h.2
    refine c_lget S hw hk53_2 0 (by decide) (Or.inl q645) dX0_missOf_53 ?_
    refine c_ast S hw (n := 72) (by decide) (cOk.s (by decide)) (fun _ => rfl) (vlit (by decide)) (Or.inl ⟨rfl, rfl, dX0_missOf_56⟩) (fun a56 H locs ea56 hw => ?_)
    replace h := h a56 ea56
    refine lv_aload_n hx hb dX0_missOf_57 rfl (lv_at hl 3 rfl) ?_
    refine lv_aload_n hx hb dX0_missOf_58 rfl (lv_at hl 3 rfl) ?_
    refine c_get S hw (n := 0) (ci := 0) (cOk.s (by decide)) (isO_K _) rfl in_X0 0 (by decide) (Or.inl q324) rfl rfl dX0_missOf_59 ?_
    refine c_get S hw (n := 1) (cOk.s (by decide)) ((isO_S (by decide) (by decide)) _) rfl in_X1 9 (by decide) (Or.inr (List.mem_of_getElem? (i := 20) rfl)) rfl rfl dX0_missOf_62 ?_
    refine lv_iload_n hx hb dX0_missOf_65 rfl (lv_at hl 1 rfl) ?_
    have hi66 := h.1
    replace h := h.2
    have hk66_3 := h.1
    replace h := h.2
    refine c_aald S hw (n := 61) (cOk.s (by decide)) ((isR_tx (by decide) (by decide)) _) rfl hi66 (rv_n hk66_3.ne) dX0_missOf_66 ?_
    have hk67_4 := h.1
    replace h := h.2
    refine c_getr S hw (n := (a56.2.1 61 r12.toNatClampNeg)) (x := (a56.2.1 (a56.2.1 61 r12.toNatClampNeg) 1)) (hk66_3.ok (by decide)) ((isO_T hk66_3) _) rfl in_X14 1 (by decide) (Or.inr (List.mem_of_getElem? (i := 33) rfl)) rfl rfl hk67_4.ne dX0_missOf_67 ?_
    refine c_calli hw (va_runV (As := [.ref (ad (a56.2.1 (a56.2.1 61 r12.toNatClampNeg) 1))]) (rest := []) S (ctC_X0_reckon l D dA ad fv A a56 (a56.2.1 (a56.2.1 61 r12.toNatClampNeg) 1) _ h) (cwC_X0_X0_reckon hts ⟨Nat.le_of_ble_eq_true rfl, Nat.le_of_ble_eq_true rfl⟩) (c_preV hw (n := 0) (cOk.s (by decide)) (isO_K _) rfl) rfl rfl hl.1 rfl (lv_room (Nat.le_of_ble_eq_true rfl)) dX0_missOf_70 ⟨Nat.le_of_ble_eq_true rfl, Nat.le_of_ble_eq_true rfl⟩) (fun r70 a70 H locs h hw => ?_)
    refine lv_iconst (v := (0 : Int32)) hx hb dX0_missOf_73 (by decide) ?_
    refine lv_sipush (v := (999 : Int32)) hx hb dX0_missOf_74 (by decide) ?_
    refine c_calli hw (va_runS (As := [.int r70, .int (0 : Int32), .int (999 : Int32)]) (rest := []) S (ctC_X0_within l D dA ad fv A a70 r70 (0 : Int32) (999 : Int32) _ h) (cwC_X0_X0_within hts ⟨Nat.le_of_ble_eq_true rfl, Nat.le_of_ble_eq_true rfl⟩) (c_preS hw) rfl rfl hl.1 rfl (lv_room (Nat.le_of_ble_eq_true rfl)) dX0_missOf_77 ⟨Nat.le_of_ble_eq_true rfl, Nat.le_of_ble_eq_true rfl⟩) (fun r77 a77 H locs h hw => ?_)
    refine lv_istore (lv' := [(4, .int r77), (3, .int r12), (2, .ref (ad (a.2.1 41 x1.toNatClampNeg))), (0, .ref (ad 0)), (1, .int x1)]) hx hb dX0_missOf_80 hl (by decide) rfl (fun ls hl => ?_)
    exact wkC_X0_missOf_82 S hr hlk Q x1 _ _ _ _ _ _ h hw (lv_sub hl [3, 4, 2, 0] rfl)
theorem ctC_X0_missOf (l : Launch) (D : va_G) (dA : Nat → ClassId) (ad : Nat → Nat) (fv : Nat → Value) (A : Nat → Prop) (a : CS) (x1 : Int32) (Q : Int32 → CS → Prop) (h : wpC_X0_missOf a x1 Q) : Met l yX0_missOf (ws_ yX0_missOf cX0_missOf 5 (some .int)) rmC_X0_missOf (cPc D dA ad fv A a [.ref (ad 0), .int x1]) (cQi D dA ad fv A Q) 0 0 A :=
  c_met (by decide) rfl rfl rfl (Nat.le_of_ble_eq_true rfl) (fun p e s m below meth c ls S hr hlk hin2 hw hl => wkC_X0_missOf_e S hr hlk Q x1 a _ _ ls h hw hl)
theorem cwC_X0_X0_missOf {R : Room} {s : State} {args : Array Value} {rm : Room} (hts : ∀ w ∈ lw_all, w.before args s = true) (hR : rm.frames + 1 ≤ R.frames ∧ 8 + (5 + 11) + rm.locals ≤ R.locals) (hc : rm.cells = 0 := by rfl) (hs : rm.slots = 0 := by rfl) : CallW R s args RX0 RX0 342 yX0_missOf cX0_missOf 5 (some .int) (ws_ yX0_missOf cX0_missOf 5 (some .int)) rm 0 0 1 :=
  cwV 1 hts (lw_V q765 q767 qs23 q103 q768) rfl hc hs (by decide +kernel) hR
/-! X0.learns -/
abbrev rmC_X0_learns : Room := { frames := 9, cells := 0, slots := 0, locals := 324 }
def bkC_X0_learns_2 (Q : CS → Prop) : Nat → Int32 → CS → Prop
  | 0 => fun _ _ => False
  | n + 1 => fun x1 a => if (a.1 1 1) ≤ x1 then (Q a) else (wpC_X0_roomOf a x1 (fun r20 a20 => (vp_in x1 8) ∧ (∀ a23 : CS, a23 = wI a20 73 x1.toNatClampNeg r20 → (wpC_X0_missOf a23 x1 (fun r31 a31 => (vp_in x1 8) ∧ (∀ a34 : CS, a34 = wI a31 74 x1.toNatClampNeg r31 → ((vp_in x1 8) ∧ ((leafK a34 (a34.2.1 41 x1.toNatClampNeg)) ∧ (if (a34.1 (a34.2.1 41 x1.toNatClampNeg) 3) = (-1 : Int32) then ((vp_in x1 8) ∧ (∀ a72 : CS, a72 = wI a34 75 x1.toNatClampNeg ((ishl (1 : Int32) x1) ||| (0 : Int32)) → (bkC_X0_learns_2 Q n (x1 + (1 : Int32)) a72))) else ((vp_in (a34.1 (a34.2.1 41 x1.toNatClampNeg) 3) 8) ∧ ((vp_in x1 8) ∧ (∀ a72 : CS, a72 = wI a34 75 x1.toNatClampNeg ((ishl (1 : Int32) x1) ||| (a34.1 75 (a34.1 (a34.2.1 41 x1.toNatClampNeg) 3).toNatClampNeg)) → (bkC_X0_learns_2 Q n (x1 + (1 : Int32)) a72)))))))))))))
set_option maxHeartbeats 4000000 in
set_option maxRecDepth 100000 in
theorem wkC_X0_learns_2 (S : CallFix p m c cX0_learns 3 s args lw_all RX0) (hr : meth.sig.returnType = none) (hlk : meth.locks = false) (Q : CS → Prop) : ∀ (n : Nat) (x1 : Int32) (a : CS) (H : Heap) (locs : List Loc) (ls : Array Slot), bkC_X0_learns_2 Q n x1 a → CW D dA ad fv A a s H locs → lv_has ls 3 [(0, .ref (ad 0)), (1, .int x1)] → W p l e rmC_X0_learns s m args below meth c H locs 0 0 (MQ below (cQv D dA ad fv A Q) args s 0 0 A) (F0 m 2 ls []) := by
  have hx := S.1
  have hb := S.2.1
  have hown := S.2.2.2.1
  have hts := S.2.2.2.2
  intro n
  induction n with
  | zero =>
    intro x1 a H locs ls h
    exact False.elim h
  | succ n ih =>
    intro x1 a H locs ls h hw hl
    unfold bkC_X0_learns_2 at h
    refine lv_iload_n hx hb dX0_learns_2 rfl (lv_at hl 1 rfl) ?_
    refine lv_aload_n hx hb dX0_learns_3 rfl (lv_at hl 0 rfl) ?_
    refine c_get S hw (n := 0) (ci := 0) (cOk.s (by decide)) (isO_K _) rfl in_X0 0 (by decide) (Or.inl q324) rfl rfl dX0_learns_4 ?_
    refine c_get S hw (n := 1) (cOk.s (by decide)) ((isO_S (by decide) (by decide)) _) rfl in_X1 1 (by decide) (Or.inr (List.mem_of_getElem? (i := 12) rfl)) rfl rfl dX0_learns_7 ?_
    refine lv_icmp_ge (tgt := 79) hx hb dX0_learns_10 (by decide) (fun c10 => ?_) (fun c10 => ?_)
    · replace h := if_t c10 h
      exact c_vret S hr hlk hw h dX0_learns_79
    · replace h := if_f c10 h
      refine lv_aload_n hx hb dX0_learns_13 rfl (lv_at hl 0 rfl) ?_
      refine c_get S hw (n := 0) (ci := 0) (cOk.s (by decide)) (isO_K _) rfl in_X0 18 (by decide) (Or.inl q342) rfl rfl dX0_learns_14 ?_
      refine lv_iload_n hx hb dX0_learns_17 rfl (lv_at hl 1 rfl) ?_
      refine lv_aload_n hx hb dX0_learns_18 rfl (lv_at hl 0 rfl) ?_
      refine lv_iload_n hx hb dX0_learns_19 rfl (lv_at hl 1 rfl) ?_
      refine c_calli hw (va_runV (As := [.int x1]) (rest := [.int x1, .ref (ad 73)]) S (ctC_X0_roomOf l D dA ad fv A a x1 _ h) (cwC_X0_X0_roomOf hts ⟨Nat.le_of_ble_eq_true rfl, Nat.le_of_ble_eq_true rfl⟩) (c_preV hw (n := 0) (cOk.s (by decide)) (isO_K _) rfl) rfl rfl hl.1 rfl (lv_room (Nat.le_of_ble_eq_true rfl)) dX0_learns_20 ⟨Nat.le_of_ble_eq_true rfl, Nat.le_of_ble_eq_true rfl⟩) (fun r20 a20 H locs h hw => ?_)
      have hi23 := h.1
      replace h := h.2
      refine c_ast S hw (n := 73) (by decide) (cOk.s (by decide)) (fun _ => rfl) hi23 (Or.inl ⟨rfl, rfl, dX0_learns_23⟩) (fun a23 H locs ea23 hw => ?_)
      replace h := h a23 ea23
      refine lv_aload_n hx hb dX0_learns_24 rfl (lv_at hl 0 rfl) ?_
      refine c_get S hw (n := 0) (ci := 0) (cOk.s (by decide)) (isO_K _) rfl in_X0 19 (by decide) (Or.inl q343) rfl rfl dX0_learns_25 ?_
      refine lv_iload_n hx hb dX0_learns_28 rfl (lv_at hl 1 rfl) ?_
      refine lv_aload_n hx hb dX0_learns_29 rfl (lv_at hl 0 rfl) ?_
      refine lv_iload_n hx hb dX0_learns_30 rfl (lv_at hl 1 rfl) ?_
      refine c_calli hw (va_runV (As := [.int x1]) (rest := [.int x1, .ref (ad 74)]) S (ctC_X0_missOf l D dA ad fv A a23 x1 _ h) (cwC_X0_X0_missOf hts ⟨Nat.le_of_ble_eq_true rfl, Nat.le_of_ble_eq_true rfl⟩) (c_preV hw (n := 0) (cOk.s (by decide)) (isO_K _) rfl) rfl rfl hl.1 rfl (lv_room (Nat.le_of_ble_eq_true rfl)) dX0_learns_31 ⟨Nat.le_of_ble_eq_true rfl, Nat.le_of_ble_eq_true rfl⟩) (fun r31 a31 H locs h hw => ?_)
      have hi34 := h.1
      replace h := h.2
      refine c_ast S hw (n := 74) (by decide) (cOk.s (by decide)) (fun _ => rfl) hi34 (Or.inl ⟨rfl, rfl, dX0_learns_34⟩) (fun a34 H locs ea34 hw => ?_)
      replace h := h a34 ea34
      refine lv_aload_n hx hb dX0_learns_35 rfl (lv_at hl 0 rfl) ?_
      refine c_get S hw (n := 0) (ci := 0) (cOk.s (by decide)) (isO_K _) rfl in_X0 0 (by decide) (Or.inl q324) rfl rfl dX0_learns_36 ?_
      refine c_get S hw (n := 1) (cOk.s (by decide)) ((isO_S (by decide) (by decide)) _) rfl in_X1 2 (by decide) (Or.inr (List.mem_of_getElem? (i := 13) rfl)) rfl rfl dX0_learns_39 ?_
      refine lv_iload_n hx hb dX0_learns_42 rfl (lv_at hl 1 rfl) ?_
      have hi43 := h.1
      replace h := h.2
      have hk43_0 := h.1
      replace h := h.2
      refine c_aald S hw (n := 41) (cOk.s (by decide)) ((isR_lf (by decide) (by decide)) _) rfl hi43 (rv_n hk43_0.ne) dX0_learns_43 ?_
      refine c_lget S hw hk43_0 3 (by decide) (Or.inl q653) dX0_learns_44 ?_
      refine lv_istore_n (lv' := [(2, .int (a34.1 (a34.2.1 41 x1.toNatClampNeg) 3)), (0, .ref (ad 0)), (1, .int x1)]) hx hb dX0_learns_47 rfl hl (by decide) rfl (fun ls hl => ?_)
      refine lv_aload_n hx hb dX0_learns_48 rfl (lv_at hl 1 rfl) ?_
      refine c_get S hw (n := 0) (ci := 0) (cOk.s (by decide)) (isO_K _) rfl in_X0 20 (by decide) (Or.inl q344) rfl rfl dX0_learns_49 ?_
      refine lv_iload_n hx hb dX0_learns_52 rfl (lv_at hl 2 rfl) ?_
      refine lv_iconst (v := (1 : Int32)) hx hb dX0_learns_53 (by decide) ?_
      refine lv_iload_n hx hb dX0_learns_54 rfl (lv_at hl 2 rfl) ?_
      refine lv_ishl hx hb dX0_learns_55 ?_
      refine lv_iload_n hx hb dX0_learns_56 rfl (lv_at hl 0 rfl) ?_
      refine lv_iconst (v := (-1 : Int32)) hx hb dX0_learns_57 (by decide) ?_
      refine lv_icmp_ne (tgt := 65) hx hb dX0_learns_58 (by decide) (fun c58 => ?_) (fun c58 => ?_)
      · replace h := if_f c58 h
        refine lv_aload_n hx hb dX0_learns_65 rfl (lv_at hl 1 rfl) ?_
        refine c_get S hw (n := 0) (ci := 0) (cOk.s (by decide)) (isO_K _) rfl in_X0 20 (by decide) (Or.inl q344) rfl rfl dX0_learns_66 ?_
        refine lv_iload_n hx hb dX0_learns_69 rfl (lv_at hl 0 rfl) ?_
        have hi70 := h.1
        replace h := h.2
        refine c_ald S hw (n := 75) (cOk.s (by decide)) (fun _ => rfl) hi70 (Or.inl ⟨rfl, dX0_learns_70⟩) ?_
        refine lv_ior hx hb dX0_learns_71 ?_
        have hi72 := h.1
        replace h := h.2
        refine c_ast S hw (n := 75) (by decide) (cOk.s (by decide)) (fun _ => rfl) hi72 (Or.inl ⟨rfl, rfl, dX0_learns_72⟩) (fun a72 H locs ea72 hw => ?_)
        replace h := h a72 ea72
        refine lv_iinc (v := (x1 + (1 : Int32))) (lv' := [(1, .int (x1 + (1 : Int32))), (2, .int (a34.1 (a34.2.1 41 x1.toNatClampNeg) 3)), (0, .ref (ad 0))]) hx hb dX0_learns_73 hl (k := 2) rfl rfl (by decide) rfl (fun ls hl => ?_)
        refine lv_goto (tgt := 2) hx hb dX0_learns_76 (by decide) ?_
        exact ih _ _ _ _ _ h hw (lv_sub hl [2, 0] rfl)
      · replace h := if_t c58 h
        refine lv_iconst (v := (0 : Int32)) hx hb dX0_learns_61 (by decide) ?_
        refine lv_goto (tgt := 71) hx hb dX0_learns_62 (by decide) ?_
        refine lv_ior hx hb dX0_learns_71 ?_
        have hi72 := h.1
        replace h := h.2
        refine c_ast S hw (n := 75) (by decide) (cOk.s (by decide)) (fun _ => rfl) hi72 (Or.inl ⟨rfl, rfl, dX0_learns_72⟩) (fun a72 H locs ea72 hw => ?_)
        replace h := h a72 ea72
        refine lv_iinc (v := (x1 + (1 : Int32))) (lv' := [(1, .int (x1 + (1 : Int32))), (2, .int (a34.1 (a34.2.1 41 x1.toNatClampNeg) 3)), (0, .ref (ad 0))]) hx hb dX0_learns_73 hl (k := 2) rfl rfl (by decide) rfl (fun ls hl => ?_)
        refine lv_goto (tgt := 2) hx hb dX0_learns_76 (by decide) ?_
        exact ih _ _ _ _ _ h hw (lv_sub hl [2, 0] rfl)
def wpC_X0_learns (a : CS) (Q : CS → Prop) : Prop := ∃ n2, bkC_X0_learns_2 Q n2 (0 : Int32) a
set_option maxHeartbeats 4000000 in
set_option maxRecDepth 100000 in
theorem wkC_X0_learns_e (S : CallFix p m c cX0_learns 3 s args lw_all RX0) (hr : meth.sig.returnType = none) (hlk : meth.locks = false) (Q : CS → Prop) (a : CS) (H : Heap) (locs : List Loc) (ls : Array Slot) (h : wpC_X0_learns a Q) (hw : CW D dA ad fv A a s H locs) (hl : lv_has ls 3 [(0, .ref (ad 0))]) : W p l e rmC_X0_learns s m args below meth c H locs 0 0 (MQ below (cQv D dA ad fv A Q) args s 0 0 A) (F0 m 0 ls []) := by
  have hx := S.1
  have hb := S.2.1
  have hown := S.2.2.2.1
  have hts := S.2.2.2.2
  unfold wpC_X0_learns at h
  refine lv_iconst (v := (0 : Int32)) hx hb dX0_learns_0 (by decide) ?_
  refine lv_istore_n (lv' := [(1, .int (0 : Int32)), (0, .ref (ad 0))]) hx hb dX0_learns_1 rfl hl (by decide) rfl (fun ls hl => ?_)
  obtain ⟨n2, h⟩ := h
  exact wkC_X0_learns_2 S hr hlk Q n2 _ _ _ _ _ h hw (lv_sub hl [1, 0] rfl)
theorem ctC_X0_learns (l : Launch) (D : va_G) (dA : Nat → ClassId) (ad : Nat → Nat) (fv : Nat → Value) (A : Nat → Prop) (a : CS) (Q : CS → Prop) (h : wpC_X0_learns a Q) : Met l yX0_learns (ws_ yX0_learns cX0_learns 3 none) rmC_X0_learns (cPc D dA ad fv A a [.ref (ad 0)]) (cQv D dA ad fv A Q) 0 0 A :=
  c_met (by decide) rfl rfl rfl (Nat.le_of_ble_eq_true rfl) (fun p e s m below meth c ls S hr hlk hin2 hw hl => wkC_X0_learns_e S hr hlk Q a _ _ ls h hw hl)
theorem cwC_X0_X0_learns {R : Room} {s : State} {args : Array Value} {rm : Room} (hts : ∀ w ∈ lw_all, w.before args s = true) (hR : rm.frames + 1 ≤ R.frames ∧ 8 + (3 + 11) + rm.locals ≤ R.locals) (hc : rm.cells = 0 := by rfl) (hs : rm.slots = 0 := by rfl) : CallW R s args RX0 RX0 345 yX0_learns cX0_learns 3 none (ws_ yX0_learns cX0_learns 3 none) rm 0 0 0 :=
  cwV 0 hts (lw_V q719 q721 qs20 q103 q722) rfl hc hs (by decide +kernel) hR
/-! X0.told -/
abbrev rmC_X0_told : Room := { frames := 10, cells := 0, slots := 0, locals := 346 }
def wpC_X0_told (a : CS) (x1 : Int32) (x2 : Int32) (Q : Int32 → CS → Prop) : Prop := wpC_X0_isLeaf a x1 (fun r2 a2 => if r2 = 0 then (Q (-1000000001 : Int32) a2) else (wpC_X0_isIn a2 x2 (0 : Int32) (11 : Int32) (fun r12 a12 => if r12 = 0 then (Q (-1000000001 : Int32) a12) else ((vp_in x1 8) ∧ ((leafK a12 (a12.2.1 41 x1.toNatClampNeg)) ∧ (wpC_X0_learns a12 (fun a32 => if x2 = (0 : Int32) then (vwpC_kind a32 (a12.2.1 41 x1.toNatClampNeg) (fun r97 a97 => Q r97 a97)) else (if x2 = (1 : Int32) then ((leafK a32 (a12.2.1 41 x1.toNatClampNeg)) ∧ (Q (a32.1 (a12.2.1 41 x1.toNatClampNeg) 0) a32)) else (if x2 = (2 : Int32) then ((leafK a32 (a12.2.1 41 x1.toNatClampNeg)) ∧ (Q (a32.1 (a12.2.1 41 x1.toNatClampNeg) 1) a32)) else (if x2 = (3 : Int32) then ((leafK a32 (a12.2.1 41 x1.toNatClampNeg)) ∧ (Q (a32.1 (a12.2.1 41 x1.toNatClampNeg) 2) a32)) else (if x2 = (4 : Int32) then ((leafK a32 (a12.2.1 41 x1.toNatClampNeg)) ∧ (wpC_X0_orNone a32 (a32.1 (a12.2.1 41 x1.toNatClampNeg) 3) (fun r120 a120 => Q r120 a120))) else (if x2 = (5 : Int32) then ((vp_in x1 8) ∧ (Q (a32.1 73 x1.toNatClampNeg) a32)) else (if x2 = (6 : Int32) then ((vp_in x1 8) ∧ (Q (a32.1 74 x1.toNatClampNeg) a32)) else (if x2 = (7 : Int32) then ((vp_in x1 8) ∧ (Q (a32.1 24 x1.toNatClampNeg) a32)) else (if x2 = (8 : Int32) then ((vp_in x1 8) ∧ (Q (a32.1 34 x1.toNatClampNeg) a32)) else (if x2 = (9 : Int32) then (wpC_X2_placeOf a32 4 x1 (fun r172 a172 => wpC_X0_orNone a172 r172 (fun r175 a175 => Q r175 a175))) else (if x2 = (10 : Int32) then (wpC_X0_isRead a32 x1 (a32.1 4 3) (fun r191 a191 => if r191 = 0 then (Q (0 : Int32) a191) else (Q (1 : Int32) a191))) else (vwpC_worth a32 (a12.2.1 41 x1.toNatClampNeg) (fun r204 a204 => Q r204 a204)))))))))))))))))))
set_option maxHeartbeats 4000000 in
set_option maxRecDepth 100000 in
theorem wkC_X0_told_e (S : CallFix p m c cX0_told 4 s args lw_all RX0) (hr : meth.sig.returnType = (some .int)) (hlk : meth.locks = false) (Q : Int32 → CS → Prop) (x1 : Int32) (x2 : Int32) (a : CS) (H : Heap) (locs : List Loc) (ls : Array Slot) (h : wpC_X0_told a x1 x2 Q) (hw : CW D dA ad fv A a s H locs) (hl : lv_has ls 4 [(0, .ref (ad 0)), (1, .int x1), (2, .int x2)]) : W p l e rmC_X0_told s m args below meth c H locs 0 0 (MQ below (cQi D dA ad fv A Q) args s 0 0 A) (F0 m 0 ls []) := by
  have hx := S.1
  have hb := S.2.1
  have hown := S.2.2.2.1
  have hts := S.2.2.2.2
  unfold wpC_X0_told at h
  refine lv_aload_n hx hb dX0_told_0 rfl (lv_at hl 0 rfl) ?_
  refine lv_iload_n hx hb dX0_told_1 rfl (lv_at hl 1 rfl) ?_
  refine c_calli hw (va_runV (As := [.int x1]) (rest := []) S (ctC_X0_isLeaf l D dA ad fv A a x1 _ h) (cwC_X0_X0_isLeaf hts ⟨Nat.le_of_ble_eq_true rfl, Nat.le_of_ble_eq_true rfl⟩) (c_preV hw (n := 0) (cOk.s (by decide)) (isO_K _) rfl) rfl rfl hl.1 rfl (lv_room (Nat.le_of_ble_eq_true rfl)) dX0_told_2 ⟨Nat.le_of_ble_eq_true rfl, Nat.le_of_ble_eq_true rfl⟩) (fun r2 a2 H locs h hw => ?_)
  refine lv_if_eq (tgt := 18) hx hb dX0_told_5 (by decide) (fun c5 => ?_) (fun c5 => ?_)
  · replace h := if_t c5 h
    refine lv_ldc hx hb hown (hts _ q435) dX0_told_18 ?_
    exact c_iret S hr hlk hw h dX0_told_20
  · replace h := if_f c5 h
    refine lv_iload_n hx hb dX0_told_8 rfl (lv_at hl 2 rfl) ?_
    refine lv_iconst (v := (0 : Int32)) hx hb dX0_told_9 (by decide) ?_
    refine lv_bipush (v := (11 : Int32)) hx hb dX0_told_10 (by decide) ?_
    refine c_calli hw (va_runS (As := [.int x2, .int (0 : Int32), .int (11 : Int32)]) (rest := []) S (ctC_X0_isIn l D dA ad fv A a2 x2 (0 : Int32) (11 : Int32) _ h) (cwC_X0_X0_isIn hts ⟨Nat.le_of_ble_eq_true rfl, Nat.le_of_ble_eq_true rfl⟩) (c_preS hw) rfl rfl hl.1 rfl (lv_room (Nat.le_of_ble_eq_true rfl)) dX0_told_12 ⟨Nat.le_of_ble_eq_true rfl, Nat.le_of_ble_eq_true rfl⟩) (fun r12 a12 H locs h hw => ?_)
    refine lv_if_ne (tgt := 21) hx hb dX0_told_15 (by decide) (fun c15 => ?_) (fun c15 => ?_)
    · replace h := if_f c15 h
      refine lv_aload_n hx hb dX0_told_21 rfl (lv_at hl 0 rfl) ?_
      refine c_get S hw (n := 0) (ci := 0) (cOk.s (by decide)) (isO_K _) rfl in_X0 0 (by decide) (Or.inl q324) rfl rfl dX0_told_22 ?_
      refine c_get S hw (n := 1) (cOk.s (by decide)) ((isO_S (by decide) (by decide)) _) rfl in_X1 2 (by decide) (Or.inr (List.mem_of_getElem? (i := 13) rfl)) rfl rfl dX0_told_25 ?_
      refine lv_iload_n hx hb dX0_told_28 rfl (lv_at hl 1 rfl) ?_
      have hi29 := h.1
      replace h := h.2
      have hk29_0 := h.1
      replace h := h.2
      refine c_aald S hw (n := 41) (cOk.s (by decide)) ((isR_lf (by decide) (by decide)) _) rfl hi29 (rv_n hk29_0.ne) dX0_told_29 ?_
      refine lv_astore_n (lv' := [(3, .ref (ad (a12.2.1 41 x1.toNatClampNeg))), (0, .ref (ad 0)), (1, .int x1), (2, .int x2)]) hx hb dX0_told_30 rfl hl (by decide) rfl (fun ls hl => ?_)
      refine lv_aload_n hx hb dX0_told_31 rfl (lv_at hl 1 rfl) ?_
      refine c_callv hw (va_runV (As := []) (rest := []) S (ctC_X0_learns l D dA ad fv A a12 _ h) (cwC_X0_X0_learns hts ⟨Nat.le_of_ble_eq_true rfl, Nat.le_of_ble_eq_true rfl⟩) (c_preV hw (n := 0) (cOk.s (by decide)) (isO_K _) rfl) rfl rfl hl.1 rfl (lv_room (Nat.le_of_ble_eq_true rfl)) dX0_told_32 ⟨Nat.le_of_ble_eq_true rfl, Nat.le_of_ble_eq_true rfl⟩) (fun a32 H locs h hw => ?_)
      refine lv_iload_n hx hb dX0_told_35 rfl (lv_at hl 3 rfl) ?_
      by_cases c36_0 : x2 = (0 : Int32)
      · replace h := if_t c36_0 h
        refine lv_tableIn (off := 60) (tgt := 96) hx hb dX0_told_36 (by rw [c36_0]; decide) (by rw [c36_0]; decide) (by rw [c36_0]; decide) (by decide) ?_
        refine lv_aload_n hx hb dX0_told_96 rfl (lv_at hl 0 rfl) ?_
        refine c_calli hw (runL_X0_kind S hw h [] hl.1 rfl (Nat.le_of_ble_eq_true rfl) dX0_told_97 ⟨Nat.le_of_ble_eq_true rfl, Nat.le_of_ble_eq_true rfl⟩ (Nat.le_of_ble_eq_true rfl) (Nat.le_of_ble_eq_true rfl)) (fun r97 a97 H locs h hw => ?_)
        exact c_iret S hr hlk hw h dX0_told_100
      replace h := if_f c36_0 h
      by_cases c36_1 : x2 = (1 : Int32)
      · replace h := if_t c36_1 h
        refine lv_tableIn (off := 65) (tgt := 101) hx hb dX0_told_36 (by rw [c36_1]; decide) (by rw [c36_1]; decide) (by rw [c36_1]; decide) (by decide) ?_
        refine lv_aload_n hx hb dX0_told_101 rfl (lv_at hl 0 rfl) ?_
        have hk102_1 := h.1
        replace h := h.2
        refine c_lget S hw hk102_1 0 (by decide) (Or.inl q645) dX0_told_102 ?_
        exact c_iret S hr hlk hw h dX0_told_105
      replace h := if_f c36_1 h
      by_cases c36_2 : x2 = (2 : Int32)
      · replace h := if_t c36_2 h
        refine lv_tableIn (off := 70) (tgt := 106) hx hb dX0_told_36 (by rw [c36_2]; decide) (by rw [c36_2]; decide) (by rw [c36_2]; decide) (by decide) ?_
        refine lv_aload_n hx hb dX0_told_106 rfl (lv_at hl 0 rfl) ?_
        have hk107_1 := h.1
        replace h := h.2
        refine c_lget S hw hk107_1 1 (by decide) (Or.inl q647) dX0_told_107 ?_
        exact c_iret S hr hlk hw h dX0_told_110
      replace h := if_f c36_2 h
      by_cases c36_3 : x2 = (3 : Int32)
      · replace h := if_t c36_3 h
        refine lv_tableIn (off := 75) (tgt := 111) hx hb dX0_told_36 (by rw [c36_3]; decide) (by rw [c36_3]; decide) (by rw [c36_3]; decide) (by decide) ?_
        refine lv_aload_n hx hb dX0_told_111 rfl (lv_at hl 0 rfl) ?_
        have hk112_1 := h.1
        replace h := h.2
        refine c_lget S hw hk112_1 2 (by decide) (Or.inl q651) dX0_told_112 ?_
        exact c_iret S hr hlk hw h dX0_told_115
      replace h := if_f c36_3 h
      by_cases c36_4 : x2 = (4 : Int32)
      · replace h := if_t c36_4 h
        refine lv_tableIn (off := 80) (tgt := 116) hx hb dX0_told_36 (by rw [c36_4]; decide) (by rw [c36_4]; decide) (by rw [c36_4]; decide) (by decide) ?_
        refine lv_aload_n hx hb dX0_told_116 rfl (lv_at hl 0 rfl) ?_
        have hk117_1 := h.1
        replace h := h.2
        refine c_lget S hw hk117_1 3 (by decide) (Or.inl q653) dX0_told_117 ?_
        refine c_calli hw (va_runS (As := [.int (a32.1 (a12.2.1 41 x1.toNatClampNeg) 3)]) (rest := []) S (ctC_X0_orNone l D dA ad fv A a32 (a32.1 (a12.2.1 41 x1.toNatClampNeg) 3) _ h) (cwC_X0_X0_orNone hts ⟨Nat.le_of_ble_eq_true rfl, Nat.le_of_ble_eq_true rfl⟩) (c_preS hw) rfl rfl hl.1 rfl (lv_room (Nat.le_of_ble_eq_true rfl)) dX0_told_120 ⟨Nat.le_of_ble_eq_true rfl, Nat.le_of_ble_eq_true rfl⟩) (fun r120 a120 H locs h hw => ?_)
        exact c_iret S hr hlk hw h dX0_told_123
      replace h := if_f c36_4 h
      by_cases c36_5 : x2 = (5 : Int32)
      · replace h := if_t c36_5 h
        refine lv_tableIn (off := 88) (tgt := 124) hx hb dX0_told_36 (by rw [c36_5]; decide) (by rw [c36_5]; decide) (by rw [c36_5]; decide) (by decide) ?_
        refine lv_aload_n hx hb dX0_told_124 rfl (lv_at hl 1 rfl) ?_
        refine c_get S hw (n := 0) (ci := 0) (cOk.s (by decide)) (isO_K _) rfl in_X0 18 (by decide) (Or.inl q342) rfl rfl dX0_told_125 ?_
        refine lv_iload_n hx hb dX0_told_128 rfl (lv_at hl 2 rfl) ?_
        have hi129 := h.1
        replace h := h.2
        refine c_ald S hw (n := 73) (cOk.s (by decide)) (fun _ => rfl) hi129 (Or.inl ⟨rfl, dX0_told_129⟩) ?_
        exact c_iret S hr hlk hw h dX0_told_130
      replace h := if_f c36_5 h
      by_cases c36_6 : x2 = (6 : Int32)
      · replace h := if_t c36_6 h
        refine lv_tableIn (off := 95) (tgt := 131) hx hb dX0_told_36 (by rw [c36_6]; decide) (by rw [c36_6]; decide) (by rw [c36_6]; decide) (by decide) ?_
        refine lv_aload_n hx hb dX0_told_131 rfl (lv_at hl 1 rfl) ?_
        refine c_get S hw (n := 0) (ci := 0) (cOk.s (by decide)) (isO_K _) rfl in_X0 19 (by decide) (Or.inl q343) rfl rfl dX0_told_132 ?_
        refine lv_iload_n hx hb dX0_told_135 rfl (lv_at hl 2 rfl) ?_
        have hi136 := h.1
        replace h := h.2
        refine c_ald S hw (n := 74) (cOk.s (by decide)) (fun _ => rfl) hi136 (Or.inl ⟨rfl, dX0_told_136⟩) ?_
        exact c_iret S hr hlk hw h dX0_told_137
      replace h := if_f c36_6 h
      by_cases c36_7 : x2 = (7 : Int32)
      · replace h := if_t c36_7 h
        refine lv_tableIn (off := 102) (tgt := 138) hx hb dX0_told_36 (by rw [c36_7]; decide) (by rw [c36_7]; decide) (by rw [c36_7]; decide) (by decide) ?_
        refine lv_aload_n hx hb dX0_told_138 rfl (lv_at hl 1 rfl) ?_
        refine c_get S hw (n := 0) (ci := 0) (cOk.s (by decide)) (isO_K _) rfl in_X0 0 (by decide) (Or.inl q324) rfl rfl dX0_told_139 ?_
        refine c_get S hw (n := 1) (cOk.s (by decide)) ((isO_S (by decide) (by decide)) _) rfl in_X1 0 (by decide) (Or.inr (List.mem_of_getElem? (i := 11) rfl)) rfl rfl dX0_told_142 ?_
        refine c_get S hw (n := 4) (cOk.s (by decide)) ((isO_H (by decide) (by decide)) _) rfl in_X2 6 (by decide) (Or.inr (List.mem_of_getElem? (i := 9) rfl)) rfl rfl dX0_told_145 ?_
        refine lv_iload_n hx hb dX0_told_148 rfl (lv_at hl 2 rfl) ?_
        have hi149 := h.1
        replace h := h.2
        refine c_ald S hw (n := 24) (cOk.s (by decide)) (isA_8 (by decide) (by decide)) hi149 (Or.inl ⟨rfl, dX0_told_149⟩) ?_
        exact c_iret S hr hlk hw h dX0_told_150
      replace h := if_f c36_7 h
      by_cases c36_8 : x2 = (8 : Int32)
      · replace h := if_t c36_8 h
        refine lv_tableIn (off := 115) (tgt := 151) hx hb dX0_told_36 (by rw [c36_8]; decide) (by rw [c36_8]; decide) (by rw [c36_8]; decide) (by decide) ?_
        refine lv_aload_n hx hb dX0_told_151 rfl (lv_at hl 1 rfl) ?_
        refine c_get S hw (n := 0) (ci := 0) (cOk.s (by decide)) (isO_K _) rfl in_X0 0 (by decide) (Or.inl q324) rfl rfl dX0_told_152 ?_
        refine c_get S hw (n := 1) (cOk.s (by decide)) ((isO_S (by decide) (by decide)) _) rfl in_X1 0 (by decide) (Or.inr (List.mem_of_getElem? (i := 11) rfl)) rfl rfl dX0_told_155 ?_
        refine c_get S hw (n := 4) (cOk.s (by decide)) ((isO_H (by decide) (by decide)) _) rfl in_X2 7 (by decide) (Or.inr (List.mem_of_getElem? (i := 10) rfl)) rfl rfl dX0_told_158 ?_
        refine lv_iload_n hx hb dX0_told_161 rfl (lv_at hl 2 rfl) ?_
        have hi162 := h.1
        replace h := h.2
        refine c_ald S hw (n := 34) (cOk.s (by decide)) (isA_8 (by decide) (by decide)) hi162 (Or.inl ⟨rfl, dX0_told_162⟩) ?_
        exact c_iret S hr hlk hw h dX0_told_163
      replace h := if_f c36_8 h
      by_cases c36_9 : x2 = (9 : Int32)
      · replace h := if_t c36_9 h
        refine lv_tableIn (off := 128) (tgt := 164) hx hb dX0_told_36 (by rw [c36_9]; decide) (by rw [c36_9]; decide) (by rw [c36_9]; decide) (by decide) ?_
        refine lv_aload_n hx hb dX0_told_164 rfl (lv_at hl 1 rfl) ?_
        refine c_get S hw (n := 0) (ci := 0) (cOk.s (by decide)) (isO_K _) rfl in_X0 0 (by decide) (Or.inl q324) rfl rfl dX0_told_165 ?_
        refine c_get S hw (n := 1) (cOk.s (by decide)) ((isO_S (by decide) (by decide)) _) rfl in_X1 0 (by decide) (Or.inr (List.mem_of_getElem? (i := 11) rfl)) rfl rfl dX0_told_168 ?_
        refine lv_iload_n hx hb dX0_told_171 rfl (lv_at hl 2 rfl) ?_
        refine c_calli hw (va_runV (As := [.int x1]) (rest := []) S (ctC_X2_placeOf l D dA ad fv A a32 4 x1 _ h) (cwC_X0_X2_placeOf hts ⟨Nat.le_of_ble_eq_true rfl, Nat.le_of_ble_eq_true rfl⟩) (c_preV hw (n := 4) (cOk.s (by decide)) ((isO_H (by decide) (by decide)) _) rfl) rfl rfl hl.1 rfl (lv_room (Nat.le_of_ble_eq_true rfl)) dX0_told_172 ⟨Nat.le_of_ble_eq_true rfl, Nat.le_of_ble_eq_true rfl⟩) (fun r172 a172 H locs h hw => ?_)
        refine c_calli hw (va_runS (As := [.int r172]) (rest := []) S (ctC_X0_orNone l D dA ad fv A a172 r172 _ h) (cwC_X0_X0_orNone hts ⟨Nat.le_of_ble_eq_true rfl, Nat.le_of_ble_eq_true rfl⟩) (c_preS hw) rfl rfl hl.1 rfl (lv_room (Nat.le_of_ble_eq_true rfl)) dX0_told_175 ⟨Nat.le_of_ble_eq_true rfl, Nat.le_of_ble_eq_true rfl⟩) (fun r175 a175 H locs h hw => ?_)
        exact c_iret S hr hlk hw h dX0_told_178
      replace h := if_f c36_9 h
      by_cases c36_10 : x2 = (10 : Int32)
      · replace h := if_t c36_10 h
        refine lv_tableIn (off := 143) (tgt := 179) hx hb dX0_told_36 (by rw [c36_10]; decide) (by rw [c36_10]; decide) (by rw [c36_10]; decide) (by decide) ?_
        refine lv_aload_n hx hb dX0_told_179 rfl (lv_at hl 1 rfl) ?_
        refine lv_iload_n hx hb dX0_told_180 rfl (lv_at hl 2 rfl) ?_
        refine lv_aload_n hx hb dX0_told_181 rfl (lv_at hl 1 rfl) ?_
        refine c_get S hw (n := 0) (ci := 0) (cOk.s (by decide)) (isO_K _) rfl in_X0 0 (by decide) (Or.inl q324) rfl rfl dX0_told_182 ?_
        refine c_get S hw (n := 1) (cOk.s (by decide)) ((isO_S (by decide) (by decide)) _) rfl in_X1 0 (by decide) (Or.inr (List.mem_of_getElem? (i := 11) rfl)) rfl rfl dX0_told_185 ?_
        refine c_get S hw (n := 4) (cOk.s (by decide)) ((isO_H (by decide) (by decide)) _) rfl in_X2 3 (by decide) (Or.inr (List.mem_of_getElem? (i := 6) rfl)) rfl rfl dX0_told_188 ?_
        refine c_calli hw (va_runV (As := [.int x1, .int (a32.1 4 3)]) (rest := []) S (ctC_X0_isRead l D dA ad fv A a32 x1 (a32.1 4 3) _ h) (cwC_X0_X0_isRead hts ⟨Nat.le_of_ble_eq_true rfl, Nat.le_of_ble_eq_true rfl⟩) (c_preV hw (n := 0) (cOk.s (by decide)) (isO_K _) rfl) rfl rfl hl.1 rfl (lv_room (Nat.le_of_ble_eq_true rfl)) dX0_told_191 ⟨Nat.le_of_ble_eq_true rfl, Nat.le_of_ble_eq_true rfl⟩) (fun r191 a191 H locs h hw => ?_)
        refine lv_if_eq (tgt := 201) hx hb dX0_told_194 (by decide) (fun c194 => ?_) (fun c194 => ?_)
        · replace h := if_t c194 h
          refine lv_iconst (v := (0 : Int32)) hx hb dX0_told_201 (by decide) ?_
          exact c_iret S hr hlk hw h dX0_told_202
        · replace h := if_f c194 h
          refine lv_iconst (v := (1 : Int32)) hx hb dX0_told_197 (by decide) ?_
          refine lv_goto (tgt := 202) hx hb dX0_told_198 (by decide) ?_
          exact c_iret S hr hlk hw h dX0_told_202
      replace h := if_f c36_10 h
      have hout : x2.toInt < 0 ∨ 10 < x2.toInt ∨ (#[60, 65, 70, 75, 80, 88, 95, 102, 115, 128, 143] : Array Int)[(x2.toInt - 0).toNat]? = some 167 := by
        have n0 := lv_neT c36_0 (a := 0) (by decide)
        have n1 := lv_neT c36_1 (a := 1) (by decide)
        have n2 := lv_neT c36_2 (a := 2) (by decide)
        have n3 := lv_neT c36_3 (a := 3) (by decide)
        have n4 := lv_neT c36_4 (a := 4) (by decide)
        have n5 := lv_neT c36_5 (a := 5) (by decide)
        have n6 := lv_neT c36_6 (a := 6) (by decide)
        have n7 := lv_neT c36_7 (a := 7) (by decide)
        have n8 := lv_neT c36_8 (a := 8) (by decide)
        have n9 := lv_neT c36_9 (a := 9) (by decide)
        have n10 := lv_neT c36_10 (a := 10) (by decide)
        by_cases h1 : x2.toInt < 0
        · exact Or.inl h1
        by_cases h2 : 10 < x2.toInt
        · exact Or.inr (Or.inl h2)
        exfalso
        omega
      refine lv_tableD (tgt := 203) hx hb dX0_told_36 hout (by decide) ?_
      refine lv_aload_n hx hb dX0_told_203 rfl (lv_at hl 0 rfl) ?_
      refine c_calli hw (runL_X0_worth S hw h [] hl.1 rfl (Nat.le_of_ble_eq_true rfl) dX0_told_204 ⟨Nat.le_of_ble_eq_true rfl, Nat.le_of_ble_eq_true rfl⟩ (Nat.le_of_ble_eq_true rfl) (Nat.le_of_ble_eq_true rfl)) (fun r204 a204 H locs h hw => ?_)
      exact c_iret S hr hlk hw h dX0_told_207
    · replace h := if_t c15 h
      refine lv_ldc hx hb hown (hts _ q435) dX0_told_18 ?_
      exact c_iret S hr hlk hw h dX0_told_20
theorem ctC_X0_told (l : Launch) (D : va_G) (dA : Nat → ClassId) (ad : Nat → Nat) (fv : Nat → Value) (A : Nat → Prop) (a : CS) (x1 : Int32) (x2 : Int32) (Q : Int32 → CS → Prop) (h : wpC_X0_told a x1 x2 Q) : Met l yX0_told (ws_ yX0_told cX0_told 4 (some .int)) rmC_X0_told (cPc D dA ad fv A a [.ref (ad 0), .int x1, .int x2]) (cQi D dA ad fv A Q) 0 0 A :=
  c_met (by decide) rfl rfl rfl (Nat.le_of_ble_eq_true rfl) (fun p e s m below meth c ls S hr hlk hin2 hw hl => wkC_X0_told_e S hr hlk Q x1 x2 a _ _ ls h hw hl)
/-! X0.space -/
abbrev rmC_X0_space : Room := { frames := 10, cells := 0, slots := 0, locals := 346 }
def wpC_X0_space (a : CS) (x1 : Int32) (Q : Int32 → CS → Prop) : Prop := wpC_X0_isIn a x1 (0 : Int32) (60 : Int32) (fun r4 a4 => if r4 = 0 then (Q (-1000000001 : Int32) a4) else (∀ a18 : CS, a18 = wI a4 1 3 x1 → (wpC_X0_learns a18 (fun a22 => wpC_X0_throwsDownTo a22 x1 (fun r27 a27 => Q r27 a27)))))
set_option maxHeartbeats 4000000 in
set_option maxRecDepth 100000 in
theorem wkC_X0_space_e (S : CallFix p m c cX0_space 2 s args lw_all RX0) (hr : meth.sig.returnType = (some .int)) (hlk : meth.locks = false) (Q : Int32 → CS → Prop) (x1 : Int32) (a : CS) (H : Heap) (locs : List Loc) (ls : Array Slot) (h : wpC_X0_space a x1 Q) (hw : CW D dA ad fv A a s H locs) (hl : lv_has ls 2 [(0, .ref (ad 0)), (1, .int x1)]) : W p l e rmC_X0_space s m args below meth c H locs 0 0 (MQ below (cQi D dA ad fv A Q) args s 0 0 A) (F0 m 0 ls []) := by
  have hx := S.1
  have hb := S.2.1
  have hown := S.2.2.2.1
  have hts := S.2.2.2.2
  unfold wpC_X0_space at h
  refine lv_iload_n hx hb dX0_space_0 rfl (lv_at hl 1 rfl) ?_
  refine lv_iconst (v := (0 : Int32)) hx hb dX0_space_1 (by decide) ?_
  refine lv_bipush (v := (60 : Int32)) hx hb dX0_space_2 (by decide) ?_
  refine c_calli hw (va_runS (As := [.int x1, .int (0 : Int32), .int (60 : Int32)]) (rest := []) S (ctC_X0_isIn l D dA ad fv A a x1 (0 : Int32) (60 : Int32) _ h) (cwC_X0_X0_isIn hts ⟨Nat.le_of_ble_eq_true rfl, Nat.le_of_ble_eq_true rfl⟩) (c_preS hw) rfl rfl hl.1 rfl (lv_room (Nat.le_of_ble_eq_true rfl)) dX0_space_4 ⟨Nat.le_of_ble_eq_true rfl, Nat.le_of_ble_eq_true rfl⟩) (fun r4 a4 H locs h hw => ?_)
  refine lv_if_ne (tgt := 13) hx hb dX0_space_7 (by decide) (fun c7 => ?_) (fun c7 => ?_)
  · replace h := if_f c7 h
    refine lv_aload_n hx hb dX0_space_13 rfl (lv_at hl 0 rfl) ?_
    refine c_get S hw (n := 0) (ci := 0) (cOk.s (by decide)) (isO_K _) rfl in_X0 0 (by decide) (Or.inl q324) rfl rfl dX0_space_14 ?_
    refine lv_iload_n hx hb dX0_space_17 rfl (lv_at hl 1 rfl) ?_
    refine c_putI S hw (n := 1) (cOk.s (by decide)) (isO_S (by decide) (by decide)) rfl in_X1 tyX1 tyX1_ok nmX1 3 (by decide) (Or.inr (List.mem_of_getElem? (i := 14) rfl)) rfl rfl rfl rfl (Nat.le_of_ble_eq_true rfl) (fun _ => sset_3) dX0_space_18 (fun a18 H locs ea18 hw => ?_)
    replace h := h a18 ea18
    refine lv_aload_n hx hb dX0_space_21 rfl (lv_at hl 0 rfl) ?_
    refine c_callv hw (va_runV (As := []) (rest := []) S (ctC_X0_learns l D dA ad fv A a18 _ h) (cwC_X0_X0_learns hts ⟨Nat.le_of_ble_eq_true rfl, Nat.le_of_ble_eq_true rfl⟩) (c_preV hw (n := 0) (cOk.s (by decide)) (isO_K _) rfl) rfl rfl hl.1 rfl (lv_room (Nat.le_of_ble_eq_true rfl)) dX0_space_22 ⟨Nat.le_of_ble_eq_true rfl, Nat.le_of_ble_eq_true rfl⟩) (fun a22 H locs h hw => ?_)
    refine lv_aload_n hx hb dX0_space_25 rfl (lv_at hl 0 rfl) ?_
    refine lv_iload_n hx hb dX0_space_26 rfl (lv_at hl 1 rfl) ?_
    refine c_calli hw (va_runV (As := [.int x1]) (rest := []) S (ctC_X0_throwsDownTo l D dA ad fv A a22 x1 _ h) (cwC_X0_X0_throwsDownTo hts ⟨Nat.le_of_ble_eq_true rfl, Nat.le_of_ble_eq_true rfl⟩) (c_preV hw (n := 0) (cOk.s (by decide)) (isO_K _) rfl) rfl rfl hl.1 rfl (lv_room (Nat.le_of_ble_eq_true rfl)) dX0_space_27 ⟨Nat.le_of_ble_eq_true rfl, Nat.le_of_ble_eq_true rfl⟩) (fun r27 a27 H locs h hw => ?_)
    exact c_iret S hr hlk hw h dX0_space_30
  · replace h := if_t c7 h
    refine lv_ldc hx hb hown (hts _ q435) dX0_space_10 ?_
    exact c_iret S hr hlk hw h dX0_space_12
theorem ctC_X0_space (l : Launch) (D : va_G) (dA : Nat → ClassId) (ad : Nat → Nat) (fv : Nat → Value) (A : Nat → Prop) (a : CS) (x1 : Int32) (Q : Int32 → CS → Prop) (h : wpC_X0_space a x1 Q) : Met l yX0_space (ws_ yX0_space cX0_space 2 (some .int)) rmC_X0_space (cPc D dA ad fv A a [.ref (ad 0), .int x1]) (cQi D dA ad fv A Q) 0 0 A :=
  c_met (by decide) rfl rfl rfl (Nat.le_of_ble_eq_true rfl) (fun p e s m below meth c ls S hr hlk hin2 hw hl => wkC_X0_space_e S hr hlk Q x1 a _ _ ls h hw hl)
/-! X0.want -/
abbrev rmC_X0_want : Room := { frames := 10, cells := 0, slots := 0, locals := 346 }
def wpC_X0_want (a : CS) (x1 : Int32) (Q : Int32 → CS → Prop) : Prop := wpC_X0_isLeaf a x1 (fun r2 a2 => if r2 = 0 then (Q (-1000000001 : Int32) a2) else (wpC_X0_learns a2 (fun a12 => wpC_X0_isFound a12 x1 (fun r17 a17 => if r17 = 0 then (Q (0 : Int32) a17) else (Q (1 : Int32) a17)))))
set_option maxHeartbeats 4000000 in
set_option maxRecDepth 100000 in
theorem wkC_X0_want_e (S : CallFix p m c cX0_want 2 s args lw_all RX0) (hr : meth.sig.returnType = (some .int)) (hlk : meth.locks = false) (Q : Int32 → CS → Prop) (x1 : Int32) (a : CS) (H : Heap) (locs : List Loc) (ls : Array Slot) (h : wpC_X0_want a x1 Q) (hw : CW D dA ad fv A a s H locs) (hl : lv_has ls 2 [(0, .ref (ad 0)), (1, .int x1)]) : W p l e rmC_X0_want s m args below meth c H locs 0 0 (MQ below (cQi D dA ad fv A Q) args s 0 0 A) (F0 m 0 ls []) := by
  have hx := S.1
  have hb := S.2.1
  have hown := S.2.2.2.1
  have hts := S.2.2.2.2
  unfold wpC_X0_want at h
  refine lv_aload_n hx hb dX0_want_0 rfl (lv_at hl 0 rfl) ?_
  refine lv_iload_n hx hb dX0_want_1 rfl (lv_at hl 1 rfl) ?_
  refine c_calli hw (va_runV (As := [.int x1]) (rest := []) S (ctC_X0_isLeaf l D dA ad fv A a x1 _ h) (cwC_X0_X0_isLeaf hts ⟨Nat.le_of_ble_eq_true rfl, Nat.le_of_ble_eq_true rfl⟩) (c_preV hw (n := 0) (cOk.s (by decide)) (isO_K _) rfl) rfl rfl hl.1 rfl (lv_room (Nat.le_of_ble_eq_true rfl)) dX0_want_2 ⟨Nat.le_of_ble_eq_true rfl, Nat.le_of_ble_eq_true rfl⟩) (fun r2 a2 H locs h hw => ?_)
  refine lv_if_ne (tgt := 11) hx hb dX0_want_5 (by decide) (fun c5 => ?_) (fun c5 => ?_)
  · replace h := if_f c5 h
    refine lv_aload_n hx hb dX0_want_11 rfl (lv_at hl 0 rfl) ?_
    refine c_callv hw (va_runV (As := []) (rest := []) S (ctC_X0_learns l D dA ad fv A a2 _ h) (cwC_X0_X0_learns hts ⟨Nat.le_of_ble_eq_true rfl, Nat.le_of_ble_eq_true rfl⟩) (c_preV hw (n := 0) (cOk.s (by decide)) (isO_K _) rfl) rfl rfl hl.1 rfl (lv_room (Nat.le_of_ble_eq_true rfl)) dX0_want_12 ⟨Nat.le_of_ble_eq_true rfl, Nat.le_of_ble_eq_true rfl⟩) (fun a12 H locs h hw => ?_)
    refine lv_aload_n hx hb dX0_want_15 rfl (lv_at hl 0 rfl) ?_
    refine lv_iload_n hx hb dX0_want_16 rfl (lv_at hl 1 rfl) ?_
    refine c_calli hw (va_runV (As := [.int x1]) (rest := []) S (ctC_X0_isFound l D dA ad fv A a12 x1 _ h) (cwC_X0_X0_isFound hts ⟨Nat.le_of_ble_eq_true rfl, Nat.le_of_ble_eq_true rfl⟩) (c_preV hw (n := 0) (cOk.s (by decide)) (isO_K _) rfl) rfl rfl hl.1 rfl (lv_room (Nat.le_of_ble_eq_true rfl)) dX0_want_17 ⟨Nat.le_of_ble_eq_true rfl, Nat.le_of_ble_eq_true rfl⟩) (fun r17 a17 H locs h hw => ?_)
    refine lv_if_eq (tgt := 27) hx hb dX0_want_20 (by decide) (fun c20 => ?_) (fun c20 => ?_)
    · replace h := if_t c20 h
      refine lv_iconst (v := (0 : Int32)) hx hb dX0_want_27 (by decide) ?_
      exact c_iret S hr hlk hw h dX0_want_28
    · replace h := if_f c20 h
      refine lv_iconst (v := (1 : Int32)) hx hb dX0_want_23 (by decide) ?_
      refine lv_goto (tgt := 28) hx hb dX0_want_24 (by decide) ?_
      exact c_iret S hr hlk hw h dX0_want_28
  · replace h := if_t c5 h
    refine lv_ldc hx hb hown (hts _ q435) dX0_want_8 ?_
    exact c_iret S hr hlk hw h dX0_want_10
theorem ctC_X0_want (l : Launch) (D : va_G) (dA : Nat → ClassId) (ad : Nat → Nat) (fv : Nat → Value) (A : Nat → Prop) (a : CS) (x1 : Int32) (Q : Int32 → CS → Prop) (h : wpC_X0_want a x1 Q) : Met l yX0_want (ws_ yX0_want cX0_want 2 (some .int)) rmC_X0_want (cPc D dA ad fv A a [.ref (ad 0), .int x1]) (cQi D dA ad fv A Q) 0 0 A :=
  c_met (by decide) rfl rfl rfl (Nat.le_of_ble_eq_true rfl) (fun p e s m below meth c ls S hr hlk hin2 hw hl => wkC_X0_want_e S hr hlk Q x1 a _ _ ls h hw hl)
/-! X0.next -/
abbrev rmC_X0_next : Room := { frames := 10, cells := 0, slots := 0, locals := 346 }
def wpC_X0_next (a : CS) (Q : Int32 → CS → Prop) : Prop := if (a.1 (a.2.1 0 5) 4) = 0 then (Q (-1000000005 : Int32) a) else (wpC_X0_learns a (fun a14 => wpC_X0_chosen a14 (fun r26 a26 => ∀ a35 : CS, a35 = wI a26 (a26.2.1 0 5) 0 (a14.1 (a14.2.1 0 5) 0) → (Q r26 a35))))
set_option maxHeartbeats 4000000 in
set_option maxRecDepth 100000 in
theorem wkC_X0_next_e (S : CallFix p m c cX0_next 3 s args lw_all RX0) (hr : meth.sig.returnType = (some .int)) (hlk : meth.locks = false) (Q : Int32 → CS → Prop) (a : CS) (H : Heap) (locs : List Loc) (ls : Array Slot) (h : wpC_X0_next a Q) (hw : CW D dA ad fv A a s H locs) (hl : lv_has ls 3 [(0, .ref (ad 0))]) : W p l e rmC_X0_next s m args below meth c H locs 0 0 (MQ below (cQi D dA ad fv A Q) args s 0 0 A) (F0 m 0 ls []) := by
  have hx := S.1
  have hb := S.2.1
  have hown := S.2.2.2.1
  have hts := S.2.2.2.2
  unfold wpC_X0_next at h
  refine lv_aload_n hx hb dX0_next_0 rfl (lv_at hl 0 rfl) ?_
  refine c_getOn S hw (Or.inl q329) dX0_next_1 (fun ho1 => ?_)
  refine c_get S hw (n := (a.2.1 0 5)) (cOk.s (mem_sh ho1.1 ho1.2)) ((isO_H ho1.1 ho1.2) _) rfl in_X2 4 (by decide) (Or.inr (List.mem_of_getElem? (i := 7) rfl)) rfl rfl dX0_next_4 ?_
  refine lv_if_ne (tgt := 13) hx hb dX0_next_7 (by decide) (fun c7 => ?_) (fun c7 => ?_)
  · replace h := if_f c7 h
    refine lv_aload_n hx hb dX0_next_13 rfl (lv_at hl 0 rfl) ?_
    refine c_callv hw (va_runV (As := []) (rest := []) S (ctC_X0_learns l D dA ad fv A a _ h) (cwC_X0_X0_learns hts ⟨Nat.le_of_ble_eq_true rfl, Nat.le_of_ble_eq_true rfl⟩) (c_preV hw (n := 0) (cOk.s (by decide)) (isO_K _) rfl) rfl rfl hl.1 rfl (lv_room (Nat.le_of_ble_eq_true rfl)) dX0_next_14 ⟨Nat.le_of_ble_eq_true rfl, Nat.le_of_ble_eq_true rfl⟩) (fun a14 H locs h hw => ?_)
    refine lv_aload_n hx hb dX0_next_17 rfl (lv_at hl 0 rfl) ?_
    refine c_getOn S hw (Or.inl q329) dX0_next_18 (fun ho18 => ?_)
    refine c_get S hw (n := (a14.2.1 0 5)) (cOk.s (mem_sh ho18.1 ho18.2)) ((isO_H ho18.1 ho18.2) _) rfl in_X2 0 (by decide) (Or.inr (List.mem_of_getElem? (i := 3) rfl)) rfl rfl dX0_next_21 ?_
    refine lv_istore_n (lv' := [(1, .int (a14.1 (a14.2.1 0 5) 0)), (0, .ref (ad 0))]) hx hb dX0_next_24 rfl hl (by decide) rfl (fun ls hl => ?_)
    refine lv_aload_n hx hb dX0_next_25 rfl (lv_at hl 1 rfl) ?_
    refine c_calli hw (va_runV (As := []) (rest := []) S (ctC_X0_chosen l D dA ad fv A a14 _ h) (cwC_X0_X0_chosen hts ⟨Nat.le_of_ble_eq_true rfl, Nat.le_of_ble_eq_true rfl⟩) (c_preV hw (n := 0) (cOk.s (by decide)) (isO_K _) rfl) rfl rfl hl.1 rfl (lv_room (Nat.le_of_ble_eq_true rfl)) dX0_next_26 ⟨Nat.le_of_ble_eq_true rfl, Nat.le_of_ble_eq_true rfl⟩) (fun r26 a26 H locs h hw => ?_)
    refine lv_istore_n (lv' := [(2, .int r26), (1, .int (a14.1 (a14.2.1 0 5) 0)), (0, .ref (ad 0))]) hx hb dX0_next_29 rfl hl (by decide) rfl (fun ls hl => ?_)
    refine lv_aload_n hx hb dX0_next_30 rfl (lv_at hl 2 rfl) ?_
    refine c_getOn S hw (Or.inl q329) dX0_next_31 (fun ho31 => ?_)
    refine lv_iload_n hx hb dX0_next_34 rfl (lv_at hl 1 rfl) ?_
    refine c_putI S hw (n := (a26.2.1 0 5)) (cOk.s (mem_sh ho31.1 ho31.2)) (isO_H ho31.1 ho31.2) rfl in_X2 tyX2 tyX2_ok nmX2 0 (by decide) (Or.inr (List.mem_of_getElem? (i := 3) rfl)) rfl rfl rfl rfl (Nat.le_of_ble_eq_true rfl) (fun _ => hset_0) dX0_next_35 (fun a35 H locs ea35 hw => ?_)
    replace h := h a35 ea35
    refine lv_iload_n hx hb dX0_next_38 rfl (lv_at hl 0 rfl) ?_
    exact c_iret S hr hlk hw h dX0_next_39
  · replace h := if_t c7 h
    refine lv_ldc hx hb hown (hts _ q614) dX0_next_10 ?_
    exact c_iret S hr hlk hw h dX0_next_12
theorem ctC_X0_next (l : Launch) (D : va_G) (dA : Nat → ClassId) (ad : Nat → Nat) (fv : Nat → Value) (A : Nat → Prop) (a : CS) (Q : Int32 → CS → Prop) (h : wpC_X0_next a Q) : Met l yX0_next (ws_ yX0_next cX0_next 3 (some .int)) rmC_X0_next (cPc D dA ad fv A a [.ref (ad 0)]) (cQi D dA ad fv A Q) 0 0 A :=
  c_met (by decide) rfl rfl rfl (Nat.le_of_ble_eq_true rfl) (fun p e s m below meth c ls S hr hlk hin2 hw hl => wkC_X0_next_e S hr hlk Q a _ _ ls h hw hl)
/-! X0.run -/
abbrev rmC_X0_run : Room := { frames := 10, cells := 0, slots := 0, locals := 346 }
def wpC_X0_run (a : CS) (x1 : Int32) (Q : Int32 → CS → Prop) : Prop := wpC_X0_isIn a x1 (1 : Int32) (24 : Int32) (fun r4 a4 => if r4 = 0 then (Q (-1000000001 : Int32) a4) else (if x1 ≤ (a4.1 1 6) then (wpC_X0_learns a4 (fun a29 => wpC_X0_goesThrough a29 51 x1 (fun r41 a41 => Q r41 a41))) else (Q (-1000000002 : Int32) a4)))
set_option maxHeartbeats 4000000 in
set_option maxRecDepth 100000 in
theorem wkC_X0_run_e (S : CallFix p m c cX0_run 2 s args lw_all RX0) (hr : meth.sig.returnType = (some .int)) (hlk : meth.locks = false) (Q : Int32 → CS → Prop) (x1 : Int32) (a : CS) (H : Heap) (locs : List Loc) (ls : Array Slot) (h : wpC_X0_run a x1 Q) (hw : CW D dA ad fv A a s H locs) (hl : lv_has ls 2 [(0, .ref (ad 0)), (1, .int x1)]) : W p l e rmC_X0_run s m args below meth c H locs 0 0 (MQ below (cQi D dA ad fv A Q) args s 0 0 A) (F0 m 0 ls []) := by
  have hx := S.1
  have hb := S.2.1
  have hown := S.2.2.2.1
  have hts := S.2.2.2.2
  unfold wpC_X0_run at h
  refine lv_iload_n hx hb dX0_run_0 rfl (lv_at hl 1 rfl) ?_
  refine lv_iconst (v := (1 : Int32)) hx hb dX0_run_1 (by decide) ?_
  refine lv_bipush (v := (24 : Int32)) hx hb dX0_run_2 (by decide) ?_
  refine c_calli hw (va_runS (As := [.int x1, .int (1 : Int32), .int (24 : Int32)]) (rest := []) S (ctC_X0_isIn l D dA ad fv A a x1 (1 : Int32) (24 : Int32) _ h) (cwC_X0_X0_isIn hts ⟨Nat.le_of_ble_eq_true rfl, Nat.le_of_ble_eq_true rfl⟩) (c_preS hw) rfl rfl hl.1 rfl (lv_room (Nat.le_of_ble_eq_true rfl)) dX0_run_4 ⟨Nat.le_of_ble_eq_true rfl, Nat.le_of_ble_eq_true rfl⟩) (fun r4 a4 H locs h hw => ?_)
  refine lv_if_ne (tgt := 13) hx hb dX0_run_7 (by decide) (fun c7 => ?_) (fun c7 => ?_)
  · replace h := if_f c7 h
    refine lv_iload_n hx hb dX0_run_13 rfl (lv_at hl 1 rfl) ?_
    refine lv_aload_n hx hb dX0_run_14 rfl (lv_at hl 0 rfl) ?_
    refine c_get S hw (n := 0) (ci := 0) (cOk.s (by decide)) (isO_K _) rfl in_X0 0 (by decide) (Or.inl q324) rfl rfl dX0_run_15 ?_
    refine c_get S hw (n := 1) (cOk.s (by decide)) ((isO_S (by decide) (by decide)) _) rfl in_X1 6 (by decide) (Or.inr (List.mem_of_getElem? (i := 17) rfl)) rfl rfl dX0_run_18 ?_
    refine lv_icmp_le (tgt := 28) hx hb dX0_run_21 (by decide) (fun c21 => ?_) (fun c21 => ?_)
    · replace h := if_t c21 h
      refine lv_aload_n hx hb dX0_run_28 rfl (lv_at hl 0 rfl) ?_
      refine c_callv hw (va_runV (As := []) (rest := []) S (ctC_X0_learns l D dA ad fv A a4 _ h) (cwC_X0_X0_learns hts ⟨Nat.le_of_ble_eq_true rfl, Nat.le_of_ble_eq_true rfl⟩) (c_preV hw (n := 0) (cOk.s (by decide)) (isO_K _) rfl) rfl rfl hl.1 rfl (lv_room (Nat.le_of_ble_eq_true rfl)) dX0_run_29 ⟨Nat.le_of_ble_eq_true rfl, Nat.le_of_ble_eq_true rfl⟩) (fun a29 H locs h hw => ?_)
      refine lv_aload_n hx hb dX0_run_32 rfl (lv_at hl 0 rfl) ?_
      refine lv_aload_n hx hb dX0_run_33 rfl (lv_at hl 0 rfl) ?_
      refine c_get S hw (n := 0) (ci := 0) (cOk.s (by decide)) (isO_K _) rfl in_X0 0 (by decide) (Or.inl q324) rfl rfl dX0_run_34 ?_
      refine c_get S hw (n := 1) (cOk.s (by decide)) ((isO_S (by decide) (by decide)) _) rfl in_X1 7 (by decide) (Or.inr (List.mem_of_getElem? (i := 18) rfl)) rfl rfl dX0_run_37 ?_
      refine lv_iload_n hx hb dX0_run_40 rfl (lv_at hl 1 rfl) ?_
      refine c_calli hw (va_runV (As := [.ref (ad 51), .int x1]) (rest := []) S (ctC_X0_goesThrough l D dA ad fv A a29 51 x1 _ h) (cwC_X0_X0_goesThrough hts ⟨Nat.le_of_ble_eq_true rfl, Nat.le_of_ble_eq_true rfl⟩) (c_preV hw (n := 0) (cOk.s (by decide)) (isO_K _) rfl) rfl rfl hl.1 rfl (lv_room (Nat.le_of_ble_eq_true rfl)) dX0_run_41 ⟨Nat.le_of_ble_eq_true rfl, Nat.le_of_ble_eq_true rfl⟩) (fun r41 a41 H locs h hw => ?_)
      exact c_iret S hr hlk hw h dX0_run_44
    · replace h := if_f c21 h
      refine lv_ldcw hx hb hown (hts _ q1011) dX0_run_24 ?_
      exact c_iret S hr hlk hw h dX0_run_27
  · replace h := if_t c7 h
    refine lv_ldc hx hb hown (hts _ q435) dX0_run_10 ?_
    exact c_iret S hr hlk hw h dX0_run_12
theorem ctC_X0_run (l : Launch) (D : va_G) (dA : Nat → ClassId) (ad : Nat → Nat) (fv : Nat → Value) (A : Nat → Prop) (a : CS) (x1 : Int32) (Q : Int32 → CS → Prop) (h : wpC_X0_run a x1 Q) : Met l yX0_run (ws_ yX0_run cX0_run 2 (some .int)) rmC_X0_run (cPc D dA ad fv A a [.ref (ad 0), .int x1]) (cQi D dA ad fv A Q) 0 0 A :=
  c_met (by decide) rfl rfl rfl (Nat.le_of_ble_eq_true rfl) (fun p e s m below meth c ls S hr hlk hin2 hw hl => wkC_X0_run_e S hr hlk Q x1 a _ _ ls h hw hl)
/-! X0.would -/
abbrev rmC_X0_would : Room := { frames := 10, cells := 0, slots := 0, locals := 346 }
def wpC_X0_would (a : CS) (Q : Int32 → CS → Prop) : Prop := wpC_X0_learns a (fun a1 => wpC_X0_thought a1 51 (a1.1 1 6) (fun r19 a19 => Q r19 a19))
set_option maxHeartbeats 4000000 in
set_option maxRecDepth 100000 in
theorem wkC_X0_would_e (S : CallFix p m c cX0_would 1 s args lw_all RX0) (hr : meth.sig.returnType = (some .int)) (hlk : meth.locks = false) (Q : Int32 → CS → Prop) (a : CS) (H : Heap) (locs : List Loc) (ls : Array Slot) (h : wpC_X0_would a Q) (hw : CW D dA ad fv A a s H locs) (hl : lv_has ls 1 [(0, .ref (ad 0))]) : W p l e rmC_X0_would s m args below meth c H locs 0 0 (MQ below (cQi D dA ad fv A Q) args s 0 0 A) (F0 m 0 ls []) := by
  have hx := S.1
  have hb := S.2.1
  have hown := S.2.2.2.1
  have hts := S.2.2.2.2
  unfold wpC_X0_would at h
  refine lv_aload_n hx hb dX0_would_0 rfl (lv_at hl 0 rfl) ?_
  refine c_callv hw (va_runV (As := []) (rest := []) S (ctC_X0_learns l D dA ad fv A a _ h) (cwC_X0_X0_learns hts ⟨Nat.le_of_ble_eq_true rfl, Nat.le_of_ble_eq_true rfl⟩) (c_preV hw (n := 0) (cOk.s (by decide)) (isO_K _) rfl) rfl rfl hl.1 rfl (lv_room (Nat.le_of_ble_eq_true rfl)) dX0_would_1 ⟨Nat.le_of_ble_eq_true rfl, Nat.le_of_ble_eq_true rfl⟩) (fun a1 H locs h hw => ?_)
  refine lv_aload_n hx hb dX0_would_4 rfl (lv_at hl 0 rfl) ?_
  refine lv_aload_n hx hb dX0_would_5 rfl (lv_at hl 0 rfl) ?_
  refine c_get S hw (n := 0) (ci := 0) (cOk.s (by decide)) (isO_K _) rfl in_X0 0 (by decide) (Or.inl q324) rfl rfl dX0_would_6 ?_
  refine c_get S hw (n := 1) (cOk.s (by decide)) ((isO_S (by decide) (by decide)) _) rfl in_X1 7 (by decide) (Or.inr (List.mem_of_getElem? (i := 18) rfl)) rfl rfl dX0_would_9 ?_
  refine lv_aload_n hx hb dX0_would_12 rfl (lv_at hl 0 rfl) ?_
  refine c_get S hw (n := 0) (ci := 0) (cOk.s (by decide)) (isO_K _) rfl in_X0 0 (by decide) (Or.inl q324) rfl rfl dX0_would_13 ?_
  refine c_get S hw (n := 1) (cOk.s (by decide)) ((isO_S (by decide) (by decide)) _) rfl in_X1 6 (by decide) (Or.inr (List.mem_of_getElem? (i := 17) rfl)) rfl rfl dX0_would_16 ?_
  refine c_calli hw (va_runV (As := [.ref (ad 51), .int (a1.1 1 6)]) (rest := []) S (ctC_X0_thought l D dA ad fv A a1 51 (a1.1 1 6) _ h) (cwC_X0_X0_thought hts ⟨Nat.le_of_ble_eq_true rfl, Nat.le_of_ble_eq_true rfl⟩) (c_preV hw (n := 0) (cOk.s (by decide)) (isO_K _) rfl) rfl rfl hl.1 rfl (lv_room (Nat.le_of_ble_eq_true rfl)) dX0_would_19 ⟨Nat.le_of_ble_eq_true rfl, Nat.le_of_ble_eq_true rfl⟩) (fun r19 a19 H locs h hw => ?_)
  exact c_iret S hr hlk hw h dX0_would_22
theorem ctC_X0_would (l : Launch) (D : va_G) (dA : Nat → ClassId) (ad : Nat → Nat) (fv : Nat → Value) (A : Nat → Prop) (a : CS) (Q : Int32 → CS → Prop) (h : wpC_X0_would a Q) : Met l yX0_would (ws_ yX0_would cX0_would 1 (some .int)) rmC_X0_would (cPc D dA ad fv A a [.ref (ad 0)]) (cQi D dA ad fv A Q) 0 0 A :=
  c_met (by decide) rfl rfl rfl (Nat.le_of_ble_eq_true rfl) (fun p e s m below meth c ls S hr hlk hin2 hw hl => wkC_X0_would_e S hr hlk Q a _ _ ls h hw hl)
/-! X0.least -/
abbrev rmC_X0_least : Room := { frames := 10, cells := 0, slots := 0, locals := 346 }
def wpC_X0_least (a : CS) (x1 : Int32) (Q : Int32 → CS → Prop) : Prop := wpC_X0_isIn a x1 (0 : Int32) (1 : Int32) (fun r3 a3 => if r3 = 0 then (Q (-1000000001 : Int32) a3) else (wpC_X0_learns a3 (fun a13 => wpC_X0_findFits a13 (fun a17 => wpC_X0_leastOf a17 51 (a17.1 1 6) (fun r35 a35 => if x1 = 0 then (Q r35 a35) else (if (a35.1 1 6) = 0 then (Q (-1000000005 : Int32) a35) else (wpC_X0_keptBehind a35 (a35.1 51 (0 : Int32).toNatClampNeg) (fun r70 a70 => Q r70 a70))))))))
set_option maxHeartbeats 4000000 in
set_option maxRecDepth 100000 in
theorem wkC_X0_least_e (S : CallFix p m c cX0_least 3 s args lw_all RX0) (hr : meth.sig.returnType = (some .int)) (hlk : meth.locks = false) (Q : Int32 → CS → Prop) (x1 : Int32) (a : CS) (H : Heap) (locs : List Loc) (ls : Array Slot) (h : wpC_X0_least a x1 Q) (hw : CW D dA ad fv A a s H locs) (hl : lv_has ls 3 [(0, .ref (ad 0)), (1, .int x1)]) : W p l e rmC_X0_least s m args below meth c H locs 0 0 (MQ below (cQi D dA ad fv A Q) args s 0 0 A) (F0 m 0 ls []) := by
  have hx := S.1
  have hb := S.2.1
  have hown := S.2.2.2.1
  have hts := S.2.2.2.2
  unfold wpC_X0_least at h
  refine lv_iload_n hx hb dX0_least_0 rfl (lv_at hl 1 rfl) ?_
  refine lv_iconst (v := (0 : Int32)) hx hb dX0_least_1 (by decide) ?_
  refine lv_iconst (v := (1 : Int32)) hx hb dX0_least_2 (by decide) ?_
  refine c_calli hw (va_runS (As := [.int x1, .int (0 : Int32), .int (1 : Int32)]) (rest := []) S (ctC_X0_isIn l D dA ad fv A a x1 (0 : Int32) (1 : Int32) _ h) (cwC_X0_X0_isIn hts ⟨Nat.le_of_ble_eq_true rfl, Nat.le_of_ble_eq_true rfl⟩) (c_preS hw) rfl rfl hl.1 rfl (lv_room (Nat.le_of_ble_eq_true rfl)) dX0_least_3 ⟨Nat.le_of_ble_eq_true rfl, Nat.le_of_ble_eq_true rfl⟩) (fun r3 a3 H locs h hw => ?_)
  refine lv_if_ne (tgt := 12) hx hb dX0_least_6 (by decide) (fun c6 => ?_) (fun c6 => ?_)
  · replace h := if_f c6 h
    refine lv_aload_n hx hb dX0_least_12 rfl (lv_at hl 0 rfl) ?_
    refine c_callv hw (va_runV (As := []) (rest := []) S (ctC_X0_learns l D dA ad fv A a3 _ h) (cwC_X0_X0_learns hts ⟨Nat.le_of_ble_eq_true rfl, Nat.le_of_ble_eq_true rfl⟩) (c_preV hw (n := 0) (cOk.s (by decide)) (isO_K _) rfl) rfl rfl hl.1 rfl (lv_room (Nat.le_of_ble_eq_true rfl)) dX0_least_13 ⟨Nat.le_of_ble_eq_true rfl, Nat.le_of_ble_eq_true rfl⟩) (fun a13 H locs h hw => ?_)
    refine lv_aload_n hx hb dX0_least_16 rfl (lv_at hl 0 rfl) ?_
    refine c_callv hw (va_runV (As := []) (rest := []) S (ctC_X0_findFits l D dA ad fv A a13 _ h) (cwC_X0_X0_findFits hts ⟨Nat.le_of_ble_eq_true rfl, Nat.le_of_ble_eq_true rfl⟩) (c_preV hw (n := 0) (cOk.s (by decide)) (isO_K _) rfl) rfl rfl hl.1 rfl (lv_room (Nat.le_of_ble_eq_true rfl)) dX0_least_17 ⟨Nat.le_of_ble_eq_true rfl, Nat.le_of_ble_eq_true rfl⟩) (fun a17 H locs h hw => ?_)
    refine lv_aload_n hx hb dX0_least_20 rfl (lv_at hl 0 rfl) ?_
    refine lv_aload_n hx hb dX0_least_21 rfl (lv_at hl 0 rfl) ?_
    refine c_get S hw (n := 0) (ci := 0) (cOk.s (by decide)) (isO_K _) rfl in_X0 0 (by decide) (Or.inl q324) rfl rfl dX0_least_22 ?_
    refine c_get S hw (n := 1) (cOk.s (by decide)) ((isO_S (by decide) (by decide)) _) rfl in_X1 7 (by decide) (Or.inr (List.mem_of_getElem? (i := 18) rfl)) rfl rfl dX0_least_25 ?_
    refine lv_aload_n hx hb dX0_least_28 rfl (lv_at hl 0 rfl) ?_
    refine c_get S hw (n := 0) (ci := 0) (cOk.s (by decide)) (isO_K _) rfl in_X0 0 (by decide) (Or.inl q324) rfl rfl dX0_least_29 ?_
    refine c_get S hw (n := 1) (cOk.s (by decide)) ((isO_S (by decide) (by decide)) _) rfl in_X1 6 (by decide) (Or.inr (List.mem_of_getElem? (i := 17) rfl)) rfl rfl dX0_least_32 ?_
    refine c_calli hw (va_runV (As := [.ref (ad 51), .int (a17.1 1 6)]) (rest := []) S (ctC_X0_leastOf l D dA ad fv A a17 51 (a17.1 1 6) _ h) (cwC_X0_X0_leastOf hts ⟨Nat.le_of_ble_eq_true rfl, Nat.le_of_ble_eq_true rfl⟩) (c_preV hw (n := 0) (cOk.s (by decide)) (isO_K _) rfl) rfl rfl hl.1 rfl (lv_room (Nat.le_of_ble_eq_true rfl)) dX0_least_35 ⟨Nat.le_of_ble_eq_true rfl, Nat.le_of_ble_eq_true rfl⟩) (fun r35 a35 H locs h hw => ?_)
    refine lv_istore_n (lv' := [(2, .int r35), (0, .ref (ad 0)), (1, .int x1)]) hx hb dX0_least_38 rfl hl (by decide) rfl (fun ls hl => ?_)
    refine lv_iload_n hx hb dX0_least_39 rfl (lv_at hl 2 rfl) ?_
    refine lv_if_ne (tgt := 45) hx hb dX0_least_40 (by decide) (fun c40 => ?_) (fun c40 => ?_)
    · replace h := if_f c40 h
      refine lv_aload_n hx hb dX0_least_45 rfl (lv_at hl 1 rfl) ?_
      refine c_get S hw (n := 0) (ci := 0) (cOk.s (by decide)) (isO_K _) rfl in_X0 0 (by decide) (Or.inl q324) rfl rfl dX0_least_46 ?_
      refine c_get S hw (n := 1) (cOk.s (by decide)) ((isO_S (by decide) (by decide)) _) rfl in_X1 6 (by decide) (Or.inr (List.mem_of_getElem? (i := 17) rfl)) rfl rfl dX0_least_49 ?_
      refine lv_if_ne (tgt := 60) hx hb dX0_least_52 (by decide) (fun c52 => ?_) (fun c52 => ?_)
      · replace h := if_f c52 h
        refine lv_aload_n hx hb dX0_least_60 rfl (lv_at hl 1 rfl) ?_
        refine lv_aload_n hx hb dX0_least_61 rfl (lv_at hl 1 rfl) ?_
        refine c_get S hw (n := 0) (ci := 0) (cOk.s (by decide)) (isO_K _) rfl in_X0 0 (by decide) (Or.inl q324) rfl rfl dX0_least_62 ?_
        refine c_get S hw (n := 1) (cOk.s (by decide)) ((isO_S (by decide) (by decide)) _) rfl in_X1 7 (by decide) (Or.inr (List.mem_of_getElem? (i := 18) rfl)) rfl rfl dX0_least_65 ?_
        refine lv_iconst (v := (0 : Int32)) hx hb dX0_least_68 (by decide) ?_
        refine c_ald S hw (n := 51) (cOk.s (by decide)) (isA_ask (by decide) (by decide)) (vlit (by decide)) (Or.inl ⟨rfl, dX0_least_69⟩) ?_
        refine c_calli hw (va_runV (As := [.int (a35.1 51 (0 : Int32).toNatClampNeg)]) (rest := []) S (ctC_X0_keptBehind l D dA ad fv A a35 (a35.1 51 (0 : Int32).toNatClampNeg) _ h) (cwC_X0_X0_keptBehind hts ⟨Nat.le_of_ble_eq_true rfl, Nat.le_of_ble_eq_true rfl⟩) (c_preV hw (n := 0) (cOk.s (by decide)) (isO_K _) rfl) rfl rfl hl.1 rfl (lv_room (Nat.le_of_ble_eq_true rfl)) dX0_least_70 ⟨Nat.le_of_ble_eq_true rfl, Nat.le_of_ble_eq_true rfl⟩) (fun r70 a70 H locs h hw => ?_)
        exact c_iret S hr hlk hw h dX0_least_73
      · replace h := if_t c52 h
        refine lv_ldc hx hb hown (hts _ q614) dX0_least_55 ?_
        refine lv_goto (tgt := 73) hx hb dX0_least_57 (by decide) ?_
        exact c_iret S hr hlk hw h dX0_least_73
    · replace h := if_t c40 h
      refine lv_iload_n hx hb dX0_least_43 rfl (lv_at hl 0 rfl) ?_
      exact c_iret S hr hlk hw h dX0_least_44
  · replace h := if_t c6 h
    refine lv_ldc hx hb hown (hts _ q435) dX0_least_9 ?_
    exact c_iret S hr hlk hw h dX0_least_11
theorem ctC_X0_least (l : Launch) (D : va_G) (dA : Nat → ClassId) (ad : Nat → Nat) (fv : Nat → Value) (A : Nat → Prop) (a : CS) (x1 : Int32) (Q : Int32 → CS → Prop) (h : wpC_X0_least a x1 Q) : Met l yX0_least (ws_ yX0_least cX0_least 3 (some .int)) rmC_X0_least (cPc D dA ad fv A a [.ref (ad 0), .int x1]) (cQi D dA ad fv A Q) 0 0 A :=
  c_met (by decide) rfl rfl rfl (Nat.le_of_ble_eq_true rfl) (fun p e s m below meth c ls S hr hlk hin2 hw hl => wkC_X0_least_e S hr hlk Q x1 a _ _ ls h hw hl)
/-! X0.hold -/
abbrev rmC_X0_hold : Room := { frames := 10, cells := 0, slots := 0, locals := 346 }
def wpC_X0_hold (a : CS) (x1 : Int32) (Q : Int32 → CS → Prop) : Prop := wpC_X0_sets a (fun r3 a3 => wpC_X0_isIn a3 x1 (0 : Int32) (r3 - (1 : Int32)) (fun r8 a8 => if r8 = 0 then (Q (-1000000001 : Int32) a8) else (wpC_X0_learns a8 (fun a18 => wpC_X0_findFits a18 (fun a22 => (vp_in x1 256) ∧ (if (a22.1 76 x1.toNatClampNeg) = 0 then (Q (-1000000002 : Int32) a22) else (wpC_X0_heldOf a22 x1 (fun r36 a36 => Q r36 a36))))))))
set_option maxHeartbeats 4000000 in
set_option maxRecDepth 100000 in
theorem wkC_X0_hold_e (S : CallFix p m c cX0_hold 2 s args lw_all RX0) (hr : meth.sig.returnType = (some .int)) (hlk : meth.locks = false) (Q : Int32 → CS → Prop) (x1 : Int32) (a : CS) (H : Heap) (locs : List Loc) (ls : Array Slot) (h : wpC_X0_hold a x1 Q) (hw : CW D dA ad fv A a s H locs) (hl : lv_has ls 2 [(0, .ref (ad 0)), (1, .int x1)]) : W p l e rmC_X0_hold s m args below meth c H locs 0 0 (MQ below (cQi D dA ad fv A Q) args s 0 0 A) (F0 m 0 ls []) := by
  have hx := S.1
  have hb := S.2.1
  have hown := S.2.2.2.1
  have hts := S.2.2.2.2
  unfold wpC_X0_hold at h
  refine lv_iload_n hx hb dX0_hold_0 rfl (lv_at hl 1 rfl) ?_
  refine lv_iconst (v := (0 : Int32)) hx hb dX0_hold_1 (by decide) ?_
  refine lv_aload_n hx hb dX0_hold_2 rfl (lv_at hl 0 rfl) ?_
  refine c_calli hw (va_runV (As := []) (rest := [.int (0 : Int32), .int x1]) S (ctC_X0_sets l D dA ad fv A a _ h) (cwC_X0_X0_sets hts ⟨Nat.le_of_ble_eq_true rfl, Nat.le_of_ble_eq_true rfl⟩) (c_preV hw (n := 0) (cOk.s (by decide)) (isO_K _) rfl) rfl rfl hl.1 rfl (lv_room (Nat.le_of_ble_eq_true rfl)) dX0_hold_3 ⟨Nat.le_of_ble_eq_true rfl, Nat.le_of_ble_eq_true rfl⟩) (fun r3 a3 H locs h hw => ?_)
  refine lv_iconst (v := (1 : Int32)) hx hb dX0_hold_6 (by decide) ?_
  refine lv_isub hx hb dX0_hold_7 ?_
  refine c_calli hw (va_runS (As := [.int x1, .int (0 : Int32), .int (r3 - (1 : Int32))]) (rest := []) S (ctC_X0_isIn l D dA ad fv A a3 x1 (0 : Int32) (r3 - (1 : Int32)) _ h) (cwC_X0_X0_isIn hts ⟨Nat.le_of_ble_eq_true rfl, Nat.le_of_ble_eq_true rfl⟩) (c_preS hw) rfl rfl hl.1 rfl (lv_room (Nat.le_of_ble_eq_true rfl)) dX0_hold_8 ⟨Nat.le_of_ble_eq_true rfl, Nat.le_of_ble_eq_true rfl⟩) (fun r8 a8 H locs h hw => ?_)
  refine lv_if_ne (tgt := 17) hx hb dX0_hold_11 (by decide) (fun c11 => ?_) (fun c11 => ?_)
  · replace h := if_f c11 h
    refine lv_aload_n hx hb dX0_hold_17 rfl (lv_at hl 0 rfl) ?_
    refine c_callv hw (va_runV (As := []) (rest := []) S (ctC_X0_learns l D dA ad fv A a8 _ h) (cwC_X0_X0_learns hts ⟨Nat.le_of_ble_eq_true rfl, Nat.le_of_ble_eq_true rfl⟩) (c_preV hw (n := 0) (cOk.s (by decide)) (isO_K _) rfl) rfl rfl hl.1 rfl (lv_room (Nat.le_of_ble_eq_true rfl)) dX0_hold_18 ⟨Nat.le_of_ble_eq_true rfl, Nat.le_of_ble_eq_true rfl⟩) (fun a18 H locs h hw => ?_)
    refine lv_aload_n hx hb dX0_hold_21 rfl (lv_at hl 0 rfl) ?_
    refine c_callv hw (va_runV (As := []) (rest := []) S (ctC_X0_findFits l D dA ad fv A a18 _ h) (cwC_X0_X0_findFits hts ⟨Nat.le_of_ble_eq_true rfl, Nat.le_of_ble_eq_true rfl⟩) (c_preV hw (n := 0) (cOk.s (by decide)) (isO_K _) rfl) rfl rfl hl.1 rfl (lv_room (Nat.le_of_ble_eq_true rfl)) dX0_hold_22 ⟨Nat.le_of_ble_eq_true rfl, Nat.le_of_ble_eq_true rfl⟩) (fun a22 H locs h hw => ?_)
    refine lv_aload_n hx hb dX0_hold_25 rfl (lv_at hl 0 rfl) ?_
    refine c_get S hw (n := 0) (ci := 0) (cOk.s (by decide)) (isO_K _) rfl in_X0 21 (by decide) (Or.inl q345) rfl rfl dX0_hold_26 ?_
    refine lv_iload_n hx hb dX0_hold_29 rfl (lv_at hl 1 rfl) ?_
    have hi30 := h.1
    replace h := h.2
    refine c_ald S hw (n := 76) (cOk.s (by decide)) (fun _ => rfl) hi30 (Or.inr (Or.inr (Or.inl ⟨rfl, dX0_hold_30⟩))) ?_
    refine lv_if_eq (tgt := 42) hx hb dX0_hold_31 (by decide) (fun c31 => ?_) (fun c31 => ?_)
    · replace h := if_t c31 h
      refine lv_ldcw hx hb hown (hts _ q1011) dX0_hold_42 ?_
      exact c_iret S hr hlk hw h dX0_hold_45
    · replace h := if_f c31 h
      refine lv_aload_n hx hb dX0_hold_34 rfl (lv_at hl 0 rfl) ?_
      refine lv_iload_n hx hb dX0_hold_35 rfl (lv_at hl 1 rfl) ?_
      refine c_calli hw (va_runV (As := [.int x1]) (rest := []) S (ctC_X0_heldOf l D dA ad fv A a22 x1 _ h) (cwC_X0_X0_heldOf hts ⟨Nat.le_of_ble_eq_true rfl, Nat.le_of_ble_eq_true rfl⟩) (c_preV hw (n := 0) (cOk.s (by decide)) (isO_K _) rfl) rfl rfl hl.1 rfl (lv_room (Nat.le_of_ble_eq_true rfl)) dX0_hold_36 ⟨Nat.le_of_ble_eq_true rfl, Nat.le_of_ble_eq_true rfl⟩) (fun r36 a36 H locs h hw => ?_)
      refine lv_goto (tgt := 45) hx hb dX0_hold_39 (by decide) ?_
      exact c_iret S hr hlk hw h dX0_hold_45
  · replace h := if_t c11 h
    refine lv_ldc hx hb hown (hts _ q435) dX0_hold_14 ?_
    exact c_iret S hr hlk hw h dX0_hold_16
theorem ctC_X0_hold (l : Launch) (D : va_G) (dA : Nat → ClassId) (ad : Nat → Nat) (fv : Nat → Value) (A : Nat → Prop) (a : CS) (x1 : Int32) (Q : Int32 → CS → Prop) (h : wpC_X0_hold a x1 Q) : Met l yX0_hold (ws_ yX0_hold cX0_hold 2 (some .int)) rmC_X0_hold (cPc D dA ad fv A a [.ref (ad 0), .int x1]) (cQi D dA ad fv A Q) 0 0 A :=
  c_met (by decide) rfl rfl rfl (Nat.le_of_ble_eq_true rfl) (fun p e s m below meth c ls S hr hlk hin2 hw hl => wkC_X0_hold_e S hr hlk Q x1 a _ _ ls h hw hl)
/-! X0.best -/
abbrev rmC_X0_best : Room := { frames := 10, cells := 0, slots := 0, locals := 346 }
def wpC_X0_best (a : CS) (x1 : Int32) (Q : Int32 → CS → Prop) : Prop := wpC_X0_isIn a x1 (0 : Int32) (1 : Int32) (fun r3 a3 => if r3 = 0 then (Q (-1000000001 : Int32) a3) else (wpC_X0_learns a3 (fun a13 => wpC_X0_findFits a13 (fun a17 => wpC_X0_bestWithout a17 (0 : Int32) (fun r22 a22 => if x1 = 0 then (wpC_X0_heldOf a22 r22 (fun r32 a32 => Q r32 a32)) else (Q r22 a22))))))
set_option maxHeartbeats 4000000 in
set_option maxRecDepth 100000 in
theorem wkC_X0_best_e (S : CallFix p m c cX0_best 3 s args lw_all RX0) (hr : meth.sig.returnType = (some .int)) (hlk : meth.locks = false) (Q : Int32 → CS → Prop) (x1 : Int32) (a : CS) (H : Heap) (locs : List Loc) (ls : Array Slot) (h : wpC_X0_best a x1 Q) (hw : CW D dA ad fv A a s H locs) (hl : lv_has ls 3 [(0, .ref (ad 0)), (1, .int x1)]) : W p l e rmC_X0_best s m args below meth c H locs 0 0 (MQ below (cQi D dA ad fv A Q) args s 0 0 A) (F0 m 0 ls []) := by
  have hx := S.1
  have hb := S.2.1
  have hown := S.2.2.2.1
  have hts := S.2.2.2.2
  unfold wpC_X0_best at h
  refine lv_iload_n hx hb dX0_best_0 rfl (lv_at hl 1 rfl) ?_
  refine lv_iconst (v := (0 : Int32)) hx hb dX0_best_1 (by decide) ?_
  refine lv_iconst (v := (1 : Int32)) hx hb dX0_best_2 (by decide) ?_
  refine c_calli hw (va_runS (As := [.int x1, .int (0 : Int32), .int (1 : Int32)]) (rest := []) S (ctC_X0_isIn l D dA ad fv A a x1 (0 : Int32) (1 : Int32) _ h) (cwC_X0_X0_isIn hts ⟨Nat.le_of_ble_eq_true rfl, Nat.le_of_ble_eq_true rfl⟩) (c_preS hw) rfl rfl hl.1 rfl (lv_room (Nat.le_of_ble_eq_true rfl)) dX0_best_3 ⟨Nat.le_of_ble_eq_true rfl, Nat.le_of_ble_eq_true rfl⟩) (fun r3 a3 H locs h hw => ?_)
  refine lv_if_ne (tgt := 12) hx hb dX0_best_6 (by decide) (fun c6 => ?_) (fun c6 => ?_)
  · replace h := if_f c6 h
    refine lv_aload_n hx hb dX0_best_12 rfl (lv_at hl 0 rfl) ?_
    refine c_callv hw (va_runV (As := []) (rest := []) S (ctC_X0_learns l D dA ad fv A a3 _ h) (cwC_X0_X0_learns hts ⟨Nat.le_of_ble_eq_true rfl, Nat.le_of_ble_eq_true rfl⟩) (c_preV hw (n := 0) (cOk.s (by decide)) (isO_K _) rfl) rfl rfl hl.1 rfl (lv_room (Nat.le_of_ble_eq_true rfl)) dX0_best_13 ⟨Nat.le_of_ble_eq_true rfl, Nat.le_of_ble_eq_true rfl⟩) (fun a13 H locs h hw => ?_)
    refine lv_aload_n hx hb dX0_best_16 rfl (lv_at hl 0 rfl) ?_
    refine c_callv hw (va_runV (As := []) (rest := []) S (ctC_X0_findFits l D dA ad fv A a13 _ h) (cwC_X0_X0_findFits hts ⟨Nat.le_of_ble_eq_true rfl, Nat.le_of_ble_eq_true rfl⟩) (c_preV hw (n := 0) (cOk.s (by decide)) (isO_K _) rfl) rfl rfl hl.1 rfl (lv_room (Nat.le_of_ble_eq_true rfl)) dX0_best_17 ⟨Nat.le_of_ble_eq_true rfl, Nat.le_of_ble_eq_true rfl⟩) (fun a17 H locs h hw => ?_)
    refine lv_aload_n hx hb dX0_best_20 rfl (lv_at hl 0 rfl) ?_
    refine lv_iconst (v := (0 : Int32)) hx hb dX0_best_21 (by decide) ?_
    refine c_calli hw (va_runV (As := [.int (0 : Int32)]) (rest := []) S (ctC_X0_bestWithout l D dA ad fv A a17 (0 : Int32) _ h) (cwC_X0_X0_bestWithout hts ⟨Nat.le_of_ble_eq_true rfl, Nat.le_of_ble_eq_true rfl⟩) (c_preV hw (n := 0) (cOk.s (by decide)) (isO_K _) rfl) rfl rfl hl.1 rfl (lv_room (Nat.le_of_ble_eq_true rfl)) dX0_best_22 ⟨Nat.le_of_ble_eq_true rfl, Nat.le_of_ble_eq_true rfl⟩) (fun r22 a22 H locs h hw => ?_)
    refine lv_istore_n (lv' := [(2, .int r22), (0, .ref (ad 0)), (1, .int x1)]) hx hb dX0_best_25 rfl hl (by decide) rfl (fun ls hl => ?_)
    refine lv_iload_n hx hb dX0_best_26 rfl (lv_at hl 2 rfl) ?_
    refine lv_if_ne (tgt := 38) hx hb dX0_best_27 (by decide) (fun c27 => ?_) (fun c27 => ?_)
    · replace h := if_f c27 h
      refine lv_iload_n hx hb dX0_best_38 rfl (lv_at hl 0 rfl) ?_
      exact c_iret S hr hlk hw h dX0_best_39
    · replace h := if_t c27 h
      refine lv_aload_n hx hb dX0_best_30 rfl (lv_at hl 1 rfl) ?_
      refine lv_iload_n hx hb dX0_best_31 rfl (lv_at hl 0 rfl) ?_
      refine c_calli hw (va_runV (As := [.int r22]) (rest := []) S (ctC_X0_heldOf l D dA ad fv A a22 r22 _ h) (cwC_X0_X0_heldOf hts ⟨Nat.le_of_ble_eq_true rfl, Nat.le_of_ble_eq_true rfl⟩) (c_preV hw (n := 0) (cOk.s (by decide)) (isO_K _) rfl) rfl rfl hl.1 rfl (lv_room (Nat.le_of_ble_eq_true rfl)) dX0_best_32 ⟨Nat.le_of_ble_eq_true rfl, Nat.le_of_ble_eq_true rfl⟩) (fun r32 a32 H locs h hw => ?_)
      refine lv_goto (tgt := 39) hx hb dX0_best_35 (by decide) ?_
      exact c_iret S hr hlk hw h dX0_best_39
  · replace h := if_t c6 h
    refine lv_ldc hx hb hown (hts _ q435) dX0_best_9 ?_
    exact c_iret S hr hlk hw h dX0_best_11
theorem ctC_X0_best (l : Launch) (D : va_G) (dA : Nat → ClassId) (ad : Nat → Nat) (fv : Nat → Value) (A : Nat → Prop) (a : CS) (x1 : Int32) (Q : Int32 → CS → Prop) (h : wpC_X0_best a x1 Q) : Met l yX0_best (ws_ yX0_best cX0_best 3 (some .int)) rmC_X0_best (cPc D dA ad fv A a [.ref (ad 0), .int x1]) (cQi D dA ad fv A Q) 0 0 A :=
  c_met (by decide) rfl rfl rfl (Nat.le_of_ble_eq_true rfl) (fun p e s m below meth c ls S hr hlk hin2 hw hl => wkC_X0_best_e S hr hlk Q x1 a _ _ ls h hw hl)
/-! X0.price -/
abbrev rmC_X0_price : Room := { frames := 10, cells := 0, slots := 0, locals := 346 }
def wpC_X0_price (a : CS) (x1 : Int32) (Q : Int32 → CS → Prop) : Prop := wpC_X0_isLeaf a x1 (fun r2 a2 => if r2 = 0 then (Q (-1000000001 : Int32) a2) else (wpC_X0_learns a2 (fun a12 => wpC_X0_findFits a12 (fun a16 => wpC_X0_bestWithout a16 (0 : Int32) (fun r22 a22 => wpC_X0_heldOf a22 r22 (fun r25 a25 => wpC_X0_bestWithout a25 (ishl (1 : Int32) x1) (fun r33 a33 => wpC_X0_heldOf a33 r33 (fun r36 a36 => Q (r25 - r36) a36))))))))
set_option maxHeartbeats 4000000 in
set_option maxRecDepth 100000 in
theorem wkC_X0_price_e (S : CallFix p m c cX0_price 2 s args lw_all RX0) (hr : meth.sig.returnType = (some .int)) (hlk : meth.locks = false) (Q : Int32 → CS → Prop) (x1 : Int32) (a : CS) (H : Heap) (locs : List Loc) (ls : Array Slot) (h : wpC_X0_price a x1 Q) (hw : CW D dA ad fv A a s H locs) (hl : lv_has ls 2 [(0, .ref (ad 0)), (1, .int x1)]) : W p l e rmC_X0_price s m args below meth c H locs 0 0 (MQ below (cQi D dA ad fv A Q) args s 0 0 A) (F0 m 0 ls []) := by
  have hx := S.1
  have hb := S.2.1
  have hown := S.2.2.2.1
  have hts := S.2.2.2.2
  unfold wpC_X0_price at h
  refine lv_aload_n hx hb dX0_price_0 rfl (lv_at hl 0 rfl) ?_
  refine lv_iload_n hx hb dX0_price_1 rfl (lv_at hl 1 rfl) ?_
  refine c_calli hw (va_runV (As := [.int x1]) (rest := []) S (ctC_X0_isLeaf l D dA ad fv A a x1 _ h) (cwC_X0_X0_isLeaf hts ⟨Nat.le_of_ble_eq_true rfl, Nat.le_of_ble_eq_true rfl⟩) (c_preV hw (n := 0) (cOk.s (by decide)) (isO_K _) rfl) rfl rfl hl.1 rfl (lv_room (Nat.le_of_ble_eq_true rfl)) dX0_price_2 ⟨Nat.le_of_ble_eq_true rfl, Nat.le_of_ble_eq_true rfl⟩) (fun r2 a2 H locs h hw => ?_)
  refine lv_if_ne (tgt := 11) hx hb dX0_price_5 (by decide) (fun c5 => ?_) (fun c5 => ?_)
  · replace h := if_f c5 h
    refine lv_aload_n hx hb dX0_price_11 rfl (lv_at hl 0 rfl) ?_
    refine c_callv hw (va_runV (As := []) (rest := []) S (ctC_X0_learns l D dA ad fv A a2 _ h) (cwC_X0_X0_learns hts ⟨Nat.le_of_ble_eq_true rfl, Nat.le_of_ble_eq_true rfl⟩) (c_preV hw (n := 0) (cOk.s (by decide)) (isO_K _) rfl) rfl rfl hl.1 rfl (lv_room (Nat.le_of_ble_eq_true rfl)) dX0_price_12 ⟨Nat.le_of_ble_eq_true rfl, Nat.le_of_ble_eq_true rfl⟩) (fun a12 H locs h hw => ?_)
    refine lv_aload_n hx hb dX0_price_15 rfl (lv_at hl 0 rfl) ?_
    refine c_callv hw (va_runV (As := []) (rest := []) S (ctC_X0_findFits l D dA ad fv A a12 _ h) (cwC_X0_X0_findFits hts ⟨Nat.le_of_ble_eq_true rfl, Nat.le_of_ble_eq_true rfl⟩) (c_preV hw (n := 0) (cOk.s (by decide)) (isO_K _) rfl) rfl rfl hl.1 rfl (lv_room (Nat.le_of_ble_eq_true rfl)) dX0_price_16 ⟨Nat.le_of_ble_eq_true rfl, Nat.le_of_ble_eq_true rfl⟩) (fun a16 H locs h hw => ?_)
    refine lv_aload_n hx hb dX0_price_19 rfl (lv_at hl 0 rfl) ?_
    refine lv_aload_n hx hb dX0_price_20 rfl (lv_at hl 0 rfl) ?_
    refine lv_iconst (v := (0 : Int32)) hx hb dX0_price_21 (by decide) ?_
    refine c_calli hw (va_runV (As := [.int (0 : Int32)]) (rest := [.ref (ad 0)]) S (ctC_X0_bestWithout l D dA ad fv A a16 (0 : Int32) _ h) (cwC_X0_X0_bestWithout hts ⟨Nat.le_of_ble_eq_true rfl, Nat.le_of_ble_eq_true rfl⟩) (c_preV hw (n := 0) (cOk.s (by decide)) (isO_K _) rfl) rfl rfl hl.1 rfl (lv_room (Nat.le_of_ble_eq_true rfl)) dX0_price_22 ⟨Nat.le_of_ble_eq_true rfl, Nat.le_of_ble_eq_true rfl⟩) (fun r22 a22 H locs h hw => ?_)
    refine c_calli hw (va_runV (As := [.int r22]) (rest := []) S (ctC_X0_heldOf l D dA ad fv A a22 r22 _ h) (cwC_X0_X0_heldOf hts ⟨Nat.le_of_ble_eq_true rfl, Nat.le_of_ble_eq_true rfl⟩) (c_preV hw (n := 0) (cOk.s (by decide)) (isO_K _) rfl) rfl rfl hl.1 rfl (lv_room (Nat.le_of_ble_eq_true rfl)) dX0_price_25 ⟨Nat.le_of_ble_eq_true rfl, Nat.le_of_ble_eq_true rfl⟩) (fun r25 a25 H locs h hw => ?_)
    refine lv_aload_n hx hb dX0_price_28 rfl (lv_at hl 0 rfl) ?_
    refine lv_aload_n hx hb dX0_price_29 rfl (lv_at hl 0 rfl) ?_
    refine lv_iconst (v := (1 : Int32)) hx hb dX0_price_30 (by decide) ?_
    refine lv_iload_n hx hb dX0_price_31 rfl (lv_at hl 1 rfl) ?_
    refine lv_ishl hx hb dX0_price_32 ?_
    refine c_calli hw (va_runV (As := [.int (ishl (1 : Int32) x1)]) (rest := [.ref (ad 0), .int r25]) S (ctC_X0_bestWithout l D dA ad fv A a25 (ishl (1 : Int32) x1) _ h) (cwC_X0_X0_bestWithout hts ⟨Nat.le_of_ble_eq_true rfl, Nat.le_of_ble_eq_true rfl⟩) (c_preV hw (n := 0) (cOk.s (by decide)) (isO_K _) rfl) rfl rfl hl.1 rfl (lv_room (Nat.le_of_ble_eq_true rfl)) dX0_price_33 ⟨Nat.le_of_ble_eq_true rfl, Nat.le_of_ble_eq_true rfl⟩) (fun r33 a33 H locs h hw => ?_)
    refine c_calli hw (va_runV (As := [.int r33]) (rest := [.int r25]) S (ctC_X0_heldOf l D dA ad fv A a33 r33 _ h) (cwC_X0_X0_heldOf hts ⟨Nat.le_of_ble_eq_true rfl, Nat.le_of_ble_eq_true rfl⟩) (c_preV hw (n := 0) (cOk.s (by decide)) (isO_K _) rfl) rfl rfl hl.1 rfl (lv_room (Nat.le_of_ble_eq_true rfl)) dX0_price_36 ⟨Nat.le_of_ble_eq_true rfl, Nat.le_of_ble_eq_true rfl⟩) (fun r36 a36 H locs h hw => ?_)
    refine lv_isub hx hb dX0_price_39 ?_
    exact c_iret S hr hlk hw h dX0_price_40
  · replace h := if_t c5 h
    refine lv_ldc hx hb hown (hts _ q435) dX0_price_8 ?_
    exact c_iret S hr hlk hw h dX0_price_10
theorem ctC_X0_price (l : Launch) (D : va_G) (dA : Nat → ClassId) (ad : Nat → Nat) (fv : Nat → Value) (A : Nat → Prop) (a : CS) (x1 : Int32) (Q : Int32 → CS → Prop) (h : wpC_X0_price a x1 Q) : Met l yX0_price (ws_ yX0_price cX0_price 2 (some .int)) rmC_X0_price (cPc D dA ad fv A a [.ref (ad 0), .int x1]) (cQi D dA ad fv A Q) 0 0 A :=
  c_met (by decide) rfl rfl rfl (Nat.le_of_ble_eq_true rfl) (fun p e s m below meth c ls S hr hlk hin2 hw hl => wkC_X0_price_e S hr hlk Q x1 a _ _ ls h hw hl)
/-! X0.fullnessNow -/
abbrev rmC_X0_fullnessNow : Room := { frames := 10, cells := 0, slots := 0, locals := 346 }
def wpC_X0_fullnessNow (a : CS) (Q : Int32 → CS → Prop) : Prop := wpC_X0_learns a (fun a1 => wpC_X0_fullness a1 (fun r5 a5 => Q r5 a5))
set_option maxHeartbeats 4000000 in
set_option maxRecDepth 100000 in
theorem wkC_X0_fullnessNow_e (S : CallFix p m c cX0_fullnessNow 1 s args lw_all RX0) (hr : meth.sig.returnType = (some .int)) (hlk : meth.locks = false) (Q : Int32 → CS → Prop) (a : CS) (H : Heap) (locs : List Loc) (ls : Array Slot) (h : wpC_X0_fullnessNow a Q) (hw : CW D dA ad fv A a s H locs) (hl : lv_has ls 1 [(0, .ref (ad 0))]) : W p l e rmC_X0_fullnessNow s m args below meth c H locs 0 0 (MQ below (cQi D dA ad fv A Q) args s 0 0 A) (F0 m 0 ls []) := by
  have hx := S.1
  have hb := S.2.1
  have hown := S.2.2.2.1
  have hts := S.2.2.2.2
  unfold wpC_X0_fullnessNow at h
  refine lv_aload_n hx hb dX0_fullnessNow_0 rfl (lv_at hl 0 rfl) ?_
  refine c_callv hw (va_runV (As := []) (rest := []) S (ctC_X0_learns l D dA ad fv A a _ h) (cwC_X0_X0_learns hts ⟨Nat.le_of_ble_eq_true rfl, Nat.le_of_ble_eq_true rfl⟩) (c_preV hw (n := 0) (cOk.s (by decide)) (isO_K _) rfl) rfl rfl hl.1 rfl (lv_room (Nat.le_of_ble_eq_true rfl)) dX0_fullnessNow_1 ⟨Nat.le_of_ble_eq_true rfl, Nat.le_of_ble_eq_true rfl⟩) (fun a1 H locs h hw => ?_)
  refine lv_aload_n hx hb dX0_fullnessNow_4 rfl (lv_at hl 0 rfl) ?_
  refine c_calli hw (va_runV (As := []) (rest := []) S (ctC_X0_fullness l D dA ad fv A a1 _ h) (cwC_X0_X0_fullness hts ⟨Nat.le_of_ble_eq_true rfl, Nat.le_of_ble_eq_true rfl⟩) (c_preV hw (n := 0) (cOk.s (by decide)) (isO_K _) rfl) rfl rfl hl.1 rfl (lv_room (Nat.le_of_ble_eq_true rfl)) dX0_fullnessNow_5 ⟨Nat.le_of_ble_eq_true rfl, Nat.le_of_ble_eq_true rfl⟩) (fun r5 a5 H locs h hw => ?_)
  exact c_iret S hr hlk hw h dX0_fullnessNow_8
theorem ctC_X0_fullnessNow (l : Launch) (D : va_G) (dA : Nat → ClassId) (ad : Nat → Nat) (fv : Nat → Value) (A : Nat → Prop) (a : CS) (Q : Int32 → CS → Prop) (h : wpC_X0_fullnessNow a Q) : Met l yX0_fullnessNow (ws_ yX0_fullnessNow cX0_fullnessNow 1 (some .int)) rmC_X0_fullnessNow (cPc D dA ad fv A a [.ref (ad 0)]) (cQi D dA ad fv A Q) 0 0 A :=
  c_met (by decide) rfl rfl rfl (Nat.le_of_ble_eq_true rfl) (fun p e s m below meth c ls S hr hlk hin2 hw hl => wkC_X0_fullnessNow_e S hr hlk Q a _ _ ls h hw hl)
theorem cwC_X0_X0_fullnessNow {R : Room} {s : State} {args : Array Value} {rm : Room} (hts : ∀ w ∈ lw_all, w.before args s = true) (hR : rm.frames + 1 ≤ R.frames ∧ 8 + (1 + 11) + rm.locals ≤ R.locals) (hc : rm.cells = 0 := by rfl) (hs : rm.slots = 0 := by rfl) : CallW R s args RX0 RX0 577 yX0_fullnessNow cX0_fullnessNow 1 (some .int) (ws_ yX0_fullnessNow cX0_fullnessNow 1 (some .int)) rm 0 0 0 :=
  cwV 0 hts (lw_V q1328 q1330 qs49 q103 q1331) rfl hc hs (by decide +kernel) hR
/-! X0.count -/
abbrev rmC_X0_count : Room := { frames := 11, cells := 0, slots := 0, locals := 366 }
def wpC_X0_count (a : CS) (x1 : Int32) (Q : Int32 → CS → Prop) : Prop := if x1 = (0 : Int32) then (Q (a.1 1 1) a) else (if x1 = (1 : Int32) then (Q (a.1 (a.2.1 0 5) 4) a) else (if x1 = (2 : Int32) then (Q (a.1 (a.2.1 0 5) 3) a) else (if x1 = (3 : Int32) then (wpC_X0_fullnessNow a (fun r97 a97 => Q r97 a97)) else (if x1 = (4 : Int32) then (Q (a.1 1 3) a) else (if x1 = (5 : Int32) then (Q (a.1 1 4) a) else (if x1 = (6 : Int32) then (Q (a.1 1 5) a) else (if x1 = (7 : Int32) then (Q (a.1 (a.2.1 0 5) 1) a) else (if x1 = (8 : Int32) then (Q (a.1 (a.2.1 0 5) 2) a) else (if x1 = (9 : Int32) then (Q (a.1 1 6) a) else (if x1 = (10 : Int32) then (Q (a.1 1 8) a) else (if x1 = (11 : Int32) then (Q (a.1 0 29) a) else (if x1 = (12 : Int32) then (Q (a.1 0 8) a) else (if x1 = (13 : Int32) then (Q (a.1 (a.2.1 0 5) 0) a) else (Q (-1000000001 : Int32) a))))))))))))))
set_option maxHeartbeats 4000000 in
set_option maxRecDepth 100000 in
theorem wkC_X0_count_e (S : CallFix p m c cX0_count 2 s args lw_all RX0) (hr : meth.sig.returnType = (some .int)) (hlk : meth.locks = false) (Q : Int32 → CS → Prop) (x1 : Int32) (a : CS) (H : Heap) (locs : List Loc) (ls : Array Slot) (h : wpC_X0_count a x1 Q) (hw : CW D dA ad fv A a s H locs) (hl : lv_has ls 2 [(0, .ref (ad 0)), (1, .int x1)]) : W p l e rmC_X0_count s m args below meth c H locs 0 0 (MQ below (cQi D dA ad fv A Q) args s 0 0 A) (F0 m 0 ls []) := by
  have hx := S.1
  have hb := S.2.1
  have hown := S.2.2.2.1
  have hts := S.2.2.2.2
  unfold wpC_X0_count at h
  refine lv_iload_n hx hb dX0_count_0 rfl (lv_at hl 1 rfl) ?_
  by_cases c1_0 : x1 = (0 : Int32)
  · replace h := if_t c1_0 h
    refine lv_tableIn (off := 71) (tgt := 72) hx hb dX0_count_1 (by rw [c1_0]; decide) (by rw [c1_0]; decide) (by rw [c1_0]; decide) (by decide) ?_
    refine lv_aload_n hx hb dX0_count_72 rfl (lv_at hl 0 rfl) ?_
    refine c_get S hw (n := 0) (ci := 0) (cOk.s (by decide)) (isO_K _) rfl in_X0 0 (by decide) (Or.inl q324) rfl rfl dX0_count_73 ?_
    refine c_get S hw (n := 1) (cOk.s (by decide)) ((isO_S (by decide) (by decide)) _) rfl in_X1 1 (by decide) (Or.inr (List.mem_of_getElem? (i := 12) rfl)) rfl rfl dX0_count_76 ?_
    exact c_iret S hr hlk hw h dX0_count_79
  replace h := if_f c1_0 h
  by_cases c1_1 : x1 = (1 : Int32)
  · replace h := if_t c1_1 h
    refine lv_tableIn (off := 79) (tgt := 80) hx hb dX0_count_1 (by rw [c1_1]; decide) (by rw [c1_1]; decide) (by rw [c1_1]; decide) (by decide) ?_
    refine lv_aload_n hx hb dX0_count_80 rfl (lv_at hl 0 rfl) ?_
    refine c_getOn S hw (Or.inl q329) dX0_count_81 (fun ho81 => ?_)
    refine c_get S hw (n := (a.2.1 0 5)) (cOk.s (mem_sh ho81.1 ho81.2)) ((isO_H ho81.1 ho81.2) _) rfl in_X2 4 (by decide) (Or.inr (List.mem_of_getElem? (i := 7) rfl)) rfl rfl dX0_count_84 ?_
    exact c_iret S hr hlk hw h dX0_count_87
  replace h := if_f c1_1 h
  by_cases c1_2 : x1 = (2 : Int32)
  · replace h := if_t c1_2 h
    refine lv_tableIn (off := 87) (tgt := 88) hx hb dX0_count_1 (by rw [c1_2]; decide) (by rw [c1_2]; decide) (by rw [c1_2]; decide) (by decide) ?_
    refine lv_aload_n hx hb dX0_count_88 rfl (lv_at hl 0 rfl) ?_
    refine c_getOn S hw (Or.inl q329) dX0_count_89 (fun ho89 => ?_)
    refine c_get S hw (n := (a.2.1 0 5)) (cOk.s (mem_sh ho89.1 ho89.2)) ((isO_H ho89.1 ho89.2) _) rfl in_X2 3 (by decide) (Or.inr (List.mem_of_getElem? (i := 6) rfl)) rfl rfl dX0_count_92 ?_
    exact c_iret S hr hlk hw h dX0_count_95
  replace h := if_f c1_2 h
  by_cases c1_3 : x1 = (3 : Int32)
  · replace h := if_t c1_3 h
    refine lv_tableIn (off := 95) (tgt := 96) hx hb dX0_count_1 (by rw [c1_3]; decide) (by rw [c1_3]; decide) (by rw [c1_3]; decide) (by decide) ?_
    refine lv_aload_n hx hb dX0_count_96 rfl (lv_at hl 0 rfl) ?_
    refine c_calli hw (va_runV (As := []) (rest := []) S (ctC_X0_fullnessNow l D dA ad fv A a _ h) (cwC_X0_X0_fullnessNow hts ⟨Nat.le_of_ble_eq_true rfl, Nat.le_of_ble_eq_true rfl⟩) (c_preV hw (n := 0) (cOk.s (by decide)) (isO_K _) rfl) rfl rfl hl.1 rfl (lv_room (Nat.le_of_ble_eq_true rfl)) dX0_count_97 ⟨Nat.le_of_ble_eq_true rfl, Nat.le_of_ble_eq_true rfl⟩) (fun r97 a97 H locs h hw => ?_)
    exact c_iret S hr hlk hw h dX0_count_100
  replace h := if_f c1_3 h
  by_cases c1_4 : x1 = (4 : Int32)
  · replace h := if_t c1_4 h
    refine lv_tableIn (off := 100) (tgt := 101) hx hb dX0_count_1 (by rw [c1_4]; decide) (by rw [c1_4]; decide) (by rw [c1_4]; decide) (by decide) ?_
    refine lv_aload_n hx hb dX0_count_101 rfl (lv_at hl 0 rfl) ?_
    refine c_get S hw (n := 0) (ci := 0) (cOk.s (by decide)) (isO_K _) rfl in_X0 0 (by decide) (Or.inl q324) rfl rfl dX0_count_102 ?_
    refine c_get S hw (n := 1) (cOk.s (by decide)) ((isO_S (by decide) (by decide)) _) rfl in_X1 3 (by decide) (Or.inr (List.mem_of_getElem? (i := 14) rfl)) rfl rfl dX0_count_105 ?_
    exact c_iret S hr hlk hw h dX0_count_108
  replace h := if_f c1_4 h
  by_cases c1_5 : x1 = (5 : Int32)
  · replace h := if_t c1_5 h
    refine lv_tableIn (off := 108) (tgt := 109) hx hb dX0_count_1 (by rw [c1_5]; decide) (by rw [c1_5]; decide) (by rw [c1_5]; decide) (by decide) ?_
    refine lv_aload_n hx hb dX0_count_109 rfl (lv_at hl 0 rfl) ?_
    refine c_get S hw (n := 0) (ci := 0) (cOk.s (by decide)) (isO_K _) rfl in_X0 0 (by decide) (Or.inl q324) rfl rfl dX0_count_110 ?_
    refine c_get S hw (n := 1) (cOk.s (by decide)) ((isO_S (by decide) (by decide)) _) rfl in_X1 4 (by decide) (Or.inr (List.mem_of_getElem? (i := 15) rfl)) rfl rfl dX0_count_113 ?_
    exact c_iret S hr hlk hw h dX0_count_116
  replace h := if_f c1_5 h
  by_cases c1_6 : x1 = (6 : Int32)
  · replace h := if_t c1_6 h
    refine lv_tableIn (off := 116) (tgt := 117) hx hb dX0_count_1 (by rw [c1_6]; decide) (by rw [c1_6]; decide) (by rw [c1_6]; decide) (by decide) ?_
    refine lv_aload_n hx hb dX0_count_117 rfl (lv_at hl 0 rfl) ?_
    refine c_get S hw (n := 0) (ci := 0) (cOk.s (by decide)) (isO_K _) rfl in_X0 0 (by decide) (Or.inl q324) rfl rfl dX0_count_118 ?_
    refine c_get S hw (n := 1) (cOk.s (by decide)) ((isO_S (by decide) (by decide)) _) rfl in_X1 5 (by decide) (Or.inr (List.mem_of_getElem? (i := 16) rfl)) rfl rfl dX0_count_121 ?_
    exact c_iret S hr hlk hw h dX0_count_124
  replace h := if_f c1_6 h
  by_cases c1_7 : x1 = (7 : Int32)
  · replace h := if_t c1_7 h
    refine lv_tableIn (off := 124) (tgt := 125) hx hb dX0_count_1 (by rw [c1_7]; decide) (by rw [c1_7]; decide) (by rw [c1_7]; decide) (by decide) ?_
    refine lv_aload_n hx hb dX0_count_125 rfl (lv_at hl 0 rfl) ?_
    refine c_getOn S hw (Or.inl q329) dX0_count_126 (fun ho126 => ?_)
    refine c_get S hw (n := (a.2.1 0 5)) (cOk.s (mem_sh ho126.1 ho126.2)) ((isO_H ho126.1 ho126.2) _) rfl in_X2 1 (by decide) (Or.inr (List.mem_of_getElem? (i := 4) rfl)) rfl rfl dX0_count_129 ?_
    exact c_iret S hr hlk hw h dX0_count_132
  replace h := if_f c1_7 h
  by_cases c1_8 : x1 = (8 : Int32)
  · replace h := if_t c1_8 h
    refine lv_tableIn (off := 132) (tgt := 133) hx hb dX0_count_1 (by rw [c1_8]; decide) (by rw [c1_8]; decide) (by rw [c1_8]; decide) (by decide) ?_
    refine lv_aload_n hx hb dX0_count_133 rfl (lv_at hl 0 rfl) ?_
    refine c_getOn S hw (Or.inl q329) dX0_count_134 (fun ho134 => ?_)
    refine c_get S hw (n := (a.2.1 0 5)) (cOk.s (mem_sh ho134.1 ho134.2)) ((isO_H ho134.1 ho134.2) _) rfl in_X2 2 (by decide) (Or.inr (List.mem_of_getElem? (i := 5) rfl)) rfl rfl dX0_count_137 ?_
    exact c_iret S hr hlk hw h dX0_count_140
  replace h := if_f c1_8 h
  by_cases c1_9 : x1 = (9 : Int32)
  · replace h := if_t c1_9 h
    refine lv_tableIn (off := 140) (tgt := 141) hx hb dX0_count_1 (by rw [c1_9]; decide) (by rw [c1_9]; decide) (by rw [c1_9]; decide) (by decide) ?_
    refine lv_aload_n hx hb dX0_count_141 rfl (lv_at hl 0 rfl) ?_
    refine c_get S hw (n := 0) (ci := 0) (cOk.s (by decide)) (isO_K _) rfl in_X0 0 (by decide) (Or.inl q324) rfl rfl dX0_count_142 ?_
    refine c_get S hw (n := 1) (cOk.s (by decide)) ((isO_S (by decide) (by decide)) _) rfl in_X1 6 (by decide) (Or.inr (List.mem_of_getElem? (i := 17) rfl)) rfl rfl dX0_count_145 ?_
    exact c_iret S hr hlk hw h dX0_count_148
  replace h := if_f c1_9 h
  by_cases c1_10 : x1 = (10 : Int32)
  · replace h := if_t c1_10 h
    refine lv_tableIn (off := 148) (tgt := 149) hx hb dX0_count_1 (by rw [c1_10]; decide) (by rw [c1_10]; decide) (by rw [c1_10]; decide) (by decide) ?_
    refine lv_aload_n hx hb dX0_count_149 rfl (lv_at hl 0 rfl) ?_
    refine c_get S hw (n := 0) (ci := 0) (cOk.s (by decide)) (isO_K _) rfl in_X0 0 (by decide) (Or.inl q324) rfl rfl dX0_count_150 ?_
    refine c_get S hw (n := 1) (cOk.s (by decide)) ((isO_S (by decide) (by decide)) _) rfl in_X1 8 (by decide) (Or.inr (List.mem_of_getElem? (i := 19) rfl)) rfl rfl dX0_count_153 ?_
    exact c_iret S hr hlk hw h dX0_count_156
  replace h := if_f c1_10 h
  by_cases c1_11 : x1 = (11 : Int32)
  · replace h := if_t c1_11 h
    refine lv_tableIn (off := 156) (tgt := 157) hx hb dX0_count_1 (by rw [c1_11]; decide) (by rw [c1_11]; decide) (by rw [c1_11]; decide) (by decide) ?_
    refine lv_aload_n hx hb dX0_count_157 rfl (lv_at hl 0 rfl) ?_
    refine c_get S hw (n := 0) (ci := 0) (cOk.s (by decide)) (isO_K _) rfl in_X0 29 (by decide) (Or.inl q353) rfl rfl dX0_count_158 ?_
    exact c_iret S hr hlk hw h dX0_count_161
  replace h := if_f c1_11 h
  by_cases c1_12 : x1 = (12 : Int32)
  · replace h := if_t c1_12 h
    refine lv_tableIn (off := 161) (tgt := 162) hx hb dX0_count_1 (by rw [c1_12]; decide) (by rw [c1_12]; decide) (by rw [c1_12]; decide) (by decide) ?_
    refine lv_aload_n hx hb dX0_count_162 rfl (lv_at hl 0 rfl) ?_
    refine c_get S hw (n := 0) (ci := 0) (cOk.s (by decide)) (isO_K _) rfl in_X0 8 (by decide) (Or.inl q332) rfl rfl dX0_count_163 ?_
    exact c_iret S hr hlk hw h dX0_count_166
  replace h := if_f c1_12 h
  by_cases c1_13 : x1 = (13 : Int32)
  · replace h := if_t c1_13 h
    refine lv_tableIn (off := 166) (tgt := 167) hx hb dX0_count_1 (by rw [c1_13]; decide) (by rw [c1_13]; decide) (by rw [c1_13]; decide) (by decide) ?_
    refine lv_aload_n hx hb dX0_count_167 rfl (lv_at hl 0 rfl) ?_
    refine c_getOn S hw (Or.inl q329) dX0_count_168 (fun ho168 => ?_)
    refine c_get S hw (n := (a.2.1 0 5)) (cOk.s (mem_sh ho168.1 ho168.2)) ((isO_H ho168.1 ho168.2) _) rfl in_X2 0 (by decide) (Or.inr (List.mem_of_getElem? (i := 3) rfl)) rfl rfl dX0_count_171 ?_
    exact c_iret S hr hlk hw h dX0_count_174
  replace h := if_f c1_13 h
  have hout : x1.toInt < 0 ∨ 13 < x1.toInt ∨ (#[71, 79, 87, 95, 100, 108, 116, 124, 132, 140, 148, 156, 161, 166] : Array Int)[(x1.toInt - 0).toNat]? = some 174 := by
    have n0 := lv_neT c1_0 (a := 0) (by decide)
    have n1 := lv_neT c1_1 (a := 1) (by decide)
    have n2 := lv_neT c1_2 (a := 2) (by decide)
    have n3 := lv_neT c1_3 (a := 3) (by decide)
    have n4 := lv_neT c1_4 (a := 4) (by decide)
    have n5 := lv_neT c1_5 (a := 5) (by decide)
    have n6 := lv_neT c1_6 (a := 6) (by decide)
    have n7 := lv_neT c1_7 (a := 7) (by decide)
    have n8 := lv_neT c1_8 (a := 8) (by decide)
    have n9 := lv_neT c1_9 (a := 9) (by decide)
    have n10 := lv_neT c1_10 (a := 10) (by decide)
    have n11 := lv_neT c1_11 (a := 11) (by decide)
    have n12 := lv_neT c1_12 (a := 12) (by decide)
    have n13 := lv_neT c1_13 (a := 13) (by decide)
    by_cases h1 : x1.toInt < 0
    · exact Or.inl h1
    by_cases h2 : 13 < x1.toInt
    · exact Or.inr (Or.inl h2)
    exfalso
    omega
  refine lv_tableD (tgt := 175) hx hb dX0_count_1 hout (by decide) ?_
  refine lv_ldc hx hb hown (hts _ q435) dX0_count_175 ?_
  exact c_iret S hr hlk hw h dX0_count_177
theorem ctC_X0_count (l : Launch) (D : va_G) (dA : Nat → ClassId) (ad : Nat → Nat) (fv : Nat → Value) (A : Nat → Prop) (a : CS) (x1 : Int32) (Q : Int32 → CS → Prop) (h : wpC_X0_count a x1 Q) : Met l yX0_count (ws_ yX0_count cX0_count 2 (some .int)) rmC_X0_count (cPc D dA ad fv A a [.ref (ad 0), .int x1]) (cQi D dA ad fv A Q) 0 0 A :=
  c_met (by decide) rfl rfl rfl (Nat.le_of_ble_eq_true rfl) (fun p e s m below meth c ls S hr hlk hin2 hw hl => wkC_X0_count_e S hr hlk Q x1 a _ _ ls h hw hl)
/-! X0.keep -/
abbrev rmC_X0_keep : Room := { frames := 10, cells := 8, slots := 32, locals := 344 }
def wpC_X0_keep (a : CS) (Q : Int32 → CS → Prop) : Prop := wpC_X1_copyOf a 2 1 (fun a8 => ∀ a13 : CS, a13 = wI a8 0 3 (1 : Int32) → (Q (a13.1 1 1) a13))
set_option maxHeartbeats 4000000 in
set_option maxRecDepth 100000 in
theorem wkC_X0_keep_e (S : CallFix p m c cX0_keep 1 s args lw_all RX0) (hr : meth.sig.returnType = (some .int)) (hlk : meth.locks = false) (Q : Int32 → CS → Prop) (a : CS) (H : Heap) (locs : List Loc) (ls : Array Slot) (h : wpC_X0_keep a Q) (hw : CW D dA ad fv A a s H locs) (hl : lv_has ls 1 [(0, .ref (ad 0))]) : W p l e rmC_X0_keep s m args below meth c H locs 0 0 (MQ below (cQi D dA ad fv A Q) args s 8 32 A) (F0 m 0 ls []) := by
  have hx := S.1
  have hb := S.2.1
  have hown := S.2.2.2.1
  have hts := S.2.2.2.2
  unfold wpC_X0_keep at h
  refine lv_aload_n hx hb dX0_keep_0 rfl (lv_at hl 0 rfl) ?_
  refine c_get S hw (n := 0) (ci := 0) (cOk.s (by decide)) (isO_K _) rfl in_X0 1 (by decide) (Or.inl q325) rfl rfl dX0_keep_1 ?_
  refine lv_aload_n hx hb dX0_keep_4 rfl (lv_at hl 0 rfl) ?_
  refine c_get S hw (n := 0) (ci := 0) (cOk.s (by decide)) (isO_K _) rfl in_X0 0 (by decide) (Or.inl q324) rfl rfl dX0_keep_5 ?_
  refine c_callv hw (va_runV (As := [.ref (ad 1)]) (rest := []) S (ctC_X1_copyOf l D dA ad fv A a 2 1 _ h) (cwC_X0_X1_copyOf hts ⟨Nat.le_of_ble_eq_true rfl, Nat.le_of_ble_eq_true rfl⟩) (c_preV hw (n := 2) (cOk.s (by decide)) ((isO_S (by decide) (by decide)) _) rfl) rfl rfl hl.1 rfl (lv_room (Nat.le_of_ble_eq_true rfl)) dX0_keep_8 ⟨Nat.le_of_ble_eq_true rfl, Nat.le_of_ble_eq_true rfl⟩) (fun a8 H locs h hw => ?_)
  refine W.widen (k := 8) (n := 32) (Nat.le_of_ble_eq_true rfl) (Nat.le_of_ble_eq_true rfl) ?_
  refine lv_aload_n hx hb dX0_keep_11 rfl (lv_at hl 0 rfl) ?_
  refine lv_iconst (v := (1 : Int32)) hx hb dX0_keep_12 (by decide) ?_
  refine c_putI S hw (n := 0) (cOk.s (by decide)) isO_K rfl in_X0 tyX0 tyX0_ok nmX0 3 (by decide) (Or.inl q327) rfl rfl (by decide) (by decide) (Nat.le_of_ble_eq_true rfl) (fun _ => kset_3) dX0_keep_13 (fun a13 H locs ea13 hw => ?_)
  replace h := h a13 ea13
  refine lv_aload_n hx hb dX0_keep_16 rfl (lv_at hl 0 rfl) ?_
  refine c_get S hw (n := 0) (ci := 0) (cOk.s (by decide)) (isO_K _) rfl in_X0 0 (by decide) (Or.inl q324) rfl rfl dX0_keep_17 ?_
  refine c_get S hw (n := 1) (cOk.s (by decide)) ((isO_S (by decide) (by decide)) _) rfl in_X1 1 (by decide) (Or.inr (List.mem_of_getElem? (i := 12) rfl)) rfl rfl dX0_keep_20 ?_
  exact c_iret S hr hlk hw h dX0_keep_23
theorem ctC_X0_keep (l : Launch) (D : va_G) (dA : Nat → ClassId) (ad : Nat → Nat) (fv : Nat → Value) (A : Nat → Prop) (a : CS) (Q : Int32 → CS → Prop) (h : wpC_X0_keep a Q) : Met l yX0_keep (ws_ yX0_keep cX0_keep 1 (some .int)) rmC_X0_keep (cPc D dA ad fv A a [.ref (ad 0)]) (cQi D dA ad fv A Q) 8 32 A :=
  c_met (by decide) rfl rfl rfl (Nat.le_of_ble_eq_true rfl) (fun p e s m below meth c ls S hr hlk hin2 hw hl => wkC_X0_keep_e S hr hlk Q a _ _ ls h hw hl)
/-! X0.back -/
abbrev rmC_X0_back : Room := { frames := 10, cells := 8, slots := 32, locals := 344 }
def wpC_X0_back (a : CS) (Q : Int32 → CS → Prop) : Prop := if (a.1 0 3) = 0 then (Q (-1000000002 : Int32) a) else (wpC_X1_copyOf a 1 2 (fun a19 => Q (a19.1 1 1) a19))
set_option maxHeartbeats 4000000 in
set_option maxRecDepth 100000 in
theorem wkC_X0_back_e (S : CallFix p m c cX0_back 1 s args lw_all RX0) (hr : meth.sig.returnType = (some .int)) (hlk : meth.locks = false) (Q : Int32 → CS → Prop) (a : CS) (H : Heap) (locs : List Loc) (ls : Array Slot) (h : wpC_X0_back a Q) (hw : CW D dA ad fv A a s H locs) (hl : lv_has ls 1 [(0, .ref (ad 0))]) : W p l e rmC_X0_back s m args below meth c H locs 0 0 (MQ below (cQi D dA ad fv A Q) args s 8 32 A) (F0 m 0 ls []) := by
  have hx := S.1
  have hb := S.2.1
  have hown := S.2.2.2.1
  have hts := S.2.2.2.2
  unfold wpC_X0_back at h
  refine lv_aload_n hx hb dX0_back_0 rfl (lv_at hl 0 rfl) ?_
  refine c_get S hw (n := 0) (ci := 0) (cOk.s (by decide)) (isO_K _) rfl in_X0 3 (by decide) (Or.inl q327) rfl rfl dX0_back_1 ?_
  refine lv_if_ne (tgt := 11) hx hb dX0_back_4 (by decide) (fun c4 => ?_) (fun c4 => ?_)
  · replace h := if_f c4 h
    refine lv_aload_n hx hb dX0_back_11 rfl (lv_at hl 0 rfl) ?_
    refine c_get S hw (n := 0) (ci := 0) (cOk.s (by decide)) (isO_K _) rfl in_X0 0 (by decide) (Or.inl q324) rfl rfl dX0_back_12 ?_
    refine lv_aload_n hx hb dX0_back_15 rfl (lv_at hl 0 rfl) ?_
    refine c_get S hw (n := 0) (ci := 0) (cOk.s (by decide)) (isO_K _) rfl in_X0 1 (by decide) (Or.inl q325) rfl rfl dX0_back_16 ?_
    refine c_callv hw (va_runV (As := [.ref (ad 2)]) (rest := []) S (ctC_X1_copyOf l D dA ad fv A a 1 2 _ h) (cwC_X0_X1_copyOf hts ⟨Nat.le_of_ble_eq_true rfl, Nat.le_of_ble_eq_true rfl⟩) (c_preV hw (n := 1) (cOk.s (by decide)) ((isO_S (by decide) (by decide)) _) rfl) rfl rfl hl.1 rfl (lv_room (Nat.le_of_ble_eq_true rfl)) dX0_back_19 ⟨Nat.le_of_ble_eq_true rfl, Nat.le_of_ble_eq_true rfl⟩) (fun a19 H locs h hw => ?_)
    refine W.widen (k := 8) (n := 32) (Nat.le_of_ble_eq_true rfl) (Nat.le_of_ble_eq_true rfl) ?_
    refine lv_aload_n hx hb dX0_back_22 rfl (lv_at hl 0 rfl) ?_
    refine c_get S hw (n := 0) (ci := 0) (cOk.s (by decide)) (isO_K _) rfl in_X0 0 (by decide) (Or.inl q324) rfl rfl dX0_back_23 ?_
    refine c_get S hw (n := 1) (cOk.s (by decide)) ((isO_S (by decide) (by decide)) _) rfl in_X1 1 (by decide) (Or.inr (List.mem_of_getElem? (i := 12) rfl)) rfl rfl dX0_back_26 ?_
    exact c_iret S hr hlk hw h dX0_back_29
  · replace h := if_t c4 h
    refine lv_ldcw hx hb hown (hts _ q1011) dX0_back_7 ?_
    refine W.widen (k := 8) (n := 32) (Nat.le_of_ble_eq_true rfl) (Nat.le_of_ble_eq_true rfl) ?_
    exact c_iret S hr hlk hw h dX0_back_10
theorem ctC_X0_back (l : Launch) (D : va_G) (dA : Nat → ClassId) (ad : Nat → Nat) (fv : Nat → Value) (A : Nat → Prop) (a : CS) (Q : Int32 → CS → Prop) (h : wpC_X0_back a Q) : Met l yX0_back (ws_ yX0_back cX0_back 1 (some .int)) rmC_X0_back (cPc D dA ad fv A a [.ref (ad 0)]) (cQi D dA ad fv A Q) 8 32 A :=
  c_met (by decide) rfl rfl rfl (Nat.le_of_ble_eq_true rfl) (fun p e s m below meth c ls S hr hlk hin2 hw hl => wkC_X0_back_e S hr hlk Q a _ _ ls h hw hl)
/-! X0.rowsOfTurns -/
abbrev rmC_X0_rowsOfTurns : Room := { frames := 10, cells := 24, slots := 96, locals := 346 }
def bkC_X0_rowsOfTurns_73 (Q : Int32 → CS → Prop) (x1 : Int32) (O28 : Int32 → CS → Prop) : Int32 → Int32 → Int32 → Int32 → CS → Prop := fun x2 s1 s2 s3 a => (vp_in s1 60) ∧ (∀ a74 : CS, a74 = wI a 82 s1.toNatClampNeg (s2 + s3) → ((vp_in (((2 : Int32) * x2) + (1 : Int32)) 60) ∧ (∀ a91 : CS, a91 = wI a74 82 (((2 : Int32) * x2) + (1 : Int32)).toNatClampNeg (a74.1 (a74.2.1 0 5) 3) → (O28 (x2 + (1 : Int32)) a91))))
set_option maxHeartbeats 4000000 in
set_option maxRecDepth 100000 in
theorem wkC_X0_rowsOfTurns_73 (S : CallFix p m c cX0_rowsOfTurns 4 s args lw_all RX0) (hr : meth.sig.returnType = (some .int)) (hlk : meth.locks = false) (Q : Int32 → CS → Prop) (x1 : Int32) {O28 : Int32 → CS → Prop} (hO28 : ∀ (x2 : Int32) (a : CS) (H : Heap) (locs : List Loc) (ls : Array Slot), O28 x2 a → CW D dA ad fv A a s H locs → lv_has ls 4 [(0, .ref (ad 0)), (1, .int x1), (2, .int x2)] → W p l e rmC_X0_rowsOfTurns s m args below meth c H locs 16 64 (MQ below (cQi D dA ad fv A Q) args s 24 96 A) (F0 m 28 ls [])) : ∀ (x2 : Int32) (s1 : Int32) (s2 : Int32) (s3 : Int32) (a : CS) (H : Heap) (locs : List Loc) (ls : Array Slot), bkC_X0_rowsOfTurns_73 Q x1 O28 x2 s1 s2 s3 a → CW D dA ad fv A a s H locs → lv_has ls 4 [(0, .ref (ad 0)), (1, .int x1), (2, .int x2)] → W p l e rmC_X0_rowsOfTurns s m args below meth c H locs 16 64 (MQ below (cQi D dA ad fv A Q) args s 24 96 A) (F0 m 73 ls [.int s3, .int s2, .int s1, .ref (ad 82)]) := by
  have hx := S.1
  have hb := S.2.1
  have hown := S.2.2.2.1
  have hts := S.2.2.2.2
  intro x2 s1 s2 s3 a H locs ls h hw hl
  unfold bkC_X0_rowsOfTurns_73 at h
  refine lv_iadd hx hb dX0_rowsOfTurns_73 ?_
  have hi74 := h.1
  replace h := h.2
  refine c_ast S hw (n := 82) (by decide) (cOk.s (by decide)) (fun _ => rfl) hi74 (Or.inl ⟨rfl, rfl, dX0_rowsOfTurns_74⟩) (fun a74 H locs ea74 hw => ?_)
  replace h := h a74 ea74
  refine lv_aload_n hx hb dX0_rowsOfTurns_75 rfl (lv_at hl 0 rfl) ?_
  refine c_get S hw (n := 0) (ci := 0) (cOk.s (by decide)) (isO_K _) rfl in_X0 30 (by decide) (Or.inl q354) rfl rfl dX0_rowsOfTurns_76 ?_
  refine lv_iconst (v := (2 : Int32)) hx hb dX0_rowsOfTurns_79 (by decide) ?_
  refine lv_iload_n hx hb dX0_rowsOfTurns_80 rfl (lv_at hl 2 rfl) ?_
  refine lv_imul hx hb dX0_rowsOfTurns_81 ?_
  refine lv_iconst (v := (1 : Int32)) hx hb dX0_rowsOfTurns_82 (by decide) ?_
  refine lv_iadd hx hb dX0_rowsOfTurns_83 ?_
  refine lv_aload_n hx hb dX0_rowsOfTurns_84 rfl (lv_at hl 0 rfl) ?_
  refine c_getOn S hw (Or.inl q329) dX0_rowsOfTurns_85 (fun ho85 => ?_)
  refine c_get S hw (n := (a74.2.1 0 5)) (cOk.s (mem_sh ho85.1 ho85.2)) ((isO_H ho85.1 ho85.2) _) rfl in_X2 3 (by decide) (Or.inr (List.mem_of_getElem? (i := 6) rfl)) rfl rfl dX0_rowsOfTurns_88 ?_
  have hi91 := h.1
  replace h := h.2
  refine c_ast S hw (n := 82) (by decide) (cOk.s (by decide)) (fun _ => rfl) hi91 (Or.inl ⟨rfl, rfl, dX0_rowsOfTurns_91⟩) (fun a91 H locs ea91 hw => ?_)
  replace h := h a91 ea91
  refine lv_iinc (v := (x2 + (1 : Int32))) (lv' := [(2, .int (x2 + (1 : Int32))), (0, .ref (ad 0)), (1, .int x1)]) hx hb dX0_rowsOfTurns_92 hl (k := 2) rfl rfl (by decide) rfl (fun ls hl => ?_)
  refine lv_goto (tgt := 28) hx hb dX0_rowsOfTurns_95 (by decide) ?_
  exact hO28 _ _ _ _ _ h hw (lv_sub hl [1, 2, 0] rfl)
def bkC_X0_rowsOfTurns_28 (Q : Int32 → CS → Prop) (x1 : Int32) : Nat → Int32 → CS → Prop
  | 0 => fun _ _ => False
  | n + 1 => fun x2 a => if x1 ≤ x2 then (wpC_X1_copyOf a 1 3 (fun a106 => Q ((2 : Int32) * x1) a106)) else (wpC_X2_draw a (a.2.1 0 5) (fun r37 a37 => (¬ (a37.1 1 1) = 0) ∧ (wpC_X0_isFound a37 (irm r37 (a37.1 1 1)) (fun r62 a62 => if r62 = 0 then (bkC_X0_rowsOfTurns_73 Q x1 (bkC_X0_rowsOfTurns_28 Q x1 n) x2 ((2 : Int32) * x2) ((10 : Int32) * (irm r37 (a37.1 1 1))) (0 : Int32) a62) else (bkC_X0_rowsOfTurns_73 Q x1 (bkC_X0_rowsOfTurns_28 Q x1 n) x2 ((2 : Int32) * x2) ((10 : Int32) * (irm r37 (a37.1 1 1))) (1 : Int32) a62)))))
set_option maxHeartbeats 4000000 in
set_option maxRecDepth 100000 in
theorem wkC_X0_rowsOfTurns_28 (S : CallFix p m c cX0_rowsOfTurns 4 s args lw_all RX0) (hr : meth.sig.returnType = (some .int)) (hlk : meth.locks = false) (Q : Int32 → CS → Prop) (x1 : Int32) : ∀ (n : Nat) (x2 : Int32) (a : CS) (H : Heap) (locs : List Loc) (ls : Array Slot), bkC_X0_rowsOfTurns_28 Q x1 n x2 a → CW D dA ad fv A a s H locs → lv_has ls 4 [(0, .ref (ad 0)), (1, .int x1), (2, .int x2)] → W p l e rmC_X0_rowsOfTurns s m args below meth c H locs 16 64 (MQ below (cQi D dA ad fv A Q) args s 24 96 A) (F0 m 28 ls []) := by
  have hx := S.1
  have hb := S.2.1
  have hown := S.2.2.2.1
  have hts := S.2.2.2.2
  intro n
  induction n with
  | zero =>
    intro x2 a H locs ls h
    exact False.elim h
  | succ n ih =>
    intro x2 a H locs ls h hw hl
    unfold bkC_X0_rowsOfTurns_28 at h
    refine lv_iload_n hx hb dX0_rowsOfTurns_28 rfl (lv_at hl 2 rfl) ?_
    refine lv_iload_n hx hb dX0_rowsOfTurns_29 rfl (lv_at hl 1 rfl) ?_
    refine lv_icmp_ge (tgt := 98) hx hb dX0_rowsOfTurns_30 (by decide) (fun c30 => ?_) (fun c30 => ?_)
    · replace h := if_t c30 h
      refine lv_aload_n hx hb dX0_rowsOfTurns_98 rfl (lv_at hl 0 rfl) ?_
      refine c_get S hw (n := 0) (ci := 0) (cOk.s (by decide)) (isO_K _) rfl in_X0 0 (by decide) (Or.inl q324) rfl rfl dX0_rowsOfTurns_99 ?_
      refine lv_aload_n hx hb dX0_rowsOfTurns_102 rfl (lv_at hl 0 rfl) ?_
      refine c_get S hw (n := 0) (ci := 0) (cOk.s (by decide)) (isO_K _) rfl in_X0 2 (by decide) (Or.inl q326) rfl rfl dX0_rowsOfTurns_103 ?_
      refine c_callv hw (va_runV (As := [.ref (ad 3)]) (rest := []) S (ctC_X1_copyOf l D dA ad fv A a 1 3 _ h) (cwC_X0_X1_copyOf hts ⟨Nat.le_of_ble_eq_true rfl, Nat.le_of_ble_eq_true rfl⟩) (c_preV hw (n := 1) (cOk.s (by decide)) ((isO_S (by decide) (by decide)) _) rfl) rfl rfl hl.1 rfl (lv_room (Nat.le_of_ble_eq_true rfl)) dX0_rowsOfTurns_106 ⟨Nat.le_of_ble_eq_true rfl, Nat.le_of_ble_eq_true rfl⟩) (fun a106 H locs h hw => ?_)
      refine W.widen (k := 24) (n := 96) (Nat.le_of_ble_eq_true rfl) (Nat.le_of_ble_eq_true rfl) ?_
      refine lv_iconst (v := (2 : Int32)) hx hb dX0_rowsOfTurns_109 (by decide) ?_
      refine lv_iload_n hx hb dX0_rowsOfTurns_110 rfl (lv_at hl 1 rfl) ?_
      refine lv_imul hx hb dX0_rowsOfTurns_111 ?_
      exact c_iret S hr hlk hw h dX0_rowsOfTurns_112
    · replace h := if_f c30 h
      refine lv_aload_n hx hb dX0_rowsOfTurns_33 rfl (lv_at hl 0 rfl) ?_
      refine c_getOn S hw (Or.inl q329) dX0_rowsOfTurns_34 (fun ho34 => ?_)
      refine c_calli hw (va_runV (As := []) (rest := []) S (ctC_X2_draw l D dA ad fv A a (a.2.1 0 5) _ h) (cwC_X0_X2_draw hts ⟨Nat.le_of_ble_eq_true rfl, Nat.le_of_ble_eq_true rfl⟩) (c_preV hw (n := (a.2.1 0 5)) (cOk.s (mem_sh ho34.1 ho34.2)) ((isO_H ho34.1 ho34.2) _) rfl) rfl rfl hl.1 rfl (lv_room (Nat.le_of_ble_eq_true rfl)) dX0_rowsOfTurns_37 ⟨Nat.le_of_ble_eq_true rfl, Nat.le_of_ble_eq_true rfl⟩) (fun r37 a37 H locs h hw => ?_)
      refine lv_aload_n hx hb dX0_rowsOfTurns_40 rfl (lv_at hl 0 rfl) ?_
      refine c_get S hw (n := 0) (ci := 0) (cOk.s (by decide)) (isO_K _) rfl in_X0 0 (by decide) (Or.inl q324) rfl rfl dX0_rowsOfTurns_41 ?_
      refine c_get S hw (n := 1) (cOk.s (by decide)) ((isO_S (by decide) (by decide)) _) rfl in_X1 1 (by decide) (Or.inr (List.mem_of_getElem? (i := 12) rfl)) rfl rfl dX0_rowsOfTurns_44 ?_
      have hz47 := h.1
      replace h := h.2
      refine lv_irem hx hb dX0_rowsOfTurns_47 hz47 ?_
      refine lv_istore_n (lv' := [(3, .int (irm r37 (a37.1 1 1))), (0, .ref (ad 0)), (1, .int x1), (2, .int x2)]) hx hb dX0_rowsOfTurns_48 rfl hl (by decide) rfl (fun ls hl => ?_)
      refine lv_aload_n hx hb dX0_rowsOfTurns_49 rfl (lv_at hl 1 rfl) ?_
      refine c_get S hw (n := 0) (ci := 0) (cOk.s (by decide)) (isO_K _) rfl in_X0 30 (by decide) (Or.inl q354) rfl rfl dX0_rowsOfTurns_50 ?_
      refine lv_iconst (v := (2 : Int32)) hx hb dX0_rowsOfTurns_53 (by decide) ?_
      refine lv_iload_n hx hb dX0_rowsOfTurns_54 rfl (lv_at hl 3 rfl) ?_
      refine lv_imul hx hb dX0_rowsOfTurns_55 ?_
      refine lv_bipush (v := (10 : Int32)) hx hb dX0_rowsOfTurns_56 (by decide) ?_
      refine lv_iload_n hx hb dX0_rowsOfTurns_58 rfl (lv_at hl 0 rfl) ?_
      refine lv_imul hx hb dX0_rowsOfTurns_59 ?_
      refine lv_aload_n hx hb dX0_rowsOfTurns_60 rfl (lv_at hl 1 rfl) ?_
      refine lv_iload_n hx hb dX0_rowsOfTurns_61 rfl (lv_at hl 0 rfl) ?_
      refine c_calli hw (va_runV (As := [.int (irm r37 (a37.1 1 1))]) (rest := [.int ((10 : Int32) * (irm r37 (a37.1 1 1))), .int ((2 : Int32) * x2), .ref (ad 82)]) S (ctC_X0_isFound l D dA ad fv A a37 (irm r37 (a37.1 1 1)) _ h) (cwC_X0_X0_isFound hts ⟨Nat.le_of_ble_eq_true rfl, Nat.le_of_ble_eq_true rfl⟩) (c_preV hw (n := 0) (cOk.s (by decide)) (isO_K _) rfl) rfl rfl hl.1 rfl (lv_room (Nat.le_of_ble_eq_true rfl)) dX0_rowsOfTurns_62 ⟨Nat.le_of_ble_eq_true rfl, Nat.le_of_ble_eq_true rfl⟩) (fun r62 a62 H locs h hw => ?_)
      refine lv_if_eq (tgt := 72) hx hb dX0_rowsOfTurns_65 (by decide) (fun c65 => ?_) (fun c65 => ?_)
      · replace h := if_t c65 h
        refine lv_iconst (v := (0 : Int32)) hx hb dX0_rowsOfTurns_72 (by decide) ?_
        exact wkC_X0_rowsOfTurns_73 S hr hlk Q x1 ih _ _ _ _ _ _ _ _ h hw (lv_sub hl [1, 2, 3] rfl)
      · replace h := if_f c65 h
        refine lv_iconst (v := (1 : Int32)) hx hb dX0_rowsOfTurns_68 (by decide) ?_
        refine lv_goto (tgt := 73) hx hb dX0_rowsOfTurns_69 (by decide) ?_
        exact wkC_X0_rowsOfTurns_73 S hr hlk Q x1 ih _ _ _ _ _ _ _ _ h hw (lv_sub hl [1, 2, 3] rfl)
def wpC_X0_rowsOfTurns (a : CS) (x1 : Int32) (Q : Int32 → CS → Prop) : Prop := wpC_X1_copyOf a 3 1 (fun a8 => wpC_X1_copyOf a8 1 2 (fun a19 => wpC_X0_learns a19 (fun a23 => ∃ n28, bkC_X0_rowsOfTurns_28 Q x1 n28 (0 : Int32) a23)))
set_option maxHeartbeats 4000000 in
set_option maxRecDepth 100000 in
theorem wkC_X0_rowsOfTurns_e (S : CallFix p m c cX0_rowsOfTurns 4 s args lw_all RX0) (hr : meth.sig.returnType = (some .int)) (hlk : meth.locks = false) (Q : Int32 → CS → Prop) (x1 : Int32) (a : CS) (H : Heap) (locs : List Loc) (ls : Array Slot) (h : wpC_X0_rowsOfTurns a x1 Q) (hw : CW D dA ad fv A a s H locs) (hl : lv_has ls 4 [(0, .ref (ad 0)), (1, .int x1)]) : W p l e rmC_X0_rowsOfTurns s m args below meth c H locs 0 0 (MQ below (cQi D dA ad fv A Q) args s 24 96 A) (F0 m 0 ls []) := by
  have hx := S.1
  have hb := S.2.1
  have hown := S.2.2.2.1
  have hts := S.2.2.2.2
  unfold wpC_X0_rowsOfTurns at h
  refine lv_aload_n hx hb dX0_rowsOfTurns_0 rfl (lv_at hl 0 rfl) ?_
  refine c_get S hw (n := 0) (ci := 0) (cOk.s (by decide)) (isO_K _) rfl in_X0 2 (by decide) (Or.inl q326) rfl rfl dX0_rowsOfTurns_1 ?_
  refine lv_aload_n hx hb dX0_rowsOfTurns_4 rfl (lv_at hl 0 rfl) ?_
  refine c_get S hw (n := 0) (ci := 0) (cOk.s (by decide)) (isO_K _) rfl in_X0 0 (by decide) (Or.inl q324) rfl rfl dX0_rowsOfTurns_5 ?_
  refine c_callv hw (va_runV (As := [.ref (ad 1)]) (rest := []) S (ctC_X1_copyOf l D dA ad fv A a 3 1 _ h) (cwC_X0_X1_copyOf hts ⟨Nat.le_of_ble_eq_true rfl, Nat.le_of_ble_eq_true rfl⟩) (c_preV hw (n := 3) (cOk.s (by decide)) ((isO_S (by decide) (by decide)) _) rfl) rfl rfl hl.1 rfl (lv_room (Nat.le_of_ble_eq_true rfl)) dX0_rowsOfTurns_8 ⟨Nat.le_of_ble_eq_true rfl, Nat.le_of_ble_eq_true rfl⟩) (fun a8 H locs h hw => ?_)
  refine W.widen (k := 8) (n := 32) (Nat.le_of_ble_eq_true rfl) (Nat.le_of_ble_eq_true rfl) ?_
  refine lv_aload_n hx hb dX0_rowsOfTurns_11 rfl (lv_at hl 0 rfl) ?_
  refine c_get S hw (n := 0) (ci := 0) (cOk.s (by decide)) (isO_K _) rfl in_X0 0 (by decide) (Or.inl q324) rfl rfl dX0_rowsOfTurns_12 ?_
  refine lv_aload_n hx hb dX0_rowsOfTurns_15 rfl (lv_at hl 0 rfl) ?_
  refine c_get S hw (n := 0) (ci := 0) (cOk.s (by decide)) (isO_K _) rfl in_X0 1 (by decide) (Or.inl q325) rfl rfl dX0_rowsOfTurns_16 ?_
  refine c_callv hw (va_runV (As := [.ref (ad 2)]) (rest := []) S (ctC_X1_copyOf l D dA ad fv A a8 1 2 _ h) (cwC_X0_X1_copyOf hts ⟨Nat.le_of_ble_eq_true rfl, Nat.le_of_ble_eq_true rfl⟩) (c_preV hw (n := 1) (cOk.s (by decide)) ((isO_S (by decide) (by decide)) _) rfl) rfl rfl hl.1 rfl (lv_room (Nat.le_of_ble_eq_true rfl)) dX0_rowsOfTurns_19 ⟨Nat.le_of_ble_eq_true rfl, Nat.le_of_ble_eq_true rfl⟩) (fun a19 H locs h hw => ?_)
  refine W.widen (k := 16) (n := 64) (Nat.le_of_ble_eq_true rfl) (Nat.le_of_ble_eq_true rfl) ?_
  refine lv_aload_n hx hb dX0_rowsOfTurns_22 rfl (lv_at hl 0 rfl) ?_
  refine c_callv hw (va_runV (As := []) (rest := []) S (ctC_X0_learns l D dA ad fv A a19 _ h) (cwC_X0_X0_learns hts ⟨Nat.le_of_ble_eq_true rfl, Nat.le_of_ble_eq_true rfl⟩) (c_preV hw (n := 0) (cOk.s (by decide)) (isO_K _) rfl) rfl rfl hl.1 rfl (lv_room (Nat.le_of_ble_eq_true rfl)) dX0_rowsOfTurns_23 ⟨Nat.le_of_ble_eq_true rfl, Nat.le_of_ble_eq_true rfl⟩) (fun a23 H locs h hw => ?_)
  refine lv_iconst (v := (0 : Int32)) hx hb dX0_rowsOfTurns_26 (by decide) ?_
  refine lv_istore_n (lv' := [(2, .int (0 : Int32)), (0, .ref (ad 0)), (1, .int x1)]) hx hb dX0_rowsOfTurns_27 rfl hl (by decide) rfl (fun ls hl => ?_)
  obtain ⟨n28, h⟩ := h
  exact wkC_X0_rowsOfTurns_28 S hr hlk Q x1 n28 _ _ _ _ _ h hw (lv_sub hl [1, 2, 0] rfl)
theorem ctC_X0_rowsOfTurns (l : Launch) (D : va_G) (dA : Nat → ClassId) (ad : Nat → Nat) (fv : Nat → Value) (A : Nat → Prop) (a : CS) (x1 : Int32) (Q : Int32 → CS → Prop) (h : wpC_X0_rowsOfTurns a x1 Q) : Met l yX0_rowsOfTurns (ws_ yX0_rowsOfTurns cX0_rowsOfTurns 4 (some .int)) rmC_X0_rowsOfTurns (cPc D dA ad fv A a [.ref (ad 0), .int x1]) (cQi D dA ad fv A Q) 24 96 A :=
  c_met (by decide) rfl rfl rfl (Nat.le_of_ble_eq_true rfl) (fun p e s m below meth c ls S hr hlk hin2 hw hl => wkC_X0_rowsOfTurns_e S hr hlk Q x1 a _ _ ls h hw hl)
theorem cwC_X0_X0_rowsOfTurns {R : Room} {s : State} {args : Array Value} {rm : Room} (hts : ∀ w ∈ lw_all, w.before args s = true) (hR : rm.frames + 1 ≤ R.frames ∧ 8 + (4 + 11) + rm.locals ≤ R.locals) (hc : rm.cells = 24 := by rfl) (hs : rm.slots = 96 := by rfl) : CallW R s args RX0 RX0 574 yX0_rowsOfTurns cX0_rowsOfTurns 4 (some .int) (ws_ yX0_rowsOfTurns cX0_rowsOfTurns 4 (some .int)) rm 24 96 1 :=
  cwV 1 hts (lw_V q1298 q1300 qs47 q103 q1301) rfl hc hs (by decide +kernel) hR
/-! X0.check -/
abbrev rmC_X0_check : Room := { frames := 11, cells := 24, slots := 96, locals := 369 }
def bkC_X0_check_53 (Q : Int32 → CS → Prop) (x1 : Int32) : Nat → Int32 → Int32 → Int32 → CS → Prop
  | 0 => fun _ _ _ _ => False
  | n + 1 => fun x2 x3 x4 a => if x2 ≤ x4 then (if x3 ≤ x2 then (Q (0 : Int32) a) else (Q ((1 : Int32) + x2) a)) else (if x3 ≤ x4 then (Q ((1 : Int32) + x4) a) else ((vp_in x4 60) ∧ ((vp_in x4 60) ∧ (if (a.1 81 x4.toNatClampNeg) = (a.1 82 x4.toNatClampNeg) then (bkC_X0_check_53 Q x1 n x2 x3 (x4 + (1 : Int32)) a) else (Q ((1 : Int32) + x4) a)))))
set_option maxHeartbeats 4000000 in
set_option maxRecDepth 100000 in
theorem wkC_X0_check_53 (S : CallFix p m c cX0_check 5 s args lw_all RX0) (hr : meth.sig.returnType = (some .int)) (hlk : meth.locks = false) (Q : Int32 → CS → Prop) (x1 : Int32) : ∀ (n : Nat) (x2 : Int32) (x3 : Int32) (x4 : Int32) (a : CS) (H : Heap) (locs : List Loc) (ls : Array Slot), bkC_X0_check_53 Q x1 n x2 x3 x4 a → CW D dA ad fv A a s H locs → lv_has ls 5 [(0, .ref (ad 0)), (2, .int x2), (3, .int x3), (4, .int x4)] → W p l e rmC_X0_check s m args below meth c H locs 24 96 (MQ below (cQi D dA ad fv A Q) args s 24 96 A) (F0 m 53 ls []) := by
  have hx := S.1
  have hb := S.2.1
  have hown := S.2.2.2.1
  have hts := S.2.2.2.2
  intro n
  induction n with
  | zero =>
    intro x2 x3 x4 a H locs ls h
    exact False.elim h
  | succ n ih =>
    intro x2 x3 x4 a H locs ls h hw hl
    unfold bkC_X0_check_53 at h
    refine lv_iload hx hb dX0_check_53 (lv_at hl 3 rfl) ?_
    refine lv_iload_n hx hb dX0_check_55 rfl (lv_at hl 1 rfl) ?_
    refine lv_icmp_ge (tgt := 96) hx hb dX0_check_56 (by decide) (fun c56 => ?_) (fun c56 => ?_)
    · replace h := if_t c56 h
      refine lv_iload_n hx hb dX0_check_96 rfl (lv_at hl 1 rfl) ?_
      refine lv_iload_n hx hb dX0_check_97 rfl (lv_at hl 2 rfl) ?_
      refine lv_icmp_ge (tgt := 107) hx hb dX0_check_98 (by decide) (fun c98 => ?_) (fun c98 => ?_)
      · replace h := if_t c98 h
        refine lv_iconst (v := (0 : Int32)) hx hb dX0_check_107 (by decide) ?_
        exact c_iret S hr hlk hw h dX0_check_108
      · replace h := if_f c98 h
        refine lv_iconst (v := (1 : Int32)) hx hb dX0_check_101 (by decide) ?_
        refine lv_iload_n hx hb dX0_check_102 rfl (lv_at hl 1 rfl) ?_
        refine lv_iadd hx hb dX0_check_103 ?_
        refine lv_goto (tgt := 108) hx hb dX0_check_104 (by decide) ?_
        exact c_iret S hr hlk hw h dX0_check_108
    · replace h := if_f c56 h
      refine lv_iload hx hb dX0_check_59 (lv_at hl 3 rfl) ?_
      refine lv_iload_n hx hb dX0_check_61 rfl (lv_at hl 2 rfl) ?_
      refine lv_icmp_ge (tgt := 85) hx hb dX0_check_62 (by decide) (fun c62 => ?_) (fun c62 => ?_)
      · replace h := if_t c62 h
        refine lv_iconst (v := (1 : Int32)) hx hb dX0_check_85 (by decide) ?_
        refine lv_iload hx hb dX0_check_86 (lv_at hl 3 rfl) ?_
        refine lv_iadd hx hb dX0_check_88 ?_
        exact c_iret S hr hlk hw h dX0_check_89
      · replace h := if_f c62 h
        refine lv_aload_n hx hb dX0_check_65 rfl (lv_at hl 0 rfl) ?_
        refine c_get S hw (n := 0) (ci := 0) (cOk.s (by decide)) (isO_K _) rfl in_X0 28 (by decide) (Or.inl q352) rfl rfl dX0_check_66 ?_
        refine lv_iload hx hb dX0_check_69 (lv_at hl 3 rfl) ?_
        have hi71 := h.1
        replace h := h.2
        refine c_ald S hw (n := 81) (cOk.s (by decide)) (fun _ => rfl) hi71 (Or.inl ⟨rfl, dX0_check_71⟩) ?_
        refine lv_aload_n hx hb dX0_check_72 rfl (lv_at hl 0 rfl) ?_
        refine c_get S hw (n := 0) (ci := 0) (cOk.s (by decide)) (isO_K _) rfl in_X0 30 (by decide) (Or.inl q354) rfl rfl dX0_check_73 ?_
        refine lv_iload hx hb dX0_check_76 (lv_at hl 3 rfl) ?_
        have hi78 := h.1
        replace h := h.2
        refine c_ald S hw (n := 82) (cOk.s (by decide)) (fun _ => rfl) hi78 (Or.inl ⟨rfl, dX0_check_78⟩) ?_
        refine lv_icmp_ne (tgt := 85) hx hb dX0_check_79 (by decide) (fun c79 => ?_) (fun c79 => ?_)
        · replace h := if_f c79 h
          refine lv_iconst (v := (1 : Int32)) hx hb dX0_check_85 (by decide) ?_
          refine lv_iload hx hb dX0_check_86 (lv_at hl 3 rfl) ?_
          refine lv_iadd hx hb dX0_check_88 ?_
          exact c_iret S hr hlk hw h dX0_check_89
        · replace h := if_t c79 h
          refine lv_goto (tgt := 90) hx hb dX0_check_82 (by decide) ?_
          refine lv_iinc (v := (x4 + (1 : Int32))) (lv' := [(4, .int (x4 + (1 : Int32))), (0, .ref (ad 0)), (2, .int x2), (3, .int x3)]) hx hb dX0_check_90 hl (k := 3) rfl rfl (by decide) rfl (fun ls hl => ?_)
          refine lv_goto (tgt := 53) hx hb dX0_check_93 (by decide) ?_
          exact ih _ _ _ _ _ _ _ h hw (lv_sub hl [1, 2, 3, 0] rfl)
def wpC_X0_check (a : CS) (x1 : Int32) (Q : Int32 → CS → Prop) : Prop := ∀ a7 : CS, a7 = wI a 0 29 (0 : Int32) → (wpC_X0_isIn a7 x1 (1 : Int32) (30 : Int32) (fun r14 a14 => if r14 = 0 then (Q (-1000000001 : Int32) a14) else (if (a14.1 0 3) = 0 then (Q (-1000000002 : Int32) a14) else (if (a14.1 2 1) = 0 then (Q (-1000000002 : Int32) a14) else (wpC_X0_rowsOfTurns a14 x1 (fun r46 a46 => ∃ n53, bkC_X0_check_53 Q x1 n53 (a.1 0 29) r46 (0 : Int32) a46))))))
set_option maxHeartbeats 4000000 in
set_option maxRecDepth 100000 in
theorem wkC_X0_check_e (S : CallFix p m c cX0_check 5 s args lw_all RX0) (hr : meth.sig.returnType = (some .int)) (hlk : meth.locks = false) (Q : Int32 → CS → Prop) (x1 : Int32) (a : CS) (H : Heap) (locs : List Loc) (ls : Array Slot) (h : wpC_X0_check a x1 Q) (hw : CW D dA ad fv A a s H locs) (hl : lv_has ls 5 [(0, .ref (ad 0)), (1, .int x1)]) : W p l e rmC_X0_check s m args below meth c H locs 0 0 (MQ below (cQi D dA ad fv A Q) args s 24 96 A) (F0 m 0 ls []) := by
  have hx := S.1
  have hb := S.2.1
  have hown := S.2.2.2.1
  have hts := S.2.2.2.2
  unfold wpC_X0_check at h
  refine lv_aload_n hx hb dX0_check_0 rfl (lv_at hl 0 rfl) ?_
  refine c_get S hw (n := 0) (ci := 0) (cOk.s (by decide)) (isO_K _) rfl in_X0 29 (by decide) (Or.inl q353) rfl rfl dX0_check_1 ?_
  refine lv_istore_n (lv' := [(2, .int (a.1 0 29)), (0, .ref (ad 0)), (1, .int x1)]) hx hb dX0_check_4 rfl hl (by decide) rfl (fun ls hl => ?_)
  refine lv_aload_n hx hb dX0_check_5 rfl (lv_at hl 1 rfl) ?_
  refine lv_iconst (v := (0 : Int32)) hx hb dX0_check_6 (by decide) ?_
  refine c_putI S hw (n := 0) (cOk.s (by decide)) isO_K rfl in_X0 tyX0 tyX0_ok nmX0 29 (by decide) (Or.inl q353) rfl rfl rfl rfl (Nat.le_of_ble_eq_true rfl) (fun _ => kset_29) dX0_check_7 (fun a7 H locs ea7 hw => ?_)
  replace h := h a7 ea7
  refine lv_iload_n hx hb dX0_check_10 rfl (lv_at hl 2 rfl) ?_
  refine lv_iconst (v := (1 : Int32)) hx hb dX0_check_11 (by decide) ?_
  refine lv_bipush (v := (30 : Int32)) hx hb dX0_check_12 (by decide) ?_
  refine c_calli hw (va_runS (As := [.int x1, .int (1 : Int32), .int (30 : Int32)]) (rest := []) S (ctC_X0_isIn l D dA ad fv A a7 x1 (1 : Int32) (30 : Int32) _ h) (cwC_X0_X0_isIn hts ⟨Nat.le_of_ble_eq_true rfl, Nat.le_of_ble_eq_true rfl⟩) (c_preS hw) rfl rfl hl.1 rfl (lv_room (Nat.le_of_ble_eq_true rfl)) dX0_check_14 ⟨Nat.le_of_ble_eq_true rfl, Nat.le_of_ble_eq_true rfl⟩) (fun r14 a14 H locs h hw => ?_)
  refine lv_if_ne (tgt := 23) hx hb dX0_check_17 (by decide) (fun c17 => ?_) (fun c17 => ?_)
  · replace h := if_f c17 h
    refine lv_aload_n hx hb dX0_check_23 rfl (lv_at hl 1 rfl) ?_
    refine c_get S hw (n := 0) (ci := 0) (cOk.s (by decide)) (isO_K _) rfl in_X0 3 (by decide) (Or.inl q327) rfl rfl dX0_check_24 ?_
    refine lv_if_eq (tgt := 40) hx hb dX0_check_27 (by decide) (fun c27 => ?_) (fun c27 => ?_)
    · replace h := if_t c27 h
      refine lv_ldcw hx hb hown (hts _ q1011) dX0_check_40 ?_
      refine W.widen (k := 24) (n := 96) (Nat.le_of_ble_eq_true rfl) (Nat.le_of_ble_eq_true rfl) ?_
      exact c_iret S hr hlk hw h dX0_check_43
    · replace h := if_f c27 h
      refine lv_aload_n hx hb dX0_check_30 rfl (lv_at hl 1 rfl) ?_
      refine c_get S hw (n := 0) (ci := 0) (cOk.s (by decide)) (isO_K _) rfl in_X0 1 (by decide) (Or.inl q325) rfl rfl dX0_check_31 ?_
      refine c_get S hw (n := 2) (cOk.s (by decide)) ((isO_S (by decide) (by decide)) _) rfl in_X1 1 (by decide) (Or.inr (List.mem_of_getElem? (i := 12) rfl)) rfl rfl dX0_check_34 ?_
      refine lv_if_ne (tgt := 44) hx hb dX0_check_37 (by decide) (fun c37 => ?_) (fun c37 => ?_)
      · replace h := if_f c37 h
        refine lv_aload_n hx hb dX0_check_44 rfl (lv_at hl 1 rfl) ?_
        refine lv_iload_n hx hb dX0_check_45 rfl (lv_at hl 2 rfl) ?_
        refine c_calli hw (va_runV (As := [.int x1]) (rest := []) S (ctC_X0_rowsOfTurns l D dA ad fv A a14 x1 _ h) (cwC_X0_X0_rowsOfTurns hts ⟨Nat.le_of_ble_eq_true rfl, Nat.le_of_ble_eq_true rfl⟩) (c_preV hw (n := 0) (cOk.s (by decide)) (isO_K _) rfl) rfl rfl hl.1 rfl (lv_room (Nat.le_of_ble_eq_true rfl)) dX0_check_46 ⟨Nat.le_of_ble_eq_true rfl, Nat.le_of_ble_eq_true rfl⟩) (fun r46 a46 H locs h hw => ?_)
        refine W.widen (k := 24) (n := 96) (Nat.le_of_ble_eq_true rfl) (Nat.le_of_ble_eq_true rfl) ?_
        refine lv_istore_n (lv' := [(3, .int r46), (2, .int (a.1 0 29)), (0, .ref (ad 0)), (1, .int x1)]) hx hb dX0_check_49 rfl hl (by decide) rfl (fun ls hl => ?_)
        refine lv_iconst (v := (0 : Int32)) hx hb dX0_check_50 (by decide) ?_
        refine lv_istore (lv' := [(4, .int (0 : Int32)), (3, .int r46), (2, .int (a.1 0 29)), (0, .ref (ad 0)), (1, .int x1)]) hx hb dX0_check_51 hl (by decide) rfl (fun ls hl => ?_)
        obtain ⟨n53, h⟩ := h
        exact wkC_X0_check_53 S hr hlk Q x1 n53 _ _ _ _ _ _ _ h hw (lv_sub hl [3, 2, 1, 0] rfl)
      · replace h := if_t c37 h
        refine lv_ldcw hx hb hown (hts _ q1011) dX0_check_40 ?_
        refine W.widen (k := 24) (n := 96) (Nat.le_of_ble_eq_true rfl) (Nat.le_of_ble_eq_true rfl) ?_
        exact c_iret S hr hlk hw h dX0_check_43
  · replace h := if_t c17 h
    refine lv_ldc hx hb hown (hts _ q435) dX0_check_20 ?_
    refine W.widen (k := 24) (n := 96) (Nat.le_of_ble_eq_true rfl) (Nat.le_of_ble_eq_true rfl) ?_
    exact c_iret S hr hlk hw h dX0_check_22
theorem ctC_X0_check (l : Launch) (D : va_G) (dA : Nat → ClassId) (ad : Nat → Nat) (fv : Nat → Value) (A : Nat → Prop) (a : CS) (x1 : Int32) (Q : Int32 → CS → Prop) (h : wpC_X0_check a x1 Q) : Met l yX0_check (ws_ yX0_check cX0_check 5 (some .int)) rmC_X0_check (cPc D dA ad fv A a [.ref (ad 0), .int x1]) (cQi D dA ad fv A Q) 24 96 A :=
  c_met (by decide) rfl rfl rfl (Nat.le_of_ble_eq_true rfl) (fun p e s m below meth c ls S hr hlk hin2 hw hl => wkC_X0_check_e S hr hlk Q x1 a _ _ ls h hw hl)
/-! X0.gap -/
abbrev rmC_X0_gap : Room := { frames := 10, cells := 0, slots := 0, locals := 346 }
def bkC_X0_gap_163 (Q : Int32 → CS → Prop) (x1 : Int32) (x2 : Int32) (O82 : Int32 → Int32 → Int32 → Int32 → CS → Prop) : Int32 → Int32 → Int32 → CS → Prop := fun x3 x6 x7 a => if x1 = (1 : Int32) then (O82 x3 x7 x6 (x6 + (1 : Int32)) a) else (O82 x3 x7 (((10 : Int32) * (a.1 79 (0 : Int32).toNatClampNeg)) + (a.1 79 (1 : Int32).toNatClampNeg)) (x6 + (1 : Int32)) a)
set_option maxHeartbeats 4000000 in
set_option maxRecDepth 100000 in
theorem wkC_X0_gap_163 (S : CallFix p m c cX0_gap 8 s args lw_all RX0) (hr : meth.sig.returnType = (some .int)) (hlk : meth.locks = false) (Q : Int32 → CS → Prop) (x1 : Int32) (x2 : Int32) {O82 : Int32 → Int32 → Int32 → Int32 → CS → Prop} (hO82 : ∀ (x3 : Int32) (x4 : Int32) (x5 : Int32) (x6 : Int32) (a : CS) (H : Heap) (locs : List Loc) (ls : Array Slot), O82 x3 x4 x5 x6 a → CW D dA ad fv A a s H locs → lv_has ls 8 [(0, .ref (ad 0)), (1, .int x1), (2, .int x2), (3, .int x3), (4, .int x4), (5, .int x5), (6, .int x6)] → W p l e rmC_X0_gap s m args below meth c H locs 0 0 (MQ below (cQi D dA ad fv A Q) args s 0 0 A) (F0 m 82 ls [])) : ∀ (x3 : Int32) (x6 : Int32) (x7 : Int32) (a : CS) (H : Heap) (locs : List Loc) (ls : Array Slot), bkC_X0_gap_163 Q x1 x2 O82 x3 x6 x7 a → CW D dA ad fv A a s H locs → lv_has ls 8 [(0, .ref (ad 0)), (1, .int x1), (2, .int x2), (3, .int x3), (6, .int x6), (7, .int x7)] → W p l e rmC_X0_gap s m args below meth c H locs 0 0 (MQ below (cQi D dA ad fv A Q) args s 0 0 A) (F0 m 163 ls []) := by
  have hx := S.1
  have hb := S.2.1
  have hown := S.2.2.2.1
  have hts := S.2.2.2.2
  intro x3 x6 x7 a H locs ls h hw hl
  unfold bkC_X0_gap_163 at h
  refine lv_iload hx hb dX0_gap_163 (lv_at hl 5 rfl) ?_
  refine lv_istore (lv' := [(4, .int x7), (0, .ref (ad 0)), (1, .int x1), (2, .int x2), (3, .int x3), (6, .int x6), (7, .int x7)]) hx hb dX0_gap_165 hl (by decide) rfl (fun ls hl => ?_)
  refine lv_iload_n hx hb dX0_gap_167 rfl (lv_at hl 2 rfl) ?_
  refine lv_iconst (v := (1 : Int32)) hx hb dX0_gap_168 (by decide) ?_
  refine lv_icmp_ne (tgt := 177) hx hb dX0_gap_169 (by decide) (fun c169 => ?_) (fun c169 => ?_)
  · replace h := if_f c169 h
    refine lv_bipush (v := (10 : Int32)) hx hb dX0_gap_177 (by decide) ?_
    refine lv_aload_n hx hb dX0_gap_179 rfl (lv_at hl 1 rfl) ?_
    refine c_get S hw (n := 0) (ci := 0) (cOk.s (by decide)) (isO_K _) rfl in_X0 24 (by decide) (Or.inl q348) rfl rfl dX0_gap_180 ?_
    refine lv_iconst (v := (0 : Int32)) hx hb dX0_gap_183 (by decide) ?_
    refine c_ald S hw (n := 79) (cOk.s (by decide)) (fun _ => rfl) (vlit (by decide)) (Or.inl ⟨rfl, dX0_gap_184⟩) ?_
    refine lv_imul hx hb dX0_gap_185 ?_
    refine lv_aload_n hx hb dX0_gap_186 rfl (lv_at hl 1 rfl) ?_
    refine c_get S hw (n := 0) (ci := 0) (cOk.s (by decide)) (isO_K _) rfl in_X0 24 (by decide) (Or.inl q348) rfl rfl dX0_gap_187 ?_
    refine lv_iconst (v := (1 : Int32)) hx hb dX0_gap_190 (by decide) ?_
    refine c_ald S hw (n := 79) (cOk.s (by decide)) (fun _ => rfl) (vlit (by decide)) (Or.inl ⟨rfl, dX0_gap_191⟩) ?_
    refine lv_iadd hx hb dX0_gap_192 ?_
    refine lv_istore (lv' := [(5, .int (((10 : Int32) * (a.1 79 (0 : Int32).toNatClampNeg)) + (a.1 79 (1 : Int32).toNatClampNeg))), (4, .int x7), (0, .ref (ad 0)), (1, .int x1), (2, .int x2), (3, .int x3), (6, .int x6), (7, .int x7)]) hx hb dX0_gap_193 hl (by decide) rfl (fun ls hl => ?_)
    refine lv_iinc (v := (x6 + (1 : Int32))) (lv' := [(6, .int (x6 + (1 : Int32))), (5, .int (((10 : Int32) * (a.1 79 (0 : Int32).toNatClampNeg)) + (a.1 79 (1 : Int32).toNatClampNeg))), (4, .int x7), (0, .ref (ad 0)), (1, .int x1), (2, .int x2), (3, .int x3), (7, .int x7)]) hx hb dX0_gap_195 hl (k := 6) rfl rfl (by decide) rfl (fun ls hl => ?_)
    refine lv_goto (tgt := 82) hx hb dX0_gap_198 (by decide) ?_
    exact hO82 _ _ _ _ _ _ _ _ h hw (lv_sub hl [3, 4, 5, 6, 2, 1, 0] rfl)
  · replace h := if_t c169 h
    refine lv_iload hx hb dX0_gap_172 (lv_at hl 5 rfl) ?_
    refine lv_goto (tgt := 193) hx hb dX0_gap_174 (by decide) ?_
    refine lv_istore (lv' := [(5, .int x6), (4, .int x7), (0, .ref (ad 0)), (1, .int x1), (2, .int x2), (3, .int x3), (6, .int x6), (7, .int x7)]) hx hb dX0_gap_193 hl (by decide) rfl (fun ls hl => ?_)
    refine lv_iinc (v := (x6 + (1 : Int32))) (lv' := [(6, .int (x6 + (1 : Int32))), (5, .int x6), (4, .int x7), (0, .ref (ad 0)), (1, .int x1), (2, .int x2), (3, .int x3), (7, .int x7)]) hx hb dX0_gap_195 hl (k := 6) rfl rfl (by decide) rfl (fun ls hl => ?_)
    refine lv_goto (tgt := 82) hx hb dX0_gap_198 (by decide) ?_
    exact hO82 _ _ _ _ _ _ _ _ h hw (lv_sub hl [3, 4, 5, 6, 2, 1, 0] rfl)
def bkC_X0_gap_113 (Q : Int32 → CS → Prop) (x1 : Int32) (x2 : Int32) (O82 : Int32 → Int32 → Int32 → Int32 → CS → Prop) : Int32 → Int32 → Int32 → Int32 → Int32 → Int32 → CS → Prop := fun x3 x4 x5 x6 s1 s2 a => (vp_in s1 3) ∧ (∀ a113 : CS, a113 = wI a 79 s1.toNatClampNeg s2 → ((¬ (a113.1 1 1) = 0) ∧ (∀ a129 : CS, a129 = wI a113 79 (1 : Int32).toNatClampNeg (irm x6 (a113.1 1 1)) → (wpC_X0_thought a129 79 x1 (fun r136 a136 => wpC_X0_leastOf a136 79 x1 (fun r145 a145 => if x6 = 0 then (bkC_X0_gap_163 Q x1 x2 O82 x3 x6 (r136 - r145) a145) else (if (r136 - r145) ≤ x4 then (O82 x3 x4 x5 (x6 + (1 : Int32)) a145) else (bkC_X0_gap_163 Q x1 x2 O82 x3 x6 (r136 - r145) a145))))))))
set_option maxHeartbeats 4000000 in
set_option maxRecDepth 100000 in
theorem wkC_X0_gap_113 (S : CallFix p m c cX0_gap 8 s args lw_all RX0) (hr : meth.sig.returnType = (some .int)) (hlk : meth.locks = false) (Q : Int32 → CS → Prop) (x1 : Int32) (x2 : Int32) {O82 : Int32 → Int32 → Int32 → Int32 → CS → Prop} (hO82 : ∀ (x3 : Int32) (x4 : Int32) (x5 : Int32) (x6 : Int32) (a : CS) (H : Heap) (locs : List Loc) (ls : Array Slot), O82 x3 x4 x5 x6 a → CW D dA ad fv A a s H locs → lv_has ls 8 [(0, .ref (ad 0)), (1, .int x1), (2, .int x2), (3, .int x3), (4, .int x4), (5, .int x5), (6, .int x6)] → W p l e rmC_X0_gap s m args below meth c H locs 0 0 (MQ below (cQi D dA ad fv A Q) args s 0 0 A) (F0 m 82 ls [])) : ∀ (x3 : Int32) (x4 : Int32) (x5 : Int32) (x6 : Int32) (s1 : Int32) (s2 : Int32) (a : CS) (H : Heap) (locs : List Loc) (ls : Array Slot), bkC_X0_gap_113 Q x1 x2 O82 x3 x4 x5 x6 s1 s2 a → CW D dA ad fv A a s H locs → lv_has ls 8 [(0, .ref (ad 0)), (1, .int x1), (2, .int x2), (3, .int x3), (4, .int x4), (5, .int x5), (6, .int x6)] → W p l e rmC_X0_gap s m args below meth c H locs 0 0 (MQ below (cQi D dA ad fv A Q) args s 0 0 A) (F0 m 113 ls [.int s2, .int s1, .ref (ad 79)]) := by
  have hx := S.1
  have hb := S.2.1
  have hown := S.2.2.2.1
  have hts := S.2.2.2.2
  intro x3 x4 x5 x6 s1 s2 a H locs ls h hw hl
  unfold bkC_X0_gap_113 at h
  have hi113 := h.1
  replace h := h.2
  refine c_ast S hw (n := 79) (by decide) (cOk.s (by decide)) (fun _ => rfl) hi113 (Or.inl ⟨rfl, rfl, dX0_gap_113⟩) (fun a113 H locs ea113 hw => ?_)
  replace h := h a113 ea113
  refine lv_aload_n hx hb dX0_gap_114 rfl (lv_at hl 0 rfl) ?_
  refine c_get S hw (n := 0) (ci := 0) (cOk.s (by decide)) (isO_K _) rfl in_X0 24 (by decide) (Or.inl q348) rfl rfl dX0_gap_115 ?_
  refine lv_iconst (v := (1 : Int32)) hx hb dX0_gap_118 (by decide) ?_
  refine lv_iload hx hb dX0_gap_119 (lv_at hl 6 rfl) ?_
  refine lv_aload_n hx hb dX0_gap_121 rfl (lv_at hl 0 rfl) ?_
  refine c_get S hw (n := 0) (ci := 0) (cOk.s (by decide)) (isO_K _) rfl in_X0 0 (by decide) (Or.inl q324) rfl rfl dX0_gap_122 ?_
  refine c_get S hw (n := 1) (cOk.s (by decide)) ((isO_S (by decide) (by decide)) _) rfl in_X1 1 (by decide) (Or.inr (List.mem_of_getElem? (i := 12) rfl)) rfl rfl dX0_gap_125 ?_
  have hz128 := h.1
  replace h := h.2
  refine lv_irem hx hb dX0_gap_128 hz128 ?_
  refine c_ast S hw (n := 79) (by decide) (cOk.s (by decide)) (fun _ => rfl) (vlit (by decide)) (Or.inl ⟨rfl, rfl, dX0_gap_129⟩) (fun a129 H locs ea129 hw => ?_)
  replace h := h a129 ea129
  refine lv_aload_n hx hb dX0_gap_130 rfl (lv_at hl 0 rfl) ?_
  refine lv_aload_n hx hb dX0_gap_131 rfl (lv_at hl 0 rfl) ?_
  refine c_get S hw (n := 0) (ci := 0) (cOk.s (by decide)) (isO_K _) rfl in_X0 24 (by decide) (Or.inl q348) rfl rfl dX0_gap_132 ?_
  refine lv_iload_n hx hb dX0_gap_135 rfl (lv_at hl 1 rfl) ?_
  refine c_calli hw (va_runV (As := [.ref (ad 79), .int x1]) (rest := []) S (ctC_X0_thought l D dA ad fv A a129 79 x1 _ h) (cwC_X0_X0_thought hts ⟨Nat.le_of_ble_eq_true rfl, Nat.le_of_ble_eq_true rfl⟩) (c_preV hw (n := 0) (cOk.s (by decide)) (isO_K _) rfl) rfl rfl hl.1 rfl (lv_room (Nat.le_of_ble_eq_true rfl)) dX0_gap_136 ⟨Nat.le_of_ble_eq_true rfl, Nat.le_of_ble_eq_true rfl⟩) (fun r136 a136 H locs h hw => ?_)
  refine lv_aload_n hx hb dX0_gap_139 rfl (lv_at hl 0 rfl) ?_
  refine lv_aload_n hx hb dX0_gap_140 rfl (lv_at hl 0 rfl) ?_
  refine c_get S hw (n := 0) (ci := 0) (cOk.s (by decide)) (isO_K _) rfl in_X0 24 (by decide) (Or.inl q348) rfl rfl dX0_gap_141 ?_
  refine lv_iload_n hx hb dX0_gap_144 rfl (lv_at hl 1 rfl) ?_
  refine c_calli hw (va_runV (As := [.ref (ad 79), .int x1]) (rest := [.int r136]) S (ctC_X0_leastOf l D dA ad fv A a136 79 x1 _ h) (cwC_X0_X0_leastOf hts ⟨Nat.le_of_ble_eq_true rfl, Nat.le_of_ble_eq_true rfl⟩) (c_preV hw (n := 0) (cOk.s (by decide)) (isO_K _) rfl) rfl rfl hl.1 rfl (lv_room (Nat.le_of_ble_eq_true rfl)) dX0_gap_145 ⟨Nat.le_of_ble_eq_true rfl, Nat.le_of_ble_eq_true rfl⟩) (fun r145 a145 H locs h hw => ?_)
  refine lv_isub hx hb dX0_gap_148 ?_
  refine lv_istore (lv' := [(7, .int (r136 - r145)), (0, .ref (ad 0)), (1, .int x1), (2, .int x2), (3, .int x3), (4, .int x4), (5, .int x5), (6, .int x6)]) hx hb dX0_gap_149 hl (by decide) rfl (fun ls hl => ?_)
  refine lv_iload hx hb dX0_gap_151 (lv_at hl 7 rfl) ?_
  refine lv_if_eq (tgt := 163) hx hb dX0_gap_153 (by decide) (fun c153 => ?_) (fun c153 => ?_)
  · replace h := if_t c153 h
    exact wkC_X0_gap_163 S hr hlk Q x1 x2 hO82 _ _ _ _ _ _ _ h hw (lv_sub hl [1, 2, 3, 4, 7, 0] rfl)
  · replace h := if_f c153 h
    refine lv_iload hx hb dX0_gap_156 (lv_at hl 0 rfl) ?_
    refine lv_iload hx hb dX0_gap_158 (lv_at hl 5 rfl) ?_
    refine lv_icmp_le (tgt := 195) hx hb dX0_gap_160 (by decide) (fun c160 => ?_) (fun c160 => ?_)
    · replace h := if_t c160 h
      refine lv_iinc (v := (x6 + (1 : Int32))) (lv' := [(6, .int (x6 + (1 : Int32))), (7, .int (r136 - r145)), (0, .ref (ad 0)), (1, .int x1), (2, .int x2), (3, .int x3), (4, .int x4), (5, .int x5)]) hx hb dX0_gap_195 hl (k := 7) rfl rfl (by decide) rfl (fun ls hl => ?_)
      refine lv_goto (tgt := 82) hx hb dX0_gap_198 (by decide) ?_
      exact hO82 _ _ _ _ _ _ _ _ h hw (lv_sub hl [2, 3, 4, 5, 6, 7, 0] rfl)
    · replace h := if_f c160 h
      exact wkC_X0_gap_163 S hr hlk Q x1 x2 hO82 _ _ _ _ _ _ _ h hw (lv_sub hl [1, 2, 3, 4, 7, 0] rfl)
def bkC_X0_gap_82 (Q : Int32 → CS → Prop) (x1 : Int32) (x2 : Int32) : Nat → Int32 → Int32 → Int32 → Int32 → CS → Prop
  | 0 => fun _ _ _ _ _ => False
  | n + 1 => fun x3 x4 x5 x6 a => if x3 ≤ x6 then (if x2 = 0 then (Q x4 a) else (Q x5 a)) else (if x1 = (1 : Int32) then (bkC_X0_gap_113 Q x1 x2 (bkC_X0_gap_82 Q x1 x2 n) x3 x4 x5 x6 (0 : Int32) x6 a) else ((¬ (a.1 1 1) = 0) ∧ (bkC_X0_gap_113 Q x1 x2 (bkC_X0_gap_82 Q x1 x2 n) x3 x4 x5 x6 (0 : Int32) (x6 / (a.1 1 1)) a)))
set_option maxHeartbeats 4000000 in
set_option maxRecDepth 100000 in
theorem wkC_X0_gap_82 (S : CallFix p m c cX0_gap 8 s args lw_all RX0) (hr : meth.sig.returnType = (some .int)) (hlk : meth.locks = false) (Q : Int32 → CS → Prop) (x1 : Int32) (x2 : Int32) : ∀ (n : Nat) (x3 : Int32) (x4 : Int32) (x5 : Int32) (x6 : Int32) (a : CS) (H : Heap) (locs : List Loc) (ls : Array Slot), bkC_X0_gap_82 Q x1 x2 n x3 x4 x5 x6 a → CW D dA ad fv A a s H locs → lv_has ls 8 [(0, .ref (ad 0)), (1, .int x1), (2, .int x2), (3, .int x3), (4, .int x4), (5, .int x5), (6, .int x6)] → W p l e rmC_X0_gap s m args below meth c H locs 0 0 (MQ below (cQi D dA ad fv A Q) args s 0 0 A) (F0 m 82 ls []) := by
  have hx := S.1
  have hb := S.2.1
  have hown := S.2.2.2.1
  have hts := S.2.2.2.2
  intro n
  induction n with
  | zero =>
    intro x3 x4 x5 x6 a H locs ls h
    exact False.elim h
  | succ n ih =>
    intro x3 x4 x5 x6 a H locs ls h hw hl
    unfold bkC_X0_gap_82 at h
    refine lv_iload hx hb dX0_gap_82 (lv_at hl 6 rfl) ?_
    refine lv_iload_n hx hb dX0_gap_84 rfl (lv_at hl 3 rfl) ?_
    refine lv_icmp_ge (tgt := 201) hx hb dX0_gap_85 (by decide) (fun c85 => ?_) (fun c85 => ?_)
    · replace h := if_t c85 h
      refine lv_iload_n hx hb dX0_gap_201 rfl (lv_at hl 2 rfl) ?_
      refine lv_if_ne (tgt := 210) hx hb dX0_gap_202 (by decide) (fun c202 => ?_) (fun c202 => ?_)
      · replace h := if_f c202 h
        refine lv_iload hx hb dX0_gap_210 (lv_at hl 5 rfl) ?_
        exact c_iret S hr hlk hw h dX0_gap_212
      · replace h := if_t c202 h
        refine lv_iload hx hb dX0_gap_205 (lv_at hl 4 rfl) ?_
        refine lv_goto (tgt := 212) hx hb dX0_gap_207 (by decide) ?_
        exact c_iret S hr hlk hw h dX0_gap_212
    · replace h := if_f c85 h
      refine lv_aload_n hx hb dX0_gap_88 rfl (lv_at hl 0 rfl) ?_
      refine c_get S hw (n := 0) (ci := 0) (cOk.s (by decide)) (isO_K _) rfl in_X0 24 (by decide) (Or.inl q348) rfl rfl dX0_gap_89 ?_
      refine lv_iconst (v := (0 : Int32)) hx hb dX0_gap_92 (by decide) ?_
      refine lv_iload_n hx hb dX0_gap_93 rfl (lv_at hl 1 rfl) ?_
      refine lv_iconst (v := (1 : Int32)) hx hb dX0_gap_94 (by decide) ?_
      refine lv_icmp_ne (tgt := 103) hx hb dX0_gap_95 (by decide) (fun c95 => ?_) (fun c95 => ?_)
      · replace h := if_f c95 h
        refine lv_iload hx hb dX0_gap_103 (lv_at hl 6 rfl) ?_
        refine lv_aload_n hx hb dX0_gap_105 rfl (lv_at hl 0 rfl) ?_
        refine c_get S hw (n := 0) (ci := 0) (cOk.s (by decide)) (isO_K _) rfl in_X0 0 (by decide) (Or.inl q324) rfl rfl dX0_gap_106 ?_
        refine c_get S hw (n := 1) (cOk.s (by decide)) ((isO_S (by decide) (by decide)) _) rfl in_X1 1 (by decide) (Or.inr (List.mem_of_getElem? (i := 12) rfl)) rfl rfl dX0_gap_109 ?_
        have hz112 := h.1
        replace h := h.2
        refine lv_idiv hx hb dX0_gap_112 hz112 ?_
        exact wkC_X0_gap_113 S hr hlk Q x1 x2 ih _ _ _ _ _ _ _ _ _ _ h hw (lv_sub hl [0, 1, 2, 3, 4, 5, 6] rfl)
      · replace h := if_t c95 h
        refine lv_iload hx hb dX0_gap_98 (lv_at hl 6 rfl) ?_
        refine lv_goto (tgt := 113) hx hb dX0_gap_100 (by decide) ?_
        exact wkC_X0_gap_113 S hr hlk Q x1 x2 ih _ _ _ _ _ _ _ _ _ _ h hw (lv_sub hl [0, 1, 2, 3, 4, 5, 6] rfl)
def bkC_X0_gap_72 (Q : Int32 → CS → Prop) (x1 : Int32) (x2 : Int32) : Int32 → CS → Prop := fun s0 a => ∃ n82, bkC_X0_gap_82 Q x1 x2 n82 s0 (0 : Int32) (0 : Int32) (0 : Int32) a
set_option maxHeartbeats 4000000 in
set_option maxRecDepth 100000 in
theorem wkC_X0_gap_72 (S : CallFix p m c cX0_gap 8 s args lw_all RX0) (hr : meth.sig.returnType = (some .int)) (hlk : meth.locks = false) (Q : Int32 → CS → Prop) (x1 : Int32) (x2 : Int32) : ∀ (s0 : Int32) (a : CS) (H : Heap) (locs : List Loc) (ls : Array Slot), bkC_X0_gap_72 Q x1 x2 s0 a → CW D dA ad fv A a s H locs → lv_has ls 8 [(0, .ref (ad 0)), (1, .int x1), (2, .int x2)] → W p l e rmC_X0_gap s m args below meth c H locs 0 0 (MQ below (cQi D dA ad fv A Q) args s 0 0 A) (F0 m 72 ls [.int s0]) := by
  have hx := S.1
  have hb := S.2.1
  have hown := S.2.2.2.1
  have hts := S.2.2.2.2
  intro s0 a H locs ls h hw hl
  unfold bkC_X0_gap_72 at h
  refine lv_istore_n (lv' := [(3, .int s0), (0, .ref (ad 0)), (1, .int x1), (2, .int x2)]) hx hb dX0_gap_72 rfl hl (by decide) rfl (fun ls hl => ?_)
  refine lv_iconst (v := (0 : Int32)) hx hb dX0_gap_73 (by decide) ?_
  refine lv_istore (lv' := [(4, .int (0 : Int32)), (3, .int s0), (0, .ref (ad 0)), (1, .int x1), (2, .int x2)]) hx hb dX0_gap_74 hl (by decide) rfl (fun ls hl => ?_)
  refine lv_iconst (v := (0 : Int32)) hx hb dX0_gap_76 (by decide) ?_
  refine lv_istore (lv' := [(5, .int (0 : Int32)), (4, .int (0 : Int32)), (3, .int s0), (0, .ref (ad 0)), (1, .int x1), (2, .int x2)]) hx hb dX0_gap_77 hl (by decide) rfl (fun ls hl => ?_)
  refine lv_iconst (v := (0 : Int32)) hx hb dX0_gap_79 (by decide) ?_
  refine lv_istore (lv' := [(6, .int (0 : Int32)), (5, .int (0 : Int32)), (4, .int (0 : Int32)), (3, .int s0), (0, .ref (ad 0)), (1, .int x1), (2, .int x2)]) hx hb dX0_gap_80 hl (by decide) rfl (fun ls hl => ?_)
  obtain ⟨n82, h⟩ := h
  exact wkC_X0_gap_82 S hr hlk Q x1 x2 n82 _ _ _ _ _ _ _ _ h hw (lv_sub hl [4, 5, 6, 3, 2, 1, 0] rfl)
def wpC_X0_gap (a : CS) (x1 : Int32) (x2 : Int32) (Q : Int32 → CS → Prop) : Prop := wpC_X0_isIn a x1 (1 : Int32) (2 : Int32) (fun r3 a3 => if r3 = 0 then (Q (-1000000001 : Int32) a3) else (wpC_X0_isIn a3 x2 (0 : Int32) (1 : Int32) (fun r12 a12 => if r12 = 0 then (Q (-1000000001 : Int32) a12) else (if (a12.1 1 1) = 0 then (Q (-1000000005 : Int32) a12) else (wpC_X0_learns a12 (fun a35 => wpC_X0_findFits a35 (fun a39 => if x1 = (1 : Int32) then (bkC_X0_gap_72 Q x1 x2 (a39.1 1 1) a39) else (bkC_X0_gap_72 Q x1 x2 ((a39.1 1 1) * (a39.1 1 1)) a39))))))))
set_option maxHeartbeats 4000000 in
set_option maxRecDepth 100000 in
theorem wkC_X0_gap_e (S : CallFix p m c cX0_gap 8 s args lw_all RX0) (hr : meth.sig.returnType = (some .int)) (hlk : meth.locks = false) (Q : Int32 → CS → Prop) (x1 : Int32) (x2 : Int32) (a : CS) (H : Heap) (locs : List Loc) (ls : Array Slot) (h : wpC_X0_gap a x1 x2 Q) (hw : CW D dA ad fv A a s H locs) (hl : lv_has ls 8 [(0, .ref (ad 0)), (1, .int x1), (2, .int x2)]) : W p l e rmC_X0_gap s m args below meth c H locs 0 0 (MQ below (cQi D dA ad fv A Q) args s 0 0 A) (F0 m 0 ls []) := by
  have hx := S.1
  have hb := S.2.1
  have hown := S.2.2.2.1
  have hts := S.2.2.2.2
  unfold wpC_X0_gap at h
  refine lv_iload_n hx hb dX0_gap_0 rfl (lv_at hl 1 rfl) ?_
  refine lv_iconst (v := (1 : Int32)) hx hb dX0_gap_1 (by decide) ?_
  refine lv_iconst (v := (2 : Int32)) hx hb dX0_gap_2 (by decide) ?_
  refine c_calli hw (va_runS (As := [.int x1, .int (1 : Int32), .int (2 : Int32)]) (rest := []) S (ctC_X0_isIn l D dA ad fv A a x1 (1 : Int32) (2 : Int32) _ h) (cwC_X0_X0_isIn hts ⟨Nat.le_of_ble_eq_true rfl, Nat.le_of_ble_eq_true rfl⟩) (c_preS hw) rfl rfl hl.1 rfl (lv_room (Nat.le_of_ble_eq_true rfl)) dX0_gap_3 ⟨Nat.le_of_ble_eq_true rfl, Nat.le_of_ble_eq_true rfl⟩) (fun r3 a3 H locs h hw => ?_)
  refine lv_if_eq (tgt := 18) hx hb dX0_gap_6 (by decide) (fun c6 => ?_) (fun c6 => ?_)
  · replace h := if_t c6 h
    refine lv_ldc hx hb hown (hts _ q435) dX0_gap_18 ?_
    exact c_iret S hr hlk hw h dX0_gap_20
  · replace h := if_f c6 h
    refine lv_iload_n hx hb dX0_gap_9 rfl (lv_at hl 2 rfl) ?_
    refine lv_iconst (v := (0 : Int32)) hx hb dX0_gap_10 (by decide) ?_
    refine lv_iconst (v := (1 : Int32)) hx hb dX0_gap_11 (by decide) ?_
    refine c_calli hw (va_runS (As := [.int x2, .int (0 : Int32), .int (1 : Int32)]) (rest := []) S (ctC_X0_isIn l D dA ad fv A a3 x2 (0 : Int32) (1 : Int32) _ h) (cwC_X0_X0_isIn hts ⟨Nat.le_of_ble_eq_true rfl, Nat.le_of_ble_eq_true rfl⟩) (c_preS hw) rfl rfl hl.1 rfl (lv_room (Nat.le_of_ble_eq_true rfl)) dX0_gap_12 ⟨Nat.le_of_ble_eq_true rfl, Nat.le_of_ble_eq_true rfl⟩) (fun r12 a12 H locs h hw => ?_)
    refine lv_if_ne (tgt := 21) hx hb dX0_gap_15 (by decide) (fun c15 => ?_) (fun c15 => ?_)
    · replace h := if_f c15 h
      refine lv_aload_n hx hb dX0_gap_21 rfl (lv_at hl 0 rfl) ?_
      refine c_get S hw (n := 0) (ci := 0) (cOk.s (by decide)) (isO_K _) rfl in_X0 0 (by decide) (Or.inl q324) rfl rfl dX0_gap_22 ?_
      refine c_get S hw (n := 1) (cOk.s (by decide)) ((isO_S (by decide) (by decide)) _) rfl in_X1 1 (by decide) (Or.inr (List.mem_of_getElem? (i := 12) rfl)) rfl rfl dX0_gap_25 ?_
      refine lv_if_ne (tgt := 34) hx hb dX0_gap_28 (by decide) (fun c28 => ?_) (fun c28 => ?_)
      · replace h := if_f c28 h
        refine lv_aload_n hx hb dX0_gap_34 rfl (lv_at hl 0 rfl) ?_
        refine c_callv hw (va_runV (As := []) (rest := []) S (ctC_X0_learns l D dA ad fv A a12 _ h) (cwC_X0_X0_learns hts ⟨Nat.le_of_ble_eq_true rfl, Nat.le_of_ble_eq_true rfl⟩) (c_preV hw (n := 0) (cOk.s (by decide)) (isO_K _) rfl) rfl rfl hl.1 rfl (lv_room (Nat.le_of_ble_eq_true rfl)) dX0_gap_35 ⟨Nat.le_of_ble_eq_true rfl, Nat.le_of_ble_eq_true rfl⟩) (fun a35 H locs h hw => ?_)
        refine lv_aload_n hx hb dX0_gap_38 rfl (lv_at hl 0 rfl) ?_
        refine c_callv hw (va_runV (As := []) (rest := []) S (ctC_X0_findFits l D dA ad fv A a35 _ h) (cwC_X0_X0_findFits hts ⟨Nat.le_of_ble_eq_true rfl, Nat.le_of_ble_eq_true rfl⟩) (c_preV hw (n := 0) (cOk.s (by decide)) (isO_K _) rfl) rfl rfl hl.1 rfl (lv_room (Nat.le_of_ble_eq_true rfl)) dX0_gap_39 ⟨Nat.le_of_ble_eq_true rfl, Nat.le_of_ble_eq_true rfl⟩) (fun a39 H locs h hw => ?_)
        refine lv_iload_n hx hb dX0_gap_42 rfl (lv_at hl 1 rfl) ?_
        refine lv_iconst (v := (1 : Int32)) hx hb dX0_gap_43 (by decide) ?_
        refine lv_icmp_ne (tgt := 57) hx hb dX0_gap_44 (by decide) (fun c44 => ?_) (fun c44 => ?_)
        · replace h := if_f c44 h
          refine lv_aload_n hx hb dX0_gap_57 rfl (lv_at hl 0 rfl) ?_
          refine c_get S hw (n := 0) (ci := 0) (cOk.s (by decide)) (isO_K _) rfl in_X0 0 (by decide) (Or.inl q324) rfl rfl dX0_gap_58 ?_
          refine c_get S hw (n := 1) (cOk.s (by decide)) ((isO_S (by decide) (by decide)) _) rfl in_X1 1 (by decide) (Or.inr (List.mem_of_getElem? (i := 12) rfl)) rfl rfl dX0_gap_61 ?_
          refine lv_aload_n hx hb dX0_gap_64 rfl (lv_at hl 0 rfl) ?_
          refine c_get S hw (n := 0) (ci := 0) (cOk.s (by decide)) (isO_K _) rfl in_X0 0 (by decide) (Or.inl q324) rfl rfl dX0_gap_65 ?_
          refine c_get S hw (n := 1) (cOk.s (by decide)) ((isO_S (by decide) (by decide)) _) rfl in_X1 1 (by decide) (Or.inr (List.mem_of_getElem? (i := 12) rfl)) rfl rfl dX0_gap_68 ?_
          refine lv_imul hx hb dX0_gap_71 ?_
          exact wkC_X0_gap_72 S hr hlk Q x1 x2 _ _ _ _ _ h hw (lv_sub hl [0, 1, 2] rfl)
        · replace h := if_t c44 h
          refine lv_aload_n hx hb dX0_gap_47 rfl (lv_at hl 0 rfl) ?_
          refine c_get S hw (n := 0) (ci := 0) (cOk.s (by decide)) (isO_K _) rfl in_X0 0 (by decide) (Or.inl q324) rfl rfl dX0_gap_48 ?_
          refine c_get S hw (n := 1) (cOk.s (by decide)) ((isO_S (by decide) (by decide)) _) rfl in_X1 1 (by decide) (Or.inr (List.mem_of_getElem? (i := 12) rfl)) rfl rfl dX0_gap_51 ?_
          refine lv_goto (tgt := 72) hx hb dX0_gap_54 (by decide) ?_
          exact wkC_X0_gap_72 S hr hlk Q x1 x2 _ _ _ _ _ h hw (lv_sub hl [0, 1, 2] rfl)
      · replace h := if_t c28 h
        refine lv_ldc hx hb hown (hts _ q614) dX0_gap_31 ?_
        exact c_iret S hr hlk hw h dX0_gap_33
    · replace h := if_t c15 h
      refine lv_ldc hx hb hown (hts _ q435) dX0_gap_18 ?_
      exact c_iret S hr hlk hw h dX0_gap_20
theorem ctC_X0_gap (l : Launch) (D : va_G) (dA : Nat → ClassId) (ad : Nat → Nat) (fv : Nat → Value) (A : Nat → Prop) (a : CS) (x1 : Int32) (x2 : Int32) (Q : Int32 → CS → Prop) (h : wpC_X0_gap a x1 x2 Q) : Met l yX0_gap (ws_ yX0_gap cX0_gap 8 (some .int)) rmC_X0_gap (cPc D dA ad fv A a [.ref (ad 0), .int x1, .int x2]) (cQi D dA ad fv A Q) 0 0 A :=
  c_met (by decide) rfl rfl rfl (Nat.le_of_ble_eq_true rfl) (fun p e s m below meth c ls S hr hlk hin2 hw hl => wkC_X0_gap_e S hr hlk Q x1 x2 a _ _ ls h hw hl)
end CWalk

section CWalk
variable {p : Program} {l : Launch} {e : Env} {s : State} {m : MethodId} {args : Array Value} {below : List Frame} {meth : Method} {c : Code} {D : va_G} {dA : Nat → ClassId} {ad : Nat → Nat} {fv : Nat → Value} {A : Nat → Prop}
/-! X4.isThere -/
abbrev rmC_X4_isThere : Room := { frames := 0, cells := 0, slots := 0, locals := 0 }
def wpC_X4_isThere (a : CS) (n0 : Nat) (Q : Int32 → CS → Prop) : Prop := (shK a n0) ∧ (if (a.2.1 n0 0) = 0 then (Q (0 : Int32) a) else (Q (1 : Int32) a))
set_option maxHeartbeats 4000000 in
set_option maxRecDepth 100000 in
theorem wkC_X4_isThere_e (S : CallFix p m c cX4_isThere 1 s args lw_all RX4) (hr : meth.sig.returnType = (some .boolean)) (hlk : meth.locks = false) (Q : Int32 → CS → Prop) (n0 : Nat) (a : CS) (H : Heap) (locs : List Loc) (ls : Array Slot) (h : wpC_X4_isThere a n0 Q) (hw : CW D dA ad fv A a s H locs) (hl : lv_has ls 1 [(0, .ref (ad n0))]) : W p l e rmC_X4_isThere s m args below meth c H locs 0 0 (MQ below (cQi D dA ad fv A Q) args s 0 0 A) (F0 m 0 ls []) := by
  have hx := S.1
  have hb := S.2.1
  have hown := S.2.2.2.1
  have hts := S.2.2.2.2
  unfold wpC_X4_isThere at h
  refine lv_aload_n hx hb dX4_isThere_0 rfl (lv_at hl 0 rfl) ?_
  have hk1_0 := h.1
  replace h := h.2
  by_cases c1 : (a.2.1 n0 0) = 0
  · replace h := if_t c1 h
    refine c_getn S hw (n := n0) (x := (a.2.1 n0 0)) hk1_0.ok (hk1_0.isO _) rfl in_X4 0 (by decide) (Or.inl q306) rfl rfl c1 dX4_isThere_1 ?_
    refine lv_ifnullN (tgt := 11) hx hb dX4_isThere_4 (by decide) ?_
    refine lv_iconst (v := (0 : Int32)) hx hb dX4_isThere_11 (by decide) ?_
    exact c_zret S hr hlk hw (Or.inl rfl) h dX4_isThere_12
  replace h := if_f c1 h
  refine c_getr S hw (n := n0) (x := (a.2.1 n0 0)) hk1_0.ok (hk1_0.isO _) rfl in_X4 0 (by decide) (Or.inl q306) rfl rfl c1 dX4_isThere_1 ?_
  refine lv_ifnull hx hb dX4_isThere_4 ?_
  refine lv_iconst (v := (1 : Int32)) hx hb dX4_isThere_7 (by decide) ?_
  refine lv_goto (tgt := 12) hx hb dX4_isThere_8 (by decide) ?_
  exact c_zret S hr hlk hw (Or.inr rfl) h dX4_isThere_12
theorem ctC_X4_isThere (l : Launch) (D : va_G) (dA : Nat → ClassId) (ad : Nat → Nat) (fv : Nat → Value) (A : Nat → Prop) (a : CS) (n0 : Nat) (Q : Int32 → CS → Prop) (h : wpC_X4_isThere a n0 Q) : Met l yX4_isThere (ws_ yX4_isThere cX4_isThere 1 (some .boolean)) rmC_X4_isThere (cPc D dA ad fv A a [.ref (ad n0)]) (cQi D dA ad fv A Q) 0 0 A :=
  c_met (by decide) rfl rfl rfl (Nat.le_of_ble_eq_true rfl) (fun p e s m below meth c ls S hr hlk hin2 hw hl => wkC_X4_isThere_e S hr hlk Q n0 a _ _ ls h hw hl)
theorem cwC_X0_X4_isThere {R : Room} {s : State} {args : Array Value} {rm : Room} (hts : ∀ w ∈ lw_all, w.before args s = true) (hR : rm.frames + 1 ≤ R.frames ∧ 8 + (1 + 11) + rm.locals ≤ R.locals) (hc : rm.cells = 0 := by rfl) (hs : rm.slots = 0 := by rfl) : CallW R s args RX0 RX4 514 yX4_isThere cX4_isThere 1 (some .boolean) (ws_ yX4_isThere cX4_isThere 1 (some .boolean)) rm 0 0 0 :=
  cwV 0 hts (lw_V q1126 q1127 q1128 q110 q1129) rfl hc hs (by decide +kernel) hR
/-! X4.isFloats -/
abbrev rmC_X4_isFloats : Room := { frames := 0, cells := 0, slots := 0, locals := 0 }
def wpC_X4_isFloats (a : CS) (n0 : Nat) (Q : Int32 → CS → Prop) : Prop := (shK a n0) ∧ ((objK a (a.2.1 n0 0)) ∧ (zok (ansF (a.2.2.1 (a.2.1 n0 0)).1) ∧ Q (ansF (a.2.2.1 (a.2.1 n0 0)).1) a))
set_option maxHeartbeats 4000000 in
set_option maxRecDepth 100000 in
theorem wkC_X4_isFloats_e (S : CallFix p m c cX4_isFloats 1 s args lw_all RX4) (hr : meth.sig.returnType = (some .boolean)) (hlk : meth.locks = false) (Q : Int32 → CS → Prop) (n0 : Nat) (a : CS) (H : Heap) (locs : List Loc) (ls : Array Slot) (h : wpC_X4_isFloats a n0 Q) (hw : CW D dA ad fv A a s H locs) (hl : lv_has ls 1 [(0, .ref (ad n0))]) : W p l e rmC_X4_isFloats s m args below meth c H locs 0 0 (MQ below (cQi D dA ad fv A Q) args s 0 0 A) (F0 m 0 ls []) := by
  have hx := S.1
  have hb := S.2.1
  have hown := S.2.2.2.1
  have hts := S.2.2.2.2
  unfold wpC_X4_isFloats at h
  refine lv_aload_n hx hb dX4_isFloats_0 rfl (lv_at hl 0 rfl) ?_
  have hk1_0 := h.1
  replace h := h.2
  have hk1_1 := h.1
  replace h := h.2
  refine c_getr S hw (n := n0) (x := (a.2.1 n0 0)) hk1_0.ok (hk1_0.isO _) rfl in_X4 0 (by decide) (Or.inl q306) rfl rfl hk1_1.ne dX4_isFloats_1 ?_
  refine c_inst S hw hk1_1 (v := (ansF (a.2.2.1 (a.2.1 n0 0)).1)) q1139 (instF hk1_1) dX4_isFloats_4 ?_
  exact c_zret S hr hlk hw h.1 h.2 dX4_isFloats_7
theorem ctC_X4_isFloats (l : Launch) (D : va_G) (dA : Nat → ClassId) (ad : Nat → Nat) (fv : Nat → Value) (A : Nat → Prop) (a : CS) (n0 : Nat) (Q : Int32 → CS → Prop) (h : wpC_X4_isFloats a n0 Q) : Met l yX4_isFloats (ws_ yX4_isFloats cX4_isFloats 1 (some .boolean)) rmC_X4_isFloats (cPc D dA ad fv A a [.ref (ad n0)]) (cQi D dA ad fv A Q) 0 0 A :=
  c_met (by decide) rfl rfl rfl (Nat.le_of_ble_eq_true rfl) (fun p e s m below meth c ls S hr hlk hin2 hw hl => wkC_X4_isFloats_e S hr hlk Q n0 a _ _ ls h hw hl)
theorem cwC_X0_X4_isFloats {R : Room} {s : State} {args : Array Value} {rm : Room} (hts : ∀ w ∈ lw_all, w.before args s = true) (hR : rm.frames + 1 ≤ R.frames ∧ 8 + (1 + 11) + rm.locals ≤ R.locals) (hc : rm.cells = 0 := by rfl) (hs : rm.slots = 0 := by rfl) : CallW R s args RX0 RX4 501 yX4_isFloats cX4_isFloats 1 (some .boolean) (ws_ yX4_isFloats cX4_isFloats 1 (some .boolean)) rm 0 0 0 :=
  cwV 0 hts (lw_V q1144 q1136 q1137 q110 q1138) rfl hc hs (by decide +kernel) hR
theorem cwC_X4_X4_isFloats {R : Room} {s : State} {args : Array Value} {rm : Room} (hts : ∀ w ∈ lw_all, w.before args s = true) (hR : rm.frames + 1 ≤ R.frames ∧ 8 + (1 + 11) + rm.locals ≤ R.locals) (hc : rm.cells = 0 := by rfl) (hs : rm.slots = 0 := by rfl) : CallW R s args RX4 RX4 15 yX4_isFloats cX4_isFloats 1 (some .boolean) (ws_ yX4_isFloats cX4_isFloats 1 (some .boolean)) rm 0 0 0 :=
  cwV 0 hts (lw_V q1135 q1136 q1137 q110 q1138) rfl hc hs (by decide +kernel) hR
/-! X4.size -/
abbrev rmC_X4_size : Room := { frames := 1, cells := 0, slots := 0, locals := 20 }
def wpC_X4_size (a : CS) (n0 : Nat) (Q : Int32 → CS → Prop) : Prop := (shK a n0) ∧ (wpC_X4_isFloats a n0 (fun r1 a1 => if r1 = 0 then ((shK a1 n0) ∧ ((objK a1 (a1.2.1 n0 0)) ∧ ((kindK a1 (a1.2.1 n0 0) 24) ∧ (Q (Int32.ofNat (a1.2.2.1 (a1.2.1 n0 0)).2) a1)))) else ((shK a1 n0) ∧ ((objK a1 (a1.2.1 n0 0)) ∧ ((kindK a1 (a1.2.1 n0 0) 23) ∧ (Q (Int32.ofNat (a1.2.2.1 (a1.2.1 n0 0)).2) a1))))))
set_option maxHeartbeats 4000000 in
set_option maxRecDepth 100000 in
theorem wkC_X4_size_e (S : CallFix p m c cX4_size 1 s args lw_all RX4) (hr : meth.sig.returnType = (some .int)) (hlk : meth.locks = false) (Q : Int32 → CS → Prop) (n0 : Nat) (a : CS) (H : Heap) (locs : List Loc) (ls : Array Slot) (h : wpC_X4_size a n0 Q) (hw : CW D dA ad fv A a s H locs) (hl : lv_has ls 1 [(0, .ref (ad n0))]) : W p l e rmC_X4_size s m args below meth c H locs 0 0 (MQ below (cQi D dA ad fv A Q) args s 0 0 A) (F0 m 0 ls []) := by
  have hx := S.1
  have hb := S.2.1
  have hown := S.2.2.2.1
  have hts := S.2.2.2.2
  unfold wpC_X4_size at h
  refine lv_aload_n hx hb dX4_size_0 rfl (lv_at hl 0 rfl) ?_
  have hk1_0 := h.1
  replace h := h.2
  refine c_calli hw (va_runV (As := []) (rest := []) S (ctC_X4_isFloats l D dA ad fv A a n0 _ h) (cwC_X4_X4_isFloats hts ⟨Nat.le_of_ble_eq_true rfl, Nat.le_of_ble_eq_true rfl⟩) (c_preV hw (n := n0) hk1_0.ok (hk1_0.isO _) rfl) rfl rfl hl.1 rfl (lv_room (Nat.le_of_ble_eq_true rfl)) dX4_size_1 ⟨Nat.le_of_ble_eq_true rfl, Nat.le_of_ble_eq_true rfl⟩) (fun r1 a1 H locs h hw => ?_)
  refine lv_if_eq (tgt := 18) hx hb dX4_size_4 (by decide) (fun c4 => ?_) (fun c4 => ?_)
  · replace h := if_t c4 h
    refine lv_aload_n hx hb dX4_size_18 rfl (lv_at hl 0 rfl) ?_
    have hk19_1 := h.1
    replace h := h.2
    have hk19_2 := h.1
    replace h := h.2
    refine c_getr S hw (n := n0) (x := (a1.2.1 n0 0)) hk19_1.ok (hk19_1.isO _) rfl in_X4 0 (by decide) (Or.inl q306) rfl rfl hk19_2.ne dX4_size_19 ?_
    have hk22_3 := h.1
    replace h := h.2
    refine c_cast S hw (hk22_3.obj (by decide)) q1140 (Or.inl (hk22_3.kcls rfl)) dX4_size_22 ?_
    refine c_alen S hw (n := (a1.2.1 n0 0)) (t := 4) (hk22_3.ok (by decide)) ((isA_s hk22_3) _) rfl rfl dX4_size_25 ?_
    exact c_iret S hr hlk hw h dX4_size_26
  · replace h := if_f c4 h
    refine lv_aload_n hx hb dX4_size_7 rfl (lv_at hl 0 rfl) ?_
    have hk8_1 := h.1
    replace h := h.2
    have hk8_2 := h.1
    replace h := h.2
    refine c_getr S hw (n := n0) (x := (a1.2.1 n0 0)) hk8_1.ok (hk8_1.isO _) rfl in_X4 0 (by decide) (Or.inl q306) rfl rfl hk8_2.ne dX4_size_8 ?_
    have hk11_3 := h.1
    replace h := h.2
    refine c_cast S hw (hk11_3.obj (by decide)) q1139 (Or.inl (hk11_3.kcls rfl)) dX4_size_11 ?_
    refine c_alen S hw (n := (a1.2.1 n0 0)) (t := 3) (hk11_3.ok (by decide)) ((isG_d hk11_3) _) rfl rfl dX4_size_14 ?_
    refine lv_goto (tgt := 26) hx hb dX4_size_15 (by decide) ?_
    exact c_iret S hr hlk hw h dX4_size_26
theorem ctC_X4_size (l : Launch) (D : va_G) (dA : Nat → ClassId) (ad : Nat → Nat) (fv : Nat → Value) (A : Nat → Prop) (a : CS) (n0 : Nat) (Q : Int32 → CS → Prop) (h : wpC_X4_size a n0 Q) : Met l yX4_size (ws_ yX4_size cX4_size 1 (some .int)) rmC_X4_size (cPc D dA ad fv A a [.ref (ad n0)]) (cQi D dA ad fv A Q) 0 0 A :=
  c_met (by decide) rfl rfl rfl (Nat.le_of_ble_eq_true rfl) (fun p e s m below meth c ls S hr hlk hin2 hw hl => wkC_X4_size_e S hr hlk Q n0 a _ _ ls h hw hl)
theorem cwC_X0_X4_size {R : Room} {s : State} {args : Array Value} {rm : Room} (hts : ∀ w ∈ lw_all, w.before args s = true) (hR : rm.frames + 1 ≤ R.frames ∧ 8 + (1 + 11) + rm.locals ≤ R.locals) (hc : rm.cells = 0 := by rfl) (hs : rm.slots = 0 := by rfl) : CallW R s args RX0 RX4 518 yX4_size cX4_size 1 (some .int) (ws_ yX4_size cX4_size 1 (some .int)) rm 0 0 0 :=
  cwV 0 hts (lw_V q1131 q1132 q1133 q110 q1134) rfl hc hs (by decide +kernel) hR
/-! X4.isNumber -/
abbrev rmC_X4_isNumber : Room := { frames := 1, cells := 0, slots := 0, locals := 20 }
def wpC_X4_isNumber (a : CS) (n0 : Nat) (x1 : Int32) (Q : Int32 → CS → Prop) : Prop := (shK a n0) ∧ (wpC_X4_isFloats a n0 (fun r1 a1 => if r1 = 0 then (Q (1 : Int32) a1) else ((shK a1 n0) ∧ ((objK a1 (a1.2.1 n0 0)) ∧ ((kindK a1 (a1.2.1 n0 0) 23) ∧ ((vp_in x1 (a1.2.2.1 (a1.2.1 n0 0)).2) ∧ ((vp_in x1 (a1.2.2.1 (a1.2.1 n0 0)).2) ∧ (if (Op.cmpValue (FP.fcmp (a1.2.2.2 (a1.2.1 n0 0) x1.toNatClampNeg) (a1.2.2.2 (a1.2.1 n0 0) x1.toNatClampNeg)) .l) = 0 then (Q (1 : Int32) a1) else (Q (0 : Int32) a1)))))))))
set_option maxHeartbeats 4000000 in
set_option maxRecDepth 100000 in
theorem wkC_X4_isNumber_e (S : CallFix p m c cX4_isNumber 2 s args lw_all RX4) (hr : meth.sig.returnType = (some .boolean)) (hlk : meth.locks = false) (Q : Int32 → CS → Prop) (n0 : Nat) (x1 : Int32) (a : CS) (H : Heap) (locs : List Loc) (ls : Array Slot) (h : wpC_X4_isNumber a n0 x1 Q) (hw : CW D dA ad fv A a s H locs) (hl : lv_has ls 2 [(0, .ref (ad n0)), (1, .int x1)]) : W p l e rmC_X4_isNumber s m args below meth c H locs 0 0 (MQ below (cQi D dA ad fv A Q) args s 0 0 A) (F0 m 0 ls []) := by
  have hx := S.1
  have hb := S.2.1
  have hown := S.2.2.2.1
  have hts := S.2.2.2.2
  unfold wpC_X4_isNumber at h
  refine lv_aload_n hx hb dX4_isNumber_0 rfl (lv_at hl 0 rfl) ?_
  have hk1_0 := h.1
  replace h := h.2
  refine c_calli hw (va_runV (As := []) (rest := []) S (ctC_X4_isFloats l D dA ad fv A a n0 _ h) (cwC_X4_X4_isFloats hts ⟨Nat.le_of_ble_eq_true rfl, Nat.le_of_ble_eq_true rfl⟩) (c_preV hw (n := n0) hk1_0.ok (hk1_0.isO _) rfl) rfl rfl hl.1 rfl (lv_room (Nat.le_of_ble_eq_true rfl)) dX4_isNumber_1 ⟨Nat.le_of_ble_eq_true rfl, Nat.le_of_ble_eq_true rfl⟩) (fun r1 a1 H locs h hw => ?_)
  refine lv_if_eq (tgt := 29) hx hb dX4_isNumber_4 (by decide) (fun c4 => ?_) (fun c4 => ?_)
  · replace h := if_t c4 h
    refine lv_iconst (v := (1 : Int32)) hx hb dX4_isNumber_29 (by decide) ?_
    refine lv_goto (tgt := 34) hx hb dX4_isNumber_30 (by decide) ?_
    exact c_zret S hr hlk hw (Or.inr rfl) h dX4_isNumber_34
  · replace h := if_f c4 h
    refine lv_aload_n hx hb dX4_isNumber_7 rfl (lv_at hl 0 rfl) ?_
    have hk8_1 := h.1
    replace h := h.2
    have hk8_2 := h.1
    replace h := h.2
    refine c_getr S hw (n := n0) (x := (a1.2.1 n0 0)) hk8_1.ok (hk8_1.isO _) rfl in_X4 0 (by decide) (Or.inl q306) rfl rfl hk8_2.ne dX4_isNumber_8 ?_
    have hk11_3 := h.1
    replace h := h.2
    refine c_cast S hw (hk11_3.obj (by decide)) q1139 (Or.inl (hk11_3.kcls rfl)) dX4_isNumber_11 ?_
    refine lv_iload_n hx hb dX4_isNumber_14 rfl (lv_at hl 1 rfl) ?_
    have hi15 := h.1
    replace h := h.2
    refine c_fald S hw (n := (a1.2.1 n0 0)) (hk11_3.ok (by decide)) (isG_d hk11_3) hi15 dX4_isNumber_15 ?_
    refine lv_aload_n hx hb dX4_isNumber_16 rfl (lv_at hl 0 rfl) ?_
    refine c_getr S hw (n := n0) (x := (a1.2.1 n0 0)) hk8_1.ok (hk8_1.isO _) rfl in_X4 0 (by decide) (Or.inl q306) rfl rfl hk8_2.ne dX4_isNumber_17 ?_
    refine c_cast S hw (hk11_3.obj (by decide)) q1139 (Or.inl (hk11_3.kcls rfl)) dX4_isNumber_20 ?_
    refine lv_iload_n hx hb dX4_isNumber_23 rfl (lv_at hl 1 rfl) ?_
    have hi24 := h.1
    replace h := h.2
    refine c_fald S hw (n := (a1.2.1 n0 0)) (hk11_3.ok (by decide)) (isG_d hk11_3) hi24 dX4_isNumber_24 ?_
    refine lv_fcmp hx hb dX4_isNumber_25 ?_
    refine lv_if_ne (tgt := 33) hx hb dX4_isNumber_26 (by decide) (fun c26 => ?_) (fun c26 => ?_)
    · replace h := if_f c26 h
      refine lv_iconst (v := (0 : Int32)) hx hb dX4_isNumber_33 (by decide) ?_
      exact c_zret S hr hlk hw (Or.inl rfl) h dX4_isNumber_34
    · replace h := if_t c26 h
      refine lv_iconst (v := (1 : Int32)) hx hb dX4_isNumber_29 (by decide) ?_
      refine lv_goto (tgt := 34) hx hb dX4_isNumber_30 (by decide) ?_
      exact c_zret S hr hlk hw (Or.inr rfl) h dX4_isNumber_34
theorem ctC_X4_isNumber (l : Launch) (D : va_G) (dA : Nat → ClassId) (ad : Nat → Nat) (fv : Nat → Value) (A : Nat → Prop) (a : CS) (n0 : Nat) (x1 : Int32) (Q : Int32 → CS → Prop) (h : wpC_X4_isNumber a n0 x1 Q) : Met l yX4_isNumber (ws_ yX4_isNumber cX4_isNumber 2 (some .boolean)) rmC_X4_isNumber (cPc D dA ad fv A a [.ref (ad n0), .int x1]) (cQi D dA ad fv A Q) 0 0 A :=
  c_met (by decide) rfl rfl rfl (Nat.le_of_ble_eq_true rfl) (fun p e s m below meth c ls S hr hlk hin2 hw hl => wkC_X4_isNumber_e S hr hlk Q n0 x1 a _ _ ls h hw hl)
theorem cwC_X0_X4_isNumber {R : Room} {s : State} {args : Array Value} {rm : Room} (hts : ∀ w ∈ lw_all, w.before args s = true) (hR : rm.frames + 1 ≤ R.frames ∧ 8 + (2 + 11) + rm.locals ≤ R.locals) (hc : rm.cells = 0 := by rfl) (hs : rm.slots = 0 := by rfl) : CallW R s args RX0 RX4 525 yX4_isNumber cX4_isNumber 2 (some .boolean) (ws_ yX4_isNumber cX4_isNumber 2 (some .boolean)) rm 0 0 1 :=
  cwV 1 hts (lw_V q1158 q1159 q1160 q110 q1161) rfl hc hs (by decide +kernel) hR
/-! X4.at -/
abbrev rmC_X4_at : Room := { frames := 1, cells := 0, slots := 0, locals := 20 }
def wpC_X4_at (a : CS) (n0 : Nat) (x1 : Int32) (Q : Int32 → CS → Prop) : Prop := (shK a n0) ∧ (wpC_X4_isFloats a n0 (fun r1 a1 => if r1 = 0 then ((shK a1 n0) ∧ ((objK a1 (a1.2.1 n0 0)) ∧ ((kindK a1 (a1.2.1 n0 0) 24) ∧ ((vp_in x1 (a1.2.2.1 (a1.2.1 n0 0)).2) ∧ (Q (a1.1 (a1.2.1 n0 0) x1.toNatClampNeg) a1))))) else ((shK a1 n0) ∧ ((objK a1 (a1.2.1 n0 0)) ∧ ((kindK a1 (a1.2.1 n0 0) 23) ∧ ((vp_in x1 (a1.2.2.1 (a1.2.1 n0 0)).2) ∧ (Q (FP.f2i (a1.2.2.2 (a1.2.1 n0 0) x1.toNatClampNeg)) a1)))))))
set_option maxHeartbeats 4000000 in
set_option maxRecDepth 100000 in
theorem wkC_X4_at_e (S : CallFix p m c cX4_at 2 s args lw_all RX4) (hr : meth.sig.returnType = (some .int)) (hlk : meth.locks = false) (Q : Int32 → CS → Prop) (n0 : Nat) (x1 : Int32) (a : CS) (H : Heap) (locs : List Loc) (ls : Array Slot) (h : wpC_X4_at a n0 x1 Q) (hw : CW D dA ad fv A a s H locs) (hl : lv_has ls 2 [(0, .ref (ad n0)), (1, .int x1)]) : W p l e rmC_X4_at s m args below meth c H locs 0 0 (MQ below (cQi D dA ad fv A Q) args s 0 0 A) (F0 m 0 ls []) := by
  have hx := S.1
  have hb := S.2.1
  have hown := S.2.2.2.1
  have hts := S.2.2.2.2
  unfold wpC_X4_at at h
  refine lv_aload_n hx hb dX4_at_0 rfl (lv_at hl 0 rfl) ?_
  have hk1_0 := h.1
  replace h := h.2
  refine c_calli hw (va_runV (As := []) (rest := []) S (ctC_X4_isFloats l D dA ad fv A a n0 _ h) (cwC_X4_X4_isFloats hts ⟨Nat.le_of_ble_eq_true rfl, Nat.le_of_ble_eq_true rfl⟩) (c_preV hw (n := n0) hk1_0.ok (hk1_0.isO _) rfl) rfl rfl hl.1 rfl (lv_room (Nat.le_of_ble_eq_true rfl)) dX4_at_1 ⟨Nat.le_of_ble_eq_true rfl, Nat.le_of_ble_eq_true rfl⟩) (fun r1 a1 H locs h hw => ?_)
  refine lv_if_eq (tgt := 20) hx hb dX4_at_4 (by decide) (fun c4 => ?_) (fun c4 => ?_)
  · replace h := if_t c4 h
    refine lv_aload_n hx hb dX4_at_20 rfl (lv_at hl 0 rfl) ?_
    have hk21_1 := h.1
    replace h := h.2
    have hk21_2 := h.1
    replace h := h.2
    refine c_getr S hw (n := n0) (x := (a1.2.1 n0 0)) hk21_1.ok (hk21_1.isO _) rfl in_X4 0 (by decide) (Or.inl q306) rfl rfl hk21_2.ne dX4_at_21 ?_
    have hk24_3 := h.1
    replace h := h.2
    refine c_cast S hw (hk24_3.obj (by decide)) q1140 (Or.inl (hk24_3.kcls rfl)) dX4_at_24 ?_
    refine lv_iload_n hx hb dX4_at_27 rfl (lv_at hl 1 rfl) ?_
    have hi28 := h.1
    replace h := h.2
    refine c_ald S hw (n := (a1.2.1 n0 0)) (hk24_3.ok (by decide)) (isA_s hk24_3) hi28 (Or.inr (Or.inr (Or.inr ⟨rfl, dX4_at_28⟩))) ?_
    exact c_iret S hr hlk hw h dX4_at_29
  · replace h := if_f c4 h
    refine lv_aload_n hx hb dX4_at_7 rfl (lv_at hl 0 rfl) ?_
    have hk8_1 := h.1
    replace h := h.2
    have hk8_2 := h.1
    replace h := h.2
    refine c_getr S hw (n := n0) (x := (a1.2.1 n0 0)) hk8_1.ok (hk8_1.isO _) rfl in_X4 0 (by decide) (Or.inl q306) rfl rfl hk8_2.ne dX4_at_8 ?_
    have hk11_3 := h.1
    replace h := h.2
    refine c_cast S hw (hk11_3.obj (by decide)) q1139 (Or.inl (hk11_3.kcls rfl)) dX4_at_11 ?_
    refine lv_iload_n hx hb dX4_at_14 rfl (lv_at hl 1 rfl) ?_
    have hi15 := h.1
    replace h := h.2
    refine c_fald S hw (n := (a1.2.1 n0 0)) (hk11_3.ok (by decide)) (isG_d hk11_3) hi15 dX4_at_15 ?_
    refine lv_f2i hx hb dX4_at_16 ?_
    refine lv_goto (tgt := 29) hx hb dX4_at_17 (by decide) ?_
    exact c_iret S hr hlk hw h dX4_at_29
theorem ctC_X4_at (l : Launch) (D : va_G) (dA : Nat → ClassId) (ad : Nat → Nat) (fv : Nat → Value) (A : Nat → Prop) (a : CS) (n0 : Nat) (x1 : Int32) (Q : Int32 → CS → Prop) (h : wpC_X4_at a n0 x1 Q) : Met l yX4_at (ws_ yX4_at cX4_at 2 (some .int)) rmC_X4_at (cPc D dA ad fv A a [.ref (ad n0), .int x1]) (cQi D dA ad fv A Q) 0 0 A :=
  c_met (by decide) rfl rfl rfl (Nat.le_of_ble_eq_true rfl) (fun p e s m below meth c ls S hr hlk hin2 hw hl => wkC_X4_at_e S hr hlk Q n0 x1 a _ _ ls h hw hl)
theorem cwC_X0_X4_at {R : Room} {s : State} {args : Array Value} {rm : Room} (hts : ∀ w ∈ lw_all, w.before args s = true) (hR : rm.frames + 1 ≤ R.frames ∧ 8 + (2 + 11) + rm.locals ≤ R.locals) (hc : rm.cells = 0 := by rfl) (hs : rm.slots = 0 := by rfl) : CallW R s args RX0 RX4 528 yX4_at cX4_at 2 (some .int) (ws_ yX4_at cX4_at 2 (some .int)) rm 0 0 1 :=
  cwV 1 hts (lw_V q1162 q1163 q1164 q110 q1165) rfl hc hs (by decide +kernel) hR
/-! X4.put -/
abbrev rmC_X4_put : Room := { frames := 1, cells := 0, slots := 0, locals := 20 }
def wpC_X4_put (a : CS) (n0 : Nat) (x1 : Int32) (x2 : Int32) (Q : CS → Prop) : Prop := (shK a n0) ∧ (wpC_X4_isFloats a n0 (fun r1 a1 => if r1 = 0 then ((shK a1 n0) ∧ ((objK a1 (a1.2.1 n0 0)) ∧ ((kindK a1 (a1.2.1 n0 0) 24) ∧ ((vp_in x1 (a1.2.2.1 (a1.2.1 n0 0)).2) ∧ (∀ a31 : CS, a31 = wI a1 (a1.2.1 n0 0) x1.toNatClampNeg (vp_nar .short x2.toInt16.toInt32) → (Q a31)))))) else ((shK a1 n0) ∧ ((objK a1 (a1.2.1 n0 0)) ∧ ((kindK a1 (a1.2.1 n0 0) 23) ∧ ((vp_in x1 (a1.2.2.1 (a1.2.1 n0 0)).2) ∧ (∀ a17 : CS, a17 = wG a1 (a1.2.1 n0 0) x1.toNatClampNeg (FP.i2f x2) → (Q a17))))))))
set_option maxHeartbeats 4000000 in
set_option maxRecDepth 100000 in
theorem wkC_X4_put_e (S : CallFix p m c cX4_put 3 s args lw_all RX4) (hr : meth.sig.returnType = none) (hlk : meth.locks = false) (Q : CS → Prop) (n0 : Nat) (x1 : Int32) (x2 : Int32) (a : CS) (H : Heap) (locs : List Loc) (ls : Array Slot) (h : wpC_X4_put a n0 x1 x2 Q) (hw : CW D dA ad fv A a s H locs) (hl : lv_has ls 3 [(0, .ref (ad n0)), (1, .int x1), (2, .int x2)]) : W p l e rmC_X4_put s m args below meth c H locs 0 0 (MQ below (cQv D dA ad fv A Q) args s 0 0 A) (F0 m 0 ls []) := by
  have hx := S.1
  have hb := S.2.1
  have hown := S.2.2.2.1
  have hts := S.2.2.2.2
  unfold wpC_X4_put at h
  refine lv_aload_n hx hb dX4_put_0 rfl (lv_at hl 0 rfl) ?_
  have hk1_0 := h.1
  replace h := h.2
  refine c_calli hw (va_runV (As := []) (rest := []) S (ctC_X4_isFloats l D dA ad fv A a n0 _ h) (cwC_X4_X4_isFloats hts ⟨Nat.le_of_ble_eq_true rfl, Nat.le_of_ble_eq_true rfl⟩) (c_preV hw (n := n0) hk1_0.ok (hk1_0.isO _) rfl) rfl rfl hl.1 rfl (lv_room (Nat.le_of_ble_eq_true rfl)) dX4_put_1 ⟨Nat.le_of_ble_eq_true rfl, Nat.le_of_ble_eq_true rfl⟩) (fun r1 a1 H locs h hw => ?_)
  refine lv_if_eq (tgt := 21) hx hb dX4_put_4 (by decide) (fun c4 => ?_) (fun c4 => ?_)
  · replace h := if_t c4 h
    refine lv_aload_n hx hb dX4_put_21 rfl (lv_at hl 0 rfl) ?_
    have hk22_1 := h.1
    replace h := h.2
    have hk22_2 := h.1
    replace h := h.2
    refine c_getr S hw (n := n0) (x := (a1.2.1 n0 0)) hk22_1.ok (hk22_1.isO _) rfl in_X4 0 (by decide) (Or.inl q306) rfl rfl hk22_2.ne dX4_put_22 ?_
    have hk25_3 := h.1
    replace h := h.2
    refine c_cast S hw (hk25_3.obj (by decide)) q1140 (Or.inl (hk25_3.kcls rfl)) dX4_put_25 ?_
    refine lv_iload_n hx hb dX4_put_28 rfl (lv_at hl 1 rfl) ?_
    refine lv_iload_n hx hb dX4_put_29 rfl (lv_at hl 2 rfl) ?_
    refine lv_i2s (v := x2.toInt16.toInt32) hx hb dX4_put_30 rfl ?_
    have hi31 := h.1
    replace h := h.2
    refine c_ast S hw (n := (a1.2.1 n0 0)) hk25_3.ne (hk25_3.ok (by decide)) (isA_s hk25_3) hi31 (Or.inr (Or.inr (Or.inr ⟨rfl, rfl, dX4_put_31⟩))) (fun a31 H locs ea31 hw => ?_)
    replace h := h a31 ea31
    exact c_vret S hr hlk hw h dX4_put_32
  · replace h := if_f c4 h
    refine lv_aload_n hx hb dX4_put_7 rfl (lv_at hl 0 rfl) ?_
    have hk8_1 := h.1
    replace h := h.2
    have hk8_2 := h.1
    replace h := h.2
    refine c_getr S hw (n := n0) (x := (a1.2.1 n0 0)) hk8_1.ok (hk8_1.isO _) rfl in_X4 0 (by decide) (Or.inl q306) rfl rfl hk8_2.ne dX4_put_8 ?_
    have hk11_3 := h.1
    replace h := h.2
    refine c_cast S hw (hk11_3.obj (by decide)) q1139 (Or.inl (hk11_3.kcls rfl)) dX4_put_11 ?_
    refine lv_iload_n hx hb dX4_put_14 rfl (lv_at hl 1 rfl) ?_
    refine lv_iload_n hx hb dX4_put_15 rfl (lv_at hl 2 rfl) ?_
    refine lv_i2f hx hb dX4_put_16 ?_
    have hi17 := h.1
    replace h := h.2
    refine c_fast S hw (n := (a1.2.1 n0 0)) (hk11_3.ok (by decide)) (isG_d hk11_3) hi17 dX4_put_17 (fun a17 H locs ea17 hw => ?_)
    replace h := h a17 ea17
    refine lv_goto (tgt := 32) hx hb dX4_put_18 (by decide) ?_
    exact c_vret S hr hlk hw h dX4_put_32
theorem ctC_X4_put (l : Launch) (D : va_G) (dA : Nat → ClassId) (ad : Nat → Nat) (fv : Nat → Value) (A : Nat → Prop) (a : CS) (n0 : Nat) (x1 : Int32) (x2 : Int32) (Q : CS → Prop) (h : wpC_X4_put a n0 x1 x2 Q) : Met l yX4_put (ws_ yX4_put cX4_put 3 none) rmC_X4_put (cPc D dA ad fv A a [.ref (ad n0), .int x1, .int x2]) (cQv D dA ad fv A Q) 0 0 A :=
  c_met (by decide) rfl rfl rfl (Nat.le_of_ble_eq_true rfl) (fun p e s m below meth c ls S hr hlk hin2 hw hl => wkC_X4_put_e S hr hlk Q n0 x1 x2 a _ _ ls h hw hl)
theorem cwC_X0_X4_put {R : Room} {s : State} {args : Array Value} {rm : Room} (hts : ∀ w ∈ lw_all, w.before args s = true) (hR : rm.frames + 1 ≤ R.frames ∧ 8 + (3 + 11) + rm.locals ≤ R.locals) (hc : rm.cells = 0 := by rfl) (hs : rm.slots = 0 := by rfl) : CallW R s args RX0 RX4 511 yX4_put cX4_put 3 none (ws_ yX4_put cX4_put 3 none) rm 0 0 2 :=
  cwV 2 hts (lw_V q1149 q1150 q1151 q110 q1152) rfl hc hs (by decide +kernel) hR
/-! X5.thing -/
abbrev rmC_X5_thing : Room := { frames := 0, cells := 0, slots := 0, locals := 0 }
def wpC_X5_thing (a : CS) (n0 : Nat) (Q : Int32 → CS → Prop) : Prop := (90 ≤ n0 ∧ n0 ≤ 94) ∧ if (a.2.1 n0 0) = 0 then (Q (0 : Int32) a) else ((objK a (a.2.1 n0 0)) ∧ (if (ansL (a.2.2.1 (a.2.1 n0 0)).1) = 0 then (if (ansSh (a.2.2.1 (a.2.1 n0 0)).1) = 0 then (Q (3 : Int32) a) else (Q (2 : Int32) a)) else (Q (1 : Int32) a)))
set_option maxHeartbeats 4000000 in
set_option maxRecDepth 100000 in
theorem wkC_X5_thing_e (S : CallFix p m c cX5_thing 1 s args lw_all RX5) (hr : meth.sig.returnType = (some .int)) (hlk : meth.locks = false) (Q : Int32 → CS → Prop) (n0 : Nat) (a : CS) (H : Heap) (locs : List Loc) (ls : Array Slot) (h : wpC_X5_thing a n0 Q) (hw : CW D dA ad fv A a s H locs) (hl : lv_has ls 1 [(0, .ref (ad n0))]) : W p l e rmC_X5_thing s m args below meth c H locs 0 0 (MQ below (cQi D dA ad fv A Q) args s 0 0 A) (F0 m 0 ls []) := by
  have hx := S.1
  have hb := S.2.1
  have hown := S.2.2.2.1
  have hts := S.2.2.2.2
  unfold wpC_X5_thing at h
  obtain ⟨hn0, h⟩ := h
  refine lv_aload_n hx hb dX5_thing_0 rfl (lv_at hl 0 rfl) ?_
  by_cases c1 : (a.2.1 n0 0) = 0
  · replace h := if_t c1 h
    refine c_getn S hw (n := n0) (x := (a.2.1 n0 0)) (cOk.s (mem_sheet (by have := hn0.1; omega) hn0.2)) ((isO_sl hn0.1 hn0.2) _) rfl in_X5 0 (by decide) (Or.inl q319) rfl rfl c1 dX5_thing_1 ?_
    refine lv_ifnonnullN hx hb dX5_thing_4 ?_
    refine lv_iconst (v := (0 : Int32)) hx hb dX5_thing_7 (by decide) ?_
    refine lv_goto (tgt := 40) hx hb dX5_thing_8 (by decide) ?_
    exact c_iret S hr hlk hw h dX5_thing_40
  replace h := if_f c1 h
  refine c_getr S hw (n := n0) (x := (a.2.1 n0 0)) (cOk.s (mem_sheet (by have := hn0.1; omega) hn0.2)) ((isO_sl hn0.1 hn0.2) _) rfl in_X5 0 (by decide) (Or.inl q319) rfl rfl c1 dX5_thing_1 ?_
  refine lv_ifnonnull (tgt := 11) hx hb dX5_thing_4 (by decide) ?_
  refine lv_aload_n hx hb dX5_thing_11 rfl (lv_at hl 0 rfl) ?_
  have hk12_0 := h.1
  replace h := h.2
  refine c_getr S hw (n := n0) (x := (a.2.1 n0 0)) (cOk.s (mem_sheet (by have := hn0.1; omega) hn0.2)) ((isO_sl hn0.1 hn0.2) _) rfl in_X5 0 (by decide) (Or.inl q319) rfl rfl hk12_0.ne dX5_thing_12 ?_
  refine c_inst S hw hk12_0 (v := (ansL (a.2.2.1 (a.2.1 n0 0)).1)) q1190 (instL hk12_0) dX5_thing_15 ?_
  refine lv_if_eq (tgt := 25) hx hb dX5_thing_18 (by decide) (fun c18 => ?_) (fun c18 => ?_)
  · replace h := if_t c18 h
    refine lv_aload_n hx hb dX5_thing_25 rfl (lv_at hl 0 rfl) ?_
    refine c_getr S hw (n := n0) (x := (a.2.1 n0 0)) (cOk.s (mem_sheet (by have := hn0.1; omega) hn0.2)) ((isO_sl hn0.1 hn0.2) _) rfl in_X5 0 (by decide) (Or.inl q319) rfl rfl hk12_0.ne dX5_thing_26 ?_
    refine c_inst S hw hk12_0 (v := (ansSh (a.2.2.1 (a.2.1 n0 0)).1)) q1191 (instSh hk12_0) dX5_thing_29 ?_
    refine lv_if_eq (tgt := 39) hx hb dX5_thing_32 (by decide) (fun c32 => ?_) (fun c32 => ?_)
    · replace h := if_t c32 h
      refine lv_iconst (v := (3 : Int32)) hx hb dX5_thing_39 (by decide) ?_
      exact c_iret S hr hlk hw h dX5_thing_40
    · replace h := if_f c32 h
      refine lv_iconst (v := (2 : Int32)) hx hb dX5_thing_35 (by decide) ?_
      refine lv_goto (tgt := 40) hx hb dX5_thing_36 (by decide) ?_
      exact c_iret S hr hlk hw h dX5_thing_40
  · replace h := if_f c18 h
    refine lv_iconst (v := (1 : Int32)) hx hb dX5_thing_21 (by decide) ?_
    refine lv_goto (tgt := 40) hx hb dX5_thing_22 (by decide) ?_
    exact c_iret S hr hlk hw h dX5_thing_40
theorem ctC_X5_thing (l : Launch) (D : va_G) (dA : Nat → ClassId) (ad : Nat → Nat) (fv : Nat → Value) (A : Nat → Prop) (a : CS) (n0 : Nat) (Q : Int32 → CS → Prop) (h : wpC_X5_thing a n0 Q) : Met l yX5_thing (ws_ yX5_thing cX5_thing 1 (some .int)) rmC_X5_thing (cPc D dA ad fv A a [.ref (ad n0)]) (cQi D dA ad fv A Q) 0 0 A :=
  c_met (by decide) rfl rfl rfl (Nat.le_of_ble_eq_true rfl) (fun p e s m below meth c ls S hr hlk hin2 hw hl => wkC_X5_thing_e S hr hlk Q n0 a _ _ ls h hw hl)
theorem cwC_X0_X5_thing {R : Room} {s : State} {args : Array Value} {rm : Room} (hts : ∀ w ∈ lw_all, w.before args s = true) (hR : rm.frames + 1 ≤ R.frames ∧ 8 + (1 + 11) + rm.locals ≤ R.locals) (hc : rm.cells = 0 := by rfl) (hs : rm.slots = 0 := by rfl) : CallW R s args RX0 RX5 540 yX5_thing cX5_thing 1 (some .int) (ws_ yX5_thing cX5_thing 1 (some .int)) rm 0 0 0 :=
  cwV 0 hts (lw_V q1186 q1187 q1188 q111 q1189) rfl hc hs (by decide +kernel) hR
/-! X0.markIn -/
abbrev rmC_X0_markIn : Room := { frames := 2, cells := 0, slots := 0, locals := 42 }
def bkC_X0_markIn_54 (Q : Int32 → CS → Prop) (x0 : Nat) (x1 : Int32) (x2 : Int32) : CS → Prop := fun a => (shK a x0) ∧ (wpC_X4_put a x0 x1 x2 (fun a57 => Q (1 : Int32) a57))
set_option maxHeartbeats 4000000 in
set_option maxRecDepth 100000 in
theorem wkC_X0_markIn_54 (S : CallFix p m c cX0_markIn 3 s args lw_all RX0) (hr : meth.sig.returnType = (some .int)) (hlk : meth.locks = false) (Q : Int32 → CS → Prop) (x0 : Nat) (x1 : Int32) (x2 : Int32) : ∀ (a : CS) (H : Heap) (locs : List Loc) (ls : Array Slot), bkC_X0_markIn_54 Q x0 x1 x2 a → CW D dA ad fv A a s H locs → lv_has ls 3 [(0, .ref (ad x0)), (1, .int x1), (2, .int x2)] → W p l e rmC_X0_markIn s m args below meth c H locs 0 0 (MQ below (cQi D dA ad fv A Q) args s 0 0 A) (F0 m 54 ls []) := by
  have hx := S.1
  have hb := S.2.1
  have hown := S.2.2.2.1
  have hts := S.2.2.2.2
  intro  a H locs ls h hw hl
  unfold bkC_X0_markIn_54 at h
  refine lv_aload_n hx hb dX0_markIn_54 rfl (lv_at hl 0 rfl) ?_
  refine lv_iload_n hx hb dX0_markIn_55 rfl (lv_at hl 1 rfl) ?_
  refine lv_iload_n hx hb dX0_markIn_56 rfl (lv_at hl 2 rfl) ?_
  have hk57_0 := h.1
  replace h := h.2
  refine c_callv hw (va_runV (As := [.int x1, .int x2]) (rest := []) S (ctC_X4_put l D dA ad fv A a x0 x1 x2 _ h) (cwC_X0_X4_put hts ⟨Nat.le_of_ble_eq_true rfl, Nat.le_of_ble_eq_true rfl⟩) (c_preV hw (n := x0) hk57_0.ok (hk57_0.isO _) rfl) rfl rfl hl.1 rfl (lv_room (Nat.le_of_ble_eq_true rfl)) dX0_markIn_57 ⟨Nat.le_of_ble_eq_true rfl, Nat.le_of_ble_eq_true rfl⟩) (fun a57 H locs h hw => ?_)
  refine lv_iconst (v := (1 : Int32)) hx hb dX0_markIn_60 (by decide) ?_
  exact c_iret S hr hlk hw h dX0_markIn_61
def wpC_X0_markIn (a : CS) (x0 : Nat) (x1 : Int32) (x2 : Int32) (Q : Int32 → CS → Prop) : Prop := if x2 = (-1000000005 : Int32) then ((shK a x0) ∧ (wpC_X4_isFloats a x0 (fun r7 a7 => if r7 = 0 then (Q (-1000000012 : Int32) a7) else ((shK a7 x0) ∧ ((objK a7 (a7.2.1 x0 0)) ∧ ((kindK a7 (a7.2.1 x0 0) 23) ∧ ((vp_in x1 (a7.2.2.1 (a7.2.1 x0 0)).2) ∧ (∀ a28 : CS, a28 = wG a7 (a7.2.1 x0 0) x1.toNatClampNeg (2143289344 : UInt32) → (Q (1 : Int32) a28))))))))) else ((shK a x0) ∧ (wpC_X4_isFloats a x0 (fun r32 a32 => if r32 = 0 then (bkC_X0_markIn_54 Q x0 x1 x2 a32) else (wpC_X0_isIn a32 x2 (-99999 : Int32) (99999 : Int32) (fun r45 a45 => if r45 = 0 then (Q (-1000000001 : Int32) a45) else (bkC_X0_markIn_54 Q x0 x1 x2 a45))))))
set_option maxHeartbeats 4000000 in
set_option maxRecDepth 100000 in
theorem wkC_X0_markIn_e (S : CallFix p m c cX0_markIn 3 s args lw_all RX0) (hr : meth.sig.returnType = (some .int)) (hlk : meth.locks = false) (Q : Int32 → CS → Prop) (x0 : Nat) (x1 : Int32) (x2 : Int32) (a : CS) (H : Heap) (locs : List Loc) (ls : Array Slot) (h : wpC_X0_markIn a x0 x1 x2 Q) (hw : CW D dA ad fv A a s H locs) (hl : lv_has ls 3 [(0, .ref (ad x0)), (1, .int x1), (2, .int x2)]) : W p l e rmC_X0_markIn s m args below meth c H locs 0 0 (MQ below (cQi D dA ad fv A Q) args s 0 0 A) (F0 m 0 ls []) := by
  have hx := S.1
  have hb := S.2.1
  have hown := S.2.2.2.1
  have hts := S.2.2.2.2
  unfold wpC_X0_markIn at h
  refine lv_iload_n hx hb dX0_markIn_0 rfl (lv_at hl 2 rfl) ?_
  refine lv_ldc hx hb hown (hts _ q614) dX0_markIn_1 ?_
  refine lv_icmp_ne (tgt := 31) hx hb dX0_markIn_3 (by decide) (fun c3 => ?_) (fun c3 => ?_)
  · replace h := if_f c3 h
    refine lv_aload_n hx hb dX0_markIn_31 rfl (lv_at hl 0 rfl) ?_
    have hk32_0 := h.1
    replace h := h.2
    refine c_calli hw (va_runV (As := []) (rest := []) S (ctC_X4_isFloats l D dA ad fv A a x0 _ h) (cwC_X0_X4_isFloats hts ⟨Nat.le_of_ble_eq_true rfl, Nat.le_of_ble_eq_true rfl⟩) (c_preV hw (n := x0) hk32_0.ok (hk32_0.isO _) rfl) rfl rfl hl.1 rfl (lv_room (Nat.le_of_ble_eq_true rfl)) dX0_markIn_32 ⟨Nat.le_of_ble_eq_true rfl, Nat.le_of_ble_eq_true rfl⟩) (fun r32 a32 H locs h hw => ?_)
    refine lv_if_eq (tgt := 54) hx hb dX0_markIn_35 (by decide) (fun c35 => ?_) (fun c35 => ?_)
    · replace h := if_t c35 h
      exact wkC_X0_markIn_54 S hr hlk Q x0 x1 x2 _ _ _ _ h hw (lv_sub hl [0, 1, 2] rfl)
    · replace h := if_f c35 h
      refine lv_iload_n hx hb dX0_markIn_38 rfl (lv_at hl 2 rfl) ?_
      refine lv_ldcw hx hb hown (hts _ q1147) dX0_markIn_39 ?_
      refine lv_ldcw hx hb hown (hts _ q1148) dX0_markIn_42 ?_
      refine c_calli hw (va_runS (As := [.int x2, .int (-99999 : Int32), .int (99999 : Int32)]) (rest := []) S (ctC_X0_isIn l D dA ad fv A a32 x2 (-99999 : Int32) (99999 : Int32) _ h) (cwC_X0_X0_isIn hts ⟨Nat.le_of_ble_eq_true rfl, Nat.le_of_ble_eq_true rfl⟩) (c_preS hw) rfl rfl hl.1 rfl (lv_room (Nat.le_of_ble_eq_true rfl)) dX0_markIn_45 ⟨Nat.le_of_ble_eq_true rfl, Nat.le_of_ble_eq_true rfl⟩) (fun r45 a45 H locs h hw => ?_)
      refine lv_if_ne (tgt := 54) hx hb dX0_markIn_48 (by decide) (fun c48 => ?_) (fun c48 => ?_)
      · replace h := if_f c48 h
        exact wkC_X0_markIn_54 S hr hlk Q x0 x1 x2 _ _ _ _ h hw (lv_sub hl [0, 1, 2] rfl)
      · replace h := if_t c48 h
        refine lv_ldc hx hb hown (hts _ q435) dX0_markIn_51 ?_
        exact c_iret S hr hlk hw h dX0_markIn_53
  · replace h := if_t c3 h
    refine lv_aload_n hx hb dX0_markIn_6 rfl (lv_at hl 0 rfl) ?_
    have hk7_0 := h.1
    replace h := h.2
    refine c_calli hw (va_runV (As := []) (rest := []) S (ctC_X4_isFloats l D dA ad fv A a x0 _ h) (cwC_X0_X4_isFloats hts ⟨Nat.le_of_ble_eq_true rfl, Nat.le_of_ble_eq_true rfl⟩) (c_preV hw (n := x0) hk7_0.ok (hk7_0.isO _) rfl) rfl rfl hl.1 rfl (lv_room (Nat.le_of_ble_eq_true rfl)) dX0_markIn_7 ⟨Nat.le_of_ble_eq_true rfl, Nat.le_of_ble_eq_true rfl⟩) (fun r7 a7 H locs h hw => ?_)
    refine lv_if_ne (tgt := 17) hx hb dX0_markIn_10 (by decide) (fun c10 => ?_) (fun c10 => ?_)
    · replace h := if_f c10 h
      refine lv_aload_n hx hb dX0_markIn_17 rfl (lv_at hl 0 rfl) ?_
      have hk18_1 := h.1
      replace h := h.2
      have hk18_2 := h.1
      replace h := h.2
      refine c_getr S hw (n := x0) (x := (a7.2.1 x0 0)) hk18_1.ok (hk18_1.isO _) rfl in_X4 0 (by decide) (Or.inr (List.mem_of_getElem? (i := 25) rfl)) rfl rfl hk18_2.ne dX0_markIn_18 ?_
      have hk21_3 := h.1
      replace h := h.2
      refine c_cast S hw (hk21_3.obj (by decide)) q1145 (Or.inl (hk21_3.kcls rfl)) dX0_markIn_21 ?_
      refine lv_iload_n hx hb dX0_markIn_24 rfl (lv_at hl 1 rfl) ?_
      refine lv_ldcwf hx hb hown (hts _ q1146) dX0_markIn_25 ?_
      have hi28 := h.1
      replace h := h.2
      refine c_fast S hw (n := (a7.2.1 x0 0)) (hk21_3.ok (by decide)) (isG_d hk21_3) hi28 dX0_markIn_28 (fun a28 H locs ea28 hw => ?_)
      replace h := h a28 ea28
      refine lv_iconst (v := (1 : Int32)) hx hb dX0_markIn_29 (by decide) ?_
      exact c_iret S hr hlk hw h dX0_markIn_30
    · replace h := if_t c10 h
      refine lv_ldcw hx hb hown (hts _ q883) dX0_markIn_13 ?_
      exact c_iret S hr hlk hw h dX0_markIn_16
theorem ctC_X0_markIn (l : Launch) (D : va_G) (dA : Nat → ClassId) (ad : Nat → Nat) (fv : Nat → Value) (A : Nat → Prop) (a : CS) (x0 : Nat) (x1 : Int32) (x2 : Int32) (Q : Int32 → CS → Prop) (h : wpC_X0_markIn a x0 x1 x2 Q) : Met l yX0_markIn (ws_ yX0_markIn cX0_markIn 3 (some .int)) rmC_X0_markIn (cPc D dA ad fv A a [.ref (ad x0), .int x1, .int x2]) (cQi D dA ad fv A Q) 0 0 A :=
  c_met (by decide) rfl rfl rfl (Nat.le_of_ble_eq_true rfl) (fun p e s m below meth c ls S hr hlk hin2 hw hl => wkC_X0_markIn_e S hr hlk Q x0 x1 x2 a _ _ ls h hw hl)
theorem cwC_X0_X0_markIn {R : Room} {s : State} {args : Array Value} {rm : Room} (hts : ∀ w ∈ lw_all, w.before args s = true) (hR : rm.frames + 1 ≤ R.frames ∧ 8 + (3 + 11) + rm.locals ≤ R.locals) (hc : rm.cells = 0 := by rfl) (hs : rm.slots = 0 := by rfl) : CallB R s args RX0 520 yX0_markIn cX0_markIn 3 (some .int) (ws_ yX0_markIn cX0_markIn 3 (some .int)) rm 0 0 3 ∧ (Cond.static yX0_markIn).before args s = true :=
  va_cwS 3 hts (lw_S q1141 q1142 q103 q1143) rfl hc hs (by decide +kernel) hR
/-! X0.mark -/
abbrev rmC_X0_mark : Room := { frames := 3, cells := 0, slots := 0, locals := 64 }
def wpC_X0_mark (a : CS) (x1 : Int32) (x2 : Int32) (x3 : Int32) (Q : Int32 → CS → Prop) : Prop := wpC_X0_isSheet a x1 (fun r1 a1 => if r1 = 0 then (Q (-1000000001 : Int32) a1) else ((vp_in x1 4) ∧ (wpC_X4_isThere a1 (x1.toNatClampNeg + 86) (fun r20 a20 => if r20 = 0 then (Q (-1000000011 : Int32) a20) else (wpC_X4_size a20 (x1.toNatClampNeg + 86) (fun r34 a34 => wpC_X0_isIn a34 x2 (0 : Int32) (r34 - (1 : Int32)) (fun r39 a39 => if r39 = 0 then (Q (-1000000013 : Int32) a39) else (wpC_X0_markIn a39 (x1.toNatClampNeg + 86) x2 x3 (fun r49 a49 => Q r49 a49)))))))))
set_option maxHeartbeats 4000000 in
set_option maxRecDepth 100000 in
theorem wkC_X0_mark_e (S : CallFix p m c cX0_mark 5 s args lw_all RX0) (hr : meth.sig.returnType = (some .int)) (hlk : meth.locks = false) (Q : Int32 → CS → Prop) (x1 : Int32) (x2 : Int32) (x3 : Int32) (a : CS) (H : Heap) (locs : List Loc) (ls : Array Slot) (h : wpC_X0_mark a x1 x2 x3 Q) (hw : CW D dA ad fv A a s H locs) (hl : lv_has ls 5 [(0, .ref (ad 0)), (1, .int x1), (2, .int x2), (3, .int x3)]) : W p l e rmC_X0_mark s m args below meth c H locs 0 0 (MQ below (cQi D dA ad fv A Q) args s 0 0 A) (F0 m 0 ls []) := by
  have hx := S.1
  have hb := S.2.1
  have hown := S.2.2.2.1
  have hts := S.2.2.2.2
  unfold wpC_X0_mark at h
  refine lv_iload_n hx hb dX0_mark_0 rfl (lv_at hl 1 rfl) ?_
  refine c_calli hw (va_runS (As := [.int x1]) (rest := []) S (ctC_X0_isSheet l D dA ad fv A a x1 _ h) (cwC_X0_X0_isSheet hts ⟨Nat.le_of_ble_eq_true rfl, Nat.le_of_ble_eq_true rfl⟩) (c_preS hw) rfl rfl hl.1 rfl (lv_room (Nat.le_of_ble_eq_true rfl)) dX0_mark_1 ⟨Nat.le_of_ble_eq_true rfl, Nat.le_of_ble_eq_true rfl⟩) (fun r1 a1 H locs h hw => ?_)
  refine lv_if_ne (tgt := 10) hx hb dX0_mark_4 (by decide) (fun c4 => ?_) (fun c4 => ?_)
  · replace h := if_f c4 h
    refine lv_aload_n hx hb dX0_mark_10 rfl (lv_at hl 0 rfl) ?_
    refine c_get S hw (n := 0) (ci := 0) (cOk.s (by decide)) (isO_K _) rfl in_X0 25 (by decide) (Or.inl q349) rfl rfl dX0_mark_11 ?_
    refine lv_iload_n hx hb dX0_mark_14 rfl (lv_at hl 1 rfl) ?_
    have hi15 := h.1
    replace h := h.2
    refine c_aald S hw (n := 83) (t := 7) (len := 4) (r := fun j => j + 86) (cOk.s (by decide)) rfl rfl hi15 (rv_n (by omega)) dX0_mark_15 ?_
    refine lv_astore (lv' := [(4, .ref (ad (x1.toNatClampNeg + 86))), (0, .ref (ad 0)), (1, .int x1), (2, .int x2), (3, .int x3)]) hx hb dX0_mark_16 hl (by decide) rfl (fun ls hl => ?_)
    refine lv_aload hx hb dX0_mark_18 (lv_at hl 0 rfl) ?_
    refine c_calli hw (va_runV (As := []) (rest := []) S (ctC_X4_isThere l D dA ad fv A a1 (x1.toNatClampNeg + 86) _ h) (cwC_X0_X4_isThere hts ⟨Nat.le_of_ble_eq_true rfl, Nat.le_of_ble_eq_true rfl⟩) (c_preV hw (n := (x1.toNatClampNeg + 86)) (cOk.s (mem_sheet (by omega) (by have := vin_lt hi15; omega))) ((isO_sh (by omega) (by have := vin_lt hi15; omega)) _) rfl) rfl rfl hl.1 rfl (lv_room (Nat.le_of_ble_eq_true rfl)) dX0_mark_20 ⟨Nat.le_of_ble_eq_true rfl, Nat.le_of_ble_eq_true rfl⟩) (fun r20 a20 H locs h hw => ?_)
    refine lv_if_ne (tgt := 30) hx hb dX0_mark_23 (by decide) (fun c23 => ?_) (fun c23 => ?_)
    · replace h := if_f c23 h
      refine lv_iload_n hx hb dX0_mark_30 rfl (lv_at hl 3 rfl) ?_
      refine lv_iconst (v := (0 : Int32)) hx hb dX0_mark_31 (by decide) ?_
      refine lv_aload hx hb dX0_mark_32 (lv_at hl 0 rfl) ?_
      refine c_calli hw (va_runV (As := []) (rest := [.int (0 : Int32), .int x2]) S (ctC_X4_size l D dA ad fv A a20 (x1.toNatClampNeg + 86) _ h) (cwC_X0_X4_size hts ⟨Nat.le_of_ble_eq_true rfl, Nat.le_of_ble_eq_true rfl⟩) (c_preV hw (n := (x1.toNatClampNeg + 86)) (cOk.s (mem_sheet (by omega) (by have := vin_lt hi15; omega))) ((isO_sh (by omega) (by have := vin_lt hi15; omega)) _) rfl) rfl rfl hl.1 rfl (lv_room (Nat.le_of_ble_eq_true rfl)) dX0_mark_34 ⟨Nat.le_of_ble_eq_true rfl, Nat.le_of_ble_eq_true rfl⟩) (fun r34 a34 H locs h hw => ?_)
      refine lv_iconst (v := (1 : Int32)) hx hb dX0_mark_37 (by decide) ?_
      refine lv_isub hx hb dX0_mark_38 ?_
      refine c_calli hw (va_runS (As := [.int x2, .int (0 : Int32), .int (r34 - (1 : Int32))]) (rest := []) S (ctC_X0_isIn l D dA ad fv A a34 x2 (0 : Int32) (r34 - (1 : Int32)) _ h) (cwC_X0_X0_isIn hts ⟨Nat.le_of_ble_eq_true rfl, Nat.le_of_ble_eq_true rfl⟩) (c_preS hw) rfl rfl hl.1 rfl (lv_room (Nat.le_of_ble_eq_true rfl)) dX0_mark_39 ⟨Nat.le_of_ble_eq_true rfl, Nat.le_of_ble_eq_true rfl⟩) (fun r39 a39 H locs h hw => ?_)
      refine lv_if_eq (tgt := 55) hx hb dX0_mark_42 (by decide) (fun c42 => ?_) (fun c42 => ?_)
      · replace h := if_t c42 h
        refine lv_ldcw hx hb hown (hts _ q1153) dX0_mark_55 ?_
        exact c_iret S hr hlk hw h dX0_mark_58
      · replace h := if_f c42 h
        refine lv_aload hx hb dX0_mark_45 (lv_at hl 0 rfl) ?_
        refine lv_iload_n hx hb dX0_mark_47 rfl (lv_at hl 3 rfl) ?_
        refine lv_iload_n hx hb dX0_mark_48 rfl (lv_at hl 4 rfl) ?_
        refine c_calli hw (va_runS (As := [.ref (ad (x1.toNatClampNeg + 86)), .int x2, .int x3]) (rest := []) S (ctC_X0_markIn l D dA ad fv A a39 (x1.toNatClampNeg + 86) x2 x3 _ h) (cwC_X0_X0_markIn hts ⟨Nat.le_of_ble_eq_true rfl, Nat.le_of_ble_eq_true rfl⟩) (c_preS hw) rfl rfl hl.1 rfl (lv_room (Nat.le_of_ble_eq_true rfl)) dX0_mark_49 ⟨Nat.le_of_ble_eq_true rfl, Nat.le_of_ble_eq_true rfl⟩) (fun r49 a49 H locs h hw => ?_)
        refine lv_goto (tgt := 58) hx hb dX0_mark_52 (by decide) ?_
        exact c_iret S hr hlk hw h dX0_mark_58
    · replace h := if_t c23 h
      refine lv_ldcw hx hb hown (hts _ q1130) dX0_mark_26 ?_
      exact c_iret S hr hlk hw h dX0_mark_29
  · replace h := if_t c4 h
    refine lv_ldc hx hb hown (hts _ q435) dX0_mark_7 ?_
    exact c_iret S hr hlk hw h dX0_mark_9
theorem ctC_X0_mark (l : Launch) (D : va_G) (dA : Nat → ClassId) (ad : Nat → Nat) (fv : Nat → Value) (A : Nat → Prop) (a : CS) (x1 : Int32) (x2 : Int32) (x3 : Int32) (Q : Int32 → CS → Prop) (h : wpC_X0_mark a x1 x2 x3 Q) : Met l yX0_mark (ws_ yX0_mark cX0_mark 5 (some .int)) rmC_X0_mark (cPc D dA ad fv A a [.ref (ad 0), .int x1, .int x2, .int x3]) (cQi D dA ad fv A Q) 0 0 A :=
  c_met (by decide) rfl rfl rfl (Nat.le_of_ble_eq_true rfl) (fun p e s m below meth c ls S hr hlk hin2 hw hl => wkC_X0_mark_e S hr hlk Q x1 x2 x3 a _ _ ls h hw hl)
/-! X0.pour -/
abbrev rmC_X0_pour : Room := { frames := 2, cells := 0, slots := 0, locals := 43 }
def bkC_X0_pour_30 (Q : Int32 → CS → Prop) (x1 : Int32) : Nat → Nat → Int32 → CS → Prop
  | 0 => fun _ _ _ => False
  | n + 1 => fun x2 x3 a => (shK a x2) ∧ (wpC_X4_size a x2 (fun r32 a32 => if r32 ≤ x3 then (Q x3 a32) else ((shK a32 x2) ∧ (wpC_X4_isNumber a32 x2 x3 (fun r40 a40 => if r40 = 0 then (Q x3 a40) else ((shK a40 x2) ∧ (wpC_X4_at a40 x2 x3 (fun r49 a49 => wpC_X0_isLeaf a49 r49 (fun r52 a52 => if r52 = 0 then (Q x3 a52) else (if (a52.1 1 6) = (24 : Int32) then (Q x3 a52) else ((shK a52 x2) ∧ (wpC_X4_at a52 x2 x3 (fun r89 a89 => (vp_in (a52.1 1 6) 24) ∧ (∀ a92 : CS, a92 = wI a89 51 (a52.1 1 6).toNatClampNeg r89 → (∀ a103 : CS, a103 = wI a92 1 6 ((a92.1 1 6) + (1 : Int32)) → (bkC_X0_pour_30 Q x1 n x2 (x3 + (1 : Int32)) a103))))))))))))))))
set_option maxHeartbeats 4000000 in
set_option maxRecDepth 100000 in
theorem wkC_X0_pour_30 (S : CallFix p m c cX0_pour 4 s args lw_all RX0) (hr : meth.sig.returnType = (some .int)) (hlk : meth.locks = false) (Q : Int32 → CS → Prop) (x1 : Int32) : ∀ (n : Nat) (x2 : Nat) (x3 : Int32) (a : CS) (H : Heap) (locs : List Loc) (ls : Array Slot), bkC_X0_pour_30 Q x1 n x2 x3 a → CW D dA ad fv A a s H locs → lv_has ls 4 [(0, .ref (ad 0)), (2, .ref (ad x2)), (3, .int x3)] → W p l e rmC_X0_pour s m args below meth c H locs 0 0 (MQ below (cQi D dA ad fv A Q) args s 0 0 A) (F0 m 30 ls []) := by
  have hx := S.1
  have hb := S.2.1
  have hown := S.2.2.2.1
  have hts := S.2.2.2.2
  intro n
  induction n with
  | zero =>
    intro x2 x3 a H locs ls h
    exact False.elim h
  | succ n ih =>
    intro x2 x3 a H locs ls h hw hl
    unfold bkC_X0_pour_30 at h
    refine lv_iload_n hx hb dX0_pour_30 rfl (lv_at hl 2 rfl) ?_
    refine lv_aload_n hx hb dX0_pour_31 rfl (lv_at hl 1 rfl) ?_
    have hk32_0 := h.1
    replace h := h.2
    refine c_calli hw (va_runV (As := []) (rest := [.int x3]) S (ctC_X4_size l D dA ad fv A a x2 _ h) (cwC_X0_X4_size hts ⟨Nat.le_of_ble_eq_true rfl, Nat.le_of_ble_eq_true rfl⟩) (c_preV hw (n := x2) hk32_0.ok (hk32_0.isO _) rfl) rfl rfl hl.1 rfl (lv_room (Nat.le_of_ble_eq_true rfl)) dX0_pour_32 ⟨Nat.le_of_ble_eq_true rfl, Nat.le_of_ble_eq_true rfl⟩) (fun r32 a32 H locs h hw => ?_)
    refine lv_icmp_ge (tgt := 112) hx hb dX0_pour_35 (by decide) (fun c35 => ?_) (fun c35 => ?_)
    · replace h := if_t c35 h
      refine lv_iload_n hx hb dX0_pour_112 rfl (lv_at hl 2 rfl) ?_
      exact c_iret S hr hlk hw h dX0_pour_113
    · replace h := if_f c35 h
      refine lv_aload_n hx hb dX0_pour_38 rfl (lv_at hl 1 rfl) ?_
      refine lv_iload_n hx hb dX0_pour_39 rfl (lv_at hl 2 rfl) ?_
      have hk40_1 := h.1
      replace h := h.2
      refine c_calli hw (va_runV (As := [.int x3]) (rest := []) S (ctC_X4_isNumber l D dA ad fv A a32 x2 x3 _ h) (cwC_X0_X4_isNumber hts ⟨Nat.le_of_ble_eq_true rfl, Nat.le_of_ble_eq_true rfl⟩) (c_preV hw (n := x2) hk40_1.ok (hk40_1.isO _) rfl) rfl rfl hl.1 rfl (lv_room (Nat.le_of_ble_eq_true rfl)) dX0_pour_40 ⟨Nat.le_of_ble_eq_true rfl, Nat.le_of_ble_eq_true rfl⟩) (fun r40 a40 H locs h hw => ?_)
      refine lv_if_eq (tgt := 112) hx hb dX0_pour_43 (by decide) (fun c43 => ?_) (fun c43 => ?_)
      · replace h := if_t c43 h
        refine lv_iload_n hx hb dX0_pour_112 rfl (lv_at hl 2 rfl) ?_
        exact c_iret S hr hlk hw h dX0_pour_113
      · replace h := if_f c43 h
        refine lv_aload_n hx hb dX0_pour_46 rfl (lv_at hl 0 rfl) ?_
        refine lv_aload_n hx hb dX0_pour_47 rfl (lv_at hl 1 rfl) ?_
        refine lv_iload_n hx hb dX0_pour_48 rfl (lv_at hl 2 rfl) ?_
        have hk49_2 := h.1
        replace h := h.2
        refine c_calli hw (va_runV (As := [.int x3]) (rest := [.ref (ad 0)]) S (ctC_X4_at l D dA ad fv A a40 x2 x3 _ h) (cwC_X0_X4_at hts ⟨Nat.le_of_ble_eq_true rfl, Nat.le_of_ble_eq_true rfl⟩) (c_preV hw (n := x2) hk49_2.ok (hk49_2.isO _) rfl) rfl rfl hl.1 rfl (lv_room (Nat.le_of_ble_eq_true rfl)) dX0_pour_49 ⟨Nat.le_of_ble_eq_true rfl, Nat.le_of_ble_eq_true rfl⟩) (fun r49 a49 H locs h hw => ?_)
        refine c_calli hw (va_runV (As := [.int r49]) (rest := []) S (ctC_X0_isLeaf l D dA ad fv A a49 r49 _ h) (cwC_X0_X0_isLeaf hts ⟨Nat.le_of_ble_eq_true rfl, Nat.le_of_ble_eq_true rfl⟩) (c_preV hw (n := 0) (cOk.s (by decide)) (isO_K _) rfl) rfl rfl hl.1 rfl (lv_room (Nat.le_of_ble_eq_true rfl)) dX0_pour_52 ⟨Nat.le_of_ble_eq_true rfl, Nat.le_of_ble_eq_true rfl⟩) (fun r52 a52 H locs h hw => ?_)
        refine lv_if_eq (tgt := 112) hx hb dX0_pour_55 (by decide) (fun c55 => ?_) (fun c55 => ?_)
        · replace h := if_t c55 h
          refine lv_iload_n hx hb dX0_pour_112 rfl (lv_at hl 2 rfl) ?_
          exact c_iret S hr hlk hw h dX0_pour_113
        · replace h := if_f c55 h
          refine lv_aload_n hx hb dX0_pour_58 rfl (lv_at hl 0 rfl) ?_
          refine c_get S hw (n := 0) (ci := 0) (cOk.s (by decide)) (isO_K _) rfl in_X0 0 (by decide) (Or.inl q324) rfl rfl dX0_pour_59 ?_
          refine c_get S hw (n := 1) (cOk.s (by decide)) ((isO_S (by decide) (by decide)) _) rfl in_X1 6 (by decide) (Or.inr (List.mem_of_getElem? (i := 17) rfl)) rfl rfl dX0_pour_62 ?_
          refine lv_bipush (v := (24 : Int32)) hx hb dX0_pour_65 (by decide) ?_
          refine lv_icmp_ne (tgt := 73) hx hb dX0_pour_67 (by decide) (fun c67 => ?_) (fun c67 => ?_)
          · replace h := if_f c67 h
            refine lv_aload_n hx hb dX0_pour_73 rfl (lv_at hl 0 rfl) ?_
            refine c_get S hw (n := 0) (ci := 0) (cOk.s (by decide)) (isO_K _) rfl in_X0 0 (by decide) (Or.inl q324) rfl rfl dX0_pour_74 ?_
            refine c_get S hw (n := 1) (cOk.s (by decide)) ((isO_S (by decide) (by decide)) _) rfl in_X1 7 (by decide) (Or.inr (List.mem_of_getElem? (i := 18) rfl)) rfl rfl dX0_pour_77 ?_
            refine lv_aload_n hx hb dX0_pour_80 rfl (lv_at hl 0 rfl) ?_
            refine c_get S hw (n := 0) (ci := 0) (cOk.s (by decide)) (isO_K _) rfl in_X0 0 (by decide) (Or.inl q324) rfl rfl dX0_pour_81 ?_
            refine c_get S hw (n := 1) (cOk.s (by decide)) ((isO_S (by decide) (by decide)) _) rfl in_X1 6 (by decide) (Or.inr (List.mem_of_getElem? (i := 17) rfl)) rfl rfl dX0_pour_84 ?_
            refine lv_aload_n hx hb dX0_pour_87 rfl (lv_at hl 1 rfl) ?_
            refine lv_iload_n hx hb dX0_pour_88 rfl (lv_at hl 2 rfl) ?_
            have hk89_3 := h.1
            replace h := h.2
            refine c_calli hw (va_runV (As := [.int x3]) (rest := [.int (a52.1 1 6), .ref (ad 51)]) S (ctC_X4_at l D dA ad fv A a52 x2 x3 _ h) (cwC_X0_X4_at hts ⟨Nat.le_of_ble_eq_true rfl, Nat.le_of_ble_eq_true rfl⟩) (c_preV hw (n := x2) hk89_3.ok (hk89_3.isO _) rfl) rfl rfl hl.1 rfl (lv_room (Nat.le_of_ble_eq_true rfl)) dX0_pour_89 ⟨Nat.le_of_ble_eq_true rfl, Nat.le_of_ble_eq_true rfl⟩) (fun r89 a89 H locs h hw => ?_)
            have hi92 := h.1
            replace h := h.2
            refine c_ast S hw (n := 51) (by decide) (cOk.s (by decide)) (isA_ask (by decide) (by decide)) hi92 (Or.inl ⟨rfl, rfl, dX0_pour_92⟩) (fun a92 H locs ea92 hw => ?_)
            replace h := h a92 ea92
            refine lv_aload_n hx hb dX0_pour_93 rfl (lv_at hl 0 rfl) ?_
            refine c_get S hw (n := 0) (ci := 0) (cOk.s (by decide)) (isO_K _) rfl in_X0 0 (by decide) (Or.inl q324) rfl rfl dX0_pour_94 ?_
            refine lv_dup hx hb dX0_pour_97 rfl ?_
            refine c_get S hw (n := 1) (cOk.s (by decide)) ((isO_S (by decide) (by decide)) _) rfl in_X1 6 (by decide) (Or.inr (List.mem_of_getElem? (i := 17) rfl)) rfl rfl dX0_pour_98 ?_
            refine lv_iconst (v := (1 : Int32)) hx hb dX0_pour_101 (by decide) ?_
            refine lv_iadd hx hb dX0_pour_102 ?_
            refine c_putI S hw (n := 1) (cOk.s (by decide)) (isO_S (by decide) (by decide)) rfl in_X1 tyX1 tyX1_ok nmX1 6 (by decide) (Or.inr (List.mem_of_getElem? (i := 17) rfl)) rfl rfl rfl rfl (Nat.le_of_ble_eq_true rfl) (fun _ => sset_6) dX0_pour_103 (fun a103 H locs ea103 hw => ?_)
            replace h := h a103 ea103
            refine lv_iinc (v := (x3 + (1 : Int32))) (lv' := [(3, .int (x3 + (1 : Int32))), (0, .ref (ad 0)), (2, .ref (ad x2))]) hx hb dX0_pour_106 hl (k := 2) rfl rfl (by decide) rfl (fun ls hl => ?_)
            refine lv_goto (tgt := 30) hx hb dX0_pour_109 (by decide) ?_
            exact ih _ _ _ _ _ _ h hw (lv_sub hl [1, 2, 0] rfl)
          · replace h := if_t c67 h
            refine lv_goto (tgt := 112) hx hb dX0_pour_70 (by decide) ?_
            refine lv_iload_n hx hb dX0_pour_112 rfl (lv_at hl 2 rfl) ?_
            exact c_iret S hr hlk hw h dX0_pour_113
def wpC_X0_pour (a : CS) (x1 : Int32) (Q : Int32 → CS → Prop) : Prop := wpC_X0_isSheet a x1 (fun r1 a1 => if r1 = 0 then (Q (-1000000001 : Int32) a1) else ((vp_in x1 4) ∧ (wpC_X4_isThere a1 (x1.toNatClampNeg + 86) (fun r18 a18 => if r18 = 0 then (Q (-1000000011 : Int32) a18) else (∃ n30, bkC_X0_pour_30 Q x1 n30 (x1.toNatClampNeg + 86) (0 : Int32) a18)))))
set_option maxHeartbeats 4000000 in
set_option maxRecDepth 100000 in
theorem wkC_X0_pour_e (S : CallFix p m c cX0_pour 4 s args lw_all RX0) (hr : meth.sig.returnType = (some .int)) (hlk : meth.locks = false) (Q : Int32 → CS → Prop) (x1 : Int32) (a : CS) (H : Heap) (locs : List Loc) (ls : Array Slot) (h : wpC_X0_pour a x1 Q) (hw : CW D dA ad fv A a s H locs) (hl : lv_has ls 4 [(0, .ref (ad 0)), (1, .int x1)]) : W p l e rmC_X0_pour s m args below meth c H locs 0 0 (MQ below (cQi D dA ad fv A Q) args s 0 0 A) (F0 m 0 ls []) := by
  have hx := S.1
  have hb := S.2.1
  have hown := S.2.2.2.1
  have hts := S.2.2.2.2
  unfold wpC_X0_pour at h
  refine lv_iload_n hx hb dX0_pour_0 rfl (lv_at hl 1 rfl) ?_
  refine c_calli hw (va_runS (As := [.int x1]) (rest := []) S (ctC_X0_isSheet l D dA ad fv A a x1 _ h) (cwC_X0_X0_isSheet hts ⟨Nat.le_of_ble_eq_true rfl, Nat.le_of_ble_eq_true rfl⟩) (c_preS hw) rfl rfl hl.1 rfl (lv_room (Nat.le_of_ble_eq_true rfl)) dX0_pour_1 ⟨Nat.le_of_ble_eq_true rfl, Nat.le_of_ble_eq_true rfl⟩) (fun r1 a1 H locs h hw => ?_)
  refine lv_if_ne (tgt := 10) hx hb dX0_pour_4 (by decide) (fun c4 => ?_) (fun c4 => ?_)
  · replace h := if_f c4 h
    refine lv_aload_n hx hb dX0_pour_10 rfl (lv_at hl 0 rfl) ?_
    refine c_get S hw (n := 0) (ci := 0) (cOk.s (by decide)) (isO_K _) rfl in_X0 25 (by decide) (Or.inl q349) rfl rfl dX0_pour_11 ?_
    refine lv_iload_n hx hb dX0_pour_14 rfl (lv_at hl 1 rfl) ?_
    have hi15 := h.1
    replace h := h.2
    refine c_aald S hw (n := 83) (t := 7) (len := 4) (r := fun j => j + 86) (cOk.s (by decide)) rfl rfl hi15 (rv_n (by omega)) dX0_pour_15 ?_
    refine lv_astore_n (lv' := [(2, .ref (ad (x1.toNatClampNeg + 86))), (0, .ref (ad 0)), (1, .int x1)]) hx hb dX0_pour_16 rfl hl (by decide) rfl (fun ls hl => ?_)
    refine lv_aload_n hx hb dX0_pour_17 rfl (lv_at hl 0 rfl) ?_
    refine c_calli hw (va_runV (As := []) (rest := []) S (ctC_X4_isThere l D dA ad fv A a1 (x1.toNatClampNeg + 86) _ h) (cwC_X0_X4_isThere hts ⟨Nat.le_of_ble_eq_true rfl, Nat.le_of_ble_eq_true rfl⟩) (c_preV hw (n := (x1.toNatClampNeg + 86)) (cOk.s (mem_sheet (by omega) (by have := vin_lt hi15; omega))) ((isO_sh (by omega) (by have := vin_lt hi15; omega)) _) rfl) rfl rfl hl.1 rfl (lv_room (Nat.le_of_ble_eq_true rfl)) dX0_pour_18 ⟨Nat.le_of_ble_eq_true rfl, Nat.le_of_ble_eq_true rfl⟩) (fun r18 a18 H locs h hw => ?_)
    refine lv_if_ne (tgt := 28) hx hb dX0_pour_21 (by decide) (fun c21 => ?_) (fun c21 => ?_)
    · replace h := if_f c21 h
      refine lv_iconst (v := (0 : Int32)) hx hb dX0_pour_28 (by decide) ?_
      refine lv_istore_n (lv' := [(3, .int (0 : Int32)), (2, .ref (ad (x1.toNatClampNeg + 86))), (0, .ref (ad 0)), (1, .int x1)]) hx hb dX0_pour_29 rfl hl (by decide) rfl (fun ls hl => ?_)
      obtain ⟨n30, h⟩ := h
      exact wkC_X0_pour_30 S hr hlk Q x1 n30 _ _ _ _ _ _ h hw (lv_sub hl [2, 1, 0] rfl)
    · replace h := if_t c21 h
      refine lv_ldcw hx hb hown (hts _ q1130) dX0_pour_24 ?_
      exact c_iret S hr hlk hw h dX0_pour_27
  · replace h := if_t c4 h
    refine lv_ldc hx hb hown (hts _ q435) dX0_pour_7 ?_
    exact c_iret S hr hlk hw h dX0_pour_9
theorem ctC_X0_pour (l : Launch) (D : va_G) (dA : Nat → ClassId) (ad : Nat → Nat) (fv : Nat → Value) (A : Nat → Prop) (a : CS) (x1 : Int32) (Q : Int32 → CS → Prop) (h : wpC_X0_pour a x1 Q) : Met l yX0_pour (ws_ yX0_pour cX0_pour 4 (some .int)) rmC_X0_pour (cPc D dA ad fv A a [.ref (ad 0), .int x1]) (cQi D dA ad fv A Q) 0 0 A :=
  c_met (by decide) rfl rfl rfl (Nat.le_of_ble_eq_true rfl) (fun p e s m below meth c ls S hr hlk hin2 hw hl => wkC_X0_pour_e S hr hlk Q x1 a _ _ ls h hw hl)
/-! X0.reads -/
abbrev rmC_X0_reads : Room := { frames := 2, cells := 0, slots := 0, locals := 43 }
def bkC_X0_reads_30 (Q : Int32 → CS → Prop) (x1 : Int32) : Nat → Nat → Int32 → CS → Prop
  | 0 => fun _ _ _ => False
  | n + 1 => fun x2 x3 a => (shK a x2) ∧ (wpC_X4_size a x2 (fun r32 a32 => if r32 ≤ x3 then (Q (-1000000005 : Int32) a32) else ((shK a32 x2) ∧ (wpC_X4_isNumber a32 x2 x3 (fun r40 a40 => if r40 = 0 then (bkC_X0_reads_30 Q x1 n x2 (x3 + (1 : Int32)) a40) else (wpC_X0_isLeaf a40 x3 (fun r48 a48 => if r48 = 0 then (Q x3 a48) else ((shK a48 x2) ∧ (wpC_X4_at a48 x2 x3 (fun r56 a56 => (vp_in x3 8) ∧ (if r56 = (a56.1 ((a56.2.1 0 5) + 30) x3.toNatClampNeg) then (bkC_X0_reads_30 Q x1 n x2 (x3 + (1 : Int32)) a56) else (Q x3 a56))))))))))))
set_option maxHeartbeats 4000000 in
set_option maxRecDepth 100000 in
theorem wkC_X0_reads_30 (S : CallFix p m c cX0_reads 4 s args lw_all RX0) (hr : meth.sig.returnType = (some .int)) (hlk : meth.locks = false) (Q : Int32 → CS → Prop) (x1 : Int32) : ∀ (n : Nat) (x2 : Nat) (x3 : Int32) (a : CS) (H : Heap) (locs : List Loc) (ls : Array Slot), bkC_X0_reads_30 Q x1 n x2 x3 a → CW D dA ad fv A a s H locs → lv_has ls 4 [(0, .ref (ad 0)), (2, .ref (ad x2)), (3, .int x3)] → W p l e rmC_X0_reads s m args below meth c H locs 0 0 (MQ below (cQi D dA ad fv A Q) args s 0 0 A) (F0 m 30 ls []) := by
  have hx := S.1
  have hb := S.2.1
  have hown := S.2.2.2.1
  have hts := S.2.2.2.2
  intro n
  induction n with
  | zero =>
    intro x2 x3 a H locs ls h
    exact False.elim h
  | succ n ih =>
    intro x2 x3 a H locs ls h hw hl
    unfold bkC_X0_reads_30 at h
    refine lv_iload_n hx hb dX0_reads_30 rfl (lv_at hl 2 rfl) ?_
    refine lv_aload_n hx hb dX0_reads_31 rfl (lv_at hl 1 rfl) ?_
    have hk32_0 := h.1
    replace h := h.2
    refine c_calli hw (va_runV (As := []) (rest := [.int x3]) S (ctC_X4_size l D dA ad fv A a x2 _ h) (cwC_X0_X4_size hts ⟨Nat.le_of_ble_eq_true rfl, Nat.le_of_ble_eq_true rfl⟩) (c_preV hw (n := x2) hk32_0.ok (hk32_0.isO _) rfl) rfl rfl hl.1 rfl (lv_room (Nat.le_of_ble_eq_true rfl)) dX0_reads_32 ⟨Nat.le_of_ble_eq_true rfl, Nat.le_of_ble_eq_true rfl⟩) (fun r32 a32 H locs h hw => ?_)
    refine lv_icmp_ge (tgt := 79) hx hb dX0_reads_35 (by decide) (fun c35 => ?_) (fun c35 => ?_)
    · replace h := if_t c35 h
      refine lv_ldc hx hb hown (hts _ q614) dX0_reads_79 ?_
      exact c_iret S hr hlk hw h dX0_reads_81
    · replace h := if_f c35 h
      refine lv_aload_n hx hb dX0_reads_38 rfl (lv_at hl 1 rfl) ?_
      refine lv_iload_n hx hb dX0_reads_39 rfl (lv_at hl 2 rfl) ?_
      have hk40_1 := h.1
      replace h := h.2
      refine c_calli hw (va_runV (As := [.int x3]) (rest := []) S (ctC_X4_isNumber l D dA ad fv A a32 x2 x3 _ h) (cwC_X0_X4_isNumber hts ⟨Nat.le_of_ble_eq_true rfl, Nat.le_of_ble_eq_true rfl⟩) (c_preV hw (n := x2) hk40_1.ok (hk40_1.isO _) rfl) rfl rfl hl.1 rfl (lv_room (Nat.le_of_ble_eq_true rfl)) dX0_reads_40 ⟨Nat.le_of_ble_eq_true rfl, Nat.le_of_ble_eq_true rfl⟩) (fun r40 a40 H locs h hw => ?_)
      refine lv_if_eq (tgt := 73) hx hb dX0_reads_43 (by decide) (fun c43 => ?_) (fun c43 => ?_)
      · replace h := if_t c43 h
        refine lv_iinc (v := (x3 + (1 : Int32))) (lv' := [(3, .int (x3 + (1 : Int32))), (0, .ref (ad 0)), (2, .ref (ad x2))]) hx hb dX0_reads_73 hl (k := 2) rfl rfl (by decide) rfl (fun ls hl => ?_)
        refine lv_goto (tgt := 30) hx hb dX0_reads_76 (by decide) ?_
        exact ih _ _ _ _ _ _ h hw (lv_sub hl [1, 2, 0] rfl)
      · replace h := if_f c43 h
        refine lv_aload_n hx hb dX0_reads_46 rfl (lv_at hl 0 rfl) ?_
        refine lv_iload_n hx hb dX0_reads_47 rfl (lv_at hl 2 rfl) ?_
        refine c_calli hw (va_runV (As := [.int x3]) (rest := []) S (ctC_X0_isLeaf l D dA ad fv A a40 x3 _ h) (cwC_X0_X0_isLeaf hts ⟨Nat.le_of_ble_eq_true rfl, Nat.le_of_ble_eq_true rfl⟩) (c_preV hw (n := 0) (cOk.s (by decide)) (isO_K _) rfl) rfl rfl hl.1 rfl (lv_room (Nat.le_of_ble_eq_true rfl)) dX0_reads_48 ⟨Nat.le_of_ble_eq_true rfl, Nat.le_of_ble_eq_true rfl⟩) (fun r48 a48 H locs h hw => ?_)
        refine lv_if_eq (tgt := 71) hx hb dX0_reads_51 (by decide) (fun c51 => ?_) (fun c51 => ?_)
        · replace h := if_t c51 h
          refine lv_iload_n hx hb dX0_reads_71 rfl (lv_at hl 2 rfl) ?_
          exact c_iret S hr hlk hw h dX0_reads_72
        · replace h := if_f c51 h
          refine lv_aload_n hx hb dX0_reads_54 rfl (lv_at hl 1 rfl) ?_
          refine lv_iload_n hx hb dX0_reads_55 rfl (lv_at hl 2 rfl) ?_
          have hk56_2 := h.1
          replace h := h.2
          refine c_calli hw (va_runV (As := [.int x3]) (rest := []) S (ctC_X4_at l D dA ad fv A a48 x2 x3 _ h) (cwC_X0_X4_at hts ⟨Nat.le_of_ble_eq_true rfl, Nat.le_of_ble_eq_true rfl⟩) (c_preV hw (n := x2) hk56_2.ok (hk56_2.isO _) rfl) rfl rfl hl.1 rfl (lv_room (Nat.le_of_ble_eq_true rfl)) dX0_reads_56 ⟨Nat.le_of_ble_eq_true rfl, Nat.le_of_ble_eq_true rfl⟩) (fun r56 a56 H locs h hw => ?_)
          refine lv_aload_n hx hb dX0_reads_59 rfl (lv_at hl 0 rfl) ?_
          refine c_getOn S hw (Or.inl q329) dX0_reads_60 (fun ho60 => ?_)
          refine c_get S hw (n := (a56.2.1 0 5)) (cOk.s (mem_sh ho60.1 ho60.2)) ((isO_H ho60.1 ho60.2) _) rfl in_X2 7 (by decide) (Or.inr (List.mem_of_getElem? (i := 10) rfl)) rfl rfl dX0_reads_63 ?_
          refine lv_iload_n hx hb dX0_reads_66 rfl (lv_at hl 2 rfl) ?_
          have hi67 := h.1
          replace h := h.2
          refine c_ald S hw (n := ((a56.2.1 0 5) + 30)) (cOk.s (mem_ti ho60.1 ho60.2)) (isA_8 (by have q1 := ho60.1; have q2 := ho60.2; omega) (by have q1 := ho60.1; have q2 := ho60.2; omega)) hi67 (Or.inl ⟨rfl, dX0_reads_67⟩) ?_
          refine lv_icmp_eq (tgt := 73) hx hb dX0_reads_68 (by decide) (fun c68 => ?_) (fun c68 => ?_)
          · replace h := if_t c68 h
            refine lv_iinc (v := (x3 + (1 : Int32))) (lv' := [(3, .int (x3 + (1 : Int32))), (0, .ref (ad 0)), (2, .ref (ad x2))]) hx hb dX0_reads_73 hl (k := 2) rfl rfl (by decide) rfl (fun ls hl => ?_)
            refine lv_goto (tgt := 30) hx hb dX0_reads_76 (by decide) ?_
            exact ih _ _ _ _ _ _ h hw (lv_sub hl [1, 2, 0] rfl)
          · replace h := if_f c68 h
            refine lv_iload_n hx hb dX0_reads_71 rfl (lv_at hl 2 rfl) ?_
            exact c_iret S hr hlk hw h dX0_reads_72
def wpC_X0_reads (a : CS) (x1 : Int32) (Q : Int32 → CS → Prop) : Prop := wpC_X0_isSheet a x1 (fun r1 a1 => if r1 = 0 then (Q (-1000000001 : Int32) a1) else ((vp_in x1 4) ∧ (wpC_X4_isThere a1 (x1.toNatClampNeg + 86) (fun r18 a18 => if r18 = 0 then (Q (-1000000011 : Int32) a18) else (∃ n30, bkC_X0_reads_30 Q x1 n30 (x1.toNatClampNeg + 86) (0 : Int32) a18)))))
set_option maxHeartbeats 4000000 in
set_option maxRecDepth 100000 in
theorem wkC_X0_reads_e (S : CallFix p m c cX0_reads 4 s args lw_all RX0) (hr : meth.sig.returnType = (some .int)) (hlk : meth.locks = false) (Q : Int32 → CS → Prop) (x1 : Int32) (a : CS) (H : Heap) (locs : List Loc) (ls : Array Slot) (h : wpC_X0_reads a x1 Q) (hw : CW D dA ad fv A a s H locs) (hl : lv_has ls 4 [(0, .ref (ad 0)), (1, .int x1)]) : W p l e rmC_X0_reads s m args below meth c H locs 0 0 (MQ below (cQi D dA ad fv A Q) args s 0 0 A) (F0 m 0 ls []) := by
  have hx := S.1
  have hb := S.2.1
  have hown := S.2.2.2.1
  have hts := S.2.2.2.2
  unfold wpC_X0_reads at h
  refine lv_iload_n hx hb dX0_reads_0 rfl (lv_at hl 1 rfl) ?_
  refine c_calli hw (va_runS (As := [.int x1]) (rest := []) S (ctC_X0_isSheet l D dA ad fv A a x1 _ h) (cwC_X0_X0_isSheet hts ⟨Nat.le_of_ble_eq_true rfl, Nat.le_of_ble_eq_true rfl⟩) (c_preS hw) rfl rfl hl.1 rfl (lv_room (Nat.le_of_ble_eq_true rfl)) dX0_reads_1 ⟨Nat.le_of_ble_eq_true rfl, Nat.le_of_ble_eq_true rfl⟩) (fun r1 a1 H locs h hw => ?_)
  refine lv_if_ne (tgt := 10) hx hb dX0_reads_4 (by decide) (fun c4 => ?_) (fun c4 => ?_)
  · replace h := if_f c4 h
    refine lv_aload_n hx hb dX0_reads_10 rfl (lv_at hl 0 rfl) ?_
    refine c_get S hw (n := 0) (ci := 0) (cOk.s (by decide)) (isO_K _) rfl in_X0 25 (by decide) (Or.inl q349) rfl rfl dX0_reads_11 ?_
    refine lv_iload_n hx hb dX0_reads_14 rfl (lv_at hl 1 rfl) ?_
    have hi15 := h.1
    replace h := h.2
    refine c_aald S hw (n := 83) (t := 7) (len := 4) (r := fun j => j + 86) (cOk.s (by decide)) rfl rfl hi15 (rv_n (by omega)) dX0_reads_15 ?_
    refine lv_astore_n (lv' := [(2, .ref (ad (x1.toNatClampNeg + 86))), (0, .ref (ad 0)), (1, .int x1)]) hx hb dX0_reads_16 rfl hl (by decide) rfl (fun ls hl => ?_)
    refine lv_aload_n hx hb dX0_reads_17 rfl (lv_at hl 0 rfl) ?_
    refine c_calli hw (va_runV (As := []) (rest := []) S (ctC_X4_isThere l D dA ad fv A a1 (x1.toNatClampNeg + 86) _ h) (cwC_X0_X4_isThere hts ⟨Nat.le_of_ble_eq_true rfl, Nat.le_of_ble_eq_true rfl⟩) (c_preV hw (n := (x1.toNatClampNeg + 86)) (cOk.s (mem_sheet (by omega) (by have := vin_lt hi15; omega))) ((isO_sh (by omega) (by have := vin_lt hi15; omega)) _) rfl) rfl rfl hl.1 rfl (lv_room (Nat.le_of_ble_eq_true rfl)) dX0_reads_18 ⟨Nat.le_of_ble_eq_true rfl, Nat.le_of_ble_eq_true rfl⟩) (fun r18 a18 H locs h hw => ?_)
    refine lv_if_ne (tgt := 28) hx hb dX0_reads_21 (by decide) (fun c21 => ?_) (fun c21 => ?_)
    · replace h := if_f c21 h
      refine lv_iconst (v := (0 : Int32)) hx hb dX0_reads_28 (by decide) ?_
      refine lv_istore_n (lv' := [(3, .int (0 : Int32)), (2, .ref (ad (x1.toNatClampNeg + 86))), (0, .ref (ad 0)), (1, .int x1)]) hx hb dX0_reads_29 rfl hl (by decide) rfl (fun ls hl => ?_)
      obtain ⟨n30, h⟩ := h
      exact wkC_X0_reads_30 S hr hlk Q x1 n30 _ _ _ _ _ _ h hw (lv_sub hl [2, 1, 0] rfl)
    · replace h := if_t c21 h
      refine lv_ldcw hx hb hown (hts _ q1130) dX0_reads_24 ?_
      exact c_iret S hr hlk hw h dX0_reads_27
  · replace h := if_t c4 h
    refine lv_ldc hx hb hown (hts _ q435) dX0_reads_7 ?_
    exact c_iret S hr hlk hw h dX0_reads_9
theorem ctC_X0_reads (l : Launch) (D : va_G) (dA : Nat → ClassId) (ad : Nat → Nat) (fv : Nat → Value) (A : Nat → Prop) (a : CS) (x1 : Int32) (Q : Int32 → CS → Prop) (h : wpC_X0_reads a x1 Q) : Met l yX0_reads (ws_ yX0_reads cX0_reads 4 (some .int)) rmC_X0_reads (cPc D dA ad fv A a [.ref (ad 0), .int x1]) (cQi D dA ad fv A Q) 0 0 A :=
  c_met (by decide) rfl rfl rfl (Nat.le_of_ble_eq_true rfl) (fun p e s m below meth c ls S hr hlk hin2 hw hl => wkC_X0_reads_e S hr hlk Q x1 a _ _ ls h hw hl)
/-! X0.carries -/
abbrev rmC_X0_carries : Room := { frames := 1, cells := 0, slots := 0, locals := 38 }
def bkC_X0_carries_81 (Q : CS → Prop) (x1 : Nat) (x2 : Int32) (x3 : Nat) (x4 : Int32) (x5 : Int32) : Nat → Nat → Int32 → CS → Prop
  | 0 => fun _ _ _ => False
  | n + 1 => fun x7 x8 a => if x5 ≤ x8 then (Q a) else ((vp_in x8 24) ∧ ((kindK a x7 23) ∧ ((vp_in (x4 + x8) (a.2.2.1 x7).2) ∧ (∀ a102 : CS, a102 = wG a x7 (x4 + x8).toNatClampNeg (a.2.2.2 80 x8.toNatClampNeg) → (bkC_X0_carries_81 Q x1 x2 x3 x4 x5 n x7 (x8 + (1 : Int32)) a102)))))
set_option maxHeartbeats 4000000 in
set_option maxRecDepth 100000 in
theorem wkC_X0_carries_81 (S : CallFix p m c cX0_carries 9 s args lw_all RX0) (hr : meth.sig.returnType = none) (hlk : meth.locks = false) (Q : CS → Prop) (x1 : Nat) (x2 : Int32) (x3 : Nat) (x4 : Int32) (x5 : Int32) : ∀ (n : Nat) (x7 : Nat) (x8 : Int32) (a : CS) (H : Heap) (locs : List Loc) (ls : Array Slot), bkC_X0_carries_81 Q x1 x2 x3 x4 x5 n x7 x8 a → CW D dA ad fv A a s H locs → lv_has ls 9 [(0, .ref (ad 0)), (4, .int x4), (5, .int x5), (7, .ref (ad x7)), (8, .int x8)] → W p l e rmC_X0_carries s m args below meth c H locs 0 0 (MQ below (cQv D dA ad fv A Q) args s 0 0 A) (F0 m 81 ls []) := by
  have hx := S.1
  have hb := S.2.1
  have hown := S.2.2.2.1
  have hts := S.2.2.2.2
  intro n
  induction n with
  | zero =>
    intro x7 x8 a H locs ls h
    exact False.elim h
  | succ n ih =>
    intro x7 x8 a H locs ls h hw hl
    unfold bkC_X0_carries_81 at h
    refine lv_iload hx hb dX0_carries_81 (lv_at hl 4 rfl) ?_
    refine lv_iload hx hb dX0_carries_83 (lv_at hl 2 rfl) ?_
    refine lv_icmp_ge (tgt := 109) hx hb dX0_carries_85 (by decide) (fun c85 => ?_) (fun c85 => ?_)
    · replace h := if_t c85 h
      exact c_vret S hr hlk hw h dX0_carries_109
    · replace h := if_f c85 h
      refine lv_aload hx hb dX0_carries_88 (lv_at hl 3 rfl) ?_
      refine lv_iload hx hb dX0_carries_90 (lv_at hl 1 rfl) ?_
      refine lv_iload hx hb dX0_carries_92 (lv_at hl 4 rfl) ?_
      refine lv_iadd hx hb dX0_carries_94 ?_
      refine lv_aload_n hx hb dX0_carries_95 rfl (lv_at hl 0 rfl) ?_
      refine c_get S hw (n := 0) (ci := 0) (cOk.s (by decide)) (isO_K _) rfl in_X0 27 (by decide) (Or.inl q351) rfl rfl dX0_carries_96 ?_
      refine lv_iload hx hb dX0_carries_99 (lv_at hl 4 rfl) ?_
      have hi101 := h.1
      replace h := h.2
      refine c_fald S hw (n := 80) (cOk.s (by decide)) isG_80 hi101 dX0_carries_101 ?_
      have hk102_0 := h.1
      replace h := h.2
      have hi102 := h.1
      replace h := h.2
      refine c_fast S hw (n := x7) (hk102_0.ok (by decide)) (isG_d hk102_0) hi102 dX0_carries_102 (fun a102 H locs ea102 hw => ?_)
      replace h := h a102 ea102
      refine lv_iinc (v := (x8 + (1 : Int32))) (lv' := [(8, .int (x8 + (1 : Int32))), (0, .ref (ad 0)), (4, .int x4), (5, .int x5), (7, .ref (ad x7))]) hx hb dX0_carries_103 hl (k := 4) rfl rfl (by decide) rfl (fun ls hl => ?_)
      refine lv_goto (tgt := 81) hx hb dX0_carries_106 (by decide) ?_
      exact ih _ _ _ _ _ _ h hw (lv_sub hl [1, 2, 3, 4, 0] rfl)
def bkC_X0_carries_51 (Q : CS → Prop) (x1 : Nat) (x2 : Int32) (x3 : Nat) (x4 : Int32) (x5 : Int32) : Nat → Nat → Nat → Int32 → CS → Prop
  | 0 => fun _ _ _ _ => False
  | n + 1 => fun x6 x7 x8 a => if x5 ≤ x8 then (∃ n81, bkC_X0_carries_81 Q x1 x2 x3 x4 x5 n81 x7 (0 : Int32) a) else ((kindK a x6 23) ∧ ((vp_in (x2 + x8) (a.2.2.1 x6).2) ∧ ((vp_in x8 24) ∧ (∀ a71 : CS, a71 = wG a 80 x8.toNatClampNeg (a.2.2.2 x6 (x2 + x8).toNatClampNeg) → (bkC_X0_carries_51 Q x1 x2 x3 x4 x5 n x6 x7 (x8 + (1 : Int32)) a71)))))
set_option maxHeartbeats 4000000 in
set_option maxRecDepth 100000 in
theorem wkC_X0_carries_51 (S : CallFix p m c cX0_carries 9 s args lw_all RX0) (hr : meth.sig.returnType = none) (hlk : meth.locks = false) (Q : CS → Prop) (x1 : Nat) (x2 : Int32) (x3 : Nat) (x4 : Int32) (x5 : Int32) : ∀ (n : Nat) (x6 : Nat) (x7 : Nat) (x8 : Int32) (a : CS) (H : Heap) (locs : List Loc) (ls : Array Slot), bkC_X0_carries_51 Q x1 x2 x3 x4 x5 n x6 x7 x8 a → CW D dA ad fv A a s H locs → lv_has ls 9 [(0, .ref (ad 0)), (2, .int x2), (4, .int x4), (5, .int x5), (6, .ref (ad x6)), (7, .ref (ad x7)), (8, .int x8)] → W p l e rmC_X0_carries s m args below meth c H locs 0 0 (MQ below (cQv D dA ad fv A Q) args s 0 0 A) (F0 m 51 ls []) := by
  have hx := S.1
  have hb := S.2.1
  have hown := S.2.2.2.1
  have hts := S.2.2.2.2
  intro n
  induction n with
  | zero =>
    intro x6 x7 x8 a H locs ls h
    exact False.elim h
  | succ n ih =>
    intro x6 x7 x8 a H locs ls h hw hl
    unfold bkC_X0_carries_51 at h
    refine lv_iload hx hb dX0_carries_51 (lv_at hl 6 rfl) ?_
    refine lv_iload hx hb dX0_carries_53 (lv_at hl 3 rfl) ?_
    refine lv_icmp_ge (tgt := 78) hx hb dX0_carries_55 (by decide) (fun c55 => ?_) (fun c55 => ?_)
    · replace h := if_t c55 h
      refine lv_iconst (v := (0 : Int32)) hx hb dX0_carries_78 (by decide) ?_
      refine lv_istore (lv' := [(8, .int (0 : Int32)), (0, .ref (ad 0)), (2, .int x2), (4, .int x4), (5, .int x5), (6, .ref (ad x6)), (7, .ref (ad x7))]) hx hb dX0_carries_79 hl (by decide) rfl (fun ls hl => ?_)
      obtain ⟨n81, h⟩ := h
      exact wkC_X0_carries_81 S hr hlk Q x1 x2 x3 x4 x5 n81 _ _ _ _ _ _ h hw (lv_sub hl [1, 3, 4, 6, 0] rfl)
    · replace h := if_f c55 h
      refine lv_aload_n hx hb dX0_carries_58 rfl (lv_at hl 0 rfl) ?_
      refine c_get S hw (n := 0) (ci := 0) (cOk.s (by decide)) (isO_K _) rfl in_X0 27 (by decide) (Or.inl q351) rfl rfl dX0_carries_59 ?_
      refine lv_iload hx hb dX0_carries_62 (lv_at hl 6 rfl) ?_
      refine lv_aload hx hb dX0_carries_64 (lv_at hl 4 rfl) ?_
      refine lv_iload_n hx hb dX0_carries_66 rfl (lv_at hl 1 rfl) ?_
      refine lv_iload hx hb dX0_carries_67 (lv_at hl 6 rfl) ?_
      refine lv_iadd hx hb dX0_carries_69 ?_
      have hk70_0 := h.1
      replace h := h.2
      have hi70 := h.1
      replace h := h.2
      refine c_fald S hw (n := x6) (hk70_0.ok (by decide)) (isG_d hk70_0) hi70 dX0_carries_70 ?_
      have hi71 := h.1
      replace h := h.2
      refine c_fast S hw (n := 80) (cOk.s (by decide)) isG_80 hi71 dX0_carries_71 (fun a71 H locs ea71 hw => ?_)
      replace h := h a71 ea71
      refine lv_iinc (v := (x8 + (1 : Int32))) (lv' := [(8, .int (x8 + (1 : Int32))), (0, .ref (ad 0)), (2, .int x2), (4, .int x4), (5, .int x5), (6, .ref (ad x6)), (7, .ref (ad x7))]) hx hb dX0_carries_72 hl (k := 6) rfl rfl (by decide) rfl (fun ls hl => ?_)
      refine lv_goto (tgt := 51) hx hb dX0_carries_75 (by decide) ?_
      exact ih _ _ _ _ _ _ _ h hw (lv_sub hl [1, 2, 3, 4, 5, 6, 0] rfl)
def wpC_X0_carries (a : CS) (x1 : Nat) (x2 : Int32) (x3 : Nat) (x4 : Int32) (x5 : Int32) (Q : CS → Prop) : Prop := (shK a x1) ∧ (wpC_X4_isFloats a x1 (fun r1 a1 => if r1 = 0 then ((shK a1 x1) ∧ ((objK a1 (a1.2.1 x1 0)) ∧ ((kindK a1 (a1.2.1 x1 0) 24) ∧ ((shK a1 x3) ∧ ((objK a1 (a1.2.1 x3 0)) ∧ ((kindK a1 (a1.2.1 x3 0) 24) ∧ ((¬ x2 < 0 ∧ ¬ x4 < 0 ∧ ¬ x5 < 0 ∧ x2.toNatClampNeg + x5.toNatClampNeg ≤ (a1.2.2.1 (a1.2.1 x1 0)).2 ∧ x4.toNatClampNeg + x5.toNatClampNeg ≤ (a1.2.2.1 (a1.2.1 x3 0)).2 ∧ ∀ i, i < x5.toNatClampNeg → fits .short (.int (a1.1 (a1.2.1 x1 0) (x2.toNatClampNeg + i))) = true) ∧ (∀ a26 : CS, a26 = wC a1 (a1.2.1 x3 0) (va_cpy (a1.1 (a1.2.1 x1 0)) (a1.1 (a1.2.1 x3 0)) x2.toNatClampNeg x4.toNatClampNeg x5.toNatClampNeg) → (Q a26))))))))) else ((shK a1 x1) ∧ ((objK a1 (a1.2.1 x1 0)) ∧ ((kindK a1 (a1.2.1 x1 0) 23) ∧ ((shK a1 x3) ∧ ((objK a1 (a1.2.1 x3 0)) ∧ ((kindK a1 (a1.2.1 x3 0) 23) ∧ (∃ n51, bkC_X0_carries_51 Q x1 x2 x3 x4 x5 n51 (a1.2.1 x1 0) (a1.2.1 x3 0) (0 : Int32) a1)))))))))
set_option maxHeartbeats 4000000 in
set_option maxRecDepth 100000 in
theorem wkC_X0_carries_e (S : CallFix p m c cX0_carries 9 s args lw_all RX0) (hr : meth.sig.returnType = none) (hlk : meth.locks = false) (Q : CS → Prop) (x1 : Nat) (x2 : Int32) (x3 : Nat) (x4 : Int32) (x5 : Int32) (a : CS) (H : Heap) (locs : List Loc) (ls : Array Slot) (h : wpC_X0_carries a x1 x2 x3 x4 x5 Q) (hw : CW D dA ad fv A a s H locs) (hl : lv_has ls 9 [(0, .ref (ad 0)), (1, .ref (ad x1)), (2, .int x2), (3, .ref (ad x3)), (4, .int x4), (5, .int x5)]) : W p l e rmC_X0_carries s m args below meth c H locs 0 0 (MQ below (cQv D dA ad fv A Q) args s 0 0 A) (F0 m 0 ls []) := by
  have hx := S.1
  have hb := S.2.1
  have hown := S.2.2.2.1
  have hts := S.2.2.2.2
  unfold wpC_X0_carries at h
  refine lv_aload_n hx hb dX0_carries_0 rfl (lv_at hl 1 rfl) ?_
  have hk1_0 := h.1
  replace h := h.2
  refine c_calli hw (va_runV (As := []) (rest := []) S (ctC_X4_isFloats l D dA ad fv A a x1 _ h) (cwC_X0_X4_isFloats hts ⟨Nat.le_of_ble_eq_true rfl, Nat.le_of_ble_eq_true rfl⟩) (c_preV hw (n := x1) hk1_0.ok (hk1_0.isO _) rfl) rfl rfl hl.1 rfl (lv_room (Nat.le_of_ble_eq_true rfl)) dX0_carries_1 ⟨Nat.le_of_ble_eq_true rfl, Nat.le_of_ble_eq_true rfl⟩) (fun r1 a1 H locs h hw => ?_)
  refine lv_if_ne (tgt := 30) hx hb dX0_carries_4 (by decide) (fun c4 => ?_) (fun c4 => ?_)
  · replace h := if_f c4 h
    refine lv_aload_n hx hb dX0_carries_30 rfl (lv_at hl 1 rfl) ?_
    have hk31_1 := h.1
    replace h := h.2
    have hk31_2 := h.1
    replace h := h.2
    refine c_getr S hw (n := x1) (x := (a1.2.1 x1 0)) hk31_1.ok (hk31_1.isO _) rfl in_X4 0 (by decide) (Or.inr (List.mem_of_getElem? (i := 25) rfl)) rfl rfl hk31_2.ne dX0_carries_31 ?_
    have hk34_3 := h.1
    replace h := h.2
    refine c_cast S hw (hk34_3.obj (by decide)) q1145 (Or.inl (hk34_3.kcls rfl)) dX0_carries_34 ?_
    refine lv_astore (lv' := [(6, .ref (ad (a1.2.1 x1 0))), (0, .ref (ad 0)), (1, .ref (ad x1)), (2, .int x2), (3, .ref (ad x3)), (4, .int x4), (5, .int x5)]) hx hb dX0_carries_37 hl (by decide) rfl (fun ls hl => ?_)
    refine lv_aload_n hx hb dX0_carries_39 rfl (lv_at hl 4 rfl) ?_
    have hk40_4 := h.1
    replace h := h.2
    have hk40_5 := h.1
    replace h := h.2
    refine c_getr S hw (n := x3) (x := (a1.2.1 x3 0)) hk40_4.ok (hk40_4.isO _) rfl in_X4 0 (by decide) (Or.inr (List.mem_of_getElem? (i := 25) rfl)) rfl rfl hk40_5.ne dX0_carries_40 ?_
    have hk43_6 := h.1
    replace h := h.2
    refine c_cast S hw (hk43_6.obj (by decide)) q1145 (Or.inl (hk43_6.kcls rfl)) dX0_carries_43 ?_
    refine lv_astore (lv' := [(7, .ref (ad (a1.2.1 x3 0))), (6, .ref (ad (a1.2.1 x1 0))), (0, .ref (ad 0)), (1, .ref (ad x1)), (2, .int x2), (3, .ref (ad x3)), (4, .int x4), (5, .int x5)]) hx hb dX0_carries_46 hl (by decide) rfl (fun ls hl => ?_)
    refine lv_iconst (v := (0 : Int32)) hx hb dX0_carries_48 (by decide) ?_
    refine lv_istore (lv' := [(8, .int (0 : Int32)), (7, .ref (ad (a1.2.1 x3 0))), (6, .ref (ad (a1.2.1 x1 0))), (0, .ref (ad 0)), (1, .ref (ad x1)), (2, .int x2), (3, .ref (ad x3)), (4, .int x4), (5, .int x5)]) hx hb dX0_carries_49 hl (by decide) rfl (fun ls hl => ?_)
    obtain ⟨n51, h⟩ := h
    exact wkC_X0_carries_51 S hr hlk Q x1 x2 x3 x4 x5 n51 _ _ _ _ _ _ _ h hw (lv_sub hl [3, 5, 7, 8, 2, 1, 0] rfl)
  · replace h := if_t c4 h
    refine lv_aload_n hx hb dX0_carries_7 rfl (lv_at hl 1 rfl) ?_
    have hk8_1 := h.1
    replace h := h.2
    have hk8_2 := h.1
    replace h := h.2
    refine c_getr S hw (n := x1) (x := (a1.2.1 x1 0)) hk8_1.ok (hk8_1.isO _) rfl in_X4 0 (by decide) (Or.inr (List.mem_of_getElem? (i := 25) rfl)) rfl rfl hk8_2.ne dX0_carries_8 ?_
    have hk11_3 := h.1
    replace h := h.2
    refine c_cast S hw (hk11_3.obj (by decide)) q1178 (Or.inl (hk11_3.kcls rfl)) dX0_carries_11 ?_
    refine lv_iload_n hx hb dX0_carries_14 rfl (lv_at hl 2 rfl) ?_
    refine lv_aload_n hx hb dX0_carries_15 rfl (lv_at hl 3 rfl) ?_
    have hk16_4 := h.1
    replace h := h.2
    have hk16_5 := h.1
    replace h := h.2
    refine c_getr S hw (n := x3) (x := (a1.2.1 x3 0)) hk16_4.ok (hk16_4.isO _) rfl in_X4 0 (by decide) (Or.inr (List.mem_of_getElem? (i := 25) rfl)) rfl rfl hk16_5.ne dX0_carries_16 ?_
    have hk19_6 := h.1
    replace h := h.2
    refine c_cast S hw (hk19_6.obj (by decide)) q1178 (Or.inl (hk19_6.kcls rfl)) dX0_carries_19 ?_
    refine lv_iload hx hb dX0_carries_22 (lv_at hl 4 rfl) ?_
    refine lv_iload hx hb dX0_carries_24 (lv_at hl 5 rfl) ?_
    have hc26 := h.1
    replace h := h.2
    refine c_copys S hl.1 hw (f := (a1.2.1 x1 0)) (g := (a1.2.1 x3 0)) hk19_6.ne (hk11_3.ok (by decide)) (hk19_6.ok (by decide)) (isA_s hk11_3) (isA_s hk19_6) q1031 q1033 q1032 q122 hc26.1 hc26.2.1 hc26.2.2.1 hc26.2.2.2.1 hc26.2.2.2.2.1 hc26.2.2.2.2.2 (Nat.le_of_ble_eq_true rfl) (Nat.le_of_ble_eq_true rfl) dX0_carries_26 (fun a26 H locs ea26 hw => ?_)
    replace h := h a26 ea26
    exact c_vret S hr hlk hw h dX0_carries_29
theorem ctC_X0_carries (l : Launch) (D : va_G) (dA : Nat → ClassId) (ad : Nat → Nat) (fv : Nat → Value) (A : Nat → Prop) (a : CS) (x1 : Nat) (x2 : Int32) (x3 : Nat) (x4 : Int32) (x5 : Int32) (Q : CS → Prop) (h : wpC_X0_carries a x1 x2 x3 x4 x5 Q) : Met l yX0_carries (ws_ yX0_carries cX0_carries 9 none) rmC_X0_carries (cPc D dA ad fv A a [.ref (ad 0), .ref (ad x1), .int x2, .ref (ad x3), .int x4, .int x5]) (cQv D dA ad fv A Q) 0 0 A :=
  c_met (by decide) rfl rfl rfl (Nat.le_of_ble_eq_true rfl) (fun p e s m below meth c ls S hr hlk hin2 hw hl => wkC_X0_carries_e S hr hlk Q x1 x2 x3 x4 x5 a _ _ ls h hw hl)
theorem cwC_X0_X0_carries {R : Room} {s : State} {args : Array Value} {rm : Room} (hts : ∀ w ∈ lw_all, w.before args s = true) (hR : rm.frames + 1 ≤ R.frames ∧ 8 + (9 + 11) + rm.locals ≤ R.locals) (hc : rm.cells = 0 := by rfl) (hs : rm.slots = 0 := by rfl) : CallW R s args RX0 RX0 533 yX0_carries cX0_carries 9 none (ws_ yX0_carries cX0_carries 9 none) rm 0 0 5 :=
  cwV 5 hts (lw_V q1174 q1176 qs45 q103 q1177) rfl hc hs (by decide +kernel) hR
/-! X0.copy -/
abbrev rmC_X0_copy : Room := { frames := 2, cells := 0, slots := 0, locals := 66 }
def wpC_X0_copy (a : CS) (x1 : Int32) (x2 : Int32) (x3 : Int32) (x4 : Int32) (x5 : Int32) (Q : Int32 → CS → Prop) : Prop := wpC_X0_isSheet a x1 (fun r1 a1 => if r1 = 0 then (Q (-1000000001 : Int32) a1) else (wpC_X0_isSheet a1 x3 (fun r8 a8 => if r8 = 0 then (Q (-1000000001 : Int32) a8) else ((vp_in x1 4) ∧ ((vp_in x3 4) ∧ (wpC_X4_isThere a8 (x1.toNatClampNeg + 86) (fun r35 a35 => if r35 = 0 then (Q (-1000000011 : Int32) a35) else (wpC_X4_isThere a35 (x3.toNatClampNeg + 86) (fun r43 a43 => if r43 = 0 then (Q (-1000000011 : Int32) a43) else (wpC_X4_isFloats a43 (x1.toNatClampNeg + 86) (fun r55 a55 => wpC_X4_isFloats a55 (x3.toNatClampNeg + 86) (fun r60 a60 => if r55 = r60 then (if x2 < 0 then (Q (-1000000013 : Int32) a60) else (if x4 < 0 then (Q (-1000000013 : Int32) a60) else (if x5 < 0 then (Q (-1000000013 : Int32) a60) else (wpC_X4_size a60 (x1.toNatClampNeg + 86) (fun r87 a87 => if (r87 - x5) < x2 then (Q (-1000000013 : Int32) a87) else (wpC_X4_size a87 (x3.toNatClampNeg + 86) (fun r100 a100 => if x4 ≤ (r100 - x5) then (wpC_X0_carries a100 (x1.toNatClampNeg + 86) x2 (x3.toNatClampNeg + 86) x4 x5 (fun a123 => Q x5 a123)) else (Q (-1000000013 : Int32) a100)))))))) else (Q (-1000000012 : Int32) a60)))))))))))))
set_option maxHeartbeats 4000000 in
set_option maxRecDepth 100000 in
theorem wkC_X0_copy_e (S : CallFix p m c cX0_copy 8 s args lw_all RX0) (hr : meth.sig.returnType = (some .int)) (hlk : meth.locks = false) (Q : Int32 → CS → Prop) (x1 : Int32) (x2 : Int32) (x3 : Int32) (x4 : Int32) (x5 : Int32) (a : CS) (H : Heap) (locs : List Loc) (ls : Array Slot) (h : wpC_X0_copy a x1 x2 x3 x4 x5 Q) (hw : CW D dA ad fv A a s H locs) (hl : lv_has ls 8 [(0, .ref (ad 0)), (1, .int x1), (2, .int x2), (3, .int x3), (4, .int x4), (5, .int x5)]) : W p l e rmC_X0_copy s m args below meth c H locs 0 0 (MQ below (cQi D dA ad fv A Q) args s 0 0 A) (F0 m 0 ls []) := by
  have hx := S.1
  have hb := S.2.1
  have hown := S.2.2.2.1
  have hts := S.2.2.2.2
  unfold wpC_X0_copy at h
  refine lv_iload_n hx hb dX0_copy_0 rfl (lv_at hl 1 rfl) ?_
  refine c_calli hw (va_runS (As := [.int x1]) (rest := []) S (ctC_X0_isSheet l D dA ad fv A a x1 _ h) (cwC_X0_X0_isSheet hts ⟨Nat.le_of_ble_eq_true rfl, Nat.le_of_ble_eq_true rfl⟩) (c_preS hw) rfl rfl hl.1 rfl (lv_room (Nat.le_of_ble_eq_true rfl)) dX0_copy_1 ⟨Nat.le_of_ble_eq_true rfl, Nat.le_of_ble_eq_true rfl⟩) (fun r1 a1 H locs h hw => ?_)
  refine lv_if_eq (tgt := 14) hx hb dX0_copy_4 (by decide) (fun c4 => ?_) (fun c4 => ?_)
  · replace h := if_t c4 h
    refine lv_ldc hx hb hown (hts _ q435) dX0_copy_14 ?_
    exact c_iret S hr hlk hw h dX0_copy_16
  · replace h := if_f c4 h
    refine lv_iload_n hx hb dX0_copy_7 rfl (lv_at hl 3 rfl) ?_
    refine c_calli hw (va_runS (As := [.int x3]) (rest := []) S (ctC_X0_isSheet l D dA ad fv A a1 x3 _ h) (cwC_X0_X0_isSheet hts ⟨Nat.le_of_ble_eq_true rfl, Nat.le_of_ble_eq_true rfl⟩) (c_preS hw) rfl rfl hl.1 rfl (lv_room (Nat.le_of_ble_eq_true rfl)) dX0_copy_8 ⟨Nat.le_of_ble_eq_true rfl, Nat.le_of_ble_eq_true rfl⟩) (fun r8 a8 H locs h hw => ?_)
    refine lv_if_ne (tgt := 17) hx hb dX0_copy_11 (by decide) (fun c11 => ?_) (fun c11 => ?_)
    · replace h := if_f c11 h
      refine lv_aload_n hx hb dX0_copy_17 rfl (lv_at hl 0 rfl) ?_
      refine c_get S hw (n := 0) (ci := 0) (cOk.s (by decide)) (isO_K _) rfl in_X0 25 (by decide) (Or.inl q349) rfl rfl dX0_copy_18 ?_
      refine lv_iload_n hx hb dX0_copy_21 rfl (lv_at hl 1 rfl) ?_
      have hi22 := h.1
      replace h := h.2
      refine c_aald S hw (n := 83) (t := 7) (len := 4) (r := fun j => j + 86) (cOk.s (by decide)) rfl rfl hi22 (rv_n (by omega)) dX0_copy_22 ?_
      refine lv_astore (lv' := [(6, .ref (ad (x1.toNatClampNeg + 86))), (0, .ref (ad 0)), (1, .int x1), (2, .int x2), (3, .int x3), (4, .int x4), (5, .int x5)]) hx hb dX0_copy_23 hl (by decide) rfl (fun ls hl => ?_)
      refine lv_aload_n hx hb dX0_copy_25 rfl (lv_at hl 1 rfl) ?_
      refine c_get S hw (n := 0) (ci := 0) (cOk.s (by decide)) (isO_K _) rfl in_X0 25 (by decide) (Or.inl q349) rfl rfl dX0_copy_26 ?_
      refine lv_iload_n hx hb dX0_copy_29 rfl (lv_at hl 4 rfl) ?_
      have hi30 := h.1
      replace h := h.2
      refine c_aald S hw (n := 83) (t := 7) (len := 4) (r := fun j => j + 86) (cOk.s (by decide)) rfl rfl hi30 (rv_n (by omega)) dX0_copy_30 ?_
      refine lv_astore (lv' := [(7, .ref (ad (x3.toNatClampNeg + 86))), (6, .ref (ad (x1.toNatClampNeg + 86))), (0, .ref (ad 0)), (1, .int x1), (2, .int x2), (3, .int x3), (4, .int x4), (5, .int x5)]) hx hb dX0_copy_31 hl (by decide) rfl (fun ls hl => ?_)
      refine lv_aload hx hb dX0_copy_33 (lv_at hl 1 rfl) ?_
      refine c_calli hw (va_runV (As := []) (rest := []) S (ctC_X4_isThere l D dA ad fv A a8 (x1.toNatClampNeg + 86) _ h) (cwC_X0_X4_isThere hts ⟨Nat.le_of_ble_eq_true rfl, Nat.le_of_ble_eq_true rfl⟩) (c_preV hw (n := (x1.toNatClampNeg + 86)) (cOk.s (mem_sheet (by omega) (by have := vin_lt hi22; omega))) ((isO_sh (by omega) (by have := vin_lt hi22; omega)) _) rfl) rfl rfl hl.1 rfl (lv_room (Nat.le_of_ble_eq_true rfl)) dX0_copy_35 ⟨Nat.le_of_ble_eq_true rfl, Nat.le_of_ble_eq_true rfl⟩) (fun r35 a35 H locs h hw => ?_)
      refine lv_if_eq (tgt := 49) hx hb dX0_copy_38 (by decide) (fun c38 => ?_) (fun c38 => ?_)
      · replace h := if_t c38 h
        refine lv_ldcw hx hb hown (hts _ q1130) dX0_copy_49 ?_
        exact c_iret S hr hlk hw h dX0_copy_52
      · replace h := if_f c38 h
        refine lv_aload hx hb dX0_copy_41 (lv_at hl 0 rfl) ?_
        refine c_calli hw (va_runV (As := []) (rest := []) S (ctC_X4_isThere l D dA ad fv A a35 (x3.toNatClampNeg + 86) _ h) (cwC_X0_X4_isThere hts ⟨Nat.le_of_ble_eq_true rfl, Nat.le_of_ble_eq_true rfl⟩) (c_preV hw (n := (x3.toNatClampNeg + 86)) (cOk.s (mem_sheet (by omega) (by have := vin_lt hi30; omega))) ((isO_sh (by omega) (by have := vin_lt hi30; omega)) _) rfl) rfl rfl hl.1 rfl (lv_room (Nat.le_of_ble_eq_true rfl)) dX0_copy_43 ⟨Nat.le_of_ble_eq_true rfl, Nat.le_of_ble_eq_true rfl⟩) (fun r43 a43 H locs h hw => ?_)
        refine lv_if_ne (tgt := 53) hx hb dX0_copy_46 (by decide) (fun c46 => ?_) (fun c46 => ?_)
        · replace h := if_f c46 h
          refine lv_aload hx hb dX0_copy_53 (lv_at hl 1 rfl) ?_
          refine c_calli hw (va_runV (As := []) (rest := []) S (ctC_X4_isFloats l D dA ad fv A a43 (x1.toNatClampNeg + 86) _ h) (cwC_X0_X4_isFloats hts ⟨Nat.le_of_ble_eq_true rfl, Nat.le_of_ble_eq_true rfl⟩) (c_preV hw (n := (x1.toNatClampNeg + 86)) (cOk.s (mem_sheet (by omega) (by have := vin_lt hi22; omega))) ((isO_sh (by omega) (by have := vin_lt hi22; omega)) _) rfl) rfl rfl hl.1 rfl (lv_room (Nat.le_of_ble_eq_true rfl)) dX0_copy_55 ⟨Nat.le_of_ble_eq_true rfl, Nat.le_of_ble_eq_true rfl⟩) (fun r55 a55 H locs h hw => ?_)
          refine lv_aload hx hb dX0_copy_58 (lv_at hl 0 rfl) ?_
          refine c_calli hw (va_runV (As := []) (rest := [.int r55]) S (ctC_X4_isFloats l D dA ad fv A a55 (x3.toNatClampNeg + 86) _ h) (cwC_X0_X4_isFloats hts ⟨Nat.le_of_ble_eq_true rfl, Nat.le_of_ble_eq_true rfl⟩) (c_preV hw (n := (x3.toNatClampNeg + 86)) (cOk.s (mem_sheet (by omega) (by have := vin_lt hi30; omega))) ((isO_sh (by omega) (by have := vin_lt hi30; omega)) _) rfl) rfl rfl hl.1 rfl (lv_room (Nat.le_of_ble_eq_true rfl)) dX0_copy_60 ⟨Nat.le_of_ble_eq_true rfl, Nat.le_of_ble_eq_true rfl⟩) (fun r60 a60 H locs h hw => ?_)
          refine lv_icmp_eq (tgt := 70) hx hb dX0_copy_63 (by decide) (fun c63 => ?_) (fun c63 => ?_)
          · replace h := if_t c63 h
            refine lv_iload_n hx hb dX0_copy_70 rfl (lv_at hl 4 rfl) ?_
            refine lv_if_lt (tgt := 109) hx hb dX0_copy_71 (by decide) (fun c71 => ?_) (fun c71 => ?_)
            · replace h := if_t c71 h
              refine lv_ldcw hx hb hown (hts _ q1153) dX0_copy_109 ?_
              exact c_iret S hr hlk hw h dX0_copy_112
            · replace h := if_f c71 h
              refine lv_iload hx hb dX0_copy_74 (lv_at hl 6 rfl) ?_
              refine lv_if_lt (tgt := 109) hx hb dX0_copy_76 (by decide) (fun c76 => ?_) (fun c76 => ?_)
              · replace h := if_t c76 h
                refine lv_ldcw hx hb hown (hts _ q1153) dX0_copy_109 ?_
                exact c_iret S hr hlk hw h dX0_copy_112
              · replace h := if_f c76 h
                refine lv_iload hx hb dX0_copy_79 (lv_at hl 7 rfl) ?_
                refine lv_if_lt (tgt := 109) hx hb dX0_copy_81 (by decide) (fun c81 => ?_) (fun c81 => ?_)
                · replace h := if_t c81 h
                  refine lv_ldcw hx hb hown (hts _ q1153) dX0_copy_109 ?_
                  exact c_iret S hr hlk hw h dX0_copy_112
                · replace h := if_f c81 h
                  refine lv_iload_n hx hb dX0_copy_84 rfl (lv_at hl 4 rfl) ?_
                  refine lv_aload hx hb dX0_copy_85 (lv_at hl 1 rfl) ?_
                  refine c_calli hw (va_runV (As := []) (rest := [.int x2]) S (ctC_X4_size l D dA ad fv A a60 (x1.toNatClampNeg + 86) _ h) (cwC_X0_X4_size hts ⟨Nat.le_of_ble_eq_true rfl, Nat.le_of_ble_eq_true rfl⟩) (c_preV hw (n := (x1.toNatClampNeg + 86)) (cOk.s (mem_sheet (by omega) (by have := vin_lt hi22; omega))) ((isO_sh (by omega) (by have := vin_lt hi22; omega)) _) rfl) rfl rfl hl.1 rfl (lv_room (Nat.le_of_ble_eq_true rfl)) dX0_copy_87 ⟨Nat.le_of_ble_eq_true rfl, Nat.le_of_ble_eq_true rfl⟩) (fun r87 a87 H locs h hw => ?_)
                  refine lv_iload hx hb dX0_copy_90 (lv_at hl 7 rfl) ?_
                  refine lv_isub hx hb dX0_copy_92 ?_
                  refine lv_icmp_gt (tgt := 109) hx hb dX0_copy_93 (by decide) (fun c93 => ?_) (fun c93 => ?_)
                  · replace h := if_t c93 h
                    refine lv_ldcw hx hb hown (hts _ q1153) dX0_copy_109 ?_
                    exact c_iret S hr hlk hw h dX0_copy_112
                  · replace h := if_f c93 h
                    refine lv_iload hx hb dX0_copy_96 (lv_at hl 6 rfl) ?_
                    refine lv_aload hx hb dX0_copy_98 (lv_at hl 0 rfl) ?_
                    refine c_calli hw (va_runV (As := []) (rest := [.int x4]) S (ctC_X4_size l D dA ad fv A a87 (x3.toNatClampNeg + 86) _ h) (cwC_X0_X4_size hts ⟨Nat.le_of_ble_eq_true rfl, Nat.le_of_ble_eq_true rfl⟩) (c_preV hw (n := (x3.toNatClampNeg + 86)) (cOk.s (mem_sheet (by omega) (by have := vin_lt hi30; omega))) ((isO_sh (by omega) (by have := vin_lt hi30; omega)) _) rfl) rfl rfl hl.1 rfl (lv_room (Nat.le_of_ble_eq_true rfl)) dX0_copy_100 ⟨Nat.le_of_ble_eq_true rfl, Nat.le_of_ble_eq_true rfl⟩) (fun r100 a100 H locs h hw => ?_)
                    refine lv_iload hx hb dX0_copy_103 (lv_at hl 7 rfl) ?_
                    refine lv_isub hx hb dX0_copy_105 ?_
                    refine lv_icmp_le (tgt := 113) hx hb dX0_copy_106 (by decide) (fun c106 => ?_) (fun c106 => ?_)
                    · replace h := if_t c106 h
                      refine lv_aload_n hx hb dX0_copy_113 rfl (lv_at hl 2 rfl) ?_
                      refine lv_aload hx hb dX0_copy_114 (lv_at hl 1 rfl) ?_
                      refine lv_iload_n hx hb dX0_copy_116 rfl (lv_at hl 4 rfl) ?_
                      refine lv_aload hx hb dX0_copy_117 (lv_at hl 0 rfl) ?_
                      refine lv_iload hx hb dX0_copy_119 (lv_at hl 6 rfl) ?_
                      refine lv_iload hx hb dX0_copy_121 (lv_at hl 7 rfl) ?_
                      refine c_callv hw (va_runV (As := [.ref (ad (x1.toNatClampNeg + 86)), .int x2, .ref (ad (x3.toNatClampNeg + 86)), .int x4, .int x5]) (rest := []) S (ctC_X0_carries l D dA ad fv A a100 (x1.toNatClampNeg + 86) x2 (x3.toNatClampNeg + 86) x4 x5 _ h) (cwC_X0_X0_carries hts ⟨Nat.le_of_ble_eq_true rfl, Nat.le_of_ble_eq_true rfl⟩) (c_preV hw (n := 0) (cOk.s (by decide)) (isO_K _) rfl) rfl rfl hl.1 rfl (lv_room (Nat.le_of_ble_eq_true rfl)) dX0_copy_123 ⟨Nat.le_of_ble_eq_true rfl, Nat.le_of_ble_eq_true rfl⟩) (fun a123 H locs h hw => ?_)
                      refine lv_iload hx hb dX0_copy_126 (lv_at hl 7 rfl) ?_
                      exact c_iret S hr hlk hw h dX0_copy_128
                    · replace h := if_f c106 h
                      refine lv_ldcw hx hb hown (hts _ q1153) dX0_copy_109 ?_
                      exact c_iret S hr hlk hw h dX0_copy_112
          · replace h := if_f c63 h
            refine lv_ldcw hx hb hown (hts _ q883) dX0_copy_66 ?_
            exact c_iret S hr hlk hw h dX0_copy_69
        · replace h := if_t c46 h
          refine lv_ldcw hx hb hown (hts _ q1130) dX0_copy_49 ?_
          exact c_iret S hr hlk hw h dX0_copy_52
    · replace h := if_t c11 h
      refine lv_ldc hx hb hown (hts _ q435) dX0_copy_14 ?_
      exact c_iret S hr hlk hw h dX0_copy_16
theorem ctC_X0_copy (l : Launch) (D : va_G) (dA : Nat → ClassId) (ad : Nat → Nat) (fv : Nat → Value) (A : Nat → Prop) (a : CS) (x1 : Int32) (x2 : Int32) (x3 : Int32) (x4 : Int32) (x5 : Int32) (Q : Int32 → CS → Prop) (h : wpC_X0_copy a x1 x2 x3 x4 x5 Q) : Met l yX0_copy (ws_ yX0_copy cX0_copy 8 (some .int)) rmC_X0_copy (cPc D dA ad fv A a [.ref (ad 0), .int x1, .int x2, .int x3, .int x4, .int x5]) (cQi D dA ad fv A Q) 0 0 A :=
  c_met (by decide) rfl rfl rfl (Nat.le_of_ble_eq_true rfl) (fun p e s m below meth c ls S hr hlk hin2 hw hl => wkC_X0_copy_e S hr hlk Q x1 x2 x3 x4 x5 a _ _ ls h hw hl)
end CWalk

section CWalk
variable {p : Program} {l : Launch} {e : Env} {s : State} {m : MethodId} {args : Array Value} {below : List Frame} {meth : Method} {c : Code} {D : va_G} {dA : Nat → ClassId} {ad : Nat → Nat} {fv : Nat → Value} {A : Nat → Prop}
/-! X15.init -/
abbrev rmC_X15_init : Room := { frames := 1, cells := 0, slots := 0, locals := 20 }
def wpC_X15_init (a : CS) (n0 : Nat) (x1 : Int32) (Q : CS → Prop) : Prop := (kindK a n0 115) ∧ (∀ a6 : CS, a6 = wI a n0 0 x1 → (Q a6))
set_option maxHeartbeats 4000000 in
set_option maxRecDepth 100000 in
theorem wkC_X15_init_e (S : CallFix p m c cX15_init 2 s args lw_all RX15) (hr : meth.sig.returnType = none) (hlk : meth.locks = false) (hin2 : meth.name = "<init>") (Q : CS → Prop) (n0 : Nat) (x1 : Int32) (a : CS) (H : Heap) (locs : List Loc) (ls : Array Slot) (h : wpC_X15_init a n0 x1 Q) (hw : CW D dA ad fv A a s H locs) (hl : lv_has ls 2 [(0, .ref (ad n0)), (1, .int x1)]) : W p l e rmC_X15_init s m args below meth c H locs 0 0 (MQ below (cQv D dA ad fv A Q) args s 0 0 A) (F0 m 0 ls []) := by
  have hx := S.1
  have hb := S.2.1
  have hown := S.2.2.2.1
  have hts := S.2.2.2.2
  unfold wpC_X15_init at h
  refine lv_aload_n hx hb dX15_init_0 rfl (lv_at hl 0 rfl) ?_
  refine W.objInit hx hb hown (hts _ q1244) (hts _ q136) (hts _ q137) rfl (hl.1.trans S.2.2.1.symm) rfl dX15_init_1 (Nat.le_of_ble_eq_true rfl) (Nat.le_of_ble_eq_true rfl) ?_
  refine W.eq (g2 := F0 m 4 ls []) rfl ?_
  refine lv_aload_n hx hb dX15_init_4 rfl (lv_at hl 0 rfl) ?_
  refine lv_iload_n hx hb dX15_init_5 rfl (lv_at hl 1 rfl) ?_
  have hk6_0 := h.1
  replace h := h.2
  refine c_putFI S hw (n := n0) (hk6_0.ok (by decide)) (isO_G hk6_0) rfl in_X15 tyX15 tyX15_ok nmX15 0 (by decide) q1245 rfl rfl hin2 rfl rfl rfl (Nat.le_of_ble_eq_true rfl) (fun _ => by simp [upd]) dX15_init_6 (fun a6 H locs ea6 hw => ?_)
  replace h := h a6 ea6
  exact c_vret S hr hlk hw h dX15_init_9
theorem ctC_X15_init (l : Launch) (D : va_G) (dA : Nat → ClassId) (ad : Nat → Nat) (fv : Nat → Value) (A : Nat → Prop) (a : CS) (n0 : Nat) (x1 : Int32) (Q : CS → Prop) (h : wpC_X15_init a n0 x1 Q) : Met l yX15_init (ws_ yX15_init cX15_init 2 none) rmC_X15_init (cPc D dA ad fv A a [.ref (ad n0), .int x1]) (cQv D dA ad fv A Q) 0 0 A :=
  c_met (by decide) rfl rfl rfl (Nat.le_of_ble_eq_true rfl) (fun p e s m below meth c ls S hr hlk hin2 hw hl => wkC_X15_init_e S hr hlk hin2 Q n0 x1 a _ _ ls h hw hl)
theorem cwC_X0_X15_init {R : Room} {s : State} {args : Array Value} {rm : Room} (hts : ∀ w ∈ lw_all, w.before args s = true) (hR : rm.frames + 1 ≤ R.frames ∧ 8 + (2 + 11) + rm.locals ≤ R.locals) (hc : rm.cells = 0 := by rfl) (hs : rm.slots = 0 := by rfl) : CallB R s args RX0 553 yX15_init cX15_init 2 none (ws_ yX15_init cX15_init 2 none) rm 0 0 1 ∧ yX15_init.name = "<init>" ∧ (Cond.instanceMethod yX15_init).before args s = true :=
  cwI 1 hts (lw_meth q1243) rfl hc hs (hts _ q129) (hts _ q1241) (hts _ q1242) rfl (by decide +kernel) hR
/-! X14.init -/
abbrev rmC_X14_init : Room := { frames := 1, cells := 0, slots := 0, locals := 20 }
def wpC_X14_init (a : CS) (n0 : Nat) (x1 : Int32) (x2 : Nat) (x3 : Int32) (Q : CS → Prop) : Prop := (kindK a n0 114) ∧ (∀ a6 : CS, a6 = wI a n0 0 x1 → ((kindK a6 n0 114) ∧ ((kindK a6 x2 113) ∧ (∀ a11 : CS, a11 = wR a6 n0 1 x2 → ((kindK a11 n0 114) ∧ (∀ a16 : CS, a16 = wI a11 n0 2 x3 → (Q a16)))))))
set_option maxHeartbeats 4000000 in
set_option maxRecDepth 100000 in
theorem wkC_X14_init_e (S : CallFix p m c cX14_init 4 s args lw_all RX14) (hr : meth.sig.returnType = none) (hlk : meth.locks = false) (hin2 : meth.name = "<init>") (Q : CS → Prop) (n0 : Nat) (x1 : Int32) (x2 : Nat) (x3 : Int32) (a : CS) (H : Heap) (locs : List Loc) (ls : Array Slot) (h : wpC_X14_init a n0 x1 x2 x3 Q) (hw : CW D dA ad fv A a s H locs) (hl : lv_has ls 4 [(0, .ref (ad n0)), (1, .int x1), (2, .ref (ad x2)), (3, .int x3)]) : W p l e rmC_X14_init s m args below meth c H locs 0 0 (MQ below (cQv D dA ad fv A Q) args s 0 0 A) (F0 m 0 ls []) := by
  have hx := S.1
  have hb := S.2.1
  have hown := S.2.2.2.1
  have hts := S.2.2.2.2
  unfold wpC_X14_init at h
  refine lv_aload_n hx hb dX14_init_0 rfl (lv_at hl 0 rfl) ?_
  refine W.objInit hx hb hown (hts _ q585) (hts _ q136) (hts _ q137) rfl (hl.1.trans S.2.2.1.symm) rfl dX14_init_1 (Nat.le_of_ble_eq_true rfl) (Nat.le_of_ble_eq_true rfl) ?_
  refine W.eq (g2 := F0 m 4 ls []) rfl ?_
  refine lv_aload_n hx hb dX14_init_4 rfl (lv_at hl 0 rfl) ?_
  refine lv_iload_n hx hb dX14_init_5 rfl (lv_at hl 1 rfl) ?_
  have hk6_0 := h.1
  replace h := h.2
  refine c_putFI S hw (n := n0) (hk6_0.ok (by decide)) (isO_T hk6_0) rfl in_X14 tyX14 tyX14_ok nmX14 0 (by decide) q586 rfl rfl hin2 rfl rfl rfl (Nat.le_of_ble_eq_true rfl) (fun _ => by simp [upd]) dX14_init_6 (fun a6 H locs ea6 hw => ?_)
  replace h := h a6 ea6
  refine lv_aload_n hx hb dX14_init_9 rfl (lv_at hl 0 rfl) ?_
  refine lv_aload_n hx hb dX14_init_10 rfl (lv_at hl 2 rfl) ?_
  have hk11_1 := h.1
  replace h := h.2
  have hk11_2 := h.1
  replace h := h.2
  refine c_putFR S hw (n := n0) (x := x2) hk11_1.1 (hk11_1.ok (by decide)) (isF_T hk11_1) rfl in_X14 tyX14 tyX14_ok nmX14 1 (by decide) q588 rfl rfl hin2 rfl hk11_2.ne rfl rfl (Nat.le_of_ble_eq_true rfl) (fun _ => by simp [va_up]) dX14_init_11 (fun a11 H locs ea11 hw => ?_)
  replace h := h a11 ea11
  refine lv_aload_n hx hb dX14_init_14 rfl (lv_at hl 0 rfl) ?_
  refine lv_iload_n hx hb dX14_init_15 rfl (lv_at hl 3 rfl) ?_
  have hk16_3 := h.1
  replace h := h.2
  refine c_putFI S hw (n := n0) (hk16_3.ok (by decide)) (isO_T hk16_3) rfl in_X14 tyX14 tyX14_ok nmX14 2 (by decide) q590 rfl rfl hin2 rfl rfl rfl (Nat.le_of_ble_eq_true rfl) (fun _ => by simp [upd]) dX14_init_16 (fun a16 H locs ea16 hw => ?_)
  replace h := h a16 ea16
  exact c_vret S hr hlk hw h dX14_init_19
theorem ctC_X14_init (l : Launch) (D : va_G) (dA : Nat → ClassId) (ad : Nat → Nat) (fv : Nat → Value) (A : Nat → Prop) (a : CS) (n0 : Nat) (x1 : Int32) (x2 : Nat) (x3 : Int32) (Q : CS → Prop) (h : wpC_X14_init a n0 x1 x2 x3 Q) : Met l yX14_init (ws_ yX14_init cX14_init 4 none) rmC_X14_init (cPc D dA ad fv A a [.ref (ad n0), .int x1, .ref (ad x2), .int x3]) (cQv D dA ad fv A Q) 0 0 A :=
  c_met (by decide) rfl rfl rfl (Nat.le_of_ble_eq_true rfl) (fun p e s m below meth c ls S hr hlk hin2 hw hl => wkC_X14_init_e S hr hlk hin2 Q n0 x1 x2 x3 a _ _ ls h hw hl)
theorem cwC_X0_X14_init {R : Room} {s : State} {args : Array Value} {rm : Room} (hts : ∀ w ∈ lw_all, w.before args s = true) (hR : rm.frames + 1 ≤ R.frames ∧ 8 + (4 + 11) + rm.locals ≤ R.locals) (hc : rm.cells = 0 := by rfl) (hs : rm.slots = 0 := by rfl) : CallB R s args RX0 264 yX14_init cX14_init 4 none (ws_ yX14_init cX14_init 4 none) rm 0 0 3 ∧ yX14_init.name = "<init>" ∧ (Cond.instanceMethod yX14_init).before args s = true :=
  cwI 3 hts (lw_meth q584) rfl hc hs (hts _ q127) (hts _ q582) (hts _ q583) rfl (by decide +kernel) hR
/-! X13.init -/
abbrev rmC_X13_init : Room := { frames := 1, cells := 2, slots := 192, locals := 20 }
def wpC_X13_init (a : CS) (n0 : Nat) (Q : CS → Prop) : Prop := ∀ o7 : Nat, 1000 ≤ o7 → (a.2.2.1 o7).1 = 0 → ∀ a7 : CS, a7 = wN a o7 (20, 96) → ((kindK a7 n0 113) ∧ ((kindK a7 o7 20) ∧ (∀ a9 : CS, a9 = wR a7 n0 0 o7 → (∀ o15 : Nat, 1000 ≤ o15 → (a9.2.2.1 o15).1 = 0 → ∀ a15 : CS, a15 = wN a9 o15 (20, 96) → ((kindK a15 n0 113) ∧ ((kindK a15 o15 20) ∧ (∀ a17 : CS, a17 = wR a15 n0 1 o15 → (Q a17))))))))
set_option maxHeartbeats 4000000 in
set_option maxRecDepth 100000 in
theorem wkC_X13_init_e (S : CallFix p m c cX13_init 1 s args lw_all RX13) (hr : meth.sig.returnType = none) (hlk : meth.locks = false) (hin2 : meth.name = "<init>") (Q : CS → Prop) (n0 : Nat) (a : CS) (H : Heap) (locs : List Loc) (ls : Array Slot) (h : wpC_X13_init a n0 Q) (hw : CW D dA ad fv A a s H locs) (hl : lv_has ls 1 [(0, .ref (ad n0))]) : W p l e rmC_X13_init s m args below meth c H locs 0 0 (MQ below (cQv D dA ad fv A Q) args s 2 192 A) (F0 m 0 ls []) := by
  have hx := S.1
  have hb := S.2.1
  have hown := S.2.2.2.1
  have hts := S.2.2.2.2
  unfold wpC_X13_init at h
  refine lv_aload_n hx hb dX13_init_0 rfl (lv_at hl 0 rfl) ?_
  refine W.objInit hx hb hown (hts _ q526) (hts _ q136) (hts _ q137) rfl (hl.1.trans S.2.2.1.symm) rfl dX13_init_1 (Nat.le_of_ble_eq_true rfl) (Nat.le_of_ble_eq_true rfl) ?_
  refine W.eq (g2 := F0 m 4 ls []) rfl ?_
  refine lv_aload_n hx hb dX13_init_4 rfl (lv_at hl 0 rfl) ?_
  refine lv_bipush (v := (96 : Int32)) hx hb dX13_init_5 (by decide) ?_
  refine c_newI S hw q183 (N := 96) (by decide) (by decide) (by decide) (Nat.le_of_ble_eq_true rfl) (Nat.le_of_ble_eq_true rfl) dX13_init_7 (fun o7 a7 H go7 zo7 ea7 hw => ?_)
  replace h := h o7 go7 zo7 a7 ea7
  refine W.widen (k := 1) (n := 96) (Nat.le_of_ble_eq_true rfl) (Nat.le_of_ble_eq_true rfl) ?_
  have hk9_0 := h.1
  replace h := h.2
  have hk9_1 := h.1
  replace h := h.2
  refine c_putFR S hw (n := n0) (x := o7) hk9_0.1 (hk9_0.ok (by decide)) (isF_W hk9_0) rfl in_X13 tyX13 tyX13_ok nmX13 0 (by decide) q527 rfl rfl hin2 rfl hk9_1.ne rfl rfl (Nat.le_of_ble_eq_true rfl) (fun _ => by simp [va_up]) dX13_init_9 (fun a9 H locs ea9 hw => ?_)
  replace h := h a9 ea9
  refine lv_aload_n hx hb dX13_init_12 rfl (lv_at hl 0 rfl) ?_
  refine lv_bipush (v := (96 : Int32)) hx hb dX13_init_13 (by decide) ?_
  refine c_newI S hw q183 (N := 96) (by decide) (by decide) (by decide) (Nat.le_of_ble_eq_true rfl) (Nat.le_of_ble_eq_true rfl) dX13_init_15 (fun o15 a15 H go15 zo15 ea15 hw => ?_)
  replace h := h o15 go15 zo15 a15 ea15
  refine W.widen (k := 2) (n := 192) (Nat.le_of_ble_eq_true rfl) (Nat.le_of_ble_eq_true rfl) ?_
  have hk17_2 := h.1
  replace h := h.2
  have hk17_3 := h.1
  replace h := h.2
  refine c_putFR S hw (n := n0) (x := o15) hk17_2.1 (hk17_2.ok (by decide)) (isF_W hk17_2) rfl in_X13 tyX13 tyX13_ok nmX13 1 (by decide) q529 rfl rfl hin2 rfl hk17_3.ne rfl rfl (Nat.le_of_ble_eq_true rfl) (fun _ => by simp [va_up]) dX13_init_17 (fun a17 H locs ea17 hw => ?_)
  replace h := h a17 ea17
  exact c_vret S hr hlk hw h dX13_init_20
theorem ctC_X13_init (l : Launch) (D : va_G) (dA : Nat → ClassId) (ad : Nat → Nat) (fv : Nat → Value) (A : Nat → Prop) (a : CS) (n0 : Nat) (Q : CS → Prop) (h : wpC_X13_init a n0 Q) : Met l yX13_init (ws_ yX13_init cX13_init 1 none) rmC_X13_init (cPc D dA ad fv A a [.ref (ad n0)]) (cQv D dA ad fv A Q) 2 192 A :=
  c_met (by decide) rfl rfl rfl (Nat.le_of_ble_eq_true rfl) (fun p e s m below meth c ls S hr hlk hin2 hw hl => wkC_X13_init_e S hr hlk hin2 Q n0 a _ _ ls h hw hl)
theorem cwC_X0_X13_init {R : Room} {s : State} {args : Array Value} {rm : Room} (hts : ∀ w ∈ lw_all, w.before args s = true) (hN : NW s) (hR : rm.frames + 1 ≤ R.frames ∧ 8 + (1 + 11) + rm.locals ≤ R.locals) (hc : rm.cells = 2 := by rfl) (hs : rm.slots = 192 := by rfl) : va_CN R s args RX0 200 yX13_init "KeptLeaves" cX13_init 1 none (ws_ yX13_init cX13_init 1 none) rm 2 192 0 ∧ yX13_init.name = "<init>" ∧ (Cond.instanceMethod yX13_init).before args s = true :=
  ⟨va_cnB 0 hts (lw_meth q525) rfl hc hs (hN.1 _ (List.mem_of_getElem? (i := 28) rfl)) (hts _ q126) (by decide +kernel) hR, rfl, hts _ q524⟩
/-! X4.init -/
abbrev rmC_X4_init : Room := { frames := 1, cells := 0, slots := 0, locals := 20 }
def wpC_X4_init (a : CS) (n0 : Nat) (Q : CS → Prop) : Prop := Q a
set_option maxHeartbeats 4000000 in
set_option maxRecDepth 100000 in
theorem wkC_X4_init_e (S : CallFix p m c cX4_init 1 s args lw_all RX4) (hr : meth.sig.returnType = none) (hlk : meth.locks = false) (Q : CS → Prop) (n0 : Nat) (a : CS) (H : Heap) (locs : List Loc) (ls : Array Slot) (h : wpC_X4_init a n0 Q) (hw : CW D dA ad fv A a s H locs) (hl : lv_has ls 1 [(0, .ref (ad n0))]) : W p l e rmC_X4_init s m args below meth c H locs 0 0 (MQ below (cQv D dA ad fv A Q) args s 0 0 A) (F0 m 0 ls []) := by
  have hx := S.1
  have hb := S.2.1
  have hown := S.2.2.2.1
  have hts := S.2.2.2.2
  unfold wpC_X4_init at h
  refine lv_aload_n hx hb dX4_init_0 rfl (lv_at hl 0 rfl) ?_
  refine W.objInit hx hb hown (hts _ q305) (hts _ q136) (hts _ q137) rfl (hl.1.trans S.2.2.1.symm) rfl dX4_init_1 (Nat.le_of_ble_eq_true rfl) (Nat.le_of_ble_eq_true rfl) ?_
  refine W.eq (g2 := F0 m 4 ls []) rfl ?_
  exact c_vret S hr hlk hw h dX4_init_4
theorem ctC_X4_init (l : Launch) (D : va_G) (dA : Nat → ClassId) (ad : Nat → Nat) (fv : Nat → Value) (A : Nat → Prop) (a : CS) (n0 : Nat) (Q : CS → Prop) (h : wpC_X4_init a n0 Q) : Met l yX4_init (ws_ yX4_init cX4_init 1 none) rmC_X4_init (cPc D dA ad fv A a [.ref (ad n0)]) (cQv D dA ad fv A Q) 0 0 A :=
  c_met (by decide) rfl rfl rfl (Nat.le_of_ble_eq_true rfl) (fun p e s m below meth c ls S hr hlk hin2 hw hl => wkC_X4_init_e S hr hlk Q n0 a _ _ ls h hw hl)
theorem cwC_X0_X4_init {R : Room} {s : State} {args : Array Value} {rm : Room} (hts : ∀ w ∈ lw_all, w.before args s = true) (hN : NW s) (hR : rm.frames + 1 ≤ R.frames ∧ 8 + (1 + 11) + rm.locals ≤ R.locals) (hc : rm.cells = 0 := by rfl) (hs : rm.slots = 0 := by rfl) : va_CN R s args RX0 111 yX4_init "KeptLeaves" cX4_init 1 none (ws_ yX4_init cX4_init 1 none) rm 0 0 0 ∧ yX4_init.name = "<init>" ∧ (Cond.instanceMethod yX4_init).before args s = true :=
  ⟨va_cnB 0 hts (lw_meth q304) rfl hc hs (hN.1 _ (List.mem_of_getElem? (i := 24) rfl)) (hts _ q110) (by decide +kernel) hR, rfl, hts _ q303⟩
/-! X0.rowOf -/
abbrev rmC_X0_rowOf : Room := { frames := 0, cells := 1, slots := 24, locals := 0 }
def wpC_X0_rowOf (a : CS) (x0 : Int32) (x1 : Int32) (Q : Nat → CS → Prop) : Prop := if x0 = 0 then ((¬ x1 < 0 ∧ x1.toNatClampNeg ≤ 24) ∧ (∀ o9 : Nat, 1000 ≤ o9 → (a.2.2.1 o9).1 = 0 → ∀ a9 : CS, a9 = wN a o9 (24, x1.toNatClampNeg) → (Q o9 a9))) else ((¬ x1 < 0 ∧ x1.toNatClampNeg ≤ 24) ∧ (∀ o5 : Nat, 1000 ≤ o5 → (a.2.2.1 o5).1 = 0 → ∀ a5 : CS, a5 = wN a o5 (23, x1.toNatClampNeg) → (Q o5 a5)))
set_option maxHeartbeats 4000000 in
set_option maxRecDepth 100000 in
theorem wkC_X0_rowOf_e (S : CallFix p m c cX0_rowOf 2 s args lw_all RX0) (hr : meth.sig.returnType = (some (.object "java/lang/Object"))) (hlk : meth.locks = false) (Q : Nat → CS → Prop) (x0 : Int32) (x1 : Int32) (a : CS) (H : Heap) (locs : List Loc) (ls : Array Slot) (h : wpC_X0_rowOf a x0 x1 Q) (hw : CW D dA ad fv A a s H locs) (hl : lv_has ls 2 [(0, .int x0), (1, .int x1)]) : W p l e rmC_X0_rowOf s m args below meth c H locs 0 0 (MQ below (cQr D dA ad fv A Q) args s 1 24 A) (F0 m 0 ls []) := by
  have hx := S.1
  have hb := S.2.1
  have hown := S.2.2.2.1
  have hts := S.2.2.2.2
  unfold wpC_X0_rowOf at h
  refine lv_iload_n hx hb dX0_rowOf_0 rfl (lv_at hl 0 rfl) ?_
  refine lv_if_eq (tgt := 8) hx hb dX0_rowOf_1 (by decide) (fun c1 => ?_) (fun c1 => ?_)
  · replace h := if_t c1 h
    refine lv_iload_n hx hb dX0_rowOf_8 rfl (lv_at hl 1 rfl) ?_
    have hz9 := h.1
    replace h := h.2
    refine c_newS S hw q1121 hz9.1 hz9.2 (Nat.le_of_ble_eq_true rfl) (Nat.le_of_ble_eq_true rfl) dX0_rowOf_9 (fun o9 a9 H go9 zo9 ea9 hw => ?_)
    replace h := h o9 go9 zo9 a9 ea9
    refine W.widen (k := 1) (n := 24) (Nat.le_of_ble_eq_true rfl) (Nat.le_of_ble_eq_true rfl) ?_
    exact c_aret S hr hlk hw h ⟨_, rfl⟩ dX0_rowOf_11
  · replace h := if_f c1 h
    refine lv_iload_n hx hb dX0_rowOf_4 rfl (lv_at hl 1 rfl) ?_
    have hz5 := h.1
    replace h := h.2
    refine c_newF S hw q418 hz5.1 hz5.2 (Nat.le_of_ble_eq_true rfl) (Nat.le_of_ble_eq_true rfl) dX0_rowOf_5 (fun o5 a5 H go5 zo5 ea5 hw => ?_)
    replace h := h o5 go5 zo5 a5 ea5
    refine W.widen (k := 1) (n := 24) (Nat.le_of_ble_eq_true rfl) (Nat.le_of_ble_eq_true rfl) ?_
    exact c_aret S hr hlk hw h ⟨_, rfl⟩ dX0_rowOf_7
theorem ctC_X0_rowOf (l : Launch) (D : va_G) (dA : Nat → ClassId) (ad : Nat → Nat) (fv : Nat → Value) (A : Nat → Prop) (a : CS) (x0 : Int32) (x1 : Int32) (Q : Nat → CS → Prop) (h : wpC_X0_rowOf a x0 x1 Q) : Met l yX0_rowOf (ws_ yX0_rowOf cX0_rowOf 2 (some (.object "java/lang/Object"))) rmC_X0_rowOf (cPc D dA ad fv A a [.int x0, .int x1]) (cQr D dA ad fv A Q) 1 24 A :=
  c_met (by decide) rfl rfl rfl (Nat.le_of_ble_eq_true rfl) (fun p e s m below meth c ls S hr hlk hin2 hw hl => wkC_X0_rowOf_e S hr hlk Q x0 x1 a _ _ ls h hw hl)
theorem cwC_X0_X0_rowOf {R : Room} {s : State} {args : Array Value} {rm : Room} (hts : ∀ w ∈ lw_all, w.before args s = true) (hR : rm.frames + 1 ≤ R.frames ∧ 8 + (2 + 11) + rm.locals ≤ R.locals) (hc : rm.cells = 1 := by rfl) (hs : rm.slots = 24 := by rfl) : CallB R s args RX0 494 yX0_rowOf cX0_rowOf 2 (some (.object "java/lang/Object")) (ws_ yX0_rowOf cX0_rowOf 2 (some (.object "java/lang/Object"))) rm 1 24 2 ∧ (Cond.static yX0_rowOf).before args s = true :=
  va_cwS 2 hts (lw_S q1117 q1118 q103 q1119) rfl hc hs (by decide +kernel) hR
/-! X0.own -/
abbrev rmC_X0_own : Room := { frames := 2, cells := 2, slots := 25, locals := 66 }
def wpC_X0_own (a : CS) (x1 : Nat) (Q : Nat → CS → Prop) : Prop := ∀ o0 : Nat, 1000 ≤ o0 → (a.2.2.1 o0).1 = 0 → ∀ a0 : CS, a0 = wN a o0 (104, 0) → (wpC_X4_init a0 o0 (fun a4 => (shK a4 x1) ∧ (wpC_X4_isFloats a4 x1 (fun r10 a10 => (shK a10 x1) ∧ (wpC_X4_size a10 x1 (fun r14 a14 => wpC_X0_rowOf a14 r10 r14 (fun r17 a17 => (shK a17 o0) ∧ ((objK a17 r17) ∧ (∀ a20 : CS, a20 = wR a17 o0 0 r17 → ((shK a20 x1) ∧ (wpC_X4_size a20 x1 (fun r29 a29 => wpC_X0_carries a29 x1 (0 : Int32) o0 (0 : Int32) r29 (fun a32 => Q o0 a32)))))))))))))
set_option maxHeartbeats 4000000 in
set_option maxRecDepth 100000 in
theorem wkC_X0_own_e (S : CallFix p m c cX0_own 3 s args lw_all RX0) (hr : meth.sig.returnType = (some (.object "KeptLeaves$Sheet"))) (hlk : meth.locks = false) (Q : Nat → CS → Prop) (x1 : Nat) (a : CS) (H : Heap) (locs : List Loc) (ls : Array Slot) (h : wpC_X0_own a x1 Q) (hw : CW D dA ad fv A a s H locs) (hl : lv_has ls 3 [(0, .ref (ad 0)), (1, .ref (ad x1))]) : W p l e rmC_X0_own s m args below meth c H locs 0 0 (MQ below (cQr D dA ad fv A Q) args s 2 25 A) (F0 m 0 ls []) := by
  have hx := S.1
  have hb := S.2.1
  have hown := S.2.2.2.1
  have hts := S.2.2.2.2
  unfold wpC_X0_own at h
  refine c_new S hw (ci := 4) (fs := [.null]) in_X4 tyX4 tyX4_ok q299 q301 q110 rfl (fun j hj => by rcases (show j = 0 by omega) with rfl <;> rfl) (cell_new (fun n hn => by simp [dCell, rv, rq, va_rf])) (Nat.le_of_ble_eq_true rfl) (Nat.le_of_ble_eq_true rfl) dX0_own_0 (fun o0 a0 H go0 zo0 ea0 hw => ?_)
  replace h := h o0 go0 zo0 a0 ea0
  refine W.widen (k := 1) (n := 1) (Nat.le_of_ble_eq_true rfl) (Nat.le_of_ble_eq_true rfl) ?_
  refine lv_dup hx hb dX0_own_3 rfl ?_
  refine c_callv hw (va_runIN (As := []) (rest := [.ref (ad o0)]) S (ctC_X4_init l D dA ad fv A a0 o0 _ h) (cwC_X0_X4_init hts hw.nw ⟨Nat.le_of_ble_eq_true rfl, Nat.le_of_ble_eq_true rfl⟩) (c_preS hw) rfl rfl hl.1 rfl (lv_room (Nat.le_of_ble_eq_true rfl)) dX0_own_4 ⟨Nat.le_of_ble_eq_true rfl, Nat.le_of_ble_eq_true rfl⟩) (fun a4 H locs h hw => ?_)
  refine lv_astore_n (lv' := [(2, .ref (ad o0)), (0, .ref (ad 0)), (1, .ref (ad x1))]) hx hb dX0_own_7 rfl hl (by decide) rfl (fun ls hl => ?_)
  refine lv_aload_n hx hb dX0_own_8 rfl (lv_at hl 0 rfl) ?_
  refine lv_aload_n hx hb dX0_own_9 rfl (lv_at hl 2 rfl) ?_
  have hk10_0 := h.1
  replace h := h.2
  refine c_calli hw (va_runV (As := []) (rest := [.ref (ad o0)]) S (ctC_X4_isFloats l D dA ad fv A a4 x1 _ h) (cwC_X0_X4_isFloats hts ⟨Nat.le_of_ble_eq_true rfl, Nat.le_of_ble_eq_true rfl⟩) (c_preV hw (n := x1) hk10_0.ok (hk10_0.isO _) rfl) rfl rfl hl.1 rfl (lv_room (Nat.le_of_ble_eq_true rfl)) dX0_own_10 ⟨Nat.le_of_ble_eq_true rfl, Nat.le_of_ble_eq_true rfl⟩) (fun r10 a10 H locs h hw => ?_)
  refine lv_aload_n hx hb dX0_own_13 rfl (lv_at hl 2 rfl) ?_
  have hk14_1 := h.1
  replace h := h.2
  refine c_calli hw (va_runV (As := []) (rest := [.int r10, .ref (ad o0)]) S (ctC_X4_size l D dA ad fv A a10 x1 _ h) (cwC_X0_X4_size hts ⟨Nat.le_of_ble_eq_true rfl, Nat.le_of_ble_eq_true rfl⟩) (c_preV hw (n := x1) hk14_1.ok (hk14_1.isO _) rfl) rfl rfl hl.1 rfl (lv_room (Nat.le_of_ble_eq_true rfl)) dX0_own_14 ⟨Nat.le_of_ble_eq_true rfl, Nat.le_of_ble_eq_true rfl⟩) (fun r14 a14 H locs h hw => ?_)
  refine c_callr hw (va_runS (As := [.int r10, .int r14]) (rest := [.ref (ad o0)]) S (ctC_X0_rowOf l D dA ad fv A a14 r10 r14 _ h) (cwC_X0_X0_rowOf hts ⟨Nat.le_of_ble_eq_true rfl, Nat.le_of_ble_eq_true rfl⟩) (c_preS hw) rfl rfl hl.1 rfl (lv_room (Nat.le_of_ble_eq_true rfl)) dX0_own_17 ⟨Nat.le_of_ble_eq_true rfl, Nat.le_of_ble_eq_true rfl⟩) (fun r17 a17 H locs h hw => ?_)
  refine W.widen (k := 2) (n := 25) (Nat.le_of_ble_eq_true rfl) (Nat.le_of_ble_eq_true rfl) ?_
  have hk20_2 := h.1
  replace h := h.2
  have hk20_3 := h.1
  replace h := h.2
  refine c_putX S hw (n := o0) (x := r17) hk20_2.ne hk20_2.ok hk20_2.isX rfl in_X4 tyX4 tyX4_ok nmX4 (Or.inr (List.mem_of_getElem? (i := 25) rfl)) rfl rfl (rv_n hk20_3.ne).symm rfl dX0_own_20 (fun a20 H locs ea20 hw => ?_)
  replace h := h a20 ea20
  refine lv_aload_n hx hb dX0_own_23 rfl (lv_at hl 1 rfl) ?_
  refine lv_aload_n hx hb dX0_own_24 rfl (lv_at hl 2 rfl) ?_
  refine lv_iconst (v := (0 : Int32)) hx hb dX0_own_25 (by decide) ?_
  refine lv_aload_n hx hb dX0_own_26 rfl (lv_at hl 0 rfl) ?_
  refine lv_iconst (v := (0 : Int32)) hx hb dX0_own_27 (by decide) ?_
  refine lv_aload_n hx hb dX0_own_28 rfl (lv_at hl 2 rfl) ?_
  have hk29_4 := h.1
  replace h := h.2
  refine c_calli hw (va_runV (As := []) (rest := [.int (0 : Int32), .ref (ad o0), .int (0 : Int32), .ref (ad x1), .ref (ad 0)]) S (ctC_X4_size l D dA ad fv A a20 x1 _ h) (cwC_X0_X4_size hts ⟨Nat.le_of_ble_eq_true rfl, Nat.le_of_ble_eq_true rfl⟩) (c_preV hw (n := x1) hk29_4.ok (hk29_4.isO _) rfl) rfl rfl hl.1 rfl (lv_room (Nat.le_of_ble_eq_true rfl)) dX0_own_29 ⟨Nat.le_of_ble_eq_true rfl, Nat.le_of_ble_eq_true rfl⟩) (fun r29 a29 H locs h hw => ?_)
  refine c_callv hw (va_runV (As := [.ref (ad x1), .int (0 : Int32), .ref (ad o0), .int (0 : Int32), .int r29]) (rest := []) S (ctC_X0_carries l D dA ad fv A a29 x1 (0 : Int32) o0 (0 : Int32) r29 _ h) (cwC_X0_X0_carries hts ⟨Nat.le_of_ble_eq_true rfl, Nat.le_of_ble_eq_true rfl⟩) (c_preV hw (n := 0) (cOk.s (by decide)) (isO_K _) rfl) rfl rfl hl.1 rfl (lv_room (Nat.le_of_ble_eq_true rfl)) dX0_own_32 ⟨Nat.le_of_ble_eq_true rfl, Nat.le_of_ble_eq_true rfl⟩) (fun a32 H locs h hw => ?_)
  refine lv_aload_n hx hb dX0_own_35 rfl (lv_at hl 0 rfl) ?_
  exact c_aret S hr hlk hw h ⟨_, rfl⟩ dX0_own_36
theorem ctC_X0_own (l : Launch) (D : va_G) (dA : Nat → ClassId) (ad : Nat → Nat) (fv : Nat → Value) (A : Nat → Prop) (a : CS) (x1 : Nat) (Q : Nat → CS → Prop) (h : wpC_X0_own a x1 Q) : Met l yX0_own (ws_ yX0_own cX0_own 3 (some (.object "KeptLeaves$Sheet"))) rmC_X0_own (cPc D dA ad fv A a [.ref (ad 0), .ref (ad x1)]) (cQr D dA ad fv A Q) 2 25 A :=
  c_met (by decide) rfl rfl rfl (Nat.le_of_ble_eq_true rfl) (fun p e s m below meth c ls S hr hlk hin2 hw hl => wkC_X0_own_e S hr hlk Q x1 a _ _ ls h hw hl)
theorem cwC_X0_X0_own {R : Room} {s : State} {args : Array Value} {rm : Room} (hts : ∀ w ∈ lw_all, w.before args s = true) (hR : rm.frames + 1 ≤ R.frames ∧ 8 + (3 + 11) + rm.locals ≤ R.locals) (hc : rm.cells = 2 := by rfl) (hs : rm.slots = 25 := by rfl) : CallW R s args RX0 RX0 547 yX0_own cX0_own 3 (some (.object "KeptLeaves$Sheet")) (ws_ yX0_own cX0_own 3 (some (.object "KeptLeaves$Sheet"))) rm 2 25 1 :=
  cwV 1 hts (lw_V q1235 q1237 qs46 q103 q1238) rfl hc hs (by decide +kernel) hR
/-! X0.rest -/
abbrev rmC_X0_rest : Room := { frames := 2, cells := 0, slots := 0, locals := 42 }
def wpC_X0_rest (a : CS) (x1 : Int32) (x2 : Int32) (Q : Int32 → CS → Prop) : Prop := wpC_X0_isSlot a x1 (fun r1 a1 => if r1 = 0 then (Q (-1000000001 : Int32) a1) else ((vp_in x1 5) ∧ (if (a1.2.1 (x1.toNatClampNeg + 90) 0) = 0 then (Q (-1000000011 : Int32) a1) else ((objK a1 (a1.2.1 (x1.toNatClampNeg + 90) 0)) ∧ (if (ansG (a1.2.2.1 (a1.2.1 (x1.toNatClampNeg + 90) 0)).1) = 0 then (Q (-1000000012 : Int32) a1) else ((kindK a1 (a1.2.1 (x1.toNatClampNeg + 90) 0) 115) ∧ (if x2 = 0 then (Q (-1000000002 : Int32) a1) else ((¬ x2 = 0) ∧ (Q (irm (a1.1 (a1.2.1 (x1.toNatClampNeg + 90) 0) 0) x2) a1)))))))))
set_option maxHeartbeats 4000000 in
set_option maxRecDepth 100000 in
theorem wkC_X0_rest_e (S : CallFix p m c cX0_rest 5 s args lw_all RX0) (hr : meth.sig.returnType = (some .int)) (hlk : meth.locks = false) (Q : Int32 → CS → Prop) (x1 : Int32) (x2 : Int32) (a : CS) (H : Heap) (locs : List Loc) (ls : Array Slot) (h : wpC_X0_rest a x1 x2 Q) (hw : CW D dA ad fv A a s H locs) (hl : lv_has ls 5 [(0, .ref (ad 0)), (1, .int x1), (2, .int x2)]) : W p l e rmC_X0_rest s m args below meth c H locs 0 0 (MQ below (cQi D dA ad fv A Q) args s 0 0 A) (F0 m 0 ls []) := by
  have hx := S.1
  have hb := S.2.1
  have hown := S.2.2.2.1
  have hts := S.2.2.2.2
  unfold wpC_X0_rest at h
  refine lv_iload_n hx hb dX0_rest_0 rfl (lv_at hl 1 rfl) ?_
  refine c_calli hw (va_runS (As := [.int x1]) (rest := []) S (ctC_X0_isSlot l D dA ad fv A a x1 _ h) (cwC_X0_X0_isSlot hts ⟨Nat.le_of_ble_eq_true rfl, Nat.le_of_ble_eq_true rfl⟩) (c_preS hw) rfl rfl hl.1 rfl (lv_room (Nat.le_of_ble_eq_true rfl)) dX0_rest_1 ⟨Nat.le_of_ble_eq_true rfl, Nat.le_of_ble_eq_true rfl⟩) (fun r1 a1 H locs h hw => ?_)
  refine lv_if_ne (tgt := 10) hx hb dX0_rest_4 (by decide) (fun c4 => ?_) (fun c4 => ?_)
  · replace h := if_f c4 h
    refine lv_aload_n hx hb dX0_rest_10 rfl (lv_at hl 0 rfl) ?_
    refine c_get S hw (n := 0) (ci := 0) (cOk.s (by decide)) (isO_K _) rfl in_X0 26 (by decide) (Or.inl q350) rfl rfl dX0_rest_11 ?_
    refine lv_iload_n hx hb dX0_rest_14 rfl (lv_at hl 1 rfl) ?_
    have hi15 := h.1
    replace h := h.2
    refine c_aald S hw (n := 84) (t := 8) (len := 5) (r := fun j => j + 90) (cOk.s (by decide)) rfl rfl hi15 (rv_n (by omega)) dX0_rest_15 ?_
    by_cases c16 : (a1.2.1 (x1.toNatClampNeg + 90) 0) = 0
    · replace h := if_t c16 h
      refine c_getn S hw (n := (x1.toNatClampNeg + 90)) (x := (a1.2.1 (x1.toNatClampNeg + 90) 0)) (cOk.s (mem_sheet (by omega) (by have := vin_lt hi15; omega))) ((isO_sl (by omega) (by have := vin_lt hi15; omega)) _) rfl in_X5 0 (by decide) (Or.inr (List.mem_of_getElem? (i := 27) rfl)) rfl rfl c16 dX0_rest_16 ?_
      refine lv_astore_nN (lv' := [(3, .null), (0, .ref (ad 0)), (1, .int x1), (2, .int x2)]) hx hb dX0_rest_19 rfl hl (by decide) rfl (fun ls hl => ?_)
      refine lv_aload_nN hx hb dX0_rest_20 rfl (lv_at hl 0 rfl) ?_
      refine lv_ifnonnullN hx hb dX0_rest_21 ?_
      refine lv_ldcw hx hb hown (hts _ q1130) dX0_rest_24 ?_
      exact c_iret S hr hlk hw h dX0_rest_27
    replace h := if_f c16 h
    refine c_getr S hw (n := (x1.toNatClampNeg + 90)) (x := (a1.2.1 (x1.toNatClampNeg + 90) 0)) (cOk.s (mem_sheet (by omega) (by have := vin_lt hi15; omega))) ((isO_sl (by omega) (by have := vin_lt hi15; omega)) _) rfl in_X5 0 (by decide) (Or.inr (List.mem_of_getElem? (i := 27) rfl)) rfl rfl c16 dX0_rest_16 ?_
    refine lv_astore_n (lv' := [(3, .ref (ad (a1.2.1 (x1.toNatClampNeg + 90) 0))), (0, .ref (ad 0)), (1, .int x1), (2, .int x2)]) hx hb dX0_rest_19 rfl hl (by decide) rfl (fun ls hl => ?_)
    refine lv_aload_n hx hb dX0_rest_20 rfl (lv_at hl 0 rfl) ?_
    refine lv_ifnonnull (tgt := 28) hx hb dX0_rest_21 (by decide) ?_
    refine lv_aload_n hx hb dX0_rest_28 rfl (lv_at hl 0 rfl) ?_
    have hk29_0 := h.1
    replace h := h.2
    refine c_inst S hw hk29_0 (v := (ansG (a1.2.2.1 (a1.2.1 (x1.toNatClampNeg + 90) 0)).1)) q1239 (instG hk29_0) dX0_rest_29 ?_
    refine lv_if_ne (tgt := 39) hx hb dX0_rest_32 (by decide) (fun c32 => ?_) (fun c32 => ?_)
    · replace h := if_f c32 h
      refine lv_aload_n hx hb dX0_rest_39 rfl (lv_at hl 0 rfl) ?_
      have hk40_1 := h.1
      replace h := h.2
      refine c_cast S hw (hk40_1.obj (by decide)) q1239 (Or.inl (hk40_1.kcls rfl)) dX0_rest_40 ?_
      refine c_get S hw (n := (a1.2.1 (x1.toNatClampNeg + 90) 0)) (hk40_1.ok (by decide)) ((isO_G hk40_1) _) rfl in_X15 0 (by decide) (Or.inr (List.mem_of_getElem? (i := 41) rfl)) rfl rfl dX0_rest_43 ?_
      refine lv_istore (lv' := [(4, .int (a1.1 (a1.2.1 (x1.toNatClampNeg + 90) 0) 0)), (3, .ref (ad (a1.2.1 (x1.toNatClampNeg + 90) 0))), (0, .ref (ad 0)), (1, .int x1), (2, .int x2)]) hx hb dX0_rest_46 hl (by decide) rfl (fun ls hl => ?_)
      refine lv_iload_n hx hb dX0_rest_48 rfl (lv_at hl 4 rfl) ?_
      refine lv_if_ne (tgt := 58) hx hb dX0_rest_49 (by decide) (fun c49 => ?_) (fun c49 => ?_)
      · replace h := if_f c49 h
        refine lv_iload hx hb dX0_rest_58 (lv_at hl 0 rfl) ?_
        refine lv_iload_n hx hb dX0_rest_60 rfl (lv_at hl 4 rfl) ?_
        have hz61 := h.1
        replace h := h.2
        refine lv_irem hx hb dX0_rest_61 hz61 ?_
        exact c_iret S hr hlk hw h dX0_rest_62
      · replace h := if_t c49 h
        refine lv_ldcw hx hb hown (hts _ q1011) dX0_rest_52 ?_
        refine lv_goto (tgt := 62) hx hb dX0_rest_55 (by decide) ?_
        exact c_iret S hr hlk hw h dX0_rest_62
    · replace h := if_t c32 h
      refine lv_ldcw hx hb hown (hts _ q883) dX0_rest_35 ?_
      exact c_iret S hr hlk hw h dX0_rest_38
  · replace h := if_t c4 h
    refine lv_ldc hx hb hown (hts _ q435) dX0_rest_7 ?_
    exact c_iret S hr hlk hw h dX0_rest_9
theorem ctC_X0_rest (l : Launch) (D : va_G) (dA : Nat → ClassId) (ad : Nat → Nat) (fv : Nat → Value) (A : Nat → Prop) (a : CS) (x1 : Int32) (x2 : Int32) (Q : Int32 → CS → Prop) (h : wpC_X0_rest a x1 x2 Q) : Met l yX0_rest (ws_ yX0_rest cX0_rest 5 (some .int)) rmC_X0_rest (cPc D dA ad fv A a [.ref (ad 0), .int x1, .int x2]) (cQi D dA ad fv A Q) 0 0 A :=
  c_met (by decide) rfl rfl rfl (Nat.le_of_ble_eq_true rfl) (fun p e s m below meth c ls S hr hlk hin2 hw hl => wkC_X0_rest_e S hr hlk Q x1 x2 a _ _ ls h hw hl)
/-! X0.lay -/
abbrev rmC_X0_lay : Room := { frames := 10, cells := 2, slots := 25, locals := 400 }
def bkC_X0_lay_65 (Q : Int32 → CS → Prop) (x1 : Int32) (x2 : Int32) (x3 : Int32) : CS → Prop := fun a => (vp_in x1 5) ∧ (wpC_X5_thing a (x1.toNatClampNeg + 90) (fun r71 a71 => (vp_in x1 5) ∧ (if x2 = 0 then (∀ a136 : CS, a136 = wR a71 (x1.toNatClampNeg + 90) 0 0 → (Q r71 a136)) else (if x2 = (1 : Int32) then ((vp_in x3 8) ∧ ((leafK a71 (a71.2.1 41 x3.toNatClampNeg)) ∧ (vwpC_copy a71 (a71.2.1 41 x3.toNatClampNeg) (fun r104 a104 => (leafK a104 r104) ∧ (∀ a136 : CS, a136 = wR a104 (x1.toNatClampNeg + 90) 0 r104 → (Q r71 a136)))))) else (if x2 = (2 : Int32) then ((vp_in x3 4) ∧ (wpC_X0_own a71 (x3.toNatClampNeg + 86) (fun r122 a122 => (shK a122 r122) ∧ (∀ a136 : CS, a136 = wR a122 (x1.toNatClampNeg + 90) 0 r122 → (Q r71 a136))))) else (∀ o128 : Nat, 1000 ≤ o128 → (a71.2.2.1 o128).1 = 0 → ∀ a128 : CS, a128 = wN a71 o128 (115, 0) → (wpC_X15_init a128 o128 x3 (fun a133 => (kindK a133 o128 115) ∧ (∀ a136 : CS, a136 = wR a133 (x1.toNatClampNeg + 90) 0 o128 → (Q r71 a136))))))))))
set_option maxHeartbeats 4000000 in
set_option maxRecDepth 100000 in
theorem wkC_X0_lay_65 (S : CallFix p m c cX0_lay 5 s args lw_all RX0) (hr : meth.sig.returnType = (some .int)) (hlk : meth.locks = false) (Q : Int32 → CS → Prop) (x1 : Int32) (x2 : Int32) (x3 : Int32) : ∀ (a : CS) (H : Heap) (locs : List Loc) (ls : Array Slot), bkC_X0_lay_65 Q x1 x2 x3 a → CW D dA ad fv A a s H locs → lv_has ls 5 [(0, .ref (ad 0)), (1, .int x1), (2, .int x2), (3, .int x3)] → W p l e rmC_X0_lay s m args below meth c H locs 0 0 (MQ below (cQi D dA ad fv A Q) args s 2 25 A) (F0 m 65 ls []) := by
  have hx := S.1
  have hb := S.2.1
  have hown := S.2.2.2.1
  have hts := S.2.2.2.2
  intro  a H locs ls h hw hl
  unfold bkC_X0_lay_65 at h
  refine lv_aload_n hx hb dX0_lay_65 rfl (lv_at hl 0 rfl) ?_
  refine c_get S hw (n := 0) (ci := 0) (cOk.s (by decide)) (isO_K _) rfl in_X0 26 (by decide) (Or.inl q350) rfl rfl dX0_lay_66 ?_
  refine lv_iload_n hx hb dX0_lay_69 rfl (lv_at hl 1 rfl) ?_
  have hi70 := h.1
  replace h := h.2
  refine c_aald S hw (n := 84) (t := 8) (len := 5) (r := fun j => j + 90) (cOk.s (by decide)) rfl rfl hi70 (rv_n (by omega)) dX0_lay_70 ?_
  refine c_calli hw (va_runV (As := []) (rest := []) S (ctC_X5_thing l D dA ad fv A a (x1.toNatClampNeg + 90) _ h) (cwC_X0_X5_thing hts ⟨Nat.le_of_ble_eq_true rfl, Nat.le_of_ble_eq_true rfl⟩) (c_preV hw (n := (x1.toNatClampNeg + 90)) (cOk.s (mem_sheet (by omega) (by have := vin_lt hi70; omega))) ((isO_sl (by omega) (by have := vin_lt hi70; omega)) _) rfl) rfl rfl hl.1 rfl (lv_room (Nat.le_of_ble_eq_true rfl)) dX0_lay_71 ⟨Nat.le_of_ble_eq_true rfl, Nat.le_of_ble_eq_true rfl⟩) (fun r71 a71 H locs h hw => ?_)
  refine lv_istore (lv' := [(4, .int r71), (0, .ref (ad 0)), (1, .int x1), (2, .int x2), (3, .int x3)]) hx hb dX0_lay_74 hl (by decide) rfl (fun ls hl => ?_)
  refine lv_aload_n hx hb dX0_lay_76 rfl (lv_at hl 1 rfl) ?_
  refine c_get S hw (n := 0) (ci := 0) (cOk.s (by decide)) (isO_K _) rfl in_X0 26 (by decide) (Or.inl q350) rfl rfl dX0_lay_77 ?_
  refine lv_iload_n hx hb dX0_lay_80 rfl (lv_at hl 2 rfl) ?_
  have hi81 := h.1
  replace h := h.2
  refine c_aald S hw (n := 84) (t := 8) (len := 5) (r := fun j => j + 90) (cOk.s (by decide)) rfl rfl hi81 (rv_n (by omega)) dX0_lay_81 ?_
  refine lv_iload_n hx hb dX0_lay_82 rfl (lv_at hl 3 rfl) ?_
  refine lv_if_ne (tgt := 90) hx hb dX0_lay_83 (by decide) (fun c83 => ?_) (fun c83 => ?_)
  · replace h := if_f c83 h
    refine lv_iload_n hx hb dX0_lay_90 rfl (lv_at hl 3 rfl) ?_
    refine lv_iconst (v := (1 : Int32)) hx hb dX0_lay_91 (by decide) ?_
    refine lv_icmp_ne (tgt := 110) hx hb dX0_lay_92 (by decide) (fun c92 => ?_) (fun c92 => ?_)
    · replace h := if_f c92 h
      refine lv_iload_n hx hb dX0_lay_110 rfl (lv_at hl 3 rfl) ?_
      refine lv_iconst (v := (2 : Int32)) hx hb dX0_lay_111 (by decide) ?_
      refine lv_icmp_ne (tgt := 128) hx hb dX0_lay_112 (by decide) (fun c112 => ?_) (fun c112 => ?_)
      · replace h := if_f c112 h
        refine c_new S hw (ci := 15) (fs := [.int 0]) in_X15 tyX15 tyX15_ok q1239 q1240 q129 rfl (fun j hj => by rcases (show j = 0 by omega) with rfl <;> rfl) (cell_new (fun n hn => by simp [dCell, rv, rq, va_rf])) (Nat.le_of_ble_eq_true rfl) (Nat.le_of_ble_eq_true rfl) dX0_lay_128 (fun o128 a128 H go128 zo128 ea128 hw => ?_)
        replace h := h o128 go128 zo128 a128 ea128
        refine W.widen (k := 1) (n := 1) (Nat.le_of_ble_eq_true rfl) (Nat.le_of_ble_eq_true rfl) ?_
        refine lv_dup hx hb dX0_lay_131 rfl ?_
        refine lv_iload_n hx hb dX0_lay_132 rfl (lv_at hl 4 rfl) ?_
        refine c_callv hw (va_runI (As := [.int x3]) (rest := [.ref (ad o128), .ref (ad (x1.toNatClampNeg + 90))]) S (ctC_X15_init l D dA ad fv A a128 o128 x3 _ h) (cwC_X0_X15_init hts ⟨Nat.le_of_ble_eq_true rfl, Nat.le_of_ble_eq_true rfl⟩) (c_preS hw) rfl rfl hl.1 rfl (lv_room (Nat.le_of_ble_eq_true rfl)) dX0_lay_133 ⟨Nat.le_of_ble_eq_true rfl, Nat.le_of_ble_eq_true rfl⟩) (fun a133 H locs h hw => ?_)
        have hk136_0 := h.1
        replace h := h.2
        refine c_putX S hw (n := (x1.toNatClampNeg + 90)) (x := o128) (by omega) (cOk.s (mem_sheet (by omega) (by have := vin_lt hi81; omega))) (isX_sl (by omega) (by have := vin_lt hi81; omega)) rfl in_X5 tyX5 tyX5_ok nmX5 (Or.inr (List.mem_of_getElem? (i := 27) rfl)) rfl rfl (rv_n hk136_0.ne).symm rfl dX0_lay_136 (fun a136 H locs ea136 hw => ?_)
        replace h := h a136 ea136
        refine lv_iload hx hb dX0_lay_139 (lv_at hl 0 rfl) ?_
        refine W.widen (k := 2) (n := 25) (Nat.le_of_ble_eq_true rfl) (Nat.le_of_ble_eq_true rfl) ?_
        exact c_iret S hr hlk hw h dX0_lay_141
      · replace h := if_t c112 h
        refine lv_aload_n hx hb dX0_lay_115 rfl (lv_at hl 1 rfl) ?_
        refine lv_aload_n hx hb dX0_lay_116 rfl (lv_at hl 1 rfl) ?_
        refine c_get S hw (n := 0) (ci := 0) (cOk.s (by decide)) (isO_K _) rfl in_X0 25 (by decide) (Or.inl q349) rfl rfl dX0_lay_117 ?_
        refine lv_iload_n hx hb dX0_lay_120 rfl (lv_at hl 4 rfl) ?_
        have hi121 := h.1
        replace h := h.2
        refine c_aald S hw (n := 83) (t := 7) (len := 4) (r := fun j => j + 86) (cOk.s (by decide)) rfl rfl hi121 (rv_n (by omega)) dX0_lay_121 ?_
        refine c_callr hw (va_runV (As := [.ref (ad (x3.toNatClampNeg + 86))]) (rest := [.ref (ad (x1.toNatClampNeg + 90))]) S (ctC_X0_own l D dA ad fv A a71 (x3.toNatClampNeg + 86) _ h) (cwC_X0_X0_own hts ⟨Nat.le_of_ble_eq_true rfl, Nat.le_of_ble_eq_true rfl⟩) (c_preV hw (n := 0) (cOk.s (by decide)) (isO_K _) rfl) rfl rfl hl.1 rfl (lv_room (Nat.le_of_ble_eq_true rfl)) dX0_lay_122 ⟨Nat.le_of_ble_eq_true rfl, Nat.le_of_ble_eq_true rfl⟩) (fun r122 a122 H locs h hw => ?_)
        refine W.widen (k := 2) (n := 25) (Nat.le_of_ble_eq_true rfl) (Nat.le_of_ble_eq_true rfl) ?_
        refine lv_goto (tgt := 136) hx hb dX0_lay_125 (by decide) ?_
        have hk136_0 := h.1
        replace h := h.2
        refine c_putX S hw (n := (x1.toNatClampNeg + 90)) (x := r122) (by omega) (cOk.s (mem_sheet (by omega) (by have := vin_lt hi81; omega))) (isX_sl (by omega) (by have := vin_lt hi81; omega)) rfl in_X5 tyX5 tyX5_ok nmX5 (Or.inr (List.mem_of_getElem? (i := 27) rfl)) rfl rfl (rv_n hk136_0.ne).symm rfl dX0_lay_136 (fun a136 H locs ea136 hw => ?_)
        replace h := h a136 ea136
        refine lv_iload hx hb dX0_lay_139 (lv_at hl 0 rfl) ?_
        exact c_iret S hr hlk hw h dX0_lay_141
    · replace h := if_t c92 h
      refine lv_aload_n hx hb dX0_lay_95 rfl (lv_at hl 1 rfl) ?_
      refine c_get S hw (n := 0) (ci := 0) (cOk.s (by decide)) (isO_K _) rfl in_X0 0 (by decide) (Or.inl q324) rfl rfl dX0_lay_96 ?_
      refine c_get S hw (n := 1) (cOk.s (by decide)) ((isO_S (by decide) (by decide)) _) rfl in_X1 2 (by decide) (Or.inr (List.mem_of_getElem? (i := 13) rfl)) rfl rfl dX0_lay_99 ?_
      refine lv_iload_n hx hb dX0_lay_102 rfl (lv_at hl 4 rfl) ?_
      have hi103 := h.1
      replace h := h.2
      have hk103_0 := h.1
      replace h := h.2
      refine c_aald S hw (n := 41) (cOk.s (by decide)) ((isR_lf (by decide) (by decide)) _) rfl hi103 (rv_n hk103_0.ne) dX0_lay_103 ?_
      refine c_callr hw (runL_X0_copy S hw h [.ref (ad (x1.toNatClampNeg + 90))] hl.1 rfl (Nat.le_of_ble_eq_true rfl) dX0_lay_104 ⟨Nat.le_of_ble_eq_true rfl, Nat.le_of_ble_eq_true rfl⟩ (Nat.le_of_ble_eq_true rfl) (Nat.le_of_ble_eq_true rfl)) (fun r104 a104 H locs h hw => ?_)
      refine W.widen (k := 1) (n := 4) (Nat.le_of_ble_eq_true rfl) (Nat.le_of_ble_eq_true rfl) ?_
      refine lv_goto (tgt := 136) hx hb dX0_lay_107 (by decide) ?_
      have hk136_1 := h.1
      replace h := h.2
      refine c_putX S hw (n := (x1.toNatClampNeg + 90)) (x := r104) (by omega) (cOk.s (mem_sheet (by omega) (by have := vin_lt hi81; omega))) (isX_sl (by omega) (by have := vin_lt hi81; omega)) rfl in_X5 tyX5 tyX5_ok nmX5 (Or.inr (List.mem_of_getElem? (i := 27) rfl)) rfl rfl (rv_n hk136_1.ne).symm rfl dX0_lay_136 (fun a136 H locs ea136 hw => ?_)
      replace h := h a136 ea136
      refine lv_iload hx hb dX0_lay_139 (lv_at hl 0 rfl) ?_
      refine W.widen (k := 2) (n := 25) (Nat.le_of_ble_eq_true rfl) (Nat.le_of_ble_eq_true rfl) ?_
      exact c_iret S hr hlk hw h dX0_lay_141
  · replace h := if_t c83 h
    refine lv_null hx hb dX0_lay_86 ?_
    refine lv_goto (tgt := 136) hx hb dX0_lay_87 (by decide) ?_
    refine c_putX S hw (n := (x1.toNatClampNeg + 90)) (x := 0) (by omega) (cOk.s (mem_sheet (by omega) (by have := vin_lt hi81; omega))) (isX_sl (by omega) (by have := vin_lt hi81; omega)) rfl in_X5 tyX5 tyX5_ok nmX5 (Or.inr (List.mem_of_getElem? (i := 27) rfl)) rfl rfl rv_0.symm rfl dX0_lay_136 (fun a136 H locs ea136 hw => ?_)
    replace h := h a136 ea136
    refine lv_iload hx hb dX0_lay_139 (lv_at hl 0 rfl) ?_
    refine W.widen (k := 2) (n := 25) (Nat.le_of_ble_eq_true rfl) (Nat.le_of_ble_eq_true rfl) ?_
    exact c_iret S hr hlk hw h dX0_lay_141
def bkC_X0_lay_44 (Q : Int32 → CS → Prop) (x1 : Int32) (x2 : Int32) (x3 : Int32) : CS → Prop := fun a => if x2 = (2 : Int32) then ((vp_in x3 4) ∧ (wpC_X4_isThere a (x3.toNatClampNeg + 86) (fun r55 a55 => if r55 = 0 then (Q (-1000000011 : Int32) a55) else (bkC_X0_lay_65 Q x1 x2 x3 a55)))) else (bkC_X0_lay_65 Q x1 x2 x3 a)
set_option maxHeartbeats 4000000 in
set_option maxRecDepth 100000 in
theorem wkC_X0_lay_44 (S : CallFix p m c cX0_lay 5 s args lw_all RX0) (hr : meth.sig.returnType = (some .int)) (hlk : meth.locks = false) (Q : Int32 → CS → Prop) (x1 : Int32) (x2 : Int32) (x3 : Int32) : ∀ (a : CS) (H : Heap) (locs : List Loc) (ls : Array Slot), bkC_X0_lay_44 Q x1 x2 x3 a → CW D dA ad fv A a s H locs → lv_has ls 5 [(0, .ref (ad 0)), (1, .int x1), (2, .int x2), (3, .int x3)] → W p l e rmC_X0_lay s m args below meth c H locs 0 0 (MQ below (cQi D dA ad fv A Q) args s 2 25 A) (F0 m 44 ls []) := by
  have hx := S.1
  have hb := S.2.1
  have hown := S.2.2.2.1
  have hts := S.2.2.2.2
  intro  a H locs ls h hw hl
  unfold bkC_X0_lay_44 at h
  refine lv_iload_n hx hb dX0_lay_44 rfl (lv_at hl 2 rfl) ?_
  refine lv_iconst (v := (2 : Int32)) hx hb dX0_lay_45 (by decide) ?_
  refine lv_icmp_ne (tgt := 65) hx hb dX0_lay_46 (by decide) (fun c46 => ?_) (fun c46 => ?_)
  · replace h := if_f c46 h
    exact wkC_X0_lay_65 S hr hlk Q x1 x2 x3 _ _ _ _ h hw (lv_sub hl [0, 1, 2, 3] rfl)
  · replace h := if_t c46 h
    refine lv_aload_n hx hb dX0_lay_49 rfl (lv_at hl 0 rfl) ?_
    refine c_get S hw (n := 0) (ci := 0) (cOk.s (by decide)) (isO_K _) rfl in_X0 25 (by decide) (Or.inl q349) rfl rfl dX0_lay_50 ?_
    refine lv_iload_n hx hb dX0_lay_53 rfl (lv_at hl 3 rfl) ?_
    have hi54 := h.1
    replace h := h.2
    refine c_aald S hw (n := 83) (t := 7) (len := 4) (r := fun j => j + 86) (cOk.s (by decide)) rfl rfl hi54 (rv_n (by omega)) dX0_lay_54 ?_
    refine c_calli hw (va_runV (As := []) (rest := []) S (ctC_X4_isThere l D dA ad fv A a (x3.toNatClampNeg + 86) _ h) (cwC_X0_X4_isThere hts ⟨Nat.le_of_ble_eq_true rfl, Nat.le_of_ble_eq_true rfl⟩) (c_preV hw (n := (x3.toNatClampNeg + 86)) (cOk.s (mem_sheet (by omega) (by have := vin_lt hi54; omega))) ((isO_sh (by omega) (by have := vin_lt hi54; omega)) _) rfl) rfl rfl hl.1 rfl (lv_room (Nat.le_of_ble_eq_true rfl)) dX0_lay_55 ⟨Nat.le_of_ble_eq_true rfl, Nat.le_of_ble_eq_true rfl⟩) (fun r55 a55 H locs h hw => ?_)
    refine lv_if_ne (tgt := 65) hx hb dX0_lay_58 (by decide) (fun c58 => ?_) (fun c58 => ?_)
    · replace h := if_f c58 h
      exact wkC_X0_lay_65 S hr hlk Q x1 x2 x3 _ _ _ _ h hw (lv_sub hl [0, 1, 2, 3] rfl)
    · replace h := if_t c58 h
      refine lv_ldcw hx hb hown (hts _ q1130) dX0_lay_61 ?_
      refine W.widen (k := 2) (n := 25) (Nat.le_of_ble_eq_true rfl) (Nat.le_of_ble_eq_true rfl) ?_
      exact c_iret S hr hlk hw h dX0_lay_64
def bkC_X0_lay_29 (Q : Int32 → CS → Prop) (x1 : Int32) (x2 : Int32) (x3 : Int32) : CS → Prop := fun a => if x2 = (2 : Int32) then (wpC_X0_isSheet a x3 (fun r35 a35 => if r35 = 0 then (Q (-1000000001 : Int32) a35) else (bkC_X0_lay_44 Q x1 x2 x3 a35))) else (bkC_X0_lay_44 Q x1 x2 x3 a)
set_option maxHeartbeats 4000000 in
set_option maxRecDepth 100000 in
theorem wkC_X0_lay_29 (S : CallFix p m c cX0_lay 5 s args lw_all RX0) (hr : meth.sig.returnType = (some .int)) (hlk : meth.locks = false) (Q : Int32 → CS → Prop) (x1 : Int32) (x2 : Int32) (x3 : Int32) : ∀ (a : CS) (H : Heap) (locs : List Loc) (ls : Array Slot), bkC_X0_lay_29 Q x1 x2 x3 a → CW D dA ad fv A a s H locs → lv_has ls 5 [(0, .ref (ad 0)), (1, .int x1), (2, .int x2), (3, .int x3)] → W p l e rmC_X0_lay s m args below meth c H locs 0 0 (MQ below (cQi D dA ad fv A Q) args s 2 25 A) (F0 m 29 ls []) := by
  have hx := S.1
  have hb := S.2.1
  have hown := S.2.2.2.1
  have hts := S.2.2.2.2
  intro  a H locs ls h hw hl
  unfold bkC_X0_lay_29 at h
  refine lv_iload_n hx hb dX0_lay_29 rfl (lv_at hl 2 rfl) ?_
  refine lv_iconst (v := (2 : Int32)) hx hb dX0_lay_30 (by decide) ?_
  refine lv_icmp_ne (tgt := 44) hx hb dX0_lay_31 (by decide) (fun c31 => ?_) (fun c31 => ?_)
  · replace h := if_f c31 h
    exact wkC_X0_lay_44 S hr hlk Q x1 x2 x3 _ _ _ _ h hw (lv_sub hl [0, 1, 2, 3] rfl)
  · replace h := if_t c31 h
    refine lv_iload_n hx hb dX0_lay_34 rfl (lv_at hl 3 rfl) ?_
    refine c_calli hw (va_runS (As := [.int x3]) (rest := []) S (ctC_X0_isSheet l D dA ad fv A a x3 _ h) (cwC_X0_X0_isSheet hts ⟨Nat.le_of_ble_eq_true rfl, Nat.le_of_ble_eq_true rfl⟩) (c_preS hw) rfl rfl hl.1 rfl (lv_room (Nat.le_of_ble_eq_true rfl)) dX0_lay_35 ⟨Nat.le_of_ble_eq_true rfl, Nat.le_of_ble_eq_true rfl⟩) (fun r35 a35 H locs h hw => ?_)
    refine lv_if_ne (tgt := 44) hx hb dX0_lay_38 (by decide) (fun c38 => ?_) (fun c38 => ?_)
    · replace h := if_f c38 h
      exact wkC_X0_lay_44 S hr hlk Q x1 x2 x3 _ _ _ _ h hw (lv_sub hl [0, 1, 2, 3] rfl)
    · replace h := if_t c38 h
      refine lv_ldc hx hb hown (hts _ q435) dX0_lay_41 ?_
      refine W.widen (k := 2) (n := 25) (Nat.le_of_ble_eq_true rfl) (Nat.le_of_ble_eq_true rfl) ?_
      exact c_iret S hr hlk hw h dX0_lay_43
def wpC_X0_lay (a : CS) (x1 : Int32) (x2 : Int32) (x3 : Int32) (Q : Int32 → CS → Prop) : Prop := wpC_X0_isSlot a x1 (fun r1 a1 => if r1 = 0 then (Q (-1000000001 : Int32) a1) else (wpC_X0_isIn a1 x2 (0 : Int32) (3 : Int32) (fun r10 a10 => if r10 = 0 then (Q (-1000000001 : Int32) a10) else (if x2 = (1 : Int32) then (wpC_X0_isLeaf a10 x3 (fun r23 a23 => if r23 = 0 then (Q (-1000000001 : Int32) a23) else (bkC_X0_lay_29 Q x1 x2 x3 a23))) else (bkC_X0_lay_29 Q x1 x2 x3 a10)))))
set_option maxHeartbeats 4000000 in
set_option maxRecDepth 100000 in
theorem wkC_X0_lay_e (S : CallFix p m c cX0_lay 5 s args lw_all RX0) (hr : meth.sig.returnType = (some .int)) (hlk : meth.locks = false) (Q : Int32 → CS → Prop) (x1 : Int32) (x2 : Int32) (x3 : Int32) (a : CS) (H : Heap) (locs : List Loc) (ls : Array Slot) (h : wpC_X0_lay a x1 x2 x3 Q) (hw : CW D dA ad fv A a s H locs) (hl : lv_has ls 5 [(0, .ref (ad 0)), (1, .int x1), (2, .int x2), (3, .int x3)]) : W p l e rmC_X0_lay s m args below meth c H locs 0 0 (MQ below (cQi D dA ad fv A Q) args s 2 25 A) (F0 m 0 ls []) := by
  have hx := S.1
  have hb := S.2.1
  have hown := S.2.2.2.1
  have hts := S.2.2.2.2
  unfold wpC_X0_lay at h
  refine lv_iload_n hx hb dX0_lay_0 rfl (lv_at hl 1 rfl) ?_
  refine c_calli hw (va_runS (As := [.int x1]) (rest := []) S (ctC_X0_isSlot l D dA ad fv A a x1 _ h) (cwC_X0_X0_isSlot hts ⟨Nat.le_of_ble_eq_true rfl, Nat.le_of_ble_eq_true rfl⟩) (c_preS hw) rfl rfl hl.1 rfl (lv_room (Nat.le_of_ble_eq_true rfl)) dX0_lay_1 ⟨Nat.le_of_ble_eq_true rfl, Nat.le_of_ble_eq_true rfl⟩) (fun r1 a1 H locs h hw => ?_)
  refine lv_if_eq (tgt := 41) hx hb dX0_lay_4 (by decide) (fun c4 => ?_) (fun c4 => ?_)
  · replace h := if_t c4 h
    refine lv_ldc hx hb hown (hts _ q435) dX0_lay_41 ?_
    refine W.widen (k := 2) (n := 25) (Nat.le_of_ble_eq_true rfl) (Nat.le_of_ble_eq_true rfl) ?_
    exact c_iret S hr hlk hw h dX0_lay_43
  · replace h := if_f c4 h
    refine lv_iload_n hx hb dX0_lay_7 rfl (lv_at hl 2 rfl) ?_
    refine lv_iconst (v := (0 : Int32)) hx hb dX0_lay_8 (by decide) ?_
    refine lv_iconst (v := (3 : Int32)) hx hb dX0_lay_9 (by decide) ?_
    refine c_calli hw (va_runS (As := [.int x2, .int (0 : Int32), .int (3 : Int32)]) (rest := []) S (ctC_X0_isIn l D dA ad fv A a1 x2 (0 : Int32) (3 : Int32) _ h) (cwC_X0_X0_isIn hts ⟨Nat.le_of_ble_eq_true rfl, Nat.le_of_ble_eq_true rfl⟩) (c_preS hw) rfl rfl hl.1 rfl (lv_room (Nat.le_of_ble_eq_true rfl)) dX0_lay_10 ⟨Nat.le_of_ble_eq_true rfl, Nat.le_of_ble_eq_true rfl⟩) (fun r10 a10 H locs h hw => ?_)
    refine lv_if_eq (tgt := 41) hx hb dX0_lay_13 (by decide) (fun c13 => ?_) (fun c13 => ?_)
    · replace h := if_t c13 h
      refine lv_ldc hx hb hown (hts _ q435) dX0_lay_41 ?_
      refine W.widen (k := 2) (n := 25) (Nat.le_of_ble_eq_true rfl) (Nat.le_of_ble_eq_true rfl) ?_
      exact c_iret S hr hlk hw h dX0_lay_43
    · replace h := if_f c13 h
      refine lv_iload_n hx hb dX0_lay_16 rfl (lv_at hl 2 rfl) ?_
      refine lv_iconst (v := (1 : Int32)) hx hb dX0_lay_17 (by decide) ?_
      refine lv_icmp_ne (tgt := 29) hx hb dX0_lay_18 (by decide) (fun c18 => ?_) (fun c18 => ?_)
      · replace h := if_f c18 h
        exact wkC_X0_lay_29 S hr hlk Q x1 x2 x3 _ _ _ _ h hw (lv_sub hl [0, 1, 2, 3] rfl)
      · replace h := if_t c18 h
        refine lv_aload_n hx hb dX0_lay_21 rfl (lv_at hl 0 rfl) ?_
        refine lv_iload_n hx hb dX0_lay_22 rfl (lv_at hl 3 rfl) ?_
        refine c_calli hw (va_runV (As := [.int x3]) (rest := []) S (ctC_X0_isLeaf l D dA ad fv A a10 x3 _ h) (cwC_X0_X0_isLeaf hts ⟨Nat.le_of_ble_eq_true rfl, Nat.le_of_ble_eq_true rfl⟩) (c_preV hw (n := 0) (cOk.s (by decide)) (isO_K _) rfl) rfl rfl hl.1 rfl (lv_room (Nat.le_of_ble_eq_true rfl)) dX0_lay_23 ⟨Nat.le_of_ble_eq_true rfl, Nat.le_of_ble_eq_true rfl⟩) (fun r23 a23 H locs h hw => ?_)
        refine lv_if_eq (tgt := 41) hx hb dX0_lay_26 (by decide) (fun c26 => ?_) (fun c26 => ?_)
        · replace h := if_t c26 h
          refine lv_ldc hx hb hown (hts _ q435) dX0_lay_41 ?_
          refine W.widen (k := 2) (n := 25) (Nat.le_of_ble_eq_true rfl) (Nat.le_of_ble_eq_true rfl) ?_
          exact c_iret S hr hlk hw h dX0_lay_43
        · replace h := if_f c26 h
          exact wkC_X0_lay_29 S hr hlk Q x1 x2 x3 _ _ _ _ h hw (lv_sub hl [0, 1, 2, 3] rfl)
theorem ctC_X0_lay (l : Launch) (D : va_G) (dA : Nat → ClassId) (ad : Nat → Nat) (fv : Nat → Value) (A : Nat → Prop) (a : CS) (x1 : Int32) (x2 : Int32) (x3 : Int32) (Q : Int32 → CS → Prop) (h : wpC_X0_lay a x1 x2 x3 Q) : Met l yX0_lay (ws_ yX0_lay cX0_lay 5 (some .int)) rmC_X0_lay (cPc D dA ad fv A a [.ref (ad 0), .int x1, .int x2, .int x3]) (cQi D dA ad fv A Q) 2 25 A :=
  c_met (by decide) rfl rfl rfl (Nat.le_of_ble_eq_true rfl) (fun p e s m below meth c ls S hr hlk hin2 hw hl => wkC_X0_lay_e S hr hlk Q x1 x2 x3 a _ _ ls h hw hl)
end CWalk

section CWalk
variable {p : Program} {l : Launch} {e : Env} {s : State} {m : MethodId} {args : Array Value} {below : List Frame} {meth : Method} {c : Code} {D : va_G} {dA : Nat → ClassId} {ad : Nat → Nat} {fv : Nat → Value} {A : Nat → Prop}
/-! X7.init -/
abbrev rmC_X7_init : Room := { frames := 1, cells := 0, slots := 0, locals := 20 }
def wpC_X7_init (a : CS) (n0 : Nat) (Q : CS → Prop) : Prop := (leafK a n0) ∧ (∀ a6 : CS, a6 = wI a n0 2 (1 : Int32) → ((leafK a6 n0) ∧ (∀ a11 : CS, a11 = wI a6 n0 3 (-1 : Int32) → (Q a11))))
set_option maxHeartbeats 4000000 in
set_option maxRecDepth 100000 in
theorem wkC_X7_init_e (S : CallFix p m c cX7_init 1 s args lw_all RX7) (hr : meth.sig.returnType = none) (hlk : meth.locks = false) (Q : CS → Prop) (n0 : Nat) (a : CS) (H : Heap) (locs : List Loc) (ls : Array Slot) (h : wpC_X7_init a n0 Q) (hw : CW D dA ad fv A a s H locs) (hl : lv_has ls 1 [(0, .ref (ad n0))]) : W p l e rmC_X7_init s m args below meth c H locs 0 0 (MQ below (cQv D dA ad fv A Q) args s 0 0 A) (F0 m 0 ls []) := by
  have hx := S.1
  have hb := S.2.1
  have hown := S.2.2.2.1
  have hts := S.2.2.2.2
  unfold wpC_X7_init at h
  refine lv_aload_n hx hb dX7_init_0 rfl (lv_at hl 0 rfl) ?_
  refine W.objInit hx hb hown (hts _ q641) (hts _ q136) (hts _ q137) rfl (hl.1.trans S.2.2.1.symm) rfl dX7_init_1 (Nat.le_of_ble_eq_true rfl) (Nat.le_of_ble_eq_true rfl) ?_
  refine W.eq (g2 := F0 m 4 ls []) rfl ?_
  refine lv_aload_n hx hb dX7_init_4 rfl (lv_at hl 0 rfl) ?_
  refine lv_iconst (v := (1 : Int32)) hx hb dX7_init_5 (by decide) ?_
  have hk6_0 := h.1
  replace h := h.2
  refine c_lput S hw hk6_0 2 (by decide) (Or.inl q648) dX7_init_6 (fun a6 H locs ea6 hw => ?_)
  replace h := h a6 ea6
  refine lv_aload_n hx hb dX7_init_9 rfl (lv_at hl 0 rfl) ?_
  refine lv_iconst (v := (-1 : Int32)) hx hb dX7_init_10 (by decide) ?_
  have hk11_1 := h.1
  replace h := h.2
  refine c_lput S hw hk11_1 3 (by decide) (Or.inl q652) dX7_init_11 (fun a11 H locs ea11 hw => ?_)
  replace h := h a11 ea11
  exact c_vret S hr hlk hw h dX7_init_14
theorem ctC_X7_init (l : Launch) (D : va_G) (dA : Nat → ClassId) (ad : Nat → Nat) (fv : Nat → Value) (A : Nat → Prop) (a : CS) (n0 : Nat) (Q : CS → Prop) (h : wpC_X7_init a n0 Q) : Met l yX7_init (ws_ yX7_init cX7_init 1 none) rmC_X7_init (cPc D dA ad fv A a [.ref (ad n0)]) (cQv D dA ad fv A Q) 0 0 A :=
  c_met (by decide) rfl rfl rfl (Nat.le_of_ble_eq_true rfl) (fun p e s m below meth c ls S hr hlk hin2 hw hl => wkC_X7_init_e S hr hlk Q n0 a _ _ ls h hw hl)
theorem cwC_X0_X7_init {R : Room} {s : State} {args : Array Value} {rm : Room} (hts : ∀ w ∈ lw_all, w.before args s = true) (hN : NW s) (hR : rm.frames + 1 ≤ R.frames ∧ 8 + (1 + 11) + rm.locals ≤ R.locals) (hc : rm.cells = 0 := by rfl) (hs : rm.slots = 0 := by rfl) : va_CN R s args RX0 33 yX7_init "KeptLeaves" cX7_init 1 none (ws_ yX7_init cX7_init 1 none) rm 0 0 0 ∧ yX7_init.name = "<init>" ∧ (Cond.instanceMethod yX7_init).before args s = true :=
  ⟨va_cnB 0 hts (lw_meth q640) rfl hc hs (hN.1 _ (List.mem_of_getElem? (i := 40) rfl)) (hts _ q113) (by decide +kernel) hR, rfl, hts _ q639⟩
theorem cwC_X7_X7_init {R : Room} {s : State} {args : Array Value} {rm : Room} (hts : ∀ w ∈ lw_all, w.before args s = true) (hR : rm.frames + 1 ≤ R.frames ∧ 8 + (1 + 11) + rm.locals ≤ R.locals) (hc : rm.cells = 0 := by rfl) (hs : rm.slots = 0 := by rfl) : CallB R s args RX7 24 yX7_init cX7_init 1 none (ws_ yX7_init cX7_init 1 none) rm 0 0 0 ∧ yX7_init.name = "<init>" ∧ (Cond.instanceMethod yX7_init).before args s = true :=
  cwI 0 hts (lw_meth q640) rfl hc hs (hts _ q113) (hts _ q1233) (hts _ q639) rfl (by decide +kernel) hR
theorem cwC_X8_X7_init {R : Room} {s : State} {args : Array Value} {rm : Room} (hts : ∀ w ∈ lw_all, w.before args s = true) (hN : NW s) (hR : rm.frames + 1 ≤ R.frames ∧ 8 + (1 + 11) + rm.locals ≤ R.locals) (hc : rm.cells = 0 := by rfl) (hs : rm.slots = 0 := by rfl) : va_CN R s args RX8 3 yX7_init "KeptLeaves" cX7_init 1 none (ws_ yX7_init cX7_init 1 none) rm 0 0 0 ∧ yX7_init.name = "<init>" ∧ (Cond.instanceMethod yX7_init).before args s = true :=
  ⟨va_cnB 0 hts (lw_meth q640) rfl hc hs (hN.1 _ (List.mem_of_getElem? (i := 58) rfl)) (hts _ q113) (by decide +kernel) hR, rfl, hts _ q639⟩
theorem cwC_X9_X7_init {R : Room} {s : State} {args : Array Value} {rm : Room} (hts : ∀ w ∈ lw_all, w.before args s = true) (hN : NW s) (hR : rm.frames + 1 ≤ R.frames ∧ 8 + (1 + 11) + rm.locals ≤ R.locals) (hc : rm.cells = 0 := by rfl) (hs : rm.slots = 0 := by rfl) : va_CN R s args RX9 3 yX7_init "KeptLeaves" cX7_init 1 none (ws_ yX7_init cX7_init 1 none) rm 0 0 0 ∧ yX7_init.name = "<init>" ∧ (Cond.instanceMethod yX7_init).before args s = true :=
  ⟨va_cnB 0 hts (lw_meth q640) rfl hc hs (hN.1 _ (List.mem_of_getElem? (i := 61) rfl)) (hts _ q113) (by decide +kernel) hR, rfl, hts _ q639⟩
theorem cwC_X12_X7_init {R : Room} {s : State} {args : Array Value} {rm : Room} (hts : ∀ w ∈ lw_all, w.before args s = true) (hN : NW s) (hR : rm.frames + 1 ≤ R.frames ∧ 8 + (1 + 11) + rm.locals ≤ R.locals) (hc : rm.cells = 0 := by rfl) (hs : rm.slots = 0 := by rfl) : va_CN R s args RX12 3 yX7_init "KeptLeaves" cX7_init 1 none (ws_ yX7_init cX7_init 1 none) rm 0 0 0 ∧ yX7_init.name = "<init>" ∧ (Cond.instanceMethod yX7_init).before args s = true :=
  ⟨va_cnB 0 hts (lw_meth q640) rfl hc hs (hN.1 _ (List.mem_of_getElem? (i := 52) rfl)) (hts _ q113) (by decide +kernel) hR, rfl, hts _ q639⟩
/-! X8.init -/
abbrev rmC_X8_init : Room := { frames := 2, cells := 0, slots := 0, locals := 40 }
def wpC_X8_init (a : CS) (n0 : Nat) (Q : CS → Prop) : Prop := wpC_X7_init a n0 (fun a1 => Q a1)
set_option maxHeartbeats 4000000 in
set_option maxRecDepth 100000 in
theorem wkC_X8_init_e (S : CallFix p m c cX8_init 1 s args lw_all RX8) (hr : meth.sig.returnType = none) (hlk : meth.locks = false) (Q : CS → Prop) (n0 : Nat) (a : CS) (H : Heap) (locs : List Loc) (ls : Array Slot) (h : wpC_X8_init a n0 Q) (hw : CW D dA ad fv A a s H locs) (hl : lv_has ls 1 [(0, .ref (ad n0))]) : W p l e rmC_X8_init s m args below meth c H locs 0 0 (MQ below (cQv D dA ad fv A Q) args s 0 0 A) (F0 m 0 ls []) := by
  have hx := S.1
  have hb := S.2.1
  have hown := S.2.2.2.1
  have hts := S.2.2.2.2
  unfold wpC_X8_init at h
  refine lv_aload_n hx hb dX8_init_0 rfl (lv_at hl 0 rfl) ?_
  refine c_callv hw (va_runIN (As := []) (rest := []) S (ctC_X7_init l D dA ad fv A a n0 _ h) (cwC_X8_X7_init hts hw.nw ⟨Nat.le_of_ble_eq_true rfl, Nat.le_of_ble_eq_true rfl⟩) (c_preS hw) rfl rfl hl.1 rfl (lv_room (Nat.le_of_ble_eq_true rfl)) dX8_init_1 ⟨Nat.le_of_ble_eq_true rfl, Nat.le_of_ble_eq_true rfl⟩) (fun a1 H locs h hw => ?_)
  exact c_vret S hr hlk hw h dX8_init_4
theorem ctC_X8_init (l : Launch) (D : va_G) (dA : Nat → ClassId) (ad : Nat → Nat) (fv : Nat → Value) (A : Nat → Prop) (a : CS) (n0 : Nat) (Q : CS → Prop) (h : wpC_X8_init a n0 Q) : Met l yX8_init (ws_ yX8_init cX8_init 1 none) rmC_X8_init (cPc D dA ad fv A a [.ref (ad n0)]) (cQv D dA ad fv A Q) 0 0 A :=
  c_met (by decide) rfl rfl rfl (Nat.le_of_ble_eq_true rfl) (fun p e s m below meth c ls S hr hlk hin2 hw hl => wkC_X8_init_e S hr hlk Q n0 a _ _ ls h hw hl)
theorem cwC_X0_X8_init {R : Room} {s : State} {args : Array Value} {rm : Room} (hts : ∀ w ∈ lw_all, w.before args s = true) (hN : NW s) (hR : rm.frames + 1 ≤ R.frames ∧ 8 + (1 + 11) + rm.locals ≤ R.locals) (hc : rm.cells = 0 := by rfl) (hs : rm.slots = 0 := by rfl) : va_CN R s args RX0 15 yX8_init "KeptLeaves" cX8_init 1 none (ws_ yX8_init cX8_init 1 none) rm 0 0 0 ∧ yX8_init.name = "<init>" ∧ (Cond.instanceMethod yX8_init).before args s = true :=
  ⟨va_cnB 0 hts (lw_meth q637) rfl hc hs (hN.1 _ (List.mem_of_getElem? (i := 35) rfl)) (hts _ q114) (by decide +kernel) hR, rfl, hts _ q636⟩
theorem cwC_X8_X8_init {R : Room} {s : State} {args : Array Value} {rm : Room} (hts : ∀ w ∈ lw_all, w.before args s = true) (hR : rm.frames + 1 ≤ R.frames ∧ 8 + (1 + 11) + rm.locals ≤ R.locals) (hc : rm.cells = 0 := by rfl) (hs : rm.slots = 0 := by rfl) : CallB R s args RX8 23 yX8_init cX8_init 1 none (ws_ yX8_init cX8_init 1 none) rm 0 0 0 ∧ yX8_init.name = "<init>" ∧ (Cond.instanceMethod yX8_init).before args s = true :=
  cwI 0 hts (lw_meth q637) rfl hc hs (hts _ q114) (hts _ q1225) (hts _ q636) rfl (by decide +kernel) hR
theorem cwC_X10_X8_init {R : Room} {s : State} {args : Array Value} {rm : Room} (hts : ∀ w ∈ lw_all, w.before args s = true) (hN : NW s) (hR : rm.frames + 1 ≤ R.frames ∧ 8 + (1 + 11) + rm.locals ≤ R.locals) (hc : rm.cells = 0 := by rfl) (hs : rm.slots = 0 := by rfl) : va_CN R s args RX10 1 yX8_init "KeptLeaves" cX8_init 1 none (ws_ yX8_init cX8_init 1 none) rm 0 0 0 ∧ yX8_init.name = "<init>" ∧ (Cond.instanceMethod yX8_init).before args s = true :=
  ⟨va_cnB 0 hts (lw_meth q637) rfl hc hs (hN.1 _ (List.mem_of_getElem? (i := 44) rfl)) (hts _ q114) (by decide +kernel) hR, rfl, hts _ q636⟩
/-! X9.init -/
abbrev rmC_X9_init : Room := { frames := 2, cells := 0, slots := 0, locals := 40 }
def wpC_X9_init (a : CS) (n0 : Nat) (Q : CS → Prop) : Prop := wpC_X7_init a n0 (fun a1 => Q a1)
set_option maxHeartbeats 4000000 in
set_option maxRecDepth 100000 in
theorem wkC_X9_init_e (S : CallFix p m c cX9_init 1 s args lw_all RX9) (hr : meth.sig.returnType = none) (hlk : meth.locks = false) (Q : CS → Prop) (n0 : Nat) (a : CS) (H : Heap) (locs : List Loc) (ls : Array Slot) (h : wpC_X9_init a n0 Q) (hw : CW D dA ad fv A a s H locs) (hl : lv_has ls 1 [(0, .ref (ad n0))]) : W p l e rmC_X9_init s m args below meth c H locs 0 0 (MQ below (cQv D dA ad fv A Q) args s 0 0 A) (F0 m 0 ls []) := by
  have hx := S.1
  have hb := S.2.1
  have hown := S.2.2.2.1
  have hts := S.2.2.2.2
  unfold wpC_X9_init at h
  refine lv_aload_n hx hb dX9_init_0 rfl (lv_at hl 0 rfl) ?_
  refine c_callv hw (va_runIN (As := []) (rest := []) S (ctC_X7_init l D dA ad fv A a n0 _ h) (cwC_X9_X7_init hts hw.nw ⟨Nat.le_of_ble_eq_true rfl, Nat.le_of_ble_eq_true rfl⟩) (c_preS hw) rfl rfl hl.1 rfl (lv_room (Nat.le_of_ble_eq_true rfl)) dX9_init_1 ⟨Nat.le_of_ble_eq_true rfl, Nat.le_of_ble_eq_true rfl⟩) (fun a1 H locs h hw => ?_)
  exact c_vret S hr hlk hw h dX9_init_4
theorem ctC_X9_init (l : Launch) (D : va_G) (dA : Nat → ClassId) (ad : Nat → Nat) (fv : Nat → Value) (A : Nat → Prop) (a : CS) (n0 : Nat) (Q : CS → Prop) (h : wpC_X9_init a n0 Q) : Met l yX9_init (ws_ yX9_init cX9_init 1 none) rmC_X9_init (cPc D dA ad fv A a [.ref (ad n0)]) (cQv D dA ad fv A Q) 0 0 A :=
  c_met (by decide) rfl rfl rfl (Nat.le_of_ble_eq_true rfl) (fun p e s m below meth c ls S hr hlk hin2 hw hl => wkC_X9_init_e S hr hlk Q n0 a _ _ ls h hw hl)
theorem cwC_X0_X9_init {R : Room} {s : State} {args : Array Value} {rm : Room} (hts : ∀ w ∈ lw_all, w.before args s = true) (hN : NW s) (hR : rm.frames + 1 ≤ R.frames ∧ 8 + (1 + 11) + rm.locals ≤ R.locals) (hc : rm.cells = 0 := by rfl) (hs : rm.slots = 0 := by rfl) : va_CN R s args RX0 21 yX9_init "KeptLeaves" cX9_init 1 none (ws_ yX9_init cX9_init 1 none) rm 0 0 0 ∧ yX9_init.name = "<init>" ∧ (Cond.instanceMethod yX9_init).before args s = true :=
  ⟨va_cnB 0 hts (lw_meth q667) rfl hc hs (hN.1 _ (List.mem_of_getElem? (i := 36) rfl)) (hts _ q115) (by decide +kernel) hR, rfl, hts _ q666⟩
theorem cwC_X9_X9_init {R : Room} {s : State} {args : Array Value} {rm : Room} (hts : ∀ w ∈ lw_all, w.before args s = true) (hR : rm.frames + 1 ≤ R.frames ∧ 8 + (1 + 11) + rm.locals ≤ R.locals) (hc : rm.cells = 0 := by rfl) (hs : rm.slots = 0 := by rfl) : CallB R s args RX9 23 yX9_init cX9_init 1 none (ws_ yX9_init cX9_init 1 none) rm 0 0 0 ∧ yX9_init.name = "<init>" ∧ (Cond.instanceMethod yX9_init).before args s = true :=
  cwI 0 hts (lw_meth q667) rfl hc hs (hts _ q115) (hts _ q1210) (hts _ q666) rfl (by decide +kernel) hR
theorem cwC_X11_X9_init {R : Room} {s : State} {args : Array Value} {rm : Room} (hts : ∀ w ∈ lw_all, w.before args s = true) (hN : NW s) (hR : rm.frames + 1 ≤ R.frames ∧ 8 + (1 + 11) + rm.locals ≤ R.locals) (hc : rm.cells = 0 := by rfl) (hs : rm.slots = 0 := by rfl) : va_CN R s args RX11 1 yX9_init "KeptLeaves" cX9_init 1 none (ws_ yX9_init cX9_init 1 none) rm 0 0 0 ∧ yX9_init.name = "<init>" ∧ (Cond.instanceMethod yX9_init).before args s = true :=
  ⟨va_cnB 0 hts (lw_meth q667) rfl hc hs (hN.1 _ (List.mem_of_getElem? (i := 48) rfl)) (hts _ q115) (by decide +kernel) hR, rfl, hts _ q666⟩
/-! X10.init -/
abbrev rmC_X10_init : Room := { frames := 3, cells := 0, slots := 0, locals := 60 }
def wpC_X10_init (a : CS) (n0 : Nat) (Q : CS → Prop) : Prop := wpC_X8_init a n0 (fun a1 => Q a1)
set_option maxHeartbeats 4000000 in
set_option maxRecDepth 100000 in
theorem wkC_X10_init_e (S : CallFix p m c cX10_init 1 s args lw_all RX10) (hr : meth.sig.returnType = none) (hlk : meth.locks = false) (Q : CS → Prop) (n0 : Nat) (a : CS) (H : Heap) (locs : List Loc) (ls : Array Slot) (h : wpC_X10_init a n0 Q) (hw : CW D dA ad fv A a s H locs) (hl : lv_has ls 1 [(0, .ref (ad n0))]) : W p l e rmC_X10_init s m args below meth c H locs 0 0 (MQ below (cQv D dA ad fv A Q) args s 0 0 A) (F0 m 0 ls []) := by
  have hx := S.1
  have hb := S.2.1
  have hown := S.2.2.2.1
  have hts := S.2.2.2.2
  unfold wpC_X10_init at h
  refine lv_aload_n hx hb dX10_init_0 rfl (lv_at hl 0 rfl) ?_
  refine c_callv hw (va_runIN (As := []) (rest := []) S (ctC_X8_init l D dA ad fv A a n0 _ h) (cwC_X10_X8_init hts hw.nw ⟨Nat.le_of_ble_eq_true rfl, Nat.le_of_ble_eq_true rfl⟩) (c_preS hw) rfl rfl hl.1 rfl (lv_room (Nat.le_of_ble_eq_true rfl)) dX10_init_1 ⟨Nat.le_of_ble_eq_true rfl, Nat.le_of_ble_eq_true rfl⟩) (fun a1 H locs h hw => ?_)
  exact c_vret S hr hlk hw h dX10_init_4
theorem ctC_X10_init (l : Launch) (D : va_G) (dA : Nat → ClassId) (ad : Nat → Nat) (fv : Nat → Value) (A : Nat → Prop) (a : CS) (n0 : Nat) (Q : CS → Prop) (h : wpC_X10_init a n0 Q) : Met l yX10_init (ws_ yX10_init cX10_init 1 none) rmC_X10_init (cPc D dA ad fv A a [.ref (ad n0)]) (cQv D dA ad fv A Q) 0 0 A :=
  c_met (by decide) rfl rfl rfl (Nat.le_of_ble_eq_true rfl) (fun p e s m below meth c ls S hr hlk hin2 hw hl => wkC_X10_init_e S hr hlk Q n0 a _ _ ls h hw hl)
theorem cwC_X0_X10_init {R : Room} {s : State} {args : Array Value} {rm : Room} (hts : ∀ w ∈ lw_all, w.before args s = true) (hN : NW s) (hR : rm.frames + 1 ≤ R.frames ∧ 8 + (1 + 11) + rm.locals ≤ R.locals) (hc : rm.cells = 0 := by rfl) (hs : rm.slots = 0 := by rfl) : va_CN R s args RX0 24 yX10_init "KeptLeaves" cX10_init 1 none (ws_ yX10_init cX10_init 1 none) rm 0 0 0 ∧ yX10_init.name = "<init>" ∧ (Cond.instanceMethod yX10_init).before args s = true :=
  ⟨va_cnB 0 hts (lw_meth q678) rfl hc hs (hN.1 _ (List.mem_of_getElem? (i := 37) rfl)) (hts _ q116) (by decide +kernel) hR, rfl, hts _ q677⟩
theorem cwC_X10_X10_init {R : Room} {s : State} {args : Array Value} {rm : Room} (hts : ∀ w ∈ lw_all, w.before args s = true) (hR : rm.frames + 1 ≤ R.frames ∧ 8 + (1 + 11) + rm.locals ≤ R.locals) (hc : rm.cells = 0 := by rfl) (hs : rm.slots = 0 := by rfl) : CallB R s args RX10 28 yX10_init cX10_init 1 none (ws_ yX10_init cX10_init 1 none) rm 0 0 0 ∧ yX10_init.name = "<init>" ∧ (Cond.instanceMethod yX10_init).before args s = true :=
  cwI 0 hts (lw_meth q678) rfl hc hs (hts _ q116) (hts _ q1230) (hts _ q677) rfl (by decide +kernel) hR
/-! X11.init -/
abbrev rmC_X11_init : Room := { frames := 3, cells := 0, slots := 0, locals := 60 }
def wpC_X11_init (a : CS) (n0 : Nat) (Q : CS → Prop) : Prop := wpC_X9_init a n0 (fun a1 => Q a1)
set_option maxHeartbeats 4000000 in
set_option maxRecDepth 100000 in
theorem wkC_X11_init_e (S : CallFix p m c cX11_init 1 s args lw_all RX11) (hr : meth.sig.returnType = none) (hlk : meth.locks = false) (Q : CS → Prop) (n0 : Nat) (a : CS) (H : Heap) (locs : List Loc) (ls : Array Slot) (h : wpC_X11_init a n0 Q) (hw : CW D dA ad fv A a s H locs) (hl : lv_has ls 1 [(0, .ref (ad n0))]) : W p l e rmC_X11_init s m args below meth c H locs 0 0 (MQ below (cQv D dA ad fv A Q) args s 0 0 A) (F0 m 0 ls []) := by
  have hx := S.1
  have hb := S.2.1
  have hown := S.2.2.2.1
  have hts := S.2.2.2.2
  unfold wpC_X11_init at h
  refine lv_aload_n hx hb dX11_init_0 rfl (lv_at hl 0 rfl) ?_
  refine c_callv hw (va_runIN (As := []) (rest := []) S (ctC_X9_init l D dA ad fv A a n0 _ h) (cwC_X11_X9_init hts hw.nw ⟨Nat.le_of_ble_eq_true rfl, Nat.le_of_ble_eq_true rfl⟩) (c_preS hw) rfl rfl hl.1 rfl (lv_room (Nat.le_of_ble_eq_true rfl)) dX11_init_1 ⟨Nat.le_of_ble_eq_true rfl, Nat.le_of_ble_eq_true rfl⟩) (fun a1 H locs h hw => ?_)
  exact c_vret S hr hlk hw h dX11_init_4
theorem ctC_X11_init (l : Launch) (D : va_G) (dA : Nat → ClassId) (ad : Nat → Nat) (fv : Nat → Value) (A : Nat → Prop) (a : CS) (n0 : Nat) (Q : CS → Prop) (h : wpC_X11_init a n0 Q) : Met l yX11_init (ws_ yX11_init cX11_init 1 none) rmC_X11_init (cPc D dA ad fv A a [.ref (ad n0)]) (cQv D dA ad fv A Q) 0 0 A :=
  c_met (by decide) rfl rfl rfl (Nat.le_of_ble_eq_true rfl) (fun p e s m below meth c ls S hr hlk hin2 hw hl => wkC_X11_init_e S hr hlk Q n0 a _ _ ls h hw hl)
theorem cwC_X0_X11_init {R : Room} {s : State} {args : Array Value} {rm : Room} (hts : ∀ w ∈ lw_all, w.before args s = true) (hN : NW s) (hR : rm.frames + 1 ≤ R.frames ∧ 8 + (1 + 11) + rm.locals ≤ R.locals) (hc : rm.cells = 0 := by rfl) (hs : rm.slots = 0 := by rfl) : va_CN R s args RX0 27 yX11_init "KeptLeaves" cX11_init 1 none (ws_ yX11_init cX11_init 1 none) rm 0 0 0 ∧ yX11_init.name = "<init>" ∧ (Cond.instanceMethod yX11_init).before args s = true :=
  ⟨va_cnB 0 hts (lw_meth q689) rfl hc hs (hN.1 _ (List.mem_of_getElem? (i := 38) rfl)) (hts _ q117) (by decide +kernel) hR, rfl, hts _ q688⟩
theorem cwC_X11_X11_init {R : Room} {s : State} {args : Array Value} {rm : Room} (hts : ∀ w ∈ lw_all, w.before args s = true) (hR : rm.frames + 1 ≤ R.frames ∧ 8 + (1 + 11) + rm.locals ≤ R.locals) (hc : rm.cells = 0 := by rfl) (hs : rm.slots = 0 := by rfl) : CallB R s args RX11 28 yX11_init cX11_init 1 none (ws_ yX11_init cX11_init 1 none) rm 0 0 0 ∧ yX11_init.name = "<init>" ∧ (Cond.instanceMethod yX11_init).before args s = true :=
  cwI 0 hts (lw_meth q689) rfl hc hs (hts _ q117) (hts _ q1215) (hts _ q688) rfl (by decide +kernel) hR
/-! X12.init -/
abbrev rmC_X12_init : Room := { frames := 2, cells := 0, slots := 0, locals := 40 }
def wpC_X12_init (a : CS) (n0 : Nat) (Q : CS → Prop) : Prop := wpC_X7_init a n0 (fun a1 => Q a1)
set_option maxHeartbeats 4000000 in
set_option maxRecDepth 100000 in
theorem wkC_X12_init_e (S : CallFix p m c cX12_init 1 s args lw_all RX12) (hr : meth.sig.returnType = none) (hlk : meth.locks = false) (Q : CS → Prop) (n0 : Nat) (a : CS) (H : Heap) (locs : List Loc) (ls : Array Slot) (h : wpC_X12_init a n0 Q) (hw : CW D dA ad fv A a s H locs) (hl : lv_has ls 1 [(0, .ref (ad n0))]) : W p l e rmC_X12_init s m args below meth c H locs 0 0 (MQ below (cQv D dA ad fv A Q) args s 0 0 A) (F0 m 0 ls []) := by
  have hx := S.1
  have hb := S.2.1
  have hown := S.2.2.2.1
  have hts := S.2.2.2.2
  unfold wpC_X12_init at h
  refine lv_aload_n hx hb dX12_init_0 rfl (lv_at hl 0 rfl) ?_
  refine c_callv hw (va_runIN (As := []) (rest := []) S (ctC_X7_init l D dA ad fv A a n0 _ h) (cwC_X12_X7_init hts hw.nw ⟨Nat.le_of_ble_eq_true rfl, Nat.le_of_ble_eq_true rfl⟩) (c_preS hw) rfl rfl hl.1 rfl (lv_room (Nat.le_of_ble_eq_true rfl)) dX12_init_1 ⟨Nat.le_of_ble_eq_true rfl, Nat.le_of_ble_eq_true rfl⟩) (fun a1 H locs h hw => ?_)
  exact c_vret S hr hlk hw h dX12_init_4
theorem ctC_X12_init (l : Launch) (D : va_G) (dA : Nat → ClassId) (ad : Nat → Nat) (fv : Nat → Value) (A : Nat → Prop) (a : CS) (n0 : Nat) (Q : CS → Prop) (h : wpC_X12_init a n0 Q) : Met l yX12_init (ws_ yX12_init cX12_init 1 none) rmC_X12_init (cPc D dA ad fv A a [.ref (ad n0)]) (cQv D dA ad fv A Q) 0 0 A :=
  c_met (by decide) rfl rfl rfl (Nat.le_of_ble_eq_true rfl) (fun p e s m below meth c ls S hr hlk hin2 hw hl => wkC_X12_init_e S hr hlk Q n0 a _ _ ls h hw hl)
theorem cwC_X0_X12_init {R : Room} {s : State} {args : Array Value} {rm : Room} (hts : ∀ w ∈ lw_all, w.before args s = true) (hN : NW s) (hR : rm.frames + 1 ≤ R.frames ∧ 8 + (1 + 11) + rm.locals ≤ R.locals) (hc : rm.cells = 0 := by rfl) (hs : rm.slots = 0 := by rfl) : va_CN R s args RX0 30 yX12_init "KeptLeaves" cX12_init 1 none (ws_ yX12_init cX12_init 1 none) rm 0 0 0 ∧ yX12_init.name = "<init>" ∧ (Cond.instanceMethod yX12_init).before args s = true :=
  ⟨va_cnB 0 hts (lw_meth q700) rfl hc hs (hN.1 _ (List.mem_of_getElem? (i := 39) rfl)) (hts _ q118) (by decide +kernel) hR, rfl, hts _ q699⟩
theorem cwC_X12_X12_init {R : Room} {s : State} {args : Array Value} {rm : Room} (hts : ∀ w ∈ lw_all, w.before args s = true) (hR : rm.frames + 1 ≤ R.frames ∧ 8 + (1 + 11) + rm.locals ≤ R.locals) (hc : rm.cells = 0 := by rfl) (hs : rm.slots = 0 := by rfl) : CallB R s args RX12 15 yX12_init cX12_init 1 none (ws_ yX12_init cX12_init 1 none) rm 0 0 0 ∧ yX12_init.name = "<init>" ∧ (Cond.instanceMethod yX12_init).before args s = true :=
  cwI 0 hts (lw_meth q700) rfl hc hs (hts _ q118) (hts _ q1220) (hts _ q699) rfl (by decide +kernel) hR
/-! X7.kind -/
abbrev rmC_X7_kind : Room := { frames := 0, cells := 0, slots := 0, locals := 0 }
def wpC_X7_kind (a : CS) (n0 : Nat) (Q : Int32 → CS → Prop) : Prop := Q (0 : Int32) a
set_option maxHeartbeats 4000000 in
set_option maxRecDepth 100000 in
theorem wkC_X7_kind_e (S : CallFix p m c cX7_kind 1 s args lw_all RX7) (hr : meth.sig.returnType = (some .int)) (hlk : meth.locks = false) (Q : Int32 → CS → Prop) (n0 : Nat) (a : CS) (H : Heap) (locs : List Loc) (ls : Array Slot) (h : wpC_X7_kind a n0 Q) (hw : CW D dA ad fv A a s H locs) (hl : lv_has ls 1 [(0, .ref (ad n0))]) : W p l e rmC_X7_kind s m args below meth c H locs 0 0 (MQ below (cQi D dA ad fv A Q) args s 0 0 A) (F0 m 0 ls []) := by
  have hx := S.1
  have hb := S.2.1
  have hown := S.2.2.2.1
  have hts := S.2.2.2.2
  unfold wpC_X7_kind at h
  refine lv_iconst (v := (0 : Int32)) hx hb dX7_kind_0 (by decide) ?_
  exact c_iret S hr hlk hw h dX7_kind_1
theorem ctC_X7_kind (l : Launch) (D : va_G) (dA : Nat → ClassId) (ad : Nat → Nat) (fv : Nat → Value) (A : Nat → Prop) (a : CS) (n0 : Nat) (Q : Int32 → CS → Prop) (h : wpC_X7_kind a n0 Q) : Met l yX7_kind (ws_ yX7_kind cX7_kind 1 (some .int)) rmC_X7_kind (cPc D dA ad fv A a [.ref (ad n0)]) (cQi D dA ad fv A Q) 0 0 A :=
  c_met (by decide) rfl rfl rfl (Nat.le_of_ble_eq_true rfl) (fun p e s m below meth c ls S hr hlk hin2 hw hl => wkC_X7_kind_e S hr hlk Q n0 a _ _ ls h hw hl)
/-! X8.kind -/
abbrev rmC_X8_kind : Room := { frames := 0, cells := 0, slots := 0, locals := 0 }
def wpC_X8_kind (a : CS) (n0 : Nat) (Q : Int32 → CS → Prop) : Prop := Q (1 : Int32) a
set_option maxHeartbeats 4000000 in
set_option maxRecDepth 100000 in
theorem wkC_X8_kind_e (S : CallFix p m c cX8_kind 1 s args lw_all RX8) (hr : meth.sig.returnType = (some .int)) (hlk : meth.locks = false) (Q : Int32 → CS → Prop) (n0 : Nat) (a : CS) (H : Heap) (locs : List Loc) (ls : Array Slot) (h : wpC_X8_kind a n0 Q) (hw : CW D dA ad fv A a s H locs) (hl : lv_has ls 1 [(0, .ref (ad n0))]) : W p l e rmC_X8_kind s m args below meth c H locs 0 0 (MQ below (cQi D dA ad fv A Q) args s 0 0 A) (F0 m 0 ls []) := by
  have hx := S.1
  have hb := S.2.1
  have hown := S.2.2.2.1
  have hts := S.2.2.2.2
  unfold wpC_X8_kind at h
  refine lv_iconst (v := (1 : Int32)) hx hb dX8_kind_0 (by decide) ?_
  exact c_iret S hr hlk hw h dX8_kind_1
theorem ctC_X8_kind (l : Launch) (D : va_G) (dA : Nat → ClassId) (ad : Nat → Nat) (fv : Nat → Value) (A : Nat → Prop) (a : CS) (n0 : Nat) (Q : Int32 → CS → Prop) (h : wpC_X8_kind a n0 Q) : Met l yX8_kind (ws_ yX8_kind cX8_kind 1 (some .int)) rmC_X8_kind (cPc D dA ad fv A a [.ref (ad n0)]) (cQi D dA ad fv A Q) 0 0 A :=
  c_met (by decide) rfl rfl rfl (Nat.le_of_ble_eq_true rfl) (fun p e s m below meth c ls S hr hlk hin2 hw hl => wkC_X8_kind_e S hr hlk Q n0 a _ _ ls h hw hl)
theorem cwC_X10_X8_kind {R : Room} {s : State} {args : Array Value} {rm : Room} (hts : ∀ w ∈ lw_all, w.before args s = true) (hR : rm.frames + 1 ≤ R.frames ∧ 8 + (1 + 11) + rm.locals ≤ R.locals) (hc : rm.cells = 0 := by rfl) (hs : rm.slots = 0 := by rfl) : va_CS R s args RX10 7 yX8_kind cX8_kind 1 (some .int) (ws_ yX8_kind cX8_kind 1 (some .int)) rm 0 0 0 :=
  va_cwSU 0 hts (lw_app (a := [.methodLink RX10 7 yX8_kind, .sameMethod yX8_kind.cls yX8_kind.cls yX8_kind.name yX8_kind.desc, .superclass RX10 yX8_kind.cls, .instanceMethod yX8_kind, .initialized yX8_kind.cls]) (List.forall_mem_cons.mpr ⟨q815, List.forall_mem_cons.mpr ⟨q1897, List.forall_mem_cons.mpr ⟨q684, List.forall_mem_cons.mpr ⟨q810, List.forall_mem_cons.mpr ⟨q114, fun _ h => absurd h List.not_mem_nil⟩⟩⟩⟩⟩) (lw_meth q811)) rfl hc hs (by decide +kernel) hR
/-! X9.kind -/
abbrev rmC_X9_kind : Room := { frames := 0, cells := 0, slots := 0, locals := 0 }
def wpC_X9_kind (a : CS) (n0 : Nat) (Q : Int32 → CS → Prop) : Prop := Q (2 : Int32) a
set_option maxHeartbeats 4000000 in
set_option maxRecDepth 100000 in
theorem wkC_X9_kind_e (S : CallFix p m c cX9_kind 1 s args lw_all RX9) (hr : meth.sig.returnType = (some .int)) (hlk : meth.locks = false) (Q : Int32 → CS → Prop) (n0 : Nat) (a : CS) (H : Heap) (locs : List Loc) (ls : Array Slot) (h : wpC_X9_kind a n0 Q) (hw : CW D dA ad fv A a s H locs) (hl : lv_has ls 1 [(0, .ref (ad n0))]) : W p l e rmC_X9_kind s m args below meth c H locs 0 0 (MQ below (cQi D dA ad fv A Q) args s 0 0 A) (F0 m 0 ls []) := by
  have hx := S.1
  have hb := S.2.1
  have hown := S.2.2.2.1
  have hts := S.2.2.2.2
  unfold wpC_X9_kind at h
  refine lv_iconst (v := (2 : Int32)) hx hb dX9_kind_0 (by decide) ?_
  exact c_iret S hr hlk hw h dX9_kind_1
theorem ctC_X9_kind (l : Launch) (D : va_G) (dA : Nat → ClassId) (ad : Nat → Nat) (fv : Nat → Value) (A : Nat → Prop) (a : CS) (n0 : Nat) (Q : Int32 → CS → Prop) (h : wpC_X9_kind a n0 Q) : Met l yX9_kind (ws_ yX9_kind cX9_kind 1 (some .int)) rmC_X9_kind (cPc D dA ad fv A a [.ref (ad n0)]) (cQi D dA ad fv A Q) 0 0 A :=
  c_met (by decide) rfl rfl rfl (Nat.le_of_ble_eq_true rfl) (fun p e s m below meth c ls S hr hlk hin2 hw hl => wkC_X9_kind_e S hr hlk Q n0 a _ _ ls h hw hl)
theorem cwC_X11_X9_kind {R : Room} {s : State} {args : Array Value} {rm : Room} (hts : ∀ w ∈ lw_all, w.before args s = true) (hR : rm.frames + 1 ≤ R.frames ∧ 8 + (1 + 11) + rm.locals ≤ R.locals) (hc : rm.cells = 0 := by rfl) (hs : rm.slots = 0 := by rfl) : va_CS R s args RX11 7 yX9_kind cX9_kind 1 (some .int) (ws_ yX9_kind cX9_kind 1 (some .int)) rm 0 0 0 :=
  va_cwSU 0 hts (lw_app (a := [.methodLink RX11 7 yX9_kind, .sameMethod yX9_kind.cls yX9_kind.cls yX9_kind.name yX9_kind.desc, .superclass RX11 yX9_kind.cls, .instanceMethod yX9_kind, .initialized yX9_kind.cls]) (List.forall_mem_cons.mpr ⟨q805, List.forall_mem_cons.mpr ⟨q1896, List.forall_mem_cons.mpr ⟨q695, List.forall_mem_cons.mpr ⟨q800, List.forall_mem_cons.mpr ⟨q115, fun _ h => absurd h List.not_mem_nil⟩⟩⟩⟩⟩) (lw_meth q801)) rfl hc hs (by decide +kernel) hR
/-! X12.kind -/
abbrev rmC_X12_kind : Room := { frames := 0, cells := 0, slots := 0, locals := 0 }
def wpC_X12_kind (a : CS) (n0 : Nat) (Q : Int32 → CS → Prop) : Prop := Q (5 : Int32) a
set_option maxHeartbeats 4000000 in
set_option maxRecDepth 100000 in
theorem wkC_X12_kind_e (S : CallFix p m c cX12_kind 1 s args lw_all RX12) (hr : meth.sig.returnType = (some .int)) (hlk : meth.locks = false) (Q : Int32 → CS → Prop) (n0 : Nat) (a : CS) (H : Heap) (locs : List Loc) (ls : Array Slot) (h : wpC_X12_kind a n0 Q) (hw : CW D dA ad fv A a s H locs) (hl : lv_has ls 1 [(0, .ref (ad n0))]) : W p l e rmC_X12_kind s m args below meth c H locs 0 0 (MQ below (cQi D dA ad fv A Q) args s 0 0 A) (F0 m 0 ls []) := by
  have hx := S.1
  have hb := S.2.1
  have hown := S.2.2.2.1
  have hts := S.2.2.2.2
  unfold wpC_X12_kind at h
  refine lv_iconst (v := (5 : Int32)) hx hb dX12_kind_0 (by decide) ?_
  exact c_iret S hr hlk hw h dX12_kind_1
theorem ctC_X12_kind (l : Launch) (D : va_G) (dA : Nat → ClassId) (ad : Nat → Nat) (fv : Nat → Value) (A : Nat → Prop) (a : CS) (n0 : Nat) (Q : Int32 → CS → Prop) (h : wpC_X12_kind a n0 Q) : Met l yX12_kind (ws_ yX12_kind cX12_kind 1 (some .int)) rmC_X12_kind (cPc D dA ad fv A a [.ref (ad n0)]) (cQi D dA ad fv A Q) 0 0 A :=
  c_met (by decide) rfl rfl rfl (Nat.le_of_ble_eq_true rfl) (fun p e s m below meth c ls S hr hlk hin2 hw hl => wkC_X12_kind_e S hr hlk Q n0 a _ _ ls h hw hl)
/-! X10.kind -/
abbrev rmC_X10_kind : Room := { frames := 1, cells := 0, slots := 0, locals := 20 }
def wpC_X10_kind (a : CS) (n0 : Nat) (Q : Int32 → CS → Prop) : Prop := (leafK a n0) ∧ (wpC_X8_kind a n0 (fun r1 a1 => Q (r1 + (2 : Int32)) a1))
set_option maxHeartbeats 4000000 in
set_option maxRecDepth 100000 in
theorem wkC_X10_kind_e (S : CallFix p m c cX10_kind 1 s args lw_all RX10) (hr : meth.sig.returnType = (some .int)) (hlk : meth.locks = false) (Q : Int32 → CS → Prop) (n0 : Nat) (a : CS) (H : Heap) (locs : List Loc) (ls : Array Slot) (h : wpC_X10_kind a n0 Q) (hw : CW D dA ad fv A a s H locs) (hl : lv_has ls 1 [(0, .ref (ad n0))]) : W p l e rmC_X10_kind s m args below meth c H locs 0 0 (MQ below (cQi D dA ad fv A Q) args s 0 0 A) (F0 m 0 ls []) := by
  have hx := S.1
  have hb := S.2.1
  have hown := S.2.2.2.1
  have hts := S.2.2.2.2
  unfold wpC_X10_kind at h
  refine lv_aload_n hx hb dX10_kind_0 rfl (lv_at hl 0 rfl) ?_
  have hk1_0 := h.1
  replace h := h.2
  obtain ⟨C1, cC1, hat1, hp1⟩ := c_preL hw (As := []) hk1_0
  refine c_calli hw (va_runSU (As := []) (rest := []) hat1 S (ctC_X8_kind l D dA ad fv A a n0 _ h) (cwC_X10_X8_kind hts ⟨Nat.le_of_ble_eq_true rfl, Nat.le_of_ble_eq_true rfl⟩) hp1 rfl rfl hl.1 rfl (lv_room (Nat.le_of_ble_eq_true rfl)) dX10_kind_1 ⟨Nat.le_of_ble_eq_true rfl, Nat.le_of_ble_eq_true rfl⟩) (fun r1 a1 H locs h hw => ?_)
  refine lv_iconst (v := (2 : Int32)) hx hb dX10_kind_4 (by decide) ?_
  refine lv_iadd hx hb dX10_kind_5 ?_
  exact c_iret S hr hlk hw h dX10_kind_6
theorem ctC_X10_kind (l : Launch) (D : va_G) (dA : Nat → ClassId) (ad : Nat → Nat) (fv : Nat → Value) (A : Nat → Prop) (a : CS) (n0 : Nat) (Q : Int32 → CS → Prop) (h : wpC_X10_kind a n0 Q) : Met l yX10_kind (ws_ yX10_kind cX10_kind 1 (some .int)) rmC_X10_kind (cPc D dA ad fv A a [.ref (ad n0)]) (cQi D dA ad fv A Q) 0 0 A :=
  c_met (by decide) rfl rfl rfl (Nat.le_of_ble_eq_true rfl) (fun p e s m below meth c ls S hr hlk hin2 hw hl => wkC_X10_kind_e S hr hlk Q n0 a _ _ ls h hw hl)
/-! X11.kind -/
abbrev rmC_X11_kind : Room := { frames := 1, cells := 0, slots := 0, locals := 20 }
def wpC_X11_kind (a : CS) (n0 : Nat) (Q : Int32 → CS → Prop) : Prop := (leafK a n0) ∧ (wpC_X9_kind a n0 (fun r1 a1 => Q (r1 + (2 : Int32)) a1))
set_option maxHeartbeats 4000000 in
set_option maxRecDepth 100000 in
theorem wkC_X11_kind_e (S : CallFix p m c cX11_kind 1 s args lw_all RX11) (hr : meth.sig.returnType = (some .int)) (hlk : meth.locks = false) (Q : Int32 → CS → Prop) (n0 : Nat) (a : CS) (H : Heap) (locs : List Loc) (ls : Array Slot) (h : wpC_X11_kind a n0 Q) (hw : CW D dA ad fv A a s H locs) (hl : lv_has ls 1 [(0, .ref (ad n0))]) : W p l e rmC_X11_kind s m args below meth c H locs 0 0 (MQ below (cQi D dA ad fv A Q) args s 0 0 A) (F0 m 0 ls []) := by
  have hx := S.1
  have hb := S.2.1
  have hown := S.2.2.2.1
  have hts := S.2.2.2.2
  unfold wpC_X11_kind at h
  refine lv_aload_n hx hb dX11_kind_0 rfl (lv_at hl 0 rfl) ?_
  have hk1_0 := h.1
  replace h := h.2
  obtain ⟨C1, cC1, hat1, hp1⟩ := c_preL hw (As := []) hk1_0
  refine c_calli hw (va_runSU (As := []) (rest := []) hat1 S (ctC_X9_kind l D dA ad fv A a n0 _ h) (cwC_X11_X9_kind hts ⟨Nat.le_of_ble_eq_true rfl, Nat.le_of_ble_eq_true rfl⟩) hp1 rfl rfl hl.1 rfl (lv_room (Nat.le_of_ble_eq_true rfl)) dX11_kind_1 ⟨Nat.le_of_ble_eq_true rfl, Nat.le_of_ble_eq_true rfl⟩) (fun r1 a1 H locs h hw => ?_)
  refine lv_iconst (v := (2 : Int32)) hx hb dX11_kind_4 (by decide) ?_
  refine lv_iadd hx hb dX11_kind_5 ?_
  exact c_iret S hr hlk hw h dX11_kind_6
theorem ctC_X11_kind (l : Launch) (D : va_G) (dA : Nat → ClassId) (ad : Nat → Nat) (fv : Nat → Value) (A : Nat → Prop) (a : CS) (n0 : Nat) (Q : Int32 → CS → Prop) (h : wpC_X11_kind a n0 Q) : Met l yX11_kind (ws_ yX11_kind cX11_kind 1 (some .int)) rmC_X11_kind (cPc D dA ad fv A a [.ref (ad n0)]) (cQi D dA ad fv A Q) 0 0 A :=
  c_met (by decide) rfl rfl rfl (Nat.le_of_ble_eq_true rfl) (fun p e s m below meth c ls S hr hlk hin2 hw hl => wkC_X11_kind_e S hr hlk Q n0 a _ _ ls h hw hl)
/-! X7.worth -/
abbrev rmC_X7_worth : Room := { frames := 0, cells := 0, slots := 0, locals := 0 }
def wpC_X7_worth (a : CS) (n0 : Nat) (Q : Int32 → CS → Prop) : Prop := (leafK a n0) ∧ (Q ((a.1 n0 1) + (a.1 n0 0)) a)
set_option maxHeartbeats 4000000 in
set_option maxRecDepth 100000 in
theorem wkC_X7_worth_e (S : CallFix p m c cX7_worth 1 s args lw_all RX7) (hr : meth.sig.returnType = (some .int)) (hlk : meth.locks = false) (Q : Int32 → CS → Prop) (n0 : Nat) (a : CS) (H : Heap) (locs : List Loc) (ls : Array Slot) (h : wpC_X7_worth a n0 Q) (hw : CW D dA ad fv A a s H locs) (hl : lv_has ls 1 [(0, .ref (ad n0))]) : W p l e rmC_X7_worth s m args below meth c H locs 0 0 (MQ below (cQi D dA ad fv A Q) args s 0 0 A) (F0 m 0 ls []) := by
  have hx := S.1
  have hb := S.2.1
  have hown := S.2.2.2.1
  have hts := S.2.2.2.2
  unfold wpC_X7_worth at h
  refine lv_aload_n hx hb dX7_worth_0 rfl (lv_at hl 0 rfl) ?_
  have hk1_0 := h.1
  replace h := h.2
  refine c_lget S hw hk1_0 1 (by decide) (Or.inl q646) dX7_worth_1 ?_
  refine lv_aload_n hx hb dX7_worth_4 rfl (lv_at hl 0 rfl) ?_
  refine c_lget S hw hk1_0 0 (by decide) (Or.inl q642) dX7_worth_5 ?_
  refine lv_iadd hx hb dX7_worth_8 ?_
  exact c_iret S hr hlk hw h dX7_worth_9
theorem ctC_X7_worth (l : Launch) (D : va_G) (dA : Nat → ClassId) (ad : Nat → Nat) (fv : Nat → Value) (A : Nat → Prop) (a : CS) (n0 : Nat) (Q : Int32 → CS → Prop) (h : wpC_X7_worth a n0 Q) : Met l yX7_worth (ws_ yX7_worth cX7_worth 1 (some .int)) rmC_X7_worth (cPc D dA ad fv A a [.ref (ad n0)]) (cQi D dA ad fv A Q) 0 0 A :=
  c_met (by decide) rfl rfl rfl (Nat.le_of_ble_eq_true rfl) (fun p e s m below meth c ls S hr hlk hin2 hw hl => wkC_X7_worth_e S hr hlk Q n0 a _ _ ls h hw hl)
theorem cwC_X8_X7_worth {R : Room} {s : State} {args : Array Value} {rm : Room} (hts : ∀ w ∈ lw_all, w.before args s = true) (hR : rm.frames + 1 ≤ R.frames ∧ 8 + (1 + 11) + rm.locals ≤ R.locals) (hc : rm.cells = 0 := by rfl) (hs : rm.slots = 0 := by rfl) : va_CS R s args RX8 17 yX7_worth cX7_worth 1 (some .int) (ws_ yX7_worth cX7_worth 1 (some .int)) rm 0 0 0 :=
  va_cwSU 0 hts (lw_app (a := [.methodLink RX8 17 yX7_worth, .sameMethod yX7_worth.cls yX7_worth.cls yX7_worth.name yX7_worth.desc, .superclass RX8 yX7_worth.cls, .instanceMethod yX7_worth, .initialized yX7_worth.cls]) (List.forall_mem_cons.mpr ⟨q843, List.forall_mem_cons.mpr ⟨q828, List.forall_mem_cons.mpr ⟨q662, List.forall_mem_cons.mpr ⟨q826, List.forall_mem_cons.mpr ⟨q113, fun _ h => absurd h List.not_mem_nil⟩⟩⟩⟩⟩) (lw_meth q848)) rfl hc hs (by decide +kernel) hR
theorem cwC_X9_X7_worth {R : Room} {s : State} {args : Array Value} {rm : Room} (hts : ∀ w ∈ lw_all, w.before args s = true) (hR : rm.frames + 1 ≤ R.frames ∧ 8 + (1 + 11) + rm.locals ≤ R.locals) (hc : rm.cells = 0 := by rfl) (hs : rm.slots = 0 := by rfl) : va_CS R s args RX9 17 yX7_worth cX7_worth 1 (some .int) (ws_ yX7_worth cX7_worth 1 (some .int)) rm 0 0 0 :=
  va_cwSU 0 hts (lw_app (a := [.methodLink RX9 17 yX7_worth, .sameMethod yX7_worth.cls yX7_worth.cls yX7_worth.name yX7_worth.desc, .superclass RX9 yX7_worth.cls, .instanceMethod yX7_worth, .initialized yX7_worth.cls]) (List.forall_mem_cons.mpr ⟨q832, List.forall_mem_cons.mpr ⟨q828, List.forall_mem_cons.mpr ⟨q673, List.forall_mem_cons.mpr ⟨q826, List.forall_mem_cons.mpr ⟨q113, fun _ h => absurd h List.not_mem_nil⟩⟩⟩⟩⟩) (lw_meth q848)) rfl hc hs (by decide +kernel) hR
/-! X8.worth -/
abbrev rmC_X8_worth : Room := { frames := 1, cells := 0, slots := 0, locals := 20 }
def wpC_X8_worth (a : CS) (n0 : Nat) (Q : Int32 → CS → Prop) : Prop := (leafK a n0) ∧ (wpC_X7_worth a n0 (fun r1 a1 => Q (r1 + (10 : Int32)) a1))
set_option maxHeartbeats 4000000 in
set_option maxRecDepth 100000 in
theorem wkC_X8_worth_e (S : CallFix p m c cX8_worth 1 s args lw_all RX8) (hr : meth.sig.returnType = (some .int)) (hlk : meth.locks = false) (Q : Int32 → CS → Prop) (n0 : Nat) (a : CS) (H : Heap) (locs : List Loc) (ls : Array Slot) (h : wpC_X8_worth a n0 Q) (hw : CW D dA ad fv A a s H locs) (hl : lv_has ls 1 [(0, .ref (ad n0))]) : W p l e rmC_X8_worth s m args below meth c H locs 0 0 (MQ below (cQi D dA ad fv A Q) args s 0 0 A) (F0 m 0 ls []) := by
  have hx := S.1
  have hb := S.2.1
  have hown := S.2.2.2.1
  have hts := S.2.2.2.2
  unfold wpC_X8_worth at h
  refine lv_aload_n hx hb dX8_worth_0 rfl (lv_at hl 0 rfl) ?_
  have hk1_0 := h.1
  replace h := h.2
  obtain ⟨C1, cC1, hat1, hp1⟩ := c_preL hw (As := []) hk1_0
  refine c_calli hw (va_runSU (As := []) (rest := []) hat1 S (ctC_X7_worth l D dA ad fv A a n0 _ h) (cwC_X8_X7_worth hts ⟨Nat.le_of_ble_eq_true rfl, Nat.le_of_ble_eq_true rfl⟩) hp1 rfl rfl hl.1 rfl (lv_room (Nat.le_of_ble_eq_true rfl)) dX8_worth_1 ⟨Nat.le_of_ble_eq_true rfl, Nat.le_of_ble_eq_true rfl⟩) (fun r1 a1 H locs h hw => ?_)
  refine lv_bipush (v := (10 : Int32)) hx hb dX8_worth_4 (by decide) ?_
  refine lv_iadd hx hb dX8_worth_6 ?_
  exact c_iret S hr hlk hw h dX8_worth_7
theorem ctC_X8_worth (l : Launch) (D : va_G) (dA : Nat → ClassId) (ad : Nat → Nat) (fv : Nat → Value) (A : Nat → Prop) (a : CS) (n0 : Nat) (Q : Int32 → CS → Prop) (h : wpC_X8_worth a n0 Q) : Met l yX8_worth (ws_ yX8_worth cX8_worth 1 (some .int)) rmC_X8_worth (cPc D dA ad fv A a [.ref (ad n0)]) (cQi D dA ad fv A Q) 0 0 A :=
  c_met (by decide) rfl rfl rfl (Nat.le_of_ble_eq_true rfl) (fun p e s m below meth c ls S hr hlk hin2 hw hl => wkC_X8_worth_e S hr hlk Q n0 a _ _ ls h hw hl)
theorem cwC_X10_X8_worth {R : Room} {s : State} {args : Array Value} {rm : Room} (hts : ∀ w ∈ lw_all, w.before args s = true) (hR : rm.frames + 1 ≤ R.frames ∧ 8 + (1 + 11) + rm.locals ≤ R.locals) (hc : rm.cells = 0 := by rfl) (hs : rm.slots = 0 := by rfl) : va_CS R s args RX10 25 yX8_worth cX8_worth 1 (some .int) (ws_ yX8_worth cX8_worth 1 (some .int)) rm 0 0 0 :=
  va_cwSU 0 hts (lw_app (a := [.methodLink RX10 25 yX8_worth, .sameMethod yX8_worth.cls yX8_worth.cls yX8_worth.name yX8_worth.desc, .superclass RX10 yX8_worth.cls, .instanceMethod yX8_worth, .initialized yX8_worth.cls]) (List.forall_mem_cons.mpr ⟨q847, List.forall_mem_cons.mpr ⟨q1899, List.forall_mem_cons.mpr ⟨q684, List.forall_mem_cons.mpr ⟨q841, List.forall_mem_cons.mpr ⟨q114, fun _ h => absurd h List.not_mem_nil⟩⟩⟩⟩⟩) (lw_meth q842)) rfl hc hs (by decide +kernel) hR
/-! X9.worth -/
abbrev rmC_X9_worth : Room := { frames := 1, cells := 0, slots := 0, locals := 20 }
def wpC_X9_worth (a : CS) (n0 : Nat) (Q : Int32 → CS → Prop) : Prop := (leafK a n0) ∧ (wpC_X7_worth a n0 (fun r1 a1 => Q (r1 / (2 : Int32)) a1))
set_option maxHeartbeats 4000000 in
set_option maxRecDepth 100000 in
theorem wkC_X9_worth_e (S : CallFix p m c cX9_worth 1 s args lw_all RX9) (hr : meth.sig.returnType = (some .int)) (hlk : meth.locks = false) (Q : Int32 → CS → Prop) (n0 : Nat) (a : CS) (H : Heap) (locs : List Loc) (ls : Array Slot) (h : wpC_X9_worth a n0 Q) (hw : CW D dA ad fv A a s H locs) (hl : lv_has ls 1 [(0, .ref (ad n0))]) : W p l e rmC_X9_worth s m args below meth c H locs 0 0 (MQ below (cQi D dA ad fv A Q) args s 0 0 A) (F0 m 0 ls []) := by
  have hx := S.1
  have hb := S.2.1
  have hown := S.2.2.2.1
  have hts := S.2.2.2.2
  unfold wpC_X9_worth at h
  refine lv_aload_n hx hb dX9_worth_0 rfl (lv_at hl 0 rfl) ?_
  have hk1_0 := h.1
  replace h := h.2
  obtain ⟨C1, cC1, hat1, hp1⟩ := c_preL hw (As := []) hk1_0
  refine c_calli hw (va_runSU (As := []) (rest := []) hat1 S (ctC_X7_worth l D dA ad fv A a n0 _ h) (cwC_X9_X7_worth hts ⟨Nat.le_of_ble_eq_true rfl, Nat.le_of_ble_eq_true rfl⟩) hp1 rfl rfl hl.1 rfl (lv_room (Nat.le_of_ble_eq_true rfl)) dX9_worth_1 ⟨Nat.le_of_ble_eq_true rfl, Nat.le_of_ble_eq_true rfl⟩) (fun r1 a1 H locs h hw => ?_)
  refine lv_iconst (v := (2 : Int32)) hx hb dX9_worth_4 (by decide) ?_
  refine lv_idiv hx hb dX9_worth_5 (by decide) ?_
  exact c_iret S hr hlk hw h dX9_worth_6
theorem ctC_X9_worth (l : Launch) (D : va_G) (dA : Nat → ClassId) (ad : Nat → Nat) (fv : Nat → Value) (A : Nat → Prop) (a : CS) (n0 : Nat) (Q : Int32 → CS → Prop) (h : wpC_X9_worth a n0 Q) : Met l yX9_worth (ws_ yX9_worth cX9_worth 1 (some .int)) rmC_X9_worth (cPc D dA ad fv A a [.ref (ad n0)]) (cQi D dA ad fv A Q) 0 0 A :=
  c_met (by decide) rfl rfl rfl (Nat.le_of_ble_eq_true rfl) (fun p e s m below meth c ls S hr hlk hin2 hw hl => wkC_X9_worth_e S hr hlk Q n0 a _ _ ls h hw hl)
theorem cwC_X11_X9_worth {R : Room} {s : State} {args : Array Value} {rm : Room} (hts : ∀ w ∈ lw_all, w.before args s = true) (hR : rm.frames + 1 ≤ R.frames ∧ 8 + (1 + 11) + rm.locals ≤ R.locals) (hc : rm.cells = 0 := by rfl) (hs : rm.slots = 0 := by rfl) : va_CS R s args RX11 19 yX9_worth cX9_worth 1 (some .int) (ws_ yX9_worth cX9_worth 1 (some .int)) rm 0 0 0 :=
  va_cwSU 0 hts (lw_app (a := [.methodLink RX11 19 yX9_worth, .sameMethod yX9_worth.cls yX9_worth.cls yX9_worth.name yX9_worth.desc, .superclass RX11 yX9_worth.cls, .instanceMethod yX9_worth, .initialized yX9_worth.cls]) (List.forall_mem_cons.mpr ⟨q836, List.forall_mem_cons.mpr ⟨q1898, List.forall_mem_cons.mpr ⟨q695, List.forall_mem_cons.mpr ⟨q830, List.forall_mem_cons.mpr ⟨q115, fun _ h => absurd h List.not_mem_nil⟩⟩⟩⟩⟩) (lw_meth q831)) rfl hc hs (by decide +kernel) hR
/-! X10.worth -/
abbrev rmC_X10_worth : Room := { frames := 2, cells := 0, slots := 0, locals := 40 }
def wpC_X10_worth (a : CS) (n0 : Nat) (Q : Int32 → CS → Prop) : Prop := (leafK a n0) ∧ (wpC_X8_worth a n0 (fun r1 a1 => (leafK a1 n0) ∧ (Q (r1 - (a1.1 n0 0)) a1)))
set_option maxHeartbeats 4000000 in
set_option maxRecDepth 100000 in
theorem wkC_X10_worth_e (S : CallFix p m c cX10_worth 1 s args lw_all RX10) (hr : meth.sig.returnType = (some .int)) (hlk : meth.locks = false) (Q : Int32 → CS → Prop) (n0 : Nat) (a : CS) (H : Heap) (locs : List Loc) (ls : Array Slot) (h : wpC_X10_worth a n0 Q) (hw : CW D dA ad fv A a s H locs) (hl : lv_has ls 1 [(0, .ref (ad n0))]) : W p l e rmC_X10_worth s m args below meth c H locs 0 0 (MQ below (cQi D dA ad fv A Q) args s 0 0 A) (F0 m 0 ls []) := by
  have hx := S.1
  have hb := S.2.1
  have hown := S.2.2.2.1
  have hts := S.2.2.2.2
  unfold wpC_X10_worth at h
  refine lv_aload_n hx hb dX10_worth_0 rfl (lv_at hl 0 rfl) ?_
  have hk1_0 := h.1
  replace h := h.2
  obtain ⟨C1, cC1, hat1, hp1⟩ := c_preL hw (As := []) hk1_0
  refine c_calli hw (va_runSU (As := []) (rest := []) hat1 S (ctC_X8_worth l D dA ad fv A a n0 _ h) (cwC_X10_X8_worth hts ⟨Nat.le_of_ble_eq_true rfl, Nat.le_of_ble_eq_true rfl⟩) hp1 rfl rfl hl.1 rfl (lv_room (Nat.le_of_ble_eq_true rfl)) dX10_worth_1 ⟨Nat.le_of_ble_eq_true rfl, Nat.le_of_ble_eq_true rfl⟩) (fun r1 a1 H locs h hw => ?_)
  refine lv_aload_n hx hb dX10_worth_4 rfl (lv_at hl 0 rfl) ?_
  have hk5_1 := h.1
  replace h := h.2
  refine c_lgetS S hw hk5_1 0 (by decide) q643 q644 dX10_worth_5 ?_
  refine lv_isub hx hb dX10_worth_8 ?_
  exact c_iret S hr hlk hw h dX10_worth_9
theorem ctC_X10_worth (l : Launch) (D : va_G) (dA : Nat → ClassId) (ad : Nat → Nat) (fv : Nat → Value) (A : Nat → Prop) (a : CS) (n0 : Nat) (Q : Int32 → CS → Prop) (h : wpC_X10_worth a n0 Q) : Met l yX10_worth (ws_ yX10_worth cX10_worth 1 (some .int)) rmC_X10_worth (cPc D dA ad fv A a [.ref (ad n0)]) (cQi D dA ad fv A Q) 0 0 A :=
  c_met (by decide) rfl rfl rfl (Nat.le_of_ble_eq_true rfl) (fun p e s m below meth c ls S hr hlk hin2 hw hl => wkC_X10_worth_e S hr hlk Q n0 a _ _ ls h hw hl)
/-! X11.worth -/
abbrev rmC_X11_worth : Room := { frames := 2, cells := 0, slots := 0, locals := 40 }
def wpC_X11_worth (a : CS) (n0 : Nat) (Q : Int32 → CS → Prop) : Prop := (leafK a n0) ∧ (wpC_X9_worth a n0 (fun r1 a1 => (leafK a1 n0) ∧ (Q (r1 + (a1.1 n0 2)) a1)))
set_option maxHeartbeats 4000000 in
set_option maxRecDepth 100000 in
theorem wkC_X11_worth_e (S : CallFix p m c cX11_worth 1 s args lw_all RX11) (hr : meth.sig.returnType = (some .int)) (hlk : meth.locks = false) (Q : Int32 → CS → Prop) (n0 : Nat) (a : CS) (H : Heap) (locs : List Loc) (ls : Array Slot) (h : wpC_X11_worth a n0 Q) (hw : CW D dA ad fv A a s H locs) (hl : lv_has ls 1 [(0, .ref (ad n0))]) : W p l e rmC_X11_worth s m args below meth c H locs 0 0 (MQ below (cQi D dA ad fv A Q) args s 0 0 A) (F0 m 0 ls []) := by
  have hx := S.1
  have hb := S.2.1
  have hown := S.2.2.2.1
  have hts := S.2.2.2.2
  unfold wpC_X11_worth at h
  refine lv_aload_n hx hb dX11_worth_0 rfl (lv_at hl 0 rfl) ?_
  have hk1_0 := h.1
  replace h := h.2
  obtain ⟨C1, cC1, hat1, hp1⟩ := c_preL hw (As := []) hk1_0
  refine c_calli hw (va_runSU (As := []) (rest := []) hat1 S (ctC_X9_worth l D dA ad fv A a n0 _ h) (cwC_X11_X9_worth hts ⟨Nat.le_of_ble_eq_true rfl, Nat.le_of_ble_eq_true rfl⟩) hp1 rfl rfl hl.1 rfl (lv_room (Nat.le_of_ble_eq_true rfl)) dX11_worth_1 ⟨Nat.le_of_ble_eq_true rfl, Nat.le_of_ble_eq_true rfl⟩) (fun r1 a1 H locs h hw => ?_)
  refine lv_aload_n hx hb dX11_worth_4 rfl (lv_at hl 0 rfl) ?_
  have hk5_1 := h.1
  replace h := h.2
  refine c_lgetS S hw hk5_1 2 (by decide) q649 q650 dX11_worth_5 ?_
  refine lv_iadd hx hb dX11_worth_8 ?_
  exact c_iret S hr hlk hw h dX11_worth_9
theorem ctC_X11_worth (l : Launch) (D : va_G) (dA : Nat → ClassId) (ad : Nat → Nat) (fv : Nat → Value) (A : Nat → Prop) (a : CS) (n0 : Nat) (Q : Int32 → CS → Prop) (h : wpC_X11_worth a n0 Q) : Met l yX11_worth (ws_ yX11_worth cX11_worth 1 (some .int)) rmC_X11_worth (cPc D dA ad fv A a [.ref (ad n0)]) (cQi D dA ad fv A Q) 0 0 A :=
  c_met (by decide) rfl rfl rfl (Nat.le_of_ble_eq_true rfl) (fun p e s m below meth c ls S hr hlk hin2 hw hl => wkC_X11_worth_e S hr hlk Q n0 a _ _ ls h hw hl)
/-! X12.worth -/
abbrev rmC_X12_worth : Room := { frames := 0, cells := 0, slots := 0, locals := 0 }
def wpC_X12_worth (a : CS) (n0 : Nat) (Q : Int32 → CS → Prop) : Prop := Q (7 : Int32) a
set_option maxHeartbeats 4000000 in
set_option maxRecDepth 100000 in
theorem wkC_X12_worth_e (S : CallFix p m c cX12_worth 1 s args lw_all RX12) (hr : meth.sig.returnType = (some .int)) (hlk : meth.locks = false) (Q : Int32 → CS → Prop) (n0 : Nat) (a : CS) (H : Heap) (locs : List Loc) (ls : Array Slot) (h : wpC_X12_worth a n0 Q) (hw : CW D dA ad fv A a s H locs) (hl : lv_has ls 1 [(0, .ref (ad n0))]) : W p l e rmC_X12_worth s m args below meth c H locs 0 0 (MQ below (cQi D dA ad fv A Q) args s 0 0 A) (F0 m 0 ls []) := by
  have hx := S.1
  have hb := S.2.1
  have hown := S.2.2.2.1
  have hts := S.2.2.2.2
  unfold wpC_X12_worth at h
  refine lv_bipush (v := (7 : Int32)) hx hb dX12_worth_0 (by decide) ?_
  exact c_iret S hr hlk hw h dX12_worth_2
theorem ctC_X12_worth (l : Launch) (D : va_G) (dA : Nat → ClassId) (ad : Nat → Nat) (fv : Nat → Value) (A : Nat → Prop) (a : CS) (n0 : Nat) (Q : Int32 → CS → Prop) (h : wpC_X12_worth a n0 Q) : Met l yX12_worth (ws_ yX12_worth cX12_worth 1 (some .int)) rmC_X12_worth (cPc D dA ad fv A a [.ref (ad n0)]) (cQi D dA ad fv A Q) 0 0 A :=
  c_met (by decide) rfl rfl rfl (Nat.le_of_ble_eq_true rfl) (fun p e s m below meth c ls S hr hlk hin2 hw hl => wkC_X12_worth_e S hr hlk Q n0 a _ _ ls h hw hl)
/-! X7.another -/
abbrev rmC_X7_another : Room := { frames := 2, cells := 1, slots := 4, locals := 40 }
def wpC_X7_another (a : CS) (n0 : Nat) (Q : Nat → CS → Prop) : Prop := ∀ o0 : Nat, 1000 ≤ o0 → (a.2.2.1 o0).1 = 0 → ∀ a0 : CS, a0 = wN a o0 (107, 0) → (wpC_X7_init a0 o0 (fun a4 => Q o0 a4))
set_option maxHeartbeats 4000000 in
set_option maxRecDepth 100000 in
theorem wkC_X7_another_e (S : CallFix p m c cX7_another 1 s args lw_all RX7) (hr : meth.sig.returnType = (some (.object "KeptLeaves$Leaf"))) (hlk : meth.locks = false) (Q : Nat → CS → Prop) (n0 : Nat) (a : CS) (H : Heap) (locs : List Loc) (ls : Array Slot) (h : wpC_X7_another a n0 Q) (hw : CW D dA ad fv A a s H locs) (hl : lv_has ls 1 [(0, .ref (ad n0))]) : W p l e rmC_X7_another s m args below meth c H locs 0 0 (MQ below (cQr D dA ad fv A Q) args s 1 4 A) (F0 m 0 ls []) := by
  have hx := S.1
  have hb := S.2.1
  have hown := S.2.2.2.1
  have hts := S.2.2.2.2
  unfold wpC_X7_another at h
  refine c_new S hw (ci := 7) (fs := [.int 0, .int 0, .int 0, .int 0]) in_X7 tyX7 tyX7_ok q1232 q708 q113 rfl (fun j hj => by rcases (show j = 0 ∨ j = 1 ∨ j = 2 ∨ j = 3 by omega) with rfl | rfl | rfl | rfl <;> rfl) (cell_new (fun n hn => by simp [dCell, rv, rq, va_rf])) (Nat.le_of_ble_eq_true rfl) (Nat.le_of_ble_eq_true rfl) dX7_another_0 (fun o0 a0 H go0 zo0 ea0 hw => ?_)
  replace h := h o0 go0 zo0 a0 ea0
  refine W.widen (k := 1) (n := 4) (Nat.le_of_ble_eq_true rfl) (Nat.le_of_ble_eq_true rfl) ?_
  refine lv_dup hx hb dX7_another_3 rfl ?_
  refine c_callv hw (va_runI (As := []) (rest := [.ref (ad o0)]) S (ctC_X7_init l D dA ad fv A a0 o0 _ h) (cwC_X7_X7_init hts ⟨Nat.le_of_ble_eq_true rfl, Nat.le_of_ble_eq_true rfl⟩) (c_preS hw) rfl rfl hl.1 rfl (lv_room (Nat.le_of_ble_eq_true rfl)) dX7_another_4 ⟨Nat.le_of_ble_eq_true rfl, Nat.le_of_ble_eq_true rfl⟩) (fun a4 H locs h hw => ?_)
  exact c_aret S hr hlk hw h ⟨_, rfl⟩ dX7_another_7
theorem ctC_X7_another (l : Launch) (D : va_G) (dA : Nat → ClassId) (ad : Nat → Nat) (fv : Nat → Value) (A : Nat → Prop) (a : CS) (n0 : Nat) (Q : Nat → CS → Prop) (h : wpC_X7_another a n0 Q) : Met l yX7_another (ws_ yX7_another cX7_another 1 (some (.object "KeptLeaves$Leaf"))) rmC_X7_another (cPc D dA ad fv A a [.ref (ad n0)]) (cQr D dA ad fv A Q) 1 4 A :=
  c_met (by decide) rfl rfl rfl (Nat.le_of_ble_eq_true rfl) (fun p e s m below meth c ls S hr hlk hin2 hw hl => wkC_X7_another_e S hr hlk Q n0 a _ _ ls h hw hl)
/-! X8.another -/
abbrev rmC_X8_another : Room := { frames := 3, cells := 1, slots := 4, locals := 60 }
def wpC_X8_another (a : CS) (n0 : Nat) (Q : Nat → CS → Prop) : Prop := ∀ o0 : Nat, 1000 ≤ o0 → (a.2.2.1 o0).1 = 0 → ∀ a0 : CS, a0 = wN a o0 (108, 0) → (wpC_X8_init a0 o0 (fun a4 => Q o0 a4))
set_option maxHeartbeats 4000000 in
set_option maxRecDepth 100000 in
theorem wkC_X8_another_e (S : CallFix p m c cX8_another 1 s args lw_all RX8) (hr : meth.sig.returnType = (some (.object "KeptLeaves$Leaf"))) (hlk : meth.locks = false) (Q : Nat → CS → Prop) (n0 : Nat) (a : CS) (H : Heap) (locs : List Loc) (ls : Array Slot) (h : wpC_X8_another a n0 Q) (hw : CW D dA ad fv A a s H locs) (hl : lv_has ls 1 [(0, .ref (ad n0))]) : W p l e rmC_X8_another s m args below meth c H locs 0 0 (MQ below (cQr D dA ad fv A Q) args s 1 4 A) (F0 m 0 ls []) := by
  have hx := S.1
  have hb := S.2.1
  have hown := S.2.2.2.1
  have hts := S.2.2.2.2
  unfold wpC_X8_another at h
  refine c_new S hw (ci := 8) (fs := [.int 0, .int 0, .int 0, .int 0]) in_X8 tyX8 tyX8_ok q1224 q634 q114 rfl (fun j hj => by rcases (show j = 0 ∨ j = 1 ∨ j = 2 ∨ j = 3 by omega) with rfl | rfl | rfl | rfl <;> rfl) (cell_new (fun n hn => by simp [dCell, rv, rq, va_rf])) (Nat.le_of_ble_eq_true rfl) (Nat.le_of_ble_eq_true rfl) dX8_another_0 (fun o0 a0 H go0 zo0 ea0 hw => ?_)
  replace h := h o0 go0 zo0 a0 ea0
  refine W.widen (k := 1) (n := 4) (Nat.le_of_ble_eq_true rfl) (Nat.le_of_ble_eq_true rfl) ?_
  refine lv_dup hx hb dX8_another_3 rfl ?_
  refine c_callv hw (va_runI (As := []) (rest := [.ref (ad o0)]) S (ctC_X8_init l D dA ad fv A a0 o0 _ h) (cwC_X8_X8_init hts ⟨Nat.le_of_ble_eq_true rfl, Nat.le_of_ble_eq_true rfl⟩) (c_preS hw) rfl rfl hl.1 rfl (lv_room (Nat.le_of_ble_eq_true rfl)) dX8_another_4 ⟨Nat.le_of_ble_eq_true rfl, Nat.le_of_ble_eq_true rfl⟩) (fun a4 H locs h hw => ?_)
  exact c_aret S hr hlk hw h ⟨_, rfl⟩ dX8_another_7
theorem ctC_X8_another (l : Launch) (D : va_G) (dA : Nat → ClassId) (ad : Nat → Nat) (fv : Nat → Value) (A : Nat → Prop) (a : CS) (n0 : Nat) (Q : Nat → CS → Prop) (h : wpC_X8_another a n0 Q) : Met l yX8_another (ws_ yX8_another cX8_another 1 (some (.object "KeptLeaves$Leaf"))) rmC_X8_another (cPc D dA ad fv A a [.ref (ad n0)]) (cQr D dA ad fv A Q) 1 4 A :=
  c_met (by decide) rfl rfl rfl (Nat.le_of_ble_eq_true rfl) (fun p e s m below meth c ls S hr hlk hin2 hw hl => wkC_X8_another_e S hr hlk Q n0 a _ _ ls h hw hl)
/-! X9.another -/
abbrev rmC_X9_another : Room := { frames := 3, cells := 1, slots := 4, locals := 60 }
def wpC_X9_another (a : CS) (n0 : Nat) (Q : Nat → CS → Prop) : Prop := ∀ o0 : Nat, 1000 ≤ o0 → (a.2.2.1 o0).1 = 0 → ∀ a0 : CS, a0 = wN a o0 (109, 0) → (wpC_X9_init a0 o0 (fun a4 => Q o0 a4))
set_option maxHeartbeats 4000000 in
set_option maxRecDepth 100000 in
theorem wkC_X9_another_e (S : CallFix p m c cX9_another 1 s args lw_all RX9) (hr : meth.sig.returnType = (some (.object "KeptLeaves$Leaf"))) (hlk : meth.locks = false) (Q : Nat → CS → Prop) (n0 : Nat) (a : CS) (H : Heap) (locs : List Loc) (ls : Array Slot) (h : wpC_X9_another a n0 Q) (hw : CW D dA ad fv A a s H locs) (hl : lv_has ls 1 [(0, .ref (ad n0))]) : W p l e rmC_X9_another s m args below meth c H locs 0 0 (MQ below (cQr D dA ad fv A Q) args s 1 4 A) (F0 m 0 ls []) := by
  have hx := S.1
  have hb := S.2.1
  have hown := S.2.2.2.1
  have hts := S.2.2.2.2
  unfold wpC_X9_another at h
  refine c_new S hw (ci := 9) (fs := [.int 0, .int 0, .int 0, .int 0]) in_X9 tyX9 tyX9_ok q1209 q664 q115 rfl (fun j hj => by rcases (show j = 0 ∨ j = 1 ∨ j = 2 ∨ j = 3 by omega) with rfl | rfl | rfl | rfl <;> rfl) (cell_new (fun n hn => by simp [dCell, rv, rq, va_rf])) (Nat.le_of_ble_eq_true rfl) (Nat.le_of_ble_eq_true rfl) dX9_another_0 (fun o0 a0 H go0 zo0 ea0 hw => ?_)
  replace h := h o0 go0 zo0 a0 ea0
  refine W.widen (k := 1) (n := 4) (Nat.le_of_ble_eq_true rfl) (Nat.le_of_ble_eq_true rfl) ?_
  refine lv_dup hx hb dX9_another_3 rfl ?_
  refine c_callv hw (va_runI (As := []) (rest := [.ref (ad o0)]) S (ctC_X9_init l D dA ad fv A a0 o0 _ h) (cwC_X9_X9_init hts ⟨Nat.le_of_ble_eq_true rfl, Nat.le_of_ble_eq_true rfl⟩) (c_preS hw) rfl rfl hl.1 rfl (lv_room (Nat.le_of_ble_eq_true rfl)) dX9_another_4 ⟨Nat.le_of_ble_eq_true rfl, Nat.le_of_ble_eq_true rfl⟩) (fun a4 H locs h hw => ?_)
  exact c_aret S hr hlk hw h ⟨_, rfl⟩ dX9_another_7
theorem ctC_X9_another (l : Launch) (D : va_G) (dA : Nat → ClassId) (ad : Nat → Nat) (fv : Nat → Value) (A : Nat → Prop) (a : CS) (n0 : Nat) (Q : Nat → CS → Prop) (h : wpC_X9_another a n0 Q) : Met l yX9_another (ws_ yX9_another cX9_another 1 (some (.object "KeptLeaves$Leaf"))) rmC_X9_another (cPc D dA ad fv A a [.ref (ad n0)]) (cQr D dA ad fv A Q) 1 4 A :=
  c_met (by decide) rfl rfl rfl (Nat.le_of_ble_eq_true rfl) (fun p e s m below meth c ls S hr hlk hin2 hw hl => wkC_X9_another_e S hr hlk Q n0 a _ _ ls h hw hl)
/-! X10.another -/
abbrev rmC_X10_another : Room := { frames := 4, cells := 1, slots := 4, locals := 80 }
def wpC_X10_another (a : CS) (n0 : Nat) (Q : Nat → CS → Prop) : Prop := ∀ o0 : Nat, 1000 ≤ o0 → (a.2.2.1 o0).1 = 0 → ∀ a0 : CS, a0 = wN a o0 (110, 0) → (wpC_X10_init a0 o0 (fun a4 => Q o0 a4))
set_option maxHeartbeats 4000000 in
set_option maxRecDepth 100000 in
theorem wkC_X10_another_e (S : CallFix p m c cX10_another 1 s args lw_all RX10) (hr : meth.sig.returnType = (some (.object "KeptLeaves$Leaf"))) (hlk : meth.locks = false) (Q : Nat → CS → Prop) (n0 : Nat) (a : CS) (H : Heap) (locs : List Loc) (ls : Array Slot) (h : wpC_X10_another a n0 Q) (hw : CW D dA ad fv A a s H locs) (hl : lv_has ls 1 [(0, .ref (ad n0))]) : W p l e rmC_X10_another s m args below meth c H locs 0 0 (MQ below (cQr D dA ad fv A Q) args s 1 4 A) (F0 m 0 ls []) := by
  have hx := S.1
  have hb := S.2.1
  have hown := S.2.2.2.1
  have hts := S.2.2.2.2
  unfold wpC_X10_another at h
  refine c_new S hw (ci := 10) (fs := [.int 0, .int 0, .int 0, .int 0]) in_X10 tyX10 tyX10_ok q1229 q675 q116 rfl (fun j hj => by rcases (show j = 0 ∨ j = 1 ∨ j = 2 ∨ j = 3 by omega) with rfl | rfl | rfl | rfl <;> rfl) (cell_new (fun n hn => by simp [dCell, rv, rq, va_rf])) (Nat.le_of_ble_eq_true rfl) (Nat.le_of_ble_eq_true rfl) dX10_another_0 (fun o0 a0 H go0 zo0 ea0 hw => ?_)
  replace h := h o0 go0 zo0 a0 ea0
  refine W.widen (k := 1) (n := 4) (Nat.le_of_ble_eq_true rfl) (Nat.le_of_ble_eq_true rfl) ?_
  refine lv_dup hx hb dX10_another_3 rfl ?_
  refine c_callv hw (va_runI (As := []) (rest := [.ref (ad o0)]) S (ctC_X10_init l D dA ad fv A a0 o0 _ h) (cwC_X10_X10_init hts ⟨Nat.le_of_ble_eq_true rfl, Nat.le_of_ble_eq_true rfl⟩) (c_preS hw) rfl rfl hl.1 rfl (lv_room (Nat.le_of_ble_eq_true rfl)) dX10_another_4 ⟨Nat.le_of_ble_eq_true rfl, Nat.le_of_ble_eq_true rfl⟩) (fun a4 H locs h hw => ?_)
  exact c_aret S hr hlk hw h ⟨_, rfl⟩ dX10_another_7
theorem ctC_X10_another (l : Launch) (D : va_G) (dA : Nat → ClassId) (ad : Nat → Nat) (fv : Nat → Value) (A : Nat → Prop) (a : CS) (n0 : Nat) (Q : Nat → CS → Prop) (h : wpC_X10_another a n0 Q) : Met l yX10_another (ws_ yX10_another cX10_another 1 (some (.object "KeptLeaves$Leaf"))) rmC_X10_another (cPc D dA ad fv A a [.ref (ad n0)]) (cQr D dA ad fv A Q) 1 4 A :=
  c_met (by decide) rfl rfl rfl (Nat.le_of_ble_eq_true rfl) (fun p e s m below meth c ls S hr hlk hin2 hw hl => wkC_X10_another_e S hr hlk Q n0 a _ _ ls h hw hl)
/-! X11.another -/
abbrev rmC_X11_another : Room := { frames := 4, cells := 1, slots := 4, locals := 80 }
def wpC_X11_another (a : CS) (n0 : Nat) (Q : Nat → CS → Prop) : Prop := ∀ o0 : Nat, 1000 ≤ o0 → (a.2.2.1 o0).1 = 0 → ∀ a0 : CS, a0 = wN a o0 (111, 0) → (wpC_X11_init a0 o0 (fun a4 => Q o0 a4))
set_option maxHeartbeats 4000000 in
set_option maxRecDepth 100000 in
theorem wkC_X11_another_e (S : CallFix p m c cX11_another 1 s args lw_all RX11) (hr : meth.sig.returnType = (some (.object "KeptLeaves$Leaf"))) (hlk : meth.locks = false) (Q : Nat → CS → Prop) (n0 : Nat) (a : CS) (H : Heap) (locs : List Loc) (ls : Array Slot) (h : wpC_X11_another a n0 Q) (hw : CW D dA ad fv A a s H locs) (hl : lv_has ls 1 [(0, .ref (ad n0))]) : W p l e rmC_X11_another s m args below meth c H locs 0 0 (MQ below (cQr D dA ad fv A Q) args s 1 4 A) (F0 m 0 ls []) := by
  have hx := S.1
  have hb := S.2.1
  have hown := S.2.2.2.1
  have hts := S.2.2.2.2
  unfold wpC_X11_another at h
  refine c_new S hw (ci := 11) (fs := [.int 0, .int 0, .int 0, .int 0]) in_X11 tyX11 tyX11_ok q1214 q686 q117 rfl (fun j hj => by rcases (show j = 0 ∨ j = 1 ∨ j = 2 ∨ j = 3 by omega) with rfl | rfl | rfl | rfl <;> rfl) (cell_new (fun n hn => by simp [dCell, rv, rq, va_rf])) (Nat.le_of_ble_eq_true rfl) (Nat.le_of_ble_eq_true rfl) dX11_another_0 (fun o0 a0 H go0 zo0 ea0 hw => ?_)
  replace h := h o0 go0 zo0 a0 ea0
  refine W.widen (k := 1) (n := 4) (Nat.le_of_ble_eq_true rfl) (Nat.le_of_ble_eq_true rfl) ?_
  refine lv_dup hx hb dX11_another_3 rfl ?_
  refine c_callv hw (va_runI (As := []) (rest := [.ref (ad o0)]) S (ctC_X11_init l D dA ad fv A a0 o0 _ h) (cwC_X11_X11_init hts ⟨Nat.le_of_ble_eq_true rfl, Nat.le_of_ble_eq_true rfl⟩) (c_preS hw) rfl rfl hl.1 rfl (lv_room (Nat.le_of_ble_eq_true rfl)) dX11_another_4 ⟨Nat.le_of_ble_eq_true rfl, Nat.le_of_ble_eq_true rfl⟩) (fun a4 H locs h hw => ?_)
  exact c_aret S hr hlk hw h ⟨_, rfl⟩ dX11_another_7
theorem ctC_X11_another (l : Launch) (D : va_G) (dA : Nat → ClassId) (ad : Nat → Nat) (fv : Nat → Value) (A : Nat → Prop) (a : CS) (n0 : Nat) (Q : Nat → CS → Prop) (h : wpC_X11_another a n0 Q) : Met l yX11_another (ws_ yX11_another cX11_another 1 (some (.object "KeptLeaves$Leaf"))) rmC_X11_another (cPc D dA ad fv A a [.ref (ad n0)]) (cQr D dA ad fv A Q) 1 4 A :=
  c_met (by decide) rfl rfl rfl (Nat.le_of_ble_eq_true rfl) (fun p e s m below meth c ls S hr hlk hin2 hw hl => wkC_X11_another_e S hr hlk Q n0 a _ _ ls h hw hl)
/-! X12.another -/
abbrev rmC_X12_another : Room := { frames := 3, cells := 1, slots := 4, locals := 60 }
def wpC_X12_another (a : CS) (n0 : Nat) (Q : Nat → CS → Prop) : Prop := ∀ o0 : Nat, 1000 ≤ o0 → (a.2.2.1 o0).1 = 0 → ∀ a0 : CS, a0 = wN a o0 (112, 0) → (wpC_X12_init a0 o0 (fun a4 => Q o0 a4))
set_option maxHeartbeats 4000000 in
set_option maxRecDepth 100000 in
theorem wkC_X12_another_e (S : CallFix p m c cX12_another 1 s args lw_all RX12) (hr : meth.sig.returnType = (some (.object "KeptLeaves$Leaf"))) (hlk : meth.locks = false) (Q : Nat → CS → Prop) (n0 : Nat) (a : CS) (H : Heap) (locs : List Loc) (ls : Array Slot) (h : wpC_X12_another a n0 Q) (hw : CW D dA ad fv A a s H locs) (hl : lv_has ls 1 [(0, .ref (ad n0))]) : W p l e rmC_X12_another s m args below meth c H locs 0 0 (MQ below (cQr D dA ad fv A Q) args s 1 4 A) (F0 m 0 ls []) := by
  have hx := S.1
  have hb := S.2.1
  have hown := S.2.2.2.1
  have hts := S.2.2.2.2
  unfold wpC_X12_another at h
  refine c_new S hw (ci := 12) (fs := [.int 0, .int 0, .int 0, .int 0]) in_X12 tyX12 tyX12_ok q1219 q697 q118 rfl (fun j hj => by rcases (show j = 0 ∨ j = 1 ∨ j = 2 ∨ j = 3 by omega) with rfl | rfl | rfl | rfl <;> rfl) (cell_new (fun n hn => by simp [dCell, rv, rq, va_rf])) (Nat.le_of_ble_eq_true rfl) (Nat.le_of_ble_eq_true rfl) dX12_another_0 (fun o0 a0 H go0 zo0 ea0 hw => ?_)
  replace h := h o0 go0 zo0 a0 ea0
  refine W.widen (k := 1) (n := 4) (Nat.le_of_ble_eq_true rfl) (Nat.le_of_ble_eq_true rfl) ?_
  refine lv_dup hx hb dX12_another_3 rfl ?_
  refine c_callv hw (va_runI (As := []) (rest := [.ref (ad o0)]) S (ctC_X12_init l D dA ad fv A a0 o0 _ h) (cwC_X12_X12_init hts ⟨Nat.le_of_ble_eq_true rfl, Nat.le_of_ble_eq_true rfl⟩) (c_preS hw) rfl rfl hl.1 rfl (lv_room (Nat.le_of_ble_eq_true rfl)) dX12_another_4 ⟨Nat.le_of_ble_eq_true rfl, Nat.le_of_ble_eq_true rfl⟩) (fun a4 H locs h hw => ?_)
  exact c_aret S hr hlk hw h ⟨_, rfl⟩ dX12_another_7
theorem ctC_X12_another (l : Launch) (D : va_G) (dA : Nat → ClassId) (ad : Nat → Nat) (fv : Nat → Value) (A : Nat → Prop) (a : CS) (n0 : Nat) (Q : Nat → CS → Prop) (h : wpC_X12_another a n0 Q) : Met l yX12_another (ws_ yX12_another cX12_another 1 (some (.object "KeptLeaves$Leaf"))) rmC_X12_another (cPc D dA ad fv A a [.ref (ad n0)]) (cQr D dA ad fv A Q) 1 4 A :=
  c_met (by decide) rfl rfl rfl (Nat.le_of_ble_eq_true rfl) (fun p e s m below meth c ls S hr hlk hin2 hw hl => wkC_X12_another_e S hr hlk Q n0 a _ _ ls h hw hl)
/-! X7.takes -/
abbrev rmC_X7_takes : Room := { frames := 0, cells := 0, slots := 0, locals := 0 }
def wpC_X7_takes (a : CS) (n0 : Nat) (x1 : Nat) (Q : CS → Prop) : Prop := (leafK a x1) ∧ ((leafK a n0) ∧ (∀ a5 : CS, a5 = wI a n0 0 (a.1 x1 0) → ((leafK a5 x1) ∧ ((leafK a5 n0) ∧ (∀ a13 : CS, a13 = wI a5 n0 1 (a5.1 x1 1) → ((leafK a13 x1) ∧ ((leafK a13 n0) ∧ (∀ a21 : CS, a21 = wI a13 n0 2 (a13.1 x1 2) → ((leafK a21 x1) ∧ ((leafK a21 n0) ∧ (∀ a29 : CS, a29 = wI a21 n0 3 (a21.1 x1 3) → (Q a29))))))))))))
set_option maxHeartbeats 4000000 in
set_option maxRecDepth 100000 in
theorem wkC_X7_takes_e (S : CallFix p m c cX7_takes 2 s args lw_all RX7) (hr : meth.sig.returnType = none) (hlk : meth.locks = false) (Q : CS → Prop) (n0 : Nat) (x1 : Nat) (a : CS) (H : Heap) (locs : List Loc) (ls : Array Slot) (h : wpC_X7_takes a n0 x1 Q) (hw : CW D dA ad fv A a s H locs) (hl : lv_has ls 2 [(0, .ref (ad n0)), (1, .ref (ad x1))]) : W p l e rmC_X7_takes s m args below meth c H locs 0 0 (MQ below (cQv D dA ad fv A Q) args s 0 0 A) (F0 m 0 ls []) := by
  have hx := S.1
  have hb := S.2.1
  have hown := S.2.2.2.1
  have hts := S.2.2.2.2
  unfold wpC_X7_takes at h
  refine lv_aload_n hx hb dX7_takes_0 rfl (lv_at hl 0 rfl) ?_
  refine lv_aload_n hx hb dX7_takes_1 rfl (lv_at hl 1 rfl) ?_
  have hk2_0 := h.1
  replace h := h.2
  refine c_lget S hw hk2_0 0 (by decide) (Or.inl q642) dX7_takes_2 ?_
  have hk5_1 := h.1
  replace h := h.2
  refine c_lput S hw hk5_1 0 (by decide) (Or.inl q642) dX7_takes_5 (fun a5 H locs ea5 hw => ?_)
  replace h := h a5 ea5
  refine lv_aload_n hx hb dX7_takes_8 rfl (lv_at hl 0 rfl) ?_
  refine lv_aload_n hx hb dX7_takes_9 rfl (lv_at hl 1 rfl) ?_
  have hk10_2 := h.1
  replace h := h.2
  refine c_lget S hw hk10_2 1 (by decide) (Or.inl q646) dX7_takes_10 ?_
  have hk13_3 := h.1
  replace h := h.2
  refine c_lput S hw hk13_3 1 (by decide) (Or.inl q646) dX7_takes_13 (fun a13 H locs ea13 hw => ?_)
  replace h := h a13 ea13
  refine lv_aload_n hx hb dX7_takes_16 rfl (lv_at hl 0 rfl) ?_
  refine lv_aload_n hx hb dX7_takes_17 rfl (lv_at hl 1 rfl) ?_
  have hk18_4 := h.1
  replace h := h.2
  refine c_lget S hw hk18_4 2 (by decide) (Or.inl q648) dX7_takes_18 ?_
  have hk21_5 := h.1
  replace h := h.2
  refine c_lput S hw hk21_5 2 (by decide) (Or.inl q648) dX7_takes_21 (fun a21 H locs ea21 hw => ?_)
  replace h := h a21 ea21
  refine lv_aload_n hx hb dX7_takes_24 rfl (lv_at hl 0 rfl) ?_
  refine lv_aload_n hx hb dX7_takes_25 rfl (lv_at hl 1 rfl) ?_
  have hk26_6 := h.1
  replace h := h.2
  refine c_lget S hw hk26_6 3 (by decide) (Or.inl q652) dX7_takes_26 ?_
  have hk29_7 := h.1
  replace h := h.2
  refine c_lput S hw hk29_7 3 (by decide) (Or.inl q652) dX7_takes_29 (fun a29 H locs ea29 hw => ?_)
  replace h := h a29 ea29
  exact c_vret S hr hlk hw h dX7_takes_32
theorem ctC_X7_takes (l : Launch) (D : va_G) (dA : Nat → ClassId) (ad : Nat → Nat) (fv : Nat → Value) (A : Nat → Prop) (a : CS) (n0 : Nat) (x1 : Nat) (Q : CS → Prop) (h : wpC_X7_takes a n0 x1 Q) : Met l yX7_takes (ws_ yX7_takes cX7_takes 2 none) rmC_X7_takes (cPc D dA ad fv A a [.ref (ad n0), .ref (ad x1)]) (cQv D dA ad fv A Q) 0 0 A :=
  c_met (by decide) rfl rfl rfl (Nat.le_of_ble_eq_true rfl) (fun p e s m below meth c ls S hr hlk hin2 hw hl => wkC_X7_takes_e S hr hlk Q n0 x1 a _ _ ls h hw hl)
/-! X0.leafOf -/
abbrev rmC_X0_leafOf : Room := { frames := 4, cells := 1, slots := 4, locals := 80 }
def wpC_X0_leafOf (a : CS) (x0 : Int32) (Q : Nat → CS → Prop) : Prop := if x0 = (1 : Int32) then (∀ o36 : Nat, 1000 ≤ o36 → (a.2.2.1 o36).1 = 0 → ∀ a36 : CS, a36 = wN a o36 (108, 0) → (wpC_X8_init a36 o36 (fun a40 => Q o36 a40))) else (if x0 = (2 : Int32) then (∀ o44 : Nat, 1000 ≤ o44 → (a.2.2.1 o44).1 = 0 → ∀ a44 : CS, a44 = wN a o44 (109, 0) → (wpC_X9_init a44 o44 (fun a48 => Q o44 a48))) else (if x0 = (3 : Int32) then (∀ o52 : Nat, 1000 ≤ o52 → (a.2.2.1 o52).1 = 0 → ∀ a52 : CS, a52 = wN a o52 (110, 0) → (wpC_X10_init a52 o52 (fun a56 => Q o52 a56))) else (if x0 = (4 : Int32) then (∀ o60 : Nat, 1000 ≤ o60 → (a.2.2.1 o60).1 = 0 → ∀ a60 : CS, a60 = wN a o60 (111, 0) → (wpC_X11_init a60 o60 (fun a64 => Q o60 a64))) else (if x0 = (5 : Int32) then (∀ o68 : Nat, 1000 ≤ o68 → (a.2.2.1 o68).1 = 0 → ∀ a68 : CS, a68 = wN a o68 (112, 0) → (wpC_X12_init a68 o68 (fun a72 => Q o68 a72))) else (∀ o76 : Nat, 1000 ≤ o76 → (a.2.2.1 o76).1 = 0 → ∀ a76 : CS, a76 = wN a o76 (107, 0) → (wpC_X7_init a76 o76 (fun a80 => Q o76 a80)))))))
set_option maxHeartbeats 4000000 in
set_option maxRecDepth 100000 in
theorem wkC_X0_leafOf_e (S : CallFix p m c cX0_leafOf 1 s args lw_all RX0) (hr : meth.sig.returnType = (some (.object "KeptLeaves$Leaf"))) (hlk : meth.locks = false) (Q : Nat → CS → Prop) (x0 : Int32) (a : CS) (H : Heap) (locs : List Loc) (ls : Array Slot) (h : wpC_X0_leafOf a x0 Q) (hw : CW D dA ad fv A a s H locs) (hl : lv_has ls 1 [(0, .int x0)]) : W p l e rmC_X0_leafOf s m args below meth c H locs 0 0 (MQ below (cQr D dA ad fv A Q) args s 1 4 A) (F0 m 0 ls []) := by
  have hx := S.1
  have hb := S.2.1
  have hown := S.2.2.2.1
  have hts := S.2.2.2.2
  unfold wpC_X0_leafOf at h
  refine lv_iload_n hx hb dX0_leafOf_0 rfl (lv_at hl 0 rfl) ?_
  by_cases c1_0 : x0 = (1 : Int32)
  · replace h := if_t c1_0 h
    refine lv_tableIn (off := 35) (tgt := 36) hx hb dX0_leafOf_1 (by rw [c1_0]; decide) (by rw [c1_0]; decide) (by rw [c1_0]; decide) (by decide) ?_
    refine c_new S hw (ci := 8) (fs := [.int 0, .int 0, .int 0, .int 0]) in_X8 tyX8 tyX8_ok q633 q634 q114 rfl (fun j hj => by rcases (show j = 0 ∨ j = 1 ∨ j = 2 ∨ j = 3 by omega) with rfl | rfl | rfl | rfl <;> rfl) (cell_new (fun n hn => by simp [dCell, rv, rq, va_rf])) (Nat.le_of_ble_eq_true rfl) (Nat.le_of_ble_eq_true rfl) dX0_leafOf_36 (fun o36 a36 H go36 zo36 ea36 hw => ?_)
    replace h := h o36 go36 zo36 a36 ea36
    refine W.widen (k := 1) (n := 4) (Nat.le_of_ble_eq_true rfl) (Nat.le_of_ble_eq_true rfl) ?_
    refine lv_dup hx hb dX0_leafOf_39 rfl ?_
    refine c_callv hw (va_runIN (As := []) (rest := [.ref (ad o36)]) S (ctC_X8_init l D dA ad fv A a36 o36 _ h) (cwC_X0_X8_init hts hw.nw ⟨Nat.le_of_ble_eq_true rfl, Nat.le_of_ble_eq_true rfl⟩) (c_preS hw) rfl rfl hl.1 rfl (lv_room (Nat.le_of_ble_eq_true rfl)) dX0_leafOf_40 ⟨Nat.le_of_ble_eq_true rfl, Nat.le_of_ble_eq_true rfl⟩) (fun a40 H locs h hw => ?_)
    exact c_aret S hr hlk hw h ⟨_, rfl⟩ dX0_leafOf_43
  replace h := if_f c1_0 h
  by_cases c1_1 : x0 = (2 : Int32)
  · replace h := if_t c1_1 h
    refine lv_tableIn (off := 43) (tgt := 44) hx hb dX0_leafOf_1 (by rw [c1_1]; decide) (by rw [c1_1]; decide) (by rw [c1_1]; decide) (by decide) ?_
    refine c_new S hw (ci := 9) (fs := [.int 0, .int 0, .int 0, .int 0]) in_X9 tyX9 tyX9_ok q663 q664 q115 rfl (fun j hj => by rcases (show j = 0 ∨ j = 1 ∨ j = 2 ∨ j = 3 by omega) with rfl | rfl | rfl | rfl <;> rfl) (cell_new (fun n hn => by simp [dCell, rv, rq, va_rf])) (Nat.le_of_ble_eq_true rfl) (Nat.le_of_ble_eq_true rfl) dX0_leafOf_44 (fun o44 a44 H go44 zo44 ea44 hw => ?_)
    replace h := h o44 go44 zo44 a44 ea44
    refine W.widen (k := 1) (n := 4) (Nat.le_of_ble_eq_true rfl) (Nat.le_of_ble_eq_true rfl) ?_
    refine lv_dup hx hb dX0_leafOf_47 rfl ?_
    refine c_callv hw (va_runIN (As := []) (rest := [.ref (ad o44)]) S (ctC_X9_init l D dA ad fv A a44 o44 _ h) (cwC_X0_X9_init hts hw.nw ⟨Nat.le_of_ble_eq_true rfl, Nat.le_of_ble_eq_true rfl⟩) (c_preS hw) rfl rfl hl.1 rfl (lv_room (Nat.le_of_ble_eq_true rfl)) dX0_leafOf_48 ⟨Nat.le_of_ble_eq_true rfl, Nat.le_of_ble_eq_true rfl⟩) (fun a48 H locs h hw => ?_)
    exact c_aret S hr hlk hw h ⟨_, rfl⟩ dX0_leafOf_51
  replace h := if_f c1_1 h
  by_cases c1_2 : x0 = (3 : Int32)
  · replace h := if_t c1_2 h
    refine lv_tableIn (off := 51) (tgt := 52) hx hb dX0_leafOf_1 (by rw [c1_2]; decide) (by rw [c1_2]; decide) (by rw [c1_2]; decide) (by decide) ?_
    refine c_new S hw (ci := 10) (fs := [.int 0, .int 0, .int 0, .int 0]) in_X10 tyX10 tyX10_ok q674 q675 q116 rfl (fun j hj => by rcases (show j = 0 ∨ j = 1 ∨ j = 2 ∨ j = 3 by omega) with rfl | rfl | rfl | rfl <;> rfl) (cell_new (fun n hn => by simp [dCell, rv, rq, va_rf])) (Nat.le_of_ble_eq_true rfl) (Nat.le_of_ble_eq_true rfl) dX0_leafOf_52 (fun o52 a52 H go52 zo52 ea52 hw => ?_)
    replace h := h o52 go52 zo52 a52 ea52
    refine W.widen (k := 1) (n := 4) (Nat.le_of_ble_eq_true rfl) (Nat.le_of_ble_eq_true rfl) ?_
    refine lv_dup hx hb dX0_leafOf_55 rfl ?_
    refine c_callv hw (va_runIN (As := []) (rest := [.ref (ad o52)]) S (ctC_X10_init l D dA ad fv A a52 o52 _ h) (cwC_X0_X10_init hts hw.nw ⟨Nat.le_of_ble_eq_true rfl, Nat.le_of_ble_eq_true rfl⟩) (c_preS hw) rfl rfl hl.1 rfl (lv_room (Nat.le_of_ble_eq_true rfl)) dX0_leafOf_56 ⟨Nat.le_of_ble_eq_true rfl, Nat.le_of_ble_eq_true rfl⟩) (fun a56 H locs h hw => ?_)
    exact c_aret S hr hlk hw h ⟨_, rfl⟩ dX0_leafOf_59
  replace h := if_f c1_2 h
  by_cases c1_3 : x0 = (4 : Int32)
  · replace h := if_t c1_3 h
    refine lv_tableIn (off := 59) (tgt := 60) hx hb dX0_leafOf_1 (by rw [c1_3]; decide) (by rw [c1_3]; decide) (by rw [c1_3]; decide) (by decide) ?_
    refine c_new S hw (ci := 11) (fs := [.int 0, .int 0, .int 0, .int 0]) in_X11 tyX11 tyX11_ok q685 q686 q117 rfl (fun j hj => by rcases (show j = 0 ∨ j = 1 ∨ j = 2 ∨ j = 3 by omega) with rfl | rfl | rfl | rfl <;> rfl) (cell_new (fun n hn => by simp [dCell, rv, rq, va_rf])) (Nat.le_of_ble_eq_true rfl) (Nat.le_of_ble_eq_true rfl) dX0_leafOf_60 (fun o60 a60 H go60 zo60 ea60 hw => ?_)
    replace h := h o60 go60 zo60 a60 ea60
    refine W.widen (k := 1) (n := 4) (Nat.le_of_ble_eq_true rfl) (Nat.le_of_ble_eq_true rfl) ?_
    refine lv_dup hx hb dX0_leafOf_63 rfl ?_
    refine c_callv hw (va_runIN (As := []) (rest := [.ref (ad o60)]) S (ctC_X11_init l D dA ad fv A a60 o60 _ h) (cwC_X0_X11_init hts hw.nw ⟨Nat.le_of_ble_eq_true rfl, Nat.le_of_ble_eq_true rfl⟩) (c_preS hw) rfl rfl hl.1 rfl (lv_room (Nat.le_of_ble_eq_true rfl)) dX0_leafOf_64 ⟨Nat.le_of_ble_eq_true rfl, Nat.le_of_ble_eq_true rfl⟩) (fun a64 H locs h hw => ?_)
    exact c_aret S hr hlk hw h ⟨_, rfl⟩ dX0_leafOf_67
  replace h := if_f c1_3 h
  by_cases c1_4 : x0 = (5 : Int32)
  · replace h := if_t c1_4 h
    refine lv_tableIn (off := 67) (tgt := 68) hx hb dX0_leafOf_1 (by rw [c1_4]; decide) (by rw [c1_4]; decide) (by rw [c1_4]; decide) (by decide) ?_
    refine c_new S hw (ci := 12) (fs := [.int 0, .int 0, .int 0, .int 0]) in_X12 tyX12 tyX12_ok q696 q697 q118 rfl (fun j hj => by rcases (show j = 0 ∨ j = 1 ∨ j = 2 ∨ j = 3 by omega) with rfl | rfl | rfl | rfl <;> rfl) (cell_new (fun n hn => by simp [dCell, rv, rq, va_rf])) (Nat.le_of_ble_eq_true rfl) (Nat.le_of_ble_eq_true rfl) dX0_leafOf_68 (fun o68 a68 H go68 zo68 ea68 hw => ?_)
    replace h := h o68 go68 zo68 a68 ea68
    refine W.widen (k := 1) (n := 4) (Nat.le_of_ble_eq_true rfl) (Nat.le_of_ble_eq_true rfl) ?_
    refine lv_dup hx hb dX0_leafOf_71 rfl ?_
    refine c_callv hw (va_runIN (As := []) (rest := [.ref (ad o68)]) S (ctC_X12_init l D dA ad fv A a68 o68 _ h) (cwC_X0_X12_init hts hw.nw ⟨Nat.le_of_ble_eq_true rfl, Nat.le_of_ble_eq_true rfl⟩) (c_preS hw) rfl rfl hl.1 rfl (lv_room (Nat.le_of_ble_eq_true rfl)) dX0_leafOf_72 ⟨Nat.le_of_ble_eq_true rfl, Nat.le_of_ble_eq_true rfl⟩) (fun a72 H locs h hw => ?_)
    exact c_aret S hr hlk hw h ⟨_, rfl⟩ dX0_leafOf_75
  replace h := if_f c1_4 h
  have hout : x0.toInt < 1 ∨ 5 < x0.toInt ∨ (#[35, 43, 51, 59, 67] : Array Int)[(x0.toInt - 1).toNat]? = some 75 := by
    have n0 := lv_neT c1_0 (a := 1) (by decide)
    have n1 := lv_neT c1_1 (a := 2) (by decide)
    have n2 := lv_neT c1_2 (a := 3) (by decide)
    have n3 := lv_neT c1_3 (a := 4) (by decide)
    have n4 := lv_neT c1_4 (a := 5) (by decide)
    by_cases h1 : x0.toInt < 1
    · exact Or.inl h1
    by_cases h2 : 5 < x0.toInt
    · exact Or.inr (Or.inl h2)
    exfalso
    omega
  refine lv_tableD (tgt := 76) hx hb dX0_leafOf_1 hout (by decide) ?_
  refine c_new S hw (ci := 7) (fs := [.int 0, .int 0, .int 0, .int 0]) in_X7 tyX7 tyX7_ok q707 q708 q113 rfl (fun j hj => by rcases (show j = 0 ∨ j = 1 ∨ j = 2 ∨ j = 3 by omega) with rfl | rfl | rfl | rfl <;> rfl) (cell_new (fun n hn => by simp [dCell, rv, rq, va_rf])) (Nat.le_of_ble_eq_true rfl) (Nat.le_of_ble_eq_true rfl) dX0_leafOf_76 (fun o76 a76 H go76 zo76 ea76 hw => ?_)
  replace h := h o76 go76 zo76 a76 ea76
  refine W.widen (k := 1) (n := 4) (Nat.le_of_ble_eq_true rfl) (Nat.le_of_ble_eq_true rfl) ?_
  refine lv_dup hx hb dX0_leafOf_79 rfl ?_
  refine c_callv hw (va_runIN (As := []) (rest := [.ref (ad o76)]) S (ctC_X7_init l D dA ad fv A a76 o76 _ h) (cwC_X0_X7_init hts hw.nw ⟨Nat.le_of_ble_eq_true rfl, Nat.le_of_ble_eq_true rfl⟩) (c_preS hw) rfl rfl hl.1 rfl (lv_room (Nat.le_of_ble_eq_true rfl)) dX0_leafOf_80 ⟨Nat.le_of_ble_eq_true rfl, Nat.le_of_ble_eq_true rfl⟩) (fun a80 H locs h hw => ?_)
  exact c_aret S hr hlk hw h ⟨_, rfl⟩ dX0_leafOf_83
theorem ctC_X0_leafOf (l : Launch) (D : va_G) (dA : Nat → ClassId) (ad : Nat → Nat) (fv : Nat → Value) (A : Nat → Prop) (a : CS) (x0 : Int32) (Q : Nat → CS → Prop) (h : wpC_X0_leafOf a x0 Q) : Met l yX0_leafOf (ws_ yX0_leafOf cX0_leafOf 1 (some (.object "KeptLeaves$Leaf"))) rmC_X0_leafOf (cPc D dA ad fv A a [.int x0]) (cQr D dA ad fv A Q) 1 4 A :=
  c_met (by decide) rfl rfl rfl (Nat.le_of_ble_eq_true rfl) (fun p e s m below meth c ls S hr hlk hin2 hw hl => wkC_X0_leafOf_e S hr hlk Q x0 a _ _ ls h hw hl)
theorem cwC_X0_X0_leafOf {R : Room} {s : State} {args : Array Value} {rm : Room} (hts : ∀ w ∈ lw_all, w.before args s = true) (hR : rm.frames + 1 ≤ R.frames ∧ 8 + (1 + 11) + rm.locals ≤ R.locals) (hc : rm.cells = 1 := by rfl) (hs : rm.slots = 4 := by rfl) : CallB R s args RX0 292 yX0_leafOf cX0_leafOf 1 (some (.object "KeptLeaves$Leaf")) (ws_ yX0_leafOf cX0_leafOf 1 (some (.object "KeptLeaves$Leaf"))) rm 1 4 1 ∧ (Cond.static yX0_leafOf).before args s = true :=
  va_cwS 1 hts (lw_S q630 q631 q103 q632) rfl hc hs (by decide +kernel) hR
/-! X8.room -/
abbrev rmC_X8_room : Room := { frames := 1, cells := 0, slots := 0, locals := 40 }
def wpC_X8_room (a : CS) (n0 : Nat) (x1 : Int32) (Q : Int32 → CS → Prop) : Prop := (leafK a n0) ∧ (Q (x1 + (1 : Int32)) a)
set_option maxHeartbeats 4000000 in
set_option maxRecDepth 100000 in
theorem wkC_X8_room_e (S : CallFix p m c cX8_room 2 s args lw_all RX8) (hr : meth.sig.returnType = (some .int)) (hlk : meth.locks = false) (Q : Int32 → CS → Prop) (n0 : Nat) (x1 : Int32) (a : CS) (H : Heap) (locs : List Loc) (ls : Array Slot) (h : wpC_X8_room a n0 x1 Q) (hw : CW D dA ad fv A a s H locs) (hl : lv_has ls 2 [(0, .ref (ad n0)), (1, .int x1)]) : W p l e rmC_X8_room s m args below meth c H locs 0 0 (MQ below (cQi D dA ad fv A Q) args s 0 0 A) (F0 m 0 ls []) := by
  have hx := S.1
  have hb := S.2.1
  have hown := S.2.2.2.1
  have hts := S.2.2.2.2
  unfold wpC_X8_room at h
  refine lv_aload_n hx hb dX8_room_0 rfl (lv_at hl 0 rfl) ?_
  refine lv_iload_n hx hb dX8_room_1 rfl (lv_at hl 1 rfl) ?_
  have hk2_0 := h.1
  replace h := h.2
  obtain ⟨C2, cC2, hat2, hp2⟩ := c_preL hw (As := [.int x1]) hk2_0
  refine nd_super (x := ⟨"KeptLeaves$Leaf", "room", "(I)I"⟩) (y := yX16_room) (As := [.int x1]) (rest := []) hat2 S (Or.inl ⟨rfl, rfl⟩) ⟨va_Nw.use rfl (hw.nw.2.2.2.1 _ (List.mem_of_getElem? (i := 3) rfl)), va_Nw.use rfl (hw.nw.2.2.2.1 _ (List.mem_of_getElem? (i := 1) rfl)), by decide +kernel⟩ (hw.nw.2.2.2.2 _ (List.mem_of_getElem? (i := 0) rfl)) (hts _ q662) hp2.2.1 hl.1 rfl (Nat.le_of_ble_eq_true rfl) dX8_room_2 (Nat.le_of_ble_eq_true rfl) (Nat.le_of_ble_eq_true rfl) ?_
  refine lv_iconst (v := (1 : Int32)) hx hb dX8_room_5 (by decide) ?_
  refine lv_iadd hx hb dX8_room_6 ?_
  exact c_iret S hr hlk hw h dX8_room_7
theorem ctC_X8_room (l : Launch) (D : va_G) (dA : Nat → ClassId) (ad : Nat → Nat) (fv : Nat → Value) (A : Nat → Prop) (a : CS) (n0 : Nat) (x1 : Int32) (Q : Int32 → CS → Prop) (h : wpC_X8_room a n0 x1 Q) : Met l yX8_room (ws_ yX8_room cX8_room 2 (some .int)) rmC_X8_room (cPc D dA ad fv A a [.ref (ad n0), .int x1]) (cQi D dA ad fv A Q) 0 0 A :=
  c_met (by decide) rfl rfl rfl (Nat.le_of_ble_eq_true rfl) (fun p e s m below meth c ls S hr hlk hin2 hw hl => wkC_X8_room_e S hr hlk Q n0 x1 a _ _ ls h hw hl)
theorem cwC_X10_X8_room {R : Room} {s : State} {args : Array Value} {rm : Room} (hts : ∀ w ∈ lw_all, w.before args s = true) (hR : rm.frames + 1 ≤ R.frames ∧ 8 + (2 + 11) + rm.locals ≤ R.locals) (hc : rm.cells = 0 := by rfl) (hs : rm.slots = 0 := by rfl) : va_CS R s args RX10 11 yX8_room cX8_room 2 (some .int) (ws_ yX8_room cX8_room 2 (some .int)) rm 0 0 1 :=
  va_cwSU 1 hts (lw_app (a := [.methodLink RX10 11 yX8_room, .sameMethod yX8_room.cls yX8_room.cls yX8_room.name yX8_room.desc, .superclass RX10 yX8_room.cls, .instanceMethod yX8_room, .initialized yX8_room.cls]) (List.forall_mem_cons.mpr ⟨q763, List.forall_mem_cons.mpr ⟨q1893, List.forall_mem_cons.mpr ⟨q684, List.forall_mem_cons.mpr ⟨q758, List.forall_mem_cons.mpr ⟨q114, fun _ h => absurd h List.not_mem_nil⟩⟩⟩⟩⟩) (lw_meth q759)) rfl hc hs (by decide +kernel) hR
/-! X9.room -/
abbrev rmC_X9_room : Room := { frames := 1, cells := 0, slots := 0, locals := 40 }
def wpC_X9_room (a : CS) (n0 : Nat) (x1 : Int32) (Q : Int32 → CS → Prop) : Prop := (leafK a n0) ∧ (Q ((x1 + (1 : Int32)) / (2 : Int32)) a)
set_option maxHeartbeats 4000000 in
set_option maxRecDepth 100000 in
theorem wkC_X9_room_e (S : CallFix p m c cX9_room 2 s args lw_all RX9) (hr : meth.sig.returnType = (some .int)) (hlk : meth.locks = false) (Q : Int32 → CS → Prop) (n0 : Nat) (x1 : Int32) (a : CS) (H : Heap) (locs : List Loc) (ls : Array Slot) (h : wpC_X9_room a n0 x1 Q) (hw : CW D dA ad fv A a s H locs) (hl : lv_has ls 2 [(0, .ref (ad n0)), (1, .int x1)]) : W p l e rmC_X9_room s m args below meth c H locs 0 0 (MQ below (cQi D dA ad fv A Q) args s 0 0 A) (F0 m 0 ls []) := by
  have hx := S.1
  have hb := S.2.1
  have hown := S.2.2.2.1
  have hts := S.2.2.2.2
  unfold wpC_X9_room at h
  refine lv_aload_n hx hb dX9_room_0 rfl (lv_at hl 0 rfl) ?_
  refine lv_iload_n hx hb dX9_room_1 rfl (lv_at hl 1 rfl) ?_
  have hk2_0 := h.1
  replace h := h.2
  obtain ⟨C2, cC2, hat2, hp2⟩ := c_preL hw (As := [.int x1]) hk2_0
  refine nd_super (x := ⟨"KeptLeaves$Leaf", "room", "(I)I"⟩) (y := yX16_room) (As := [.int x1]) (rest := []) hat2 S (Or.inl ⟨rfl, rfl⟩) ⟨va_Nw.use rfl (hw.nw.2.2.2.1 _ (List.mem_of_getElem? (i := 2) rfl)), va_Nw.use rfl (hw.nw.2.2.2.1 _ (List.mem_of_getElem? (i := 1) rfl)), by decide +kernel⟩ (hw.nw.2.2.2.2 _ (List.mem_of_getElem? (i := 0) rfl)) (hts _ q673) hp2.2.1 hl.1 rfl (Nat.le_of_ble_eq_true rfl) dX9_room_2 (Nat.le_of_ble_eq_true rfl) (Nat.le_of_ble_eq_true rfl) ?_
  refine lv_iconst (v := (1 : Int32)) hx hb dX9_room_5 (by decide) ?_
  refine lv_iadd hx hb dX9_room_6 ?_
  refine lv_iconst (v := (2 : Int32)) hx hb dX9_room_7 (by decide) ?_
  refine lv_idiv hx hb dX9_room_8 (by decide) ?_
  exact c_iret S hr hlk hw h dX9_room_9
theorem ctC_X9_room (l : Launch) (D : va_G) (dA : Nat → ClassId) (ad : Nat → Nat) (fv : Nat → Value) (A : Nat → Prop) (a : CS) (n0 : Nat) (x1 : Int32) (Q : Int32 → CS → Prop) (h : wpC_X9_room a n0 x1 Q) : Met l yX9_room (ws_ yX9_room cX9_room 2 (some .int)) rmC_X9_room (cPc D dA ad fv A a [.ref (ad n0), .int x1]) (cQi D dA ad fv A Q) 0 0 A :=
  c_met (by decide) rfl rfl rfl (Nat.le_of_ble_eq_true rfl) (fun p e s m below meth c ls S hr hlk hin2 hw hl => wkC_X9_room_e S hr hlk Q n0 x1 a _ _ ls h hw hl)
theorem cwC_X11_X9_room {R : Room} {s : State} {args : Array Value} {rm : Room} (hts : ∀ w ∈ lw_all, w.before args s = true) (hR : rm.frames + 1 ≤ R.frames ∧ 8 + (2 + 11) + rm.locals ≤ R.locals) (hc : rm.cells = 0 := by rfl) (hs : rm.slots = 0 := by rfl) : va_CS R s args RX11 11 yX9_room cX9_room 2 (some .int) (ws_ yX9_room cX9_room 2 (some .int)) rm 0 0 1 :=
  va_cwSU 1 hts (lw_app (a := [.methodLink RX11 11 yX9_room, .sameMethod yX9_room.cls yX9_room.cls yX9_room.name yX9_room.desc, .superclass RX11 yX9_room.cls, .instanceMethod yX9_room, .initialized yX9_room.cls]) (List.forall_mem_cons.mpr ⟨q752, List.forall_mem_cons.mpr ⟨q1892, List.forall_mem_cons.mpr ⟨q695, List.forall_mem_cons.mpr ⟨q745, List.forall_mem_cons.mpr ⟨q115, fun _ h => absurd h List.not_mem_nil⟩⟩⟩⟩⟩) (lw_meth q746)) rfl hc hs (by decide +kernel) hR
/-! X12.room -/
abbrev rmC_X12_room : Room := { frames := 0, cells := 0, slots := 0, locals := 0 }
def wpC_X12_room (a : CS) (n0 : Nat) (x1 : Int32) (Q : Int32 → CS → Prop) : Prop := Q (1 : Int32) a
set_option maxHeartbeats 4000000 in
set_option maxRecDepth 100000 in
theorem wkC_X12_room_e (S : CallFix p m c cX12_room 2 s args lw_all RX12) (hr : meth.sig.returnType = (some .int)) (hlk : meth.locks = false) (Q : Int32 → CS → Prop) (n0 : Nat) (x1 : Int32) (a : CS) (H : Heap) (locs : List Loc) (ls : Array Slot) (h : wpC_X12_room a n0 x1 Q) (hw : CW D dA ad fv A a s H locs) (hl : lv_has ls 2 [(0, .ref (ad n0)), (1, .int x1)]) : W p l e rmC_X12_room s m args below meth c H locs 0 0 (MQ below (cQi D dA ad fv A Q) args s 0 0 A) (F0 m 0 ls []) := by
  have hx := S.1
  have hb := S.2.1
  have hown := S.2.2.2.1
  have hts := S.2.2.2.2
  unfold wpC_X12_room at h
  refine lv_iconst (v := (1 : Int32)) hx hb dX12_room_0 (by decide) ?_
  exact c_iret S hr hlk hw h dX12_room_1
theorem ctC_X12_room (l : Launch) (D : va_G) (dA : Nat → ClassId) (ad : Nat → Nat) (fv : Nat → Value) (A : Nat → Prop) (a : CS) (n0 : Nat) (x1 : Int32) (Q : Int32 → CS → Prop) (h : wpC_X12_room a n0 x1 Q) : Met l yX12_room (ws_ yX12_room cX12_room 2 (some .int)) rmC_X12_room (cPc D dA ad fv A a [.ref (ad n0), .int x1]) (cQi D dA ad fv A Q) 0 0 A :=
  c_met (by decide) rfl rfl rfl (Nat.le_of_ble_eq_true rfl) (fun p e s m below meth c ls S hr hlk hin2 hw hl => wkC_X12_room_e S hr hlk Q n0 x1 a _ _ ls h hw hl)
/-! X10.room -/
abbrev rmC_X10_room : Room := { frames := 2, cells := 0, slots := 0, locals := 61 }
def wpC_X10_room (a : CS) (n0 : Nat) (x1 : Int32) (Q : Int32 → CS → Prop) : Prop := (leafK a n0) ∧ (wpC_X8_room a n0 x1 (fun r2 a2 => Q ((r2 + (1 : Int32)) / (2 : Int32)) a2))
set_option maxHeartbeats 4000000 in
set_option maxRecDepth 100000 in
theorem wkC_X10_room_e (S : CallFix p m c cX10_room 2 s args lw_all RX10) (hr : meth.sig.returnType = (some .int)) (hlk : meth.locks = false) (Q : Int32 → CS → Prop) (n0 : Nat) (x1 : Int32) (a : CS) (H : Heap) (locs : List Loc) (ls : Array Slot) (h : wpC_X10_room a n0 x1 Q) (hw : CW D dA ad fv A a s H locs) (hl : lv_has ls 2 [(0, .ref (ad n0)), (1, .int x1)]) : W p l e rmC_X10_room s m args below meth c H locs 0 0 (MQ below (cQi D dA ad fv A Q) args s 0 0 A) (F0 m 0 ls []) := by
  have hx := S.1
  have hb := S.2.1
  have hown := S.2.2.2.1
  have hts := S.2.2.2.2
  unfold wpC_X10_room at h
  refine lv_aload_n hx hb dX10_room_0 rfl (lv_at hl 0 rfl) ?_
  refine lv_iload_n hx hb dX10_room_1 rfl (lv_at hl 1 rfl) ?_
  have hk2_0 := h.1
  replace h := h.2
  obtain ⟨C2, cC2, hat2, hp2⟩ := c_preL hw (As := [.int x1]) hk2_0
  refine c_calli hw (va_runSU (As := [.int x1]) (rest := []) hat2 S (ctC_X8_room l D dA ad fv A a n0 x1 _ h) (cwC_X10_X8_room hts ⟨Nat.le_of_ble_eq_true rfl, Nat.le_of_ble_eq_true rfl⟩) hp2 rfl rfl hl.1 rfl (lv_room (Nat.le_of_ble_eq_true rfl)) dX10_room_2 ⟨Nat.le_of_ble_eq_true rfl, Nat.le_of_ble_eq_true rfl⟩) (fun r2 a2 H locs h hw => ?_)
  refine lv_iconst (v := (1 : Int32)) hx hb dX10_room_5 (by decide) ?_
  refine lv_iadd hx hb dX10_room_6 ?_
  refine lv_iconst (v := (2 : Int32)) hx hb dX10_room_7 (by decide) ?_
  refine lv_idiv hx hb dX10_room_8 (by decide) ?_
  exact c_iret S hr hlk hw h dX10_room_9
theorem ctC_X10_room (l : Launch) (D : va_G) (dA : Nat → ClassId) (ad : Nat → Nat) (fv : Nat → Value) (A : Nat → Prop) (a : CS) (n0 : Nat) (x1 : Int32) (Q : Int32 → CS → Prop) (h : wpC_X10_room a n0 x1 Q) : Met l yX10_room (ws_ yX10_room cX10_room 2 (some .int)) rmC_X10_room (cPc D dA ad fv A a [.ref (ad n0), .int x1]) (cQi D dA ad fv A Q) 0 0 A :=
  c_met (by decide) rfl rfl rfl (Nat.le_of_ble_eq_true rfl) (fun p e s m below meth c ls S hr hlk hin2 hw hl => wkC_X10_room_e S hr hlk Q n0 x1 a _ _ ls h hw hl)
/-! X11.room -/
abbrev rmC_X11_room : Room := { frames := 2, cells := 0, slots := 0, locals := 61 }
def wpC_X11_room (a : CS) (n0 : Nat) (x1 : Int32) (Q : Int32 → CS → Prop) : Prop := (leafK a n0) ∧ (wpC_X9_room a n0 x1 (fun r2 a2 => Q (r2 + (1 : Int32)) a2))
set_option maxHeartbeats 4000000 in
set_option maxRecDepth 100000 in
theorem wkC_X11_room_e (S : CallFix p m c cX11_room 2 s args lw_all RX11) (hr : meth.sig.returnType = (some .int)) (hlk : meth.locks = false) (Q : Int32 → CS → Prop) (n0 : Nat) (x1 : Int32) (a : CS) (H : Heap) (locs : List Loc) (ls : Array Slot) (h : wpC_X11_room a n0 x1 Q) (hw : CW D dA ad fv A a s H locs) (hl : lv_has ls 2 [(0, .ref (ad n0)), (1, .int x1)]) : W p l e rmC_X11_room s m args below meth c H locs 0 0 (MQ below (cQi D dA ad fv A Q) args s 0 0 A) (F0 m 0 ls []) := by
  have hx := S.1
  have hb := S.2.1
  have hown := S.2.2.2.1
  have hts := S.2.2.2.2
  unfold wpC_X11_room at h
  refine lv_aload_n hx hb dX11_room_0 rfl (lv_at hl 0 rfl) ?_
  refine lv_iload_n hx hb dX11_room_1 rfl (lv_at hl 1 rfl) ?_
  have hk2_0 := h.1
  replace h := h.2
  obtain ⟨C2, cC2, hat2, hp2⟩ := c_preL hw (As := [.int x1]) hk2_0
  refine c_calli hw (va_runSU (As := [.int x1]) (rest := []) hat2 S (ctC_X9_room l D dA ad fv A a n0 x1 _ h) (cwC_X11_X9_room hts ⟨Nat.le_of_ble_eq_true rfl, Nat.le_of_ble_eq_true rfl⟩) hp2 rfl rfl hl.1 rfl (lv_room (Nat.le_of_ble_eq_true rfl)) dX11_room_2 ⟨Nat.le_of_ble_eq_true rfl, Nat.le_of_ble_eq_true rfl⟩) (fun r2 a2 H locs h hw => ?_)
  refine lv_iconst (v := (1 : Int32)) hx hb dX11_room_5 (by decide) ?_
  refine lv_iadd hx hb dX11_room_6 ?_
  exact c_iret S hr hlk hw h dX11_room_7
theorem ctC_X11_room (l : Launch) (D : va_G) (dA : Nat → ClassId) (ad : Nat → Nat) (fv : Nat → Value) (A : Nat → Prop) (a : CS) (n0 : Nat) (x1 : Int32) (Q : Int32 → CS → Prop) (h : wpC_X11_room a n0 x1 Q) : Met l yX11_room (ws_ yX11_room cX11_room 2 (some .int)) rmC_X11_room (cPc D dA ad fv A a [.ref (ad n0), .int x1]) (cQi D dA ad fv A Q) 0 0 A :=
  c_met (by decide) rfl rfl rfl (Nat.le_of_ble_eq_true rfl) (fun p e s m below meth c ls S hr hlk hin2 hw hl => wkC_X11_room_e S hr hlk Q n0 x1 a _ _ ls h hw hl)
/-! X8.miss -/
abbrev rmC_X8_miss : Room := { frames := 1, cells := 0, slots := 0, locals := 40 }
def wpC_X8_miss (a : CS) (n0 : Nat) (x1 : Int32) (x2 : Int32) (Q : Int32 → CS → Prop) : Prop := (leafK a n0) ∧ (Q (x1 + (5 : Int32)) a)
set_option maxHeartbeats 4000000 in
set_option maxRecDepth 100000 in
theorem wkC_X8_miss_e (S : CallFix p m c cX8_miss 3 s args lw_all RX8) (hr : meth.sig.returnType = (some .int)) (hlk : meth.locks = false) (Q : Int32 → CS → Prop) (n0 : Nat) (x1 : Int32) (x2 : Int32) (a : CS) (H : Heap) (locs : List Loc) (ls : Array Slot) (h : wpC_X8_miss a n0 x1 x2 Q) (hw : CW D dA ad fv A a s H locs) (hl : lv_has ls 3 [(0, .ref (ad n0)), (1, .int x1), (2, .int x2)]) : W p l e rmC_X8_miss s m args below meth c H locs 0 0 (MQ below (cQi D dA ad fv A Q) args s 0 0 A) (F0 m 0 ls []) := by
  have hx := S.1
  have hb := S.2.1
  have hown := S.2.2.2.1
  have hts := S.2.2.2.2
  unfold wpC_X8_miss at h
  refine lv_aload_n hx hb dX8_miss_0 rfl (lv_at hl 0 rfl) ?_
  refine lv_iload_n hx hb dX8_miss_1 rfl (lv_at hl 1 rfl) ?_
  refine lv_iload_n hx hb dX8_miss_2 rfl (lv_at hl 2 rfl) ?_
  have hk3_0 := h.1
  replace h := h.2
  obtain ⟨C3, cC3, hat3, hp3⟩ := c_preL hw (As := [.int x1, .int x2]) hk3_0
  refine nd_super (x := ⟨"KeptLeaves$Leaf", "miss", "(II)I"⟩) (y := yX17_miss) (As := [.int x1, .int x2]) (rest := []) hat3 S (Or.inr ⟨rfl, _, rfl⟩) ⟨va_Nw.use rfl (hw.nw.2.2.2.1 _ (List.mem_of_getElem? (i := 8) rfl)), va_Nw.use rfl (hw.nw.2.2.2.1 _ (List.mem_of_getElem? (i := 5) rfl)), by decide +kernel⟩ (hw.nw.2.2.2.2 _ (List.mem_of_getElem? (i := 1) rfl)) (hts _ q662) hp3.2.1 hl.1 rfl (Nat.le_of_ble_eq_true rfl) dX8_miss_3 (Nat.le_of_ble_eq_true rfl) (Nat.le_of_ble_eq_true rfl) ?_
  refine lv_iconst (v := (5 : Int32)) hx hb dX8_miss_6 (by decide) ?_
  refine lv_iadd hx hb dX8_miss_7 ?_
  exact c_iret S hr hlk hw h dX8_miss_8
theorem ctC_X8_miss (l : Launch) (D : va_G) (dA : Nat → ClassId) (ad : Nat → Nat) (fv : Nat → Value) (A : Nat → Prop) (a : CS) (n0 : Nat) (x1 : Int32) (x2 : Int32) (Q : Int32 → CS → Prop) (h : wpC_X8_miss a n0 x1 x2 Q) : Met l yX8_miss (ws_ yX8_miss cX8_miss 3 (some .int)) rmC_X8_miss (cPc D dA ad fv A a [.ref (ad n0), .int x1, .int x2]) (cQi D dA ad fv A Q) 0 0 A :=
  c_met (by decide) rfl rfl rfl (Nat.le_of_ble_eq_true rfl) (fun p e s m below meth c ls S hr hlk hin2 hw hl => wkC_X8_miss_e S hr hlk Q n0 x1 x2 a _ _ ls h hw hl)
theorem cwC_X10_X8_miss {R : Room} {s : State} {args : Array Value} {rm : Room} (hts : ∀ w ∈ lw_all, w.before args s = true) (hR : rm.frames + 1 ≤ R.frames ∧ 8 + (3 + 11) + rm.locals ≤ R.locals) (hc : rm.cells = 0 := by rfl) (hs : rm.slots = 0 := by rfl) : va_CS R s args RX10 15 yX8_miss cX8_miss 3 (some .int) (ws_ yX8_miss cX8_miss 3 (some .int)) rm 0 0 2 :=
  va_cwSU 2 hts (lw_app (a := [.methodLink RX10 15 yX8_miss, .sameMethod yX8_miss.cls yX8_miss.cls yX8_miss.name yX8_miss.desc, .superclass RX10 yX8_miss.cls, .instanceMethod yX8_miss, .initialized yX8_miss.cls]) (List.forall_mem_cons.mpr ⟨q793, List.forall_mem_cons.mpr ⟨q1895, List.forall_mem_cons.mpr ⟨q684, List.forall_mem_cons.mpr ⟨q788, List.forall_mem_cons.mpr ⟨q114, fun _ h => absurd h List.not_mem_nil⟩⟩⟩⟩⟩) (lw_meth q789)) rfl hc hs (by decide +kernel) hR
/-! X9.miss -/
abbrev rmC_X9_miss : Room := { frames := 1, cells := 0, slots := 0, locals := 40 }
def wpC_X9_miss (a : CS) (n0 : Nat) (x1 : Int32) (x2 : Int32) (Q : Int32 → CS → Prop) : Prop := (leafK a n0) ∧ (Q (x1 / (2 : Int32)) a)
set_option maxHeartbeats 4000000 in
set_option maxRecDepth 100000 in
theorem wkC_X9_miss_e (S : CallFix p m c cX9_miss 3 s args lw_all RX9) (hr : meth.sig.returnType = (some .int)) (hlk : meth.locks = false) (Q : Int32 → CS → Prop) (n0 : Nat) (x1 : Int32) (x2 : Int32) (a : CS) (H : Heap) (locs : List Loc) (ls : Array Slot) (h : wpC_X9_miss a n0 x1 x2 Q) (hw : CW D dA ad fv A a s H locs) (hl : lv_has ls 3 [(0, .ref (ad n0)), (1, .int x1), (2, .int x2)]) : W p l e rmC_X9_miss s m args below meth c H locs 0 0 (MQ below (cQi D dA ad fv A Q) args s 0 0 A) (F0 m 0 ls []) := by
  have hx := S.1
  have hb := S.2.1
  have hown := S.2.2.2.1
  have hts := S.2.2.2.2
  unfold wpC_X9_miss at h
  refine lv_aload_n hx hb dX9_miss_0 rfl (lv_at hl 0 rfl) ?_
  refine lv_iload_n hx hb dX9_miss_1 rfl (lv_at hl 1 rfl) ?_
  refine lv_iload_n hx hb dX9_miss_2 rfl (lv_at hl 2 rfl) ?_
  have hk3_0 := h.1
  replace h := h.2
  obtain ⟨C3, cC3, hat3, hp3⟩ := c_preL hw (As := [.int x1, .int x2]) hk3_0
  refine nd_super (x := ⟨"KeptLeaves$Leaf", "miss", "(II)I"⟩) (y := yX17_miss) (As := [.int x1, .int x2]) (rest := []) hat3 S (Or.inr ⟨rfl, _, rfl⟩) ⟨va_Nw.use rfl (hw.nw.2.2.2.1 _ (List.mem_of_getElem? (i := 6) rfl)), va_Nw.use rfl (hw.nw.2.2.2.1 _ (List.mem_of_getElem? (i := 5) rfl)), by decide +kernel⟩ (hw.nw.2.2.2.2 _ (List.mem_of_getElem? (i := 1) rfl)) (hts _ q673) hp3.2.1 hl.1 rfl (Nat.le_of_ble_eq_true rfl) dX9_miss_3 (Nat.le_of_ble_eq_true rfl) (Nat.le_of_ble_eq_true rfl) ?_
  refine lv_iconst (v := (2 : Int32)) hx hb dX9_miss_6 (by decide) ?_
  refine lv_idiv hx hb dX9_miss_7 (by decide) ?_
  exact c_iret S hr hlk hw h dX9_miss_8
theorem ctC_X9_miss (l : Launch) (D : va_G) (dA : Nat → ClassId) (ad : Nat → Nat) (fv : Nat → Value) (A : Nat → Prop) (a : CS) (n0 : Nat) (x1 : Int32) (x2 : Int32) (Q : Int32 → CS → Prop) (h : wpC_X9_miss a n0 x1 x2 Q) : Met l yX9_miss (ws_ yX9_miss cX9_miss 3 (some .int)) rmC_X9_miss (cPc D dA ad fv A a [.ref (ad n0), .int x1, .int x2]) (cQi D dA ad fv A Q) 0 0 A :=
  c_met (by decide) rfl rfl rfl (Nat.le_of_ble_eq_true rfl) (fun p e s m below meth c ls S hr hlk hin2 hw hl => wkC_X9_miss_e S hr hlk Q n0 x1 x2 a _ _ ls h hw hl)
theorem cwC_X11_X9_miss {R : Room} {s : State} {args : Array Value} {rm : Room} (hts : ∀ w ∈ lw_all, w.before args s = true) (hR : rm.frames + 1 ≤ R.frames ∧ 8 + (3 + 11) + rm.locals ≤ R.locals) (hc : rm.cells = 0 := by rfl) (hs : rm.slots = 0 := by rfl) : va_CS R s args RX11 15 yX9_miss cX9_miss 3 (some .int) (ws_ yX9_miss cX9_miss 3 (some .int)) rm 0 0 2 :=
  va_cwSU 2 hts (lw_app (a := [.methodLink RX11 15 yX9_miss, .sameMethod yX9_miss.cls yX9_miss.cls yX9_miss.name yX9_miss.desc, .superclass RX11 yX9_miss.cls, .instanceMethod yX9_miss, .initialized yX9_miss.cls]) (List.forall_mem_cons.mpr ⟨q782, List.forall_mem_cons.mpr ⟨q1894, List.forall_mem_cons.mpr ⟨q695, List.forall_mem_cons.mpr ⟨q775, List.forall_mem_cons.mpr ⟨q115, fun _ h => absurd h List.not_mem_nil⟩⟩⟩⟩⟩) (lw_meth q776)) rfl hc hs (by decide +kernel) hR
/-! X12.miss -/
abbrev rmC_X12_miss : Room := { frames := 1, cells := 0, slots := 0, locals := 40 }
def wpC_X12_miss (a : CS) (n0 : Nat) (x1 : Int32) (x2 : Int32) (Q : Int32 → CS → Prop) : Prop := (leafK a n0) ∧ (Q (x1 + x2) a)
set_option maxHeartbeats 4000000 in
set_option maxRecDepth 100000 in
theorem wkC_X12_miss_e (S : CallFix p m c cX12_miss 3 s args lw_all RX12) (hr : meth.sig.returnType = (some .int)) (hlk : meth.locks = false) (Q : Int32 → CS → Prop) (n0 : Nat) (x1 : Int32) (x2 : Int32) (a : CS) (H : Heap) (locs : List Loc) (ls : Array Slot) (h : wpC_X12_miss a n0 x1 x2 Q) (hw : CW D dA ad fv A a s H locs) (hl : lv_has ls 3 [(0, .ref (ad n0)), (1, .int x1), (2, .int x2)]) : W p l e rmC_X12_miss s m args below meth c H locs 0 0 (MQ below (cQi D dA ad fv A Q) args s 0 0 A) (F0 m 0 ls []) := by
  have hx := S.1
  have hb := S.2.1
  have hown := S.2.2.2.1
  have hts := S.2.2.2.2
  unfold wpC_X12_miss at h
  refine lv_aload_n hx hb dX12_miss_0 rfl (lv_at hl 0 rfl) ?_
  refine lv_iload_n hx hb dX12_miss_1 rfl (lv_at hl 1 rfl) ?_
  refine lv_iload_n hx hb dX12_miss_2 rfl (lv_at hl 2 rfl) ?_
  have hk3_0 := h.1
  replace h := h.2
  obtain ⟨C3, cC3, hat3, hp3⟩ := c_preL hw (As := [.int x1, .int x2]) hk3_0
  refine nd_super (x := ⟨"KeptLeaves$Leaf", "miss", "(II)I"⟩) (y := yX17_miss) (As := [.int x1, .int x2]) (rest := []) hat3 S (Or.inr ⟨rfl, _, rfl⟩) ⟨va_Nw.use rfl (hw.nw.2.2.2.1 _ (List.mem_of_getElem? (i := 7) rfl)), va_Nw.use rfl (hw.nw.2.2.2.1 _ (List.mem_of_getElem? (i := 5) rfl)), by decide +kernel⟩ (hw.nw.2.2.2.2 _ (List.mem_of_getElem? (i := 1) rfl)) (hts _ q706) hp3.2.1 hl.1 rfl (Nat.le_of_ble_eq_true rfl) dX12_miss_3 (Nat.le_of_ble_eq_true rfl) (Nat.le_of_ble_eq_true rfl) ?_
  refine lv_iload_n hx hb dX12_miss_6 rfl (lv_at hl 2 rfl) ?_
  refine lv_iadd hx hb dX12_miss_7 ?_
  exact c_iret S hr hlk hw h dX12_miss_8
theorem ctC_X12_miss (l : Launch) (D : va_G) (dA : Nat → ClassId) (ad : Nat → Nat) (fv : Nat → Value) (A : Nat → Prop) (a : CS) (n0 : Nat) (x1 : Int32) (x2 : Int32) (Q : Int32 → CS → Prop) (h : wpC_X12_miss a n0 x1 x2 Q) : Met l yX12_miss (ws_ yX12_miss cX12_miss 3 (some .int)) rmC_X12_miss (cPc D dA ad fv A a [.ref (ad n0), .int x1, .int x2]) (cQi D dA ad fv A Q) 0 0 A :=
  c_met (by decide) rfl rfl rfl (Nat.le_of_ble_eq_true rfl) (fun p e s m below meth c ls S hr hlk hin2 hw hl => wkC_X12_miss_e S hr hlk Q n0 x1 x2 a _ _ ls h hw hl)
/-! X10.miss -/
abbrev rmC_X10_miss : Room := { frames := 2, cells := 0, slots := 0, locals := 62 }
def wpC_X10_miss (a : CS) (n0 : Nat) (x1 : Int32) (x2 : Int32) (Q : Int32 → CS → Prop) : Prop := (leafK a n0) ∧ (wpC_X8_miss a n0 x1 x2 (fun r3 a3 => (leafK a3 n0) ∧ (Q (r3 + (a3.1 n0 0)) a3)))
set_option maxHeartbeats 4000000 in
set_option maxRecDepth 100000 in
theorem wkC_X10_miss_e (S : CallFix p m c cX10_miss 3 s args lw_all RX10) (hr : meth.sig.returnType = (some .int)) (hlk : meth.locks = false) (Q : Int32 → CS → Prop) (n0 : Nat) (x1 : Int32) (x2 : Int32) (a : CS) (H : Heap) (locs : List Loc) (ls : Array Slot) (h : wpC_X10_miss a n0 x1 x2 Q) (hw : CW D dA ad fv A a s H locs) (hl : lv_has ls 3 [(0, .ref (ad n0)), (1, .int x1), (2, .int x2)]) : W p l e rmC_X10_miss s m args below meth c H locs 0 0 (MQ below (cQi D dA ad fv A Q) args s 0 0 A) (F0 m 0 ls []) := by
  have hx := S.1
  have hb := S.2.1
  have hown := S.2.2.2.1
  have hts := S.2.2.2.2
  unfold wpC_X10_miss at h
  refine lv_aload_n hx hb dX10_miss_0 rfl (lv_at hl 0 rfl) ?_
  refine lv_iload_n hx hb dX10_miss_1 rfl (lv_at hl 1 rfl) ?_
  refine lv_iload_n hx hb dX10_miss_2 rfl (lv_at hl 2 rfl) ?_
  have hk3_0 := h.1
  replace h := h.2
  obtain ⟨C3, cC3, hat3, hp3⟩ := c_preL hw (As := [.int x1, .int x2]) hk3_0
  refine c_calli hw (va_runSU (As := [.int x1, .int x2]) (rest := []) hat3 S (ctC_X8_miss l D dA ad fv A a n0 x1 x2 _ h) (cwC_X10_X8_miss hts ⟨Nat.le_of_ble_eq_true rfl, Nat.le_of_ble_eq_true rfl⟩) hp3 rfl rfl hl.1 rfl (lv_room (Nat.le_of_ble_eq_true rfl)) dX10_miss_3 ⟨Nat.le_of_ble_eq_true rfl, Nat.le_of_ble_eq_true rfl⟩) (fun r3 a3 H locs h hw => ?_)
  refine lv_aload_n hx hb dX10_miss_6 rfl (lv_at hl 0 rfl) ?_
  have hk7_1 := h.1
  replace h := h.2
  refine c_lgetS S hw hk7_1 0 (by decide) q643 q644 dX10_miss_7 ?_
  refine lv_iadd hx hb dX10_miss_10 ?_
  exact c_iret S hr hlk hw h dX10_miss_11
theorem ctC_X10_miss (l : Launch) (D : va_G) (dA : Nat → ClassId) (ad : Nat → Nat) (fv : Nat → Value) (A : Nat → Prop) (a : CS) (n0 : Nat) (x1 : Int32) (x2 : Int32) (Q : Int32 → CS → Prop) (h : wpC_X10_miss a n0 x1 x2 Q) : Met l yX10_miss (ws_ yX10_miss cX10_miss 3 (some .int)) rmC_X10_miss (cPc D dA ad fv A a [.ref (ad n0), .int x1, .int x2]) (cQi D dA ad fv A Q) 0 0 A :=
  c_met (by decide) rfl rfl rfl (Nat.le_of_ble_eq_true rfl) (fun p e s m below meth c ls S hr hlk hin2 hw hl => wkC_X10_miss_e S hr hlk Q n0 x1 x2 a _ _ ls h hw hl)
/-! X11.miss -/
abbrev rmC_X11_miss : Room := { frames := 2, cells := 0, slots := 0, locals := 62 }
def wpC_X11_miss (a : CS) (n0 : Nat) (x1 : Int32) (x2 : Int32) (Q : Int32 → CS → Prop) : Prop := (leafK a n0) ∧ (wpC_X9_miss a n0 x1 x2 (fun r4 a4 => Q ((2 : Int32) * r4) a4))
set_option maxHeartbeats 4000000 in
set_option maxRecDepth 100000 in
theorem wkC_X11_miss_e (S : CallFix p m c cX11_miss 3 s args lw_all RX11) (hr : meth.sig.returnType = (some .int)) (hlk : meth.locks = false) (Q : Int32 → CS → Prop) (n0 : Nat) (x1 : Int32) (x2 : Int32) (a : CS) (H : Heap) (locs : List Loc) (ls : Array Slot) (h : wpC_X11_miss a n0 x1 x2 Q) (hw : CW D dA ad fv A a s H locs) (hl : lv_has ls 3 [(0, .ref (ad n0)), (1, .int x1), (2, .int x2)]) : W p l e rmC_X11_miss s m args below meth c H locs 0 0 (MQ below (cQi D dA ad fv A Q) args s 0 0 A) (F0 m 0 ls []) := by
  have hx := S.1
  have hb := S.2.1
  have hown := S.2.2.2.1
  have hts := S.2.2.2.2
  unfold wpC_X11_miss at h
  refine lv_iconst (v := (2 : Int32)) hx hb dX11_miss_0 (by decide) ?_
  refine lv_aload_n hx hb dX11_miss_1 rfl (lv_at hl 0 rfl) ?_
  refine lv_iload_n hx hb dX11_miss_2 rfl (lv_at hl 1 rfl) ?_
  refine lv_iload_n hx hb dX11_miss_3 rfl (lv_at hl 2 rfl) ?_
  have hk4_0 := h.1
  replace h := h.2
  obtain ⟨C4, cC4, hat4, hp4⟩ := c_preL hw (As := [.int x1, .int x2]) hk4_0
  refine c_calli hw (va_runSU (As := [.int x1, .int x2]) (rest := [.int (2 : Int32)]) hat4 S (ctC_X9_miss l D dA ad fv A a n0 x1 x2 _ h) (cwC_X11_X9_miss hts ⟨Nat.le_of_ble_eq_true rfl, Nat.le_of_ble_eq_true rfl⟩) hp4 rfl rfl hl.1 rfl (lv_room (Nat.le_of_ble_eq_true rfl)) dX11_miss_4 ⟨Nat.le_of_ble_eq_true rfl, Nat.le_of_ble_eq_true rfl⟩) (fun r4 a4 H locs h hw => ?_)
  refine lv_imul hx hb dX11_miss_7 ?_
  exact c_iret S hr hlk hw h dX11_miss_8
theorem ctC_X11_miss (l : Launch) (D : va_G) (dA : Nat → ClassId) (ad : Nat → Nat) (fv : Nat → Value) (A : Nat → Prop) (a : CS) (n0 : Nat) (x1 : Int32) (x2 : Int32) (Q : Int32 → CS → Prop) (h : wpC_X11_miss a n0 x1 x2 Q) : Met l yX11_miss (ws_ yX11_miss cX11_miss 3 (some .int)) rmC_X11_miss (cPc D dA ad fv A a [.ref (ad n0), .int x1, .int x2]) (cQi D dA ad fv A Q) 0 0 A :=
  c_met (by decide) rfl rfl rfl (Nat.le_of_ble_eq_true rfl) (fun p e s m below meth c ls S hr hlk hin2 hw hl => wkC_X11_miss_e S hr hlk Q n0 x1 x2 a _ _ ls h hw hl)
end CWalk

section CWalk
variable {p : Program} {l : Launch} {e : Env} {s : State} {m : MethodId} {args : Array Value} {below : List Frame} {meth : Method} {c : Code} {D : va_G} {dA : Nat → ClassId} {ad : Nat → Nat} {fv : Nat → Value} {A : Nat → Prop}
/-! X0.term -/
theorem cwC_X0_X0_piece {R : Room} {s : State} {args : Array Value} {rm : Room} (hts : ∀ w ∈ lw_all, w.before args s = true) (hR : rm.frames + 1 ≤ R.frames ∧ 8 + (2 + 11) + rm.locals ≤ R.locals) (hc : rm.cells = 0 := by rfl) (hs : rm.slots = 0 := by rfl) : CallW R s args RX0 RX0 224 yX0_piece cX0_piece 2 none (ws_ yX0_piece cX0_piece 2 none) rm 0 0 1 :=
  cwV 1 hts (lw_V q560 q562 qs13 q103 q563) rfl hc hs (by decide +kernel) hR
theorem cwC_X0_X0_term {R : Room} {s : State} {args : Array Value} {rm : Room} (hts : ∀ w ∈ lw_all, w.before args s = true) (hR : rm.frames + 1 ≤ R.frames ∧ 8 + (3 + 11) + rm.locals ≤ R.locals) (hc : rm.cells = 0 := by rfl) (hs : rm.slots = 0 := by rfl) : CallW R s args RX0 RX0 221 yX0_term cX0_term 3 none (ws_ yX0_term cX0_term 3 none) rm 0 0 1 :=
  cwV 1 hts (lw_V q556 q558 qs12 q103 q559) rfl hc hs (by decide +kernel) hR
def bkC_X0_term_38 (P : CS → Nat → (CS → Prop) → (CS → Prop) → Prop) (Q : CS → Prop) (E : CS → Prop) (x1 : Nat) (O5 : CS → Prop) : Int32 → CS → Prop := fun s0 a => wpC_X0_goes a (fun a40 => P a40 x1 (fun a45 => (kindK a45 x1 113) ∧ (wpC_X13_add a45 x1 s0 (0 : Int32) (fun a51 => O5 a51))) E) E
set_option maxHeartbeats 4000000 in
set_option maxRecDepth 100000 in
theorem wkC_X0_term_38 {F0_ L0_ : Nat} {P : CS → Nat → (CS → Prop) → (CS → Prop) → Prop} (hPc : ∀ a x1 Q E, P a x1 Q E → MetT l yX0_piece (ws_ yX0_piece cX0_piece 2 none) { frames := F0_, cells := 0, slots := 0, locals := L0_ } (cPc D dA ad fv A a [.ref (ad 0), .ref (ad x1)]) (cT (cQv D dA ad fv A Q) (cE D dA ad fv A (exF ad) E)) 0 0 A) (S : CallFix p m c cX0_term 3 s args lw_all RX0) (hr : meth.sig.returnType = none) (hlk : meth.locks = false) (hout : ∀ pc, ∀ x ∈ c.exceptionTable.toList, covers x pc = false) (Q : CS → Prop) (E : CS → Prop) (x1 : Nat) {O5 : CS → Prop} (hO5 : ∀ (a : CS) (H : Heap) (locs : List Loc) (ls : Array Slot), O5 a → CW D dA ad fv A a s H locs → lv_has ls 3 [(0, .ref (ad 0)), (1, .ref (ad x1))] → W p l e ({ frames := F0_ + 3, cells := 0, slots := 0, locals := L0_ + 66 } : Room) s m args below meth c H locs 0 0 (MQT below (cT (cQv D dA ad fv A Q) (cE D dA ad fv A (exF ad) E)) args s 0 0 A) (F0 m 5 ls [])) : ∀ (s0 : Int32) (a : CS) (H : Heap) (locs : List Loc) (ls : Array Slot), bkC_X0_term_38 P Q E x1 O5 s0 a → CW D dA ad fv A a s H locs → lv_has ls 3 [(0, .ref (ad 0)), (1, .ref (ad x1))] → W p l e ({ frames := F0_ + 3, cells := 0, slots := 0, locals := L0_ + 66 } : Room) s m args below meth c H locs 0 0 (MQT below (cT (cQv D dA ad fv A Q) (cE D dA ad fv A (exF ad) E)) args s 0 0 A) (F0 m 38 ls [.int s0]) := by
  have hx := S.1
  have hb := S.2.1
  have hown := S.2.2.2.1
  have hts := S.2.2.2.2
  intro s0 a H locs ls h hw hl
  unfold bkC_X0_term_38 at h
  refine lv_istore_n (lv' := [(2, .int s0), (0, .ref (ad 0)), (1, .ref (ad x1))]) hx hb dX0_term_38 rfl hl (by decide) rfl (fun ls hl => ?_)
  refine lv_aload_n hx hb dX0_term_39 rfl (lv_at hl 1 rfl) ?_
  refine c_callTv hw (runTV (As := []) (rest := []) S (ctC_X0_goes l D dA ad fv A a _ _ h) (cwC_X0_X0_goes hts ⟨by dsimp only; omega, by dsimp only; omega⟩) (c_preV hw (n := 0) (cOk.s (by decide)) (isO_K _) rfl) rfl rfl hl.1 rfl (lv_room (Nat.le_of_ble_eq_true rfl)) dX0_term_40 ⟨Nat.le_of_ble_eq_true rfl, Nat.le_of_ble_eq_true rfl⟩) (fun _ _ _ hE hw => c_leaveT hw hE hlk (hout _) (Nat.le_of_ble_eq_true rfl) (Nat.le_of_ble_eq_true rfl)) (fun a40 H locs h hw => ?_)
  refine lv_aload_n hx hb dX0_term_43 rfl (lv_at hl 1 rfl) ?_
  refine lv_aload_n hx hb dX0_term_44 rfl (lv_at hl 2 rfl) ?_
  refine c_callTv hw (runTV (As := [.ref (ad x1)]) (rest := []) S (hPc _ _ _ _ h) (cwC_X0_X0_piece hts ⟨by dsimp only; omega, by dsimp only; omega⟩) (c_preV hw (n := 0) (cOk.s (by decide)) (isO_K _) rfl) rfl rfl hl.1 rfl (lv_room (Nat.le_of_ble_eq_true rfl)) dX0_term_45 ⟨Nat.le_of_ble_eq_true rfl, Nat.le_of_ble_eq_true rfl⟩) (fun _ _ _ hE hw => c_leaveT hw hE hlk (hout _) (Nat.le_of_ble_eq_true rfl) (Nat.le_of_ble_eq_true rfl)) (fun a45 H locs h hw => ?_)
  refine lv_aload_n hx hb dX0_term_48 rfl (lv_at hl 2 rfl) ?_
  refine lv_iload_n hx hb dX0_term_49 rfl (lv_at hl 0 rfl) ?_
  refine lv_iconst (v := (0 : Int32)) hx hb dX0_term_50 (by decide) ?_
  have hk51_0 := h.1
  replace h := h.2
  refine c_callv hw (va_runV (As := [.int s0, .int (0 : Int32)]) (rest := []) S (ctC_X13_add l D dA ad fv A a45 x1 s0 (0 : Int32) _ h) (cwC_X0_X13_add hts ⟨by dsimp only; omega, by dsimp only; omega⟩) (c_preV hw (n := x1) (hk51_0.ok (by decide)) ((isO_W hk51_0) _) rfl) rfl rfl hl.1 rfl (lv_room (Nat.le_of_ble_eq_true rfl)) dX0_term_51 ⟨Nat.le_of_ble_eq_true rfl, Nat.le_of_ble_eq_true rfl⟩) (fun a51 H locs h hw => ?_)
  refine lv_goto (tgt := 5) hx hb dX0_term_54 (by decide) ?_
  exact hO5 _ _ _ _ h hw (lv_sub hl [1, 2] rfl)
def bkC_X0_term_23 (P : CS → Nat → (CS → Prop) → (CS → Prop) → Prop) (Q : CS → Prop) (E : CS → Prop) (x1 : Nat) (O5 : CS → Prop) : CS → Prop := fun a => wpC_X0_isSign a (42 : Int32) (fun r26 a26 => if r26 = 0 then (bkC_X0_term_38 P Q E x1 O5 (12 : Int32) a26) else (bkC_X0_term_38 P Q E x1 O5 (4 : Int32) a26))
set_option maxHeartbeats 4000000 in
set_option maxRecDepth 100000 in
theorem wkC_X0_term_23 {F0_ L0_ : Nat} {P : CS → Nat → (CS → Prop) → (CS → Prop) → Prop} (hPc : ∀ a x1 Q E, P a x1 Q E → MetT l yX0_piece (ws_ yX0_piece cX0_piece 2 none) { frames := F0_, cells := 0, slots := 0, locals := L0_ } (cPc D dA ad fv A a [.ref (ad 0), .ref (ad x1)]) (cT (cQv D dA ad fv A Q) (cE D dA ad fv A (exF ad) E)) 0 0 A) (S : CallFix p m c cX0_term 3 s args lw_all RX0) (hr : meth.sig.returnType = none) (hlk : meth.locks = false) (hout : ∀ pc, ∀ x ∈ c.exceptionTable.toList, covers x pc = false) (Q : CS → Prop) (E : CS → Prop) (x1 : Nat) {O5 : CS → Prop} (hO5 : ∀ (a : CS) (H : Heap) (locs : List Loc) (ls : Array Slot), O5 a → CW D dA ad fv A a s H locs → lv_has ls 3 [(0, .ref (ad 0)), (1, .ref (ad x1))] → W p l e ({ frames := F0_ + 3, cells := 0, slots := 0, locals := L0_ + 66 } : Room) s m args below meth c H locs 0 0 (MQT below (cT (cQv D dA ad fv A Q) (cE D dA ad fv A (exF ad) E)) args s 0 0 A) (F0 m 5 ls [])) : ∀ (a : CS) (H : Heap) (locs : List Loc) (ls : Array Slot), bkC_X0_term_23 P Q E x1 O5 a → CW D dA ad fv A a s H locs → lv_has ls 3 [(0, .ref (ad 0)), (1, .ref (ad x1))] → W p l e ({ frames := F0_ + 3, cells := 0, slots := 0, locals := L0_ + 66 } : Room) s m args below meth c H locs 0 0 (MQT below (cT (cQv D dA ad fv A Q) (cE D dA ad fv A (exF ad) E)) args s 0 0 A) (F0 m 23 ls []) := by
  have hx := S.1
  have hb := S.2.1
  have hown := S.2.2.2.1
  have hts := S.2.2.2.2
  intro  a H locs ls h hw hl
  unfold bkC_X0_term_23 at h
  refine lv_aload_n hx hb dX0_term_23 rfl (lv_at hl 0 rfl) ?_
  refine lv_bipush (v := (42 : Int32)) hx hb dX0_term_24 (by decide) ?_
  refine c_calli hw (va_runV (As := [.int (42 : Int32)]) (rest := []) S (ctC_X0_isSign l D dA ad fv A a (42 : Int32) _ h) (cwC_X0_X0_isSign hts ⟨by dsimp only; omega, by dsimp only; omega⟩) (c_preV hw (n := 0) (cOk.s (by decide)) (isO_K _) rfl) rfl rfl hl.1 rfl (lv_room (Nat.le_of_ble_eq_true rfl)) dX0_term_26 ⟨Nat.le_of_ble_eq_true rfl, Nat.le_of_ble_eq_true rfl⟩) (fun r26 a26 H locs h hw => ?_)
  refine lv_if_eq (tgt := 36) hx hb dX0_term_29 (by decide) (fun c29 => ?_) (fun c29 => ?_)
  · replace h := if_t c29 h
    refine lv_bipush (v := (12 : Int32)) hx hb dX0_term_36 (by decide) ?_
    exact wkC_X0_term_38 hPc S hr hlk hout Q E x1 hO5 _ _ _ _ _ h hw (lv_sub hl [0, 1] rfl)
  · replace h := if_f c29 h
    refine lv_iconst (v := (4 : Int32)) hx hb dX0_term_32 (by decide) ?_
    refine lv_goto (tgt := 38) hx hb dX0_term_33 (by decide) ?_
    exact wkC_X0_term_38 hPc S hr hlk hout Q E x1 hO5 _ _ _ _ _ h hw (lv_sub hl [0, 1] rfl)
def bkC_X0_term_5 (P : CS → Nat → (CS → Prop) → (CS → Prop) → Prop) (Q : CS → Prop) (E : CS → Prop) (x1 : Nat) : Nat → CS → Prop
  | 0 => fun _ => False
  | n + 1 => fun a => wpC_X0_isSign a (42 : Int32) (fun r8 a8 => if r8 = 0 then (wpC_X0_isSign a8 (47 : Int32) (fun r17 a17 => if r17 = 0 then (Q a17) else (bkC_X0_term_23 P Q E x1 (bkC_X0_term_5 P Q E x1 n) a17))) else (bkC_X0_term_23 P Q E x1 (bkC_X0_term_5 P Q E x1 n) a8))
set_option maxHeartbeats 4000000 in
set_option maxRecDepth 100000 in
theorem wkC_X0_term_5 {F0_ L0_ : Nat} {P : CS → Nat → (CS → Prop) → (CS → Prop) → Prop} (hPc : ∀ a x1 Q E, P a x1 Q E → MetT l yX0_piece (ws_ yX0_piece cX0_piece 2 none) { frames := F0_, cells := 0, slots := 0, locals := L0_ } (cPc D dA ad fv A a [.ref (ad 0), .ref (ad x1)]) (cT (cQv D dA ad fv A Q) (cE D dA ad fv A (exF ad) E)) 0 0 A) (S : CallFix p m c cX0_term 3 s args lw_all RX0) (hr : meth.sig.returnType = none) (hlk : meth.locks = false) (hout : ∀ pc, ∀ x ∈ c.exceptionTable.toList, covers x pc = false) (Q : CS → Prop) (E : CS → Prop) (x1 : Nat) : ∀ (n : Nat) (a : CS) (H : Heap) (locs : List Loc) (ls : Array Slot), bkC_X0_term_5 P Q E x1 n a → CW D dA ad fv A a s H locs → lv_has ls 3 [(0, .ref (ad 0)), (1, .ref (ad x1))] → W p l e ({ frames := F0_ + 3, cells := 0, slots := 0, locals := L0_ + 66 } : Room) s m args below meth c H locs 0 0 (MQT below (cT (cQv D dA ad fv A Q) (cE D dA ad fv A (exF ad) E)) args s 0 0 A) (F0 m 5 ls []) := by
  have hx := S.1
  have hb := S.2.1
  have hown := S.2.2.2.1
  have hts := S.2.2.2.2
  intro n
  induction n with
  | zero =>
    intro  a H locs ls h
    exact False.elim h
  | succ n ih =>
    intro  a H locs ls h hw hl
    unfold bkC_X0_term_5 at h
    refine lv_aload_n hx hb dX0_term_5 rfl (lv_at hl 0 rfl) ?_
    refine lv_bipush (v := (42 : Int32)) hx hb dX0_term_6 (by decide) ?_
    refine c_calli hw (va_runV (As := [.int (42 : Int32)]) (rest := []) S (ctC_X0_isSign l D dA ad fv A a (42 : Int32) _ h) (cwC_X0_X0_isSign hts ⟨by dsimp only; omega, by dsimp only; omega⟩) (c_preV hw (n := 0) (cOk.s (by decide)) (isO_K _) rfl) rfl rfl hl.1 rfl (lv_room (Nat.le_of_ble_eq_true rfl)) dX0_term_8 ⟨Nat.le_of_ble_eq_true rfl, Nat.le_of_ble_eq_true rfl⟩) (fun r8 a8 H locs h hw => ?_)
    refine lv_if_ne (tgt := 23) hx hb dX0_term_11 (by decide) (fun c11 => ?_) (fun c11 => ?_)
    · replace h := if_f c11 h
      exact wkC_X0_term_23 hPc S hr hlk hout Q E x1 ih _ _ _ _ h hw (lv_sub hl [0, 1] rfl)
    · replace h := if_t c11 h
      refine lv_aload_n hx hb dX0_term_14 rfl (lv_at hl 0 rfl) ?_
      refine lv_bipush (v := (47 : Int32)) hx hb dX0_term_15 (by decide) ?_
      refine c_calli hw (va_runV (As := [.int (47 : Int32)]) (rest := []) S (ctC_X0_isSign l D dA ad fv A a8 (47 : Int32) _ h) (cwC_X0_X0_isSign hts ⟨by dsimp only; omega, by dsimp only; omega⟩) (c_preV hw (n := 0) (cOk.s (by decide)) (isO_K _) rfl) rfl rfl hl.1 rfl (lv_room (Nat.le_of_ble_eq_true rfl)) dX0_term_17 ⟨Nat.le_of_ble_eq_true rfl, Nat.le_of_ble_eq_true rfl⟩) (fun r17 a17 H locs h hw => ?_)
      refine lv_if_eq (tgt := 57) hx hb dX0_term_20 (by decide) (fun c20 => ?_) (fun c20 => ?_)
      · replace h := if_t c20 h
        exact W.mono (MQ.toT (fun _ _ h9 => Or.inl h9)) (c_vret S hr hlk hw h dX0_term_57)
      · replace h := if_f c20 h
        exact wkC_X0_term_23 hPc S hr hlk hout Q E x1 ih _ _ _ _ h hw (lv_sub hl [0, 1] rfl)
def wpC_X0_term (P : CS → Nat → (CS → Prop) → (CS → Prop) → Prop) (a : CS) (x1 : Nat) (Q : CS → Prop) (E : CS → Prop) : Prop := P a x1 (fun a2 => ∃ n5, bkC_X0_term_5 P Q E x1 n5 a2) E
set_option maxHeartbeats 4000000 in
set_option maxRecDepth 100000 in
theorem wkC_X0_term_e {F0_ L0_ : Nat} {P : CS → Nat → (CS → Prop) → (CS → Prop) → Prop} (hPc : ∀ a x1 Q E, P a x1 Q E → MetT l yX0_piece (ws_ yX0_piece cX0_piece 2 none) { frames := F0_, cells := 0, slots := 0, locals := L0_ } (cPc D dA ad fv A a [.ref (ad 0), .ref (ad x1)]) (cT (cQv D dA ad fv A Q) (cE D dA ad fv A (exF ad) E)) 0 0 A) (S : CallFix p m c cX0_term 3 s args lw_all RX0) (hr : meth.sig.returnType = none) (hlk : meth.locks = false) (hout : ∀ pc, ∀ x ∈ c.exceptionTable.toList, covers x pc = false) (Q : CS → Prop) (E : CS → Prop) (x1 : Nat) (a : CS) (H : Heap) (locs : List Loc) (ls : Array Slot) (h : wpC_X0_term P a x1 Q E) (hw : CW D dA ad fv A a s H locs) (hl : lv_has ls 3 [(0, .ref (ad 0)), (1, .ref (ad x1))]) : W p l e ({ frames := F0_ + 3, cells := 0, slots := 0, locals := L0_ + 66 } : Room) s m args below meth c H locs 0 0 (MQT below (cT (cQv D dA ad fv A Q) (cE D dA ad fv A (exF ad) E)) args s 0 0 A) (F0 m 0 ls []) := by
  have hx := S.1
  have hb := S.2.1
  have hown := S.2.2.2.1
  have hts := S.2.2.2.2
  unfold wpC_X0_term at h
  refine lv_aload_n hx hb dX0_term_0 rfl (lv_at hl 0 rfl) ?_
  refine lv_aload_n hx hb dX0_term_1 rfl (lv_at hl 1 rfl) ?_
  refine c_callTv hw (runTV (As := [.ref (ad x1)]) (rest := []) S (hPc _ _ _ _ h) (cwC_X0_X0_piece hts ⟨by dsimp only; omega, by dsimp only; omega⟩) (c_preV hw (n := 0) (cOk.s (by decide)) (isO_K _) rfl) rfl rfl hl.1 rfl (lv_room (Nat.le_of_ble_eq_true rfl)) dX0_term_2 ⟨Nat.le_of_ble_eq_true rfl, Nat.le_of_ble_eq_true rfl⟩) (fun _ _ _ hE hw => c_leaveT hw hE hlk (hout _) (Nat.le_of_ble_eq_true rfl) (Nat.le_of_ble_eq_true rfl)) (fun a2 H locs h hw => ?_)
  obtain ⟨n5, h⟩ := h
  exact wkC_X0_term_5 hPc S hr hlk hout Q E x1 n5 _ _ _ _ h hw (lv_sub hl [0, 1] rfl)
theorem ctC_X0_term_s (F0_ L0_ : Nat) {P : CS → Nat → (CS → Prop) → (CS → Prop) → Prop} {l : Launch} {D : va_G} {dA : Nat → ClassId} {ad : Nat → Nat} {fv : Nat → Value} {A : Nat → Prop} (hPc : ∀ a x1 Q E, P a x1 Q E → MetT l yX0_piece (ws_ yX0_piece cX0_piece 2 none) { frames := F0_, cells := 0, slots := 0, locals := L0_ } (cPc D dA ad fv A a [.ref (ad 0), .ref (ad x1)]) (cT (cQv D dA ad fv A Q) (cE D dA ad fv A (exF ad) E)) 0 0 A) (a : CS) (x1 : Nat) (Q : CS → Prop) (E : CS → Prop) (h : wpC_X0_term P a x1 Q E) : MetT l yX0_term (ws_ yX0_term cX0_term 3 none) ({ frames := F0_ + 3, cells := 0, slots := 0, locals := L0_ + 66 } : Room) (cPc D dA ad fv A a [.ref (ad 0), .ref (ad x1)]) (cT (cQv D dA ad fv A Q) (cE D dA ad fv A (exF ad) E)) 0 0 A :=
  c_metT (by decide) rfl rfl rfl (Nat.le_of_ble_eq_true rfl) (fun p e s m below meth c ls S hr hlk hout hw hl => wkC_X0_term_e hPc S hr hlk hout Q E x1 a _ _ ls h hw hl)
/-! X0.sum -/
theorem cwC_X0_X0_sum {R : Room} {s : State} {args : Array Value} {rm : Room} (hts : ∀ w ∈ lw_all, w.before args s = true) (hR : rm.frames + 1 ≤ R.frames ∧ 8 + (3 + 11) + rm.locals ≤ R.locals) (hc : rm.cells = 0 := by rfl) (hs : rm.slots = 0 := by rfl) : CallW R s args RX0 RX0 218 yX0_sum cX0_sum 3 none (ws_ yX0_sum cX0_sum 3 none) rm 0 0 1 :=
  cwV 1 hts (lw_V q552 q554 qs11 q103 q555) rfl hc hs (by decide +kernel) hR
def bkC_X0_sum_38 (P : CS → Nat → (CS → Prop) → (CS → Prop) → Prop) (Q : CS → Prop) (E : CS → Prop) (x1 : Nat) (O5 : CS → Prop) : Int32 → CS → Prop := fun s0 a => wpC_X0_goes a (fun a40 => wpC_X0_term P a40 x1 (fun a45 => (kindK a45 x1 113) ∧ (wpC_X13_add a45 x1 s0 (0 : Int32) (fun a51 => O5 a51))) E) E
set_option maxHeartbeats 4000000 in
set_option maxRecDepth 100000 in
theorem wkC_X0_sum_38 {F0_ L0_ : Nat} {P : CS → Nat → (CS → Prop) → (CS → Prop) → Prop} (hPc : ∀ a x1 Q E, P a x1 Q E → MetT l yX0_piece (ws_ yX0_piece cX0_piece 2 none) { frames := F0_, cells := 0, slots := 0, locals := L0_ } (cPc D dA ad fv A a [.ref (ad 0), .ref (ad x1)]) (cT (cQv D dA ad fv A Q) (cE D dA ad fv A (exF ad) E)) 0 0 A) (S : CallFix p m c cX0_sum 3 s args lw_all RX0) (hr : meth.sig.returnType = none) (hlk : meth.locks = false) (hout : ∀ pc, ∀ x ∈ c.exceptionTable.toList, covers x pc = false) (Q : CS → Prop) (E : CS → Prop) (x1 : Nat) {O5 : CS → Prop} (hO5 : ∀ (a : CS) (H : Heap) (locs : List Loc) (ls : Array Slot), O5 a → CW D dA ad fv A a s H locs → lv_has ls 3 [(0, .ref (ad 0)), (1, .ref (ad x1))] → W p l e ({ frames := F0_ + 4, cells := 0, slots := 0, locals := L0_ + 88 } : Room) s m args below meth c H locs 0 0 (MQT below (cT (cQv D dA ad fv A Q) (cE D dA ad fv A (exF ad) E)) args s 0 0 A) (F0 m 5 ls [])) : ∀ (s0 : Int32) (a : CS) (H : Heap) (locs : List Loc) (ls : Array Slot), bkC_X0_sum_38 P Q E x1 O5 s0 a → CW D dA ad fv A a s H locs → lv_has ls 3 [(0, .ref (ad 0)), (1, .ref (ad x1))] → W p l e ({ frames := F0_ + 4, cells := 0, slots := 0, locals := L0_ + 88 } : Room) s m args below meth c H locs 0 0 (MQT below (cT (cQv D dA ad fv A Q) (cE D dA ad fv A (exF ad) E)) args s 0 0 A) (F0 m 38 ls [.int s0]) := by
  have hx := S.1
  have hb := S.2.1
  have hown := S.2.2.2.1
  have hts := S.2.2.2.2
  intro s0 a H locs ls h hw hl
  unfold bkC_X0_sum_38 at h
  refine lv_istore_n (lv' := [(2, .int s0), (0, .ref (ad 0)), (1, .ref (ad x1))]) hx hb dX0_sum_38 rfl hl (by decide) rfl (fun ls hl => ?_)
  refine lv_aload_n hx hb dX0_sum_39 rfl (lv_at hl 1 rfl) ?_
  refine c_callTv hw (runTV (As := []) (rest := []) S (ctC_X0_goes l D dA ad fv A a _ _ h) (cwC_X0_X0_goes hts ⟨by dsimp only; omega, by dsimp only; omega⟩) (c_preV hw (n := 0) (cOk.s (by decide)) (isO_K _) rfl) rfl rfl hl.1 rfl (lv_room (Nat.le_of_ble_eq_true rfl)) dX0_sum_40 ⟨Nat.le_of_ble_eq_true rfl, Nat.le_of_ble_eq_true rfl⟩) (fun _ _ _ hE hw => c_leaveT hw hE hlk (hout _) (Nat.le_of_ble_eq_true rfl) (Nat.le_of_ble_eq_true rfl)) (fun a40 H locs h hw => ?_)
  refine lv_aload_n hx hb dX0_sum_43 rfl (lv_at hl 1 rfl) ?_
  refine lv_aload_n hx hb dX0_sum_44 rfl (lv_at hl 2 rfl) ?_
  refine c_callTv hw (runTV (As := [.ref (ad x1)]) (rest := []) S (ctC_X0_term_s F0_ L0_ hPc a40 x1 _ _ h) (cwC_X0_X0_term hts ⟨by dsimp only; omega, by dsimp only; omega⟩) (c_preV hw (n := 0) (cOk.s (by decide)) (isO_K _) rfl) rfl rfl hl.1 rfl (lv_room (Nat.le_of_ble_eq_true rfl)) dX0_sum_45 ⟨Nat.le_of_ble_eq_true rfl, Nat.le_of_ble_eq_true rfl⟩) (fun _ _ _ hE hw => c_leaveT hw hE hlk (hout _) (Nat.le_of_ble_eq_true rfl) (Nat.le_of_ble_eq_true rfl)) (fun a45 H locs h hw => ?_)
  refine lv_aload_n hx hb dX0_sum_48 rfl (lv_at hl 2 rfl) ?_
  refine lv_iload_n hx hb dX0_sum_49 rfl (lv_at hl 0 rfl) ?_
  refine lv_iconst (v := (0 : Int32)) hx hb dX0_sum_50 (by decide) ?_
  have hk51_0 := h.1
  replace h := h.2
  refine c_callv hw (va_runV (As := [.int s0, .int (0 : Int32)]) (rest := []) S (ctC_X13_add l D dA ad fv A a45 x1 s0 (0 : Int32) _ h) (cwC_X0_X13_add hts ⟨by dsimp only; omega, by dsimp only; omega⟩) (c_preV hw (n := x1) (hk51_0.ok (by decide)) ((isO_W hk51_0) _) rfl) rfl rfl hl.1 rfl (lv_room (Nat.le_of_ble_eq_true rfl)) dX0_sum_51 ⟨Nat.le_of_ble_eq_true rfl, Nat.le_of_ble_eq_true rfl⟩) (fun a51 H locs h hw => ?_)
  refine lv_goto (tgt := 5) hx hb dX0_sum_54 (by decide) ?_
  exact hO5 _ _ _ _ h hw (lv_sub hl [1, 2] rfl)
def bkC_X0_sum_23 (P : CS → Nat → (CS → Prop) → (CS → Prop) → Prop) (Q : CS → Prop) (E : CS → Prop) (x1 : Nat) (O5 : CS → Prop) : CS → Prop := fun a => wpC_X0_isSign a (43 : Int32) (fun r26 a26 => if r26 = 0 then (bkC_X0_sum_38 P Q E x1 O5 (6 : Int32) a26) else (bkC_X0_sum_38 P Q E x1 O5 (5 : Int32) a26))
set_option maxHeartbeats 4000000 in
set_option maxRecDepth 100000 in
theorem wkC_X0_sum_23 {F0_ L0_ : Nat} {P : CS → Nat → (CS → Prop) → (CS → Prop) → Prop} (hPc : ∀ a x1 Q E, P a x1 Q E → MetT l yX0_piece (ws_ yX0_piece cX0_piece 2 none) { frames := F0_, cells := 0, slots := 0, locals := L0_ } (cPc D dA ad fv A a [.ref (ad 0), .ref (ad x1)]) (cT (cQv D dA ad fv A Q) (cE D dA ad fv A (exF ad) E)) 0 0 A) (S : CallFix p m c cX0_sum 3 s args lw_all RX0) (hr : meth.sig.returnType = none) (hlk : meth.locks = false) (hout : ∀ pc, ∀ x ∈ c.exceptionTable.toList, covers x pc = false) (Q : CS → Prop) (E : CS → Prop) (x1 : Nat) {O5 : CS → Prop} (hO5 : ∀ (a : CS) (H : Heap) (locs : List Loc) (ls : Array Slot), O5 a → CW D dA ad fv A a s H locs → lv_has ls 3 [(0, .ref (ad 0)), (1, .ref (ad x1))] → W p l e ({ frames := F0_ + 4, cells := 0, slots := 0, locals := L0_ + 88 } : Room) s m args below meth c H locs 0 0 (MQT below (cT (cQv D dA ad fv A Q) (cE D dA ad fv A (exF ad) E)) args s 0 0 A) (F0 m 5 ls [])) : ∀ (a : CS) (H : Heap) (locs : List Loc) (ls : Array Slot), bkC_X0_sum_23 P Q E x1 O5 a → CW D dA ad fv A a s H locs → lv_has ls 3 [(0, .ref (ad 0)), (1, .ref (ad x1))] → W p l e ({ frames := F0_ + 4, cells := 0, slots := 0, locals := L0_ + 88 } : Room) s m args below meth c H locs 0 0 (MQT below (cT (cQv D dA ad fv A Q) (cE D dA ad fv A (exF ad) E)) args s 0 0 A) (F0 m 23 ls []) := by
  have hx := S.1
  have hb := S.2.1
  have hown := S.2.2.2.1
  have hts := S.2.2.2.2
  intro  a H locs ls h hw hl
  unfold bkC_X0_sum_23 at h
  refine lv_aload_n hx hb dX0_sum_23 rfl (lv_at hl 0 rfl) ?_
  refine lv_bipush (v := (43 : Int32)) hx hb dX0_sum_24 (by decide) ?_
  refine c_calli hw (va_runV (As := [.int (43 : Int32)]) (rest := []) S (ctC_X0_isSign l D dA ad fv A a (43 : Int32) _ h) (cwC_X0_X0_isSign hts ⟨by dsimp only; omega, by dsimp only; omega⟩) (c_preV hw (n := 0) (cOk.s (by decide)) (isO_K _) rfl) rfl rfl hl.1 rfl (lv_room (Nat.le_of_ble_eq_true rfl)) dX0_sum_26 ⟨Nat.le_of_ble_eq_true rfl, Nat.le_of_ble_eq_true rfl⟩) (fun r26 a26 H locs h hw => ?_)
  refine lv_if_eq (tgt := 36) hx hb dX0_sum_29 (by decide) (fun c29 => ?_) (fun c29 => ?_)
  · replace h := if_t c29 h
    refine lv_bipush (v := (6 : Int32)) hx hb dX0_sum_36 (by decide) ?_
    exact wkC_X0_sum_38 hPc S hr hlk hout Q E x1 hO5 _ _ _ _ _ h hw (lv_sub hl [0, 1] rfl)
  · replace h := if_f c29 h
    refine lv_iconst (v := (5 : Int32)) hx hb dX0_sum_32 (by decide) ?_
    refine lv_goto (tgt := 38) hx hb dX0_sum_33 (by decide) ?_
    exact wkC_X0_sum_38 hPc S hr hlk hout Q E x1 hO5 _ _ _ _ _ h hw (lv_sub hl [0, 1] rfl)
def bkC_X0_sum_5 (P : CS → Nat → (CS → Prop) → (CS → Prop) → Prop) (Q : CS → Prop) (E : CS → Prop) (x1 : Nat) : Nat → CS → Prop
  | 0 => fun _ => False
  | n + 1 => fun a => wpC_X0_isSign a (43 : Int32) (fun r8 a8 => if r8 = 0 then (wpC_X0_isSign a8 (45 : Int32) (fun r17 a17 => if r17 = 0 then (Q a17) else (bkC_X0_sum_23 P Q E x1 (bkC_X0_sum_5 P Q E x1 n) a17))) else (bkC_X0_sum_23 P Q E x1 (bkC_X0_sum_5 P Q E x1 n) a8))
set_option maxHeartbeats 4000000 in
set_option maxRecDepth 100000 in
theorem wkC_X0_sum_5 {F0_ L0_ : Nat} {P : CS → Nat → (CS → Prop) → (CS → Prop) → Prop} (hPc : ∀ a x1 Q E, P a x1 Q E → MetT l yX0_piece (ws_ yX0_piece cX0_piece 2 none) { frames := F0_, cells := 0, slots := 0, locals := L0_ } (cPc D dA ad fv A a [.ref (ad 0), .ref (ad x1)]) (cT (cQv D dA ad fv A Q) (cE D dA ad fv A (exF ad) E)) 0 0 A) (S : CallFix p m c cX0_sum 3 s args lw_all RX0) (hr : meth.sig.returnType = none) (hlk : meth.locks = false) (hout : ∀ pc, ∀ x ∈ c.exceptionTable.toList, covers x pc = false) (Q : CS → Prop) (E : CS → Prop) (x1 : Nat) : ∀ (n : Nat) (a : CS) (H : Heap) (locs : List Loc) (ls : Array Slot), bkC_X0_sum_5 P Q E x1 n a → CW D dA ad fv A a s H locs → lv_has ls 3 [(0, .ref (ad 0)), (1, .ref (ad x1))] → W p l e ({ frames := F0_ + 4, cells := 0, slots := 0, locals := L0_ + 88 } : Room) s m args below meth c H locs 0 0 (MQT below (cT (cQv D dA ad fv A Q) (cE D dA ad fv A (exF ad) E)) args s 0 0 A) (F0 m 5 ls []) := by
  have hx := S.1
  have hb := S.2.1
  have hown := S.2.2.2.1
  have hts := S.2.2.2.2
  intro n
  induction n with
  | zero =>
    intro  a H locs ls h
    exact False.elim h
  | succ n ih =>
    intro  a H locs ls h hw hl
    unfold bkC_X0_sum_5 at h
    refine lv_aload_n hx hb dX0_sum_5 rfl (lv_at hl 0 rfl) ?_
    refine lv_bipush (v := (43 : Int32)) hx hb dX0_sum_6 (by decide) ?_
    refine c_calli hw (va_runV (As := [.int (43 : Int32)]) (rest := []) S (ctC_X0_isSign l D dA ad fv A a (43 : Int32) _ h) (cwC_X0_X0_isSign hts ⟨by dsimp only; omega, by dsimp only; omega⟩) (c_preV hw (n := 0) (cOk.s (by decide)) (isO_K _) rfl) rfl rfl hl.1 rfl (lv_room (Nat.le_of_ble_eq_true rfl)) dX0_sum_8 ⟨Nat.le_of_ble_eq_true rfl, Nat.le_of_ble_eq_true rfl⟩) (fun r8 a8 H locs h hw => ?_)
    refine lv_if_ne (tgt := 23) hx hb dX0_sum_11 (by decide) (fun c11 => ?_) (fun c11 => ?_)
    · replace h := if_f c11 h
      exact wkC_X0_sum_23 hPc S hr hlk hout Q E x1 ih _ _ _ _ h hw (lv_sub hl [0, 1] rfl)
    · replace h := if_t c11 h
      refine lv_aload_n hx hb dX0_sum_14 rfl (lv_at hl 0 rfl) ?_
      refine lv_bipush (v := (45 : Int32)) hx hb dX0_sum_15 (by decide) ?_
      refine c_calli hw (va_runV (As := [.int (45 : Int32)]) (rest := []) S (ctC_X0_isSign l D dA ad fv A a8 (45 : Int32) _ h) (cwC_X0_X0_isSign hts ⟨by dsimp only; omega, by dsimp only; omega⟩) (c_preV hw (n := 0) (cOk.s (by decide)) (isO_K _) rfl) rfl rfl hl.1 rfl (lv_room (Nat.le_of_ble_eq_true rfl)) dX0_sum_17 ⟨Nat.le_of_ble_eq_true rfl, Nat.le_of_ble_eq_true rfl⟩) (fun r17 a17 H locs h hw => ?_)
      refine lv_if_eq (tgt := 57) hx hb dX0_sum_20 (by decide) (fun c20 => ?_) (fun c20 => ?_)
      · replace h := if_t c20 h
        exact W.mono (MQ.toT (fun _ _ h9 => Or.inl h9)) (c_vret S hr hlk hw h dX0_sum_57)
      · replace h := if_f c20 h
        exact wkC_X0_sum_23 hPc S hr hlk hout Q E x1 ih _ _ _ _ h hw (lv_sub hl [0, 1] rfl)
def wpC_X0_sum (P : CS → Nat → (CS → Prop) → (CS → Prop) → Prop) (a : CS) (x1 : Nat) (Q : CS → Prop) (E : CS → Prop) : Prop := wpC_X0_term P a x1 (fun a2 => ∃ n5, bkC_X0_sum_5 P Q E x1 n5 a2) E
set_option maxHeartbeats 4000000 in
set_option maxRecDepth 100000 in
theorem wkC_X0_sum_e {F0_ L0_ : Nat} {P : CS → Nat → (CS → Prop) → (CS → Prop) → Prop} (hPc : ∀ a x1 Q E, P a x1 Q E → MetT l yX0_piece (ws_ yX0_piece cX0_piece 2 none) { frames := F0_, cells := 0, slots := 0, locals := L0_ } (cPc D dA ad fv A a [.ref (ad 0), .ref (ad x1)]) (cT (cQv D dA ad fv A Q) (cE D dA ad fv A (exF ad) E)) 0 0 A) (S : CallFix p m c cX0_sum 3 s args lw_all RX0) (hr : meth.sig.returnType = none) (hlk : meth.locks = false) (hout : ∀ pc, ∀ x ∈ c.exceptionTable.toList, covers x pc = false) (Q : CS → Prop) (E : CS → Prop) (x1 : Nat) (a : CS) (H : Heap) (locs : List Loc) (ls : Array Slot) (h : wpC_X0_sum P a x1 Q E) (hw : CW D dA ad fv A a s H locs) (hl : lv_has ls 3 [(0, .ref (ad 0)), (1, .ref (ad x1))]) : W p l e ({ frames := F0_ + 4, cells := 0, slots := 0, locals := L0_ + 88 } : Room) s m args below meth c H locs 0 0 (MQT below (cT (cQv D dA ad fv A Q) (cE D dA ad fv A (exF ad) E)) args s 0 0 A) (F0 m 0 ls []) := by
  have hx := S.1
  have hb := S.2.1
  have hown := S.2.2.2.1
  have hts := S.2.2.2.2
  unfold wpC_X0_sum at h
  refine lv_aload_n hx hb dX0_sum_0 rfl (lv_at hl 0 rfl) ?_
  refine lv_aload_n hx hb dX0_sum_1 rfl (lv_at hl 1 rfl) ?_
  refine c_callTv hw (runTV (As := [.ref (ad x1)]) (rest := []) S (ctC_X0_term_s F0_ L0_ hPc a x1 _ _ h) (cwC_X0_X0_term hts ⟨by dsimp only; omega, by dsimp only; omega⟩) (c_preV hw (n := 0) (cOk.s (by decide)) (isO_K _) rfl) rfl rfl hl.1 rfl (lv_room (Nat.le_of_ble_eq_true rfl)) dX0_sum_2 ⟨Nat.le_of_ble_eq_true rfl, Nat.le_of_ble_eq_true rfl⟩) (fun _ _ _ hE hw => c_leaveT hw hE hlk (hout _) (Nat.le_of_ble_eq_true rfl) (Nat.le_of_ble_eq_true rfl)) (fun a2 H locs h hw => ?_)
  obtain ⟨n5, h⟩ := h
  exact wkC_X0_sum_5 hPc S hr hlk hout Q E x1 n5 _ _ _ _ h hw (lv_sub hl [0, 1] rfl)
theorem ctC_X0_sum_s (F0_ L0_ : Nat) {P : CS → Nat → (CS → Prop) → (CS → Prop) → Prop} {l : Launch} {D : va_G} {dA : Nat → ClassId} {ad : Nat → Nat} {fv : Nat → Value} {A : Nat → Prop} (hPc : ∀ a x1 Q E, P a x1 Q E → MetT l yX0_piece (ws_ yX0_piece cX0_piece 2 none) { frames := F0_, cells := 0, slots := 0, locals := L0_ } (cPc D dA ad fv A a [.ref (ad 0), .ref (ad x1)]) (cT (cQv D dA ad fv A Q) (cE D dA ad fv A (exF ad) E)) 0 0 A) (a : CS) (x1 : Nat) (Q : CS → Prop) (E : CS → Prop) (h : wpC_X0_sum P a x1 Q E) : MetT l yX0_sum (ws_ yX0_sum cX0_sum 3 none) ({ frames := F0_ + 4, cells := 0, slots := 0, locals := L0_ + 88 } : Room) (cPc D dA ad fv A a [.ref (ad 0), .ref (ad x1)]) (cT (cQv D dA ad fv A Q) (cE D dA ad fv A (exF ad) E)) 0 0 A :=
  c_metT (by decide) rfl rfl rfl (Nat.le_of_ble_eq_true rfl) (fun p e s m below meth c ls S hr hlk hout hw hl => wkC_X0_sum_e hPc S hr hlk hout Q E x1 a _ _ ls h hw hl)
/-! X0.test -/
theorem cwC_X0_X0_test {R : Room} {s : State} {args : Array Value} {rm : Room} (hts : ∀ w ∈ lw_all, w.before args s = true) (hR : rm.frames + 1 ≤ R.frames ∧ 8 + (3 + 11) + rm.locals ≤ R.locals) (hc : rm.cells = 0 := by rfl) (hs : rm.slots = 0 := by rfl) : CallW R s args RX0 RX0 215 yX0_test cX0_test 3 none (ws_ yX0_test cX0_test 3 none) rm 0 0 1 :=
  cwV 1 hts (lw_V q548 q550 qs10 q103 q551) rfl hc hs (by decide +kernel) hR
def bkC_X0_test_48 (P : CS → Nat → (CS → Prop) → (CS → Prop) → Prop) (Q : CS → Prop) (E : CS → Prop) (x1 : Nat) : Int32 → CS → Prop := fun s0 a => if s0 = 0 then (Q a) else (wpC_X0_goes a (fun a54 => wpC_X0_sum P a54 x1 (fun a59 => (kindK a59 x1 113) ∧ (wpC_X13_add a59 x1 s0 (0 : Int32) (fun a65 => Q a65))) E) E)
set_option maxHeartbeats 4000000 in
set_option maxRecDepth 100000 in
theorem wkC_X0_test_48 {F0_ L0_ : Nat} {P : CS → Nat → (CS → Prop) → (CS → Prop) → Prop} (hPc : ∀ a x1 Q E, P a x1 Q E → MetT l yX0_piece (ws_ yX0_piece cX0_piece 2 none) { frames := F0_, cells := 0, slots := 0, locals := L0_ } (cPc D dA ad fv A a [.ref (ad 0), .ref (ad x1)]) (cT (cQv D dA ad fv A Q) (cE D dA ad fv A (exF ad) E)) 0 0 A) (S : CallFix p m c cX0_test 3 s args lw_all RX0) (hr : meth.sig.returnType = none) (hlk : meth.locks = false) (hout : ∀ pc, ∀ x ∈ c.exceptionTable.toList, covers x pc = false) (Q : CS → Prop) (E : CS → Prop) (x1 : Nat) : ∀ (s0 : Int32) (a : CS) (H : Heap) (locs : List Loc) (ls : Array Slot), bkC_X0_test_48 P Q E x1 s0 a → CW D dA ad fv A a s H locs → lv_has ls 3 [(0, .ref (ad 0)), (1, .ref (ad x1))] → W p l e ({ frames := F0_ + 5, cells := 0, slots := 0, locals := L0_ + 110 } : Room) s m args below meth c H locs 0 0 (MQT below (cT (cQv D dA ad fv A Q) (cE D dA ad fv A (exF ad) E)) args s 0 0 A) (F0 m 48 ls [.int s0]) := by
  have hx := S.1
  have hb := S.2.1
  have hown := S.2.2.2.1
  have hts := S.2.2.2.2
  intro s0 a H locs ls h hw hl
  unfold bkC_X0_test_48 at h
  refine lv_istore_n (lv' := [(2, .int s0), (0, .ref (ad 0)), (1, .ref (ad x1))]) hx hb dX0_test_48 rfl hl (by decide) rfl (fun ls hl => ?_)
  refine lv_iload_n hx hb dX0_test_49 rfl (lv_at hl 0 rfl) ?_
  refine lv_if_eq (tgt := 68) hx hb dX0_test_50 (by decide) (fun c50 => ?_) (fun c50 => ?_)
  · replace h := if_t c50 h
    exact W.mono (MQ.toT (fun _ _ h9 => Or.inl h9)) (c_vret S hr hlk hw h dX0_test_68)
  · replace h := if_f c50 h
    refine lv_aload_n hx hb dX0_test_53 rfl (lv_at hl 1 rfl) ?_
    refine c_callTv hw (runTV (As := []) (rest := []) S (ctC_X0_goes l D dA ad fv A a _ _ h) (cwC_X0_X0_goes hts ⟨by dsimp only; omega, by dsimp only; omega⟩) (c_preV hw (n := 0) (cOk.s (by decide)) (isO_K _) rfl) rfl rfl hl.1 rfl (lv_room (Nat.le_of_ble_eq_true rfl)) dX0_test_54 ⟨Nat.le_of_ble_eq_true rfl, Nat.le_of_ble_eq_true rfl⟩) (fun _ _ _ hE hw => c_leaveT hw hE hlk (hout _) (Nat.le_of_ble_eq_true rfl) (Nat.le_of_ble_eq_true rfl)) (fun a54 H locs h hw => ?_)
    refine lv_aload_n hx hb dX0_test_57 rfl (lv_at hl 1 rfl) ?_
    refine lv_aload_n hx hb dX0_test_58 rfl (lv_at hl 2 rfl) ?_
    refine c_callTv hw (runTV (As := [.ref (ad x1)]) (rest := []) S (ctC_X0_sum_s F0_ L0_ hPc a54 x1 _ _ h) (cwC_X0_X0_sum hts ⟨by dsimp only; omega, by dsimp only; omega⟩) (c_preV hw (n := 0) (cOk.s (by decide)) (isO_K _) rfl) rfl rfl hl.1 rfl (lv_room (Nat.le_of_ble_eq_true rfl)) dX0_test_59 ⟨Nat.le_of_ble_eq_true rfl, Nat.le_of_ble_eq_true rfl⟩) (fun _ _ _ hE hw => c_leaveT hw hE hlk (hout _) (Nat.le_of_ble_eq_true rfl) (Nat.le_of_ble_eq_true rfl)) (fun a59 H locs h hw => ?_)
    refine lv_aload_n hx hb dX0_test_62 rfl (lv_at hl 2 rfl) ?_
    refine lv_iload_n hx hb dX0_test_63 rfl (lv_at hl 0 rfl) ?_
    refine lv_iconst (v := (0 : Int32)) hx hb dX0_test_64 (by decide) ?_
    have hk65_0 := h.1
    replace h := h.2
    refine c_callv hw (va_runV (As := [.int s0, .int (0 : Int32)]) (rest := []) S (ctC_X13_add l D dA ad fv A a59 x1 s0 (0 : Int32) _ h) (cwC_X0_X13_add hts ⟨by dsimp only; omega, by dsimp only; omega⟩) (c_preV hw (n := x1) (hk65_0.ok (by decide)) ((isO_W hk65_0) _) rfl) rfl rfl hl.1 rfl (lv_room (Nat.le_of_ble_eq_true rfl)) dX0_test_65 ⟨Nat.le_of_ble_eq_true rfl, Nat.le_of_ble_eq_true rfl⟩) (fun a65 H locs h hw => ?_)
    exact W.mono (MQ.toT (fun _ _ h9 => Or.inl h9)) (c_vret S hr hlk hw h dX0_test_68)
def wpC_X0_test (P : CS → Nat → (CS → Prop) → (CS → Prop) → Prop) (a : CS) (x1 : Nat) (Q : CS → Prop) (E : CS → Prop) : Prop := wpC_X0_sum P a x1 (fun a2 => wpC_X0_isSign a2 (60 : Int32) (fun r8 a8 => if r8 = 0 then (wpC_X0_isSign a8 (61 : Int32) (fun r22 a22 => if r22 = 0 then (wpC_X0_isSign a22 (62 : Int32) (fun r36 a36 => if r36 = 0 then (bkC_X0_test_48 P Q E x1 (0 : Int32) a36) else (bkC_X0_test_48 P Q E x1 (9 : Int32) a36))) else (bkC_X0_test_48 P Q E x1 (8 : Int32) a22))) else (bkC_X0_test_48 P Q E x1 (7 : Int32) a8))) E
set_option maxHeartbeats 4000000 in
set_option maxRecDepth 100000 in
theorem wkC_X0_test_e {F0_ L0_ : Nat} {P : CS → Nat → (CS → Prop) → (CS → Prop) → Prop} (hPc : ∀ a x1 Q E, P a x1 Q E → MetT l yX0_piece (ws_ yX0_piece cX0_piece 2 none) { frames := F0_, cells := 0, slots := 0, locals := L0_ } (cPc D dA ad fv A a [.ref (ad 0), .ref (ad x1)]) (cT (cQv D dA ad fv A Q) (cE D dA ad fv A (exF ad) E)) 0 0 A) (S : CallFix p m c cX0_test 3 s args lw_all RX0) (hr : meth.sig.returnType = none) (hlk : meth.locks = false) (hout : ∀ pc, ∀ x ∈ c.exceptionTable.toList, covers x pc = false) (Q : CS → Prop) (E : CS → Prop) (x1 : Nat) (a : CS) (H : Heap) (locs : List Loc) (ls : Array Slot) (h : wpC_X0_test P a x1 Q E) (hw : CW D dA ad fv A a s H locs) (hl : lv_has ls 3 [(0, .ref (ad 0)), (1, .ref (ad x1))]) : W p l e ({ frames := F0_ + 5, cells := 0, slots := 0, locals := L0_ + 110 } : Room) s m args below meth c H locs 0 0 (MQT below (cT (cQv D dA ad fv A Q) (cE D dA ad fv A (exF ad) E)) args s 0 0 A) (F0 m 0 ls []) := by
  have hx := S.1
  have hb := S.2.1
  have hown := S.2.2.2.1
  have hts := S.2.2.2.2
  unfold wpC_X0_test at h
  refine lv_aload_n hx hb dX0_test_0 rfl (lv_at hl 0 rfl) ?_
  refine lv_aload_n hx hb dX0_test_1 rfl (lv_at hl 1 rfl) ?_
  refine c_callTv hw (runTV (As := [.ref (ad x1)]) (rest := []) S (ctC_X0_sum_s F0_ L0_ hPc a x1 _ _ h) (cwC_X0_X0_sum hts ⟨by dsimp only; omega, by dsimp only; omega⟩) (c_preV hw (n := 0) (cOk.s (by decide)) (isO_K _) rfl) rfl rfl hl.1 rfl (lv_room (Nat.le_of_ble_eq_true rfl)) dX0_test_2 ⟨Nat.le_of_ble_eq_true rfl, Nat.le_of_ble_eq_true rfl⟩) (fun _ _ _ hE hw => c_leaveT hw hE hlk (hout _) (Nat.le_of_ble_eq_true rfl) (Nat.le_of_ble_eq_true rfl)) (fun a2 H locs h hw => ?_)
  refine lv_aload_n hx hb dX0_test_5 rfl (lv_at hl 0 rfl) ?_
  refine lv_bipush (v := (60 : Int32)) hx hb dX0_test_6 (by decide) ?_
  refine c_calli hw (va_runV (As := [.int (60 : Int32)]) (rest := []) S (ctC_X0_isSign l D dA ad fv A a2 (60 : Int32) _ h) (cwC_X0_X0_isSign hts ⟨by dsimp only; omega, by dsimp only; omega⟩) (c_preV hw (n := 0) (cOk.s (by decide)) (isO_K _) rfl) rfl rfl hl.1 rfl (lv_room (Nat.le_of_ble_eq_true rfl)) dX0_test_8 ⟨Nat.le_of_ble_eq_true rfl, Nat.le_of_ble_eq_true rfl⟩) (fun r8 a8 H locs h hw => ?_)
  refine lv_if_eq (tgt := 19) hx hb dX0_test_11 (by decide) (fun c11 => ?_) (fun c11 => ?_)
  · replace h := if_t c11 h
    refine lv_aload_n hx hb dX0_test_19 rfl (lv_at hl 0 rfl) ?_
    refine lv_bipush (v := (61 : Int32)) hx hb dX0_test_20 (by decide) ?_
    refine c_calli hw (va_runV (As := [.int (61 : Int32)]) (rest := []) S (ctC_X0_isSign l D dA ad fv A a8 (61 : Int32) _ h) (cwC_X0_X0_isSign hts ⟨by dsimp only; omega, by dsimp only; omega⟩) (c_preV hw (n := 0) (cOk.s (by decide)) (isO_K _) rfl) rfl rfl hl.1 rfl (lv_room (Nat.le_of_ble_eq_true rfl)) dX0_test_22 ⟨Nat.le_of_ble_eq_true rfl, Nat.le_of_ble_eq_true rfl⟩) (fun r22 a22 H locs h hw => ?_)
    refine lv_if_eq (tgt := 33) hx hb dX0_test_25 (by decide) (fun c25 => ?_) (fun c25 => ?_)
    · replace h := if_t c25 h
      refine lv_aload_n hx hb dX0_test_33 rfl (lv_at hl 0 rfl) ?_
      refine lv_bipush (v := (62 : Int32)) hx hb dX0_test_34 (by decide) ?_
      refine c_calli hw (va_runV (As := [.int (62 : Int32)]) (rest := []) S (ctC_X0_isSign l D dA ad fv A a22 (62 : Int32) _ h) (cwC_X0_X0_isSign hts ⟨by dsimp only; omega, by dsimp only; omega⟩) (c_preV hw (n := 0) (cOk.s (by decide)) (isO_K _) rfl) rfl rfl hl.1 rfl (lv_room (Nat.le_of_ble_eq_true rfl)) dX0_test_36 ⟨Nat.le_of_ble_eq_true rfl, Nat.le_of_ble_eq_true rfl⟩) (fun r36 a36 H locs h hw => ?_)
      refine lv_if_eq (tgt := 47) hx hb dX0_test_39 (by decide) (fun c39 => ?_) (fun c39 => ?_)
      · replace h := if_t c39 h
        refine lv_iconst (v := (0 : Int32)) hx hb dX0_test_47 (by decide) ?_
        exact wkC_X0_test_48 hPc S hr hlk hout Q E x1 _ _ _ _ _ h hw (lv_sub hl [0, 1] rfl)
      · replace h := if_f c39 h
        refine lv_bipush (v := (9 : Int32)) hx hb dX0_test_42 (by decide) ?_
        refine lv_goto (tgt := 48) hx hb dX0_test_44 (by decide) ?_
        exact wkC_X0_test_48 hPc S hr hlk hout Q E x1 _ _ _ _ _ h hw (lv_sub hl [0, 1] rfl)
    · replace h := if_f c25 h
      refine lv_bipush (v := (8 : Int32)) hx hb dX0_test_28 (by decide) ?_
      refine lv_goto (tgt := 48) hx hb dX0_test_30 (by decide) ?_
      exact wkC_X0_test_48 hPc S hr hlk hout Q E x1 _ _ _ _ _ h hw (lv_sub hl [0, 1] rfl)
  · replace h := if_f c11 h
    refine lv_bipush (v := (7 : Int32)) hx hb dX0_test_14 (by decide) ?_
    refine lv_goto (tgt := 48) hx hb dX0_test_16 (by decide) ?_
    exact wkC_X0_test_48 hPc S hr hlk hout Q E x1 _ _ _ _ _ h hw (lv_sub hl [0, 1] rfl)
theorem ctC_X0_test_s (F0_ L0_ : Nat) {P : CS → Nat → (CS → Prop) → (CS → Prop) → Prop} {l : Launch} {D : va_G} {dA : Nat → ClassId} {ad : Nat → Nat} {fv : Nat → Value} {A : Nat → Prop} (hPc : ∀ a x1 Q E, P a x1 Q E → MetT l yX0_piece (ws_ yX0_piece cX0_piece 2 none) { frames := F0_, cells := 0, slots := 0, locals := L0_ } (cPc D dA ad fv A a [.ref (ad 0), .ref (ad x1)]) (cT (cQv D dA ad fv A Q) (cE D dA ad fv A (exF ad) E)) 0 0 A) (a : CS) (x1 : Nat) (Q : CS → Prop) (E : CS → Prop) (h : wpC_X0_test P a x1 Q E) : MetT l yX0_test (ws_ yX0_test cX0_test 3 none) ({ frames := F0_ + 5, cells := 0, slots := 0, locals := L0_ + 110 } : Room) (cPc D dA ad fv A a [.ref (ad 0), .ref (ad x1)]) (cT (cQv D dA ad fv A Q) (cE D dA ad fv A (exF ad) E)) 0 0 A :=
  c_metT (by decide) rfl rfl rfl (Nat.le_of_ble_eq_true rfl) (fun p e s m below meth c ls S hr hlk hout hw hl => wkC_X0_test_e hPc S hr hlk hout Q E x1 a _ _ ls h hw hl)
/-! X0.and -/
theorem cwC_X0_X0_and {R : Room} {s : State} {args : Array Value} {rm : Room} (hts : ∀ w ∈ lw_all, w.before args s = true) (hR : rm.frames + 1 ≤ R.frames ∧ 8 + (2 + 11) + rm.locals ≤ R.locals) (hc : rm.cells = 0 := by rfl) (hs : rm.slots = 0 := by rfl) : CallW R s args RX0 RX0 205 yX0_and cX0_and 2 none (ws_ yX0_and cX0_and 2 none) rm 0 0 1 :=
  cwV 1 hts (lw_V q544 q546 qs9 q103 q547) rfl hc hs (by decide +kernel) hR
def bkC_X0_and_5 (P : CS → Nat → (CS → Prop) → (CS → Prop) → Prop) (Q : CS → Prop) (E : CS → Prop) (x1 : Nat) : Nat → CS → Prop
  | 0 => fun _ => False
  | n + 1 => fun a => wpC_X0_isSign a (38 : Int32) (fun r8 a8 => if r8 = 0 then (Q a8) else (wpC_X0_goes a8 (fun a15 => wpC_X0_test P a15 x1 (fun a20 => (kindK a20 x1 113) ∧ (wpC_X13_add a20 x1 (10 : Int32) (0 : Int32) (fun a27 => bkC_X0_and_5 P Q E x1 n a27))) E) E))
set_option maxHeartbeats 4000000 in
set_option maxRecDepth 100000 in
theorem wkC_X0_and_5 {F0_ L0_ : Nat} {P : CS → Nat → (CS → Prop) → (CS → Prop) → Prop} (hPc : ∀ a x1 Q E, P a x1 Q E → MetT l yX0_piece (ws_ yX0_piece cX0_piece 2 none) { frames := F0_, cells := 0, slots := 0, locals := L0_ } (cPc D dA ad fv A a [.ref (ad 0), .ref (ad x1)]) (cT (cQv D dA ad fv A Q) (cE D dA ad fv A (exF ad) E)) 0 0 A) (S : CallFix p m c cX0_and 2 s args lw_all RX0) (hr : meth.sig.returnType = none) (hlk : meth.locks = false) (hout : ∀ pc, ∀ x ∈ c.exceptionTable.toList, covers x pc = false) (Q : CS → Prop) (E : CS → Prop) (x1 : Nat) : ∀ (n : Nat) (a : CS) (H : Heap) (locs : List Loc) (ls : Array Slot), bkC_X0_and_5 P Q E x1 n a → CW D dA ad fv A a s H locs → lv_has ls 2 [(0, .ref (ad 0)), (1, .ref (ad x1))] → W p l e ({ frames := F0_ + 6, cells := 0, slots := 0, locals := L0_ + 132 } : Room) s m args below meth c H locs 0 0 (MQT below (cT (cQv D dA ad fv A Q) (cE D dA ad fv A (exF ad) E)) args s 0 0 A) (F0 m 5 ls []) := by
  have hx := S.1
  have hb := S.2.1
  have hown := S.2.2.2.1
  have hts := S.2.2.2.2
  intro n
  induction n with
  | zero =>
    intro  a H locs ls h
    exact False.elim h
  | succ n ih =>
    intro  a H locs ls h hw hl
    unfold bkC_X0_and_5 at h
    refine lv_aload_n hx hb dX0_and_5 rfl (lv_at hl 0 rfl) ?_
    refine lv_bipush (v := (38 : Int32)) hx hb dX0_and_6 (by decide) ?_
    refine c_calli hw (va_runV (As := [.int (38 : Int32)]) (rest := []) S (ctC_X0_isSign l D dA ad fv A a (38 : Int32) _ h) (cwC_X0_X0_isSign hts ⟨by dsimp only; omega, by dsimp only; omega⟩) (c_preV hw (n := 0) (cOk.s (by decide)) (isO_K _) rfl) rfl rfl hl.1 rfl (lv_room (Nat.le_of_ble_eq_true rfl)) dX0_and_8 ⟨Nat.le_of_ble_eq_true rfl, Nat.le_of_ble_eq_true rfl⟩) (fun r8 a8 H locs h hw => ?_)
    refine lv_if_eq (tgt := 33) hx hb dX0_and_11 (by decide) (fun c11 => ?_) (fun c11 => ?_)
    · replace h := if_t c11 h
      exact W.mono (MQ.toT (fun _ _ h9 => Or.inl h9)) (c_vret S hr hlk hw h dX0_and_33)
    · replace h := if_f c11 h
      refine lv_aload_n hx hb dX0_and_14 rfl (lv_at hl 0 rfl) ?_
      refine c_callTv hw (runTV (As := []) (rest := []) S (ctC_X0_goes l D dA ad fv A a8 _ _ h) (cwC_X0_X0_goes hts ⟨by dsimp only; omega, by dsimp only; omega⟩) (c_preV hw (n := 0) (cOk.s (by decide)) (isO_K _) rfl) rfl rfl hl.1 rfl (lv_room (Nat.le_of_ble_eq_true rfl)) dX0_and_15 ⟨Nat.le_of_ble_eq_true rfl, Nat.le_of_ble_eq_true rfl⟩) (fun _ _ _ hE hw => c_leaveT hw hE hlk (hout _) (Nat.le_of_ble_eq_true rfl) (Nat.le_of_ble_eq_true rfl)) (fun a15 H locs h hw => ?_)
      refine lv_aload_n hx hb dX0_and_18 rfl (lv_at hl 0 rfl) ?_
      refine lv_aload_n hx hb dX0_and_19 rfl (lv_at hl 1 rfl) ?_
      refine c_callTv hw (runTV (As := [.ref (ad x1)]) (rest := []) S (ctC_X0_test_s F0_ L0_ hPc a15 x1 _ _ h) (cwC_X0_X0_test hts ⟨by dsimp only; omega, by dsimp only; omega⟩) (c_preV hw (n := 0) (cOk.s (by decide)) (isO_K _) rfl) rfl rfl hl.1 rfl (lv_room (Nat.le_of_ble_eq_true rfl)) dX0_and_20 ⟨Nat.le_of_ble_eq_true rfl, Nat.le_of_ble_eq_true rfl⟩) (fun _ _ _ hE hw => c_leaveT hw hE hlk (hout _) (Nat.le_of_ble_eq_true rfl) (Nat.le_of_ble_eq_true rfl)) (fun a20 H locs h hw => ?_)
      refine lv_aload_n hx hb dX0_and_23 rfl (lv_at hl 1 rfl) ?_
      refine lv_bipush (v := (10 : Int32)) hx hb dX0_and_24 (by decide) ?_
      refine lv_iconst (v := (0 : Int32)) hx hb dX0_and_26 (by decide) ?_
      have hk27_0 := h.1
      replace h := h.2
      refine c_callv hw (va_runV (As := [.int (10 : Int32), .int (0 : Int32)]) (rest := []) S (ctC_X13_add l D dA ad fv A a20 x1 (10 : Int32) (0 : Int32) _ h) (cwC_X0_X13_add hts ⟨by dsimp only; omega, by dsimp only; omega⟩) (c_preV hw (n := x1) (hk27_0.ok (by decide)) ((isO_W hk27_0) _) rfl) rfl rfl hl.1 rfl (lv_room (Nat.le_of_ble_eq_true rfl)) dX0_and_27 ⟨Nat.le_of_ble_eq_true rfl, Nat.le_of_ble_eq_true rfl⟩) (fun a27 H locs h hw => ?_)
      refine lv_goto (tgt := 5) hx hb dX0_and_30 (by decide) ?_
      exact ih _ _ _ _ h hw (lv_sub hl [0, 1] rfl)
def wpC_X0_and (P : CS → Nat → (CS → Prop) → (CS → Prop) → Prop) (a : CS) (x1 : Nat) (Q : CS → Prop) (E : CS → Prop) : Prop := wpC_X0_test P a x1 (fun a2 => ∃ n5, bkC_X0_and_5 P Q E x1 n5 a2) E
set_option maxHeartbeats 4000000 in
set_option maxRecDepth 100000 in
theorem wkC_X0_and_e {F0_ L0_ : Nat} {P : CS → Nat → (CS → Prop) → (CS → Prop) → Prop} (hPc : ∀ a x1 Q E, P a x1 Q E → MetT l yX0_piece (ws_ yX0_piece cX0_piece 2 none) { frames := F0_, cells := 0, slots := 0, locals := L0_ } (cPc D dA ad fv A a [.ref (ad 0), .ref (ad x1)]) (cT (cQv D dA ad fv A Q) (cE D dA ad fv A (exF ad) E)) 0 0 A) (S : CallFix p m c cX0_and 2 s args lw_all RX0) (hr : meth.sig.returnType = none) (hlk : meth.locks = false) (hout : ∀ pc, ∀ x ∈ c.exceptionTable.toList, covers x pc = false) (Q : CS → Prop) (E : CS → Prop) (x1 : Nat) (a : CS) (H : Heap) (locs : List Loc) (ls : Array Slot) (h : wpC_X0_and P a x1 Q E) (hw : CW D dA ad fv A a s H locs) (hl : lv_has ls 2 [(0, .ref (ad 0)), (1, .ref (ad x1))]) : W p l e ({ frames := F0_ + 6, cells := 0, slots := 0, locals := L0_ + 132 } : Room) s m args below meth c H locs 0 0 (MQT below (cT (cQv D dA ad fv A Q) (cE D dA ad fv A (exF ad) E)) args s 0 0 A) (F0 m 0 ls []) := by
  have hx := S.1
  have hb := S.2.1
  have hown := S.2.2.2.1
  have hts := S.2.2.2.2
  unfold wpC_X0_and at h
  refine lv_aload_n hx hb dX0_and_0 rfl (lv_at hl 0 rfl) ?_
  refine lv_aload_n hx hb dX0_and_1 rfl (lv_at hl 1 rfl) ?_
  refine c_callTv hw (runTV (As := [.ref (ad x1)]) (rest := []) S (ctC_X0_test_s F0_ L0_ hPc a x1 _ _ h) (cwC_X0_X0_test hts ⟨by dsimp only; omega, by dsimp only; omega⟩) (c_preV hw (n := 0) (cOk.s (by decide)) (isO_K _) rfl) rfl rfl hl.1 rfl (lv_room (Nat.le_of_ble_eq_true rfl)) dX0_and_2 ⟨Nat.le_of_ble_eq_true rfl, Nat.le_of_ble_eq_true rfl⟩) (fun _ _ _ hE hw => c_leaveT hw hE hlk (hout _) (Nat.le_of_ble_eq_true rfl) (Nat.le_of_ble_eq_true rfl)) (fun a2 H locs h hw => ?_)
  obtain ⟨n5, h⟩ := h
  exact wkC_X0_and_5 hPc S hr hlk hout Q E x1 n5 _ _ _ _ h hw (lv_sub hl [0, 1] rfl)
theorem ctC_X0_and_s (F0_ L0_ : Nat) {P : CS → Nat → (CS → Prop) → (CS → Prop) → Prop} {l : Launch} {D : va_G} {dA : Nat → ClassId} {ad : Nat → Nat} {fv : Nat → Value} {A : Nat → Prop} (hPc : ∀ a x1 Q E, P a x1 Q E → MetT l yX0_piece (ws_ yX0_piece cX0_piece 2 none) { frames := F0_, cells := 0, slots := 0, locals := L0_ } (cPc D dA ad fv A a [.ref (ad 0), .ref (ad x1)]) (cT (cQv D dA ad fv A Q) (cE D dA ad fv A (exF ad) E)) 0 0 A) (a : CS) (x1 : Nat) (Q : CS → Prop) (E : CS → Prop) (h : wpC_X0_and P a x1 Q E) : MetT l yX0_and (ws_ yX0_and cX0_and 2 none) ({ frames := F0_ + 6, cells := 0, slots := 0, locals := L0_ + 132 } : Room) (cPc D dA ad fv A a [.ref (ad 0), .ref (ad x1)]) (cT (cQv D dA ad fv A Q) (cE D dA ad fv A (exF ad) E)) 0 0 A :=
  c_metT (by decide) rfl rfl rfl (Nat.le_of_ble_eq_true rfl) (fun p e s m below meth c ls S hr hlk hout hw hl => wkC_X0_and_e hPc S hr hlk hout Q E x1 a _ _ ls h hw hl)
/-! X0.or -/
theorem cwC_X0_X0_or {R : Room} {s : State} {args : Array Value} {rm : Room} (hts : ∀ w ∈ lw_all, w.before args s = true) (hR : rm.frames + 1 ≤ R.frames ∧ 8 + (2 + 11) + rm.locals ≤ R.locals) (hc : rm.cells = 0 := by rfl) (hs : rm.slots = 0 := by rfl) : CallW R s args RX0 RX0 201 yX0_or cX0_or 2 none (ws_ yX0_or cX0_or 2 none) rm 0 0 1 :=
  cwV 1 hts (lw_V q540 q542 qs8 q103 q543) rfl hc hs (by decide +kernel) hR
def bkC_X0_or_5 (P : CS → Nat → (CS → Prop) → (CS → Prop) → Prop) (Q : CS → Prop) (E : CS → Prop) (x1 : Nat) : Nat → CS → Prop
  | 0 => fun _ => False
  | n + 1 => fun a => wpC_X0_isSign a (124 : Int32) (fun r8 a8 => if r8 = 0 then (Q a8) else (wpC_X0_goes a8 (fun a15 => wpC_X0_and P a15 x1 (fun a20 => (kindK a20 x1 113) ∧ (wpC_X13_add a20 x1 (11 : Int32) (0 : Int32) (fun a27 => bkC_X0_or_5 P Q E x1 n a27))) E) E))
set_option maxHeartbeats 4000000 in
set_option maxRecDepth 100000 in
theorem wkC_X0_or_5 {F0_ L0_ : Nat} {P : CS → Nat → (CS → Prop) → (CS → Prop) → Prop} (hPc : ∀ a x1 Q E, P a x1 Q E → MetT l yX0_piece (ws_ yX0_piece cX0_piece 2 none) { frames := F0_, cells := 0, slots := 0, locals := L0_ } (cPc D dA ad fv A a [.ref (ad 0), .ref (ad x1)]) (cT (cQv D dA ad fv A Q) (cE D dA ad fv A (exF ad) E)) 0 0 A) (S : CallFix p m c cX0_or 2 s args lw_all RX0) (hr : meth.sig.returnType = none) (hlk : meth.locks = false) (hout : ∀ pc, ∀ x ∈ c.exceptionTable.toList, covers x pc = false) (Q : CS → Prop) (E : CS → Prop) (x1 : Nat) : ∀ (n : Nat) (a : CS) (H : Heap) (locs : List Loc) (ls : Array Slot), bkC_X0_or_5 P Q E x1 n a → CW D dA ad fv A a s H locs → lv_has ls 2 [(0, .ref (ad 0)), (1, .ref (ad x1))] → W p l e ({ frames := F0_ + 7, cells := 0, slots := 0, locals := L0_ + 153 } : Room) s m args below meth c H locs 0 0 (MQT below (cT (cQv D dA ad fv A Q) (cE D dA ad fv A (exF ad) E)) args s 0 0 A) (F0 m 5 ls []) := by
  have hx := S.1
  have hb := S.2.1
  have hown := S.2.2.2.1
  have hts := S.2.2.2.2
  intro n
  induction n with
  | zero =>
    intro  a H locs ls h
    exact False.elim h
  | succ n ih =>
    intro  a H locs ls h hw hl
    unfold bkC_X0_or_5 at h
    refine lv_aload_n hx hb dX0_or_5 rfl (lv_at hl 0 rfl) ?_
    refine lv_bipush (v := (124 : Int32)) hx hb dX0_or_6 (by decide) ?_
    refine c_calli hw (va_runV (As := [.int (124 : Int32)]) (rest := []) S (ctC_X0_isSign l D dA ad fv A a (124 : Int32) _ h) (cwC_X0_X0_isSign hts ⟨by dsimp only; omega, by dsimp only; omega⟩) (c_preV hw (n := 0) (cOk.s (by decide)) (isO_K _) rfl) rfl rfl hl.1 rfl (lv_room (Nat.le_of_ble_eq_true rfl)) dX0_or_8 ⟨Nat.le_of_ble_eq_true rfl, Nat.le_of_ble_eq_true rfl⟩) (fun r8 a8 H locs h hw => ?_)
    refine lv_if_eq (tgt := 33) hx hb dX0_or_11 (by decide) (fun c11 => ?_) (fun c11 => ?_)
    · replace h := if_t c11 h
      exact W.mono (MQ.toT (fun _ _ h9 => Or.inl h9)) (c_vret S hr hlk hw h dX0_or_33)
    · replace h := if_f c11 h
      refine lv_aload_n hx hb dX0_or_14 rfl (lv_at hl 0 rfl) ?_
      refine c_callTv hw (runTV (As := []) (rest := []) S (ctC_X0_goes l D dA ad fv A a8 _ _ h) (cwC_X0_X0_goes hts ⟨by dsimp only; omega, by dsimp only; omega⟩) (c_preV hw (n := 0) (cOk.s (by decide)) (isO_K _) rfl) rfl rfl hl.1 rfl (lv_room (Nat.le_of_ble_eq_true rfl)) dX0_or_15 ⟨Nat.le_of_ble_eq_true rfl, Nat.le_of_ble_eq_true rfl⟩) (fun _ _ _ hE hw => c_leaveT hw hE hlk (hout _) (Nat.le_of_ble_eq_true rfl) (Nat.le_of_ble_eq_true rfl)) (fun a15 H locs h hw => ?_)
      refine lv_aload_n hx hb dX0_or_18 rfl (lv_at hl 0 rfl) ?_
      refine lv_aload_n hx hb dX0_or_19 rfl (lv_at hl 1 rfl) ?_
      refine c_callTv hw (runTV (As := [.ref (ad x1)]) (rest := []) S (ctC_X0_and_s F0_ L0_ hPc a15 x1 _ _ h) (cwC_X0_X0_and hts ⟨by dsimp only; omega, by dsimp only; omega⟩) (c_preV hw (n := 0) (cOk.s (by decide)) (isO_K _) rfl) rfl rfl hl.1 rfl (lv_room (Nat.le_of_ble_eq_true rfl)) dX0_or_20 ⟨Nat.le_of_ble_eq_true rfl, Nat.le_of_ble_eq_true rfl⟩) (fun _ _ _ hE hw => c_leaveT hw hE hlk (hout _) (Nat.le_of_ble_eq_true rfl) (Nat.le_of_ble_eq_true rfl)) (fun a20 H locs h hw => ?_)
      refine lv_aload_n hx hb dX0_or_23 rfl (lv_at hl 1 rfl) ?_
      refine lv_bipush (v := (11 : Int32)) hx hb dX0_or_24 (by decide) ?_
      refine lv_iconst (v := (0 : Int32)) hx hb dX0_or_26 (by decide) ?_
      have hk27_0 := h.1
      replace h := h.2
      refine c_callv hw (va_runV (As := [.int (11 : Int32), .int (0 : Int32)]) (rest := []) S (ctC_X13_add l D dA ad fv A a20 x1 (11 : Int32) (0 : Int32) _ h) (cwC_X0_X13_add hts ⟨by dsimp only; omega, by dsimp only; omega⟩) (c_preV hw (n := x1) (hk27_0.ok (by decide)) ((isO_W hk27_0) _) rfl) rfl rfl hl.1 rfl (lv_room (Nat.le_of_ble_eq_true rfl)) dX0_or_27 ⟨Nat.le_of_ble_eq_true rfl, Nat.le_of_ble_eq_true rfl⟩) (fun a27 H locs h hw => ?_)
      refine lv_goto (tgt := 5) hx hb dX0_or_30 (by decide) ?_
      exact ih _ _ _ _ h hw (lv_sub hl [0, 1] rfl)
def wpC_X0_or (P : CS → Nat → (CS → Prop) → (CS → Prop) → Prop) (a : CS) (x1 : Nat) (Q : CS → Prop) (E : CS → Prop) : Prop := wpC_X0_and P a x1 (fun a2 => ∃ n5, bkC_X0_or_5 P Q E x1 n5 a2) E
set_option maxHeartbeats 4000000 in
set_option maxRecDepth 100000 in
theorem wkC_X0_or_e {F0_ L0_ : Nat} {P : CS → Nat → (CS → Prop) → (CS → Prop) → Prop} (hPc : ∀ a x1 Q E, P a x1 Q E → MetT l yX0_piece (ws_ yX0_piece cX0_piece 2 none) { frames := F0_, cells := 0, slots := 0, locals := L0_ } (cPc D dA ad fv A a [.ref (ad 0), .ref (ad x1)]) (cT (cQv D dA ad fv A Q) (cE D dA ad fv A (exF ad) E)) 0 0 A) (S : CallFix p m c cX0_or 2 s args lw_all RX0) (hr : meth.sig.returnType = none) (hlk : meth.locks = false) (hout : ∀ pc, ∀ x ∈ c.exceptionTable.toList, covers x pc = false) (Q : CS → Prop) (E : CS → Prop) (x1 : Nat) (a : CS) (H : Heap) (locs : List Loc) (ls : Array Slot) (h : wpC_X0_or P a x1 Q E) (hw : CW D dA ad fv A a s H locs) (hl : lv_has ls 2 [(0, .ref (ad 0)), (1, .ref (ad x1))]) : W p l e ({ frames := F0_ + 7, cells := 0, slots := 0, locals := L0_ + 153 } : Room) s m args below meth c H locs 0 0 (MQT below (cT (cQv D dA ad fv A Q) (cE D dA ad fv A (exF ad) E)) args s 0 0 A) (F0 m 0 ls []) := by
  have hx := S.1
  have hb := S.2.1
  have hown := S.2.2.2.1
  have hts := S.2.2.2.2
  unfold wpC_X0_or at h
  refine lv_aload_n hx hb dX0_or_0 rfl (lv_at hl 0 rfl) ?_
  refine lv_aload_n hx hb dX0_or_1 rfl (lv_at hl 1 rfl) ?_
  refine c_callTv hw (runTV (As := [.ref (ad x1)]) (rest := []) S (ctC_X0_and_s F0_ L0_ hPc a x1 _ _ h) (cwC_X0_X0_and hts ⟨by dsimp only; omega, by dsimp only; omega⟩) (c_preV hw (n := 0) (cOk.s (by decide)) (isO_K _) rfl) rfl rfl hl.1 rfl (lv_room (Nat.le_of_ble_eq_true rfl)) dX0_or_2 ⟨Nat.le_of_ble_eq_true rfl, Nat.le_of_ble_eq_true rfl⟩) (fun _ _ _ hE hw => c_leaveT hw hE hlk (hout _) (Nat.le_of_ble_eq_true rfl) (Nat.le_of_ble_eq_true rfl)) (fun a2 H locs h hw => ?_)
  obtain ⟨n5, h⟩ := h
  exact wkC_X0_or_5 hPc S hr hlk hout Q E x1 n5 _ _ _ _ h hw (lv_sub hl [0, 1] rfl)
theorem ctC_X0_or_s (F0_ L0_ : Nat) {P : CS → Nat → (CS → Prop) → (CS → Prop) → Prop} {l : Launch} {D : va_G} {dA : Nat → ClassId} {ad : Nat → Nat} {fv : Nat → Value} {A : Nat → Prop} (hPc : ∀ a x1 Q E, P a x1 Q E → MetT l yX0_piece (ws_ yX0_piece cX0_piece 2 none) { frames := F0_, cells := 0, slots := 0, locals := L0_ } (cPc D dA ad fv A a [.ref (ad 0), .ref (ad x1)]) (cT (cQv D dA ad fv A Q) (cE D dA ad fv A (exF ad) E)) 0 0 A) (a : CS) (x1 : Nat) (Q : CS → Prop) (E : CS → Prop) (h : wpC_X0_or P a x1 Q E) : MetT l yX0_or (ws_ yX0_or cX0_or 2 none) ({ frames := F0_ + 7, cells := 0, slots := 0, locals := L0_ + 153 } : Room) (cPc D dA ad fv A a [.ref (ad 0), .ref (ad x1)]) (cT (cQv D dA ad fv A Q) (cE D dA ad fv A (exF ad) E)) 0 0 A :=
  c_metT (by decide) rfl rfl rfl (Nat.le_of_ble_eq_true rfl) (fun p e s m below meth c ls S hr hlk hout hw hl => wkC_X0_or_e hPc S hr hlk hout Q E x1 a _ _ ls h hw hl)
/-! X0.piece -/
def bkC_X0_piece_223 (P : CS → Nat → (CS → Prop) → (CS → Prop) → Prop) (Q : CS → Prop) (E : CS → Prop) (x1 : Nat) : CS → Prop := fun a => ∀ a230 : CS, a230 = wI a 0 15 ((a.1 0 15) + (1 : Int32)) → ((vp_in (a230.1 0 10) 96) ∧ ((kindK a230 x1 113) ∧ (wpC_X13_add a230 x1 (2 : Int32) (a230.1 71 (a230.1 0 10).toNatClampNeg) (fun a244 => wpC_X0_goes a244 (fun a248 => Q a248) E))))
set_option maxHeartbeats 4000000 in
set_option maxRecDepth 100000 in
theorem wkC_X0_piece_223 {F0_ L0_ : Nat} {P : CS → Nat → (CS → Prop) → (CS → Prop) → Prop} (hPc : ∀ a x1 Q E, P a x1 Q E → MetT l yX0_piece (ws_ yX0_piece cX0_piece 2 none) { frames := F0_, cells := 0, slots := 0, locals := L0_ } (cPc D dA ad fv A a [.ref (ad 0), .ref (ad x1)]) (cT (cQv D dA ad fv A Q) (cE D dA ad fv A (exF ad) E)) 0 0 A) (S : CallFix p m c cX0_piece 2 s args lw_all RX0) (hr : meth.sig.returnType = none) (hlk : meth.locks = false) (hout : ∀ pc, ∀ x ∈ c.exceptionTable.toList, covers x pc = false) (Q : CS → Prop) (E : CS → Prop) (x1 : Nat) : ∀ (a : CS) (H : Heap) (locs : List Loc) (ls : Array Slot), bkC_X0_piece_223 P Q E x1 a → CW D dA ad fv A a s H locs → lv_has ls 2 [(0, .ref (ad 0)), (1, .ref (ad x1))] → W p l e ({ frames := F0_ + 8, cells := 0, slots := 0, locals := L0_ + 174 } : Room) s m args below meth c H locs 0 0 (MQT below (cT (cQv D dA ad fv A Q) (cE D dA ad fv A (exF ad) E)) args s 0 0 A) (F0 m 223 ls []) := by
  have hx := S.1
  have hb := S.2.1
  have hown := S.2.2.2.1
  have hts := S.2.2.2.2
  intro  a H locs ls h hw hl
  unfold bkC_X0_piece_223 at h
  refine lv_aload_n hx hb dX0_piece_223 rfl (lv_at hl 0 rfl) ?_
  refine lv_dup hx hb dX0_piece_224 rfl ?_
  refine c_get S hw (n := 0) (ci := 0) (cOk.s (by decide)) (isO_K _) rfl in_X0 15 (by decide) (Or.inl q339) rfl rfl dX0_piece_225 ?_
  refine lv_iconst (v := (1 : Int32)) hx hb dX0_piece_228 (by decide) ?_
  refine lv_iadd hx hb dX0_piece_229 ?_
  refine c_putI S hw (n := 0) (cOk.s (by decide)) isO_K rfl in_X0 tyX0 tyX0_ok nmX0 15 (by decide) (Or.inl q339) rfl rfl rfl rfl (Nat.le_of_ble_eq_true rfl) (fun _ => kset_15) dX0_piece_230 (fun a230 H locs ea230 hw => ?_)
  replace h := h a230 ea230
  refine lv_aload_n hx hb dX0_piece_233 rfl (lv_at hl 1 rfl) ?_
  refine lv_iconst (v := (2 : Int32)) hx hb dX0_piece_234 (by decide) ?_
  refine lv_aload_n hx hb dX0_piece_235 rfl (lv_at hl 0 rfl) ?_
  refine c_get S hw (n := 0) (ci := 0) (cOk.s (by decide)) (isO_K _) rfl in_X0 7 (by decide) (Or.inl q331) rfl rfl dX0_piece_236 ?_
  refine lv_aload_n hx hb dX0_piece_239 rfl (lv_at hl 0 rfl) ?_
  refine c_get S hw (n := 0) (ci := 0) (cOk.s (by decide)) (isO_K _) rfl in_X0 10 (by decide) (Or.inl q334) rfl rfl dX0_piece_240 ?_
  have hi243 := h.1
  replace h := h.2
  refine c_ald S hw (n := 71) (cOk.s (by decide)) (fun _ => rfl) hi243 (Or.inr (Or.inl ⟨rfl, dX0_piece_243⟩)) ?_
  have hk244_0 := h.1
  replace h := h.2
  refine c_callv hw (va_runV (As := [.int (2 : Int32), .int (a230.1 71 (a230.1 0 10).toNatClampNeg)]) (rest := []) S (ctC_X13_add l D dA ad fv A a230 x1 (2 : Int32) (a230.1 71 (a230.1 0 10).toNatClampNeg) _ h) (cwC_X0_X13_add hts ⟨by dsimp only; omega, by dsimp only; omega⟩) (c_preV hw (n := x1) (hk244_0.ok (by decide)) ((isO_W hk244_0) _) rfl) rfl rfl hl.1 rfl (lv_room (Nat.le_of_ble_eq_true rfl)) dX0_piece_244 ⟨Nat.le_of_ble_eq_true rfl, Nat.le_of_ble_eq_true rfl⟩) (fun a244 H locs h hw => ?_)
  refine lv_aload_n hx hb dX0_piece_247 rfl (lv_at hl 0 rfl) ?_
  refine c_callTv hw (runTV (As := []) (rest := []) S (ctC_X0_goes l D dA ad fv A a244 _ _ h) (cwC_X0_X0_goes hts ⟨by dsimp only; omega, by dsimp only; omega⟩) (c_preV hw (n := 0) (cOk.s (by decide)) (isO_K _) rfl) rfl rfl hl.1 rfl (lv_room (Nat.le_of_ble_eq_true rfl)) dX0_piece_248 ⟨Nat.le_of_ble_eq_true rfl, Nat.le_of_ble_eq_true rfl⟩) (fun _ _ _ hE hw => c_leaveT hw hE hlk (hout _) (Nat.le_of_ble_eq_true rfl) (Nat.le_of_ble_eq_true rfl)) (fun a248 H locs h hw => ?_)
  exact W.mono (MQ.toT (fun _ _ h9 => Or.inl h9)) (c_vret S hr hlk hw h dX0_piece_251)
def bkC_X0_piece_219 (P : CS → Nat → (CS → Prop) → (CS → Prop) → Prop) (Q : CS → Prop) (E : CS → Prop) (x1 : Nat) : CS → Prop := fun a => wpC_X0_wrong a (fun a220 => bkC_X0_piece_223 P Q E x1 a220) E
set_option maxHeartbeats 4000000 in
set_option maxRecDepth 100000 in
theorem wkC_X0_piece_219 {F0_ L0_ : Nat} {P : CS → Nat → (CS → Prop) → (CS → Prop) → Prop} (hPc : ∀ a x1 Q E, P a x1 Q E → MetT l yX0_piece (ws_ yX0_piece cX0_piece 2 none) { frames := F0_, cells := 0, slots := 0, locals := L0_ } (cPc D dA ad fv A a [.ref (ad 0), .ref (ad x1)]) (cT (cQv D dA ad fv A Q) (cE D dA ad fv A (exF ad) E)) 0 0 A) (S : CallFix p m c cX0_piece 2 s args lw_all RX0) (hr : meth.sig.returnType = none) (hlk : meth.locks = false) (hout : ∀ pc, ∀ x ∈ c.exceptionTable.toList, covers x pc = false) (Q : CS → Prop) (E : CS → Prop) (x1 : Nat) : ∀ (a : CS) (H : Heap) (locs : List Loc) (ls : Array Slot), bkC_X0_piece_219 P Q E x1 a → CW D dA ad fv A a s H locs → lv_has ls 2 [(0, .ref (ad 0)), (1, .ref (ad x1))] → W p l e ({ frames := F0_ + 8, cells := 0, slots := 0, locals := L0_ + 174 } : Room) s m args below meth c H locs 0 0 (MQT below (cT (cQv D dA ad fv A Q) (cE D dA ad fv A (exF ad) E)) args s 0 0 A) (F0 m 219 ls []) := by
  have hx := S.1
  have hb := S.2.1
  have hown := S.2.2.2.1
  have hts := S.2.2.2.2
  intro  a H locs ls h hw hl
  unfold bkC_X0_piece_219 at h
  refine lv_aload_n hx hb dX0_piece_219 rfl (lv_at hl 0 rfl) ?_
  refine c_callTv hw (runTV (As := []) (rest := []) S (ctC_X0_wrong l D dA ad fv A a _ _ h) (cwC_X0_X0_wrong hts ⟨by dsimp only; omega, by dsimp only; omega⟩) (c_preV hw (n := 0) (cOk.s (by decide)) (isO_K _) rfl) rfl rfl hl.1 rfl (lv_room (Nat.le_of_ble_eq_true rfl)) dX0_piece_220 ⟨Nat.le_of_ble_eq_true rfl, Nat.le_of_ble_eq_true rfl⟩) (fun _ _ _ hE hw => c_leaveT hw hE hlk (hout _) (Nat.le_of_ble_eq_true rfl) (Nat.le_of_ble_eq_true rfl)) (fun a220 H locs h hw => ?_)
  exact wkC_X0_piece_223 hPc S hr hlk hout Q E x1 _ _ _ _ h hw (lv_sub hl [0, 1] rfl)
def bkC_X0_piece_179 (P : CS → Nat → (CS → Prop) → (CS → Prop) → Prop) (Q : CS → Prop) (E : CS → Prop) (x1 : Nat) : CS → Prop := fun a => if (a.1 0 10) = (a.1 0 12) then (bkC_X0_piece_219 P Q E x1 a) else (if ((a.1 0 11) - (a.1 0 10)) = (1 : Int32) then ((vp_in (a.1 0 10) 96) ∧ (wpC_X0_isName a (a.1 71 (a.1 0 10).toNatClampNeg) (fun r213 a213 => if r213 = 0 then (bkC_X0_piece_219 P Q E x1 a213) else (bkC_X0_piece_223 P Q E x1 a213)))) else (bkC_X0_piece_219 P Q E x1 a))
set_option maxHeartbeats 4000000 in
set_option maxRecDepth 100000 in
theorem wkC_X0_piece_179 {F0_ L0_ : Nat} {P : CS → Nat → (CS → Prop) → (CS → Prop) → Prop} (hPc : ∀ a x1 Q E, P a x1 Q E → MetT l yX0_piece (ws_ yX0_piece cX0_piece 2 none) { frames := F0_, cells := 0, slots := 0, locals := L0_ } (cPc D dA ad fv A a [.ref (ad 0), .ref (ad x1)]) (cT (cQv D dA ad fv A Q) (cE D dA ad fv A (exF ad) E)) 0 0 A) (S : CallFix p m c cX0_piece 2 s args lw_all RX0) (hr : meth.sig.returnType = none) (hlk : meth.locks = false) (hout : ∀ pc, ∀ x ∈ c.exceptionTable.toList, covers x pc = false) (Q : CS → Prop) (E : CS → Prop) (x1 : Nat) : ∀ (a : CS) (H : Heap) (locs : List Loc) (ls : Array Slot), bkC_X0_piece_179 P Q E x1 a → CW D dA ad fv A a s H locs → lv_has ls 2 [(0, .ref (ad 0)), (1, .ref (ad x1))] → W p l e ({ frames := F0_ + 8, cells := 0, slots := 0, locals := L0_ + 174 } : Room) s m args below meth c H locs 0 0 (MQT below (cT (cQv D dA ad fv A Q) (cE D dA ad fv A (exF ad) E)) args s 0 0 A) (F0 m 179 ls []) := by
  have hx := S.1
  have hb := S.2.1
  have hown := S.2.2.2.1
  have hts := S.2.2.2.2
  intro  a H locs ls h hw hl
  unfold bkC_X0_piece_179 at h
  refine lv_aload_n hx hb dX0_piece_179 rfl (lv_at hl 0 rfl) ?_
  refine c_get S hw (n := 0) (ci := 0) (cOk.s (by decide)) (isO_K _) rfl in_X0 10 (by decide) (Or.inl q334) rfl rfl dX0_piece_180 ?_
  refine lv_aload_n hx hb dX0_piece_183 rfl (lv_at hl 0 rfl) ?_
  refine c_get S hw (n := 0) (ci := 0) (cOk.s (by decide)) (isO_K _) rfl in_X0 12 (by decide) (Or.inl q336) rfl rfl dX0_piece_184 ?_
  refine lv_icmp_eq (tgt := 219) hx hb dX0_piece_187 (by decide) (fun c187 => ?_) (fun c187 => ?_)
  · replace h := if_t c187 h
    exact wkC_X0_piece_219 hPc S hr hlk hout Q E x1 _ _ _ _ h hw (lv_sub hl [0, 1] rfl)
  · replace h := if_f c187 h
    refine lv_aload_n hx hb dX0_piece_190 rfl (lv_at hl 0 rfl) ?_
    refine c_get S hw (n := 0) (ci := 0) (cOk.s (by decide)) (isO_K _) rfl in_X0 11 (by decide) (Or.inl q335) rfl rfl dX0_piece_191 ?_
    refine lv_aload_n hx hb dX0_piece_194 rfl (lv_at hl 0 rfl) ?_
    refine c_get S hw (n := 0) (ci := 0) (cOk.s (by decide)) (isO_K _) rfl in_X0 10 (by decide) (Or.inl q334) rfl rfl dX0_piece_195 ?_
    refine lv_isub hx hb dX0_piece_198 ?_
    refine lv_iconst (v := (1 : Int32)) hx hb dX0_piece_199 (by decide) ?_
    refine lv_icmp_ne (tgt := 219) hx hb dX0_piece_200 (by decide) (fun c200 => ?_) (fun c200 => ?_)
    · replace h := if_f c200 h
      exact wkC_X0_piece_219 hPc S hr hlk hout Q E x1 _ _ _ _ h hw (lv_sub hl [0, 1] rfl)
    · replace h := if_t c200 h
      refine lv_aload_n hx hb dX0_piece_203 rfl (lv_at hl 0 rfl) ?_
      refine lv_aload_n hx hb dX0_piece_204 rfl (lv_at hl 0 rfl) ?_
      refine c_get S hw (n := 0) (ci := 0) (cOk.s (by decide)) (isO_K _) rfl in_X0 7 (by decide) (Or.inl q331) rfl rfl dX0_piece_205 ?_
      refine lv_aload_n hx hb dX0_piece_208 rfl (lv_at hl 0 rfl) ?_
      refine c_get S hw (n := 0) (ci := 0) (cOk.s (by decide)) (isO_K _) rfl in_X0 10 (by decide) (Or.inl q334) rfl rfl dX0_piece_209 ?_
      have hi212 := h.1
      replace h := h.2
      refine c_ald S hw (n := 71) (cOk.s (by decide)) (fun _ => rfl) hi212 (Or.inr (Or.inl ⟨rfl, dX0_piece_212⟩)) ?_
      refine c_calli hw (va_runV (As := [.int (a.1 71 (a.1 0 10).toNatClampNeg)]) (rest := []) S (ctC_X0_isName l D dA ad fv A a (a.1 71 (a.1 0 10).toNatClampNeg) _ h) (cwC_X0_X0_isName hts ⟨by dsimp only; omega, by dsimp only; omega⟩) (c_preV hw (n := 0) (cOk.s (by decide)) (isO_K _) rfl) rfl rfl hl.1 rfl (lv_room (Nat.le_of_ble_eq_true rfl)) dX0_piece_213 ⟨Nat.le_of_ble_eq_true rfl, Nat.le_of_ble_eq_true rfl⟩) (fun r213 a213 H locs h hw => ?_)
      refine lv_if_ne (tgt := 223) hx hb dX0_piece_216 (by decide) (fun c216 => ?_) (fun c216 => ?_)
      · replace h := if_f c216 h
        exact wkC_X0_piece_223 hPc S hr hlk hout Q E x1 _ _ _ _ h hw (lv_sub hl [0, 1] rfl)
      · replace h := if_t c216 h
        exact wkC_X0_piece_219 hPc S hr hlk hout Q E x1 _ _ _ _ h hw (lv_sub hl [0, 1] rfl)
def bkC_X0_piece_114 (P : CS → Nat → (CS → Prop) → (CS → Prop) → Prop) (Q : CS → Prop) (E : CS → Prop) (x1 : Nat) : CS → Prop := fun a => wpC_X0_goes a (fun a115 => ∀ a125 : CS, a125 = wI a115 0 13 ((a115.1 0 13) - (1 : Int32)) → (Q a125)) E
set_option maxHeartbeats 4000000 in
set_option maxRecDepth 100000 in
theorem wkC_X0_piece_114 {F0_ L0_ : Nat} {P : CS → Nat → (CS → Prop) → (CS → Prop) → Prop} (hPc : ∀ a x1 Q E, P a x1 Q E → MetT l yX0_piece (ws_ yX0_piece cX0_piece 2 none) { frames := F0_, cells := 0, slots := 0, locals := L0_ } (cPc D dA ad fv A a [.ref (ad 0), .ref (ad x1)]) (cT (cQv D dA ad fv A Q) (cE D dA ad fv A (exF ad) E)) 0 0 A) (S : CallFix p m c cX0_piece 2 s args lw_all RX0) (hr : meth.sig.returnType = none) (hlk : meth.locks = false) (hout : ∀ pc, ∀ x ∈ c.exceptionTable.toList, covers x pc = false) (Q : CS → Prop) (E : CS → Prop) (x1 : Nat) : ∀ (a : CS) (H : Heap) (locs : List Loc) (ls : Array Slot), bkC_X0_piece_114 P Q E x1 a → CW D dA ad fv A a s H locs → lv_has ls 2 [(0, .ref (ad 0))] → W p l e ({ frames := F0_ + 8, cells := 0, slots := 0, locals := L0_ + 174 } : Room) s m args below meth c H locs 0 0 (MQT below (cT (cQv D dA ad fv A Q) (cE D dA ad fv A (exF ad) E)) args s 0 0 A) (F0 m 114 ls []) := by
  have hx := S.1
  have hb := S.2.1
  have hown := S.2.2.2.1
  have hts := S.2.2.2.2
  intro  a H locs ls h hw hl
  unfold bkC_X0_piece_114 at h
  refine lv_aload_n hx hb dX0_piece_114 rfl (lv_at hl 0 rfl) ?_
  refine c_callTv hw (runTV (As := []) (rest := []) S (ctC_X0_goes l D dA ad fv A a _ _ h) (cwC_X0_X0_goes hts ⟨by dsimp only; omega, by dsimp only; omega⟩) (c_preV hw (n := 0) (cOk.s (by decide)) (isO_K _) rfl) rfl rfl hl.1 rfl (lv_room (Nat.le_of_ble_eq_true rfl)) dX0_piece_115 ⟨Nat.le_of_ble_eq_true rfl, Nat.le_of_ble_eq_true rfl⟩) (fun _ _ _ hE hw => c_leaveT hw hE hlk (hout _) (Nat.le_of_ble_eq_true rfl) (Nat.le_of_ble_eq_true rfl)) (fun a115 H locs h hw => ?_)
  refine lv_aload_n hx hb dX0_piece_118 rfl (lv_at hl 0 rfl) ?_
  refine lv_dup hx hb dX0_piece_119 rfl ?_
  refine c_get S hw (n := 0) (ci := 0) (cOk.s (by decide)) (isO_K _) rfl in_X0 13 (by decide) (Or.inl q337) rfl rfl dX0_piece_120 ?_
  refine lv_iconst (v := (1 : Int32)) hx hb dX0_piece_123 (by decide) ?_
  refine lv_isub hx hb dX0_piece_124 ?_
  refine c_putI S hw (n := 0) (cOk.s (by decide)) isO_K rfl in_X0 tyX0 tyX0_ok nmX0 13 (by decide) (Or.inl q337) rfl rfl rfl rfl (Nat.le_of_ble_eq_true rfl) (fun _ => kset_13) dX0_piece_125 (fun a125 H locs ea125 hw => ?_)
  replace h := h a125 ea125
  refine lv_goto (tgt := 251) hx hb dX0_piece_128 (by decide) ?_
  exact W.mono (MQ.toT (fun _ _ h9 => Or.inl h9)) (c_vret S hr hlk hw h dX0_piece_251)
def bkC_X0_piece_82 (P : CS → Nat → (CS → Prop) → (CS → Prop) → Prop) (Q : CS → Prop) (E : CS → Prop) (x1 : Nat) : CS → Prop := fun a => ∀ a89 : CS, a89 = wI a 0 13 ((a.1 0 13) + (1 : Int32)) → (wpC_X0_goes a89 (fun a93 => wpC_X0_or P a93 x1 (fun a98 => wpC_X0_isSign a98 (41 : Int32) (fun r104 a104 => if r104 = 0 then (wpC_X0_wrong a104 (fun a111 => bkC_X0_piece_114 P Q E x1 a111) E) else (bkC_X0_piece_114 P Q E x1 a104))) E) E)
set_option maxHeartbeats 4000000 in
set_option maxRecDepth 100000 in
theorem wkC_X0_piece_82 {F0_ L0_ : Nat} {P : CS → Nat → (CS → Prop) → (CS → Prop) → Prop} (hPc : ∀ a x1 Q E, P a x1 Q E → MetT l yX0_piece (ws_ yX0_piece cX0_piece 2 none) { frames := F0_, cells := 0, slots := 0, locals := L0_ } (cPc D dA ad fv A a [.ref (ad 0), .ref (ad x1)]) (cT (cQv D dA ad fv A Q) (cE D dA ad fv A (exF ad) E)) 0 0 A) (S : CallFix p m c cX0_piece 2 s args lw_all RX0) (hr : meth.sig.returnType = none) (hlk : meth.locks = false) (hout : ∀ pc, ∀ x ∈ c.exceptionTable.toList, covers x pc = false) (Q : CS → Prop) (E : CS → Prop) (x1 : Nat) : ∀ (a : CS) (H : Heap) (locs : List Loc) (ls : Array Slot), bkC_X0_piece_82 P Q E x1 a → CW D dA ad fv A a s H locs → lv_has ls 2 [(0, .ref (ad 0)), (1, .ref (ad x1))] → W p l e ({ frames := F0_ + 8, cells := 0, slots := 0, locals := L0_ + 174 } : Room) s m args below meth c H locs 0 0 (MQT below (cT (cQv D dA ad fv A Q) (cE D dA ad fv A (exF ad) E)) args s 0 0 A) (F0 m 82 ls []) := by
  have hx := S.1
  have hb := S.2.1
  have hown := S.2.2.2.1
  have hts := S.2.2.2.2
  intro  a H locs ls h hw hl
  unfold bkC_X0_piece_82 at h
  refine lv_aload_n hx hb dX0_piece_82 rfl (lv_at hl 0 rfl) ?_
  refine lv_dup hx hb dX0_piece_83 rfl ?_
  refine c_get S hw (n := 0) (ci := 0) (cOk.s (by decide)) (isO_K _) rfl in_X0 13 (by decide) (Or.inl q337) rfl rfl dX0_piece_84 ?_
  refine lv_iconst (v := (1 : Int32)) hx hb dX0_piece_87 (by decide) ?_
  refine lv_iadd hx hb dX0_piece_88 ?_
  refine c_putI S hw (n := 0) (cOk.s (by decide)) isO_K rfl in_X0 tyX0 tyX0_ok nmX0 13 (by decide) (Or.inl q337) rfl rfl rfl rfl (Nat.le_of_ble_eq_true rfl) (fun _ => kset_13) dX0_piece_89 (fun a89 H locs ea89 hw => ?_)
  replace h := h a89 ea89
  refine lv_aload_n hx hb dX0_piece_92 rfl (lv_at hl 0 rfl) ?_
  refine c_callTv hw (runTV (As := []) (rest := []) S (ctC_X0_goes l D dA ad fv A a89 _ _ h) (cwC_X0_X0_goes hts ⟨by dsimp only; omega, by dsimp only; omega⟩) (c_preV hw (n := 0) (cOk.s (by decide)) (isO_K _) rfl) rfl rfl hl.1 rfl (lv_room (Nat.le_of_ble_eq_true rfl)) dX0_piece_93 ⟨Nat.le_of_ble_eq_true rfl, Nat.le_of_ble_eq_true rfl⟩) (fun _ _ _ hE hw => c_leaveT hw hE hlk (hout _) (Nat.le_of_ble_eq_true rfl) (Nat.le_of_ble_eq_true rfl)) (fun a93 H locs h hw => ?_)
  refine lv_aload_n hx hb dX0_piece_96 rfl (lv_at hl 0 rfl) ?_
  refine lv_aload_n hx hb dX0_piece_97 rfl (lv_at hl 1 rfl) ?_
  refine c_callTv hw (runTV (As := [.ref (ad x1)]) (rest := []) S (ctC_X0_or_s F0_ L0_ hPc a93 x1 _ _ h) (cwC_X0_X0_or hts ⟨by dsimp only; omega, by dsimp only; omega⟩) (c_preV hw (n := 0) (cOk.s (by decide)) (isO_K _) rfl) rfl rfl hl.1 rfl (lv_room (Nat.le_of_ble_eq_true rfl)) dX0_piece_98 ⟨Nat.le_of_ble_eq_true rfl, Nat.le_of_ble_eq_true rfl⟩) (fun _ _ _ hE hw => c_leaveT hw hE hlk (hout _) (Nat.le_of_ble_eq_true rfl) (Nat.le_of_ble_eq_true rfl)) (fun a98 H locs h hw => ?_)
  refine lv_aload_n hx hb dX0_piece_101 rfl (lv_at hl 0 rfl) ?_
  refine lv_bipush (v := (41 : Int32)) hx hb dX0_piece_102 (by decide) ?_
  refine c_calli hw (va_runV (As := [.int (41 : Int32)]) (rest := []) S (ctC_X0_isSign l D dA ad fv A a98 (41 : Int32) _ h) (cwC_X0_X0_isSign hts ⟨by dsimp only; omega, by dsimp only; omega⟩) (c_preV hw (n := 0) (cOk.s (by decide)) (isO_K _) rfl) rfl rfl hl.1 rfl (lv_room (Nat.le_of_ble_eq_true rfl)) dX0_piece_104 ⟨Nat.le_of_ble_eq_true rfl, Nat.le_of_ble_eq_true rfl⟩) (fun r104 a104 H locs h hw => ?_)
  refine lv_if_ne (tgt := 114) hx hb dX0_piece_107 (by decide) (fun c107 => ?_) (fun c107 => ?_)
  · replace h := if_f c107 h
    exact wkC_X0_piece_114 hPc S hr hlk hout Q E x1 _ _ _ _ h hw (lv_sub hl [0] rfl)
  · replace h := if_t c107 h
    refine lv_aload_n hx hb dX0_piece_110 rfl (lv_at hl 0 rfl) ?_
    refine c_callTv hw (runTV (As := []) (rest := []) S (ctC_X0_wrong l D dA ad fv A a104 _ _ h) (cwC_X0_X0_wrong hts ⟨by dsimp only; omega, by dsimp only; omega⟩) (c_preV hw (n := 0) (cOk.s (by decide)) (isO_K _) rfl) rfl rfl hl.1 rfl (lv_room (Nat.le_of_ble_eq_true rfl)) dX0_piece_111 ⟨Nat.le_of_ble_eq_true rfl, Nat.le_of_ble_eq_true rfl⟩) (fun _ _ _ hE hw => c_leaveT hw hE hlk (hout _) (Nat.le_of_ble_eq_true rfl) (Nat.le_of_ble_eq_true rfl)) (fun a111 H locs h hw => ?_)
    exact wkC_X0_piece_114 hPc S hr hlk hout Q E x1 _ _ _ _ h hw (lv_sub hl [0] rfl)
def bkC_X0_piece_22 (P : CS → Nat → (CS → Prop) → (CS → Prop) → Prop) (Q : CS → Prop) (E : CS → Prop) (x1 : Nat) : CS → Prop := fun a => ∀ a29 : CS, a29 = wI a 0 14 ((a.1 0 14) + (1 : Int32)) → (wpC_X0_goes a29 (fun a33 => P a33 x1 (fun a38 => (kindK a38 x1 113) ∧ (wpC_X13_add a38 x1 (3 : Int32) (0 : Int32) (fun a44 => ∀ a54 : CS, a54 = wI a44 0 14 ((a44.1 0 14) - (1 : Int32)) → (Q a54)))) E) E)
set_option maxHeartbeats 4000000 in
set_option maxRecDepth 100000 in
theorem wkC_X0_piece_22 {F0_ L0_ : Nat} {P : CS → Nat → (CS → Prop) → (CS → Prop) → Prop} (hPc : ∀ a x1 Q E, P a x1 Q E → MetT l yX0_piece (ws_ yX0_piece cX0_piece 2 none) { frames := F0_, cells := 0, slots := 0, locals := L0_ } (cPc D dA ad fv A a [.ref (ad 0), .ref (ad x1)]) (cT (cQv D dA ad fv A Q) (cE D dA ad fv A (exF ad) E)) 0 0 A) (S : CallFix p m c cX0_piece 2 s args lw_all RX0) (hr : meth.sig.returnType = none) (hlk : meth.locks = false) (hout : ∀ pc, ∀ x ∈ c.exceptionTable.toList, covers x pc = false) (Q : CS → Prop) (E : CS → Prop) (x1 : Nat) : ∀ (a : CS) (H : Heap) (locs : List Loc) (ls : Array Slot), bkC_X0_piece_22 P Q E x1 a → CW D dA ad fv A a s H locs → lv_has ls 2 [(0, .ref (ad 0)), (1, .ref (ad x1))] → W p l e ({ frames := F0_ + 8, cells := 0, slots := 0, locals := L0_ + 174 } : Room) s m args below meth c H locs 0 0 (MQT below (cT (cQv D dA ad fv A Q) (cE D dA ad fv A (exF ad) E)) args s 0 0 A) (F0 m 22 ls []) := by
  have hx := S.1
  have hb := S.2.1
  have hown := S.2.2.2.1
  have hts := S.2.2.2.2
  intro  a H locs ls h hw hl
  unfold bkC_X0_piece_22 at h
  refine lv_aload_n hx hb dX0_piece_22 rfl (lv_at hl 0 rfl) ?_
  refine lv_dup hx hb dX0_piece_23 rfl ?_
  refine c_get S hw (n := 0) (ci := 0) (cOk.s (by decide)) (isO_K _) rfl in_X0 14 (by decide) (Or.inl q338) rfl rfl dX0_piece_24 ?_
  refine lv_iconst (v := (1 : Int32)) hx hb dX0_piece_27 (by decide) ?_
  refine lv_iadd hx hb dX0_piece_28 ?_
  refine c_putI S hw (n := 0) (cOk.s (by decide)) isO_K rfl in_X0 tyX0 tyX0_ok nmX0 14 (by decide) (Or.inl q338) rfl rfl rfl rfl (Nat.le_of_ble_eq_true rfl) (fun _ => kset_14) dX0_piece_29 (fun a29 H locs ea29 hw => ?_)
  replace h := h a29 ea29
  refine lv_aload_n hx hb dX0_piece_32 rfl (lv_at hl 0 rfl) ?_
  refine c_callTv hw (runTV (As := []) (rest := []) S (ctC_X0_goes l D dA ad fv A a29 _ _ h) (cwC_X0_X0_goes hts ⟨by dsimp only; omega, by dsimp only; omega⟩) (c_preV hw (n := 0) (cOk.s (by decide)) (isO_K _) rfl) rfl rfl hl.1 rfl (lv_room (Nat.le_of_ble_eq_true rfl)) dX0_piece_33 ⟨Nat.le_of_ble_eq_true rfl, Nat.le_of_ble_eq_true rfl⟩) (fun _ _ _ hE hw => c_leaveT hw hE hlk (hout _) (Nat.le_of_ble_eq_true rfl) (Nat.le_of_ble_eq_true rfl)) (fun a33 H locs h hw => ?_)
  refine lv_aload_n hx hb dX0_piece_36 rfl (lv_at hl 0 rfl) ?_
  refine lv_aload_n hx hb dX0_piece_37 rfl (lv_at hl 1 rfl) ?_
  refine c_callTv hw (runTV (As := [.ref (ad x1)]) (rest := []) S (hPc _ _ _ _ h) (cwC_X0_X0_piece hts ⟨by dsimp only; omega, by dsimp only; omega⟩) (c_preV hw (n := 0) (cOk.s (by decide)) (isO_K _) rfl) rfl rfl hl.1 rfl (lv_room (Nat.le_of_ble_eq_true rfl)) dX0_piece_38 ⟨Nat.le_of_ble_eq_true rfl, Nat.le_of_ble_eq_true rfl⟩) (fun _ _ _ hE hw => c_leaveT hw hE hlk (hout _) (Nat.le_of_ble_eq_true rfl) (Nat.le_of_ble_eq_true rfl)) (fun a38 H locs h hw => ?_)
  refine lv_aload_n hx hb dX0_piece_41 rfl (lv_at hl 1 rfl) ?_
  refine lv_iconst (v := (3 : Int32)) hx hb dX0_piece_42 (by decide) ?_
  refine lv_iconst (v := (0 : Int32)) hx hb dX0_piece_43 (by decide) ?_
  have hk44_0 := h.1
  replace h := h.2
  refine c_callv hw (va_runV (As := [.int (3 : Int32), .int (0 : Int32)]) (rest := []) S (ctC_X13_add l D dA ad fv A a38 x1 (3 : Int32) (0 : Int32) _ h) (cwC_X0_X13_add hts ⟨by dsimp only; omega, by dsimp only; omega⟩) (c_preV hw (n := x1) (hk44_0.ok (by decide)) ((isO_W hk44_0) _) rfl) rfl rfl hl.1 rfl (lv_room (Nat.le_of_ble_eq_true rfl)) dX0_piece_44 ⟨Nat.le_of_ble_eq_true rfl, Nat.le_of_ble_eq_true rfl⟩) (fun a44 H locs h hw => ?_)
  refine lv_aload_n hx hb dX0_piece_47 rfl (lv_at hl 0 rfl) ?_
  refine lv_dup hx hb dX0_piece_48 rfl ?_
  refine c_get S hw (n := 0) (ci := 0) (cOk.s (by decide)) (isO_K _) rfl in_X0 14 (by decide) (Or.inl q338) rfl rfl dX0_piece_49 ?_
  refine lv_iconst (v := (1 : Int32)) hx hb dX0_piece_52 (by decide) ?_
  refine lv_isub hx hb dX0_piece_53 ?_
  refine c_putI S hw (n := 0) (cOk.s (by decide)) isO_K rfl in_X0 tyX0 tyX0_ok nmX0 14 (by decide) (Or.inl q338) rfl rfl rfl rfl (Nat.le_of_ble_eq_true rfl) (fun _ => kset_14) dX0_piece_54 (fun a54 H locs ea54 hw => ?_)
  replace h := h a54 ea54
  refine lv_goto (tgt := 251) hx hb dX0_piece_57 (by decide) ?_
  exact W.mono (MQ.toT (fun _ _ h9 => Or.inl h9)) (c_vret S hr hlk hw h dX0_piece_251)
def wpC_X0_piece (P : CS → Nat → (CS → Prop) → (CS → Prop) → Prop) (a : CS) (x1 : Nat) (Q : CS → Prop) (E : CS → Prop) : Prop := wpC_X0_isSign a (33 : Int32) (fun r3 a3 => if r3 = 0 then (wpC_X0_isSign a3 (40 : Int32) (fun r63 a63 => if r63 = 0 then (if (a63.1 0 12) ≤ (a63.1 0 10) then (bkC_X0_piece_179 P Q E x1 a63) else ((vp_in (a63.1 0 10) 96) ∧ (wpC_X0_isDigit a63 (a63.1 71 (a63.1 0 10).toNatClampNeg) (fun r151 a151 => if r151 = 0 then (bkC_X0_piece_179 P Q E x1 a151) else (∀ a164 : CS, a164 = wI a151 0 15 ((a151.1 0 15) + (1 : Int32)) → (wpC_X0_number a164 (fun r170 a170 => (kindK a170 x1 113) ∧ (wpC_X13_add a170 x1 (1 : Int32) r170 (fun a173 => Q a173))) E)))))) else (if (a63.1 0 13) = (8 : Int32) then (wpC_X0_wrong a63 (fun a79 => bkC_X0_piece_82 P Q E x1 a79) E) else (bkC_X0_piece_82 P Q E x1 a63)))) else (if (a3.1 0 14) = (8 : Int32) then (wpC_X0_wrong a3 (fun a19 => bkC_X0_piece_22 P Q E x1 a19) E) else (bkC_X0_piece_22 P Q E x1 a3)))
set_option maxHeartbeats 4000000 in
set_option maxRecDepth 100000 in
theorem wkC_X0_piece_e {F0_ L0_ : Nat} {P : CS → Nat → (CS → Prop) → (CS → Prop) → Prop} (hPc : ∀ a x1 Q E, P a x1 Q E → MetT l yX0_piece (ws_ yX0_piece cX0_piece 2 none) { frames := F0_, cells := 0, slots := 0, locals := L0_ } (cPc D dA ad fv A a [.ref (ad 0), .ref (ad x1)]) (cT (cQv D dA ad fv A Q) (cE D dA ad fv A (exF ad) E)) 0 0 A) (S : CallFix p m c cX0_piece 2 s args lw_all RX0) (hr : meth.sig.returnType = none) (hlk : meth.locks = false) (hout : ∀ pc, ∀ x ∈ c.exceptionTable.toList, covers x pc = false) (Q : CS → Prop) (E : CS → Prop) (x1 : Nat) (a : CS) (H : Heap) (locs : List Loc) (ls : Array Slot) (h : wpC_X0_piece P a x1 Q E) (hw : CW D dA ad fv A a s H locs) (hl : lv_has ls 2 [(0, .ref (ad 0)), (1, .ref (ad x1))]) : W p l e ({ frames := F0_ + 8, cells := 0, slots := 0, locals := L0_ + 174 } : Room) s m args below meth c H locs 0 0 (MQT below (cT (cQv D dA ad fv A Q) (cE D dA ad fv A (exF ad) E)) args s 0 0 A) (F0 m 0 ls []) := by
  have hx := S.1
  have hb := S.2.1
  have hown := S.2.2.2.1
  have hts := S.2.2.2.2
  unfold wpC_X0_piece at h
  refine lv_aload_n hx hb dX0_piece_0 rfl (lv_at hl 0 rfl) ?_
  refine lv_bipush (v := (33 : Int32)) hx hb dX0_piece_1 (by decide) ?_
  refine c_calli hw (va_runV (As := [.int (33 : Int32)]) (rest := []) S (ctC_X0_isSign l D dA ad fv A a (33 : Int32) _ h) (cwC_X0_X0_isSign hts ⟨by dsimp only; omega, by dsimp only; omega⟩) (c_preV hw (n := 0) (cOk.s (by decide)) (isO_K _) rfl) rfl rfl hl.1 rfl (lv_room (Nat.le_of_ble_eq_true rfl)) dX0_piece_3 ⟨Nat.le_of_ble_eq_true rfl, Nat.le_of_ble_eq_true rfl⟩) (fun r3 a3 H locs h hw => ?_)
  refine lv_if_eq (tgt := 60) hx hb dX0_piece_6 (by decide) (fun c6 => ?_) (fun c6 => ?_)
  · replace h := if_t c6 h
    refine lv_aload_n hx hb dX0_piece_60 rfl (lv_at hl 0 rfl) ?_
    refine lv_bipush (v := (40 : Int32)) hx hb dX0_piece_61 (by decide) ?_
    refine c_calli hw (va_runV (As := [.int (40 : Int32)]) (rest := []) S (ctC_X0_isSign l D dA ad fv A a3 (40 : Int32) _ h) (cwC_X0_X0_isSign hts ⟨by dsimp only; omega, by dsimp only; omega⟩) (c_preV hw (n := 0) (cOk.s (by decide)) (isO_K _) rfl) rfl rfl hl.1 rfl (lv_room (Nat.le_of_ble_eq_true rfl)) dX0_piece_63 ⟨Nat.le_of_ble_eq_true rfl, Nat.le_of_ble_eq_true rfl⟩) (fun r63 a63 H locs h hw => ?_)
    refine lv_if_eq (tgt := 131) hx hb dX0_piece_66 (by decide) (fun c66 => ?_) (fun c66 => ?_)
    · replace h := if_t c66 h
      refine lv_aload_n hx hb dX0_piece_131 rfl (lv_at hl 0 rfl) ?_
      refine c_get S hw (n := 0) (ci := 0) (cOk.s (by decide)) (isO_K _) rfl in_X0 10 (by decide) (Or.inl q334) rfl rfl dX0_piece_132 ?_
      refine lv_aload_n hx hb dX0_piece_135 rfl (lv_at hl 0 rfl) ?_
      refine c_get S hw (n := 0) (ci := 0) (cOk.s (by decide)) (isO_K _) rfl in_X0 12 (by decide) (Or.inl q336) rfl rfl dX0_piece_136 ?_
      refine lv_icmp_ge (tgt := 179) hx hb dX0_piece_139 (by decide) (fun c139 => ?_) (fun c139 => ?_)
      · replace h := if_t c139 h
        exact wkC_X0_piece_179 hPc S hr hlk hout Q E x1 _ _ _ _ h hw (lv_sub hl [0, 1] rfl)
      · replace h := if_f c139 h
        refine lv_aload_n hx hb dX0_piece_142 rfl (lv_at hl 0 rfl) ?_
        refine c_get S hw (n := 0) (ci := 0) (cOk.s (by decide)) (isO_K _) rfl in_X0 7 (by decide) (Or.inl q331) rfl rfl dX0_piece_143 ?_
        refine lv_aload_n hx hb dX0_piece_146 rfl (lv_at hl 0 rfl) ?_
        refine c_get S hw (n := 0) (ci := 0) (cOk.s (by decide)) (isO_K _) rfl in_X0 10 (by decide) (Or.inl q334) rfl rfl dX0_piece_147 ?_
        have hi150 := h.1
        replace h := h.2
        refine c_ald S hw (n := 71) (cOk.s (by decide)) (fun _ => rfl) hi150 (Or.inr (Or.inl ⟨rfl, dX0_piece_150⟩)) ?_
        refine c_calli hw (va_runS (As := [.int (a63.1 71 (a63.1 0 10).toNatClampNeg)]) (rest := []) S (ctC_X0_isDigit l D dA ad fv A a63 (a63.1 71 (a63.1 0 10).toNatClampNeg) _ h) (cwC_X0_X0_isDigit hts ⟨by dsimp only; omega, by dsimp only; omega⟩) (c_preS hw) rfl rfl hl.1 rfl (lv_room (Nat.le_of_ble_eq_true rfl)) dX0_piece_151 ⟨Nat.le_of_ble_eq_true rfl, Nat.le_of_ble_eq_true rfl⟩) (fun r151 a151 H locs h hw => ?_)
        refine lv_if_eq (tgt := 179) hx hb dX0_piece_154 (by decide) (fun c154 => ?_) (fun c154 => ?_)
        · replace h := if_t c154 h
          exact wkC_X0_piece_179 hPc S hr hlk hout Q E x1 _ _ _ _ h hw (lv_sub hl [0, 1] rfl)
        · replace h := if_f c154 h
          refine lv_aload_n hx hb dX0_piece_157 rfl (lv_at hl 0 rfl) ?_
          refine lv_dup hx hb dX0_piece_158 rfl ?_
          refine c_get S hw (n := 0) (ci := 0) (cOk.s (by decide)) (isO_K _) rfl in_X0 15 (by decide) (Or.inl q339) rfl rfl dX0_piece_159 ?_
          refine lv_iconst (v := (1 : Int32)) hx hb dX0_piece_162 (by decide) ?_
          refine lv_iadd hx hb dX0_piece_163 ?_
          refine c_putI S hw (n := 0) (cOk.s (by decide)) isO_K rfl in_X0 tyX0 tyX0_ok nmX0 15 (by decide) (Or.inl q339) rfl rfl rfl rfl (Nat.le_of_ble_eq_true rfl) (fun _ => kset_15) dX0_piece_164 (fun a164 H locs ea164 hw => ?_)
          replace h := h a164 ea164
          refine lv_aload_n hx hb dX0_piece_167 rfl (lv_at hl 1 rfl) ?_
          refine lv_iconst (v := (1 : Int32)) hx hb dX0_piece_168 (by decide) ?_
          refine lv_aload_n hx hb dX0_piece_169 rfl (lv_at hl 0 rfl) ?_
          refine c_callTi hw (runTV (As := []) (rest := [.int (1 : Int32), .ref (ad x1)]) S (ctC_X0_number l D dA ad fv A a164 _ _ h) (cwC_X0_X0_number hts ⟨by dsimp only; omega, by dsimp only; omega⟩) (c_preV hw (n := 0) (cOk.s (by decide)) (isO_K _) rfl) rfl rfl hl.1 rfl (lv_room (Nat.le_of_ble_eq_true rfl)) dX0_piece_170 ⟨Nat.le_of_ble_eq_true rfl, Nat.le_of_ble_eq_true rfl⟩) (fun _ _ _ hE hw => c_leaveT hw hE hlk (hout _) (Nat.le_of_ble_eq_true rfl) (Nat.le_of_ble_eq_true rfl)) (fun r170 a170 H locs h hw => ?_)
          have hk173_0 := h.1
          replace h := h.2
          refine c_callv hw (va_runV (As := [.int (1 : Int32), .int r170]) (rest := []) S (ctC_X13_add l D dA ad fv A a170 x1 (1 : Int32) r170 _ h) (cwC_X0_X13_add hts ⟨by dsimp only; omega, by dsimp only; omega⟩) (c_preV hw (n := x1) (hk173_0.ok (by decide)) ((isO_W hk173_0) _) rfl) rfl rfl hl.1 rfl (lv_room (Nat.le_of_ble_eq_true rfl)) dX0_piece_173 ⟨Nat.le_of_ble_eq_true rfl, Nat.le_of_ble_eq_true rfl⟩) (fun a173 H locs h hw => ?_)
          refine lv_goto (tgt := 251) hx hb dX0_piece_176 (by decide) ?_
          exact W.mono (MQ.toT (fun _ _ h9 => Or.inl h9)) (c_vret S hr hlk hw h dX0_piece_251)
    · replace h := if_f c66 h
      refine lv_aload_n hx hb dX0_piece_69 rfl (lv_at hl 0 rfl) ?_
      refine c_get S hw (n := 0) (ci := 0) (cOk.s (by decide)) (isO_K _) rfl in_X0 13 (by decide) (Or.inl q337) rfl rfl dX0_piece_70 ?_
      refine lv_bipush (v := (8 : Int32)) hx hb dX0_piece_73 (by decide) ?_
      refine lv_icmp_ne (tgt := 82) hx hb dX0_piece_75 (by decide) (fun c75 => ?_) (fun c75 => ?_)
      · replace h := if_f c75 h
        exact wkC_X0_piece_82 hPc S hr hlk hout Q E x1 _ _ _ _ h hw (lv_sub hl [0, 1] rfl)
      · replace h := if_t c75 h
        refine lv_aload_n hx hb dX0_piece_78 rfl (lv_at hl 0 rfl) ?_
        refine c_callTv hw (runTV (As := []) (rest := []) S (ctC_X0_wrong l D dA ad fv A a63 _ _ h) (cwC_X0_X0_wrong hts ⟨by dsimp only; omega, by dsimp only; omega⟩) (c_preV hw (n := 0) (cOk.s (by decide)) (isO_K _) rfl) rfl rfl hl.1 rfl (lv_room (Nat.le_of_ble_eq_true rfl)) dX0_piece_79 ⟨Nat.le_of_ble_eq_true rfl, Nat.le_of_ble_eq_true rfl⟩) (fun _ _ _ hE hw => c_leaveT hw hE hlk (hout _) (Nat.le_of_ble_eq_true rfl) (Nat.le_of_ble_eq_true rfl)) (fun a79 H locs h hw => ?_)
        exact wkC_X0_piece_82 hPc S hr hlk hout Q E x1 _ _ _ _ h hw (lv_sub hl [0, 1] rfl)
  · replace h := if_f c6 h
    refine lv_aload_n hx hb dX0_piece_9 rfl (lv_at hl 0 rfl) ?_
    refine c_get S hw (n := 0) (ci := 0) (cOk.s (by decide)) (isO_K _) rfl in_X0 14 (by decide) (Or.inl q338) rfl rfl dX0_piece_10 ?_
    refine lv_bipush (v := (8 : Int32)) hx hb dX0_piece_13 (by decide) ?_
    refine lv_icmp_ne (tgt := 22) hx hb dX0_piece_15 (by decide) (fun c15 => ?_) (fun c15 => ?_)
    · replace h := if_f c15 h
      exact wkC_X0_piece_22 hPc S hr hlk hout Q E x1 _ _ _ _ h hw (lv_sub hl [0, 1] rfl)
    · replace h := if_t c15 h
      refine lv_aload_n hx hb dX0_piece_18 rfl (lv_at hl 0 rfl) ?_
      refine c_callTv hw (runTV (As := []) (rest := []) S (ctC_X0_wrong l D dA ad fv A a3 _ _ h) (cwC_X0_X0_wrong hts ⟨by dsimp only; omega, by dsimp only; omega⟩) (c_preV hw (n := 0) (cOk.s (by decide)) (isO_K _) rfl) rfl rfl hl.1 rfl (lv_room (Nat.le_of_ble_eq_true rfl)) dX0_piece_19 ⟨Nat.le_of_ble_eq_true rfl, Nat.le_of_ble_eq_true rfl⟩) (fun _ _ _ hE hw => c_leaveT hw hE hlk (hout _) (Nat.le_of_ble_eq_true rfl) (Nat.le_of_ble_eq_true rfl)) (fun a19 H locs h hw => ?_)
      exact wkC_X0_piece_22 hPc S hr hlk hout Q E x1 _ _ _ _ h hw (lv_sub hl [0, 1] rfl)
theorem ctC_X0_piece_s (F0_ L0_ : Nat) {P : CS → Nat → (CS → Prop) → (CS → Prop) → Prop} {l : Launch} {D : va_G} {dA : Nat → ClassId} {ad : Nat → Nat} {fv : Nat → Value} {A : Nat → Prop} (hPc : ∀ a x1 Q E, P a x1 Q E → MetT l yX0_piece (ws_ yX0_piece cX0_piece 2 none) { frames := F0_, cells := 0, slots := 0, locals := L0_ } (cPc D dA ad fv A a [.ref (ad 0), .ref (ad x1)]) (cT (cQv D dA ad fv A Q) (cE D dA ad fv A (exF ad) E)) 0 0 A) (a : CS) (x1 : Nat) (Q : CS → Prop) (E : CS → Prop) (h : wpC_X0_piece P a x1 Q E) : MetT l yX0_piece (ws_ yX0_piece cX0_piece 2 none) ({ frames := F0_ + 8, cells := 0, slots := 0, locals := L0_ + 174 } : Room) (cPc D dA ad fv A a [.ref (ad 0), .ref (ad x1)]) (cT (cQv D dA ad fv A Q) (cE D dA ad fv A (exF ad) E)) 0 0 A :=
  c_metT (by decide) rfl rfl rfl (Nat.le_of_ble_eq_true rfl) (fun p e s m below meth c ls S hr hlk hout hw hl => wkC_X0_piece_e hPc S hr hlk hout Q E x1 a _ _ ls h hw hl)
def wpC_X0_piece_r : Nat → CS → Nat → (CS → Prop) → (CS → Prop) → Prop
  | 0 => fun _ _ _ _ => False
  | d + 1 => wpC_X0_piece (wpC_X0_piece_r d)
theorem ctC_X0_piece_r (l : Launch) (D : va_G) (dA : Nat → ClassId) (ad : Nat → Nat) (fv : Nat → Value) (A : Nat → Prop) : ∀ (d : Nat) (a : CS) (x1 : Nat) (Q E : CS → Prop), wpC_X0_piece_r d a x1 Q E → MetT l yX0_piece (ws_ yX0_piece cX0_piece 2 none) { frames := d * 8, cells := 0, slots := 0, locals := d * 174 } (cPc D dA ad fv A a [.ref (ad 0), .ref (ad x1)]) (cT (cQv D dA ad fv A Q) (cE D dA ad fv A (exF ad) E)) 0 0 A := by
  intro d
  induction d with
  | zero => intro a x1 Q E h; exact False.elim h
  | succ d ih =>
    intro a x1 Q E h
    have h9 := ctC_X0_piece_s (d * 8) (d * 174) ih a x1 Q E h
    rw [Nat.succ_mul, Nat.succ_mul]
    exact h9
/-! X0.expression -/
abbrev rmC_X0_expression : Room := { frames := 808, cells := 3, slots := 195, locals := 17574 }
def wpC_X0_expression (a : CS) (Q : Nat → CS → Prop) (E : CS → Prop) : Prop := ∀ o0 : Nat, 1000 ≤ o0 → (a.2.2.1 o0).1 = 0 → ∀ a0 : CS, a0 = wN a o0 (113, 0) → (wpC_X13_init a0 o0 (fun a4 => wpC_X0_or (wpC_X0_piece_r 100) a4 o0 (fun a10 => Q o0 a10) E))
set_option maxHeartbeats 4000000 in
set_option maxRecDepth 100000 in
theorem wkC_X0_expression_e (S : CallFix p m c cX0_expression 2 s args lw_all RX0) (hr : meth.sig.returnType = (some (.object "KeptLeaves$Words"))) (hlk : meth.locks = false) (hout : ∀ pc, ∀ x ∈ c.exceptionTable.toList, covers x pc = false) (Q : Nat → CS → Prop) (E : CS → Prop) (a : CS) (H : Heap) (locs : List Loc) (ls : Array Slot) (h : wpC_X0_expression a Q E) (hw : CW D dA ad fv A a s H locs) (hl : lv_has ls 2 [(0, .ref (ad 0))]) : W p l e rmC_X0_expression s m args below meth c H locs 0 0 (MQT below (cT (cQr D dA ad fv A Q) (cE D dA ad fv A (exF ad) E)) args s 3 195 A) (F0 m 0 ls []) := by
  have hx := S.1
  have hb := S.2.1
  have hown := S.2.2.2.1
  have hts := S.2.2.2.2
  unfold wpC_X0_expression at h
  refine c_new S hw (ci := 13) (fs := [.null, .null, .int 0]) in_X13 tyX13 tyX13_ok q521 q522 q126 rfl (fun j hj => by rcases (show j = 0 ∨ j = 1 ∨ j = 2 by omega) with rfl | rfl | rfl <;> rfl) (cell_new (fun n hn => by simp [dCell, rv, rq, va_rf])) (Nat.le_of_ble_eq_true rfl) (Nat.le_of_ble_eq_true rfl) dX0_expression_0 (fun o0 a0 H go0 zo0 ea0 hw => ?_)
  replace h := h o0 go0 zo0 a0 ea0
  refine W.widen (k := 1) (n := 3) (Nat.le_of_ble_eq_true rfl) (Nat.le_of_ble_eq_true rfl) ?_
  refine lv_dup hx hb dX0_expression_3 rfl ?_
  refine c_callv hw (va_runIN (As := []) (rest := [.ref (ad o0)]) S (ctC_X13_init l D dA ad fv A a0 o0 _ h) (cwC_X0_X13_init hts hw.nw ⟨Nat.le_of_ble_eq_true rfl, Nat.le_of_ble_eq_true rfl⟩) (c_preS hw) rfl rfl hl.1 rfl (lv_room (Nat.le_of_ble_eq_true rfl)) dX0_expression_4 ⟨Nat.le_of_ble_eq_true rfl, Nat.le_of_ble_eq_true rfl⟩) (fun a4 H locs h hw => ?_)
  refine W.widen (k := 3) (n := 195) (Nat.le_of_ble_eq_true rfl) (Nat.le_of_ble_eq_true rfl) ?_
  refine lv_astore_n (lv' := [(1, .ref (ad o0)), (0, .ref (ad 0))]) hx hb dX0_expression_7 rfl hl (by decide) rfl (fun ls hl => ?_)
  refine lv_aload_n hx hb dX0_expression_8 rfl (lv_at hl 1 rfl) ?_
  refine lv_aload_n hx hb dX0_expression_9 rfl (lv_at hl 0 rfl) ?_
  refine c_callTv hw (runTV (As := [.ref (ad o0)]) (rest := []) S (ctC_X0_or_s (100 * 8) (100 * 174) (ctC_X0_piece_r l D dA ad fv A 100) a4 o0 _ _ h) (cwC_X0_X0_or hts ⟨Nat.le_of_ble_eq_true rfl, Nat.le_of_ble_eq_true rfl⟩) (c_preV hw (n := 0) (cOk.s (by decide)) (isO_K _) rfl) rfl rfl hl.1 rfl (lv_room (Nat.le_of_ble_eq_true rfl)) dX0_expression_10 ⟨Nat.le_of_ble_eq_true rfl, Nat.le_of_ble_eq_true rfl⟩) (fun _ _ _ hE hw => c_leaveT hw hE hlk (hout _) (Nat.le_of_ble_eq_true rfl) (Nat.le_of_ble_eq_true rfl)) (fun a10 H locs h hw => ?_)
  refine lv_aload_n hx hb dX0_expression_13 rfl (lv_at hl 0 rfl) ?_
  exact W.mono (MQ.toT (fun _ _ h9 => Or.inl h9)) (c_aret S hr hlk hw h ⟨_, rfl⟩ dX0_expression_14)
theorem ctC_X0_expression (l : Launch) (D : va_G) (dA : Nat → ClassId) (ad : Nat → Nat) (fv : Nat → Value) (A : Nat → Prop) (a : CS) (Q : Nat → CS → Prop) (E : CS → Prop) (h : wpC_X0_expression a Q E) : MetT l yX0_expression (ws_ yX0_expression cX0_expression 2 (some (.object "KeptLeaves$Words"))) rmC_X0_expression (cPc D dA ad fv A a [.ref (ad 0)]) (cT (cQr D dA ad fv A Q) (cE D dA ad fv A (exF ad) E)) 3 195 A :=
  c_metT (by decide) rfl rfl rfl (Nat.le_of_ble_eq_true rfl) (fun p e s m below meth c ls S hr hlk hout hw hl => wkC_X0_expression_e S hr hlk hout Q E a _ _ ls h hw hl)
theorem cwC_X0_X0_expression {R : Room} {s : State} {args : Array Value} {rm : Room} (hts : ∀ w ∈ lw_all, w.before args s = true) (hR : rm.frames + 1 ≤ R.frames ∧ 8 + (2 + 11) + rm.locals ≤ R.locals) (hc : rm.cells = 3 := by rfl) (hs : rm.slots = 195 := by rfl) : CallW R s args RX0 RX0 258 yX0_expression cX0_expression 2 (some (.object "KeptLeaves$Words")) (ws_ yX0_expression cX0_expression 2 (some (.object "KeptLeaves$Words"))) rm 3 195 0 :=
  cwV 0 hts (lw_V q517 q519 qs7 q103 q520) rfl hc hs (by decide +kernel) hR
end CWalk

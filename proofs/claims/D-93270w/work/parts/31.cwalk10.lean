section CWalk
variable {p : Program} {l : Launch} {e : Env} {s : State} {m : MethodId} {args : Array Value} {below : List Frame} {meth : Method} {c : Code} {D : va_G} {dA : Nat → ClassId} {ad : Nat → Nat} {fv : Nat → Value} {A : Nat → Prop}
/-! X0.isWord -/
abbrev rmC_X0_isWord : Room := { frames := 5, cells := 0, slots := 0, locals := 130 }
def bkC_X0_isWord_24 (Q : Int32 → CS → Prop) (x1 : Nat) : Nat → Int32 → Int32 → CS → Prop
  | 0 => fun _ _ _ => False
  | n + 1 => fun x2 x3 a => if (Int32.ofNat (lenJ.getD x1 0)) ≤ x3 then (zok x2 ∧ Q x2 a) else (if x2 = 0 then (zok x2 ∧ Q x2 a) else ((vp_in ((a.1 0 10) + x3) 96) ∧ ((vp_in x3 (lenJ.getD x1 0)) ∧ (if (a.1 71 ((a.1 0 10) + x3).toNatClampNeg) = (chJ x1 x3) then (bkC_X0_isWord_24 Q x1 n (1 : Int32) (x3 + (1 : Int32)) a) else (bkC_X0_isWord_24 Q x1 n (0 : Int32) (x3 + (1 : Int32)) a)))))
set_option maxHeartbeats 4000000 in
set_option maxRecDepth 100000 in
theorem wkC_X0_isWord_24 (S : CallFix p m c cX0_isWord 4 s args lw_all RX0) (hr : meth.sig.returnType = (some .boolean)) (hlk : meth.locks = false) (Q : Int32 → CS → Prop) (x1 : Nat) (hx1 : x1 < 3) : ∀ (n : Nat) (x2 : Int32) (x3 : Int32) (a : CS) (H : Heap) (locs : List Loc) (ls : Array Slot), bkC_X0_isWord_24 Q x1 n x2 x3 a → CW D dA ad fv A a s H locs → lv_has ls 4 [(0, .ref (ad 0)), (1, .ref (ad (x1 + 95))), (2, .int x2), (3, .int x3)] → W p l e rmC_X0_isWord s m args below meth c H locs 0 0 (MQ below (cQi D dA ad fv A Q) args s 0 0 A) (F0 m 24 ls []) := by
  have hx := S.1
  have hb := S.2.1
  have hown := S.2.2.2.1
  have hts := S.2.2.2.2
  intro n
  induction n with
  | zero =>
    intro x2 x3 a H locs ls h
    exact False.elim h
  | succ n ih =>
    intro x2 x3 a H locs ls h hw hl
    unfold bkC_X0_isWord_24 at h
    refine lv_iload_n hx hb dX0_isWord_24 rfl (lv_at hl 3 rfl) ?_
    refine lv_aload_n hx hb dX0_isWord_25 rfl (lv_at hl 1 rfl) ?_
    refine c_calli hw (va_runV (As := []) (rest := [.int x3]) S (ctJ_length l D dA ad fv A a x1 hx1 (fun r9 a9 => r9 = (Int32.ofNat (lenJ.getD x1 0)) ∧ a = a9) ⟨rfl, rfl⟩) (cwJ_length hts ⟨Nat.le_of_ble_eq_true rfl, Nat.le_of_ble_eq_true rfl⟩) (c_preStr hw hx1) rfl rfl hl.1 rfl (lv_room (Nat.le_of_ble_eq_true rfl)) dX0_isWord_26 ⟨Nat.le_of_ble_eq_true rfl, Nat.le_of_ble_eq_true rfl⟩) (fun r26 a26 H locs h9 hw => ?_)
    obtain ⟨e9, e8⟩ := h9
    subst e9
    subst e8
    refine lv_icmp_ge (tgt := 67) hx hb dX0_isWord_29 (by decide) (fun c29 => ?_) (fun c29 => ?_)
    · replace h := if_t c29 h
      refine lv_iload_n hx hb dX0_isWord_67 rfl (lv_at hl 2 rfl) ?_
      exact c_zret S hr hlk hw h.1 h.2 dX0_isWord_68
    · replace h := if_f c29 h
      refine lv_iload_n hx hb dX0_isWord_32 rfl (lv_at hl 2 rfl) ?_
      refine lv_if_eq (tgt := 67) hx hb dX0_isWord_33 (by decide) (fun c33 => ?_) (fun c33 => ?_)
      · replace h := if_t c33 h
        refine lv_iload_n hx hb dX0_isWord_67 rfl (lv_at hl 2 rfl) ?_
        exact c_zret S hr hlk hw h.1 h.2 dX0_isWord_68
      · replace h := if_f c33 h
        refine lv_aload_n hx hb dX0_isWord_36 rfl (lv_at hl 0 rfl) ?_
        refine c_get S hw (n := 0) (ci := 0) (cOk.s (by decide)) (isO_K _) rfl in_X0 7 (by decide) (Or.inl q331) rfl rfl dX0_isWord_37 ?_
        refine lv_aload_n hx hb dX0_isWord_40 rfl (lv_at hl 0 rfl) ?_
        refine c_get S hw (n := 0) (ci := 0) (cOk.s (by decide)) (isO_K _) rfl in_X0 10 (by decide) (Or.inl q334) rfl rfl dX0_isWord_41 ?_
        refine lv_iload_n hx hb dX0_isWord_44 rfl (lv_at hl 3 rfl) ?_
        refine lv_iadd hx hb dX0_isWord_45 ?_
        have hi46 := h.1
        replace h := h.2
        refine c_ald S hw (n := 71) (cOk.s (by decide)) (fun _ => rfl) hi46 (Or.inr (Or.inl ⟨rfl, dX0_isWord_46⟩)) ?_
        refine lv_aload_n hx hb dX0_isWord_47 rfl (lv_at hl 1 rfl) ?_
        refine lv_iload_n hx hb dX0_isWord_48 rfl (lv_at hl 3 rfl) ?_
        have hi49 := h.1
        replace h := h.2
        refine c_calli hw (va_runV (As := [.int x3]) (rest := [.int (a.1 71 ((a.1 0 10) + x3).toNatClampNeg)]) S (ctJ_charAt l D dA ad fv A a x1 hx1 x3 hi49 (fun r9 a9 => r9 = (chJ x1 x3) ∧ a = a9) ⟨rfl, rfl⟩) (cwJ_charAt hts ⟨Nat.le_of_ble_eq_true rfl, Nat.le_of_ble_eq_true rfl⟩) (c_preStr hw hx1) rfl rfl hl.1 rfl (lv_room (Nat.le_of_ble_eq_true rfl)) dX0_isWord_49 ⟨Nat.le_of_ble_eq_true rfl, Nat.le_of_ble_eq_true rfl⟩) (fun r49 a49 H locs h9 hw => ?_)
        obtain ⟨e9, e8⟩ := h9
        subst e9
        subst e8
        refine lv_icmp_ne (tgt := 59) hx hb dX0_isWord_52 (by decide) (fun c52 => ?_) (fun c52 => ?_)
        · replace h := if_f c52 h
          refine lv_iconst (v := (0 : Int32)) hx hb dX0_isWord_59 (by decide) ?_
          refine lv_istore_n (lv' := [(2, .int (0 : Int32)), (0, .ref (ad 0)), (1, .ref (ad (x1 + 95))), (3, .int x3)]) hx hb dX0_isWord_60 rfl hl (by decide) rfl (fun ls hl => ?_)
          refine lv_iinc (v := (x3 + (1 : Int32))) (lv' := [(3, .int (x3 + (1 : Int32))), (2, .int (0 : Int32)), (0, .ref (ad 0)), (1, .ref (ad (x1 + 95)))]) hx hb dX0_isWord_61 hl (k := 3) rfl rfl (by decide) rfl (fun ls hl => ?_)
          refine lv_goto (tgt := 24) hx hb dX0_isWord_64 (by decide) ?_
          exact ih _ _ _ _ _ _ h hw (lv_sub hl [2, 3, 1, 0] rfl)
        · replace h := if_t c52 h
          refine lv_iconst (v := (1 : Int32)) hx hb dX0_isWord_55 (by decide) ?_
          refine lv_goto (tgt := 60) hx hb dX0_isWord_56 (by decide) ?_
          refine lv_istore_n (lv' := [(2, .int (1 : Int32)), (0, .ref (ad 0)), (1, .ref (ad (x1 + 95))), (3, .int x3)]) hx hb dX0_isWord_60 rfl hl (by decide) rfl (fun ls hl => ?_)
          refine lv_iinc (v := (x3 + (1 : Int32))) (lv' := [(3, .int (x3 + (1 : Int32))), (2, .int (1 : Int32)), (0, .ref (ad 0)), (1, .ref (ad (x1 + 95)))]) hx hb dX0_isWord_61 hl (k := 3) rfl rfl (by decide) rfl (fun ls hl => ?_)
          refine lv_goto (tgt := 24) hx hb dX0_isWord_64 (by decide) ?_
          exact ih _ _ _ _ _ _ h hw (lv_sub hl [2, 3, 1, 0] rfl)
def bkC_X0_isWord_21 (Q : Int32 → CS → Prop) (x1 : Nat) : Int32 → CS → Prop := fun s0 a => ∃ n24, bkC_X0_isWord_24 Q x1 n24 s0 (0 : Int32) a
set_option maxHeartbeats 4000000 in
set_option maxRecDepth 100000 in
theorem wkC_X0_isWord_21 (S : CallFix p m c cX0_isWord 4 s args lw_all RX0) (hr : meth.sig.returnType = (some .boolean)) (hlk : meth.locks = false) (Q : Int32 → CS → Prop) (x1 : Nat) (hx1 : x1 < 3) : ∀ (s0 : Int32) (a : CS) (H : Heap) (locs : List Loc) (ls : Array Slot), bkC_X0_isWord_21 Q x1 s0 a → CW D dA ad fv A a s H locs → lv_has ls 4 [(0, .ref (ad 0)), (1, .ref (ad (x1 + 95)))] → W p l e rmC_X0_isWord s m args below meth c H locs 0 0 (MQ below (cQi D dA ad fv A Q) args s 0 0 A) (F0 m 21 ls [.int s0]) := by
  have hx := S.1
  have hb := S.2.1
  have hown := S.2.2.2.1
  have hts := S.2.2.2.2
  intro s0 a H locs ls h hw hl
  unfold bkC_X0_isWord_21 at h
  refine lv_istore_n (lv' := [(2, .int s0), (0, .ref (ad 0)), (1, .ref (ad (x1 + 95)))]) hx hb dX0_isWord_21 rfl hl (by decide) rfl (fun ls hl => ?_)
  refine lv_iconst (v := (0 : Int32)) hx hb dX0_isWord_22 (by decide) ?_
  refine lv_istore_n (lv' := [(3, .int (0 : Int32)), (2, .int s0), (0, .ref (ad 0)), (1, .ref (ad (x1 + 95)))]) hx hb dX0_isWord_23 rfl hl (by decide) rfl (fun ls hl => ?_)
  obtain ⟨n24, h⟩ := h
  exact wkC_X0_isWord_24 S hr hlk Q x1 hx1 n24 _ _ _ _ _ _ h hw (lv_sub hl [2, 3, 1, 0] rfl)
def wpC_X0_isWord (a : CS) (x1 : Nat) (Q : Int32 → CS → Prop) : Prop := (x1 < 3) ∧ if ((a.1 0 11) - (a.1 0 10)) = (Int32.ofNat (lenJ.getD x1 0)) then (bkC_X0_isWord_21 Q x1 (1 : Int32) a) else (bkC_X0_isWord_21 Q x1 (0 : Int32) a)
set_option maxHeartbeats 4000000 in
set_option maxRecDepth 100000 in
theorem wkC_X0_isWord_e (S : CallFix p m c cX0_isWord 4 s args lw_all RX0) (hr : meth.sig.returnType = (some .boolean)) (hlk : meth.locks = false) (Q : Int32 → CS → Prop) (x1 : Nat) (a : CS) (H : Heap) (locs : List Loc) (ls : Array Slot) (h : wpC_X0_isWord a x1 Q) (hw : CW D dA ad fv A a s H locs) (hl : lv_has ls 4 [(0, .ref (ad 0)), (1, .ref (ad (x1 + 95)))]) : W p l e rmC_X0_isWord s m args below meth c H locs 0 0 (MQ below (cQi D dA ad fv A Q) args s 0 0 A) (F0 m 0 ls []) := by
  have hx := S.1
  have hb := S.2.1
  have hown := S.2.2.2.1
  have hts := S.2.2.2.2
  unfold wpC_X0_isWord at h
  obtain ⟨hx1, h⟩ := h
  refine lv_aload_n hx hb dX0_isWord_0 rfl (lv_at hl 0 rfl) ?_
  refine c_get S hw (n := 0) (ci := 0) (cOk.s (by decide)) (isO_K _) rfl in_X0 11 (by decide) (Or.inl q335) rfl rfl dX0_isWord_1 ?_
  refine lv_aload_n hx hb dX0_isWord_4 rfl (lv_at hl 0 rfl) ?_
  refine c_get S hw (n := 0) (ci := 0) (cOk.s (by decide)) (isO_K _) rfl in_X0 10 (by decide) (Or.inl q334) rfl rfl dX0_isWord_5 ?_
  refine lv_isub hx hb dX0_isWord_8 ?_
  refine lv_aload_n hx hb dX0_isWord_9 rfl (lv_at hl 1 rfl) ?_
  refine c_calli hw (va_runV (As := []) (rest := [.int ((a.1 0 11) - (a.1 0 10))]) S (ctJ_length l D dA ad fv A a x1 hx1 (fun r9 a9 => r9 = (Int32.ofNat (lenJ.getD x1 0)) ∧ a = a9) ⟨rfl, rfl⟩) (cwJ_length hts ⟨Nat.le_of_ble_eq_true rfl, Nat.le_of_ble_eq_true rfl⟩) (c_preStr hw hx1) rfl rfl hl.1 rfl (lv_room (Nat.le_of_ble_eq_true rfl)) dX0_isWord_10 ⟨Nat.le_of_ble_eq_true rfl, Nat.le_of_ble_eq_true rfl⟩) (fun r10 a10 H locs h9 hw => ?_)
  obtain ⟨e9, e8⟩ := h9
  subst e9
  subst e8
  refine lv_icmp_ne (tgt := 20) hx hb dX0_isWord_13 (by decide) (fun c13 => ?_) (fun c13 => ?_)
  · replace h := if_f c13 h
    refine lv_iconst (v := (0 : Int32)) hx hb dX0_isWord_20 (by decide) ?_
    exact wkC_X0_isWord_21 S hr hlk Q x1 hx1 _ _ _ _ _ h hw (lv_sub hl [0, 1] rfl)
  · replace h := if_t c13 h
    refine lv_iconst (v := (1 : Int32)) hx hb dX0_isWord_16 (by decide) ?_
    refine lv_goto (tgt := 21) hx hb dX0_isWord_17 (by decide) ?_
    exact wkC_X0_isWord_21 S hr hlk Q x1 hx1 _ _ _ _ _ h hw (lv_sub hl [0, 1] rfl)
theorem ctC_X0_isWord (l : Launch) (D : va_G) (dA : Nat → ClassId) (ad : Nat → Nat) (fv : Nat → Value) (A : Nat → Prop) (a : CS) (x1 : Nat) (Q : Int32 → CS → Prop) (h : wpC_X0_isWord a x1 Q) : Met l yX0_isWord (ws_ yX0_isWord cX0_isWord 4 (some .boolean)) rmC_X0_isWord (cPc D dA ad fv A a [.ref (ad 0), .ref (ad (x1 + 95))]) (cQi D dA ad fv A Q) 0 0 A :=
  c_met (by decide) rfl rfl rfl (Nat.le_of_ble_eq_true rfl) (fun p e s m below meth c ls S hr hlk hin2 hw hl => wkC_X0_isWord_e S hr hlk Q x1 a _ _ ls h hw hl)
theorem cwC_X0_X0_isWord {R : Room} {s : State} {args : Array Value} {rm : Room} (hts : ∀ w ∈ lw_all, w.before args s = true) (hR : rm.frames + 1 ≤ R.frames ∧ 8 + (4 + 11) + rm.locals ≤ R.locals) (hc : rm.cells = 0 := by rfl) (hs : rm.slots = 0 := by rfl) : CallW R s args RX0 RX0 247 yX0_isWord cX0_isWord 4 (some .boolean) (ws_ yX0_isWord cX0_isWord 4 (some .boolean)) rm 0 0 1 :=
  cwV 1 hts (lw_V q463 q465 qs6 q103 q466) rfl hc hs (by decide +kernel) hR
/-! X0.key -/
abbrev rmC_X0_key : Room := { frames := 6, cells := 0, slots := 0, locals := 153 }
def bkC_X0_key_50 (Q : Int32 → CS → Prop) (E : CS → Prop) : Int32 → CS → Prop := fun x1 a => wpC_X0_goes a (fun a51 => Q x1 a51) E
set_option maxHeartbeats 4000000 in
set_option maxRecDepth 100000 in
theorem wkC_X0_key_50 (S : CallFix p m c cX0_key 2 s args lw_all RX0) (hr : meth.sig.returnType = (some .int)) (hlk : meth.locks = false) (hout : ∀ pc, ∀ x ∈ c.exceptionTable.toList, covers x pc = false) (Q : Int32 → CS → Prop) (E : CS → Prop) : ∀ (x1 : Int32) (a : CS) (H : Heap) (locs : List Loc) (ls : Array Slot), bkC_X0_key_50 Q E x1 a → CW D dA ad fv A a s H locs → lv_has ls 2 [(0, .ref (ad 0)), (1, .int x1)] → W p l e rmC_X0_key s m args below meth c H locs 0 0 (MQT below (cT (cQi D dA ad fv A Q) (cE D dA ad fv A (exF ad) E)) args s 0 0 A) (F0 m 50 ls []) := by
  have hx := S.1
  have hb := S.2.1
  have hown := S.2.2.2.1
  have hts := S.2.2.2.2
  intro x1 a H locs ls h hw hl
  unfold bkC_X0_key_50 at h
  refine lv_aload_n hx hb dX0_key_50 rfl (lv_at hl 0 rfl) ?_
  refine c_callTv hw (runTV (As := []) (rest := []) S (ctC_X0_goes l D dA ad fv A a _ _ h) (cwC_X0_X0_goes hts ⟨Nat.le_of_ble_eq_true rfl, Nat.le_of_ble_eq_true rfl⟩) (c_preV hw (n := 0) (cOk.s (by decide)) (isO_K _) rfl) rfl rfl hl.1 rfl (lv_room (Nat.le_of_ble_eq_true rfl)) dX0_key_51 ⟨Nat.le_of_ble_eq_true rfl, Nat.le_of_ble_eq_true rfl⟩) (fun _ _ _ hE hw => c_leaveT hw hE hlk (hout _) (Nat.le_of_ble_eq_true rfl) (Nat.le_of_ble_eq_true rfl)) (fun a51 H locs h hw => ?_)
  refine lv_iload_n hx hb dX0_key_54 rfl (lv_at hl 1 rfl) ?_
  exact W.mono (MQ.toT (fun _ _ h9 => Or.inl h9)) (c_iret S hr hlk hw h dX0_key_55)
def bkC_X0_key_40 (Q : Int32 → CS → Prop) (E : CS → Prop) : Int32 → CS → Prop := fun s0 a => if s0 = (-1 : Int32) then (wpC_X0_wrong a (fun a47 => bkC_X0_key_50 Q E s0 a47) E) else (bkC_X0_key_50 Q E s0 a)
set_option maxHeartbeats 4000000 in
set_option maxRecDepth 100000 in
theorem wkC_X0_key_40 (S : CallFix p m c cX0_key 2 s args lw_all RX0) (hr : meth.sig.returnType = (some .int)) (hlk : meth.locks = false) (hout : ∀ pc, ∀ x ∈ c.exceptionTable.toList, covers x pc = false) (Q : Int32 → CS → Prop) (E : CS → Prop) : ∀ (s0 : Int32) (a : CS) (H : Heap) (locs : List Loc) (ls : Array Slot), bkC_X0_key_40 Q E s0 a → CW D dA ad fv A a s H locs → lv_has ls 2 [(0, .ref (ad 0))] → W p l e rmC_X0_key s m args below meth c H locs 0 0 (MQT below (cT (cQi D dA ad fv A Q) (cE D dA ad fv A (exF ad) E)) args s 0 0 A) (F0 m 40 ls [.int s0]) := by
  have hx := S.1
  have hb := S.2.1
  have hown := S.2.2.2.1
  have hts := S.2.2.2.2
  intro s0 a H locs ls h hw hl
  unfold bkC_X0_key_40 at h
  refine lv_istore_n (lv' := [(1, .int s0), (0, .ref (ad 0))]) hx hb dX0_key_40 rfl hl (by decide) rfl (fun ls hl => ?_)
  refine lv_iload_n hx hb dX0_key_41 rfl (lv_at hl 0 rfl) ?_
  refine lv_iconst (v := (-1 : Int32)) hx hb dX0_key_42 (by decide) ?_
  refine lv_icmp_ne (tgt := 50) hx hb dX0_key_43 (by decide) (fun c43 => ?_) (fun c43 => ?_)
  · replace h := if_f c43 h
    exact wkC_X0_key_50 S hr hlk hout Q E _ _ _ _ _ h hw (lv_sub hl [1, 0] rfl)
  · replace h := if_t c43 h
    refine lv_aload_n hx hb dX0_key_46 rfl (lv_at hl 1 rfl) ?_
    refine c_callTv hw (runTV (As := []) (rest := []) S (ctC_X0_wrong l D dA ad fv A a _ _ h) (cwC_X0_X0_wrong hts ⟨Nat.le_of_ble_eq_true rfl, Nat.le_of_ble_eq_true rfl⟩) (c_preV hw (n := 0) (cOk.s (by decide)) (isO_K _) rfl) rfl rfl hl.1 rfl (lv_room (Nat.le_of_ble_eq_true rfl)) dX0_key_47 ⟨Nat.le_of_ble_eq_true rfl, Nat.le_of_ble_eq_true rfl⟩) (fun _ _ _ hE hw => c_leaveT hw hE hlk (hout _) (Nat.le_of_ble_eq_true rfl) (Nat.le_of_ble_eq_true rfl)) (fun a47 H locs h hw => ?_)
    exact wkC_X0_key_50 S hr hlk hout Q E _ _ _ _ _ h hw (lv_sub hl [1, 0] rfl)
def wpC_X0_key (a : CS) (Q : Int32 → CS → Prop) (E : CS → Prop) : Prop := wpC_X0_isWord a 0 (fun r3 a3 => if r3 = 0 then (wpC_X0_isWord a3 1 (fun r16 a16 => if r16 = 0 then (wpC_X0_isWord a16 2 (fun r29 a29 => if r29 = 0 then (bkC_X0_key_40 Q E (-1 : Int32) a29) else (bkC_X0_key_40 Q E (2 : Int32) a29))) else (bkC_X0_key_40 Q E (1 : Int32) a16))) else (bkC_X0_key_40 Q E (0 : Int32) a3))
set_option maxHeartbeats 4000000 in
set_option maxRecDepth 100000 in
theorem wkC_X0_key_e (S : CallFix p m c cX0_key 2 s args lw_all RX0) (hr : meth.sig.returnType = (some .int)) (hlk : meth.locks = false) (hout : ∀ pc, ∀ x ∈ c.exceptionTable.toList, covers x pc = false) (Q : Int32 → CS → Prop) (E : CS → Prop) (a : CS) (H : Heap) (locs : List Loc) (ls : Array Slot) (h : wpC_X0_key a Q E) (hw : CW D dA ad fv A a s H locs) (hl : lv_has ls 2 [(0, .ref (ad 0))]) : W p l e rmC_X0_key s m args below meth c H locs 0 0 (MQT below (cT (cQi D dA ad fv A Q) (cE D dA ad fv A (exF ad) E)) args s 0 0 A) (F0 m 0 ls []) := by
  have hx := S.1
  have hb := S.2.1
  have hown := S.2.2.2.1
  have hts := S.2.2.2.2
  unfold wpC_X0_key at h
  refine lv_aload_n hx hb dX0_key_0 rfl (lv_at hl 0 rfl) ?_
  refine va_ldcS hx hb hown hw.kw.2.1.1 dX0_key_1 ?_
  refine c_calli hw (va_runV (As := [.ref (ad 95)]) (rest := []) S (ctC_X0_isWord l D dA ad fv A a 0 _ h) (cwC_X0_X0_isWord hts ⟨Nat.le_of_ble_eq_true rfl, Nat.le_of_ble_eq_true rfl⟩) (c_preV hw (n := 0) (cOk.s (by decide)) (isO_K _) rfl) rfl rfl hl.1 rfl (lv_room (Nat.le_of_ble_eq_true rfl)) dX0_key_3 ⟨Nat.le_of_ble_eq_true rfl, Nat.le_of_ble_eq_true rfl⟩) (fun r3 a3 H locs h hw => ?_)
  refine lv_if_eq (tgt := 13) hx hb dX0_key_6 (by decide) (fun c6 => ?_) (fun c6 => ?_)
  · replace h := if_t c6 h
    refine lv_aload_n hx hb dX0_key_13 rfl (lv_at hl 0 rfl) ?_
    refine va_ldcS hx hb hown hw.kw.2.1.2.1 dX0_key_14 ?_
    refine c_calli hw (va_runV (As := [.ref (ad 96)]) (rest := []) S (ctC_X0_isWord l D dA ad fv A a3 1 _ h) (cwC_X0_X0_isWord hts ⟨Nat.le_of_ble_eq_true rfl, Nat.le_of_ble_eq_true rfl⟩) (c_preV hw (n := 0) (cOk.s (by decide)) (isO_K _) rfl) rfl rfl hl.1 rfl (lv_room (Nat.le_of_ble_eq_true rfl)) dX0_key_16 ⟨Nat.le_of_ble_eq_true rfl, Nat.le_of_ble_eq_true rfl⟩) (fun r16 a16 H locs h hw => ?_)
    refine lv_if_eq (tgt := 26) hx hb dX0_key_19 (by decide) (fun c19 => ?_) (fun c19 => ?_)
    · replace h := if_t c19 h
      refine lv_aload_n hx hb dX0_key_26 rfl (lv_at hl 0 rfl) ?_
      refine va_ldcS hx hb hown hw.kw.2.1.2.2 dX0_key_27 ?_
      refine c_calli hw (va_runV (As := [.ref (ad 97)]) (rest := []) S (ctC_X0_isWord l D dA ad fv A a16 2 _ h) (cwC_X0_X0_isWord hts ⟨Nat.le_of_ble_eq_true rfl, Nat.le_of_ble_eq_true rfl⟩) (c_preV hw (n := 0) (cOk.s (by decide)) (isO_K _) rfl) rfl rfl hl.1 rfl (lv_room (Nat.le_of_ble_eq_true rfl)) dX0_key_29 ⟨Nat.le_of_ble_eq_true rfl, Nat.le_of_ble_eq_true rfl⟩) (fun r29 a29 H locs h hw => ?_)
      refine lv_if_eq (tgt := 39) hx hb dX0_key_32 (by decide) (fun c32 => ?_) (fun c32 => ?_)
      · replace h := if_t c32 h
        refine lv_iconst (v := (-1 : Int32)) hx hb dX0_key_39 (by decide) ?_
        exact wkC_X0_key_40 S hr hlk hout Q E _ _ _ _ _ h hw (lv_sub hl [0] rfl)
      · replace h := if_f c32 h
        refine lv_iconst (v := (2 : Int32)) hx hb dX0_key_35 (by decide) ?_
        refine lv_goto (tgt := 40) hx hb dX0_key_36 (by decide) ?_
        exact wkC_X0_key_40 S hr hlk hout Q E _ _ _ _ _ h hw (lv_sub hl [0] rfl)
    · replace h := if_f c19 h
      refine lv_iconst (v := (1 : Int32)) hx hb dX0_key_22 (by decide) ?_
      refine lv_goto (tgt := 40) hx hb dX0_key_23 (by decide) ?_
      exact wkC_X0_key_40 S hr hlk hout Q E _ _ _ _ _ h hw (lv_sub hl [0] rfl)
  · replace h := if_f c6 h
    refine lv_iconst (v := (0 : Int32)) hx hb dX0_key_9 (by decide) ?_
    refine lv_goto (tgt := 40) hx hb dX0_key_10 (by decide) ?_
    exact wkC_X0_key_40 S hr hlk hout Q E _ _ _ _ _ h hw (lv_sub hl [0] rfl)
theorem ctC_X0_key (l : Launch) (D : va_G) (dA : Nat → ClassId) (ad : Nat → Nat) (fv : Nat → Value) (A : Nat → Prop) (a : CS) (Q : Int32 → CS → Prop) (E : CS → Prop) (h : wpC_X0_key a Q E) : MetT l yX0_key (ws_ yX0_key cX0_key 2 (some .int)) rmC_X0_key (cPc D dA ad fv A a [.ref (ad 0)]) (cT (cQi D dA ad fv A Q) (cE D dA ad fv A (exF ad) E)) 0 0 A :=
  c_metT (by decide) rfl rfl rfl (Nat.le_of_ble_eq_true rfl) (fun p e s m below meth c ls S hr hlk hout hw hl => wkC_X0_key_e S hr hlk hout Q E a _ _ ls h hw hl)
theorem cwC_X0_X0_key {R : Room} {s : State} {args : Array Value} {rm : Room} (hts : ∀ w ∈ lw_all, w.before args s = true) (hR : rm.frames + 1 ≤ R.frames ∧ 8 + (2 + 11) + rm.locals ≤ R.locals) (hc : rm.cells = 0 := by rfl) (hs : rm.slots = 0 := by rfl) : CallW R s args RX0 RX0 255 yX0_key cX0_key 2 (some .int) (ws_ yX0_key cX0_key 2 (some .int)) rm 0 0 0 :=
  cwV 0 hts (lw_V q458 q460 qs5 q103 q461) rfl hc hs (by decide +kernel) hR
/-! X0.textRead -/
abbrev rmC_X0_textRead : Room := { frames := 809, cells := 4, slots := 198, locals := 17595 }
def bkC_X0_textRead_60 (Q : Nat → CS → Prop) (E : CS → Prop) : Nat → CS → Prop := fun x1 a => ∀ o60 : Nat, 1000 ≤ o60 → (a.2.2.1 o60).1 = 0 → ∀ a60 : CS, a60 = wN a o60 (114, 0) → (wpC_X14_init a60 o60 (a60.1 0 16) x1 (a60.1 0 15) (fun a73 => Q o60 a73))
set_option maxHeartbeats 4000000 in
set_option maxRecDepth 100000 in
theorem wkC_X0_textRead_60 (S : CallFix p m c cX0_textRead 2 s args lw_all RX0) (hr : meth.sig.returnType = (some (.object "KeptLeaves$Text"))) (hlk : meth.locks = false) (hout : ∀ pc, ∀ x ∈ c.exceptionTable.toList, covers x pc = false) (Q : Nat → CS → Prop) (E : CS → Prop) : ∀ (x1 : Nat) (a : CS) (H : Heap) (locs : List Loc) (ls : Array Slot), bkC_X0_textRead_60 Q E x1 a → CW D dA ad fv A a s H locs → lv_has ls 2 [(0, .ref (ad 0)), (1, .ref (ad x1))] → W p l e rmC_X0_textRead s m args below meth c H locs 3 195 (MQT below (cT (cQr D dA ad fv A Q) (cE D dA ad fv A (exF ad) E)) args s 4 198 A) (F0 m 60 ls []) := by
  have hx := S.1
  have hb := S.2.1
  have hown := S.2.2.2.1
  have hts := S.2.2.2.2
  intro x1 a H locs ls h hw hl
  unfold bkC_X0_textRead_60 at h
  refine c_new S hw (ci := 14) (fs := [.int 0, .null, .int 0]) in_X14 tyX14 tyX14_ok q580 q581 q127 rfl (fun j hj => by rcases (show j = 0 ∨ j = 1 ∨ j = 2 by omega) with rfl | rfl | rfl <;> rfl) (cell_new (fun n hn => by simp [dCell, rv, rq, va_rf])) (Nat.le_of_ble_eq_true rfl) (Nat.le_of_ble_eq_true rfl) dX0_textRead_60 (fun o60 a60 H go60 zo60 ea60 hw => ?_)
  replace h := h o60 go60 zo60 a60 ea60
  refine W.widen (k := 4) (n := 198) (Nat.le_of_ble_eq_true rfl) (Nat.le_of_ble_eq_true rfl) ?_
  refine lv_dup hx hb dX0_textRead_63 rfl ?_
  refine lv_aload_n hx hb dX0_textRead_64 rfl (lv_at hl 0 rfl) ?_
  refine c_get S hw (n := 0) (ci := 0) (cOk.s (by decide)) (isO_K _) rfl in_X0 16 (by decide) (Or.inl q340) rfl rfl dX0_textRead_65 ?_
  refine lv_aload_n hx hb dX0_textRead_68 rfl (lv_at hl 1 rfl) ?_
  refine lv_aload_n hx hb dX0_textRead_69 rfl (lv_at hl 0 rfl) ?_
  refine c_get S hw (n := 0) (ci := 0) (cOk.s (by decide)) (isO_K _) rfl in_X0 15 (by decide) (Or.inl q339) rfl rfl dX0_textRead_70 ?_
  refine c_callv hw (va_runI (As := [.int (a60.1 0 16), .ref (ad x1), .int (a60.1 0 15)]) (rest := [.ref (ad o60)]) S (ctC_X14_init l D dA ad fv A a60 o60 (a60.1 0 16) x1 (a60.1 0 15) _ h) (cwC_X0_X14_init hts ⟨Nat.le_of_ble_eq_true rfl, Nat.le_of_ble_eq_true rfl⟩) (c_preS hw) rfl rfl hl.1 rfl (lv_room (Nat.le_of_ble_eq_true rfl)) dX0_textRead_73 ⟨Nat.le_of_ble_eq_true rfl, Nat.le_of_ble_eq_true rfl⟩) (fun a73 H locs h hw => ?_)
  exact W.mono (MQ.toT (fun _ _ h9 => Or.inl h9)) (c_aret S hr hlk hw h ⟨_, rfl⟩ dX0_textRead_76)
def wpC_X0_textRead (a : CS) (Q : Nat → CS → Prop) (E : CS → Prop) : Prop := ∀ a5 : CS, a5 = wI a 0 12 (a.1 0 8) → (∀ a10 : CS, a10 = wI a5 0 11 (0 : Int32) → (∀ a15 : CS, a15 = wI a10 0 13 (0 : Int32) → (∀ a20 : CS, a20 = wI a15 0 14 (0 : Int32) → (∀ a25 : CS, a25 = wI a20 0 15 (0 : Int32) → (wpC_X0_goes a25 (fun a29 => wpC_X0_key a29 (fun r34 a34 => ∀ a37 : CS, a37 = wI a34 0 16 r34 → (wpC_X0_expression a37 (fun r41 a41 => if (a41.1 0 12) ≤ (a41.1 0 10) then (bkC_X0_textRead_60 Q E r41 a41) else (wpC_X0_wrong a41 (fun a57 => bkC_X0_textRead_60 Q E r41 a57) E)) E)) E) E)))))
set_option maxHeartbeats 4000000 in
set_option maxRecDepth 100000 in
theorem wkC_X0_textRead_e (S : CallFix p m c cX0_textRead 2 s args lw_all RX0) (hr : meth.sig.returnType = (some (.object "KeptLeaves$Text"))) (hlk : meth.locks = false) (hout : ∀ pc, ∀ x ∈ c.exceptionTable.toList, covers x pc = false) (Q : Nat → CS → Prop) (E : CS → Prop) (a : CS) (H : Heap) (locs : List Loc) (ls : Array Slot) (h : wpC_X0_textRead a Q E) (hw : CW D dA ad fv A a s H locs) (hl : lv_has ls 2 [(0, .ref (ad 0))]) : W p l e rmC_X0_textRead s m args below meth c H locs 0 0 (MQT below (cT (cQr D dA ad fv A Q) (cE D dA ad fv A (exF ad) E)) args s 4 198 A) (F0 m 0 ls []) := by
  have hx := S.1
  have hb := S.2.1
  have hown := S.2.2.2.1
  have hts := S.2.2.2.2
  unfold wpC_X0_textRead at h
  refine lv_aload_n hx hb dX0_textRead_0 rfl (lv_at hl 0 rfl) ?_
  refine lv_aload_n hx hb dX0_textRead_1 rfl (lv_at hl 0 rfl) ?_
  refine c_get S hw (n := 0) (ci := 0) (cOk.s (by decide)) (isO_K _) rfl in_X0 8 (by decide) (Or.inl q332) rfl rfl dX0_textRead_2 ?_
  refine c_putI S hw (n := 0) (cOk.s (by decide)) isO_K rfl in_X0 tyX0 tyX0_ok nmX0 12 (by decide) (Or.inl q336) rfl rfl rfl rfl (Nat.le_of_ble_eq_true rfl) (fun _ => kset_12) dX0_textRead_5 (fun a5 H locs ea5 hw => ?_)
  replace h := h a5 ea5
  refine lv_aload_n hx hb dX0_textRead_8 rfl (lv_at hl 0 rfl) ?_
  refine lv_iconst (v := (0 : Int32)) hx hb dX0_textRead_9 (by decide) ?_
  refine c_putI S hw (n := 0) (cOk.s (by decide)) isO_K rfl in_X0 tyX0 tyX0_ok nmX0 11 (by decide) (Or.inl q335) rfl rfl rfl rfl (Nat.le_of_ble_eq_true rfl) (fun _ => kset_11) dX0_textRead_10 (fun a10 H locs ea10 hw => ?_)
  replace h := h a10 ea10
  refine lv_aload_n hx hb dX0_textRead_13 rfl (lv_at hl 0 rfl) ?_
  refine lv_iconst (v := (0 : Int32)) hx hb dX0_textRead_14 (by decide) ?_
  refine c_putI S hw (n := 0) (cOk.s (by decide)) isO_K rfl in_X0 tyX0 tyX0_ok nmX0 13 (by decide) (Or.inl q337) rfl rfl rfl rfl (Nat.le_of_ble_eq_true rfl) (fun _ => kset_13) dX0_textRead_15 (fun a15 H locs ea15 hw => ?_)
  replace h := h a15 ea15
  refine lv_aload_n hx hb dX0_textRead_18 rfl (lv_at hl 0 rfl) ?_
  refine lv_iconst (v := (0 : Int32)) hx hb dX0_textRead_19 (by decide) ?_
  refine c_putI S hw (n := 0) (cOk.s (by decide)) isO_K rfl in_X0 tyX0 tyX0_ok nmX0 14 (by decide) (Or.inl q338) rfl rfl rfl rfl (Nat.le_of_ble_eq_true rfl) (fun _ => kset_14) dX0_textRead_20 (fun a20 H locs ea20 hw => ?_)
  replace h := h a20 ea20
  refine lv_aload_n hx hb dX0_textRead_23 rfl (lv_at hl 0 rfl) ?_
  refine lv_iconst (v := (0 : Int32)) hx hb dX0_textRead_24 (by decide) ?_
  refine c_putI S hw (n := 0) (cOk.s (by decide)) isO_K rfl in_X0 tyX0 tyX0_ok nmX0 15 (by decide) (Or.inl q339) rfl rfl rfl rfl (Nat.le_of_ble_eq_true rfl) (fun _ => kset_15) dX0_textRead_25 (fun a25 H locs ea25 hw => ?_)
  replace h := h a25 ea25
  refine lv_aload_n hx hb dX0_textRead_28 rfl (lv_at hl 0 rfl) ?_
  refine c_callTv hw (runTV (As := []) (rest := []) S (ctC_X0_goes l D dA ad fv A a25 _ _ h) (cwC_X0_X0_goes hts ⟨Nat.le_of_ble_eq_true rfl, Nat.le_of_ble_eq_true rfl⟩) (c_preV hw (n := 0) (cOk.s (by decide)) (isO_K _) rfl) rfl rfl hl.1 rfl (lv_room (Nat.le_of_ble_eq_true rfl)) dX0_textRead_29 ⟨Nat.le_of_ble_eq_true rfl, Nat.le_of_ble_eq_true rfl⟩) (fun _ _ _ hE hw => c_leaveT hw hE hlk (hout _) (Nat.le_of_ble_eq_true rfl) (Nat.le_of_ble_eq_true rfl)) (fun a29 H locs h hw => ?_)
  refine lv_aload_n hx hb dX0_textRead_32 rfl (lv_at hl 0 rfl) ?_
  refine lv_aload_n hx hb dX0_textRead_33 rfl (lv_at hl 0 rfl) ?_
  refine c_callTi hw (runTV (As := []) (rest := [.ref (ad 0)]) S (ctC_X0_key l D dA ad fv A a29 _ _ h) (cwC_X0_X0_key hts ⟨Nat.le_of_ble_eq_true rfl, Nat.le_of_ble_eq_true rfl⟩) (c_preV hw (n := 0) (cOk.s (by decide)) (isO_K _) rfl) rfl rfl hl.1 rfl (lv_room (Nat.le_of_ble_eq_true rfl)) dX0_textRead_34 ⟨Nat.le_of_ble_eq_true rfl, Nat.le_of_ble_eq_true rfl⟩) (fun _ _ _ hE hw => c_leaveT hw hE hlk (hout _) (Nat.le_of_ble_eq_true rfl) (Nat.le_of_ble_eq_true rfl)) (fun r34 a34 H locs h hw => ?_)
  refine c_putI S hw (n := 0) (cOk.s (by decide)) isO_K rfl in_X0 tyX0 tyX0_ok nmX0 16 (by decide) (Or.inl q340) rfl rfl rfl rfl (Nat.le_of_ble_eq_true rfl) (fun _ => kset_16) dX0_textRead_37 (fun a37 H locs ea37 hw => ?_)
  replace h := h a37 ea37
  refine lv_aload_n hx hb dX0_textRead_40 rfl (lv_at hl 0 rfl) ?_
  refine c_callTr hw (runTV (As := []) (rest := []) S (ctC_X0_expression l D dA ad fv A a37 _ _ h) (cwC_X0_X0_expression hts ⟨Nat.le_of_ble_eq_true rfl, Nat.le_of_ble_eq_true rfl⟩) (c_preV hw (n := 0) (cOk.s (by decide)) (isO_K _) rfl) rfl rfl hl.1 rfl (lv_room (Nat.le_of_ble_eq_true rfl)) dX0_textRead_41 ⟨Nat.le_of_ble_eq_true rfl, Nat.le_of_ble_eq_true rfl⟩) (fun _ _ _ hE hw => c_leaveT hw hE hlk (hout _) (Nat.le_of_ble_eq_true rfl) (Nat.le_of_ble_eq_true rfl)) (fun r41 a41 H locs h hw => ?_)
  refine W.widen (k := 3) (n := 195) (Nat.le_of_ble_eq_true rfl) (Nat.le_of_ble_eq_true rfl) ?_
  refine lv_astore_n (lv' := [(1, .ref (ad r41)), (0, .ref (ad 0))]) hx hb dX0_textRead_44 rfl hl (by decide) rfl (fun ls hl => ?_)
  refine lv_aload_n hx hb dX0_textRead_45 rfl (lv_at hl 1 rfl) ?_
  refine c_get S hw (n := 0) (ci := 0) (cOk.s (by decide)) (isO_K _) rfl in_X0 10 (by decide) (Or.inl q334) rfl rfl dX0_textRead_46 ?_
  refine lv_aload_n hx hb dX0_textRead_49 rfl (lv_at hl 1 rfl) ?_
  refine c_get S hw (n := 0) (ci := 0) (cOk.s (by decide)) (isO_K _) rfl in_X0 12 (by decide) (Or.inl q336) rfl rfl dX0_textRead_50 ?_
  refine lv_icmp_ge (tgt := 60) hx hb dX0_textRead_53 (by decide) (fun c53 => ?_) (fun c53 => ?_)
  · replace h := if_t c53 h
    exact wkC_X0_textRead_60 S hr hlk hout Q E _ _ _ _ _ h hw (lv_sub hl [1, 0] rfl)
  · replace h := if_f c53 h
    refine lv_aload_n hx hb dX0_textRead_56 rfl (lv_at hl 1 rfl) ?_
    refine c_callTv hw (runTV (As := []) (rest := []) S (ctC_X0_wrong l D dA ad fv A a41 _ _ h) (cwC_X0_X0_wrong hts ⟨Nat.le_of_ble_eq_true rfl, Nat.le_of_ble_eq_true rfl⟩) (c_preV hw (n := 0) (cOk.s (by decide)) (isO_K _) rfl) rfl rfl hl.1 rfl (lv_room (Nat.le_of_ble_eq_true rfl)) dX0_textRead_57 ⟨Nat.le_of_ble_eq_true rfl, Nat.le_of_ble_eq_true rfl⟩) (fun _ _ _ hE hw => c_leaveT hw hE hlk (hout _) (Nat.le_of_ble_eq_true rfl) (Nat.le_of_ble_eq_true rfl)) (fun a57 H locs h hw => ?_)
    exact wkC_X0_textRead_60 S hr hlk hout Q E _ _ _ _ _ h hw (lv_sub hl [1, 0] rfl)
theorem ctC_X0_textRead (l : Launch) (D : va_G) (dA : Nat → ClassId) (ad : Nat → Nat) (fv : Nat → Value) (A : Nat → Prop) (a : CS) (Q : Nat → CS → Prop) (E : CS → Prop) (h : wpC_X0_textRead a Q E) : MetT l yX0_textRead (ws_ yX0_textRead cX0_textRead 2 (some (.object "KeptLeaves$Text"))) rmC_X0_textRead (cPc D dA ad fv A a [.ref (ad 0)]) (cT (cQr D dA ad fv A Q) (cE D dA ad fv A (exF ad) E)) 4 198 A :=
  c_metT (by decide) rfl rfl rfl (Nat.le_of_ble_eq_true rfl) (fun p e s m below meth c ls S hr hlk hout hw hl => wkC_X0_textRead_e S hr hlk hout Q E a _ _ ls h hw hl)
theorem cwC_X0_X0_textRead {R : Room} {s : State} {args : Array Value} {rm : Room} (hts : ∀ w ∈ lw_all, w.before args s = true) (hR : rm.frames + 1 ≤ R.frames ∧ 8 + (2 + 11) + rm.locals ≤ R.locals) (hc : rm.cells = 4 := by rfl) (hs : rm.slots = 198 := by rfl) : CallW R s args RX0 RX0 267 yX0_textRead cX0_textRead 2 (some (.object "KeptLeaves$Text")) (ws_ yX0_textRead cX0_textRead 2 (some (.object "KeptLeaves$Text"))) rm 4 198 0 :=
  cwV 0 hts (lw_V q440 q442 qs2 q103 q443) rfl hc hs (by decide +kernel) hR
end CWalk

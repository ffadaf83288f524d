section CWalk
variable {p : Program} {l : Launch} {e : Env} {s : State} {m : MethodId} {args : Array Value} {below : List Frame} {meth : Method} {c : Code} {D : va_G} {dA : Nat → ClassId} {ad : Nat → Nat} {fv : Nat → Value} {A : Nat → Prop}
/-! X0.meansFrom -/
theorem cwC_X0_X0_meansFrom {R : Room} {s : State} {args : Array Value} {rm : Room} (hts : ∀ w ∈ lw_all, w.before args s = true) (hR : rm.frames + 1 ≤ R.frames ∧ 8 + (8 + 11) + rm.locals ≤ R.locals) (hc : rm.cells = 0 := by rfl) (hs : rm.slots = 0 := by rfl) : CallW R s args RX0 RX0 481 yX0_meansFrom cX0_meansFrom 8 (some .long) (ws_ yX0_meansFrom cX0_meansFrom 8 (some .long)) rm 0 0 3 :=
  cwV 3 hts (lw_V q1088 q1090 qs44 q103 q1091) rfl hc hs (by decide +kernel) hR
def bkC_X0_meansFrom_34 (P : CS → Int32 → Int32 → Int64 → (Int64 → CS → Prop) → Prop) (Q : Int64 → CS → Prop) (x1 : Int32) (x2 : Int32) (x3 : Int64) : Nat → Int64 → Int32 → CS → Prop
  | 0 => fun _ _ _ => False
  | n + 1 => fun x5 x7 a => if (a.1 1 1) ≤ x7 then (Q x5 a) else ((vp_in x1 3) ∧ (∀ a53 : CS, a53 = wI a 79 x1.toNatClampNeg x7 → ((vp_in x7 8) ∧ ((leafK a53 (a53.2.1 41 x7.toNatClampNeg)) ∧ (P a53 (x1 + (1 : Int32)) x2 (x3 * (a53.1 (a53.2.1 41 x7.toNatClampNeg) 2).toInt64) (fun r77 a77 => bkC_X0_meansFrom_34 P Q x1 x2 x3 n (x5 + r77) (x7 + (1 : Int32)) a77))))))
set_option maxHeartbeats 4000000 in
set_option maxRecDepth 100000 in
theorem wkC_X0_meansFrom_34 {F0_ L0_ : Nat} {P : CS → Int32 → Int32 → Int64 → (Int64 → CS → Prop) → Prop} (hPc : ∀ a x1 x2 x3 Q, P a x1 x2 x3 Q → Met l yX0_meansFrom (ws_ yX0_meansFrom cX0_meansFrom 8 (some .long)) { frames := F0_, cells := 0, slots := 0, locals := L0_ } (cPc D dA ad fv A a [.ref (ad 0), .int x1, .int x2, .long x3]) (cQl D dA ad fv A Q) 0 0 A) (S : CallFix p m c cX0_meansFrom 8 s args lw_all RX0) (hr : meth.sig.returnType = (some .long)) (hlk : meth.locks = false) (Q : Int64 → CS → Prop) (x1 : Int32) (x2 : Int32) (x3 : Int64) : ∀ (n : Nat) (x5 : Int64) (x7 : Int32) (a : CS) (H : Heap) (locs : List Loc) (ls : Array Slot), bkC_X0_meansFrom_34 P Q x1 x2 x3 n x5 x7 a → CW D dA ad fv A a s H locs → lv_has ls 8 [(0, .ref (ad 0)), (1, .int x1), (2, .int x2), (3, .long x3), (5, .long x5), (7, .int x7)] → W p l e ({ frames := F0_ + 8, cells := 0, slots := 0, locals := L0_ + 186 } : Room) s m args below meth c H locs 0 0 (MQ below (cQl D dA ad fv A Q) args s 0 0 A) (F0 m 34 ls []) := by
  have hx := S.1
  have hb := S.2.1
  have hown := S.2.2.2.1
  have hts := S.2.2.2.2
  intro n
  induction n with
  | zero =>
    intro x5 x7 a H locs ls h
    exact False.elim h
  | succ n ih =>
    intro x5 x7 a H locs ls h hw hl
    unfold bkC_X0_meansFrom_34 at h
    refine lv_iload hx hb dX0_meansFrom_34 (lv_at hl 5 rfl) ?_
    refine lv_aload_n hx hb dX0_meansFrom_36 rfl (lv_at hl 0 rfl) ?_
    refine c_get S hw (n := 0) (ci := 0) (cOk.s (by decide)) (isO_K _) rfl in_X0 0 (by decide) (Or.inl q324) rfl rfl dX0_meansFrom_37 ?_
    refine c_get S hw (n := 1) (cOk.s (by decide)) ((isO_S (by decide) (by decide)) _) rfl in_X1 1 (by decide) (Or.inr (List.mem_of_getElem? (i := 12) rfl)) rfl rfl dX0_meansFrom_40 ?_
    refine lv_icmp_ge (tgt := 89) hx hb dX0_meansFrom_43 (by decide) (fun c43 => ?_) (fun c43 => ?_)
    · replace h := if_t c43 h
      refine lv_lload hx hb dX0_meansFrom_89 (lv_at hl 4 rfl) ?_
      exact c_lret S hr hlk hw h dX0_meansFrom_91
    · replace h := if_f c43 h
      refine lv_aload_n hx hb dX0_meansFrom_46 rfl (lv_at hl 0 rfl) ?_
      refine c_get S hw (n := 0) (ci := 0) (cOk.s (by decide)) (isO_K _) rfl in_X0 24 (by decide) (Or.inl q348) rfl rfl dX0_meansFrom_47 ?_
      refine lv_iload_n hx hb dX0_meansFrom_50 rfl (lv_at hl 1 rfl) ?_
      refine lv_iload hx hb dX0_meansFrom_51 (lv_at hl 5 rfl) ?_
      have hi53 := h.1
      replace h := h.2
      refine c_ast S hw (n := 79) (by decide) (cOk.s (by decide)) (fun _ => rfl) hi53 (Or.inl ⟨rfl, rfl, dX0_meansFrom_53⟩) (fun a53 H locs ea53 hw => ?_)
      replace h := h a53 ea53
      refine lv_lload hx hb dX0_meansFrom_54 (lv_at hl 4 rfl) ?_
      refine lv_aload_n hx hb dX0_meansFrom_56 rfl (lv_at hl 0 rfl) ?_
      refine lv_iload_n hx hb dX0_meansFrom_57 rfl (lv_at hl 1 rfl) ?_
      refine lv_iconst (v := (1 : Int32)) hx hb dX0_meansFrom_58 (by decide) ?_
      refine lv_iadd hx hb dX0_meansFrom_59 ?_
      refine lv_iload_n hx hb dX0_meansFrom_60 rfl (lv_at hl 2 rfl) ?_
      refine lv_lload_n hx hb dX0_meansFrom_61 rfl (lv_at hl 3 rfl) ?_
      refine lv_aload_n hx hb dX0_meansFrom_62 rfl (lv_at hl 0 rfl) ?_
      refine c_get S hw (n := 0) (ci := 0) (cOk.s (by decide)) (isO_K _) rfl in_X0 0 (by decide) (Or.inl q324) rfl rfl dX0_meansFrom_63 ?_
      refine c_get S hw (n := 1) (cOk.s (by decide)) ((isO_S (by decide) (by decide)) _) rfl in_X1 2 (by decide) (Or.inr (List.mem_of_getElem? (i := 13) rfl)) rfl rfl dX0_meansFrom_66 ?_
      refine lv_iload hx hb dX0_meansFrom_69 (lv_at hl 5 rfl) ?_
      have hi71 := h.1
      replace h := h.2
      have hk71_0 := h.1
      replace h := h.2
      refine c_aald S hw (n := 41) (cOk.s (by decide)) ((isR_lf (by decide) (by decide)) _) rfl hi71 (rv_n hk71_0.ne) dX0_meansFrom_71 ?_
      refine c_lget S hw hk71_0 2 (by decide) (Or.inl q651) dX0_meansFrom_72 ?_
      refine lv_i2l (v := (a53.1 (a53.2.1 41 x7.toNatClampNeg) 2).toInt64) hx hb dX0_meansFrom_75 rfl ?_
      refine lv_lmul hx hb dX0_meansFrom_76 ?_
      refine c_calll hw (va_runV (As := [.int (x1 + (1 : Int32)), .int x2, .long (x3 * (a53.1 (a53.2.1 41 x7.toNatClampNeg) 2).toInt64)]) (rest := [.long x5]) S (hPc _ _ _ _ _ h) (cwC_X0_X0_meansFrom hts ⟨by dsimp only; omega, by dsimp only; omega⟩) (c_preV hw (n := 0) (cOk.s (by decide)) (isO_K _) rfl) rfl rfl hl.1 rfl (lv_room (Nat.le_of_ble_eq_true rfl)) dX0_meansFrom_77 ⟨Nat.le_of_ble_eq_true rfl, Nat.le_of_ble_eq_true rfl⟩) (fun r77 a77 H locs h hw => ?_)
      refine lv_ladd hx hb dX0_meansFrom_80 ?_
      refine lv_lstore (lv' := [(5, .long (x5 + r77)), (0, .ref (ad 0)), (1, .int x1), (2, .int x2), (3, .long x3), (7, .int x7)]) hx hb dX0_meansFrom_81 hl (by decide) rfl (fun ls hl => ?_)
      refine lv_iinc (v := (x7 + (1 : Int32))) (lv' := [(7, .int (x7 + (1 : Int32))), (5, .long (x5 + r77)), (0, .ref (ad 0)), (1, .int x1), (2, .int x2), (3, .long x3)]) hx hb dX0_meansFrom_83 hl (k := 5) rfl rfl (by decide) rfl (fun ls hl => ?_)
      refine lv_goto (tgt := 34) hx hb dX0_meansFrom_86 (by decide) ?_
      exact ih _ _ _ _ _ _ h hw (lv_sub hl [2, 3, 4, 5, 1, 0] rfl)
def wpC_X0_meansFrom (P : CS → Int32 → Int32 → Int64 → (Int64 → CS → Prop) → Prop) (a : CS) (x1 : Int32) (x2 : Int32) (x3 : Int64) (Q : Int64 → CS → Prop) : Prop := if x1 = x2 then (if (lg_cmp x3 (0 : Int64)) = 0 then (Q (0 : Int64) a) else (wpC_X0_thought a 79 x2 (fun r22 a22 => Q (x3 * r22.toInt64) a22))) else (∃ n34, bkC_X0_meansFrom_34 P Q x1 x2 x3 n34 (0 : Int64) (0 : Int32) a)
set_option maxHeartbeats 4000000 in
set_option maxRecDepth 100000 in
theorem wkC_X0_meansFrom_e {F0_ L0_ : Nat} {P : CS → Int32 → Int32 → Int64 → (Int64 → CS → Prop) → Prop} (hPc : ∀ a x1 x2 x3 Q, P a x1 x2 x3 Q → Met l yX0_meansFrom (ws_ yX0_meansFrom cX0_meansFrom 8 (some .long)) { frames := F0_, cells := 0, slots := 0, locals := L0_ } (cPc D dA ad fv A a [.ref (ad 0), .int x1, .int x2, .long x3]) (cQl D dA ad fv A Q) 0 0 A) (S : CallFix p m c cX0_meansFrom 8 s args lw_all RX0) (hr : meth.sig.returnType = (some .long)) (hlk : meth.locks = false) (Q : Int64 → CS → Prop) (x1 : Int32) (x2 : Int32) (x3 : Int64) (a : CS) (H : Heap) (locs : List Loc) (ls : Array Slot) (h : wpC_X0_meansFrom P a x1 x2 x3 Q) (hw : CW D dA ad fv A a s H locs) (hl : lv_has ls 8 [(0, .ref (ad 0)), (1, .int x1), (2, .int x2), (3, .long x3)]) : W p l e ({ frames := F0_ + 8, cells := 0, slots := 0, locals := L0_ + 186 } : Room) s m args below meth c H locs 0 0 (MQ below (cQl D dA ad fv A Q) args s 0 0 A) (F0 m 0 ls []) := by
  have hx := S.1
  have hb := S.2.1
  have hown := S.2.2.2.1
  have hts := S.2.2.2.2
  unfold wpC_X0_meansFrom at h
  refine lv_iload_n hx hb dX0_meansFrom_0 rfl (lv_at hl 1 rfl) ?_
  refine lv_iload_n hx hb dX0_meansFrom_1 rfl (lv_at hl 2 rfl) ?_
  refine lv_icmp_ne (tgt := 28) hx hb dX0_meansFrom_2 (by decide) (fun c2 => ?_) (fun c2 => ?_)
  · replace h := if_f c2 h
    refine lv_lconst (v := 0) hx hb dX0_meansFrom_28 (by decide) ?_
    refine lv_lstore (lv' := [(5, .long (0 : Int64)), (0, .ref (ad 0)), (1, .int x1), (2, .int x2), (3, .long x3)]) hx hb dX0_meansFrom_29 hl (by decide) rfl (fun ls hl => ?_)
    refine lv_iconst (v := (0 : Int32)) hx hb dX0_meansFrom_31 (by decide) ?_
    refine lv_istore (lv' := [(7, .int (0 : Int32)), (5, .long (0 : Int64)), (0, .ref (ad 0)), (1, .int x1), (2, .int x2), (3, .long x3)]) hx hb dX0_meansFrom_32 hl (by decide) rfl (fun ls hl => ?_)
    obtain ⟨n34, h⟩ := h
    exact wkC_X0_meansFrom_34 hPc S hr hlk Q x1 x2 x3 n34 _ _ _ _ _ _ h hw (lv_sub hl [2, 3, 4, 5, 1, 0] rfl)
  · replace h := if_t c2 h
    refine lv_lload_n hx hb dX0_meansFrom_5 rfl (lv_at hl 3 rfl) ?_
    refine lv_lconst (v := 0) hx hb dX0_meansFrom_6 (by decide) ?_
    refine W.lcmp hx hb dX0_meansFrom_7 ?_
    refine lv_if_ne (tgt := 15) hx hb dX0_meansFrom_8 (by decide) (fun c8 => ?_) (fun c8 => ?_)
    · replace h := if_f c8 h
      refine lv_lload_n hx hb dX0_meansFrom_15 rfl (lv_at hl 3 rfl) ?_
      refine lv_aload_n hx hb dX0_meansFrom_16 rfl (lv_at hl 0 rfl) ?_
      refine lv_aload_n hx hb dX0_meansFrom_17 rfl (lv_at hl 0 rfl) ?_
      refine c_get S hw (n := 0) (ci := 0) (cOk.s (by decide)) (isO_K _) rfl in_X0 24 (by decide) (Or.inl q348) rfl rfl dX0_meansFrom_18 ?_
      refine lv_iload_n hx hb dX0_meansFrom_21 rfl (lv_at hl 2 rfl) ?_
      refine c_calli hw (va_runV (As := [.ref (ad 79), .int x2]) (rest := [.long x3]) S (ctC_X0_thought l D dA ad fv A a 79 x2 _ h) (cwC_X0_X0_thought hts ⟨by dsimp only; omega, by dsimp only; omega⟩) (c_preV hw (n := 0) (cOk.s (by decide)) (isO_K _) rfl) rfl rfl hl.1 rfl (lv_room (Nat.le_of_ble_eq_true rfl)) dX0_meansFrom_22 ⟨Nat.le_of_ble_eq_true rfl, Nat.le_of_ble_eq_true rfl⟩) (fun r22 a22 H locs h hw => ?_)
      refine lv_i2l (v := r22.toInt64) hx hb dX0_meansFrom_25 rfl ?_
      refine lv_lmul hx hb dX0_meansFrom_26 ?_
      exact c_lret S hr hlk hw h dX0_meansFrom_27
    · replace h := if_t c8 h
      refine lv_lconst (v := 0) hx hb dX0_meansFrom_11 (by decide) ?_
      refine lv_goto (tgt := 27) hx hb dX0_meansFrom_12 (by decide) ?_
      exact c_lret S hr hlk hw h dX0_meansFrom_27
theorem ctC_X0_meansFrom_s (F0_ L0_ : Nat) {P : CS → Int32 → Int32 → Int64 → (Int64 → CS → Prop) → Prop} {l : Launch} {D : va_G} {dA : Nat → ClassId} {ad : Nat → Nat} {fv : Nat → Value} {A : Nat → Prop} (hPc : ∀ a x1 x2 x3 Q, P a x1 x2 x3 Q → Met l yX0_meansFrom (ws_ yX0_meansFrom cX0_meansFrom 8 (some .long)) { frames := F0_, cells := 0, slots := 0, locals := L0_ } (cPc D dA ad fv A a [.ref (ad 0), .int x1, .int x2, .long x3]) (cQl D dA ad fv A Q) 0 0 A) (a : CS) (x1 : Int32) (x2 : Int32) (x3 : Int64) (Q : Int64 → CS → Prop) (h : wpC_X0_meansFrom P a x1 x2 x3 Q) : Met l yX0_meansFrom (ws_ yX0_meansFrom cX0_meansFrom 8 (some .long)) ({ frames := F0_ + 8, cells := 0, slots := 0, locals := L0_ + 186 } : Room) (cPc D dA ad fv A a [.ref (ad 0), .int x1, .int x2, .long x3]) (cQl D dA ad fv A Q) 0 0 A :=
  c_met (by decide) rfl rfl rfl (Nat.le_of_ble_eq_true rfl) (fun p e s m below meth c ls S hr hlk _ hw hl => wkC_X0_meansFrom_e hPc S hr hlk Q x1 x2 x3 a _ _ ls h hw hl)
def wpC_X0_meansFrom_r : Nat → CS → Int32 → Int32 → Int64 → (Int64 → CS → Prop) → Prop
  | 0 => fun _ _ _ _ _ => False
  | d + 1 => wpC_X0_meansFrom (wpC_X0_meansFrom_r d)
theorem ctC_X0_meansFrom_r (l : Launch) (D : va_G) (dA : Nat → ClassId) (ad : Nat → Nat) (fv : Nat → Value) (A : Nat → Prop) : ∀ (d : Nat) (a : CS) (x1 : Int32) (x2 : Int32) (x3 : Int64) (Q : Int64 → CS → Prop), wpC_X0_meansFrom_r d a x1 x2 x3 Q → Met l yX0_meansFrom (ws_ yX0_meansFrom cX0_meansFrom 8 (some .long)) { frames := d * 8, cells := 0, slots := 0, locals := d * 186 } (cPc D dA ad fv A a [.ref (ad 0), .int x1, .int x2, .long x3]) (cQl D dA ad fv A Q) 0 0 A := by
  intro d
  induction d with
  | zero => intro a x1 x2 x3 Q h; exact False.elim h
  | succ d ih =>
    intro a x1 x2 x3 Q h
    have h9 := ctC_X0_meansFrom_s (d * 8) (d * 186) ih a x1 x2 x3 Q h
    rw [Nat.succ_mul, Nat.succ_mul]
    exact h9
/-! X0.means -/
abbrev rmC_X0_means : Room := { frames := 33, cells := 0, slots := 0, locals := 771 }
def wpC_X0_means (a : CS) (x1 : Int32) (Q : Int64 → CS → Prop) : Prop := wpC_X0_isIn a x1 (1 : Int32) (3 : Int32) (fun r3 a3 => if r3 = 0 then (Q (-1000000001 : Int64) a3) else (wpC_X0_learns a3 (fun a14 => wpC_X0_meansFrom_r 4 a14 (0 : Int32) x1 (1 : Int64) (fun r21 a21 => Q r21 a21))))
set_option maxHeartbeats 4000000 in
set_option maxRecDepth 100000 in
theorem wkC_X0_means_e (S : CallFix p m c cX0_means 2 s args lw_all RX0) (hr : meth.sig.returnType = (some .long)) (hlk : meth.locks = false) (Q : Int64 → CS → Prop) (x1 : Int32) (a : CS) (H : Heap) (locs : List Loc) (ls : Array Slot) (h : wpC_X0_means a x1 Q) (hw : CW D dA ad fv A a s H locs) (hl : lv_has ls 2 [(0, .ref (ad 0)), (1, .int x1)]) : W p l e rmC_X0_means s m args below meth c H locs 0 0 (MQ below (cQl D dA ad fv A Q) args s 0 0 A) (F0 m 0 ls []) := by
  have hx := S.1
  have hb := S.2.1
  have hown := S.2.2.2.1
  have hts := S.2.2.2.2
  unfold wpC_X0_means at h
  refine lv_iload_n hx hb dX0_means_0 rfl (lv_at hl 1 rfl) ?_
  refine lv_iconst (v := (1 : Int32)) hx hb dX0_means_1 (by decide) ?_
  refine lv_iconst (v := (3 : Int32)) hx hb dX0_means_2 (by decide) ?_
  refine c_calli hw (va_runS (As := [.int x1, .int (1 : Int32), .int (3 : Int32)]) (rest := []) S (ctC_X0_isIn l D dA ad fv A a x1 (1 : Int32) (3 : Int32) _ h) (cwC_X0_X0_isIn hts ⟨Nat.le_of_ble_eq_true rfl, Nat.le_of_ble_eq_true rfl⟩) (c_preS hw) rfl rfl hl.1 rfl (lv_room (Nat.le_of_ble_eq_true rfl)) dX0_means_3 ⟨Nat.le_of_ble_eq_true rfl, Nat.le_of_ble_eq_true rfl⟩) (fun r3 a3 H locs h hw => ?_)
  refine lv_if_ne (tgt := 13) hx hb dX0_means_6 (by decide) (fun c6 => ?_) (fun c6 => ?_)
  · replace h := if_f c6 h
    refine lv_aload_n hx hb dX0_means_13 rfl (lv_at hl 0 rfl) ?_
    refine c_callv hw (va_runV (As := []) (rest := []) S (ctC_X0_learns l D dA ad fv A a3 _ h) (cwC_X0_X0_learns hts ⟨Nat.le_of_ble_eq_true rfl, Nat.le_of_ble_eq_true rfl⟩) (c_preV hw (n := 0) (cOk.s (by decide)) (isO_K _) rfl) rfl rfl hl.1 rfl (lv_room (Nat.le_of_ble_eq_true rfl)) dX0_means_14 ⟨Nat.le_of_ble_eq_true rfl, Nat.le_of_ble_eq_true rfl⟩) (fun a14 H locs h hw => ?_)
    refine lv_aload_n hx hb dX0_means_17 rfl (lv_at hl 0 rfl) ?_
    refine lv_iconst (v := (0 : Int32)) hx hb dX0_means_18 (by decide) ?_
    refine lv_iload_n hx hb dX0_means_19 rfl (lv_at hl 1 rfl) ?_
    refine lv_lconst (v := 1) hx hb dX0_means_20 (by decide) ?_
    refine c_calll hw (va_runV (As := [.int (0 : Int32), .int x1, .long (1 : Int64)]) (rest := []) S (ctC_X0_meansFrom_r l D dA ad fv A 4 a14 (0 : Int32) x1 (1 : Int64) _ h) (cwC_X0_X0_meansFrom hts ⟨Nat.le_of_ble_eq_true rfl, Nat.le_of_ble_eq_true rfl⟩) (c_preV hw (n := 0) (cOk.s (by decide)) (isO_K _) rfl) rfl rfl hl.1 rfl (lv_room (Nat.le_of_ble_eq_true rfl)) dX0_means_21 ⟨Nat.le_of_ble_eq_true rfl, Nat.le_of_ble_eq_true rfl⟩) (fun r21 a21 H locs h hw => ?_)
    exact c_lret S hr hlk hw h dX0_means_24
  · replace h := if_t c6 h
    refine lv_ldc2 hx hb hown (hts _ q1087) dX0_means_9 ?_
    exact c_lret S hr hlk hw h dX0_means_12
theorem ctC_X0_means (l : Launch) (D : va_G) (dA : Nat → ClassId) (ad : Nat → Nat) (fv : Nat → Value) (A : Nat → Prop) (a : CS) (x1 : Int32) (Q : Int64 → CS → Prop) (h : wpC_X0_means a x1 Q) : Met l yX0_means (ws_ yX0_means cX0_means 2 (some .long)) rmC_X0_means (cPc D dA ad fv A a [.ref (ad 0), .int x1]) (cQl D dA ad fv A Q) 0 0 A :=
  c_met (by decide) rfl rfl rfl (Nat.le_of_ble_eq_true rfl) (fun p e s m below meth c ls S hr hlk hin2 hw hl => wkC_X0_means_e S hr hlk Q x1 a _ _ ls h hw hl)
end CWalk

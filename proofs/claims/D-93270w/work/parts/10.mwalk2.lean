section MWalk
variable {p : Program} {l : Launch} {e : Env} {s : State} {m : MethodId} {args : Array Value} {below : List Frame} {meth : Method} {c : Code} {D : va_G} {dA : Nat → ClassId} {ad : Nat → Nat} {A : Nat → Prop}
/-! sets -/
abbrev rmM_sets : Room := { frames := 0, cells := 0, slots := 0, locals := 0 }
def wpM_sets (a : MS) (Q : Int32 → MS → Prop) : Prop := Q (ishl (1 : Int32) (a 0 (0 : Int32).toNatClampNeg)) a
set_option maxHeartbeats 4000000 in
set_option maxRecDepth 100000 in
theorem wkM_sets_e (S : CallFix p m c cX6_sets 1 s args lw_all RX6) (hr : meth.sig.returnType = (some .int)) (hlk : meth.locks = false) (Q : Int32 → MS → Prop) (a : MS) (H : Heap) (locs : List Loc) (ls : Array Slot) (h : wpM_sets a Q) (hw : MW D dA ad A a s H locs) (hl : lv_has ls 1 [(0, .ref (ad 38))]) : W p l e rmM_sets s m args below meth c H locs 0 0 (MQ below (mQi D dA ad A Q) args s 0 0 A) (F0 m 0 ls []) := by
  have hx := S.1
  have hb := S.2.1
  have hown := S.2.2.2.1
  have hts := S.2.2.2.2
  unfold wpM_sets at h
  refine lv_iconst (v := (1 : Int32)) hx hb dX6_sets_0 (by decide) ?_
  refine lv_aload_n hx hb dX6_sets_1 rfl (lv_at hl 0 rfl) ?_
  refine m_get S hw 0 (by decide) q1338 rfl rfl dX6_sets_2 ?_
  refine lv_iconst (v := (0 : Int32)) hx hb dX6_sets_5 (by decide) ?_
  refine m_ald S hw 1 0 3098 rfl (by decide) rfl (vlit (by decide)) dX6_sets_6 ?_
  refine lv_ishl hx hb dX6_sets_7 ?_
  exact m_iret S hr hlk hw h dX6_sets_8
theorem ctM_sets (l : Launch) (D : va_G) (dA : Nat → ClassId) (ad : Nat → Nat) (A : Nat → Prop) (a : MS) (Q : Int32 → MS → Prop) (h : wpM_sets a Q) : Met l yX6_sets (ws_ yX6_sets cX6_sets 1 (some .int)) rmM_sets (mPc D dA ad A a [.ref (ad 38)]) (mQi D dA ad A Q) 0 0 A :=
  m_met (by decide) rfl rfl rfl (Nat.le_of_ble_eq_true rfl) (fun p e s m below meth c ls S hr hlk hw hl => wkM_sets_e S hr hlk Q a _ _ ls h hw hl)
theorem cwM_sets {R : Room} {s : State} {args : Array Value} {rm : Room} (hts : ∀ w ∈ lw_all, w.before args s = true) (hR : rm.frames + 1 ≤ R.frames ∧ 8 + (1 + 11) + rm.locals ≤ R.locals) (hc : rm.cells = 0 := by rfl) (hs : rm.slots = 0 := by rfl) : CallW R s args RX6 RX6 201 yX6_sets cX6_sets 1 (some .int) (ws_ yX6_sets cX6_sets 1 (some .int)) rm 0 0 0 :=
  cwV 0 hts (lw_V q1676 q1678 qs78 q112 q1679) rfl hc hs (by decide +kernel) hR
/-! knowsRooms -/
abbrev rmM_knowsRooms : Room := { frames := 5, cells := 0, slots := 0, locals := 115 }
def bkM_knowsRooms_23 (Q : MS → Prop) (O6 : Int32 → MS → Prop) : Nat → Int32 → Int32 → MS → Prop
  | 0 => fun _ _ _ => False
  | n + 1 => fun x1 x2 a => if (a 0 (0 : Int32).toNatClampNeg) ≤ x2 then (O6 (x1 + (1 : Int32)) a) else (vp_in x1 256 ∧ (if ((ishr x1 x2) &&& (1 : Int32)) = (1 : Int32) then (vp_in x2 8 ∧ (vp_in x1 256 ∧ (∀ a60 : MS, a60 = up2 a 14 x1.toNatClampNeg ((a 14 x1.toNatClampNeg) + (a 12 x2.toNatClampNeg)) → (bkM_knowsRooms_23 Q O6 n x1 (x2 + (1 : Int32)) a60)))) else (vp_in x1 256 ∧ (∀ a60 : MS, a60 = up2 a 14 x1.toNatClampNeg ((a 14 x1.toNatClampNeg) + (0 : Int32)) → (bkM_knowsRooms_23 Q O6 n x1 (x2 + (1 : Int32)) a60)))))
set_option maxHeartbeats 4000000 in
set_option maxRecDepth 100000 in
theorem wkM_knowsRooms_23 (S : CallFix p m c cX6_knowsRooms 3 s args lw_all RX6) (hr : meth.sig.returnType = none) (hlk : meth.locks = false) (Q : MS → Prop) {O6 : Int32 → MS → Prop} (hO6 : ∀ (x1 : Int32) (a : MS) (H : Heap) (locs : List Loc) (ls : Array Slot), O6 x1 a → MW D dA ad A a s H locs → lv_has ls 3 [(0, .ref (ad 38)), (1, .int x1)] → W p l e rmM_knowsRooms s m args below meth c H locs 0 0 (MQ below (mQv D dA ad A Q) args s 0 0 A) (F0 m 6 ls [])) : ∀ (n : Nat) (x1 : Int32) (x2 : Int32) (a : MS) (H : Heap) (locs : List Loc) (ls : Array Slot), bkM_knowsRooms_23 Q O6 n x1 x2 a → MW D dA ad A a s H locs → lv_has ls 3 [(0, .ref (ad 38)), (1, .int x1), (2, .int x2)] → W p l e rmM_knowsRooms s m args below meth c H locs 0 0 (MQ below (mQv D dA ad A Q) args s 0 0 A) (F0 m 23 ls []) := by
  have hx := S.1
  have hb := S.2.1
  have hown := S.2.2.2.1
  have hts := S.2.2.2.2
  intro n
  induction n with
  | zero =>
    intro x1 x2 a H locs ls h
    exact False.elim h
  | succ n ih =>
    intro x1 x2 a H locs ls h hw hl
    unfold bkM_knowsRooms_23 at h
    refine lv_iload_n hx hb dX6_knowsRooms_23 rfl (lv_at hl 2 rfl) ?_
    refine lv_aload_n hx hb dX6_knowsRooms_24 rfl (lv_at hl 0 rfl) ?_
    refine m_get S hw 0 (by decide) q1338 rfl rfl dX6_knowsRooms_25 ?_
    refine lv_iconst (v := (0 : Int32)) hx hb dX6_knowsRooms_28 (by decide) ?_
    refine m_ald S hw 1 0 3098 rfl (by decide) rfl (vlit (by decide)) dX6_knowsRooms_29 ?_
    refine lv_icmp_ge (tgt := 67) hx hb dX6_knowsRooms_30 (by decide) (fun c30 => ?_) (fun c30 => ?_)
    · replace h := if_t c30 h
      refine lv_iinc (v := (x1 + (1 : Int32))) (lv' := [(1, .int (x1 + (1 : Int32))), (0, .ref (ad 38)), (2, .int x2)]) hx hb dX6_knowsRooms_67 hl (k := 1) rfl rfl (by decide) rfl (fun ls hl => ?_)
      refine lv_goto (tgt := 6) hx hb dX6_knowsRooms_70 (by decide) ?_
      exact hO6 _ _ _ _ _ h hw (lv_sub hl [1, 0] rfl)
    · replace h := if_f c30 h
      refine lv_aload_n hx hb dX6_knowsRooms_33 rfl (lv_at hl 0 rfl) ?_
      refine m_get S hw 14 (by decide) q1352 rfl rfl dX6_knowsRooms_34 ?_
      refine lv_iload_n hx hb dX6_knowsRooms_37 rfl (lv_at hl 1 rfl) ?_
      refine lv_dup2_11 hx hb dX6_knowsRooms_38 rfl rfl ?_
      refine m_ald S hw 14 14 256 rfl (by decide) rfl h.1 dX6_knowsRooms_39 ?_
      replace h := h.2
      refine lv_iload_n hx hb dX6_knowsRooms_40 rfl (lv_at hl 1 rfl) ?_
      refine lv_iload_n hx hb dX6_knowsRooms_41 rfl (lv_at hl 2 rfl) ?_
      refine lv_ishr hx hb dX6_knowsRooms_42 ?_
      refine lv_iconst (v := (1 : Int32)) hx hb dX6_knowsRooms_43 (by decide) ?_
      refine lv_iand hx hb dX6_knowsRooms_44 ?_
      refine lv_iconst (v := (1 : Int32)) hx hb dX6_knowsRooms_45 (by decide) ?_
      refine lv_icmp_ne (tgt := 58) hx hb dX6_knowsRooms_46 (by decide) (fun c46 => ?_) (fun c46 => ?_)
      · replace h := if_f c46 h
        refine lv_iconst (v := (0 : Int32)) hx hb dX6_knowsRooms_58 (by decide) ?_
        refine lv_iadd hx hb dX6_knowsRooms_59 ?_
        refine m_ast S hw 14 14 256 rfl (by decide) rfl h.1 dX6_knowsRooms_60 (fun a60 H locs ea60 hw => ?_)
        replace h := h.2 a60 ea60
        refine lv_iinc (v := (x2 + (1 : Int32))) (lv' := [(2, .int (x2 + (1 : Int32))), (0, .ref (ad 38)), (1, .int x1)]) hx hb dX6_knowsRooms_61 hl (k := 2) rfl rfl (by decide) rfl (fun ls hl => ?_)
        refine lv_goto (tgt := 23) hx hb dX6_knowsRooms_64 (by decide) ?_
        exact ih _ _ _ _ _ _ h hw (lv_sub hl [1, 2, 0] rfl)
      · replace h := if_t c46 h
        refine lv_aload_n hx hb dX6_knowsRooms_49 rfl (lv_at hl 0 rfl) ?_
        refine m_get S hw 12 (by decide) q1350 rfl rfl dX6_knowsRooms_50 ?_
        refine lv_iload_n hx hb dX6_knowsRooms_53 rfl (lv_at hl 2 rfl) ?_
        refine m_ald S hw 12 12 8 rfl (by decide) rfl h.1 dX6_knowsRooms_54 ?_
        replace h := h.2
        refine lv_goto (tgt := 59) hx hb dX6_knowsRooms_55 (by decide) ?_
        refine lv_iadd hx hb dX6_knowsRooms_59 ?_
        refine m_ast S hw 14 14 256 rfl (by decide) rfl h.1 dX6_knowsRooms_60 (fun a60 H locs ea60 hw => ?_)
        replace h := h.2 a60 ea60
        refine lv_iinc (v := (x2 + (1 : Int32))) (lv' := [(2, .int (x2 + (1 : Int32))), (0, .ref (ad 38)), (1, .int x1)]) hx hb dX6_knowsRooms_61 hl (k := 2) rfl rfl (by decide) rfl (fun ls hl => ?_)
        refine lv_goto (tgt := 23) hx hb dX6_knowsRooms_64 (by decide) ?_
        exact ih _ _ _ _ _ _ h hw (lv_sub hl [1, 2, 0] rfl)
def bkM_knowsRooms_6 (Q : MS → Prop) : Nat → Int32 → MS → Prop
  | 0 => fun _ _ => False
  | n + 1 => fun x1 a => wpM_sets a (fun r8 a8 => if r8 ≤ x1 then (Q a8) else (vp_in x1 256 ∧ (∀ a20 : MS, a20 = up2 a8 14 x1.toNatClampNeg (0 : Int32) → (∃ n23, bkM_knowsRooms_23 Q (bkM_knowsRooms_6 Q n) n23 x1 (0 : Int32) a20))))
set_option maxHeartbeats 4000000 in
set_option maxRecDepth 100000 in
theorem wkM_knowsRooms_6 (S : CallFix p m c cX6_knowsRooms 3 s args lw_all RX6) (hr : meth.sig.returnType = none) (hlk : meth.locks = false) (Q : MS → Prop) : ∀ (n : Nat) (x1 : Int32) (a : MS) (H : Heap) (locs : List Loc) (ls : Array Slot), bkM_knowsRooms_6 Q n x1 a → MW D dA ad A a s H locs → lv_has ls 3 [(0, .ref (ad 38)), (1, .int x1)] → W p l e rmM_knowsRooms s m args below meth c H locs 0 0 (MQ below (mQv D dA ad A Q) args s 0 0 A) (F0 m 6 ls []) := by
  have hx := S.1
  have hb := S.2.1
  have hown := S.2.2.2.1
  have hts := S.2.2.2.2
  intro n
  induction n with
  | zero =>
    intro x1 a H locs ls h
    exact False.elim h
  | succ n ih =>
    intro x1 a H locs ls h hw hl
    unfold bkM_knowsRooms_6 at h
    refine lv_iload_n hx hb dX6_knowsRooms_6 rfl (lv_at hl 1 rfl) ?_
    refine lv_aload_n hx hb dX6_knowsRooms_7 rfl (lv_at hl 0 rfl) ?_
    refine m_calli S hw [] [.int x1] (ctM_sets l D dA ad A a _ h) (cwM_sets hts ⟨Nat.le_of_ble_eq_true rfl, Nat.le_of_ble_eq_true rfl⟩) rfl hl.1 rfl (Nat.le_of_ble_eq_true rfl) dX6_knowsRooms_8 ⟨Nat.zero_le _, Nat.zero_le _⟩ (fun r8 a8 H locs h hw => ?_)
    refine lv_icmp_ge (tgt := 73) hx hb dX6_knowsRooms_11 (by decide) (fun c11 => ?_) (fun c11 => ?_)
    · replace h := if_t c11 h
      exact m_vret S hr hlk hw h dX6_knowsRooms_73
    · replace h := if_f c11 h
      refine lv_aload_n hx hb dX6_knowsRooms_14 rfl (lv_at hl 0 rfl) ?_
      refine m_get S hw 14 (by decide) q1352 rfl rfl dX6_knowsRooms_15 ?_
      refine lv_iload_n hx hb dX6_knowsRooms_18 rfl (lv_at hl 1 rfl) ?_
      refine lv_iconst (v := (0 : Int32)) hx hb dX6_knowsRooms_19 (by decide) ?_
      refine m_ast S hw 14 14 256 rfl (by decide) rfl h.1 dX6_knowsRooms_20 (fun a20 H locs ea20 hw => ?_)
      replace h := h.2 a20 ea20
      refine lv_iconst (v := (0 : Int32)) hx hb dX6_knowsRooms_21 (by decide) ?_
      refine lv_istore_n (lv' := [(2, .int (0 : Int32)), (0, .ref (ad 38)), (1, .int x1)]) hx hb dX6_knowsRooms_22 rfl hl (by decide) rfl (fun ls hl => ?_)
      obtain ⟨n23, h⟩ := h
      exact wkM_knowsRooms_23 S hr hlk Q ih n23 _ _ _ _ _ _ h hw (lv_sub hl [1, 2, 0] rfl)
def wpM_knowsRooms (a : MS) (Q : MS → Prop) : Prop := wpM_knows a (fun a1 => ∃ n6, bkM_knowsRooms_6 Q n6 (0 : Int32) a1)
set_option maxHeartbeats 4000000 in
set_option maxRecDepth 100000 in
theorem wkM_knowsRooms_e (S : CallFix p m c cX6_knowsRooms 3 s args lw_all RX6) (hr : meth.sig.returnType = none) (hlk : meth.locks = false) (Q : MS → Prop) (a : MS) (H : Heap) (locs : List Loc) (ls : Array Slot) (h : wpM_knowsRooms a Q) (hw : MW D dA ad A a s H locs) (hl : lv_has ls 3 [(0, .ref (ad 38))]) : W p l e rmM_knowsRooms s m args below meth c H locs 0 0 (MQ below (mQv D dA ad A Q) args s 0 0 A) (F0 m 0 ls []) := by
  have hx := S.1
  have hb := S.2.1
  have hown := S.2.2.2.1
  have hts := S.2.2.2.2
  unfold wpM_knowsRooms at h
  refine lv_aload_n hx hb dX6_knowsRooms_0 rfl (lv_at hl 0 rfl) ?_
  refine m_callv S hw [] [] (ctM_knows l D dA ad A a _ h) (cwM_knows hts ⟨Nat.le_of_ble_eq_true rfl, Nat.le_of_ble_eq_true rfl⟩) rfl hl.1 rfl (Nat.le_of_ble_eq_true rfl) dX6_knowsRooms_1 ⟨Nat.zero_le _, Nat.zero_le _⟩ (fun a1 H locs h hw => ?_)
  refine lv_iconst (v := (0 : Int32)) hx hb dX6_knowsRooms_4 (by decide) ?_
  refine lv_istore_n (lv' := [(1, .int (0 : Int32)), (0, .ref (ad 38))]) hx hb dX6_knowsRooms_5 rfl hl (by decide) rfl (fun ls hl => ?_)
  obtain ⟨n6, h⟩ := h
  exact wkM_knowsRooms_6 S hr hlk Q n6 _ _ _ _ _ h hw (lv_sub hl [1, 0] rfl)
theorem ctM_knowsRooms (l : Launch) (D : va_G) (dA : Nat → ClassId) (ad : Nat → Nat) (A : Nat → Prop) (a : MS) (Q : MS → Prop) (h : wpM_knowsRooms a Q) : Met l yX6_knowsRooms (ws_ yX6_knowsRooms cX6_knowsRooms 3 none) rmM_knowsRooms (mPc D dA ad A a [.ref (ad 38)]) (mQv D dA ad A Q) 0 0 A :=
  m_met (by decide) rfl rfl rfl (Nat.le_of_ble_eq_true rfl) (fun p e s m below meth c ls S hr hlk hw hl => wkM_knowsRooms_e S hr hlk Q a _ _ ls h hw hl)
theorem cwM_knowsRooms {R : Room} {s : State} {args : Array Value} {rm : Room} (hts : ∀ w ∈ lw_all, w.before args s = true) (hR : rm.frames + 1 ≤ R.frames ∧ 8 + (3 + 11) + rm.locals ≤ R.locals) (hc : rm.cells = 0 := by rfl) (hs : rm.slots = 0 := by rfl) : CallW R s args RX6 RX6 212 yX6_knowsRooms cX6_knowsRooms 3 none (ws_ yX6_knowsRooms cX6_knowsRooms 3 none) rm 0 0 0 :=
  cwV 0 hts (lw_V q1672 q1674 qs77 q112 q1675) rfl hc hs (by decide +kernel) hR
/-! lookWithin -/
abbrev rmM_lookWithin : Room := { frames := 1, cells := 0, slots := 0, locals := 20 }
def bkM_lookWithin_63 (Q : MS → Prop) (O2 : Int32 → MS → Prop) (O39 : Int32 → Int32 → Int32 → MS → Prop) : Int32 → Int32 → Int32 → Int32 → MS → Prop := fun x1 x2 x3 s0 a => if s0 = 0 then (O39 x1 x2 (x3 + (1 : Int32)) a) else (vp_in (x1 ^^^ (ishl (1 : Int32) x3)) 256 ∧ (if x2 ≤ (a 18 (x1 ^^^ (ishl (1 : Int32) x3)).toNatClampNeg) then (O39 x1 x2 (x3 + (1 : Int32)) a) else (vp_in (x1 ^^^ (ishl (1 : Int32) x3)) 256 ∧ (O39 x1 (a 18 (x1 ^^^ (ishl (1 : Int32) x3)).toNatClampNeg) (x3 + (1 : Int32)) a))))
set_option maxHeartbeats 4000000 in
set_option maxRecDepth 100000 in
theorem wkM_lookWithin_63 (S : CallFix p m c cX6_lookWithin 5 s args lw_all RX6) (hr : meth.sig.returnType = none) (hlk : meth.locks = false) (Q : MS → Prop) {O2 : Int32 → MS → Prop} {O39 : Int32 → Int32 → Int32 → MS → Prop} (hO2 : ∀ (x1 : Int32) (a : MS) (H : Heap) (locs : List Loc) (ls : Array Slot), O2 x1 a → MW D dA ad A a s H locs → lv_has ls 5 [(0, .ref (ad 38)), (1, .int x1)] → W p l e rmM_lookWithin s m args below meth c H locs 0 0 (MQ below (mQv D dA ad A Q) args s 0 0 A) (F0 m 2 ls [])) (hO39 : ∀ (x1 : Int32) (x2 : Int32) (x3 : Int32) (a : MS) (H : Heap) (locs : List Loc) (ls : Array Slot), O39 x1 x2 x3 a → MW D dA ad A a s H locs → lv_has ls 5 [(0, .ref (ad 38)), (1, .int x1), (2, .int x2), (3, .int x3)] → W p l e rmM_lookWithin s m args below meth c H locs 0 0 (MQ below (mQv D dA ad A Q) args s 0 0 A) (F0 m 39 ls [])) : ∀ (x1 : Int32) (x2 : Int32) (x3 : Int32) (s0 : Int32) (a : MS) (H : Heap) (locs : List Loc) (ls : Array Slot), bkM_lookWithin_63 Q O2 O39 x1 x2 x3 s0 a → MW D dA ad A a s H locs → lv_has ls 5 [(0, .ref (ad 38)), (1, .int x1), (2, .int x2), (3, .int x3)] → W p l e rmM_lookWithin s m args below meth c H locs 0 0 (MQ below (mQv D dA ad A Q) args s 0 0 A) (F0 m 63 ls [.int s0]) := by
  have hx := S.1
  have hb := S.2.1
  have hown := S.2.2.2.1
  have hts := S.2.2.2.2
  intro x1 x2 x3 s0 a H locs ls h hw hl
  unfold bkM_lookWithin_63 at h
  refine lv_istore (lv' := [(4, .int s0), (0, .ref (ad 38)), (1, .int x1), (2, .int x2), (3, .int x3)]) hx hb dX6_lookWithin_63 hl (by decide) rfl (fun ls hl => ?_)
  refine lv_iload hx hb dX6_lookWithin_65 (lv_at hl 0 rfl) ?_
  refine lv_if_eq (tgt := 97) hx hb dX6_lookWithin_67 (by decide) (fun c67 => ?_) (fun c67 => ?_)
  · replace h := if_t c67 h
    refine lv_iload_n hx hb dX6_lookWithin_97 rfl (lv_at hl 3 rfl) ?_
    refine lv_istore_n (lv' := [(2, .int x2), (4, .int s0), (0, .ref (ad 38)), (1, .int x1), (3, .int x3)]) hx hb dX6_lookWithin_98 rfl hl (by decide) rfl (fun ls hl => ?_)
    refine lv_iinc (v := (x3 + (1 : Int32))) (lv' := [(3, .int (x3 + (1 : Int32))), (2, .int x2), (4, .int s0), (0, .ref (ad 38)), (1, .int x1)]) hx hb dX6_lookWithin_99 hl (k := 4) rfl rfl (by decide) rfl (fun ls hl => ?_)
    refine lv_goto (tgt := 39) hx hb dX6_lookWithin_102 (by decide) ?_
    exact hO39 _ _ _ _ _ _ _ h hw (lv_sub hl [3, 4, 1, 0] rfl)
  · replace h := if_f c67 h
    refine lv_aload_n hx hb dX6_lookWithin_70 rfl (lv_at hl 1 rfl) ?_
    refine m_get S hw 18 (by decide) q1356 rfl rfl dX6_lookWithin_71 ?_
    refine lv_iload_n hx hb dX6_lookWithin_74 rfl (lv_at hl 2 rfl) ?_
    refine lv_iconst (v := (1 : Int32)) hx hb dX6_lookWithin_75 (by decide) ?_
    refine lv_iload_n hx hb dX6_lookWithin_76 rfl (lv_at hl 4 rfl) ?_
    refine lv_ishl hx hb dX6_lookWithin_77 ?_
    refine lv_ixor hx hb dX6_lookWithin_78 ?_
    refine m_ald S hw 18 18 256 rfl (by decide) rfl h.1 dX6_lookWithin_79 ?_
    replace h := h.2
    refine lv_iload_n hx hb dX6_lookWithin_80 rfl (lv_at hl 3 rfl) ?_
    refine lv_icmp_ge (tgt := 97) hx hb dX6_lookWithin_81 (by decide) (fun c81 => ?_) (fun c81 => ?_)
    · replace h := if_t c81 h
      refine lv_iload_n hx hb dX6_lookWithin_97 rfl (lv_at hl 3 rfl) ?_
      refine lv_istore_n (lv' := [(2, .int x2), (4, .int s0), (0, .ref (ad 38)), (1, .int x1), (3, .int x3)]) hx hb dX6_lookWithin_98 rfl hl (by decide) rfl (fun ls hl => ?_)
      refine lv_iinc (v := (x3 + (1 : Int32))) (lv' := [(3, .int (x3 + (1 : Int32))), (2, .int x2), (4, .int s0), (0, .ref (ad 38)), (1, .int x1)]) hx hb dX6_lookWithin_99 hl (k := 4) rfl rfl (by decide) rfl (fun ls hl => ?_)
      refine lv_goto (tgt := 39) hx hb dX6_lookWithin_102 (by decide) ?_
      exact hO39 _ _ _ _ _ _ _ h hw (lv_sub hl [3, 4, 1, 0] rfl)
    · replace h := if_f c81 h
      refine lv_aload_n hx hb dX6_lookWithin_84 rfl (lv_at hl 1 rfl) ?_
      refine m_get S hw 18 (by decide) q1356 rfl rfl dX6_lookWithin_85 ?_
      refine lv_iload_n hx hb dX6_lookWithin_88 rfl (lv_at hl 2 rfl) ?_
      refine lv_iconst (v := (1 : Int32)) hx hb dX6_lookWithin_89 (by decide) ?_
      refine lv_iload_n hx hb dX6_lookWithin_90 rfl (lv_at hl 4 rfl) ?_
      refine lv_ishl hx hb dX6_lookWithin_91 ?_
      refine lv_ixor hx hb dX6_lookWithin_92 ?_
      refine m_ald S hw 18 18 256 rfl (by decide) rfl h.1 dX6_lookWithin_93 ?_
      replace h := h.2
      refine lv_goto (tgt := 98) hx hb dX6_lookWithin_94 (by decide) ?_
      refine lv_istore_n (lv' := [(2, .int (a 18 (x1 ^^^ (ishl (1 : Int32) x3)).toNatClampNeg)), (4, .int s0), (0, .ref (ad 38)), (1, .int x1), (3, .int x3)]) hx hb dX6_lookWithin_98 rfl hl (by decide) rfl (fun ls hl => ?_)
      refine lv_iinc (v := (x3 + (1 : Int32))) (lv' := [(3, .int (x3 + (1 : Int32))), (2, .int (a 18 (x1 ^^^ (ishl (1 : Int32) x3)).toNatClampNeg)), (4, .int s0), (0, .ref (ad 38)), (1, .int x1)]) hx hb dX6_lookWithin_99 hl (k := 4) rfl rfl (by decide) rfl (fun ls hl => ?_)
      refine lv_goto (tgt := 39) hx hb dX6_lookWithin_102 (by decide) ?_
      exact hO39 _ _ _ _ _ _ _ h hw (lv_sub hl [3, 4, 1, 0] rfl)
def bkM_lookWithin_39 (Q : MS → Prop) (O2 : Int32 → MS → Prop) : Nat → Int32 → Int32 → Int32 → MS → Prop
  | 0 => fun _ _ _ _ => False
  | n + 1 => fun x1 x2 x3 a => if (a 0 (0 : Int32).toNatClampNeg) ≤ x3 then (vp_in x1 256 ∧ (∀ a111 : MS, a111 = up2 a 18 x1.toNatClampNeg x2 → (O2 (x1 + (1 : Int32)) a111))) else (if ((ishr x1 x3) &&& (1 : Int32)) = (1 : Int32) then (bkM_lookWithin_63 Q O2 (bkM_lookWithin_39 Q O2 n) x1 x2 x3 (1 : Int32) a) else (bkM_lookWithin_63 Q O2 (bkM_lookWithin_39 Q O2 n) x1 x2 x3 (0 : Int32) a))
set_option maxHeartbeats 4000000 in
set_option maxRecDepth 100000 in
theorem wkM_lookWithin_39 (S : CallFix p m c cX6_lookWithin 5 s args lw_all RX6) (hr : meth.sig.returnType = none) (hlk : meth.locks = false) (Q : MS → Prop) {O2 : Int32 → MS → Prop} (hO2 : ∀ (x1 : Int32) (a : MS) (H : Heap) (locs : List Loc) (ls : Array Slot), O2 x1 a → MW D dA ad A a s H locs → lv_has ls 5 [(0, .ref (ad 38)), (1, .int x1)] → W p l e rmM_lookWithin s m args below meth c H locs 0 0 (MQ below (mQv D dA ad A Q) args s 0 0 A) (F0 m 2 ls [])) : ∀ (n : Nat) (x1 : Int32) (x2 : Int32) (x3 : Int32) (a : MS) (H : Heap) (locs : List Loc) (ls : Array Slot), bkM_lookWithin_39 Q O2 n x1 x2 x3 a → MW D dA ad A a s H locs → lv_has ls 5 [(0, .ref (ad 38)), (1, .int x1), (2, .int x2), (3, .int x3)] → W p l e rmM_lookWithin s m args below meth c H locs 0 0 (MQ below (mQv D dA ad A Q) args s 0 0 A) (F0 m 39 ls []) := by
  have hx := S.1
  have hb := S.2.1
  have hown := S.2.2.2.1
  have hts := S.2.2.2.2
  intro n
  induction n with
  | zero =>
    intro x1 x2 x3 a H locs ls h
    exact False.elim h
  | succ n ih =>
    intro x1 x2 x3 a H locs ls h hw hl
    unfold bkM_lookWithin_39 at h
    refine lv_iload_n hx hb dX6_lookWithin_39 rfl (lv_at hl 3 rfl) ?_
    refine lv_aload_n hx hb dX6_lookWithin_40 rfl (lv_at hl 0 rfl) ?_
    refine m_get S hw 0 (by decide) q1338 rfl rfl dX6_lookWithin_41 ?_
    refine lv_iconst (v := (0 : Int32)) hx hb dX6_lookWithin_44 (by decide) ?_
    refine m_ald S hw 1 0 3098 rfl (by decide) rfl (vlit (by decide)) dX6_lookWithin_45 ?_
    refine lv_icmp_ge (tgt := 105) hx hb dX6_lookWithin_46 (by decide) (fun c46 => ?_) (fun c46 => ?_)
    · replace h := if_t c46 h
      refine lv_aload_n hx hb dX6_lookWithin_105 rfl (lv_at hl 0 rfl) ?_
      refine m_get S hw 18 (by decide) q1356 rfl rfl dX6_lookWithin_106 ?_
      refine lv_iload_n hx hb dX6_lookWithin_109 rfl (lv_at hl 1 rfl) ?_
      refine lv_iload_n hx hb dX6_lookWithin_110 rfl (lv_at hl 2 rfl) ?_
      refine m_ast S hw 18 18 256 rfl (by decide) rfl h.1 dX6_lookWithin_111 (fun a111 H locs ea111 hw => ?_)
      replace h := h.2 a111 ea111
      refine lv_iinc (v := (x1 + (1 : Int32))) (lv' := [(1, .int (x1 + (1 : Int32))), (0, .ref (ad 38)), (2, .int x2), (3, .int x3)]) hx hb dX6_lookWithin_112 hl (k := 1) rfl rfl (by decide) rfl (fun ls hl => ?_)
      refine lv_goto (tgt := 2) hx hb dX6_lookWithin_115 (by decide) ?_
      exact hO2 _ _ _ _ _ h hw (lv_sub hl [1, 0] rfl)
    · replace h := if_f c46 h
      refine lv_iload_n hx hb dX6_lookWithin_49 rfl (lv_at hl 1 rfl) ?_
      refine lv_iload_n hx hb dX6_lookWithin_50 rfl (lv_at hl 3 rfl) ?_
      refine lv_ishr hx hb dX6_lookWithin_51 ?_
      refine lv_iconst (v := (1 : Int32)) hx hb dX6_lookWithin_52 (by decide) ?_
      refine lv_iand hx hb dX6_lookWithin_53 ?_
      refine lv_iconst (v := (1 : Int32)) hx hb dX6_lookWithin_54 (by decide) ?_
      refine lv_icmp_ne (tgt := 62) hx hb dX6_lookWithin_55 (by decide) (fun c55 => ?_) (fun c55 => ?_)
      · replace h := if_f c55 h
        refine lv_iconst (v := (0 : Int32)) hx hb dX6_lookWithin_62 (by decide) ?_
        exact wkM_lookWithin_63 S hr hlk Q hO2 ih _ _ _ _ _ _ _ _ h hw (lv_sub hl [0, 1, 2, 3] rfl)
      · replace h := if_t c55 h
        refine lv_iconst (v := (1 : Int32)) hx hb dX6_lookWithin_58 (by decide) ?_
        refine lv_goto (tgt := 63) hx hb dX6_lookWithin_59 (by decide) ?_
        exact wkM_lookWithin_63 S hr hlk Q hO2 ih _ _ _ _ _ _ _ _ h hw (lv_sub hl [0, 1, 2, 3] rfl)
def bkM_lookWithin_36 (Q : MS → Prop) (O2 : Int32 → MS → Prop) : Int32 → Int32 → MS → Prop := fun x1 s0 a => ∃ n39, bkM_lookWithin_39 Q O2 n39 x1 s0 (0 : Int32) a
set_option maxHeartbeats 4000000 in
set_option maxRecDepth 100000 in
theorem wkM_lookWithin_36 (S : CallFix p m c cX6_lookWithin 5 s args lw_all RX6) (hr : meth.sig.returnType = none) (hlk : meth.locks = false) (Q : MS → Prop) {O2 : Int32 → MS → Prop} (hO2 : ∀ (x1 : Int32) (a : MS) (H : Heap) (locs : List Loc) (ls : Array Slot), O2 x1 a → MW D dA ad A a s H locs → lv_has ls 5 [(0, .ref (ad 38)), (1, .int x1)] → W p l e rmM_lookWithin s m args below meth c H locs 0 0 (MQ below (mQv D dA ad A Q) args s 0 0 A) (F0 m 2 ls [])) : ∀ (x1 : Int32) (s0 : Int32) (a : MS) (H : Heap) (locs : List Loc) (ls : Array Slot), bkM_lookWithin_36 Q O2 x1 s0 a → MW D dA ad A a s H locs → lv_has ls 5 [(0, .ref (ad 38)), (1, .int x1)] → W p l e rmM_lookWithin s m args below meth c H locs 0 0 (MQ below (mQv D dA ad A Q) args s 0 0 A) (F0 m 36 ls [.int s0]) := by
  have hx := S.1
  have hb := S.2.1
  have hown := S.2.2.2.1
  have hts := S.2.2.2.2
  intro x1 s0 a H locs ls h hw hl
  unfold bkM_lookWithin_36 at h
  refine lv_istore_n (lv' := [(2, .int s0), (0, .ref (ad 38)), (1, .int x1)]) hx hb dX6_lookWithin_36 rfl hl (by decide) rfl (fun ls hl => ?_)
  refine lv_iconst (v := (0 : Int32)) hx hb dX6_lookWithin_37 (by decide) ?_
  refine lv_istore_n (lv' := [(3, .int (0 : Int32)), (2, .int s0), (0, .ref (ad 38)), (1, .int x1)]) hx hb dX6_lookWithin_38 rfl hl (by decide) rfl (fun ls hl => ?_)
  obtain ⟨n39, h⟩ := h
  exact wkM_lookWithin_39 S hr hlk Q hO2 n39 _ _ _ _ _ _ _ h hw (lv_sub hl [2, 3, 1, 0] rfl)
def bkM_lookWithin_2 (Q : MS → Prop) : Nat → Int32 → MS → Prop
  | 0 => fun _ _ => False
  | n + 1 => fun x1 a => wpM_sets a (fun r4 a4 => if r4 ≤ x1 then (Q a4) else (vp_in x1 256 ∧ (if (a4 0 (3 : Int32).toNatClampNeg) < (a4 14 x1.toNatClampNeg) then (bkM_lookWithin_36 Q (bkM_lookWithin_2 Q n) x1 (1000000000 : Int32) a4) else (vp_in x1 256 ∧ (bkM_lookWithin_36 Q (bkM_lookWithin_2 Q n) x1 (a4 17 x1.toNatClampNeg) a4)))))
set_option maxHeartbeats 4000000 in
set_option maxRecDepth 100000 in
theorem wkM_lookWithin_2 (S : CallFix p m c cX6_lookWithin 5 s args lw_all RX6) (hr : meth.sig.returnType = none) (hlk : meth.locks = false) (Q : MS → Prop) : ∀ (n : Nat) (x1 : Int32) (a : MS) (H : Heap) (locs : List Loc) (ls : Array Slot), bkM_lookWithin_2 Q n x1 a → MW D dA ad A a s H locs → lv_has ls 5 [(0, .ref (ad 38)), (1, .int x1)] → W p l e rmM_lookWithin s m args below meth c H locs 0 0 (MQ below (mQv D dA ad A Q) args s 0 0 A) (F0 m 2 ls []) := by
  have hx := S.1
  have hb := S.2.1
  have hown := S.2.2.2.1
  have hts := S.2.2.2.2
  intro n
  induction n with
  | zero =>
    intro x1 a H locs ls h
    exact False.elim h
  | succ n ih =>
    intro x1 a H locs ls h hw hl
    unfold bkM_lookWithin_2 at h
    refine lv_iload_n hx hb dX6_lookWithin_2 rfl (lv_at hl 1 rfl) ?_
    refine lv_aload_n hx hb dX6_lookWithin_3 rfl (lv_at hl 0 rfl) ?_
    refine m_calli S hw [] [.int x1] (ctM_sets l D dA ad A a _ h) (cwM_sets hts ⟨Nat.le_of_ble_eq_true rfl, Nat.le_of_ble_eq_true rfl⟩) rfl hl.1 rfl (Nat.le_of_ble_eq_true rfl) dX6_lookWithin_4 ⟨Nat.zero_le _, Nat.zero_le _⟩ (fun r4 a4 H locs h hw => ?_)
    refine lv_icmp_ge (tgt := 118) hx hb dX6_lookWithin_7 (by decide) (fun c7 => ?_) (fun c7 => ?_)
    · replace h := if_t c7 h
      exact m_vret S hr hlk hw h dX6_lookWithin_118
    · replace h := if_f c7 h
      refine lv_aload_n hx hb dX6_lookWithin_10 rfl (lv_at hl 0 rfl) ?_
      refine m_get S hw 14 (by decide) q1352 rfl rfl dX6_lookWithin_11 ?_
      refine lv_iload_n hx hb dX6_lookWithin_14 rfl (lv_at hl 1 rfl) ?_
      refine m_ald S hw 14 14 256 rfl (by decide) rfl h.1 dX6_lookWithin_15 ?_
      replace h := h.2
      refine lv_aload_n hx hb dX6_lookWithin_16 rfl (lv_at hl 0 rfl) ?_
      refine m_get S hw 0 (by decide) q1338 rfl rfl dX6_lookWithin_17 ?_
      refine lv_iconst (v := (3 : Int32)) hx hb dX6_lookWithin_20 (by decide) ?_
      refine m_ald S hw 1 0 3098 rfl (by decide) rfl (vlit (by decide)) dX6_lookWithin_21 ?_
      refine lv_icmp_gt (tgt := 34) hx hb dX6_lookWithin_22 (by decide) (fun c22 => ?_) (fun c22 => ?_)
      · replace h := if_t c22 h
        refine lv_ldc hx hb hown (hts _ q1688) dX6_lookWithin_34 ?_
        exact wkM_lookWithin_36 S hr hlk Q ih _ _ _ _ _ _ h hw (lv_sub hl [0, 1] rfl)
      · replace h := if_f c22 h
        refine lv_aload_n hx hb dX6_lookWithin_25 rfl (lv_at hl 0 rfl) ?_
        refine m_get S hw 17 (by decide) q1355 rfl rfl dX6_lookWithin_26 ?_
        refine lv_iload_n hx hb dX6_lookWithin_29 rfl (lv_at hl 1 rfl) ?_
        refine m_ald S hw 17 17 256 rfl (by decide) rfl h.1 dX6_lookWithin_30 ?_
        replace h := h.2
        refine lv_goto (tgt := 36) hx hb dX6_lookWithin_31 (by decide) ?_
        exact wkM_lookWithin_36 S hr hlk Q ih _ _ _ _ _ _ h hw (lv_sub hl [0, 1] rfl)
def wpM_lookWithin (a : MS) (Q : MS → Prop) : Prop := ∃ n2, bkM_lookWithin_2 Q n2 (0 : Int32) a
set_option maxHeartbeats 4000000 in
set_option maxRecDepth 100000 in
theorem wkM_lookWithin_e (S : CallFix p m c cX6_lookWithin 5 s args lw_all RX6) (hr : meth.sig.returnType = none) (hlk : meth.locks = false) (Q : MS → Prop) (a : MS) (H : Heap) (locs : List Loc) (ls : Array Slot) (h : wpM_lookWithin a Q) (hw : MW D dA ad A a s H locs) (hl : lv_has ls 5 [(0, .ref (ad 38))]) : W p l e rmM_lookWithin s m args below meth c H locs 0 0 (MQ below (mQv D dA ad A Q) args s 0 0 A) (F0 m 0 ls []) := by
  have hx := S.1
  have hb := S.2.1
  have hown := S.2.2.2.1
  have hts := S.2.2.2.2
  unfold wpM_lookWithin at h
  refine lv_iconst (v := (0 : Int32)) hx hb dX6_lookWithin_0 (by decide) ?_
  refine lv_istore_n (lv' := [(1, .int (0 : Int32)), (0, .ref (ad 38))]) hx hb dX6_lookWithin_1 rfl hl (by decide) rfl (fun ls hl => ?_)
  obtain ⟨n2, h⟩ := h
  exact wkM_lookWithin_2 S hr hlk Q n2 _ _ _ _ _ h hw (lv_sub hl [1, 0] rfl)
theorem ctM_lookWithin (l : Launch) (D : va_G) (dA : Nat → ClassId) (ad : Nat → Nat) (A : Nat → Prop) (a : MS) (Q : MS → Prop) (h : wpM_lookWithin a Q) : Met l yX6_lookWithin (ws_ yX6_lookWithin cX6_lookWithin 5 none) rmM_lookWithin (mPc D dA ad A a [.ref (ad 38)]) (mQv D dA ad A Q) 0 0 A :=
  m_met (by decide) rfl rfl rfl (Nat.le_of_ble_eq_true rfl) (fun p e s m below meth c ls S hr hlk hw hl => wkM_lookWithin_e S hr hlk Q a _ _ ls h hw hl)
theorem cwM_lookWithin {R : Room} {s : State} {args : Array Value} {rm : Room} (hts : ∀ w ∈ lw_all, w.before args s = true) (hR : rm.frames + 1 ≤ R.frames ∧ 8 + (5 + 11) + rm.locals ≤ R.locals) (hc : rm.cells = 0 := by rfl) (hs : rm.slots = 0 := by rfl) : CallW R s args RX6 RX6 209 yX6_lookWithin cX6_lookWithin 5 none (ws_ yX6_lookWithin cX6_lookWithin 5 none) rm 0 0 0 :=
  cwV 0 hts (lw_V q1684 q1686 qs80 q112 q1687) rfl hc hs (by decide +kernel) hR
/-! leastOf -/
abbrev rmM_leastOf : Room := { frames := 2, cells := 0, slots := 0, locals := 44 }
def bkM_leastOf_213 (Q : Int32 → MS → Prop) (x1 : Int32) (O135 : Int32 → Int32 → Int32 → MS → Prop) : Int32 → Int32 → Int32 → MS → Prop := fun x2 x3 x4 a => ∀ a217 : MS, a217 = up2 a 38 19 (a 38 19) → (O135 x2 x3 (x4 + (1 : Int32)) a217)
set_option maxHeartbeats 4000000 in
set_option maxRecDepth 100000 in
theorem wkM_leastOf_213 (S : CallFix p m c cX6_leastOf 6 s args lw_all RX6) (hr : meth.sig.returnType = (some .int)) (hlk : meth.locks = false) (Q : Int32 → MS → Prop) (x1 : Int32) {O135 : Int32 → Int32 → Int32 → MS → Prop} (hO135 : ∀ (x2 : Int32) (x3 : Int32) (x4 : Int32) (a : MS) (H : Heap) (locs : List Loc) (ls : Array Slot), O135 x2 x3 x4 a → MW D dA ad A a s H locs → lv_has ls 6 [(0, .ref (ad 38)), (2, .int x2), (3, .int x3), (4, .int x4)] → W p l e rmM_leastOf s m args below meth c H locs 0 0 (MQ below (mQi D dA ad A Q) args s 0 0 A) (F0 m 135 ls [])) : ∀ (x2 : Int32) (x3 : Int32) (x4 : Int32) (a : MS) (H : Heap) (locs : List Loc) (ls : Array Slot), bkM_leastOf_213 Q x1 O135 x2 x3 x4 a → MW D dA ad A a s H locs → lv_has ls 6 [(0, .ref (ad 38)), (2, .int x2), (3, .int x3), (4, .int x4)] → W p l e rmM_leastOf s m args below meth c H locs 0 0 (MQ below (mQi D dA ad A Q) args s 0 0 A) (F0 m 213 ls [.ref (ad 38)]) := by
  have hx := S.1
  have hb := S.2.1
  have hown := S.2.2.2.1
  have hts := S.2.2.2.2
  intro x2 x3 x4 a H locs ls h hw hl
  unfold bkM_leastOf_213 at h
  refine lv_aload_n hx hb dX6_leastOf_213 rfl (lv_at hl 0 rfl) ?_
  refine m_get S hw 19 (by decide) q1357 rfl rfl dX6_leastOf_214 ?_
  refine m_puti S hw 19 (by decide) q1357 rfl rfl rfl rfl mset_19 dX6_leastOf_217 (fun a217 H locs ea217 hw => ?_)
  replace h := h a217 ea217
  refine lv_iinc (v := (x4 + (1 : Int32))) (lv' := [(4, .int (x4 + (1 : Int32))), (0, .ref (ad 38)), (2, .int x2), (3, .int x3)]) hx hb dX6_leastOf_220 hl (k := 3) rfl rfl (by decide) rfl (fun ls hl => ?_)
  refine lv_goto (tgt := 135) hx hb dX6_leastOf_223 (by decide) ?_
  exact hO135 _ _ _ _ _ _ _ h hw (lv_sub hl [1, 2, 3, 0] rfl)
def bkM_leastOf_208 (Q : Int32 → MS → Prop) (x1 : Int32) (O135 : Int32 → Int32 → Int32 → MS → Prop) : Int32 → Int32 → Int32 → MS → Prop := fun x2 x3 x4 a => ∀ a217 : MS, a217 = up2 a 38 19 x4 → (O135 x2 x3 (x4 + (1 : Int32)) a217)
set_option maxHeartbeats 4000000 in
set_option maxRecDepth 100000 in
theorem wkM_leastOf_208 (S : CallFix p m c cX6_leastOf 6 s args lw_all RX6) (hr : meth.sig.returnType = (some .int)) (hlk : meth.locks = false) (Q : Int32 → MS → Prop) (x1 : Int32) {O135 : Int32 → Int32 → Int32 → MS → Prop} (hO135 : ∀ (x2 : Int32) (x3 : Int32) (x4 : Int32) (a : MS) (H : Heap) (locs : List Loc) (ls : Array Slot), O135 x2 x3 x4 a → MW D dA ad A a s H locs → lv_has ls 6 [(0, .ref (ad 38)), (2, .int x2), (3, .int x3), (4, .int x4)] → W p l e rmM_leastOf s m args below meth c H locs 0 0 (MQ below (mQi D dA ad A Q) args s 0 0 A) (F0 m 135 ls [])) : ∀ (x2 : Int32) (x3 : Int32) (x4 : Int32) (a : MS) (H : Heap) (locs : List Loc) (ls : Array Slot), bkM_leastOf_208 Q x1 O135 x2 x3 x4 a → MW D dA ad A a s H locs → lv_has ls 6 [(0, .ref (ad 38)), (2, .int x2), (3, .int x3), (4, .int x4)] → W p l e rmM_leastOf s m args below meth c H locs 0 0 (MQ below (mQi D dA ad A Q) args s 0 0 A) (F0 m 208 ls [.ref (ad 38)]) := by
  have hx := S.1
  have hb := S.2.1
  have hown := S.2.2.2.1
  have hts := S.2.2.2.2
  intro x2 x3 x4 a H locs ls h hw hl
  unfold bkM_leastOf_208 at h
  refine lv_iload hx hb dX6_leastOf_208 (lv_at hl 3 rfl) ?_
  refine lv_goto (tgt := 217) hx hb dX6_leastOf_210 (by decide) ?_
  refine m_puti S hw 19 (by decide) q1357 rfl rfl rfl rfl mset_19 dX6_leastOf_217 (fun a217 H locs ea217 hw => ?_)
  replace h := h a217 ea217
  refine lv_iinc (v := (x4 + (1 : Int32))) (lv' := [(4, .int (x4 + (1 : Int32))), (0, .ref (ad 38)), (2, .int x2), (3, .int x3)]) hx hb dX6_leastOf_220 hl (k := 3) rfl rfl (by decide) rfl (fun ls hl => ?_)
  refine lv_goto (tgt := 135) hx hb dX6_leastOf_223 (by decide) ?_
  exact hO135 _ _ _ _ _ _ _ h hw (lv_sub hl [1, 2, 3, 0] rfl)
def bkM_leastOf_174 (Q : Int32 → MS → Prop) (x1 : Int32) (O135 : Int32 → Int32 → Int32 → MS → Prop) : Int32 → Int32 → Int32 → Int32 → MS → Prop := fun x2 x3 x4 s0 a => if s0 = 0 then (bkM_leastOf_213 Q x1 O135 x2 x3 x4 a) else (if (a 38 19) < 0 then (bkM_leastOf_208 Q x1 O135 x2 x3 x4 a) else (vp_in x4 256 ∧ (vp_in (a 38 19) 256 ∧ (if (a 17 (a 38 19).toNatClampNeg) ≤ (a 17 x4.toNatClampNeg) then (bkM_leastOf_213 Q x1 O135 x2 x3 x4 a) else (bkM_leastOf_208 Q x1 O135 x2 x3 x4 a)))))
set_option maxHeartbeats 4000000 in
set_option maxRecDepth 100000 in
theorem wkM_leastOf_174 (S : CallFix p m c cX6_leastOf 6 s args lw_all RX6) (hr : meth.sig.returnType = (some .int)) (hlk : meth.locks = false) (Q : Int32 → MS → Prop) (x1 : Int32) {O135 : Int32 → Int32 → Int32 → MS → Prop} (hO135 : ∀ (x2 : Int32) (x3 : Int32) (x4 : Int32) (a : MS) (H : Heap) (locs : List Loc) (ls : Array Slot), O135 x2 x3 x4 a → MW D dA ad A a s H locs → lv_has ls 6 [(0, .ref (ad 38)), (2, .int x2), (3, .int x3), (4, .int x4)] → W p l e rmM_leastOf s m args below meth c H locs 0 0 (MQ below (mQi D dA ad A Q) args s 0 0 A) (F0 m 135 ls [])) : ∀ (x2 : Int32) (x3 : Int32) (x4 : Int32) (s0 : Int32) (a : MS) (H : Heap) (locs : List Loc) (ls : Array Slot), bkM_leastOf_174 Q x1 O135 x2 x3 x4 s0 a → MW D dA ad A a s H locs → lv_has ls 6 [(0, .ref (ad 38)), (2, .int x2), (3, .int x3), (4, .int x4)] → W p l e rmM_leastOf s m args below meth c H locs 0 0 (MQ below (mQi D dA ad A Q) args s 0 0 A) (F0 m 174 ls [.int s0]) := by
  have hx := S.1
  have hb := S.2.1
  have hown := S.2.2.2.1
  have hts := S.2.2.2.2
  intro x2 x3 x4 s0 a H locs ls h hw hl
  unfold bkM_leastOf_174 at h
  refine lv_istore (lv' := [(5, .int s0), (0, .ref (ad 38)), (2, .int x2), (3, .int x3), (4, .int x4)]) hx hb dX6_leastOf_174 hl (by decide) rfl (fun ls hl => ?_)
  refine lv_aload_n hx hb dX6_leastOf_176 rfl (lv_at hl 1 rfl) ?_
  refine lv_iload hx hb dX6_leastOf_177 (lv_at hl 0 rfl) ?_
  refine lv_if_eq (tgt := 213) hx hb dX6_leastOf_179 (by decide) (fun c179 => ?_) (fun c179 => ?_)
  · replace h := if_t c179 h
    exact wkM_leastOf_213 S hr hlk Q x1 hO135 _ _ _ _ _ _ _ h hw (lv_sub hl [1, 2, 3, 4] rfl)
  · replace h := if_f c179 h
    refine lv_aload_n hx hb dX6_leastOf_182 rfl (lv_at hl 1 rfl) ?_
    refine m_get S hw 19 (by decide) q1357 rfl rfl dX6_leastOf_183 ?_
    refine lv_if_lt (tgt := 208) hx hb dX6_leastOf_186 (by decide) (fun c186 => ?_) (fun c186 => ?_)
    · replace h := if_t c186 h
      exact wkM_leastOf_208 S hr hlk Q x1 hO135 _ _ _ _ _ _ _ h hw (lv_sub hl [1, 2, 3, 4] rfl)
    · replace h := if_f c186 h
      refine lv_aload_n hx hb dX6_leastOf_189 rfl (lv_at hl 1 rfl) ?_
      refine m_get S hw 17 (by decide) q1355 rfl rfl dX6_leastOf_190 ?_
      refine lv_iload hx hb dX6_leastOf_193 (lv_at hl 4 rfl) ?_
      refine m_ald S hw 17 17 256 rfl (by decide) rfl h.1 dX6_leastOf_195 ?_
      replace h := h.2
      refine lv_aload_n hx hb dX6_leastOf_196 rfl (lv_at hl 1 rfl) ?_
      refine m_get S hw 17 (by decide) q1355 rfl rfl dX6_leastOf_197 ?_
      refine lv_aload_n hx hb dX6_leastOf_200 rfl (lv_at hl 1 rfl) ?_
      refine m_get S hw 19 (by decide) q1357 rfl rfl dX6_leastOf_201 ?_
      refine m_ald S hw 17 17 256 rfl (by decide) rfl h.1 dX6_leastOf_204 ?_
      replace h := h.2
      refine lv_icmp_ge (tgt := 213) hx hb dX6_leastOf_205 (by decide) (fun c205 => ?_) (fun c205 => ?_)
      · replace h := if_t c205 h
        exact wkM_leastOf_213 S hr hlk Q x1 hO135 _ _ _ _ _ _ _ h hw (lv_sub hl [1, 2, 3, 4] rfl)
      · replace h := if_f c205 h
        exact wkM_leastOf_208 S hr hlk Q x1 hO135 _ _ _ _ _ _ _ h hw (lv_sub hl [1, 2, 3, 4] rfl)
def bkM_leastOf_173 (Q : Int32 → MS → Prop) (x1 : Int32) (O135 : Int32 → Int32 → Int32 → MS → Prop) : Int32 → Int32 → Int32 → MS → Prop := fun x2 x3 x4 a => bkM_leastOf_174 Q x1 O135 x2 x3 x4 (0 : Int32) a
set_option maxHeartbeats 4000000 in
set_option maxRecDepth 100000 in
theorem wkM_leastOf_173 (S : CallFix p m c cX6_leastOf 6 s args lw_all RX6) (hr : meth.sig.returnType = (some .int)) (hlk : meth.locks = false) (Q : Int32 → MS → Prop) (x1 : Int32) {O135 : Int32 → Int32 → Int32 → MS → Prop} (hO135 : ∀ (x2 : Int32) (x3 : Int32) (x4 : Int32) (a : MS) (H : Heap) (locs : List Loc) (ls : Array Slot), O135 x2 x3 x4 a → MW D dA ad A a s H locs → lv_has ls 6 [(0, .ref (ad 38)), (2, .int x2), (3, .int x3), (4, .int x4)] → W p l e rmM_leastOf s m args below meth c H locs 0 0 (MQ below (mQi D dA ad A Q) args s 0 0 A) (F0 m 135 ls [])) : ∀ (x2 : Int32) (x3 : Int32) (x4 : Int32) (a : MS) (H : Heap) (locs : List Loc) (ls : Array Slot), bkM_leastOf_173 Q x1 O135 x2 x3 x4 a → MW D dA ad A a s H locs → lv_has ls 6 [(0, .ref (ad 38)), (2, .int x2), (3, .int x3), (4, .int x4)] → W p l e rmM_leastOf s m args below meth c H locs 0 0 (MQ below (mQi D dA ad A Q) args s 0 0 A) (F0 m 173 ls []) := by
  have hx := S.1
  have hb := S.2.1
  have hown := S.2.2.2.1
  have hts := S.2.2.2.2
  intro x2 x3 x4 a H locs ls h hw hl
  unfold bkM_leastOf_173 at h
  refine lv_iconst (v := (0 : Int32)) hx hb dX6_leastOf_173 (by decide) ?_
  exact wkM_leastOf_174 S hr hlk Q x1 hO135 _ _ _ _ _ _ _ _ h hw (lv_sub hl [0, 1, 2, 3] rfl)
def bkM_leastOf_135 (Q : Int32 → MS → Prop) (x1 : Int32) : Nat → Int32 → Int32 → Int32 → MS → Prop
  | 0 => fun _ _ _ _ => False
  | n + 1 => fun x2 x3 x4 a => wpM_sets a (fun r138 a138 => if r138 ≤ x4 then (vp_in (a138 38 19) 256 ∧ (wpM_isRead a138 x2 (a138 16 (0 : Int32).toNatClampNeg) (fun r243 a243 => if r243 = 0 then (vp_in (a243 16 (0 : Int32).toNatClampNeg) 8 ∧ (Q ((a138 17 (a138 38 19).toNatClampNeg) + (a243 13 (a243 16 (0 : Int32).toNatClampNeg).toNatClampNeg)) a243)) else (Q ((a138 17 (a138 38 19).toNatClampNeg) + (0 : Int32)) a243)))) else (if (x4 &&& (x3 ^^^ (-1 : Int32))) = 0 then (vp_in x4 256 ∧ (if (a138 0 (3 : Int32).toNatClampNeg) < (a138 14 x4.toNatClampNeg) then (bkM_leastOf_173 Q x1 (bkM_leastOf_135 Q x1 n) x2 x3 x4 a138) else (bkM_leastOf_174 Q x1 (bkM_leastOf_135 Q x1 n) x2 x3 x4 (1 : Int32) a138))) else (bkM_leastOf_173 Q x1 (bkM_leastOf_135 Q x1 n) x2 x3 x4 a138)))
set_option maxHeartbeats 4000000 in
set_option maxRecDepth 100000 in
theorem wkM_leastOf_135 (S : CallFix p m c cX6_leastOf 6 s args lw_all RX6) (hr : meth.sig.returnType = (some .int)) (hlk : meth.locks = false) (Q : Int32 → MS → Prop) (x1 : Int32) : ∀ (n : Nat) (x2 : Int32) (x3 : Int32) (x4 : Int32) (a : MS) (H : Heap) (locs : List Loc) (ls : Array Slot), bkM_leastOf_135 Q x1 n x2 x3 x4 a → MW D dA ad A a s H locs → lv_has ls 6 [(0, .ref (ad 38)), (2, .int x2), (3, .int x3), (4, .int x4)] → W p l e rmM_leastOf s m args below meth c H locs 0 0 (MQ below (mQi D dA ad A Q) args s 0 0 A) (F0 m 135 ls []) := by
  have hx := S.1
  have hb := S.2.1
  have hown := S.2.2.2.1
  have hts := S.2.2.2.2
  intro n
  induction n with
  | zero =>
    intro x2 x3 x4 a H locs ls h
    exact False.elim h
  | succ n ih =>
    intro x2 x3 x4 a H locs ls h hw hl
    unfold bkM_leastOf_135 at h
    refine lv_iload hx hb dX6_leastOf_135 (lv_at hl 3 rfl) ?_
    refine lv_aload_n hx hb dX6_leastOf_137 rfl (lv_at hl 0 rfl) ?_
    refine m_calli S hw [] [.int x4] (ctM_sets l D dA ad A a _ h) (cwM_sets hts ⟨Nat.le_of_ble_eq_true rfl, Nat.le_of_ble_eq_true rfl⟩) rfl hl.1 rfl (Nat.le_of_ble_eq_true rfl) dX6_leastOf_138 ⟨Nat.zero_le _, Nat.zero_le _⟩ (fun r138 a138 H locs h hw => ?_)
    refine lv_icmp_ge (tgt := 226) hx hb dX6_leastOf_141 (by decide) (fun c141 => ?_) (fun c141 => ?_)
    · replace h := if_t c141 h
      refine lv_aload_n hx hb dX6_leastOf_226 rfl (lv_at hl 0 rfl) ?_
      refine m_get S hw 17 (by decide) q1355 rfl rfl dX6_leastOf_227 ?_
      refine lv_aload_n hx hb dX6_leastOf_230 rfl (lv_at hl 0 rfl) ?_
      refine m_get S hw 19 (by decide) q1357 rfl rfl dX6_leastOf_231 ?_
      refine m_ald S hw 17 17 256 rfl (by decide) rfl h.1 dX6_leastOf_234 ?_
      replace h := h.2
      refine lv_aload_n hx hb dX6_leastOf_235 rfl (lv_at hl 0 rfl) ?_
      refine lv_iload_n hx hb dX6_leastOf_236 rfl (lv_at hl 1 rfl) ?_
      refine lv_aload_n hx hb dX6_leastOf_237 rfl (lv_at hl 0 rfl) ?_
      refine m_get S hw 16 (by decide) q1354 rfl rfl dX6_leastOf_238 ?_
      refine lv_iconst (v := (0 : Int32)) hx hb dX6_leastOf_241 (by decide) ?_
      refine m_ald S hw 16 16 24 rfl (by decide) rfl (vlit (by decide)) dX6_leastOf_242 ?_
      refine m_calli S hw [.int x2, .int (a138 16 (0 : Int32).toNatClampNeg)] [.int (a138 17 (a138 38 19).toNatClampNeg)] (ctM_isRead l D dA ad A a138 x2 (a138 16 (0 : Int32).toNatClampNeg) _ h) (cwM_isRead hts ⟨Nat.le_of_ble_eq_true rfl, Nat.le_of_ble_eq_true rfl⟩) rfl hl.1 rfl (Nat.le_of_ble_eq_true rfl) dX6_leastOf_243 ⟨Nat.zero_le _, Nat.zero_le _⟩ (fun r243 a243 H locs h hw => ?_)
      refine lv_if_eq (tgt := 253) hx hb dX6_leastOf_246 (by decide) (fun c246 => ?_) (fun c246 => ?_)
      · replace h := if_t c246 h
        refine lv_aload_n hx hb dX6_leastOf_253 rfl (lv_at hl 0 rfl) ?_
        refine m_get S hw 13 (by decide) q1351 rfl rfl dX6_leastOf_254 ?_
        refine lv_aload_n hx hb dX6_leastOf_257 rfl (lv_at hl 0 rfl) ?_
        refine m_get S hw 16 (by decide) q1354 rfl rfl dX6_leastOf_258 ?_
        refine lv_iconst (v := (0 : Int32)) hx hb dX6_leastOf_261 (by decide) ?_
        refine m_ald S hw 16 16 24 rfl (by decide) rfl (vlit (by decide)) dX6_leastOf_262 ?_
        refine m_ald S hw 13 13 8 rfl (by decide) rfl h.1 dX6_leastOf_263 ?_
        replace h := h.2
        refine lv_iadd hx hb dX6_leastOf_264 ?_
        exact m_iret S hr hlk hw h dX6_leastOf_265
      · replace h := if_f c246 h
        refine lv_iconst (v := (0 : Int32)) hx hb dX6_leastOf_249 (by decide) ?_
        refine lv_goto (tgt := 264) hx hb dX6_leastOf_250 (by decide) ?_
        refine lv_iadd hx hb dX6_leastOf_264 ?_
        exact m_iret S hr hlk hw h dX6_leastOf_265
    · replace h := if_f c141 h
      refine lv_iload hx hb dX6_leastOf_144 (lv_at hl 3 rfl) ?_
      refine lv_iload_n hx hb dX6_leastOf_146 rfl (lv_at hl 2 rfl) ?_
      refine lv_iconst (v := (-1 : Int32)) hx hb dX6_leastOf_147 (by decide) ?_
      refine lv_ixor hx hb dX6_leastOf_148 ?_
      refine lv_iand hx hb dX6_leastOf_149 ?_
      refine lv_if_ne (tgt := 173) hx hb dX6_leastOf_150 (by decide) (fun c150 => ?_) (fun c150 => ?_)
      · replace h := if_f c150 h
        exact wkM_leastOf_173 S hr hlk Q x1 ih _ _ _ _ _ _ _ h hw (lv_sub hl [0, 1, 2, 3] rfl)
      · replace h := if_t c150 h
        refine lv_aload_n hx hb dX6_leastOf_153 rfl (lv_at hl 0 rfl) ?_
        refine m_get S hw 14 (by decide) q1352 rfl rfl dX6_leastOf_154 ?_
        refine lv_iload hx hb dX6_leastOf_157 (lv_at hl 3 rfl) ?_
        refine m_ald S hw 14 14 256 rfl (by decide) rfl h.1 dX6_leastOf_159 ?_
        replace h := h.2
        refine lv_aload_n hx hb dX6_leastOf_160 rfl (lv_at hl 0 rfl) ?_
        refine m_get S hw 0 (by decide) q1338 rfl rfl dX6_leastOf_161 ?_
        refine lv_iconst (v := (3 : Int32)) hx hb dX6_leastOf_164 (by decide) ?_
        refine m_ald S hw 1 0 3098 rfl (by decide) rfl (vlit (by decide)) dX6_leastOf_165 ?_
        refine lv_icmp_gt (tgt := 173) hx hb dX6_leastOf_166 (by decide) (fun c166 => ?_) (fun c166 => ?_)
        · replace h := if_t c166 h
          exact wkM_leastOf_173 S hr hlk Q x1 ih _ _ _ _ _ _ _ h hw (lv_sub hl [0, 1, 2, 3] rfl)
        · replace h := if_f c166 h
          refine lv_iconst (v := (1 : Int32)) hx hb dX6_leastOf_169 (by decide) ?_
          refine lv_goto (tgt := 174) hx hb dX6_leastOf_170 (by decide) ?_
          exact wkM_leastOf_174 S hr hlk Q x1 ih _ _ _ _ _ _ _ _ h hw (lv_sub hl [0, 1, 2, 3] rfl)
def bkM_leastOf_50 (Q : Int32 → MS → Prop) (x1 : Int32) (O32 : Int32 → MS → Prop) : Nat → Int32 → Int32 → Int32 → MS → Prop
  | 0 => fun _ _ _ _ => False
  | n + 1 => fun x2 x3 x4 a => wpM_sets a (fun r53 a53 => if r53 ≤ x4 then (O32 (x2 + (-1 : Int32)) a53) else (vp_in (x4 ||| (ishl (1 : Int32) x3)) 256 ∧ (wpM_isRead a53 x4 x3 (fun r80 a80 => if r80 = 0 then (vp_in x3 8 ∧ (vp_in x4 256 ∧ (∀ a97 : MS, a97 = up2 a80 17 x4.toNatClampNeg ((a53 18 (x4 ||| (ishl (1 : Int32) x3)).toNatClampNeg) + (a80 13 x3.toNatClampNeg)) → (bkM_leastOf_50 Q x1 O32 n x2 x3 (x4 + (1 : Int32)) a97)))) else (vp_in x4 256 ∧ (∀ a97 : MS, a97 = up2 a80 17 x4.toNatClampNeg ((a53 18 (x4 ||| (ishl (1 : Int32) x3)).toNatClampNeg) + (0 : Int32)) → (bkM_leastOf_50 Q x1 O32 n x2 x3 (x4 + (1 : Int32)) a97)))))))
set_option maxHeartbeats 4000000 in
set_option maxRecDepth 100000 in
theorem wkM_leastOf_50 (S : CallFix p m c cX6_leastOf 6 s args lw_all RX6) (hr : meth.sig.returnType = (some .int)) (hlk : meth.locks = false) (Q : Int32 → MS → Prop) (x1 : Int32) {O32 : Int32 → MS → Prop} (hO32 : ∀ (x2 : Int32) (a : MS) (H : Heap) (locs : List Loc) (ls : Array Slot), O32 x2 a → MW D dA ad A a s H locs → lv_has ls 6 [(0, .ref (ad 38)), (1, .int x1), (2, .int x2)] → W p l e rmM_leastOf s m args below meth c H locs 0 0 (MQ below (mQi D dA ad A Q) args s 0 0 A) (F0 m 32 ls [])) : ∀ (n : Nat) (x2 : Int32) (x3 : Int32) (x4 : Int32) (a : MS) (H : Heap) (locs : List Loc) (ls : Array Slot), bkM_leastOf_50 Q x1 O32 n x2 x3 x4 a → MW D dA ad A a s H locs → lv_has ls 6 [(0, .ref (ad 38)), (1, .int x1), (2, .int x2), (3, .int x3), (4, .int x4)] → W p l e rmM_leastOf s m args below meth c H locs 0 0 (MQ below (mQi D dA ad A Q) args s 0 0 A) (F0 m 50 ls []) := by
  have hx := S.1
  have hb := S.2.1
  have hown := S.2.2.2.1
  have hts := S.2.2.2.2
  intro n
  induction n with
  | zero =>
    intro x2 x3 x4 a H locs ls h
    exact False.elim h
  | succ n ih =>
    intro x2 x3 x4 a H locs ls h hw hl
    unfold bkM_leastOf_50 at h
    refine lv_iload hx hb dX6_leastOf_50 (lv_at hl 4 rfl) ?_
    refine lv_aload_n hx hb dX6_leastOf_52 rfl (lv_at hl 0 rfl) ?_
    refine m_calli S hw [] [.int x4] (ctM_sets l D dA ad A a _ h) (cwM_sets hts ⟨Nat.le_of_ble_eq_true rfl, Nat.le_of_ble_eq_true rfl⟩) rfl hl.1 rfl (Nat.le_of_ble_eq_true rfl) dX6_leastOf_53 ⟨Nat.zero_le _, Nat.zero_le _⟩ (fun r53 a53 H locs h hw => ?_)
    refine lv_icmp_ge (tgt := 104) hx hb dX6_leastOf_56 (by decide) (fun c56 => ?_) (fun c56 => ?_)
    · replace h := if_t c56 h
      refine lv_iinc (v := (x2 + (-1 : Int32))) (lv' := [(2, .int (x2 + (-1 : Int32))), (0, .ref (ad 38)), (1, .int x1), (3, .int x3), (4, .int x4)]) hx hb dX6_leastOf_104 hl (k := 2) rfl rfl (by decide) rfl (fun ls hl => ?_)
      refine lv_goto (tgt := 32) hx hb dX6_leastOf_107 (by decide) ?_
      exact hO32 _ _ _ _ _ h hw (lv_sub hl [1, 2, 0] rfl)
    · replace h := if_f c56 h
      refine lv_aload_n hx hb dX6_leastOf_59 rfl (lv_at hl 0 rfl) ?_
      refine m_get S hw 17 (by decide) q1355 rfl rfl dX6_leastOf_60 ?_
      refine lv_iload hx hb dX6_leastOf_63 (lv_at hl 4 rfl) ?_
      refine lv_aload_n hx hb dX6_leastOf_65 rfl (lv_at hl 0 rfl) ?_
      refine m_get S hw 18 (by decide) q1356 rfl rfl dX6_leastOf_66 ?_
      refine lv_iload hx hb dX6_leastOf_69 (lv_at hl 4 rfl) ?_
      refine lv_iconst (v := (1 : Int32)) hx hb dX6_leastOf_71 (by decide) ?_
      refine lv_iload_n hx hb dX6_leastOf_72 rfl (lv_at hl 3 rfl) ?_
      refine lv_ishl hx hb dX6_leastOf_73 ?_
      refine lv_ior hx hb dX6_leastOf_74 ?_
      refine m_ald S hw 18 18 256 rfl (by decide) rfl h.1 dX6_leastOf_75 ?_
      replace h := h.2
      refine lv_aload_n hx hb dX6_leastOf_76 rfl (lv_at hl 0 rfl) ?_
      refine lv_iload hx hb dX6_leastOf_77 (lv_at hl 4 rfl) ?_
      refine lv_iload_n hx hb dX6_leastOf_79 rfl (lv_at hl 3 rfl) ?_
      refine m_calli S hw [.int x4, .int x3] [.int (a53 18 (x4 ||| (ishl (1 : Int32) x3)).toNatClampNeg), .int x4, .ref (ad 17)] (ctM_isRead l D dA ad A a53 x4 x3 _ h) (cwM_isRead hts ⟨Nat.le_of_ble_eq_true rfl, Nat.le_of_ble_eq_true rfl⟩) rfl hl.1 rfl (Nat.le_of_ble_eq_true rfl) dX6_leastOf_80 ⟨Nat.zero_le _, Nat.zero_le _⟩ (fun r80 a80 H locs h hw => ?_)
      refine lv_if_eq (tgt := 90) hx hb dX6_leastOf_83 (by decide) (fun c83 => ?_) (fun c83 => ?_)
      · replace h := if_t c83 h
        refine lv_aload_n hx hb dX6_leastOf_90 rfl (lv_at hl 0 rfl) ?_
        refine m_get S hw 13 (by decide) q1351 rfl rfl dX6_leastOf_91 ?_
        refine lv_iload_n hx hb dX6_leastOf_94 rfl (lv_at hl 3 rfl) ?_
        refine m_ald S hw 13 13 8 rfl (by decide) rfl h.1 dX6_leastOf_95 ?_
        replace h := h.2
        refine lv_iadd hx hb dX6_leastOf_96 ?_
        refine m_ast S hw 17 17 256 rfl (by decide) rfl h.1 dX6_leastOf_97 (fun a97 H locs ea97 hw => ?_)
        replace h := h.2 a97 ea97
        refine lv_iinc (v := (x4 + (1 : Int32))) (lv' := [(4, .int (x4 + (1 : Int32))), (0, .ref (ad 38)), (1, .int x1), (2, .int x2), (3, .int x3)]) hx hb dX6_leastOf_98 hl (k := 4) rfl rfl (by decide) rfl (fun ls hl => ?_)
        refine lv_goto (tgt := 50) hx hb dX6_leastOf_101 (by decide) ?_
        exact ih _ _ _ _ _ _ _ h hw (lv_sub hl [1, 2, 3, 4, 0] rfl)
      · replace h := if_f c83 h
        refine lv_iconst (v := (0 : Int32)) hx hb dX6_leastOf_86 (by decide) ?_
        refine lv_goto (tgt := 96) hx hb dX6_leastOf_87 (by decide) ?_
        refine lv_iadd hx hb dX6_leastOf_96 ?_
        refine m_ast S hw 17 17 256 rfl (by decide) rfl h.1 dX6_leastOf_97 (fun a97 H locs ea97 hw => ?_)
        replace h := h.2 a97 ea97
        refine lv_iinc (v := (x4 + (1 : Int32))) (lv' := [(4, .int (x4 + (1 : Int32))), (0, .ref (ad 38)), (1, .int x1), (2, .int x2), (3, .int x3)]) hx hb dX6_leastOf_98 hl (k := 4) rfl rfl (by decide) rfl (fun ls hl => ?_)
        refine lv_goto (tgt := 50) hx hb dX6_leastOf_101 (by decide) ?_
        exact ih _ _ _ _ _ _ _ h hw (lv_sub hl [1, 2, 3, 4, 0] rfl)
def bkM_leastOf_32 (Q : Int32 → MS → Prop) (x1 : Int32) : Nat → Int32 → MS → Prop
  | 0 => fun _ _ => False
  | n + 1 => fun x2 a => if x2 ≤ 0 then (if x1 = 0 then (Q (0 : Int32) a) else (wpM_vaultBits a (fun r117 a117 => ∃ n135, bkM_leastOf_135 Q x1 n135 r117 (r117 ||| (ishl (1 : Int32) (a117 16 (0 : Int32).toNatClampNeg))) (0 : Int32) a117))) else (wpM_lookWithin a (fun a37 => vp_in x2 24 ∧ (∃ n50, bkM_leastOf_50 Q x1 (bkM_leastOf_32 Q x1 n) n50 x2 (a37 16 x2.toNatClampNeg) (0 : Int32) a37)))
set_option maxHeartbeats 4000000 in
set_option maxRecDepth 100000 in
theorem wkM_leastOf_32 (S : CallFix p m c cX6_leastOf 6 s args lw_all RX6) (hr : meth.sig.returnType = (some .int)) (hlk : meth.locks = false) (Q : Int32 → MS → Prop) (x1 : Int32) : ∀ (n : Nat) (x2 : Int32) (a : MS) (H : Heap) (locs : List Loc) (ls : Array Slot), bkM_leastOf_32 Q x1 n x2 a → MW D dA ad A a s H locs → lv_has ls 6 [(0, .ref (ad 38)), (1, .int x1), (2, .int x2)] → W p l e rmM_leastOf s m args below meth c H locs 0 0 (MQ below (mQi D dA ad A Q) args s 0 0 A) (F0 m 32 ls []) := by
  have hx := S.1
  have hb := S.2.1
  have hown := S.2.2.2.1
  have hts := S.2.2.2.2
  intro n
  induction n with
  | zero =>
    intro x2 a H locs ls h
    exact False.elim h
  | succ n ih =>
    intro x2 a H locs ls h hw hl
    unfold bkM_leastOf_32 at h
    refine lv_iload_n hx hb dX6_leastOf_32 rfl (lv_at hl 2 rfl) ?_
    refine lv_if_le (tgt := 110) hx hb dX6_leastOf_33 (by decide) (fun c33 => ?_) (fun c33 => ?_)
    · replace h := if_t c33 h
      refine lv_iload_n hx hb dX6_leastOf_110 rfl (lv_at hl 1 rfl) ?_
      refine lv_if_ne (tgt := 116) hx hb dX6_leastOf_111 (by decide) (fun c111 => ?_) (fun c111 => ?_)
      · replace h := if_f c111 h
        refine lv_aload_n hx hb dX6_leastOf_116 rfl (lv_at hl 0 rfl) ?_
        refine m_calli S hw [] [] (ctM_vaultBits l D dA ad A a _ h) (cwM_vaultBits hts ⟨Nat.le_of_ble_eq_true rfl, Nat.le_of_ble_eq_true rfl⟩) rfl hl.1 rfl (Nat.le_of_ble_eq_true rfl) dX6_leastOf_117 ⟨Nat.zero_le _, Nat.zero_le _⟩ (fun r117 a117 H locs h hw => ?_)
        refine lv_istore_n (lv' := [(2, .int r117), (0, .ref (ad 38)), (1, .int x1)]) hx hb dX6_leastOf_120 rfl hl (by decide) rfl (fun ls hl => ?_)
        refine lv_iload_n hx hb dX6_leastOf_121 rfl (lv_at hl 0 rfl) ?_
        refine lv_iconst (v := (1 : Int32)) hx hb dX6_leastOf_122 (by decide) ?_
        refine lv_aload_n hx hb dX6_leastOf_123 rfl (lv_at hl 1 rfl) ?_
        refine m_get S hw 16 (by decide) q1354 rfl rfl dX6_leastOf_124 ?_
        refine lv_iconst (v := (0 : Int32)) hx hb dX6_leastOf_127 (by decide) ?_
        refine m_ald S hw 16 16 24 rfl (by decide) rfl (vlit (by decide)) dX6_leastOf_128 ?_
        refine lv_ishl hx hb dX6_leastOf_129 ?_
        refine lv_ior hx hb dX6_leastOf_130 ?_
        refine lv_istore_n (lv' := [(3, .int (r117 ||| (ishl (1 : Int32) (a117 16 (0 : Int32).toNatClampNeg)))), (2, .int r117), (0, .ref (ad 38)), (1, .int x1)]) hx hb dX6_leastOf_131 rfl hl (by decide) rfl (fun ls hl => ?_)
        refine lv_iconst (v := (0 : Int32)) hx hb dX6_leastOf_132 (by decide) ?_
        refine lv_istore (lv' := [(4, .int (0 : Int32)), (3, .int (r117 ||| (ishl (1 : Int32) (a117 16 (0 : Int32).toNatClampNeg)))), (2, .int r117), (0, .ref (ad 38)), (1, .int x1)]) hx hb dX6_leastOf_133 hl (by decide) rfl (fun ls hl => ?_)
        obtain ⟨n135, h⟩ := h
        exact wkM_leastOf_135 S hr hlk Q x1 n135 _ _ _ _ _ _ _ h hw (lv_sub hl [3, 2, 1, 0] rfl)
      · replace h := if_t c111 h
        refine lv_iconst (v := (0 : Int32)) hx hb dX6_leastOf_114 (by decide) ?_
        exact m_iret S hr hlk hw h dX6_leastOf_115
    · replace h := if_f c33 h
      refine lv_aload_n hx hb dX6_leastOf_36 rfl (lv_at hl 0 rfl) ?_
      refine m_callv S hw [] [] (ctM_lookWithin l D dA ad A a _ h) (cwM_lookWithin hts ⟨Nat.le_of_ble_eq_true rfl, Nat.le_of_ble_eq_true rfl⟩) rfl hl.1 rfl (Nat.le_of_ble_eq_true rfl) dX6_leastOf_37 ⟨Nat.zero_le _, Nat.zero_le _⟩ (fun a37 H locs h hw => ?_)
      refine lv_aload_n hx hb dX6_leastOf_40 rfl (lv_at hl 0 rfl) ?_
      refine m_get S hw 16 (by decide) q1354 rfl rfl dX6_leastOf_41 ?_
      refine lv_iload_n hx hb dX6_leastOf_44 rfl (lv_at hl 2 rfl) ?_
      refine m_ald S hw 16 16 24 rfl (by decide) rfl h.1 dX6_leastOf_45 ?_
      replace h := h.2
      refine lv_istore_n (lv' := [(3, .int (a37 16 x2.toNatClampNeg)), (0, .ref (ad 38)), (1, .int x1), (2, .int x2)]) hx hb dX6_leastOf_46 rfl hl (by decide) rfl (fun ls hl => ?_)
      refine lv_iconst (v := (0 : Int32)) hx hb dX6_leastOf_47 (by decide) ?_
      refine lv_istore (lv' := [(4, .int (0 : Int32)), (3, .int (a37 16 x2.toNatClampNeg)), (0, .ref (ad 38)), (1, .int x1), (2, .int x2)]) hx hb dX6_leastOf_48 hl (by decide) rfl (fun ls hl => ?_)
      obtain ⟨n50, h⟩ := h
      exact wkM_leastOf_50 S hr hlk Q x1 ih n50 _ _ _ _ _ _ _ h hw (lv_sub hl [2, 3, 4, 1, 0] rfl)
def bkM_leastOf_2 (Q : Int32 → MS → Prop) (x1 : Int32) : Nat → Int32 → MS → Prop
  | 0 => fun _ _ => False
  | n + 1 => fun x2 a => wpM_sets a (fun r4 a4 => if r4 ≤ x2 then (∀ a25 : MS, a25 = up2 a4 38 19 (-1 : Int32) → (∃ n32, bkM_leastOf_32 Q x1 n32 (x1 - (1 : Int32)) a25)) else (vp_in x2 256 ∧ (∀ a16 : MS, a16 = up2 a4 17 x2.toNatClampNeg (0 : Int32) → (bkM_leastOf_2 Q x1 n (x2 + (1 : Int32)) a16))))
set_option maxHeartbeats 4000000 in
set_option maxRecDepth 100000 in
theorem wkM_leastOf_2 (S : CallFix p m c cX6_leastOf 6 s args lw_all RX6) (hr : meth.sig.returnType = (some .int)) (hlk : meth.locks = false) (Q : Int32 → MS → Prop) (x1 : Int32) : ∀ (n : Nat) (x2 : Int32) (a : MS) (H : Heap) (locs : List Loc) (ls : Array Slot), bkM_leastOf_2 Q x1 n x2 a → MW D dA ad A a s H locs → lv_has ls 6 [(0, .ref (ad 38)), (1, .int x1), (2, .int x2)] → W p l e rmM_leastOf s m args below meth c H locs 0 0 (MQ below (mQi D dA ad A Q) args s 0 0 A) (F0 m 2 ls []) := by
  have hx := S.1
  have hb := S.2.1
  have hown := S.2.2.2.1
  have hts := S.2.2.2.2
  intro n
  induction n with
  | zero =>
    intro x2 a H locs ls h
    exact False.elim h
  | succ n ih =>
    intro x2 a H locs ls h hw hl
    unfold bkM_leastOf_2 at h
    refine lv_iload_n hx hb dX6_leastOf_2 rfl (lv_at hl 2 rfl) ?_
    refine lv_aload_n hx hb dX6_leastOf_3 rfl (lv_at hl 0 rfl) ?_
    refine m_calli S hw [] [.int x2] (ctM_sets l D dA ad A a _ h) (cwM_sets hts ⟨Nat.le_of_ble_eq_true rfl, Nat.le_of_ble_eq_true rfl⟩) rfl hl.1 rfl (Nat.le_of_ble_eq_true rfl) dX6_leastOf_4 ⟨Nat.zero_le _, Nat.zero_le _⟩ (fun r4 a4 H locs h hw => ?_)
    refine lv_icmp_ge (tgt := 23) hx hb dX6_leastOf_7 (by decide) (fun c7 => ?_) (fun c7 => ?_)
    · replace h := if_t c7 h
      refine lv_aload_n hx hb dX6_leastOf_23 rfl (lv_at hl 0 rfl) ?_
      refine lv_iconst (v := (-1 : Int32)) hx hb dX6_leastOf_24 (by decide) ?_
      refine m_puti S hw 19 (by decide) q1357 rfl rfl rfl rfl mset_19 dX6_leastOf_25 (fun a25 H locs ea25 hw => ?_)
      replace h := h a25 ea25
      refine lv_iload_n hx hb dX6_leastOf_28 rfl (lv_at hl 1 rfl) ?_
      refine lv_iconst (v := (1 : Int32)) hx hb dX6_leastOf_29 (by decide) ?_
      refine lv_isub hx hb dX6_leastOf_30 ?_
      refine lv_istore_n (lv' := [(2, .int (x1 - (1 : Int32))), (0, .ref (ad 38)), (1, .int x1)]) hx hb dX6_leastOf_31 rfl hl (by decide) rfl (fun ls hl => ?_)
      obtain ⟨n32, h⟩ := h
      exact wkM_leastOf_32 S hr hlk Q x1 n32 _ _ _ _ _ h hw (lv_sub hl [1, 2, 0] rfl)
    · replace h := if_f c7 h
      refine lv_aload_n hx hb dX6_leastOf_10 rfl (lv_at hl 0 rfl) ?_
      refine m_get S hw 17 (by decide) q1355 rfl rfl dX6_leastOf_11 ?_
      refine lv_iload_n hx hb dX6_leastOf_14 rfl (lv_at hl 2 rfl) ?_
      refine lv_iconst (v := (0 : Int32)) hx hb dX6_leastOf_15 (by decide) ?_
      refine m_ast S hw 17 17 256 rfl (by decide) rfl h.1 dX6_leastOf_16 (fun a16 H locs ea16 hw => ?_)
      replace h := h.2 a16 ea16
      refine lv_iinc (v := (x2 + (1 : Int32))) (lv' := [(2, .int (x2 + (1 : Int32))), (0, .ref (ad 38)), (1, .int x1)]) hx hb dX6_leastOf_17 hl (k := 2) rfl rfl (by decide) rfl (fun ls hl => ?_)
      refine lv_goto (tgt := 2) hx hb dX6_leastOf_20 (by decide) ?_
      exact ih _ _ _ _ _ h hw (lv_sub hl [1, 2, 0] rfl)
def wpM_leastOf (a : MS) (x1 : Int32) (Q : Int32 → MS → Prop) : Prop := ∃ n2, bkM_leastOf_2 Q x1 n2 (0 : Int32) a
set_option maxHeartbeats 4000000 in
set_option maxRecDepth 100000 in
theorem wkM_leastOf_e (S : CallFix p m c cX6_leastOf 6 s args lw_all RX6) (hr : meth.sig.returnType = (some .int)) (hlk : meth.locks = false) (Q : Int32 → MS → Prop) (x1 : Int32) (a : MS) (H : Heap) (locs : List Loc) (ls : Array Slot) (h : wpM_leastOf a x1 Q) (hw : MW D dA ad A a s H locs) (hl : lv_has ls 6 [(0, .ref (ad 38)), (1, .int x1)]) : W p l e rmM_leastOf s m args below meth c H locs 0 0 (MQ below (mQi D dA ad A Q) args s 0 0 A) (F0 m 0 ls []) := by
  have hx := S.1
  have hb := S.2.1
  have hown := S.2.2.2.1
  have hts := S.2.2.2.2
  unfold wpM_leastOf at h
  refine lv_iconst (v := (0 : Int32)) hx hb dX6_leastOf_0 (by decide) ?_
  refine lv_istore_n (lv' := [(2, .int (0 : Int32)), (0, .ref (ad 38)), (1, .int x1)]) hx hb dX6_leastOf_1 rfl hl (by decide) rfl (fun ls hl => ?_)
  obtain ⟨n2, h⟩ := h
  exact wkM_leastOf_2 S hr hlk Q x1 n2 _ _ _ _ _ h hw (lv_sub hl [1, 2, 0] rfl)
theorem ctM_leastOf (l : Launch) (D : va_G) (dA : Nat → ClassId) (ad : Nat → Nat) (A : Nat → Prop) (a : MS) (x1 : Int32) (Q : Int32 → MS → Prop) (h : wpM_leastOf a x1 Q) : Met l yX6_leastOf (ws_ yX6_leastOf cX6_leastOf 6 (some .int)) rmM_leastOf (mPc D dA ad A a [.ref (ad 38), .int x1]) (mQi D dA ad A Q) 0 0 A :=
  m_met (by decide) rfl rfl rfl (Nat.le_of_ble_eq_true rfl) (fun p e s m below meth c ls S hr hlk hw hl => wkM_leastOf_e S hr hlk Q x1 a _ _ ls h hw hl)
theorem cwM_leastOf {R : Room} {s : State} {args : Array Value} {rm : Room} (hts : ∀ w ∈ lw_all, w.before args s = true) (hR : rm.frames + 1 ≤ R.frames ∧ 8 + (6 + 11) + rm.locals ≤ R.locals) (hc : rm.cells = 0 := by rfl) (hs : rm.slots = 0 := by rfl) : CallW R s args RX6 RX6 215 yX6_leastOf cX6_leastOf 6 (some .int) (ws_ yX6_leastOf cX6_leastOf 6 (some .int)) rm 0 0 1 :=
  cwV 1 hts (lw_V q1680 q1682 qs79 q112 q1683) rfl hc hs (by decide +kernel) hR
/-! least -/
abbrev rmM_least : Room := { frames := 6, cells := 0, slots := 0, locals := 137 }
def wpM_least (a : MS) (x1 : Int32) (Q : Int32 → MS → Prop) : Prop := wpM_isIn a x1.toInt64 (0 : Int64) (1 : Int64) (fun r4 a4 => if r4 = 0 then (Q (-1000000001 : Int32) a4) else (wpM_knowsRooms a4 (fun a14 => wpM_triesRow a14 (fun r19 a19 => wpM_leastOf a19 r19 (fun r22 a22 => if x1 = 0 then (Q r22 a22) else (wpM_orNone a22 (a22 38 19) (fun r38 a38 => Q r38 a38)))))))
set_option maxHeartbeats 4000000 in
set_option maxRecDepth 100000 in
theorem wkM_least_e (S : CallFix p m c cX6_least 3 s args lw_all RX6) (hr : meth.sig.returnType = (some .int)) (hlk : meth.locks = false) (Q : Int32 → MS → Prop) (x1 : Int32) (a : MS) (H : Heap) (locs : List Loc) (ls : Array Slot) (h : wpM_least a x1 Q) (hw : MW D dA ad A a s H locs) (hl : lv_has ls 3 [(0, .ref (ad 38)), (1, .int x1)]) : W p l e rmM_least s m args below meth c H locs 0 0 (MQ below (mQi D dA ad A Q) args s 0 0 A) (F0 m 0 ls []) := by
  have hx := S.1
  have hb := S.2.1
  have hown := S.2.2.2.1
  have hts := S.2.2.2.2
  unfold wpM_least at h
  refine lv_iload_n hx hb dX6_least_0 rfl (lv_at hl 1 rfl) ?_
  refine lv_i2l (v := x1.toInt64) hx hb dX6_least_1 rfl ?_
  refine lv_lconst (v := 0) hx hb dX6_least_2 (by decide) ?_
  refine lv_lconst (v := 1) hx hb dX6_least_3 (by decide) ?_
  refine m_callSi S hw [.long x1.toInt64, .long (0 : Int64), .long (1 : Int64)] [] (ctM_isIn l D dA ad A a x1.toInt64 (0 : Int64) (1 : Int64) _ h) (cwM_isIn hts ⟨Nat.le_of_ble_eq_true rfl, Nat.le_of_ble_eq_true rfl⟩) rfl hl.1 rfl (Nat.le_of_ble_eq_true rfl) dX6_least_4 ⟨Nat.zero_le _, Nat.zero_le _⟩ (fun r4 a4 H locs h hw => ?_)
  refine lv_if_ne (tgt := 13) hx hb dX6_least_7 (by decide) (fun c7 => ?_) (fun c7 => ?_)
  · replace h := if_f c7 h
    refine lv_aload_n hx hb dX6_least_13 rfl (lv_at hl 0 rfl) ?_
    refine m_callv S hw [] [] (ctM_knowsRooms l D dA ad A a4 _ h) (cwM_knowsRooms hts ⟨Nat.le_of_ble_eq_true rfl, Nat.le_of_ble_eq_true rfl⟩) rfl hl.1 rfl (Nat.le_of_ble_eq_true rfl) dX6_least_14 ⟨Nat.zero_le _, Nat.zero_le _⟩ (fun a14 H locs h hw => ?_)
    refine lv_aload_n hx hb dX6_least_17 rfl (lv_at hl 0 rfl) ?_
    refine lv_aload_n hx hb dX6_least_18 rfl (lv_at hl 0 rfl) ?_
    refine m_calli S hw [] [.ref (ad 38)] (ctM_triesRow l D dA ad A a14 _ h) (cwM_triesRow hts ⟨Nat.le_of_ble_eq_true rfl, Nat.le_of_ble_eq_true rfl⟩) rfl hl.1 rfl (Nat.le_of_ble_eq_true rfl) dX6_least_19 ⟨Nat.zero_le _, Nat.zero_le _⟩ (fun r19 a19 H locs h hw => ?_)
    refine m_calli S hw [.int r19] [] (ctM_leastOf l D dA ad A a19 r19 _ h) (cwM_leastOf hts ⟨Nat.le_of_ble_eq_true rfl, Nat.le_of_ble_eq_true rfl⟩) rfl hl.1 rfl (Nat.le_of_ble_eq_true rfl) dX6_least_22 ⟨Nat.zero_le _, Nat.zero_le _⟩ (fun r22 a22 H locs h hw => ?_)
    refine lv_istore_n (lv' := [(2, .int r22), (0, .ref (ad 38)), (1, .int x1)]) hx hb dX6_least_25 rfl hl (by decide) rfl (fun ls hl => ?_)
    refine lv_iload_n hx hb dX6_least_26 rfl (lv_at hl 2 rfl) ?_
    refine lv_if_ne (tgt := 34) hx hb dX6_least_27 (by decide) (fun c27 => ?_) (fun c27 => ?_)
    · replace h := if_f c27 h
      refine lv_aload_n hx hb dX6_least_34 rfl (lv_at hl 1 rfl) ?_
      refine m_get S hw 19 (by decide) q1357 rfl rfl dX6_least_35 ?_
      refine m_callSi S hw [.int (a22 38 19)] [] (ctM_orNone l D dA ad A a22 (a22 38 19) _ h) (cwM_orNone hts ⟨Nat.le_of_ble_eq_true rfl, Nat.le_of_ble_eq_true rfl⟩) rfl hl.1 rfl (Nat.le_of_ble_eq_true rfl) dX6_least_38 ⟨Nat.zero_le _, Nat.zero_le _⟩ (fun r38 a38 H locs h hw => ?_)
      exact m_iret S hr hlk hw h dX6_least_41
    · replace h := if_t c27 h
      refine lv_iload_n hx hb dX6_least_30 rfl (lv_at hl 0 rfl) ?_
      refine lv_goto (tgt := 41) hx hb dX6_least_31 (by decide) ?_
      exact m_iret S hr hlk hw h dX6_least_41
  · replace h := if_t c7 h
    refine lv_ldc hx hb hown (hts _ q1468) dX6_least_10 ?_
    exact m_iret S hr hlk hw h dX6_least_12
theorem ctM_least (l : Launch) (D : va_G) (dA : Nat → ClassId) (ad : Nat → Nat) (A : Nat → Prop) (a : MS) (x1 : Int32) (Q : Int32 → MS → Prop) (h : wpM_least a x1 Q) : Met l yX6_least (ws_ yX6_least cX6_least 3 (some .int)) rmM_least (mPc D dA ad A a [.ref (ad 38), .int x1]) (mQi D dA ad A Q) 0 0 A :=
  m_met (by decide) rfl rfl rfl (Nat.le_of_ble_eq_true rfl) (fun p e s m below meth c ls S hr hlk hw hl => wkM_least_e S hr hlk Q x1 a _ _ ls h hw hl)
/-! heldBy -/
abbrev rmM_heldBy : Room := { frames := 2, cells := 0, slots := 0, locals := 44 }
def bkM_heldBy_4 (Q : Int32 → MS → Prop) (x1 : Int32) : Nat → Int32 → Int32 → MS → Prop
  | 0 => fun _ _ _ => False
  | n + 1 => fun x2 x3 a => if (a 0 (0 : Int32).toNatClampNeg) ≤ x3 then (Q x2 a) else (wpM_isRead a x1 x3 (fun r18 a18 => if r18 = 0 then (bkM_heldBy_4 Q x1 n (x2 + (0 : Int32)) (x3 + (1 : Int32)) a18) else (wpM_leafAt a18 x3 (fun r30 a30 => vp_in (r30 + (3 : Int32)) 3098 ∧ (vp_in x3 8 ∧ (bkM_heldBy_4 Q x1 n (x2 + ((a30 0 (r30 + (3 : Int32)).toNatClampNeg) * (a30 13 x3.toNatClampNeg))) (x3 + (1 : Int32)) a30))))))
set_option maxHeartbeats 4000000 in
set_option maxRecDepth 100000 in
theorem wkM_heldBy_4 (S : CallFix p m c cX6_heldBy 4 s args lw_all RX6) (hr : meth.sig.returnType = (some .int)) (hlk : meth.locks = false) (Q : Int32 → MS → Prop) (x1 : Int32) : ∀ (n : Nat) (x2 : Int32) (x3 : Int32) (a : MS) (H : Heap) (locs : List Loc) (ls : Array Slot), bkM_heldBy_4 Q x1 n x2 x3 a → MW D dA ad A a s H locs → lv_has ls 4 [(0, .ref (ad 38)), (1, .int x1), (2, .int x2), (3, .int x3)] → W p l e rmM_heldBy s m args below meth c H locs 0 0 (MQ below (mQi D dA ad A Q) args s 0 0 A) (F0 m 4 ls []) := by
  have hx := S.1
  have hb := S.2.1
  have hown := S.2.2.2.1
  have hts := S.2.2.2.2
  intro n
  induction n with
  | zero =>
    intro x2 x3 a H locs ls h
    exact False.elim h
  | succ n ih =>
    intro x2 x3 a H locs ls h hw hl
    unfold bkM_heldBy_4 at h
    refine lv_iload_n hx hb dX6_heldBy_4 rfl (lv_at hl 3 rfl) ?_
    refine lv_aload_n hx hb dX6_heldBy_5 rfl (lv_at hl 0 rfl) ?_
    refine m_get S hw 0 (by decide) q1338 rfl rfl dX6_heldBy_6 ?_
    refine lv_iconst (v := (0 : Int32)) hx hb dX6_heldBy_9 (by decide) ?_
    refine m_ald S hw 1 0 3098 rfl (by decide) rfl (vlit (by decide)) dX6_heldBy_10 ?_
    refine lv_icmp_ge (tgt := 55) hx hb dX6_heldBy_11 (by decide) (fun c11 => ?_) (fun c11 => ?_)
    · replace h := if_t c11 h
      refine lv_iload_n hx hb dX6_heldBy_55 rfl (lv_at hl 2 rfl) ?_
      exact m_iret S hr hlk hw h dX6_heldBy_56
    · replace h := if_f c11 h
      refine lv_iload_n hx hb dX6_heldBy_14 rfl (lv_at hl 2 rfl) ?_
      refine lv_aload_n hx hb dX6_heldBy_15 rfl (lv_at hl 0 rfl) ?_
      refine lv_iload_n hx hb dX6_heldBy_16 rfl (lv_at hl 1 rfl) ?_
      refine lv_iload_n hx hb dX6_heldBy_17 rfl (lv_at hl 3 rfl) ?_
      refine m_calli S hw [.int x1, .int x3] [.int x2] (ctM_isRead l D dA ad A a x1 x3 _ h) (cwM_isRead hts ⟨Nat.le_of_ble_eq_true rfl, Nat.le_of_ble_eq_true rfl⟩) rfl hl.1 rfl (Nat.le_of_ble_eq_true rfl) dX6_heldBy_18 ⟨Nat.zero_le _, Nat.zero_le _⟩ (fun r18 a18 H locs h hw => ?_)
      refine lv_if_eq (tgt := 46) hx hb dX6_heldBy_21 (by decide) (fun c21 => ?_) (fun c21 => ?_)
      · replace h := if_t c21 h
        refine lv_iconst (v := (0 : Int32)) hx hb dX6_heldBy_46 (by decide) ?_
        refine lv_iadd hx hb dX6_heldBy_47 ?_
        refine lv_istore_n (lv' := [(2, .int (x2 + (0 : Int32))), (0, .ref (ad 38)), (1, .int x1), (3, .int x3)]) hx hb dX6_heldBy_48 rfl hl (by decide) rfl (fun ls hl => ?_)
        refine lv_iinc (v := (x3 + (1 : Int32))) (lv' := [(3, .int (x3 + (1 : Int32))), (2, .int (x2 + (0 : Int32))), (0, .ref (ad 38)), (1, .int x1)]) hx hb dX6_heldBy_49 hl (k := 3) rfl rfl (by decide) rfl (fun ls hl => ?_)
        refine lv_goto (tgt := 4) hx hb dX6_heldBy_52 (by decide) ?_
        exact ih _ _ _ _ _ _ h hw (lv_sub hl [2, 3, 1, 0] rfl)
      · replace h := if_f c21 h
        refine lv_aload_n hx hb dX6_heldBy_24 rfl (lv_at hl 0 rfl) ?_
        refine m_get S hw 0 (by decide) q1338 rfl rfl dX6_heldBy_25 ?_
        refine lv_aload_n hx hb dX6_heldBy_28 rfl (lv_at hl 0 rfl) ?_
        refine lv_iload_n hx hb dX6_heldBy_29 rfl (lv_at hl 3 rfl) ?_
        refine m_calli S hw [.int x3] [.ref (ad 0), .int x2] (ctM_leafAt l D dA ad A a18 x3 _ h) (cwM_leafAt hts ⟨Nat.le_of_ble_eq_true rfl, Nat.le_of_ble_eq_true rfl⟩) rfl hl.1 rfl (Nat.le_of_ble_eq_true rfl) dX6_heldBy_30 ⟨Nat.zero_le _, Nat.zero_le _⟩ (fun r30 a30 H locs h hw => ?_)
        refine lv_iconst (v := (3 : Int32)) hx hb dX6_heldBy_33 (by decide) ?_
        refine lv_iadd hx hb dX6_heldBy_34 ?_
        refine m_ald S hw 1 0 3098 rfl (by decide) rfl h.1 dX6_heldBy_35 ?_
        replace h := h.2
        refine lv_aload_n hx hb dX6_heldBy_36 rfl (lv_at hl 0 rfl) ?_
        refine m_get S hw 13 (by decide) q1351 rfl rfl dX6_heldBy_37 ?_
        refine lv_iload_n hx hb dX6_heldBy_40 rfl (lv_at hl 3 rfl) ?_
        refine m_ald S hw 13 13 8 rfl (by decide) rfl h.1 dX6_heldBy_41 ?_
        replace h := h.2
        refine lv_imul hx hb dX6_heldBy_42 ?_
        refine lv_goto (tgt := 47) hx hb dX6_heldBy_43 (by decide) ?_
        refine lv_iadd hx hb dX6_heldBy_47 ?_
        refine lv_istore_n (lv' := [(2, .int (x2 + ((a30 0 (r30 + (3 : Int32)).toNatClampNeg) * (a30 13 x3.toNatClampNeg)))), (0, .ref (ad 38)), (1, .int x1), (3, .int x3)]) hx hb dX6_heldBy_48 rfl hl (by decide) rfl (fun ls hl => ?_)
        refine lv_iinc (v := (x3 + (1 : Int32))) (lv' := [(3, .int (x3 + (1 : Int32))), (2, .int (x2 + ((a30 0 (r30 + (3 : Int32)).toNatClampNeg) * (a30 13 x3.toNatClampNeg)))), (0, .ref (ad 38)), (1, .int x1)]) hx hb dX6_heldBy_49 hl (k := 3) rfl rfl (by decide) rfl (fun ls hl => ?_)
        refine lv_goto (tgt := 4) hx hb dX6_heldBy_52 (by decide) ?_
        exact ih _ _ _ _ _ _ h hw (lv_sub hl [2, 3, 1, 0] rfl)
def wpM_heldBy (a : MS) (x1 : Int32) (Q : Int32 → MS → Prop) : Prop := ∃ n4, bkM_heldBy_4 Q x1 n4 (0 : Int32) (0 : Int32) a
set_option maxHeartbeats 4000000 in
set_option maxRecDepth 100000 in
theorem wkM_heldBy_e (S : CallFix p m c cX6_heldBy 4 s args lw_all RX6) (hr : meth.sig.returnType = (some .int)) (hlk : meth.locks = false) (Q : Int32 → MS → Prop) (x1 : Int32) (a : MS) (H : Heap) (locs : List Loc) (ls : Array Slot) (h : wpM_heldBy a x1 Q) (hw : MW D dA ad A a s H locs) (hl : lv_has ls 4 [(0, .ref (ad 38)), (1, .int x1)]) : W p l e rmM_heldBy s m args below meth c H locs 0 0 (MQ below (mQi D dA ad A Q) args s 0 0 A) (F0 m 0 ls []) := by
  have hx := S.1
  have hb := S.2.1
  have hown := S.2.2.2.1
  have hts := S.2.2.2.2
  unfold wpM_heldBy at h
  refine lv_iconst (v := (0 : Int32)) hx hb dX6_heldBy_0 (by decide) ?_
  refine lv_istore_n (lv' := [(2, .int (0 : Int32)), (0, .ref (ad 38)), (1, .int x1)]) hx hb dX6_heldBy_1 rfl hl (by decide) rfl (fun ls hl => ?_)
  refine lv_iconst (v := (0 : Int32)) hx hb dX6_heldBy_2 (by decide) ?_
  refine lv_istore_n (lv' := [(3, .int (0 : Int32)), (2, .int (0 : Int32)), (0, .ref (ad 38)), (1, .int x1)]) hx hb dX6_heldBy_3 rfl hl (by decide) rfl (fun ls hl => ?_)
  obtain ⟨n4, h⟩ := h
  exact wkM_heldBy_4 S hr hlk Q x1 n4 _ _ _ _ _ _ h hw (lv_sub hl [2, 3, 1, 0] rfl)
theorem ctM_heldBy (l : Launch) (D : va_G) (dA : Nat → ClassId) (ad : Nat → Nat) (A : Nat → Prop) (a : MS) (x1 : Int32) (Q : Int32 → MS → Prop) (h : wpM_heldBy a x1 Q) : Met l yX6_heldBy (ws_ yX6_heldBy cX6_heldBy 4 (some .int)) rmM_heldBy (mPc D dA ad A a [.ref (ad 38), .int x1]) (mQi D dA ad A Q) 0 0 A :=
  m_met (by decide) rfl rfl rfl (Nat.le_of_ble_eq_true rfl) (fun p e s m below meth c ls S hr hlk hw hl => wkM_heldBy_e S hr hlk Q x1 a _ _ ls h hw hl)
theorem cwM_heldBy {R : Room} {s : State} {args : Array Value} {rm : Room} (hts : ∀ w ∈ lw_all, w.before args s = true) (hR : rm.frames + 1 ≤ R.frames ∧ 8 + (4 + 11) + rm.locals ≤ R.locals) (hc : rm.cells = 0 := by rfl) (hs : rm.slots = 0 := by rfl) : CallW R s args RX6 RX6 218 yX6_heldBy cX6_heldBy 4 (some .int) (ws_ yX6_heldBy cX6_heldBy 4 (some .int)) rm 0 0 1 :=
  cwV 1 hts (lw_V q1693 q1695 qs81 q112 q1696) rfl hc hs (by decide +kernel) hR
/-! hold -/
abbrev rmM_hold : Room := { frames := 6, cells := 0, slots := 0, locals := 137 }
def wpM_hold (a : MS) (x1 : Int32) (Q : Int32 → MS → Prop) : Prop := if x1 < 0 then (Q (-1000000001 : Int32) a) else (wpM_sets a (fun r6 a6 => if x1 < r6 then (wpM_knowsRooms a6 (fun a16 => vp_in x1 256 ∧ (if (a16 14 x1.toNatClampNeg) ≤ (a16 0 (3 : Int32).toNatClampNeg) then (wpM_heldBy a16 x1 (fun r41 a41 => Q r41 a41)) else (Q (-1000000002 : Int32) a16)))) else (Q (-1000000001 : Int32) a6)))
set_option maxHeartbeats 4000000 in
set_option maxRecDepth 100000 in
theorem wkM_hold_e (S : CallFix p m c cX6_hold 2 s args lw_all RX6) (hr : meth.sig.returnType = (some .int)) (hlk : meth.locks = false) (Q : Int32 → MS → Prop) (x1 : Int32) (a : MS) (H : Heap) (locs : List Loc) (ls : Array Slot) (h : wpM_hold a x1 Q) (hw : MW D dA ad A a s H locs) (hl : lv_has ls 2 [(0, .ref (ad 38)), (1, .int x1)]) : W p l e rmM_hold s m args below meth c H locs 0 0 (MQ below (mQi D dA ad A Q) args s 0 0 A) (F0 m 0 ls []) := by
  have hx := S.1
  have hb := S.2.1
  have hown := S.2.2.2.1
  have hts := S.2.2.2.2
  unfold wpM_hold at h
  refine lv_iload_n hx hb dX6_hold_0 rfl (lv_at hl 1 rfl) ?_
  refine lv_if_lt (tgt := 12) hx hb dX6_hold_1 (by decide) (fun c1 => ?_) (fun c1 => ?_)
  · replace h := if_t c1 h
    refine lv_ldc hx hb hown (hts _ q1468) dX6_hold_12 ?_
    exact m_iret S hr hlk hw h dX6_hold_14
  · replace h := if_f c1 h
    refine lv_iload_n hx hb dX6_hold_4 rfl (lv_at hl 1 rfl) ?_
    refine lv_aload_n hx hb dX6_hold_5 rfl (lv_at hl 0 rfl) ?_
    refine m_calli S hw [] [.int x1] (ctM_sets l D dA ad A a _ h) (cwM_sets hts ⟨Nat.le_of_ble_eq_true rfl, Nat.le_of_ble_eq_true rfl⟩) rfl hl.1 rfl (Nat.le_of_ble_eq_true rfl) dX6_hold_6 ⟨Nat.zero_le _, Nat.zero_le _⟩ (fun r6 a6 H locs h hw => ?_)
    refine lv_icmp_lt (tgt := 15) hx hb dX6_hold_9 (by decide) (fun c9 => ?_) (fun c9 => ?_)
    · replace h := if_t c9 h
      refine lv_aload_n hx hb dX6_hold_15 rfl (lv_at hl 0 rfl) ?_
      refine m_callv S hw [] [] (ctM_knowsRooms l D dA ad A a6 _ h) (cwM_knowsRooms hts ⟨Nat.le_of_ble_eq_true rfl, Nat.le_of_ble_eq_true rfl⟩) rfl hl.1 rfl (Nat.le_of_ble_eq_true rfl) dX6_hold_16 ⟨Nat.zero_le _, Nat.zero_le _⟩ (fun a16 H locs h hw => ?_)
      refine lv_aload_n hx hb dX6_hold_19 rfl (lv_at hl 0 rfl) ?_
      refine m_get S hw 14 (by decide) q1352 rfl rfl dX6_hold_20 ?_
      refine lv_iload_n hx hb dX6_hold_23 rfl (lv_at hl 1 rfl) ?_
      refine m_ald S hw 14 14 256 rfl (by decide) rfl h.1 dX6_hold_24 ?_
      replace h := h.2
      refine lv_aload_n hx hb dX6_hold_25 rfl (lv_at hl 0 rfl) ?_
      refine m_get S hw 0 (by decide) q1338 rfl rfl dX6_hold_26 ?_
      refine lv_iconst (v := (3 : Int32)) hx hb dX6_hold_29 (by decide) ?_
      refine m_ald S hw 1 0 3098 rfl (by decide) rfl (vlit (by decide)) dX6_hold_30 ?_
      refine lv_icmp_le (tgt := 39) hx hb dX6_hold_31 (by decide) (fun c31 => ?_) (fun c31 => ?_)
      · replace h := if_t c31 h
        refine lv_aload_n hx hb dX6_hold_39 rfl (lv_at hl 0 rfl) ?_
        refine lv_iload_n hx hb dX6_hold_40 rfl (lv_at hl 1 rfl) ?_
        refine m_calli S hw [.int x1] [] (ctM_heldBy l D dA ad A a16 x1 _ h) (cwM_heldBy hts ⟨Nat.le_of_ble_eq_true rfl, Nat.le_of_ble_eq_true rfl⟩) rfl hl.1 rfl (Nat.le_of_ble_eq_true rfl) dX6_hold_41 ⟨Nat.zero_le _, Nat.zero_le _⟩ (fun r41 a41 H locs h hw => ?_)
        exact m_iret S hr hlk hw h dX6_hold_44
      · replace h := if_f c31 h
        refine lv_ldc hx hb hown (hts _ q1655) dX6_hold_34 ?_
        refine lv_goto (tgt := 44) hx hb dX6_hold_36 (by decide) ?_
        exact m_iret S hr hlk hw h dX6_hold_44
    · replace h := if_f c9 h
      refine lv_ldc hx hb hown (hts _ q1468) dX6_hold_12 ?_
      exact m_iret S hr hlk hw h dX6_hold_14
theorem ctM_hold (l : Launch) (D : va_G) (dA : Nat → ClassId) (ad : Nat → Nat) (A : Nat → Prop) (a : MS) (x1 : Int32) (Q : Int32 → MS → Prop) (h : wpM_hold a x1 Q) : Met l yX6_hold (ws_ yX6_hold cX6_hold 2 (some .int)) rmM_hold (mPc D dA ad A a [.ref (ad 38), .int x1]) (mQi D dA ad A Q) 0 0 A :=
  m_met (by decide) rfl rfl rfl (Nat.le_of_ble_eq_true rfl) (fun p e s m below meth c ls S hr hlk hw hl => wkM_hold_e S hr hlk Q x1 a _ _ ls h hw hl)
/-! bestWithout -/
abbrev rmM_bestWithout : Room := { frames := 3, cells := 0, slots := 0, locals := 67 }
def bkM_bestWithout_38 (Q : Int32 → MS → Prop) (x1 : Int32) (O4 : Int32 → Int32 → MS → Prop) : Int32 → Int32 → Int32 → MS → Prop := fun x2 x3 s0 a => if s0 = 0 then (O4 x2 (x3 + (1 : Int32)) a) else (wpM_heldBy a x3 (fun r47 a47 => wpM_heldBy a47 x2 (fun r52 a52 => if r47 ≤ r52 then (O4 x2 (x3 + (1 : Int32)) a52) else (O4 x3 (x3 + (1 : Int32)) a52))))
set_option maxHeartbeats 4000000 in
set_option maxRecDepth 100000 in
theorem wkM_bestWithout_38 (S : CallFix p m c cX6_bestWithout 5 s args lw_all RX6) (hr : meth.sig.returnType = (some .int)) (hlk : meth.locks = false) (Q : Int32 → MS → Prop) (x1 : Int32) {O4 : Int32 → Int32 → MS → Prop} (hO4 : ∀ (x2 : Int32) (x3 : Int32) (a : MS) (H : Heap) (locs : List Loc) (ls : Array Slot), O4 x2 x3 a → MW D dA ad A a s H locs → lv_has ls 5 [(0, .ref (ad 38)), (1, .int x1), (2, .int x2), (3, .int x3)] → W p l e rmM_bestWithout s m args below meth c H locs 0 0 (MQ below (mQi D dA ad A Q) args s 0 0 A) (F0 m 4 ls [])) : ∀ (x2 : Int32) (x3 : Int32) (s0 : Int32) (a : MS) (H : Heap) (locs : List Loc) (ls : Array Slot), bkM_bestWithout_38 Q x1 O4 x2 x3 s0 a → MW D dA ad A a s H locs → lv_has ls 5 [(0, .ref (ad 38)), (1, .int x1), (2, .int x2), (3, .int x3)] → W p l e rmM_bestWithout s m args below meth c H locs 0 0 (MQ below (mQi D dA ad A Q) args s 0 0 A) (F0 m 38 ls [.int s0]) := by
  have hx := S.1
  have hb := S.2.1
  have hown := S.2.2.2.1
  have hts := S.2.2.2.2
  intro x2 x3 s0 a H locs ls h hw hl
  unfold bkM_bestWithout_38 at h
  refine lv_istore (lv' := [(4, .int s0), (0, .ref (ad 38)), (1, .int x1), (2, .int x2), (3, .int x3)]) hx hb dX6_bestWithout_38 hl (by decide) rfl (fun ls hl => ?_)
  refine lv_iload hx hb dX6_bestWithout_40 (lv_at hl 0 rfl) ?_
  refine lv_if_eq (tgt := 62) hx hb dX6_bestWithout_42 (by decide) (fun c42 => ?_) (fun c42 => ?_)
  · replace h := if_t c42 h
    refine lv_iload_n hx hb dX6_bestWithout_62 rfl (lv_at hl 3 rfl) ?_
    refine lv_istore_n (lv' := [(2, .int x2), (4, .int s0), (0, .ref (ad 38)), (1, .int x1), (3, .int x3)]) hx hb dX6_bestWithout_63 rfl hl (by decide) rfl (fun ls hl => ?_)
    refine lv_iinc (v := (x3 + (1 : Int32))) (lv' := [(3, .int (x3 + (1 : Int32))), (2, .int x2), (4, .int s0), (0, .ref (ad 38)), (1, .int x1)]) hx hb dX6_bestWithout_64 hl (k := 4) rfl rfl (by decide) rfl (fun ls hl => ?_)
    refine lv_goto (tgt := 4) hx hb dX6_bestWithout_67 (by decide) ?_
    exact hO4 _ _ _ _ _ _ h hw (lv_sub hl [3, 4, 1, 0] rfl)
  · replace h := if_f c42 h
    refine lv_aload_n hx hb dX6_bestWithout_45 rfl (lv_at hl 1 rfl) ?_
    refine lv_iload_n hx hb dX6_bestWithout_46 rfl (lv_at hl 4 rfl) ?_
    refine m_calli S hw [.int x3] [] (ctM_heldBy l D dA ad A a x3 _ h) (cwM_heldBy hts ⟨Nat.le_of_ble_eq_true rfl, Nat.le_of_ble_eq_true rfl⟩) rfl hl.1 rfl (Nat.le_of_ble_eq_true rfl) dX6_bestWithout_47 ⟨Nat.zero_le _, Nat.zero_le _⟩ (fun r47 a47 H locs h hw => ?_)
    refine lv_aload_n hx hb dX6_bestWithout_50 rfl (lv_at hl 1 rfl) ?_
    refine lv_iload_n hx hb dX6_bestWithout_51 rfl (lv_at hl 3 rfl) ?_
    refine m_calli S hw [.int x2] [.int r47] (ctM_heldBy l D dA ad A a47 x2 _ h) (cwM_heldBy hts ⟨Nat.le_of_ble_eq_true rfl, Nat.le_of_ble_eq_true rfl⟩) rfl hl.1 rfl (Nat.le_of_ble_eq_true rfl) dX6_bestWithout_52 ⟨Nat.zero_le _, Nat.zero_le _⟩ (fun r52 a52 H locs h hw => ?_)
    refine lv_icmp_le (tgt := 62) hx hb dX6_bestWithout_55 (by decide) (fun c55 => ?_) (fun c55 => ?_)
    · replace h := if_t c55 h
      refine lv_iload_n hx hb dX6_bestWithout_62 rfl (lv_at hl 3 rfl) ?_
      refine lv_istore_n (lv' := [(2, .int x2), (4, .int s0), (0, .ref (ad 38)), (1, .int x1), (3, .int x3)]) hx hb dX6_bestWithout_63 rfl hl (by decide) rfl (fun ls hl => ?_)
      refine lv_iinc (v := (x3 + (1 : Int32))) (lv' := [(3, .int (x3 + (1 : Int32))), (2, .int x2), (4, .int s0), (0, .ref (ad 38)), (1, .int x1)]) hx hb dX6_bestWithout_64 hl (k := 4) rfl rfl (by decide) rfl (fun ls hl => ?_)
      refine lv_goto (tgt := 4) hx hb dX6_bestWithout_67 (by decide) ?_
      exact hO4 _ _ _ _ _ _ h hw (lv_sub hl [3, 4, 1, 0] rfl)
    · replace h := if_f c55 h
      refine lv_iload_n hx hb dX6_bestWithout_58 rfl (lv_at hl 4 rfl) ?_
      refine lv_goto (tgt := 63) hx hb dX6_bestWithout_59 (by decide) ?_
      refine lv_istore_n (lv' := [(2, .int x3), (4, .int s0), (0, .ref (ad 38)), (1, .int x1), (3, .int x3)]) hx hb dX6_bestWithout_63 rfl hl (by decide) rfl (fun ls hl => ?_)
      refine lv_iinc (v := (x3 + (1 : Int32))) (lv' := [(3, .int (x3 + (1 : Int32))), (2, .int x3), (4, .int s0), (0, .ref (ad 38)), (1, .int x1)]) hx hb dX6_bestWithout_64 hl (k := 4) rfl rfl (by decide) rfl (fun ls hl => ?_)
      refine lv_goto (tgt := 4) hx hb dX6_bestWithout_67 (by decide) ?_
      exact hO4 _ _ _ _ _ _ h hw (lv_sub hl [3, 4, 1, 0] rfl)
def bkM_bestWithout_37 (Q : Int32 → MS → Prop) (x1 : Int32) (O4 : Int32 → Int32 → MS → Prop) : Int32 → Int32 → MS → Prop := fun x2 x3 a => bkM_bestWithout_38 Q x1 O4 x2 x3 (0 : Int32) a
set_option maxHeartbeats 4000000 in
set_option maxRecDepth 100000 in
theorem wkM_bestWithout_37 (S : CallFix p m c cX6_bestWithout 5 s args lw_all RX6) (hr : meth.sig.returnType = (some .int)) (hlk : meth.locks = false) (Q : Int32 → MS → Prop) (x1 : Int32) {O4 : Int32 → Int32 → MS → Prop} (hO4 : ∀ (x2 : Int32) (x3 : Int32) (a : MS) (H : Heap) (locs : List Loc) (ls : Array Slot), O4 x2 x3 a → MW D dA ad A a s H locs → lv_has ls 5 [(0, .ref (ad 38)), (1, .int x1), (2, .int x2), (3, .int x3)] → W p l e rmM_bestWithout s m args below meth c H locs 0 0 (MQ below (mQi D dA ad A Q) args s 0 0 A) (F0 m 4 ls [])) : ∀ (x2 : Int32) (x3 : Int32) (a : MS) (H : Heap) (locs : List Loc) (ls : Array Slot), bkM_bestWithout_37 Q x1 O4 x2 x3 a → MW D dA ad A a s H locs → lv_has ls 5 [(0, .ref (ad 38)), (1, .int x1), (2, .int x2), (3, .int x3)] → W p l e rmM_bestWithout s m args below meth c H locs 0 0 (MQ below (mQi D dA ad A Q) args s 0 0 A) (F0 m 37 ls []) := by
  have hx := S.1
  have hb := S.2.1
  have hown := S.2.2.2.1
  have hts := S.2.2.2.2
  intro x2 x3 a H locs ls h hw hl
  unfold bkM_bestWithout_37 at h
  refine lv_iconst (v := (0 : Int32)) hx hb dX6_bestWithout_37 (by decide) ?_
  exact wkM_bestWithout_38 S hr hlk Q x1 hO4 _ _ _ _ _ _ _ h hw (lv_sub hl [0, 1, 2, 3] rfl)
def bkM_bestWithout_4 (Q : Int32 → MS → Prop) (x1 : Int32) : Nat → Int32 → Int32 → MS → Prop
  | 0 => fun _ _ _ => False
  | n + 1 => fun x2 x3 a => wpM_sets a (fun r6 a6 => if r6 ≤ x3 then (Q x2 a6) else (if (x3 &&& x1) = 0 then (vp_in x3 256 ∧ (if (a6 0 (3 : Int32).toNatClampNeg) < (a6 14 x3.toNatClampNeg) then (bkM_bestWithout_37 Q x1 (bkM_bestWithout_4 Q x1 n) x2 x3 a6) else (bkM_bestWithout_38 Q x1 (bkM_bestWithout_4 Q x1 n) x2 x3 (1 : Int32) a6))) else (bkM_bestWithout_37 Q x1 (bkM_bestWithout_4 Q x1 n) x2 x3 a6)))
set_option maxHeartbeats 4000000 in
set_option maxRecDepth 100000 in
theorem wkM_bestWithout_4 (S : CallFix p m c cX6_bestWithout 5 s args lw_all RX6) (hr : meth.sig.returnType = (some .int)) (hlk : meth.locks = false) (Q : Int32 → MS → Prop) (x1 : Int32) : ∀ (n : Nat) (x2 : Int32) (x3 : Int32) (a : MS) (H : Heap) (locs : List Loc) (ls : Array Slot), bkM_bestWithout_4 Q x1 n x2 x3 a → MW D dA ad A a s H locs → lv_has ls 5 [(0, .ref (ad 38)), (1, .int x1), (2, .int x2), (3, .int x3)] → W p l e rmM_bestWithout s m args below meth c H locs 0 0 (MQ below (mQi D dA ad A Q) args s 0 0 A) (F0 m 4 ls []) := by
  have hx := S.1
  have hb := S.2.1
  have hown := S.2.2.2.1
  have hts := S.2.2.2.2
  intro n
  induction n with
  | zero =>
    intro x2 x3 a H locs ls h
    exact False.elim h
  | succ n ih =>
    intro x2 x3 a H locs ls h hw hl
    unfold bkM_bestWithout_4 at h
    refine lv_iload_n hx hb dX6_bestWithout_4 rfl (lv_at hl 3 rfl) ?_
    refine lv_aload_n hx hb dX6_bestWithout_5 rfl (lv_at hl 0 rfl) ?_
    refine m_calli S hw [] [.int x3] (ctM_sets l D dA ad A a _ h) (cwM_sets hts ⟨Nat.le_of_ble_eq_true rfl, Nat.le_of_ble_eq_true rfl⟩) rfl hl.1 rfl (Nat.le_of_ble_eq_true rfl) dX6_bestWithout_6 ⟨Nat.zero_le _, Nat.zero_le _⟩ (fun r6 a6 H locs h hw => ?_)
    refine lv_icmp_ge (tgt := 70) hx hb dX6_bestWithout_9 (by decide) (fun c9 => ?_) (fun c9 => ?_)
    · replace h := if_t c9 h
      refine lv_iload_n hx hb dX6_bestWithout_70 rfl (lv_at hl 2 rfl) ?_
      exact m_iret S hr hlk hw h dX6_bestWithout_71
    · replace h := if_f c9 h
      refine lv_iload_n hx hb dX6_bestWithout_12 rfl (lv_at hl 3 rfl) ?_
      refine lv_iload_n hx hb dX6_bestWithout_13 rfl (lv_at hl 1 rfl) ?_
      refine lv_iand hx hb dX6_bestWithout_14 ?_
      refine lv_if_ne (tgt := 37) hx hb dX6_bestWithout_15 (by decide) (fun c15 => ?_) (fun c15 => ?_)
      · replace h := if_f c15 h
        exact wkM_bestWithout_37 S hr hlk Q x1 ih _ _ _ _ _ _ h hw (lv_sub hl [0, 1, 2, 3] rfl)
      · replace h := if_t c15 h
        refine lv_aload_n hx hb dX6_bestWithout_18 rfl (lv_at hl 0 rfl) ?_
        refine m_get S hw 14 (by decide) q1352 rfl rfl dX6_bestWithout_19 ?_
        refine lv_iload_n hx hb dX6_bestWithout_22 rfl (lv_at hl 3 rfl) ?_
        refine m_ald S hw 14 14 256 rfl (by decide) rfl h.1 dX6_bestWithout_23 ?_
        replace h := h.2
        refine lv_aload_n hx hb dX6_bestWithout_24 rfl (lv_at hl 0 rfl) ?_
        refine m_get S hw 0 (by decide) q1338 rfl rfl dX6_bestWithout_25 ?_
        refine lv_iconst (v := (3 : Int32)) hx hb dX6_bestWithout_28 (by decide) ?_
        refine m_ald S hw 1 0 3098 rfl (by decide) rfl (vlit (by decide)) dX6_bestWithout_29 ?_
        refine lv_icmp_gt (tgt := 37) hx hb dX6_bestWithout_30 (by decide) (fun c30 => ?_) (fun c30 => ?_)
        · replace h := if_t c30 h
          exact wkM_bestWithout_37 S hr hlk Q x1 ih _ _ _ _ _ _ h hw (lv_sub hl [0, 1, 2, 3] rfl)
        · replace h := if_f c30 h
          refine lv_iconst (v := (1 : Int32)) hx hb dX6_bestWithout_33 (by decide) ?_
          refine lv_goto (tgt := 38) hx hb dX6_bestWithout_34 (by decide) ?_
          exact wkM_bestWithout_38 S hr hlk Q x1 ih _ _ _ _ _ _ _ h hw (lv_sub hl [0, 1, 2, 3] rfl)
def wpM_bestWithout (a : MS) (x1 : Int32) (Q : Int32 → MS → Prop) : Prop := ∃ n4, bkM_bestWithout_4 Q x1 n4 (0 : Int32) (1 : Int32) a
set_option maxHeartbeats 4000000 in
set_option maxRecDepth 100000 in
theorem wkM_bestWithout_e (S : CallFix p m c cX6_bestWithout 5 s args lw_all RX6) (hr : meth.sig.returnType = (some .int)) (hlk : meth.locks = false) (Q : Int32 → MS → Prop) (x1 : Int32) (a : MS) (H : Heap) (locs : List Loc) (ls : Array Slot) (h : wpM_bestWithout a x1 Q) (hw : MW D dA ad A a s H locs) (hl : lv_has ls 5 [(0, .ref (ad 38)), (1, .int x1)]) : W p l e rmM_bestWithout s m args below meth c H locs 0 0 (MQ below (mQi D dA ad A Q) args s 0 0 A) (F0 m 0 ls []) := by
  have hx := S.1
  have hb := S.2.1
  have hown := S.2.2.2.1
  have hts := S.2.2.2.2
  unfold wpM_bestWithout at h
  refine lv_iconst (v := (0 : Int32)) hx hb dX6_bestWithout_0 (by decide) ?_
  refine lv_istore_n (lv' := [(2, .int (0 : Int32)), (0, .ref (ad 38)), (1, .int x1)]) hx hb dX6_bestWithout_1 rfl hl (by decide) rfl (fun ls hl => ?_)
  refine lv_iconst (v := (1 : Int32)) hx hb dX6_bestWithout_2 (by decide) ?_
  refine lv_istore_n (lv' := [(3, .int (1 : Int32)), (2, .int (0 : Int32)), (0, .ref (ad 38)), (1, .int x1)]) hx hb dX6_bestWithout_3 rfl hl (by decide) rfl (fun ls hl => ?_)
  obtain ⟨n4, h⟩ := h
  exact wkM_bestWithout_4 S hr hlk Q x1 n4 _ _ _ _ _ _ h hw (lv_sub hl [2, 3, 1, 0] rfl)
theorem ctM_bestWithout (l : Launch) (D : va_G) (dA : Nat → ClassId) (ad : Nat → Nat) (A : Nat → Prop) (a : MS) (x1 : Int32) (Q : Int32 → MS → Prop) (h : wpM_bestWithout a x1 Q) : Met l yX6_bestWithout (ws_ yX6_bestWithout cX6_bestWithout 5 (some .int)) rmM_bestWithout (mPc D dA ad A a [.ref (ad 38), .int x1]) (mQi D dA ad A Q) 0 0 A :=
  m_met (by decide) rfl rfl rfl (Nat.le_of_ble_eq_true rfl) (fun p e s m below meth c ls S hr hlk hw hl => wkM_bestWithout_e S hr hlk Q x1 a _ _ ls h hw hl)
theorem cwM_bestWithout {R : Room} {s : State} {args : Array Value} {rm : Room} (hts : ∀ w ∈ lw_all, w.before args s = true) (hR : rm.frames + 1 ≤ R.frames ∧ 8 + (5 + 11) + rm.locals ≤ R.locals) (hc : rm.cells = 0 := by rfl) (hs : rm.slots = 0 := by rfl) : CallW R s args RX6 RX6 221 yX6_bestWithout cX6_bestWithout 5 (some .int) (ws_ yX6_bestWithout cX6_bestWithout 5 (some .int)) rm 0 0 1 :=
  cwV 1 hts (lw_V q1701 q1703 qs82 q112 q1704) rfl hc hs (by decide +kernel) hR
/-! best -/
abbrev rmM_best : Room := { frames := 6, cells := 0, slots := 0, locals := 137 }
def wpM_best (a : MS) (x1 : Int32) (Q : Int32 → MS → Prop) : Prop := wpM_isIn a x1.toInt64 (0 : Int64) (1 : Int64) (fun r4 a4 => if r4 = 0 then (Q (-1000000001 : Int32) a4) else (wpM_knowsRooms a4 (fun a14 => wpM_bestWithout a14 (0 : Int32) (fun r19 a19 => if x1 = 0 then (wpM_heldBy a19 r19 (fun r29 a29 => Q r29 a29)) else (Q r19 a19)))))
set_option maxHeartbeats 4000000 in
set_option maxRecDepth 100000 in
theorem wkM_best_e (S : CallFix p m c cX6_best 3 s args lw_all RX6) (hr : meth.sig.returnType = (some .int)) (hlk : meth.locks = false) (Q : Int32 → MS → Prop) (x1 : Int32) (a : MS) (H : Heap) (locs : List Loc) (ls : Array Slot) (h : wpM_best a x1 Q) (hw : MW D dA ad A a s H locs) (hl : lv_has ls 3 [(0, .ref (ad 38)), (1, .int x1)]) : W p l e rmM_best s m args below meth c H locs 0 0 (MQ below (mQi D dA ad A Q) args s 0 0 A) (F0 m 0 ls []) := by
  have hx := S.1
  have hb := S.2.1
  have hown := S.2.2.2.1
  have hts := S.2.2.2.2
  unfold wpM_best at h
  refine lv_iload_n hx hb dX6_best_0 rfl (lv_at hl 1 rfl) ?_
  refine lv_i2l (v := x1.toInt64) hx hb dX6_best_1 rfl ?_
  refine lv_lconst (v := 0) hx hb dX6_best_2 (by decide) ?_
  refine lv_lconst (v := 1) hx hb dX6_best_3 (by decide) ?_
  refine m_callSi S hw [.long x1.toInt64, .long (0 : Int64), .long (1 : Int64)] [] (ctM_isIn l D dA ad A a x1.toInt64 (0 : Int64) (1 : Int64) _ h) (cwM_isIn hts ⟨Nat.le_of_ble_eq_true rfl, Nat.le_of_ble_eq_true rfl⟩) rfl hl.1 rfl (Nat.le_of_ble_eq_true rfl) dX6_best_4 ⟨Nat.zero_le _, Nat.zero_le _⟩ (fun r4 a4 H locs h hw => ?_)
  refine lv_if_ne (tgt := 13) hx hb dX6_best_7 (by decide) (fun c7 => ?_) (fun c7 => ?_)
  · replace h := if_f c7 h
    refine lv_aload_n hx hb dX6_best_13 rfl (lv_at hl 0 rfl) ?_
    refine m_callv S hw [] [] (ctM_knowsRooms l D dA ad A a4 _ h) (cwM_knowsRooms hts ⟨Nat.le_of_ble_eq_true rfl, Nat.le_of_ble_eq_true rfl⟩) rfl hl.1 rfl (Nat.le_of_ble_eq_true rfl) dX6_best_14 ⟨Nat.zero_le _, Nat.zero_le _⟩ (fun a14 H locs h hw => ?_)
    refine lv_aload_n hx hb dX6_best_17 rfl (lv_at hl 0 rfl) ?_
    refine lv_iconst (v := (0 : Int32)) hx hb dX6_best_18 (by decide) ?_
    refine m_calli S hw [.int (0 : Int32)] [] (ctM_bestWithout l D dA ad A a14 (0 : Int32) _ h) (cwM_bestWithout hts ⟨Nat.le_of_ble_eq_true rfl, Nat.le_of_ble_eq_true rfl⟩) rfl hl.1 rfl (Nat.le_of_ble_eq_true rfl) dX6_best_19 ⟨Nat.zero_le _, Nat.zero_le _⟩ (fun r19 a19 H locs h hw => ?_)
    refine lv_istore_n (lv' := [(2, .int r19), (0, .ref (ad 38)), (1, .int x1)]) hx hb dX6_best_22 rfl hl (by decide) rfl (fun ls hl => ?_)
    refine lv_iload_n hx hb dX6_best_23 rfl (lv_at hl 2 rfl) ?_
    refine lv_if_ne (tgt := 35) hx hb dX6_best_24 (by decide) (fun c24 => ?_) (fun c24 => ?_)
    · replace h := if_f c24 h
      refine lv_iload_n hx hb dX6_best_35 rfl (lv_at hl 0 rfl) ?_
      exact m_iret S hr hlk hw h dX6_best_36
    · replace h := if_t c24 h
      refine lv_aload_n hx hb dX6_best_27 rfl (lv_at hl 1 rfl) ?_
      refine lv_iload_n hx hb dX6_best_28 rfl (lv_at hl 0 rfl) ?_
      refine m_calli S hw [.int r19] [] (ctM_heldBy l D dA ad A a19 r19 _ h) (cwM_heldBy hts ⟨Nat.le_of_ble_eq_true rfl, Nat.le_of_ble_eq_true rfl⟩) rfl hl.1 rfl (Nat.le_of_ble_eq_true rfl) dX6_best_29 ⟨Nat.zero_le _, Nat.zero_le _⟩ (fun r29 a29 H locs h hw => ?_)
      refine lv_goto (tgt := 36) hx hb dX6_best_32 (by decide) ?_
      exact m_iret S hr hlk hw h dX6_best_36
  · replace h := if_t c7 h
    refine lv_ldc hx hb hown (hts _ q1468) dX6_best_10 ?_
    exact m_iret S hr hlk hw h dX6_best_12
theorem ctM_best (l : Launch) (D : va_G) (dA : Nat → ClassId) (ad : Nat → Nat) (A : Nat → Prop) (a : MS) (x1 : Int32) (Q : Int32 → MS → Prop) (h : wpM_best a x1 Q) : Met l yX6_best (ws_ yX6_best cX6_best 3 (some .int)) rmM_best (mPc D dA ad A a [.ref (ad 38), .int x1]) (mQi D dA ad A Q) 0 0 A :=
  m_met (by decide) rfl rfl rfl (Nat.le_of_ble_eq_true rfl) (fun p e s m below meth c ls S hr hlk hw hl => wkM_best_e S hr hlk Q x1 a _ _ ls h hw hl)
/-! price -/
abbrev rmM_price : Room := { frames := 6, cells := 0, slots := 0, locals := 137 }
def wpM_price (a : MS) (x1 : Int32) (Q : Int32 → MS → Prop) : Prop := wpM_isLeaf a x1 (fun r2 a2 => if r2 = 0 then (Q (-1000000001 : Int32) a2) else (wpM_knowsRooms a2 (fun a12 => wpM_bestWithout a12 (0 : Int32) (fun r18 a18 => wpM_heldBy a18 r18 (fun r21 a21 => wpM_bestWithout a21 (ishl (1 : Int32) x1) (fun r29 a29 => wpM_heldBy a29 r29 (fun r32 a32 => Q (r21 - r32) a32)))))))
set_option maxHeartbeats 4000000 in
set_option maxRecDepth 100000 in
theorem wkM_price_e (S : CallFix p m c cX6_price 2 s args lw_all RX6) (hr : meth.sig.returnType = (some .int)) (hlk : meth.locks = false) (Q : Int32 → MS → Prop) (x1 : Int32) (a : MS) (H : Heap) (locs : List Loc) (ls : Array Slot) (h : wpM_price a x1 Q) (hw : MW D dA ad A a s H locs) (hl : lv_has ls 2 [(0, .ref (ad 38)), (1, .int x1)]) : W p l e rmM_price s m args below meth c H locs 0 0 (MQ below (mQi D dA ad A Q) args s 0 0 A) (F0 m 0 ls []) := by
  have hx := S.1
  have hb := S.2.1
  have hown := S.2.2.2.1
  have hts := S.2.2.2.2
  unfold wpM_price at h
  refine lv_aload_n hx hb dX6_price_0 rfl (lv_at hl 0 rfl) ?_
  refine lv_iload_n hx hb dX6_price_1 rfl (lv_at hl 1 rfl) ?_
  refine m_calli S hw [.int x1] [] (ctM_isLeaf l D dA ad A a x1 _ h) (cwM_isLeaf hts ⟨Nat.le_of_ble_eq_true rfl, Nat.le_of_ble_eq_true rfl⟩) rfl hl.1 rfl (Nat.le_of_ble_eq_true rfl) dX6_price_2 ⟨Nat.zero_le _, Nat.zero_le _⟩ (fun r2 a2 H locs h hw => ?_)
  refine lv_if_ne (tgt := 11) hx hb dX6_price_5 (by decide) (fun c5 => ?_) (fun c5 => ?_)
  · replace h := if_f c5 h
    refine lv_aload_n hx hb dX6_price_11 rfl (lv_at hl 0 rfl) ?_
    refine m_callv S hw [] [] (ctM_knowsRooms l D dA ad A a2 _ h) (cwM_knowsRooms hts ⟨Nat.le_of_ble_eq_true rfl, Nat.le_of_ble_eq_true rfl⟩) rfl hl.1 rfl (Nat.le_of_ble_eq_true rfl) dX6_price_12 ⟨Nat.zero_le _, Nat.zero_le _⟩ (fun a12 H locs h hw => ?_)
    refine lv_aload_n hx hb dX6_price_15 rfl (lv_at hl 0 rfl) ?_
    refine lv_aload_n hx hb dX6_price_16 rfl (lv_at hl 0 rfl) ?_
    refine lv_iconst (v := (0 : Int32)) hx hb dX6_price_17 (by decide) ?_
    refine m_calli S hw [.int (0 : Int32)] [.ref (ad 38)] (ctM_bestWithout l D dA ad A a12 (0 : Int32) _ h) (cwM_bestWithout hts ⟨Nat.le_of_ble_eq_true rfl, Nat.le_of_ble_eq_true rfl⟩) rfl hl.1 rfl (Nat.le_of_ble_eq_true rfl) dX6_price_18 ⟨Nat.zero_le _, Nat.zero_le _⟩ (fun r18 a18 H locs h hw => ?_)
    refine m_calli S hw [.int r18] [] (ctM_heldBy l D dA ad A a18 r18 _ h) (cwM_heldBy hts ⟨Nat.le_of_ble_eq_true rfl, Nat.le_of_ble_eq_true rfl⟩) rfl hl.1 rfl (Nat.le_of_ble_eq_true rfl) dX6_price_21 ⟨Nat.zero_le _, Nat.zero_le _⟩ (fun r21 a21 H locs h hw => ?_)
    refine lv_aload_n hx hb dX6_price_24 rfl (lv_at hl 0 rfl) ?_
    refine lv_aload_n hx hb dX6_price_25 rfl (lv_at hl 0 rfl) ?_
    refine lv_iconst (v := (1 : Int32)) hx hb dX6_price_26 (by decide) ?_
    refine lv_iload_n hx hb dX6_price_27 rfl (lv_at hl 1 rfl) ?_
    refine lv_ishl hx hb dX6_price_28 ?_
    refine m_calli S hw [.int (ishl (1 : Int32) x1)] [.ref (ad 38), .int r21] (ctM_bestWithout l D dA ad A a21 (ishl (1 : Int32) x1) _ h) (cwM_bestWithout hts ⟨Nat.le_of_ble_eq_true rfl, Nat.le_of_ble_eq_true rfl⟩) rfl hl.1 rfl (Nat.le_of_ble_eq_true rfl) dX6_price_29 ⟨Nat.zero_le _, Nat.zero_le _⟩ (fun r29 a29 H locs h hw => ?_)
    refine m_calli S hw [.int r29] [.int r21] (ctM_heldBy l D dA ad A a29 r29 _ h) (cwM_heldBy hts ⟨Nat.le_of_ble_eq_true rfl, Nat.le_of_ble_eq_true rfl⟩) rfl hl.1 rfl (Nat.le_of_ble_eq_true rfl) dX6_price_32 ⟨Nat.zero_le _, Nat.zero_le _⟩ (fun r32 a32 H locs h hw => ?_)
    refine lv_isub hx hb dX6_price_35 ?_
    exact m_iret S hr hlk hw h dX6_price_36
  · replace h := if_t c5 h
    refine lv_ldc hx hb hown (hts _ q1468) dX6_price_8 ?_
    exact m_iret S hr hlk hw h dX6_price_10
theorem ctM_price (l : Launch) (D : va_G) (dA : Nat → ClassId) (ad : Nat → Nat) (A : Nat → Prop) (a : MS) (x1 : Int32) (Q : Int32 → MS → Prop) (h : wpM_price a x1 Q) : Met l yX6_price (ws_ yX6_price cX6_price 2 (some .int)) rmM_price (mPc D dA ad A a [.ref (ad 38), .int x1]) (mQi D dA ad A Q) 0 0 A :=
  m_met (by decide) rfl rfl rfl (Nat.le_of_ble_eq_true rfl) (fun p e s m below meth c ls S hr hlk hw hl => wkM_price_e S hr hlk Q x1 a _ _ ls h hw hl)
/-! laysRow -/
abbrev rmM_laysRow : Room := { frames := 0, cells := 0, slots := 0, locals := 0 }
def bkM_laysRow_7 (Q : MS → Prop) (x1 : Int32) (x2 : Int32) : Nat → Int32 → Int32 → MS → Prop
  | 0 => fun _ _ _ => False
  | n + 1 => fun x3 x4 a => if x4 < 0 then (Q a) else ((¬ (a 0 (0 : Int32).toNatClampNeg) = 0) ∧ (vp_in x4 24 ∧ (∀ a26 : MS, a26 = up2 a 16 x4.toNatClampNeg (irm x3 (a 0 (0 : Int32).toNatClampNeg)) → ((¬ (a26 0 (0 : Int32).toNatClampNeg) = 0) ∧ (bkM_laysRow_7 Q x1 x2 n (x3 / (a26 0 (0 : Int32).toNatClampNeg)) (x4 + (-1 : Int32)) a26)))))
set_option maxHeartbeats 4000000 in
set_option maxRecDepth 100000 in
theorem wkM_laysRow_7 (S : CallFix p m c cX6_laysRow 5 s args lw_all RX6) (hr : meth.sig.returnType = none) (hlk : meth.locks = false) (Q : MS → Prop) (x1 : Int32) (x2 : Int32) : ∀ (n : Nat) (x3 : Int32) (x4 : Int32) (a : MS) (H : Heap) (locs : List Loc) (ls : Array Slot), bkM_laysRow_7 Q x1 x2 n x3 x4 a → MW D dA ad A a s H locs → lv_has ls 5 [(0, .ref (ad 38)), (3, .int x3), (4, .int x4)] → W p l e rmM_laysRow s m args below meth c H locs 0 0 (MQ below (mQv D dA ad A Q) args s 0 0 A) (F0 m 7 ls []) := by
  have hx := S.1
  have hb := S.2.1
  have hown := S.2.2.2.1
  have hts := S.2.2.2.2
  intro n
  induction n with
  | zero =>
    intro x3 x4 a H locs ls h
    exact False.elim h
  | succ n ih =>
    intro x3 x4 a H locs ls h hw hl
    unfold bkM_laysRow_7 at h
    refine lv_iload hx hb dX6_laysRow_7 (lv_at hl 2 rfl) ?_
    refine lv_if_lt (tgt := 42) hx hb dX6_laysRow_9 (by decide) (fun c9 => ?_) (fun c9 => ?_)
    · replace h := if_t c9 h
      exact m_vret S hr hlk hw h dX6_laysRow_42
    · replace h := if_f c9 h
      refine lv_aload_n hx hb dX6_laysRow_12 rfl (lv_at hl 0 rfl) ?_
      refine m_get S hw 16 (by decide) q1354 rfl rfl dX6_laysRow_13 ?_
      refine lv_iload hx hb dX6_laysRow_16 (lv_at hl 2 rfl) ?_
      refine lv_iload_n hx hb dX6_laysRow_18 rfl (lv_at hl 1 rfl) ?_
      refine lv_aload_n hx hb dX6_laysRow_19 rfl (lv_at hl 0 rfl) ?_
      refine m_get S hw 0 (by decide) q1338 rfl rfl dX6_laysRow_20 ?_
      refine lv_iconst (v := (0 : Int32)) hx hb dX6_laysRow_23 (by decide) ?_
      refine m_ald S hw 1 0 3098 rfl (by decide) rfl (vlit (by decide)) dX6_laysRow_24 ?_
      refine lv_irem hx hb dX6_laysRow_25 h.1 ?_
      replace h := h.2
      refine m_ast S hw 16 16 24 rfl (by decide) rfl h.1 dX6_laysRow_26 (fun a26 H locs ea26 hw => ?_)
      replace h := h.2 a26 ea26
      refine lv_iload_n hx hb dX6_laysRow_27 rfl (lv_at hl 1 rfl) ?_
      refine lv_aload_n hx hb dX6_laysRow_28 rfl (lv_at hl 0 rfl) ?_
      refine m_get S hw 0 (by decide) q1338 rfl rfl dX6_laysRow_29 ?_
      refine lv_iconst (v := (0 : Int32)) hx hb dX6_laysRow_32 (by decide) ?_
      refine m_ald S hw 1 0 3098 rfl (by decide) rfl (vlit (by decide)) dX6_laysRow_33 ?_
      refine lv_idiv hx hb dX6_laysRow_34 h.1 ?_
      replace h := h.2
      refine lv_istore_n (lv' := [(3, .int (x3 / (a26 0 (0 : Int32).toNatClampNeg))), (0, .ref (ad 38)), (4, .int x4)]) hx hb dX6_laysRow_35 rfl hl (by decide) rfl (fun ls hl => ?_)
      refine lv_iinc (v := (x4 + (-1 : Int32))) (lv' := [(4, .int (x4 + (-1 : Int32))), (3, .int (x3 / (a26 0 (0 : Int32).toNatClampNeg))), (0, .ref (ad 38))]) hx hb dX6_laysRow_36 hl (k := 2) rfl rfl (by decide) rfl (fun ls hl => ?_)
      refine lv_goto (tgt := 7) hx hb dX6_laysRow_39 (by decide) ?_
      exact ih _ _ _ _ _ _ h hw (lv_sub hl [2, 1, 0] rfl)
def wpM_laysRow (a : MS) (x1 : Int32) (x2 : Int32) (Q : MS → Prop) : Prop := ∃ n7, bkM_laysRow_7 Q x1 x2 n7 x1 (x2 - (1 : Int32)) a
set_option maxHeartbeats 4000000 in
set_option maxRecDepth 100000 in
theorem wkM_laysRow_e (S : CallFix p m c cX6_laysRow 5 s args lw_all RX6) (hr : meth.sig.returnType = none) (hlk : meth.locks = false) (Q : MS → Prop) (x1 : Int32) (x2 : Int32) (a : MS) (H : Heap) (locs : List Loc) (ls : Array Slot) (h : wpM_laysRow a x1 x2 Q) (hw : MW D dA ad A a s H locs) (hl : lv_has ls 5 [(0, .ref (ad 38)), (1, .int x1), (2, .int x2)]) : W p l e rmM_laysRow s m args below meth c H locs 0 0 (MQ below (mQv D dA ad A Q) args s 0 0 A) (F0 m 0 ls []) := by
  have hx := S.1
  have hb := S.2.1
  have hown := S.2.2.2.1
  have hts := S.2.2.2.2
  unfold wpM_laysRow at h
  refine lv_iload_n hx hb dX6_laysRow_0 rfl (lv_at hl 1 rfl) ?_
  refine lv_istore_n (lv' := [(3, .int x1), (0, .ref (ad 38)), (1, .int x1), (2, .int x2)]) hx hb dX6_laysRow_1 rfl hl (by decide) rfl (fun ls hl => ?_)
  refine lv_iload_n hx hb dX6_laysRow_2 rfl (lv_at hl 3 rfl) ?_
  refine lv_iconst (v := (1 : Int32)) hx hb dX6_laysRow_3 (by decide) ?_
  refine lv_isub hx hb dX6_laysRow_4 ?_
  refine lv_istore (lv' := [(4, .int (x2 - (1 : Int32))), (3, .int x1), (0, .ref (ad 38)), (1, .int x1), (2, .int x2)]) hx hb dX6_laysRow_5 hl (by decide) rfl (fun ls hl => ?_)
  obtain ⟨n7, h⟩ := h
  exact wkM_laysRow_7 S hr hlk Q x1 x2 n7 _ _ _ _ _ _ h hw (lv_sub hl [2, 1, 0] rfl)
theorem ctM_laysRow (l : Launch) (D : va_G) (dA : Nat → ClassId) (ad : Nat → Nat) (A : Nat → Prop) (a : MS) (x1 : Int32) (x2 : Int32) (Q : MS → Prop) (h : wpM_laysRow a x1 x2 Q) : Met l yX6_laysRow (ws_ yX6_laysRow cX6_laysRow 5 none) rmM_laysRow (mPc D dA ad A a [.ref (ad 38), .int x1, .int x2]) (mQv D dA ad A Q) 0 0 A :=
  m_met (by decide) rfl rfl rfl (Nat.le_of_ble_eq_true rfl) (fun p e s m below meth c ls S hr hlk hw hl => wkM_laysRow_e S hr hlk Q x1 x2 a _ _ ls h hw hl)
theorem cwM_laysRow {R : Room} {s : State} {args : Array Value} {rm : Room} (hts : ∀ w ∈ lw_all, w.before args s = true) (hR : rm.frames + 1 ≤ R.frames ∧ 8 + (5 + 11) + rm.locals ≤ R.locals) (hc : rm.cells = 0 := by rfl) (hs : rm.slots = 0 := by rfl) : CallW R s args RX6 RX6 231 yX6_laysRow cX6_laysRow 5 none (ws_ yX6_laysRow cX6_laysRow 5 none) rm 0 0 2 :=
  cwV 2 hts (lw_V q1719 q1721 qs84 q112 q1722) rfl hc hs (by decide +kernel) hR
/-! rowsOf -/
abbrev rmM_rowsOf : Room := { frames := 0, cells := 0, slots := 0, locals := 0 }
def bkM_rowsOf_4 (Q : Int32 → MS → Prop) (x1 : Int32) : Nat → Int32 → Int32 → MS → Prop
  | 0 => fun _ _ _ => False
  | n + 1 => fun x2 x3 a => if x1 ≤ x3 then (Q x2 a) else (bkM_rowsOf_4 Q x1 n (x2 * (a 0 (0 : Int32).toNatClampNeg)) (x3 + (1 : Int32)) a)
set_option maxHeartbeats 4000000 in
set_option maxRecDepth 100000 in
theorem wkM_rowsOf_4 (S : CallFix p m c cX6_rowsOf 4 s args lw_all RX6) (hr : meth.sig.returnType = (some .int)) (hlk : meth.locks = false) (Q : Int32 → MS → Prop) (x1 : Int32) : ∀ (n : Nat) (x2 : Int32) (x3 : Int32) (a : MS) (H : Heap) (locs : List Loc) (ls : Array Slot), bkM_rowsOf_4 Q x1 n x2 x3 a → MW D dA ad A a s H locs → lv_has ls 4 [(0, .ref (ad 38)), (1, .int x1), (2, .int x2), (3, .int x3)] → W p l e rmM_rowsOf s m args below meth c H locs 0 0 (MQ below (mQi D dA ad A Q) args s 0 0 A) (F0 m 4 ls []) := by
  have hx := S.1
  have hb := S.2.1
  have hown := S.2.2.2.1
  have hts := S.2.2.2.2
  intro n
  induction n with
  | zero =>
    intro x2 x3 a H locs ls h
    exact False.elim h
  | succ n ih =>
    intro x2 x3 a H locs ls h hw hl
    unfold bkM_rowsOf_4 at h
    refine lv_iload_n hx hb dX6_rowsOf_4 rfl (lv_at hl 3 rfl) ?_
    refine lv_iload_n hx hb dX6_rowsOf_5 rfl (lv_at hl 1 rfl) ?_
    refine lv_icmp_ge (tgt := 24) hx hb dX6_rowsOf_6 (by decide) (fun c6 => ?_) (fun c6 => ?_)
    · replace h := if_t c6 h
      refine lv_iload_n hx hb dX6_rowsOf_24 rfl (lv_at hl 2 rfl) ?_
      exact m_iret S hr hlk hw h dX6_rowsOf_25
    · replace h := if_f c6 h
      refine lv_iload_n hx hb dX6_rowsOf_9 rfl (lv_at hl 2 rfl) ?_
      refine lv_aload_n hx hb dX6_rowsOf_10 rfl (lv_at hl 0 rfl) ?_
      refine m_get S hw 0 (by decide) q1338 rfl rfl dX6_rowsOf_11 ?_
      refine lv_iconst (v := (0 : Int32)) hx hb dX6_rowsOf_14 (by decide) ?_
      refine m_ald S hw 1 0 3098 rfl (by decide) rfl (vlit (by decide)) dX6_rowsOf_15 ?_
      refine lv_imul hx hb dX6_rowsOf_16 ?_
      refine lv_istore_n (lv' := [(2, .int (x2 * (a 0 (0 : Int32).toNatClampNeg))), (0, .ref (ad 38)), (1, .int x1), (3, .int x3)]) hx hb dX6_rowsOf_17 rfl hl (by decide) rfl (fun ls hl => ?_)
      refine lv_iinc (v := (x3 + (1 : Int32))) (lv' := [(3, .int (x3 + (1 : Int32))), (2, .int (x2 * (a 0 (0 : Int32).toNatClampNeg))), (0, .ref (ad 38)), (1, .int x1)]) hx hb dX6_rowsOf_18 hl (k := 3) rfl rfl (by decide) rfl (fun ls hl => ?_)
      refine lv_goto (tgt := 4) hx hb dX6_rowsOf_21 (by decide) ?_
      exact ih _ _ _ _ _ _ h hw (lv_sub hl [2, 3, 1, 0] rfl)
def wpM_rowsOf (a : MS) (x1 : Int32) (Q : Int32 → MS → Prop) : Prop := ∃ n4, bkM_rowsOf_4 Q x1 n4 (1 : Int32) (0 : Int32) a
set_option maxHeartbeats 4000000 in
set_option maxRecDepth 100000 in
theorem wkM_rowsOf_e (S : CallFix p m c cX6_rowsOf 4 s args lw_all RX6) (hr : meth.sig.returnType = (some .int)) (hlk : meth.locks = false) (Q : Int32 → MS → Prop) (x1 : Int32) (a : MS) (H : Heap) (locs : List Loc) (ls : Array Slot) (h : wpM_rowsOf a x1 Q) (hw : MW D dA ad A a s H locs) (hl : lv_has ls 4 [(0, .ref (ad 38)), (1, .int x1)]) : W p l e rmM_rowsOf s m args below meth c H locs 0 0 (MQ below (mQi D dA ad A Q) args s 0 0 A) (F0 m 0 ls []) := by
  have hx := S.1
  have hb := S.2.1
  have hown := S.2.2.2.1
  have hts := S.2.2.2.2
  unfold wpM_rowsOf at h
  refine lv_iconst (v := (1 : Int32)) hx hb dX6_rowsOf_0 (by decide) ?_
  refine lv_istore_n (lv' := [(2, .int (1 : Int32)), (0, .ref (ad 38)), (1, .int x1)]) hx hb dX6_rowsOf_1 rfl hl (by decide) rfl (fun ls hl => ?_)
  refine lv_iconst (v := (0 : Int32)) hx hb dX6_rowsOf_2 (by decide) ?_
  refine lv_istore_n (lv' := [(3, .int (0 : Int32)), (2, .int (1 : Int32)), (0, .ref (ad 38)), (1, .int x1)]) hx hb dX6_rowsOf_3 rfl hl (by decide) rfl (fun ls hl => ?_)
  obtain ⟨n4, h⟩ := h
  exact wkM_rowsOf_4 S hr hlk Q x1 n4 _ _ _ _ _ _ h hw (lv_sub hl [2, 3, 1, 0] rfl)
theorem ctM_rowsOf (l : Launch) (D : va_G) (dA : Nat → ClassId) (ad : Nat → Nat) (A : Nat → Prop) (a : MS) (x1 : Int32) (Q : Int32 → MS → Prop) (h : wpM_rowsOf a x1 Q) : Met l yX6_rowsOf (ws_ yX6_rowsOf cX6_rowsOf 4 (some .int)) rmM_rowsOf (mPc D dA ad A a [.ref (ad 38), .int x1]) (mQi D dA ad A Q) 0 0 A :=
  m_met (by decide) rfl rfl rfl (Nat.le_of_ble_eq_true rfl) (fun p e s m below meth c ls S hr hlk hw hl => wkM_rowsOf_e S hr hlk Q x1 a _ _ ls h hw hl)
theorem cwM_rowsOf {R : Room} {s : State} {args : Array Value} {rm : Room} (hts : ∀ w ∈ lw_all, w.before args s = true) (hR : rm.frames + 1 ≤ R.frames ∧ 8 + (4 + 11) + rm.locals ≤ R.locals) (hc : rm.cells = 0 := by rfl) (hs : rm.slots = 0 := by rfl) : CallW R s args RX6 RX6 228 yX6_rowsOf cX6_rowsOf 4 (some .int) (ws_ yX6_rowsOf cX6_rowsOf 4 (some .int)) rm 0 0 1 :=
  cwV 1 hts (lw_V q1715 q1717 qs83 q112 q1718) rfl hc hs (by decide +kernel) hR
/-! means -/
abbrev rmM_means : Room := { frames := 7, cells := 0, slots := 0, locals := 165 }
def bkM_means_48 (Q : Int64 → MS → Prop) (x1 : Int32) (O25 : Int64 → Int32 → MS → Prop) : Nat → Int64 → Int32 → Int64 → Int32 → MS → Prop
  | 0 => fun _ _ _ _ _ => False
  | n + 1 => fun x2 x4 x5 x7 a => if x1 ≤ x7 then (if (lg_cmp x5 (0 : Int64)) = 0 then (O25 (x2 + (0 : Int64)) (x4 + (1 : Int32)) a) else (wpM_wouldCost a x1 (fun r100 a100 => O25 (x2 + (x5 * r100.toInt64)) (x4 + (1 : Int32)) a100))) else (vp_in x7 24 ∧ (wpM_leafAt a (a 16 x7.toNatClampNeg) (fun r68 a68 => vp_in (r68 + (3 : Int32)) 3098 ∧ (bkM_means_48 Q x1 O25 n x2 x4 (x5 * (a68 0 (r68 + (3 : Int32)).toNatClampNeg).toInt64) (x7 + (1 : Int32)) a68))))
set_option maxHeartbeats 4000000 in
set_option maxRecDepth 100000 in
theorem wkM_means_48 (S : CallFix p m c cX6_means 8 s args lw_all RX6) (hr : meth.sig.returnType = (some .long)) (hlk : meth.locks = false) (Q : Int64 → MS → Prop) (x1 : Int32) {O25 : Int64 → Int32 → MS → Prop} (hO25 : ∀ (x2 : Int64) (x4 : Int32) (a : MS) (H : Heap) (locs : List Loc) (ls : Array Slot), O25 x2 x4 a → MW D dA ad A a s H locs → lv_has ls 8 [(0, .ref (ad 38)), (1, .int x1), (2, .long x2), (4, .int x4)] → W p l e rmM_means s m args below meth c H locs 0 0 (MQ below (mQl D dA ad A Q) args s 0 0 A) (F0 m 25 ls [])) : ∀ (n : Nat) (x2 : Int64) (x4 : Int32) (x5 : Int64) (x7 : Int32) (a : MS) (H : Heap) (locs : List Loc) (ls : Array Slot), bkM_means_48 Q x1 O25 n x2 x4 x5 x7 a → MW D dA ad A a s H locs → lv_has ls 8 [(0, .ref (ad 38)), (1, .int x1), (2, .long x2), (4, .int x4), (5, .long x5), (7, .int x7)] → W p l e rmM_means s m args below meth c H locs 0 0 (MQ below (mQl D dA ad A Q) args s 0 0 A) (F0 m 48 ls []) := by
  have hx := S.1
  have hb := S.2.1
  have hown := S.2.2.2.1
  have hts := S.2.2.2.2
  intro n
  induction n with
  | zero =>
    intro x2 x4 x5 x7 a H locs ls h
    exact False.elim h
  | succ n ih =>
    intro x2 x4 x5 x7 a H locs ls h hw hl
    unfold bkM_means_48 at h
    refine lv_iload hx hb dX6_means_48 (lv_at hl 5 rfl) ?_
    refine lv_iload_n hx hb dX6_means_50 rfl (lv_at hl 1 rfl) ?_
    refine lv_icmp_ge (tgt := 84) hx hb dX6_means_51 (by decide) (fun c51 => ?_) (fun c51 => ?_)
    · replace h := if_t c51 h
      refine lv_lload_n hx hb dX6_means_84 rfl (lv_at hl 2 rfl) ?_
      refine lv_lload hx hb dX6_means_85 (lv_at hl 4 rfl) ?_
      refine lv_lconst (v := 0) hx hb dX6_means_87 (by decide) ?_
      refine W.lcmp hx hb dX6_means_88 ?_
      refine lv_if_ne (tgt := 96) hx hb dX6_means_89 (by decide) (fun c89 => ?_) (fun c89 => ?_)
      · replace h := if_f c89 h
        refine lv_lload hx hb dX6_means_96 (lv_at hl 4 rfl) ?_
        refine lv_aload_n hx hb dX6_means_98 rfl (lv_at hl 0 rfl) ?_
        refine lv_iload_n hx hb dX6_means_99 rfl (lv_at hl 1 rfl) ?_
        refine m_calli S hw [.int x1] [.long x5, .long x2] (ctM_wouldCost l D dA ad A a x1 _ h) (cwM_wouldCost hts ⟨Nat.le_of_ble_eq_true rfl, Nat.le_of_ble_eq_true rfl⟩) rfl hl.1 rfl (Nat.le_of_ble_eq_true rfl) dX6_means_100 ⟨Nat.zero_le _, Nat.zero_le _⟩ (fun r100 a100 H locs h hw => ?_)
        refine lv_i2l (v := r100.toInt64) hx hb dX6_means_103 rfl ?_
        refine lv_lmul hx hb dX6_means_104 ?_
        refine lv_ladd hx hb dX6_means_105 ?_
        refine lv_lstore_n (lv' := [(2, .long (x2 + (x5 * r100.toInt64))), (0, .ref (ad 38)), (1, .int x1), (4, .int x4), (5, .long x5), (7, .int x7)]) hx hb dX6_means_106 rfl hl (by decide) rfl (fun ls hl => ?_)
        refine lv_iinc (v := (x4 + (1 : Int32))) (lv' := [(4, .int (x4 + (1 : Int32))), (2, .long (x2 + (x5 * r100.toInt64))), (0, .ref (ad 38)), (1, .int x1), (5, .long x5), (7, .int x7)]) hx hb dX6_means_107 hl (k := 3) rfl rfl (by decide) rfl (fun ls hl => ?_)
        refine lv_goto (tgt := 25) hx hb dX6_means_110 (by decide) ?_
        exact hO25 _ _ _ _ _ _ h hw (lv_sub hl [2, 3, 1, 0] rfl)
      · replace h := if_t c89 h
        refine lv_lconst (v := 0) hx hb dX6_means_92 (by decide) ?_
        refine lv_goto (tgt := 105) hx hb dX6_means_93 (by decide) ?_
        refine lv_ladd hx hb dX6_means_105 ?_
        refine lv_lstore_n (lv' := [(2, .long (x2 + (0 : Int64))), (0, .ref (ad 38)), (1, .int x1), (4, .int x4), (5, .long x5), (7, .int x7)]) hx hb dX6_means_106 rfl hl (by decide) rfl (fun ls hl => ?_)
        refine lv_iinc (v := (x4 + (1 : Int32))) (lv' := [(4, .int (x4 + (1 : Int32))), (2, .long (x2 + (0 : Int64))), (0, .ref (ad 38)), (1, .int x1), (5, .long x5), (7, .int x7)]) hx hb dX6_means_107 hl (k := 3) rfl rfl (by decide) rfl (fun ls hl => ?_)
        refine lv_goto (tgt := 25) hx hb dX6_means_110 (by decide) ?_
        exact hO25 _ _ _ _ _ _ h hw (lv_sub hl [2, 3, 1, 0] rfl)
    · replace h := if_f c51 h
      refine lv_lload hx hb dX6_means_54 (lv_at hl 4 rfl) ?_
      refine lv_aload_n hx hb dX6_means_56 rfl (lv_at hl 0 rfl) ?_
      refine m_get S hw 0 (by decide) q1338 rfl rfl dX6_means_57 ?_
      refine lv_aload_n hx hb dX6_means_60 rfl (lv_at hl 0 rfl) ?_
      refine lv_aload_n hx hb dX6_means_61 rfl (lv_at hl 0 rfl) ?_
      refine m_get S hw 16 (by decide) q1354 rfl rfl dX6_means_62 ?_
      refine lv_iload hx hb dX6_means_65 (lv_at hl 5 rfl) ?_
      refine m_ald S hw 16 16 24 rfl (by decide) rfl h.1 dX6_means_67 ?_
      replace h := h.2
      refine m_calli S hw [.int (a 16 x7.toNatClampNeg)] [.ref (ad 0), .long x5] (ctM_leafAt l D dA ad A a (a 16 x7.toNatClampNeg) _ h) (cwM_leafAt hts ⟨Nat.le_of_ble_eq_true rfl, Nat.le_of_ble_eq_true rfl⟩) rfl hl.1 rfl (Nat.le_of_ble_eq_true rfl) dX6_means_68 ⟨Nat.zero_le _, Nat.zero_le _⟩ (fun r68 a68 H locs h hw => ?_)
      refine lv_iconst (v := (3 : Int32)) hx hb dX6_means_71 (by decide) ?_
      refine lv_iadd hx hb dX6_means_72 ?_
      refine m_ald S hw 1 0 3098 rfl (by decide) rfl h.1 dX6_means_73 ?_
      replace h := h.2
      refine lv_i2l (v := (a68 0 (r68 + (3 : Int32)).toNatClampNeg).toInt64) hx hb dX6_means_74 rfl ?_
      refine lv_lmul hx hb dX6_means_75 ?_
      refine lv_lstore (lv' := [(5, .long (x5 * (a68 0 (r68 + (3 : Int32)).toNatClampNeg).toInt64)), (0, .ref (ad 38)), (1, .int x1), (2, .long x2), (4, .int x4), (7, .int x7)]) hx hb dX6_means_76 hl (by decide) rfl (fun ls hl => ?_)
      refine lv_iinc (v := (x7 + (1 : Int32))) (lv' := [(7, .int (x7 + (1 : Int32))), (5, .long (x5 * (a68 0 (r68 + (3 : Int32)).toNatClampNeg).toInt64)), (0, .ref (ad 38)), (1, .int x1), (2, .long x2), (4, .int x4)]) hx hb dX6_means_78 hl (k := 5) rfl rfl (by decide) rfl (fun ls hl => ?_)
      refine lv_goto (tgt := 48) hx hb dX6_means_81 (by decide) ?_
      exact ih _ _ _ _ _ _ _ _ h hw (lv_sub hl [2, 3, 4, 5, 1, 0] rfl)
def bkM_means_25 (Q : Int64 → MS → Prop) (x1 : Int32) : Nat → Int64 → Int32 → MS → Prop
  | 0 => fun _ _ _ => False
  | n + 1 => fun x2 x4 a => wpM_rowsOf a x1 (fun r29 a29 => if r29 ≤ x4 then (Q x2 a29) else (wpM_laysRow a29 x4 x1 (fun a39 => ∃ n48, bkM_means_48 Q x1 (bkM_means_25 Q x1 n) n48 x2 x4 (1 : Int64) (0 : Int32) a39)))
set_option maxHeartbeats 4000000 in
set_option maxRecDepth 100000 in
theorem wkM_means_25 (S : CallFix p m c cX6_means 8 s args lw_all RX6) (hr : meth.sig.returnType = (some .long)) (hlk : meth.locks = false) (Q : Int64 → MS → Prop) (x1 : Int32) : ∀ (n : Nat) (x2 : Int64) (x4 : Int32) (a : MS) (H : Heap) (locs : List Loc) (ls : Array Slot), bkM_means_25 Q x1 n x2 x4 a → MW D dA ad A a s H locs → lv_has ls 8 [(0, .ref (ad 38)), (1, .int x1), (2, .long x2), (4, .int x4)] → W p l e rmM_means s m args below meth c H locs 0 0 (MQ below (mQl D dA ad A Q) args s 0 0 A) (F0 m 25 ls []) := by
  have hx := S.1
  have hb := S.2.1
  have hown := S.2.2.2.1
  have hts := S.2.2.2.2
  intro n
  induction n with
  | zero =>
    intro x2 x4 a H locs ls h
    exact False.elim h
  | succ n ih =>
    intro x2 x4 a H locs ls h hw hl
    unfold bkM_means_25 at h
    refine lv_iload hx hb dX6_means_25 (lv_at hl 3 rfl) ?_
    refine lv_aload_n hx hb dX6_means_27 rfl (lv_at hl 0 rfl) ?_
    refine lv_iload_n hx hb dX6_means_28 rfl (lv_at hl 1 rfl) ?_
    refine m_calli S hw [.int x1] [.int x4] (ctM_rowsOf l D dA ad A a x1 _ h) (cwM_rowsOf hts ⟨Nat.le_of_ble_eq_true rfl, Nat.le_of_ble_eq_true rfl⟩) rfl hl.1 rfl (Nat.le_of_ble_eq_true rfl) dX6_means_29 ⟨Nat.zero_le _, Nat.zero_le _⟩ (fun r29 a29 H locs h hw => ?_)
    refine lv_icmp_ge (tgt := 113) hx hb dX6_means_32 (by decide) (fun c32 => ?_) (fun c32 => ?_)
    · replace h := if_t c32 h
      refine lv_lload_n hx hb dX6_means_113 rfl (lv_at hl 2 rfl) ?_
      exact m_lret S hr hlk hw h dX6_means_114
    · replace h := if_f c32 h
      refine lv_aload_n hx hb dX6_means_35 rfl (lv_at hl 0 rfl) ?_
      refine lv_iload hx hb dX6_means_36 (lv_at hl 3 rfl) ?_
      refine lv_iload_n hx hb dX6_means_38 rfl (lv_at hl 1 rfl) ?_
      refine m_callv S hw [.int x4, .int x1] [] (ctM_laysRow l D dA ad A a29 x4 x1 _ h) (cwM_laysRow hts ⟨Nat.le_of_ble_eq_true rfl, Nat.le_of_ble_eq_true rfl⟩) rfl hl.1 rfl (Nat.le_of_ble_eq_true rfl) dX6_means_39 ⟨Nat.zero_le _, Nat.zero_le _⟩ (fun a39 H locs h hw => ?_)
      refine lv_lconst (v := 1) hx hb dX6_means_42 (by decide) ?_
      refine lv_lstore (lv' := [(5, .long (1 : Int64)), (0, .ref (ad 38)), (1, .int x1), (2, .long x2), (4, .int x4)]) hx hb dX6_means_43 hl (by decide) rfl (fun ls hl => ?_)
      refine lv_iconst (v := (0 : Int32)) hx hb dX6_means_45 (by decide) ?_
      refine lv_istore (lv' := [(7, .int (0 : Int32)), (5, .long (1 : Int64)), (0, .ref (ad 38)), (1, .int x1), (2, .long x2), (4, .int x4)]) hx hb dX6_means_46 hl (by decide) rfl (fun ls hl => ?_)
      obtain ⟨n48, h⟩ := h
      exact wkM_means_48 S hr hlk Q x1 ih n48 _ _ _ _ _ _ _ _ h hw (lv_sub hl [2, 3, 4, 5, 1, 0] rfl)
def wpM_means (a : MS) (x1 : Int32) (Q : Int64 → MS → Prop) : Prop := wpM_isIn a x1.toInt64 (1 : Int64) (3 : Int64) (fun r6 a6 => if r6 = 0 then (Q (-1000000001 : Int64) a6) else (wpM_knows a6 (fun a17 => ∃ n25, bkM_means_25 Q x1 n25 (0 : Int64) (0 : Int32) a17)))
set_option maxHeartbeats 4000000 in
set_option maxRecDepth 100000 in
theorem wkM_means_e (S : CallFix p m c cX6_means 8 s args lw_all RX6) (hr : meth.sig.returnType = (some .long)) (hlk : meth.locks = false) (Q : Int64 → MS → Prop) (x1 : Int32) (a : MS) (H : Heap) (locs : List Loc) (ls : Array Slot) (h : wpM_means a x1 Q) (hw : MW D dA ad A a s H locs) (hl : lv_has ls 8 [(0, .ref (ad 38)), (1, .int x1)]) : W p l e rmM_means s m args below meth c H locs 0 0 (MQ below (mQl D dA ad A Q) args s 0 0 A) (F0 m 0 ls []) := by
  have hx := S.1
  have hb := S.2.1
  have hown := S.2.2.2.1
  have hts := S.2.2.2.2
  unfold wpM_means at h
  refine lv_iload_n hx hb dX6_means_0 rfl (lv_at hl 1 rfl) ?_
  refine lv_i2l (v := x1.toInt64) hx hb dX6_means_1 rfl ?_
  refine lv_lconst (v := 1) hx hb dX6_means_2 (by decide) ?_
  refine lv_ldc2 hx hb hown (hts _ q1713) dX6_means_3 ?_
  refine m_callSi S hw [.long x1.toInt64, .long (1 : Int64), .long (3 : Int64)] [] (ctM_isIn l D dA ad A a x1.toInt64 (1 : Int64) (3 : Int64) _ h) (cwM_isIn hts ⟨Nat.le_of_ble_eq_true rfl, Nat.le_of_ble_eq_true rfl⟩) rfl hl.1 rfl (Nat.le_of_ble_eq_true rfl) dX6_means_6 ⟨Nat.zero_le _, Nat.zero_le _⟩ (fun r6 a6 H locs h hw => ?_)
  refine lv_if_ne (tgt := 16) hx hb dX6_means_9 (by decide) (fun c9 => ?_) (fun c9 => ?_)
  · replace h := if_f c9 h
    refine lv_aload_n hx hb dX6_means_16 rfl (lv_at hl 0 rfl) ?_
    refine m_callv S hw [] [] (ctM_knows l D dA ad A a6 _ h) (cwM_knows hts ⟨Nat.le_of_ble_eq_true rfl, Nat.le_of_ble_eq_true rfl⟩) rfl hl.1 rfl (Nat.le_of_ble_eq_true rfl) dX6_means_17 ⟨Nat.zero_le _, Nat.zero_le _⟩ (fun a17 H locs h hw => ?_)
    refine lv_lconst (v := 0) hx hb dX6_means_20 (by decide) ?_
    refine lv_lstore_n (lv' := [(2, .long (0 : Int64)), (0, .ref (ad 38)), (1, .int x1)]) hx hb dX6_means_21 rfl hl (by decide) rfl (fun ls hl => ?_)
    refine lv_iconst (v := (0 : Int32)) hx hb dX6_means_22 (by decide) ?_
    refine lv_istore (lv' := [(4, .int (0 : Int32)), (2, .long (0 : Int64)), (0, .ref (ad 38)), (1, .int x1)]) hx hb dX6_means_23 hl (by decide) rfl (fun ls hl => ?_)
    obtain ⟨n25, h⟩ := h
    exact wkM_means_25 S hr hlk Q x1 n25 _ _ _ _ _ _ h hw (lv_sub hl [2, 3, 1, 0] rfl)
  · replace h := if_t c9 h
    refine lv_ldc2 hx hb hown (hts _ q1714) dX6_means_12 ?_
    exact m_lret S hr hlk hw h dX6_means_15
theorem ctM_means (l : Launch) (D : va_G) (dA : Nat → ClassId) (ad : Nat → Nat) (A : Nat → Prop) (a : MS) (x1 : Int32) (Q : Int64 → MS → Prop) (h : wpM_means a x1 Q) : Met l yX6_means (ws_ yX6_means cX6_means 8 (some .long)) rmM_means (mPc D dA ad A a [.ref (ad 38), .int x1]) (mQl D dA ad A Q) 0 0 A :=
  m_met (by decide) rfl rfl rfl (Nat.le_of_ble_eq_true rfl) (fun p e s m below meth c ls S hr hlk hw hl => wkM_means_e S hr hlk Q x1 a _ _ ls h hw hl)
/-! gap -/
abbrev rmM_gap : Room := { frames := 7, cells := 0, slots := 0, locals := 165 }
def bkM_gap_120 (Q : Int32 → MS → Prop) (x1 : Int32) (x2 : Int32) (O49 : Int32 → Int32 → Int32 → MS → Prop) : Int32 → Int32 → Int32 → MS → Prop := fun x5 x6 s0 a => O49 s0 x6 (x5 + (1 : Int32)) a
set_option maxHeartbeats 4000000 in
set_option maxRecDepth 100000 in
theorem wkM_gap_120 (S : CallFix p m c cX6_gap 7 s args lw_all RX6) (hr : meth.sig.returnType = (some .int)) (hlk : meth.locks = false) (Q : Int32 → MS → Prop) (x1 : Int32) (x2 : Int32) {O49 : Int32 → Int32 → Int32 → MS → Prop} (hO49 : ∀ (x3 : Int32) (x4 : Int32) (x5 : Int32) (a : MS) (H : Heap) (locs : List Loc) (ls : Array Slot), O49 x3 x4 x5 a → MW D dA ad A a s H locs → lv_has ls 7 [(0, .ref (ad 38)), (1, .int x1), (2, .int x2), (3, .int x3), (4, .int x4), (5, .int x5)] → W p l e rmM_gap s m args below meth c H locs 0 0 (MQ below (mQi D dA ad A Q) args s 0 0 A) (F0 m 49 ls [])) : ∀ (x5 : Int32) (x6 : Int32) (s0 : Int32) (a : MS) (H : Heap) (locs : List Loc) (ls : Array Slot), bkM_gap_120 Q x1 x2 O49 x5 x6 s0 a → MW D dA ad A a s H locs → lv_has ls 7 [(0, .ref (ad 38)), (1, .int x1), (2, .int x2), (5, .int x5), (6, .int x6)] → W p l e rmM_gap s m args below meth c H locs 0 0 (MQ below (mQi D dA ad A Q) args s 0 0 A) (F0 m 120 ls [.int s0]) := by
  have hx := S.1
  have hb := S.2.1
  have hown := S.2.2.2.1
  have hts := S.2.2.2.2
  intro x5 x6 s0 a H locs ls h hw hl
  unfold bkM_gap_120 at h
  refine lv_istore_n (lv' := [(3, .int s0), (0, .ref (ad 38)), (1, .int x1), (2, .int x2), (5, .int x5), (6, .int x6)]) hx hb dX6_gap_120 rfl hl (by decide) rfl (fun ls hl => ?_)
  refine lv_iload hx hb dX6_gap_121 (lv_at hl 5 rfl) ?_
  refine lv_istore (lv' := [(4, .int x6), (3, .int s0), (0, .ref (ad 38)), (1, .int x1), (2, .int x2), (5, .int x5), (6, .int x6)]) hx hb dX6_gap_123 hl (by decide) rfl (fun ls hl => ?_)
  refine lv_iinc (v := (x5 + (1 : Int32))) (lv' := [(5, .int (x5 + (1 : Int32))), (4, .int x6), (3, .int s0), (0, .ref (ad 38)), (1, .int x1), (2, .int x2), (6, .int x6)]) hx hb dX6_gap_125 hl (k := 5) rfl rfl (by decide) rfl (fun ls hl => ?_)
  refine lv_goto (tgt := 49) hx hb dX6_gap_128 (by decide) ?_
  exact hO49 _ _ _ _ _ _ _ h hw (lv_sub hl [3, 4, 5, 2, 1, 0] rfl)
def bkM_gap_90 (Q : Int32 → MS → Prop) (x1 : Int32) (x2 : Int32) (O49 : Int32 → Int32 → Int32 → MS → Prop) : Int32 → Int32 → MS → Prop := fun x5 x6 a => if x1 = (1 : Int32) then (bkM_gap_120 Q x1 x2 O49 x5 x6 (a 16 (0 : Int32).toNatClampNeg) a) else (bkM_gap_120 Q x1 x2 O49 x5 x6 (((10 : Int32) * (a 16 (0 : Int32).toNatClampNeg)) + (a 16 (1 : Int32).toNatClampNeg)) a)
set_option maxHeartbeats 4000000 in
set_option maxRecDepth 100000 in
theorem wkM_gap_90 (S : CallFix p m c cX6_gap 7 s args lw_all RX6) (hr : meth.sig.returnType = (some .int)) (hlk : meth.locks = false) (Q : Int32 → MS → Prop) (x1 : Int32) (x2 : Int32) {O49 : Int32 → Int32 → Int32 → MS → Prop} (hO49 : ∀ (x3 : Int32) (x4 : Int32) (x5 : Int32) (a : MS) (H : Heap) (locs : List Loc) (ls : Array Slot), O49 x3 x4 x5 a → MW D dA ad A a s H locs → lv_has ls 7 [(0, .ref (ad 38)), (1, .int x1), (2, .int x2), (3, .int x3), (4, .int x4), (5, .int x5)] → W p l e rmM_gap s m args below meth c H locs 0 0 (MQ below (mQi D dA ad A Q) args s 0 0 A) (F0 m 49 ls [])) : ∀ (x5 : Int32) (x6 : Int32) (a : MS) (H : Heap) (locs : List Loc) (ls : Array Slot), bkM_gap_90 Q x1 x2 O49 x5 x6 a → MW D dA ad A a s H locs → lv_has ls 7 [(0, .ref (ad 38)), (1, .int x1), (2, .int x2), (5, .int x5), (6, .int x6)] → W p l e rmM_gap s m args below meth c H locs 0 0 (MQ below (mQi D dA ad A Q) args s 0 0 A) (F0 m 90 ls []) := by
  have hx := S.1
  have hb := S.2.1
  have hown := S.2.2.2.1
  have hts := S.2.2.2.2
  intro x5 x6 a H locs ls h hw hl
  unfold bkM_gap_90 at h
  refine lv_iload_n hx hb dX6_gap_90 rfl (lv_at hl 1 rfl) ?_
  refine lv_iconst (v := (1 : Int32)) hx hb dX6_gap_91 (by decide) ?_
  refine lv_icmp_ne (tgt := 104) hx hb dX6_gap_92 (by decide) (fun c92 => ?_) (fun c92 => ?_)
  · replace h := if_f c92 h
    refine lv_bipush (v := (10 : Int32)) hx hb dX6_gap_104 (by decide) ?_
    refine lv_aload_n hx hb dX6_gap_106 rfl (lv_at hl 0 rfl) ?_
    refine m_get S hw 16 (by decide) q1354 rfl rfl dX6_gap_107 ?_
    refine lv_iconst (v := (0 : Int32)) hx hb dX6_gap_110 (by decide) ?_
    refine m_ald S hw 16 16 24 rfl (by decide) rfl (vlit (by decide)) dX6_gap_111 ?_
    refine lv_imul hx hb dX6_gap_112 ?_
    refine lv_aload_n hx hb dX6_gap_113 rfl (lv_at hl 0 rfl) ?_
    refine m_get S hw 16 (by decide) q1354 rfl rfl dX6_gap_114 ?_
    refine lv_iconst (v := (1 : Int32)) hx hb dX6_gap_117 (by decide) ?_
    refine m_ald S hw 16 16 24 rfl (by decide) rfl (vlit (by decide)) dX6_gap_118 ?_
    refine lv_iadd hx hb dX6_gap_119 ?_
    exact wkM_gap_120 S hr hlk Q x1 x2 hO49 _ _ _ _ _ _ _ h hw (lv_sub hl [0, 1, 2, 3, 4] rfl)
  · replace h := if_t c92 h
    refine lv_aload_n hx hb dX6_gap_95 rfl (lv_at hl 0 rfl) ?_
    refine m_get S hw 16 (by decide) q1354 rfl rfl dX6_gap_96 ?_
    refine lv_iconst (v := (0 : Int32)) hx hb dX6_gap_99 (by decide) ?_
    refine m_ald S hw 16 16 24 rfl (by decide) rfl (vlit (by decide)) dX6_gap_100 ?_
    refine lv_goto (tgt := 120) hx hb dX6_gap_101 (by decide) ?_
    exact wkM_gap_120 S hr hlk Q x1 x2 hO49 _ _ _ _ _ _ _ h hw (lv_sub hl [0, 1, 2, 3, 4] rfl)
def bkM_gap_49 (Q : Int32 → MS → Prop) (x1 : Int32) (x2 : Int32) : Nat → Int32 → Int32 → Int32 → MS → Prop
  | 0 => fun _ _ _ _ => False
  | n + 1 => fun x3 x4 x5 a => wpM_rowsOf a x1 (fun r53 a53 => if r53 ≤ x5 then (if x2 = 0 then (Q x4 a53) else (Q x3 a53)) else (wpM_laysRow a53 x5 x1 (fun a63 => wpM_wouldCost a63 x1 (fun r68 a68 => wpM_leastOf a68 x1 (fun r73 a73 => if x3 < 0 then (bkM_gap_90 Q x1 x2 (bkM_gap_49 Q x1 x2 n) x5 (r68 - r73) a73) else (if (r68 - r73) ≤ x4 then (bkM_gap_49 Q x1 x2 n x3 x4 (x5 + (1 : Int32)) a73) else (bkM_gap_90 Q x1 x2 (bkM_gap_49 Q x1 x2 n) x5 (r68 - r73) a73)))))))
set_option maxHeartbeats 4000000 in
set_option maxRecDepth 100000 in
theorem wkM_gap_49 (S : CallFix p m c cX6_gap 7 s args lw_all RX6) (hr : meth.sig.returnType = (some .int)) (hlk : meth.locks = false) (Q : Int32 → MS → Prop) (x1 : Int32) (x2 : Int32) : ∀ (n : Nat) (x3 : Int32) (x4 : Int32) (x5 : Int32) (a : MS) (H : Heap) (locs : List Loc) (ls : Array Slot), bkM_gap_49 Q x1 x2 n x3 x4 x5 a → MW D dA ad A a s H locs → lv_has ls 7 [(0, .ref (ad 38)), (1, .int x1), (2, .int x2), (3, .int x3), (4, .int x4), (5, .int x5)] → W p l e rmM_gap s m args below meth c H locs 0 0 (MQ below (mQi D dA ad A Q) args s 0 0 A) (F0 m 49 ls []) := by
  have hx := S.1
  have hb := S.2.1
  have hown := S.2.2.2.1
  have hts := S.2.2.2.2
  intro n
  induction n with
  | zero =>
    intro x3 x4 x5 a H locs ls h
    exact False.elim h
  | succ n ih =>
    intro x3 x4 x5 a H locs ls h hw hl
    unfold bkM_gap_49 at h
    refine lv_iload hx hb dX6_gap_49 (lv_at hl 5 rfl) ?_
    refine lv_aload_n hx hb dX6_gap_51 rfl (lv_at hl 0 rfl) ?_
    refine lv_iload_n hx hb dX6_gap_52 rfl (lv_at hl 1 rfl) ?_
    refine m_calli S hw [.int x1] [.int x5] (ctM_rowsOf l D dA ad A a x1 _ h) (cwM_rowsOf hts ⟨Nat.le_of_ble_eq_true rfl, Nat.le_of_ble_eq_true rfl⟩) rfl hl.1 rfl (Nat.le_of_ble_eq_true rfl) dX6_gap_53 ⟨Nat.zero_le _, Nat.zero_le _⟩ (fun r53 a53 H locs h hw => ?_)
    refine lv_icmp_ge (tgt := 131) hx hb dX6_gap_56 (by decide) (fun c56 => ?_) (fun c56 => ?_)
    · replace h := if_t c56 h
      refine lv_iload_n hx hb dX6_gap_131 rfl (lv_at hl 2 rfl) ?_
      refine lv_if_ne (tgt := 140) hx hb dX6_gap_132 (by decide) (fun c132 => ?_) (fun c132 => ?_)
      · replace h := if_f c132 h
        refine lv_iload_n hx hb dX6_gap_140 rfl (lv_at hl 3 rfl) ?_
        exact m_iret S hr hlk hw h dX6_gap_141
      · replace h := if_t c132 h
        refine lv_iload hx hb dX6_gap_135 (lv_at hl 4 rfl) ?_
        refine lv_goto (tgt := 141) hx hb dX6_gap_137 (by decide) ?_
        exact m_iret S hr hlk hw h dX6_gap_141
    · replace h := if_f c56 h
      refine lv_aload_n hx hb dX6_gap_59 rfl (lv_at hl 0 rfl) ?_
      refine lv_iload hx hb dX6_gap_60 (lv_at hl 5 rfl) ?_
      refine lv_iload_n hx hb dX6_gap_62 rfl (lv_at hl 1 rfl) ?_
      refine m_callv S hw [.int x5, .int x1] [] (ctM_laysRow l D dA ad A a53 x5 x1 _ h) (cwM_laysRow hts ⟨Nat.le_of_ble_eq_true rfl, Nat.le_of_ble_eq_true rfl⟩) rfl hl.1 rfl (Nat.le_of_ble_eq_true rfl) dX6_gap_63 ⟨Nat.zero_le _, Nat.zero_le _⟩ (fun a63 H locs h hw => ?_)
      refine lv_aload_n hx hb dX6_gap_66 rfl (lv_at hl 0 rfl) ?_
      refine lv_iload_n hx hb dX6_gap_67 rfl (lv_at hl 1 rfl) ?_
      refine m_calli S hw [.int x1] [] (ctM_wouldCost l D dA ad A a63 x1 _ h) (cwM_wouldCost hts ⟨Nat.le_of_ble_eq_true rfl, Nat.le_of_ble_eq_true rfl⟩) rfl hl.1 rfl (Nat.le_of_ble_eq_true rfl) dX6_gap_68 ⟨Nat.zero_le _, Nat.zero_le _⟩ (fun r68 a68 H locs h hw => ?_)
      refine lv_aload_n hx hb dX6_gap_71 rfl (lv_at hl 0 rfl) ?_
      refine lv_iload_n hx hb dX6_gap_72 rfl (lv_at hl 1 rfl) ?_
      refine m_calli S hw [.int x1] [.int r68] (ctM_leastOf l D dA ad A a68 x1 _ h) (cwM_leastOf hts ⟨Nat.le_of_ble_eq_true rfl, Nat.le_of_ble_eq_true rfl⟩) rfl hl.1 rfl (Nat.le_of_ble_eq_true rfl) dX6_gap_73 ⟨Nat.zero_le _, Nat.zero_le _⟩ (fun r73 a73 H locs h hw => ?_)
      refine lv_isub hx hb dX6_gap_76 ?_
      refine lv_istore (lv' := [(6, .int (r68 - r73)), (0, .ref (ad 38)), (1, .int x1), (2, .int x2), (3, .int x3), (4, .int x4), (5, .int x5)]) hx hb dX6_gap_77 hl (by decide) rfl (fun ls hl => ?_)
      refine lv_iload_n hx hb dX6_gap_79 rfl (lv_at hl 4 rfl) ?_
      refine lv_if_lt (tgt := 90) hx hb dX6_gap_80 (by decide) (fun c80 => ?_) (fun c80 => ?_)
      · replace h := if_t c80 h
        exact wkM_gap_90 S hr hlk Q x1 x2 ih _ _ _ _ _ _ h hw (lv_sub hl [1, 2, 3, 6, 0] rfl)
      · replace h := if_f c80 h
        refine lv_iload hx hb dX6_gap_83 (lv_at hl 0 rfl) ?_
        refine lv_iload hx hb dX6_gap_85 (lv_at hl 5 rfl) ?_
        refine lv_icmp_le (tgt := 125) hx hb dX6_gap_87 (by decide) (fun c87 => ?_) (fun c87 => ?_)
        · replace h := if_t c87 h
          refine lv_iinc (v := (x5 + (1 : Int32))) (lv' := [(5, .int (x5 + (1 : Int32))), (6, .int (r68 - r73)), (0, .ref (ad 38)), (1, .int x1), (2, .int x2), (3, .int x3), (4, .int x4)]) hx hb dX6_gap_125 hl (k := 6) rfl rfl (by decide) rfl (fun ls hl => ?_)
          refine lv_goto (tgt := 49) hx hb dX6_gap_128 (by decide) ?_
          exact ih _ _ _ _ _ _ _ h hw (lv_sub hl [2, 3, 4, 5, 6, 0] rfl)
        · replace h := if_f c87 h
          exact wkM_gap_90 S hr hlk Q x1 x2 ih _ _ _ _ _ _ h hw (lv_sub hl [1, 2, 3, 6, 0] rfl)
def wpM_gap (a : MS) (x1 : Int32) (x2 : Int32) (Q : Int32 → MS → Prop) : Prop := wpM_isIn a x1.toInt64 (1 : Int64) (2 : Int64) (fun r6 a6 => if r6 = 0 then (Q (-1000000001 : Int32) a6) else (wpM_isIn a6 x2.toInt64 (0 : Int64) (1 : Int64) (fun r16 a16 => if r16 = 0 then (Q (-1000000001 : Int32) a16) else (if (a16 0 (0 : Int32).toNatClampNeg) = 0 then (Q (-1000000005 : Int32) a16) else (wpM_knowsRooms a16 (fun a38 => ∃ n49, bkM_gap_49 Q x1 x2 n49 (-1 : Int32) (0 : Int32) (0 : Int32) a38))))))
set_option maxHeartbeats 4000000 in
set_option maxRecDepth 100000 in
theorem wkM_gap_e (S : CallFix p m c cX6_gap 7 s args lw_all RX6) (hr : meth.sig.returnType = (some .int)) (hlk : meth.locks = false) (Q : Int32 → MS → Prop) (x1 : Int32) (x2 : Int32) (a : MS) (H : Heap) (locs : List Loc) (ls : Array Slot) (h : wpM_gap a x1 x2 Q) (hw : MW D dA ad A a s H locs) (hl : lv_has ls 7 [(0, .ref (ad 38)), (1, .int x1), (2, .int x2)]) : W p l e rmM_gap s m args below meth c H locs 0 0 (MQ below (mQi D dA ad A Q) args s 0 0 A) (F0 m 0 ls []) := by
  have hx := S.1
  have hb := S.2.1
  have hown := S.2.2.2.1
  have hts := S.2.2.2.2
  unfold wpM_gap at h
  refine lv_iload_n hx hb dX6_gap_0 rfl (lv_at hl 1 rfl) ?_
  refine lv_i2l (v := x1.toInt64) hx hb dX6_gap_1 rfl ?_
  refine lv_lconst (v := 1) hx hb dX6_gap_2 (by decide) ?_
  refine lv_ldc2 hx hb hown (hts _ q1552) dX6_gap_3 ?_
  refine m_callSi S hw [.long x1.toInt64, .long (1 : Int64), .long (2 : Int64)] [] (ctM_isIn l D dA ad A a x1.toInt64 (1 : Int64) (2 : Int64) _ h) (cwM_isIn hts ⟨Nat.le_of_ble_eq_true rfl, Nat.le_of_ble_eq_true rfl⟩) rfl hl.1 rfl (Nat.le_of_ble_eq_true rfl) dX6_gap_6 ⟨Nat.zero_le _, Nat.zero_le _⟩ (fun r6 a6 H locs h hw => ?_)
  refine lv_if_eq (tgt := 22) hx hb dX6_gap_9 (by decide) (fun c9 => ?_) (fun c9 => ?_)
  · replace h := if_t c9 h
    refine lv_ldc hx hb hown (hts _ q1468) dX6_gap_22 ?_
    exact m_iret S hr hlk hw h dX6_gap_24
  · replace h := if_f c9 h
    refine lv_iload_n hx hb dX6_gap_12 rfl (lv_at hl 2 rfl) ?_
    refine lv_i2l (v := x2.toInt64) hx hb dX6_gap_13 rfl ?_
    refine lv_lconst (v := 0) hx hb dX6_gap_14 (by decide) ?_
    refine lv_lconst (v := 1) hx hb dX6_gap_15 (by decide) ?_
    refine m_callSi S hw [.long x2.toInt64, .long (0 : Int64), .long (1 : Int64)] [] (ctM_isIn l D dA ad A a6 x2.toInt64 (0 : Int64) (1 : Int64) _ h) (cwM_isIn hts ⟨Nat.le_of_ble_eq_true rfl, Nat.le_of_ble_eq_true rfl⟩) rfl hl.1 rfl (Nat.le_of_ble_eq_true rfl) dX6_gap_16 ⟨Nat.zero_le _, Nat.zero_le _⟩ (fun r16 a16 H locs h hw => ?_)
    refine lv_if_ne (tgt := 25) hx hb dX6_gap_19 (by decide) (fun c19 => ?_) (fun c19 => ?_)
    · replace h := if_f c19 h
      refine lv_aload_n hx hb dX6_gap_25 rfl (lv_at hl 0 rfl) ?_
      refine m_get S hw 0 (by decide) q1338 rfl rfl dX6_gap_26 ?_
      refine lv_iconst (v := (0 : Int32)) hx hb dX6_gap_29 (by decide) ?_
      refine m_ald S hw 1 0 3098 rfl (by decide) rfl (vlit (by decide)) dX6_gap_30 ?_
      refine lv_if_ne (tgt := 37) hx hb dX6_gap_31 (by decide) (fun c31 => ?_) (fun c31 => ?_)
      · replace h := if_f c31 h
        refine lv_aload_n hx hb dX6_gap_37 rfl (lv_at hl 0 rfl) ?_
        refine m_callv S hw [] [] (ctM_knowsRooms l D dA ad A a16 _ h) (cwM_knowsRooms hts ⟨Nat.le_of_ble_eq_true rfl, Nat.le_of_ble_eq_true rfl⟩) rfl hl.1 rfl (Nat.le_of_ble_eq_true rfl) dX6_gap_38 ⟨Nat.zero_le _, Nat.zero_le _⟩ (fun a38 H locs h hw => ?_)
        refine lv_iconst (v := (-1 : Int32)) hx hb dX6_gap_41 (by decide) ?_
        refine lv_istore_n (lv' := [(3, .int (-1 : Int32)), (0, .ref (ad 38)), (1, .int x1), (2, .int x2)]) hx hb dX6_gap_42 rfl hl (by decide) rfl (fun ls hl => ?_)
        refine lv_iconst (v := (0 : Int32)) hx hb dX6_gap_43 (by decide) ?_
        refine lv_istore (lv' := [(4, .int (0 : Int32)), (3, .int (-1 : Int32)), (0, .ref (ad 38)), (1, .int x1), (2, .int x2)]) hx hb dX6_gap_44 hl (by decide) rfl (fun ls hl => ?_)
        refine lv_iconst (v := (0 : Int32)) hx hb dX6_gap_46 (by decide) ?_
        refine lv_istore (lv' := [(5, .int (0 : Int32)), (4, .int (0 : Int32)), (3, .int (-1 : Int32)), (0, .ref (ad 38)), (1, .int x1), (2, .int x2)]) hx hb dX6_gap_47 hl (by decide) rfl (fun ls hl => ?_)
        obtain ⟨n49, h⟩ := h
        exact wkM_gap_49 S hr hlk Q x1 x2 n49 _ _ _ _ _ _ _ h hw (lv_sub hl [3, 4, 5, 2, 1, 0] rfl)
      · replace h := if_t c31 h
        refine lv_ldc hx hb hown (hts _ q1463) dX6_gap_34 ?_
        exact m_iret S hr hlk hw h dX6_gap_36
    · replace h := if_t c19 h
      refine lv_ldc hx hb hown (hts _ q1468) dX6_gap_22 ?_
      exact m_iret S hr hlk hw h dX6_gap_24
theorem ctM_gap (l : Launch) (D : va_G) (dA : Nat → ClassId) (ad : Nat → Nat) (A : Nat → Prop) (a : MS) (x1 : Int32) (x2 : Int32) (Q : Int32 → MS → Prop) (h : wpM_gap a x1 x2 Q) : Met l yX6_gap (ws_ yX6_gap cX6_gap 7 (some .int)) rmM_gap (mPc D dA ad A a [.ref (ad 38), .int x1, .int x2]) (mQi D dA ad A Q) 0 0 A :=
  m_met (by decide) rfl rfl rfl (Nat.le_of_ble_eq_true rfl) (fun p e s m below meth c ls S hr hlk hw hl => wkM_gap_e S hr hlk Q x1 x2 a _ _ ls h hw hl)
/-! feed -/
abbrev rmM_feed : Room := { frames := 0, cells := 0, slots := 0, locals := 0 }
def bkM_feed_47 (Q : Int32 → MS → Prop) (x1 : Int32) (x2 : Int32) (x3 : Int32) (O18 : Int32 → MS → Prop) : Int32 → Int32 → MS → Prop := fun x4 s0 a => vp_in (a 38 21) 96 ∧ (∀ a74 : MS, a74 = up2 a 20 (a 38 21).toNatClampNeg ((ishr s0 ((24 : Int32) - ((8 : Int32) * (irm x4 (4 : Int32))))) &&& (255 : Int32)) → (∀ a82 : MS, a82 = up2 a74 38 21 ((a74 38 21) + (1 : Int32)) → (O18 (x4 + (1 : Int32)) a82)))
set_option maxHeartbeats 4000000 in
set_option maxRecDepth 100000 in
theorem wkM_feed_47 (S : CallFix p m c cX6_feed 6 s args lw_all RX6) (hr : meth.sig.returnType = (some .int)) (hlk : meth.locks = false) (Q : Int32 → MS → Prop) (x1 : Int32) (x2 : Int32) (x3 : Int32) {O18 : Int32 → MS → Prop} (hO18 : ∀ (x4 : Int32) (a : MS) (H : Heap) (locs : List Loc) (ls : Array Slot), O18 x4 a → MW D dA ad A a s H locs → lv_has ls 6 [(0, .ref (ad 38)), (1, .int x1), (2, .int x2), (3, .int x3), (4, .int x4)] → W p l e rmM_feed s m args below meth c H locs 0 0 (MQ below (mQi D dA ad A Q) args s 0 0 A) (F0 m 18 ls [])) : ∀ (x4 : Int32) (s0 : Int32) (a : MS) (H : Heap) (locs : List Loc) (ls : Array Slot), bkM_feed_47 Q x1 x2 x3 O18 x4 s0 a → MW D dA ad A a s H locs → lv_has ls 6 [(0, .ref (ad 38)), (1, .int x1), (2, .int x2), (3, .int x3), (4, .int x4)] → W p l e rmM_feed s m args below meth c H locs 0 0 (MQ below (mQi D dA ad A Q) args s 0 0 A) (F0 m 47 ls [.int s0]) := by
  have hx := S.1
  have hb := S.2.1
  have hown := S.2.2.2.1
  have hts := S.2.2.2.2
  intro x4 s0 a H locs ls h hw hl
  unfold bkM_feed_47 at h
  refine lv_istore (lv' := [(5, .int s0), (0, .ref (ad 38)), (1, .int x1), (2, .int x2), (3, .int x3), (4, .int x4)]) hx hb dX6_feed_47 hl (by decide) rfl (fun ls hl => ?_)
  refine lv_aload_n hx hb dX6_feed_49 rfl (lv_at hl 1 rfl) ?_
  refine m_get S hw 20 (by decide) q1358 rfl rfl dX6_feed_50 ?_
  refine lv_aload_n hx hb dX6_feed_53 rfl (lv_at hl 1 rfl) ?_
  refine m_get S hw 21 (by decide) q1359 rfl rfl dX6_feed_54 ?_
  refine lv_iload hx hb dX6_feed_57 (lv_at hl 0 rfl) ?_
  refine lv_bipush (v := (24 : Int32)) hx hb dX6_feed_59 (by decide) ?_
  refine lv_bipush (v := (8 : Int32)) hx hb dX6_feed_61 (by decide) ?_
  refine lv_iload hx hb dX6_feed_63 (lv_at hl 5 rfl) ?_
  refine lv_iconst (v := (4 : Int32)) hx hb dX6_feed_65 (by decide) ?_
  refine lv_irem hx hb dX6_feed_66 (by decide) ?_
  refine lv_imul hx hb dX6_feed_67 ?_
  refine lv_isub hx hb dX6_feed_68 ?_
  refine lv_ishr hx hb dX6_feed_69 ?_
  refine lv_sipush (v := (255 : Int32)) hx hb dX6_feed_70 (by decide) ?_
  refine lv_iand hx hb dX6_feed_73 ?_
  refine m_ast S hw 19 20 96 rfl (by decide) rfl h.1 dX6_feed_74 (fun a74 H locs ea74 hw => ?_)
  replace h := h.2 a74 ea74
  refine lv_aload_n hx hb dX6_feed_75 rfl (lv_at hl 1 rfl) ?_
  refine lv_dup hx hb dX6_feed_76 rfl ?_
  refine m_get S hw 21 (by decide) q1359 rfl rfl dX6_feed_77 ?_
  refine lv_iconst (v := (1 : Int32)) hx hb dX6_feed_80 (by decide) ?_
  refine lv_iadd hx hb dX6_feed_81 ?_
  refine m_puti S hw 21 (by decide) q1359 rfl rfl rfl rfl mset_21 dX6_feed_82 (fun a82 H locs ea82 hw => ?_)
  replace h := h a82 ea82
  refine lv_iinc (v := (x4 + (1 : Int32))) (lv' := [(4, .int (x4 + (1 : Int32))), (5, .int s0), (0, .ref (ad 38)), (1, .int x1), (2, .int x2), (3, .int x3)]) hx hb dX6_feed_85 hl (k := 5) rfl rfl (by decide) rfl (fun ls hl => ?_)
  refine lv_goto (tgt := 18) hx hb dX6_feed_88 (by decide) ?_
  exact hO18 _ _ _ _ _ h hw (lv_sub hl [2, 3, 4, 5, 0] rfl)
def bkM_feed_18 (Q : Int32 → MS → Prop) (x1 : Int32) (x2 : Int32) (x3 : Int32) : Nat → Int32 → MS → Prop
  | 0 => fun _ _ => False
  | n + 1 => fun x4 a => if (12 : Int32) ≤ x4 then (Q (a 38 21) a) else (if (4 : Int32) ≤ x4 then (if (8 : Int32) ≤ x4 then (bkM_feed_47 Q x1 x2 x3 (bkM_feed_18 Q x1 x2 x3 n) x4 x3 a) else (bkM_feed_47 Q x1 x2 x3 (bkM_feed_18 Q x1 x2 x3 n) x4 x2 a)) else (bkM_feed_47 Q x1 x2 x3 (bkM_feed_18 Q x1 x2 x3 n) x4 x1 a))
set_option maxHeartbeats 4000000 in
set_option maxRecDepth 100000 in
theorem wkM_feed_18 (S : CallFix p m c cX6_feed 6 s args lw_all RX6) (hr : meth.sig.returnType = (some .int)) (hlk : meth.locks = false) (Q : Int32 → MS → Prop) (x1 : Int32) (x2 : Int32) (x3 : Int32) : ∀ (n : Nat) (x4 : Int32) (a : MS) (H : Heap) (locs : List Loc) (ls : Array Slot), bkM_feed_18 Q x1 x2 x3 n x4 a → MW D dA ad A a s H locs → lv_has ls 6 [(0, .ref (ad 38)), (1, .int x1), (2, .int x2), (3, .int x3), (4, .int x4)] → W p l e rmM_feed s m args below meth c H locs 0 0 (MQ below (mQi D dA ad A Q) args s 0 0 A) (F0 m 18 ls []) := by
  have hx := S.1
  have hb := S.2.1
  have hown := S.2.2.2.1
  have hts := S.2.2.2.2
  intro n
  induction n with
  | zero =>
    intro x4 a H locs ls h
    exact False.elim h
  | succ n ih =>
    intro x4 a H locs ls h hw hl
    unfold bkM_feed_18 at h
    refine lv_iload hx hb dX6_feed_18 (lv_at hl 4 rfl) ?_
    refine lv_bipush (v := (12 : Int32)) hx hb dX6_feed_20 (by decide) ?_
    refine lv_icmp_ge (tgt := 91) hx hb dX6_feed_22 (by decide) (fun c22 => ?_) (fun c22 => ?_)
    · replace h := if_t c22 h
      refine lv_aload_n hx hb dX6_feed_91 rfl (lv_at hl 0 rfl) ?_
      refine m_get S hw 21 (by decide) q1359 rfl rfl dX6_feed_92 ?_
      exact m_iret S hr hlk hw h dX6_feed_95
    · replace h := if_f c22 h
      refine lv_iload hx hb dX6_feed_25 (lv_at hl 4 rfl) ?_
      refine lv_iconst (v := (4 : Int32)) hx hb dX6_feed_27 (by decide) ?_
      refine lv_icmp_ge (tgt := 35) hx hb dX6_feed_28 (by decide) (fun c28 => ?_) (fun c28 => ?_)
      · replace h := if_t c28 h
        refine lv_iload hx hb dX6_feed_35 (lv_at hl 4 rfl) ?_
        refine lv_bipush (v := (8 : Int32)) hx hb dX6_feed_37 (by decide) ?_
        refine lv_icmp_ge (tgt := 46) hx hb dX6_feed_39 (by decide) (fun c39 => ?_) (fun c39 => ?_)
        · replace h := if_t c39 h
          refine lv_iload_n hx hb dX6_feed_46 rfl (lv_at hl 3 rfl) ?_
          exact wkM_feed_47 S hr hlk Q x1 x2 x3 ih _ _ _ _ _ _ h hw (lv_sub hl [0, 1, 2, 3, 4] rfl)
        · replace h := if_f c39 h
          refine lv_iload_n hx hb dX6_feed_42 rfl (lv_at hl 2 rfl) ?_
          refine lv_goto (tgt := 47) hx hb dX6_feed_43 (by decide) ?_
          exact wkM_feed_47 S hr hlk Q x1 x2 x3 ih _ _ _ _ _ _ h hw (lv_sub hl [0, 1, 2, 3, 4] rfl)
      · replace h := if_f c28 h
        refine lv_iload_n hx hb dX6_feed_31 rfl (lv_at hl 1 rfl) ?_
        refine lv_goto (tgt := 47) hx hb dX6_feed_32 (by decide) ?_
        exact wkM_feed_47 S hr hlk Q x1 x2 x3 ih _ _ _ _ _ _ h hw (lv_sub hl [0, 1, 2, 3, 4] rfl)
def wpM_feed (a : MS) (x1 : Int32) (x2 : Int32) (x3 : Int32) (Q : Int32 → MS → Prop) : Prop := if ((a 38 21) + (12 : Int32)) ≤ (96 : Int32) then (∃ n18, bkM_feed_18 Q x1 x2 x3 n18 (0 : Int32) a) else (Q (-1000000003 : Int32) a)
set_option maxHeartbeats 4000000 in
set_option maxRecDepth 100000 in
theorem wkM_feed_e (S : CallFix p m c cX6_feed 6 s args lw_all RX6) (hr : meth.sig.returnType = (some .int)) (hlk : meth.locks = false) (Q : Int32 → MS → Prop) (x1 : Int32) (x2 : Int32) (x3 : Int32) (a : MS) (H : Heap) (locs : List Loc) (ls : Array Slot) (h : wpM_feed a x1 x2 x3 Q) (hw : MW D dA ad A a s H locs) (hl : lv_has ls 6 [(0, .ref (ad 38)), (1, .int x1), (2, .int x2), (3, .int x3)]) : W p l e rmM_feed s m args below meth c H locs 0 0 (MQ below (mQi D dA ad A Q) args s 0 0 A) (F0 m 0 ls []) := by
  have hx := S.1
  have hb := S.2.1
  have hown := S.2.2.2.1
  have hts := S.2.2.2.2
  unfold wpM_feed at h
  refine lv_aload_n hx hb dX6_feed_0 rfl (lv_at hl 0 rfl) ?_
  refine m_get S hw 21 (by decide) q1359 rfl rfl dX6_feed_1 ?_
  refine lv_bipush (v := (12 : Int32)) hx hb dX6_feed_4 (by decide) ?_
  refine lv_iadd hx hb dX6_feed_6 ?_
  refine lv_bipush (v := (96 : Int32)) hx hb dX6_feed_7 (by decide) ?_
  refine lv_icmp_le (tgt := 15) hx hb dX6_feed_9 (by decide) (fun c9 => ?_) (fun c9 => ?_)
  · replace h := if_t c9 h
    refine lv_iconst (v := (0 : Int32)) hx hb dX6_feed_15 (by decide) ?_
    refine lv_istore (lv' := [(4, .int (0 : Int32)), (0, .ref (ad 38)), (1, .int x1), (2, .int x2), (3, .int x3)]) hx hb dX6_feed_16 hl (by decide) rfl (fun ls hl => ?_)
    obtain ⟨n18, h⟩ := h
    exact wkM_feed_18 S hr hlk Q x1 x2 x3 n18 _ _ _ _ _ h hw (lv_sub hl [1, 2, 3, 4, 0] rfl)
  · replace h := if_f c9 h
    refine lv_ldc hx hb hown (hts _ q1469) dX6_feed_12 ?_
    exact m_iret S hr hlk hw h dX6_feed_14
theorem ctM_feed (l : Launch) (D : va_G) (dA : Nat → ClassId) (ad : Nat → Nat) (A : Nat → Prop) (a : MS) (x1 : Int32) (x2 : Int32) (x3 : Int32) (Q : Int32 → MS → Prop) (h : wpM_feed a x1 x2 x3 Q) : Met l yX6_feed (ws_ yX6_feed cX6_feed 6 (some .int)) rmM_feed (mPc D dA ad A a [.ref (ad 38), .int x1, .int x2, .int x3]) (mQi D dA ad A Q) 0 0 A :=
  m_met (by decide) rfl rfl rfl (Nat.le_of_ble_eq_true rfl) (fun p e s m below meth c ls S hr hlk hw hl => wkM_feed_e S hr hlk Q x1 x2 x3 a _ _ ls h hw hl)
/-! trim -/
abbrev rmM_trim : Room := { frames := 1, cells := 0, slots := 0, locals := 25 }
def wpM_trim (a : MS) (x1 : Int32) (Q : Int32 → MS → Prop) : Prop := wpM_isIn a x1.toInt64 (0 : Int64) (a 38 21).toInt64 (fun r8 a8 => if r8 = 0 then (Q (-1000000001 : Int32) a8) else (∀ a19 : MS, a19 = up2 a8 38 21 x1 → (Q x1 a19)))
set_option maxHeartbeats 4000000 in
set_option maxRecDepth 100000 in
theorem wkM_trim_e (S : CallFix p m c cX6_trim 2 s args lw_all RX6) (hr : meth.sig.returnType = (some .int)) (hlk : meth.locks = false) (Q : Int32 → MS → Prop) (x1 : Int32) (a : MS) (H : Heap) (locs : List Loc) (ls : Array Slot) (h : wpM_trim a x1 Q) (hw : MW D dA ad A a s H locs) (hl : lv_has ls 2 [(0, .ref (ad 38)), (1, .int x1)]) : W p l e rmM_trim s m args below meth c H locs 0 0 (MQ below (mQi D dA ad A Q) args s 0 0 A) (F0 m 0 ls []) := by
  have hx := S.1
  have hb := S.2.1
  have hown := S.2.2.2.1
  have hts := S.2.2.2.2
  unfold wpM_trim at h
  refine lv_iload_n hx hb dX6_trim_0 rfl (lv_at hl 1 rfl) ?_
  refine lv_i2l (v := x1.toInt64) hx hb dX6_trim_1 rfl ?_
  refine lv_lconst (v := 0) hx hb dX6_trim_2 (by decide) ?_
  refine lv_aload_n hx hb dX6_trim_3 rfl (lv_at hl 0 rfl) ?_
  refine m_get S hw 21 (by decide) q1359 rfl rfl dX6_trim_4 ?_
  refine lv_i2l (v := (a 38 21).toInt64) hx hb dX6_trim_7 rfl ?_
  refine m_callSi S hw [.long x1.toInt64, .long (0 : Int64), .long (a 38 21).toInt64] [] (ctM_isIn l D dA ad A a x1.toInt64 (0 : Int64) (a 38 21).toInt64 _ h) (cwM_isIn hts ⟨Nat.le_of_ble_eq_true rfl, Nat.le_of_ble_eq_true rfl⟩) rfl hl.1 rfl (Nat.le_of_ble_eq_true rfl) dX6_trim_8 ⟨Nat.zero_le _, Nat.zero_le _⟩ (fun r8 a8 H locs h hw => ?_)
  refine lv_if_ne (tgt := 17) hx hb dX6_trim_11 (by decide) (fun c11 => ?_) (fun c11 => ?_)
  · replace h := if_f c11 h
    refine lv_aload_n hx hb dX6_trim_17 rfl (lv_at hl 0 rfl) ?_
    refine lv_iload_n hx hb dX6_trim_18 rfl (lv_at hl 1 rfl) ?_
    refine m_puti S hw 21 (by decide) q1359 rfl rfl rfl rfl mset_21 dX6_trim_19 (fun a19 H locs ea19 hw => ?_)
    replace h := h a19 ea19
    refine lv_iload_n hx hb dX6_trim_22 rfl (lv_at hl 1 rfl) ?_
    exact m_iret S hr hlk hw h dX6_trim_23
  · replace h := if_t c11 h
    refine lv_ldc hx hb hown (hts _ q1468) dX6_trim_14 ?_
    exact m_iret S hr hlk hw h dX6_trim_16
theorem ctM_trim (l : Launch) (D : va_G) (dA : Nat → ClassId) (ad : Nat → Nat) (A : Nat → Prop) (a : MS) (x1 : Int32) (Q : Int32 → MS → Prop) (h : wpM_trim a x1 Q) : Met l yX6_trim (ws_ yX6_trim cX6_trim 2 (some .int)) rmM_trim (mPc D dA ad A a [.ref (ad 38), .int x1]) (mQi D dA ad A Q) 0 0 A :=
  m_met (by decide) rfl rfl rfl (Nat.le_of_ble_eq_true rfl) (fun p e s m below meth c ls S hr hlk hw hl => wkM_trim_e S hr hlk Q x1 a _ _ ls h hw hl)
/-! isSign -/
abbrev rmM_isSign : Room := { frames := 0, cells := 0, slots := 0, locals := 0 }
def wpM_isSign (a : MS) (x1 : Int32) (Q : Int32 → MS → Prop) : Prop := if (a 38 24) = (3 : Int32) then (if (a 38 26) = x1 then (Q (1 : Int32) a) else (Q (0 : Int32) a)) else (Q (0 : Int32) a)
set_option maxHeartbeats 4000000 in
set_option maxRecDepth 100000 in
theorem wkM_isSign_e (S : CallFix p m c cX6_isSign 2 s args lw_all RX6) (hr : meth.sig.returnType = (some .boolean)) (hlk : meth.locks = false) (Q : Int32 → MS → Prop) (x1 : Int32) (a : MS) (H : Heap) (locs : List Loc) (ls : Array Slot) (h : wpM_isSign a x1 Q) (hw : MW D dA ad A a s H locs) (hl : lv_has ls 2 [(0, .ref (ad 38)), (1, .int x1)]) : W p l e rmM_isSign s m args below meth c H locs 0 0 (MQ below (mQi D dA ad A Q) args s 0 0 A) (F0 m 0 ls []) := by
  have hx := S.1
  have hb := S.2.1
  have hown := S.2.2.2.1
  have hts := S.2.2.2.2
  unfold wpM_isSign at h
  refine lv_aload_n hx hb dX6_isSign_0 rfl (lv_at hl 0 rfl) ?_
  refine m_get S hw 24 (by decide) q1362 rfl rfl dX6_isSign_1 ?_
  refine lv_iconst (v := (3 : Int32)) hx hb dX6_isSign_4 (by decide) ?_
  refine lv_icmp_ne (tgt := 20) hx hb dX6_isSign_5 (by decide) (fun c5 => ?_) (fun c5 => ?_)
  · replace h := if_f c5 h
    refine lv_iconst (v := (0 : Int32)) hx hb dX6_isSign_20 (by decide) ?_
    exact m_zret S hr hlk hw (Or.inl rfl) h dX6_isSign_21
  · replace h := if_t c5 h
    refine lv_aload_n hx hb dX6_isSign_8 rfl (lv_at hl 0 rfl) ?_
    refine m_get S hw 26 (by decide) q1364 rfl rfl dX6_isSign_9 ?_
    refine lv_iload_n hx hb dX6_isSign_12 rfl (lv_at hl 1 rfl) ?_
    refine lv_icmp_ne (tgt := 20) hx hb dX6_isSign_13 (by decide) (fun c13 => ?_) (fun c13 => ?_)
    · replace h := if_f c13 h
      refine lv_iconst (v := (0 : Int32)) hx hb dX6_isSign_20 (by decide) ?_
      exact m_zret S hr hlk hw (Or.inl rfl) h dX6_isSign_21
    · replace h := if_t c13 h
      refine lv_iconst (v := (1 : Int32)) hx hb dX6_isSign_16 (by decide) ?_
      refine lv_goto (tgt := 21) hx hb dX6_isSign_17 (by decide) ?_
      exact m_zret S hr hlk hw (Or.inr rfl) h dX6_isSign_21
theorem ctM_isSign (l : Launch) (D : va_G) (dA : Nat → ClassId) (ad : Nat → Nat) (A : Nat → Prop) (a : MS) (x1 : Int32) (Q : Int32 → MS → Prop) (h : wpM_isSign a x1 Q) : Met l yX6_isSign (ws_ yX6_isSign cX6_isSign 2 (some .boolean)) rmM_isSign (mPc D dA ad A a [.ref (ad 38), .int x1]) (mQi D dA ad A Q) 0 0 A :=
  m_met (by decide) rfl rfl rfl (Nat.le_of_ble_eq_true rfl) (fun p e s m below meth c ls S hr hlk hw hl => wkM_isSign_e S hr hlk Q x1 a _ _ ls h hw hl)
theorem cwM_isSign {R : Room} {s : State} {args : Array Value} {rm : Room} (hts : ∀ w ∈ lw_all, w.before args s = true) (hR : rm.frames + 1 ≤ R.frames ∧ 8 + (2 + 11) + rm.locals ≤ R.locals) (hc : rm.cells = 0 := by rfl) (hs : rm.slots = 0 := by rfl) : CallW R s args RX6 RX6 284 yX6_isSign cX6_isSign 2 (some .boolean) (ws_ yX6_isSign cX6_isSign 2 (some .boolean)) rm 0 0 1 :=
  cwV 1 hts (lw_V q1802 q1804 qs99 q112 q1805) rfl hc hs (by decide +kernel) hR
/-! isDigit -/
abbrev rmM_isDigit : Room := { frames := 1, cells := 0, slots := 0, locals := 25 }
def wpM_isDigit (a : MS) (x1 : Int32) (Q : Int32 → MS → Prop) : Prop := if (a 38 21) ≤ x1 then (Q (0 : Int32) a) else (vp_in x1 96 ∧ (wpM_isIn a (a 20 x1.toNatClampNeg).toInt64 (48 : Int64) (57 : Int64) (fun r21 a21 => if r21 = 0 then (Q (0 : Int32) a21) else (Q (1 : Int32) a21))))
set_option maxHeartbeats 4000000 in
set_option maxRecDepth 100000 in
theorem wkM_isDigit_e (S : CallFix p m c cX6_isDigit 2 s args lw_all RX6) (hr : meth.sig.returnType = (some .boolean)) (hlk : meth.locks = false) (Q : Int32 → MS → Prop) (x1 : Int32) (a : MS) (H : Heap) (locs : List Loc) (ls : Array Slot) (h : wpM_isDigit a x1 Q) (hw : MW D dA ad A a s H locs) (hl : lv_has ls 2 [(0, .ref (ad 38)), (1, .int x1)]) : W p l e rmM_isDigit s m args below meth c H locs 0 0 (MQ below (mQi D dA ad A Q) args s 0 0 A) (F0 m 0 ls []) := by
  have hx := S.1
  have hb := S.2.1
  have hown := S.2.2.2.1
  have hts := S.2.2.2.2
  unfold wpM_isDigit at h
  refine lv_iload_n hx hb dX6_isDigit_0 rfl (lv_at hl 1 rfl) ?_
  refine lv_aload_n hx hb dX6_isDigit_1 rfl (lv_at hl 0 rfl) ?_
  refine m_get S hw 21 (by decide) q1359 rfl rfl dX6_isDigit_2 ?_
  refine lv_icmp_ge (tgt := 31) hx hb dX6_isDigit_5 (by decide) (fun c5 => ?_) (fun c5 => ?_)
  · replace h := if_t c5 h
    refine lv_iconst (v := (0 : Int32)) hx hb dX6_isDigit_31 (by decide) ?_
    exact m_zret S hr hlk hw (Or.inl rfl) h dX6_isDigit_32
  · replace h := if_f c5 h
    refine lv_aload_n hx hb dX6_isDigit_8 rfl (lv_at hl 0 rfl) ?_
    refine m_get S hw 20 (by decide) q1358 rfl rfl dX6_isDigit_9 ?_
    refine lv_iload_n hx hb dX6_isDigit_12 rfl (lv_at hl 1 rfl) ?_
    refine m_ald S hw 19 20 96 rfl (by decide) rfl h.1 dX6_isDigit_13 ?_
    replace h := h.2
    refine lv_i2l (v := (a 20 x1.toNatClampNeg).toInt64) hx hb dX6_isDigit_14 rfl ?_
    refine lv_ldc2 hx hb hown (hts _ q1757) dX6_isDigit_15 ?_
    refine lv_ldc2 hx hb hown (hts _ q1758) dX6_isDigit_18 ?_
    refine m_callSi S hw [.long (a 20 x1.toNatClampNeg).toInt64, .long (48 : Int64), .long (57 : Int64)] [] (ctM_isIn l D dA ad A a (a 20 x1.toNatClampNeg).toInt64 (48 : Int64) (57 : Int64) _ h) (cwM_isIn hts ⟨Nat.le_of_ble_eq_true rfl, Nat.le_of_ble_eq_true rfl⟩) rfl hl.1 rfl (Nat.le_of_ble_eq_true rfl) dX6_isDigit_21 ⟨Nat.zero_le _, Nat.zero_le _⟩ (fun r21 a21 H locs h hw => ?_)
    refine lv_if_eq (tgt := 31) hx hb dX6_isDigit_24 (by decide) (fun c24 => ?_) (fun c24 => ?_)
    · replace h := if_t c24 h
      refine lv_iconst (v := (0 : Int32)) hx hb dX6_isDigit_31 (by decide) ?_
      exact m_zret S hr hlk hw (Or.inl rfl) h dX6_isDigit_32
    · replace h := if_f c24 h
      refine lv_iconst (v := (1 : Int32)) hx hb dX6_isDigit_27 (by decide) ?_
      refine lv_goto (tgt := 32) hx hb dX6_isDigit_28 (by decide) ?_
      exact m_zret S hr hlk hw (Or.inr rfl) h dX6_isDigit_32
theorem ctM_isDigit (l : Launch) (D : va_G) (dA : Nat → ClassId) (ad : Nat → Nat) (A : Nat → Prop) (a : MS) (x1 : Int32) (Q : Int32 → MS → Prop) (h : wpM_isDigit a x1 Q) : Met l yX6_isDigit (ws_ yX6_isDigit cX6_isDigit 2 (some .boolean)) rmM_isDigit (mPc D dA ad A a [.ref (ad 38), .int x1]) (mQi D dA ad A Q) 0 0 A :=
  m_met (by decide) rfl rfl rfl (Nat.le_of_ble_eq_true rfl) (fun p e s m below meth c ls S hr hlk hw hl => wkM_isDigit_e S hr hlk Q x1 a _ _ ls h hw hl)
theorem cwM_isDigit {R : Room} {s : State} {args : Array Value} {rm : Room} (hts : ∀ w ∈ lw_all, w.before args s = true) (hR : rm.frames + 1 ≤ R.frames ∧ 8 + (2 + 11) + rm.locals ≤ R.locals) (hc : rm.cells = 0 := by rfl) (hs : rm.slots = 0 := by rfl) : CallW R s args RX6 RX6 261 yX6_isDigit cX6_isDigit 2 (some .boolean) (ws_ yX6_isDigit cX6_isDigit 2 (some .boolean)) rm 0 0 1 :=
  cwV 1 hts (lw_V q1753 q1755 qs88 q112 q1756) rfl hc hs (by decide +kernel) hR
/-! isLetter -/
abbrev rmM_isLetter : Room := { frames := 1, cells := 0, slots := 0, locals := 25 }
def wpM_isLetter (a : MS) (x1 : Int32) (Q : Int32 → MS → Prop) : Prop := if (a 38 21) ≤ x1 then (Q (0 : Int32) a) else (vp_in x1 96 ∧ (wpM_isIn a (a 20 x1.toNatClampNeg).toInt64 (97 : Int64) (122 : Int64) (fun r21 a21 => if r21 = 0 then (Q (0 : Int32) a21) else (Q (1 : Int32) a21))))
set_option maxHeartbeats 4000000 in
set_option maxRecDepth 100000 in
theorem wkM_isLetter_e (S : CallFix p m c cX6_isLetter 2 s args lw_all RX6) (hr : meth.sig.returnType = (some .boolean)) (hlk : meth.locks = false) (Q : Int32 → MS → Prop) (x1 : Int32) (a : MS) (H : Heap) (locs : List Loc) (ls : Array Slot) (h : wpM_isLetter a x1 Q) (hw : MW D dA ad A a s H locs) (hl : lv_has ls 2 [(0, .ref (ad 38)), (1, .int x1)]) : W p l e rmM_isLetter s m args below meth c H locs 0 0 (MQ below (mQi D dA ad A Q) args s 0 0 A) (F0 m 0 ls []) := by
  have hx := S.1
  have hb := S.2.1
  have hown := S.2.2.2.1
  have hts := S.2.2.2.2
  unfold wpM_isLetter at h
  refine lv_iload_n hx hb dX6_isLetter_0 rfl (lv_at hl 1 rfl) ?_
  refine lv_aload_n hx hb dX6_isLetter_1 rfl (lv_at hl 0 rfl) ?_
  refine m_get S hw 21 (by decide) q1359 rfl rfl dX6_isLetter_2 ?_
  refine lv_icmp_ge (tgt := 31) hx hb dX6_isLetter_5 (by decide) (fun c5 => ?_) (fun c5 => ?_)
  · replace h := if_t c5 h
    refine lv_iconst (v := (0 : Int32)) hx hb dX6_isLetter_31 (by decide) ?_
    exact m_zret S hr hlk hw (Or.inl rfl) h dX6_isLetter_32
  · replace h := if_f c5 h
    refine lv_aload_n hx hb dX6_isLetter_8 rfl (lv_at hl 0 rfl) ?_
    refine m_get S hw 20 (by decide) q1358 rfl rfl dX6_isLetter_9 ?_
    refine lv_iload_n hx hb dX6_isLetter_12 rfl (lv_at hl 1 rfl) ?_
    refine m_ald S hw 19 20 96 rfl (by decide) rfl h.1 dX6_isLetter_13 ?_
    replace h := h.2
    refine lv_i2l (v := (a 20 x1.toNatClampNeg).toInt64) hx hb dX6_isLetter_14 rfl ?_
    refine lv_ldc2 hx hb hown (hts _ q1751) dX6_isLetter_15 ?_
    refine lv_ldc2 hx hb hown (hts _ q1752) dX6_isLetter_18 ?_
    refine m_callSi S hw [.long (a 20 x1.toNatClampNeg).toInt64, .long (97 : Int64), .long (122 : Int64)] [] (ctM_isIn l D dA ad A a (a 20 x1.toNatClampNeg).toInt64 (97 : Int64) (122 : Int64) _ h) (cwM_isIn hts ⟨Nat.le_of_ble_eq_true rfl, Nat.le_of_ble_eq_true rfl⟩) rfl hl.1 rfl (Nat.le_of_ble_eq_true rfl) dX6_isLetter_21 ⟨Nat.zero_le _, Nat.zero_le _⟩ (fun r21 a21 H locs h hw => ?_)
    refine lv_if_eq (tgt := 31) hx hb dX6_isLetter_24 (by decide) (fun c24 => ?_) (fun c24 => ?_)
    · replace h := if_t c24 h
      refine lv_iconst (v := (0 : Int32)) hx hb dX6_isLetter_31 (by decide) ?_
      exact m_zret S hr hlk hw (Or.inl rfl) h dX6_isLetter_32
    · replace h := if_f c24 h
      refine lv_iconst (v := (1 : Int32)) hx hb dX6_isLetter_27 (by decide) ?_
      refine lv_goto (tgt := 32) hx hb dX6_isLetter_28 (by decide) ?_
      exact m_zret S hr hlk hw (Or.inr rfl) h dX6_isLetter_32
theorem ctM_isLetter (l : Launch) (D : va_G) (dA : Nat → ClassId) (ad : Nat → Nat) (A : Nat → Prop) (a : MS) (x1 : Int32) (Q : Int32 → MS → Prop) (h : wpM_isLetter a x1 Q) : Met l yX6_isLetter (ws_ yX6_isLetter cX6_isLetter 2 (some .boolean)) rmM_isLetter (mPc D dA ad A a [.ref (ad 38), .int x1]) (mQi D dA ad A Q) 0 0 A :=
  m_met (by decide) rfl rfl rfl (Nat.le_of_ble_eq_true rfl) (fun p e s m below meth c ls S hr hlk hw hl => wkM_isLetter_e S hr hlk Q x1 a _ _ ls h hw hl)
theorem cwM_isLetter {R : Room} {s : State} {args : Array Value} {rm : Room} (hts : ∀ w ∈ lw_all, w.before args s = true) (hR : rm.frames + 1 ≤ R.frames ∧ 8 + (2 + 11) + rm.locals ≤ R.locals) (hc : rm.cells = 0 := by rfl) (hs : rm.slots = 0 := by rfl) : CallW R s args RX6 RX6 255 yX6_isLetter cX6_isLetter 2 (some .boolean) (ws_ yX6_isLetter cX6_isLetter 2 (some .boolean)) rm 0 0 1 :=
  cwV 1 hts (lw_V q1747 q1749 qs87 q112 q1750) rfl hc hs (by decide +kernel) hR
/-! nextToken -/
abbrev rmM_nextToken : Room := { frames := 2, cells := 0, slots := 0, locals := 46 }
def bkM_nextToken_300 (Q : MS → Prop) : MS → Prop := fun a => ∀ a305 : MS, a305 = up2 a 38 24 (4 : Int32) → (Q a305)
set_option maxHeartbeats 4000000 in
set_option maxRecDepth 100000 in
theorem wkM_nextToken_300 (S : CallFix p m c cX6_nextToken 3 s args lw_all RX6) (hr : meth.sig.returnType = none) (hlk : meth.locks = false) (Q : MS → Prop) : ∀ (a : MS) (H : Heap) (locs : List Loc) (ls : Array Slot), bkM_nextToken_300 Q a → MW D dA ad A a s H locs → lv_has ls 3 [] → W p l e rmM_nextToken s m args below meth c H locs 0 0 (MQ below (mQv D dA ad A Q) args s 0 0 A) (F0 m 300 ls [.ref (ad 38)]) := by
  have hx := S.1
  have hb := S.2.1
  have hown := S.2.2.2.1
  have hts := S.2.2.2.2
  intro  a H locs ls h hw hl
  unfold bkM_nextToken_300 at h
  refine lv_iconst (v := (4 : Int32)) hx hb dX6_nextToken_300 (by decide) ?_
  refine lv_goto (tgt := 305) hx hb dX6_nextToken_301 (by decide) ?_
  refine m_puti S hw 24 (by decide) q1362 rfl rfl rfl rfl mset_24 dX6_nextToken_305 (fun a305 H locs ea305 hw => ?_)
  replace h := h a305 ea305
  refine lv_goto (tgt := 339) hx hb dX6_nextToken_308 (by decide) ?_
  exact m_vret S hr hlk hw h dX6_nextToken_339
def bkM_nextToken_266 (Q : MS → Prop) (O214 : Int32 → MS → Prop) : Int32 → Int32 → MS → Prop := fun x1 s1 a => ∀ a266 : MS, a266 = up2 a 38 25 s1 → (∀ a276 : MS, a276 = up2 a266 38 23 ((a266 38 23) + (1 : Int32)) → (O214 x1 a276))
set_option maxHeartbeats 4000000 in
set_option maxRecDepth 100000 in
theorem wkM_nextToken_266 (S : CallFix p m c cX6_nextToken 3 s args lw_all RX6) (hr : meth.sig.returnType = none) (hlk : meth.locks = false) (Q : MS → Prop) {O214 : Int32 → MS → Prop} (hO214 : ∀ (x1 : Int32) (a : MS) (H : Heap) (locs : List Loc) (ls : Array Slot), O214 x1 a → MW D dA ad A a s H locs → lv_has ls 3 [(0, .ref (ad 38)), (1, .int x1)] → W p l e rmM_nextToken s m args below meth c H locs 0 0 (MQ below (mQv D dA ad A Q) args s 0 0 A) (F0 m 214 ls [])) : ∀ (x1 : Int32) (s1 : Int32) (a : MS) (H : Heap) (locs : List Loc) (ls : Array Slot), bkM_nextToken_266 Q O214 x1 s1 a → MW D dA ad A a s H locs → lv_has ls 3 [(0, .ref (ad 38)), (1, .int x1)] → W p l e rmM_nextToken s m args below meth c H locs 0 0 (MQ below (mQv D dA ad A Q) args s 0 0 A) (F0 m 266 ls [.int s1, .ref (ad 38)]) := by
  have hx := S.1
  have hb := S.2.1
  have hown := S.2.2.2.1
  have hts := S.2.2.2.2
  intro x1 s1 a H locs ls h hw hl
  unfold bkM_nextToken_266 at h
  refine m_puti S hw 25 (by decide) q1363 rfl rfl rfl rfl mset_25 dX6_nextToken_266 (fun a266 H locs ea266 hw => ?_)
  replace h := h a266 ea266
  refine lv_aload_n hx hb dX6_nextToken_269 rfl (lv_at hl 0 rfl) ?_
  refine lv_dup hx hb dX6_nextToken_270 rfl ?_
  refine m_get S hw 23 (by decide) q1361 rfl rfl dX6_nextToken_271 ?_
  refine lv_iconst (v := (1 : Int32)) hx hb dX6_nextToken_274 (by decide) ?_
  refine lv_iadd hx hb dX6_nextToken_275 ?_
  refine m_puti S hw 23 (by decide) q1361 rfl rfl rfl rfl mset_23 dX6_nextToken_276 (fun a276 H locs ea276 hw => ?_)
  replace h := h a276 ea276
  refine lv_goto (tgt := 214) hx hb dX6_nextToken_279 (by decide) ?_
  exact hO214 _ _ _ _ _ h hw (lv_sub hl [0, 1] rfl)
def bkM_nextToken_214 (Q : MS → Prop) : Nat → Int32 → MS → Prop
  | 0 => fun _ _ => False
  | n + 1 => fun x1 a => wpM_isDigit a (a 38 23) (fun r219 a219 => if r219 = 0 then (if x1 = 0 then (if ((a219 38 23) - (a219 38 22)) ≤ (4 : Int32) then (∀ a305 : MS, a305 = up2 a219 38 24 (2 : Int32) → (Q a305)) else (bkM_nextToken_300 Q a219)) else (bkM_nextToken_300 Q a219)) else (if (4 : Int32) ≤ ((a219 38 23) - (a219 38 22)) then (bkM_nextToken_266 Q (bkM_nextToken_214 Q n) x1 (a219 38 25) a219) else (vp_in (a219 38 23) 96 ∧ (bkM_nextToken_266 Q (bkM_nextToken_214 Q n) x1 ((((10 : Int32) * (a219 38 25)) + (a219 20 (a219 38 23).toNatClampNeg)) - (48 : Int32)) a219))))
set_option maxHeartbeats 4000000 in
set_option maxRecDepth 100000 in
theorem wkM_nextToken_214 (S : CallFix p m c cX6_nextToken 3 s args lw_all RX6) (hr : meth.sig.returnType = none) (hlk : meth.locks = false) (Q : MS → Prop) : ∀ (n : Nat) (x1 : Int32) (a : MS) (H : Heap) (locs : List Loc) (ls : Array Slot), bkM_nextToken_214 Q n x1 a → MW D dA ad A a s H locs → lv_has ls 3 [(0, .ref (ad 38)), (1, .int x1)] → W p l e rmM_nextToken s m args below meth c H locs 0 0 (MQ below (mQv D dA ad A Q) args s 0 0 A) (F0 m 214 ls []) := by
  have hx := S.1
  have hb := S.2.1
  have hown := S.2.2.2.1
  have hts := S.2.2.2.2
  intro n
  induction n with
  | zero =>
    intro x1 a H locs ls h
    exact False.elim h
  | succ n ih =>
    intro x1 a H locs ls h hw hl
    unfold bkM_nextToken_214 at h
    refine lv_aload_n hx hb dX6_nextToken_214 rfl (lv_at hl 0 rfl) ?_
    refine lv_aload_n hx hb dX6_nextToken_215 rfl (lv_at hl 0 rfl) ?_
    refine m_get S hw 23 (by decide) q1361 rfl rfl dX6_nextToken_216 ?_
    refine m_calli S hw [.int (a 38 23)] [] (ctM_isDigit l D dA ad A a (a 38 23) _ h) (cwM_isDigit hts ⟨Nat.le_of_ble_eq_true rfl, Nat.le_of_ble_eq_true rfl⟩) rfl hl.1 rfl (Nat.le_of_ble_eq_true rfl) dX6_nextToken_219 ⟨Nat.zero_le _, Nat.zero_le _⟩ (fun r219 a219 H locs h hw => ?_)
    refine lv_if_eq (tgt := 282) hx hb dX6_nextToken_222 (by decide) (fun c222 => ?_) (fun c222 => ?_)
    · replace h := if_t c222 h
      refine lv_aload_n hx hb dX6_nextToken_282 rfl (lv_at hl 0 rfl) ?_
      refine lv_iload_n hx hb dX6_nextToken_283 rfl (lv_at hl 1 rfl) ?_
      refine lv_if_ne (tgt := 300) hx hb dX6_nextToken_284 (by decide) (fun c284 => ?_) (fun c284 => ?_)
      · replace h := if_f c284 h
        exact wkM_nextToken_300 S hr hlk Q _ _ _ _ h hw (lv_sub hl [] rfl)
      · replace h := if_t c284 h
        refine lv_aload_n hx hb dX6_nextToken_287 rfl (lv_at hl 0 rfl) ?_
        refine m_get S hw 23 (by decide) q1361 rfl rfl dX6_nextToken_288 ?_
        refine lv_aload_n hx hb dX6_nextToken_291 rfl (lv_at hl 0 rfl) ?_
        refine m_get S hw 22 (by decide) q1360 rfl rfl dX6_nextToken_292 ?_
        refine lv_isub hx hb dX6_nextToken_295 ?_
        refine lv_iconst (v := (4 : Int32)) hx hb dX6_nextToken_296 (by decide) ?_
        refine lv_icmp_le (tgt := 304) hx hb dX6_nextToken_297 (by decide) (fun c297 => ?_) (fun c297 => ?_)
        · replace h := if_t c297 h
          refine lv_iconst (v := (2 : Int32)) hx hb dX6_nextToken_304 (by decide) ?_
          refine m_puti S hw 24 (by decide) q1362 rfl rfl rfl rfl mset_24 dX6_nextToken_305 (fun a305 H locs ea305 hw => ?_)
          replace h := h a305 ea305
          refine lv_goto (tgt := 339) hx hb dX6_nextToken_308 (by decide) ?_
          exact m_vret S hr hlk hw h dX6_nextToken_339
        · replace h := if_f c297 h
          exact wkM_nextToken_300 S hr hlk Q _ _ _ _ h hw (lv_sub hl [] rfl)
    · replace h := if_f c222 h
      refine lv_aload_n hx hb dX6_nextToken_225 rfl (lv_at hl 0 rfl) ?_
      refine lv_aload_n hx hb dX6_nextToken_226 rfl (lv_at hl 0 rfl) ?_
      refine m_get S hw 23 (by decide) q1361 rfl rfl dX6_nextToken_227 ?_
      refine lv_aload_n hx hb dX6_nextToken_230 rfl (lv_at hl 0 rfl) ?_
      refine m_get S hw 22 (by decide) q1360 rfl rfl dX6_nextToken_231 ?_
      refine lv_isub hx hb dX6_nextToken_234 ?_
      refine lv_iconst (v := (4 : Int32)) hx hb dX6_nextToken_235 (by decide) ?_
      refine lv_icmp_ge (tgt := 262) hx hb dX6_nextToken_236 (by decide) (fun c236 => ?_) (fun c236 => ?_)
      · replace h := if_t c236 h
        refine lv_aload_n hx hb dX6_nextToken_262 rfl (lv_at hl 0 rfl) ?_
        refine m_get S hw 25 (by decide) q1363 rfl rfl dX6_nextToken_263 ?_
        exact wkM_nextToken_266 S hr hlk Q ih _ _ _ _ _ _ h hw (lv_sub hl [0, 1] rfl)
      · replace h := if_f c236 h
        refine lv_bipush (v := (10 : Int32)) hx hb dX6_nextToken_239 (by decide) ?_
        refine lv_aload_n hx hb dX6_nextToken_241 rfl (lv_at hl 0 rfl) ?_
        refine m_get S hw 25 (by decide) q1363 rfl rfl dX6_nextToken_242 ?_
        refine lv_imul hx hb dX6_nextToken_245 ?_
        refine lv_aload_n hx hb dX6_nextToken_246 rfl (lv_at hl 0 rfl) ?_
        refine m_get S hw 20 (by decide) q1358 rfl rfl dX6_nextToken_247 ?_
        refine lv_aload_n hx hb dX6_nextToken_250 rfl (lv_at hl 0 rfl) ?_
        refine m_get S hw 23 (by decide) q1361 rfl rfl dX6_nextToken_251 ?_
        refine m_ald S hw 19 20 96 rfl (by decide) rfl h.1 dX6_nextToken_254 ?_
        replace h := h.2
        refine lv_iadd hx hb dX6_nextToken_255 ?_
        refine lv_bipush (v := (48 : Int32)) hx hb dX6_nextToken_256 (by decide) ?_
        refine lv_isub hx hb dX6_nextToken_258 ?_
        refine lv_goto (tgt := 266) hx hb dX6_nextToken_259 (by decide) ?_
        exact wkM_nextToken_266 S hr hlk Q ih _ _ _ _ _ _ h hw (lv_sub hl [0, 1] rfl)
def bkM_nextToken_162 (Q : MS → Prop) : Int32 → MS → Prop := fun s1 a => ∀ a162 : MS, a162 = up2 a 38 24 s1 → (if ((a162 38 23) - (a162 38 22)) = (1 : Int32) then (vp_in (a162 38 22) 96 ∧ (∀ a192 : MS, a192 = up2 a162 38 26 (a162 20 (a162 38 22).toNatClampNeg) → (Q a192))) else (∀ a192 : MS, a192 = up2 a162 38 26 (0 : Int32) → (Q a192)))
set_option maxHeartbeats 4000000 in
set_option maxRecDepth 100000 in
theorem wkM_nextToken_162 (S : CallFix p m c cX6_nextToken 3 s args lw_all RX6) (hr : meth.sig.returnType = none) (hlk : meth.locks = false) (Q : MS → Prop) : ∀ (s1 : Int32) (a : MS) (H : Heap) (locs : List Loc) (ls : Array Slot), bkM_nextToken_162 Q s1 a → MW D dA ad A a s H locs → lv_has ls 3 [(0, .ref (ad 38))] → W p l e rmM_nextToken s m args below meth c H locs 0 0 (MQ below (mQv D dA ad A Q) args s 0 0 A) (F0 m 162 ls [.int s1, .ref (ad 38)]) := by
  have hx := S.1
  have hb := S.2.1
  have hown := S.2.2.2.1
  have hts := S.2.2.2.2
  intro s1 a H locs ls h hw hl
  unfold bkM_nextToken_162 at h
  refine m_puti S hw 24 (by decide) q1362 rfl rfl rfl rfl mset_24 dX6_nextToken_162 (fun a162 H locs ea162 hw => ?_)
  replace h := h a162 ea162
  refine lv_aload_n hx hb dX6_nextToken_165 rfl (lv_at hl 0 rfl) ?_
  refine lv_aload_n hx hb dX6_nextToken_166 rfl (lv_at hl 0 rfl) ?_
  refine m_get S hw 23 (by decide) q1361 rfl rfl dX6_nextToken_167 ?_
  refine lv_aload_n hx hb dX6_nextToken_170 rfl (lv_at hl 0 rfl) ?_
  refine m_get S hw 22 (by decide) q1360 rfl rfl dX6_nextToken_171 ?_
  refine lv_isub hx hb dX6_nextToken_174 ?_
  refine lv_iconst (v := (1 : Int32)) hx hb dX6_nextToken_175 (by decide) ?_
  refine lv_icmp_ne (tgt := 191) hx hb dX6_nextToken_176 (by decide) (fun c176 => ?_) (fun c176 => ?_)
  · replace h := if_f c176 h
    refine lv_iconst (v := (0 : Int32)) hx hb dX6_nextToken_191 (by decide) ?_
    refine m_puti S hw 26 (by decide) q1364 rfl rfl rfl rfl mset_26 dX6_nextToken_192 (fun a192 H locs ea192 hw => ?_)
    replace h := h a192 ea192
    refine lv_goto (tgt := 339) hx hb dX6_nextToken_195 (by decide) ?_
    exact m_vret S hr hlk hw h dX6_nextToken_339
  · replace h := if_t c176 h
    refine lv_aload_n hx hb dX6_nextToken_179 rfl (lv_at hl 0 rfl) ?_
    refine m_get S hw 20 (by decide) q1358 rfl rfl dX6_nextToken_180 ?_
    refine lv_aload_n hx hb dX6_nextToken_183 rfl (lv_at hl 0 rfl) ?_
    refine m_get S hw 22 (by decide) q1360 rfl rfl dX6_nextToken_184 ?_
    refine m_ald S hw 19 20 96 rfl (by decide) rfl h.1 dX6_nextToken_187 ?_
    replace h := h.2
    refine lv_goto (tgt := 192) hx hb dX6_nextToken_188 (by decide) ?_
    refine m_puti S hw 26 (by decide) q1364 rfl rfl rfl rfl mset_26 dX6_nextToken_192 (fun a192 H locs ea192 hw => ?_)
    replace h := h a192 ea192
    refine lv_goto (tgt := 339) hx hb dX6_nextToken_195 (by decide) ?_
    exact m_vret S hr hlk hw h dX6_nextToken_339
def bkM_nextToken_128 (Q : MS → Prop) : Nat → Int32 → MS → Prop
  | 0 => fun _ _ => False
  | n + 1 => fun x1 a => wpM_isLetter a (a 38 23) (fun r133 a133 => if r133 = 0 then (if x1 = 0 then (bkM_nextToken_162 Q (1 : Int32) a133) else (bkM_nextToken_162 Q (4 : Int32) a133)) else (∀ a146 : MS, a146 = up2 a133 38 23 ((a133 38 23) + (1 : Int32)) → (bkM_nextToken_128 Q n x1 a146)))
set_option maxHeartbeats 4000000 in
set_option maxRecDepth 100000 in
theorem wkM_nextToken_128 (S : CallFix p m c cX6_nextToken 3 s args lw_all RX6) (hr : meth.sig.returnType = none) (hlk : meth.locks = false) (Q : MS → Prop) : ∀ (n : Nat) (x1 : Int32) (a : MS) (H : Heap) (locs : List Loc) (ls : Array Slot), bkM_nextToken_128 Q n x1 a → MW D dA ad A a s H locs → lv_has ls 3 [(0, .ref (ad 38)), (1, .int x1)] → W p l e rmM_nextToken s m args below meth c H locs 0 0 (MQ below (mQv D dA ad A Q) args s 0 0 A) (F0 m 128 ls []) := by
  have hx := S.1
  have hb := S.2.1
  have hown := S.2.2.2.1
  have hts := S.2.2.2.2
  intro n
  induction n with
  | zero =>
    intro x1 a H locs ls h
    exact False.elim h
  | succ n ih =>
    intro x1 a H locs ls h hw hl
    unfold bkM_nextToken_128 at h
    refine lv_aload_n hx hb dX6_nextToken_128 rfl (lv_at hl 0 rfl) ?_
    refine lv_aload_n hx hb dX6_nextToken_129 rfl (lv_at hl 0 rfl) ?_
    refine m_get S hw 23 (by decide) q1361 rfl rfl dX6_nextToken_130 ?_
    refine m_calli S hw [.int (a 38 23)] [] (ctM_isLetter l D dA ad A a (a 38 23) _ h) (cwM_isLetter hts ⟨Nat.le_of_ble_eq_true rfl, Nat.le_of_ble_eq_true rfl⟩) rfl hl.1 rfl (Nat.le_of_ble_eq_true rfl) dX6_nextToken_133 ⟨Nat.zero_le _, Nat.zero_le _⟩ (fun r133 a133 H locs h hw => ?_)
    refine lv_if_eq (tgt := 152) hx hb dX6_nextToken_136 (by decide) (fun c136 => ?_) (fun c136 => ?_)
    · replace h := if_t c136 h
      refine lv_aload_n hx hb dX6_nextToken_152 rfl (lv_at hl 0 rfl) ?_
      refine lv_iload_n hx hb dX6_nextToken_153 rfl (lv_at hl 1 rfl) ?_
      refine lv_if_eq (tgt := 161) hx hb dX6_nextToken_154 (by decide) (fun c154 => ?_) (fun c154 => ?_)
      · replace h := if_t c154 h
        refine lv_iconst (v := (1 : Int32)) hx hb dX6_nextToken_161 (by decide) ?_
        exact wkM_nextToken_162 S hr hlk Q _ _ _ _ _ h hw (lv_sub hl [0] rfl)
      · replace h := if_f c154 h
        refine lv_iconst (v := (4 : Int32)) hx hb dX6_nextToken_157 (by decide) ?_
        refine lv_goto (tgt := 162) hx hb dX6_nextToken_158 (by decide) ?_
        exact wkM_nextToken_162 S hr hlk Q _ _ _ _ _ h hw (lv_sub hl [0] rfl)
    · replace h := if_f c136 h
      refine lv_aload_n hx hb dX6_nextToken_139 rfl (lv_at hl 0 rfl) ?_
      refine lv_dup hx hb dX6_nextToken_140 rfl ?_
      refine m_get S hw 23 (by decide) q1361 rfl rfl dX6_nextToken_141 ?_
      refine lv_iconst (v := (1 : Int32)) hx hb dX6_nextToken_144 (by decide) ?_
      refine lv_iadd hx hb dX6_nextToken_145 ?_
      refine m_puti S hw 23 (by decide) q1361 rfl rfl rfl rfl mset_23 dX6_nextToken_146 (fun a146 H locs ea146 hw => ?_)
      replace h := h a146 ea146
      refine lv_goto (tgt := 128) hx hb dX6_nextToken_149 (by decide) ?_
      exact ih _ _ _ _ _ h hw (lv_sub hl [0, 1] rfl)
def bkM_nextToken_89 (Q : MS → Prop) : Int32 → MS → Prop := fun s0 a => ∀ a95 : MS, a95 = up2 a 38 22 (a 38 23) → (if (a95 38 22) = (a95 38 21) then (∀ a111 : MS, a111 = up2 a95 38 24 (0 : Int32) → (Q a111)) else (wpM_isLetter a95 (a95 38 22) (fun r122 a122 => if r122 = 0 then (wpM_isDigit a122 (a122 38 22) (fun r203 a203 => if r203 = 0 then (∀ a313 : MS, a313 = up2 a203 38 24 (3 : Int32) → (vp_in (a313 38 22) 96 ∧ (∀ a326 : MS, a326 = up2 a313 38 26 (a313 20 (a313 38 22).toNatClampNeg) → (∀ a336 : MS, a336 = up2 a326 38 23 ((a326 38 23) + (1 : Int32)) → (Q a336))))) else (∀ a211 : MS, a211 = up2 a203 38 25 (0 : Int32) → (∃ n214, bkM_nextToken_214 Q n214 s0 a211)))) else (∃ n128, bkM_nextToken_128 Q n128 s0 a122))))
set_option maxHeartbeats 4000000 in
set_option maxRecDepth 100000 in
theorem wkM_nextToken_89 (S : CallFix p m c cX6_nextToken 3 s args lw_all RX6) (hr : meth.sig.returnType = none) (hlk : meth.locks = false) (Q : MS → Prop) : ∀ (s0 : Int32) (a : MS) (H : Heap) (locs : List Loc) (ls : Array Slot), bkM_nextToken_89 Q s0 a → MW D dA ad A a s H locs → lv_has ls 3 [(0, .ref (ad 38))] → W p l e rmM_nextToken s m args below meth c H locs 0 0 (MQ below (mQv D dA ad A Q) args s 0 0 A) (F0 m 89 ls [.int s0]) := by
  have hx := S.1
  have hb := S.2.1
  have hown := S.2.2.2.1
  have hts := S.2.2.2.2
  intro s0 a H locs ls h hw hl
  unfold bkM_nextToken_89 at h
  refine lv_istore_n (lv' := [(1, .int s0), (0, .ref (ad 38))]) hx hb dX6_nextToken_89 rfl hl (by decide) rfl (fun ls hl => ?_)
  refine lv_aload_n hx hb dX6_nextToken_90 rfl (lv_at hl 1 rfl) ?_
  refine lv_aload_n hx hb dX6_nextToken_91 rfl (lv_at hl 1 rfl) ?_
  refine m_get S hw 23 (by decide) q1361 rfl rfl dX6_nextToken_92 ?_
  refine m_puti S hw 22 (by decide) q1360 rfl rfl rfl rfl mset_22 dX6_nextToken_95 (fun a95 H locs ea95 hw => ?_)
  replace h := h a95 ea95
  refine lv_aload_n hx hb dX6_nextToken_98 rfl (lv_at hl 1 rfl) ?_
  refine m_get S hw 22 (by decide) q1360 rfl rfl dX6_nextToken_99 ?_
  refine lv_aload_n hx hb dX6_nextToken_102 rfl (lv_at hl 1 rfl) ?_
  refine m_get S hw 21 (by decide) q1359 rfl rfl dX6_nextToken_103 ?_
  refine lv_icmp_ne (tgt := 117) hx hb dX6_nextToken_106 (by decide) (fun c106 => ?_) (fun c106 => ?_)
  · replace h := if_f c106 h
    refine lv_aload_n hx hb dX6_nextToken_117 rfl (lv_at hl 1 rfl) ?_
    refine lv_aload_n hx hb dX6_nextToken_118 rfl (lv_at hl 1 rfl) ?_
    refine m_get S hw 22 (by decide) q1360 rfl rfl dX6_nextToken_119 ?_
    refine m_calli S hw [.int (a95 38 22)] [] (ctM_isLetter l D dA ad A a95 (a95 38 22) _ h) (cwM_isLetter hts ⟨Nat.le_of_ble_eq_true rfl, Nat.le_of_ble_eq_true rfl⟩) rfl hl.1 rfl (Nat.le_of_ble_eq_true rfl) dX6_nextToken_122 ⟨Nat.zero_le _, Nat.zero_le _⟩ (fun r122 a122 H locs h hw => ?_)
    refine lv_if_eq (tgt := 198) hx hb dX6_nextToken_125 (by decide) (fun c125 => ?_) (fun c125 => ?_)
    · replace h := if_t c125 h
      refine lv_aload_n hx hb dX6_nextToken_198 rfl (lv_at hl 1 rfl) ?_
      refine lv_aload_n hx hb dX6_nextToken_199 rfl (lv_at hl 1 rfl) ?_
      refine m_get S hw 22 (by decide) q1360 rfl rfl dX6_nextToken_200 ?_
      refine m_calli S hw [.int (a122 38 22)] [] (ctM_isDigit l D dA ad A a122 (a122 38 22) _ h) (cwM_isDigit hts ⟨Nat.le_of_ble_eq_true rfl, Nat.le_of_ble_eq_true rfl⟩) rfl hl.1 rfl (Nat.le_of_ble_eq_true rfl) dX6_nextToken_203 ⟨Nat.zero_le _, Nat.zero_le _⟩ (fun r203 a203 H locs h hw => ?_)
      refine lv_if_eq (tgt := 311) hx hb dX6_nextToken_206 (by decide) (fun c206 => ?_) (fun c206 => ?_)
      · replace h := if_t c206 h
        refine lv_aload_n hx hb dX6_nextToken_311 rfl (lv_at hl 1 rfl) ?_
        refine lv_iconst (v := (3 : Int32)) hx hb dX6_nextToken_312 (by decide) ?_
        refine m_puti S hw 24 (by decide) q1362 rfl rfl rfl rfl mset_24 dX6_nextToken_313 (fun a313 H locs ea313 hw => ?_)
        replace h := h a313 ea313
        refine lv_aload_n hx hb dX6_nextToken_316 rfl (lv_at hl 1 rfl) ?_
        refine lv_aload_n hx hb dX6_nextToken_317 rfl (lv_at hl 1 rfl) ?_
        refine m_get S hw 20 (by decide) q1358 rfl rfl dX6_nextToken_318 ?_
        refine lv_aload_n hx hb dX6_nextToken_321 rfl (lv_at hl 1 rfl) ?_
        refine m_get S hw 22 (by decide) q1360 rfl rfl dX6_nextToken_322 ?_
        refine m_ald S hw 19 20 96 rfl (by decide) rfl h.1 dX6_nextToken_325 ?_
        replace h := h.2
        refine m_puti S hw 26 (by decide) q1364 rfl rfl rfl rfl mset_26 dX6_nextToken_326 (fun a326 H locs ea326 hw => ?_)
        replace h := h a326 ea326
        refine lv_aload_n hx hb dX6_nextToken_329 rfl (lv_at hl 1 rfl) ?_
        refine lv_dup hx hb dX6_nextToken_330 rfl ?_
        refine m_get S hw 23 (by decide) q1361 rfl rfl dX6_nextToken_331 ?_
        refine lv_iconst (v := (1 : Int32)) hx hb dX6_nextToken_334 (by decide) ?_
        refine lv_iadd hx hb dX6_nextToken_335 ?_
        refine m_puti S hw 23 (by decide) q1361 rfl rfl rfl rfl mset_23 dX6_nextToken_336 (fun a336 H locs ea336 hw => ?_)
        replace h := h a336 ea336
        exact m_vret S hr hlk hw h dX6_nextToken_339
      · replace h := if_f c206 h
        refine lv_aload_n hx hb dX6_nextToken_209 rfl (lv_at hl 1 rfl) ?_
        refine lv_iconst (v := (0 : Int32)) hx hb dX6_nextToken_210 (by decide) ?_
        refine m_puti S hw 25 (by decide) q1363 rfl rfl rfl rfl mset_25 dX6_nextToken_211 (fun a211 H locs ea211 hw => ?_)
        replace h := h a211 ea211
        obtain ⟨n214, h⟩ := h
        exact wkM_nextToken_214 S hr hlk Q n214 _ _ _ _ _ h hw (lv_sub hl [1, 0] rfl)
    · replace h := if_f c125 h
      obtain ⟨n128, h⟩ := h
      exact wkM_nextToken_128 S hr hlk Q n128 _ _ _ _ _ h hw (lv_sub hl [1, 0] rfl)
  · replace h := if_t c106 h
    refine lv_aload_n hx hb dX6_nextToken_109 rfl (lv_at hl 1 rfl) ?_
    refine lv_iconst (v := (0 : Int32)) hx hb dX6_nextToken_110 (by decide) ?_
    refine m_puti S hw 24 (by decide) q1362 rfl rfl rfl rfl mset_24 dX6_nextToken_111 (fun a111 H locs ea111 hw => ?_)
    replace h := h a111 ea111
    refine lv_goto (tgt := 339) hx hb dX6_nextToken_114 (by decide) ?_
    exact m_vret S hr hlk hw h dX6_nextToken_339
def bkM_nextToken_88 (Q : MS → Prop) : MS → Prop := fun a => bkM_nextToken_89 Q (0 : Int32) a
set_option maxHeartbeats 4000000 in
set_option maxRecDepth 100000 in
theorem wkM_nextToken_88 (S : CallFix p m c cX6_nextToken 3 s args lw_all RX6) (hr : meth.sig.returnType = none) (hlk : meth.locks = false) (Q : MS → Prop) : ∀ (a : MS) (H : Heap) (locs : List Loc) (ls : Array Slot), bkM_nextToken_88 Q a → MW D dA ad A a s H locs → lv_has ls 3 [(0, .ref (ad 38))] → W p l e rmM_nextToken s m args below meth c H locs 0 0 (MQ below (mQv D dA ad A Q) args s 0 0 A) (F0 m 88 ls []) := by
  have hx := S.1
  have hb := S.2.1
  have hown := S.2.2.2.1
  have hts := S.2.2.2.2
  intro  a H locs ls h hw hl
  unfold bkM_nextToken_88 at h
  refine lv_iconst (v := (0 : Int32)) hx hb dX6_nextToken_88 (by decide) ?_
  exact wkM_nextToken_89 S hr hlk Q _ _ _ _ _ h hw (lv_sub hl [0] rfl)
def bkM_nextToken_72 (Q : MS → Prop) : Int32 → Int32 → MS → Prop := fun x1 x2 a => if x1 = 0 then (bkM_nextToken_88 Q a) else (if x2 = (a 38 23) then (bkM_nextToken_89 Q (1 : Int32) a) else (bkM_nextToken_88 Q a))
set_option maxHeartbeats 4000000 in
set_option maxRecDepth 100000 in
theorem wkM_nextToken_72 (S : CallFix p m c cX6_nextToken 3 s args lw_all RX6) (hr : meth.sig.returnType = none) (hlk : meth.locks = false) (Q : MS → Prop) : ∀ (x1 : Int32) (x2 : Int32) (a : MS) (H : Heap) (locs : List Loc) (ls : Array Slot), bkM_nextToken_72 Q x1 x2 a → MW D dA ad A a s H locs → lv_has ls 3 [(0, .ref (ad 38)), (1, .int x1), (2, .int x2)] → W p l e rmM_nextToken s m args below meth c H locs 0 0 (MQ below (mQv D dA ad A Q) args s 0 0 A) (F0 m 72 ls []) := by
  have hx := S.1
  have hb := S.2.1
  have hown := S.2.2.2.1
  have hts := S.2.2.2.2
  intro x1 x2 a H locs ls h hw hl
  unfold bkM_nextToken_72 at h
  refine lv_iload_n hx hb dX6_nextToken_72 rfl (lv_at hl 1 rfl) ?_
  refine lv_if_eq (tgt := 88) hx hb dX6_nextToken_73 (by decide) (fun c73 => ?_) (fun c73 => ?_)
  · replace h := if_t c73 h
    exact wkM_nextToken_88 S hr hlk Q _ _ _ _ h hw (lv_sub hl [0] rfl)
  · replace h := if_f c73 h
    refine lv_iload_n hx hb dX6_nextToken_76 rfl (lv_at hl 2 rfl) ?_
    refine lv_aload_n hx hb dX6_nextToken_77 rfl (lv_at hl 0 rfl) ?_
    refine m_get S hw 23 (by decide) q1361 rfl rfl dX6_nextToken_78 ?_
    refine lv_icmp_ne (tgt := 88) hx hb dX6_nextToken_81 (by decide) (fun c81 => ?_) (fun c81 => ?_)
    · replace h := if_f c81 h
      exact wkM_nextToken_88 S hr hlk Q _ _ _ _ h hw (lv_sub hl [0] rfl)
    · replace h := if_t c81 h
      refine lv_iconst (v := (1 : Int32)) hx hb dX6_nextToken_84 (by decide) ?_
      refine lv_goto (tgt := 89) hx hb dX6_nextToken_85 (by decide) ?_
      exact wkM_nextToken_89 S hr hlk Q _ _ _ _ _ h hw (lv_sub hl [0] rfl)
def bkM_nextToken_34 (Q : MS → Prop) : Nat → Int32 → Int32 → MS → Prop
  | 0 => fun _ _ _ => False
  | n + 1 => fun x1 x2 a => if (a 38 21) ≤ (a 38 23) then (bkM_nextToken_72 Q x1 x2 a) else (vp_in (a 38 23) 96 ∧ (if (a 20 (a 38 23).toNatClampNeg) = (32 : Int32) then (∀ a66 : MS, a66 = up2 a 38 23 ((a 38 23) + (1 : Int32)) → (bkM_nextToken_34 Q n x1 x2 a66)) else (bkM_nextToken_72 Q x1 x2 a)))
set_option maxHeartbeats 4000000 in
set_option maxRecDepth 100000 in
theorem wkM_nextToken_34 (S : CallFix p m c cX6_nextToken 3 s args lw_all RX6) (hr : meth.sig.returnType = none) (hlk : meth.locks = false) (Q : MS → Prop) : ∀ (n : Nat) (x1 : Int32) (x2 : Int32) (a : MS) (H : Heap) (locs : List Loc) (ls : Array Slot), bkM_nextToken_34 Q n x1 x2 a → MW D dA ad A a s H locs → lv_has ls 3 [(0, .ref (ad 38)), (1, .int x1), (2, .int x2)] → W p l e rmM_nextToken s m args below meth c H locs 0 0 (MQ below (mQv D dA ad A Q) args s 0 0 A) (F0 m 34 ls []) := by
  have hx := S.1
  have hb := S.2.1
  have hown := S.2.2.2.1
  have hts := S.2.2.2.2
  intro n
  induction n with
  | zero =>
    intro x1 x2 a H locs ls h
    exact False.elim h
  | succ n ih =>
    intro x1 x2 a H locs ls h hw hl
    unfold bkM_nextToken_34 at h
    refine lv_aload_n hx hb dX6_nextToken_34 rfl (lv_at hl 0 rfl) ?_
    refine m_get S hw 23 (by decide) q1361 rfl rfl dX6_nextToken_35 ?_
    refine lv_aload_n hx hb dX6_nextToken_38 rfl (lv_at hl 0 rfl) ?_
    refine m_get S hw 21 (by decide) q1359 rfl rfl dX6_nextToken_39 ?_
    refine lv_icmp_ge (tgt := 72) hx hb dX6_nextToken_42 (by decide) (fun c42 => ?_) (fun c42 => ?_)
    · replace h := if_t c42 h
      exact wkM_nextToken_72 S hr hlk Q _ _ _ _ _ _ h hw (lv_sub hl [0, 1, 2] rfl)
    · replace h := if_f c42 h
      refine lv_aload_n hx hb dX6_nextToken_45 rfl (lv_at hl 0 rfl) ?_
      refine m_get S hw 20 (by decide) q1358 rfl rfl dX6_nextToken_46 ?_
      refine lv_aload_n hx hb dX6_nextToken_49 rfl (lv_at hl 0 rfl) ?_
      refine m_get S hw 23 (by decide) q1361 rfl rfl dX6_nextToken_50 ?_
      refine m_ald S hw 19 20 96 rfl (by decide) rfl h.1 dX6_nextToken_53 ?_
      replace h := h.2
      refine lv_bipush (v := (32 : Int32)) hx hb dX6_nextToken_54 (by decide) ?_
      refine lv_icmp_ne (tgt := 72) hx hb dX6_nextToken_56 (by decide) (fun c56 => ?_) (fun c56 => ?_)
      · replace h := if_f c56 h
        exact wkM_nextToken_72 S hr hlk Q _ _ _ _ _ _ h hw (lv_sub hl [0, 1, 2] rfl)
      · replace h := if_t c56 h
        refine lv_aload_n hx hb dX6_nextToken_59 rfl (lv_at hl 0 rfl) ?_
        refine lv_dup hx hb dX6_nextToken_60 rfl ?_
        refine m_get S hw 23 (by decide) q1361 rfl rfl dX6_nextToken_61 ?_
        refine lv_iconst (v := (1 : Int32)) hx hb dX6_nextToken_64 (by decide) ?_
        refine lv_iadd hx hb dX6_nextToken_65 ?_
        refine m_puti S hw 23 (by decide) q1361 rfl rfl rfl rfl mset_23 dX6_nextToken_66 (fun a66 H locs ea66 hw => ?_)
        replace h := h a66 ea66
        refine lv_goto (tgt := 34) hx hb dX6_nextToken_69 (by decide) ?_
        exact ih _ _ _ _ _ _ h hw (lv_sub hl [0, 1, 2] rfl)
def bkM_nextToken_28 (Q : MS → Prop) : Int32 → MS → Prop := fun s0 a => ∃ n34, bkM_nextToken_34 Q n34 s0 (a 38 23) a
set_option maxHeartbeats 4000000 in
set_option maxRecDepth 100000 in
theorem wkM_nextToken_28 (S : CallFix p m c cX6_nextToken 3 s args lw_all RX6) (hr : meth.sig.returnType = none) (hlk : meth.locks = false) (Q : MS → Prop) : ∀ (s0 : Int32) (a : MS) (H : Heap) (locs : List Loc) (ls : Array Slot), bkM_nextToken_28 Q s0 a → MW D dA ad A a s H locs → lv_has ls 3 [(0, .ref (ad 38))] → W p l e rmM_nextToken s m args below meth c H locs 0 0 (MQ below (mQv D dA ad A Q) args s 0 0 A) (F0 m 28 ls [.int s0]) := by
  have hx := S.1
  have hb := S.2.1
  have hown := S.2.2.2.1
  have hts := S.2.2.2.2
  intro s0 a H locs ls h hw hl
  unfold bkM_nextToken_28 at h
  refine lv_istore_n (lv' := [(1, .int s0), (0, .ref (ad 38))]) hx hb dX6_nextToken_28 rfl hl (by decide) rfl (fun ls hl => ?_)
  refine lv_aload_n hx hb dX6_nextToken_29 rfl (lv_at hl 1 rfl) ?_
  refine m_get S hw 23 (by decide) q1361 rfl rfl dX6_nextToken_30 ?_
  refine lv_istore_n (lv' := [(2, .int (a 38 23)), (1, .int s0), (0, .ref (ad 38))]) hx hb dX6_nextToken_33 rfl hl (by decide) rfl (fun ls hl => ?_)
  obtain ⟨n34, h⟩ := h
  exact wkM_nextToken_34 S hr hlk Q n34 _ _ _ _ _ _ h hw (lv_sub hl [2, 1, 0] rfl)
def bkM_nextToken_27 (Q : MS → Prop) : MS → Prop := fun a => bkM_nextToken_28 Q (0 : Int32) a
set_option maxHeartbeats 4000000 in
set_option maxRecDepth 100000 in
theorem wkM_nextToken_27 (S : CallFix p m c cX6_nextToken 3 s args lw_all RX6) (hr : meth.sig.returnType = none) (hlk : meth.locks = false) (Q : MS → Prop) : ∀ (a : MS) (H : Heap) (locs : List Loc) (ls : Array Slot), bkM_nextToken_27 Q a → MW D dA ad A a s H locs → lv_has ls 3 [(0, .ref (ad 38))] → W p l e rmM_nextToken s m args below meth c H locs 0 0 (MQ below (mQv D dA ad A Q) args s 0 0 A) (F0 m 27 ls []) := by
  have hx := S.1
  have hb := S.2.1
  have hown := S.2.2.2.1
  have hts := S.2.2.2.2
  intro  a H locs ls h hw hl
  unfold bkM_nextToken_27 at h
  refine lv_iconst (v := (0 : Int32)) hx hb dX6_nextToken_27 (by decide) ?_
  exact wkM_nextToken_28 S hr hlk Q _ _ _ _ _ h hw (lv_sub hl [0] rfl)
def bkM_nextToken_23 (Q : MS → Prop) : MS → Prop := fun a => bkM_nextToken_28 Q (1 : Int32) a
set_option maxHeartbeats 4000000 in
set_option maxRecDepth 100000 in
theorem wkM_nextToken_23 (S : CallFix p m c cX6_nextToken 3 s args lw_all RX6) (hr : meth.sig.returnType = none) (hlk : meth.locks = false) (Q : MS → Prop) : ∀ (a : MS) (H : Heap) (locs : List Loc) (ls : Array Slot), bkM_nextToken_23 Q a → MW D dA ad A a s H locs → lv_has ls 3 [(0, .ref (ad 38))] → W p l e rmM_nextToken s m args below meth c H locs 0 0 (MQ below (mQv D dA ad A Q) args s 0 0 A) (F0 m 23 ls []) := by
  have hx := S.1
  have hb := S.2.1
  have hown := S.2.2.2.1
  have hts := S.2.2.2.2
  intro  a H locs ls h hw hl
  unfold bkM_nextToken_23 at h
  refine lv_iconst (v := (1 : Int32)) hx hb dX6_nextToken_23 (by decide) ?_
  refine lv_goto (tgt := 28) hx hb dX6_nextToken_24 (by decide) ?_
  exact wkM_nextToken_28 S hr hlk Q _ _ _ _ _ h hw (lv_sub hl [0] rfl)
def wpM_nextToken (a : MS) (Q : MS → Prop) : Prop := if (a 38 23) ≤ 0 then (bkM_nextToken_27 Q a) else (if (a 38 24) = (1 : Int32) then (bkM_nextToken_23 Q a) else (if (a 38 24) = (2 : Int32) then (bkM_nextToken_23 Q a) else (bkM_nextToken_27 Q a)))
set_option maxHeartbeats 4000000 in
set_option maxRecDepth 100000 in
theorem wkM_nextToken_e (S : CallFix p m c cX6_nextToken 3 s args lw_all RX6) (hr : meth.sig.returnType = none) (hlk : meth.locks = false) (Q : MS → Prop) (a : MS) (H : Heap) (locs : List Loc) (ls : Array Slot) (h : wpM_nextToken a Q) (hw : MW D dA ad A a s H locs) (hl : lv_has ls 3 [(0, .ref (ad 38))]) : W p l e rmM_nextToken s m args below meth c H locs 0 0 (MQ below (mQv D dA ad A Q) args s 0 0 A) (F0 m 0 ls []) := by
  have hx := S.1
  have hb := S.2.1
  have hown := S.2.2.2.1
  have hts := S.2.2.2.2
  unfold wpM_nextToken at h
  refine lv_aload_n hx hb dX6_nextToken_0 rfl (lv_at hl 0 rfl) ?_
  refine m_get S hw 23 (by decide) q1361 rfl rfl dX6_nextToken_1 ?_
  refine lv_if_le (tgt := 27) hx hb dX6_nextToken_4 (by decide) (fun c4 => ?_) (fun c4 => ?_)
  · replace h := if_t c4 h
    exact wkM_nextToken_27 S hr hlk Q _ _ _ _ h hw (lv_sub hl [0] rfl)
  · replace h := if_f c4 h
    refine lv_aload_n hx hb dX6_nextToken_7 rfl (lv_at hl 0 rfl) ?_
    refine m_get S hw 24 (by decide) q1362 rfl rfl dX6_nextToken_8 ?_
    refine lv_iconst (v := (1 : Int32)) hx hb dX6_nextToken_11 (by decide) ?_
    refine lv_icmp_eq (tgt := 23) hx hb dX6_nextToken_12 (by decide) (fun c12 => ?_) (fun c12 => ?_)
    · replace h := if_t c12 h
      exact wkM_nextToken_23 S hr hlk Q _ _ _ _ h hw (lv_sub hl [0] rfl)
    · replace h := if_f c12 h
      refine lv_aload_n hx hb dX6_nextToken_15 rfl (lv_at hl 0 rfl) ?_
      refine m_get S hw 24 (by decide) q1362 rfl rfl dX6_nextToken_16 ?_
      refine lv_iconst (v := (2 : Int32)) hx hb dX6_nextToken_19 (by decide) ?_
      refine lv_icmp_ne (tgt := 27) hx hb dX6_nextToken_20 (by decide) (fun c20 => ?_) (fun c20 => ?_)
      · replace h := if_f c20 h
        exact wkM_nextToken_27 S hr hlk Q _ _ _ _ h hw (lv_sub hl [0] rfl)
      · replace h := if_t c20 h
        exact wkM_nextToken_23 S hr hlk Q _ _ _ _ h hw (lv_sub hl [0] rfl)
theorem ctM_nextToken (l : Launch) (D : va_G) (dA : Nat → ClassId) (ad : Nat → Nat) (A : Nat → Prop) (a : MS) (Q : MS → Prop) (h : wpM_nextToken a Q) : Met l yX6_nextToken (ws_ yX6_nextToken cX6_nextToken 3 none) rmM_nextToken (mPc D dA ad A a [.ref (ad 38)]) (mQv D dA ad A Q) 0 0 A :=
  m_met (by decide) rfl rfl rfl (Nat.le_of_ble_eq_true rfl) (fun p e s m below meth c ls S hr hlk hw hl => wkM_nextToken_e S hr hlk Q a _ _ ls h hw hl)
theorem cwM_nextToken {R : Room} {s : State} {args : Array Value} {rm : Room} (hts : ∀ w ∈ lw_all, w.before args s = true) (hR : rm.frames + 1 ≤ R.frames ∧ 8 + (3 + 11) + rm.locals ≤ R.locals) (hc : rm.cells = 0 := by rfl) (hs : rm.slots = 0 := by rfl) : CallW R s args RX6 RX6 287 yX6_nextToken cX6_nextToken 3 none (ws_ yX6_nextToken cX6_nextToken 3 none) rm 0 0 0 :=
  cwV 0 hts (lw_V q1743 q1745 qs86 q112 q1746) rfl hc hs (by decide +kernel) hR
/-! step -/
abbrev rmM_step : Room := { frames := 0, cells := 0, slots := 0, locals := 0 }
def wpM_step (a : MS) (x1 : Int32) (x2 : Int32) (Q : MS → Prop) : Prop := vp_in ((a 38 30) + ((2 : Int32) * (a 38 29))) 3098 ∧ (∀ a16 : MS, a16 = up2 a 0 ((a 38 30) + ((2 : Int32) * (a 38 29))).toNatClampNeg x1 → (vp_in (((a16 38 30) + ((2 : Int32) * (a16 38 29))) + (1 : Int32)) 3098 ∧ (∀ a35 : MS, a35 = up2 a16 0 (((a16 38 30) + ((2 : Int32) * (a16 38 29))) + (1 : Int32)).toNatClampNeg x2 → (∀ a43 : MS, a43 = up2 a35 38 29 ((a35 38 29) + (1 : Int32)) → (Q a43)))))
set_option maxHeartbeats 4000000 in
set_option maxRecDepth 100000 in
theorem wkM_step_e (S : CallFix p m c cX6_step 3 s args lw_all RX6) (hr : meth.sig.returnType = none) (hlk : meth.locks = false) (Q : MS → Prop) (x1 : Int32) (x2 : Int32) (a : MS) (H : Heap) (locs : List Loc) (ls : Array Slot) (h : wpM_step a x1 x2 Q) (hw : MW D dA ad A a s H locs) (hl : lv_has ls 3 [(0, .ref (ad 38)), (1, .int x1), (2, .int x2)]) : W p l e rmM_step s m args below meth c H locs 0 0 (MQ below (mQv D dA ad A Q) args s 0 0 A) (F0 m 0 ls []) := by
  have hx := S.1
  have hb := S.2.1
  have hown := S.2.2.2.1
  have hts := S.2.2.2.2
  unfold wpM_step at h
  refine lv_aload_n hx hb dX6_step_0 rfl (lv_at hl 0 rfl) ?_
  refine m_get S hw 0 (by decide) q1338 rfl rfl dX6_step_1 ?_
  refine lv_aload_n hx hb dX6_step_4 rfl (lv_at hl 0 rfl) ?_
  refine m_get S hw 30 (by decide) q1368 rfl rfl dX6_step_5 ?_
  refine lv_iconst (v := (2 : Int32)) hx hb dX6_step_8 (by decide) ?_
  refine lv_aload_n hx hb dX6_step_9 rfl (lv_at hl 0 rfl) ?_
  refine m_get S hw 29 (by decide) q1367 rfl rfl dX6_step_10 ?_
  refine lv_imul hx hb dX6_step_13 ?_
  refine lv_iadd hx hb dX6_step_14 ?_
  refine lv_iload_n hx hb dX6_step_15 rfl (lv_at hl 1 rfl) ?_
  refine m_ast S hw 1 0 3098 rfl (by decide) rfl h.1 dX6_step_16 (fun a16 H locs ea16 hw => ?_)
  replace h := h.2 a16 ea16
  refine lv_aload_n hx hb dX6_step_17 rfl (lv_at hl 0 rfl) ?_
  refine m_get S hw 0 (by decide) q1338 rfl rfl dX6_step_18 ?_
  refine lv_aload_n hx hb dX6_step_21 rfl (lv_at hl 0 rfl) ?_
  refine m_get S hw 30 (by decide) q1368 rfl rfl dX6_step_22 ?_
  refine lv_iconst (v := (2 : Int32)) hx hb dX6_step_25 (by decide) ?_
  refine lv_aload_n hx hb dX6_step_26 rfl (lv_at hl 0 rfl) ?_
  refine m_get S hw 29 (by decide) q1367 rfl rfl dX6_step_27 ?_
  refine lv_imul hx hb dX6_step_30 ?_
  refine lv_iadd hx hb dX6_step_31 ?_
  refine lv_iconst (v := (1 : Int32)) hx hb dX6_step_32 (by decide) ?_
  refine lv_iadd hx hb dX6_step_33 ?_
  refine lv_iload_n hx hb dX6_step_34 rfl (lv_at hl 2 rfl) ?_
  refine m_ast S hw 1 0 3098 rfl (by decide) rfl h.1 dX6_step_35 (fun a35 H locs ea35 hw => ?_)
  replace h := h.2 a35 ea35
  refine lv_aload_n hx hb dX6_step_36 rfl (lv_at hl 0 rfl) ?_
  refine lv_dup hx hb dX6_step_37 rfl ?_
  refine m_get S hw 29 (by decide) q1367 rfl rfl dX6_step_38 ?_
  refine lv_iconst (v := (1 : Int32)) hx hb dX6_step_41 (by decide) ?_
  refine lv_iadd hx hb dX6_step_42 ?_
  refine m_puti S hw 29 (by decide) q1367 rfl rfl rfl rfl mset_29 dX6_step_43 (fun a43 H locs ea43 hw => ?_)
  replace h := h a43 ea43
  exact m_vret S hr hlk hw h dX6_step_46
theorem ctM_step (l : Launch) (D : va_G) (dA : Nat → ClassId) (ad : Nat → Nat) (A : Nat → Prop) (a : MS) (x1 : Int32) (x2 : Int32) (Q : MS → Prop) (h : wpM_step a x1 x2 Q) : Met l yX6_step (ws_ yX6_step cX6_step 3 none) rmM_step (mPc D dA ad A a [.ref (ad 38), .int x1, .int x2]) (mQv D dA ad A Q) 0 0 A :=
  m_met (by decide) rfl rfl rfl (Nat.le_of_ble_eq_true rfl) (fun p e s m below meth c ls S hr hlk hw hl => wkM_step_e S hr hlk Q x1 x2 a _ _ ls h hw hl)
theorem cwM_step {R : Room} {s : State} {args : Array Value} {rm : Room} (hts : ∀ w ∈ lw_all, w.before args s = true) (hR : rm.frames + 1 ≤ R.frames ∧ 8 + (3 + 11) + rm.locals ≤ R.locals) (hc : rm.cells = 0 := by rfl) (hs : rm.slots = 0 := by rfl) : CallW R s args RX6 RX6 290 yX6_step cX6_step 3 none (ws_ yX6_step cX6_step 3 none) rm 0 0 2 :=
  cwV 2 hts (lw_V q1795 q1797 qs98 q112 q1798) rfl hc hs (by decide +kernel) hR
/-! isName -/
abbrev rmM_isName : Room := { frames := 0, cells := 0, slots := 0, locals := 0 }
def wpM_isName (a : MS) (x0 : Int32) (x1 : Int32) (Q : Int32 → MS → Prop) : Prop := if x0 = (0 : Int32) then (if x1 = (115 : Int32) then (Q (1 : Int32) a) else (if x1 = (110 : Int32) then (Q (1 : Int32) a) else (Q (0 : Int32) a))) else (if x0 = (1 : Int32) then (if x1 = (108 : Int32) then (Q (1 : Int32) a) else (if x1 = (110 : Int32) then (Q (1 : Int32) a) else (if x1 = (115 : Int32) then (Q (1 : Int32) a) else (Q (0 : Int32) a)))) else (if x1 = (97 : Int32) then (Q (1 : Int32) a) else (if x1 = (116 : Int32) then (Q (1 : Int32) a) else (if x1 = (114 : Int32) then (Q (1 : Int32) a) else (if x1 = (110 : Int32) then (Q (1 : Int32) a) else (Q (0 : Int32) a))))))
set_option maxHeartbeats 4000000 in
set_option maxRecDepth 100000 in
theorem wkM_isName_e (S : CallFix p m c cX6_isName 2 s args lw_all RX6) (hr : meth.sig.returnType = (some .boolean)) (hlk : meth.locks = false) (Q : Int32 → MS → Prop) (x0 : Int32) (x1 : Int32) (a : MS) (H : Heap) (locs : List Loc) (ls : Array Slot) (h : wpM_isName a x0 x1 Q) (hw : MW D dA ad A a s H locs) (hl : lv_has ls 2 [(0, .int x0), (1, .int x1)]) : W p l e rmM_isName s m args below meth c H locs 0 0 (MQ below (mQi D dA ad A Q) args s 0 0 A) (F0 m 0 ls []) := by
  have hx := S.1
  have hb := S.2.1
  have hown := S.2.2.2.1
  have hts := S.2.2.2.2
  unfold wpM_isName at h
  refine lv_iload_n hx hb dX6_isName_0 rfl (lv_at hl 0 rfl) ?_
  by_cases c1_0 : x0 = (0 : Int32)
  · replace h := if_t c1_0 h
    refine lv_lookup (off := 27) (tgt := 28) hx hb dX6_isName_1 (by decide) (by rw [c1_0]; decide) (by decide) ?_
    refine lv_iload_n hx hb dX6_isName_28 rfl (lv_at hl 1 rfl) ?_
    refine lv_bipush (v := (115 : Int32)) hx hb dX6_isName_29 (by decide) ?_
    refine lv_icmp_eq (tgt := 40) hx hb dX6_isName_31 (by decide) (fun c31 => ?_) (fun c31 => ?_)
    · replace h := if_t c31 h
      refine lv_iconst (v := (1 : Int32)) hx hb dX6_isName_40 (by decide) ?_
      refine lv_goto (tgt := 45) hx hb dX6_isName_41 (by decide) ?_
      exact m_zret S hr hlk hw (Or.inr rfl) h dX6_isName_45
    · replace h := if_f c31 h
      refine lv_iload_n hx hb dX6_isName_34 rfl (lv_at hl 1 rfl) ?_
      refine lv_bipush (v := (110 : Int32)) hx hb dX6_isName_35 (by decide) ?_
      refine lv_icmp_ne (tgt := 44) hx hb dX6_isName_37 (by decide) (fun c37 => ?_) (fun c37 => ?_)
      · replace h := if_f c37 h
        refine lv_iconst (v := (0 : Int32)) hx hb dX6_isName_44 (by decide) ?_
        exact m_zret S hr hlk hw (Or.inl rfl) h dX6_isName_45
      · replace h := if_t c37 h
        refine lv_iconst (v := (1 : Int32)) hx hb dX6_isName_40 (by decide) ?_
        refine lv_goto (tgt := 45) hx hb dX6_isName_41 (by decide) ?_
        exact m_zret S hr hlk hw (Or.inr rfl) h dX6_isName_45
  replace h := if_f c1_0 h
  by_cases c1_1 : x0 = (1 : Int32)
  · replace h := if_t c1_1 h
    refine lv_lookup (off := 45) (tgt := 46) hx hb dX6_isName_1 (by decide) (by rw [c1_1]; decide) (by decide) ?_
    refine lv_iload_n hx hb dX6_isName_46 rfl (lv_at hl 1 rfl) ?_
    refine lv_bipush (v := (108 : Int32)) hx hb dX6_isName_47 (by decide) ?_
    refine lv_icmp_eq (tgt := 64) hx hb dX6_isName_49 (by decide) (fun c49 => ?_) (fun c49 => ?_)
    · replace h := if_t c49 h
      refine lv_iconst (v := (1 : Int32)) hx hb dX6_isName_64 (by decide) ?_
      refine lv_goto (tgt := 69) hx hb dX6_isName_65 (by decide) ?_
      exact m_zret S hr hlk hw (Or.inr rfl) h dX6_isName_69
    · replace h := if_f c49 h
      refine lv_iload_n hx hb dX6_isName_52 rfl (lv_at hl 1 rfl) ?_
      refine lv_bipush (v := (110 : Int32)) hx hb dX6_isName_53 (by decide) ?_
      refine lv_icmp_eq (tgt := 64) hx hb dX6_isName_55 (by decide) (fun c55 => ?_) (fun c55 => ?_)
      · replace h := if_t c55 h
        refine lv_iconst (v := (1 : Int32)) hx hb dX6_isName_64 (by decide) ?_
        refine lv_goto (tgt := 69) hx hb dX6_isName_65 (by decide) ?_
        exact m_zret S hr hlk hw (Or.inr rfl) h dX6_isName_69
      · replace h := if_f c55 h
        refine lv_iload_n hx hb dX6_isName_58 rfl (lv_at hl 1 rfl) ?_
        refine lv_bipush (v := (115 : Int32)) hx hb dX6_isName_59 (by decide) ?_
        refine lv_icmp_ne (tgt := 68) hx hb dX6_isName_61 (by decide) (fun c61 => ?_) (fun c61 => ?_)
        · replace h := if_f c61 h
          refine lv_iconst (v := (0 : Int32)) hx hb dX6_isName_68 (by decide) ?_
          exact m_zret S hr hlk hw (Or.inl rfl) h dX6_isName_69
        · replace h := if_t c61 h
          refine lv_iconst (v := (1 : Int32)) hx hb dX6_isName_64 (by decide) ?_
          refine lv_goto (tgt := 69) hx hb dX6_isName_65 (by decide) ?_
          exact m_zret S hr hlk hw (Or.inr rfl) h dX6_isName_69
  replace h := if_f c1_1 h
  refine lv_lookup (off := 69) (tgt := 70) hx hb dX6_isName_1 (by decide) (by rw [lv_osw c1_0 (by decide)]; rw [lv_osw c1_1 (by decide)]; rfl) (by decide) ?_
  refine lv_iload_n hx hb dX6_isName_70 rfl (lv_at hl 1 rfl) ?_
  refine lv_bipush (v := (97 : Int32)) hx hb dX6_isName_71 (by decide) ?_
  refine lv_icmp_eq (tgt := 94) hx hb dX6_isName_73 (by decide) (fun c73 => ?_) (fun c73 => ?_)
  · replace h := if_t c73 h
    refine lv_iconst (v := (1 : Int32)) hx hb dX6_isName_94 (by decide) ?_
    refine lv_goto (tgt := 99) hx hb dX6_isName_95 (by decide) ?_
    exact m_zret S hr hlk hw (Or.inr rfl) h dX6_isName_99
  · replace h := if_f c73 h
    refine lv_iload_n hx hb dX6_isName_76 rfl (lv_at hl 1 rfl) ?_
    refine lv_bipush (v := (116 : Int32)) hx hb dX6_isName_77 (by decide) ?_
    refine lv_icmp_eq (tgt := 94) hx hb dX6_isName_79 (by decide) (fun c79 => ?_) (fun c79 => ?_)
    · replace h := if_t c79 h
      refine lv_iconst (v := (1 : Int32)) hx hb dX6_isName_94 (by decide) ?_
      refine lv_goto (tgt := 99) hx hb dX6_isName_95 (by decide) ?_
      exact m_zret S hr hlk hw (Or.inr rfl) h dX6_isName_99
    · replace h := if_f c79 h
      refine lv_iload_n hx hb dX6_isName_82 rfl (lv_at hl 1 rfl) ?_
      refine lv_bipush (v := (114 : Int32)) hx hb dX6_isName_83 (by decide) ?_
      refine lv_icmp_eq (tgt := 94) hx hb dX6_isName_85 (by decide) (fun c85 => ?_) (fun c85 => ?_)
      · replace h := if_t c85 h
        refine lv_iconst (v := (1 : Int32)) hx hb dX6_isName_94 (by decide) ?_
        refine lv_goto (tgt := 99) hx hb dX6_isName_95 (by decide) ?_
        exact m_zret S hr hlk hw (Or.inr rfl) h dX6_isName_99
      · replace h := if_f c85 h
        refine lv_iload_n hx hb dX6_isName_88 rfl (lv_at hl 1 rfl) ?_
        refine lv_bipush (v := (110 : Int32)) hx hb dX6_isName_89 (by decide) ?_
        refine lv_icmp_ne (tgt := 98) hx hb dX6_isName_91 (by decide) (fun c91 => ?_) (fun c91 => ?_)
        · replace h := if_f c91 h
          refine lv_iconst (v := (0 : Int32)) hx hb dX6_isName_98 (by decide) ?_
          exact m_zret S hr hlk hw (Or.inl rfl) h dX6_isName_99
        · replace h := if_t c91 h
          refine lv_iconst (v := (1 : Int32)) hx hb dX6_isName_94 (by decide) ?_
          refine lv_goto (tgt := 99) hx hb dX6_isName_95 (by decide) ?_
          exact m_zret S hr hlk hw (Or.inr rfl) h dX6_isName_99
theorem ctM_isName (l : Launch) (D : va_G) (dA : Nat → ClassId) (ad : Nat → Nat) (A : Nat → Prop) (a : MS) (x0 : Int32) (x1 : Int32) (Q : Int32 → MS → Prop) (h : wpM_isName a x0 x1 Q) : Met l yX6_isName (ws_ yX6_isName cX6_isName 2 (some .boolean)) rmM_isName (mPc D dA ad A a [.int x0, .int x1]) (mQi D dA ad A Q) 0 0 A :=
  m_met (by decide) rfl rfl rfl (Nat.le_of_ble_eq_true rfl) (fun p e s m below meth c ls S hr hlk hw hl => wkM_isName_e S hr hlk Q x0 x1 a _ _ ls h hw hl)
theorem cwM_isName {R : Room} {s : State} {args : Array Value} {rm : Room} (hts : ∀ w ∈ lw_all, w.before args s = true) (hR : rm.frames + 1 ≤ R.frames ∧ 8 + (2 + 11) + rm.locals ≤ R.locals) (hc : rm.cells = 0 := by rfl) (hs : rm.slots = 0 := by rfl) : CallB R s args RX6 308 yX6_isName cX6_isName 2 (some .boolean) (ws_ yX6_isName cX6_isName 2 (some .boolean)) rm 0 0 2 ∧ (Cond.static yX6_isName).before args s = true :=
  va_cwS 2 hts (lw_S q1799 q1800 q112 q1801) rfl hc hs (by decide +kernel) hR
/-! term -/
theorem cwM_part0 {R : Room} {s : State} {args : Array Value} {rm : Room} (hts : ∀ w ∈ lw_all, w.before args s = true) (hR : rm.frames + 1 ≤ R.frames ∧ 8 + (2 + 11) + rm.locals ≤ R.locals) (hc : rm.cells = 0 := by rfl) (hs : rm.slots = 0 := by rfl) : CallW R s args RX6 RX6 302 yX6_part0 cX6_part0 2 (some .boolean) (ws_ yX6_part0 cX6_part0 2 (some .boolean)) rm 0 0 1 :=
  cwV 1 hts (lw_V q1791 q1793 qs97 q112 q1794) rfl hc hs (by decide +kernel) hR
def bkM_term_28 (P : MS → Int32 → (Int32 → MS → Prop) → Prop) (Q : Int32 → MS → Prop) (x1 : Int32) (O10 : MS → Prop) : MS → Prop := fun a => wpM_nextToken a (fun a34 => P a34 x1 (fun r39 a39 => if r39 = 0 then (Q (0 : Int32) a39) else (wpM_step a39 (2 : Int32) (a 38 26) (fun a50 => O10 a50))))
set_option maxHeartbeats 4000000 in
set_option maxRecDepth 100000 in
theorem wkM_term_28 {F0_ L0_ : Nat} {P : MS → Int32 → (Int32 → MS → Prop) → Prop} (hPc : ∀ a x1 Q, P a x1 Q → Met l yX6_part0 (ws_ yX6_part0 cX6_part0 2 (some .boolean)) { frames := F0_, cells := 0, slots := 0, locals := L0_ } (mPc D dA ad A a [.ref (ad 38), .int x1]) (mQi D dA ad A Q) 0 0 A) (S : CallFix p m c cX6_term 3 s args lw_all RX6) (hr : meth.sig.returnType = (some .boolean)) (hlk : meth.locks = false) (Q : Int32 → MS → Prop) (x1 : Int32) {O10 : MS → Prop} (hO10 : ∀ (a : MS) (H : Heap) (locs : List Loc) (ls : Array Slot), O10 a → MW D dA ad A a s H locs → lv_has ls 3 [(0, .ref (ad 38)), (1, .int x1)] → W p l e ({ frames := F0_ + 3, cells := 0, slots := 0, locals := L0_ + 68 } : Room) s m args below meth c H locs 0 0 (MQ below (mQi D dA ad A Q) args s 0 0 A) (F0 m 10 ls [])) : ∀ (a : MS) (H : Heap) (locs : List Loc) (ls : Array Slot), bkM_term_28 P Q x1 O10 a → MW D dA ad A a s H locs → lv_has ls 3 [(0, .ref (ad 38)), (1, .int x1)] → W p l e ({ frames := F0_ + 3, cells := 0, slots := 0, locals := L0_ + 68 } : Room) s m args below meth c H locs 0 0 (MQ below (mQi D dA ad A Q) args s 0 0 A) (F0 m 28 ls []) := by
  have hx := S.1
  have hb := S.2.1
  have hown := S.2.2.2.1
  have hts := S.2.2.2.2
  intro  a H locs ls h hw hl
  unfold bkM_term_28 at h
  refine lv_aload_n hx hb dX6_term_28 rfl (lv_at hl 0 rfl) ?_
  refine m_get S hw 26 (by decide) q1364 rfl rfl dX6_term_29 ?_
  refine lv_istore_n (lv' := [(2, .int (a 38 26)), (0, .ref (ad 38)), (1, .int x1)]) hx hb dX6_term_32 rfl hl (by decide) rfl (fun ls hl => ?_)
  refine lv_aload_n hx hb dX6_term_33 rfl (lv_at hl 1 rfl) ?_
  refine m_callv S hw [] [] (ctM_nextToken l D dA ad A a _ h) (cwM_nextToken hts ⟨by dsimp only; omega, by dsimp only; omega⟩) rfl hl.1 rfl (Nat.le_of_ble_eq_true rfl) dX6_term_34 ⟨Nat.zero_le _, Nat.zero_le _⟩ (fun a34 H locs h hw => ?_)
  refine lv_aload_n hx hb dX6_term_37 rfl (lv_at hl 1 rfl) ?_
  refine lv_iload_n hx hb dX6_term_38 rfl (lv_at hl 2 rfl) ?_
  refine m_calli S hw [.int x1] [] (hPc _ _ _ h) (cwM_part0 hts ⟨by dsimp only; omega, by dsimp only; omega⟩) rfl hl.1 rfl (Nat.le_of_ble_eq_true rfl) dX6_term_39 ⟨Nat.zero_le _, Nat.zero_le _⟩ (fun r39 a39 H locs h hw => ?_)
  refine lv_if_ne (tgt := 47) hx hb dX6_term_42 (by decide) (fun c42 => ?_) (fun c42 => ?_)
  · replace h := if_f c42 h
    refine lv_aload_n hx hb dX6_term_47 rfl (lv_at hl 1 rfl) ?_
    refine lv_iconst (v := (2 : Int32)) hx hb dX6_term_48 (by decide) ?_
    refine lv_iload_n hx hb dX6_term_49 rfl (lv_at hl 0 rfl) ?_
    refine m_callv S hw [.int (2 : Int32), .int (a 38 26)] [] (ctM_step l D dA ad A a39 (2 : Int32) (a 38 26) _ h) (cwM_step hts ⟨by dsimp only; omega, by dsimp only; omega⟩) rfl hl.1 rfl (Nat.le_of_ble_eq_true rfl) dX6_term_50 ⟨Nat.zero_le _, Nat.zero_le _⟩ (fun a50 H locs h hw => ?_)
    refine lv_goto (tgt := 10) hx hb dX6_term_53 (by decide) ?_
    exact hO10 _ _ _ _ h hw (lv_sub hl [1, 2] rfl)
  · replace h := if_t c42 h
    refine lv_iconst (v := (0 : Int32)) hx hb dX6_term_45 (by decide) ?_
    exact m_zret S hr hlk hw (Or.inl rfl) h dX6_term_46
def bkM_term_10 (P : MS → Int32 → (Int32 → MS → Prop) → Prop) (Q : Int32 → MS → Prop) (x1 : Int32) : Nat → MS → Prop
  | 0 => fun _ => False
  | n + 1 => fun a => wpM_isSign a (42 : Int32) (fun r13 a13 => if r13 = 0 then (wpM_isSign a13 (47 : Int32) (fun r22 a22 => if r22 = 0 then (Q (1 : Int32) a22) else (bkM_term_28 P Q x1 (bkM_term_10 P Q x1 n) a22))) else (bkM_term_28 P Q x1 (bkM_term_10 P Q x1 n) a13))
set_option maxHeartbeats 4000000 in
set_option maxRecDepth 100000 in
theorem wkM_term_10 {F0_ L0_ : Nat} {P : MS → Int32 → (Int32 → MS → Prop) → Prop} (hPc : ∀ a x1 Q, P a x1 Q → Met l yX6_part0 (ws_ yX6_part0 cX6_part0 2 (some .boolean)) { frames := F0_, cells := 0, slots := 0, locals := L0_ } (mPc D dA ad A a [.ref (ad 38), .int x1]) (mQi D dA ad A Q) 0 0 A) (S : CallFix p m c cX6_term 3 s args lw_all RX6) (hr : meth.sig.returnType = (some .boolean)) (hlk : meth.locks = false) (Q : Int32 → MS → Prop) (x1 : Int32) : ∀ (n : Nat) (a : MS) (H : Heap) (locs : List Loc) (ls : Array Slot), bkM_term_10 P Q x1 n a → MW D dA ad A a s H locs → lv_has ls 3 [(0, .ref (ad 38)), (1, .int x1)] → W p l e ({ frames := F0_ + 3, cells := 0, slots := 0, locals := L0_ + 68 } : Room) s m args below meth c H locs 0 0 (MQ below (mQi D dA ad A Q) args s 0 0 A) (F0 m 10 ls []) := by
  have hx := S.1
  have hb := S.2.1
  have hown := S.2.2.2.1
  have hts := S.2.2.2.2
  intro n
  induction n with
  | zero =>
    intro  a H locs ls h
    exact False.elim h
  | succ n ih =>
    intro  a H locs ls h hw hl
    unfold bkM_term_10 at h
    refine lv_aload_n hx hb dX6_term_10 rfl (lv_at hl 0 rfl) ?_
    refine lv_bipush (v := (42 : Int32)) hx hb dX6_term_11 (by decide) ?_
    refine m_calli S hw [.int (42 : Int32)] [] (ctM_isSign l D dA ad A a (42 : Int32) _ h) (cwM_isSign hts ⟨by dsimp only; omega, by dsimp only; omega⟩) rfl hl.1 rfl (Nat.le_of_ble_eq_true rfl) dX6_term_13 ⟨Nat.zero_le _, Nat.zero_le _⟩ (fun r13 a13 H locs h hw => ?_)
    refine lv_if_ne (tgt := 28) hx hb dX6_term_16 (by decide) (fun c16 => ?_) (fun c16 => ?_)
    · replace h := if_f c16 h
      exact wkM_term_28 hPc S hr hlk Q x1 ih _ _ _ _ h hw (lv_sub hl [0, 1] rfl)
    · replace h := if_t c16 h
      refine lv_aload_n hx hb dX6_term_19 rfl (lv_at hl 0 rfl) ?_
      refine lv_bipush (v := (47 : Int32)) hx hb dX6_term_20 (by decide) ?_
      refine m_calli S hw [.int (47 : Int32)] [] (ctM_isSign l D dA ad A a13 (47 : Int32) _ h) (cwM_isSign hts ⟨by dsimp only; omega, by dsimp only; omega⟩) rfl hl.1 rfl (Nat.le_of_ble_eq_true rfl) dX6_term_22 ⟨Nat.zero_le _, Nat.zero_le _⟩ (fun r22 a22 H locs h hw => ?_)
      refine lv_if_eq (tgt := 56) hx hb dX6_term_25 (by decide) (fun c25 => ?_) (fun c25 => ?_)
      · replace h := if_t c25 h
        refine lv_iconst (v := (1 : Int32)) hx hb dX6_term_56 (by decide) ?_
        exact m_zret S hr hlk hw (Or.inr rfl) h dX6_term_57
      · replace h := if_f c25 h
        exact wkM_term_28 hPc S hr hlk Q x1 ih _ _ _ _ h hw (lv_sub hl [0, 1] rfl)
def wpM_term (P : MS → Int32 → (Int32 → MS → Prop) → Prop) (a : MS) (x1 : Int32) (Q : Int32 → MS → Prop) : Prop := P a x1 (fun r2 a2 => if r2 = 0 then (Q (0 : Int32) a2) else (∃ n10, bkM_term_10 P Q x1 n10 a2))
set_option maxHeartbeats 4000000 in
set_option maxRecDepth 100000 in
theorem wkM_term_e {F0_ L0_ : Nat} {P : MS → Int32 → (Int32 → MS → Prop) → Prop} (hPc : ∀ a x1 Q, P a x1 Q → Met l yX6_part0 (ws_ yX6_part0 cX6_part0 2 (some .boolean)) { frames := F0_, cells := 0, slots := 0, locals := L0_ } (mPc D dA ad A a [.ref (ad 38), .int x1]) (mQi D dA ad A Q) 0 0 A) (S : CallFix p m c cX6_term 3 s args lw_all RX6) (hr : meth.sig.returnType = (some .boolean)) (hlk : meth.locks = false) (Q : Int32 → MS → Prop) (x1 : Int32) (a : MS) (H : Heap) (locs : List Loc) (ls : Array Slot) (h : wpM_term P a x1 Q) (hw : MW D dA ad A a s H locs) (hl : lv_has ls 3 [(0, .ref (ad 38)), (1, .int x1)]) : W p l e ({ frames := F0_ + 3, cells := 0, slots := 0, locals := L0_ + 68 } : Room) s m args below meth c H locs 0 0 (MQ below (mQi D dA ad A Q) args s 0 0 A) (F0 m 0 ls []) := by
  have hx := S.1
  have hb := S.2.1
  have hown := S.2.2.2.1
  have hts := S.2.2.2.2
  unfold wpM_term at h
  refine lv_aload_n hx hb dX6_term_0 rfl (lv_at hl 0 rfl) ?_
  refine lv_iload_n hx hb dX6_term_1 rfl (lv_at hl 1 rfl) ?_
  refine m_calli S hw [.int x1] [] (hPc _ _ _ h) (cwM_part0 hts ⟨by dsimp only; omega, by dsimp only; omega⟩) rfl hl.1 rfl (Nat.le_of_ble_eq_true rfl) dX6_term_2 ⟨Nat.zero_le _, Nat.zero_le _⟩ (fun r2 a2 H locs h hw => ?_)
  refine lv_if_ne (tgt := 10) hx hb dX6_term_5 (by decide) (fun c5 => ?_) (fun c5 => ?_)
  · replace h := if_f c5 h
    obtain ⟨n10, h⟩ := h
    exact wkM_term_10 hPc S hr hlk Q x1 n10 _ _ _ _ h hw (lv_sub hl [0, 1] rfl)
  · replace h := if_t c5 h
    refine lv_iconst (v := (0 : Int32)) hx hb dX6_term_8 (by decide) ?_
    exact m_zret S hr hlk hw (Or.inl rfl) h dX6_term_9
theorem ctM_term (F0_ L0_ : Nat) {P : MS → Int32 → (Int32 → MS → Prop) → Prop} {l : Launch} {D : va_G} {dA : Nat → ClassId} {ad : Nat → Nat} {A : Nat → Prop} (hPc : ∀ a x1 Q, P a x1 Q → Met l yX6_part0 (ws_ yX6_part0 cX6_part0 2 (some .boolean)) { frames := F0_, cells := 0, slots := 0, locals := L0_ } (mPc D dA ad A a [.ref (ad 38), .int x1]) (mQi D dA ad A Q) 0 0 A) (l_ : Launch) (D_ : va_G) (dA_ : Nat → ClassId) (ad_ : Nat → Nat) (A_ : Nat → Prop) (a : MS) (x1 : Int32) (Q : Int32 → MS → Prop) (h : wpM_term P a x1 Q) : Met l yX6_term (ws_ yX6_term cX6_term 3 (some .boolean)) ({ frames := F0_ + 3, cells := 0, slots := 0, locals := L0_ + 68 } : Room) (mPc D dA ad A a [.ref (ad 38), .int x1]) (mQi D dA ad A Q) 0 0 A :=
  m_met (by decide) rfl rfl rfl (Nat.le_of_ble_eq_true rfl) (fun p e s m below meth c ls S hr hlk hw hl => wkM_term_e hPc S hr hlk Q x1 a _ _ ls h hw hl)
theorem cwM_term {R : Room} {s : State} {args : Array Value} {rm : Room} (hts : ∀ w ∈ lw_all, w.before args s = true) (hR : rm.frames + 1 ≤ R.frames ∧ 8 + (3 + 11) + rm.locals ≤ R.locals) (hc : rm.cells = 0 := by rfl) (hs : rm.slots = 0 := by rfl) : CallW R s args RX6 RX6 299 yX6_term cX6_term 3 (some .boolean) (ws_ yX6_term cX6_term 3 (some .boolean)) rm 0 0 1 :=
  cwV 1 hts (lw_V q1787 q1789 qs96 q112 q1790) rfl hc hs (by decide +kernel) hR
/-! sum -/
def bkM_sum_28 (P : MS → Int32 → (Int32 → MS → Prop) → Prop) (Q : Int32 → MS → Prop) (x1 : Int32) (O10 : MS → Prop) : MS → Prop := fun a => wpM_nextToken a (fun a34 => wpM_term P a34 x1 (fun r39 a39 => if r39 = 0 then (Q (0 : Int32) a39) else (wpM_step a39 (2 : Int32) (a 38 26) (fun a50 => O10 a50))))
set_option maxHeartbeats 4000000 in
set_option maxRecDepth 100000 in
theorem wkM_sum_28 {F0_ L0_ : Nat} {P : MS → Int32 → (Int32 → MS → Prop) → Prop} (hPc : ∀ a x1 Q, P a x1 Q → Met l yX6_part0 (ws_ yX6_part0 cX6_part0 2 (some .boolean)) { frames := F0_, cells := 0, slots := 0, locals := L0_ } (mPc D dA ad A a [.ref (ad 38), .int x1]) (mQi D dA ad A Q) 0 0 A) (S : CallFix p m c cX6_sum 3 s args lw_all RX6) (hr : meth.sig.returnType = (some .boolean)) (hlk : meth.locks = false) (Q : Int32 → MS → Prop) (x1 : Int32) {O10 : MS → Prop} (hO10 : ∀ (a : MS) (H : Heap) (locs : List Loc) (ls : Array Slot), O10 a → MW D dA ad A a s H locs → lv_has ls 3 [(0, .ref (ad 38)), (1, .int x1)] → W p l e ({ frames := F0_ + 4, cells := 0, slots := 0, locals := L0_ + 90 } : Room) s m args below meth c H locs 0 0 (MQ below (mQi D dA ad A Q) args s 0 0 A) (F0 m 10 ls [])) : ∀ (a : MS) (H : Heap) (locs : List Loc) (ls : Array Slot), bkM_sum_28 P Q x1 O10 a → MW D dA ad A a s H locs → lv_has ls 3 [(0, .ref (ad 38)), (1, .int x1)] → W p l e ({ frames := F0_ + 4, cells := 0, slots := 0, locals := L0_ + 90 } : Room) s m args below meth c H locs 0 0 (MQ below (mQi D dA ad A Q) args s 0 0 A) (F0 m 28 ls []) := by
  have hx := S.1
  have hb := S.2.1
  have hown := S.2.2.2.1
  have hts := S.2.2.2.2
  intro  a H locs ls h hw hl
  unfold bkM_sum_28 at h
  refine lv_aload_n hx hb dX6_sum_28 rfl (lv_at hl 0 rfl) ?_
  refine m_get S hw 26 (by decide) q1364 rfl rfl dX6_sum_29 ?_
  refine lv_istore_n (lv' := [(2, .int (a 38 26)), (0, .ref (ad 38)), (1, .int x1)]) hx hb dX6_sum_32 rfl hl (by decide) rfl (fun ls hl => ?_)
  refine lv_aload_n hx hb dX6_sum_33 rfl (lv_at hl 1 rfl) ?_
  refine m_callv S hw [] [] (ctM_nextToken l D dA ad A a _ h) (cwM_nextToken hts ⟨by dsimp only; omega, by dsimp only; omega⟩) rfl hl.1 rfl (Nat.le_of_ble_eq_true rfl) dX6_sum_34 ⟨Nat.zero_le _, Nat.zero_le _⟩ (fun a34 H locs h hw => ?_)
  refine lv_aload_n hx hb dX6_sum_37 rfl (lv_at hl 1 rfl) ?_
  refine lv_iload_n hx hb dX6_sum_38 rfl (lv_at hl 2 rfl) ?_
  refine m_calli S hw [.int x1] [] (ctM_term F0_ L0_ hPc l D dA ad A a34 x1 _ h) (cwM_term hts ⟨by dsimp only; omega, by dsimp only; omega⟩) rfl hl.1 rfl (Nat.le_of_ble_eq_true rfl) dX6_sum_39 ⟨Nat.zero_le _, Nat.zero_le _⟩ (fun r39 a39 H locs h hw => ?_)
  refine lv_if_ne (tgt := 47) hx hb dX6_sum_42 (by decide) (fun c42 => ?_) (fun c42 => ?_)
  · replace h := if_f c42 h
    refine lv_aload_n hx hb dX6_sum_47 rfl (lv_at hl 1 rfl) ?_
    refine lv_iconst (v := (2 : Int32)) hx hb dX6_sum_48 (by decide) ?_
    refine lv_iload_n hx hb dX6_sum_49 rfl (lv_at hl 0 rfl) ?_
    refine m_callv S hw [.int (2 : Int32), .int (a 38 26)] [] (ctM_step l D dA ad A a39 (2 : Int32) (a 38 26) _ h) (cwM_step hts ⟨by dsimp only; omega, by dsimp only; omega⟩) rfl hl.1 rfl (Nat.le_of_ble_eq_true rfl) dX6_sum_50 ⟨Nat.zero_le _, Nat.zero_le _⟩ (fun a50 H locs h hw => ?_)
    refine lv_goto (tgt := 10) hx hb dX6_sum_53 (by decide) ?_
    exact hO10 _ _ _ _ h hw (lv_sub hl [1, 2] rfl)
  · replace h := if_t c42 h
    refine lv_iconst (v := (0 : Int32)) hx hb dX6_sum_45 (by decide) ?_
    exact m_zret S hr hlk hw (Or.inl rfl) h dX6_sum_46
def bkM_sum_10 (P : MS → Int32 → (Int32 → MS → Prop) → Prop) (Q : Int32 → MS → Prop) (x1 : Int32) : Nat → MS → Prop
  | 0 => fun _ => False
  | n + 1 => fun a => wpM_isSign a (43 : Int32) (fun r13 a13 => if r13 = 0 then (wpM_isSign a13 (45 : Int32) (fun r22 a22 => if r22 = 0 then (Q (1 : Int32) a22) else (bkM_sum_28 P Q x1 (bkM_sum_10 P Q x1 n) a22))) else (bkM_sum_28 P Q x1 (bkM_sum_10 P Q x1 n) a13))
set_option maxHeartbeats 4000000 in
set_option maxRecDepth 100000 in
theorem wkM_sum_10 {F0_ L0_ : Nat} {P : MS → Int32 → (Int32 → MS → Prop) → Prop} (hPc : ∀ a x1 Q, P a x1 Q → Met l yX6_part0 (ws_ yX6_part0 cX6_part0 2 (some .boolean)) { frames := F0_, cells := 0, slots := 0, locals := L0_ } (mPc D dA ad A a [.ref (ad 38), .int x1]) (mQi D dA ad A Q) 0 0 A) (S : CallFix p m c cX6_sum 3 s args lw_all RX6) (hr : meth.sig.returnType = (some .boolean)) (hlk : meth.locks = false) (Q : Int32 → MS → Prop) (x1 : Int32) : ∀ (n : Nat) (a : MS) (H : Heap) (locs : List Loc) (ls : Array Slot), bkM_sum_10 P Q x1 n a → MW D dA ad A a s H locs → lv_has ls 3 [(0, .ref (ad 38)), (1, .int x1)] → W p l e ({ frames := F0_ + 4, cells := 0, slots := 0, locals := L0_ + 90 } : Room) s m args below meth c H locs 0 0 (MQ below (mQi D dA ad A Q) args s 0 0 A) (F0 m 10 ls []) := by
  have hx := S.1
  have hb := S.2.1
  have hown := S.2.2.2.1
  have hts := S.2.2.2.2
  intro n
  induction n with
  | zero =>
    intro  a H locs ls h
    exact False.elim h
  | succ n ih =>
    intro  a H locs ls h hw hl
    unfold bkM_sum_10 at h
    refine lv_aload_n hx hb dX6_sum_10 rfl (lv_at hl 0 rfl) ?_
    refine lv_bipush (v := (43 : Int32)) hx hb dX6_sum_11 (by decide) ?_
    refine m_calli S hw [.int (43 : Int32)] [] (ctM_isSign l D dA ad A a (43 : Int32) _ h) (cwM_isSign hts ⟨by dsimp only; omega, by dsimp only; omega⟩) rfl hl.1 rfl (Nat.le_of_ble_eq_true rfl) dX6_sum_13 ⟨Nat.zero_le _, Nat.zero_le _⟩ (fun r13 a13 H locs h hw => ?_)
    refine lv_if_ne (tgt := 28) hx hb dX6_sum_16 (by decide) (fun c16 => ?_) (fun c16 => ?_)
    · replace h := if_f c16 h
      exact wkM_sum_28 hPc S hr hlk Q x1 ih _ _ _ _ h hw (lv_sub hl [0, 1] rfl)
    · replace h := if_t c16 h
      refine lv_aload_n hx hb dX6_sum_19 rfl (lv_at hl 0 rfl) ?_
      refine lv_bipush (v := (45 : Int32)) hx hb dX6_sum_20 (by decide) ?_
      refine m_calli S hw [.int (45 : Int32)] [] (ctM_isSign l D dA ad A a13 (45 : Int32) _ h) (cwM_isSign hts ⟨by dsimp only; omega, by dsimp only; omega⟩) rfl hl.1 rfl (Nat.le_of_ble_eq_true rfl) dX6_sum_22 ⟨Nat.zero_le _, Nat.zero_le _⟩ (fun r22 a22 H locs h hw => ?_)
      refine lv_if_eq (tgt := 56) hx hb dX6_sum_25 (by decide) (fun c25 => ?_) (fun c25 => ?_)
      · replace h := if_t c25 h
        refine lv_iconst (v := (1 : Int32)) hx hb dX6_sum_56 (by decide) ?_
        exact m_zret S hr hlk hw (Or.inr rfl) h dX6_sum_57
      · replace h := if_f c25 h
        exact wkM_sum_28 hPc S hr hlk Q x1 ih _ _ _ _ h hw (lv_sub hl [0, 1] rfl)
def wpM_sum (P : MS → Int32 → (Int32 → MS → Prop) → Prop) (a : MS) (x1 : Int32) (Q : Int32 → MS → Prop) : Prop := wpM_term P a x1 (fun r2 a2 => if r2 = 0 then (Q (0 : Int32) a2) else (∃ n10, bkM_sum_10 P Q x1 n10 a2))
set_option maxHeartbeats 4000000 in
set_option maxRecDepth 100000 in
theorem wkM_sum_e {F0_ L0_ : Nat} {P : MS → Int32 → (Int32 → MS → Prop) → Prop} (hPc : ∀ a x1 Q, P a x1 Q → Met l yX6_part0 (ws_ yX6_part0 cX6_part0 2 (some .boolean)) { frames := F0_, cells := 0, slots := 0, locals := L0_ } (mPc D dA ad A a [.ref (ad 38), .int x1]) (mQi D dA ad A Q) 0 0 A) (S : CallFix p m c cX6_sum 3 s args lw_all RX6) (hr : meth.sig.returnType = (some .boolean)) (hlk : meth.locks = false) (Q : Int32 → MS → Prop) (x1 : Int32) (a : MS) (H : Heap) (locs : List Loc) (ls : Array Slot) (h : wpM_sum P a x1 Q) (hw : MW D dA ad A a s H locs) (hl : lv_has ls 3 [(0, .ref (ad 38)), (1, .int x1)]) : W p l e ({ frames := F0_ + 4, cells := 0, slots := 0, locals := L0_ + 90 } : Room) s m args below meth c H locs 0 0 (MQ below (mQi D dA ad A Q) args s 0 0 A) (F0 m 0 ls []) := by
  have hx := S.1
  have hb := S.2.1
  have hown := S.2.2.2.1
  have hts := S.2.2.2.2
  unfold wpM_sum at h
  refine lv_aload_n hx hb dX6_sum_0 rfl (lv_at hl 0 rfl) ?_
  refine lv_iload_n hx hb dX6_sum_1 rfl (lv_at hl 1 rfl) ?_
  refine m_calli S hw [.int x1] [] (ctM_term F0_ L0_ hPc l D dA ad A a x1 _ h) (cwM_term hts ⟨by dsimp only; omega, by dsimp only; omega⟩) rfl hl.1 rfl (Nat.le_of_ble_eq_true rfl) dX6_sum_2 ⟨Nat.zero_le _, Nat.zero_le _⟩ (fun r2 a2 H locs h hw => ?_)
  refine lv_if_ne (tgt := 10) hx hb dX6_sum_5 (by decide) (fun c5 => ?_) (fun c5 => ?_)
  · replace h := if_f c5 h
    obtain ⟨n10, h⟩ := h
    exact wkM_sum_10 hPc S hr hlk Q x1 n10 _ _ _ _ h hw (lv_sub hl [0, 1] rfl)
  · replace h := if_t c5 h
    refine lv_iconst (v := (0 : Int32)) hx hb dX6_sum_8 (by decide) ?_
    exact m_zret S hr hlk hw (Or.inl rfl) h dX6_sum_9
theorem ctM_sum (F0_ L0_ : Nat) {P : MS → Int32 → (Int32 → MS → Prop) → Prop} {l : Launch} {D : va_G} {dA : Nat → ClassId} {ad : Nat → Nat} {A : Nat → Prop} (hPc : ∀ a x1 Q, P a x1 Q → Met l yX6_part0 (ws_ yX6_part0 cX6_part0 2 (some .boolean)) { frames := F0_, cells := 0, slots := 0, locals := L0_ } (mPc D dA ad A a [.ref (ad 38), .int x1]) (mQi D dA ad A Q) 0 0 A) (l_ : Launch) (D_ : va_G) (dA_ : Nat → ClassId) (ad_ : Nat → Nat) (A_ : Nat → Prop) (a : MS) (x1 : Int32) (Q : Int32 → MS → Prop) (h : wpM_sum P a x1 Q) : Met l yX6_sum (ws_ yX6_sum cX6_sum 3 (some .boolean)) ({ frames := F0_ + 4, cells := 0, slots := 0, locals := L0_ + 90 } : Room) (mPc D dA ad A a [.ref (ad 38), .int x1]) (mQi D dA ad A Q) 0 0 A :=
  m_met (by decide) rfl rfl rfl (Nat.le_of_ble_eq_true rfl) (fun p e s m below meth c ls S hr hlk hw hl => wkM_sum_e hPc S hr hlk Q x1 a _ _ ls h hw hl)
theorem cwM_sum {R : Room} {s : State} {args : Array Value} {rm : Room} (hts : ∀ w ∈ lw_all, w.before args s = true) (hR : rm.frames + 1 ≤ R.frames ∧ 8 + (3 + 11) + rm.locals ≤ R.locals) (hc : rm.cells = 0 := by rfl) (hs : rm.slots = 0 := by rfl) : CallW R s args RX6 RX6 296 yX6_sum cX6_sum 3 (some .boolean) (ws_ yX6_sum cX6_sum 3 (some .boolean)) rm 0 0 1 :=
  cwV 1 hts (lw_V q1783 q1785 qs95 q112 q1786) rfl hc hs (by decide +kernel) hR
/-! test -/
def bkM_test_37 (P : MS → Int32 → (Int32 → MS → Prop) → Prop) (Q : Int32 → MS → Prop) (x1 : Int32) : MS → Prop := fun a => wpM_nextToken a (fun a43 => wpM_sum P a43 x1 (fun r48 a48 => if r48 = 0 then (Q (0 : Int32) a48) else (wpM_step a48 (2 : Int32) (a 38 26) (fun a59 => Q (1 : Int32) a59))))
set_option maxHeartbeats 4000000 in
set_option maxRecDepth 100000 in
theorem wkM_test_37 {F0_ L0_ : Nat} {P : MS → Int32 → (Int32 → MS → Prop) → Prop} (hPc : ∀ a x1 Q, P a x1 Q → Met l yX6_part0 (ws_ yX6_part0 cX6_part0 2 (some .boolean)) { frames := F0_, cells := 0, slots := 0, locals := L0_ } (mPc D dA ad A a [.ref (ad 38), .int x1]) (mQi D dA ad A Q) 0 0 A) (S : CallFix p m c cX6_test 3 s args lw_all RX6) (hr : meth.sig.returnType = (some .boolean)) (hlk : meth.locks = false) (Q : Int32 → MS → Prop) (x1 : Int32) : ∀ (a : MS) (H : Heap) (locs : List Loc) (ls : Array Slot), bkM_test_37 P Q x1 a → MW D dA ad A a s H locs → lv_has ls 3 [(0, .ref (ad 38)), (1, .int x1)] → W p l e ({ frames := F0_ + 5, cells := 0, slots := 0, locals := L0_ + 112 } : Room) s m args below meth c H locs 0 0 (MQ below (mQi D dA ad A Q) args s 0 0 A) (F0 m 37 ls []) := by
  have hx := S.1
  have hb := S.2.1
  have hown := S.2.2.2.1
  have hts := S.2.2.2.2
  intro  a H locs ls h hw hl
  unfold bkM_test_37 at h
  refine lv_aload_n hx hb dX6_test_37 rfl (lv_at hl 0 rfl) ?_
  refine m_get S hw 26 (by decide) q1364 rfl rfl dX6_test_38 ?_
  refine lv_istore_n (lv' := [(2, .int (a 38 26)), (0, .ref (ad 38)), (1, .int x1)]) hx hb dX6_test_41 rfl hl (by decide) rfl (fun ls hl => ?_)
  refine lv_aload_n hx hb dX6_test_42 rfl (lv_at hl 1 rfl) ?_
  refine m_callv S hw [] [] (ctM_nextToken l D dA ad A a _ h) (cwM_nextToken hts ⟨by dsimp only; omega, by dsimp only; omega⟩) rfl hl.1 rfl (Nat.le_of_ble_eq_true rfl) dX6_test_43 ⟨Nat.zero_le _, Nat.zero_le _⟩ (fun a43 H locs h hw => ?_)
  refine lv_aload_n hx hb dX6_test_46 rfl (lv_at hl 1 rfl) ?_
  refine lv_iload_n hx hb dX6_test_47 rfl (lv_at hl 2 rfl) ?_
  refine m_calli S hw [.int x1] [] (ctM_sum F0_ L0_ hPc l D dA ad A a43 x1 _ h) (cwM_sum hts ⟨by dsimp only; omega, by dsimp only; omega⟩) rfl hl.1 rfl (Nat.le_of_ble_eq_true rfl) dX6_test_48 ⟨Nat.zero_le _, Nat.zero_le _⟩ (fun r48 a48 H locs h hw => ?_)
  refine lv_if_ne (tgt := 56) hx hb dX6_test_51 (by decide) (fun c51 => ?_) (fun c51 => ?_)
  · replace h := if_f c51 h
    refine lv_aload_n hx hb dX6_test_56 rfl (lv_at hl 1 rfl) ?_
    refine lv_iconst (v := (2 : Int32)) hx hb dX6_test_57 (by decide) ?_
    refine lv_iload_n hx hb dX6_test_58 rfl (lv_at hl 0 rfl) ?_
    refine m_callv S hw [.int (2 : Int32), .int (a 38 26)] [] (ctM_step l D dA ad A a48 (2 : Int32) (a 38 26) _ h) (cwM_step hts ⟨by dsimp only; omega, by dsimp only; omega⟩) rfl hl.1 rfl (Nat.le_of_ble_eq_true rfl) dX6_test_59 ⟨Nat.zero_le _, Nat.zero_le _⟩ (fun a59 H locs h hw => ?_)
    refine lv_iconst (v := (1 : Int32)) hx hb dX6_test_62 (by decide) ?_
    exact m_zret S hr hlk hw (Or.inr rfl) h dX6_test_63
  · replace h := if_t c51 h
    refine lv_iconst (v := (0 : Int32)) hx hb dX6_test_54 (by decide) ?_
    exact m_zret S hr hlk hw (Or.inl rfl) h dX6_test_55
def wpM_test (P : MS → Int32 → (Int32 → MS → Prop) → Prop) (a : MS) (x1 : Int32) (Q : Int32 → MS → Prop) : Prop := wpM_sum P a x1 (fun r2 a2 => if r2 = 0 then (Q (0 : Int32) a2) else (wpM_isSign a2 (60 : Int32) (fun r13 a13 => if r13 = 0 then (wpM_isSign a13 (61 : Int32) (fun r22 a22 => if r22 = 0 then (wpM_isSign a22 (62 : Int32) (fun r31 a31 => if r31 = 0 then (Q (1 : Int32) a31) else (bkM_test_37 P Q x1 a31))) else (bkM_test_37 P Q x1 a22))) else (bkM_test_37 P Q x1 a13))))
set_option maxHeartbeats 4000000 in
set_option maxRecDepth 100000 in
theorem wkM_test_e {F0_ L0_ : Nat} {P : MS → Int32 → (Int32 → MS → Prop) → Prop} (hPc : ∀ a x1 Q, P a x1 Q → Met l yX6_part0 (ws_ yX6_part0 cX6_part0 2 (some .boolean)) { frames := F0_, cells := 0, slots := 0, locals := L0_ } (mPc D dA ad A a [.ref (ad 38), .int x1]) (mQi D dA ad A Q) 0 0 A) (S : CallFix p m c cX6_test 3 s args lw_all RX6) (hr : meth.sig.returnType = (some .boolean)) (hlk : meth.locks = false) (Q : Int32 → MS → Prop) (x1 : Int32) (a : MS) (H : Heap) (locs : List Loc) (ls : Array Slot) (h : wpM_test P a x1 Q) (hw : MW D dA ad A a s H locs) (hl : lv_has ls 3 [(0, .ref (ad 38)), (1, .int x1)]) : W p l e ({ frames := F0_ + 5, cells := 0, slots := 0, locals := L0_ + 112 } : Room) s m args below meth c H locs 0 0 (MQ below (mQi D dA ad A Q) args s 0 0 A) (F0 m 0 ls []) := by
  have hx := S.1
  have hb := S.2.1
  have hown := S.2.2.2.1
  have hts := S.2.2.2.2
  unfold wpM_test at h
  refine lv_aload_n hx hb dX6_test_0 rfl (lv_at hl 0 rfl) ?_
  refine lv_iload_n hx hb dX6_test_1 rfl (lv_at hl 1 rfl) ?_
  refine m_calli S hw [.int x1] [] (ctM_sum F0_ L0_ hPc l D dA ad A a x1 _ h) (cwM_sum hts ⟨by dsimp only; omega, by dsimp only; omega⟩) rfl hl.1 rfl (Nat.le_of_ble_eq_true rfl) dX6_test_2 ⟨Nat.zero_le _, Nat.zero_le _⟩ (fun r2 a2 H locs h hw => ?_)
  refine lv_if_ne (tgt := 10) hx hb dX6_test_5 (by decide) (fun c5 => ?_) (fun c5 => ?_)
  · replace h := if_f c5 h
    refine lv_aload_n hx hb dX6_test_10 rfl (lv_at hl 0 rfl) ?_
    refine lv_bipush (v := (60 : Int32)) hx hb dX6_test_11 (by decide) ?_
    refine m_calli S hw [.int (60 : Int32)] [] (ctM_isSign l D dA ad A a2 (60 : Int32) _ h) (cwM_isSign hts ⟨by dsimp only; omega, by dsimp only; omega⟩) rfl hl.1 rfl (Nat.le_of_ble_eq_true rfl) dX6_test_13 ⟨Nat.zero_le _, Nat.zero_le _⟩ (fun r13 a13 H locs h hw => ?_)
    refine lv_if_ne (tgt := 37) hx hb dX6_test_16 (by decide) (fun c16 => ?_) (fun c16 => ?_)
    · replace h := if_f c16 h
      exact wkM_test_37 hPc S hr hlk Q x1 _ _ _ _ h hw (lv_sub hl [0, 1] rfl)
    · replace h := if_t c16 h
      refine lv_aload_n hx hb dX6_test_19 rfl (lv_at hl 0 rfl) ?_
      refine lv_bipush (v := (61 : Int32)) hx hb dX6_test_20 (by decide) ?_
      refine m_calli S hw [.int (61 : Int32)] [] (ctM_isSign l D dA ad A a13 (61 : Int32) _ h) (cwM_isSign hts ⟨by dsimp only; omega, by dsimp only; omega⟩) rfl hl.1 rfl (Nat.le_of_ble_eq_true rfl) dX6_test_22 ⟨Nat.zero_le _, Nat.zero_le _⟩ (fun r22 a22 H locs h hw => ?_)
      refine lv_if_ne (tgt := 37) hx hb dX6_test_25 (by decide) (fun c25 => ?_) (fun c25 => ?_)
      · replace h := if_f c25 h
        exact wkM_test_37 hPc S hr hlk Q x1 _ _ _ _ h hw (lv_sub hl [0, 1] rfl)
      · replace h := if_t c25 h
        refine lv_aload_n hx hb dX6_test_28 rfl (lv_at hl 0 rfl) ?_
        refine lv_bipush (v := (62 : Int32)) hx hb dX6_test_29 (by decide) ?_
        refine m_calli S hw [.int (62 : Int32)] [] (ctM_isSign l D dA ad A a22 (62 : Int32) _ h) (cwM_isSign hts ⟨by dsimp only; omega, by dsimp only; omega⟩) rfl hl.1 rfl (Nat.le_of_ble_eq_true rfl) dX6_test_31 ⟨Nat.zero_le _, Nat.zero_le _⟩ (fun r31 a31 H locs h hw => ?_)
        refine lv_if_eq (tgt := 62) hx hb dX6_test_34 (by decide) (fun c34 => ?_) (fun c34 => ?_)
        · replace h := if_t c34 h
          refine lv_iconst (v := (1 : Int32)) hx hb dX6_test_62 (by decide) ?_
          exact m_zret S hr hlk hw (Or.inr rfl) h dX6_test_63
        · replace h := if_f c34 h
          exact wkM_test_37 hPc S hr hlk Q x1 _ _ _ _ h hw (lv_sub hl [0, 1] rfl)
  · replace h := if_t c5 h
    refine lv_iconst (v := (0 : Int32)) hx hb dX6_test_8 (by decide) ?_
    exact m_zret S hr hlk hw (Or.inl rfl) h dX6_test_9
theorem ctM_test (F0_ L0_ : Nat) {P : MS → Int32 → (Int32 → MS → Prop) → Prop} {l : Launch} {D : va_G} {dA : Nat → ClassId} {ad : Nat → Nat} {A : Nat → Prop} (hPc : ∀ a x1 Q, P a x1 Q → Met l yX6_part0 (ws_ yX6_part0 cX6_part0 2 (some .boolean)) { frames := F0_, cells := 0, slots := 0, locals := L0_ } (mPc D dA ad A a [.ref (ad 38), .int x1]) (mQi D dA ad A Q) 0 0 A) (l_ : Launch) (D_ : va_G) (dA_ : Nat → ClassId) (ad_ : Nat → Nat) (A_ : Nat → Prop) (a : MS) (x1 : Int32) (Q : Int32 → MS → Prop) (h : wpM_test P a x1 Q) : Met l yX6_test (ws_ yX6_test cX6_test 3 (some .boolean)) ({ frames := F0_ + 5, cells := 0, slots := 0, locals := L0_ + 112 } : Room) (mPc D dA ad A a [.ref (ad 38), .int x1]) (mQi D dA ad A Q) 0 0 A :=
  m_met (by decide) rfl rfl rfl (Nat.le_of_ble_eq_true rfl) (fun p e s m below meth c ls S hr hlk hw hl => wkM_test_e hPc S hr hlk Q x1 a _ _ ls h hw hl)
theorem cwM_test {R : Room} {s : State} {args : Array Value} {rm : Room} (hts : ∀ w ∈ lw_all, w.before args s = true) (hR : rm.frames + 1 ≤ R.frames ∧ 8 + (3 + 11) + rm.locals ≤ R.locals) (hc : rm.cells = 0 := by rfl) (hs : rm.slots = 0 := by rfl) : CallW R s args RX6 RX6 293 yX6_test cX6_test 3 (some .boolean) (ws_ yX6_test cX6_test 3 (some .boolean)) rm 0 0 1 :=
  cwV 1 hts (lw_V q1779 q1781 qs94 q112 q1782) rfl hc hs (by decide +kernel) hR
/-! both -/
def bkM_both_10 (P : MS → Int32 → (Int32 → MS → Prop) → Prop) (Q : Int32 → MS → Prop) (x1 : Int32) : Nat → MS → Prop
  | 0 => fun _ => False
  | n + 1 => fun a => wpM_isSign a (38 : Int32) (fun r13 a13 => if r13 = 0 then (Q (1 : Int32) a13) else (wpM_nextToken a13 (fun a20 => wpM_test P a20 x1 (fun r25 a25 => if r25 = 0 then (Q (0 : Int32) a25) else (wpM_step a25 (2 : Int32) (38 : Int32) (fun a37 => bkM_both_10 P Q x1 n a37))))))
set_option maxHeartbeats 4000000 in
set_option maxRecDepth 100000 in
theorem wkM_both_10 {F0_ L0_ : Nat} {P : MS → Int32 → (Int32 → MS → Prop) → Prop} (hPc : ∀ a x1 Q, P a x1 Q → Met l yX6_part0 (ws_ yX6_part0 cX6_part0 2 (some .boolean)) { frames := F0_, cells := 0, slots := 0, locals := L0_ } (mPc D dA ad A a [.ref (ad 38), .int x1]) (mQi D dA ad A Q) 0 0 A) (S : CallFix p m c cX6_both 2 s args lw_all RX6) (hr : meth.sig.returnType = (some .boolean)) (hlk : meth.locks = false) (Q : Int32 → MS → Prop) (x1 : Int32) : ∀ (n : Nat) (a : MS) (H : Heap) (locs : List Loc) (ls : Array Slot), bkM_both_10 P Q x1 n a → MW D dA ad A a s H locs → lv_has ls 2 [(0, .ref (ad 38)), (1, .int x1)] → W p l e ({ frames := F0_ + 6, cells := 0, slots := 0, locals := L0_ + 134 } : Room) s m args below meth c H locs 0 0 (MQ below (mQi D dA ad A Q) args s 0 0 A) (F0 m 10 ls []) := by
  have hx := S.1
  have hb := S.2.1
  have hown := S.2.2.2.1
  have hts := S.2.2.2.2
  intro n
  induction n with
  | zero =>
    intro  a H locs ls h
    exact False.elim h
  | succ n ih =>
    intro  a H locs ls h hw hl
    unfold bkM_both_10 at h
    refine lv_aload_n hx hb dX6_both_10 rfl (lv_at hl 0 rfl) ?_
    refine lv_bipush (v := (38 : Int32)) hx hb dX6_both_11 (by decide) ?_
    refine m_calli S hw [.int (38 : Int32)] [] (ctM_isSign l D dA ad A a (38 : Int32) _ h) (cwM_isSign hts ⟨by dsimp only; omega, by dsimp only; omega⟩) rfl hl.1 rfl (Nat.le_of_ble_eq_true rfl) dX6_both_13 ⟨Nat.zero_le _, Nat.zero_le _⟩ (fun r13 a13 H locs h hw => ?_)
    refine lv_if_eq (tgt := 43) hx hb dX6_both_16 (by decide) (fun c16 => ?_) (fun c16 => ?_)
    · replace h := if_t c16 h
      refine lv_iconst (v := (1 : Int32)) hx hb dX6_both_43 (by decide) ?_
      exact m_zret S hr hlk hw (Or.inr rfl) h dX6_both_44
    · replace h := if_f c16 h
      refine lv_aload_n hx hb dX6_both_19 rfl (lv_at hl 0 rfl) ?_
      refine m_callv S hw [] [] (ctM_nextToken l D dA ad A a13 _ h) (cwM_nextToken hts ⟨by dsimp only; omega, by dsimp only; omega⟩) rfl hl.1 rfl (Nat.le_of_ble_eq_true rfl) dX6_both_20 ⟨Nat.zero_le _, Nat.zero_le _⟩ (fun a20 H locs h hw => ?_)
      refine lv_aload_n hx hb dX6_both_23 rfl (lv_at hl 0 rfl) ?_
      refine lv_iload_n hx hb dX6_both_24 rfl (lv_at hl 1 rfl) ?_
      refine m_calli S hw [.int x1] [] (ctM_test F0_ L0_ hPc l D dA ad A a20 x1 _ h) (cwM_test hts ⟨by dsimp only; omega, by dsimp only; omega⟩) rfl hl.1 rfl (Nat.le_of_ble_eq_true rfl) dX6_both_25 ⟨Nat.zero_le _, Nat.zero_le _⟩ (fun r25 a25 H locs h hw => ?_)
      refine lv_if_ne (tgt := 33) hx hb dX6_both_28 (by decide) (fun c28 => ?_) (fun c28 => ?_)
      · replace h := if_f c28 h
        refine lv_aload_n hx hb dX6_both_33 rfl (lv_at hl 0 rfl) ?_
        refine lv_iconst (v := (2 : Int32)) hx hb dX6_both_34 (by decide) ?_
        refine lv_bipush (v := (38 : Int32)) hx hb dX6_both_35 (by decide) ?_
        refine m_callv S hw [.int (2 : Int32), .int (38 : Int32)] [] (ctM_step l D dA ad A a25 (2 : Int32) (38 : Int32) _ h) (cwM_step hts ⟨by dsimp only; omega, by dsimp only; omega⟩) rfl hl.1 rfl (Nat.le_of_ble_eq_true rfl) dX6_both_37 ⟨Nat.zero_le _, Nat.zero_le _⟩ (fun a37 H locs h hw => ?_)
        refine lv_goto (tgt := 10) hx hb dX6_both_40 (by decide) ?_
        exact ih _ _ _ _ h hw (lv_sub hl [0, 1] rfl)
      · replace h := if_t c28 h
        refine lv_iconst (v := (0 : Int32)) hx hb dX6_both_31 (by decide) ?_
        exact m_zret S hr hlk hw (Or.inl rfl) h dX6_both_32
def wpM_both (P : MS → Int32 → (Int32 → MS → Prop) → Prop) (a : MS) (x1 : Int32) (Q : Int32 → MS → Prop) : Prop := wpM_test P a x1 (fun r2 a2 => if r2 = 0 then (Q (0 : Int32) a2) else (∃ n10, bkM_both_10 P Q x1 n10 a2))
set_option maxHeartbeats 4000000 in
set_option maxRecDepth 100000 in
theorem wkM_both_e {F0_ L0_ : Nat} {P : MS → Int32 → (Int32 → MS → Prop) → Prop} (hPc : ∀ a x1 Q, P a x1 Q → Met l yX6_part0 (ws_ yX6_part0 cX6_part0 2 (some .boolean)) { frames := F0_, cells := 0, slots := 0, locals := L0_ } (mPc D dA ad A a [.ref (ad 38), .int x1]) (mQi D dA ad A Q) 0 0 A) (S : CallFix p m c cX6_both 2 s args lw_all RX6) (hr : meth.sig.returnType = (some .boolean)) (hlk : meth.locks = false) (Q : Int32 → MS → Prop) (x1 : Int32) (a : MS) (H : Heap) (locs : List Loc) (ls : Array Slot) (h : wpM_both P a x1 Q) (hw : MW D dA ad A a s H locs) (hl : lv_has ls 2 [(0, .ref (ad 38)), (1, .int x1)]) : W p l e ({ frames := F0_ + 6, cells := 0, slots := 0, locals := L0_ + 134 } : Room) s m args below meth c H locs 0 0 (MQ below (mQi D dA ad A Q) args s 0 0 A) (F0 m 0 ls []) := by
  have hx := S.1
  have hb := S.2.1
  have hown := S.2.2.2.1
  have hts := S.2.2.2.2
  unfold wpM_both at h
  refine lv_aload_n hx hb dX6_both_0 rfl (lv_at hl 0 rfl) ?_
  refine lv_iload_n hx hb dX6_both_1 rfl (lv_at hl 1 rfl) ?_
  refine m_calli S hw [.int x1] [] (ctM_test F0_ L0_ hPc l D dA ad A a x1 _ h) (cwM_test hts ⟨by dsimp only; omega, by dsimp only; omega⟩) rfl hl.1 rfl (Nat.le_of_ble_eq_true rfl) dX6_both_2 ⟨Nat.zero_le _, Nat.zero_le _⟩ (fun r2 a2 H locs h hw => ?_)
  refine lv_if_ne (tgt := 10) hx hb dX6_both_5 (by decide) (fun c5 => ?_) (fun c5 => ?_)
  · replace h := if_f c5 h
    obtain ⟨n10, h⟩ := h
    exact wkM_both_10 hPc S hr hlk Q x1 n10 _ _ _ _ h hw (lv_sub hl [0, 1] rfl)
  · replace h := if_t c5 h
    refine lv_iconst (v := (0 : Int32)) hx hb dX6_both_8 (by decide) ?_
    exact m_zret S hr hlk hw (Or.inl rfl) h dX6_both_9
theorem ctM_both (F0_ L0_ : Nat) {P : MS → Int32 → (Int32 → MS → Prop) → Prop} {l : Launch} {D : va_G} {dA : Nat → ClassId} {ad : Nat → Nat} {A : Nat → Prop} (hPc : ∀ a x1 Q, P a x1 Q → Met l yX6_part0 (ws_ yX6_part0 cX6_part0 2 (some .boolean)) { frames := F0_, cells := 0, slots := 0, locals := L0_ } (mPc D dA ad A a [.ref (ad 38), .int x1]) (mQi D dA ad A Q) 0 0 A) (l_ : Launch) (D_ : va_G) (dA_ : Nat → ClassId) (ad_ : Nat → Nat) (A_ : Nat → Prop) (a : MS) (x1 : Int32) (Q : Int32 → MS → Prop) (h : wpM_both P a x1 Q) : Met l yX6_both (ws_ yX6_both cX6_both 2 (some .boolean)) ({ frames := F0_ + 6, cells := 0, slots := 0, locals := L0_ + 134 } : Room) (mPc D dA ad A a [.ref (ad 38), .int x1]) (mQi D dA ad A Q) 0 0 A :=
  m_met (by decide) rfl rfl rfl (Nat.le_of_ble_eq_true rfl) (fun p e s m below meth c ls S hr hlk hw hl => wkM_both_e hPc S hr hlk Q x1 a _ _ ls h hw hl)
theorem cwM_both {R : Room} {s : State} {args : Array Value} {rm : Room} (hts : ∀ w ∈ lw_all, w.before args s = true) (hR : rm.frames + 1 ≤ R.frames ∧ 8 + (2 + 11) + rm.locals ≤ R.locals) (hc : rm.cells = 0 := by rfl) (hs : rm.slots = 0 := by rfl) : CallW R s args RX6 RX6 281 yX6_both cX6_both 2 (some .boolean) (ws_ yX6_both cX6_both 2 (some .boolean)) rm 0 0 1 :=
  cwV 1 hts (lw_V q1775 q1777 qs93 q112 q1778) rfl hc hs (by decide +kernel) hR
/-! either -/
def bkM_either_10 (P : MS → Int32 → (Int32 → MS → Prop) → Prop) (Q : Int32 → MS → Prop) (x1 : Int32) : Nat → MS → Prop
  | 0 => fun _ => False
  | n + 1 => fun a => wpM_isSign a (124 : Int32) (fun r13 a13 => if r13 = 0 then (Q (1 : Int32) a13) else (wpM_nextToken a13 (fun a20 => wpM_both P a20 x1 (fun r25 a25 => if r25 = 0 then (Q (0 : Int32) a25) else (wpM_step a25 (2 : Int32) (124 : Int32) (fun a37 => bkM_either_10 P Q x1 n a37))))))
set_option maxHeartbeats 4000000 in
set_option maxRecDepth 100000 in
theorem wkM_either_10 {F0_ L0_ : Nat} {P : MS → Int32 → (Int32 → MS → Prop) → Prop} (hPc : ∀ a x1 Q, P a x1 Q → Met l yX6_part0 (ws_ yX6_part0 cX6_part0 2 (some .boolean)) { frames := F0_, cells := 0, slots := 0, locals := L0_ } (mPc D dA ad A a [.ref (ad 38), .int x1]) (mQi D dA ad A Q) 0 0 A) (S : CallFix p m c cX6_either 2 s args lw_all RX6) (hr : meth.sig.returnType = (some .boolean)) (hlk : meth.locks = false) (Q : Int32 → MS → Prop) (x1 : Int32) : ∀ (n : Nat) (a : MS) (H : Heap) (locs : List Loc) (ls : Array Slot), bkM_either_10 P Q x1 n a → MW D dA ad A a s H locs → lv_has ls 2 [(0, .ref (ad 38)), (1, .int x1)] → W p l e ({ frames := F0_ + 7, cells := 0, slots := 0, locals := L0_ + 155 } : Room) s m args below meth c H locs 0 0 (MQ below (mQi D dA ad A Q) args s 0 0 A) (F0 m 10 ls []) := by
  have hx := S.1
  have hb := S.2.1
  have hown := S.2.2.2.1
  have hts := S.2.2.2.2
  intro n
  induction n with
  | zero =>
    intro  a H locs ls h
    exact False.elim h
  | succ n ih =>
    intro  a H locs ls h hw hl
    unfold bkM_either_10 at h
    refine lv_aload_n hx hb dX6_either_10 rfl (lv_at hl 0 rfl) ?_
    refine lv_bipush (v := (124 : Int32)) hx hb dX6_either_11 (by decide) ?_
    refine m_calli S hw [.int (124 : Int32)] [] (ctM_isSign l D dA ad A a (124 : Int32) _ h) (cwM_isSign hts ⟨by dsimp only; omega, by dsimp only; omega⟩) rfl hl.1 rfl (Nat.le_of_ble_eq_true rfl) dX6_either_13 ⟨Nat.zero_le _, Nat.zero_le _⟩ (fun r13 a13 H locs h hw => ?_)
    refine lv_if_eq (tgt := 43) hx hb dX6_either_16 (by decide) (fun c16 => ?_) (fun c16 => ?_)
    · replace h := if_t c16 h
      refine lv_iconst (v := (1 : Int32)) hx hb dX6_either_43 (by decide) ?_
      exact m_zret S hr hlk hw (Or.inr rfl) h dX6_either_44
    · replace h := if_f c16 h
      refine lv_aload_n hx hb dX6_either_19 rfl (lv_at hl 0 rfl) ?_
      refine m_callv S hw [] [] (ctM_nextToken l D dA ad A a13 _ h) (cwM_nextToken hts ⟨by dsimp only; omega, by dsimp only; omega⟩) rfl hl.1 rfl (Nat.le_of_ble_eq_true rfl) dX6_either_20 ⟨Nat.zero_le _, Nat.zero_le _⟩ (fun a20 H locs h hw => ?_)
      refine lv_aload_n hx hb dX6_either_23 rfl (lv_at hl 0 rfl) ?_
      refine lv_iload_n hx hb dX6_either_24 rfl (lv_at hl 1 rfl) ?_
      refine m_calli S hw [.int x1] [] (ctM_both F0_ L0_ hPc l D dA ad A a20 x1 _ h) (cwM_both hts ⟨by dsimp only; omega, by dsimp only; omega⟩) rfl hl.1 rfl (Nat.le_of_ble_eq_true rfl) dX6_either_25 ⟨Nat.zero_le _, Nat.zero_le _⟩ (fun r25 a25 H locs h hw => ?_)
      refine lv_if_ne (tgt := 33) hx hb dX6_either_28 (by decide) (fun c28 => ?_) (fun c28 => ?_)
      · replace h := if_f c28 h
        refine lv_aload_n hx hb dX6_either_33 rfl (lv_at hl 0 rfl) ?_
        refine lv_iconst (v := (2 : Int32)) hx hb dX6_either_34 (by decide) ?_
        refine lv_bipush (v := (124 : Int32)) hx hb dX6_either_35 (by decide) ?_
        refine m_callv S hw [.int (2 : Int32), .int (124 : Int32)] [] (ctM_step l D dA ad A a25 (2 : Int32) (124 : Int32) _ h) (cwM_step hts ⟨by dsimp only; omega, by dsimp only; omega⟩) rfl hl.1 rfl (Nat.le_of_ble_eq_true rfl) dX6_either_37 ⟨Nat.zero_le _, Nat.zero_le _⟩ (fun a37 H locs h hw => ?_)
        refine lv_goto (tgt := 10) hx hb dX6_either_40 (by decide) ?_
        exact ih _ _ _ _ h hw (lv_sub hl [0, 1] rfl)
      · replace h := if_t c28 h
        refine lv_iconst (v := (0 : Int32)) hx hb dX6_either_31 (by decide) ?_
        exact m_zret S hr hlk hw (Or.inl rfl) h dX6_either_32
def wpM_either (P : MS → Int32 → (Int32 → MS → Prop) → Prop) (a : MS) (x1 : Int32) (Q : Int32 → MS → Prop) : Prop := wpM_both P a x1 (fun r2 a2 => if r2 = 0 then (Q (0 : Int32) a2) else (∃ n10, bkM_either_10 P Q x1 n10 a2))
set_option maxHeartbeats 4000000 in
set_option maxRecDepth 100000 in
theorem wkM_either_e {F0_ L0_ : Nat} {P : MS → Int32 → (Int32 → MS → Prop) → Prop} (hPc : ∀ a x1 Q, P a x1 Q → Met l yX6_part0 (ws_ yX6_part0 cX6_part0 2 (some .boolean)) { frames := F0_, cells := 0, slots := 0, locals := L0_ } (mPc D dA ad A a [.ref (ad 38), .int x1]) (mQi D dA ad A Q) 0 0 A) (S : CallFix p m c cX6_either 2 s args lw_all RX6) (hr : meth.sig.returnType = (some .boolean)) (hlk : meth.locks = false) (Q : Int32 → MS → Prop) (x1 : Int32) (a : MS) (H : Heap) (locs : List Loc) (ls : Array Slot) (h : wpM_either P a x1 Q) (hw : MW D dA ad A a s H locs) (hl : lv_has ls 2 [(0, .ref (ad 38)), (1, .int x1)]) : W p l e ({ frames := F0_ + 7, cells := 0, slots := 0, locals := L0_ + 155 } : Room) s m args below meth c H locs 0 0 (MQ below (mQi D dA ad A Q) args s 0 0 A) (F0 m 0 ls []) := by
  have hx := S.1
  have hb := S.2.1
  have hown := S.2.2.2.1
  have hts := S.2.2.2.2
  unfold wpM_either at h
  refine lv_aload_n hx hb dX6_either_0 rfl (lv_at hl 0 rfl) ?_
  refine lv_iload_n hx hb dX6_either_1 rfl (lv_at hl 1 rfl) ?_
  refine m_calli S hw [.int x1] [] (ctM_both F0_ L0_ hPc l D dA ad A a x1 _ h) (cwM_both hts ⟨by dsimp only; omega, by dsimp only; omega⟩) rfl hl.1 rfl (Nat.le_of_ble_eq_true rfl) dX6_either_2 ⟨Nat.zero_le _, Nat.zero_le _⟩ (fun r2 a2 H locs h hw => ?_)
  refine lv_if_ne (tgt := 10) hx hb dX6_either_5 (by decide) (fun c5 => ?_) (fun c5 => ?_)
  · replace h := if_f c5 h
    obtain ⟨n10, h⟩ := h
    exact wkM_either_10 hPc S hr hlk Q x1 n10 _ _ _ _ h hw (lv_sub hl [0, 1] rfl)
  · replace h := if_t c5 h
    refine lv_iconst (v := (0 : Int32)) hx hb dX6_either_8 (by decide) ?_
    exact m_zret S hr hlk hw (Or.inl rfl) h dX6_either_9
theorem ctM_either (F0_ L0_ : Nat) {P : MS → Int32 → (Int32 → MS → Prop) → Prop} {l : Launch} {D : va_G} {dA : Nat → ClassId} {ad : Nat → Nat} {A : Nat → Prop} (hPc : ∀ a x1 Q, P a x1 Q → Met l yX6_part0 (ws_ yX6_part0 cX6_part0 2 (some .boolean)) { frames := F0_, cells := 0, slots := 0, locals := L0_ } (mPc D dA ad A a [.ref (ad 38), .int x1]) (mQi D dA ad A Q) 0 0 A) (l_ : Launch) (D_ : va_G) (dA_ : Nat → ClassId) (ad_ : Nat → Nat) (A_ : Nat → Prop) (a : MS) (x1 : Int32) (Q : Int32 → MS → Prop) (h : wpM_either P a x1 Q) : Met l yX6_either (ws_ yX6_either cX6_either 2 (some .boolean)) ({ frames := F0_ + 7, cells := 0, slots := 0, locals := L0_ + 155 } : Room) (mPc D dA ad A a [.ref (ad 38), .int x1]) (mQi D dA ad A Q) 0 0 A :=
  m_met (by decide) rfl rfl rfl (Nat.le_of_ble_eq_true rfl) (fun p e s m below meth c ls S hr hlk hw hl => wkM_either_e hPc S hr hlk Q x1 a _ _ ls h hw hl)
theorem cwM_either {R : Room} {s : State} {args : Array Value} {rm : Room} (hts : ∀ w ∈ lw_all, w.before args s = true) (hR : rm.frames + 1 ≤ R.frames ∧ 8 + (2 + 11) + rm.locals ≤ R.locals) (hc : rm.cells = 0 := by rfl) (hs : rm.slots = 0 := by rfl) : CallW R s args RX6 RX6 317 yX6_either cX6_either 2 (some .boolean) (ws_ yX6_either cX6_either 2 (some .boolean)) rm 0 0 1 :=
  cwV 1 hts (lw_V q1771 q1773 qs92 q112 q1774) rfl hc hs (by decide +kernel) hR
/-! part0 -/
def bkM_part0_145 (P : MS → Int32 → (Int32 → MS → Prop) → Prop) (Q : Int32 → MS → Prop) (x1 : Int32) : MS → Prop := fun a => wpM_isSign a (40 : Int32) (fun r148 a148 => if r148 = 0 then (Q (0 : Int32) a148) else (if (a148 38 27) = (8 : Int32) then (Q (0 : Int32) a148) else (∀ a172 : MS, a172 = up2 a148 38 27 ((a148 38 27) + (1 : Int32)) → (wpM_nextToken a172 (fun a176 => wpM_either P a176 x1 (fun r181 a181 => if r181 = 0 then (Q (0 : Int32) a181) else (wpM_isSign a181 (41 : Int32) (fun r190 a190 => if r190 = 0 then (Q (0 : Int32) a190) else (∀ a205 : MS, a205 = up2 a190 38 27 ((a190 38 27) - (1 : Int32)) → (wpM_nextToken a205 (fun a209 => Q (1 : Int32) a209)))))))))))
set_option maxHeartbeats 4000000 in
set_option maxRecDepth 100000 in
theorem wkM_part0_145 {F0_ L0_ : Nat} {P : MS → Int32 → (Int32 → MS → Prop) → Prop} (hPc : ∀ a x1 Q, P a x1 Q → Met l yX6_part0 (ws_ yX6_part0 cX6_part0 2 (some .boolean)) { frames := F0_, cells := 0, slots := 0, locals := L0_ } (mPc D dA ad A a [.ref (ad 38), .int x1]) (mQi D dA ad A Q) 0 0 A) (S : CallFix p m c cX6_part0 2 s args lw_all RX6) (hr : meth.sig.returnType = (some .boolean)) (hlk : meth.locks = false) (Q : Int32 → MS → Prop) (x1 : Int32) : ∀ (a : MS) (H : Heap) (locs : List Loc) (ls : Array Slot), bkM_part0_145 P Q x1 a → MW D dA ad A a s H locs → lv_has ls 2 [(0, .ref (ad 38)), (1, .int x1)] → W p l e ({ frames := F0_ + 8, cells := 0, slots := 0, locals := L0_ + 176 } : Room) s m args below meth c H locs 0 0 (MQ below (mQi D dA ad A Q) args s 0 0 A) (F0 m 145 ls []) := by
  have hx := S.1
  have hb := S.2.1
  have hown := S.2.2.2.1
  have hts := S.2.2.2.2
  intro  a H locs ls h hw hl
  unfold bkM_part0_145 at h
  refine lv_aload_n hx hb dX6_part0_145 rfl (lv_at hl 0 rfl) ?_
  refine lv_bipush (v := (40 : Int32)) hx hb dX6_part0_146 (by decide) ?_
  refine m_calli S hw [.int (40 : Int32)] [] (ctM_isSign l D dA ad A a (40 : Int32) _ h) (cwM_isSign hts ⟨by dsimp only; omega, by dsimp only; omega⟩) rfl hl.1 rfl (Nat.le_of_ble_eq_true rfl) dX6_part0_148 ⟨Nat.zero_le _, Nat.zero_le _⟩ (fun r148 a148 H locs h hw => ?_)
  refine lv_if_eq (tgt := 163) hx hb dX6_part0_151 (by decide) (fun c151 => ?_) (fun c151 => ?_)
  · replace h := if_t c151 h
    refine lv_iconst (v := (0 : Int32)) hx hb dX6_part0_163 (by decide) ?_
    exact m_zret S hr hlk hw (Or.inl rfl) h dX6_part0_164
  · replace h := if_f c151 h
    refine lv_aload_n hx hb dX6_part0_154 rfl (lv_at hl 0 rfl) ?_
    refine m_get S hw 27 (by decide) q1365 rfl rfl dX6_part0_155 ?_
    refine lv_bipush (v := (8 : Int32)) hx hb dX6_part0_158 (by decide) ?_
    refine lv_icmp_ne (tgt := 165) hx hb dX6_part0_160 (by decide) (fun c160 => ?_) (fun c160 => ?_)
    · replace h := if_f c160 h
      refine lv_aload_n hx hb dX6_part0_165 rfl (lv_at hl 0 rfl) ?_
      refine lv_dup hx hb dX6_part0_166 rfl ?_
      refine m_get S hw 27 (by decide) q1365 rfl rfl dX6_part0_167 ?_
      refine lv_iconst (v := (1 : Int32)) hx hb dX6_part0_170 (by decide) ?_
      refine lv_iadd hx hb dX6_part0_171 ?_
      refine m_puti S hw 27 (by decide) q1365 rfl rfl rfl rfl mset_27 dX6_part0_172 (fun a172 H locs ea172 hw => ?_)
      replace h := h a172 ea172
      refine lv_aload_n hx hb dX6_part0_175 rfl (lv_at hl 0 rfl) ?_
      refine m_callv S hw [] [] (ctM_nextToken l D dA ad A a172 _ h) (cwM_nextToken hts ⟨by dsimp only; omega, by dsimp only; omega⟩) rfl hl.1 rfl (Nat.le_of_ble_eq_true rfl) dX6_part0_176 ⟨Nat.zero_le _, Nat.zero_le _⟩ (fun a176 H locs h hw => ?_)
      refine lv_aload_n hx hb dX6_part0_179 rfl (lv_at hl 0 rfl) ?_
      refine lv_iload_n hx hb dX6_part0_180 rfl (lv_at hl 1 rfl) ?_
      refine m_calli S hw [.int x1] [] (ctM_either F0_ L0_ hPc l D dA ad A a176 x1 _ h) (cwM_either hts ⟨by dsimp only; omega, by dsimp only; omega⟩) rfl hl.1 rfl (Nat.le_of_ble_eq_true rfl) dX6_part0_181 ⟨Nat.zero_le _, Nat.zero_le _⟩ (fun r181 a181 H locs h hw => ?_)
      refine lv_if_eq (tgt := 196) hx hb dX6_part0_184 (by decide) (fun c184 => ?_) (fun c184 => ?_)
      · replace h := if_t c184 h
        refine lv_iconst (v := (0 : Int32)) hx hb dX6_part0_196 (by decide) ?_
        exact m_zret S hr hlk hw (Or.inl rfl) h dX6_part0_197
      · replace h := if_f c184 h
        refine lv_aload_n hx hb dX6_part0_187 rfl (lv_at hl 0 rfl) ?_
        refine lv_bipush (v := (41 : Int32)) hx hb dX6_part0_188 (by decide) ?_
        refine m_calli S hw [.int (41 : Int32)] [] (ctM_isSign l D dA ad A a181 (41 : Int32) _ h) (cwM_isSign hts ⟨by dsimp only; omega, by dsimp only; omega⟩) rfl hl.1 rfl (Nat.le_of_ble_eq_true rfl) dX6_part0_190 ⟨Nat.zero_le _, Nat.zero_le _⟩ (fun r190 a190 H locs h hw => ?_)
        refine lv_if_ne (tgt := 198) hx hb dX6_part0_193 (by decide) (fun c193 => ?_) (fun c193 => ?_)
        · replace h := if_f c193 h
          refine lv_aload_n hx hb dX6_part0_198 rfl (lv_at hl 0 rfl) ?_
          refine lv_dup hx hb dX6_part0_199 rfl ?_
          refine m_get S hw 27 (by decide) q1365 rfl rfl dX6_part0_200 ?_
          refine lv_iconst (v := (1 : Int32)) hx hb dX6_part0_203 (by decide) ?_
          refine lv_isub hx hb dX6_part0_204 ?_
          refine m_puti S hw 27 (by decide) q1365 rfl rfl rfl rfl mset_27 dX6_part0_205 (fun a205 H locs ea205 hw => ?_)
          replace h := h a205 ea205
          refine lv_aload_n hx hb dX6_part0_208 rfl (lv_at hl 0 rfl) ?_
          refine m_callv S hw [] [] (ctM_nextToken l D dA ad A a205 _ h) (cwM_nextToken hts ⟨by dsimp only; omega, by dsimp only; omega⟩) rfl hl.1 rfl (Nat.le_of_ble_eq_true rfl) dX6_part0_209 ⟨Nat.zero_le _, Nat.zero_le _⟩ (fun a209 H locs h hw => ?_)
          refine lv_iconst (v := (1 : Int32)) hx hb dX6_part0_212 (by decide) ?_
          exact m_zret S hr hlk hw (Or.inr rfl) h dX6_part0_213
        · replace h := if_t c193 h
          refine lv_iconst (v := (0 : Int32)) hx hb dX6_part0_196 (by decide) ?_
          exact m_zret S hr hlk hw (Or.inl rfl) h dX6_part0_197
    · replace h := if_t c160 h
      refine lv_iconst (v := (0 : Int32)) hx hb dX6_part0_163 (by decide) ?_
      exact m_zret S hr hlk hw (Or.inl rfl) h dX6_part0_164
def bkM_part0_84 (P : MS → Int32 → (Int32 → MS → Prop) → Prop) (Q : Int32 → MS → Prop) (x1 : Int32) : MS → Prop := fun a => wpM_isSign a (33 : Int32) (fun r87 a87 => if r87 = 0 then (bkM_part0_145 P Q x1 a87) else (if (8 : Int32) ≤ (a87 38 28) then (bkM_part0_145 P Q x1 a87) else (∀ a109 : MS, a109 = up2 a87 38 28 ((a87 38 28) + (1 : Int32)) → (wpM_nextToken a109 (fun a113 => P a113 x1 (fun r118 a118 => if r118 = 0 then (Q (0 : Int32) a118) else (∀ a133 : MS, a133 = up2 a118 38 28 ((a118 38 28) - (1 : Int32)) → (wpM_step a133 (2 : Int32) (33 : Int32) (fun a140 => Q (1 : Int32) a140)))))))))
set_option maxHeartbeats 4000000 in
set_option maxRecDepth 100000 in
theorem wkM_part0_84 {F0_ L0_ : Nat} {P : MS → Int32 → (Int32 → MS → Prop) → Prop} (hPc : ∀ a x1 Q, P a x1 Q → Met l yX6_part0 (ws_ yX6_part0 cX6_part0 2 (some .boolean)) { frames := F0_, cells := 0, slots := 0, locals := L0_ } (mPc D dA ad A a [.ref (ad 38), .int x1]) (mQi D dA ad A Q) 0 0 A) (S : CallFix p m c cX6_part0 2 s args lw_all RX6) (hr : meth.sig.returnType = (some .boolean)) (hlk : meth.locks = false) (Q : Int32 → MS → Prop) (x1 : Int32) : ∀ (a : MS) (H : Heap) (locs : List Loc) (ls : Array Slot), bkM_part0_84 P Q x1 a → MW D dA ad A a s H locs → lv_has ls 2 [(0, .ref (ad 38)), (1, .int x1)] → W p l e ({ frames := F0_ + 8, cells := 0, slots := 0, locals := L0_ + 176 } : Room) s m args below meth c H locs 0 0 (MQ below (mQi D dA ad A Q) args s 0 0 A) (F0 m 84 ls []) := by
  have hx := S.1
  have hb := S.2.1
  have hown := S.2.2.2.1
  have hts := S.2.2.2.2
  intro  a H locs ls h hw hl
  unfold bkM_part0_84 at h
  refine lv_aload_n hx hb dX6_part0_84 rfl (lv_at hl 0 rfl) ?_
  refine lv_bipush (v := (33 : Int32)) hx hb dX6_part0_85 (by decide) ?_
  refine m_calli S hw [.int (33 : Int32)] [] (ctM_isSign l D dA ad A a (33 : Int32) _ h) (cwM_isSign hts ⟨by dsimp only; omega, by dsimp only; omega⟩) rfl hl.1 rfl (Nat.le_of_ble_eq_true rfl) dX6_part0_87 ⟨Nat.zero_le _, Nat.zero_le _⟩ (fun r87 a87 H locs h hw => ?_)
  refine lv_if_eq (tgt := 145) hx hb dX6_part0_90 (by decide) (fun c90 => ?_) (fun c90 => ?_)
  · replace h := if_t c90 h
    exact wkM_part0_145 hPc S hr hlk Q x1 _ _ _ _ h hw (lv_sub hl [0, 1] rfl)
  · replace h := if_f c90 h
    refine lv_aload_n hx hb dX6_part0_93 rfl (lv_at hl 0 rfl) ?_
    refine m_get S hw 28 (by decide) q1366 rfl rfl dX6_part0_94 ?_
    refine lv_bipush (v := (8 : Int32)) hx hb dX6_part0_97 (by decide) ?_
    refine lv_icmp_ge (tgt := 145) hx hb dX6_part0_99 (by decide) (fun c99 => ?_) (fun c99 => ?_)
    · replace h := if_t c99 h
      exact wkM_part0_145 hPc S hr hlk Q x1 _ _ _ _ h hw (lv_sub hl [0, 1] rfl)
    · replace h := if_f c99 h
      refine lv_aload_n hx hb dX6_part0_102 rfl (lv_at hl 0 rfl) ?_
      refine lv_dup hx hb dX6_part0_103 rfl ?_
      refine m_get S hw 28 (by decide) q1366 rfl rfl dX6_part0_104 ?_
      refine lv_iconst (v := (1 : Int32)) hx hb dX6_part0_107 (by decide) ?_
      refine lv_iadd hx hb dX6_part0_108 ?_
      refine m_puti S hw 28 (by decide) q1366 rfl rfl rfl rfl mset_28 dX6_part0_109 (fun a109 H locs ea109 hw => ?_)
      replace h := h a109 ea109
      refine lv_aload_n hx hb dX6_part0_112 rfl (lv_at hl 0 rfl) ?_
      refine m_callv S hw [] [] (ctM_nextToken l D dA ad A a109 _ h) (cwM_nextToken hts ⟨by dsimp only; omega, by dsimp only; omega⟩) rfl hl.1 rfl (Nat.le_of_ble_eq_true rfl) dX6_part0_113 ⟨Nat.zero_le _, Nat.zero_le _⟩ (fun a113 H locs h hw => ?_)
      refine lv_aload_n hx hb dX6_part0_116 rfl (lv_at hl 0 rfl) ?_
      refine lv_iload_n hx hb dX6_part0_117 rfl (lv_at hl 1 rfl) ?_
      refine m_calli S hw [.int x1] [] (hPc _ _ _ h) (cwM_part0 hts ⟨by dsimp only; omega, by dsimp only; omega⟩) rfl hl.1 rfl (Nat.le_of_ble_eq_true rfl) dX6_part0_118 ⟨Nat.zero_le _, Nat.zero_le _⟩ (fun r118 a118 H locs h hw => ?_)
      refine lv_if_ne (tgt := 126) hx hb dX6_part0_121 (by decide) (fun c121 => ?_) (fun c121 => ?_)
      · replace h := if_f c121 h
        refine lv_aload_n hx hb dX6_part0_126 rfl (lv_at hl 0 rfl) ?_
        refine lv_dup hx hb dX6_part0_127 rfl ?_
        refine m_get S hw 28 (by decide) q1366 rfl rfl dX6_part0_128 ?_
        refine lv_iconst (v := (1 : Int32)) hx hb dX6_part0_131 (by decide) ?_
        refine lv_isub hx hb dX6_part0_132 ?_
        refine m_puti S hw 28 (by decide) q1366 rfl rfl rfl rfl mset_28 dX6_part0_133 (fun a133 H locs ea133 hw => ?_)
        replace h := h a133 ea133
        refine lv_aload_n hx hb dX6_part0_136 rfl (lv_at hl 0 rfl) ?_
        refine lv_iconst (v := (2 : Int32)) hx hb dX6_part0_137 (by decide) ?_
        refine lv_bipush (v := (33 : Int32)) hx hb dX6_part0_138 (by decide) ?_
        refine m_callv S hw [.int (2 : Int32), .int (33 : Int32)] [] (ctM_step l D dA ad A a133 (2 : Int32) (33 : Int32) _ h) (cwM_step hts ⟨by dsimp only; omega, by dsimp only; omega⟩) rfl hl.1 rfl (Nat.le_of_ble_eq_true rfl) dX6_part0_140 ⟨Nat.zero_le _, Nat.zero_le _⟩ (fun a140 H locs h hw => ?_)
        refine lv_iconst (v := (1 : Int32)) hx hb dX6_part0_143 (by decide) ?_
        exact m_zret S hr hlk hw (Or.inr rfl) h dX6_part0_144
      · replace h := if_t c121 h
        refine lv_iconst (v := (0 : Int32)) hx hb dX6_part0_124 (by decide) ?_
        exact m_zret S hr hlk hw (Or.inl rfl) h dX6_part0_125
def wpM_part0 (P : MS → Int32 → (Int32 → MS → Prop) → Prop) (a : MS) (x1 : Int32) (Q : Int32 → MS → Prop) : Prop := if (a 38 24) = (2 : Int32) then (wpM_step a (0 : Int32) (a 38 25) (fun a14 => ∀ a24 : MS, a24 = up2 a14 38 31 ((a14 38 31) + (1 : Int32)) → (wpM_nextToken a24 (fun a28 => Q (1 : Int32) a28)))) else (if (a 38 24) = (1 : Int32) then (if (a 38 26) = 0 then (bkM_part0_84 P Q x1 a) else (wpM_isName a x1 (a 38 26) (fun r53 a53 => if r53 = 0 then (bkM_part0_84 P Q x1 a53) else (wpM_step a53 (1 : Int32) (a53 38 26) (fun a65 => ∀ a75 : MS, a75 = up2 a65 38 31 ((a65 38 31) + (1 : Int32)) → (wpM_nextToken a75 (fun a79 => Q (1 : Int32) a79))))))) else (bkM_part0_84 P Q x1 a))
set_option maxHeartbeats 4000000 in
set_option maxRecDepth 100000 in
theorem wkM_part0_e {F0_ L0_ : Nat} {P : MS → Int32 → (Int32 → MS → Prop) → Prop} (hPc : ∀ a x1 Q, P a x1 Q → Met l yX6_part0 (ws_ yX6_part0 cX6_part0 2 (some .boolean)) { frames := F0_, cells := 0, slots := 0, locals := L0_ } (mPc D dA ad A a [.ref (ad 38), .int x1]) (mQi D dA ad A Q) 0 0 A) (S : CallFix p m c cX6_part0 2 s args lw_all RX6) (hr : meth.sig.returnType = (some .boolean)) (hlk : meth.locks = false) (Q : Int32 → MS → Prop) (x1 : Int32) (a : MS) (H : Heap) (locs : List Loc) (ls : Array Slot) (h : wpM_part0 P a x1 Q) (hw : MW D dA ad A a s H locs) (hl : lv_has ls 2 [(0, .ref (ad 38)), (1, .int x1)]) : W p l e ({ frames := F0_ + 8, cells := 0, slots := 0, locals := L0_ + 176 } : Room) s m args below meth c H locs 0 0 (MQ below (mQi D dA ad A Q) args s 0 0 A) (F0 m 0 ls []) := by
  have hx := S.1
  have hb := S.2.1
  have hown := S.2.2.2.1
  have hts := S.2.2.2.2
  unfold wpM_part0 at h
  refine lv_aload_n hx hb dX6_part0_0 rfl (lv_at hl 0 rfl) ?_
  refine m_get S hw 24 (by decide) q1362 rfl rfl dX6_part0_1 ?_
  refine lv_iconst (v := (2 : Int32)) hx hb dX6_part0_4 (by decide) ?_
  refine lv_icmp_ne (tgt := 33) hx hb dX6_part0_5 (by decide) (fun c5 => ?_) (fun c5 => ?_)
  · replace h := if_f c5 h
    refine lv_aload_n hx hb dX6_part0_33 rfl (lv_at hl 0 rfl) ?_
    refine m_get S hw 24 (by decide) q1362 rfl rfl dX6_part0_34 ?_
    refine lv_iconst (v := (1 : Int32)) hx hb dX6_part0_37 (by decide) ?_
    refine lv_icmp_ne (tgt := 84) hx hb dX6_part0_38 (by decide) (fun c38 => ?_) (fun c38 => ?_)
    · replace h := if_f c38 h
      exact wkM_part0_84 hPc S hr hlk Q x1 _ _ _ _ h hw (lv_sub hl [0, 1] rfl)
    · replace h := if_t c38 h
      refine lv_aload_n hx hb dX6_part0_41 rfl (lv_at hl 0 rfl) ?_
      refine m_get S hw 26 (by decide) q1364 rfl rfl dX6_part0_42 ?_
      refine lv_if_eq (tgt := 84) hx hb dX6_part0_45 (by decide) (fun c45 => ?_) (fun c45 => ?_)
      · replace h := if_t c45 h
        exact wkM_part0_84 hPc S hr hlk Q x1 _ _ _ _ h hw (lv_sub hl [0, 1] rfl)
      · replace h := if_f c45 h
        refine lv_iload_n hx hb dX6_part0_48 rfl (lv_at hl 1 rfl) ?_
        refine lv_aload_n hx hb dX6_part0_49 rfl (lv_at hl 0 rfl) ?_
        refine m_get S hw 26 (by decide) q1364 rfl rfl dX6_part0_50 ?_
        refine m_callSi S hw [.int x1, .int (a 38 26)] [] (ctM_isName l D dA ad A a x1 (a 38 26) _ h) (cwM_isName hts ⟨by dsimp only; omega, by dsimp only; omega⟩) rfl hl.1 rfl (Nat.le_of_ble_eq_true rfl) dX6_part0_53 ⟨Nat.zero_le _, Nat.zero_le _⟩ (fun r53 a53 H locs h hw => ?_)
        refine lv_if_eq (tgt := 84) hx hb dX6_part0_56 (by decide) (fun c56 => ?_) (fun c56 => ?_)
        · replace h := if_t c56 h
          exact wkM_part0_84 hPc S hr hlk Q x1 _ _ _ _ h hw (lv_sub hl [0, 1] rfl)
        · replace h := if_f c56 h
          refine lv_aload_n hx hb dX6_part0_59 rfl (lv_at hl 0 rfl) ?_
          refine lv_iconst (v := (1 : Int32)) hx hb dX6_part0_60 (by decide) ?_
          refine lv_aload_n hx hb dX6_part0_61 rfl (lv_at hl 0 rfl) ?_
          refine m_get S hw 26 (by decide) q1364 rfl rfl dX6_part0_62 ?_
          refine m_callv S hw [.int (1 : Int32), .int (a53 38 26)] [] (ctM_step l D dA ad A a53 (1 : Int32) (a53 38 26) _ h) (cwM_step hts ⟨by dsimp only; omega, by dsimp only; omega⟩) rfl hl.1 rfl (Nat.le_of_ble_eq_true rfl) dX6_part0_65 ⟨Nat.zero_le _, Nat.zero_le _⟩ (fun a65 H locs h hw => ?_)
          refine lv_aload_n hx hb dX6_part0_68 rfl (lv_at hl 0 rfl) ?_
          refine lv_dup hx hb dX6_part0_69 rfl ?_
          refine m_get S hw 31 (by decide) q1369 rfl rfl dX6_part0_70 ?_
          refine lv_iconst (v := (1 : Int32)) hx hb dX6_part0_73 (by decide) ?_
          refine lv_iadd hx hb dX6_part0_74 ?_
          refine m_puti S hw 31 (by decide) q1369 rfl rfl rfl rfl mset_31 dX6_part0_75 (fun a75 H locs ea75 hw => ?_)
          replace h := h a75 ea75
          refine lv_aload_n hx hb dX6_part0_78 rfl (lv_at hl 0 rfl) ?_
          refine m_callv S hw [] [] (ctM_nextToken l D dA ad A a75 _ h) (cwM_nextToken hts ⟨by dsimp only; omega, by dsimp only; omega⟩) rfl hl.1 rfl (Nat.le_of_ble_eq_true rfl) dX6_part0_79 ⟨Nat.zero_le _, Nat.zero_le _⟩ (fun a79 H locs h hw => ?_)
          refine lv_iconst (v := (1 : Int32)) hx hb dX6_part0_82 (by decide) ?_
          exact m_zret S hr hlk hw (Or.inr rfl) h dX6_part0_83
  · replace h := if_t c5 h
    refine lv_aload_n hx hb dX6_part0_8 rfl (lv_at hl 0 rfl) ?_
    refine lv_iconst (v := (0 : Int32)) hx hb dX6_part0_9 (by decide) ?_
    refine lv_aload_n hx hb dX6_part0_10 rfl (lv_at hl 0 rfl) ?_
    refine m_get S hw 25 (by decide) q1363 rfl rfl dX6_part0_11 ?_
    refine m_callv S hw [.int (0 : Int32), .int (a 38 25)] [] (ctM_step l D dA ad A a (0 : Int32) (a 38 25) _ h) (cwM_step hts ⟨by dsimp only; omega, by dsimp only; omega⟩) rfl hl.1 rfl (Nat.le_of_ble_eq_true rfl) dX6_part0_14 ⟨Nat.zero_le _, Nat.zero_le _⟩ (fun a14 H locs h hw => ?_)
    refine lv_aload_n hx hb dX6_part0_17 rfl (lv_at hl 0 rfl) ?_
    refine lv_dup hx hb dX6_part0_18 rfl ?_
    refine m_get S hw 31 (by decide) q1369 rfl rfl dX6_part0_19 ?_
    refine lv_iconst (v := (1 : Int32)) hx hb dX6_part0_22 (by decide) ?_
    refine lv_iadd hx hb dX6_part0_23 ?_
    refine m_puti S hw 31 (by decide) q1369 rfl rfl rfl rfl mset_31 dX6_part0_24 (fun a24 H locs ea24 hw => ?_)
    replace h := h a24 ea24
    refine lv_aload_n hx hb dX6_part0_27 rfl (lv_at hl 0 rfl) ?_
    refine m_callv S hw [] [] (ctM_nextToken l D dA ad A a24 _ h) (cwM_nextToken hts ⟨by dsimp only; omega, by dsimp only; omega⟩) rfl hl.1 rfl (Nat.le_of_ble_eq_true rfl) dX6_part0_28 ⟨Nat.zero_le _, Nat.zero_le _⟩ (fun a28 H locs h hw => ?_)
    refine lv_iconst (v := (1 : Int32)) hx hb dX6_part0_31 (by decide) ?_
    exact m_zret S hr hlk hw (Or.inr rfl) h dX6_part0_32
theorem ctM_part0 (F0_ L0_ : Nat) {P : MS → Int32 → (Int32 → MS → Prop) → Prop} {l : Launch} {D : va_G} {dA : Nat → ClassId} {ad : Nat → Nat} {A : Nat → Prop} (hPc : ∀ a x1 Q, P a x1 Q → Met l yX6_part0 (ws_ yX6_part0 cX6_part0 2 (some .boolean)) { frames := F0_, cells := 0, slots := 0, locals := L0_ } (mPc D dA ad A a [.ref (ad 38), .int x1]) (mQi D dA ad A Q) 0 0 A) (l_ : Launch) (D_ : va_G) (dA_ : Nat → ClassId) (ad_ : Nat → Nat) (A_ : Nat → Prop) (a : MS) (x1 : Int32) (Q : Int32 → MS → Prop) (h : wpM_part0 P a x1 Q) : Met l yX6_part0 (ws_ yX6_part0 cX6_part0 2 (some .boolean)) ({ frames := F0_ + 8, cells := 0, slots := 0, locals := L0_ + 176 } : Room) (mPc D dA ad A a [.ref (ad 38), .int x1]) (mQi D dA ad A Q) 0 0 A :=
  m_met (by decide) rfl rfl rfl (Nat.le_of_ble_eq_true rfl) (fun p e s m below meth c ls S hr hlk hw hl => wkM_part0_e hPc S hr hlk Q x1 a _ _ ls h hw hl)
def wpM_rec : Nat → MS → Int32 → (Int32 → MS → Prop) → Prop
  | 0 => fun _ _ _ => False
  | d + 1 => wpM_part0 (wpM_rec d)
theorem ctM_rec (l : Launch) (D : va_G) (dA : Nat → ClassId) (ad : Nat → Nat) (A : Nat → Prop) : ∀ (d : Nat) (a : MS) (x1 : Int32) (Q : Int32 → MS → Prop), wpM_rec d a x1 Q → Met l yX6_part0 (ws_ yX6_part0 cX6_part0 2 (some .boolean)) { frames := d * 8, cells := 0, slots := 0, locals := d * 176 } (mPc D dA ad A a [.ref (ad 38), .int x1]) (mQi D dA ad A Q) 0 0 A := by
  intro d
  induction d with
  | zero => intro a x1 Q h; exact False.elim h
  | succ d ih =>
    intro a x1 Q h
    have h9 := ctM_part0 (d * 8) (d * 176) ih l D dA ad A a x1 Q h
    rw [Nat.succ_mul, Nat.succ_mul]
    exact h9
theorem ctM_either_20 (l : Launch) (D : va_G) (dA : Nat → ClassId) (ad : Nat → Nat) (A : Nat → Prop) (a : MS) (x1 : Int32) (Q : Int32 → MS → Prop) (h : wpM_either (wpM_rec 20) a x1 Q) : Met l yX6_either (ws_ yX6_either cX6_either 2 (some .boolean)) { frames := 167, cells := 0, slots := 0, locals := 3675 } (mPc D dA ad A a [.ref (ad 38), .int x1]) (mQi D dA ad A Q) 0 0 A :=
  ctM_either (20 * 8) (20 * 176) (ctM_rec l D dA ad A 20) l D dA ad A a x1 Q h
theorem ctM_both_20 (l : Launch) (D : va_G) (dA : Nat → ClassId) (ad : Nat → Nat) (A : Nat → Prop) (a : MS) (x1 : Int32) (Q : Int32 → MS → Prop) (h : wpM_both (wpM_rec 20) a x1 Q) : Met l yX6_both (ws_ yX6_both cX6_both 2 (some .boolean)) { frames := 166, cells := 0, slots := 0, locals := 3654 } (mPc D dA ad A a [.ref (ad 38), .int x1]) (mQi D dA ad A Q) 0 0 A :=
  ctM_both (20 * 8) (20 * 176) (ctM_rec l D dA ad A 20) l D dA ad A a x1 Q h
theorem ctM_test_20 (l : Launch) (D : va_G) (dA : Nat → ClassId) (ad : Nat → Nat) (A : Nat → Prop) (a : MS) (x1 : Int32) (Q : Int32 → MS → Prop) (h : wpM_test (wpM_rec 20) a x1 Q) : Met l yX6_test (ws_ yX6_test cX6_test 3 (some .boolean)) { frames := 165, cells := 0, slots := 0, locals := 3632 } (mPc D dA ad A a [.ref (ad 38), .int x1]) (mQi D dA ad A Q) 0 0 A :=
  ctM_test (20 * 8) (20 * 176) (ctM_rec l D dA ad A 20) l D dA ad A a x1 Q h
theorem ctM_sum_20 (l : Launch) (D : va_G) (dA : Nat → ClassId) (ad : Nat → Nat) (A : Nat → Prop) (a : MS) (x1 : Int32) (Q : Int32 → MS → Prop) (h : wpM_sum (wpM_rec 20) a x1 Q) : Met l yX6_sum (ws_ yX6_sum cX6_sum 3 (some .boolean)) { frames := 164, cells := 0, slots := 0, locals := 3610 } (mPc D dA ad A a [.ref (ad 38), .int x1]) (mQi D dA ad A Q) 0 0 A :=
  ctM_sum (20 * 8) (20 * 176) (ctM_rec l D dA ad A 20) l D dA ad A a x1 Q h
theorem ctM_term_20 (l : Launch) (D : va_G) (dA : Nat → ClassId) (ad : Nat → Nat) (A : Nat → Prop) (a : MS) (x1 : Int32) (Q : Int32 → MS → Prop) (h : wpM_term (wpM_rec 20) a x1 Q) : Met l yX6_term (ws_ yX6_term cX6_term 3 (some .boolean)) { frames := 163, cells := 0, slots := 0, locals := 3588 } (mPc D dA ad A a [.ref (ad 38), .int x1]) (mQi D dA ad A Q) 0 0 A :=
  ctM_term (20 * 8) (20 * 176) (ctM_rec l D dA ad A 20) l D dA ad A a x1 Q h
/-! isLong -/
abbrev rmM_isLong : Room := { frames := 0, cells := 0, slots := 0, locals := 0 }
def bkM_isLong_11 (Q : Int32 → MS → Prop) (x1 : Int32) (x2 : Int32) (x3 : Int32) (x4 : Int32) (x5 : Int32) (x6 : Int32) : Int32 → MS → Prop := fun s0 a => if (a 38 24) = (1 : Int32) then (if ((a 38 23) - (a 38 22)) = s0 then (vp_in (a 38 22) 96 ∧ (if (a 20 (a 38 22).toNatClampNeg) = x1 then (vp_in ((a 38 22) + (1 : Int32)) 96 ∧ (if (a 20 ((a 38 22) + (1 : Int32)).toNatClampNeg) = x2 then (vp_in ((a 38 22) + (2 : Int32)) 96 ∧ (if (a 20 ((a 38 22) + (2 : Int32)).toNatClampNeg) = x3 then (vp_in ((a 38 22) + (3 : Int32)) 96 ∧ (if (a 20 ((a 38 22) + (3 : Int32)).toNatClampNeg) = x4 then (vp_in ((a 38 22) + (4 : Int32)) 96 ∧ (if (a 20 ((a 38 22) + (4 : Int32)).toNatClampNeg) = x5 then (if x6 = 0 then (Q (1 : Int32) a) else (vp_in ((a 38 22) + (5 : Int32)) 96 ∧ (if (a 20 ((a 38 22) + (5 : Int32)).toNatClampNeg) = x6 then (Q (1 : Int32) a) else (Q (0 : Int32) a)))) else (Q (0 : Int32) a))) else (Q (0 : Int32) a))) else (Q (0 : Int32) a))) else (Q (0 : Int32) a))) else (Q (0 : Int32) a))) else (Q (0 : Int32) a)) else (Q (0 : Int32) a)
set_option maxHeartbeats 4000000 in
set_option maxRecDepth 100000 in
theorem wkM_isLong_11 (S : CallFix p m c cX6_isLong 8 s args lw_all RX6) (hr : meth.sig.returnType = (some .boolean)) (hlk : meth.locks = false) (Q : Int32 → MS → Prop) (x1 : Int32) (x2 : Int32) (x3 : Int32) (x4 : Int32) (x5 : Int32) (x6 : Int32) : ∀ (s0 : Int32) (a : MS) (H : Heap) (locs : List Loc) (ls : Array Slot), bkM_isLong_11 Q x1 x2 x3 x4 x5 x6 s0 a → MW D dA ad A a s H locs → lv_has ls 8 [(0, .ref (ad 38)), (1, .int x1), (2, .int x2), (3, .int x3), (4, .int x4), (5, .int x5), (6, .int x6)] → W p l e rmM_isLong s m args below meth c H locs 0 0 (MQ below (mQi D dA ad A Q) args s 0 0 A) (F0 m 11 ls [.int s0]) := by
  have hx := S.1
  have hb := S.2.1
  have hown := S.2.2.2.1
  have hts := S.2.2.2.2
  intro s0 a H locs ls h hw hl
  unfold bkM_isLong_11 at h
  refine lv_istore (lv' := [(7, .int s0), (0, .ref (ad 38)), (1, .int x1), (2, .int x2), (3, .int x3), (4, .int x4), (5, .int x5), (6, .int x6)]) hx hb dX6_isLong_11 hl (by decide) rfl (fun ls hl => ?_)
  refine lv_aload_n hx hb dX6_isLong_13 rfl (lv_at hl 1 rfl) ?_
  refine m_get S hw 24 (by decide) q1362 rfl rfl dX6_isLong_14 ?_
  refine lv_iconst (v := (1 : Int32)) hx hb dX6_isLong_17 (by decide) ?_
  refine lv_icmp_ne (tgt := 135) hx hb dX6_isLong_18 (by decide) (fun c18 => ?_) (fun c18 => ?_)
  · replace h := if_f c18 h
    refine lv_iconst (v := (0 : Int32)) hx hb dX6_isLong_135 (by decide) ?_
    exact m_zret S hr hlk hw (Or.inl rfl) h dX6_isLong_136
  · replace h := if_t c18 h
    refine lv_aload_n hx hb dX6_isLong_21 rfl (lv_at hl 1 rfl) ?_
    refine m_get S hw 23 (by decide) q1361 rfl rfl dX6_isLong_22 ?_
    refine lv_aload_n hx hb dX6_isLong_25 rfl (lv_at hl 1 rfl) ?_
    refine m_get S hw 22 (by decide) q1360 rfl rfl dX6_isLong_26 ?_
    refine lv_isub hx hb dX6_isLong_29 ?_
    refine lv_iload hx hb dX6_isLong_30 (lv_at hl 0 rfl) ?_
    refine lv_icmp_ne (tgt := 135) hx hb dX6_isLong_32 (by decide) (fun c32 => ?_) (fun c32 => ?_)
    · replace h := if_f c32 h
      refine lv_iconst (v := (0 : Int32)) hx hb dX6_isLong_135 (by decide) ?_
      exact m_zret S hr hlk hw (Or.inl rfl) h dX6_isLong_136
    · replace h := if_t c32 h
      refine lv_aload_n hx hb dX6_isLong_35 rfl (lv_at hl 1 rfl) ?_
      refine m_get S hw 20 (by decide) q1358 rfl rfl dX6_isLong_36 ?_
      refine lv_aload_n hx hb dX6_isLong_39 rfl (lv_at hl 1 rfl) ?_
      refine m_get S hw 22 (by decide) q1360 rfl rfl dX6_isLong_40 ?_
      refine m_ald S hw 19 20 96 rfl (by decide) rfl h.1 dX6_isLong_43 ?_
      replace h := h.2
      refine lv_iload_n hx hb dX6_isLong_44 rfl (lv_at hl 2 rfl) ?_
      refine lv_icmp_ne (tgt := 135) hx hb dX6_isLong_45 (by decide) (fun c45 => ?_) (fun c45 => ?_)
      · replace h := if_f c45 h
        refine lv_iconst (v := (0 : Int32)) hx hb dX6_isLong_135 (by decide) ?_
        exact m_zret S hr hlk hw (Or.inl rfl) h dX6_isLong_136
      · replace h := if_t c45 h
        refine lv_aload_n hx hb dX6_isLong_48 rfl (lv_at hl 1 rfl) ?_
        refine m_get S hw 20 (by decide) q1358 rfl rfl dX6_isLong_49 ?_
        refine lv_aload_n hx hb dX6_isLong_52 rfl (lv_at hl 1 rfl) ?_
        refine m_get S hw 22 (by decide) q1360 rfl rfl dX6_isLong_53 ?_
        refine lv_iconst (v := (1 : Int32)) hx hb dX6_isLong_56 (by decide) ?_
        refine lv_iadd hx hb dX6_isLong_57 ?_
        refine m_ald S hw 19 20 96 rfl (by decide) rfl h.1 dX6_isLong_58 ?_
        replace h := h.2
        refine lv_iload_n hx hb dX6_isLong_59 rfl (lv_at hl 3 rfl) ?_
        refine lv_icmp_ne (tgt := 135) hx hb dX6_isLong_60 (by decide) (fun c60 => ?_) (fun c60 => ?_)
        · replace h := if_f c60 h
          refine lv_iconst (v := (0 : Int32)) hx hb dX6_isLong_135 (by decide) ?_
          exact m_zret S hr hlk hw (Or.inl rfl) h dX6_isLong_136
        · replace h := if_t c60 h
          refine lv_aload_n hx hb dX6_isLong_63 rfl (lv_at hl 1 rfl) ?_
          refine m_get S hw 20 (by decide) q1358 rfl rfl dX6_isLong_64 ?_
          refine lv_aload_n hx hb dX6_isLong_67 rfl (lv_at hl 1 rfl) ?_
          refine m_get S hw 22 (by decide) q1360 rfl rfl dX6_isLong_68 ?_
          refine lv_iconst (v := (2 : Int32)) hx hb dX6_isLong_71 (by decide) ?_
          refine lv_iadd hx hb dX6_isLong_72 ?_
          refine m_ald S hw 19 20 96 rfl (by decide) rfl h.1 dX6_isLong_73 ?_
          replace h := h.2
          refine lv_iload_n hx hb dX6_isLong_74 rfl (lv_at hl 4 rfl) ?_
          refine lv_icmp_ne (tgt := 135) hx hb dX6_isLong_75 (by decide) (fun c75 => ?_) (fun c75 => ?_)
          · replace h := if_f c75 h
            refine lv_iconst (v := (0 : Int32)) hx hb dX6_isLong_135 (by decide) ?_
            exact m_zret S hr hlk hw (Or.inl rfl) h dX6_isLong_136
          · replace h := if_t c75 h
            refine lv_aload_n hx hb dX6_isLong_78 rfl (lv_at hl 1 rfl) ?_
            refine m_get S hw 20 (by decide) q1358 rfl rfl dX6_isLong_79 ?_
            refine lv_aload_n hx hb dX6_isLong_82 rfl (lv_at hl 1 rfl) ?_
            refine m_get S hw 22 (by decide) q1360 rfl rfl dX6_isLong_83 ?_
            refine lv_iconst (v := (3 : Int32)) hx hb dX6_isLong_86 (by decide) ?_
            refine lv_iadd hx hb dX6_isLong_87 ?_
            refine m_ald S hw 19 20 96 rfl (by decide) rfl h.1 dX6_isLong_88 ?_
            replace h := h.2
            refine lv_iload hx hb dX6_isLong_89 (lv_at hl 5 rfl) ?_
            refine lv_icmp_ne (tgt := 135) hx hb dX6_isLong_91 (by decide) (fun c91 => ?_) (fun c91 => ?_)
            · replace h := if_f c91 h
              refine lv_iconst (v := (0 : Int32)) hx hb dX6_isLong_135 (by decide) ?_
              exact m_zret S hr hlk hw (Or.inl rfl) h dX6_isLong_136
            · replace h := if_t c91 h
              refine lv_aload_n hx hb dX6_isLong_94 rfl (lv_at hl 1 rfl) ?_
              refine m_get S hw 20 (by decide) q1358 rfl rfl dX6_isLong_95 ?_
              refine lv_aload_n hx hb dX6_isLong_98 rfl (lv_at hl 1 rfl) ?_
              refine m_get S hw 22 (by decide) q1360 rfl rfl dX6_isLong_99 ?_
              refine lv_iconst (v := (4 : Int32)) hx hb dX6_isLong_102 (by decide) ?_
              refine lv_iadd hx hb dX6_isLong_103 ?_
              refine m_ald S hw 19 20 96 rfl (by decide) rfl h.1 dX6_isLong_104 ?_
              replace h := h.2
              refine lv_iload hx hb dX6_isLong_105 (lv_at hl 6 rfl) ?_
              refine lv_icmp_ne (tgt := 135) hx hb dX6_isLong_107 (by decide) (fun c107 => ?_) (fun c107 => ?_)
              · replace h := if_f c107 h
                refine lv_iconst (v := (0 : Int32)) hx hb dX6_isLong_135 (by decide) ?_
                exact m_zret S hr hlk hw (Or.inl rfl) h dX6_isLong_136
              · replace h := if_t c107 h
                refine lv_iload hx hb dX6_isLong_110 (lv_at hl 7 rfl) ?_
                refine lv_if_eq (tgt := 131) hx hb dX6_isLong_112 (by decide) (fun c112 => ?_) (fun c112 => ?_)
                · replace h := if_t c112 h
                  refine lv_iconst (v := (1 : Int32)) hx hb dX6_isLong_131 (by decide) ?_
                  refine lv_goto (tgt := 136) hx hb dX6_isLong_132 (by decide) ?_
                  exact m_zret S hr hlk hw (Or.inr rfl) h dX6_isLong_136
                · replace h := if_f c112 h
                  refine lv_aload_n hx hb dX6_isLong_115 rfl (lv_at hl 1 rfl) ?_
                  refine m_get S hw 20 (by decide) q1358 rfl rfl dX6_isLong_116 ?_
                  refine lv_aload_n hx hb dX6_isLong_119 rfl (lv_at hl 1 rfl) ?_
                  refine m_get S hw 22 (by decide) q1360 rfl rfl dX6_isLong_120 ?_
                  refine lv_iconst (v := (5 : Int32)) hx hb dX6_isLong_123 (by decide) ?_
                  refine lv_iadd hx hb dX6_isLong_124 ?_
                  refine m_ald S hw 19 20 96 rfl (by decide) rfl h.1 dX6_isLong_125 ?_
                  replace h := h.2
                  refine lv_iload hx hb dX6_isLong_126 (lv_at hl 7 rfl) ?_
                  refine lv_icmp_ne (tgt := 135) hx hb dX6_isLong_128 (by decide) (fun c128 => ?_) (fun c128 => ?_)
                  · replace h := if_f c128 h
                    refine lv_iconst (v := (0 : Int32)) hx hb dX6_isLong_135 (by decide) ?_
                    exact m_zret S hr hlk hw (Or.inl rfl) h dX6_isLong_136
                  · replace h := if_t c128 h
                    refine lv_iconst (v := (1 : Int32)) hx hb dX6_isLong_131 (by decide) ?_
                    refine lv_goto (tgt := 136) hx hb dX6_isLong_132 (by decide) ?_
                    exact m_zret S hr hlk hw (Or.inr rfl) h dX6_isLong_136
def wpM_isLong (a : MS) (x1 : Int32) (x2 : Int32) (x3 : Int32) (x4 : Int32) (x5 : Int32) (x6 : Int32) (Q : Int32 → MS → Prop) : Prop := if x6 = 0 then (bkM_isLong_11 Q x1 x2 x3 x4 x5 x6 (5 : Int32) a) else (bkM_isLong_11 Q x1 x2 x3 x4 x5 x6 (6 : Int32) a)
set_option maxHeartbeats 4000000 in
set_option maxRecDepth 100000 in
theorem wkM_isLong_e (S : CallFix p m c cX6_isLong 8 s args lw_all RX6) (hr : meth.sig.returnType = (some .boolean)) (hlk : meth.locks = false) (Q : Int32 → MS → Prop) (x1 : Int32) (x2 : Int32) (x3 : Int32) (x4 : Int32) (x5 : Int32) (x6 : Int32) (a : MS) (H : Heap) (locs : List Loc) (ls : Array Slot) (h : wpM_isLong a x1 x2 x3 x4 x5 x6 Q) (hw : MW D dA ad A a s H locs) (hl : lv_has ls 8 [(0, .ref (ad 38)), (1, .int x1), (2, .int x2), (3, .int x3), (4, .int x4), (5, .int x5), (6, .int x6)]) : W p l e rmM_isLong s m args below meth c H locs 0 0 (MQ below (mQi D dA ad A Q) args s 0 0 A) (F0 m 0 ls []) := by
  have hx := S.1
  have hb := S.2.1
  have hown := S.2.2.2.1
  have hts := S.2.2.2.2
  unfold wpM_isLong at h
  refine lv_iload hx hb dX6_isLong_0 (lv_at hl 6 rfl) ?_
  refine lv_if_ne (tgt := 9) hx hb dX6_isLong_2 (by decide) (fun c2 => ?_) (fun c2 => ?_)
  · replace h := if_f c2 h
    refine lv_bipush (v := (6 : Int32)) hx hb dX6_isLong_9 (by decide) ?_
    exact wkM_isLong_11 S hr hlk Q x1 x2 x3 x4 x5 x6 _ _ _ _ _ h hw (lv_sub hl [0, 1, 2, 3, 4, 5, 6] rfl)
  · replace h := if_t c2 h
    refine lv_iconst (v := (5 : Int32)) hx hb dX6_isLong_5 (by decide) ?_
    refine lv_goto (tgt := 11) hx hb dX6_isLong_6 (by decide) ?_
    exact wkM_isLong_11 S hr hlk Q x1 x2 x3 x4 x5 x6 _ _ _ _ _ h hw (lv_sub hl [0, 1, 2, 3, 4, 5, 6] rfl)
theorem ctM_isLong (l : Launch) (D : va_G) (dA : Nat → ClassId) (ad : Nat → Nat) (A : Nat → Prop) (a : MS) (x1 : Int32) (x2 : Int32) (x3 : Int32) (x4 : Int32) (x5 : Int32) (x6 : Int32) (Q : Int32 → MS → Prop) (h : wpM_isLong a x1 x2 x3 x4 x5 x6 Q) : Met l yX6_isLong (ws_ yX6_isLong cX6_isLong 8 (some .boolean)) rmM_isLong (mPc D dA ad A a [.ref (ad 38), .int x1, .int x2, .int x3, .int x4, .int x5, .int x6]) (mQi D dA ad A Q) 0 0 A :=
  m_met (by decide) rfl rfl rfl (Nat.le_of_ble_eq_true rfl) (fun p e s m below meth c ls S hr hlk hw hl => wkM_isLong_e S hr hlk Q x1 x2 x3 x4 x5 x6 a _ _ ls h hw hl)
theorem cwM_isLong {R : Room} {s : State} {args : Array Value} {rm : Room} (hts : ∀ w ∈ lw_all, w.before args s = true) (hR : rm.frames + 1 ≤ R.frames ∧ 8 + (8 + 11) + rm.locals ≤ R.locals) (hc : rm.cells = 0 := by rfl) (hs : rm.slots = 0 := by rfl) : CallW R s args RX6 RX6 271 yX6_isLong cX6_isLong 8 (some .boolean) (ws_ yX6_isLong cX6_isLong 8 (some .boolean)) rm 0 0 6 :=
  cwV 6 hts (lw_V q1767 q1769 qs91 q112 q1770) rfl hc hs (by decide +kernel) hR
/-! isWordAt -/
abbrev rmM_isWordAt : Room := { frames := 0, cells := 0, slots := 0, locals := 0 }
def bkM_isWordAt_10 (Q : Int32 → MS → Prop) (x1 : Int32) (x2 : Int32) (x3 : Int32) (x4 : Int32) : Int32 → MS → Prop := fun s0 a => if (a 38 24) = (1 : Int32) then (if ((a 38 23) - (a 38 22)) = s0 then (vp_in (a 38 22) 96 ∧ (if (a 20 (a 38 22).toNatClampNeg) = x1 then (vp_in ((a 38 22) + (1 : Int32)) 96 ∧ (if (a 20 ((a 38 22) + (1 : Int32)).toNatClampNeg) = x2 then (vp_in ((a 38 22) + (2 : Int32)) 96 ∧ (if (a 20 ((a 38 22) + (2 : Int32)).toNatClampNeg) = x3 then (if x4 = 0 then (Q (1 : Int32) a) else (vp_in ((a 38 22) + (3 : Int32)) 96 ∧ (if (a 20 ((a 38 22) + (3 : Int32)).toNatClampNeg) = x4 then (Q (1 : Int32) a) else (Q (0 : Int32) a)))) else (Q (0 : Int32) a))) else (Q (0 : Int32) a))) else (Q (0 : Int32) a))) else (Q (0 : Int32) a)) else (Q (0 : Int32) a)
set_option maxHeartbeats 4000000 in
set_option maxRecDepth 100000 in
theorem wkM_isWordAt_10 (S : CallFix p m c cX6_isWordAt 6 s args lw_all RX6) (hr : meth.sig.returnType = (some .boolean)) (hlk : meth.locks = false) (Q : Int32 → MS → Prop) (x1 : Int32) (x2 : Int32) (x3 : Int32) (x4 : Int32) : ∀ (s0 : Int32) (a : MS) (H : Heap) (locs : List Loc) (ls : Array Slot), bkM_isWordAt_10 Q x1 x2 x3 x4 s0 a → MW D dA ad A a s H locs → lv_has ls 6 [(0, .ref (ad 38)), (1, .int x1), (2, .int x2), (3, .int x3), (4, .int x4)] → W p l e rmM_isWordAt s m args below meth c H locs 0 0 (MQ below (mQi D dA ad A Q) args s 0 0 A) (F0 m 10 ls [.int s0]) := by
  have hx := S.1
  have hb := S.2.1
  have hown := S.2.2.2.1
  have hts := S.2.2.2.2
  intro s0 a H locs ls h hw hl
  unfold bkM_isWordAt_10 at h
  refine lv_istore (lv' := [(5, .int s0), (0, .ref (ad 38)), (1, .int x1), (2, .int x2), (3, .int x3), (4, .int x4)]) hx hb dX6_isWordAt_10 hl (by decide) rfl (fun ls hl => ?_)
  refine lv_aload_n hx hb dX6_isWordAt_12 rfl (lv_at hl 1 rfl) ?_
  refine m_get S hw 24 (by decide) q1362 rfl rfl dX6_isWordAt_13 ?_
  refine lv_iconst (v := (1 : Int32)) hx hb dX6_isWordAt_16 (by decide) ?_
  refine lv_icmp_ne (tgt := 102) hx hb dX6_isWordAt_17 (by decide) (fun c17 => ?_) (fun c17 => ?_)
  · replace h := if_f c17 h
    refine lv_iconst (v := (0 : Int32)) hx hb dX6_isWordAt_102 (by decide) ?_
    exact m_zret S hr hlk hw (Or.inl rfl) h dX6_isWordAt_103
  · replace h := if_t c17 h
    refine lv_aload_n hx hb dX6_isWordAt_20 rfl (lv_at hl 1 rfl) ?_
    refine m_get S hw 23 (by decide) q1361 rfl rfl dX6_isWordAt_21 ?_
    refine lv_aload_n hx hb dX6_isWordAt_24 rfl (lv_at hl 1 rfl) ?_
    refine m_get S hw 22 (by decide) q1360 rfl rfl dX6_isWordAt_25 ?_
    refine lv_isub hx hb dX6_isWordAt_28 ?_
    refine lv_iload hx hb dX6_isWordAt_29 (lv_at hl 0 rfl) ?_
    refine lv_icmp_ne (tgt := 102) hx hb dX6_isWordAt_31 (by decide) (fun c31 => ?_) (fun c31 => ?_)
    · replace h := if_f c31 h
      refine lv_iconst (v := (0 : Int32)) hx hb dX6_isWordAt_102 (by decide) ?_
      exact m_zret S hr hlk hw (Or.inl rfl) h dX6_isWordAt_103
    · replace h := if_t c31 h
      refine lv_aload_n hx hb dX6_isWordAt_34 rfl (lv_at hl 1 rfl) ?_
      refine m_get S hw 20 (by decide) q1358 rfl rfl dX6_isWordAt_35 ?_
      refine lv_aload_n hx hb dX6_isWordAt_38 rfl (lv_at hl 1 rfl) ?_
      refine m_get S hw 22 (by decide) q1360 rfl rfl dX6_isWordAt_39 ?_
      refine m_ald S hw 19 20 96 rfl (by decide) rfl h.1 dX6_isWordAt_42 ?_
      replace h := h.2
      refine lv_iload_n hx hb dX6_isWordAt_43 rfl (lv_at hl 2 rfl) ?_
      refine lv_icmp_ne (tgt := 102) hx hb dX6_isWordAt_44 (by decide) (fun c44 => ?_) (fun c44 => ?_)
      · replace h := if_f c44 h
        refine lv_iconst (v := (0 : Int32)) hx hb dX6_isWordAt_102 (by decide) ?_
        exact m_zret S hr hlk hw (Or.inl rfl) h dX6_isWordAt_103
      · replace h := if_t c44 h
        refine lv_aload_n hx hb dX6_isWordAt_47 rfl (lv_at hl 1 rfl) ?_
        refine m_get S hw 20 (by decide) q1358 rfl rfl dX6_isWordAt_48 ?_
        refine lv_aload_n hx hb dX6_isWordAt_51 rfl (lv_at hl 1 rfl) ?_
        refine m_get S hw 22 (by decide) q1360 rfl rfl dX6_isWordAt_52 ?_
        refine lv_iconst (v := (1 : Int32)) hx hb dX6_isWordAt_55 (by decide) ?_
        refine lv_iadd hx hb dX6_isWordAt_56 ?_
        refine m_ald S hw 19 20 96 rfl (by decide) rfl h.1 dX6_isWordAt_57 ?_
        replace h := h.2
        refine lv_iload_n hx hb dX6_isWordAt_58 rfl (lv_at hl 3 rfl) ?_
        refine lv_icmp_ne (tgt := 102) hx hb dX6_isWordAt_59 (by decide) (fun c59 => ?_) (fun c59 => ?_)
        · replace h := if_f c59 h
          refine lv_iconst (v := (0 : Int32)) hx hb dX6_isWordAt_102 (by decide) ?_
          exact m_zret S hr hlk hw (Or.inl rfl) h dX6_isWordAt_103
        · replace h := if_t c59 h
          refine lv_aload_n hx hb dX6_isWordAt_62 rfl (lv_at hl 1 rfl) ?_
          refine m_get S hw 20 (by decide) q1358 rfl rfl dX6_isWordAt_63 ?_
          refine lv_aload_n hx hb dX6_isWordAt_66 rfl (lv_at hl 1 rfl) ?_
          refine m_get S hw 22 (by decide) q1360 rfl rfl dX6_isWordAt_67 ?_
          refine lv_iconst (v := (2 : Int32)) hx hb dX6_isWordAt_70 (by decide) ?_
          refine lv_iadd hx hb dX6_isWordAt_71 ?_
          refine m_ald S hw 19 20 96 rfl (by decide) rfl h.1 dX6_isWordAt_72 ?_
          replace h := h.2
          refine lv_iload_n hx hb dX6_isWordAt_73 rfl (lv_at hl 4 rfl) ?_
          refine lv_icmp_ne (tgt := 102) hx hb dX6_isWordAt_74 (by decide) (fun c74 => ?_) (fun c74 => ?_)
          · replace h := if_f c74 h
            refine lv_iconst (v := (0 : Int32)) hx hb dX6_isWordAt_102 (by decide) ?_
            exact m_zret S hr hlk hw (Or.inl rfl) h dX6_isWordAt_103
          · replace h := if_t c74 h
            refine lv_iload hx hb dX6_isWordAt_77 (lv_at hl 5 rfl) ?_
            refine lv_if_eq (tgt := 98) hx hb dX6_isWordAt_79 (by decide) (fun c79 => ?_) (fun c79 => ?_)
            · replace h := if_t c79 h
              refine lv_iconst (v := (1 : Int32)) hx hb dX6_isWordAt_98 (by decide) ?_
              refine lv_goto (tgt := 103) hx hb dX6_isWordAt_99 (by decide) ?_
              exact m_zret S hr hlk hw (Or.inr rfl) h dX6_isWordAt_103
            · replace h := if_f c79 h
              refine lv_aload_n hx hb dX6_isWordAt_82 rfl (lv_at hl 1 rfl) ?_
              refine m_get S hw 20 (by decide) q1358 rfl rfl dX6_isWordAt_83 ?_
              refine lv_aload_n hx hb dX6_isWordAt_86 rfl (lv_at hl 1 rfl) ?_
              refine m_get S hw 22 (by decide) q1360 rfl rfl dX6_isWordAt_87 ?_
              refine lv_iconst (v := (3 : Int32)) hx hb dX6_isWordAt_90 (by decide) ?_
              refine lv_iadd hx hb dX6_isWordAt_91 ?_
              refine m_ald S hw 19 20 96 rfl (by decide) rfl h.1 dX6_isWordAt_92 ?_
              replace h := h.2
              refine lv_iload hx hb dX6_isWordAt_93 (lv_at hl 5 rfl) ?_
              refine lv_icmp_ne (tgt := 102) hx hb dX6_isWordAt_95 (by decide) (fun c95 => ?_) (fun c95 => ?_)
              · replace h := if_f c95 h
                refine lv_iconst (v := (0 : Int32)) hx hb dX6_isWordAt_102 (by decide) ?_
                exact m_zret S hr hlk hw (Or.inl rfl) h dX6_isWordAt_103
              · replace h := if_t c95 h
                refine lv_iconst (v := (1 : Int32)) hx hb dX6_isWordAt_98 (by decide) ?_
                refine lv_goto (tgt := 103) hx hb dX6_isWordAt_99 (by decide) ?_
                exact m_zret S hr hlk hw (Or.inr rfl) h dX6_isWordAt_103
def wpM_isWordAt (a : MS) (x1 : Int32) (x2 : Int32) (x3 : Int32) (x4 : Int32) (Q : Int32 → MS → Prop) : Prop := if x4 = 0 then (bkM_isWordAt_10 Q x1 x2 x3 x4 (3 : Int32) a) else (bkM_isWordAt_10 Q x1 x2 x3 x4 (4 : Int32) a)
set_option maxHeartbeats 4000000 in
set_option maxRecDepth 100000 in
theorem wkM_isWordAt_e (S : CallFix p m c cX6_isWordAt 6 s args lw_all RX6) (hr : meth.sig.returnType = (some .boolean)) (hlk : meth.locks = false) (Q : Int32 → MS → Prop) (x1 : Int32) (x2 : Int32) (x3 : Int32) (x4 : Int32) (a : MS) (H : Heap) (locs : List Loc) (ls : Array Slot) (h : wpM_isWordAt a x1 x2 x3 x4 Q) (hw : MW D dA ad A a s H locs) (hl : lv_has ls 6 [(0, .ref (ad 38)), (1, .int x1), (2, .int x2), (3, .int x3), (4, .int x4)]) : W p l e rmM_isWordAt s m args below meth c H locs 0 0 (MQ below (mQi D dA ad A Q) args s 0 0 A) (F0 m 0 ls []) := by
  have hx := S.1
  have hb := S.2.1
  have hown := S.2.2.2.1
  have hts := S.2.2.2.2
  unfold wpM_isWordAt at h
  refine lv_iload hx hb dX6_isWordAt_0 (lv_at hl 4 rfl) ?_
  refine lv_if_ne (tgt := 9) hx hb dX6_isWordAt_2 (by decide) (fun c2 => ?_) (fun c2 => ?_)
  · replace h := if_f c2 h
    refine lv_iconst (v := (4 : Int32)) hx hb dX6_isWordAt_9 (by decide) ?_
    exact wkM_isWordAt_10 S hr hlk Q x1 x2 x3 x4 _ _ _ _ _ h hw (lv_sub hl [0, 1, 2, 3, 4] rfl)
  · replace h := if_t c2 h
    refine lv_iconst (v := (3 : Int32)) hx hb dX6_isWordAt_5 (by decide) ?_
    refine lv_goto (tgt := 10) hx hb dX6_isWordAt_6 (by decide) ?_
    exact wkM_isWordAt_10 S hr hlk Q x1 x2 x3 x4 _ _ _ _ _ h hw (lv_sub hl [0, 1, 2, 3, 4] rfl)
theorem ctM_isWordAt (l : Launch) (D : va_G) (dA : Nat → ClassId) (ad : Nat → Nat) (A : Nat → Prop) (a : MS) (x1 : Int32) (x2 : Int32) (x3 : Int32) (x4 : Int32) (Q : Int32 → MS → Prop) (h : wpM_isWordAt a x1 x2 x3 x4 Q) : Met l yX6_isWordAt (ws_ yX6_isWordAt cX6_isWordAt 6 (some .boolean)) rmM_isWordAt (mPc D dA ad A a [.ref (ad 38), .int x1, .int x2, .int x3, .int x4]) (mQi D dA ad A Q) 0 0 A :=
  m_met (by decide) rfl rfl rfl (Nat.le_of_ble_eq_true rfl) (fun p e s m below meth c ls S hr hlk hw hl => wkM_isWordAt_e S hr hlk Q x1 x2 x3 x4 a _ _ ls h hw hl)
theorem cwM_isWordAt {R : Room} {s : State} {args : Array Value} {rm : Room} (hts : ∀ w ∈ lw_all, w.before args s = true) (hR : rm.frames + 1 ≤ R.frames ∧ 8 + (6 + 11) + rm.locals ≤ R.locals) (hc : rm.cells = 0 := by rfl) (hs : rm.slots = 0 := by rfl) : CallW R s args RX6 RX6 267 yX6_isWordAt cX6_isWordAt 6 (some .boolean) (ws_ yX6_isWordAt cX6_isWordAt 6 (some .boolean)) rm 0 0 4 :=
  cwV 4 hts (lw_V q1763 q1765 qs90 q112 q1766) rfl hc hs (by decide +kernel) hR
/-! key -/
abbrev rmM_key : Room := { frames := 1, cells := 0, slots := 0, locals := 27 }
def wpM_key (a : MS) (Q : Int32 → MS → Prop) : Prop := wpM_isWordAt a (114 : Int32) (111 : Int32) (111 : Int32) (109 : Int32) (fun r9 a9 => if r9 = 0 then (wpM_isWordAt a9 (109 : Int32) (105 : Int32) (115 : Int32) (115 : Int32) (fun r26 a26 => if r26 = 0 then (wpM_isLong a26 (116 : Int32) (104 : Int32) (114 : Int32) (111 : Int32) (119 : Int32) (0 : Int32) (fun r46 a46 => if r46 = 0 then (Q (-1 : Int32) a46) else (Q (2 : Int32) a46))) else (Q (1 : Int32) a26))) else (Q (0 : Int32) a9))
set_option maxHeartbeats 4000000 in
set_option maxRecDepth 100000 in
theorem wkM_key_e (S : CallFix p m c cX6_key 1 s args lw_all RX6) (hr : meth.sig.returnType = (some .int)) (hlk : meth.locks = false) (Q : Int32 → MS → Prop) (a : MS) (H : Heap) (locs : List Loc) (ls : Array Slot) (h : wpM_key a Q) (hw : MW D dA ad A a s H locs) (hl : lv_has ls 1 [(0, .ref (ad 38))]) : W p l e rmM_key s m args below meth c H locs 0 0 (MQ below (mQi D dA ad A Q) args s 0 0 A) (F0 m 0 ls []) := by
  have hx := S.1
  have hb := S.2.1
  have hown := S.2.2.2.1
  have hts := S.2.2.2.2
  unfold wpM_key at h
  refine lv_aload_n hx hb dX6_key_0 rfl (lv_at hl 0 rfl) ?_
  refine lv_bipush (v := (114 : Int32)) hx hb dX6_key_1 (by decide) ?_
  refine lv_bipush (v := (111 : Int32)) hx hb dX6_key_3 (by decide) ?_
  refine lv_bipush (v := (111 : Int32)) hx hb dX6_key_5 (by decide) ?_
  refine lv_bipush (v := (109 : Int32)) hx hb dX6_key_7 (by decide) ?_
  refine m_calli S hw [.int (114 : Int32), .int (111 : Int32), .int (111 : Int32), .int (109 : Int32)] [] (ctM_isWordAt l D dA ad A a (114 : Int32) (111 : Int32) (111 : Int32) (109 : Int32) _ h) (cwM_isWordAt hts ⟨Nat.le_of_ble_eq_true rfl, Nat.le_of_ble_eq_true rfl⟩) rfl hl.1 rfl (Nat.le_of_ble_eq_true rfl) dX6_key_9 ⟨Nat.zero_le _, Nat.zero_le _⟩ (fun r9 a9 H locs h hw => ?_)
  refine lv_if_eq (tgt := 17) hx hb dX6_key_12 (by decide) (fun c12 => ?_) (fun c12 => ?_)
  · replace h := if_t c12 h
    refine lv_aload_n hx hb dX6_key_17 rfl (lv_at hl 0 rfl) ?_
    refine lv_bipush (v := (109 : Int32)) hx hb dX6_key_18 (by decide) ?_
    refine lv_bipush (v := (105 : Int32)) hx hb dX6_key_20 (by decide) ?_
    refine lv_bipush (v := (115 : Int32)) hx hb dX6_key_22 (by decide) ?_
    refine lv_bipush (v := (115 : Int32)) hx hb dX6_key_24 (by decide) ?_
    refine m_calli S hw [.int (109 : Int32), .int (105 : Int32), .int (115 : Int32), .int (115 : Int32)] [] (ctM_isWordAt l D dA ad A a9 (109 : Int32) (105 : Int32) (115 : Int32) (115 : Int32) _ h) (cwM_isWordAt hts ⟨Nat.le_of_ble_eq_true rfl, Nat.le_of_ble_eq_true rfl⟩) rfl hl.1 rfl (Nat.le_of_ble_eq_true rfl) dX6_key_26 ⟨Nat.zero_le _, Nat.zero_le _⟩ (fun r26 a26 H locs h hw => ?_)
    refine lv_if_eq (tgt := 34) hx hb dX6_key_29 (by decide) (fun c29 => ?_) (fun c29 => ?_)
    · replace h := if_t c29 h
      refine lv_aload_n hx hb dX6_key_34 rfl (lv_at hl 0 rfl) ?_
      refine lv_bipush (v := (116 : Int32)) hx hb dX6_key_35 (by decide) ?_
      refine lv_bipush (v := (104 : Int32)) hx hb dX6_key_37 (by decide) ?_
      refine lv_bipush (v := (114 : Int32)) hx hb dX6_key_39 (by decide) ?_
      refine lv_bipush (v := (111 : Int32)) hx hb dX6_key_41 (by decide) ?_
      refine lv_bipush (v := (119 : Int32)) hx hb dX6_key_43 (by decide) ?_
      refine lv_iconst (v := (0 : Int32)) hx hb dX6_key_45 (by decide) ?_
      refine m_calli S hw [.int (116 : Int32), .int (104 : Int32), .int (114 : Int32), .int (111 : Int32), .int (119 : Int32), .int (0 : Int32)] [] (ctM_isLong l D dA ad A a26 (116 : Int32) (104 : Int32) (114 : Int32) (111 : Int32) (119 : Int32) (0 : Int32) _ h) (cwM_isLong hts ⟨Nat.le_of_ble_eq_true rfl, Nat.le_of_ble_eq_true rfl⟩) rfl hl.1 rfl (Nat.le_of_ble_eq_true rfl) dX6_key_46 ⟨Nat.zero_le _, Nat.zero_le _⟩ (fun r46 a46 H locs h hw => ?_)
      refine lv_if_eq (tgt := 56) hx hb dX6_key_49 (by decide) (fun c49 => ?_) (fun c49 => ?_)
      · replace h := if_t c49 h
        refine lv_iconst (v := (-1 : Int32)) hx hb dX6_key_56 (by decide) ?_
        exact m_iret S hr hlk hw h dX6_key_57
      · replace h := if_f c49 h
        refine lv_iconst (v := (2 : Int32)) hx hb dX6_key_52 (by decide) ?_
        refine lv_goto (tgt := 57) hx hb dX6_key_53 (by decide) ?_
        exact m_iret S hr hlk hw h dX6_key_57
    · replace h := if_f c29 h
      refine lv_iconst (v := (1 : Int32)) hx hb dX6_key_32 (by decide) ?_
      exact m_iret S hr hlk hw h dX6_key_33
  · replace h := if_f c12 h
    refine lv_iconst (v := (0 : Int32)) hx hb dX6_key_15 (by decide) ?_
    exact m_iret S hr hlk hw h dX6_key_16
theorem ctM_key (l : Launch) (D : va_G) (dA : Nat → ClassId) (ad : Nat → Nat) (A : Nat → Prop) (a : MS) (Q : Int32 → MS → Prop) (h : wpM_key a Q) : Met l yX6_key (ws_ yX6_key cX6_key 1 (some .int)) rmM_key (mPc D dA ad A a [.ref (ad 38)]) (mQi D dA ad A Q) 0 0 A :=
  m_met (by decide) rfl rfl rfl (Nat.le_of_ble_eq_true rfl) (fun p e s m below meth c ls S hr hlk hw hl => wkM_key_e S hr hlk Q a _ _ ls h hw hl)
theorem cwM_key {R : Room} {s : State} {args : Array Value} {rm : Room} (hts : ∀ w ∈ lw_all, w.before args s = true) (hR : rm.frames + 1 ≤ R.frames ∧ 8 + (1 + 11) + rm.locals ≤ R.locals) (hc : rm.cells = 0 := by rfl) (hs : rm.slots = 0 := by rfl) : CallW R s args RX6 RX6 323 yX6_key cX6_key 1 (some .int) (ws_ yX6_key cX6_key 1 (some .int)) rm 0 0 0 :=
  cwV 0 hts (lw_V q1759 q1761 qs89 q112 q1762) rfl hc hs (by decide +kernel) hR
/-! parse -/
abbrev rmM_parse : Room := { frames := 168, cells := 0, slots := 0, locals := 3696 }
def bkM_parse_111 (Q : Int32 → MS → Prop) : Int32 → Int32 → MS → Prop := fun x1 x2 a => ∀ a113 : MS, a113 = up2 a 38 21 (0 : Int32) → (if x2 = 0 then (Q (-1 : Int32) a113) else (Q x1 a113))
set_option maxHeartbeats 4000000 in
set_option maxRecDepth 100000 in
theorem wkM_parse_111 (S : CallFix p m c cX6_parse 3 s args lw_all RX6) (hr : meth.sig.returnType = (some .int)) (hlk : meth.locks = false) (Q : Int32 → MS → Prop) : ∀ (x1 : Int32) (x2 : Int32) (a : MS) (H : Heap) (locs : List Loc) (ls : Array Slot), bkM_parse_111 Q x1 x2 a → MW D dA ad A a s H locs → lv_has ls 3 [(0, .ref (ad 38)), (1, .int x1), (2, .int x2)] → W p l e rmM_parse s m args below meth c H locs 0 0 (MQ below (mQi D dA ad A Q) args s 0 0 A) (F0 m 111 ls []) := by
  have hx := S.1
  have hb := S.2.1
  have hown := S.2.2.2.1
  have hts := S.2.2.2.2
  intro x1 x2 a H locs ls h hw hl
  unfold bkM_parse_111 at h
  refine lv_aload_n hx hb dX6_parse_111 rfl (lv_at hl 0 rfl) ?_
  refine lv_iconst (v := (0 : Int32)) hx hb dX6_parse_112 (by decide) ?_
  refine m_puti S hw 21 (by decide) q1359 rfl rfl rfl rfl mset_21 dX6_parse_113 (fun a113 H locs ea113 hw => ?_)
  replace h := h a113 ea113
  refine lv_iload_n hx hb dX6_parse_116 rfl (lv_at hl 2 rfl) ?_
  refine lv_if_eq (tgt := 124) hx hb dX6_parse_117 (by decide) (fun c117 => ?_) (fun c117 => ?_)
  · replace h := if_t c117 h
    refine lv_iconst (v := (-1 : Int32)) hx hb dX6_parse_124 (by decide) ?_
    exact m_iret S hr hlk hw h dX6_parse_125
  · replace h := if_f c117 h
    refine lv_iload_n hx hb dX6_parse_120 rfl (lv_at hl 1 rfl) ?_
    refine lv_goto (tgt := 125) hx hb dX6_parse_121 (by decide) ?_
    exact m_iret S hr hlk hw h dX6_parse_125
def bkM_parse_110 (Q : Int32 → MS → Prop) : Int32 → Int32 → MS → Prop := fun x1 s0 a => bkM_parse_111 Q x1 s0 a
set_option maxHeartbeats 4000000 in
set_option maxRecDepth 100000 in
theorem wkM_parse_110 (S : CallFix p m c cX6_parse 3 s args lw_all RX6) (hr : meth.sig.returnType = (some .int)) (hlk : meth.locks = false) (Q : Int32 → MS → Prop) : ∀ (x1 : Int32) (s0 : Int32) (a : MS) (H : Heap) (locs : List Loc) (ls : Array Slot), bkM_parse_110 Q x1 s0 a → MW D dA ad A a s H locs → lv_has ls 3 [(0, .ref (ad 38)), (1, .int x1)] → W p l e rmM_parse s m args below meth c H locs 0 0 (MQ below (mQi D dA ad A Q) args s 0 0 A) (F0 m 110 ls [.int s0]) := by
  have hx := S.1
  have hb := S.2.1
  have hown := S.2.2.2.1
  have hts := S.2.2.2.2
  intro x1 s0 a H locs ls h hw hl
  unfold bkM_parse_110 at h
  refine lv_istore_n (lv' := [(2, .int s0), (0, .ref (ad 38)), (1, .int x1)]) hx hb dX6_parse_110 rfl hl (by decide) rfl (fun ls hl => ?_)
  exact wkM_parse_111 S hr hlk Q _ _ _ _ _ _ h hw (lv_sub hl [1, 2, 0] rfl)
def bkM_parse_109 (Q : Int32 → MS → Prop) : Int32 → MS → Prop := fun x1 a => bkM_parse_110 Q x1 (0 : Int32) a
set_option maxHeartbeats 4000000 in
set_option maxRecDepth 100000 in
theorem wkM_parse_109 (S : CallFix p m c cX6_parse 3 s args lw_all RX6) (hr : meth.sig.returnType = (some .int)) (hlk : meth.locks = false) (Q : Int32 → MS → Prop) : ∀ (x1 : Int32) (a : MS) (H : Heap) (locs : List Loc) (ls : Array Slot), bkM_parse_109 Q x1 a → MW D dA ad A a s H locs → lv_has ls 3 [(0, .ref (ad 38)), (1, .int x1)] → W p l e rmM_parse s m args below meth c H locs 0 0 (MQ below (mQi D dA ad A Q) args s 0 0 A) (F0 m 109 ls []) := by
  have hx := S.1
  have hb := S.2.1
  have hown := S.2.2.2.1
  have hts := S.2.2.2.2
  intro x1 a H locs ls h hw hl
  unfold bkM_parse_109 at h
  refine lv_iconst (v := (0 : Int32)) hx hb dX6_parse_109 (by decide) ?_
  exact wkM_parse_110 S hr hlk Q _ _ _ _ _ _ h hw (lv_sub hl [0, 1] rfl)
def bkM_parse_81 (Q : Int32 → MS → Prop) : Int32 → Int32 → MS → Prop := fun x1 s0 a => if s0 = 0 then (bkM_parse_111 Q x1 s0 a) else (wpM_nextToken a (fun a87 => wpM_either (wpM_rec 20) a87 x1 (fun r92 a92 => if r92 = 0 then (bkM_parse_109 Q x1 a92) else (if (a92 38 24) = 0 then (bkM_parse_110 Q x1 (1 : Int32) a92) else (bkM_parse_109 Q x1 a92)))))
set_option maxHeartbeats 4000000 in
set_option maxRecDepth 100000 in
theorem wkM_parse_81 (S : CallFix p m c cX6_parse 3 s args lw_all RX6) (hr : meth.sig.returnType = (some .int)) (hlk : meth.locks = false) (Q : Int32 → MS → Prop) : ∀ (x1 : Int32) (s0 : Int32) (a : MS) (H : Heap) (locs : List Loc) (ls : Array Slot), bkM_parse_81 Q x1 s0 a → MW D dA ad A a s H locs → lv_has ls 3 [(0, .ref (ad 38)), (1, .int x1)] → W p l e rmM_parse s m args below meth c H locs 0 0 (MQ below (mQi D dA ad A Q) args s 0 0 A) (F0 m 81 ls [.int s0]) := by
  have hx := S.1
  have hb := S.2.1
  have hown := S.2.2.2.1
  have hts := S.2.2.2.2
  intro x1 s0 a H locs ls h hw hl
  unfold bkM_parse_81 at h
  refine lv_istore_n (lv' := [(2, .int s0), (0, .ref (ad 38)), (1, .int x1)]) hx hb dX6_parse_81 rfl hl (by decide) rfl (fun ls hl => ?_)
  refine lv_iload_n hx hb dX6_parse_82 rfl (lv_at hl 0 rfl) ?_
  refine lv_if_eq (tgt := 111) hx hb dX6_parse_83 (by decide) (fun c83 => ?_) (fun c83 => ?_)
  · replace h := if_t c83 h
    exact wkM_parse_111 S hr hlk Q _ _ _ _ _ _ h hw (lv_sub hl [1, 2, 0] rfl)
  · replace h := if_f c83 h
    refine lv_aload_n hx hb dX6_parse_86 rfl (lv_at hl 1 rfl) ?_
    refine m_callv S hw [] [] (ctM_nextToken l D dA ad A a _ h) (cwM_nextToken hts ⟨Nat.le_of_ble_eq_true rfl, Nat.le_of_ble_eq_true rfl⟩) rfl hl.1 rfl (Nat.le_of_ble_eq_true rfl) dX6_parse_87 ⟨Nat.zero_le _, Nat.zero_le _⟩ (fun a87 H locs h hw => ?_)
    refine lv_aload_n hx hb dX6_parse_90 rfl (lv_at hl 1 rfl) ?_
    refine lv_iload_n hx hb dX6_parse_91 rfl (lv_at hl 2 rfl) ?_
    refine m_calli S hw [.int x1] [] (ctM_either_20 l D dA ad A a87 x1 _ h) (cwM_either hts ⟨Nat.le_of_ble_eq_true rfl, Nat.le_of_ble_eq_true rfl⟩) rfl hl.1 rfl (Nat.le_of_ble_eq_true rfl) dX6_parse_92 ⟨Nat.zero_le _, Nat.zero_le _⟩ (fun r92 a92 H locs h hw => ?_)
    refine lv_if_eq (tgt := 109) hx hb dX6_parse_95 (by decide) (fun c95 => ?_) (fun c95 => ?_)
    · replace h := if_t c95 h
      exact wkM_parse_109 S hr hlk Q _ _ _ _ _ h hw (lv_sub hl [1, 2] rfl)
    · replace h := if_f c95 h
      refine lv_aload_n hx hb dX6_parse_98 rfl (lv_at hl 1 rfl) ?_
      refine m_get S hw 24 (by decide) q1362 rfl rfl dX6_parse_99 ?_
      refine lv_if_ne (tgt := 109) hx hb dX6_parse_102 (by decide) (fun c102 => ?_) (fun c102 => ?_)
      · replace h := if_f c102 h
        exact wkM_parse_109 S hr hlk Q _ _ _ _ _ h hw (lv_sub hl [1, 2] rfl)
      · replace h := if_t c102 h
        refine lv_iconst (v := (1 : Int32)) hx hb dX6_parse_105 (by decide) ?_
        refine lv_goto (tgt := 110) hx hb dX6_parse_106 (by decide) ?_
        exact wkM_parse_110 S hr hlk Q _ _ _ _ _ _ h hw (lv_sub hl [1, 2] rfl)
def bkM_parse_60 (Q : Int32 → MS → Prop) : Int32 → MS → Prop := fun s1 a => ∀ a60 : MS, a60 = up2 a 38 30 s1 → (wpM_nextToken a60 (fun a64 => wpM_key a64 (fun r68 a68 => if r68 < 0 then (bkM_parse_81 Q r68 (0 : Int32) a68) else (bkM_parse_81 Q r68 (1 : Int32) a68))))
set_option maxHeartbeats 4000000 in
set_option maxRecDepth 100000 in
theorem wkM_parse_60 (S : CallFix p m c cX6_parse 3 s args lw_all RX6) (hr : meth.sig.returnType = (some .int)) (hlk : meth.locks = false) (Q : Int32 → MS → Prop) : ∀ (s1 : Int32) (a : MS) (H : Heap) (locs : List Loc) (ls : Array Slot), bkM_parse_60 Q s1 a → MW D dA ad A a s H locs → lv_has ls 3 [(0, .ref (ad 38))] → W p l e rmM_parse s m args below meth c H locs 0 0 (MQ below (mQi D dA ad A Q) args s 0 0 A) (F0 m 60 ls [.int s1, .ref (ad 38)]) := by
  have hx := S.1
  have hb := S.2.1
  have hown := S.2.2.2.1
  have hts := S.2.2.2.2
  intro s1 a H locs ls h hw hl
  unfold bkM_parse_60 at h
  refine m_puti S hw 30 (by decide) q1368 rfl rfl rfl rfl mset_30 dX6_parse_60 (fun a60 H locs ea60 hw => ?_)
  replace h := h a60 ea60
  refine lv_aload_n hx hb dX6_parse_63 rfl (lv_at hl 0 rfl) ?_
  refine m_callv S hw [] [] (ctM_nextToken l D dA ad A a60 _ h) (cwM_nextToken hts ⟨Nat.le_of_ble_eq_true rfl, Nat.le_of_ble_eq_true rfl⟩) rfl hl.1 rfl (Nat.le_of_ble_eq_true rfl) dX6_parse_64 ⟨Nat.zero_le _, Nat.zero_le _⟩ (fun a64 H locs h hw => ?_)
  refine lv_aload_n hx hb dX6_parse_67 rfl (lv_at hl 0 rfl) ?_
  refine m_calli S hw [] [] (ctM_key l D dA ad A a64 _ h) (cwM_key hts ⟨Nat.le_of_ble_eq_true rfl, Nat.le_of_ble_eq_true rfl⟩) rfl hl.1 rfl (Nat.le_of_ble_eq_true rfl) dX6_parse_68 ⟨Nat.zero_le _, Nat.zero_le _⟩ (fun r68 a68 H locs h hw => ?_)
  refine lv_istore_n (lv' := [(1, .int r68), (0, .ref (ad 38))]) hx hb dX6_parse_71 rfl hl (by decide) rfl (fun ls hl => ?_)
  refine lv_iload_n hx hb dX6_parse_72 rfl (lv_at hl 0 rfl) ?_
  refine lv_if_lt (tgt := 80) hx hb dX6_parse_73 (by decide) (fun c73 => ?_) (fun c73 => ?_)
  · replace h := if_t c73 h
    refine lv_iconst (v := (0 : Int32)) hx hb dX6_parse_80 (by decide) ?_
    exact wkM_parse_81 S hr hlk Q _ _ _ _ _ _ h hw (lv_sub hl [1, 0] rfl)
  · replace h := if_f c73 h
    refine lv_iconst (v := (1 : Int32)) hx hb dX6_parse_76 (by decide) ?_
    refine lv_goto (tgt := 81) hx hb dX6_parse_77 (by decide) ?_
    exact wkM_parse_81 S hr hlk Q _ _ _ _ _ _ h hw (lv_sub hl [1, 0] rfl)
def wpM_parse (a : MS) (Q : Int32 → MS → Prop) : Prop := ∀ a2 : MS, a2 = up2 a 38 23 (0 : Int32) → (∀ a7 : MS, a7 = up2 a2 38 24 (3 : Int32) → (∀ a12 : MS, a12 = up2 a7 38 27 (0 : Int32) → (∀ a17 : MS, a17 = up2 a12 38 28 (0 : Int32) → (∀ a22 : MS, a22 = up2 a17 38 29 (0 : Int32) → (∀ a27 : MS, a27 = up2 a22 38 31 (0 : Int32) → (if (14 : Int32) ≤ (a27 0 (1 : Int32).toNatClampNeg) then (bkM_parse_60 Q (2898 : Int32) a27) else (wpM_textAt a27 (a27 0 (1 : Int32).toNatClampNeg) (fun r49 a49 => bkM_parse_60 Q (r49 + (4 : Int32)) a49))))))))
set_option maxHeartbeats 4000000 in
set_option maxRecDepth 100000 in
theorem wkM_parse_e (S : CallFix p m c cX6_parse 3 s args lw_all RX6) (hr : meth.sig.returnType = (some .int)) (hlk : meth.locks = false) (Q : Int32 → MS → Prop) (a : MS) (H : Heap) (locs : List Loc) (ls : Array Slot) (h : wpM_parse a Q) (hw : MW D dA ad A a s H locs) (hl : lv_has ls 3 [(0, .ref (ad 38))]) : W p l e rmM_parse s m args below meth c H locs 0 0 (MQ below (mQi D dA ad A Q) args s 0 0 A) (F0 m 0 ls []) := by
  have hx := S.1
  have hb := S.2.1
  have hown := S.2.2.2.1
  have hts := S.2.2.2.2
  unfold wpM_parse at h
  refine lv_aload_n hx hb dX6_parse_0 rfl (lv_at hl 0 rfl) ?_
  refine lv_iconst (v := (0 : Int32)) hx hb dX6_parse_1 (by decide) ?_
  refine m_puti S hw 23 (by decide) q1361 rfl rfl rfl rfl mset_23 dX6_parse_2 (fun a2 H locs ea2 hw => ?_)
  replace h := h a2 ea2
  refine lv_aload_n hx hb dX6_parse_5 rfl (lv_at hl 0 rfl) ?_
  refine lv_iconst (v := (3 : Int32)) hx hb dX6_parse_6 (by decide) ?_
  refine m_puti S hw 24 (by decide) q1362 rfl rfl rfl rfl mset_24 dX6_parse_7 (fun a7 H locs ea7 hw => ?_)
  replace h := h a7 ea7
  refine lv_aload_n hx hb dX6_parse_10 rfl (lv_at hl 0 rfl) ?_
  refine lv_iconst (v := (0 : Int32)) hx hb dX6_parse_11 (by decide) ?_
  refine m_puti S hw 27 (by decide) q1365 rfl rfl rfl rfl mset_27 dX6_parse_12 (fun a12 H locs ea12 hw => ?_)
  replace h := h a12 ea12
  refine lv_aload_n hx hb dX6_parse_15 rfl (lv_at hl 0 rfl) ?_
  refine lv_iconst (v := (0 : Int32)) hx hb dX6_parse_16 (by decide) ?_
  refine m_puti S hw 28 (by decide) q1366 rfl rfl rfl rfl mset_28 dX6_parse_17 (fun a17 H locs ea17 hw => ?_)
  replace h := h a17 ea17
  refine lv_aload_n hx hb dX6_parse_20 rfl (lv_at hl 0 rfl) ?_
  refine lv_iconst (v := (0 : Int32)) hx hb dX6_parse_21 (by decide) ?_
  refine m_puti S hw 29 (by decide) q1367 rfl rfl rfl rfl mset_29 dX6_parse_22 (fun a22 H locs ea22 hw => ?_)
  replace h := h a22 ea22
  refine lv_aload_n hx hb dX6_parse_25 rfl (lv_at hl 0 rfl) ?_
  refine lv_iconst (v := (0 : Int32)) hx hb dX6_parse_26 (by decide) ?_
  refine m_puti S hw 31 (by decide) q1369 rfl rfl rfl rfl mset_31 dX6_parse_27 (fun a27 H locs ea27 hw => ?_)
  replace h := h a27 ea27
  refine lv_aload_n hx hb dX6_parse_30 rfl (lv_at hl 0 rfl) ?_
  refine lv_aload_n hx hb dX6_parse_31 rfl (lv_at hl 0 rfl) ?_
  refine m_get S hw 0 (by decide) q1338 rfl rfl dX6_parse_32 ?_
  refine lv_iconst (v := (1 : Int32)) hx hb dX6_parse_35 (by decide) ?_
  refine m_ald S hw 1 0 3098 rfl (by decide) rfl (vlit (by decide)) dX6_parse_36 ?_
  refine lv_bipush (v := (14 : Int32)) hx hb dX6_parse_37 (by decide) ?_
  refine lv_icmp_ge (tgt := 57) hx hb dX6_parse_39 (by decide) (fun c39 => ?_) (fun c39 => ?_)
  · replace h := if_t c39 h
    refine lv_sipush (v := (2898 : Int32)) hx hb dX6_parse_57 (by decide) ?_
    exact wkM_parse_60 S hr hlk Q _ _ _ _ _ h hw (lv_sub hl [0] rfl)
  · replace h := if_f c39 h
    refine lv_aload_n hx hb dX6_parse_42 rfl (lv_at hl 0 rfl) ?_
    refine lv_aload_n hx hb dX6_parse_43 rfl (lv_at hl 0 rfl) ?_
    refine m_get S hw 0 (by decide) q1338 rfl rfl dX6_parse_44 ?_
    refine lv_iconst (v := (1 : Int32)) hx hb dX6_parse_47 (by decide) ?_
    refine m_ald S hw 1 0 3098 rfl (by decide) rfl (vlit (by decide)) dX6_parse_48 ?_
    refine m_calli S hw [.int (a27 0 (1 : Int32).toNatClampNeg)] [.ref (ad 38)] (ctM_textAt l D dA ad A a27 (a27 0 (1 : Int32).toNatClampNeg) _ h) (cwM_textAt hts ⟨Nat.le_of_ble_eq_true rfl, Nat.le_of_ble_eq_true rfl⟩) rfl hl.1 rfl (Nat.le_of_ble_eq_true rfl) dX6_parse_49 ⟨Nat.zero_le _, Nat.zero_le _⟩ (fun r49 a49 H locs h hw => ?_)
    refine lv_iconst (v := (4 : Int32)) hx hb dX6_parse_52 (by decide) ?_
    refine lv_iadd hx hb dX6_parse_53 ?_
    refine lv_goto (tgt := 60) hx hb dX6_parse_54 (by decide) ?_
    exact wkM_parse_60 S hr hlk Q _ _ _ _ _ h hw (lv_sub hl [0] rfl)
theorem ctM_parse (l : Launch) (D : va_G) (dA : Nat → ClassId) (ad : Nat → Nat) (A : Nat → Prop) (a : MS) (Q : Int32 → MS → Prop) (h : wpM_parse a Q) : Met l yX6_parse (ws_ yX6_parse cX6_parse 3 (some .int)) rmM_parse (mPc D dA ad A a [.ref (ad 38)]) (mQi D dA ad A Q) 0 0 A :=
  m_met (by decide) rfl rfl rfl (Nat.le_of_ble_eq_true rfl) (fun p e s m below meth c ls S hr hlk hw hl => wkM_parse_e S hr hlk Q a _ _ ls h hw hl)
theorem cwM_parse {R : Room} {s : State} {args : Array Value} {rm : Room} (hts : ∀ w ∈ lw_all, w.before args s = true) (hR : rm.frames + 1 ≤ R.frames ∧ 8 + (3 + 11) + rm.locals ≤ R.locals) (hc : rm.cells = 0 := by rfl) (hs : rm.slots = 0 := by rfl) : CallW R s args RX6 RX6 326 yX6_parse cX6_parse 3 (some .int) (ws_ yX6_parse cX6_parse 3 (some .int)) rm 0 0 0 :=
  cwV 0 hts (lw_V q1739 q1741 qs85 q112 q1742) rfl hc hs (by decide +kernel) hR
/-! text -/
abbrev rmM_text : Room := { frames := 169, cells := 0, slots := 0, locals := 3718 }
def wpM_text (a : MS) (Q : Int32 → MS → Prop) : Prop := wpM_parse a (fun r1 a1 => if 0 ≤ r1 then (if (a1 0 (1 : Int32).toNatClampNeg) = (14 : Int32) then (Q (-1000000003 : Int32) a1) else (wpM_textAt a1 (a1 0 (1 : Int32).toNatClampNeg) (fun r38 a38 => vp_in (r38 + (0 : Int32)) 3098 ∧ (∀ a50 : MS, a50 = up2 a38 0 (r38 + (0 : Int32)).toNatClampNeg r1 → (vp_in (r38 + (1 : Int32)) 3098 ∧ (∀ a62 : MS, a62 = up2 a50 0 (r38 + (1 : Int32)).toNatClampNeg (a50 38 31) → (vp_in (r38 + (2 : Int32)) 3098 ∧ (∀ a74 : MS, a74 = up2 a62 0 (r38 + (2 : Int32)).toNatClampNeg (a62 38 29) → (∀ a84 : MS, a84 = up2 a74 0 (1 : Int32).toNatClampNeg ((a74 0 (1 : Int32).toNatClampNeg) + (1 : Int32)) → (Q ((a84 0 (1 : Int32).toNatClampNeg) - (1 : Int32)) a84)))))))))) else (Q ((-100 : Int32) - (a1 38 22)) a1))
set_option maxHeartbeats 4000000 in
set_option maxRecDepth 100000 in
theorem wkM_text_e (S : CallFix p m c cX6_text 3 s args lw_all RX6) (hr : meth.sig.returnType = (some .int)) (hlk : meth.locks = false) (Q : Int32 → MS → Prop) (a : MS) (H : Heap) (locs : List Loc) (ls : Array Slot) (h : wpM_text a Q) (hw : MW D dA ad A a s H locs) (hl : lv_has ls 3 [(0, .ref (ad 38))]) : W p l e rmM_text s m args below meth c H locs 0 0 (MQ below (mQi D dA ad A Q) args s 0 0 A) (F0 m 0 ls []) := by
  have hx := S.1
  have hb := S.2.1
  have hown := S.2.2.2.1
  have hts := S.2.2.2.2
  unfold wpM_text at h
  refine lv_aload_n hx hb dX6_text_0 rfl (lv_at hl 0 rfl) ?_
  refine m_calli S hw [] [] (ctM_parse l D dA ad A a _ h) (cwM_parse hts ⟨Nat.le_of_ble_eq_true rfl, Nat.le_of_ble_eq_true rfl⟩) rfl hl.1 rfl (Nat.le_of_ble_eq_true rfl) dX6_text_1 ⟨Nat.zero_le _, Nat.zero_le _⟩ (fun r1 a1 H locs h hw => ?_)
  refine lv_istore_n (lv' := [(1, .int r1), (0, .ref (ad 38))]) hx hb dX6_text_4 rfl hl (by decide) rfl (fun ls hl => ?_)
  refine lv_iload_n hx hb dX6_text_5 rfl (lv_at hl 0 rfl) ?_
  refine lv_if_ge (tgt := 17) hx hb dX6_text_6 (by decide) (fun c6 => ?_) (fun c6 => ?_)
  · replace h := if_t c6 h
    refine lv_aload_n hx hb dX6_text_17 rfl (lv_at hl 1 rfl) ?_
    refine m_get S hw 0 (by decide) q1338 rfl rfl dX6_text_18 ?_
    refine lv_iconst (v := (1 : Int32)) hx hb dX6_text_21 (by decide) ?_
    refine m_ald S hw 1 0 3098 rfl (by decide) rfl (vlit (by decide)) dX6_text_22 ?_
    refine lv_bipush (v := (14 : Int32)) hx hb dX6_text_23 (by decide) ?_
    refine lv_icmp_ne (tgt := 31) hx hb dX6_text_25 (by decide) (fun c25 => ?_) (fun c25 => ?_)
    · replace h := if_f c25 h
      refine lv_aload_n hx hb dX6_text_31 rfl (lv_at hl 1 rfl) ?_
      refine lv_aload_n hx hb dX6_text_32 rfl (lv_at hl 1 rfl) ?_
      refine m_get S hw 0 (by decide) q1338 rfl rfl dX6_text_33 ?_
      refine lv_iconst (v := (1 : Int32)) hx hb dX6_text_36 (by decide) ?_
      refine m_ald S hw 1 0 3098 rfl (by decide) rfl (vlit (by decide)) dX6_text_37 ?_
      refine m_calli S hw [.int (a1 0 (1 : Int32).toNatClampNeg)] [] (ctM_textAt l D dA ad A a1 (a1 0 (1 : Int32).toNatClampNeg) _ h) (cwM_textAt hts ⟨Nat.le_of_ble_eq_true rfl, Nat.le_of_ble_eq_true rfl⟩) rfl hl.1 rfl (Nat.le_of_ble_eq_true rfl) dX6_text_38 ⟨Nat.zero_le _, Nat.zero_le _⟩ (fun r38 a38 H locs h hw => ?_)
      refine lv_istore_n (lv' := [(2, .int r38), (1, .int r1), (0, .ref (ad 38))]) hx hb dX6_text_41 rfl hl (by decide) rfl (fun ls hl => ?_)
      refine lv_aload_n hx hb dX6_text_42 rfl (lv_at hl 2 rfl) ?_
      refine m_get S hw 0 (by decide) q1338 rfl rfl dX6_text_43 ?_
      refine lv_iload_n hx hb dX6_text_46 rfl (lv_at hl 0 rfl) ?_
      refine lv_iconst (v := (0 : Int32)) hx hb dX6_text_47 (by decide) ?_
      refine lv_iadd hx hb dX6_text_48 ?_
      refine lv_iload_n hx hb dX6_text_49 rfl (lv_at hl 1 rfl) ?_
      refine m_ast S hw 1 0 3098 rfl (by decide) rfl h.1 dX6_text_50 (fun a50 H locs ea50 hw => ?_)
      replace h := h.2 a50 ea50
      refine lv_aload_n hx hb dX6_text_51 rfl (lv_at hl 2 rfl) ?_
      refine m_get S hw 0 (by decide) q1338 rfl rfl dX6_text_52 ?_
      refine lv_iload_n hx hb dX6_text_55 rfl (lv_at hl 0 rfl) ?_
      refine lv_iconst (v := (1 : Int32)) hx hb dX6_text_56 (by decide) ?_
      refine lv_iadd hx hb dX6_text_57 ?_
      refine lv_aload_n hx hb dX6_text_58 rfl (lv_at hl 2 rfl) ?_
      refine m_get S hw 31 (by decide) q1369 rfl rfl dX6_text_59 ?_
      refine m_ast S hw 1 0 3098 rfl (by decide) rfl h.1 dX6_text_62 (fun a62 H locs ea62 hw => ?_)
      replace h := h.2 a62 ea62
      refine lv_aload_n hx hb dX6_text_63 rfl (lv_at hl 2 rfl) ?_
      refine m_get S hw 0 (by decide) q1338 rfl rfl dX6_text_64 ?_
      refine lv_iload_n hx hb dX6_text_67 rfl (lv_at hl 0 rfl) ?_
      refine lv_iconst (v := (2 : Int32)) hx hb dX6_text_68 (by decide) ?_
      refine lv_iadd hx hb dX6_text_69 ?_
      refine lv_aload_n hx hb dX6_text_70 rfl (lv_at hl 2 rfl) ?_
      refine m_get S hw 29 (by decide) q1367 rfl rfl dX6_text_71 ?_
      refine m_ast S hw 1 0 3098 rfl (by decide) rfl h.1 dX6_text_74 (fun a74 H locs ea74 hw => ?_)
      replace h := h.2 a74 ea74
      refine lv_aload_n hx hb dX6_text_75 rfl (lv_at hl 2 rfl) ?_
      refine m_get S hw 0 (by decide) q1338 rfl rfl dX6_text_76 ?_
      refine lv_iconst (v := (1 : Int32)) hx hb dX6_text_79 (by decide) ?_
      refine lv_dup2_11 hx hb dX6_text_80 rfl rfl ?_
      refine m_ald S hw 1 0 3098 rfl (by decide) rfl (vlit (by decide)) dX6_text_81 ?_
      refine lv_iconst (v := (1 : Int32)) hx hb dX6_text_82 (by decide) ?_
      refine lv_iadd hx hb dX6_text_83 ?_
      refine m_ast S hw 1 0 3098 rfl (by decide) rfl (vlit (by decide)) dX6_text_84 (fun a84 H locs ea84 hw => ?_)
      replace h := h a84 ea84
      refine lv_aload_n hx hb dX6_text_85 rfl (lv_at hl 2 rfl) ?_
      refine m_get S hw 0 (by decide) q1338 rfl rfl dX6_text_86 ?_
      refine lv_iconst (v := (1 : Int32)) hx hb dX6_text_89 (by decide) ?_
      refine m_ald S hw 1 0 3098 rfl (by decide) rfl (vlit (by decide)) dX6_text_90 ?_
      refine lv_iconst (v := (1 : Int32)) hx hb dX6_text_91 (by decide) ?_
      refine lv_isub hx hb dX6_text_92 ?_
      exact m_iret S hr hlk hw h dX6_text_93
    · replace h := if_t c25 h
      refine lv_ldc hx hb hown (hts _ q1469) dX6_text_28 ?_
      exact m_iret S hr hlk hw h dX6_text_30
  · replace h := if_f c6 h
    refine lv_bipush (v := (-100 : Int32)) hx hb dX6_text_9 (by decide) ?_
    refine lv_aload_n hx hb dX6_text_11 rfl (lv_at hl 1 rfl) ?_
    refine m_get S hw 22 (by decide) q1360 rfl rfl dX6_text_12 ?_
    refine lv_isub hx hb dX6_text_15 ?_
    exact m_iret S hr hlk hw h dX6_text_16
theorem ctM_text (l : Launch) (D : va_G) (dA : Nat → ClassId) (ad : Nat → Nat) (A : Nat → Prop) (a : MS) (Q : Int32 → MS → Prop) (h : wpM_text a Q) : Met l yX6_text (ws_ yX6_text cX6_text 3 (some .int)) rmM_text (mPc D dA ad A a [.ref (ad 38)]) (mQi D dA ad A Q) 0 0 A :=
  m_met (by decide) rfl rfl rfl (Nat.le_of_ble_eq_true rfl) (fun p e s m below meth c ls S hr hlk hw hl => wkM_text_e S hr hlk Q a _ _ ls h hw hl)
/-! isText -/
abbrev rmM_isText : Room := { frames := 1, cells := 0, slots := 0, locals := 25 }
def wpM_isText (a : MS) (x1 : Int32) (Q : Int32 → MS → Prop) : Prop := wpM_isIn a x1.toInt64 (0 : Int64) ((a 0 (1 : Int32).toNatClampNeg) - (1 : Int32)).toInt64 (fun r12 a12 => zok r12 ∧ Q r12 a12)
set_option maxHeartbeats 4000000 in
set_option maxRecDepth 100000 in
theorem wkM_isText_e (S : CallFix p m c cX6_isText 2 s args lw_all RX6) (hr : meth.sig.returnType = (some .boolean)) (hlk : meth.locks = false) (Q : Int32 → MS → Prop) (x1 : Int32) (a : MS) (H : Heap) (locs : List Loc) (ls : Array Slot) (h : wpM_isText a x1 Q) (hw : MW D dA ad A a s H locs) (hl : lv_has ls 2 [(0, .ref (ad 38)), (1, .int x1)]) : W p l e rmM_isText s m args below meth c H locs 0 0 (MQ below (mQi D dA ad A Q) args s 0 0 A) (F0 m 0 ls []) := by
  have hx := S.1
  have hb := S.2.1
  have hown := S.2.2.2.1
  have hts := S.2.2.2.2
  unfold wpM_isText at h
  refine lv_iload_n hx hb dX6_isText_0 rfl (lv_at hl 1 rfl) ?_
  refine lv_i2l (v := x1.toInt64) hx hb dX6_isText_1 rfl ?_
  refine lv_lconst (v := 0) hx hb dX6_isText_2 (by decide) ?_
  refine lv_aload_n hx hb dX6_isText_3 rfl (lv_at hl 0 rfl) ?_
  refine m_get S hw 0 (by decide) q1338 rfl rfl dX6_isText_4 ?_
  refine lv_iconst (v := (1 : Int32)) hx hb dX6_isText_7 (by decide) ?_
  refine m_ald S hw 1 0 3098 rfl (by decide) rfl (vlit (by decide)) dX6_isText_8 ?_
  refine lv_iconst (v := (1 : Int32)) hx hb dX6_isText_9 (by decide) ?_
  refine lv_isub hx hb dX6_isText_10 ?_
  refine lv_i2l (v := ((a 0 (1 : Int32).toNatClampNeg) - (1 : Int32)).toInt64) hx hb dX6_isText_11 rfl ?_
  refine m_callSi S hw [.long x1.toInt64, .long (0 : Int64), .long ((a 0 (1 : Int32).toNatClampNeg) - (1 : Int32)).toInt64] [] (ctM_isIn l D dA ad A a x1.toInt64 (0 : Int64) ((a 0 (1 : Int32).toNatClampNeg) - (1 : Int32)).toInt64 _ h) (cwM_isIn hts ⟨Nat.le_of_ble_eq_true rfl, Nat.le_of_ble_eq_true rfl⟩) rfl hl.1 rfl (Nat.le_of_ble_eq_true rfl) dX6_isText_12 ⟨Nat.zero_le _, Nat.zero_le _⟩ (fun r12 a12 H locs h hw => ?_)
  exact m_zret S hr hlk hw h.1 h.2 dX6_isText_15
theorem ctM_isText (l : Launch) (D : va_G) (dA : Nat → ClassId) (ad : Nat → Nat) (A : Nat → Prop) (a : MS) (x1 : Int32) (Q : Int32 → MS → Prop) (h : wpM_isText a x1 Q) : Met l yX6_isText (ws_ yX6_isText cX6_isText 2 (some .boolean)) rmM_isText (mPc D dA ad A a [.ref (ad 38), .int x1]) (mQi D dA ad A Q) 0 0 A :=
  m_met (by decide) rfl rfl rfl (Nat.le_of_ble_eq_true rfl) (fun p e s m below meth c ls S hr hlk hw hl => wkM_isText_e S hr hlk Q x1 a _ _ ls h hw hl)
theorem cwM_isText {R : Room} {s : State} {args : Array Value} {rm : Room} (hts : ∀ w ∈ lw_all, w.before args s = true) (hR : rm.frames + 1 ≤ R.frames ∧ 8 + (2 + 11) + rm.locals ≤ R.locals) (hc : rm.cells = 0 := by rfl) (hs : rm.slots = 0 := by rfl) : CallW R s args RX6 RX6 329 yX6_isText cX6_isText 2 (some .boolean) (ws_ yX6_isText cX6_isText 2 (some .boolean)) rm 0 0 1 :=
  cwV 1 hts (lw_V q1810 q1812 qs100 q112 q1813) rfl hc hs (by decide +kernel) hR
/-! textTold -/
abbrev rmM_textTold : Room := { frames := 2, cells := 0, slots := 0, locals := 46 }
def wpM_textTold (a : MS) (x1 : Int32) (x2 : Int32) (Q : Int32 → MS → Prop) : Prop := wpM_isText a x1 (fun r2 a2 => if r2 = 0 then (Q (-1000000001 : Int32) a2) else (wpM_isIn a2 x2.toInt64 (0 : Int64) (1 : Int64) (fun r12 a12 => if r12 = 0 then (Q (-1000000001 : Int32) a12) else (wpM_textAt a12 x1 (fun r27 a27 => vp_in (r27 + x2) 3098 ∧ (Q (a27 0 (r27 + x2).toNatClampNeg) a27))))))
set_option maxHeartbeats 4000000 in
set_option maxRecDepth 100000 in
theorem wkM_textTold_e (S : CallFix p m c cX6_textTold 3 s args lw_all RX6) (hr : meth.sig.returnType = (some .int)) (hlk : meth.locks = false) (Q : Int32 → MS → Prop) (x1 : Int32) (x2 : Int32) (a : MS) (H : Heap) (locs : List Loc) (ls : Array Slot) (h : wpM_textTold a x1 x2 Q) (hw : MW D dA ad A a s H locs) (hl : lv_has ls 3 [(0, .ref (ad 38)), (1, .int x1), (2, .int x2)]) : W p l e rmM_textTold s m args below meth c H locs 0 0 (MQ below (mQi D dA ad A Q) args s 0 0 A) (F0 m 0 ls []) := by
  have hx := S.1
  have hb := S.2.1
  have hown := S.2.2.2.1
  have hts := S.2.2.2.2
  unfold wpM_textTold at h
  refine lv_aload_n hx hb dX6_textTold_0 rfl (lv_at hl 0 rfl) ?_
  refine lv_iload_n hx hb dX6_textTold_1 rfl (lv_at hl 1 rfl) ?_
  refine m_calli S hw [.int x1] [] (ctM_isText l D dA ad A a x1 _ h) (cwM_isText hts ⟨Nat.le_of_ble_eq_true rfl, Nat.le_of_ble_eq_true rfl⟩) rfl hl.1 rfl (Nat.le_of_ble_eq_true rfl) dX6_textTold_2 ⟨Nat.zero_le _, Nat.zero_le _⟩ (fun r2 a2 H locs h hw => ?_)
  refine lv_if_eq (tgt := 18) hx hb dX6_textTold_5 (by decide) (fun c5 => ?_) (fun c5 => ?_)
  · replace h := if_t c5 h
    refine lv_ldc hx hb hown (hts _ q1468) dX6_textTold_18 ?_
    exact m_iret S hr hlk hw h dX6_textTold_20
  · replace h := if_f c5 h
    refine lv_iload_n hx hb dX6_textTold_8 rfl (lv_at hl 2 rfl) ?_
    refine lv_i2l (v := x2.toInt64) hx hb dX6_textTold_9 rfl ?_
    refine lv_lconst (v := 0) hx hb dX6_textTold_10 (by decide) ?_
    refine lv_lconst (v := 1) hx hb dX6_textTold_11 (by decide) ?_
    refine m_callSi S hw [.long x2.toInt64, .long (0 : Int64), .long (1 : Int64)] [] (ctM_isIn l D dA ad A a2 x2.toInt64 (0 : Int64) (1 : Int64) _ h) (cwM_isIn hts ⟨Nat.le_of_ble_eq_true rfl, Nat.le_of_ble_eq_true rfl⟩) rfl hl.1 rfl (Nat.le_of_ble_eq_true rfl) dX6_textTold_12 ⟨Nat.zero_le _, Nat.zero_le _⟩ (fun r12 a12 H locs h hw => ?_)
    refine lv_if_ne (tgt := 21) hx hb dX6_textTold_15 (by decide) (fun c15 => ?_) (fun c15 => ?_)
    · replace h := if_f c15 h
      refine lv_aload_n hx hb dX6_textTold_21 rfl (lv_at hl 0 rfl) ?_
      refine m_get S hw 0 (by decide) q1338 rfl rfl dX6_textTold_22 ?_
      refine lv_aload_n hx hb dX6_textTold_25 rfl (lv_at hl 0 rfl) ?_
      refine lv_iload_n hx hb dX6_textTold_26 rfl (lv_at hl 1 rfl) ?_
      refine m_calli S hw [.int x1] [.ref (ad 0)] (ctM_textAt l D dA ad A a12 x1 _ h) (cwM_textAt hts ⟨Nat.le_of_ble_eq_true rfl, Nat.le_of_ble_eq_true rfl⟩) rfl hl.1 rfl (Nat.le_of_ble_eq_true rfl) dX6_textTold_27 ⟨Nat.zero_le _, Nat.zero_le _⟩ (fun r27 a27 H locs h hw => ?_)
      refine lv_iload_n hx hb dX6_textTold_30 rfl (lv_at hl 2 rfl) ?_
      refine lv_iadd hx hb dX6_textTold_31 ?_
      refine m_ald S hw 1 0 3098 rfl (by decide) rfl h.1 dX6_textTold_32 ?_
      replace h := h.2
      exact m_iret S hr hlk hw h dX6_textTold_33
    · replace h := if_t c15 h
      refine lv_ldc hx hb hown (hts _ q1468) dX6_textTold_18 ?_
      exact m_iret S hr hlk hw h dX6_textTold_20
theorem ctM_textTold (l : Launch) (D : va_G) (dA : Nat → ClassId) (ad : Nat → Nat) (A : Nat → Prop) (a : MS) (x1 : Int32) (x2 : Int32) (Q : Int32 → MS → Prop) (h : wpM_textTold a x1 x2 Q) : Met l yX6_textTold (ws_ yX6_textTold cX6_textTold 3 (some .int)) rmM_textTold (mPc D dA ad A a [.ref (ad 38), .int x1, .int x2]) (mQi D dA ad A Q) 0 0 A :=
  m_met (by decide) rfl rfl rfl (Nat.le_of_ble_eq_true rfl) (fun p e s m below meth c ls S hr hlk hw hl => wkM_textTold_e S hr hlk Q x1 x2 a _ _ ls h hw hl)
/-! why -/
abbrev rmM_why : Room := { frames := 2, cells := 0, slots := 0, locals := 44 }
def wpM_why (a : MS) (x1 : Int32) (Q : Int32 → MS → Prop) : Prop := wpM_isIn a x1.toInt64 (0 : Int64) (2 : Int64) (fun r6 a6 => if r6 = 0 then (Q (-1000000001 : Int32) a6) else (wpM_counts a6 x1 (fun r14 a14 => wpM_orNone a14 r14 (fun r17 a17 => Q r17 a17))))
set_option maxHeartbeats 4000000 in
set_option maxRecDepth 100000 in
theorem wkM_why_e (S : CallFix p m c cX6_why 2 s args lw_all RX6) (hr : meth.sig.returnType = (some .int)) (hlk : meth.locks = false) (Q : Int32 → MS → Prop) (x1 : Int32) (a : MS) (H : Heap) (locs : List Loc) (ls : Array Slot) (h : wpM_why a x1 Q) (hw : MW D dA ad A a s H locs) (hl : lv_has ls 2 [(0, .ref (ad 38)), (1, .int x1)]) : W p l e rmM_why s m args below meth c H locs 0 0 (MQ below (mQi D dA ad A Q) args s 0 0 A) (F0 m 0 ls []) := by
  have hx := S.1
  have hb := S.2.1
  have hown := S.2.2.2.1
  have hts := S.2.2.2.2
  unfold wpM_why at h
  refine lv_iload_n hx hb dX6_why_0 rfl (lv_at hl 1 rfl) ?_
  refine lv_i2l (v := x1.toInt64) hx hb dX6_why_1 rfl ?_
  refine lv_lconst (v := 0) hx hb dX6_why_2 (by decide) ?_
  refine lv_ldc2 hx hb hown (hts _ q1552) dX6_why_3 ?_
  refine m_callSi S hw [.long x1.toInt64, .long (0 : Int64), .long (2 : Int64)] [] (ctM_isIn l D dA ad A a x1.toInt64 (0 : Int64) (2 : Int64) _ h) (cwM_isIn hts ⟨Nat.le_of_ble_eq_true rfl, Nat.le_of_ble_eq_true rfl⟩) rfl hl.1 rfl (Nat.le_of_ble_eq_true rfl) dX6_why_6 ⟨Nat.zero_le _, Nat.zero_le _⟩ (fun r6 a6 H locs h hw => ?_)
  refine lv_if_eq (tgt := 23) hx hb dX6_why_9 (by decide) (fun c9 => ?_) (fun c9 => ?_)
  · replace h := if_t c9 h
    refine lv_ldc hx hb hown (hts _ q1468) dX6_why_23 ?_
    exact m_iret S hr hlk hw h dX6_why_25
  · replace h := if_f c9 h
    refine lv_aload_n hx hb dX6_why_12 rfl (lv_at hl 0 rfl) ?_
    refine lv_iload_n hx hb dX6_why_13 rfl (lv_at hl 1 rfl) ?_
    refine m_calli S hw [.int x1] [] (ctM_counts l D dA ad A a6 x1 _ h) (cwM_counts hts ⟨Nat.le_of_ble_eq_true rfl, Nat.le_of_ble_eq_true rfl⟩) rfl hl.1 rfl (Nat.le_of_ble_eq_true rfl) dX6_why_14 ⟨Nat.zero_le _, Nat.zero_le _⟩ (fun r14 a14 H locs h hw => ?_)
    refine m_callSi S hw [.int r14] [] (ctM_orNone l D dA ad A a14 r14 _ h) (cwM_orNone hts ⟨Nat.le_of_ble_eq_true rfl, Nat.le_of_ble_eq_true rfl⟩) rfl hl.1 rfl (Nat.le_of_ble_eq_true rfl) dX6_why_17 ⟨Nat.zero_le _, Nat.zero_le _⟩ (fun r17 a17 H locs h hw => ?_)
    refine lv_goto (tgt := 25) hx hb dX6_why_20 (by decide) ?_
    exact m_iret S hr hlk hw h dX6_why_25
theorem ctM_why (l : Launch) (D : va_G) (dA : Nat → ClassId) (ad : Nat → Nat) (A : Nat → Prop) (a : MS) (x1 : Int32) (Q : Int32 → MS → Prop) (h : wpM_why a x1 Q) : Met l yX6_why (ws_ yX6_why cX6_why 2 (some .int)) rmM_why (mPc D dA ad A a [.ref (ad 38), .int x1]) (mQi D dA ad A Q) 0 0 A :=
  m_met (by decide) rfl rfl rfl (Nat.le_of_ble_eq_true rfl) (fun p e s m below meth c ls S hr hlk hw hl => wkM_why_e S hr hlk Q x1 a _ _ ls h hw hl)
/-! isSheet -/
abbrev rmM_isSheet : Room := { frames := 1, cells := 0, slots := 0, locals := 25 }
def wpM_isSheet (a : MS) (x0 : Int32) (Q : Int32 → MS → Prop) : Prop := wpM_isIn a x0.toInt64 (0 : Int64) (3 : Int64) (fun r6 a6 => zok r6 ∧ Q r6 a6)
set_option maxHeartbeats 4000000 in
set_option maxRecDepth 100000 in
theorem wkM_isSheet_e (S : CallFix p m c cX6_isSheet 1 s args lw_all RX6) (hr : meth.sig.returnType = (some .boolean)) (hlk : meth.locks = false) (Q : Int32 → MS → Prop) (x0 : Int32) (a : MS) (H : Heap) (locs : List Loc) (ls : Array Slot) (h : wpM_isSheet a x0 Q) (hw : MW D dA ad A a s H locs) (hl : lv_has ls 1 [(0, .int x0)]) : W p l e rmM_isSheet s m args below meth c H locs 0 0 (MQ below (mQi D dA ad A Q) args s 0 0 A) (F0 m 0 ls []) := by
  have hx := S.1
  have hb := S.2.1
  have hown := S.2.2.2.1
  have hts := S.2.2.2.2
  unfold wpM_isSheet at h
  refine lv_iload_n hx hb dX6_isSheet_0 rfl (lv_at hl 0 rfl) ?_
  refine lv_i2l (v := x0.toInt64) hx hb dX6_isSheet_1 rfl ?_
  refine lv_lconst (v := 0) hx hb dX6_isSheet_2 (by decide) ?_
  refine lv_ldc2 hx hb hown (hts _ q1713) dX6_isSheet_3 ?_
  refine m_callSi S hw [.long x0.toInt64, .long (0 : Int64), .long (3 : Int64)] [] (ctM_isIn l D dA ad A a x0.toInt64 (0 : Int64) (3 : Int64) _ h) (cwM_isIn hts ⟨Nat.le_of_ble_eq_true rfl, Nat.le_of_ble_eq_true rfl⟩) rfl hl.1 rfl (Nat.le_of_ble_eq_true rfl) dX6_isSheet_6 ⟨Nat.zero_le _, Nat.zero_le _⟩ (fun r6 a6 H locs h hw => ?_)
  exact m_zret S hr hlk hw h.1 h.2 dX6_isSheet_9
theorem ctM_isSheet (l : Launch) (D : va_G) (dA : Nat → ClassId) (ad : Nat → Nat) (A : Nat → Prop) (a : MS) (x0 : Int32) (Q : Int32 → MS → Prop) (h : wpM_isSheet a x0 Q) : Met l yX6_isSheet (ws_ yX6_isSheet cX6_isSheet 1 (some .boolean)) rmM_isSheet (mPc D dA ad A a [.int x0]) (mQi D dA ad A Q) 0 0 A :=
  m_met (by decide) rfl rfl rfl (Nat.le_of_ble_eq_true rfl) (fun p e s m below meth c ls S hr hlk hw hl => wkM_isSheet_e S hr hlk Q x0 a _ _ ls h hw hl)
theorem cwM_isSheet {R : Room} {s : State} {args : Array Value} {rm : Room} (hts : ∀ w ∈ lw_all, w.before args s = true) (hR : rm.frames + 1 ≤ R.frames ∧ 8 + (1 + 11) + rm.locals ≤ R.locals) (hc : rm.cells = 0 := by rfl) (hs : rm.slots = 0 := by rfl) : CallB R s args RX6 336 yX6_isSheet cX6_isSheet 1 (some .boolean) (ws_ yX6_isSheet cX6_isSheet 1 (some .boolean)) rm 0 0 1 ∧ (Cond.static yX6_isSheet).before args s = true :=
  va_cwS 1 hts (lw_S q1822 q1823 q112 q1824) rfl hc hs (by decide +kernel) hR
/-! sheet -/
abbrev rmM_sheet : Room := { frames := 2, cells := 0, slots := 0, locals := 45 }
def bkM_sheet_69 (Q : Int32 → MS → Prop) (x1 : Int32) (x2 : Int32) (x3 : Int32) : Nat → Int32 → MS → Prop
  | 0 => fun _ _ => False
  | n + 1 => fun x4 a => if (24 : Int32) ≤ x4 then (vp_in x1 4 ∧ (Q (a 5 x1.toNatClampNeg) a)) else (vp_in (((24 : Int32) * x1) + x4) 96 ∧ (∀ a88 : MS, a88 = up2 a 6 (((24 : Int32) * x1) + x4).toNatClampNeg (0 : Int32) → (bkM_sheet_69 Q x1 x2 x3 n (x4 + (1 : Int32)) a88)))
set_option maxHeartbeats 4000000 in
set_option maxRecDepth 100000 in
theorem wkM_sheet_69 (S : CallFix p m c cX6_sheet 5 s args lw_all RX6) (hr : meth.sig.returnType = (some .int)) (hlk : meth.locks = false) (Q : Int32 → MS → Prop) (x1 : Int32) (x2 : Int32) (x3 : Int32) : ∀ (n : Nat) (x4 : Int32) (a : MS) (H : Heap) (locs : List Loc) (ls : Array Slot), bkM_sheet_69 Q x1 x2 x3 n x4 a → MW D dA ad A a s H locs → lv_has ls 5 [(0, .ref (ad 38)), (1, .int x1), (4, .int x4)] → W p l e rmM_sheet s m args below meth c H locs 0 0 (MQ below (mQi D dA ad A Q) args s 0 0 A) (F0 m 69 ls []) := by
  have hx := S.1
  have hb := S.2.1
  have hown := S.2.2.2.1
  have hts := S.2.2.2.2
  intro n
  induction n with
  | zero =>
    intro x4 a H locs ls h
    exact False.elim h
  | succ n ih =>
    intro x4 a H locs ls h hw hl
    unfold bkM_sheet_69 at h
    refine lv_iload hx hb dX6_sheet_69 (lv_at hl 2 rfl) ?_
    refine lv_bipush (v := (24 : Int32)) hx hb dX6_sheet_71 (by decide) ?_
    refine lv_icmp_ge (tgt := 95) hx hb dX6_sheet_73 (by decide) (fun c73 => ?_) (fun c73 => ?_)
    · replace h := if_t c73 h
      refine lv_aload_n hx hb dX6_sheet_95 rfl (lv_at hl 0 rfl) ?_
      refine m_get S hw 5 (by decide) q1343 rfl rfl dX6_sheet_96 ?_
      refine lv_iload_n hx hb dX6_sheet_99 rfl (lv_at hl 1 rfl) ?_
      refine m_ald S hw 5 5 4 rfl (by decide) rfl h.1 dX6_sheet_100 ?_
      replace h := h.2
      exact m_iret S hr hlk hw h dX6_sheet_101
    · replace h := if_f c73 h
      refine lv_aload_n hx hb dX6_sheet_76 rfl (lv_at hl 0 rfl) ?_
      refine m_get S hw 6 (by decide) q1344 rfl rfl dX6_sheet_77 ?_
      refine lv_bipush (v := (24 : Int32)) hx hb dX6_sheet_80 (by decide) ?_
      refine lv_iload_n hx hb dX6_sheet_82 rfl (lv_at hl 1 rfl) ?_
      refine lv_imul hx hb dX6_sheet_83 ?_
      refine lv_iload hx hb dX6_sheet_84 (lv_at hl 2 rfl) ?_
      refine lv_iadd hx hb dX6_sheet_86 ?_
      refine lv_iconst (v := (0 : Int32)) hx hb dX6_sheet_87 (by decide) ?_
      refine m_ast S hw 6 6 96 rfl (by decide) rfl h.1 dX6_sheet_88 (fun a88 H locs ea88 hw => ?_)
      replace h := h.2 a88 ea88
      refine lv_iinc (v := (x4 + (1 : Int32))) (lv' := [(4, .int (x4 + (1 : Int32))), (0, .ref (ad 38)), (1, .int x1)]) hx hb dX6_sheet_89 hl (k := 2) rfl rfl (by decide) rfl (fun ls hl => ?_)
      refine lv_goto (tgt := 69) hx hb dX6_sheet_92 (by decide) ?_
      exact ih _ _ _ _ _ h hw (lv_sub hl [1, 2, 0] rfl)
def bkM_sheet_65 (Q : Int32 → MS → Prop) (x1 : Int32) (x2 : Int32) (x3 : Int32) : Int32 → Int32 → MS → Prop := fun s1 s2 a => vp_in s1 4 ∧ (∀ a65 : MS, a65 = up2 a 5 s1.toNatClampNeg s2 → (∃ n69, bkM_sheet_69 Q x1 x2 x3 n69 (0 : Int32) a65))
set_option maxHeartbeats 4000000 in
set_option maxRecDepth 100000 in
theorem wkM_sheet_65 (S : CallFix p m c cX6_sheet 5 s args lw_all RX6) (hr : meth.sig.returnType = (some .int)) (hlk : meth.locks = false) (Q : Int32 → MS → Prop) (x1 : Int32) (x2 : Int32) (x3 : Int32) : ∀ (s1 : Int32) (s2 : Int32) (a : MS) (H : Heap) (locs : List Loc) (ls : Array Slot), bkM_sheet_65 Q x1 x2 x3 s1 s2 a → MW D dA ad A a s H locs → lv_has ls 5 [(0, .ref (ad 38)), (1, .int x1)] → W p l e rmM_sheet s m args below meth c H locs 0 0 (MQ below (mQi D dA ad A Q) args s 0 0 A) (F0 m 65 ls [.int s2, .int s1, .ref (ad 5)]) := by
  have hx := S.1
  have hb := S.2.1
  have hown := S.2.2.2.1
  have hts := S.2.2.2.2
  intro s1 s2 a H locs ls h hw hl
  unfold bkM_sheet_65 at h
  refine m_ast S hw 5 5 4 rfl (by decide) rfl h.1 dX6_sheet_65 (fun a65 H locs ea65 hw => ?_)
  replace h := h.2 a65 ea65
  refine lv_iconst (v := (0 : Int32)) hx hb dX6_sheet_66 (by decide) ?_
  refine lv_istore (lv' := [(4, .int (0 : Int32)), (0, .ref (ad 38)), (1, .int x1)]) hx hb dX6_sheet_67 hl (by decide) rfl (fun ls hl => ?_)
  obtain ⟨n69, h⟩ := h
  exact wkM_sheet_69 S hr hlk Q x1 x2 x3 n69 _ _ _ _ _ h hw (lv_sub hl [1, 2, 0] rfl)
def bkM_sheet_44 (Q : Int32 → MS → Prop) (x1 : Int32) (x2 : Int32) (x3 : Int32) : MS → Prop := fun a => vp_in x1 4 ∧ (∀ a50 : MS, a50 = up2 a 4 x1.toNatClampNeg x2 → (if 0 ≤ x2 then (bkM_sheet_65 Q x1 x2 x3 x1 x3 a50) else (bkM_sheet_65 Q x1 x2 x3 x1 (0 : Int32) a50)))
set_option maxHeartbeats 4000000 in
set_option maxRecDepth 100000 in
theorem wkM_sheet_44 (S : CallFix p m c cX6_sheet 5 s args lw_all RX6) (hr : meth.sig.returnType = (some .int)) (hlk : meth.locks = false) (Q : Int32 → MS → Prop) (x1 : Int32) (x2 : Int32) (x3 : Int32) : ∀ (a : MS) (H : Heap) (locs : List Loc) (ls : Array Slot), bkM_sheet_44 Q x1 x2 x3 a → MW D dA ad A a s H locs → lv_has ls 5 [(0, .ref (ad 38)), (1, .int x1), (2, .int x2), (3, .int x3)] → W p l e rmM_sheet s m args below meth c H locs 0 0 (MQ below (mQi D dA ad A Q) args s 0 0 A) (F0 m 44 ls []) := by
  have hx := S.1
  have hb := S.2.1
  have hown := S.2.2.2.1
  have hts := S.2.2.2.2
  intro  a H locs ls h hw hl
  unfold bkM_sheet_44 at h
  refine lv_aload_n hx hb dX6_sheet_44 rfl (lv_at hl 0 rfl) ?_
  refine m_get S hw 4 (by decide) q1342 rfl rfl dX6_sheet_45 ?_
  refine lv_iload_n hx hb dX6_sheet_48 rfl (lv_at hl 1 rfl) ?_
  refine lv_iload_n hx hb dX6_sheet_49 rfl (lv_at hl 2 rfl) ?_
  refine m_ast S hw 4 4 4 rfl (by decide) rfl h.1 dX6_sheet_50 (fun a50 H locs ea50 hw => ?_)
  replace h := h.2 a50 ea50
  refine lv_aload_n hx hb dX6_sheet_51 rfl (lv_at hl 0 rfl) ?_
  refine m_get S hw 5 (by decide) q1343 rfl rfl dX6_sheet_52 ?_
  refine lv_iload_n hx hb dX6_sheet_55 rfl (lv_at hl 1 rfl) ?_
  refine lv_iload_n hx hb dX6_sheet_56 rfl (lv_at hl 2 rfl) ?_
  refine lv_if_ge (tgt := 64) hx hb dX6_sheet_57 (by decide) (fun c57 => ?_) (fun c57 => ?_)
  · replace h := if_t c57 h
    refine lv_iload_n hx hb dX6_sheet_64 rfl (lv_at hl 3 rfl) ?_
    exact wkM_sheet_65 S hr hlk Q x1 x2 x3 _ _ _ _ _ _ h hw (lv_sub hl [0, 1] rfl)
  · replace h := if_f c57 h
    refine lv_iconst (v := (0 : Int32)) hx hb dX6_sheet_60 (by decide) ?_
    refine lv_goto (tgt := 65) hx hb dX6_sheet_61 (by decide) ?_
    exact wkM_sheet_65 S hr hlk Q x1 x2 x3 _ _ _ _ _ _ h hw (lv_sub hl [0, 1] rfl)
def bkM_sheet_32 (Q : Int32 → MS → Prop) (x1 : Int32) (x2 : Int32) (x3 : Int32) : MS → Prop := fun a => if x2 < 0 then (bkM_sheet_44 Q x1 x2 x3 a) else (if 0 ≤ x3 then (bkM_sheet_44 Q x1 x2 x3 a) else (Q (-1000000014 : Int32) a))
set_option maxHeartbeats 4000000 in
set_option maxRecDepth 100000 in
theorem wkM_sheet_32 (S : CallFix p m c cX6_sheet 5 s args lw_all RX6) (hr : meth.sig.returnType = (some .int)) (hlk : meth.locks = false) (Q : Int32 → MS → Prop) (x1 : Int32) (x2 : Int32) (x3 : Int32) : ∀ (a : MS) (H : Heap) (locs : List Loc) (ls : Array Slot), bkM_sheet_32 Q x1 x2 x3 a → MW D dA ad A a s H locs → lv_has ls 5 [(0, .ref (ad 38)), (1, .int x1), (2, .int x2), (3, .int x3)] → W p l e rmM_sheet s m args below meth c H locs 0 0 (MQ below (mQi D dA ad A Q) args s 0 0 A) (F0 m 32 ls []) := by
  have hx := S.1
  have hb := S.2.1
  have hown := S.2.2.2.1
  have hts := S.2.2.2.2
  intro  a H locs ls h hw hl
  unfold bkM_sheet_32 at h
  refine lv_iload_n hx hb dX6_sheet_32 rfl (lv_at hl 2 rfl) ?_
  refine lv_if_lt (tgt := 44) hx hb dX6_sheet_33 (by decide) (fun c33 => ?_) (fun c33 => ?_)
  · replace h := if_t c33 h
    exact wkM_sheet_44 S hr hlk Q x1 x2 x3 _ _ _ _ h hw (lv_sub hl [0, 1, 2, 3] rfl)
  · replace h := if_f c33 h
    refine lv_iload_n hx hb dX6_sheet_36 rfl (lv_at hl 3 rfl) ?_
    refine lv_if_ge (tgt := 44) hx hb dX6_sheet_37 (by decide) (fun c37 => ?_) (fun c37 => ?_)
    · replace h := if_t c37 h
      exact wkM_sheet_44 S hr hlk Q x1 x2 x3 _ _ _ _ h hw (lv_sub hl [0, 1, 2, 3] rfl)
    · replace h := if_f c37 h
      refine lv_ldcw hx hb hown (hts _ q1826) dX6_sheet_40 ?_
      exact m_iret S hr hlk hw h dX6_sheet_43
def wpM_sheet (a : MS) (x1 : Int32) (x2 : Int32) (x3 : Int32) (Q : Int32 → MS → Prop) : Prop := wpM_isSheet a x1 (fun r1 a1 => if r1 = 0 then (Q (-1000000001 : Int32) a1) else (wpM_isIn a1 x2.toInt64 (-1 : Int64) (1 : Int64) (fun r13 a13 => if r13 = 0 then (Q (-1000000001 : Int32) a13) else (if x2 < 0 then (bkM_sheet_32 Q x1 x2 x3 a13) else (if x3 ≤ (24 : Int32) then (bkM_sheet_32 Q x1 x2 x3 a13) else (Q (-1000000001 : Int32) a13))))))
set_option maxHeartbeats 4000000 in
set_option maxRecDepth 100000 in
theorem wkM_sheet_e (S : CallFix p m c cX6_sheet 5 s args lw_all RX6) (hr : meth.sig.returnType = (some .int)) (hlk : meth.locks = false) (Q : Int32 → MS → Prop) (x1 : Int32) (x2 : Int32) (x3 : Int32) (a : MS) (H : Heap) (locs : List Loc) (ls : Array Slot) (h : wpM_sheet a x1 x2 x3 Q) (hw : MW D dA ad A a s H locs) (hl : lv_has ls 5 [(0, .ref (ad 38)), (1, .int x1), (2, .int x2), (3, .int x3)]) : W p l e rmM_sheet s m args below meth c H locs 0 0 (MQ below (mQi D dA ad A Q) args s 0 0 A) (F0 m 0 ls []) := by
  have hx := S.1
  have hb := S.2.1
  have hown := S.2.2.2.1
  have hts := S.2.2.2.2
  unfold wpM_sheet at h
  refine lv_iload_n hx hb dX6_sheet_0 rfl (lv_at hl 1 rfl) ?_
  refine m_callSi S hw [.int x1] [] (ctM_isSheet l D dA ad A a x1 _ h) (cwM_isSheet hts ⟨Nat.le_of_ble_eq_true rfl, Nat.le_of_ble_eq_true rfl⟩) rfl hl.1 rfl (Nat.le_of_ble_eq_true rfl) dX6_sheet_1 ⟨Nat.zero_le _, Nat.zero_le _⟩ (fun r1 a1 H locs h hw => ?_)
  refine lv_if_eq (tgt := 29) hx hb dX6_sheet_4 (by decide) (fun c4 => ?_) (fun c4 => ?_)
  · replace h := if_t c4 h
    refine lv_ldc hx hb hown (hts _ q1468) dX6_sheet_29 ?_
    exact m_iret S hr hlk hw h dX6_sheet_31
  · replace h := if_f c4 h
    refine lv_iload_n hx hb dX6_sheet_7 rfl (lv_at hl 2 rfl) ?_
    refine lv_i2l (v := x2.toInt64) hx hb dX6_sheet_8 rfl ?_
    refine lv_ldc2 hx hb hown (hts _ q1825) dX6_sheet_9 ?_
    refine lv_lconst (v := 1) hx hb dX6_sheet_12 (by decide) ?_
    refine m_callSi S hw [.long x2.toInt64, .long (-1 : Int64), .long (1 : Int64)] [] (ctM_isIn l D dA ad A a1 x2.toInt64 (-1 : Int64) (1 : Int64) _ h) (cwM_isIn hts ⟨Nat.le_of_ble_eq_true rfl, Nat.le_of_ble_eq_true rfl⟩) rfl hl.1 rfl (Nat.le_of_ble_eq_true rfl) dX6_sheet_13 ⟨Nat.zero_le _, Nat.zero_le _⟩ (fun r13 a13 H locs h hw => ?_)
    refine lv_if_eq (tgt := 29) hx hb dX6_sheet_16 (by decide) (fun c16 => ?_) (fun c16 => ?_)
    · replace h := if_t c16 h
      refine lv_ldc hx hb hown (hts _ q1468) dX6_sheet_29 ?_
      exact m_iret S hr hlk hw h dX6_sheet_31
    · replace h := if_f c16 h
      refine lv_iload_n hx hb dX6_sheet_19 rfl (lv_at hl 2 rfl) ?_
      refine lv_if_lt (tgt := 32) hx hb dX6_sheet_20 (by decide) (fun c20 => ?_) (fun c20 => ?_)
      · replace h := if_t c20 h
        exact wkM_sheet_32 S hr hlk Q x1 x2 x3 _ _ _ _ h hw (lv_sub hl [0, 1, 2, 3] rfl)
      · replace h := if_f c20 h
        refine lv_iload_n hx hb dX6_sheet_23 rfl (lv_at hl 3 rfl) ?_
        refine lv_bipush (v := (24 : Int32)) hx hb dX6_sheet_24 (by decide) ?_
        refine lv_icmp_le (tgt := 32) hx hb dX6_sheet_26 (by decide) (fun c26 => ?_) (fun c26 => ?_)
        · replace h := if_t c26 h
          exact wkM_sheet_32 S hr hlk Q x1 x2 x3 _ _ _ _ h hw (lv_sub hl [0, 1, 2, 3] rfl)
        · replace h := if_f c26 h
          refine lv_ldc hx hb hown (hts _ q1468) dX6_sheet_29 ?_
          exact m_iret S hr hlk hw h dX6_sheet_31
theorem ctM_sheet (l : Launch) (D : va_G) (dA : Nat → ClassId) (ad : Nat → Nat) (A : Nat → Prop) (a : MS) (x1 : Int32) (x2 : Int32) (x3 : Int32) (Q : Int32 → MS → Prop) (h : wpM_sheet a x1 x2 x3 Q) : Met l yX6_sheet (ws_ yX6_sheet cX6_sheet 5 (some .int)) rmM_sheet (mPc D dA ad A a [.ref (ad 38), .int x1, .int x2, .int x3]) (mQi D dA ad A Q) 0 0 A :=
  m_met (by decide) rfl rfl rfl (Nat.le_of_ble_eq_true rfl) (fun p e s m below meth c ls S hr hlk hw hl => wkM_sheet_e S hr hlk Q x1 x2 x3 a _ _ ls h hw hl)
/-! mark -/
abbrev rmM_mark : Room := { frames := 2, cells := 0, slots := 0, locals := 45 }
def bkM_mark_96 (Q : Int32 → MS → Prop) (x1 : Int32) (x2 : Int32) (x3 : Int32) : MS → Prop := fun a => vp_in x1 4 ∧ (if (a 4 x1.toNatClampNeg) = 0 then (vp_in (((24 : Int32) * x1) + x2) 96 ∧ (∀ a126 : MS, a126 = up2 a 6 (((24 : Int32) * x1) + x2).toNatClampNeg (ishr (ishl x3 (16 : Int32)) (16 : Int32)) → (Q (1 : Int32) a126))) else (vp_in (((24 : Int32) * x1) + x2) 96 ∧ (∀ a126 : MS, a126 = up2 a 6 (((24 : Int32) * x1) + x2).toNatClampNeg x3 → (Q (1 : Int32) a126))))
set_option maxHeartbeats 4000000 in
set_option maxRecDepth 100000 in
theorem wkM_mark_96 (S : CallFix p m c cX6_mark 4 s args lw_all RX6) (hr : meth.sig.returnType = (some .int)) (hlk : meth.locks = false) (Q : Int32 → MS → Prop) (x1 : Int32) (x2 : Int32) (x3 : Int32) : ∀ (a : MS) (H : Heap) (locs : List Loc) (ls : Array Slot), bkM_mark_96 Q x1 x2 x3 a → MW D dA ad A a s H locs → lv_has ls 4 [(0, .ref (ad 38)), (1, .int x1), (2, .int x2), (3, .int x3)] → W p l e rmM_mark s m args below meth c H locs 0 0 (MQ below (mQi D dA ad A Q) args s 0 0 A) (F0 m 96 ls []) := by
  have hx := S.1
  have hb := S.2.1
  have hown := S.2.2.2.1
  have hts := S.2.2.2.2
  intro  a H locs ls h hw hl
  unfold bkM_mark_96 at h
  refine lv_aload_n hx hb dX6_mark_96 rfl (lv_at hl 0 rfl) ?_
  refine m_get S hw 6 (by decide) q1344 rfl rfl dX6_mark_97 ?_
  refine lv_bipush (v := (24 : Int32)) hx hb dX6_mark_100 (by decide) ?_
  refine lv_iload_n hx hb dX6_mark_102 rfl (lv_at hl 1 rfl) ?_
  refine lv_imul hx hb dX6_mark_103 ?_
  refine lv_iload_n hx hb dX6_mark_104 rfl (lv_at hl 2 rfl) ?_
  refine lv_iadd hx hb dX6_mark_105 ?_
  refine lv_aload_n hx hb dX6_mark_106 rfl (lv_at hl 0 rfl) ?_
  refine m_get S hw 4 (by decide) q1342 rfl rfl dX6_mark_107 ?_
  refine lv_iload_n hx hb dX6_mark_110 rfl (lv_at hl 1 rfl) ?_
  refine m_ald S hw 4 4 4 rfl (by decide) rfl h.1 dX6_mark_111 ?_
  replace h := h.2
  refine lv_if_ne (tgt := 125) hx hb dX6_mark_112 (by decide) (fun c112 => ?_) (fun c112 => ?_)
  · replace h := if_f c112 h
    refine lv_iload_n hx hb dX6_mark_125 rfl (lv_at hl 3 rfl) ?_
    refine m_ast S hw 6 6 96 rfl (by decide) rfl h.1 dX6_mark_126 (fun a126 H locs ea126 hw => ?_)
    replace h := h.2 a126 ea126
    refine lv_iconst (v := (1 : Int32)) hx hb dX6_mark_127 (by decide) ?_
    exact m_iret S hr hlk hw h dX6_mark_128
  · replace h := if_t c112 h
    refine lv_iload_n hx hb dX6_mark_115 rfl (lv_at hl 3 rfl) ?_
    refine lv_bipush (v := (16 : Int32)) hx hb dX6_mark_116 (by decide) ?_
    refine lv_ishl hx hb dX6_mark_118 ?_
    refine lv_bipush (v := (16 : Int32)) hx hb dX6_mark_119 (by decide) ?_
    refine lv_ishr hx hb dX6_mark_121 ?_
    refine lv_goto (tgt := 126) hx hb dX6_mark_122 (by decide) ?_
    refine m_ast S hw 6 6 96 rfl (by decide) rfl h.1 dX6_mark_126 (fun a126 H locs ea126 hw => ?_)
    replace h := h.2 a126 ea126
    refine lv_iconst (v := (1 : Int32)) hx hb dX6_mark_127 (by decide) ?_
    exact m_iret S hr hlk hw h dX6_mark_128
def bkM_mark_63 (Q : Int32 → MS → Prop) (x1 : Int32) (x2 : Int32) (x3 : Int32) : MS → Prop := fun a => vp_in x1 4 ∧ (if (a 4 x1.toNatClampNeg) = (1 : Int32) then (if x3 = (-1000000005 : Int32) then (bkM_mark_96 Q x1 x2 x3 a) else (wpM_isIn a x3.toInt64 (-99999 : Int64) (99999 : Int64) (fun r87 a87 => if r87 = 0 then (Q (-1000000001 : Int32) a87) else (bkM_mark_96 Q x1 x2 x3 a87)))) else (bkM_mark_96 Q x1 x2 x3 a))
set_option maxHeartbeats 4000000 in
set_option maxRecDepth 100000 in
theorem wkM_mark_63 (S : CallFix p m c cX6_mark 4 s args lw_all RX6) (hr : meth.sig.returnType = (some .int)) (hlk : meth.locks = false) (Q : Int32 → MS → Prop) (x1 : Int32) (x2 : Int32) (x3 : Int32) : ∀ (a : MS) (H : Heap) (locs : List Loc) (ls : Array Slot), bkM_mark_63 Q x1 x2 x3 a → MW D dA ad A a s H locs → lv_has ls 4 [(0, .ref (ad 38)), (1, .int x1), (2, .int x2), (3, .int x3)] → W p l e rmM_mark s m args below meth c H locs 0 0 (MQ below (mQi D dA ad A Q) args s 0 0 A) (F0 m 63 ls []) := by
  have hx := S.1
  have hb := S.2.1
  have hown := S.2.2.2.1
  have hts := S.2.2.2.2
  intro  a H locs ls h hw hl
  unfold bkM_mark_63 at h
  refine lv_aload_n hx hb dX6_mark_63 rfl (lv_at hl 0 rfl) ?_
  refine m_get S hw 4 (by decide) q1342 rfl rfl dX6_mark_64 ?_
  refine lv_iload_n hx hb dX6_mark_67 rfl (lv_at hl 1 rfl) ?_
  refine m_ald S hw 4 4 4 rfl (by decide) rfl h.1 dX6_mark_68 ?_
  replace h := h.2
  refine lv_iconst (v := (1 : Int32)) hx hb dX6_mark_69 (by decide) ?_
  refine lv_icmp_ne (tgt := 96) hx hb dX6_mark_70 (by decide) (fun c70 => ?_) (fun c70 => ?_)
  · replace h := if_f c70 h
    exact wkM_mark_96 S hr hlk Q x1 x2 x3 _ _ _ _ h hw (lv_sub hl [0, 1, 2, 3] rfl)
  · replace h := if_t c70 h
    refine lv_iload_n hx hb dX6_mark_73 rfl (lv_at hl 3 rfl) ?_
    refine lv_ldc hx hb hown (hts _ q1463) dX6_mark_74 ?_
    refine lv_icmp_eq (tgt := 96) hx hb dX6_mark_76 (by decide) (fun c76 => ?_) (fun c76 => ?_)
    · replace h := if_t c76 h
      exact wkM_mark_96 S hr hlk Q x1 x2 x3 _ _ _ _ h hw (lv_sub hl [0, 1, 2, 3] rfl)
    · replace h := if_f c76 h
      refine lv_iload_n hx hb dX6_mark_79 rfl (lv_at hl 3 rfl) ?_
      refine lv_i2l (v := x3.toInt64) hx hb dX6_mark_80 rfl ?_
      refine lv_ldc2 hx hb hown (hts _ q1833) dX6_mark_81 ?_
      refine lv_ldc2 hx hb hown (hts _ q1834) dX6_mark_84 ?_
      refine m_callSi S hw [.long x3.toInt64, .long (-99999 : Int64), .long (99999 : Int64)] [] (ctM_isIn l D dA ad A a x3.toInt64 (-99999 : Int64) (99999 : Int64) _ h) (cwM_isIn hts ⟨Nat.le_of_ble_eq_true rfl, Nat.le_of_ble_eq_true rfl⟩) rfl hl.1 rfl (Nat.le_of_ble_eq_true rfl) dX6_mark_87 ⟨Nat.zero_le _, Nat.zero_le _⟩ (fun r87 a87 H locs h hw => ?_)
      refine lv_if_ne (tgt := 96) hx hb dX6_mark_90 (by decide) (fun c90 => ?_) (fun c90 => ?_)
      · replace h := if_f c90 h
        exact wkM_mark_96 S hr hlk Q x1 x2 x3 _ _ _ _ h hw (lv_sub hl [0, 1, 2, 3] rfl)
      · replace h := if_t c90 h
        refine lv_ldc hx hb hown (hts _ q1468) dX6_mark_93 ?_
        exact m_iret S hr hlk hw h dX6_mark_95
def wpM_mark (a : MS) (x1 : Int32) (x2 : Int32) (x3 : Int32) (Q : Int32 → MS → Prop) : Prop := wpM_isSheet a x1 (fun r1 a1 => if r1 = 0 then (Q (-1000000001 : Int32) a1) else (vp_in x1 4 ∧ (if 0 ≤ (a1 4 x1.toNatClampNeg) then (vp_in x1 4 ∧ (wpM_isIn a1 x2.toInt64 (0 : Int64) ((a1 5 x1.toNatClampNeg) - (1 : Int32)).toInt64 (fun r35 a35 => if r35 = 0 then (Q (-1000000013 : Int32) a35) else (vp_in x1 4 ∧ (if (a35 4 x1.toNatClampNeg) = 0 then (if x3 = (-1000000005 : Int32) then (Q (-1000000012 : Int32) a35) else (bkM_mark_63 Q x1 x2 x3 a35)) else (bkM_mark_63 Q x1 x2 x3 a35)))))) else (Q (-1000000011 : Int32) a1))))
set_option maxHeartbeats 4000000 in
set_option maxRecDepth 100000 in
theorem wkM_mark_e (S : CallFix p m c cX6_mark 4 s args lw_all RX6) (hr : meth.sig.returnType = (some .int)) (hlk : meth.locks = false) (Q : Int32 → MS → Prop) (x1 : Int32) (x2 : Int32) (x3 : Int32) (a : MS) (H : Heap) (locs : List Loc) (ls : Array Slot) (h : wpM_mark a x1 x2 x3 Q) (hw : MW D dA ad A a s H locs) (hl : lv_has ls 4 [(0, .ref (ad 38)), (1, .int x1), (2, .int x2), (3, .int x3)]) : W p l e rmM_mark s m args below meth c H locs 0 0 (MQ below (mQi D dA ad A Q) args s 0 0 A) (F0 m 0 ls []) := by
  have hx := S.1
  have hb := S.2.1
  have hown := S.2.2.2.1
  have hts := S.2.2.2.2
  unfold wpM_mark at h
  refine lv_iload_n hx hb dX6_mark_0 rfl (lv_at hl 1 rfl) ?_
  refine m_callSi S hw [.int x1] [] (ctM_isSheet l D dA ad A a x1 _ h) (cwM_isSheet hts ⟨Nat.le_of_ble_eq_true rfl, Nat.le_of_ble_eq_true rfl⟩) rfl hl.1 rfl (Nat.le_of_ble_eq_true rfl) dX6_mark_1 ⟨Nat.zero_le _, Nat.zero_le _⟩ (fun r1 a1 H locs h hw => ?_)
  refine lv_if_ne (tgt := 10) hx hb dX6_mark_4 (by decide) (fun c4 => ?_) (fun c4 => ?_)
  · replace h := if_f c4 h
    refine lv_aload_n hx hb dX6_mark_10 rfl (lv_at hl 0 rfl) ?_
    refine m_get S hw 4 (by decide) q1342 rfl rfl dX6_mark_11 ?_
    refine lv_iload_n hx hb dX6_mark_14 rfl (lv_at hl 1 rfl) ?_
    refine m_ald S hw 4 4 4 rfl (by decide) rfl h.1 dX6_mark_15 ?_
    replace h := h.2
    refine lv_if_ge (tgt := 23) hx hb dX6_mark_16 (by decide) (fun c16 => ?_) (fun c16 => ?_)
    · replace h := if_t c16 h
      refine lv_iload_n hx hb dX6_mark_23 rfl (lv_at hl 2 rfl) ?_
      refine lv_i2l (v := x2.toInt64) hx hb dX6_mark_24 rfl ?_
      refine lv_lconst (v := 0) hx hb dX6_mark_25 (by decide) ?_
      refine lv_aload_n hx hb dX6_mark_26 rfl (lv_at hl 0 rfl) ?_
      refine m_get S hw 5 (by decide) q1343 rfl rfl dX6_mark_27 ?_
      refine lv_iload_n hx hb dX6_mark_30 rfl (lv_at hl 1 rfl) ?_
      refine m_ald S hw 5 5 4 rfl (by decide) rfl h.1 dX6_mark_31 ?_
      replace h := h.2
      refine lv_iconst (v := (1 : Int32)) hx hb dX6_mark_32 (by decide) ?_
      refine lv_isub hx hb dX6_mark_33 ?_
      refine lv_i2l (v := ((a1 5 x1.toNatClampNeg) - (1 : Int32)).toInt64) hx hb dX6_mark_34 rfl ?_
      refine m_callSi S hw [.long x2.toInt64, .long (0 : Int64), .long ((a1 5 x1.toNatClampNeg) - (1 : Int32)).toInt64] [] (ctM_isIn l D dA ad A a1 x2.toInt64 (0 : Int64) ((a1 5 x1.toNatClampNeg) - (1 : Int32)).toInt64 _ h) (cwM_isIn hts ⟨Nat.le_of_ble_eq_true rfl, Nat.le_of_ble_eq_true rfl⟩) rfl hl.1 rfl (Nat.le_of_ble_eq_true rfl) dX6_mark_35 ⟨Nat.zero_le _, Nat.zero_le _⟩ (fun r35 a35 H locs h hw => ?_)
      refine lv_if_ne (tgt := 45) hx hb dX6_mark_38 (by decide) (fun c38 => ?_) (fun c38 => ?_)
      · replace h := if_f c38 h
        refine lv_aload_n hx hb dX6_mark_45 rfl (lv_at hl 0 rfl) ?_
        refine m_get S hw 4 (by decide) q1342 rfl rfl dX6_mark_46 ?_
        refine lv_iload_n hx hb dX6_mark_49 rfl (lv_at hl 1 rfl) ?_
        refine m_ald S hw 4 4 4 rfl (by decide) rfl h.1 dX6_mark_50 ?_
        replace h := h.2
        refine lv_if_ne (tgt := 63) hx hb dX6_mark_51 (by decide) (fun c51 => ?_) (fun c51 => ?_)
        · replace h := if_f c51 h
          exact wkM_mark_63 S hr hlk Q x1 x2 x3 _ _ _ _ h hw (lv_sub hl [0, 1, 2, 3] rfl)
        · replace h := if_t c51 h
          refine lv_iload_n hx hb dX6_mark_54 rfl (lv_at hl 3 rfl) ?_
          refine lv_ldc hx hb hown (hts _ q1463) dX6_mark_55 ?_
          refine lv_icmp_ne (tgt := 63) hx hb dX6_mark_57 (by decide) (fun c57 => ?_) (fun c57 => ?_)
          · replace h := if_f c57 h
            exact wkM_mark_63 S hr hlk Q x1 x2 x3 _ _ _ _ h hw (lv_sub hl [0, 1, 2, 3] rfl)
          · replace h := if_t c57 h
            refine lv_ldc hx hb hown (hts _ q1539) dX6_mark_60 ?_
            exact m_iret S hr hlk hw h dX6_mark_62
      · replace h := if_t c38 h
        refine lv_ldcw hx hb hown (hts _ q1832) dX6_mark_41 ?_
        exact m_iret S hr hlk hw h dX6_mark_44
    · replace h := if_f c16 h
      refine lv_ldcw hx hb hown (hts _ q1831) dX6_mark_19 ?_
      exact m_iret S hr hlk hw h dX6_mark_22
  · replace h := if_t c4 h
    refine lv_ldc hx hb hown (hts _ q1468) dX6_mark_7 ?_
    exact m_iret S hr hlk hw h dX6_mark_9
theorem ctM_mark (l : Launch) (D : va_G) (dA : Nat → ClassId) (ad : Nat → Nat) (A : Nat → Prop) (a : MS) (x1 : Int32) (x2 : Int32) (x3 : Int32) (Q : Int32 → MS → Prop) (h : wpM_mark a x1 x2 x3 Q) : Met l yX6_mark (ws_ yX6_mark cX6_mark 4 (some .int)) rmM_mark (mPc D dA ad A a [.ref (ad 38), .int x1, .int x2, .int x3]) (mQi D dA ad A Q) 0 0 A :=
  m_met (by decide) rfl rfl rfl (Nat.le_of_ble_eq_true rfl) (fun p e s m below meth c ls S hr hlk hw hl => wkM_mark_e S hr hlk Q x1 x2 x3 a _ _ ls h hw hl)
/-! pour -/
abbrev rmM_pour : Room := { frames := 2, cells := 0, slots := 0, locals := 46 }
def bkM_pour_25 (Q : Int32 → MS → Prop) (x1 : Int32) : Nat → Int32 → MS → Prop
  | 0 => fun _ _ => False
  | n + 1 => fun x2 a => vp_in x1 4 ∧ (if (a 5 x1.toNatClampNeg) ≤ x2 then (Q x2 a) else (vp_in (((24 : Int32) * x1) + x2) 96 ∧ (wpM_isLeaf a (a 6 (((24 : Int32) * x1) + x2).toNatClampNeg) (fun r47 a47 => if r47 = 0 then (Q x2 a47) else (if (24 : Int32) ≤ (a47 0 (8 : Int32).toNatClampNeg) then (Q x2 a47) else (vp_in (((24 : Int32) * x1) + x2) 96 ∧ (vp_in ((74 : Int32) + (a47 0 (8 : Int32).toNatClampNeg)) 3098 ∧ (∀ a90 : MS, a90 = up2 a47 0 ((74 : Int32) + (a47 0 (8 : Int32).toNatClampNeg)).toNatClampNeg (a47 6 (((24 : Int32) * x1) + x2).toNatClampNeg) → (∀ a101 : MS, a101 = up2 a90 0 (8 : Int32).toNatClampNeg ((a90 0 (8 : Int32).toNatClampNeg) + (1 : Int32)) → (bkM_pour_25 Q x1 n (x2 + (1 : Int32)) a101))))))))))
set_option maxHeartbeats 4000000 in
set_option maxRecDepth 100000 in
theorem wkM_pour_25 (S : CallFix p m c cX6_pour 3 s args lw_all RX6) (hr : meth.sig.returnType = (some .int)) (hlk : meth.locks = false) (Q : Int32 → MS → Prop) (x1 : Int32) : ∀ (n : Nat) (x2 : Int32) (a : MS) (H : Heap) (locs : List Loc) (ls : Array Slot), bkM_pour_25 Q x1 n x2 a → MW D dA ad A a s H locs → lv_has ls 3 [(0, .ref (ad 38)), (1, .int x1), (2, .int x2)] → W p l e rmM_pour s m args below meth c H locs 0 0 (MQ below (mQi D dA ad A Q) args s 0 0 A) (F0 m 25 ls []) := by
  have hx := S.1
  have hb := S.2.1
  have hown := S.2.2.2.1
  have hts := S.2.2.2.2
  intro n
  induction n with
  | zero =>
    intro x2 a H locs ls h
    exact False.elim h
  | succ n ih =>
    intro x2 a H locs ls h hw hl
    unfold bkM_pour_25 at h
    refine lv_iload_n hx hb dX6_pour_25 rfl (lv_at hl 2 rfl) ?_
    refine lv_aload_n hx hb dX6_pour_26 rfl (lv_at hl 0 rfl) ?_
    refine m_get S hw 5 (by decide) q1343 rfl rfl dX6_pour_27 ?_
    refine lv_iload_n hx hb dX6_pour_30 rfl (lv_at hl 1 rfl) ?_
    refine m_ald S hw 5 5 4 rfl (by decide) rfl h.1 dX6_pour_31 ?_
    replace h := h.2
    refine lv_icmp_ge (tgt := 108) hx hb dX6_pour_32 (by decide) (fun c32 => ?_) (fun c32 => ?_)
    · replace h := if_t c32 h
      refine lv_iload_n hx hb dX6_pour_108 rfl (lv_at hl 2 rfl) ?_
      exact m_iret S hr hlk hw h dX6_pour_109
    · replace h := if_f c32 h
      refine lv_aload_n hx hb dX6_pour_35 rfl (lv_at hl 0 rfl) ?_
      refine lv_aload_n hx hb dX6_pour_36 rfl (lv_at hl 0 rfl) ?_
      refine m_get S hw 6 (by decide) q1344 rfl rfl dX6_pour_37 ?_
      refine lv_bipush (v := (24 : Int32)) hx hb dX6_pour_40 (by decide) ?_
      refine lv_iload_n hx hb dX6_pour_42 rfl (lv_at hl 1 rfl) ?_
      refine lv_imul hx hb dX6_pour_43 ?_
      refine lv_iload_n hx hb dX6_pour_44 rfl (lv_at hl 2 rfl) ?_
      refine lv_iadd hx hb dX6_pour_45 ?_
      refine m_ald S hw 6 6 96 rfl (by decide) rfl h.1 dX6_pour_46 ?_
      replace h := h.2
      refine m_calli S hw [.int (a 6 (((24 : Int32) * x1) + x2).toNatClampNeg)] [] (ctM_isLeaf l D dA ad A a (a 6 (((24 : Int32) * x1) + x2).toNatClampNeg) _ h) (cwM_isLeaf hts ⟨Nat.le_of_ble_eq_true rfl, Nat.le_of_ble_eq_true rfl⟩) rfl hl.1 rfl (Nat.le_of_ble_eq_true rfl) dX6_pour_47 ⟨Nat.zero_le _, Nat.zero_le _⟩ (fun r47 a47 H locs h hw => ?_)
      refine lv_if_eq (tgt := 108) hx hb dX6_pour_50 (by decide) (fun c50 => ?_) (fun c50 => ?_)
      · replace h := if_t c50 h
        refine lv_iload_n hx hb dX6_pour_108 rfl (lv_at hl 2 rfl) ?_
        exact m_iret S hr hlk hw h dX6_pour_109
      · replace h := if_f c50 h
        refine lv_aload_n hx hb dX6_pour_53 rfl (lv_at hl 0 rfl) ?_
        refine m_get S hw 0 (by decide) q1338 rfl rfl dX6_pour_54 ?_
        refine lv_bipush (v := (8 : Int32)) hx hb dX6_pour_57 (by decide) ?_
        refine m_ald S hw 1 0 3098 rfl (by decide) rfl (vlit (by decide)) dX6_pour_59 ?_
        refine lv_bipush (v := (24 : Int32)) hx hb dX6_pour_60 (by decide) ?_
        refine lv_icmp_ge (tgt := 108) hx hb dX6_pour_62 (by decide) (fun c62 => ?_) (fun c62 => ?_)
        · replace h := if_t c62 h
          refine lv_iload_n hx hb dX6_pour_108 rfl (lv_at hl 2 rfl) ?_
          exact m_iret S hr hlk hw h dX6_pour_109
        · replace h := if_f c62 h
          refine lv_aload_n hx hb dX6_pour_65 rfl (lv_at hl 0 rfl) ?_
          refine m_get S hw 0 (by decide) q1338 rfl rfl dX6_pour_66 ?_
          refine lv_bipush (v := (74 : Int32)) hx hb dX6_pour_69 (by decide) ?_
          refine lv_aload_n hx hb dX6_pour_71 rfl (lv_at hl 0 rfl) ?_
          refine m_get S hw 0 (by decide) q1338 rfl rfl dX6_pour_72 ?_
          refine lv_bipush (v := (8 : Int32)) hx hb dX6_pour_75 (by decide) ?_
          refine m_ald S hw 1 0 3098 rfl (by decide) rfl (vlit (by decide)) dX6_pour_77 ?_
          refine lv_iadd hx hb dX6_pour_78 ?_
          refine lv_aload_n hx hb dX6_pour_79 rfl (lv_at hl 0 rfl) ?_
          refine m_get S hw 6 (by decide) q1344 rfl rfl dX6_pour_80 ?_
          refine lv_bipush (v := (24 : Int32)) hx hb dX6_pour_83 (by decide) ?_
          refine lv_iload_n hx hb dX6_pour_85 rfl (lv_at hl 1 rfl) ?_
          refine lv_imul hx hb dX6_pour_86 ?_
          refine lv_iload_n hx hb dX6_pour_87 rfl (lv_at hl 2 rfl) ?_
          refine lv_iadd hx hb dX6_pour_88 ?_
          refine m_ald S hw 6 6 96 rfl (by decide) rfl h.1 dX6_pour_89 ?_
          replace h := h.2
          refine m_ast S hw 1 0 3098 rfl (by decide) rfl h.1 dX6_pour_90 (fun a90 H locs ea90 hw => ?_)
          replace h := h.2 a90 ea90
          refine lv_aload_n hx hb dX6_pour_91 rfl (lv_at hl 0 rfl) ?_
          refine m_get S hw 0 (by decide) q1338 rfl rfl dX6_pour_92 ?_
          refine lv_bipush (v := (8 : Int32)) hx hb dX6_pour_95 (by decide) ?_
          refine lv_dup2_11 hx hb dX6_pour_97 rfl rfl ?_
          refine m_ald S hw 1 0 3098 rfl (by decide) rfl (vlit (by decide)) dX6_pour_98 ?_
          refine lv_iconst (v := (1 : Int32)) hx hb dX6_pour_99 (by decide) ?_
          refine lv_iadd hx hb dX6_pour_100 ?_
          refine m_ast S hw 1 0 3098 rfl (by decide) rfl (vlit (by decide)) dX6_pour_101 (fun a101 H locs ea101 hw => ?_)
          replace h := h a101 ea101
          refine lv_iinc (v := (x2 + (1 : Int32))) (lv' := [(2, .int (x2 + (1 : Int32))), (0, .ref (ad 38)), (1, .int x1)]) hx hb dX6_pour_102 hl (k := 2) rfl rfl (by decide) rfl (fun ls hl => ?_)
          refine lv_goto (tgt := 25) hx hb dX6_pour_105 (by decide) ?_
          exact ih _ _ _ _ _ h hw (lv_sub hl [1, 2, 0] rfl)
def wpM_pour (a : MS) (x1 : Int32) (Q : Int32 → MS → Prop) : Prop := wpM_isSheet a x1 (fun r1 a1 => if r1 = 0 then (Q (-1000000001 : Int32) a1) else (vp_in x1 4 ∧ (if 0 ≤ (a1 4 x1.toNatClampNeg) then (∃ n25, bkM_pour_25 Q x1 n25 (0 : Int32) a1) else (Q (-1000000011 : Int32) a1))))
set_option maxHeartbeats 4000000 in
set_option maxRecDepth 100000 in
theorem wkM_pour_e (S : CallFix p m c cX6_pour 3 s args lw_all RX6) (hr : meth.sig.returnType = (some .int)) (hlk : meth.locks = false) (Q : Int32 → MS → Prop) (x1 : Int32) (a : MS) (H : Heap) (locs : List Loc) (ls : Array Slot) (h : wpM_pour a x1 Q) (hw : MW D dA ad A a s H locs) (hl : lv_has ls 3 [(0, .ref (ad 38)), (1, .int x1)]) : W p l e rmM_pour s m args below meth c H locs 0 0 (MQ below (mQi D dA ad A Q) args s 0 0 A) (F0 m 0 ls []) := by
  have hx := S.1
  have hb := S.2.1
  have hown := S.2.2.2.1
  have hts := S.2.2.2.2
  unfold wpM_pour at h
  refine lv_iload_n hx hb dX6_pour_0 rfl (lv_at hl 1 rfl) ?_
  refine m_callSi S hw [.int x1] [] (ctM_isSheet l D dA ad A a x1 _ h) (cwM_isSheet hts ⟨Nat.le_of_ble_eq_true rfl, Nat.le_of_ble_eq_true rfl⟩) rfl hl.1 rfl (Nat.le_of_ble_eq_true rfl) dX6_pour_1 ⟨Nat.zero_le _, Nat.zero_le _⟩ (fun r1 a1 H locs h hw => ?_)
  refine lv_if_ne (tgt := 10) hx hb dX6_pour_4 (by decide) (fun c4 => ?_) (fun c4 => ?_)
  · replace h := if_f c4 h
    refine lv_aload_n hx hb dX6_pour_10 rfl (lv_at hl 0 rfl) ?_
    refine m_get S hw 4 (by decide) q1342 rfl rfl dX6_pour_11 ?_
    refine lv_iload_n hx hb dX6_pour_14 rfl (lv_at hl 1 rfl) ?_
    refine m_ald S hw 4 4 4 rfl (by decide) rfl h.1 dX6_pour_15 ?_
    replace h := h.2
    refine lv_if_ge (tgt := 23) hx hb dX6_pour_16 (by decide) (fun c16 => ?_) (fun c16 => ?_)
    · replace h := if_t c16 h
      refine lv_iconst (v := (0 : Int32)) hx hb dX6_pour_23 (by decide) ?_
      refine lv_istore_n (lv' := [(2, .int (0 : Int32)), (0, .ref (ad 38)), (1, .int x1)]) hx hb dX6_pour_24 rfl hl (by decide) rfl (fun ls hl => ?_)
      obtain ⟨n25, h⟩ := h
      exact wkM_pour_25 S hr hlk Q x1 n25 _ _ _ _ _ h hw (lv_sub hl [1, 2, 0] rfl)
    · replace h := if_f c16 h
      refine lv_ldcw hx hb hown (hts _ q1831) dX6_pour_19 ?_
      exact m_iret S hr hlk hw h dX6_pour_22
  · replace h := if_t c4 h
    refine lv_ldc hx hb hown (hts _ q1468) dX6_pour_7 ?_
    exact m_iret S hr hlk hw h dX6_pour_9
theorem ctM_pour (l : Launch) (D : va_G) (dA : Nat → ClassId) (ad : Nat → Nat) (A : Nat → Prop) (a : MS) (x1 : Int32) (Q : Int32 → MS → Prop) (h : wpM_pour a x1 Q) : Met l yX6_pour (ws_ yX6_pour cX6_pour 3 (some .int)) rmM_pour (mPc D dA ad A a [.ref (ad 38), .int x1]) (mQi D dA ad A Q) 0 0 A :=
  m_met (by decide) rfl rfl rfl (Nat.le_of_ble_eq_true rfl) (fun p e s m below meth c ls S hr hlk hw hl => wkM_pour_e S hr hlk Q x1 a _ _ ls h hw hl)
/-! reads -/
abbrev rmM_reads : Room := { frames := 2, cells := 0, slots := 0, locals := 46 }
def bkM_reads_25 (Q : Int32 → MS → Prop) (x1 : Int32) : Nat → Int32 → MS → Prop
  | 0 => fun _ _ => False
  | n + 1 => fun x2 a => vp_in x1 4 ∧ (if (a 5 x1.toNatClampNeg) ≤ x2 then (Q (-1000000005 : Int32) a) else (vp_in (((24 : Int32) * x1) + x2) 96 ∧ (if (a 6 (((24 : Int32) * x1) + x2).toNatClampNeg) = (-1000000005 : Int32) then (bkM_reads_25 Q x1 n (x2 + (1 : Int32)) a) else (wpM_isLeaf a x2 (fun r55 a55 => if r55 = 0 then (Q x2 a55) else (wpM_leafAt a55 x2 (fun r68 a68 => vp_in (r68 + (5 : Int32)) 3098 ∧ (if (a 6 (((24 : Int32) * x1) + x2).toNatClampNeg) = (a68 0 (r68 + (5 : Int32)).toNatClampNeg) then (bkM_reads_25 Q x1 n (x2 + (1 : Int32)) a68) else (Q x2 a68)))))))))
set_option maxHeartbeats 4000000 in
set_option maxRecDepth 100000 in
theorem wkM_reads_25 (S : CallFix p m c cX6_reads 4 s args lw_all RX6) (hr : meth.sig.returnType = (some .int)) (hlk : meth.locks = false) (Q : Int32 → MS → Prop) (x1 : Int32) : ∀ (n : Nat) (x2 : Int32) (a : MS) (H : Heap) (locs : List Loc) (ls : Array Slot), bkM_reads_25 Q x1 n x2 a → MW D dA ad A a s H locs → lv_has ls 4 [(0, .ref (ad 38)), (1, .int x1), (2, .int x2)] → W p l e rmM_reads s m args below meth c H locs 0 0 (MQ below (mQi D dA ad A Q) args s 0 0 A) (F0 m 25 ls []) := by
  have hx := S.1
  have hb := S.2.1
  have hown := S.2.2.2.1
  have hts := S.2.2.2.2
  intro n
  induction n with
  | zero =>
    intro x2 a H locs ls h
    exact False.elim h
  | succ n ih =>
    intro x2 a H locs ls h hw hl
    unfold bkM_reads_25 at h
    refine lv_iload_n hx hb dX6_reads_25 rfl (lv_at hl 2 rfl) ?_
    refine lv_aload_n hx hb dX6_reads_26 rfl (lv_at hl 0 rfl) ?_
    refine m_get S hw 5 (by decide) q1343 rfl rfl dX6_reads_27 ?_
    refine lv_iload_n hx hb dX6_reads_30 rfl (lv_at hl 1 rfl) ?_
    refine m_ald S hw 5 5 4 rfl (by decide) rfl h.1 dX6_reads_31 ?_
    replace h := h.2
    refine lv_icmp_ge (tgt := 85) hx hb dX6_reads_32 (by decide) (fun c32 => ?_) (fun c32 => ?_)
    · replace h := if_t c32 h
      refine lv_ldc hx hb hown (hts _ q1463) dX6_reads_85 ?_
      exact m_iret S hr hlk hw h dX6_reads_87
    · replace h := if_f c32 h
      refine lv_aload_n hx hb dX6_reads_35 rfl (lv_at hl 0 rfl) ?_
      refine m_get S hw 6 (by decide) q1344 rfl rfl dX6_reads_36 ?_
      refine lv_bipush (v := (24 : Int32)) hx hb dX6_reads_39 (by decide) ?_
      refine lv_iload_n hx hb dX6_reads_41 rfl (lv_at hl 1 rfl) ?_
      refine lv_imul hx hb dX6_reads_42 ?_
      refine lv_iload_n hx hb dX6_reads_43 rfl (lv_at hl 2 rfl) ?_
      refine lv_iadd hx hb dX6_reads_44 ?_
      refine m_ald S hw 6 6 96 rfl (by decide) rfl h.1 dX6_reads_45 ?_
      replace h := h.2
      refine lv_istore_n (lv' := [(3, .int (a 6 (((24 : Int32) * x1) + x2).toNatClampNeg)), (0, .ref (ad 38)), (1, .int x1), (2, .int x2)]) hx hb dX6_reads_46 rfl hl (by decide) rfl (fun ls hl => ?_)
      refine lv_iload_n hx hb dX6_reads_47 rfl (lv_at hl 0 rfl) ?_
      refine lv_ldc hx hb hown (hts _ q1463) dX6_reads_48 ?_
      refine lv_icmp_eq (tgt := 79) hx hb dX6_reads_50 (by decide) (fun c50 => ?_) (fun c50 => ?_)
      · replace h := if_t c50 h
        refine lv_iinc (v := (x2 + (1 : Int32))) (lv' := [(2, .int (x2 + (1 : Int32))), (3, .int (a 6 (((24 : Int32) * x1) + x2).toNatClampNeg)), (0, .ref (ad 38)), (1, .int x1)]) hx hb dX6_reads_79 hl (k := 3) rfl rfl (by decide) rfl (fun ls hl => ?_)
        refine lv_goto (tgt := 25) hx hb dX6_reads_82 (by decide) ?_
        exact ih _ _ _ _ _ h hw (lv_sub hl [2, 3, 0] rfl)
      · replace h := if_f c50 h
        refine lv_aload_n hx hb dX6_reads_53 rfl (lv_at hl 1 rfl) ?_
        refine lv_iload_n hx hb dX6_reads_54 rfl (lv_at hl 3 rfl) ?_
        refine m_calli S hw [.int x2] [] (ctM_isLeaf l D dA ad A a x2 _ h) (cwM_isLeaf hts ⟨Nat.le_of_ble_eq_true rfl, Nat.le_of_ble_eq_true rfl⟩) rfl hl.1 rfl (Nat.le_of_ble_eq_true rfl) dX6_reads_55 ⟨Nat.zero_le _, Nat.zero_le _⟩ (fun r55 a55 H locs h hw => ?_)
        refine lv_if_eq (tgt := 77) hx hb dX6_reads_58 (by decide) (fun c58 => ?_) (fun c58 => ?_)
        · replace h := if_t c58 h
          refine lv_iload_n hx hb dX6_reads_77 rfl (lv_at hl 3 rfl) ?_
          exact m_iret S hr hlk hw h dX6_reads_78
        · replace h := if_f c58 h
          refine lv_iload_n hx hb dX6_reads_61 rfl (lv_at hl 0 rfl) ?_
          refine lv_aload_n hx hb dX6_reads_62 rfl (lv_at hl 1 rfl) ?_
          refine m_get S hw 0 (by decide) q1338 rfl rfl dX6_reads_63 ?_
          refine lv_aload_n hx hb dX6_reads_66 rfl (lv_at hl 1 rfl) ?_
          refine lv_iload_n hx hb dX6_reads_67 rfl (lv_at hl 3 rfl) ?_
          refine m_calli S hw [.int x2] [.ref (ad 0), .int (a 6 (((24 : Int32) * x1) + x2).toNatClampNeg)] (ctM_leafAt l D dA ad A a55 x2 _ h) (cwM_leafAt hts ⟨Nat.le_of_ble_eq_true rfl, Nat.le_of_ble_eq_true rfl⟩) rfl hl.1 rfl (Nat.le_of_ble_eq_true rfl) dX6_reads_68 ⟨Nat.zero_le _, Nat.zero_le _⟩ (fun r68 a68 H locs h hw => ?_)
          refine lv_iconst (v := (5 : Int32)) hx hb dX6_reads_71 (by decide) ?_
          refine lv_iadd hx hb dX6_reads_72 ?_
          refine m_ald S hw 1 0 3098 rfl (by decide) rfl h.1 dX6_reads_73 ?_
          replace h := h.2
          refine lv_icmp_eq (tgt := 79) hx hb dX6_reads_74 (by decide) (fun c74 => ?_) (fun c74 => ?_)
          · replace h := if_t c74 h
            refine lv_iinc (v := (x2 + (1 : Int32))) (lv' := [(2, .int (x2 + (1 : Int32))), (3, .int (a 6 (((24 : Int32) * x1) + x2).toNatClampNeg)), (0, .ref (ad 38)), (1, .int x1)]) hx hb dX6_reads_79 hl (k := 3) rfl rfl (by decide) rfl (fun ls hl => ?_)
            refine lv_goto (tgt := 25) hx hb dX6_reads_82 (by decide) ?_
            exact ih _ _ _ _ _ h hw (lv_sub hl [2, 3, 0] rfl)
          · replace h := if_f c74 h
            refine lv_iload_n hx hb dX6_reads_77 rfl (lv_at hl 3 rfl) ?_
            exact m_iret S hr hlk hw h dX6_reads_78
def wpM_reads (a : MS) (x1 : Int32) (Q : Int32 → MS → Prop) : Prop := wpM_isSheet a x1 (fun r1 a1 => if r1 = 0 then (Q (-1000000001 : Int32) a1) else (vp_in x1 4 ∧ (if 0 ≤ (a1 4 x1.toNatClampNeg) then (∃ n25, bkM_reads_25 Q x1 n25 (0 : Int32) a1) else (Q (-1000000011 : Int32) a1))))
set_option maxHeartbeats 4000000 in
set_option maxRecDepth 100000 in
theorem wkM_reads_e (S : CallFix p m c cX6_reads 4 s args lw_all RX6) (hr : meth.sig.returnType = (some .int)) (hlk : meth.locks = false) (Q : Int32 → MS → Prop) (x1 : Int32) (a : MS) (H : Heap) (locs : List Loc) (ls : Array Slot) (h : wpM_reads a x1 Q) (hw : MW D dA ad A a s H locs) (hl : lv_has ls 4 [(0, .ref (ad 38)), (1, .int x1)]) : W p l e rmM_reads s m args below meth c H locs 0 0 (MQ below (mQi D dA ad A Q) args s 0 0 A) (F0 m 0 ls []) := by
  have hx := S.1
  have hb := S.2.1
  have hown := S.2.2.2.1
  have hts := S.2.2.2.2
  unfold wpM_reads at h
  refine lv_iload_n hx hb dX6_reads_0 rfl (lv_at hl 1 rfl) ?_
  refine m_callSi S hw [.int x1] [] (ctM_isSheet l D dA ad A a x1 _ h) (cwM_isSheet hts ⟨Nat.le_of_ble_eq_true rfl, Nat.le_of_ble_eq_true rfl⟩) rfl hl.1 rfl (Nat.le_of_ble_eq_true rfl) dX6_reads_1 ⟨Nat.zero_le _, Nat.zero_le _⟩ (fun r1 a1 H locs h hw => ?_)
  refine lv_if_ne (tgt := 10) hx hb dX6_reads_4 (by decide) (fun c4 => ?_) (fun c4 => ?_)
  · replace h := if_f c4 h
    refine lv_aload_n hx hb dX6_reads_10 rfl (lv_at hl 0 rfl) ?_
    refine m_get S hw 4 (by decide) q1342 rfl rfl dX6_reads_11 ?_
    refine lv_iload_n hx hb dX6_reads_14 rfl (lv_at hl 1 rfl) ?_
    refine m_ald S hw 4 4 4 rfl (by decide) rfl h.1 dX6_reads_15 ?_
    replace h := h.2
    refine lv_if_ge (tgt := 23) hx hb dX6_reads_16 (by decide) (fun c16 => ?_) (fun c16 => ?_)
    · replace h := if_t c16 h
      refine lv_iconst (v := (0 : Int32)) hx hb dX6_reads_23 (by decide) ?_
      refine lv_istore_n (lv' := [(2, .int (0 : Int32)), (0, .ref (ad 38)), (1, .int x1)]) hx hb dX6_reads_24 rfl hl (by decide) rfl (fun ls hl => ?_)
      obtain ⟨n25, h⟩ := h
      exact wkM_reads_25 S hr hlk Q x1 n25 _ _ _ _ _ h hw (lv_sub hl [1, 2, 0] rfl)
    · replace h := if_f c16 h
      refine lv_ldcw hx hb hown (hts _ q1831) dX6_reads_19 ?_
      exact m_iret S hr hlk hw h dX6_reads_22
  · replace h := if_t c4 h
    refine lv_ldc hx hb hown (hts _ q1468) dX6_reads_7 ?_
    exact m_iret S hr hlk hw h dX6_reads_9
theorem ctM_reads (l : Launch) (D : va_G) (dA : Nat → ClassId) (ad : Nat → Nat) (A : Nat → Prop) (a : MS) (x1 : Int32) (Q : Int32 → MS → Prop) (h : wpM_reads a x1 Q) : Met l yX6_reads (ws_ yX6_reads cX6_reads 4 (some .int)) rmM_reads (mPc D dA ad A a [.ref (ad 38), .int x1]) (mQi D dA ad A Q) 0 0 A :=
  m_met (by decide) rfl rfl rfl (Nat.le_of_ble_eq_true rfl) (fun p e s m below meth c ls S hr hlk hw hl => wkM_reads_e S hr hlk Q x1 a _ _ ls h hw hl)
/-! copy -/
abbrev rmM_copy : Room := { frames := 2, cells := 0, slots := 0, locals := 45 }
def bkM_copy_150 (Q : Int32 → MS → Prop) (x1 : Int32) (x2 : Int32) (x3 : Int32) (x4 : Int32) (x5 : Int32) : Nat → Int32 → MS → Prop
  | 0 => fun _ _ => False
  | n + 1 => fun x6 a => if x5 ≤ x6 then (Q x5 a) else (vp_in x6 24 ∧ (vp_in ((((24 : Int32) * x3) + x4) + x6) 96 ∧ (∀ a178 : MS, a178 = up2 a 6 ((((24 : Int32) * x3) + x4) + x6).toNatClampNeg (a 34 x6.toNatClampNeg) → (bkM_copy_150 Q x1 x2 x3 x4 x5 n (x6 + (1 : Int32)) a178))))
set_option maxHeartbeats 4000000 in
set_option maxRecDepth 100000 in
theorem wkM_copy_150 (S : CallFix p m c cX6_copy 7 s args lw_all RX6) (hr : meth.sig.returnType = (some .int)) (hlk : meth.locks = false) (Q : Int32 → MS → Prop) (x1 : Int32) (x2 : Int32) (x3 : Int32) (x4 : Int32) (x5 : Int32) : ∀ (n : Nat) (x6 : Int32) (a : MS) (H : Heap) (locs : List Loc) (ls : Array Slot), bkM_copy_150 Q x1 x2 x3 x4 x5 n x6 a → MW D dA ad A a s H locs → lv_has ls 7 [(0, .ref (ad 38)), (3, .int x3), (4, .int x4), (5, .int x5), (6, .int x6)] → W p l e rmM_copy s m args below meth c H locs 0 0 (MQ below (mQi D dA ad A Q) args s 0 0 A) (F0 m 150 ls []) := by
  have hx := S.1
  have hb := S.2.1
  have hown := S.2.2.2.1
  have hts := S.2.2.2.2
  intro n
  induction n with
  | zero =>
    intro x6 a H locs ls h
    exact False.elim h
  | succ n ih =>
    intro x6 a H locs ls h hw hl
    unfold bkM_copy_150 at h
    refine lv_iload hx hb dX6_copy_150 (lv_at hl 4 rfl) ?_
    refine lv_iload hx hb dX6_copy_152 (lv_at hl 3 rfl) ?_
    refine lv_icmp_ge (tgt := 185) hx hb dX6_copy_154 (by decide) (fun c154 => ?_) (fun c154 => ?_)
    · replace h := if_t c154 h
      refine lv_iload hx hb dX6_copy_185 (lv_at hl 3 rfl) ?_
      exact m_iret S hr hlk hw h dX6_copy_187
    · replace h := if_f c154 h
      refine lv_aload_n hx hb dX6_copy_157 rfl (lv_at hl 0 rfl) ?_
      refine m_get S hw 6 (by decide) q1344 rfl rfl dX6_copy_158 ?_
      refine lv_bipush (v := (24 : Int32)) hx hb dX6_copy_161 (by decide) ?_
      refine lv_iload_n hx hb dX6_copy_163 rfl (lv_at hl 1 rfl) ?_
      refine lv_imul hx hb dX6_copy_164 ?_
      refine lv_iload hx hb dX6_copy_165 (lv_at hl 2 rfl) ?_
      refine lv_iadd hx hb dX6_copy_167 ?_
      refine lv_iload hx hb dX6_copy_168 (lv_at hl 4 rfl) ?_
      refine lv_iadd hx hb dX6_copy_170 ?_
      refine lv_aload_n hx hb dX6_copy_171 rfl (lv_at hl 0 rfl) ?_
      refine m_get S hw 34 (by decide) q1372 rfl rfl dX6_copy_172 ?_
      refine lv_iload hx hb dX6_copy_175 (lv_at hl 4 rfl) ?_
      refine m_ald S hw 22 34 24 rfl (by decide) rfl h.1 dX6_copy_177 ?_
      replace h := h.2
      refine m_ast S hw 6 6 96 rfl (by decide) rfl h.1 dX6_copy_178 (fun a178 H locs ea178 hw => ?_)
      replace h := h.2 a178 ea178
      refine lv_iinc (v := (x6 + (1 : Int32))) (lv' := [(6, .int (x6 + (1 : Int32))), (0, .ref (ad 38)), (3, .int x3), (4, .int x4), (5, .int x5)]) hx hb dX6_copy_179 hl (k := 4) rfl rfl (by decide) rfl (fun ls hl => ?_)
      refine lv_goto (tgt := 150) hx hb dX6_copy_182 (by decide) ?_
      exact ih _ _ _ _ _ h hw (lv_sub hl [1, 2, 3, 4, 0] rfl)
def bkM_copy_113 (Q : Int32 → MS → Prop) (x1 : Int32) (x2 : Int32) (x3 : Int32) (x4 : Int32) (x5 : Int32) : Nat → Int32 → MS → Prop
  | 0 => fun _ _ => False
  | n + 1 => fun x6 a => if x5 ≤ x6 then (∃ n150, bkM_copy_150 Q x1 x2 x3 x4 x5 n150 (0 : Int32) a) else (vp_in ((((24 : Int32) * x1) + x2) + x6) 96 ∧ (vp_in x6 24 ∧ (∀ a140 : MS, a140 = up2 a 34 x6.toNatClampNeg (a 6 ((((24 : Int32) * x1) + x2) + x6).toNatClampNeg) → (bkM_copy_113 Q x1 x2 x3 x4 x5 n (x6 + (1 : Int32)) a140))))
set_option maxHeartbeats 4000000 in
set_option maxRecDepth 100000 in
theorem wkM_copy_113 (S : CallFix p m c cX6_copy 7 s args lw_all RX6) (hr : meth.sig.returnType = (some .int)) (hlk : meth.locks = false) (Q : Int32 → MS → Prop) (x1 : Int32) (x2 : Int32) (x3 : Int32) (x4 : Int32) (x5 : Int32) : ∀ (n : Nat) (x6 : Int32) (a : MS) (H : Heap) (locs : List Loc) (ls : Array Slot), bkM_copy_113 Q x1 x2 x3 x4 x5 n x6 a → MW D dA ad A a s H locs → lv_has ls 7 [(0, .ref (ad 38)), (1, .int x1), (2, .int x2), (3, .int x3), (4, .int x4), (5, .int x5), (6, .int x6)] → W p l e rmM_copy s m args below meth c H locs 0 0 (MQ below (mQi D dA ad A Q) args s 0 0 A) (F0 m 113 ls []) := by
  have hx := S.1
  have hb := S.2.1
  have hown := S.2.2.2.1
  have hts := S.2.2.2.2
  intro n
  induction n with
  | zero =>
    intro x6 a H locs ls h
    exact False.elim h
  | succ n ih =>
    intro x6 a H locs ls h hw hl
    unfold bkM_copy_113 at h
    refine lv_iload hx hb dX6_copy_113 (lv_at hl 6 rfl) ?_
    refine lv_iload hx hb dX6_copy_115 (lv_at hl 5 rfl) ?_
    refine lv_icmp_ge (tgt := 147) hx hb dX6_copy_117 (by decide) (fun c117 => ?_) (fun c117 => ?_)
    · replace h := if_t c117 h
      refine lv_iconst (v := (0 : Int32)) hx hb dX6_copy_147 (by decide) ?_
      refine lv_istore (lv' := [(6, .int (0 : Int32)), (0, .ref (ad 38)), (1, .int x1), (2, .int x2), (3, .int x3), (4, .int x4), (5, .int x5)]) hx hb dX6_copy_148 hl (by decide) rfl (fun ls hl => ?_)
      obtain ⟨n150, h⟩ := h
      exact wkM_copy_150 S hr hlk Q x1 x2 x3 x4 x5 n150 _ _ _ _ _ h hw (lv_sub hl [1, 4, 5, 6, 0] rfl)
    · replace h := if_f c117 h
      refine lv_aload_n hx hb dX6_copy_120 rfl (lv_at hl 0 rfl) ?_
      refine m_get S hw 34 (by decide) q1372 rfl rfl dX6_copy_121 ?_
      refine lv_iload hx hb dX6_copy_124 (lv_at hl 6 rfl) ?_
      refine lv_aload_n hx hb dX6_copy_126 rfl (lv_at hl 0 rfl) ?_
      refine m_get S hw 6 (by decide) q1344 rfl rfl dX6_copy_127 ?_
      refine lv_bipush (v := (24 : Int32)) hx hb dX6_copy_130 (by decide) ?_
      refine lv_iload_n hx hb dX6_copy_132 rfl (lv_at hl 1 rfl) ?_
      refine lv_imul hx hb dX6_copy_133 ?_
      refine lv_iload_n hx hb dX6_copy_134 rfl (lv_at hl 2 rfl) ?_
      refine lv_iadd hx hb dX6_copy_135 ?_
      refine lv_iload hx hb dX6_copy_136 (lv_at hl 6 rfl) ?_
      refine lv_iadd hx hb dX6_copy_138 ?_
      refine m_ald S hw 6 6 96 rfl (by decide) rfl h.1 dX6_copy_139 ?_
      replace h := h.2
      refine m_ast S hw 22 34 24 rfl (by decide) rfl h.1 dX6_copy_140 (fun a140 H locs ea140 hw => ?_)
      replace h := h.2 a140 ea140
      refine lv_iinc (v := (x6 + (1 : Int32))) (lv' := [(6, .int (x6 + (1 : Int32))), (0, .ref (ad 38)), (1, .int x1), (2, .int x2), (3, .int x3), (4, .int x4), (5, .int x5)]) hx hb dX6_copy_141 hl (k := 6) rfl rfl (by decide) rfl (fun ls hl => ?_)
      refine lv_goto (tgt := 113) hx hb dX6_copy_144 (by decide) ?_
      exact ih _ _ _ _ _ h hw (lv_sub hl [1, 2, 3, 4, 5, 6, 0] rfl)
def wpM_copy (a : MS) (x1 : Int32) (x2 : Int32) (x3 : Int32) (x4 : Int32) (x5 : Int32) (Q : Int32 → MS → Prop) : Prop := wpM_isSheet a x1 (fun r1 a1 => if r1 = 0 then (Q (-1000000001 : Int32) a1) else (wpM_isSheet a1 x3 (fun r8 a8 => if r8 = 0 then (Q (-1000000001 : Int32) a8) else (vp_in x1 4 ∧ (if (a8 4 x1.toNatClampNeg) < 0 then (Q (-1000000011 : Int32) a8) else (vp_in x3 4 ∧ (if 0 ≤ (a8 4 x3.toNatClampNeg) then (vp_in x1 4 ∧ (vp_in x3 4 ∧ (if (a8 4 x1.toNatClampNeg) = (a8 4 x3.toNatClampNeg) then (if x2 < 0 then (Q (-1000000013 : Int32) a8) else (if x4 < 0 then (Q (-1000000013 : Int32) a8) else (if x5 < 0 then (Q (-1000000013 : Int32) a8) else (vp_in x1 4 ∧ (if 0 < (lg_cmp (x2.toInt64 + x5.toInt64) (a8 5 x1.toNatClampNeg).toInt64) then (Q (-1000000013 : Int32) a8) else (vp_in x3 4 ∧ (if (lg_cmp (x4.toInt64 + x5.toInt64) (a8 5 x3.toNatClampNeg).toInt64) ≤ 0 then (∃ n113, bkM_copy_113 Q x1 x2 x3 x4 x5 n113 (0 : Int32) a8) else (Q (-1000000013 : Int32) a8)))))))) else (Q (-1000000012 : Int32) a8)))) else (Q (-1000000011 : Int32) a8))))))))
set_option maxHeartbeats 4000000 in
set_option maxRecDepth 100000 in
theorem wkM_copy_e (S : CallFix p m c cX6_copy 7 s args lw_all RX6) (hr : meth.sig.returnType = (some .int)) (hlk : meth.locks = false) (Q : Int32 → MS → Prop) (x1 : Int32) (x2 : Int32) (x3 : Int32) (x4 : Int32) (x5 : Int32) (a : MS) (H : Heap) (locs : List Loc) (ls : Array Slot) (h : wpM_copy a x1 x2 x3 x4 x5 Q) (hw : MW D dA ad A a s H locs) (hl : lv_has ls 7 [(0, .ref (ad 38)), (1, .int x1), (2, .int x2), (3, .int x3), (4, .int x4), (5, .int x5)]) : W p l e rmM_copy s m args below meth c H locs 0 0 (MQ below (mQi D dA ad A Q) args s 0 0 A) (F0 m 0 ls []) := by
  have hx := S.1
  have hb := S.2.1
  have hown := S.2.2.2.1
  have hts := S.2.2.2.2
  unfold wpM_copy at h
  refine lv_iload_n hx hb dX6_copy_0 rfl (lv_at hl 1 rfl) ?_
  refine m_callSi S hw [.int x1] [] (ctM_isSheet l D dA ad A a x1 _ h) (cwM_isSheet hts ⟨Nat.le_of_ble_eq_true rfl, Nat.le_of_ble_eq_true rfl⟩) rfl hl.1 rfl (Nat.le_of_ble_eq_true rfl) dX6_copy_1 ⟨Nat.zero_le _, Nat.zero_le _⟩ (fun r1 a1 H locs h hw => ?_)
  refine lv_if_eq (tgt := 14) hx hb dX6_copy_4 (by decide) (fun c4 => ?_) (fun c4 => ?_)
  · replace h := if_t c4 h
    refine lv_ldc hx hb hown (hts _ q1468) dX6_copy_14 ?_
    exact m_iret S hr hlk hw h dX6_copy_16
  · replace h := if_f c4 h
    refine lv_iload_n hx hb dX6_copy_7 rfl (lv_at hl 3 rfl) ?_
    refine m_callSi S hw [.int x3] [] (ctM_isSheet l D dA ad A a1 x3 _ h) (cwM_isSheet hts ⟨Nat.le_of_ble_eq_true rfl, Nat.le_of_ble_eq_true rfl⟩) rfl hl.1 rfl (Nat.le_of_ble_eq_true rfl) dX6_copy_8 ⟨Nat.zero_le _, Nat.zero_le _⟩ (fun r8 a8 H locs h hw => ?_)
    refine lv_if_ne (tgt := 17) hx hb dX6_copy_11 (by decide) (fun c11 => ?_) (fun c11 => ?_)
    · replace h := if_f c11 h
      refine lv_aload_n hx hb dX6_copy_17 rfl (lv_at hl 0 rfl) ?_
      refine m_get S hw 4 (by decide) q1342 rfl rfl dX6_copy_18 ?_
      refine lv_iload_n hx hb dX6_copy_21 rfl (lv_at hl 1 rfl) ?_
      refine m_ald S hw 4 4 4 rfl (by decide) rfl h.1 dX6_copy_22 ?_
      replace h := h.2
      refine lv_if_lt (tgt := 35) hx hb dX6_copy_23 (by decide) (fun c23 => ?_) (fun c23 => ?_)
      · replace h := if_t c23 h
        refine lv_ldcw hx hb hown (hts _ q1831) dX6_copy_35 ?_
        exact m_iret S hr hlk hw h dX6_copy_38
      · replace h := if_f c23 h
        refine lv_aload_n hx hb dX6_copy_26 rfl (lv_at hl 0 rfl) ?_
        refine m_get S hw 4 (by decide) q1342 rfl rfl dX6_copy_27 ?_
        refine lv_iload_n hx hb dX6_copy_30 rfl (lv_at hl 3 rfl) ?_
        refine m_ald S hw 4 4 4 rfl (by decide) rfl h.1 dX6_copy_31 ?_
        replace h := h.2
        refine lv_if_ge (tgt := 39) hx hb dX6_copy_32 (by decide) (fun c32 => ?_) (fun c32 => ?_)
        · replace h := if_t c32 h
          refine lv_aload_n hx hb dX6_copy_39 rfl (lv_at hl 0 rfl) ?_
          refine m_get S hw 4 (by decide) q1342 rfl rfl dX6_copy_40 ?_
          refine lv_iload_n hx hb dX6_copy_43 rfl (lv_at hl 1 rfl) ?_
          refine m_ald S hw 4 4 4 rfl (by decide) rfl h.1 dX6_copy_44 ?_
          replace h := h.2
          refine lv_aload_n hx hb dX6_copy_45 rfl (lv_at hl 0 rfl) ?_
          refine m_get S hw 4 (by decide) q1342 rfl rfl dX6_copy_46 ?_
          refine lv_iload_n hx hb dX6_copy_49 rfl (lv_at hl 3 rfl) ?_
          refine m_ald S hw 4 4 4 rfl (by decide) rfl h.1 dX6_copy_50 ?_
          replace h := h.2
          refine lv_icmp_eq (tgt := 57) hx hb dX6_copy_51 (by decide) (fun c51 => ?_) (fun c51 => ?_)
          · replace h := if_t c51 h
            refine lv_iload_n hx hb dX6_copy_57 rfl (lv_at hl 2 rfl) ?_
            refine lv_if_lt (tgt := 106) hx hb dX6_copy_58 (by decide) (fun c58 => ?_) (fun c58 => ?_)
            · replace h := if_t c58 h
              refine lv_ldcw hx hb hown (hts _ q1832) dX6_copy_106 ?_
              exact m_iret S hr hlk hw h dX6_copy_109
            · replace h := if_f c58 h
              refine lv_iload hx hb dX6_copy_61 (lv_at hl 4 rfl) ?_
              refine lv_if_lt (tgt := 106) hx hb dX6_copy_63 (by decide) (fun c63 => ?_) (fun c63 => ?_)
              · replace h := if_t c63 h
                refine lv_ldcw hx hb hown (hts _ q1832) dX6_copy_106 ?_
                exact m_iret S hr hlk hw h dX6_copy_109
              · replace h := if_f c63 h
                refine lv_iload hx hb dX6_copy_66 (lv_at hl 5 rfl) ?_
                refine lv_if_lt (tgt := 106) hx hb dX6_copy_68 (by decide) (fun c68 => ?_) (fun c68 => ?_)
                · replace h := if_t c68 h
                  refine lv_ldcw hx hb hown (hts _ q1832) dX6_copy_106 ?_
                  exact m_iret S hr hlk hw h dX6_copy_109
                · replace h := if_f c68 h
                  refine lv_iload_n hx hb dX6_copy_71 rfl (lv_at hl 2 rfl) ?_
                  refine lv_i2l (v := x2.toInt64) hx hb dX6_copy_72 rfl ?_
                  refine lv_iload hx hb dX6_copy_73 (lv_at hl 5 rfl) ?_
                  refine lv_i2l (v := x5.toInt64) hx hb dX6_copy_75 rfl ?_
                  refine lv_ladd hx hb dX6_copy_76 ?_
                  refine lv_aload_n hx hb dX6_copy_77 rfl (lv_at hl 0 rfl) ?_
                  refine m_get S hw 5 (by decide) q1343 rfl rfl dX6_copy_78 ?_
                  refine lv_iload_n hx hb dX6_copy_81 rfl (lv_at hl 1 rfl) ?_
                  refine m_ald S hw 5 5 4 rfl (by decide) rfl h.1 dX6_copy_82 ?_
                  replace h := h.2
                  refine lv_i2l (v := (a8 5 x1.toNatClampNeg).toInt64) hx hb dX6_copy_83 rfl ?_
                  refine W.lcmp hx hb dX6_copy_84 ?_
                  refine lv_if_gt (tgt := 106) hx hb dX6_copy_85 (by decide) (fun c85 => ?_) (fun c85 => ?_)
                  · replace h := if_t c85 h
                    refine lv_ldcw hx hb hown (hts _ q1832) dX6_copy_106 ?_
                    exact m_iret S hr hlk hw h dX6_copy_109
                  · replace h := if_f c85 h
                    refine lv_iload hx hb dX6_copy_88 (lv_at hl 4 rfl) ?_
                    refine lv_i2l (v := x4.toInt64) hx hb dX6_copy_90 rfl ?_
                    refine lv_iload hx hb dX6_copy_91 (lv_at hl 5 rfl) ?_
                    refine lv_i2l (v := x5.toInt64) hx hb dX6_copy_93 rfl ?_
                    refine lv_ladd hx hb dX6_copy_94 ?_
                    refine lv_aload_n hx hb dX6_copy_95 rfl (lv_at hl 0 rfl) ?_
                    refine m_get S hw 5 (by decide) q1343 rfl rfl dX6_copy_96 ?_
                    refine lv_iload_n hx hb dX6_copy_99 rfl (lv_at hl 3 rfl) ?_
                    refine m_ald S hw 5 5 4 rfl (by decide) rfl h.1 dX6_copy_100 ?_
                    replace h := h.2
                    refine lv_i2l (v := (a8 5 x3.toNatClampNeg).toInt64) hx hb dX6_copy_101 rfl ?_
                    refine W.lcmp hx hb dX6_copy_102 ?_
                    refine lv_if_le (tgt := 110) hx hb dX6_copy_103 (by decide) (fun c103 => ?_) (fun c103 => ?_)
                    · replace h := if_t c103 h
                      refine lv_iconst (v := (0 : Int32)) hx hb dX6_copy_110 (by decide) ?_
                      refine lv_istore (lv' := [(6, .int (0 : Int32)), (0, .ref (ad 38)), (1, .int x1), (2, .int x2), (3, .int x3), (4, .int x4), (5, .int x5)]) hx hb dX6_copy_111 hl (by decide) rfl (fun ls hl => ?_)
                      obtain ⟨n113, h⟩ := h
                      exact wkM_copy_113 S hr hlk Q x1 x2 x3 x4 x5 n113 _ _ _ _ _ h hw (lv_sub hl [1, 2, 3, 4, 5, 6, 0] rfl)
                    · replace h := if_f c103 h
                      refine lv_ldcw hx hb hown (hts _ q1832) dX6_copy_106 ?_
                      exact m_iret S hr hlk hw h dX6_copy_109
          · replace h := if_f c51 h
            refine lv_ldc hx hb hown (hts _ q1539) dX6_copy_54 ?_
            exact m_iret S hr hlk hw h dX6_copy_56
        · replace h := if_f c32 h
          refine lv_ldcw hx hb hown (hts _ q1831) dX6_copy_35 ?_
          exact m_iret S hr hlk hw h dX6_copy_38
    · replace h := if_t c11 h
      refine lv_ldc hx hb hown (hts _ q1468) dX6_copy_14 ?_
      exact m_iret S hr hlk hw h dX6_copy_16
theorem ctM_copy (l : Launch) (D : va_G) (dA : Nat → ClassId) (ad : Nat → Nat) (A : Nat → Prop) (a : MS) (x1 : Int32) (x2 : Int32) (x3 : Int32) (x4 : Int32) (x5 : Int32) (Q : Int32 → MS → Prop) (h : wpM_copy a x1 x2 x3 x4 x5 Q) : Met l yX6_copy (ws_ yX6_copy cX6_copy 7 (some .int)) rmM_copy (mPc D dA ad A a [.ref (ad 38), .int x1, .int x2, .int x3, .int x4, .int x5]) (mQi D dA ad A Q) 0 0 A :=
  m_met (by decide) rfl rfl rfl (Nat.le_of_ble_eq_true rfl) (fun p e s m below meth c ls S hr hlk hw hl => wkM_copy_e S hr hlk Q x1 x2 x3 x4 x5 a _ _ ls h hw hl)
/-! isSlot -/
abbrev rmM_isSlot : Room := { frames := 1, cells := 0, slots := 0, locals := 25 }
def wpM_isSlot (a : MS) (x0 : Int32) (Q : Int32 → MS → Prop) : Prop := wpM_isIn a x0.toInt64 (0 : Int64) (4 : Int64) (fun r6 a6 => zok r6 ∧ Q r6 a6)
set_option maxHeartbeats 4000000 in
set_option maxRecDepth 100000 in
theorem wkM_isSlot_e (S : CallFix p m c cX6_isSlot 1 s args lw_all RX6) (hr : meth.sig.returnType = (some .boolean)) (hlk : meth.locks = false) (Q : Int32 → MS → Prop) (x0 : Int32) (a : MS) (H : Heap) (locs : List Loc) (ls : Array Slot) (h : wpM_isSlot a x0 Q) (hw : MW D dA ad A a s H locs) (hl : lv_has ls 1 [(0, .int x0)]) : W p l e rmM_isSlot s m args below meth c H locs 0 0 (MQ below (mQi D dA ad A Q) args s 0 0 A) (F0 m 0 ls []) := by
  have hx := S.1
  have hb := S.2.1
  have hown := S.2.2.2.1
  have hts := S.2.2.2.2
  unfold wpM_isSlot at h
  refine lv_iload_n hx hb dX6_isSlot_0 rfl (lv_at hl 0 rfl) ?_
  refine lv_i2l (v := x0.toInt64) hx hb dX6_isSlot_1 rfl ?_
  refine lv_lconst (v := 0) hx hb dX6_isSlot_2 (by decide) ?_
  refine lv_ldc2 hx hb hown (hts _ q1608) dX6_isSlot_3 ?_
  refine m_callSi S hw [.long x0.toInt64, .long (0 : Int64), .long (4 : Int64)] [] (ctM_isIn l D dA ad A a x0.toInt64 (0 : Int64) (4 : Int64) _ h) (cwM_isIn hts ⟨Nat.le_of_ble_eq_true rfl, Nat.le_of_ble_eq_true rfl⟩) rfl hl.1 rfl (Nat.le_of_ble_eq_true rfl) dX6_isSlot_6 ⟨Nat.zero_le _, Nat.zero_le _⟩ (fun r6 a6 H locs h hw => ?_)
  exact m_zret S hr hlk hw h.1 h.2 dX6_isSlot_9
theorem ctM_isSlot (l : Launch) (D : va_G) (dA : Nat → ClassId) (ad : Nat → Nat) (A : Nat → Prop) (a : MS) (x0 : Int32) (Q : Int32 → MS → Prop) (h : wpM_isSlot a x0 Q) : Met l yX6_isSlot (ws_ yX6_isSlot cX6_isSlot 1 (some .boolean)) rmM_isSlot (mPc D dA ad A a [.int x0]) (mQi D dA ad A Q) 0 0 A :=
  m_met (by decide) rfl rfl rfl (Nat.le_of_ble_eq_true rfl) (fun p e s m below meth c ls S hr hlk hw hl => wkM_isSlot_e S hr hlk Q x0 a _ _ ls h hw hl)
theorem cwM_isSlot {R : Room} {s : State} {args : Array Value} {rm : Room} (hts : ∀ w ∈ lw_all, w.before args s = true) (hR : rm.frames + 1 ≤ R.frames ∧ 8 + (1 + 11) + rm.locals ≤ R.locals) (hc : rm.cells = 0 := by rfl) (hs : rm.slots = 0 := by rfl) : CallB R s args RX6 348 yX6_isSlot cX6_isSlot 1 (some .boolean) (ws_ yX6_isSlot cX6_isSlot 1 (some .boolean)) rm 0 0 1 ∧ (Cond.static yX6_isSlot).before args s = true :=
  va_cwS 1 hts (lw_S q1851 q1852 q112 q1853) rfl hc hs (by decide +kernel) hR
/-! lay -/
abbrev rmM_lay : Room := { frames := 2, cells := 0, slots := 0, locals := 46 }
def bkM_lay_154 (Q : Int32 → MS → Prop) (x1 : Int32) (x2 : Int32) (x3 : Int32) : Nat → Int32 → Int32 → MS → Prop
  | 0 => fun _ _ _ => False
  | n + 1 => fun x5 x6 a => if (24 : Int32) ≤ x6 then (Q x5 a) else (vp_in (((24 : Int32) * x3) + x6) 96 ∧ (vp_in (((24 : Int32) * x1) + x6) 120 ∧ (∀ a184 : MS, a184 = up2 a 11 (((24 : Int32) * x1) + x6).toNatClampNeg (a 6 (((24 : Int32) * x3) + x6).toNatClampNeg) → (bkM_lay_154 Q x1 x2 x3 n x5 (x6 + (1 : Int32)) a184))))
set_option maxHeartbeats 4000000 in
set_option maxRecDepth 100000 in
theorem wkM_lay_154 (S : CallFix p m c cX6_lay 7 s args lw_all RX6) (hr : meth.sig.returnType = (some .int)) (hlk : meth.locks = false) (Q : Int32 → MS → Prop) (x1 : Int32) (x2 : Int32) (x3 : Int32) : ∀ (n : Nat) (x5 : Int32) (x6 : Int32) (a : MS) (H : Heap) (locs : List Loc) (ls : Array Slot), bkM_lay_154 Q x1 x2 x3 n x5 x6 a → MW D dA ad A a s H locs → lv_has ls 7 [(0, .ref (ad 38)), (1, .int x1), (3, .int x3), (5, .int x5), (6, .int x6)] → W p l e rmM_lay s m args below meth c H locs 0 0 (MQ below (mQi D dA ad A Q) args s 0 0 A) (F0 m 154 ls []) := by
  have hx := S.1
  have hb := S.2.1
  have hown := S.2.2.2.1
  have hts := S.2.2.2.2
  intro n
  induction n with
  | zero =>
    intro x5 x6 a H locs ls h
    exact False.elim h
  | succ n ih =>
    intro x5 x6 a H locs ls h hw hl
    unfold bkM_lay_154 at h
    refine lv_iload hx hb dX6_lay_154 (lv_at hl 4 rfl) ?_
    refine lv_bipush (v := (24 : Int32)) hx hb dX6_lay_156 (by decide) ?_
    refine lv_icmp_ge (tgt := 191) hx hb dX6_lay_158 (by decide) (fun c158 => ?_) (fun c158 => ?_)
    · replace h := if_t c158 h
      refine lv_iload hx hb dX6_lay_191 (lv_at hl 3 rfl) ?_
      exact m_iret S hr hlk hw h dX6_lay_193
    · replace h := if_f c158 h
      refine lv_aload_n hx hb dX6_lay_161 rfl (lv_at hl 0 rfl) ?_
      refine m_get S hw 11 (by decide) q1349 rfl rfl dX6_lay_162 ?_
      refine lv_bipush (v := (24 : Int32)) hx hb dX6_lay_165 (by decide) ?_
      refine lv_iload_n hx hb dX6_lay_167 rfl (lv_at hl 1 rfl) ?_
      refine lv_imul hx hb dX6_lay_168 ?_
      refine lv_iload hx hb dX6_lay_169 (lv_at hl 4 rfl) ?_
      refine lv_iadd hx hb dX6_lay_171 ?_
      refine lv_aload_n hx hb dX6_lay_172 rfl (lv_at hl 0 rfl) ?_
      refine m_get S hw 6 (by decide) q1344 rfl rfl dX6_lay_173 ?_
      refine lv_bipush (v := (24 : Int32)) hx hb dX6_lay_176 (by decide) ?_
      refine lv_iload_n hx hb dX6_lay_178 rfl (lv_at hl 2 rfl) ?_
      refine lv_imul hx hb dX6_lay_179 ?_
      refine lv_iload hx hb dX6_lay_180 (lv_at hl 4 rfl) ?_
      refine lv_iadd hx hb dX6_lay_182 ?_
      refine m_ald S hw 6 6 96 rfl (by decide) rfl h.1 dX6_lay_183 ?_
      replace h := h.2
      refine m_ast S hw 11 11 120 rfl (by decide) rfl h.1 dX6_lay_184 (fun a184 H locs ea184 hw => ?_)
      replace h := h.2 a184 ea184
      refine lv_iinc (v := (x6 + (1 : Int32))) (lv' := [(6, .int (x6 + (1 : Int32))), (0, .ref (ad 38)), (1, .int x1), (3, .int x3), (5, .int x5)]) hx hb dX6_lay_185 hl (k := 4) rfl rfl (by decide) rfl (fun ls hl => ?_)
      refine lv_goto (tgt := 154) hx hb dX6_lay_188 (by decide) ?_
      exact ih _ _ _ _ _ _ h hw (lv_sub hl [1, 2, 3, 4, 0] rfl)
def bkM_lay_133 (Q : Int32 → MS → Prop) (x1 : Int32) (x2 : Int32) (x3 : Int32) : Int32 → Int32 → Int32 → MS → Prop := fun x5 s1 s2 a => vp_in s1 5 ∧ (∀ a133 : MS, a133 = up2 a 9 s1.toNatClampNeg s2 → (if x2 = (2 : Int32) then (vp_in x3 4 ∧ (vp_in x1 5 ∧ (∀ a150 : MS, a150 = up2 a133 10 x1.toNatClampNeg (a133 5 x3.toNatClampNeg) → (∃ n154, bkM_lay_154 Q x1 x2 x3 n154 x5 (0 : Int32) a150)))) else (Q x5 a133)))
set_option maxHeartbeats 4000000 in
set_option maxRecDepth 100000 in
theorem wkM_lay_133 (S : CallFix p m c cX6_lay 7 s args lw_all RX6) (hr : meth.sig.returnType = (some .int)) (hlk : meth.locks = false) (Q : Int32 → MS → Prop) (x1 : Int32) (x2 : Int32) (x3 : Int32) : ∀ (x5 : Int32) (s1 : Int32) (s2 : Int32) (a : MS) (H : Heap) (locs : List Loc) (ls : Array Slot), bkM_lay_133 Q x1 x2 x3 x5 s1 s2 a → MW D dA ad A a s H locs → lv_has ls 7 [(0, .ref (ad 38)), (1, .int x1), (2, .int x2), (3, .int x3), (5, .int x5)] → W p l e rmM_lay s m args below meth c H locs 0 0 (MQ below (mQi D dA ad A Q) args s 0 0 A) (F0 m 133 ls [.int s2, .int s1, .ref (ad 9)]) := by
  have hx := S.1
  have hb := S.2.1
  have hown := S.2.2.2.1
  have hts := S.2.2.2.2
  intro x5 s1 s2 a H locs ls h hw hl
  unfold bkM_lay_133 at h
  refine m_ast S hw 9 9 5 rfl (by decide) rfl h.1 dX6_lay_133 (fun a133 H locs ea133 hw => ?_)
  replace h := h.2 a133 ea133
  refine lv_iload_n hx hb dX6_lay_134 rfl (lv_at hl 2 rfl) ?_
  refine lv_iconst (v := (2 : Int32)) hx hb dX6_lay_135 (by decide) ?_
  refine lv_icmp_ne (tgt := 191) hx hb dX6_lay_136 (by decide) (fun c136 => ?_) (fun c136 => ?_)
  · replace h := if_f c136 h
    refine lv_iload hx hb dX6_lay_191 (lv_at hl 4 rfl) ?_
    exact m_iret S hr hlk hw h dX6_lay_193
  · replace h := if_t c136 h
    refine lv_aload_n hx hb dX6_lay_139 rfl (lv_at hl 0 rfl) ?_
    refine m_get S hw 10 (by decide) q1348 rfl rfl dX6_lay_140 ?_
    refine lv_iload_n hx hb dX6_lay_143 rfl (lv_at hl 1 rfl) ?_
    refine lv_aload_n hx hb dX6_lay_144 rfl (lv_at hl 0 rfl) ?_
    refine m_get S hw 5 (by decide) q1343 rfl rfl dX6_lay_145 ?_
    refine lv_iload_n hx hb dX6_lay_148 rfl (lv_at hl 3 rfl) ?_
    refine m_ald S hw 5 5 4 rfl (by decide) rfl h.1 dX6_lay_149 ?_
    replace h := h.2
    refine m_ast S hw 10 10 5 rfl (by decide) rfl h.1 dX6_lay_150 (fun a150 H locs ea150 hw => ?_)
    replace h := h.2 a150 ea150
    refine lv_iconst (v := (0 : Int32)) hx hb dX6_lay_151 (by decide) ?_
    refine lv_istore (lv' := [(6, .int (0 : Int32)), (0, .ref (ad 38)), (1, .int x1), (2, .int x2), (3, .int x3), (5, .int x5)]) hx hb dX6_lay_152 hl (by decide) rfl (fun ls hl => ?_)
    obtain ⟨n154, h⟩ := h
    exact wkM_lay_154 S hr hlk Q x1 x2 x3 n154 _ _ _ _ _ _ h hw (lv_sub hl [1, 2, 4, 5, 0] rfl)
def bkM_lay_113 (Q : Int32 → MS → Prop) (x1 : Int32) (x2 : Int32) (x3 : Int32) : Int32 → Int32 → Int32 → MS → Prop := fun x5 s1 s2 a => vp_in s1 5 ∧ (∀ a113 : MS, a113 = up2 a 8 s1.toNatClampNeg s2 → (if x2 = (1 : Int32) then (wpM_worth a113 x3 (fun r126 a126 => bkM_lay_133 Q x1 x2 x3 x5 x1 r126 a126)) else (bkM_lay_133 Q x1 x2 x3 x5 x1 (0 : Int32) a113)))
set_option maxHeartbeats 4000000 in
set_option maxRecDepth 100000 in
theorem wkM_lay_113 (S : CallFix p m c cX6_lay 7 s args lw_all RX6) (hr : meth.sig.returnType = (some .int)) (hlk : meth.locks = false) (Q : Int32 → MS → Prop) (x1 : Int32) (x2 : Int32) (x3 : Int32) : ∀ (x5 : Int32) (s1 : Int32) (s2 : Int32) (a : MS) (H : Heap) (locs : List Loc) (ls : Array Slot), bkM_lay_113 Q x1 x2 x3 x5 s1 s2 a → MW D dA ad A a s H locs → lv_has ls 7 [(0, .ref (ad 38)), (1, .int x1), (2, .int x2), (3, .int x3), (5, .int x5)] → W p l e rmM_lay s m args below meth c H locs 0 0 (MQ below (mQi D dA ad A Q) args s 0 0 A) (F0 m 113 ls [.int s2, .int s1, .ref (ad 8)]) := by
  have hx := S.1
  have hb := S.2.1
  have hown := S.2.2.2.1
  have hts := S.2.2.2.2
  intro x5 s1 s2 a H locs ls h hw hl
  unfold bkM_lay_113 at h
  refine m_ast S hw 8 8 5 rfl (by decide) rfl h.1 dX6_lay_113 (fun a113 H locs ea113 hw => ?_)
  replace h := h.2 a113 ea113
  refine lv_aload_n hx hb dX6_lay_114 rfl (lv_at hl 0 rfl) ?_
  refine m_get S hw 9 (by decide) q1347 rfl rfl dX6_lay_115 ?_
  refine lv_iload_n hx hb dX6_lay_118 rfl (lv_at hl 1 rfl) ?_
  refine lv_iload_n hx hb dX6_lay_119 rfl (lv_at hl 2 rfl) ?_
  refine lv_iconst (v := (1 : Int32)) hx hb dX6_lay_120 (by decide) ?_
  refine lv_icmp_ne (tgt := 132) hx hb dX6_lay_121 (by decide) (fun c121 => ?_) (fun c121 => ?_)
  · replace h := if_f c121 h
    refine lv_iconst (v := (0 : Int32)) hx hb dX6_lay_132 (by decide) ?_
    exact wkM_lay_133 S hr hlk Q x1 x2 x3 _ _ _ _ _ _ _ h hw (lv_sub hl [0, 1, 2, 3, 4] rfl)
  · replace h := if_t c121 h
    refine lv_aload_n hx hb dX6_lay_124 rfl (lv_at hl 0 rfl) ?_
    refine lv_iload_n hx hb dX6_lay_125 rfl (lv_at hl 3 rfl) ?_
    refine m_calli S hw [.int x3] [.int x1, .ref (ad 9)] (ctM_worth l D dA ad A a113 x3 _ h) (cwM_worth hts ⟨Nat.le_of_ble_eq_true rfl, Nat.le_of_ble_eq_true rfl⟩) rfl hl.1 rfl (Nat.le_of_ble_eq_true rfl) dX6_lay_126 ⟨Nat.zero_le _, Nat.zero_le _⟩ (fun r126 a126 H locs h hw => ?_)
    refine lv_goto (tgt := 133) hx hb dX6_lay_129 (by decide) ?_
    exact wkM_lay_133 S hr hlk Q x1 x2 x3 _ _ _ _ _ _ _ h hw (lv_sub hl [0, 1, 2, 3, 4] rfl)
def bkM_lay_74 (Q : Int32 → MS → Prop) (x1 : Int32) (x2 : Int32) (x3 : Int32) : MS → Prop := fun a => vp_in x1 5 ∧ (vp_in x1 5 ∧ (∀ a88 : MS, a88 = up2 a 7 x1.toNatClampNeg x2 → (if x2 = (1 : Int32) then (wpM_leafAt a88 x3 (fun r105 a105 => vp_in r105 3098 ∧ (bkM_lay_113 Q x1 x2 x3 (a 7 x1.toNatClampNeg) x1 (a105 0 r105.toNatClampNeg) a105))) else (bkM_lay_113 Q x1 x2 x3 (a 7 x1.toNatClampNeg) x1 x3 a88))))
set_option maxHeartbeats 4000000 in
set_option maxRecDepth 100000 in
theorem wkM_lay_74 (S : CallFix p m c cX6_lay 7 s args lw_all RX6) (hr : meth.sig.returnType = (some .int)) (hlk : meth.locks = false) (Q : Int32 → MS → Prop) (x1 : Int32) (x2 : Int32) (x3 : Int32) : ∀ (a : MS) (H : Heap) (locs : List Loc) (ls : Array Slot), bkM_lay_74 Q x1 x2 x3 a → MW D dA ad A a s H locs → lv_has ls 7 [(0, .ref (ad 38)), (1, .int x1), (2, .int x2), (3, .int x3)] → W p l e rmM_lay s m args below meth c H locs 0 0 (MQ below (mQi D dA ad A Q) args s 0 0 A) (F0 m 74 ls []) := by
  have hx := S.1
  have hb := S.2.1
  have hown := S.2.2.2.1
  have hts := S.2.2.2.2
  intro  a H locs ls h hw hl
  unfold bkM_lay_74 at h
  refine lv_aload_n hx hb dX6_lay_74 rfl (lv_at hl 0 rfl) ?_
  refine m_get S hw 7 (by decide) q1345 rfl rfl dX6_lay_75 ?_
  refine lv_iload_n hx hb dX6_lay_78 rfl (lv_at hl 1 rfl) ?_
  refine m_ald S hw 7 7 5 rfl (by decide) rfl h.1 dX6_lay_79 ?_
  replace h := h.2
  refine lv_istore (lv' := [(5, .int (a 7 x1.toNatClampNeg)), (0, .ref (ad 38)), (1, .int x1), (2, .int x2), (3, .int x3)]) hx hb dX6_lay_80 hl (by decide) rfl (fun ls hl => ?_)
  refine lv_aload_n hx hb dX6_lay_82 rfl (lv_at hl 1 rfl) ?_
  refine m_get S hw 7 (by decide) q1345 rfl rfl dX6_lay_83 ?_
  refine lv_iload_n hx hb dX6_lay_86 rfl (lv_at hl 2 rfl) ?_
  refine lv_iload_n hx hb dX6_lay_87 rfl (lv_at hl 3 rfl) ?_
  refine m_ast S hw 7 7 5 rfl (by decide) rfl h.1 dX6_lay_88 (fun a88 H locs ea88 hw => ?_)
  replace h := h.2 a88 ea88
  refine lv_aload_n hx hb dX6_lay_89 rfl (lv_at hl 1 rfl) ?_
  refine m_get S hw 8 (by decide) q1346 rfl rfl dX6_lay_90 ?_
  refine lv_iload_n hx hb dX6_lay_93 rfl (lv_at hl 2 rfl) ?_
  refine lv_iload_n hx hb dX6_lay_94 rfl (lv_at hl 3 rfl) ?_
  refine lv_iconst (v := (1 : Int32)) hx hb dX6_lay_95 (by decide) ?_
  refine lv_icmp_ne (tgt := 112) hx hb dX6_lay_96 (by decide) (fun c96 => ?_) (fun c96 => ?_)
  · replace h := if_f c96 h
    refine lv_iload_n hx hb dX6_lay_112 rfl (lv_at hl 4 rfl) ?_
    exact wkM_lay_113 S hr hlk Q x1 x2 x3 _ _ _ _ _ _ _ h hw (lv_sub hl [1, 2, 3, 4, 0] rfl)
  · replace h := if_t c96 h
    refine lv_aload_n hx hb dX6_lay_99 rfl (lv_at hl 1 rfl) ?_
    refine m_get S hw 0 (by decide) q1338 rfl rfl dX6_lay_100 ?_
    refine lv_aload_n hx hb dX6_lay_103 rfl (lv_at hl 1 rfl) ?_
    refine lv_iload_n hx hb dX6_lay_104 rfl (lv_at hl 4 rfl) ?_
    refine m_calli S hw [.int x3] [.ref (ad 0), .int x1, .ref (ad 8)] (ctM_leafAt l D dA ad A a88 x3 _ h) (cwM_leafAt hts ⟨Nat.le_of_ble_eq_true rfl, Nat.le_of_ble_eq_true rfl⟩) rfl hl.1 rfl (Nat.le_of_ble_eq_true rfl) dX6_lay_105 ⟨Nat.zero_le _, Nat.zero_le _⟩ (fun r105 a105 H locs h hw => ?_)
    refine m_ald S hw 1 0 3098 rfl (by decide) rfl h.1 dX6_lay_108 ?_
    replace h := h.2
    refine lv_goto (tgt := 113) hx hb dX6_lay_109 (by decide) ?_
    exact wkM_lay_113 S hr hlk Q x1 x2 x3 _ _ _ _ _ _ _ h hw (lv_sub hl [1, 2, 3, 4, 0] rfl)
def bkM_lay_39 (Q : Int32 → MS → Prop) (x1 : Int32) (x2 : Int32) (x3 : Int32) : Int32 → MS → Prop := fun s0 a => wpM_isSlot a x1 (fun r42 a42 => if r42 = 0 then (Q (-1000000001 : Int32) a42) else (if s0 = 0 then (Q (-1000000001 : Int32) a42) else (if x2 = (2 : Int32) then (vp_in x3 4 ∧ (if 0 ≤ (a42 4 x3.toNatClampNeg) then (bkM_lay_74 Q x1 x2 x3 a42) else (Q (-1000000011 : Int32) a42))) else (bkM_lay_74 Q x1 x2 x3 a42))))
set_option maxHeartbeats 4000000 in
set_option maxRecDepth 100000 in
theorem wkM_lay_39 (S : CallFix p m c cX6_lay 7 s args lw_all RX6) (hr : meth.sig.returnType = (some .int)) (hlk : meth.locks = false) (Q : Int32 → MS → Prop) (x1 : Int32) (x2 : Int32) (x3 : Int32) : ∀ (s0 : Int32) (a : MS) (H : Heap) (locs : List Loc) (ls : Array Slot), bkM_lay_39 Q x1 x2 x3 s0 a → MW D dA ad A a s H locs → lv_has ls 7 [(0, .ref (ad 38)), (1, .int x1), (2, .int x2), (3, .int x3)] → W p l e rmM_lay s m args below meth c H locs 0 0 (MQ below (mQi D dA ad A Q) args s 0 0 A) (F0 m 39 ls [.int s0]) := by
  have hx := S.1
  have hb := S.2.1
  have hown := S.2.2.2.1
  have hts := S.2.2.2.2
  intro s0 a H locs ls h hw hl
  unfold bkM_lay_39 at h
  refine lv_istore (lv' := [(4, .int s0), (0, .ref (ad 38)), (1, .int x1), (2, .int x2), (3, .int x3)]) hx hb dX6_lay_39 hl (by decide) rfl (fun ls hl => ?_)
  refine lv_iload_n hx hb dX6_lay_41 rfl (lv_at hl 2 rfl) ?_
  refine m_callSi S hw [.int x1] [] (ctM_isSlot l D dA ad A a x1 _ h) (cwM_isSlot hts ⟨Nat.le_of_ble_eq_true rfl, Nat.le_of_ble_eq_true rfl⟩) rfl hl.1 rfl (Nat.le_of_ble_eq_true rfl) dX6_lay_42 ⟨Nat.zero_le _, Nat.zero_le _⟩ (fun r42 a42 H locs h hw => ?_)
  refine lv_if_eq (tgt := 53) hx hb dX6_lay_45 (by decide) (fun c45 => ?_) (fun c45 => ?_)
  · replace h := if_t c45 h
    refine lv_ldc hx hb hown (hts _ q1468) dX6_lay_53 ?_
    exact m_iret S hr hlk hw h dX6_lay_55
  · replace h := if_f c45 h
    refine lv_iload hx hb dX6_lay_48 (lv_at hl 0 rfl) ?_
    refine lv_if_ne (tgt := 56) hx hb dX6_lay_50 (by decide) (fun c50 => ?_) (fun c50 => ?_)
    · replace h := if_f c50 h
      refine lv_iload_n hx hb dX6_lay_56 rfl (lv_at hl 3 rfl) ?_
      refine lv_iconst (v := (2 : Int32)) hx hb dX6_lay_57 (by decide) ?_
      refine lv_icmp_ne (tgt := 74) hx hb dX6_lay_58 (by decide) (fun c58 => ?_) (fun c58 => ?_)
      · replace h := if_f c58 h
        exact wkM_lay_74 S hr hlk Q x1 x2 x3 _ _ _ _ h hw (lv_sub hl [1, 2, 3, 4] rfl)
      · replace h := if_t c58 h
        refine lv_aload_n hx hb dX6_lay_61 rfl (lv_at hl 1 rfl) ?_
        refine m_get S hw 4 (by decide) q1342 rfl rfl dX6_lay_62 ?_
        refine lv_iload_n hx hb dX6_lay_65 rfl (lv_at hl 4 rfl) ?_
        refine m_ald S hw 4 4 4 rfl (by decide) rfl h.1 dX6_lay_66 ?_
        replace h := h.2
        refine lv_if_ge (tgt := 74) hx hb dX6_lay_67 (by decide) (fun c67 => ?_) (fun c67 => ?_)
        · replace h := if_t c67 h
          exact wkM_lay_74 S hr hlk Q x1 x2 x3 _ _ _ _ h hw (lv_sub hl [1, 2, 3, 4] rfl)
        · replace h := if_f c67 h
          refine lv_ldcw hx hb hown (hts _ q1831) dX6_lay_70 ?_
          exact m_iret S hr hlk hw h dX6_lay_73
    · replace h := if_t c50 h
      refine lv_ldc hx hb hown (hts _ q1468) dX6_lay_53 ?_
      exact m_iret S hr hlk hw h dX6_lay_55
def bkM_lay_34 (Q : Int32 → MS → Prop) (x1 : Int32) (x2 : Int32) (x3 : Int32) : MS → Prop := fun a => bkM_lay_39 Q x1 x2 x3 (1 : Int32) a
set_option maxHeartbeats 4000000 in
set_option maxRecDepth 100000 in
theorem wkM_lay_34 (S : CallFix p m c cX6_lay 7 s args lw_all RX6) (hr : meth.sig.returnType = (some .int)) (hlk : meth.locks = false) (Q : Int32 → MS → Prop) (x1 : Int32) (x2 : Int32) (x3 : Int32) : ∀ (a : MS) (H : Heap) (locs : List Loc) (ls : Array Slot), bkM_lay_34 Q x1 x2 x3 a → MW D dA ad A a s H locs → lv_has ls 7 [(0, .ref (ad 38)), (1, .int x1), (2, .int x2), (3, .int x3)] → W p l e rmM_lay s m args below meth c H locs 0 0 (MQ below (mQi D dA ad A Q) args s 0 0 A) (F0 m 34 ls []) := by
  have hx := S.1
  have hb := S.2.1
  have hown := S.2.2.2.1
  have hts := S.2.2.2.2
  intro  a H locs ls h hw hl
  unfold bkM_lay_34 at h
  refine lv_iconst (v := (1 : Int32)) hx hb dX6_lay_34 (by decide) ?_
  refine lv_goto (tgt := 39) hx hb dX6_lay_35 (by decide) ?_
  exact wkM_lay_39 S hr hlk Q x1 x2 x3 _ _ _ _ _ h hw (lv_sub hl [0, 1, 2, 3] rfl)
def bkM_lay_38 (Q : Int32 → MS → Prop) (x1 : Int32) (x2 : Int32) (x3 : Int32) : MS → Prop := fun a => bkM_lay_39 Q x1 x2 x3 (0 : Int32) a
set_option maxHeartbeats 4000000 in
set_option maxRecDepth 100000 in
theorem wkM_lay_38 (S : CallFix p m c cX6_lay 7 s args lw_all RX6) (hr : meth.sig.returnType = (some .int)) (hlk : meth.locks = false) (Q : Int32 → MS → Prop) (x1 : Int32) (x2 : Int32) (x3 : Int32) : ∀ (a : MS) (H : Heap) (locs : List Loc) (ls : Array Slot), bkM_lay_38 Q x1 x2 x3 a → MW D dA ad A a s H locs → lv_has ls 7 [(0, .ref (ad 38)), (1, .int x1), (2, .int x2), (3, .int x3)] → W p l e rmM_lay s m args below meth c H locs 0 0 (MQ below (mQi D dA ad A Q) args s 0 0 A) (F0 m 38 ls []) := by
  have hx := S.1
  have hb := S.2.1
  have hown := S.2.2.2.1
  have hts := S.2.2.2.2
  intro  a H locs ls h hw hl
  unfold bkM_lay_38 at h
  refine lv_iconst (v := (0 : Int32)) hx hb dX6_lay_38 (by decide) ?_
  exact wkM_lay_39 S hr hlk Q x1 x2 x3 _ _ _ _ _ h hw (lv_sub hl [0, 1, 2, 3] rfl)
def bkM_lay_22 (Q : Int32 → MS → Prop) (x1 : Int32) (x2 : Int32) (x3 : Int32) : MS → Prop := fun a => if x2 = (2 : Int32) then (wpM_isSheet a x3 (fun r28 a28 => if r28 = 0 then (bkM_lay_38 Q x1 x2 x3 a28) else (bkM_lay_34 Q x1 x2 x3 a28))) else (bkM_lay_38 Q x1 x2 x3 a)
set_option maxHeartbeats 4000000 in
set_option maxRecDepth 100000 in
theorem wkM_lay_22 (S : CallFix p m c cX6_lay 7 s args lw_all RX6) (hr : meth.sig.returnType = (some .int)) (hlk : meth.locks = false) (Q : Int32 → MS → Prop) (x1 : Int32) (x2 : Int32) (x3 : Int32) : ∀ (a : MS) (H : Heap) (locs : List Loc) (ls : Array Slot), bkM_lay_22 Q x1 x2 x3 a → MW D dA ad A a s H locs → lv_has ls 7 [(0, .ref (ad 38)), (1, .int x1), (2, .int x2), (3, .int x3)] → W p l e rmM_lay s m args below meth c H locs 0 0 (MQ below (mQi D dA ad A Q) args s 0 0 A) (F0 m 22 ls []) := by
  have hx := S.1
  have hb := S.2.1
  have hown := S.2.2.2.1
  have hts := S.2.2.2.2
  intro  a H locs ls h hw hl
  unfold bkM_lay_22 at h
  refine lv_iload_n hx hb dX6_lay_22 rfl (lv_at hl 2 rfl) ?_
  refine lv_iconst (v := (2 : Int32)) hx hb dX6_lay_23 (by decide) ?_
  refine lv_icmp_ne (tgt := 38) hx hb dX6_lay_24 (by decide) (fun c24 => ?_) (fun c24 => ?_)
  · replace h := if_f c24 h
    exact wkM_lay_38 S hr hlk Q x1 x2 x3 _ _ _ _ h hw (lv_sub hl [0, 1, 2, 3] rfl)
  · replace h := if_t c24 h
    refine lv_iload_n hx hb dX6_lay_27 rfl (lv_at hl 3 rfl) ?_
    refine m_callSi S hw [.int x3] [] (ctM_isSheet l D dA ad A a x3 _ h) (cwM_isSheet hts ⟨Nat.le_of_ble_eq_true rfl, Nat.le_of_ble_eq_true rfl⟩) rfl hl.1 rfl (Nat.le_of_ble_eq_true rfl) dX6_lay_28 ⟨Nat.zero_le _, Nat.zero_le _⟩ (fun r28 a28 H locs h hw => ?_)
    refine lv_if_eq (tgt := 38) hx hb dX6_lay_31 (by decide) (fun c31 => ?_) (fun c31 => ?_)
    · replace h := if_t c31 h
      exact wkM_lay_38 S hr hlk Q x1 x2 x3 _ _ _ _ h hw (lv_sub hl [0, 1, 2, 3] rfl)
    · replace h := if_f c31 h
      exact wkM_lay_34 S hr hlk Q x1 x2 x3 _ _ _ _ h hw (lv_sub hl [0, 1, 2, 3] rfl)
def wpM_lay (a : MS) (x1 : Int32) (x2 : Int32) (x3 : Int32) (Q : Int32 → MS → Prop) : Prop := if x2 = 0 then (bkM_lay_34 Q x1 x2 x3 a) else (if x2 = (3 : Int32) then (bkM_lay_34 Q x1 x2 x3 a) else (if x2 = (1 : Int32) then (wpM_isLeaf a x3 (fun r16 a16 => if r16 = 0 then (bkM_lay_22 Q x1 x2 x3 a16) else (bkM_lay_34 Q x1 x2 x3 a16))) else (bkM_lay_22 Q x1 x2 x3 a)))
set_option maxHeartbeats 4000000 in
set_option maxRecDepth 100000 in
theorem wkM_lay_e (S : CallFix p m c cX6_lay 7 s args lw_all RX6) (hr : meth.sig.returnType = (some .int)) (hlk : meth.locks = false) (Q : Int32 → MS → Prop) (x1 : Int32) (x2 : Int32) (x3 : Int32) (a : MS) (H : Heap) (locs : List Loc) (ls : Array Slot) (h : wpM_lay a x1 x2 x3 Q) (hw : MW D dA ad A a s H locs) (hl : lv_has ls 7 [(0, .ref (ad 38)), (1, .int x1), (2, .int x2), (3, .int x3)]) : W p l e rmM_lay s m args below meth c H locs 0 0 (MQ below (mQi D dA ad A Q) args s 0 0 A) (F0 m 0 ls []) := by
  have hx := S.1
  have hb := S.2.1
  have hown := S.2.2.2.1
  have hts := S.2.2.2.2
  unfold wpM_lay at h
  refine lv_iload_n hx hb dX6_lay_0 rfl (lv_at hl 2 rfl) ?_
  refine lv_if_eq (tgt := 34) hx hb dX6_lay_1 (by decide) (fun c1 => ?_) (fun c1 => ?_)
  · replace h := if_t c1 h
    exact wkM_lay_34 S hr hlk Q x1 x2 x3 _ _ _ _ h hw (lv_sub hl [0, 1, 2, 3] rfl)
  · replace h := if_f c1 h
    refine lv_iload_n hx hb dX6_lay_4 rfl (lv_at hl 2 rfl) ?_
    refine lv_iconst (v := (3 : Int32)) hx hb dX6_lay_5 (by decide) ?_
    refine lv_icmp_eq (tgt := 34) hx hb dX6_lay_6 (by decide) (fun c6 => ?_) (fun c6 => ?_)
    · replace h := if_t c6 h
      exact wkM_lay_34 S hr hlk Q x1 x2 x3 _ _ _ _ h hw (lv_sub hl [0, 1, 2, 3] rfl)
    · replace h := if_f c6 h
      refine lv_iload_n hx hb dX6_lay_9 rfl (lv_at hl 2 rfl) ?_
      refine lv_iconst (v := (1 : Int32)) hx hb dX6_lay_10 (by decide) ?_
      refine lv_icmp_ne (tgt := 22) hx hb dX6_lay_11 (by decide) (fun c11 => ?_) (fun c11 => ?_)
      · replace h := if_f c11 h
        exact wkM_lay_22 S hr hlk Q x1 x2 x3 _ _ _ _ h hw (lv_sub hl [0, 1, 2, 3] rfl)
      · replace h := if_t c11 h
        refine lv_aload_n hx hb dX6_lay_14 rfl (lv_at hl 0 rfl) ?_
        refine lv_iload_n hx hb dX6_lay_15 rfl (lv_at hl 3 rfl) ?_
        refine m_calli S hw [.int x3] [] (ctM_isLeaf l D dA ad A a x3 _ h) (cwM_isLeaf hts ⟨Nat.le_of_ble_eq_true rfl, Nat.le_of_ble_eq_true rfl⟩) rfl hl.1 rfl (Nat.le_of_ble_eq_true rfl) dX6_lay_16 ⟨Nat.zero_le _, Nat.zero_le _⟩ (fun r16 a16 H locs h hw => ?_)
        refine lv_if_ne (tgt := 34) hx hb dX6_lay_19 (by decide) (fun c19 => ?_) (fun c19 => ?_)
        · replace h := if_f c19 h
          exact wkM_lay_34 S hr hlk Q x1 x2 x3 _ _ _ _ h hw (lv_sub hl [0, 1, 2, 3] rfl)
        · replace h := if_t c19 h
          exact wkM_lay_22 S hr hlk Q x1 x2 x3 _ _ _ _ h hw (lv_sub hl [0, 1, 2, 3] rfl)
theorem ctM_lay (l : Launch) (D : va_G) (dA : Nat → ClassId) (ad : Nat → Nat) (A : Nat → Prop) (a : MS) (x1 : Int32) (x2 : Int32) (x3 : Int32) (Q : Int32 → MS → Prop) (h : wpM_lay a x1 x2 x3 Q) : Met l yX6_lay (ws_ yX6_lay cX6_lay 7 (some .int)) rmM_lay (mPc D dA ad A a [.ref (ad 38), .int x1, .int x2, .int x3]) (mQi D dA ad A Q) 0 0 A :=
  m_met (by decide) rfl rfl rfl (Nat.le_of_ble_eq_true rfl) (fun p e s m below meth c ls S hr hlk hw hl => wkM_lay_e S hr hlk Q x1 x2 x3 a _ _ ls h hw hl)
/-! ask -/
abbrev rmM_ask : Room := { frames := 2, cells := 0, slots := 0, locals := 45 }
def wpM_ask (a : MS) (x1 : Int32) (x2 : Int32) (Q : Int32 → MS → Prop) : Prop := wpM_isSlot a x1 (fun r1 a1 => if r1 = 0 then (Q (-1000000001 : Int32) a1) else (wpM_isIn a1 x2.toInt64 (0 : Int64) (5 : Int64) (fun r13 a13 => if r13 = 0 then (Q (-1000000001 : Int32) a13) else (vp_in x1 5 ∧ (if (a13 7 x1.toNatClampNeg) = 0 then (Q (-1000000011 : Int32) a13) else (vp_in x1 5 ∧ (if (a13 7 x1.toNatClampNeg) = (1 : Int32) then (vp_in x1 5 ∧ (wpM_isOf a13 (a13 8 x1.toNatClampNeg) x2 (fun r52 a52 => if r52 = 0 then (Q (-1000000012 : Int32) a52) else (vp_in x1 5 ∧ (Q (a52 9 x1.toNatClampNeg) a52))))) else (Q (-1000000012 : Int32) a13))))))))
set_option maxHeartbeats 4000000 in
set_option maxRecDepth 100000 in
theorem wkM_ask_e (S : CallFix p m c cX6_ask 3 s args lw_all RX6) (hr : meth.sig.returnType = (some .int)) (hlk : meth.locks = false) (Q : Int32 → MS → Prop) (x1 : Int32) (x2 : Int32) (a : MS) (H : Heap) (locs : List Loc) (ls : Array Slot) (h : wpM_ask a x1 x2 Q) (hw : MW D dA ad A a s H locs) (hl : lv_has ls 3 [(0, .ref (ad 38)), (1, .int x1), (2, .int x2)]) : W p l e rmM_ask s m args below meth c H locs 0 0 (MQ below (mQi D dA ad A Q) args s 0 0 A) (F0 m 0 ls []) := by
  have hx := S.1
  have hb := S.2.1
  have hown := S.2.2.2.1
  have hts := S.2.2.2.2
  unfold wpM_ask at h
  refine lv_iload_n hx hb dX6_ask_0 rfl (lv_at hl 1 rfl) ?_
  refine m_callSi S hw [.int x1] [] (ctM_isSlot l D dA ad A a x1 _ h) (cwM_isSlot hts ⟨Nat.le_of_ble_eq_true rfl, Nat.le_of_ble_eq_true rfl⟩) rfl hl.1 rfl (Nat.le_of_ble_eq_true rfl) dX6_ask_1 ⟨Nat.zero_le _, Nat.zero_le _⟩ (fun r1 a1 H locs h hw => ?_)
  refine lv_if_eq (tgt := 19) hx hb dX6_ask_4 (by decide) (fun c4 => ?_) (fun c4 => ?_)
  · replace h := if_t c4 h
    refine lv_ldc hx hb hown (hts _ q1468) dX6_ask_19 ?_
    exact m_iret S hr hlk hw h dX6_ask_21
  · replace h := if_f c4 h
    refine lv_iload_n hx hb dX6_ask_7 rfl (lv_at hl 2 rfl) ?_
    refine lv_i2l (v := x2.toInt64) hx hb dX6_ask_8 rfl ?_
    refine lv_lconst (v := 0) hx hb dX6_ask_9 (by decide) ?_
    refine lv_ldc2 hx hb hown (hts _ q1457) dX6_ask_10 ?_
    refine m_callSi S hw [.long x2.toInt64, .long (0 : Int64), .long (5 : Int64)] [] (ctM_isIn l D dA ad A a1 x2.toInt64 (0 : Int64) (5 : Int64) _ h) (cwM_isIn hts ⟨Nat.le_of_ble_eq_true rfl, Nat.le_of_ble_eq_true rfl⟩) rfl hl.1 rfl (Nat.le_of_ble_eq_true rfl) dX6_ask_13 ⟨Nat.zero_le _, Nat.zero_le _⟩ (fun r13 a13 H locs h hw => ?_)
    refine lv_if_ne (tgt := 22) hx hb dX6_ask_16 (by decide) (fun c16 => ?_) (fun c16 => ?_)
    · replace h := if_f c16 h
      refine lv_aload_n hx hb dX6_ask_22 rfl (lv_at hl 0 rfl) ?_
      refine m_get S hw 7 (by decide) q1345 rfl rfl dX6_ask_23 ?_
      refine lv_iload_n hx hb dX6_ask_26 rfl (lv_at hl 1 rfl) ?_
      refine m_ald S hw 7 7 5 rfl (by decide) rfl h.1 dX6_ask_27 ?_
      replace h := h.2
      refine lv_if_ne (tgt := 35) hx hb dX6_ask_28 (by decide) (fun c28 => ?_) (fun c28 => ?_)
      · replace h := if_f c28 h
        refine lv_aload_n hx hb dX6_ask_35 rfl (lv_at hl 0 rfl) ?_
        refine m_get S hw 7 (by decide) q1345 rfl rfl dX6_ask_36 ?_
        refine lv_iload_n hx hb dX6_ask_39 rfl (lv_at hl 1 rfl) ?_
        refine m_ald S hw 7 7 5 rfl (by decide) rfl h.1 dX6_ask_40 ?_
        replace h := h.2
        refine lv_iconst (v := (1 : Int32)) hx hb dX6_ask_41 (by decide) ?_
        refine lv_icmp_ne (tgt := 67) hx hb dX6_ask_42 (by decide) (fun c42 => ?_) (fun c42 => ?_)
        · replace h := if_f c42 h
          refine lv_ldc hx hb hown (hts _ q1539) dX6_ask_67 ?_
          exact m_iret S hr hlk hw h dX6_ask_69
        · replace h := if_t c42 h
          refine lv_aload_n hx hb dX6_ask_45 rfl (lv_at hl 0 rfl) ?_
          refine m_get S hw 8 (by decide) q1346 rfl rfl dX6_ask_46 ?_
          refine lv_iload_n hx hb dX6_ask_49 rfl (lv_at hl 1 rfl) ?_
          refine m_ald S hw 8 8 5 rfl (by decide) rfl h.1 dX6_ask_50 ?_
          replace h := h.2
          refine lv_iload_n hx hb dX6_ask_51 rfl (lv_at hl 2 rfl) ?_
          refine m_callSi S hw [.int (a13 8 x1.toNatClampNeg), .int x2] [] (ctM_isOf l D dA ad A a13 (a13 8 x1.toNatClampNeg) x2 _ h) (cwM_isOf hts ⟨Nat.le_of_ble_eq_true rfl, Nat.le_of_ble_eq_true rfl⟩) rfl hl.1 rfl (Nat.le_of_ble_eq_true rfl) dX6_ask_52 ⟨Nat.zero_le _, Nat.zero_le _⟩ (fun r52 a52 H locs h hw => ?_)
          refine lv_if_eq (tgt := 67) hx hb dX6_ask_55 (by decide) (fun c55 => ?_) (fun c55 => ?_)
          · replace h := if_t c55 h
            refine lv_ldc hx hb hown (hts _ q1539) dX6_ask_67 ?_
            exact m_iret S hr hlk hw h dX6_ask_69
          · replace h := if_f c55 h
            refine lv_aload_n hx hb dX6_ask_58 rfl (lv_at hl 0 rfl) ?_
            refine m_get S hw 9 (by decide) q1347 rfl rfl dX6_ask_59 ?_
            refine lv_iload_n hx hb dX6_ask_62 rfl (lv_at hl 1 rfl) ?_
            refine m_ald S hw 9 9 5 rfl (by decide) rfl h.1 dX6_ask_63 ?_
            replace h := h.2
            refine lv_goto (tgt := 69) hx hb dX6_ask_64 (by decide) ?_
            exact m_iret S hr hlk hw h dX6_ask_69
      · replace h := if_t c28 h
        refine lv_ldcw hx hb hown (hts _ q1831) dX6_ask_31 ?_
        exact m_iret S hr hlk hw h dX6_ask_34
    · replace h := if_t c16 h
      refine lv_ldc hx hb hown (hts _ q1468) dX6_ask_19 ?_
      exact m_iret S hr hlk hw h dX6_ask_21
theorem ctM_ask (l : Launch) (D : va_G) (dA : Nat → ClassId) (ad : Nat → Nat) (A : Nat → Prop) (a : MS) (x1 : Int32) (x2 : Int32) (Q : Int32 → MS → Prop) (h : wpM_ask a x1 x2 Q) : Met l yX6_ask (ws_ yX6_ask cX6_ask 3 (some .int)) rmM_ask (mPc D dA ad A a [.ref (ad 38), .int x1, .int x2]) (mQi D dA ad A Q) 0 0 A :=
  m_met (by decide) rfl rfl rfl (Nat.le_of_ble_eq_true rfl) (fun p e s m below meth c ls S hr hlk hw hl => wkM_ask_e S hr hlk Q x1 x2 a _ _ ls h hw hl)
/-! item -/
abbrev rmM_item : Room := { frames := 2, cells := 0, slots := 0, locals := 45 }
def wpM_item (a : MS) (x1 : Int32) (x2 : Int32) (Q : Int32 → MS → Prop) : Prop := wpM_isSlot a x1 (fun r1 a1 => if r1 = 0 then (Q (-1000000001 : Int32) a1) else (vp_in x1 5 ∧ (if (a1 7 x1.toNatClampNeg) = (2 : Int32) then (vp_in x1 5 ∧ (wpM_isIn a1 x2.toInt64 (0 : Int64) ((a1 10 x1.toNatClampNeg) - (1 : Int32)).toInt64 (fun r50 a50 => if r50 = 0 then (Q (-1000000013 : Int32) a50) else (vp_in (((24 : Int32) * x1) + x2) 120 ∧ (if (a50 11 (((24 : Int32) * x1) + x2).toNatClampNeg) = (-1000000005 : Int32) then (Q (-1000000012 : Int32) a50) else (Q (a50 11 (((24 : Int32) * x1) + x2).toNatClampNeg) a50)))))) else (vp_in x1 5 ∧ (if (a1 7 x1.toNatClampNeg) = 0 then (Q (-1000000011 : Int32) a1) else (Q (-1000000012 : Int32) a1))))))
set_option maxHeartbeats 4000000 in
set_option maxRecDepth 100000 in
theorem wkM_item_e (S : CallFix p m c cX6_item 4 s args lw_all RX6) (hr : meth.sig.returnType = (some .int)) (hlk : meth.locks = false) (Q : Int32 → MS → Prop) (x1 : Int32) (x2 : Int32) (a : MS) (H : Heap) (locs : List Loc) (ls : Array Slot) (h : wpM_item a x1 x2 Q) (hw : MW D dA ad A a s H locs) (hl : lv_has ls 4 [(0, .ref (ad 38)), (1, .int x1), (2, .int x2)]) : W p l e rmM_item s m args below meth c H locs 0 0 (MQ below (mQi D dA ad A Q) args s 0 0 A) (F0 m 0 ls []) := by
  have hx := S.1
  have hb := S.2.1
  have hown := S.2.2.2.1
  have hts := S.2.2.2.2
  unfold wpM_item at h
  refine lv_iload_n hx hb dX6_item_0 rfl (lv_at hl 1 rfl) ?_
  refine m_callSi S hw [.int x1] [] (ctM_isSlot l D dA ad A a x1 _ h) (cwM_isSlot hts ⟨Nat.le_of_ble_eq_true rfl, Nat.le_of_ble_eq_true rfl⟩) rfl hl.1 rfl (Nat.le_of_ble_eq_true rfl) dX6_item_1 ⟨Nat.zero_le _, Nat.zero_le _⟩ (fun r1 a1 H locs h hw => ?_)
  refine lv_if_ne (tgt := 10) hx hb dX6_item_4 (by decide) (fun c4 => ?_) (fun c4 => ?_)
  · replace h := if_f c4 h
    refine lv_aload_n hx hb dX6_item_10 rfl (lv_at hl 0 rfl) ?_
    refine m_get S hw 7 (by decide) q1345 rfl rfl dX6_item_11 ?_
    refine lv_iload_n hx hb dX6_item_14 rfl (lv_at hl 1 rfl) ?_
    refine m_ald S hw 7 7 5 rfl (by decide) rfl h.1 dX6_item_15 ?_
    replace h := h.2
    refine lv_iconst (v := (2 : Int32)) hx hb dX6_item_16 (by decide) ?_
    refine lv_icmp_eq (tgt := 38) hx hb dX6_item_17 (by decide) (fun c17 => ?_) (fun c17 => ?_)
    · replace h := if_t c17 h
      refine lv_iload_n hx hb dX6_item_38 rfl (lv_at hl 2 rfl) ?_
      refine lv_i2l (v := x2.toInt64) hx hb dX6_item_39 rfl ?_
      refine lv_lconst (v := 0) hx hb dX6_item_40 (by decide) ?_
      refine lv_aload_n hx hb dX6_item_41 rfl (lv_at hl 0 rfl) ?_
      refine m_get S hw 10 (by decide) q1348 rfl rfl dX6_item_42 ?_
      refine lv_iload_n hx hb dX6_item_45 rfl (lv_at hl 1 rfl) ?_
      refine m_ald S hw 10 10 5 rfl (by decide) rfl h.1 dX6_item_46 ?_
      replace h := h.2
      refine lv_iconst (v := (1 : Int32)) hx hb dX6_item_47 (by decide) ?_
      refine lv_isub hx hb dX6_item_48 ?_
      refine lv_i2l (v := ((a1 10 x1.toNatClampNeg) - (1 : Int32)).toInt64) hx hb dX6_item_49 rfl ?_
      refine m_callSi S hw [.long x2.toInt64, .long (0 : Int64), .long ((a1 10 x1.toNatClampNeg) - (1 : Int32)).toInt64] [] (ctM_isIn l D dA ad A a1 x2.toInt64 (0 : Int64) ((a1 10 x1.toNatClampNeg) - (1 : Int32)).toInt64 _ h) (cwM_isIn hts ⟨Nat.le_of_ble_eq_true rfl, Nat.le_of_ble_eq_true rfl⟩) rfl hl.1 rfl (Nat.le_of_ble_eq_true rfl) dX6_item_50 ⟨Nat.zero_le _, Nat.zero_le _⟩ (fun r50 a50 H locs h hw => ?_)
      refine lv_if_ne (tgt := 60) hx hb dX6_item_53 (by decide) (fun c53 => ?_) (fun c53 => ?_)
      · replace h := if_f c53 h
        refine lv_aload_n hx hb dX6_item_60 rfl (lv_at hl 0 rfl) ?_
        refine m_get S hw 11 (by decide) q1349 rfl rfl dX6_item_61 ?_
        refine lv_bipush (v := (24 : Int32)) hx hb dX6_item_64 (by decide) ?_
        refine lv_iload_n hx hb dX6_item_66 rfl (lv_at hl 1 rfl) ?_
        refine lv_imul hx hb dX6_item_67 ?_
        refine lv_iload_n hx hb dX6_item_68 rfl (lv_at hl 2 rfl) ?_
        refine lv_iadd hx hb dX6_item_69 ?_
        refine m_ald S hw 11 11 120 rfl (by decide) rfl h.1 dX6_item_70 ?_
        replace h := h.2
        refine lv_istore_n (lv' := [(3, .int (a50 11 (((24 : Int32) * x1) + x2).toNatClampNeg)), (0, .ref (ad 38)), (1, .int x1), (2, .int x2)]) hx hb dX6_item_71 rfl hl (by decide) rfl (fun ls hl => ?_)
        refine lv_iload_n hx hb dX6_item_72 rfl (lv_at hl 0 rfl) ?_
        refine lv_ldc hx hb hown (hts _ q1463) dX6_item_73 ?_
        refine lv_icmp_ne (tgt := 83) hx hb dX6_item_75 (by decide) (fun c75 => ?_) (fun c75 => ?_)
        · replace h := if_f c75 h
          refine lv_iload_n hx hb dX6_item_83 rfl (lv_at hl 0 rfl) ?_
          exact m_iret S hr hlk hw h dX6_item_84
        · replace h := if_t c75 h
          refine lv_ldc hx hb hown (hts _ q1539) dX6_item_78 ?_
          refine lv_goto (tgt := 84) hx hb dX6_item_80 (by decide) ?_
          exact m_iret S hr hlk hw h dX6_item_84
      · replace h := if_t c53 h
        refine lv_ldcw hx hb hown (hts _ q1832) dX6_item_56 ?_
        exact m_iret S hr hlk hw h dX6_item_59
    · replace h := if_f c17 h
      refine lv_aload_n hx hb dX6_item_20 rfl (lv_at hl 0 rfl) ?_
      refine m_get S hw 7 (by decide) q1345 rfl rfl dX6_item_21 ?_
      refine lv_iload_n hx hb dX6_item_24 rfl (lv_at hl 1 rfl) ?_
      refine m_ald S hw 7 7 5 rfl (by decide) rfl h.1 dX6_item_25 ?_
      replace h := h.2
      refine lv_if_ne (tgt := 35) hx hb dX6_item_26 (by decide) (fun c26 => ?_) (fun c26 => ?_)
      · replace h := if_f c26 h
        refine lv_ldc hx hb hown (hts _ q1539) dX6_item_35 ?_
        exact m_iret S hr hlk hw h dX6_item_37
      · replace h := if_t c26 h
        refine lv_ldcw hx hb hown (hts _ q1831) dX6_item_29 ?_
        refine lv_goto (tgt := 37) hx hb dX6_item_32 (by decide) ?_
        exact m_iret S hr hlk hw h dX6_item_37
  · replace h := if_t c4 h
    refine lv_ldc hx hb hown (hts _ q1468) dX6_item_7 ?_
    exact m_iret S hr hlk hw h dX6_item_9
theorem ctM_item (l : Launch) (D : va_G) (dA : Nat → ClassId) (ad : Nat → Nat) (A : Nat → Prop) (a : MS) (x1 : Int32) (x2 : Int32) (Q : Int32 → MS → Prop) (h : wpM_item a x1 x2 Q) : Met l yX6_item (ws_ yX6_item cX6_item 4 (some .int)) rmM_item (mPc D dA ad A a [.ref (ad 38), .int x1, .int x2]) (mQi D dA ad A Q) 0 0 A :=
  m_met (by decide) rfl rfl rfl (Nat.le_of_ble_eq_true rfl) (fun p e s m below meth c ls S hr hlk hw hl => wkM_item_e S hr hlk Q x1 x2 a _ _ ls h hw hl)
/-! rest -/
abbrev rmM_rest : Room := { frames := 2, cells := 0, slots := 0, locals := 45 }
def wpM_rest (a : MS) (x1 : Int32) (x2 : Int32) (Q : Int32 → MS → Prop) : Prop := wpM_isSlot a x1 (fun r1 a1 => if r1 = 0 then (Q (-1000000001 : Int32) a1) else (vp_in x1 5 ∧ (if (a1 7 x1.toNatClampNeg) = (3 : Int32) then (if x2 = 0 then (Q (-1000000002 : Int32) a1) else (vp_in x1 5 ∧ ((¬ x2 = 0) ∧ (Q (irm (a1 8 x1.toNatClampNeg) x2) a1)))) else (vp_in x1 5 ∧ (if (a1 7 x1.toNatClampNeg) = 0 then (Q (-1000000011 : Int32) a1) else (Q (-1000000012 : Int32) a1))))))
set_option maxHeartbeats 4000000 in
set_option maxRecDepth 100000 in
theorem wkM_rest_e (S : CallFix p m c cX6_rest 3 s args lw_all RX6) (hr : meth.sig.returnType = (some .int)) (hlk : meth.locks = false) (Q : Int32 → MS → Prop) (x1 : Int32) (x2 : Int32) (a : MS) (H : Heap) (locs : List Loc) (ls : Array Slot) (h : wpM_rest a x1 x2 Q) (hw : MW D dA ad A a s H locs) (hl : lv_has ls 3 [(0, .ref (ad 38)), (1, .int x1), (2, .int x2)]) : W p l e rmM_rest s m args below meth c H locs 0 0 (MQ below (mQi D dA ad A Q) args s 0 0 A) (F0 m 0 ls []) := by
  have hx := S.1
  have hb := S.2.1
  have hown := S.2.2.2.1
  have hts := S.2.2.2.2
  unfold wpM_rest at h
  refine lv_iload_n hx hb dX6_rest_0 rfl (lv_at hl 1 rfl) ?_
  refine m_callSi S hw [.int x1] [] (ctM_isSlot l D dA ad A a x1 _ h) (cwM_isSlot hts ⟨Nat.le_of_ble_eq_true rfl, Nat.le_of_ble_eq_true rfl⟩) rfl hl.1 rfl (Nat.le_of_ble_eq_true rfl) dX6_rest_1 ⟨Nat.zero_le _, Nat.zero_le _⟩ (fun r1 a1 H locs h hw => ?_)
  refine lv_if_ne (tgt := 10) hx hb dX6_rest_4 (by decide) (fun c4 => ?_) (fun c4 => ?_)
  · replace h := if_f c4 h
    refine lv_aload_n hx hb dX6_rest_10 rfl (lv_at hl 0 rfl) ?_
    refine m_get S hw 7 (by decide) q1345 rfl rfl dX6_rest_11 ?_
    refine lv_iload_n hx hb dX6_rest_14 rfl (lv_at hl 1 rfl) ?_
    refine m_ald S hw 7 7 5 rfl (by decide) rfl h.1 dX6_rest_15 ?_
    replace h := h.2
    refine lv_iconst (v := (3 : Int32)) hx hb dX6_rest_16 (by decide) ?_
    refine lv_icmp_eq (tgt := 38) hx hb dX6_rest_17 (by decide) (fun c17 => ?_) (fun c17 => ?_)
    · replace h := if_t c17 h
      refine lv_iload_n hx hb dX6_rest_38 rfl (lv_at hl 2 rfl) ?_
      refine lv_if_ne (tgt := 47) hx hb dX6_rest_39 (by decide) (fun c39 => ?_) (fun c39 => ?_)
      · replace h := if_f c39 h
        refine lv_aload_n hx hb dX6_rest_47 rfl (lv_at hl 0 rfl) ?_
        refine m_get S hw 8 (by decide) q1346 rfl rfl dX6_rest_48 ?_
        refine lv_iload_n hx hb dX6_rest_51 rfl (lv_at hl 1 rfl) ?_
        refine m_ald S hw 8 8 5 rfl (by decide) rfl h.1 dX6_rest_52 ?_
        replace h := h.2
        refine lv_iload_n hx hb dX6_rest_53 rfl (lv_at hl 2 rfl) ?_
        refine lv_irem hx hb dX6_rest_54 h.1 ?_
        replace h := h.2
        exact m_iret S hr hlk hw h dX6_rest_55
      · replace h := if_t c39 h
        refine lv_ldc hx hb hown (hts _ q1655) dX6_rest_42 ?_
        refine lv_goto (tgt := 55) hx hb dX6_rest_44 (by decide) ?_
        exact m_iret S hr hlk hw h dX6_rest_55
    · replace h := if_f c17 h
      refine lv_aload_n hx hb dX6_rest_20 rfl (lv_at hl 0 rfl) ?_
      refine m_get S hw 7 (by decide) q1345 rfl rfl dX6_rest_21 ?_
      refine lv_iload_n hx hb dX6_rest_24 rfl (lv_at hl 1 rfl) ?_
      refine m_ald S hw 7 7 5 rfl (by decide) rfl h.1 dX6_rest_25 ?_
      replace h := h.2
      refine lv_if_ne (tgt := 35) hx hb dX6_rest_26 (by decide) (fun c26 => ?_) (fun c26 => ?_)
      · replace h := if_f c26 h
        refine lv_ldc hx hb hown (hts _ q1539) dX6_rest_35 ?_
        exact m_iret S hr hlk hw h dX6_rest_37
      · replace h := if_t c26 h
        refine lv_ldcw hx hb hown (hts _ q1831) dX6_rest_29 ?_
        refine lv_goto (tgt := 37) hx hb dX6_rest_32 (by decide) ?_
        exact m_iret S hr hlk hw h dX6_rest_37
  · replace h := if_t c4 h
    refine lv_ldc hx hb hown (hts _ q1468) dX6_rest_7 ?_
    exact m_iret S hr hlk hw h dX6_rest_9
theorem ctM_rest (l : Launch) (D : va_G) (dA : Nat → ClassId) (ad : Nat → Nat) (A : Nat → Prop) (a : MS) (x1 : Int32) (x2 : Int32) (Q : Int32 → MS → Prop) (h : wpM_rest a x1 x2 Q) : Met l yX6_rest (ws_ yX6_rest cX6_rest 3 (some .int)) rmM_rest (mPc D dA ad A a [.ref (ad 38), .int x1, .int x2]) (mQi D dA ad A Q) 0 0 A :=
  m_met (by decide) rfl rfl rfl (Nat.le_of_ble_eq_true rfl) (fun p e s m below meth c ls S hr hlk hw hl => wkM_rest_e S hr hlk Q x1 x2 a _ _ ls h hw hl)
/-! tell -/
abbrev rmM_tell : Room := { frames := 0, cells := 0, slots := 0, locals := 0 }
def wpM_tell (a : MS) (x1 : Int32) (Q : Int32 → MS → Prop) : Prop := if (a 38 36) = (60 : Int32) then (Q (-1000000003 : Int32) a) else (vp_in (a 38 36) 60 ∧ (∀ a21 : MS, a21 = up2 a 35 (a 38 36).toNatClampNeg x1 → (∀ a29 : MS, a29 = up2 a21 38 36 ((a21 38 36) + (1 : Int32)) → (Q (a29 38 36) a29))))
set_option maxHeartbeats 4000000 in
set_option maxRecDepth 100000 in
theorem wkM_tell_e (S : CallFix p m c cX6_tell 2 s args lw_all RX6) (hr : meth.sig.returnType = (some .int)) (hlk : meth.locks = false) (Q : Int32 → MS → Prop) (x1 : Int32) (a : MS) (H : Heap) (locs : List Loc) (ls : Array Slot) (h : wpM_tell a x1 Q) (hw : MW D dA ad A a s H locs) (hl : lv_has ls 2 [(0, .ref (ad 38)), (1, .int x1)]) : W p l e rmM_tell s m args below meth c H locs 0 0 (MQ below (mQi D dA ad A Q) args s 0 0 A) (F0 m 0 ls []) := by
  have hx := S.1
  have hb := S.2.1
  have hown := S.2.2.2.1
  have hts := S.2.2.2.2
  unfold wpM_tell at h
  refine lv_aload_n hx hb dX6_tell_0 rfl (lv_at hl 0 rfl) ?_
  refine m_get S hw 36 (by decide) q1374 rfl rfl dX6_tell_1 ?_
  refine lv_bipush (v := (60 : Int32)) hx hb dX6_tell_4 (by decide) ?_
  refine lv_icmp_ne (tgt := 12) hx hb dX6_tell_6 (by decide) (fun c6 => ?_) (fun c6 => ?_)
  · replace h := if_f c6 h
    refine lv_aload_n hx hb dX6_tell_12 rfl (lv_at hl 0 rfl) ?_
    refine m_get S hw 35 (by decide) q1373 rfl rfl dX6_tell_13 ?_
    refine lv_aload_n hx hb dX6_tell_16 rfl (lv_at hl 0 rfl) ?_
    refine m_get S hw 36 (by decide) q1374 rfl rfl dX6_tell_17 ?_
    refine lv_iload_n hx hb dX6_tell_20 rfl (lv_at hl 1 rfl) ?_
    refine m_ast S hw 23 35 60 rfl (by decide) rfl h.1 dX6_tell_21 (fun a21 H locs ea21 hw => ?_)
    replace h := h.2 a21 ea21
    refine lv_aload_n hx hb dX6_tell_22 rfl (lv_at hl 0 rfl) ?_
    refine lv_dup hx hb dX6_tell_23 rfl ?_
    refine m_get S hw 36 (by decide) q1374 rfl rfl dX6_tell_24 ?_
    refine lv_iconst (v := (1 : Int32)) hx hb dX6_tell_27 (by decide) ?_
    refine lv_iadd hx hb dX6_tell_28 ?_
    refine m_puti S hw 36 (by decide) q1374 rfl rfl rfl rfl mset_36 dX6_tell_29 (fun a29 H locs ea29 hw => ?_)
    replace h := h a29 ea29
    refine lv_aload_n hx hb dX6_tell_32 rfl (lv_at hl 0 rfl) ?_
    refine m_get S hw 36 (by decide) q1374 rfl rfl dX6_tell_33 ?_
    exact m_iret S hr hlk hw h dX6_tell_36
  · replace h := if_t c6 h
    refine lv_ldc hx hb hown (hts _ q1469) dX6_tell_9 ?_
    exact m_iret S hr hlk hw h dX6_tell_11
theorem ctM_tell (l : Launch) (D : va_G) (dA : Nat → ClassId) (ad : Nat → Nat) (A : Nat → Prop) (a : MS) (x1 : Int32) (Q : Int32 → MS → Prop) (h : wpM_tell a x1 Q) : Met l yX6_tell (ws_ yX6_tell cX6_tell 2 (some .int)) rmM_tell (mPc D dA ad A a [.ref (ad 38), .int x1]) (mQi D dA ad A Q) 0 0 A :=
  m_met (by decide) rfl rfl rfl (Nat.le_of_ble_eq_true rfl) (fun p e s m below meth c ls S hr hlk hw hl => wkM_tell_e S hr hlk Q x1 a _ _ ls h hw hl)
/-! setAside -/
abbrev rmM_setAside : Room := { frames := 0, cells := 0, slots := 0, locals := 0 }
def bkM_setAside_2 (Q : MS → Prop) (f1 : Nat) (f2 : Nat) : Nat → Int32 → MS → Prop
  | 0 => fun _ _ => False
  | n + 1 => fun x3 a => if (2898 : Int32) ≤ x3 then (Q a) else (vp_in x3 3098 ∧ (vp_in x3 3098 ∧ (∀ a14 : MS, a14 = up2 a f2 x3.toNatClampNeg (a f1 x3.toNatClampNeg) → (bkM_setAside_2 Q f1 f2 n (x3 + (1 : Int32)) a14))))
set_option maxHeartbeats 4000000 in
set_option maxRecDepth 100000 in
theorem wkM_setAside_2 (S : CallFix p m c cX6_setAside 4 s args lw_all RX6) (hr : meth.sig.returnType = none) (hlk : meth.locks = false) (Q : MS → Prop) (f1 : Nat) (f2 : Nat) (hf1 : f1 < 3) (hf2 : f2 < 3) : ∀ (n : Nat) (x3 : Int32) (a : MS) (H : Heap) (locs : List Loc) (ls : Array Slot), bkM_setAside_2 Q f1 f2 n x3 a → MW D dA ad A a s H locs → lv_has ls 4 [(1, .ref (ad f1)), (2, .ref (ad f2)), (3, .int x3)] → W p l e rmM_setAside s m args below meth c H locs 0 0 (MQ below (mQv D dA ad A Q) args s 0 0 A) (F0 m 2 ls []) := by
  have hx := S.1
  have hb := S.2.1
  have hown := S.2.2.2.1
  have hts := S.2.2.2.2
  intro n
  induction n with
  | zero =>
    intro x3 a H locs ls h
    exact False.elim h
  | succ n ih =>
    intro x3 a H locs ls h hw hl
    unfold bkM_setAside_2 at h
    refine lv_iload_n hx hb dX6_setAside_2 rfl (lv_at hl 2 rfl) ?_
    refine lv_sipush (v := (2898 : Int32)) hx hb dX6_setAside_3 (by decide) ?_
    refine lv_icmp_ge (tgt := 21) hx hb dX6_setAside_6 (by decide) (fun c6 => ?_) (fun c6 => ?_)
    · replace h := if_t c6 h
      exact m_vret S hr hlk hw h dX6_setAside_21
    · replace h := if_f c6 h
      refine lv_aload_n hx hb dX6_setAside_9 rfl (lv_at hl 1 rfl) ?_
      refine lv_iload_n hx hb dX6_setAside_10 rfl (lv_at hl 2 rfl) ?_
      refine lv_aload_n hx hb dX6_setAside_11 rfl (lv_at hl 0 rfl) ?_
      refine lv_iload_n hx hb dX6_setAside_12 rfl (lv_at hl 2 rfl) ?_
      refine m_ald S hw (pos3 hf1) f1 3098 (pos3_at hf1) (pos3_ne hf1) (pos3_len hf1) h.1 dX6_setAside_13 ?_
      replace h := h.2
      refine m_ast S hw (pos3 hf2) f2 3098 (pos3_at hf2) (pos3_ne hf2) (pos3_len hf2) h.1 dX6_setAside_14 (fun a14 H locs ea14 hw => ?_)
      replace h := h.2 a14 ea14
      refine lv_iinc (v := (x3 + (1 : Int32))) (lv' := [(3, .int (x3 + (1 : Int32))), (1, .ref (ad f1)), (2, .ref (ad f2))]) hx hb dX6_setAside_15 hl (k := 2) rfl rfl (by decide) rfl (fun ls hl => ?_)
      refine lv_goto (tgt := 2) hx hb dX6_setAside_18 (by decide) ?_
      exact ih _ _ _ _ _ h hw (lv_sub hl [1, 2, 0] rfl)
def wpM_setAside (a : MS) (f1 : Nat) (f2 : Nat) (Q : MS → Prop) : Prop := f1 < 3 ∧ f2 < 3 ∧ ∃ n2, bkM_setAside_2 Q f1 f2 n2 (0 : Int32) a
set_option maxHeartbeats 4000000 in
set_option maxRecDepth 100000 in
theorem wkM_setAside_e (S : CallFix p m c cX6_setAside 4 s args lw_all RX6) (hr : meth.sig.returnType = none) (hlk : meth.locks = false) (Q : MS → Prop) (f1 : Nat) (f2 : Nat) (a : MS) (H : Heap) (locs : List Loc) (ls : Array Slot) (h : wpM_setAside a f1 f2 Q) (hw : MW D dA ad A a s H locs) (hl : lv_has ls 4 [(0, .ref (ad 38)), (1, .ref (ad f1)), (2, .ref (ad f2))]) : W p l e rmM_setAside s m args below meth c H locs 0 0 (MQ below (mQv D dA ad A Q) args s 0 0 A) (F0 m 0 ls []) := by
  have hx := S.1
  have hb := S.2.1
  have hown := S.2.2.2.1
  have hts := S.2.2.2.2
  unfold wpM_setAside at h
  obtain ⟨hf1, h⟩ := h
  obtain ⟨hf2, h⟩ := h
  refine lv_iconst (v := (0 : Int32)) hx hb dX6_setAside_0 (by decide) ?_
  refine lv_istore_n (lv' := [(3, .int (0 : Int32)), (0, .ref (ad 38)), (1, .ref (ad f1)), (2, .ref (ad f2))]) hx hb dX6_setAside_1 rfl hl (by decide) rfl (fun ls hl => ?_)
  obtain ⟨n2, h⟩ := h
  exact wkM_setAside_2 S hr hlk Q f1 f2 hf1 hf2 n2 _ _ _ _ _ h hw (lv_sub hl [2, 3, 0] rfl)
theorem ctM_setAside (l : Launch) (D : va_G) (dA : Nat → ClassId) (ad : Nat → Nat) (A : Nat → Prop) (a : MS) (f1 : Nat) (f2 : Nat) (Q : MS → Prop) (h : wpM_setAside a f1 f2 Q) : Met l yX6_setAside (ws_ yX6_setAside cX6_setAside 4 none) rmM_setAside (mPc D dA ad A a [.ref (ad 38), .ref (ad f1), .ref (ad f2)]) (mQv D dA ad A Q) 0 0 A :=
  m_met (by decide) rfl rfl rfl (Nat.le_of_ble_eq_true rfl) (fun p e s m below meth c ls S hr hlk hw hl => wkM_setAside_e S hr hlk Q f1 f2 a _ _ ls h hw hl)
theorem cwM_setAside {R : Room} {s : State} {args : Array Value} {rm : Room} (hts : ∀ w ∈ lw_all, w.before args s = true) (hR : rm.frames + 1 ≤ R.frames ∧ 8 + (4 + 11) + rm.locals ≤ R.locals) (hc : rm.cells = 0 := by rfl) (hs : rm.slots = 0 := by rfl) : CallW R s args RX6 RX6 360 yX6_setAside cX6_setAside 4 none (ws_ yX6_setAside cX6_setAside 4 none) rm 0 0 2 :=
  cwV 2 hts (lw_V q1875 q1877 qs101 q112 q1878) rfl hc hs (by decide +kernel) hR
/-! check -/
abbrev rmM_check : Room := { frames := 6, cells := 0, slots := 0, locals := 142 }
def bkM_check_187 (Q : Int32 → MS → Prop) (x1 : Int32) : Int32 → Int32 → MS → Prop := fun x2 x3 a => if x3 = x2 then (if x3 = ((2 : Int32) * x1) then (Q (0 : Int32) a) else (Q ((1 : Int32) + x3) a)) else (Q ((1 : Int32) + x3) a)
set_option maxHeartbeats 4000000 in
set_option maxRecDepth 100000 in
theorem wkM_check_187 (S : CallFix p m c cX6_check 5 s args lw_all RX6) (hr : meth.sig.returnType = (some .int)) (hlk : meth.locks = false) (Q : Int32 → MS → Prop) (x1 : Int32) : ∀ (x2 : Int32) (x3 : Int32) (a : MS) (H : Heap) (locs : List Loc) (ls : Array Slot), bkM_check_187 Q x1 x2 x3 a → MW D dA ad A a s H locs → lv_has ls 5 [(1, .int x1), (2, .int x2), (3, .int x3)] → W p l e rmM_check s m args below meth c H locs 0 0 (MQ below (mQi D dA ad A Q) args s 0 0 A) (F0 m 187 ls []) := by
  have hx := S.1
  have hb := S.2.1
  have hown := S.2.2.2.1
  have hts := S.2.2.2.2
  intro x2 x3 a H locs ls h hw hl
  unfold bkM_check_187 at h
  refine lv_iload_n hx hb dX6_check_187 rfl (lv_at hl 2 rfl) ?_
  refine lv_iload_n hx hb dX6_check_188 rfl (lv_at hl 1 rfl) ?_
  refine lv_icmp_ne (tgt := 203) hx hb dX6_check_189 (by decide) (fun c189 => ?_) (fun c189 => ?_)
  · replace h := if_f c189 h
    refine lv_iconst (v := (1 : Int32)) hx hb dX6_check_203 (by decide) ?_
    refine lv_iload_n hx hb dX6_check_204 rfl (lv_at hl 2 rfl) ?_
    refine lv_iadd hx hb dX6_check_205 ?_
    exact m_iret S hr hlk hw h dX6_check_206
  · replace h := if_t c189 h
    refine lv_iload_n hx hb dX6_check_192 rfl (lv_at hl 2 rfl) ?_
    refine lv_iconst (v := (2 : Int32)) hx hb dX6_check_193 (by decide) ?_
    refine lv_iload_n hx hb dX6_check_194 rfl (lv_at hl 0 rfl) ?_
    refine lv_imul hx hb dX6_check_195 ?_
    refine lv_icmp_ne (tgt := 203) hx hb dX6_check_196 (by decide) (fun c196 => ?_) (fun c196 => ?_)
    · replace h := if_f c196 h
      refine lv_iconst (v := (1 : Int32)) hx hb dX6_check_203 (by decide) ?_
      refine lv_iload_n hx hb dX6_check_204 rfl (lv_at hl 2 rfl) ?_
      refine lv_iadd hx hb dX6_check_205 ?_
      exact m_iret S hr hlk hw h dX6_check_206
    · replace h := if_t c196 h
      refine lv_iconst (v := (0 : Int32)) hx hb dX6_check_199 (by decide) ?_
      refine lv_goto (tgt := 206) hx hb dX6_check_200 (by decide) ?_
      exact m_iret S hr hlk hw h dX6_check_206
def bkM_check_154 (Q : Int32 → MS → Prop) (x1 : Int32) : Nat → Int32 → Int32 → MS → Prop
  | 0 => fun _ _ _ => False
  | n + 1 => fun x2 x3 a => if x2 ≤ x3 then (bkM_check_187 Q x1 x2 x3 a) else (if ((2 : Int32) * x1) ≤ x3 then (bkM_check_187 Q x1 x2 x3 a) else (vp_in x3 60 ∧ (vp_in x3 60 ∧ (if (a 35 x3.toNatClampNeg) = (a 37 x3.toNatClampNeg) then (bkM_check_154 Q x1 n x2 (x3 + (1 : Int32)) a) else (bkM_check_187 Q x1 x2 x3 a)))))
set_option maxHeartbeats 4000000 in
set_option maxRecDepth 100000 in
theorem wkM_check_154 (S : CallFix p m c cX6_check 5 s args lw_all RX6) (hr : meth.sig.returnType = (some .int)) (hlk : meth.locks = false) (Q : Int32 → MS → Prop) (x1 : Int32) : ∀ (n : Nat) (x2 : Int32) (x3 : Int32) (a : MS) (H : Heap) (locs : List Loc) (ls : Array Slot), bkM_check_154 Q x1 n x2 x3 a → MW D dA ad A a s H locs → lv_has ls 5 [(0, .ref (ad 38)), (1, .int x1), (2, .int x2), (3, .int x3)] → W p l e rmM_check s m args below meth c H locs 0 0 (MQ below (mQi D dA ad A Q) args s 0 0 A) (F0 m 154 ls []) := by
  have hx := S.1
  have hb := S.2.1
  have hown := S.2.2.2.1
  have hts := S.2.2.2.2
  intro n
  induction n with
  | zero =>
    intro x2 x3 a H locs ls h
    exact False.elim h
  | succ n ih =>
    intro x2 x3 a H locs ls h hw hl
    unfold bkM_check_154 at h
    refine lv_iload_n hx hb dX6_check_154 rfl (lv_at hl 3 rfl) ?_
    refine lv_iload_n hx hb dX6_check_155 rfl (lv_at hl 2 rfl) ?_
    refine lv_icmp_ge (tgt := 187) hx hb dX6_check_156 (by decide) (fun c156 => ?_) (fun c156 => ?_)
    · replace h := if_t c156 h
      exact wkM_check_187 S hr hlk Q x1 _ _ _ _ _ _ h hw (lv_sub hl [1, 2, 3] rfl)
    · replace h := if_f c156 h
      refine lv_iload_n hx hb dX6_check_159 rfl (lv_at hl 3 rfl) ?_
      refine lv_iconst (v := (2 : Int32)) hx hb dX6_check_160 (by decide) ?_
      refine lv_iload_n hx hb dX6_check_161 rfl (lv_at hl 1 rfl) ?_
      refine lv_imul hx hb dX6_check_162 ?_
      refine lv_icmp_ge (tgt := 187) hx hb dX6_check_163 (by decide) (fun c163 => ?_) (fun c163 => ?_)
      · replace h := if_t c163 h
        exact wkM_check_187 S hr hlk Q x1 _ _ _ _ _ _ h hw (lv_sub hl [1, 2, 3] rfl)
      · replace h := if_f c163 h
        refine lv_aload_n hx hb dX6_check_166 rfl (lv_at hl 0 rfl) ?_
        refine m_get S hw 35 (by decide) q1373 rfl rfl dX6_check_167 ?_
        refine lv_iload_n hx hb dX6_check_170 rfl (lv_at hl 3 rfl) ?_
        refine m_ald S hw 23 35 60 rfl (by decide) rfl h.1 dX6_check_171 ?_
        replace h := h.2
        refine lv_aload_n hx hb dX6_check_172 rfl (lv_at hl 0 rfl) ?_
        refine m_get S hw 37 (by decide) q1375 rfl rfl dX6_check_173 ?_
        refine lv_iload_n hx hb dX6_check_176 rfl (lv_at hl 3 rfl) ?_
        refine m_ald S hw 24 37 60 rfl (by decide) rfl h.1 dX6_check_177 ?_
        replace h := h.2
        refine lv_icmp_ne (tgt := 187) hx hb dX6_check_178 (by decide) (fun c178 => ?_) (fun c178 => ?_)
        · replace h := if_f c178 h
          exact wkM_check_187 S hr hlk Q x1 _ _ _ _ _ _ h hw (lv_sub hl [1, 2, 3] rfl)
        · replace h := if_t c178 h
          refine lv_iinc (v := (x3 + (1 : Int32))) (lv' := [(3, .int (x3 + (1 : Int32))), (0, .ref (ad 38)), (1, .int x1), (2, .int x2)]) hx hb dX6_check_181 hl (k := 3) rfl rfl (by decide) rfl (fun ls hl => ?_)
          refine lv_goto (tgt := 154) hx hb dX6_check_184 (by decide) ?_
          exact ih _ _ _ _ _ _ h hw (lv_sub hl [1, 2, 3, 0] rfl)
def bkM_check_118 (Q : Int32 → MS → Prop) (x1 : Int32) (O74 : Int32 → Int32 → MS → Prop) : Int32 → Int32 → Int32 → Int32 → Int32 → MS → Prop := fun x2 x3 s1 s2 s3 a => vp_in s1 60 ∧ (∀ a119 : MS, a119 = up2 a 37 s1.toNatClampNeg (s2 + s3) → (wpM_vaultBits a119 (fun r130 a130 => vp_in (((2 : Int32) * x3) + (1 : Int32)) 60 ∧ (∀ a133 : MS, a133 = up2 a130 37 (((2 : Int32) * x3) + (1 : Int32)).toNatClampNeg r130 → (O74 x2 (x3 + (1 : Int32)) a133)))))
set_option maxHeartbeats 4000000 in
set_option maxRecDepth 100000 in
theorem wkM_check_118 (S : CallFix p m c cX6_check 5 s args lw_all RX6) (hr : meth.sig.returnType = (some .int)) (hlk : meth.locks = false) (Q : Int32 → MS → Prop) (x1 : Int32) {O74 : Int32 → Int32 → MS → Prop} (hO74 : ∀ (x2 : Int32) (x3 : Int32) (a : MS) (H : Heap) (locs : List Loc) (ls : Array Slot), O74 x2 x3 a → MW D dA ad A a s H locs → lv_has ls 5 [(0, .ref (ad 38)), (1, .int x1), (2, .int x2), (3, .int x3)] → W p l e rmM_check s m args below meth c H locs 0 0 (MQ below (mQi D dA ad A Q) args s 0 0 A) (F0 m 74 ls [])) : ∀ (x2 : Int32) (x3 : Int32) (s1 : Int32) (s2 : Int32) (s3 : Int32) (a : MS) (H : Heap) (locs : List Loc) (ls : Array Slot), bkM_check_118 Q x1 O74 x2 x3 s1 s2 s3 a → MW D dA ad A a s H locs → lv_has ls 5 [(0, .ref (ad 38)), (1, .int x1), (2, .int x2), (3, .int x3)] → W p l e rmM_check s m args below meth c H locs 0 0 (MQ below (mQi D dA ad A Q) args s 0 0 A) (F0 m 118 ls [.int s3, .int s2, .int s1, .ref (ad 37)]) := by
  have hx := S.1
  have hb := S.2.1
  have hown := S.2.2.2.1
  have hts := S.2.2.2.2
  intro x2 x3 s1 s2 s3 a H locs ls h hw hl
  unfold bkM_check_118 at h
  refine lv_iadd hx hb dX6_check_118 ?_
  refine m_ast S hw 24 37 60 rfl (by decide) rfl h.1 dX6_check_119 (fun a119 H locs ea119 hw => ?_)
  replace h := h.2 a119 ea119
  refine lv_aload_n hx hb dX6_check_120 rfl (lv_at hl 0 rfl) ?_
  refine m_get S hw 37 (by decide) q1375 rfl rfl dX6_check_121 ?_
  refine lv_iconst (v := (2 : Int32)) hx hb dX6_check_124 (by decide) ?_
  refine lv_iload_n hx hb dX6_check_125 rfl (lv_at hl 3 rfl) ?_
  refine lv_imul hx hb dX6_check_126 ?_
  refine lv_iconst (v := (1 : Int32)) hx hb dX6_check_127 (by decide) ?_
  refine lv_iadd hx hb dX6_check_128 ?_
  refine lv_aload_n hx hb dX6_check_129 rfl (lv_at hl 0 rfl) ?_
  refine m_calli S hw [] [.int (((2 : Int32) * x3) + (1 : Int32)), .ref (ad 37)] (ctM_vaultBits l D dA ad A a119 _ h) (cwM_vaultBits hts ⟨Nat.le_of_ble_eq_true rfl, Nat.le_of_ble_eq_true rfl⟩) rfl hl.1 rfl (Nat.le_of_ble_eq_true rfl) dX6_check_130 ⟨Nat.zero_le _, Nat.zero_le _⟩ (fun r130 a130 H locs h hw => ?_)
  refine m_ast S hw 24 37 60 rfl (by decide) rfl h.1 dX6_check_133 (fun a133 H locs ea133 hw => ?_)
  replace h := h.2 a133 ea133
  refine lv_iinc (v := (x3 + (1 : Int32))) (lv' := [(3, .int (x3 + (1 : Int32))), (0, .ref (ad 38)), (1, .int x1), (2, .int x2)]) hx hb dX6_check_134 hl (k := 3) rfl rfl (by decide) rfl (fun ls hl => ?_)
  refine lv_goto (tgt := 74) hx hb dX6_check_137 (by decide) ?_
  exact hO74 _ _ _ _ _ _ h hw (lv_sub hl [1, 2, 3, 0] rfl)
def bkM_check_74 (Q : Int32 → MS → Prop) (x1 : Int32) : Nat → Int32 → Int32 → MS → Prop
  | 0 => fun _ _ _ => False
  | n + 1 => fun x2 x3 a => if x1 ≤ x3 then (wpM_setAside a 2 0 (fun a149 => ∃ n154, bkM_check_154 Q x1 n154 x2 (0 : Int32) a149)) else (wpM_drawn a (fun r80 a80 => (¬ (a80 0 (0 : Int32).toNatClampNeg) = 0) ∧ (wpM_asks a80 (irm r80 (a80 0 (0 : Int32).toNatClampNeg)) (fun r107 a107 => if r107 = 0 then (bkM_check_118 Q x1 (bkM_check_74 Q x1 n) x2 x3 ((2 : Int32) * x3) ((10 : Int32) * (irm r80 (a80 0 (0 : Int32).toNatClampNeg))) (0 : Int32) a107) else (bkM_check_118 Q x1 (bkM_check_74 Q x1 n) x2 x3 ((2 : Int32) * x3) ((10 : Int32) * (irm r80 (a80 0 (0 : Int32).toNatClampNeg))) (1 : Int32) a107)))))
set_option maxHeartbeats 4000000 in
set_option maxRecDepth 100000 in
theorem wkM_check_74 (S : CallFix p m c cX6_check 5 s args lw_all RX6) (hr : meth.sig.returnType = (some .int)) (hlk : meth.locks = false) (Q : Int32 → MS → Prop) (x1 : Int32) : ∀ (n : Nat) (x2 : Int32) (x3 : Int32) (a : MS) (H : Heap) (locs : List Loc) (ls : Array Slot), bkM_check_74 Q x1 n x2 x3 a → MW D dA ad A a s H locs → lv_has ls 5 [(0, .ref (ad 38)), (1, .int x1), (2, .int x2), (3, .int x3)] → W p l e rmM_check s m args below meth c H locs 0 0 (MQ below (mQi D dA ad A Q) args s 0 0 A) (F0 m 74 ls []) := by
  have hx := S.1
  have hb := S.2.1
  have hown := S.2.2.2.1
  have hts := S.2.2.2.2
  intro n
  induction n with
  | zero =>
    intro x2 x3 a H locs ls h
    exact False.elim h
  | succ n ih =>
    intro x2 x3 a H locs ls h hw hl
    unfold bkM_check_74 at h
    refine lv_iload_n hx hb dX6_check_74 rfl (lv_at hl 3 rfl) ?_
    refine lv_iload_n hx hb dX6_check_75 rfl (lv_at hl 1 rfl) ?_
    refine lv_icmp_ge (tgt := 140) hx hb dX6_check_76 (by decide) (fun c76 => ?_) (fun c76 => ?_)
    · replace h := if_t c76 h
      refine lv_aload_n hx hb dX6_check_140 rfl (lv_at hl 0 rfl) ?_
      refine lv_aload_n hx hb dX6_check_141 rfl (lv_at hl 0 rfl) ?_
      refine m_get S hw 2 (by decide) q1340 rfl rfl dX6_check_142 ?_
      refine lv_aload_n hx hb dX6_check_145 rfl (lv_at hl 0 rfl) ?_
      refine m_get S hw 0 (by decide) q1338 rfl rfl dX6_check_146 ?_
      refine m_callv S hw [.ref (ad 2), .ref (ad 0)] [] (ctM_setAside l D dA ad A a 2 0 _ h) (cwM_setAside hts ⟨Nat.le_of_ble_eq_true rfl, Nat.le_of_ble_eq_true rfl⟩) rfl hl.1 rfl (Nat.le_of_ble_eq_true rfl) dX6_check_149 ⟨Nat.zero_le _, Nat.zero_le _⟩ (fun a149 H locs h hw => ?_)
      refine lv_iconst (v := (0 : Int32)) hx hb dX6_check_152 (by decide) ?_
      refine lv_istore_n (lv' := [(3, .int (0 : Int32)), (0, .ref (ad 38)), (1, .int x1), (2, .int x2)]) hx hb dX6_check_153 rfl hl (by decide) rfl (fun ls hl => ?_)
      obtain ⟨n154, h⟩ := h
      exact wkM_check_154 S hr hlk Q x1 n154 _ _ _ _ _ _ h hw (lv_sub hl [1, 2, 3, 0] rfl)
    · replace h := if_f c76 h
      refine lv_aload_n hx hb dX6_check_79 rfl (lv_at hl 0 rfl) ?_
      refine m_calli S hw [] [] (ctM_drawn l D dA ad A a _ h) (cwM_drawn hts ⟨Nat.le_of_ble_eq_true rfl, Nat.le_of_ble_eq_true rfl⟩) rfl hl.1 rfl (Nat.le_of_ble_eq_true rfl) dX6_check_80 ⟨Nat.zero_le _, Nat.zero_le _⟩ (fun r80 a80 H locs h hw => ?_)
      refine lv_aload_n hx hb dX6_check_83 rfl (lv_at hl 0 rfl) ?_
      refine m_get S hw 0 (by decide) q1338 rfl rfl dX6_check_84 ?_
      refine lv_iconst (v := (0 : Int32)) hx hb dX6_check_87 (by decide) ?_
      refine m_ald S hw 1 0 3098 rfl (by decide) rfl (vlit (by decide)) dX6_check_88 ?_
      refine lv_irem hx hb dX6_check_89 h.1 ?_
      replace h := h.2
      refine lv_istore (lv' := [(4, .int (irm r80 (a80 0 (0 : Int32).toNatClampNeg))), (0, .ref (ad 38)), (1, .int x1), (2, .int x2), (3, .int x3)]) hx hb dX6_check_90 hl (by decide) rfl (fun ls hl => ?_)
      refine lv_aload_n hx hb dX6_check_92 rfl (lv_at hl 1 rfl) ?_
      refine m_get S hw 37 (by decide) q1375 rfl rfl dX6_check_93 ?_
      refine lv_iconst (v := (2 : Int32)) hx hb dX6_check_96 (by decide) ?_
      refine lv_iload_n hx hb dX6_check_97 rfl (lv_at hl 4 rfl) ?_
      refine lv_imul hx hb dX6_check_98 ?_
      refine lv_bipush (v := (10 : Int32)) hx hb dX6_check_99 (by decide) ?_
      refine lv_iload hx hb dX6_check_101 (lv_at hl 0 rfl) ?_
      refine lv_imul hx hb dX6_check_103 ?_
      refine lv_aload_n hx hb dX6_check_104 rfl (lv_at hl 1 rfl) ?_
      refine lv_iload hx hb dX6_check_105 (lv_at hl 0 rfl) ?_
      refine m_calli S hw [.int (irm r80 (a80 0 (0 : Int32).toNatClampNeg))] [.int ((10 : Int32) * (irm r80 (a80 0 (0 : Int32).toNatClampNeg))), .int ((2 : Int32) * x3), .ref (ad 37)] (ctM_asks l D dA ad A a80 (irm r80 (a80 0 (0 : Int32).toNatClampNeg)) _ h) (cwM_asks hts ⟨Nat.le_of_ble_eq_true rfl, Nat.le_of_ble_eq_true rfl⟩) rfl hl.1 rfl (Nat.le_of_ble_eq_true rfl) dX6_check_107 ⟨Nat.zero_le _, Nat.zero_le _⟩ (fun r107 a107 H locs h hw => ?_)
      refine lv_if_eq (tgt := 117) hx hb dX6_check_110 (by decide) (fun c110 => ?_) (fun c110 => ?_)
      · replace h := if_t c110 h
        refine lv_iconst (v := (0 : Int32)) hx hb dX6_check_117 (by decide) ?_
        exact wkM_check_118 S hr hlk Q x1 ih _ _ _ _ _ _ _ _ _ h hw (lv_sub hl [1, 2, 3, 4] rfl)
      · replace h := if_f c110 h
        refine lv_iconst (v := (1 : Int32)) hx hb dX6_check_113 (by decide) ?_
        refine lv_goto (tgt := 118) hx hb dX6_check_114 (by decide) ?_
        exact wkM_check_118 S hr hlk Q x1 ih _ _ _ _ _ _ _ _ _ h hw (lv_sub hl [1, 2, 3, 4] rfl)
def wpM_check (a : MS) (x1 : Int32) (Q : Int32 → MS → Prop) : Prop := ∀ a7 : MS, a7 = up2 a 38 36 (0 : Int32) → (wpM_isIn a7 x1.toInt64 (1 : Int64) (30 : Int64) (fun r16 a16 => if r16 = 0 then (Q (-1000000001 : Int32) a16) else (if (a16 38 3) = 0 then (Q (-1000000002 : Int32) a16) else (if (a16 1 (0 : Int32).toNatClampNeg) = 0 then (Q (-1000000002 : Int32) a16) else (wpM_setAside a16 0 2 (fun a53 => wpM_setAside a53 1 0 (fun a65 => wpM_knows a65 (fun a69 => ∃ n74, bkM_check_74 Q x1 n74 (a 38 36) (0 : Int32) a69))))))))
set_option maxHeartbeats 4000000 in
set_option maxRecDepth 100000 in
theorem wkM_check_e (S : CallFix p m c cX6_check 5 s args lw_all RX6) (hr : meth.sig.returnType = (some .int)) (hlk : meth.locks = false) (Q : Int32 → MS → Prop) (x1 : Int32) (a : MS) (H : Heap) (locs : List Loc) (ls : Array Slot) (h : wpM_check a x1 Q) (hw : MW D dA ad A a s H locs) (hl : lv_has ls 5 [(0, .ref (ad 38)), (1, .int x1)]) : W p l e rmM_check s m args below meth c H locs 0 0 (MQ below (mQi D dA ad A Q) args s 0 0 A) (F0 m 0 ls []) := by
  have hx := S.1
  have hb := S.2.1
  have hown := S.2.2.2.1
  have hts := S.2.2.2.2
  unfold wpM_check at h
  refine lv_aload_n hx hb dX6_check_0 rfl (lv_at hl 0 rfl) ?_
  refine m_get S hw 36 (by decide) q1374 rfl rfl dX6_check_1 ?_
  refine lv_istore_n (lv' := [(2, .int (a 38 36)), (0, .ref (ad 38)), (1, .int x1)]) hx hb dX6_check_4 rfl hl (by decide) rfl (fun ls hl => ?_)
  refine lv_aload_n hx hb dX6_check_5 rfl (lv_at hl 1 rfl) ?_
  refine lv_iconst (v := (0 : Int32)) hx hb dX6_check_6 (by decide) ?_
  refine m_puti S hw 36 (by decide) q1374 rfl rfl rfl rfl mset_36 dX6_check_7 (fun a7 H locs ea7 hw => ?_)
  replace h := h a7 ea7
  refine lv_iload_n hx hb dX6_check_10 rfl (lv_at hl 2 rfl) ?_
  refine lv_i2l (v := x1.toInt64) hx hb dX6_check_11 rfl ?_
  refine lv_lconst (v := 1) hx hb dX6_check_12 (by decide) ?_
  refine lv_ldc2 hx hb hown (hts _ q1874) dX6_check_13 ?_
  refine m_callSi S hw [.long x1.toInt64, .long (1 : Int64), .long (30 : Int64)] [] (ctM_isIn l D dA ad A a7 x1.toInt64 (1 : Int64) (30 : Int64) _ h) (cwM_isIn hts ⟨Nat.le_of_ble_eq_true rfl, Nat.le_of_ble_eq_true rfl⟩) rfl hl.1 rfl (Nat.le_of_ble_eq_true rfl) dX6_check_16 ⟨Nat.zero_le _, Nat.zero_le _⟩ (fun r16 a16 H locs h hw => ?_)
  refine lv_if_ne (tgt := 25) hx hb dX6_check_19 (by decide) (fun c19 => ?_) (fun c19 => ?_)
  · replace h := if_f c19 h
    refine lv_aload_n hx hb dX6_check_25 rfl (lv_at hl 1 rfl) ?_
    refine m_get S hw 3 (by decide) q1341 rfl rfl dX6_check_26 ?_
    refine lv_if_eq (tgt := 41) hx hb dX6_check_29 (by decide) (fun c29 => ?_) (fun c29 => ?_)
    · replace h := if_t c29 h
      refine lv_ldc hx hb hown (hts _ q1655) dX6_check_41 ?_
      exact m_iret S hr hlk hw h dX6_check_43
    · replace h := if_f c29 h
      refine lv_aload_n hx hb dX6_check_32 rfl (lv_at hl 1 rfl) ?_
      refine m_get S hw 1 (by decide) q1339 rfl rfl dX6_check_33 ?_
      refine lv_iconst (v := (0 : Int32)) hx hb dX6_check_36 (by decide) ?_
      refine m_ald S hw 2 1 3098 rfl (by decide) rfl (vlit (by decide)) dX6_check_37 ?_
      refine lv_if_ne (tgt := 44) hx hb dX6_check_38 (by decide) (fun c38 => ?_) (fun c38 => ?_)
      · replace h := if_f c38 h
        refine lv_aload_n hx hb dX6_check_44 rfl (lv_at hl 1 rfl) ?_
        refine lv_aload_n hx hb dX6_check_45 rfl (lv_at hl 1 rfl) ?_
        refine m_get S hw 0 (by decide) q1338 rfl rfl dX6_check_46 ?_
        refine lv_aload_n hx hb dX6_check_49 rfl (lv_at hl 1 rfl) ?_
        refine m_get S hw 2 (by decide) q1340 rfl rfl dX6_check_50 ?_
        refine m_callv S hw [.ref (ad 0), .ref (ad 2)] [] (ctM_setAside l D dA ad A a16 0 2 _ h) (cwM_setAside hts ⟨Nat.le_of_ble_eq_true rfl, Nat.le_of_ble_eq_true rfl⟩) rfl hl.1 rfl (Nat.le_of_ble_eq_true rfl) dX6_check_53 ⟨Nat.zero_le _, Nat.zero_le _⟩ (fun a53 H locs h hw => ?_)
        refine lv_aload_n hx hb dX6_check_56 rfl (lv_at hl 1 rfl) ?_
        refine lv_aload_n hx hb dX6_check_57 rfl (lv_at hl 1 rfl) ?_
        refine m_get S hw 1 (by decide) q1339 rfl rfl dX6_check_58 ?_
        refine lv_aload_n hx hb dX6_check_61 rfl (lv_at hl 1 rfl) ?_
        refine m_get S hw 0 (by decide) q1338 rfl rfl dX6_check_62 ?_
        refine m_callv S hw [.ref (ad 1), .ref (ad 0)] [] (ctM_setAside l D dA ad A a53 1 0 _ h) (cwM_setAside hts ⟨Nat.le_of_ble_eq_true rfl, Nat.le_of_ble_eq_true rfl⟩) rfl hl.1 rfl (Nat.le_of_ble_eq_true rfl) dX6_check_65 ⟨Nat.zero_le _, Nat.zero_le _⟩ (fun a65 H locs h hw => ?_)
        refine lv_aload_n hx hb dX6_check_68 rfl (lv_at hl 1 rfl) ?_
        refine m_callv S hw [] [] (ctM_knows l D dA ad A a65 _ h) (cwM_knows hts ⟨Nat.le_of_ble_eq_true rfl, Nat.le_of_ble_eq_true rfl⟩) rfl hl.1 rfl (Nat.le_of_ble_eq_true rfl) dX6_check_69 ⟨Nat.zero_le _, Nat.zero_le _⟩ (fun a69 H locs h hw => ?_)
        refine lv_iconst (v := (0 : Int32)) hx hb dX6_check_72 (by decide) ?_
        refine lv_istore_n (lv' := [(3, .int (0 : Int32)), (2, .int (a 38 36)), (0, .ref (ad 38)), (1, .int x1)]) hx hb dX6_check_73 rfl hl (by decide) rfl (fun ls hl => ?_)
        obtain ⟨n74, h⟩ := h
        exact wkM_check_74 S hr hlk Q x1 n74 _ _ _ _ _ _ h hw (lv_sub hl [2, 3, 1, 0] rfl)
      · replace h := if_t c38 h
        refine lv_ldc hx hb hown (hts _ q1655) dX6_check_41 ?_
        exact m_iret S hr hlk hw h dX6_check_43
  · replace h := if_t c19 h
    refine lv_ldc hx hb hown (hts _ q1468) dX6_check_22 ?_
    exact m_iret S hr hlk hw h dX6_check_24
theorem ctM_check (l : Launch) (D : va_G) (dA : Nat → ClassId) (ad : Nat → Nat) (A : Nat → Prop) (a : MS) (x1 : Int32) (Q : Int32 → MS → Prop) (h : wpM_check a x1 Q) : Met l yX6_check (ws_ yX6_check cX6_check 5 (some .int)) rmM_check (mPc D dA ad A a [.ref (ad 38), .int x1]) (mQi D dA ad A Q) 0 0 A :=
  m_met (by decide) rfl rfl rfl (Nat.le_of_ble_eq_true rfl) (fun p e s m below meth c ls S hr hlk hw hl => wkM_check_e S hr hlk Q x1 a _ _ ls h hw hl)
/-! keep -/
abbrev rmM_keep : Room := { frames := 1, cells := 0, slots := 0, locals := 23 }
def wpM_keep (a : MS) (Q : Int32 → MS → Prop) : Prop := ∀ a2 : MS, a2 = up2 a 38 3 (1 : Int32) → (wpM_setAside a2 0 1 (fun a14 => Q (a14 0 (0 : Int32).toNatClampNeg) a14))
set_option maxHeartbeats 4000000 in
set_option maxRecDepth 100000 in
theorem wkM_keep_e (S : CallFix p m c cX6_keep 1 s args lw_all RX6) (hr : meth.sig.returnType = (some .int)) (hlk : meth.locks = false) (Q : Int32 → MS → Prop) (a : MS) (H : Heap) (locs : List Loc) (ls : Array Slot) (h : wpM_keep a Q) (hw : MW D dA ad A a s H locs) (hl : lv_has ls 1 [(0, .ref (ad 38))]) : W p l e rmM_keep s m args below meth c H locs 0 0 (MQ below (mQi D dA ad A Q) args s 0 0 A) (F0 m 0 ls []) := by
  have hx := S.1
  have hb := S.2.1
  have hown := S.2.2.2.1
  have hts := S.2.2.2.2
  unfold wpM_keep at h
  refine lv_aload_n hx hb dX6_keep_0 rfl (lv_at hl 0 rfl) ?_
  refine lv_iconst (v := (1 : Int32)) hx hb dX6_keep_1 (by decide) ?_
  refine m_puti S hw 3 (by decide) q1341 rfl rfl (by decide) (by decide) mset_3 dX6_keep_2 (fun a2 H locs ea2 hw => ?_)
  replace h := h a2 ea2
  refine lv_aload_n hx hb dX6_keep_5 rfl (lv_at hl 0 rfl) ?_
  refine lv_aload_n hx hb dX6_keep_6 rfl (lv_at hl 0 rfl) ?_
  refine m_get S hw 0 (by decide) q1338 rfl rfl dX6_keep_7 ?_
  refine lv_aload_n hx hb dX6_keep_10 rfl (lv_at hl 0 rfl) ?_
  refine m_get S hw 1 (by decide) q1339 rfl rfl dX6_keep_11 ?_
  refine m_callv S hw [.ref (ad 0), .ref (ad 1)] [] (ctM_setAside l D dA ad A a2 0 1 _ h) (cwM_setAside hts ⟨Nat.le_of_ble_eq_true rfl, Nat.le_of_ble_eq_true rfl⟩) rfl hl.1 rfl (Nat.le_of_ble_eq_true rfl) dX6_keep_14 ⟨Nat.zero_le _, Nat.zero_le _⟩ (fun a14 H locs h hw => ?_)
  refine lv_aload_n hx hb dX6_keep_17 rfl (lv_at hl 0 rfl) ?_
  refine m_get S hw 0 (by decide) q1338 rfl rfl dX6_keep_18 ?_
  refine lv_iconst (v := (0 : Int32)) hx hb dX6_keep_21 (by decide) ?_
  refine m_ald S hw 1 0 3098 rfl (by decide) rfl (vlit (by decide)) dX6_keep_22 ?_
  exact m_iret S hr hlk hw h dX6_keep_23
theorem ctM_keep (l : Launch) (D : va_G) (dA : Nat → ClassId) (ad : Nat → Nat) (A : Nat → Prop) (a : MS) (Q : Int32 → MS → Prop) (h : wpM_keep a Q) : Met l yX6_keep (ws_ yX6_keep cX6_keep 1 (some .int)) rmM_keep (mPc D dA ad A a [.ref (ad 38)]) (mQi D dA ad A Q) 0 0 A :=
  m_met (by decide) rfl rfl rfl (Nat.le_of_ble_eq_true rfl) (fun p e s m below meth c ls S hr hlk hw hl => wkM_keep_e S hr hlk Q a _ _ ls h hw hl)
/-! back -/
abbrev rmM_back : Room := { frames := 1, cells := 0, slots := 0, locals := 23 }
def wpM_back (a : MS) (Q : Int32 → MS → Prop) : Prop := if (a 38 3) = 0 then (Q (-1000000002 : Int32) a) else (wpM_setAside a 1 0 (fun a19 => Q (a19 0 (0 : Int32).toNatClampNeg) a19))
set_option maxHeartbeats 4000000 in
set_option maxRecDepth 100000 in
theorem wkM_back_e (S : CallFix p m c cX6_back 1 s args lw_all RX6) (hr : meth.sig.returnType = (some .int)) (hlk : meth.locks = false) (Q : Int32 → MS → Prop) (a : MS) (H : Heap) (locs : List Loc) (ls : Array Slot) (h : wpM_back a Q) (hw : MW D dA ad A a s H locs) (hl : lv_has ls 1 [(0, .ref (ad 38))]) : W p l e rmM_back s m args below meth c H locs 0 0 (MQ below (mQi D dA ad A Q) args s 0 0 A) (F0 m 0 ls []) := by
  have hx := S.1
  have hb := S.2.1
  have hown := S.2.2.2.1
  have hts := S.2.2.2.2
  unfold wpM_back at h
  refine lv_aload_n hx hb dX6_back_0 rfl (lv_at hl 0 rfl) ?_
  refine m_get S hw 3 (by decide) q1341 rfl rfl dX6_back_1 ?_
  refine lv_if_ne (tgt := 10) hx hb dX6_back_4 (by decide) (fun c4 => ?_) (fun c4 => ?_)
  · replace h := if_f c4 h
    refine lv_aload_n hx hb dX6_back_10 rfl (lv_at hl 0 rfl) ?_
    refine lv_aload_n hx hb dX6_back_11 rfl (lv_at hl 0 rfl) ?_
    refine m_get S hw 1 (by decide) q1339 rfl rfl dX6_back_12 ?_
    refine lv_aload_n hx hb dX6_back_15 rfl (lv_at hl 0 rfl) ?_
    refine m_get S hw 0 (by decide) q1338 rfl rfl dX6_back_16 ?_
    refine m_callv S hw [.ref (ad 1), .ref (ad 0)] [] (ctM_setAside l D dA ad A a 1 0 _ h) (cwM_setAside hts ⟨Nat.le_of_ble_eq_true rfl, Nat.le_of_ble_eq_true rfl⟩) rfl hl.1 rfl (Nat.le_of_ble_eq_true rfl) dX6_back_19 ⟨Nat.zero_le _, Nat.zero_le _⟩ (fun a19 H locs h hw => ?_)
    refine lv_aload_n hx hb dX6_back_22 rfl (lv_at hl 0 rfl) ?_
    refine m_get S hw 0 (by decide) q1338 rfl rfl dX6_back_23 ?_
    refine lv_iconst (v := (0 : Int32)) hx hb dX6_back_26 (by decide) ?_
    refine m_ald S hw 1 0 3098 rfl (by decide) rfl (vlit (by decide)) dX6_back_27 ?_
    exact m_iret S hr hlk hw h dX6_back_28
  · replace h := if_t c4 h
    refine lv_ldc hx hb hown (hts _ q1655) dX6_back_7 ?_
    exact m_iret S hr hlk hw h dX6_back_9
theorem ctM_back (l : Launch) (D : va_G) (dA : Nat → ClassId) (ad : Nat → Nat) (A : Nat → Prop) (a : MS) (Q : Int32 → MS → Prop) (h : wpM_back a Q) : Met l yX6_back (ws_ yX6_back cX6_back 1 (some .int)) rmM_back (mPc D dA ad A a [.ref (ad 38)]) (mQi D dA ad A Q) 0 0 A :=
  m_met (by decide) rfl rfl rfl (Nat.le_of_ble_eq_true rfl) (fun p e s m below meth c ls S hr hlk hw hl => wkM_back_e S hr hlk Q a _ _ ls h hw hl)
/-! count -/
abbrev rmM_count : Room := { frames := 5, cells := 0, slots := 0, locals := 115 }
def wpM_count (a : MS) (x1 : Int32) (Q : Int32 → MS → Prop) : Prop := if x1 = (0 : Int32) then (Q (a 0 (0 : Int32).toNatClampNeg) a) else (if x1 = (1 : Int32) then (Q (a 0 (2 : Int32).toNatClampNeg) a) else (if x1 = (2 : Int32) then (wpM_vaultBits a (fun r87 a87 => Q r87 a87)) else (if x1 = (3 : Int32) then (wpM_knows a (fun a92 => wpM_fullness a92 (fun r96 a96 => Q r96 a96))) else (if x1 = (4 : Int32) then (Q (a 0 (3 : Int32).toNatClampNeg) a) else (if x1 = (5 : Int32) then (Q (a 0 (4 : Int32).toNatClampNeg) a) else (if x1 = (6 : Int32) then (Q (a 0 (5 : Int32).toNatClampNeg) a) else (if x1 = (7 : Int32) then (Q (a 0 (6 : Int32).toNatClampNeg) a) else (if x1 = (8 : Int32) then (Q (a 0 (7 : Int32).toNatClampNeg) a) else (if x1 = (9 : Int32) then (Q (a 0 (8 : Int32).toNatClampNeg) a) else (if x1 = (10 : Int32) then (Q (a 0 (1 : Int32).toNatClampNeg) a) else (if x1 = (11 : Int32) then (Q (a 38 36) a) else (if x1 = (12 : Int32) then (Q (a 38 21) a) else (if x1 = (13 : Int32) then (Q (a 0 (9 : Int32).toNatClampNeg) a) else (Q (-1000000001 : Int32) a))))))))))))))
set_option maxHeartbeats 4000000 in
set_option maxRecDepth 100000 in
theorem wkM_count_e (S : CallFix p m c cX6_count 2 s args lw_all RX6) (hr : meth.sig.returnType = (some .int)) (hlk : meth.locks = false) (Q : Int32 → MS → Prop) (x1 : Int32) (a : MS) (H : Heap) (locs : List Loc) (ls : Array Slot) (h : wpM_count a x1 Q) (hw : MW D dA ad A a s H locs) (hl : lv_has ls 2 [(0, .ref (ad 38)), (1, .int x1)]) : W p l e rmM_count s m args below meth c H locs 0 0 (MQ below (mQi D dA ad A Q) args s 0 0 A) (F0 m 0 ls []) := by
  have hx := S.1
  have hb := S.2.1
  have hown := S.2.2.2.1
  have hts := S.2.2.2.2
  unfold wpM_count at h
  refine lv_iload_n hx hb dX6_count_0 rfl (lv_at hl 1 rfl) ?_
  by_cases c1_0 : x1 = (0 : Int32)
  · replace h := if_t c1_0 h
    refine lv_tableIn (off := 71) (tgt := 72) hx hb dX6_count_1 (by rw [c1_0]; decide) (by rw [c1_0]; decide) (by rw [c1_0]; decide) (by decide) ?_
    refine lv_aload_n hx hb dX6_count_72 rfl (lv_at hl 0 rfl) ?_
    refine m_get S hw 0 (by decide) q1338 rfl rfl dX6_count_73 ?_
    refine lv_iconst (v := (0 : Int32)) hx hb dX6_count_76 (by decide) ?_
    refine m_ald S hw 1 0 3098 rfl (by decide) rfl (vlit (by decide)) dX6_count_77 ?_
    exact m_iret S hr hlk hw h dX6_count_78
  replace h := if_f c1_0 h
  by_cases c1_1 : x1 = (1 : Int32)
  · replace h := if_t c1_1 h
    refine lv_tableIn (off := 78) (tgt := 79) hx hb dX6_count_1 (by rw [c1_1]; decide) (by rw [c1_1]; decide) (by rw [c1_1]; decide) (by decide) ?_
    refine lv_aload_n hx hb dX6_count_79 rfl (lv_at hl 0 rfl) ?_
    refine m_get S hw 0 (by decide) q1338 rfl rfl dX6_count_80 ?_
    refine lv_iconst (v := (2 : Int32)) hx hb dX6_count_83 (by decide) ?_
    refine m_ald S hw 1 0 3098 rfl (by decide) rfl (vlit (by decide)) dX6_count_84 ?_
    exact m_iret S hr hlk hw h dX6_count_85
  replace h := if_f c1_1 h
  by_cases c1_2 : x1 = (2 : Int32)
  · replace h := if_t c1_2 h
    refine lv_tableIn (off := 85) (tgt := 86) hx hb dX6_count_1 (by rw [c1_2]; decide) (by rw [c1_2]; decide) (by rw [c1_2]; decide) (by decide) ?_
    refine lv_aload_n hx hb dX6_count_86 rfl (lv_at hl 0 rfl) ?_
    refine m_calli S hw [] [] (ctM_vaultBits l D dA ad A a _ h) (cwM_vaultBits hts ⟨Nat.le_of_ble_eq_true rfl, Nat.le_of_ble_eq_true rfl⟩) rfl hl.1 rfl (Nat.le_of_ble_eq_true rfl) dX6_count_87 ⟨Nat.zero_le _, Nat.zero_le _⟩ (fun r87 a87 H locs h hw => ?_)
    exact m_iret S hr hlk hw h dX6_count_90
  replace h := if_f c1_2 h
  by_cases c1_3 : x1 = (3 : Int32)
  · replace h := if_t c1_3 h
    refine lv_tableIn (off := 90) (tgt := 91) hx hb dX6_count_1 (by rw [c1_3]; decide) (by rw [c1_3]; decide) (by rw [c1_3]; decide) (by decide) ?_
    refine lv_aload_n hx hb dX6_count_91 rfl (lv_at hl 0 rfl) ?_
    refine m_callv S hw [] [] (ctM_knows l D dA ad A a _ h) (cwM_knows hts ⟨Nat.le_of_ble_eq_true rfl, Nat.le_of_ble_eq_true rfl⟩) rfl hl.1 rfl (Nat.le_of_ble_eq_true rfl) dX6_count_92 ⟨Nat.zero_le _, Nat.zero_le _⟩ (fun a92 H locs h hw => ?_)
    refine lv_aload_n hx hb dX6_count_95 rfl (lv_at hl 0 rfl) ?_
    refine m_calli S hw [] [] (ctM_fullness l D dA ad A a92 _ h) (cwM_fullness hts ⟨Nat.le_of_ble_eq_true rfl, Nat.le_of_ble_eq_true rfl⟩) rfl hl.1 rfl (Nat.le_of_ble_eq_true rfl) dX6_count_96 ⟨Nat.zero_le _, Nat.zero_le _⟩ (fun r96 a96 H locs h hw => ?_)
    exact m_iret S hr hlk hw h dX6_count_99
  replace h := if_f c1_3 h
  by_cases c1_4 : x1 = (4 : Int32)
  · replace h := if_t c1_4 h
    refine lv_tableIn (off := 99) (tgt := 100) hx hb dX6_count_1 (by rw [c1_4]; decide) (by rw [c1_4]; decide) (by rw [c1_4]; decide) (by decide) ?_
    refine lv_aload_n hx hb dX6_count_100 rfl (lv_at hl 0 rfl) ?_
    refine m_get S hw 0 (by decide) q1338 rfl rfl dX6_count_101 ?_
    refine lv_iconst (v := (3 : Int32)) hx hb dX6_count_104 (by decide) ?_
    refine m_ald S hw 1 0 3098 rfl (by decide) rfl (vlit (by decide)) dX6_count_105 ?_
    exact m_iret S hr hlk hw h dX6_count_106
  replace h := if_f c1_4 h
  by_cases c1_5 : x1 = (5 : Int32)
  · replace h := if_t c1_5 h
    refine lv_tableIn (off := 106) (tgt := 107) hx hb dX6_count_1 (by rw [c1_5]; decide) (by rw [c1_5]; decide) (by rw [c1_5]; decide) (by decide) ?_
    refine lv_aload_n hx hb dX6_count_107 rfl (lv_at hl 0 rfl) ?_
    refine m_get S hw 0 (by decide) q1338 rfl rfl dX6_count_108 ?_
    refine lv_iconst (v := (4 : Int32)) hx hb dX6_count_111 (by decide) ?_
    refine m_ald S hw 1 0 3098 rfl (by decide) rfl (vlit (by decide)) dX6_count_112 ?_
    exact m_iret S hr hlk hw h dX6_count_113
  replace h := if_f c1_5 h
  by_cases c1_6 : x1 = (6 : Int32)
  · replace h := if_t c1_6 h
    refine lv_tableIn (off := 113) (tgt := 114) hx hb dX6_count_1 (by rw [c1_6]; decide) (by rw [c1_6]; decide) (by rw [c1_6]; decide) (by decide) ?_
    refine lv_aload_n hx hb dX6_count_114 rfl (lv_at hl 0 rfl) ?_
    refine m_get S hw 0 (by decide) q1338 rfl rfl dX6_count_115 ?_
    refine lv_iconst (v := (5 : Int32)) hx hb dX6_count_118 (by decide) ?_
    refine m_ald S hw 1 0 3098 rfl (by decide) rfl (vlit (by decide)) dX6_count_119 ?_
    exact m_iret S hr hlk hw h dX6_count_120
  replace h := if_f c1_6 h
  by_cases c1_7 : x1 = (7 : Int32)
  · replace h := if_t c1_7 h
    refine lv_tableIn (off := 120) (tgt := 121) hx hb dX6_count_1 (by rw [c1_7]; decide) (by rw [c1_7]; decide) (by rw [c1_7]; decide) (by decide) ?_
    refine lv_aload_n hx hb dX6_count_121 rfl (lv_at hl 0 rfl) ?_
    refine m_get S hw 0 (by decide) q1338 rfl rfl dX6_count_122 ?_
    refine lv_bipush (v := (6 : Int32)) hx hb dX6_count_125 (by decide) ?_
    refine m_ald S hw 1 0 3098 rfl (by decide) rfl (vlit (by decide)) dX6_count_127 ?_
    exact m_iret S hr hlk hw h dX6_count_128
  replace h := if_f c1_7 h
  by_cases c1_8 : x1 = (8 : Int32)
  · replace h := if_t c1_8 h
    refine lv_tableIn (off := 128) (tgt := 129) hx hb dX6_count_1 (by rw [c1_8]; decide) (by rw [c1_8]; decide) (by rw [c1_8]; decide) (by decide) ?_
    refine lv_aload_n hx hb dX6_count_129 rfl (lv_at hl 0 rfl) ?_
    refine m_get S hw 0 (by decide) q1338 rfl rfl dX6_count_130 ?_
    refine lv_bipush (v := (7 : Int32)) hx hb dX6_count_133 (by decide) ?_
    refine m_ald S hw 1 0 3098 rfl (by decide) rfl (vlit (by decide)) dX6_count_135 ?_
    exact m_iret S hr hlk hw h dX6_count_136
  replace h := if_f c1_8 h
  by_cases c1_9 : x1 = (9 : Int32)
  · replace h := if_t c1_9 h
    refine lv_tableIn (off := 136) (tgt := 137) hx hb dX6_count_1 (by rw [c1_9]; decide) (by rw [c1_9]; decide) (by rw [c1_9]; decide) (by decide) ?_
    refine lv_aload_n hx hb dX6_count_137 rfl (lv_at hl 0 rfl) ?_
    refine m_get S hw 0 (by decide) q1338 rfl rfl dX6_count_138 ?_
    refine lv_bipush (v := (8 : Int32)) hx hb dX6_count_141 (by decide) ?_
    refine m_ald S hw 1 0 3098 rfl (by decide) rfl (vlit (by decide)) dX6_count_143 ?_
    exact m_iret S hr hlk hw h dX6_count_144
  replace h := if_f c1_9 h
  by_cases c1_10 : x1 = (10 : Int32)
  · replace h := if_t c1_10 h
    refine lv_tableIn (off := 144) (tgt := 145) hx hb dX6_count_1 (by rw [c1_10]; decide) (by rw [c1_10]; decide) (by rw [c1_10]; decide) (by decide) ?_
    refine lv_aload_n hx hb dX6_count_145 rfl (lv_at hl 0 rfl) ?_
    refine m_get S hw 0 (by decide) q1338 rfl rfl dX6_count_146 ?_
    refine lv_iconst (v := (1 : Int32)) hx hb dX6_count_149 (by decide) ?_
    refine m_ald S hw 1 0 3098 rfl (by decide) rfl (vlit (by decide)) dX6_count_150 ?_
    exact m_iret S hr hlk hw h dX6_count_151
  replace h := if_f c1_10 h
  by_cases c1_11 : x1 = (11 : Int32)
  · replace h := if_t c1_11 h
    refine lv_tableIn (off := 151) (tgt := 152) hx hb dX6_count_1 (by rw [c1_11]; decide) (by rw [c1_11]; decide) (by rw [c1_11]; decide) (by decide) ?_
    refine lv_aload_n hx hb dX6_count_152 rfl (lv_at hl 0 rfl) ?_
    refine m_get S hw 36 (by decide) q1374 rfl rfl dX6_count_153 ?_
    exact m_iret S hr hlk hw h dX6_count_156
  replace h := if_f c1_11 h
  by_cases c1_12 : x1 = (12 : Int32)
  · replace h := if_t c1_12 h
    refine lv_tableIn (off := 156) (tgt := 157) hx hb dX6_count_1 (by rw [c1_12]; decide) (by rw [c1_12]; decide) (by rw [c1_12]; decide) (by decide) ?_
    refine lv_aload_n hx hb dX6_count_157 rfl (lv_at hl 0 rfl) ?_
    refine m_get S hw 21 (by decide) q1359 rfl rfl dX6_count_158 ?_
    exact m_iret S hr hlk hw h dX6_count_161
  replace h := if_f c1_12 h
  by_cases c1_13 : x1 = (13 : Int32)
  · replace h := if_t c1_13 h
    refine lv_tableIn (off := 161) (tgt := 162) hx hb dX6_count_1 (by rw [c1_13]; decide) (by rw [c1_13]; decide) (by rw [c1_13]; decide) (by decide) ?_
    refine lv_aload_n hx hb dX6_count_162 rfl (lv_at hl 0 rfl) ?_
    refine m_get S hw 0 (by decide) q1338 rfl rfl dX6_count_163 ?_
    refine lv_bipush (v := (9 : Int32)) hx hb dX6_count_166 (by decide) ?_
    refine m_ald S hw 1 0 3098 rfl (by decide) rfl (vlit (by decide)) dX6_count_168 ?_
    exact m_iret S hr hlk hw h dX6_count_169
  replace h := if_f c1_13 h
  have hout : x1.toInt < 0 ∨ 13 < x1.toInt := by
    have n0 := lv_neT c1_0 (a := 0) (by decide)
    have n1 := lv_neT c1_1 (a := 1) (by decide)
    have n2 := lv_neT c1_2 (a := 2) (by decide)
    have n3 := lv_neT c1_3 (a := 3) (by decide)
    have n4 := lv_neT c1_4 (a := 4) (by decide)
    have n5 := lv_neT c1_5 (a := 5) (by decide)
    have n6 := lv_neT c1_6 (a := 6) (by decide)
    have n7 := lv_neT c1_7 (a := 7) (by decide)
    have n8 := lv_neT c1_8 (a := 8) (by decide)
    have n9 := lv_neT c1_9 (a := 9) (by decide)
    have n10 := lv_neT c1_10 (a := 10) (by decide)
    have n11 := lv_neT c1_11 (a := 11) (by decide)
    have n12 := lv_neT c1_12 (a := 12) (by decide)
    have n13 := lv_neT c1_13 (a := 13) (by decide)
    omega
  refine lv_tableOut (tgt := 170) hx hb dX6_count_1 hout (by decide) ?_
  refine lv_ldc hx hb hown (hts _ q1468) dX6_count_170 ?_
  exact m_iret S hr hlk hw h dX6_count_172
theorem ctM_count (l : Launch) (D : va_G) (dA : Nat → ClassId) (ad : Nat → Nat) (A : Nat → Prop) (a : MS) (x1 : Int32) (Q : Int32 → MS → Prop) (h : wpM_count a x1 Q) : Met l yX6_count (ws_ yX6_count cX6_count 2 (some .int)) rmM_count (mPc D dA ad A a [.ref (ad 38), .int x1]) (mQi D dA ad A Q) 0 0 A :=
  m_met (by decide) rfl rfl rfl (Nat.le_of_ble_eq_true rfl) (fun p e s m below meth c ls S hr hlk hw hl => wkM_count_e S hr hlk Q x1 a _ _ ls h hw hl)
end MWalk

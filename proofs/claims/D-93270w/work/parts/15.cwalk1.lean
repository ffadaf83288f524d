theorem vin_lt {i : Int32} {n : Nat} (h : vp_in i n) : i.toNatClampNeg < n := Nat.not_le.mp fun q => h (Or.inr q)
theorem kset_3 {ad : Nat → Nat} {i : Nat → Int32} {r : Nat → Nat} {v : Int32} : (kObj ad i r).set 3 (.int v) = kObj ad (upd i 3 v) r := by simp [kObj, upd]
theorem kset_8 {ad : Nat → Nat} {i : Nat → Int32} {r : Nat → Nat} {v : Int32} : (kObj ad i r).set 8 (.int v) = kObj ad (upd i 8 v) r := by simp [kObj, upd]
theorem kset_10 {ad : Nat → Nat} {i : Nat → Int32} {r : Nat → Nat} {v : Int32} : (kObj ad i r).set 10 (.int v) = kObj ad (upd i 10 v) r := by simp [kObj, upd]
theorem kset_11 {ad : Nat → Nat} {i : Nat → Int32} {r : Nat → Nat} {v : Int32} : (kObj ad i r).set 11 (.int v) = kObj ad (upd i 11 v) r := by simp [kObj, upd]
theorem kset_12 {ad : Nat → Nat} {i : Nat → Int32} {r : Nat → Nat} {v : Int32} : (kObj ad i r).set 12 (.int v) = kObj ad (upd i 12 v) r := by simp [kObj, upd]
theorem kset_13 {ad : Nat → Nat} {i : Nat → Int32} {r : Nat → Nat} {v : Int32} : (kObj ad i r).set 13 (.int v) = kObj ad (upd i 13 v) r := by simp [kObj, upd]
theorem kset_14 {ad : Nat → Nat} {i : Nat → Int32} {r : Nat → Nat} {v : Int32} : (kObj ad i r).set 14 (.int v) = kObj ad (upd i 14 v) r := by simp [kObj, upd]
theorem kset_15 {ad : Nat → Nat} {i : Nat → Int32} {r : Nat → Nat} {v : Int32} : (kObj ad i r).set 15 (.int v) = kObj ad (upd i 15 v) r := by simp [kObj, upd]
theorem kset_16 {ad : Nat → Nat} {i : Nat → Int32} {r : Nat → Nat} {v : Int32} : (kObj ad i r).set 16 (.int v) = kObj ad (upd i 16 v) r := by simp [kObj, upd]
theorem kset_29 {ad : Nat → Nat} {i : Nat → Int32} {r : Nat → Nat} {v : Int32} : (kObj ad i r).set 29 (.int v) = kObj ad (upd i 29 v) r := by simp [kObj, upd]
theorem sset_1 {ad : Nat → Nat} {n : Nat} {i : Nat → Int32} {v : Int32} : (sObj ad n i).set 1 (.int v) = sObj ad n (upd i 1 v) := by simp [sObj, upd]
theorem sset_3 {ad : Nat → Nat} {n : Nat} {i : Nat → Int32} {v : Int32} : (sObj ad n i).set 3 (.int v) = sObj ad n (upd i 3 v) := by simp [sObj, upd]
theorem sset_4 {ad : Nat → Nat} {n : Nat} {i : Nat → Int32} {v : Int32} : (sObj ad n i).set 4 (.int v) = sObj ad n (upd i 4 v) := by simp [sObj, upd]
theorem sset_5 {ad : Nat → Nat} {n : Nat} {i : Nat → Int32} {v : Int32} : (sObj ad n i).set 5 (.int v) = sObj ad n (upd i 5 v) := by simp [sObj, upd]
theorem sset_6 {ad : Nat → Nat} {n : Nat} {i : Nat → Int32} {v : Int32} : (sObj ad n i).set 6 (.int v) = sObj ad n (upd i 6 v) := by simp [sObj, upd]
theorem sset_8 {ad : Nat → Nat} {n : Nat} {i : Nat → Int32} {v : Int32} : (sObj ad n i).set 8 (.int v) = sObj ad n (upd i 8 v) := by simp [sObj, upd]
theorem hset_0 {ad : Nat → Nat} {n : Nat} {i : Nat → Int32} {v : Int32} : (hObj ad n i).set 0 (.int v) = hObj ad n (upd i 0 v) := by simp [hObj, upd]
theorem hset_1 {ad : Nat → Nat} {n : Nat} {i : Nat → Int32} {v : Int32} : (hObj ad n i).set 1 (.int v) = hObj ad n (upd i 1 v) := by simp [hObj, upd]
theorem hset_2 {ad : Nat → Nat} {n : Nat} {i : Nat → Int32} {v : Int32} : (hObj ad n i).set 2 (.int v) = hObj ad n (upd i 2 v) := by simp [hObj, upd]
theorem hset_3 {ad : Nat → Nat} {n : Nat} {i : Nat → Int32} {v : Int32} : (hObj ad n i).set 3 (.int v) = hObj ad n (upd i 3 v) := by simp [hObj, upd]
theorem hset_4 {ad : Nat → Nat} {n : Nat} {i : Nat → Int32} {v : Int32} : (hObj ad n i).set 4 (.int v) = hObj ad n (upd i 4 v) := by simp [hObj, upd]
section CWalk
variable {p : Program} {l : Launch} {e : Env} {s : State} {m : MethodId} {args : Array Value} {below : List Frame} {meth : Method} {c : Code} {D : va_G} {dA : Nat → ClassId} {ad : Nat → Nat} {fv : Nat → Value} {A : Nat → Prop}
/-! X2.draw -/
abbrev rmC_X2_draw : Room := { frames := 0, cells := 0, slots := 0, locals := 0 }
def wpC_X2_draw (a : CS) (n0 : Nat) (Q : Int32 → CS → Prop) : Prop := (4 ≤ n0 ∧ n0 ≤ 7) ∧ ∀ a12 : CS, a12 = wI a n0 0 (((a.1 n0 0) * (1103515245 : Int32)) + (12345 : Int32)) → (Q (iush (a12.1 n0 0) (8 : Int32)) a12)
set_option maxHeartbeats 4000000 in
set_option maxRecDepth 100000 in
theorem wkC_X2_draw_e (S : CallFix p m c cX2_draw 1 s args lw_all RX2) (hr : meth.sig.returnType = (some .int)) (hlk : meth.locks = false) (Q : Int32 → CS → Prop) (n0 : Nat) (a : CS) (H : Heap) (locs : List Loc) (ls : Array Slot) (h : wpC_X2_draw a n0 Q) (hw : CW D dA ad fv A a s H locs) (hl : lv_has ls 1 [(0, .ref (ad n0))]) : W p l e rmC_X2_draw s m args below meth c H locs 0 0 (MQ below (cQi D dA ad fv A Q) args s 0 0 A) (F0 m 0 ls []) := by
  have hx := S.1
  have hb := S.2.1
  have hown := S.2.2.2.1
  have hts := S.2.2.2.2
  unfold wpC_X2_draw at h
  obtain ⟨hn0, h⟩ := h
  refine lv_aload_n hx hb dX2_draw_0 rfl (lv_at hl 0 rfl) ?_
  refine lv_aload_n hx hb dX2_draw_1 rfl (lv_at hl 0 rfl) ?_
  refine c_get S hw (n := n0) (cOk.s (mem_sh hn0.1 hn0.2)) ((isO_H hn0.1 hn0.2) _) rfl in_X2 0 (by decide) (Or.inl q150) rfl rfl dX2_draw_2 ?_
  refine lv_ldc hx hb hown (hts _ q917) dX2_draw_5 ?_
  refine lv_imul hx hb dX2_draw_7 ?_
  refine lv_sipush (v := (12345 : Int32)) hx hb dX2_draw_8 (by decide) ?_
  refine lv_iadd hx hb dX2_draw_11 ?_
  refine c_putI S hw (n := n0) (cOk.s (mem_sh hn0.1 hn0.2)) (isO_H hn0.1 hn0.2) rfl in_X2 tyX2 tyX2_ok nmX2 0 (by decide) (Or.inl q150) rfl rfl rfl rfl (Nat.le_of_ble_eq_true rfl) (fun _ => hset_0) dX2_draw_12 (fun a12 H locs ea12 hw => ?_)
  replace h := h a12 ea12
  refine lv_aload_n hx hb dX2_draw_15 rfl (lv_at hl 0 rfl) ?_
  refine c_get S hw (n := n0) (cOk.s (mem_sh hn0.1 hn0.2)) ((isO_H hn0.1 hn0.2) _) rfl in_X2 0 (by decide) (Or.inl q150) rfl rfl dX2_draw_16 ?_
  refine lv_bipush (v := (8 : Int32)) hx hb dX2_draw_19 (by decide) ?_
  refine lv_iushr (v := (iush (a12.1 n0 0) (8 : Int32))) hx hb dX2_draw_21 rfl ?_
  exact c_iret S hr hlk hw h dX2_draw_22
theorem ctC_X2_draw (l : Launch) (D : va_G) (dA : Nat → ClassId) (ad : Nat → Nat) (fv : Nat → Value) (A : Nat → Prop) (a : CS) (n0 : Nat) (Q : Int32 → CS → Prop) (h : wpC_X2_draw a n0 Q) : Met l yX2_draw (ws_ yX2_draw cX2_draw 1 (some .int)) rmC_X2_draw (cPc D dA ad fv A a [.ref (ad n0)]) (cQi D dA ad fv A Q) 0 0 A :=
  c_met (by decide) rfl rfl rfl (Nat.le_of_ble_eq_true rfl) (fun p e s m below meth c ls S hr hlk hin2 hw hl => wkC_X2_draw_e S hr hlk Q n0 a _ _ ls h hw hl)
theorem cwC_X0_X2_draw {R : Room} {s : State} {args : Array Value} {rm : Room} (hts : ∀ w ∈ lw_all, w.before args s = true) (hR : rm.frames + 1 ≤ R.frames ∧ 8 + (1 + 11) + rm.locals ≤ R.locals) (hc : rm.cells = 0 := by rfl) (hs : rm.slots = 0 := by rfl) : CallW R s args RX0 RX2 382 yX2_draw cX2_draw 1 (some .int) (ws_ yX2_draw cX2_draw 1 (some .int)) rm 0 0 0 :=
  cwV 0 hts (lw_V q913 q914 q915 q105 q916) rfl hc hs (by decide +kernel) hR
/-! X2.has -/
abbrev rmC_X2_has : Room := { frames := 0, cells := 0, slots := 0, locals := 0 }
def wpC_X2_has (a : CS) (n0 : Nat) (x1 : Int32) (Q : Int32 → CS → Prop) : Prop := (4 ≤ n0 ∧ n0 ≤ 7) ∧ if ((ishr (a.1 n0 3) x1) &&& (1 : Int32)) = (1 : Int32) then (Q (1 : Int32) a) else (Q (0 : Int32) a)
set_option maxHeartbeats 4000000 in
set_option maxRecDepth 100000 in
theorem wkC_X2_has_e (S : CallFix p m c cX2_has 2 s args lw_all RX2) (hr : meth.sig.returnType = (some .boolean)) (hlk : meth.locks = false) (Q : Int32 → CS → Prop) (n0 : Nat) (x1 : Int32) (a : CS) (H : Heap) (locs : List Loc) (ls : Array Slot) (h : wpC_X2_has a n0 x1 Q) (hw : CW D dA ad fv A a s H locs) (hl : lv_has ls 2 [(0, .ref (ad n0)), (1, .int x1)]) : W p l e rmC_X2_has s m args below meth c H locs 0 0 (MQ below (cQi D dA ad fv A Q) args s 0 0 A) (F0 m 0 ls []) := by
  have hx := S.1
  have hb := S.2.1
  have hown := S.2.2.2.1
  have hts := S.2.2.2.2
  unfold wpC_X2_has at h
  obtain ⟨hn0, h⟩ := h
  refine lv_aload_n hx hb dX2_has_0 rfl (lv_at hl 0 rfl) ?_
  refine c_get S hw (n := n0) (cOk.s (mem_sh hn0.1 hn0.2)) ((isO_H hn0.1 hn0.2) _) rfl in_X2 3 (by decide) (Or.inl q156) rfl rfl dX2_has_1 ?_
  refine lv_iload_n hx hb dX2_has_4 rfl (lv_at hl 1 rfl) ?_
  refine lv_ishr hx hb dX2_has_5 ?_
  refine lv_iconst (v := (1 : Int32)) hx hb dX2_has_6 (by decide) ?_
  refine lv_iand hx hb dX2_has_7 ?_
  refine lv_iconst (v := (1 : Int32)) hx hb dX2_has_8 (by decide) ?_
  refine lv_icmp_ne (tgt := 16) hx hb dX2_has_9 (by decide) (fun c9 => ?_) (fun c9 => ?_)
  · replace h := if_f c9 h
    refine lv_iconst (v := (0 : Int32)) hx hb dX2_has_16 (by decide) ?_
    exact c_zret S hr hlk hw (Or.inl rfl) h dX2_has_17
  · replace h := if_t c9 h
    refine lv_iconst (v := (1 : Int32)) hx hb dX2_has_12 (by decide) ?_
    refine lv_goto (tgt := 17) hx hb dX2_has_13 (by decide) ?_
    exact c_zret S hr hlk hw (Or.inr rfl) h dX2_has_17
theorem ctC_X2_has (l : Launch) (D : va_G) (dA : Nat → ClassId) (ad : Nat → Nat) (fv : Nat → Value) (A : Nat → Prop) (a : CS) (n0 : Nat) (x1 : Int32) (Q : Int32 → CS → Prop) (h : wpC_X2_has a n0 x1 Q) : Met l yX2_has (ws_ yX2_has cX2_has 2 (some .boolean)) rmC_X2_has (cPc D dA ad fv A a [.ref (ad n0), .int x1]) (cQi D dA ad fv A Q) 0 0 A :=
  c_met (by decide) rfl rfl rfl (Nat.le_of_ble_eq_true rfl) (fun p e s m below meth c ls S hr hlk hin2 hw hl => wkC_X2_has_e S hr hlk Q n0 x1 a _ _ ls h hw hl)
theorem cwC_X0_X2_has {R : Room} {s : State} {args : Array Value} {rm : Room} (hts : ∀ w ∈ lw_all, w.before args s = true) (hR : rm.frames + 1 ≤ R.frames ∧ 8 + (2 + 11) + rm.locals ≤ R.locals) (hc : rm.cells = 0 := by rfl) (hs : rm.slots = 0 := by rfl) : CallW R s args RX0 RX2 421 yX2_has cX2_has 2 (some .boolean) (ws_ yX2_has cX2_has 2 (some .boolean)) rm 0 0 1 :=
  cwV 1 hts (lw_V q971 q972 q973 q105 q974) rfl hc hs (by decide +kernel) hR
/-! X2.placeOf -/
abbrev rmC_X2_placeOf : Room := { frames := 0, cells := 0, slots := 0, locals := 0 }
def bkC_X2_placeOf_26 (Q : Int32 → CS → Prop) (n0 : Nat) (x1 : Int32) : Int32 → CS → Prop := fun x2 a => if x2 = (a.1 n0 4) then (Q (-1 : Int32) a) else (Q x2 a)
set_option maxHeartbeats 4000000 in
set_option maxRecDepth 100000 in
theorem wkC_X2_placeOf_26 (S : CallFix p m c cX2_placeOf 3 s args lw_all RX2) (hr : meth.sig.returnType = (some .int)) (hlk : meth.locks = false) (Q : Int32 → CS → Prop) (n0 : Nat) (x1 : Int32) (hn0 : 4 ≤ n0 ∧ n0 ≤ 7) : ∀ (x2 : Int32) (a : CS) (H : Heap) (locs : List Loc) (ls : Array Slot), bkC_X2_placeOf_26 Q n0 x1 x2 a → CW D dA ad fv A a s H locs → lv_has ls 3 [(0, .ref (ad n0)), (2, .int x2)] → W p l e rmC_X2_placeOf s m args below meth c H locs 0 0 (MQ below (cQi D dA ad fv A Q) args s 0 0 A) (F0 m 26 ls []) := by
  have hx := S.1
  have hb := S.2.1
  have hown := S.2.2.2.1
  have hts := S.2.2.2.2
  intro x2 a H locs ls h hw hl
  unfold bkC_X2_placeOf_26 at h
  refine lv_iload_n hx hb dX2_placeOf_26 rfl (lv_at hl 1 rfl) ?_
  refine lv_aload_n hx hb dX2_placeOf_27 rfl (lv_at hl 0 rfl) ?_
  refine c_get S hw (n := n0) (cOk.s (mem_sh hn0.1 hn0.2)) ((isO_H hn0.1 hn0.2) _) rfl in_X2 4 (by decide) (Or.inl q158) rfl rfl dX2_placeOf_28 ?_
  refine lv_icmp_ne (tgt := 38) hx hb dX2_placeOf_31 (by decide) (fun c31 => ?_) (fun c31 => ?_)
  · replace h := if_f c31 h
    refine lv_iload_n hx hb dX2_placeOf_38 rfl (lv_at hl 1 rfl) ?_
    exact c_iret S hr hlk hw h dX2_placeOf_39
  · replace h := if_t c31 h
    refine lv_iconst (v := (-1 : Int32)) hx hb dX2_placeOf_34 (by decide) ?_
    refine lv_goto (tgt := 39) hx hb dX2_placeOf_35 (by decide) ?_
    exact c_iret S hr hlk hw h dX2_placeOf_39
def bkC_X2_placeOf_2 (Q : Int32 → CS → Prop) (n0 : Nat) (x1 : Int32) : Nat → Int32 → CS → Prop
  | 0 => fun _ _ => False
  | n + 1 => fun x2 a => if (a.1 n0 4) ≤ x2 then (bkC_X2_placeOf_26 Q n0 x1 x2 a) else ((vp_in x2 8) ∧ (if (a.1 (n0 + 10) x2.toNatClampNeg) = x1 then (bkC_X2_placeOf_26 Q n0 x1 x2 a) else (bkC_X2_placeOf_2 Q n0 x1 n (x2 + (1 : Int32)) a)))
set_option maxHeartbeats 4000000 in
set_option maxRecDepth 100000 in
theorem wkC_X2_placeOf_2 (S : CallFix p m c cX2_placeOf 3 s args lw_all RX2) (hr : meth.sig.returnType = (some .int)) (hlk : meth.locks = false) (Q : Int32 → CS → Prop) (n0 : Nat) (x1 : Int32) (hn0 : 4 ≤ n0 ∧ n0 ≤ 7) : ∀ (n : Nat) (x2 : Int32) (a : CS) (H : Heap) (locs : List Loc) (ls : Array Slot), bkC_X2_placeOf_2 Q n0 x1 n x2 a → CW D dA ad fv A a s H locs → lv_has ls 3 [(0, .ref (ad n0)), (1, .int x1), (2, .int x2)] → W p l e rmC_X2_placeOf s m args below meth c H locs 0 0 (MQ below (cQi D dA ad fv A Q) args s 0 0 A) (F0 m 2 ls []) := by
  have hx := S.1
  have hb := S.2.1
  have hown := S.2.2.2.1
  have hts := S.2.2.2.2
  intro n
  induction n with
  | zero =>
    intro x2 a H locs ls h
    exact False.elim h
  | succ n ih =>
    intro x2 a H locs ls h hw hl
    unfold bkC_X2_placeOf_2 at h
    refine lv_iload_n hx hb dX2_placeOf_2 rfl (lv_at hl 2 rfl) ?_
    refine lv_aload_n hx hb dX2_placeOf_3 rfl (lv_at hl 0 rfl) ?_
    refine c_get S hw (n := n0) (cOk.s (mem_sh hn0.1 hn0.2)) ((isO_H hn0.1 hn0.2) _) rfl in_X2 4 (by decide) (Or.inl q158) rfl rfl dX2_placeOf_4 ?_
    refine lv_icmp_ge (tgt := 26) hx hb dX2_placeOf_7 (by decide) (fun c7 => ?_) (fun c7 => ?_)
    · replace h := if_t c7 h
      exact wkC_X2_placeOf_26 S hr hlk Q n0 x1 hn0 _ _ _ _ _ h hw (lv_sub hl [0, 2] rfl)
    · replace h := if_f c7 h
      refine lv_aload_n hx hb dX2_placeOf_10 rfl (lv_at hl 0 rfl) ?_
      refine c_get S hw (n := n0) (cOk.s (mem_sh hn0.1 hn0.2)) ((isO_H hn0.1 hn0.2) _) rfl in_X2 5 (by decide) (Or.inl q160) rfl rfl dX2_placeOf_11 ?_
      refine lv_iload_n hx hb dX2_placeOf_14 rfl (lv_at hl 2 rfl) ?_
      have hi15 := h.1
      replace h := h.2
      refine c_ald S hw (n := (n0 + 10)) (cOk.s (mem_or hn0.1 hn0.2)) (isA_8 (by have q1 := hn0.1; have q2 := hn0.2; omega) (by have q1 := hn0.1; have q2 := hn0.2; omega)) hi15 (Or.inl ⟨rfl, dX2_placeOf_15⟩) ?_
      refine lv_iload_n hx hb dX2_placeOf_16 rfl (lv_at hl 1 rfl) ?_
      refine lv_icmp_eq (tgt := 26) hx hb dX2_placeOf_17 (by decide) (fun c17 => ?_) (fun c17 => ?_)
      · replace h := if_t c17 h
        exact wkC_X2_placeOf_26 S hr hlk Q n0 x1 hn0 _ _ _ _ _ h hw (lv_sub hl [0, 2] rfl)
      · replace h := if_f c17 h
        refine lv_iinc (v := (x2 + (1 : Int32))) (lv' := [(2, .int (x2 + (1 : Int32))), (0, .ref (ad n0)), (1, .int x1)]) hx hb dX2_placeOf_20 hl (k := 2) rfl rfl (by decide) rfl (fun ls hl => ?_)
        refine lv_goto (tgt := 2) hx hb dX2_placeOf_23 (by decide) ?_
        exact ih _ _ _ _ _ h hw (lv_sub hl [1, 2, 0] rfl)
def wpC_X2_placeOf (a : CS) (n0 : Nat) (x1 : Int32) (Q : Int32 → CS → Prop) : Prop := (4 ≤ n0 ∧ n0 ≤ 7) ∧ ∃ n2, bkC_X2_placeOf_2 Q n0 x1 n2 (0 : Int32) a
set_option maxHeartbeats 4000000 in
set_option maxRecDepth 100000 in
theorem wkC_X2_placeOf_e (S : CallFix p m c cX2_placeOf 3 s args lw_all RX2) (hr : meth.sig.returnType = (some .int)) (hlk : meth.locks = false) (Q : Int32 → CS → Prop) (n0 : Nat) (x1 : Int32) (a : CS) (H : Heap) (locs : List Loc) (ls : Array Slot) (h : wpC_X2_placeOf a n0 x1 Q) (hw : CW D dA ad fv A a s H locs) (hl : lv_has ls 3 [(0, .ref (ad n0)), (1, .int x1)]) : W p l e rmC_X2_placeOf s m args below meth c H locs 0 0 (MQ below (cQi D dA ad fv A Q) args s 0 0 A) (F0 m 0 ls []) := by
  have hx := S.1
  have hb := S.2.1
  have hown := S.2.2.2.1
  have hts := S.2.2.2.2
  unfold wpC_X2_placeOf at h
  obtain ⟨hn0, h⟩ := h
  refine lv_iconst (v := (0 : Int32)) hx hb dX2_placeOf_0 (by decide) ?_
  refine lv_istore_n (lv' := [(2, .int (0 : Int32)), (0, .ref (ad n0)), (1, .int x1)]) hx hb dX2_placeOf_1 rfl hl (by decide) rfl (fun ls hl => ?_)
  obtain ⟨n2, h⟩ := h
  exact wkC_X2_placeOf_2 S hr hlk Q n0 x1 hn0 n2 _ _ _ _ _ h hw (lv_sub hl [1, 2, 0] rfl)
theorem ctC_X2_placeOf (l : Launch) (D : va_G) (dA : Nat → ClassId) (ad : Nat → Nat) (fv : Nat → Value) (A : Nat → Prop) (a : CS) (n0 : Nat) (x1 : Int32) (Q : Int32 → CS → Prop) (h : wpC_X2_placeOf a n0 x1 Q) : Met l yX2_placeOf (ws_ yX2_placeOf cX2_placeOf 3 (some .int)) rmC_X2_placeOf (cPc D dA ad fv A a [.ref (ad n0), .int x1]) (cQi D dA ad fv A Q) 0 0 A :=
  c_met (by decide) rfl rfl rfl (Nat.le_of_ble_eq_true rfl) (fun p e s m below meth c ls S hr hlk hin2 hw hl => wkC_X2_placeOf_e S hr hlk Q n0 x1 a _ _ ls h hw hl)
theorem cwC_X0_X2_placeOf {R : Room} {s : State} {args : Array Value} {rm : Room} (hts : ∀ w ∈ lw_all, w.before args s = true) (hR : rm.frames + 1 ≤ R.frames ∧ 8 + (3 + 11) + rm.locals ≤ R.locals) (hc : rm.cells = 0 := by rfl) (hs : rm.slots = 0 := by rfl) : CallW R s args RX0 RX2 354 yX2_placeOf cX2_placeOf 3 (some .int) (ws_ yX2_placeOf cX2_placeOf 3 (some .int)) rm 0 0 1 :=
  cwV 1 hts (lw_V q817 q818 q819 q105 q820) rfl hc hs (by decide +kernel) hR
theorem cwC_X2_X2_placeOf {R : Room} {s : State} {args : Array Value} {rm : Room} (hts : ∀ w ∈ lw_all, w.before args s = true) (hR : rm.frames + 1 ≤ R.frames ∧ 8 + (3 + 11) + rm.locals ≤ R.locals) (hc : rm.cells = 0 := by rfl) (hs : rm.slots = 0 := by rfl) : CallW R s args RX2 RX2 42 yX2_placeOf cX2_placeOf 3 (some .int) (ws_ yX2_placeOf cX2_placeOf 3 (some .int)) rm 0 0 1 :=
  cwV 1 hts (lw_V q954 q818 q819 q105 q820) rfl hc hs (by decide +kernel) hR
/-! X2.comes -/
abbrev rmC_X2_comes : Room := { frames := 0, cells := 0, slots := 0, locals := 0 }
def wpC_X2_comes (a : CS) (n0 : Nat) (x1 : Int32) (Q : CS → Prop) : Prop := (4 ≤ n0 ∧ n0 ≤ 7) ∧ (vp_in (a.1 n0 4) 8) ∧ (∀ a9 : CS, a9 = wI a (n0 + 10) (a.1 n0 4).toNatClampNeg x1 → (∀ a17 : CS, a17 = wI a9 n0 4 ((a9.1 n0 4) + (1 : Int32)) → (∀ a29 : CS, a29 = wI a17 n0 3 ((a17.1 n0 3) ||| (ishl (1 : Int32) x1)) → (Q a29))))
set_option maxHeartbeats 4000000 in
set_option maxRecDepth 100000 in
theorem wkC_X2_comes_e (S : CallFix p m c cX2_comes 2 s args lw_all RX2) (hr : meth.sig.returnType = none) (hlk : meth.locks = false) (Q : CS → Prop) (n0 : Nat) (x1 : Int32) (a : CS) (H : Heap) (locs : List Loc) (ls : Array Slot) (h : wpC_X2_comes a n0 x1 Q) (hw : CW D dA ad fv A a s H locs) (hl : lv_has ls 2 [(0, .ref (ad n0)), (1, .int x1)]) : W p l e rmC_X2_comes s m args below meth c H locs 0 0 (MQ below (cQv D dA ad fv A Q) args s 0 0 A) (F0 m 0 ls []) := by
  have hx := S.1
  have hb := S.2.1
  have hown := S.2.2.2.1
  have hts := S.2.2.2.2
  unfold wpC_X2_comes at h
  obtain ⟨hn0, h⟩ := h
  refine lv_aload_n hx hb dX2_comes_0 rfl (lv_at hl 0 rfl) ?_
  refine c_get S hw (n := n0) (cOk.s (mem_sh hn0.1 hn0.2)) ((isO_H hn0.1 hn0.2) _) rfl in_X2 5 (by decide) (Or.inl q160) rfl rfl dX2_comes_1 ?_
  refine lv_aload_n hx hb dX2_comes_4 rfl (lv_at hl 0 rfl) ?_
  refine c_get S hw (n := n0) (cOk.s (mem_sh hn0.1 hn0.2)) ((isO_H hn0.1 hn0.2) _) rfl in_X2 4 (by decide) (Or.inl q158) rfl rfl dX2_comes_5 ?_
  refine lv_iload_n hx hb dX2_comes_8 rfl (lv_at hl 1 rfl) ?_
  have hi9 := h.1
  replace h := h.2
  refine c_ast S hw (n := (n0 + 10)) (by omega) (cOk.s (mem_or hn0.1 hn0.2)) (isA_8 (by have q1 := hn0.1; have q2 := hn0.2; omega) (by have q1 := hn0.1; have q2 := hn0.2; omega)) hi9 (Or.inl ⟨rfl, rfl, dX2_comes_9⟩) (fun a9 H locs ea9 hw => ?_)
  replace h := h a9 ea9
  refine lv_aload_n hx hb dX2_comes_10 rfl (lv_at hl 0 rfl) ?_
  refine lv_dup hx hb dX2_comes_11 rfl ?_
  refine c_get S hw (n := n0) (cOk.s (mem_sh hn0.1 hn0.2)) ((isO_H hn0.1 hn0.2) _) rfl in_X2 4 (by decide) (Or.inl q158) rfl rfl dX2_comes_12 ?_
  refine lv_iconst (v := (1 : Int32)) hx hb dX2_comes_15 (by decide) ?_
  refine lv_iadd hx hb dX2_comes_16 ?_
  refine c_putI S hw (n := n0) (cOk.s (mem_sh hn0.1 hn0.2)) (isO_H hn0.1 hn0.2) rfl in_X2 tyX2 tyX2_ok nmX2 4 (by decide) (Or.inl q158) rfl rfl rfl rfl (Nat.le_of_ble_eq_true rfl) (fun _ => hset_4) dX2_comes_17 (fun a17 H locs ea17 hw => ?_)
  replace h := h a17 ea17
  refine lv_aload_n hx hb dX2_comes_20 rfl (lv_at hl 0 rfl) ?_
  refine lv_dup hx hb dX2_comes_21 rfl ?_
  refine c_get S hw (n := n0) (cOk.s (mem_sh hn0.1 hn0.2)) ((isO_H hn0.1 hn0.2) _) rfl in_X2 3 (by decide) (Or.inl q156) rfl rfl dX2_comes_22 ?_
  refine lv_iconst (v := (1 : Int32)) hx hb dX2_comes_25 (by decide) ?_
  refine lv_iload_n hx hb dX2_comes_26 rfl (lv_at hl 1 rfl) ?_
  refine lv_ishl hx hb dX2_comes_27 ?_
  refine lv_ior hx hb dX2_comes_28 ?_
  refine c_putI S hw (n := n0) (cOk.s (mem_sh hn0.1 hn0.2)) (isO_H hn0.1 hn0.2) rfl in_X2 tyX2 tyX2_ok nmX2 3 (by decide) (Or.inl q156) rfl rfl rfl rfl (Nat.le_of_ble_eq_true rfl) (fun _ => hset_3) dX2_comes_29 (fun a29 H locs ea29 hw => ?_)
  replace h := h a29 ea29
  exact c_vret S hr hlk hw h dX2_comes_32
theorem ctC_X2_comes (l : Launch) (D : va_G) (dA : Nat → ClassId) (ad : Nat → Nat) (fv : Nat → Value) (A : Nat → Prop) (a : CS) (n0 : Nat) (x1 : Int32) (Q : CS → Prop) (h : wpC_X2_comes a n0 x1 Q) : Met l yX2_comes (ws_ yX2_comes cX2_comes 2 none) rmC_X2_comes (cPc D dA ad fv A a [.ref (ad n0), .int x1]) (cQv D dA ad fv A Q) 0 0 A :=
  c_met (by decide) rfl rfl rfl (Nat.le_of_ble_eq_true rfl) (fun p e s m below meth c ls S hr hlk hin2 hw hl => wkC_X2_comes_e S hr hlk Q n0 x1 a _ _ ls h hw hl)
theorem cwC_X0_X2_comes {R : Room} {s : State} {args : Array Value} {rm : Room} (hts : ∀ w ∈ lw_all, w.before args s = true) (hR : rm.frames + 1 ≤ R.frames ∧ 8 + (2 + 11) + rm.locals ≤ R.locals) (hc : rm.cells = 0 := by rfl) (hs : rm.slots = 0 := by rfl) : CallW R s args RX0 RX2 430 yX2_comes cX2_comes 2 none (ws_ yX2_comes cX2_comes 2 none) rm 0 0 1 :=
  cwV 1 hts (lw_V q975 q976 q977 q105 q978) rfl hc hs (by decide +kernel) hR
/-! X2.goes -/
abbrev rmC_X2_goes : Room := { frames := 1, cells := 0, slots := 0, locals := 22 }
def bkC_X2_goes_6 (Q : CS → Prop) (n0 : Nat) (x1 : Int32) : Nat → Int32 → CS → Prop
  | 0 => fun _ _ => False
  | n + 1 => fun x2 a => if ((a.1 n0 4) - (1 : Int32)) ≤ x2 then (∀ a43 : CS, a43 = wI a n0 4 ((a.1 n0 4) - (1 : Int32)) → (∀ a57 : CS, a57 = wI a43 n0 3 ((a43.1 n0 3) &&& ((ishl (1 : Int32) x1) ^^^ (-1 : Int32))) → (Q a57))) else ((vp_in (x2 + (1 : Int32)) 8) ∧ ((vp_in x2 8) ∧ (∀ a29 : CS, a29 = wI a (n0 + 10) x2.toNatClampNeg (a.1 (n0 + 10) (x2 + (1 : Int32)).toNatClampNeg) → (bkC_X2_goes_6 Q n0 x1 n (x2 + (1 : Int32)) a29))))
set_option maxHeartbeats 4000000 in
set_option maxRecDepth 100000 in
theorem wkC_X2_goes_6 (S : CallFix p m c cX2_goes 3 s args lw_all RX2) (hr : meth.sig.returnType = none) (hlk : meth.locks = false) (Q : CS → Prop) (n0 : Nat) (x1 : Int32) (hn0 : 4 ≤ n0 ∧ n0 ≤ 7) : ∀ (n : Nat) (x2 : Int32) (a : CS) (H : Heap) (locs : List Loc) (ls : Array Slot), bkC_X2_goes_6 Q n0 x1 n x2 a → CW D dA ad fv A a s H locs → lv_has ls 3 [(0, .ref (ad n0)), (1, .int x1), (2, .int x2)] → W p l e rmC_X2_goes s m args below meth c H locs 0 0 (MQ below (cQv D dA ad fv A Q) args s 0 0 A) (F0 m 6 ls []) := by
  have hx := S.1
  have hb := S.2.1
  have hown := S.2.2.2.1
  have hts := S.2.2.2.2
  intro n
  induction n with
  | zero =>
    intro x2 a H locs ls h
    exact False.elim h
  | succ n ih =>
    intro x2 a H locs ls h hw hl
    unfold bkC_X2_goes_6 at h
    refine lv_iload_n hx hb dX2_goes_6 rfl (lv_at hl 2 rfl) ?_
    refine lv_aload_n hx hb dX2_goes_7 rfl (lv_at hl 0 rfl) ?_
    refine c_get S hw (n := n0) (cOk.s (mem_sh hn0.1 hn0.2)) ((isO_H hn0.1 hn0.2) _) rfl in_X2 4 (by decide) (Or.inl q158) rfl rfl dX2_goes_8 ?_
    refine lv_iconst (v := (1 : Int32)) hx hb dX2_goes_11 (by decide) ?_
    refine lv_isub hx hb dX2_goes_12 ?_
    refine lv_icmp_ge (tgt := 36) hx hb dX2_goes_13 (by decide) (fun c13 => ?_) (fun c13 => ?_)
    · replace h := if_t c13 h
      refine lv_aload_n hx hb dX2_goes_36 rfl (lv_at hl 0 rfl) ?_
      refine lv_dup hx hb dX2_goes_37 rfl ?_
      refine c_get S hw (n := n0) (cOk.s (mem_sh hn0.1 hn0.2)) ((isO_H hn0.1 hn0.2) _) rfl in_X2 4 (by decide) (Or.inl q158) rfl rfl dX2_goes_38 ?_
      refine lv_iconst (v := (1 : Int32)) hx hb dX2_goes_41 (by decide) ?_
      refine lv_isub hx hb dX2_goes_42 ?_
      refine c_putI S hw (n := n0) (cOk.s (mem_sh hn0.1 hn0.2)) (isO_H hn0.1 hn0.2) rfl in_X2 tyX2 tyX2_ok nmX2 4 (by decide) (Or.inl q158) rfl rfl rfl rfl (Nat.le_of_ble_eq_true rfl) (fun _ => hset_4) dX2_goes_43 (fun a43 H locs ea43 hw => ?_)
      replace h := h a43 ea43
      refine lv_aload_n hx hb dX2_goes_46 rfl (lv_at hl 0 rfl) ?_
      refine lv_dup hx hb dX2_goes_47 rfl ?_
      refine c_get S hw (n := n0) (cOk.s (mem_sh hn0.1 hn0.2)) ((isO_H hn0.1 hn0.2) _) rfl in_X2 3 (by decide) (Or.inl q156) rfl rfl dX2_goes_48 ?_
      refine lv_iconst (v := (1 : Int32)) hx hb dX2_goes_51 (by decide) ?_
      refine lv_iload_n hx hb dX2_goes_52 rfl (lv_at hl 1 rfl) ?_
      refine lv_ishl hx hb dX2_goes_53 ?_
      refine lv_iconst (v := (-1 : Int32)) hx hb dX2_goes_54 (by decide) ?_
      refine lv_ixor hx hb dX2_goes_55 ?_
      refine lv_iand hx hb dX2_goes_56 ?_
      refine c_putI S hw (n := n0) (cOk.s (mem_sh hn0.1 hn0.2)) (isO_H hn0.1 hn0.2) rfl in_X2 tyX2 tyX2_ok nmX2 3 (by decide) (Or.inl q156) rfl rfl rfl rfl (Nat.le_of_ble_eq_true rfl) (fun _ => hset_3) dX2_goes_57 (fun a57 H locs ea57 hw => ?_)
      replace h := h a57 ea57
      exact c_vret S hr hlk hw h dX2_goes_60
    · replace h := if_f c13 h
      refine lv_aload_n hx hb dX2_goes_16 rfl (lv_at hl 0 rfl) ?_
      refine c_get S hw (n := n0) (cOk.s (mem_sh hn0.1 hn0.2)) ((isO_H hn0.1 hn0.2) _) rfl in_X2 5 (by decide) (Or.inl q160) rfl rfl dX2_goes_17 ?_
      refine lv_iload_n hx hb dX2_goes_20 rfl (lv_at hl 2 rfl) ?_
      refine lv_aload_n hx hb dX2_goes_21 rfl (lv_at hl 0 rfl) ?_
      refine c_get S hw (n := n0) (cOk.s (mem_sh hn0.1 hn0.2)) ((isO_H hn0.1 hn0.2) _) rfl in_X2 5 (by decide) (Or.inl q160) rfl rfl dX2_goes_22 ?_
      refine lv_iload_n hx hb dX2_goes_25 rfl (lv_at hl 2 rfl) ?_
      refine lv_iconst (v := (1 : Int32)) hx hb dX2_goes_26 (by decide) ?_
      refine lv_iadd hx hb dX2_goes_27 ?_
      have hi28 := h.1
      replace h := h.2
      refine c_ald S hw (n := (n0 + 10)) (cOk.s (mem_or hn0.1 hn0.2)) (isA_8 (by have q1 := hn0.1; have q2 := hn0.2; omega) (by have q1 := hn0.1; have q2 := hn0.2; omega)) hi28 (Or.inl ⟨rfl, dX2_goes_28⟩) ?_
      have hi29 := h.1
      replace h := h.2
      refine c_ast S hw (n := (n0 + 10)) (by omega) (cOk.s (mem_or hn0.1 hn0.2)) (isA_8 (by have q1 := hn0.1; have q2 := hn0.2; omega) (by have q1 := hn0.1; have q2 := hn0.2; omega)) hi29 (Or.inl ⟨rfl, rfl, dX2_goes_29⟩) (fun a29 H locs ea29 hw => ?_)
      replace h := h a29 ea29
      refine lv_iinc (v := (x2 + (1 : Int32))) (lv' := [(2, .int (x2 + (1 : Int32))), (0, .ref (ad n0)), (1, .int x1)]) hx hb dX2_goes_30 hl (k := 2) rfl rfl (by decide) rfl (fun ls hl => ?_)
      refine lv_goto (tgt := 6) hx hb dX2_goes_33 (by decide) ?_
      exact ih _ _ _ _ _ h hw (lv_sub hl [1, 2, 0] rfl)
def wpC_X2_goes (a : CS) (n0 : Nat) (x1 : Int32) (Q : CS → Prop) : Prop := (4 ≤ n0 ∧ n0 ≤ 7) ∧ wpC_X2_placeOf a n0 x1 (fun r2 a2 => ∃ n6, bkC_X2_goes_6 Q n0 x1 n6 r2 a2)
set_option maxHeartbeats 4000000 in
set_option maxRecDepth 100000 in
theorem wkC_X2_goes_e (S : CallFix p m c cX2_goes 3 s args lw_all RX2) (hr : meth.sig.returnType = none) (hlk : meth.locks = false) (Q : CS → Prop) (n0 : Nat) (x1 : Int32) (a : CS) (H : Heap) (locs : List Loc) (ls : Array Slot) (h : wpC_X2_goes a n0 x1 Q) (hw : CW D dA ad fv A a s H locs) (hl : lv_has ls 3 [(0, .ref (ad n0)), (1, .int x1)]) : W p l e rmC_X2_goes s m args below meth c H locs 0 0 (MQ below (cQv D dA ad fv A Q) args s 0 0 A) (F0 m 0 ls []) := by
  have hx := S.1
  have hb := S.2.1
  have hown := S.2.2.2.1
  have hts := S.2.2.2.2
  unfold wpC_X2_goes at h
  obtain ⟨hn0, h⟩ := h
  refine lv_aload_n hx hb dX2_goes_0 rfl (lv_at hl 0 rfl) ?_
  refine lv_iload_n hx hb dX2_goes_1 rfl (lv_at hl 1 rfl) ?_
  refine c_calli hw (va_runV (As := [.int x1]) (rest := []) S (ctC_X2_placeOf l D dA ad fv A a n0 x1 _ h) (cwC_X2_X2_placeOf hts ⟨Nat.le_of_ble_eq_true rfl, Nat.le_of_ble_eq_true rfl⟩) (c_preV hw (n := n0) (cOk.s (mem_sh hn0.1 hn0.2)) ((isO_H hn0.1 hn0.2) _) rfl) rfl rfl hl.1 rfl (lv_room (Nat.le_of_ble_eq_true rfl)) dX2_goes_2 ⟨Nat.le_of_ble_eq_true rfl, Nat.le_of_ble_eq_true rfl⟩) (fun r2 a2 H locs h hw => ?_)
  refine lv_istore_n (lv' := [(2, .int r2), (0, .ref (ad n0)), (1, .int x1)]) hx hb dX2_goes_5 rfl hl (by decide) rfl (fun ls hl => ?_)
  obtain ⟨n6, h⟩ := h
  exact wkC_X2_goes_6 S hr hlk Q n0 x1 hn0 n6 _ _ _ _ _ h hw (lv_sub hl [1, 2, 0] rfl)
theorem ctC_X2_goes (l : Launch) (D : va_G) (dA : Nat → ClassId) (ad : Nat → Nat) (fv : Nat → Value) (A : Nat → Prop) (a : CS) (n0 : Nat) (x1 : Int32) (Q : CS → Prop) (h : wpC_X2_goes a n0 x1 Q) : Met l yX2_goes (ws_ yX2_goes cX2_goes 3 none) rmC_X2_goes (cPc D dA ad fv A a [.ref (ad n0), .int x1]) (cQv D dA ad fv A Q) 0 0 A :=
  c_met (by decide) rfl rfl rfl (Nat.le_of_ble_eq_true rfl) (fun p e s m below meth c ls S hr hlk hin2 hw hl => wkC_X2_goes_e S hr hlk Q n0 x1 a _ _ ls h hw hl)
theorem cwC_X0_X2_goes {R : Room} {s : State} {args : Array Value} {rm : Room} (hts : ∀ w ∈ lw_all, w.before args s = true) (hR : rm.frames + 1 ≤ R.frames ∧ 8 + (3 + 11) + rm.locals ≤ R.locals) (hc : rm.cells = 0 := by rfl) (hs : rm.slots = 0 := by rfl) : CallW R s args RX0 RX2 416 yX2_goes cX2_goes 3 none (ws_ yX2_goes cX2_goes 3 none) rm 0 0 1 :=
  cwV 1 hts (lw_V q950 q951 q952 q105 q953) rfl hc hs (by decide +kernel) hR
/-! X0.isIn -/
abbrev rmC_X0_isIn : Room := { frames := 0, cells := 0, slots := 0, locals := 0 }
def wpC_X0_isIn (a : CS) (x0 : Int32) (x1 : Int32) (x2 : Int32) (Q : Int32 → CS → Prop) : Prop := if x0 < x1 then (Q (0 : Int32) a) else (if x2 < x0 then (Q (0 : Int32) a) else (Q (1 : Int32) a))
set_option maxHeartbeats 4000000 in
set_option maxRecDepth 100000 in
theorem wkC_X0_isIn_e (S : CallFix p m c cX0_isIn 3 s args lw_all RX0) (hr : meth.sig.returnType = (some .boolean)) (hlk : meth.locks = false) (Q : Int32 → CS → Prop) (x0 : Int32) (x1 : Int32) (x2 : Int32) (a : CS) (H : Heap) (locs : List Loc) (ls : Array Slot) (h : wpC_X0_isIn a x0 x1 x2 Q) (hw : CW D dA ad fv A a s H locs) (hl : lv_has ls 3 [(0, .int x0), (1, .int x1), (2, .int x2)]) : W p l e rmC_X0_isIn s m args below meth c H locs 0 0 (MQ below (cQi D dA ad fv A Q) args s 0 0 A) (F0 m 0 ls []) := by
  have hx := S.1
  have hb := S.2.1
  have hown := S.2.2.2.1
  have hts := S.2.2.2.2
  unfold wpC_X0_isIn at h
  refine lv_iload_n hx hb dX0_isIn_0 rfl (lv_at hl 0 rfl) ?_
  refine lv_iload_n hx hb dX0_isIn_1 rfl (lv_at hl 1 rfl) ?_
  refine lv_icmp_lt (tgt := 14) hx hb dX0_isIn_2 (by decide) (fun c2 => ?_) (fun c2 => ?_)
  · replace h := if_t c2 h
    refine lv_iconst (v := (0 : Int32)) hx hb dX0_isIn_14 (by decide) ?_
    exact c_zret S hr hlk hw (Or.inl rfl) h dX0_isIn_15
  · replace h := if_f c2 h
    refine lv_iload_n hx hb dX0_isIn_5 rfl (lv_at hl 0 rfl) ?_
    refine lv_iload_n hx hb dX0_isIn_6 rfl (lv_at hl 2 rfl) ?_
    refine lv_icmp_gt (tgt := 14) hx hb dX0_isIn_7 (by decide) (fun c7 => ?_) (fun c7 => ?_)
    · replace h := if_t c7 h
      refine lv_iconst (v := (0 : Int32)) hx hb dX0_isIn_14 (by decide) ?_
      exact c_zret S hr hlk hw (Or.inl rfl) h dX0_isIn_15
    · replace h := if_f c7 h
      refine lv_iconst (v := (1 : Int32)) hx hb dX0_isIn_10 (by decide) ?_
      refine lv_goto (tgt := 15) hx hb dX0_isIn_11 (by decide) ?_
      exact c_zret S hr hlk hw (Or.inr rfl) h dX0_isIn_15
theorem ctC_X0_isIn (l : Launch) (D : va_G) (dA : Nat → ClassId) (ad : Nat → Nat) (fv : Nat → Value) (A : Nat → Prop) (a : CS) (x0 : Int32) (x1 : Int32) (x2 : Int32) (Q : Int32 → CS → Prop) (h : wpC_X0_isIn a x0 x1 x2 Q) : Met l yX0_isIn (ws_ yX0_isIn cX0_isIn 3 (some .boolean)) rmC_X0_isIn (cPc D dA ad fv A a [.int x0, .int x1, .int x2]) (cQi D dA ad fv A Q) 0 0 A :=
  c_met (by decide) rfl rfl rfl (Nat.le_of_ble_eq_true rfl) (fun p e s m below meth c ls S hr hlk hin2 hw hl => wkC_X0_isIn_e S hr hlk Q x0 x1 x2 a _ _ ls h hw hl)
theorem cwC_X0_X0_isIn {R : Room} {s : State} {args : Array Value} {rm : Room} (hts : ∀ w ∈ lw_all, w.before args s = true) (hR : rm.frames + 1 ≤ R.frames ∧ 8 + (3 + 11) + rm.locals ≤ R.locals) (hc : rm.cells = 0 := by rfl) (hs : rm.slots = 0 := by rfl) : CallB R s args RX0 137 yX0_isIn cX0_isIn 3 (some .boolean) (ws_ yX0_isIn cX0_isIn 3 (some .boolean)) rm 0 0 3 ∧ (Cond.static yX0_isIn).before args s = true :=
  va_cwS 3 hts (lw_S q432 q433 q103 q434) rfl hc hs (by decide +kernel) hR
/-! X0.orNone -/
abbrev rmC_X0_orNone : Room := { frames := 0, cells := 0, slots := 0, locals := 0 }
def wpC_X0_orNone (a : CS) (x0 : Int32) (Q : Int32 → CS → Prop) : Prop := if x0 = (-1 : Int32) then (Q (-1000000005 : Int32) a) else (Q x0 a)
set_option maxHeartbeats 4000000 in
set_option maxRecDepth 100000 in
theorem wkC_X0_orNone_e (S : CallFix p m c cX0_orNone 1 s args lw_all RX0) (hr : meth.sig.returnType = (some .int)) (hlk : meth.locks = false) (Q : Int32 → CS → Prop) (x0 : Int32) (a : CS) (H : Heap) (locs : List Loc) (ls : Array Slot) (h : wpC_X0_orNone a x0 Q) (hw : CW D dA ad fv A a s H locs) (hl : lv_has ls 1 [(0, .int x0)]) : W p l e rmC_X0_orNone s m args below meth c H locs 0 0 (MQ below (cQi D dA ad fv A Q) args s 0 0 A) (F0 m 0 ls []) := by
  have hx := S.1
  have hb := S.2.1
  have hown := S.2.2.2.1
  have hts := S.2.2.2.2
  unfold wpC_X0_orNone at h
  refine lv_iload_n hx hb dX0_orNone_0 rfl (lv_at hl 0 rfl) ?_
  refine lv_iconst (v := (-1 : Int32)) hx hb dX0_orNone_1 (by decide) ?_
  refine lv_icmp_ne (tgt := 10) hx hb dX0_orNone_2 (by decide) (fun c2 => ?_) (fun c2 => ?_)
  · replace h := if_f c2 h
    refine lv_iload_n hx hb dX0_orNone_10 rfl (lv_at hl 0 rfl) ?_
    exact c_iret S hr hlk hw h dX0_orNone_11
  · replace h := if_t c2 h
    refine lv_ldc hx hb hown (hts _ q614) dX0_orNone_5 ?_
    refine lv_goto (tgt := 11) hx hb dX0_orNone_7 (by decide) ?_
    exact c_iret S hr hlk hw h dX0_orNone_11
theorem ctC_X0_orNone (l : Launch) (D : va_G) (dA : Nat → ClassId) (ad : Nat → Nat) (fv : Nat → Value) (A : Nat → Prop) (a : CS) (x0 : Int32) (Q : Int32 → CS → Prop) (h : wpC_X0_orNone a x0 Q) : Met l yX0_orNone (ws_ yX0_orNone cX0_orNone 1 (some .int)) rmC_X0_orNone (cPc D dA ad fv A a [.int x0]) (cQi D dA ad fv A Q) 0 0 A :=
  c_met (by decide) rfl rfl rfl (Nat.le_of_ble_eq_true rfl) (fun p e s m below meth c ls S hr hlk hin2 hw hl => wkC_X0_orNone_e S hr hlk Q x0 a _ _ ls h hw hl)
theorem cwC_X0_X0_orNone {R : Room} {s : State} {args : Array Value} {rm : Room} (hts : ∀ w ∈ lw_all, w.before args s = true) (hR : rm.frames + 1 ≤ R.frames ∧ 8 + (1 + 11) + rm.locals ≤ R.locals) (hc : rm.cells = 0 := by rfl) (hs : rm.slots = 0 := by rfl) : CallB R s args RX0 285 yX0_orNone cX0_orNone 1 (some .int) (ws_ yX0_orNone cX0_orNone 1 (some .int)) rm 0 0 1 ∧ (Cond.static yX0_orNone).before args s = true :=
  va_cwS 1 hts (lw_S q611 q612 q103 q613) rfl hc hs (by decide +kernel) hR
/-! X0.within -/
abbrev rmC_X0_within : Room := { frames := 1, cells := 0, slots := 0, locals := 21 }
def wpC_X0_within (a : CS) (x0 : Int32) (x1 : Int32) (x2 : Int32) (Q : Int32 → CS → Prop) : Prop := Q (if x1 < (if x0 < x2 then x0 else x2) then (if x0 < x2 then x0 else x2) else x1) a
set_option maxHeartbeats 4000000 in
set_option maxRecDepth 100000 in
theorem wkC_X0_within_e (S : CallFix p m c cX0_within 3 s args lw_all RX0) (hr : meth.sig.returnType = (some .int)) (hlk : meth.locks = false) (Q : Int32 → CS → Prop) (x0 : Int32) (x1 : Int32) (x2 : Int32) (a : CS) (H : Heap) (locs : List Loc) (ls : Array Slot) (h : wpC_X0_within a x0 x1 x2 Q) (hw : CW D dA ad fv A a s H locs) (hl : lv_has ls 3 [(0, .int x0), (1, .int x1), (2, .int x2)]) : W p l e rmC_X0_within s m args below meth c H locs 0 0 (MQ below (cQi D dA ad fv A Q) args s 0 0 A) (F0 m 0 ls []) := by
  have hx := S.1
  have hb := S.2.1
  have hown := S.2.2.2.1
  have hts := S.2.2.2.2
  unfold wpC_X0_within at h
  refine lv_iload_n hx hb dX0_within_0 rfl (lv_at hl 1 rfl) ?_
  refine lv_iload_n hx hb dX0_within_1 rfl (lv_at hl 2 rfl) ?_
  refine lv_iload_n hx hb dX0_within_2 rfl (lv_at hl 0 rfl) ?_
  refine va_mmin hx hb (S.2.2.1.trans hl.1.symm) hown (hts _ q737) (hts _ q738) (hts _ q119) (hts _ q739) (Nat.le_of_ble_eq_true rfl) (Nat.le_of_ble_eq_true rfl) (Nat.zero_le _) (Nat.zero_le _) dX0_within_3 ?_
  refine va_mmax hx hb (S.2.2.1.trans hl.1.symm) hown (hts _ q740) (hts _ q741) (hts _ q119) (hts _ q742) (Nat.le_of_ble_eq_true rfl) (Nat.le_of_ble_eq_true rfl) (Nat.zero_le _) (Nat.zero_le _) dX0_within_6 ?_
  exact c_iret S hr hlk hw h dX0_within_9
theorem ctC_X0_within (l : Launch) (D : va_G) (dA : Nat → ClassId) (ad : Nat → Nat) (fv : Nat → Value) (A : Nat → Prop) (a : CS) (x0 : Int32) (x1 : Int32) (x2 : Int32) (Q : Int32 → CS → Prop) (h : wpC_X0_within a x0 x1 x2 Q) : Met l yX0_within (ws_ yX0_within cX0_within 3 (some .int)) rmC_X0_within (cPc D dA ad fv A a [.int x0, .int x1, .int x2]) (cQi D dA ad fv A Q) 0 0 A :=
  c_met (by decide) rfl rfl rfl (Nat.le_of_ble_eq_true rfl) (fun p e s m below meth c ls S hr hlk hin2 hw hl => wkC_X0_within_e S hr hlk Q x0 x1 x2 a _ _ ls h hw hl)
theorem cwC_X0_X0_within {R : Room} {s : State} {args : Array Value} {rm : Room} (hts : ∀ w ∈ lw_all, w.before args s = true) (hR : rm.frames + 1 ≤ R.frames ∧ 8 + (3 + 11) + rm.locals ≤ R.locals) (hc : rm.cells = 0 := by rfl) (hs : rm.slots = 0 := by rfl) : CallB R s args RX0 329 yX0_within cX0_within 3 (some .int) (ws_ yX0_within cX0_within 3 (some .int)) rm 0 0 3 ∧ (Cond.static yX0_within).before args s = true :=
  va_cwS 3 hts (lw_S q734 q735 q103 q736) rfl hc hs (by decide +kernel) hR
/-! X0.isLeaf -/
abbrev rmC_X0_isLeaf : Room := { frames := 1, cells := 0, slots := 0, locals := 22 }
def wpC_X0_isLeaf (a : CS) (x1 : Int32) (Q : Int32 → CS → Prop) : Prop := wpC_X0_isIn a x1 (0 : Int32) ((a.1 1 1) - (1 : Int32)) (fun r11 a11 => zok r11 ∧ Q r11 a11)
set_option maxHeartbeats 4000000 in
set_option maxRecDepth 100000 in
theorem wkC_X0_isLeaf_e (S : CallFix p m c cX0_isLeaf 2 s args lw_all RX0) (hr : meth.sig.returnType = (some .boolean)) (hlk : meth.locks = false) (Q : Int32 → CS → Prop) (x1 : Int32) (a : CS) (H : Heap) (locs : List Loc) (ls : Array Slot) (h : wpC_X0_isLeaf a x1 Q) (hw : CW D dA ad fv A a s H locs) (hl : lv_has ls 2 [(0, .ref (ad 0)), (1, .int x1)]) : W p l e rmC_X0_isLeaf s m args below meth c H locs 0 0 (MQ below (cQi D dA ad fv A Q) args s 0 0 A) (F0 m 0 ls []) := by
  have hx := S.1
  have hb := S.2.1
  have hown := S.2.2.2.1
  have hts := S.2.2.2.2
  unfold wpC_X0_isLeaf at h
  refine lv_iload_n hx hb dX0_isLeaf_0 rfl (lv_at hl 1 rfl) ?_
  refine lv_iconst (v := (0 : Int32)) hx hb dX0_isLeaf_1 (by decide) ?_
  refine lv_aload_n hx hb dX0_isLeaf_2 rfl (lv_at hl 0 rfl) ?_
  refine c_get S hw (n := 0) (ci := 0) (cOk.s (by decide)) (isO_K _) rfl in_X0 0 (by decide) (Or.inl q324) rfl rfl dX0_isLeaf_3 ?_
  refine c_get S hw (n := 1) (cOk.s (by decide)) ((isO_S (by decide) (by decide)) _) rfl in_X1 1 (by decide) (Or.inr (List.mem_of_getElem? (i := 12) rfl)) rfl rfl dX0_isLeaf_6 ?_
  refine lv_iconst (v := (1 : Int32)) hx hb dX0_isLeaf_9 (by decide) ?_
  refine lv_isub hx hb dX0_isLeaf_10 ?_
  refine c_calli hw (va_runS (As := [.int x1, .int (0 : Int32), .int ((a.1 1 1) - (1 : Int32))]) (rest := []) S (ctC_X0_isIn l D dA ad fv A a x1 (0 : Int32) ((a.1 1 1) - (1 : Int32)) _ h) (cwC_X0_X0_isIn hts ⟨Nat.le_of_ble_eq_true rfl, Nat.le_of_ble_eq_true rfl⟩) (c_preS hw) rfl rfl hl.1 rfl (lv_room (Nat.le_of_ble_eq_true rfl)) dX0_isLeaf_11 ⟨Nat.le_of_ble_eq_true rfl, Nat.le_of_ble_eq_true rfl⟩) (fun r11 a11 H locs h hw => ?_)
  exact c_zret S hr hlk hw h.1 h.2 dX0_isLeaf_14
theorem ctC_X0_isLeaf (l : Launch) (D : va_G) (dA : Nat → ClassId) (ad : Nat → Nat) (fv : Nat → Value) (A : Nat → Prop) (a : CS) (x1 : Int32) (Q : Int32 → CS → Prop) (h : wpC_X0_isLeaf a x1 Q) : Met l yX0_isLeaf (ws_ yX0_isLeaf cX0_isLeaf 2 (some .boolean)) rmC_X0_isLeaf (cPc D dA ad fv A a [.ref (ad 0), .int x1]) (cQi D dA ad fv A Q) 0 0 A :=
  c_met (by decide) rfl rfl rfl (Nat.le_of_ble_eq_true rfl) (fun p e s m below meth c ls S hr hlk hin2 hw hl => wkC_X0_isLeaf_e S hr hlk Q x1 a _ _ ls h hw hl)
theorem cwC_X0_X0_isLeaf {R : Room} {s : State} {args : Array Value} {rm : Room} (hts : ∀ w ∈ lw_all, w.before args s = true) (hR : rm.frames + 1 ≤ R.frames ∧ 8 + (2 + 11) + rm.locals ≤ R.locals) (hc : rm.cells = 0 := by rfl) (hs : rm.slots = 0 := by rfl) : CallW R s args RX0 RX0 314 yX0_isLeaf cX0_isLeaf 2 (some .boolean) (ws_ yX0_isLeaf cX0_isLeaf 2 (some .boolean)) rm 0 0 1 :=
  cwV 1 hts (lw_V q622 q624 qs18 q103 q625) rfl hc hs (by decide +kernel) hR
/-! X0.both -/
abbrev rmC_X0_both : Room := { frames := 0, cells := 0, slots := 0, locals := 0 }
def wpC_X0_both (a : CS) (x0 : Int32) (x1 : Int32) (x2 : Int32) (Q : Int32 → CS → Prop) : Prop := if x0 = (4 : Int32) then (Q (x1 * x2) a) else (if x0 = (5 : Int32) then (Q (x1 + x2) a) else (if x0 = (6 : Int32) then (Q (x1 - x2) a) else (if x0 = (7 : Int32) then (if x2 ≤ x1 then (Q (0 : Int32) a) else (Q (1 : Int32) a)) else (if x0 = (8 : Int32) then (if x1 = x2 then (Q (1 : Int32) a) else (Q (0 : Int32) a)) else (if x0 = (9 : Int32) then (if x1 ≤ x2 then (Q (0 : Int32) a) else (Q (1 : Int32) a)) else (if x0 = (10 : Int32) then (if x1 = 0 then (Q (0 : Int32) a) else (if x2 = 0 then (Q (0 : Int32) a) else (Q (1 : Int32) a))) else (if x0 = (12 : Int32) then (if x2 = 0 then (Q (0 : Int32) a) else ((¬ x2 = 0) ∧ (Q (x1 / x2) a))) else (if x1 = 0 then (if x2 = 0 then (Q (0 : Int32) a) else (Q (1 : Int32) a)) else (Q (1 : Int32) a)))))))))
set_option maxHeartbeats 4000000 in
set_option maxRecDepth 100000 in
theorem wkC_X0_both_e (S : CallFix p m c cX0_both 3 s args lw_all RX0) (hr : meth.sig.returnType = (some .int)) (hlk : meth.locks = false) (Q : Int32 → CS → Prop) (x0 : Int32) (x1 : Int32) (x2 : Int32) (a : CS) (H : Heap) (locs : List Loc) (ls : Array Slot) (h : wpC_X0_both a x0 x1 x2 Q) (hw : CW D dA ad fv A a s H locs) (hl : lv_has ls 3 [(0, .int x0), (1, .int x1), (2, .int x2)]) : W p l e rmC_X0_both s m args below meth c H locs 0 0 (MQ below (cQi D dA ad fv A Q) args s 0 0 A) (F0 m 0 ls []) := by
  have hx := S.1
  have hb := S.2.1
  have hown := S.2.2.2.1
  have hts := S.2.2.2.2
  unfold wpC_X0_both at h
  refine lv_iload_n hx hb dX0_both_0 rfl (lv_at hl 0 rfl) ?_
  by_cases c1_0 : x0 = (4 : Int32)
  · replace h := if_t c1_0 h
    refine lv_tableIn (off := 51) (tgt := 52) hx hb dX0_both_1 (by rw [c1_0]; decide) (by rw [c1_0]; decide) (by rw [c1_0]; decide) (by decide) ?_
    refine lv_iload_n hx hb dX0_both_52 rfl (lv_at hl 1 rfl) ?_
    refine lv_iload_n hx hb dX0_both_53 rfl (lv_at hl 2 rfl) ?_
    refine lv_imul hx hb dX0_both_54 ?_
    exact c_iret S hr hlk hw h dX0_both_55
  replace h := if_f c1_0 h
  by_cases c1_1 : x0 = (5 : Int32)
  · replace h := if_t c1_1 h
    refine lv_tableIn (off := 67) (tgt := 68) hx hb dX0_both_1 (by rw [c1_1]; decide) (by rw [c1_1]; decide) (by rw [c1_1]; decide) (by decide) ?_
    refine lv_iload_n hx hb dX0_both_68 rfl (lv_at hl 1 rfl) ?_
    refine lv_iload_n hx hb dX0_both_69 rfl (lv_at hl 2 rfl) ?_
    refine lv_iadd hx hb dX0_both_70 ?_
    exact c_iret S hr hlk hw h dX0_both_71
  replace h := if_f c1_1 h
  by_cases c1_2 : x0 = (6 : Int32)
  · replace h := if_t c1_2 h
    refine lv_tableIn (off := 71) (tgt := 72) hx hb dX0_both_1 (by rw [c1_2]; decide) (by rw [c1_2]; decide) (by rw [c1_2]; decide) (by decide) ?_
    refine lv_iload_n hx hb dX0_both_72 rfl (lv_at hl 1 rfl) ?_
    refine lv_iload_n hx hb dX0_both_73 rfl (lv_at hl 2 rfl) ?_
    refine lv_isub hx hb dX0_both_74 ?_
    exact c_iret S hr hlk hw h dX0_both_75
  replace h := if_f c1_2 h
  by_cases c1_3 : x0 = (7 : Int32)
  · replace h := if_t c1_3 h
    refine lv_tableIn (off := 75) (tgt := 76) hx hb dX0_both_1 (by rw [c1_3]; decide) (by rw [c1_3]; decide) (by rw [c1_3]; decide) (by decide) ?_
    refine lv_iload_n hx hb dX0_both_76 rfl (lv_at hl 1 rfl) ?_
    refine lv_iload_n hx hb dX0_both_77 rfl (lv_at hl 2 rfl) ?_
    refine lv_icmp_ge (tgt := 85) hx hb dX0_both_78 (by decide) (fun c78 => ?_) (fun c78 => ?_)
    · replace h := if_t c78 h
      refine lv_iconst (v := (0 : Int32)) hx hb dX0_both_85 (by decide) ?_
      exact c_iret S hr hlk hw h dX0_both_86
    · replace h := if_f c78 h
      refine lv_iconst (v := (1 : Int32)) hx hb dX0_both_81 (by decide) ?_
      refine lv_goto (tgt := 86) hx hb dX0_both_82 (by decide) ?_
      exact c_iret S hr hlk hw h dX0_both_86
  replace h := if_f c1_3 h
  by_cases c1_4 : x0 = (8 : Int32)
  · replace h := if_t c1_4 h
    refine lv_tableIn (off := 86) (tgt := 87) hx hb dX0_both_1 (by rw [c1_4]; decide) (by rw [c1_4]; decide) (by rw [c1_4]; decide) (by decide) ?_
    refine lv_iload_n hx hb dX0_both_87 rfl (lv_at hl 1 rfl) ?_
    refine lv_iload_n hx hb dX0_both_88 rfl (lv_at hl 2 rfl) ?_
    refine lv_icmp_ne (tgt := 96) hx hb dX0_both_89 (by decide) (fun c89 => ?_) (fun c89 => ?_)
    · replace h := if_f c89 h
      refine lv_iconst (v := (0 : Int32)) hx hb dX0_both_96 (by decide) ?_
      exact c_iret S hr hlk hw h dX0_both_97
    · replace h := if_t c89 h
      refine lv_iconst (v := (1 : Int32)) hx hb dX0_both_92 (by decide) ?_
      refine lv_goto (tgt := 97) hx hb dX0_both_93 (by decide) ?_
      exact c_iret S hr hlk hw h dX0_both_97
  replace h := if_f c1_4 h
  by_cases c1_5 : x0 = (9 : Int32)
  · replace h := if_t c1_5 h
    refine lv_tableIn (off := 97) (tgt := 98) hx hb dX0_both_1 (by rw [c1_5]; decide) (by rw [c1_5]; decide) (by rw [c1_5]; decide) (by decide) ?_
    refine lv_iload_n hx hb dX0_both_98 rfl (lv_at hl 1 rfl) ?_
    refine lv_iload_n hx hb dX0_both_99 rfl (lv_at hl 2 rfl) ?_
    refine lv_icmp_le (tgt := 107) hx hb dX0_both_100 (by decide) (fun c100 => ?_) (fun c100 => ?_)
    · replace h := if_t c100 h
      refine lv_iconst (v := (0 : Int32)) hx hb dX0_both_107 (by decide) ?_
      exact c_iret S hr hlk hw h dX0_both_108
    · replace h := if_f c100 h
      refine lv_iconst (v := (1 : Int32)) hx hb dX0_both_103 (by decide) ?_
      refine lv_goto (tgt := 108) hx hb dX0_both_104 (by decide) ?_
      exact c_iret S hr hlk hw h dX0_both_108
  replace h := if_f c1_5 h
  by_cases c1_6 : x0 = (10 : Int32)
  · replace h := if_t c1_6 h
    refine lv_tableIn (off := 108) (tgt := 109) hx hb dX0_both_1 (by rw [c1_6]; decide) (by rw [c1_6]; decide) (by rw [c1_6]; decide) (by decide) ?_
    refine lv_iload_n hx hb dX0_both_109 rfl (lv_at hl 1 rfl) ?_
    refine lv_if_eq (tgt := 121) hx hb dX0_both_110 (by decide) (fun c110 => ?_) (fun c110 => ?_)
    · replace h := if_t c110 h
      refine lv_iconst (v := (0 : Int32)) hx hb dX0_both_121 (by decide) ?_
      exact c_iret S hr hlk hw h dX0_both_122
    · replace h := if_f c110 h
      refine lv_iload_n hx hb dX0_both_113 rfl (lv_at hl 2 rfl) ?_
      refine lv_if_eq (tgt := 121) hx hb dX0_both_114 (by decide) (fun c114 => ?_) (fun c114 => ?_)
      · replace h := if_t c114 h
        refine lv_iconst (v := (0 : Int32)) hx hb dX0_both_121 (by decide) ?_
        exact c_iret S hr hlk hw h dX0_both_122
      · replace h := if_f c114 h
        refine lv_iconst (v := (1 : Int32)) hx hb dX0_both_117 (by decide) ?_
        refine lv_goto (tgt := 122) hx hb dX0_both_118 (by decide) ?_
        exact c_iret S hr hlk hw h dX0_both_122
  replace h := if_f c1_6 h
  by_cases c1_7 : x0 = (12 : Int32)
  · replace h := if_t c1_7 h
    refine lv_tableIn (off := 55) (tgt := 56) hx hb dX0_both_1 (by rw [c1_7]; decide) (by rw [c1_7]; decide) (by rw [c1_7]; decide) (by decide) ?_
    refine lv_iload_n hx hb dX0_both_56 rfl (lv_at hl 2 rfl) ?_
    refine lv_if_ne (tgt := 64) hx hb dX0_both_57 (by decide) (fun c57 => ?_) (fun c57 => ?_)
    · replace h := if_f c57 h
      refine lv_iload_n hx hb dX0_both_64 rfl (lv_at hl 1 rfl) ?_
      refine lv_iload_n hx hb dX0_both_65 rfl (lv_at hl 2 rfl) ?_
      have hz66 := h.1
      replace h := h.2
      refine lv_idiv hx hb dX0_both_66 hz66 ?_
      exact c_iret S hr hlk hw h dX0_both_67
    · replace h := if_t c57 h
      refine lv_iconst (v := (0 : Int32)) hx hb dX0_both_60 (by decide) ?_
      refine lv_goto (tgt := 67) hx hb dX0_both_61 (by decide) ?_
      exact c_iret S hr hlk hw h dX0_both_67
  replace h := if_f c1_7 h
  have hout : x0.toInt < 4 ∨ 12 < x0.toInt ∨ (#[51, 67, 71, 75, 86, 97, 108, 122, 55] : Array Int)[(x0.toInt - 4).toNat]? = some 122 := by
    have n0 := lv_neT c1_0 (a := 4) (by decide)
    have n1 := lv_neT c1_1 (a := 5) (by decide)
    have n2 := lv_neT c1_2 (a := 6) (by decide)
    have n3 := lv_neT c1_3 (a := 7) (by decide)
    have n4 := lv_neT c1_4 (a := 8) (by decide)
    have n5 := lv_neT c1_5 (a := 9) (by decide)
    have n6 := lv_neT c1_6 (a := 10) (by decide)
    have n7 := lv_neT c1_7 (a := 12) (by decide)
    by_cases h1 : x0.toInt < 4
    · exact Or.inl h1
    by_cases h2 : 12 < x0.toInt
    · exact Or.inr (Or.inl h2)
    exact Or.inr (Or.inr ((by decide : ∀ t : Nat, t < 9 → t ∉ [0, 1, 2, 3, 4, 5, 6, 8] → (#[51, 67, 71, 75, 86, 97, 108, 122, 55] : Array Int)[t]? = some 122) _ (by omega) (by simp only [List.mem_cons, List.not_mem_nil, or_false, not_or]; omega)))
  refine lv_tableD (tgt := 123) hx hb dX0_both_1 hout (by decide) ?_
  refine lv_iload_n hx hb dX0_both_123 rfl (lv_at hl 1 rfl) ?_
  refine lv_if_ne (tgt := 131) hx hb dX0_both_124 (by decide) (fun c124 => ?_) (fun c124 => ?_)
  · replace h := if_f c124 h
    refine lv_iconst (v := (1 : Int32)) hx hb dX0_both_131 (by decide) ?_
    refine lv_goto (tgt := 136) hx hb dX0_both_132 (by decide) ?_
    exact c_iret S hr hlk hw h dX0_both_136
  · replace h := if_t c124 h
    refine lv_iload_n hx hb dX0_both_127 rfl (lv_at hl 2 rfl) ?_
    refine lv_if_eq (tgt := 135) hx hb dX0_both_128 (by decide) (fun c128 => ?_) (fun c128 => ?_)
    · replace h := if_t c128 h
      refine lv_iconst (v := (0 : Int32)) hx hb dX0_both_135 (by decide) ?_
      exact c_iret S hr hlk hw h dX0_both_136
    · replace h := if_f c128 h
      refine lv_iconst (v := (1 : Int32)) hx hb dX0_both_131 (by decide) ?_
      refine lv_goto (tgt := 136) hx hb dX0_both_132 (by decide) ?_
      exact c_iret S hr hlk hw h dX0_both_136
theorem ctC_X0_both (l : Launch) (D : va_G) (dA : Nat → ClassId) (ad : Nat → Nat) (fv : Nat → Value) (A : Nat → Prop) (a : CS) (x0 : Int32) (x1 : Int32) (x2 : Int32) (Q : Int32 → CS → Prop) (h : wpC_X0_both a x0 x1 x2 Q) : Met l yX0_both (ws_ yX0_both cX0_both 3 (some .int)) rmC_X0_both (cPc D dA ad fv A a [.int x0, .int x1, .int x2]) (cQi D dA ad fv A Q) 0 0 A :=
  c_met (by decide) rfl rfl rfl (Nat.le_of_ble_eq_true rfl) (fun p e s m below meth c ls S hr hlk hin2 hw hl => wkC_X0_both_e S hr hlk Q x0 x1 x2 a _ _ ls h hw hl)
theorem cwC_X0_X0_both {R : Room} {s : State} {args : Array Value} {rm : Room} (hts : ∀ w ∈ lw_all, w.before args s = true) (hR : rm.frames + 1 ≤ R.frames ∧ 8 + (3 + 11) + rm.locals ≤ R.locals) (hc : rm.cells = 0 := by rfl) (hs : rm.slots = 0 := by rfl) : CallB R s args RX0 152 yX0_both cX0_both 3 (some .int) (ws_ yX0_both cX0_both 3 (some .int)) rm 0 0 3 ∧ (Cond.static yX0_both).before args s = true :=
  va_cwS 3 hts (lw_S q731 q732 q103 q733) rfl hc hs (by decide +kernel) hR
/-! X0.reckon -/
abbrev rmC_X0_reckon : Room := { frames := 1, cells := 0, slots := 0, locals := 22 }
def bkC_X0_reckon_63 (Q : Int32 → CS → Prop) (x1 : Nat) (O4 : Int32 → Int32 → CS → Prop) : Int32 → Int32 → Int32 → Int32 → CS → Prop := fun x2 x3 s1 s2 a => (vp_in s1 96) ∧ (∀ a63 : CS, a63 = wI a 70 s1.toNatClampNeg s2 → (O4 (x2 + (1 : Int32)) (x3 + (1 : Int32)) a63))
set_option maxHeartbeats 4000000 in
set_option maxRecDepth 100000 in
theorem wkC_X0_reckon_63 (S : CallFix p m c cX0_reckon 5 s args lw_all RX0) (hr : meth.sig.returnType = (some .int)) (hlk : meth.locks = false) (Q : Int32 → CS → Prop) (x1 : Nat) {O4 : Int32 → Int32 → CS → Prop} (hO4 : ∀ (x2 : Int32) (x3 : Int32) (a : CS) (H : Heap) (locs : List Loc) (ls : Array Slot), O4 x2 x3 a → CW D dA ad fv A a s H locs → lv_has ls 5 [(0, .ref (ad 0)), (1, .ref (ad x1)), (2, .int x2), (3, .int x3)] → W p l e rmC_X0_reckon s m args below meth c H locs 0 0 (MQ below (cQi D dA ad fv A Q) args s 0 0 A) (F0 m 4 ls [])) : ∀ (x2 : Int32) (x3 : Int32) (s1 : Int32) (s2 : Int32) (a : CS) (H : Heap) (locs : List Loc) (ls : Array Slot), bkC_X0_reckon_63 Q x1 O4 x2 x3 s1 s2 a → CW D dA ad fv A a s H locs → lv_has ls 5 [(0, .ref (ad 0)), (1, .ref (ad x1)), (2, .int x2), (3, .int x3)] → W p l e rmC_X0_reckon s m args below meth c H locs 0 0 (MQ below (cQi D dA ad fv A Q) args s 0 0 A) (F0 m 63 ls [.int s2, .int s1, .ref (ad 70)]) := by
  have hx := S.1
  have hb := S.2.1
  have hown := S.2.2.2.1
  have hts := S.2.2.2.2
  intro x2 x3 s1 s2 a H locs ls h hw hl
  unfold bkC_X0_reckon_63 at h
  have hi63 := h.1
  replace h := h.2
  refine c_ast S hw (n := 70) (by decide) (cOk.s (by decide)) (fun _ => rfl) hi63 (Or.inl ⟨rfl, rfl, dX0_reckon_63⟩) (fun a63 H locs ea63 hw => ?_)
  replace h := h a63 ea63
  refine lv_iinc (v := (x2 + (1 : Int32))) (lv' := [(2, .int (x2 + (1 : Int32))), (0, .ref (ad 0)), (1, .ref (ad x1)), (3, .int x3)]) hx hb dX0_reckon_64 hl (k := 2) rfl rfl (by decide) rfl (fun ls hl => ?_)
  refine lv_goto (tgt := 133) hx hb dX0_reckon_67 (by decide) ?_
  refine lv_iinc (v := (x3 + (1 : Int32))) (lv' := [(3, .int (x3 + (1 : Int32))), (2, .int (x2 + (1 : Int32))), (0, .ref (ad 0)), (1, .ref (ad x1))]) hx hb dX0_reckon_133 hl (k := 3) rfl rfl (by decide) rfl (fun ls hl => ?_)
  refine lv_goto (tgt := 4) hx hb dX0_reckon_136 (by decide) ?_
  exact hO4 _ _ _ _ _ _ h hw (lv_sub hl [2, 3, 1, 0] rfl)
def bkC_X0_reckon_32 (Q : Int32 → CS → Prop) (x1 : Nat) (O4 : Int32 → Int32 → CS → Prop) : Int32 → Int32 → Int32 → CS → Prop := fun x2 x3 x4 a => if x4 = (1 : Int32) then ((kindK a x1 113) ∧ ((kindK a (a.2.1 x1 1) 20) ∧ ((vp_in x3 (a.2.2.1 (a.2.1 x1 1)).2) ∧ (bkC_X0_reckon_63 Q x1 O4 x2 x3 x2 (a.1 (a.2.1 x1 1) x3.toNatClampNeg) a)))) else ((kindK a x1 113) ∧ ((kindK a (a.2.1 x1 1) 20) ∧ ((vp_in x3 (a.2.2.1 (a.2.1 x1 1)).2) ∧ ((vp_in (a.1 (a.2.1 x1 1) x3.toNatClampNeg) 128) ∧ (bkC_X0_reckon_63 Q x1 O4 x2 x3 x2 (a.1 72 (a.1 (a.2.1 x1 1) x3.toNatClampNeg).toNatClampNeg) a)))))
set_option maxHeartbeats 4000000 in
set_option maxRecDepth 100000 in
theorem wkC_X0_reckon_32 (S : CallFix p m c cX0_reckon 5 s args lw_all RX0) (hr : meth.sig.returnType = (some .int)) (hlk : meth.locks = false) (Q : Int32 → CS → Prop) (x1 : Nat) {O4 : Int32 → Int32 → CS → Prop} (hO4 : ∀ (x2 : Int32) (x3 : Int32) (a : CS) (H : Heap) (locs : List Loc) (ls : Array Slot), O4 x2 x3 a → CW D dA ad fv A a s H locs → lv_has ls 5 [(0, .ref (ad 0)), (1, .ref (ad x1)), (2, .int x2), (3, .int x3)] → W p l e rmC_X0_reckon s m args below meth c H locs 0 0 (MQ below (cQi D dA ad fv A Q) args s 0 0 A) (F0 m 4 ls [])) : ∀ (x2 : Int32) (x3 : Int32) (x4 : Int32) (a : CS) (H : Heap) (locs : List Loc) (ls : Array Slot), bkC_X0_reckon_32 Q x1 O4 x2 x3 x4 a → CW D dA ad fv A a s H locs → lv_has ls 5 [(0, .ref (ad 0)), (1, .ref (ad x1)), (2, .int x2), (3, .int x3), (4, .int x4)] → W p l e rmC_X0_reckon s m args below meth c H locs 0 0 (MQ below (cQi D dA ad fv A Q) args s 0 0 A) (F0 m 32 ls []) := by
  have hx := S.1
  have hb := S.2.1
  have hown := S.2.2.2.1
  have hts := S.2.2.2.2
  intro x2 x3 x4 a H locs ls h hw hl
  unfold bkC_X0_reckon_32 at h
  refine lv_aload_n hx hb dX0_reckon_32 rfl (lv_at hl 0 rfl) ?_
  refine c_get S hw (n := 0) (ci := 0) (cOk.s (by decide)) (isO_K _) rfl in_X0 6 (by decide) (Or.inl q330) rfl rfl dX0_reckon_33 ?_
  refine lv_iload_n hx hb dX0_reckon_36 rfl (lv_at hl 2 rfl) ?_
  refine lv_iload hx hb dX0_reckon_37 (lv_at hl 4 rfl) ?_
  refine lv_iconst (v := (1 : Int32)) hx hb dX0_reckon_39 (by decide) ?_
  refine lv_icmp_ne (tgt := 52) hx hb dX0_reckon_40 (by decide) (fun c40 => ?_) (fun c40 => ?_)
  · replace h := if_f c40 h
    refine lv_aload_n hx hb dX0_reckon_52 rfl (lv_at hl 0 rfl) ?_
    refine c_get S hw (n := 0) (ci := 0) (cOk.s (by decide)) (isO_K _) rfl in_X0 17 (by decide) (Or.inl q341) rfl rfl dX0_reckon_53 ?_
    refine lv_aload_n hx hb dX0_reckon_56 rfl (lv_at hl 1 rfl) ?_
    have hk57_0 := h.1
    replace h := h.2
    have hk57_1 := h.1
    replace h := h.2
    refine c_getr S hw (n := x1) (x := (a.2.1 x1 1)) (hk57_0.ok (by decide)) ((isO_W hk57_0) _) rfl in_X13 1 (by decide) (Or.inr (List.mem_of_getElem? (i := 30) rfl)) rfl rfl hk57_1.ne dX0_reckon_57 ?_
    refine lv_iload_n hx hb dX0_reckon_60 rfl (lv_at hl 3 rfl) ?_
    have hi61 := h.1
    replace h := h.2
    refine c_ald S hw (n := (a.2.1 x1 1)) (hk57_1.ok (by decide)) (isA_d hk57_1) hi61 (Or.inl ⟨rfl, dX0_reckon_61⟩) ?_
    have hi62 := h.1
    replace h := h.2
    refine c_ald S hw (n := 72) (cOk.s (by decide)) (fun _ => rfl) hi62 (Or.inl ⟨rfl, dX0_reckon_62⟩) ?_
    exact wkC_X0_reckon_63 S hr hlk Q x1 hO4 _ _ _ _ _ _ _ _ h hw (lv_sub hl [0, 1, 2, 3] rfl)
  · replace h := if_t c40 h
    refine lv_aload_n hx hb dX0_reckon_43 rfl (lv_at hl 1 rfl) ?_
    have hk44_0 := h.1
    replace h := h.2
    have hk44_1 := h.1
    replace h := h.2
    refine c_getr S hw (n := x1) (x := (a.2.1 x1 1)) (hk44_0.ok (by decide)) ((isO_W hk44_0) _) rfl in_X13 1 (by decide) (Or.inr (List.mem_of_getElem? (i := 30) rfl)) rfl rfl hk44_1.ne dX0_reckon_44 ?_
    refine lv_iload_n hx hb dX0_reckon_47 rfl (lv_at hl 3 rfl) ?_
    have hi48 := h.1
    replace h := h.2
    refine c_ald S hw (n := (a.2.1 x1 1)) (hk44_1.ok (by decide)) (isA_d hk44_1) hi48 (Or.inl ⟨rfl, dX0_reckon_48⟩) ?_
    refine lv_goto (tgt := 63) hx hb dX0_reckon_49 (by decide) ?_
    exact wkC_X0_reckon_63 S hr hlk Q x1 hO4 _ _ _ _ _ _ _ _ h hw (lv_sub hl [0, 1, 2, 3] rfl)
def bkC_X0_reckon_4 (Q : Int32 → CS → Prop) (x1 : Nat) : Nat → Int32 → Int32 → CS → Prop
  | 0 => fun _ _ _ => False
  | n + 1 => fun x2 x3 a => (kindK a x1 113) ∧ (if (a.1 x1 2) ≤ x3 then (Q (a.1 70 (0 : Int32).toNatClampNeg) a) else ((kindK a (a.2.1 x1 0) 20) ∧ ((vp_in x3 (a.2.2.1 (a.2.1 x1 0)).2) ∧ (if (a.1 (a.2.1 x1 0) x3.toNatClampNeg) = (1 : Int32) then (bkC_X0_reckon_32 Q x1 (bkC_X0_reckon_4 Q x1 n) x2 x3 (a.1 (a.2.1 x1 0) x3.toNatClampNeg) a) else (if (a.1 (a.2.1 x1 0) x3.toNatClampNeg) = (2 : Int32) then (bkC_X0_reckon_32 Q x1 (bkC_X0_reckon_4 Q x1 n) x2 x3 (a.1 (a.2.1 x1 0) x3.toNatClampNeg) a) else (if (a.1 (a.2.1 x1 0) x3.toNatClampNeg) = (3 : Int32) then ((vp_in (x2 - (1 : Int32)) 96) ∧ (if (a.1 70 (x2 - (1 : Int32)).toNatClampNeg) = 0 then ((vp_in (x2 - (1 : Int32)) 96) ∧ (∀ a99 : CS, a99 = wI a 70 (x2 - (1 : Int32)).toNatClampNeg (1 : Int32) → (bkC_X0_reckon_4 Q x1 n x2 (x3 + (1 : Int32)) a99))) else ((vp_in (x2 - (1 : Int32)) 96) ∧ (∀ a99 : CS, a99 = wI a 70 (x2 - (1 : Int32)).toNatClampNeg (0 : Int32) → (bkC_X0_reckon_4 Q x1 n x2 (x3 + (1 : Int32)) a99))))) else ((vp_in ((x2 + (-1 : Int32)) - (1 : Int32)) 96) ∧ ((vp_in (x2 + (-1 : Int32)) 96) ∧ (wpC_X0_both a (a.1 (a.2.1 x1 0) x3.toNatClampNeg) (a.1 70 ((x2 + (-1 : Int32)) - (1 : Int32)).toNatClampNeg) (a.1 70 (x2 + (-1 : Int32)).toNatClampNeg) (fun r129 a129 => (vp_in ((x2 + (-1 : Int32)) - (1 : Int32)) 96) ∧ (∀ a132 : CS, a132 = wI a129 70 ((x2 + (-1 : Int32)) - (1 : Int32)).toNatClampNeg r129 → (bkC_X0_reckon_4 Q x1 n (x2 + (-1 : Int32)) (x3 + (1 : Int32)) a132))))))))))))
set_option maxHeartbeats 4000000 in
set_option maxRecDepth 100000 in
theorem wkC_X0_reckon_4 (S : CallFix p m c cX0_reckon 5 s args lw_all RX0) (hr : meth.sig.returnType = (some .int)) (hlk : meth.locks = false) (Q : Int32 → CS → Prop) (x1 : Nat) : ∀ (n : Nat) (x2 : Int32) (x3 : Int32) (a : CS) (H : Heap) (locs : List Loc) (ls : Array Slot), bkC_X0_reckon_4 Q x1 n x2 x3 a → CW D dA ad fv A a s H locs → lv_has ls 5 [(0, .ref (ad 0)), (1, .ref (ad x1)), (2, .int x2), (3, .int x3)] → W p l e rmC_X0_reckon s m args below meth c H locs 0 0 (MQ below (cQi D dA ad fv A Q) args s 0 0 A) (F0 m 4 ls []) := by
  have hx := S.1
  have hb := S.2.1
  have hown := S.2.2.2.1
  have hts := S.2.2.2.2
  intro n
  induction n with
  | zero =>
    intro x2 x3 a H locs ls h
    exact False.elim h
  | succ n ih =>
    intro x2 x3 a H locs ls h hw hl
    unfold bkC_X0_reckon_4 at h
    refine lv_iload_n hx hb dX0_reckon_4 rfl (lv_at hl 3 rfl) ?_
    refine lv_aload_n hx hb dX0_reckon_5 rfl (lv_at hl 1 rfl) ?_
    have hk6_0 := h.1
    replace h := h.2
    refine c_get S hw (n := x1) (hk6_0.ok (by decide)) ((isO_W hk6_0) _) rfl in_X13 2 (by decide) (Or.inr (List.mem_of_getElem? (i := 31) rfl)) rfl rfl dX0_reckon_6 ?_
    refine lv_icmp_ge (tgt := 139) hx hb dX0_reckon_9 (by decide) (fun c9 => ?_) (fun c9 => ?_)
    · replace h := if_t c9 h
      refine lv_aload_n hx hb dX0_reckon_139 rfl (lv_at hl 0 rfl) ?_
      refine c_get S hw (n := 0) (ci := 0) (cOk.s (by decide)) (isO_K _) rfl in_X0 6 (by decide) (Or.inl q330) rfl rfl dX0_reckon_140 ?_
      refine lv_iconst (v := (0 : Int32)) hx hb dX0_reckon_143 (by decide) ?_
      refine c_ald S hw (n := 70) (cOk.s (by decide)) (fun _ => rfl) (vlit (by decide)) (Or.inl ⟨rfl, dX0_reckon_144⟩) ?_
      exact c_iret S hr hlk hw h dX0_reckon_145
    · replace h := if_f c9 h
      refine lv_aload_n hx hb dX0_reckon_12 rfl (lv_at hl 1 rfl) ?_
      have hk13_1 := h.1
      replace h := h.2
      refine c_getr S hw (n := x1) (x := (a.2.1 x1 0)) (hk6_0.ok (by decide)) ((isO_W hk6_0) _) rfl in_X13 0 (by decide) (Or.inr (List.mem_of_getElem? (i := 29) rfl)) rfl rfl hk13_1.ne dX0_reckon_13 ?_
      refine lv_iload_n hx hb dX0_reckon_16 rfl (lv_at hl 3 rfl) ?_
      have hi17 := h.1
      replace h := h.2
      refine c_ald S hw (n := (a.2.1 x1 0)) (hk13_1.ok (by decide)) (isA_d hk13_1) hi17 (Or.inl ⟨rfl, dX0_reckon_17⟩) ?_
      refine lv_istore (lv' := [(4, .int (a.1 (a.2.1 x1 0) x3.toNatClampNeg)), (0, .ref (ad 0)), (1, .ref (ad x1)), (2, .int x2), (3, .int x3)]) hx hb dX0_reckon_18 hl (by decide) rfl (fun ls hl => ?_)
      refine lv_iload hx hb dX0_reckon_20 (lv_at hl 0 rfl) ?_
      refine lv_iconst (v := (1 : Int32)) hx hb dX0_reckon_22 (by decide) ?_
      refine lv_icmp_eq (tgt := 32) hx hb dX0_reckon_23 (by decide) (fun c23 => ?_) (fun c23 => ?_)
      · replace h := if_t c23 h
        exact wkC_X0_reckon_32 S hr hlk Q x1 ih _ _ _ _ _ _ _ h hw (lv_sub hl [1, 2, 3, 4, 0] rfl)
      · replace h := if_f c23 h
        refine lv_iload hx hb dX0_reckon_26 (lv_at hl 0 rfl) ?_
        refine lv_iconst (v := (2 : Int32)) hx hb dX0_reckon_28 (by decide) ?_
        refine lv_icmp_ne (tgt := 70) hx hb dX0_reckon_29 (by decide) (fun c29 => ?_) (fun c29 => ?_)
        · replace h := if_f c29 h
          refine lv_iload hx hb dX0_reckon_70 (lv_at hl 0 rfl) ?_
          refine lv_iconst (v := (3 : Int32)) hx hb dX0_reckon_72 (by decide) ?_
          refine lv_icmp_ne (tgt := 103) hx hb dX0_reckon_73 (by decide) (fun c73 => ?_) (fun c73 => ?_)
          · replace h := if_f c73 h
            refine lv_iinc (v := (x2 + (-1 : Int32))) (lv' := [(2, .int (x2 + (-1 : Int32))), (4, .int (a.1 (a.2.1 x1 0) x3.toNatClampNeg)), (0, .ref (ad 0)), (1, .ref (ad x1)), (3, .int x3)]) hx hb dX0_reckon_103 hl (k := 3) rfl rfl (by decide) rfl (fun ls hl => ?_)
            refine lv_aload_n hx hb dX0_reckon_106 rfl (lv_at hl 2 rfl) ?_
            refine c_get S hw (n := 0) (ci := 0) (cOk.s (by decide)) (isO_K _) rfl in_X0 6 (by decide) (Or.inl q330) rfl rfl dX0_reckon_107 ?_
            refine lv_iload_n hx hb dX0_reckon_110 rfl (lv_at hl 0 rfl) ?_
            refine lv_iconst (v := (1 : Int32)) hx hb dX0_reckon_111 (by decide) ?_
            refine lv_isub hx hb dX0_reckon_112 ?_
            refine lv_iload hx hb dX0_reckon_113 (lv_at hl 1 rfl) ?_
            refine lv_aload_n hx hb dX0_reckon_115 rfl (lv_at hl 2 rfl) ?_
            refine c_get S hw (n := 0) (ci := 0) (cOk.s (by decide)) (isO_K _) rfl in_X0 6 (by decide) (Or.inl q330) rfl rfl dX0_reckon_116 ?_
            refine lv_iload_n hx hb dX0_reckon_119 rfl (lv_at hl 0 rfl) ?_
            refine lv_iconst (v := (1 : Int32)) hx hb dX0_reckon_120 (by decide) ?_
            refine lv_isub hx hb dX0_reckon_121 ?_
            have hi122 := h.1
            replace h := h.2
            refine c_ald S hw (n := 70) (cOk.s (by decide)) (fun _ => rfl) hi122 (Or.inl ⟨rfl, dX0_reckon_122⟩) ?_
            refine lv_aload_n hx hb dX0_reckon_123 rfl (lv_at hl 2 rfl) ?_
            refine c_get S hw (n := 0) (ci := 0) (cOk.s (by decide)) (isO_K _) rfl in_X0 6 (by decide) (Or.inl q330) rfl rfl dX0_reckon_124 ?_
            refine lv_iload_n hx hb dX0_reckon_127 rfl (lv_at hl 0 rfl) ?_
            have hi128 := h.1
            replace h := h.2
            refine c_ald S hw (n := 70) (cOk.s (by decide)) (fun _ => rfl) hi128 (Or.inl ⟨rfl, dX0_reckon_128⟩) ?_
            refine c_calli hw (va_runS (As := [.int (a.1 (a.2.1 x1 0) x3.toNatClampNeg), .int (a.1 70 ((x2 + (-1 : Int32)) - (1 : Int32)).toNatClampNeg), .int (a.1 70 (x2 + (-1 : Int32)).toNatClampNeg)]) (rest := [.int ((x2 + (-1 : Int32)) - (1 : Int32)), .ref (ad 70)]) S (ctC_X0_both l D dA ad fv A a (a.1 (a.2.1 x1 0) x3.toNatClampNeg) (a.1 70 ((x2 + (-1 : Int32)) - (1 : Int32)).toNatClampNeg) (a.1 70 (x2 + (-1 : Int32)).toNatClampNeg) _ h) (cwC_X0_X0_both hts ⟨Nat.le_of_ble_eq_true rfl, Nat.le_of_ble_eq_true rfl⟩) (c_preS hw) rfl rfl hl.1 rfl (lv_room (Nat.le_of_ble_eq_true rfl)) dX0_reckon_129 ⟨Nat.le_of_ble_eq_true rfl, Nat.le_of_ble_eq_true rfl⟩) (fun r129 a129 H locs h hw => ?_)
            have hi132 := h.1
            replace h := h.2
            refine c_ast S hw (n := 70) (by decide) (cOk.s (by decide)) (fun _ => rfl) hi132 (Or.inl ⟨rfl, rfl, dX0_reckon_132⟩) (fun a132 H locs ea132 hw => ?_)
            replace h := h a132 ea132
            refine lv_iinc (v := (x3 + (1 : Int32))) (lv' := [(3, .int (x3 + (1 : Int32))), (2, .int (x2 + (-1 : Int32))), (4, .int (a.1 (a.2.1 x1 0) x3.toNatClampNeg)), (0, .ref (ad 0)), (1, .ref (ad x1))]) hx hb dX0_reckon_133 hl (k := 4) rfl rfl (by decide) rfl (fun ls hl => ?_)
            refine lv_goto (tgt := 4) hx hb dX0_reckon_136 (by decide) ?_
            exact ih _ _ _ _ _ _ h hw (lv_sub hl [3, 4, 1, 0] rfl)
          · replace h := if_t c73 h
            refine lv_aload_n hx hb dX0_reckon_76 rfl (lv_at hl 1 rfl) ?_
            refine c_get S hw (n := 0) (ci := 0) (cOk.s (by decide)) (isO_K _) rfl in_X0 6 (by decide) (Or.inl q330) rfl rfl dX0_reckon_77 ?_
            refine lv_iload_n hx hb dX0_reckon_80 rfl (lv_at hl 3 rfl) ?_
            refine lv_iconst (v := (1 : Int32)) hx hb dX0_reckon_81 (by decide) ?_
            refine lv_isub hx hb dX0_reckon_82 ?_
            refine lv_aload_n hx hb dX0_reckon_83 rfl (lv_at hl 1 rfl) ?_
            refine c_get S hw (n := 0) (ci := 0) (cOk.s (by decide)) (isO_K _) rfl in_X0 6 (by decide) (Or.inl q330) rfl rfl dX0_reckon_84 ?_
            refine lv_iload_n hx hb dX0_reckon_87 rfl (lv_at hl 3 rfl) ?_
            refine lv_iconst (v := (1 : Int32)) hx hb dX0_reckon_88 (by decide) ?_
            refine lv_isub hx hb dX0_reckon_89 ?_
            have hi90 := h.1
            replace h := h.2
            refine c_ald S hw (n := 70) (cOk.s (by decide)) (fun _ => rfl) hi90 (Or.inl ⟨rfl, dX0_reckon_90⟩) ?_
            refine lv_if_ne (tgt := 98) hx hb dX0_reckon_91 (by decide) (fun c91 => ?_) (fun c91 => ?_)
            · replace h := if_f c91 h
              refine lv_iconst (v := (0 : Int32)) hx hb dX0_reckon_98 (by decide) ?_
              have hi99 := h.1
              replace h := h.2
              refine c_ast S hw (n := 70) (by decide) (cOk.s (by decide)) (fun _ => rfl) hi99 (Or.inl ⟨rfl, rfl, dX0_reckon_99⟩) (fun a99 H locs ea99 hw => ?_)
              replace h := h a99 ea99
              refine lv_goto (tgt := 133) hx hb dX0_reckon_100 (by decide) ?_
              refine lv_iinc (v := (x3 + (1 : Int32))) (lv' := [(3, .int (x3 + (1 : Int32))), (4, .int (a.1 (a.2.1 x1 0) x3.toNatClampNeg)), (0, .ref (ad 0)), (1, .ref (ad x1)), (2, .int x2)]) hx hb dX0_reckon_133 hl (k := 4) rfl rfl (by decide) rfl (fun ls hl => ?_)
              refine lv_goto (tgt := 4) hx hb dX0_reckon_136 (by decide) ?_
              exact ih _ _ _ _ _ _ h hw (lv_sub hl [2, 3, 4, 0] rfl)
            · replace h := if_t c91 h
              refine lv_iconst (v := (1 : Int32)) hx hb dX0_reckon_94 (by decide) ?_
              refine lv_goto (tgt := 99) hx hb dX0_reckon_95 (by decide) ?_
              have hi99 := h.1
              replace h := h.2
              refine c_ast S hw (n := 70) (by decide) (cOk.s (by decide)) (fun _ => rfl) hi99 (Or.inl ⟨rfl, rfl, dX0_reckon_99⟩) (fun a99 H locs ea99 hw => ?_)
              replace h := h a99 ea99
              refine lv_goto (tgt := 133) hx hb dX0_reckon_100 (by decide) ?_
              refine lv_iinc (v := (x3 + (1 : Int32))) (lv' := [(3, .int (x3 + (1 : Int32))), (4, .int (a.1 (a.2.1 x1 0) x3.toNatClampNeg)), (0, .ref (ad 0)), (1, .ref (ad x1)), (2, .int x2)]) hx hb dX0_reckon_133 hl (k := 4) rfl rfl (by decide) rfl (fun ls hl => ?_)
              refine lv_goto (tgt := 4) hx hb dX0_reckon_136 (by decide) ?_
              exact ih _ _ _ _ _ _ h hw (lv_sub hl [2, 3, 4, 0] rfl)
        · replace h := if_t c29 h
          exact wkC_X0_reckon_32 S hr hlk Q x1 ih _ _ _ _ _ _ _ h hw (lv_sub hl [1, 2, 3, 4, 0] rfl)
def wpC_X0_reckon (a : CS) (x1 : Nat) (Q : Int32 → CS → Prop) : Prop := ∃ n4, bkC_X0_reckon_4 Q x1 n4 (0 : Int32) (0 : Int32) a
set_option maxHeartbeats 4000000 in
set_option maxRecDepth 100000 in
theorem wkC_X0_reckon_e (S : CallFix p m c cX0_reckon 5 s args lw_all RX0) (hr : meth.sig.returnType = (some .int)) (hlk : meth.locks = false) (Q : Int32 → CS → Prop) (x1 : Nat) (a : CS) (H : Heap) (locs : List Loc) (ls : Array Slot) (h : wpC_X0_reckon a x1 Q) (hw : CW D dA ad fv A a s H locs) (hl : lv_has ls 5 [(0, .ref (ad 0)), (1, .ref (ad x1))]) : W p l e rmC_X0_reckon s m args below meth c H locs 0 0 (MQ below (cQi D dA ad fv A Q) args s 0 0 A) (F0 m 0 ls []) := by
  have hx := S.1
  have hb := S.2.1
  have hown := S.2.2.2.1
  have hts := S.2.2.2.2
  unfold wpC_X0_reckon at h
  refine lv_iconst (v := (0 : Int32)) hx hb dX0_reckon_0 (by decide) ?_
  refine lv_istore_n (lv' := [(2, .int (0 : Int32)), (0, .ref (ad 0)), (1, .ref (ad x1))]) hx hb dX0_reckon_1 rfl hl (by decide) rfl (fun ls hl => ?_)
  refine lv_iconst (v := (0 : Int32)) hx hb dX0_reckon_2 (by decide) ?_
  refine lv_istore_n (lv' := [(3, .int (0 : Int32)), (2, .int (0 : Int32)), (0, .ref (ad 0)), (1, .ref (ad x1))]) hx hb dX0_reckon_3 rfl hl (by decide) rfl (fun ls hl => ?_)
  obtain ⟨n4, h⟩ := h
  exact wkC_X0_reckon_4 S hr hlk Q x1 n4 _ _ _ _ _ _ h hw (lv_sub hl [2, 3, 1, 0] rfl)
theorem ctC_X0_reckon (l : Launch) (D : va_G) (dA : Nat → ClassId) (ad : Nat → Nat) (fv : Nat → Value) (A : Nat → Prop) (a : CS) (x1 : Nat) (Q : Int32 → CS → Prop) (h : wpC_X0_reckon a x1 Q) : Met l yX0_reckon (ws_ yX0_reckon cX0_reckon 5 (some .int)) rmC_X0_reckon (cPc D dA ad fv A a [.ref (ad 0), .ref (ad x1)]) (cQi D dA ad fv A Q) 0 0 A :=
  c_met (by decide) rfl rfl rfl (Nat.le_of_ble_eq_true rfl) (fun p e s m below meth c ls S hr hlk hin2 hw hl => wkC_X0_reckon_e S hr hlk Q x1 a _ _ ls h hw hl)
theorem cwC_X0_X0_reckon {R : Room} {s : State} {args : Array Value} {rm : Room} (hts : ∀ w ∈ lw_all, w.before args s = true) (hR : rm.frames + 1 ≤ R.frames ∧ 8 + (5 + 11) + rm.locals ≤ R.locals) (hc : rm.cells = 0 := by rfl) (hs : rm.slots = 0 := by rfl) : CallW R s args RX0 RX0 325 yX0_reckon cX0_reckon 5 (some .int) (ws_ yX0_reckon cX0_reckon 5 (some .int)) rm 0 0 1 :=
  cwV 1 hts (lw_V q727 q729 qs22 q103 q730) rfl hc hs (by decide +kernel) hR
/-! X0.four -/
abbrev rmC_X0_four : Room := { frames := 0, cells := 0, slots := 0, locals := 0 }
def bkC_X0_four_3 (Q : CS → Prop) (x1 : Int32) : Nat → Int32 → CS → Prop
  | 0 => fun _ _ => False
  | n + 1 => fun x2 a => if x2 < 0 then (Q a) else ((vp_in (a.1 0 8) 96) ∧ (∀ a19 : CS, a19 = wI a 71 (a.1 0 8).toNatClampNeg (vp_nar .byte (ishr x1 x2).toInt8.toInt32) → (∀ a27 : CS, a27 = wI a19 0 8 ((a19.1 0 8) + (1 : Int32)) → (bkC_X0_four_3 Q x1 n (x2 + (-8 : Int32)) a27))))
set_option maxHeartbeats 4000000 in
set_option maxRecDepth 100000 in
theorem wkC_X0_four_3 (S : CallFix p m c cX0_four 3 s args lw_all RX0) (hr : meth.sig.returnType = none) (hlk : meth.locks = false) (Q : CS → Prop) (x1 : Int32) : ∀ (n : Nat) (x2 : Int32) (a : CS) (H : Heap) (locs : List Loc) (ls : Array Slot), bkC_X0_four_3 Q x1 n x2 a → CW D dA ad fv A a s H locs → lv_has ls 3 [(0, .ref (ad 0)), (1, .int x1), (2, .int x2)] → W p l e rmC_X0_four s m args below meth c H locs 0 0 (MQ below (cQv D dA ad fv A Q) args s 0 0 A) (F0 m 3 ls []) := by
  have hx := S.1
  have hb := S.2.1
  have hown := S.2.2.2.1
  have hts := S.2.2.2.2
  intro n
  induction n with
  | zero =>
    intro x2 a H locs ls h
    exact False.elim h
  | succ n ih =>
    intro x2 a H locs ls h hw hl
    unfold bkC_X0_four_3 at h
    refine lv_iload_n hx hb dX0_four_3 rfl (lv_at hl 2 rfl) ?_
    refine lv_if_lt (tgt := 36) hx hb dX0_four_4 (by decide) (fun c4 => ?_) (fun c4 => ?_)
    · replace h := if_t c4 h
      exact c_vret S hr hlk hw h dX0_four_36
    · replace h := if_f c4 h
      refine lv_aload_n hx hb dX0_four_7 rfl (lv_at hl 0 rfl) ?_
      refine c_get S hw (n := 0) (ci := 0) (cOk.s (by decide)) (isO_K _) rfl in_X0 7 (by decide) (Or.inl q331) rfl rfl dX0_four_8 ?_
      refine lv_aload_n hx hb dX0_four_11 rfl (lv_at hl 0 rfl) ?_
      refine c_get S hw (n := 0) (ci := 0) (cOk.s (by decide)) (isO_K _) rfl in_X0 8 (by decide) (Or.inl q332) rfl rfl dX0_four_12 ?_
      refine lv_iload_n hx hb dX0_four_15 rfl (lv_at hl 1 rfl) ?_
      refine lv_iload_n hx hb dX0_four_16 rfl (lv_at hl 2 rfl) ?_
      refine lv_ishr hx hb dX0_four_17 ?_
      refine lv_i2b (v := (ishr x1 x2).toInt8.toInt32) hx hb dX0_four_18 rfl ?_
      have hi19 := h.1
      replace h := h.2
      refine c_ast S hw (n := 71) (by decide) (cOk.s (by decide)) (fun _ => rfl) hi19 (Or.inr (Or.inl ⟨rfl, rfl, dX0_four_19⟩)) (fun a19 H locs ea19 hw => ?_)
      replace h := h a19 ea19
      refine lv_aload_n hx hb dX0_four_20 rfl (lv_at hl 0 rfl) ?_
      refine lv_dup hx hb dX0_four_21 rfl ?_
      refine c_get S hw (n := 0) (ci := 0) (cOk.s (by decide)) (isO_K _) rfl in_X0 8 (by decide) (Or.inl q332) rfl rfl dX0_four_22 ?_
      refine lv_iconst (v := (1 : Int32)) hx hb dX0_four_25 (by decide) ?_
      refine lv_iadd hx hb dX0_four_26 ?_
      refine c_putI S hw (n := 0) (cOk.s (by decide)) isO_K rfl in_X0 tyX0 tyX0_ok nmX0 8 (by decide) (Or.inl q332) rfl rfl rfl rfl (Nat.le_of_ble_eq_true rfl) (fun _ => kset_8) dX0_four_27 (fun a27 H locs ea27 hw => ?_)
      replace h := h a27 ea27
      refine lv_iinc (v := (x2 + (-8 : Int32))) (lv' := [(2, .int (x2 + (-8 : Int32))), (0, .ref (ad 0)), (1, .int x1)]) hx hb dX0_four_30 hl (k := 2) rfl rfl (by decide) rfl (fun ls hl => ?_)
      refine lv_goto (tgt := 3) hx hb dX0_four_33 (by decide) ?_
      exact ih _ _ _ _ _ h hw (lv_sub hl [1, 2, 0] rfl)
def wpC_X0_four (a : CS) (x1 : Int32) (Q : CS → Prop) : Prop := ∃ n3, bkC_X0_four_3 Q x1 n3 (24 : Int32) a
set_option maxHeartbeats 4000000 in
set_option maxRecDepth 100000 in
theorem wkC_X0_four_e (S : CallFix p m c cX0_four 3 s args lw_all RX0) (hr : meth.sig.returnType = none) (hlk : meth.locks = false) (Q : CS → Prop) (x1 : Int32) (a : CS) (H : Heap) (locs : List Loc) (ls : Array Slot) (h : wpC_X0_four a x1 Q) (hw : CW D dA ad fv A a s H locs) (hl : lv_has ls 3 [(0, .ref (ad 0)), (1, .int x1)]) : W p l e rmC_X0_four s m args below meth c H locs 0 0 (MQ below (cQv D dA ad fv A Q) args s 0 0 A) (F0 m 0 ls []) := by
  have hx := S.1
  have hb := S.2.1
  have hown := S.2.2.2.1
  have hts := S.2.2.2.2
  unfold wpC_X0_four at h
  refine lv_bipush (v := (24 : Int32)) hx hb dX0_four_0 (by decide) ?_
  refine lv_istore_n (lv' := [(2, .int (24 : Int32)), (0, .ref (ad 0)), (1, .int x1)]) hx hb dX0_four_2 rfl hl (by decide) rfl (fun ls hl => ?_)
  obtain ⟨n3, h⟩ := h
  exact wkC_X0_four_3 S hr hlk Q x1 n3 _ _ _ _ _ h hw (lv_sub hl [1, 2, 0] rfl)
theorem ctC_X0_four (l : Launch) (D : va_G) (dA : Nat → ClassId) (ad : Nat → Nat) (fv : Nat → Value) (A : Nat → Prop) (a : CS) (x1 : Int32) (Q : CS → Prop) (h : wpC_X0_four a x1 Q) : Met l yX0_four (ws_ yX0_four cX0_four 3 none) rmC_X0_four (cPc D dA ad fv A a [.ref (ad 0), .int x1]) (cQv D dA ad fv A Q) 0 0 A :=
  c_met (by decide) rfl rfl rfl (Nat.le_of_ble_eq_true rfl) (fun p e s m below meth c ls S hr hlk hin2 hw hl => wkC_X0_four_e S hr hlk Q x1 a _ _ ls h hw hl)
theorem cwC_X0_X0_four {R : Room} {s : State} {args : Array Value} {rm : Room} (hts : ∀ w ∈ lw_all, w.before args s = true) (hR : rm.frames + 1 ≤ R.frames ∧ 8 + (3 + 11) + rm.locals ≤ R.locals) (hc : rm.cells = 0 := by rfl) (hs : rm.slots = 0 := by rfl) : CallW R s args RX0 RX0 160 yX0_four cX0_four 3 none (ws_ yX0_four cX0_four 3 none) rm 0 0 1 :=
  cwV 1 hts (lw_V q424 q426 qs1 q103 q427) rfl hc hs (by decide +kernel) hR
/-! X0.feed -/
abbrev rmC_X0_feed : Room := { frames := 1, cells := 0, slots := 0, locals := 22 }
def wpC_X0_feed (a : CS) (x1 : Int32) (x2 : Int32) (x3 : Int32) (Q : Int32 → CS → Prop) : Prop := if ((a.1 0 8) + (12 : Int32)) ≤ (96 : Int32) then (wpC_X0_four a x1 (fun a17 => wpC_X0_four a17 x2 (fun a22 => wpC_X0_four a22 x3 (fun a27 => Q (a27.1 0 8) a27)))) else (Q (-1000000003 : Int32) a)
set_option maxHeartbeats 4000000 in
set_option maxRecDepth 100000 in
theorem wkC_X0_feed_e (S : CallFix p m c cX0_feed 4 s args lw_all RX0) (hr : meth.sig.returnType = (some .int)) (hlk : meth.locks = false) (Q : Int32 → CS → Prop) (x1 : Int32) (x2 : Int32) (x3 : Int32) (a : CS) (H : Heap) (locs : List Loc) (ls : Array Slot) (h : wpC_X0_feed a x1 x2 x3 Q) (hw : CW D dA ad fv A a s H locs) (hl : lv_has ls 4 [(0, .ref (ad 0)), (1, .int x1), (2, .int x2), (3, .int x3)]) : W p l e rmC_X0_feed s m args below meth c H locs 0 0 (MQ below (cQi D dA ad fv A Q) args s 0 0 A) (F0 m 0 ls []) := by
  have hx := S.1
  have hb := S.2.1
  have hown := S.2.2.2.1
  have hts := S.2.2.2.2
  unfold wpC_X0_feed at h
  refine lv_aload_n hx hb dX0_feed_0 rfl (lv_at hl 0 rfl) ?_
  refine c_get S hw (n := 0) (ci := 0) (cOk.s (by decide)) (isO_K _) rfl in_X0 8 (by decide) (Or.inl q332) rfl rfl dX0_feed_1 ?_
  refine lv_bipush (v := (12 : Int32)) hx hb dX0_feed_4 (by decide) ?_
  refine lv_iadd hx hb dX0_feed_6 ?_
  refine lv_bipush (v := (96 : Int32)) hx hb dX0_feed_7 (by decide) ?_
  refine lv_icmp_le (tgt := 15) hx hb dX0_feed_9 (by decide) (fun c9 => ?_) (fun c9 => ?_)
  · replace h := if_t c9 h
    refine lv_aload_n hx hb dX0_feed_15 rfl (lv_at hl 0 rfl) ?_
    refine lv_iload_n hx hb dX0_feed_16 rfl (lv_at hl 1 rfl) ?_
    refine c_callv hw (va_runV (As := [.int x1]) (rest := []) S (ctC_X0_four l D dA ad fv A a x1 _ h) (cwC_X0_X0_four hts ⟨Nat.le_of_ble_eq_true rfl, Nat.le_of_ble_eq_true rfl⟩) (c_preV hw (n := 0) (cOk.s (by decide)) (isO_K _) rfl) rfl rfl hl.1 rfl (lv_room (Nat.le_of_ble_eq_true rfl)) dX0_feed_17 ⟨Nat.le_of_ble_eq_true rfl, Nat.le_of_ble_eq_true rfl⟩) (fun a17 H locs h hw => ?_)
    refine lv_aload_n hx hb dX0_feed_20 rfl (lv_at hl 0 rfl) ?_
    refine lv_iload_n hx hb dX0_feed_21 rfl (lv_at hl 2 rfl) ?_
    refine c_callv hw (va_runV (As := [.int x2]) (rest := []) S (ctC_X0_four l D dA ad fv A a17 x2 _ h) (cwC_X0_X0_four hts ⟨Nat.le_of_ble_eq_true rfl, Nat.le_of_ble_eq_true rfl⟩) (c_preV hw (n := 0) (cOk.s (by decide)) (isO_K _) rfl) rfl rfl hl.1 rfl (lv_room (Nat.le_of_ble_eq_true rfl)) dX0_feed_22 ⟨Nat.le_of_ble_eq_true rfl, Nat.le_of_ble_eq_true rfl⟩) (fun a22 H locs h hw => ?_)
    refine lv_aload_n hx hb dX0_feed_25 rfl (lv_at hl 0 rfl) ?_
    refine lv_iload_n hx hb dX0_feed_26 rfl (lv_at hl 3 rfl) ?_
    refine c_callv hw (va_runV (As := [.int x3]) (rest := []) S (ctC_X0_four l D dA ad fv A a22 x3 _ h) (cwC_X0_X0_four hts ⟨Nat.le_of_ble_eq_true rfl, Nat.le_of_ble_eq_true rfl⟩) (c_preV hw (n := 0) (cOk.s (by decide)) (isO_K _) rfl) rfl rfl hl.1 rfl (lv_room (Nat.le_of_ble_eq_true rfl)) dX0_feed_27 ⟨Nat.le_of_ble_eq_true rfl, Nat.le_of_ble_eq_true rfl⟩) (fun a27 H locs h hw => ?_)
    refine lv_aload_n hx hb dX0_feed_30 rfl (lv_at hl 0 rfl) ?_
    refine c_get S hw (n := 0) (ci := 0) (cOk.s (by decide)) (isO_K _) rfl in_X0 8 (by decide) (Or.inl q332) rfl rfl dX0_feed_31 ?_
    exact c_iret S hr hlk hw h dX0_feed_34
  · replace h := if_f c9 h
    refine lv_ldc hx hb hown (hts _ q423) dX0_feed_12 ?_
    exact c_iret S hr hlk hw h dX0_feed_14
theorem ctC_X0_feed (l : Launch) (D : va_G) (dA : Nat → ClassId) (ad : Nat → Nat) (fv : Nat → Value) (A : Nat → Prop) (a : CS) (x1 : Int32) (x2 : Int32) (x3 : Int32) (Q : Int32 → CS → Prop) (h : wpC_X0_feed a x1 x2 x3 Q) : Met l yX0_feed (ws_ yX0_feed cX0_feed 4 (some .int)) rmC_X0_feed (cPc D dA ad fv A a [.ref (ad 0), .int x1, .int x2, .int x3]) (cQi D dA ad fv A Q) 0 0 A :=
  c_met (by decide) rfl rfl rfl (Nat.le_of_ble_eq_true rfl) (fun p e s m below meth c ls S hr hlk hin2 hw hl => wkC_X0_feed_e S hr hlk Q x1 x2 x3 a _ _ ls h hw hl)
/-! X0.trim -/
abbrev rmC_X0_trim : Room := { frames := 1, cells := 0, slots := 0, locals := 22 }
def wpC_X0_trim (a : CS) (x1 : Int32) (Q : Int32 → CS → Prop) : Prop := wpC_X0_isIn a x1 (0 : Int32) (a.1 0 8) (fun r6 a6 => if r6 = 0 then (Q (-1000000001 : Int32) a6) else (∀ a17 : CS, a17 = wI a6 0 8 x1 → (Q x1 a17)))
set_option maxHeartbeats 4000000 in
set_option maxRecDepth 100000 in
theorem wkC_X0_trim_e (S : CallFix p m c cX0_trim 2 s args lw_all RX0) (hr : meth.sig.returnType = (some .int)) (hlk : meth.locks = false) (Q : Int32 → CS → Prop) (x1 : Int32) (a : CS) (H : Heap) (locs : List Loc) (ls : Array Slot) (h : wpC_X0_trim a x1 Q) (hw : CW D dA ad fv A a s H locs) (hl : lv_has ls 2 [(0, .ref (ad 0)), (1, .int x1)]) : W p l e rmC_X0_trim s m args below meth c H locs 0 0 (MQ below (cQi D dA ad fv A Q) args s 0 0 A) (F0 m 0 ls []) := by
  have hx := S.1
  have hb := S.2.1
  have hown := S.2.2.2.1
  have hts := S.2.2.2.2
  unfold wpC_X0_trim at h
  refine lv_iload_n hx hb dX0_trim_0 rfl (lv_at hl 1 rfl) ?_
  refine lv_iconst (v := (0 : Int32)) hx hb dX0_trim_1 (by decide) ?_
  refine lv_aload_n hx hb dX0_trim_2 rfl (lv_at hl 0 rfl) ?_
  refine c_get S hw (n := 0) (ci := 0) (cOk.s (by decide)) (isO_K _) rfl in_X0 8 (by decide) (Or.inl q332) rfl rfl dX0_trim_3 ?_
  refine c_calli hw (va_runS (As := [.int x1, .int (0 : Int32), .int (a.1 0 8)]) (rest := []) S (ctC_X0_isIn l D dA ad fv A a x1 (0 : Int32) (a.1 0 8) _ h) (cwC_X0_X0_isIn hts ⟨Nat.le_of_ble_eq_true rfl, Nat.le_of_ble_eq_true rfl⟩) (c_preS hw) rfl rfl hl.1 rfl (lv_room (Nat.le_of_ble_eq_true rfl)) dX0_trim_6 ⟨Nat.le_of_ble_eq_true rfl, Nat.le_of_ble_eq_true rfl⟩) (fun r6 a6 H locs h hw => ?_)
  refine lv_if_ne (tgt := 15) hx hb dX0_trim_9 (by decide) (fun c9 => ?_) (fun c9 => ?_)
  · replace h := if_f c9 h
    refine lv_aload_n hx hb dX0_trim_15 rfl (lv_at hl 0 rfl) ?_
    refine lv_iload_n hx hb dX0_trim_16 rfl (lv_at hl 1 rfl) ?_
    refine c_putI S hw (n := 0) (cOk.s (by decide)) isO_K rfl in_X0 tyX0 tyX0_ok nmX0 8 (by decide) (Or.inl q332) rfl rfl rfl rfl (Nat.le_of_ble_eq_true rfl) (fun _ => kset_8) dX0_trim_17 (fun a17 H locs ea17 hw => ?_)
    replace h := h a17 ea17
    refine lv_iload_n hx hb dX0_trim_20 rfl (lv_at hl 1 rfl) ?_
    exact c_iret S hr hlk hw h dX0_trim_21
  · replace h := if_t c9 h
    refine lv_ldc hx hb hown (hts _ q435) dX0_trim_12 ?_
    exact c_iret S hr hlk hw h dX0_trim_14
theorem ctC_X0_trim (l : Launch) (D : va_G) (dA : Nat → ClassId) (ad : Nat → Nat) (fv : Nat → Value) (A : Nat → Prop) (a : CS) (x1 : Int32) (Q : Int32 → CS → Prop) (h : wpC_X0_trim a x1 Q) : Met l yX0_trim (ws_ yX0_trim cX0_trim 2 (some .int)) rmC_X0_trim (cPc D dA ad fv A a [.ref (ad 0), .int x1]) (cQi D dA ad fv A Q) 0 0 A :=
  c_met (by decide) rfl rfl rfl (Nat.le_of_ble_eq_true rfl) (fun p e s m below meth c ls S hr hlk hin2 hw hl => wkC_X0_trim_e S hr hlk Q x1 a _ _ ls h hw hl)
/-! X0.isLetter -/
abbrev rmC_X0_isLetter : Room := { frames := 1, cells := 0, slots := 0, locals := 22 }
def wpC_X0_isLetter (a : CS) (x0 : Int32) (Q : Int32 → CS → Prop) : Prop := wpC_X0_isIn a x0 (97 : Int32) (122 : Int32) (fun r5 a5 => zok r5 ∧ Q r5 a5)
set_option maxHeartbeats 4000000 in
set_option maxRecDepth 100000 in
theorem wkC_X0_isLetter_e (S : CallFix p m c cX0_isLetter 1 s args lw_all RX0) (hr : meth.sig.returnType = (some .boolean)) (hlk : meth.locks = false) (Q : Int32 → CS → Prop) (x0 : Int32) (a : CS) (H : Heap) (locs : List Loc) (ls : Array Slot) (h : wpC_X0_isLetter a x0 Q) (hw : CW D dA ad fv A a s H locs) (hl : lv_has ls 1 [(0, .int x0)]) : W p l e rmC_X0_isLetter s m args below meth c H locs 0 0 (MQ below (cQi D dA ad fv A Q) args s 0 0 A) (F0 m 0 ls []) := by
  have hx := S.1
  have hb := S.2.1
  have hown := S.2.2.2.1
  have hts := S.2.2.2.2
  unfold wpC_X0_isLetter at h
  refine lv_iload_n hx hb dX0_isLetter_0 rfl (lv_at hl 0 rfl) ?_
  refine lv_bipush (v := (97 : Int32)) hx hb dX0_isLetter_1 (by decide) ?_
  refine lv_bipush (v := (122 : Int32)) hx hb dX0_isLetter_3 (by decide) ?_
  refine c_calli hw (va_runS (As := [.int x0, .int (97 : Int32), .int (122 : Int32)]) (rest := []) S (ctC_X0_isIn l D dA ad fv A a x0 (97 : Int32) (122 : Int32) _ h) (cwC_X0_X0_isIn hts ⟨Nat.le_of_ble_eq_true rfl, Nat.le_of_ble_eq_true rfl⟩) (c_preS hw) rfl rfl hl.1 rfl (lv_room (Nat.le_of_ble_eq_true rfl)) dX0_isLetter_5 ⟨Nat.le_of_ble_eq_true rfl, Nat.le_of_ble_eq_true rfl⟩) (fun r5 a5 H locs h hw => ?_)
  exact c_zret S hr hlk hw h.1 h.2 dX0_isLetter_8
theorem ctC_X0_isLetter (l : Launch) (D : va_G) (dA : Nat → ClassId) (ad : Nat → Nat) (fv : Nat → Value) (A : Nat → Prop) (a : CS) (x0 : Int32) (Q : Int32 → CS → Prop) (h : wpC_X0_isLetter a x0 Q) : Met l yX0_isLetter (ws_ yX0_isLetter cX0_isLetter 1 (some .boolean)) rmC_X0_isLetter (cPc D dA ad fv A a [.int x0]) (cQi D dA ad fv A Q) 0 0 A :=
  c_met (by decide) rfl rfl rfl (Nat.le_of_ble_eq_true rfl) (fun p e s m below meth c ls S hr hlk hin2 hw hl => wkC_X0_isLetter_e S hr hlk Q x0 a _ _ ls h hw hl)
theorem cwC_X0_X0_isLetter {R : Room} {s : State} {args : Array Value} {rm : Room} (hts : ∀ w ∈ lw_all, w.before args s = true) (hR : rm.frames + 1 ≤ R.frames ∧ 8 + (1 + 11) + rm.locals ≤ R.locals) (hc : rm.cells = 0 := by rfl) (hs : rm.slots = 0 := by rfl) : CallB R s args RX0 177 yX0_isLetter cX0_isLetter 1 (some .boolean) (ws_ yX0_isLetter cX0_isLetter 1 (some .boolean)) rm 0 0 1 ∧ (Cond.static yX0_isLetter).before args s = true :=
  va_cwS 1 hts (lw_S q448 q449 q103 q450) rfl hc hs (by decide +kernel) hR
/-! X0.isDigit -/
abbrev rmC_X0_isDigit : Room := { frames := 1, cells := 0, slots := 0, locals := 22 }
def wpC_X0_isDigit (a : CS) (x0 : Int32) (Q : Int32 → CS → Prop) : Prop := wpC_X0_isIn a x0 (48 : Int32) (57 : Int32) (fun r5 a5 => zok r5 ∧ Q r5 a5)
set_option maxHeartbeats 4000000 in
set_option maxRecDepth 100000 in
theorem wkC_X0_isDigit_e (S : CallFix p m c cX0_isDigit 1 s args lw_all RX0) (hr : meth.sig.returnType = (some .boolean)) (hlk : meth.locks = false) (Q : Int32 → CS → Prop) (x0 : Int32) (a : CS) (H : Heap) (locs : List Loc) (ls : Array Slot) (h : wpC_X0_isDigit a x0 Q) (hw : CW D dA ad fv A a s H locs) (hl : lv_has ls 1 [(0, .int x0)]) : W p l e rmC_X0_isDigit s m args below meth c H locs 0 0 (MQ below (cQi D dA ad fv A Q) args s 0 0 A) (F0 m 0 ls []) := by
  have hx := S.1
  have hb := S.2.1
  have hown := S.2.2.2.1
  have hts := S.2.2.2.2
  unfold wpC_X0_isDigit at h
  refine lv_iload_n hx hb dX0_isDigit_0 rfl (lv_at hl 0 rfl) ?_
  refine lv_bipush (v := (48 : Int32)) hx hb dX0_isDigit_1 (by decide) ?_
  refine lv_bipush (v := (57 : Int32)) hx hb dX0_isDigit_3 (by decide) ?_
  refine c_calli hw (va_runS (As := [.int x0, .int (48 : Int32), .int (57 : Int32)]) (rest := []) S (ctC_X0_isIn l D dA ad fv A a x0 (48 : Int32) (57 : Int32) _ h) (cwC_X0_X0_isIn hts ⟨Nat.le_of_ble_eq_true rfl, Nat.le_of_ble_eq_true rfl⟩) (c_preS hw) rfl rfl hl.1 rfl (lv_room (Nat.le_of_ble_eq_true rfl)) dX0_isDigit_5 ⟨Nat.le_of_ble_eq_true rfl, Nat.le_of_ble_eq_true rfl⟩) (fun r5 a5 H locs h hw => ?_)
  exact c_zret S hr hlk hw h.1 h.2 dX0_isDigit_8
theorem ctC_X0_isDigit (l : Launch) (D : va_G) (dA : Nat → ClassId) (ad : Nat → Nat) (fv : Nat → Value) (A : Nat → Prop) (a : CS) (x0 : Int32) (Q : Int32 → CS → Prop) (h : wpC_X0_isDigit a x0 Q) : Met l yX0_isDigit (ws_ yX0_isDigit cX0_isDigit 1 (some .boolean)) rmC_X0_isDigit (cPc D dA ad fv A a [.int x0]) (cQi D dA ad fv A Q) 0 0 A :=
  c_met (by decide) rfl rfl rfl (Nat.le_of_ble_eq_true rfl) (fun p e s m below meth c ls S hr hlk hin2 hw hl => wkC_X0_isDigit_e S hr hlk Q x0 a _ _ ls h hw hl)
theorem cwC_X0_X0_isDigit {R : Room} {s : State} {args : Array Value} {rm : Room} (hts : ∀ w ∈ lw_all, w.before args s = true) (hR : rm.frames + 1 ≤ R.frames ∧ 8 + (1 + 11) + rm.locals ≤ R.locals) (hc : rm.cells = 0 := by rfl) (hs : rm.slots = 0 := by rfl) : CallB R s args RX0 181 yX0_isDigit cX0_isDigit 1 (some .boolean) (ws_ yX0_isDigit cX0_isDigit 1 (some .boolean)) rm 0 0 1 ∧ (Cond.static yX0_isDigit).before args s = true :=
  va_cwS 1 hts (lw_S q451 q452 q103 q453) rfl hc hs (by decide +kernel) hR
/-! X0.isSign -/
abbrev rmC_X0_isSign : Room := { frames := 0, cells := 0, slots := 0, locals := 0 }
def wpC_X0_isSign (a : CS) (x1 : Int32) (Q : Int32 → CS → Prop) : Prop := if (a.1 0 12) ≤ (a.1 0 10) then (Q (0 : Int32) a) else (if ((a.1 0 11) - (a.1 0 10)) = (1 : Int32) then ((vp_in (a.1 0 10) 96) ∧ (if (a.1 71 (a.1 0 10).toNatClampNeg) = x1 then (Q (1 : Int32) a) else (Q (0 : Int32) a))) else (Q (0 : Int32) a))
set_option maxHeartbeats 4000000 in
set_option maxRecDepth 100000 in
theorem wkC_X0_isSign_e (S : CallFix p m c cX0_isSign 2 s args lw_all RX0) (hr : meth.sig.returnType = (some .boolean)) (hlk : meth.locks = false) (Q : Int32 → CS → Prop) (x1 : Int32) (a : CS) (H : Heap) (locs : List Loc) (ls : Array Slot) (h : wpC_X0_isSign a x1 Q) (hw : CW D dA ad fv A a s H locs) (hl : lv_has ls 2 [(0, .ref (ad 0)), (1, .int x1)]) : W p l e rmC_X0_isSign s m args below meth c H locs 0 0 (MQ below (cQi D dA ad fv A Q) args s 0 0 A) (F0 m 0 ls []) := by
  have hx := S.1
  have hb := S.2.1
  have hown := S.2.2.2.1
  have hts := S.2.2.2.2
  unfold wpC_X0_isSign at h
  refine lv_aload_n hx hb dX0_isSign_0 rfl (lv_at hl 0 rfl) ?_
  refine c_get S hw (n := 0) (ci := 0) (cOk.s (by decide)) (isO_K _) rfl in_X0 10 (by decide) (Or.inl q334) rfl rfl dX0_isSign_1 ?_
  refine lv_aload_n hx hb dX0_isSign_4 rfl (lv_at hl 0 rfl) ?_
  refine c_get S hw (n := 0) (ci := 0) (cOk.s (by decide)) (isO_K _) rfl in_X0 12 (by decide) (Or.inl q336) rfl rfl dX0_isSign_5 ?_
  refine lv_icmp_ge (tgt := 41) hx hb dX0_isSign_8 (by decide) (fun c8 => ?_) (fun c8 => ?_)
  · replace h := if_t c8 h
    refine lv_iconst (v := (0 : Int32)) hx hb dX0_isSign_41 (by decide) ?_
    exact c_zret S hr hlk hw (Or.inl rfl) h dX0_isSign_42
  · replace h := if_f c8 h
    refine lv_aload_n hx hb dX0_isSign_11 rfl (lv_at hl 0 rfl) ?_
    refine c_get S hw (n := 0) (ci := 0) (cOk.s (by decide)) (isO_K _) rfl in_X0 11 (by decide) (Or.inl q335) rfl rfl dX0_isSign_12 ?_
    refine lv_aload_n hx hb dX0_isSign_15 rfl (lv_at hl 0 rfl) ?_
    refine c_get S hw (n := 0) (ci := 0) (cOk.s (by decide)) (isO_K _) rfl in_X0 10 (by decide) (Or.inl q334) rfl rfl dX0_isSign_16 ?_
    refine lv_isub hx hb dX0_isSign_19 ?_
    refine lv_iconst (v := (1 : Int32)) hx hb dX0_isSign_20 (by decide) ?_
    refine lv_icmp_ne (tgt := 41) hx hb dX0_isSign_21 (by decide) (fun c21 => ?_) (fun c21 => ?_)
    · replace h := if_f c21 h
      refine lv_iconst (v := (0 : Int32)) hx hb dX0_isSign_41 (by decide) ?_
      exact c_zret S hr hlk hw (Or.inl rfl) h dX0_isSign_42
    · replace h := if_t c21 h
      refine lv_aload_n hx hb dX0_isSign_24 rfl (lv_at hl 0 rfl) ?_
      refine c_get S hw (n := 0) (ci := 0) (cOk.s (by decide)) (isO_K _) rfl in_X0 7 (by decide) (Or.inl q331) rfl rfl dX0_isSign_25 ?_
      refine lv_aload_n hx hb dX0_isSign_28 rfl (lv_at hl 0 rfl) ?_
      refine c_get S hw (n := 0) (ci := 0) (cOk.s (by decide)) (isO_K _) rfl in_X0 10 (by decide) (Or.inl q334) rfl rfl dX0_isSign_29 ?_
      have hi32 := h.1
      replace h := h.2
      refine c_ald S hw (n := 71) (cOk.s (by decide)) (fun _ => rfl) hi32 (Or.inr (Or.inl ⟨rfl, dX0_isSign_32⟩)) ?_
      refine lv_iload_n hx hb dX0_isSign_33 rfl (lv_at hl 1 rfl) ?_
      refine lv_icmp_ne (tgt := 41) hx hb dX0_isSign_34 (by decide) (fun c34 => ?_) (fun c34 => ?_)
      · replace h := if_f c34 h
        refine lv_iconst (v := (0 : Int32)) hx hb dX0_isSign_41 (by decide) ?_
        exact c_zret S hr hlk hw (Or.inl rfl) h dX0_isSign_42
      · replace h := if_t c34 h
        refine lv_iconst (v := (1 : Int32)) hx hb dX0_isSign_37 (by decide) ?_
        refine lv_goto (tgt := 42) hx hb dX0_isSign_38 (by decide) ?_
        exact c_zret S hr hlk hw (Or.inr rfl) h dX0_isSign_42
theorem ctC_X0_isSign (l : Launch) (D : va_G) (dA : Nat → ClassId) (ad : Nat → Nat) (fv : Nat → Value) (A : Nat → Prop) (a : CS) (x1 : Int32) (Q : Int32 → CS → Prop) (h : wpC_X0_isSign a x1 Q) : Met l yX0_isSign (ws_ yX0_isSign cX0_isSign 2 (some .boolean)) rmC_X0_isSign (cPc D dA ad fv A a [.ref (ad 0), .int x1]) (cQi D dA ad fv A Q) 0 0 A :=
  c_met (by decide) rfl rfl rfl (Nat.le_of_ble_eq_true rfl) (fun p e s m below meth c ls S hr hlk hin2 hw hl => wkC_X0_isSign_e S hr hlk Q x1 a _ _ ls h hw hl)
theorem cwC_X0_X0_isSign {R : Room} {s : State} {args : Array Value} {rm : Room} (hts : ∀ w ∈ lw_all, w.before args s = true) (hR : rm.frames + 1 ≤ R.frames ∧ 8 + (2 + 11) + rm.locals ≤ R.locals) (hc : rm.cells = 0 := by rfl) (hs : rm.slots = 0 := by rfl) : CallW R s args RX0 RX0 208 yX0_isSign cX0_isSign 2 (some .boolean) (ws_ yX0_isSign cX0_isSign 2 (some .boolean)) rm 0 0 1 :=
  cwV 1 hts (lw_V q564 q566 qs14 q103 q567) rfl hc hs (by decide +kernel) hR
/-! X0.isName -/
abbrev rmC_X0_isName : Room := { frames := 0, cells := 0, slots := 0, locals := 0 }
def wpC_X0_isName (a : CS) (x1 : Int32) (Q : Int32 → CS → Prop) : Prop := if x1 = (97 : Int32) then (if (a.1 0 16) = (2 : Int32) then (Q (1 : Int32) a) else (Q (0 : Int32) a)) else (if x1 = (108 : Int32) then (if (a.1 0 16) = (1 : Int32) then (Q (1 : Int32) a) else (Q (0 : Int32) a)) else (if x1 = (110 : Int32) then (Q (1 : Int32) a) else (if x1 = (114 : Int32) then (if (a.1 0 16) = (2 : Int32) then (Q (1 : Int32) a) else (Q (0 : Int32) a)) else (if x1 = (115 : Int32) then (if (a.1 0 16) = (2 : Int32) then (Q (0 : Int32) a) else (Q (1 : Int32) a)) else (if x1 = (116 : Int32) then (if (a.1 0 16) = (2 : Int32) then (Q (1 : Int32) a) else (Q (0 : Int32) a)) else (Q (0 : Int32) a))))))
set_option maxHeartbeats 4000000 in
set_option maxRecDepth 100000 in
theorem wkC_X0_isName_e (S : CallFix p m c cX0_isName 2 s args lw_all RX0) (hr : meth.sig.returnType = (some .boolean)) (hlk : meth.locks = false) (Q : Int32 → CS → Prop) (x1 : Int32) (a : CS) (H : Heap) (locs : List Loc) (ls : Array Slot) (h : wpC_X0_isName a x1 Q) (hw : CW D dA ad fv A a s H locs) (hl : lv_has ls 2 [(0, .ref (ad 0)), (1, .int x1)]) : W p l e rmC_X0_isName s m args below meth c H locs 0 0 (MQ below (cQi D dA ad fv A Q) args s 0 0 A) (F0 m 0 ls []) := by
  have hx := S.1
  have hb := S.2.1
  have hown := S.2.2.2.1
  have hts := S.2.2.2.2
  unfold wpC_X0_isName at h
  refine lv_iload_n hx hb dX0_isName_0 rfl (lv_at hl 1 rfl) ?_
  by_cases c1_0 : x1 = (97 : Int32)
  · replace h := if_t c1_0 h
    refine lv_tableIn (off := 125) (tgt := 126) hx hb dX0_isName_1 (by rw [c1_0]; decide) (by rw [c1_0]; decide) (by rw [c1_0]; decide) (by decide) ?_
    refine lv_aload_n hx hb dX0_isName_126 rfl (lv_at hl 0 rfl) ?_
    refine c_get S hw (n := 0) (ci := 0) (cOk.s (by decide)) (isO_K _) rfl in_X0 16 (by decide) (Or.inl q340) rfl rfl dX0_isName_127 ?_
    refine lv_iconst (v := (2 : Int32)) hx hb dX0_isName_130 (by decide) ?_
    refine lv_icmp_ne (tgt := 138) hx hb dX0_isName_131 (by decide) (fun c131 => ?_) (fun c131 => ?_)
    · replace h := if_f c131 h
      refine lv_iconst (v := (0 : Int32)) hx hb dX0_isName_138 (by decide) ?_
      exact c_zret S hr hlk hw (Or.inl rfl) h dX0_isName_139
    · replace h := if_t c131 h
      refine lv_iconst (v := (1 : Int32)) hx hb dX0_isName_134 (by decide) ?_
      refine lv_goto (tgt := 139) hx hb dX0_isName_135 (by decide) ?_
      exact c_zret S hr hlk hw (Or.inr rfl) h dX0_isName_139
  replace h := if_f c1_0 h
  by_cases c1_1 : x1 = (108 : Int32)
  · replace h := if_t c1_1 h
    refine lv_tableIn (off := 111) (tgt := 112) hx hb dX0_isName_1 (by rw [c1_1]; decide) (by rw [c1_1]; decide) (by rw [c1_1]; decide) (by decide) ?_
    refine lv_aload_n hx hb dX0_isName_112 rfl (lv_at hl 0 rfl) ?_
    refine c_get S hw (n := 0) (ci := 0) (cOk.s (by decide)) (isO_K _) rfl in_X0 16 (by decide) (Or.inl q340) rfl rfl dX0_isName_113 ?_
    refine lv_iconst (v := (1 : Int32)) hx hb dX0_isName_116 (by decide) ?_
    refine lv_icmp_ne (tgt := 124) hx hb dX0_isName_117 (by decide) (fun c117 => ?_) (fun c117 => ?_)
    · replace h := if_f c117 h
      refine lv_iconst (v := (0 : Int32)) hx hb dX0_isName_124 (by decide) ?_
      exact c_zret S hr hlk hw (Or.inl rfl) h dX0_isName_125
    · replace h := if_t c117 h
      refine lv_iconst (v := (1 : Int32)) hx hb dX0_isName_120 (by decide) ?_
      refine lv_goto (tgt := 125) hx hb dX0_isName_121 (by decide) ?_
      exact c_zret S hr hlk hw (Or.inr rfl) h dX0_isName_125
  replace h := if_f c1_1 h
  by_cases c1_2 : x1 = (110 : Int32)
  · replace h := if_t c1_2 h
    refine lv_tableIn (off := 95) (tgt := 96) hx hb dX0_isName_1 (by rw [c1_2]; decide) (by rw [c1_2]; decide) (by rw [c1_2]; decide) (by decide) ?_
    refine lv_iconst (v := (1 : Int32)) hx hb dX0_isName_96 (by decide) ?_
    exact c_zret S hr hlk hw (Or.inr rfl) h dX0_isName_97
  replace h := if_f c1_2 h
  by_cases c1_3 : x1 = (114 : Int32)
  · replace h := if_t c1_3 h
    refine lv_tableIn (off := 125) (tgt := 126) hx hb dX0_isName_1 (by rw [c1_3]; decide) (by rw [c1_3]; decide) (by rw [c1_3]; decide) (by decide) ?_
    refine lv_aload_n hx hb dX0_isName_126 rfl (lv_at hl 0 rfl) ?_
    refine c_get S hw (n := 0) (ci := 0) (cOk.s (by decide)) (isO_K _) rfl in_X0 16 (by decide) (Or.inl q340) rfl rfl dX0_isName_127 ?_
    refine lv_iconst (v := (2 : Int32)) hx hb dX0_isName_130 (by decide) ?_
    refine lv_icmp_ne (tgt := 138) hx hb dX0_isName_131 (by decide) (fun c131 => ?_) (fun c131 => ?_)
    · replace h := if_f c131 h
      refine lv_iconst (v := (0 : Int32)) hx hb dX0_isName_138 (by decide) ?_
      exact c_zret S hr hlk hw (Or.inl rfl) h dX0_isName_139
    · replace h := if_t c131 h
      refine lv_iconst (v := (1 : Int32)) hx hb dX0_isName_134 (by decide) ?_
      refine lv_goto (tgt := 139) hx hb dX0_isName_135 (by decide) ?_
      exact c_zret S hr hlk hw (Or.inr rfl) h dX0_isName_139
  replace h := if_f c1_3 h
  by_cases c1_4 : x1 = (115 : Int32)
  · replace h := if_t c1_4 h
    refine lv_tableIn (off := 97) (tgt := 98) hx hb dX0_isName_1 (by rw [c1_4]; decide) (by rw [c1_4]; decide) (by rw [c1_4]; decide) (by decide) ?_
    refine lv_aload_n hx hb dX0_isName_98 rfl (lv_at hl 0 rfl) ?_
    refine c_get S hw (n := 0) (ci := 0) (cOk.s (by decide)) (isO_K _) rfl in_X0 16 (by decide) (Or.inl q340) rfl rfl dX0_isName_99 ?_
    refine lv_iconst (v := (2 : Int32)) hx hb dX0_isName_102 (by decide) ?_
    refine lv_icmp_eq (tgt := 110) hx hb dX0_isName_103 (by decide) (fun c103 => ?_) (fun c103 => ?_)
    · replace h := if_t c103 h
      refine lv_iconst (v := (0 : Int32)) hx hb dX0_isName_110 (by decide) ?_
      exact c_zret S hr hlk hw (Or.inl rfl) h dX0_isName_111
    · replace h := if_f c103 h
      refine lv_iconst (v := (1 : Int32)) hx hb dX0_isName_106 (by decide) ?_
      refine lv_goto (tgt := 111) hx hb dX0_isName_107 (by decide) ?_
      exact c_zret S hr hlk hw (Or.inr rfl) h dX0_isName_111
  replace h := if_f c1_4 h
  by_cases c1_5 : x1 = (116 : Int32)
  · replace h := if_t c1_5 h
    refine lv_tableIn (off := 125) (tgt := 126) hx hb dX0_isName_1 (by rw [c1_5]; decide) (by rw [c1_5]; decide) (by rw [c1_5]; decide) (by decide) ?_
    refine lv_aload_n hx hb dX0_isName_126 rfl (lv_at hl 0 rfl) ?_
    refine c_get S hw (n := 0) (ci := 0) (cOk.s (by decide)) (isO_K _) rfl in_X0 16 (by decide) (Or.inl q340) rfl rfl dX0_isName_127 ?_
    refine lv_iconst (v := (2 : Int32)) hx hb dX0_isName_130 (by decide) ?_
    refine lv_icmp_ne (tgt := 138) hx hb dX0_isName_131 (by decide) (fun c131 => ?_) (fun c131 => ?_)
    · replace h := if_f c131 h
      refine lv_iconst (v := (0 : Int32)) hx hb dX0_isName_138 (by decide) ?_
      exact c_zret S hr hlk hw (Or.inl rfl) h dX0_isName_139
    · replace h := if_t c131 h
      refine lv_iconst (v := (1 : Int32)) hx hb dX0_isName_134 (by decide) ?_
      refine lv_goto (tgt := 139) hx hb dX0_isName_135 (by decide) ?_
      exact c_zret S hr hlk hw (Or.inr rfl) h dX0_isName_139
  replace h := if_f c1_5 h
  have hout : x1.toInt < 97 ∨ 116 < x1.toInt ∨ (#[125, 139, 139, 139, 139, 139, 139, 139, 139, 139, 139, 111, 139, 95, 139, 139, 139, 125, 97, 125] : Array Int)[(x1.toInt - 97).toNat]? = some 139 := by
    have n0 := lv_neT c1_0 (a := 97) (by decide)
    have n1 := lv_neT c1_1 (a := 108) (by decide)
    have n2 := lv_neT c1_2 (a := 110) (by decide)
    have n3 := lv_neT c1_3 (a := 114) (by decide)
    have n4 := lv_neT c1_4 (a := 115) (by decide)
    have n5 := lv_neT c1_5 (a := 116) (by decide)
    by_cases h1 : x1.toInt < 97
    · exact Or.inl h1
    by_cases h2 : 116 < x1.toInt
    · exact Or.inr (Or.inl h2)
    exact Or.inr (Or.inr ((by decide : ∀ t : Nat, t < 20 → t ∉ [0, 11, 13, 17, 18, 19] → (#[125, 139, 139, 139, 139, 139, 139, 139, 139, 139, 139, 111, 139, 95, 139, 139, 139, 125, 97, 125] : Array Int)[t]? = some 139) _ (by omega) (by simp only [List.mem_cons, List.not_mem_nil, or_false, not_or]; omega)))
  refine lv_tableD (tgt := 140) hx hb dX0_isName_1 hout (by decide) ?_
  refine lv_iconst (v := (0 : Int32)) hx hb dX0_isName_140 (by decide) ?_
  exact c_zret S hr hlk hw (Or.inl rfl) h dX0_isName_141
theorem ctC_X0_isName (l : Launch) (D : va_G) (dA : Nat → ClassId) (ad : Nat → Nat) (fv : Nat → Value) (A : Nat → Prop) (a : CS) (x1 : Int32) (Q : Int32 → CS → Prop) (h : wpC_X0_isName a x1 Q) : Met l yX0_isName (ws_ yX0_isName cX0_isName 2 (some .boolean)) rmC_X0_isName (cPc D dA ad fv A a [.ref (ad 0), .int x1]) (cQi D dA ad fv A Q) 0 0 A :=
  c_met (by decide) rfl rfl rfl (Nat.le_of_ble_eq_true rfl) (fun p e s m below meth c ls S hr hlk hin2 hw hl => wkC_X0_isName_e S hr hlk Q x1 a _ _ ls h hw hl)
theorem cwC_X0_X0_isName {R : Room} {s : State} {args : Array Value} {rm : Room} (hts : ∀ w ∈ lw_all, w.before args s = true) (hR : rm.frames + 1 ≤ R.frames ∧ 8 + (2 + 11) + rm.locals ≤ R.locals) (hc : rm.cells = 0 := by rfl) (hs : rm.slots = 0 := by rfl) : CallW R s args RX0 RX0 242 yX0_isName cX0_isName 2 (some .boolean) (ws_ yX0_isName cX0_isName 2 (some .boolean)) rm 0 0 1 :=
  cwV 1 hts (lw_V q576 q578 qs16 q103 q579) rfl hc hs (by decide +kernel) hR
/-! X0.counts -/
abbrev rmC_X0_counts : Room := { frames := 0, cells := 0, slots := 0, locals := 0 }
def bkC_X0_counts_4 (Q : Int32 → CS → Prop) (x1 : Int32) : Nat → Int32 → Int32 → CS → Prop
  | 0 => fun _ _ _ => False
  | n + 1 => fun x2 x3 a => if (a.1 1 8) ≤ x3 then (Q x2 a) else ((vp_in x3 14) ∧ ((kindK a (a.2.1 61 x3.toNatClampNeg) 114) ∧ (if (a.1 (a.2.1 61 x3.toNatClampNeg) 0) = x1 then (bkC_X0_counts_4 Q x1 n x3 (x3 + (1 : Int32)) a) else (bkC_X0_counts_4 Q x1 n x2 (x3 + (1 : Int32)) a))))
set_option maxHeartbeats 4000000 in
set_option maxRecDepth 100000 in
theorem wkC_X0_counts_4 (S : CallFix p m c cX0_counts 4 s args lw_all RX0) (hr : meth.sig.returnType = (some .int)) (hlk : meth.locks = false) (Q : Int32 → CS → Prop) (x1 : Int32) : ∀ (n : Nat) (x2 : Int32) (x3 : Int32) (a : CS) (H : Heap) (locs : List Loc) (ls : Array Slot), bkC_X0_counts_4 Q x1 n x2 x3 a → CW D dA ad fv A a s H locs → lv_has ls 4 [(0, .ref (ad 0)), (1, .int x1), (2, .int x2), (3, .int x3)] → W p l e rmC_X0_counts s m args below meth c H locs 0 0 (MQ below (cQi D dA ad fv A Q) args s 0 0 A) (F0 m 4 ls []) := by
  have hx := S.1
  have hb := S.2.1
  have hown := S.2.2.2.1
  have hts := S.2.2.2.2
  intro n
  induction n with
  | zero =>
    intro x2 x3 a H locs ls h
    exact False.elim h
  | succ n ih =>
    intro x2 x3 a H locs ls h hw hl
    unfold bkC_X0_counts_4 at h
    refine lv_iload_n hx hb dX0_counts_4 rfl (lv_at hl 3 rfl) ?_
    refine lv_aload_n hx hb dX0_counts_5 rfl (lv_at hl 0 rfl) ?_
    refine c_get S hw (n := 0) (ci := 0) (cOk.s (by decide)) (isO_K _) rfl in_X0 0 (by decide) (Or.inl q324) rfl rfl dX0_counts_6 ?_
    refine c_get S hw (n := 1) (cOk.s (by decide)) ((isO_S (by decide) (by decide)) _) rfl in_X1 8 (by decide) (Or.inr (List.mem_of_getElem? (i := 19) rfl)) rfl rfl dX0_counts_9 ?_
    refine lv_icmp_ge (tgt := 43) hx hb dX0_counts_12 (by decide) (fun c12 => ?_) (fun c12 => ?_)
    · replace h := if_t c12 h
      refine lv_iload_n hx hb dX0_counts_43 rfl (lv_at hl 2 rfl) ?_
      exact c_iret S hr hlk hw h dX0_counts_44
    · replace h := if_f c12 h
      refine lv_aload_n hx hb dX0_counts_15 rfl (lv_at hl 0 rfl) ?_
      refine c_get S hw (n := 0) (ci := 0) (cOk.s (by decide)) (isO_K _) rfl in_X0 0 (by decide) (Or.inl q324) rfl rfl dX0_counts_16 ?_
      refine c_get S hw (n := 1) (cOk.s (by decide)) ((isO_S (by decide) (by decide)) _) rfl in_X1 9 (by decide) (Or.inr (List.mem_of_getElem? (i := 20) rfl)) rfl rfl dX0_counts_19 ?_
      refine lv_iload_n hx hb dX0_counts_22 rfl (lv_at hl 3 rfl) ?_
      have hi23 := h.1
      replace h := h.2
      have hk23_0 := h.1
      replace h := h.2
      refine c_aald S hw (n := 61) (cOk.s (by decide)) ((isR_tx (by decide) (by decide)) _) rfl hi23 (rv_n hk23_0.ne) dX0_counts_23 ?_
      refine c_get S hw (n := (a.2.1 61 x3.toNatClampNeg)) (hk23_0.ok (by decide)) ((isO_T hk23_0) _) rfl in_X14 0 (by decide) (Or.inr (List.mem_of_getElem? (i := 32) rfl)) rfl rfl dX0_counts_24 ?_
      refine lv_iload_n hx hb dX0_counts_27 rfl (lv_at hl 1 rfl) ?_
      refine lv_icmp_ne (tgt := 35) hx hb dX0_counts_28 (by decide) (fun c28 => ?_) (fun c28 => ?_)
      · replace h := if_f c28 h
        refine lv_iload_n hx hb dX0_counts_35 rfl (lv_at hl 2 rfl) ?_
        refine lv_istore_n (lv' := [(2, .int x2), (0, .ref (ad 0)), (1, .int x1), (3, .int x3)]) hx hb dX0_counts_36 rfl hl (by decide) rfl (fun ls hl => ?_)
        refine lv_iinc (v := (x3 + (1 : Int32))) (lv' := [(3, .int (x3 + (1 : Int32))), (2, .int x2), (0, .ref (ad 0)), (1, .int x1)]) hx hb dX0_counts_37 hl (k := 3) rfl rfl (by decide) rfl (fun ls hl => ?_)
        refine lv_goto (tgt := 4) hx hb dX0_counts_40 (by decide) ?_
        exact ih _ _ _ _ _ _ h hw (lv_sub hl [2, 3, 1, 0] rfl)
      · replace h := if_t c28 h
        refine lv_iload_n hx hb dX0_counts_31 rfl (lv_at hl 3 rfl) ?_
        refine lv_goto (tgt := 36) hx hb dX0_counts_32 (by decide) ?_
        refine lv_istore_n (lv' := [(2, .int x3), (0, .ref (ad 0)), (1, .int x1), (3, .int x3)]) hx hb dX0_counts_36 rfl hl (by decide) rfl (fun ls hl => ?_)
        refine lv_iinc (v := (x3 + (1 : Int32))) (lv' := [(3, .int (x3 + (1 : Int32))), (2, .int x3), (0, .ref (ad 0)), (1, .int x1)]) hx hb dX0_counts_37 hl (k := 3) rfl rfl (by decide) rfl (fun ls hl => ?_)
        refine lv_goto (tgt := 4) hx hb dX0_counts_40 (by decide) ?_
        exact ih _ _ _ _ _ _ h hw (lv_sub hl [2, 3, 1, 0] rfl)
def wpC_X0_counts (a : CS) (x1 : Int32) (Q : Int32 → CS → Prop) : Prop := ∃ n4, bkC_X0_counts_4 Q x1 n4 (-1 : Int32) (0 : Int32) a
set_option maxHeartbeats 4000000 in
set_option maxRecDepth 100000 in
theorem wkC_X0_counts_e (S : CallFix p m c cX0_counts 4 s args lw_all RX0) (hr : meth.sig.returnType = (some .int)) (hlk : meth.locks = false) (Q : Int32 → CS → Prop) (x1 : Int32) (a : CS) (H : Heap) (locs : List Loc) (ls : Array Slot) (h : wpC_X0_counts a x1 Q) (hw : CW D dA ad fv A a s H locs) (hl : lv_has ls 4 [(0, .ref (ad 0)), (1, .int x1)]) : W p l e rmC_X0_counts s m args below meth c H locs 0 0 (MQ below (cQi D dA ad fv A Q) args s 0 0 A) (F0 m 0 ls []) := by
  have hx := S.1
  have hb := S.2.1
  have hown := S.2.2.2.1
  have hts := S.2.2.2.2
  unfold wpC_X0_counts at h
  refine lv_iconst (v := (-1 : Int32)) hx hb dX0_counts_0 (by decide) ?_
  refine lv_istore_n (lv' := [(2, .int (-1 : Int32)), (0, .ref (ad 0)), (1, .int x1)]) hx hb dX0_counts_1 rfl hl (by decide) rfl (fun ls hl => ?_)
  refine lv_iconst (v := (0 : Int32)) hx hb dX0_counts_2 (by decide) ?_
  refine lv_istore_n (lv' := [(3, .int (0 : Int32)), (2, .int (-1 : Int32)), (0, .ref (ad 0)), (1, .int x1)]) hx hb dX0_counts_3 rfl hl (by decide) rfl (fun ls hl => ?_)
  obtain ⟨n4, h⟩ := h
  exact wkC_X0_counts_4 S hr hlk Q x1 n4 _ _ _ _ _ _ h hw (lv_sub hl [2, 3, 1, 0] rfl)
theorem ctC_X0_counts (l : Launch) (D : va_G) (dA : Nat → ClassId) (ad : Nat → Nat) (fv : Nat → Value) (A : Nat → Prop) (a : CS) (x1 : Int32) (Q : Int32 → CS → Prop) (h : wpC_X0_counts a x1 Q) : Met l yX0_counts (ws_ yX0_counts cX0_counts 4 (some .int)) rmC_X0_counts (cPc D dA ad fv A a [.ref (ad 0), .int x1]) (cQi D dA ad fv A Q) 0 0 A :=
  c_met (by decide) rfl rfl rfl (Nat.le_of_ble_eq_true rfl) (fun p e s m below meth c ls S hr hlk hin2 hw hl => wkC_X0_counts_e S hr hlk Q x1 a _ _ ls h hw hl)
theorem cwC_X0_X0_counts {R : Room} {s : State} {args : Array Value} {rm : Room} (hts : ∀ w ∈ lw_all, w.before args s = true) (hR : rm.frames + 1 ≤ R.frames ∧ 8 + (4 + 11) + rm.locals ≤ R.locals) (hc : rm.cells = 0 := by rfl) (hs : rm.slots = 0 := by rfl) : CallW R s args RX0 RX0 281 yX0_counts cX0_counts 4 (some .int) (ws_ yX0_counts cX0_counts 4 (some .int)) rm 0 0 1 :=
  cwV 1 hts (lw_V q607 q609 qs17 q103 q610) rfl hc hs (by decide +kernel) hR
/-! X0.why -/
abbrev rmC_X0_why : Room := { frames := 1, cells := 0, slots := 0, locals := 23 }
def wpC_X0_why (a : CS) (x1 : Int32) (Q : Int32 → CS → Prop) : Prop := wpC_X0_isIn a x1 (0 : Int32) (2 : Int32) (fun r3 a3 => if r3 = 0 then (Q (-1000000001 : Int32) a3) else (wpC_X0_counts a3 x1 (fun r11 a11 => wpC_X0_orNone a11 r11 (fun r14 a14 => Q r14 a14))))
set_option maxHeartbeats 4000000 in
set_option maxRecDepth 100000 in
theorem wkC_X0_why_e (S : CallFix p m c cX0_why 2 s args lw_all RX0) (hr : meth.sig.returnType = (some .int)) (hlk : meth.locks = false) (Q : Int32 → CS → Prop) (x1 : Int32) (a : CS) (H : Heap) (locs : List Loc) (ls : Array Slot) (h : wpC_X0_why a x1 Q) (hw : CW D dA ad fv A a s H locs) (hl : lv_has ls 2 [(0, .ref (ad 0)), (1, .int x1)]) : W p l e rmC_X0_why s m args below meth c H locs 0 0 (MQ below (cQi D dA ad fv A Q) args s 0 0 A) (F0 m 0 ls []) := by
  have hx := S.1
  have hb := S.2.1
  have hown := S.2.2.2.1
  have hts := S.2.2.2.2
  unfold wpC_X0_why at h
  refine lv_iload_n hx hb dX0_why_0 rfl (lv_at hl 1 rfl) ?_
  refine lv_iconst (v := (0 : Int32)) hx hb dX0_why_1 (by decide) ?_
  refine lv_iconst (v := (2 : Int32)) hx hb dX0_why_2 (by decide) ?_
  refine c_calli hw (va_runS (As := [.int x1, .int (0 : Int32), .int (2 : Int32)]) (rest := []) S (ctC_X0_isIn l D dA ad fv A a x1 (0 : Int32) (2 : Int32) _ h) (cwC_X0_X0_isIn hts ⟨Nat.le_of_ble_eq_true rfl, Nat.le_of_ble_eq_true rfl⟩) (c_preS hw) rfl rfl hl.1 rfl (lv_room (Nat.le_of_ble_eq_true rfl)) dX0_why_3 ⟨Nat.le_of_ble_eq_true rfl, Nat.le_of_ble_eq_true rfl⟩) (fun r3 a3 H locs h hw => ?_)
  refine lv_if_eq (tgt := 20) hx hb dX0_why_6 (by decide) (fun c6 => ?_) (fun c6 => ?_)
  · replace h := if_t c6 h
    refine lv_ldc hx hb hown (hts _ q435) dX0_why_20 ?_
    exact c_iret S hr hlk hw h dX0_why_22
  · replace h := if_f c6 h
    refine lv_aload_n hx hb dX0_why_9 rfl (lv_at hl 0 rfl) ?_
    refine lv_iload_n hx hb dX0_why_10 rfl (lv_at hl 1 rfl) ?_
    refine c_calli hw (va_runV (As := [.int x1]) (rest := []) S (ctC_X0_counts l D dA ad fv A a3 x1 _ h) (cwC_X0_X0_counts hts ⟨Nat.le_of_ble_eq_true rfl, Nat.le_of_ble_eq_true rfl⟩) (c_preV hw (n := 0) (cOk.s (by decide)) (isO_K _) rfl) rfl rfl hl.1 rfl (lv_room (Nat.le_of_ble_eq_true rfl)) dX0_why_11 ⟨Nat.le_of_ble_eq_true rfl, Nat.le_of_ble_eq_true rfl⟩) (fun r11 a11 H locs h hw => ?_)
    refine c_calli hw (va_runS (As := [.int r11]) (rest := []) S (ctC_X0_orNone l D dA ad fv A a11 r11 _ h) (cwC_X0_X0_orNone hts ⟨Nat.le_of_ble_eq_true rfl, Nat.le_of_ble_eq_true rfl⟩) (c_preS hw) rfl rfl hl.1 rfl (lv_room (Nat.le_of_ble_eq_true rfl)) dX0_why_14 ⟨Nat.le_of_ble_eq_true rfl, Nat.le_of_ble_eq_true rfl⟩) (fun r14 a14 H locs h hw => ?_)
    refine lv_goto (tgt := 22) hx hb dX0_why_17 (by decide) ?_
    exact c_iret S hr hlk hw h dX0_why_22
theorem ctC_X0_why (l : Launch) (D : va_G) (dA : Nat → ClassId) (ad : Nat → Nat) (fv : Nat → Value) (A : Nat → Prop) (a : CS) (x1 : Int32) (Q : Int32 → CS → Prop) (h : wpC_X0_why a x1 Q) : Met l yX0_why (ws_ yX0_why cX0_why 2 (some .int)) rmC_X0_why (cPc D dA ad fv A a [.ref (ad 0), .int x1]) (cQi D dA ad fv A Q) 0 0 A :=
  c_met (by decide) rfl rfl rfl (Nat.le_of_ble_eq_true rfl) (fun p e s m below meth c ls S hr hlk hin2 hw hl => wkC_X0_why_e S hr hlk Q x1 a _ _ ls h hw hl)
/-! X0.textTold -/
abbrev rmC_X0_textTold : Room := { frames := 1, cells := 0, slots := 0, locals := 22 }
def wpC_X0_textTold (a : CS) (x1 : Int32) (x2 : Int32) (Q : Int32 → CS → Prop) : Prop := wpC_X0_isIn a x1 (0 : Int32) ((a.1 1 8) - (1 : Int32)) (fun r11 a11 => if r11 = 0 then (Q (-1000000001 : Int32) a11) else (wpC_X0_isIn a11 x2 (0 : Int32) (1 : Int32) (fun r20 a20 => if r20 = 0 then (Q (-1000000001 : Int32) a20) else (if x2 = 0 then ((vp_in x1 14) ∧ ((kindK a20 (a20.2.1 61 x1.toNatClampNeg) 114) ∧ (Q (a20.1 (a20.2.1 61 x1.toNatClampNeg) 0) a20))) else ((vp_in x1 14) ∧ ((kindK a20 (a20.2.1 61 x1.toNatClampNeg) 114) ∧ (Q (a20.1 (a20.2.1 61 x1.toNatClampNeg) 2) a20)))))))
set_option maxHeartbeats 4000000 in
set_option maxRecDepth 100000 in
theorem wkC_X0_textTold_e (S : CallFix p m c cX0_textTold 3 s args lw_all RX0) (hr : meth.sig.returnType = (some .int)) (hlk : meth.locks = false) (Q : Int32 → CS → Prop) (x1 : Int32) (x2 : Int32) (a : CS) (H : Heap) (locs : List Loc) (ls : Array Slot) (h : wpC_X0_textTold a x1 x2 Q) (hw : CW D dA ad fv A a s H locs) (hl : lv_has ls 3 [(0, .ref (ad 0)), (1, .int x1), (2, .int x2)]) : W p l e rmC_X0_textTold s m args below meth c H locs 0 0 (MQ below (cQi D dA ad fv A Q) args s 0 0 A) (F0 m 0 ls []) := by
  have hx := S.1
  have hb := S.2.1
  have hown := S.2.2.2.1
  have hts := S.2.2.2.2
  unfold wpC_X0_textTold at h
  refine lv_iload_n hx hb dX0_textTold_0 rfl (lv_at hl 1 rfl) ?_
  refine lv_iconst (v := (0 : Int32)) hx hb dX0_textTold_1 (by decide) ?_
  refine lv_aload_n hx hb dX0_textTold_2 rfl (lv_at hl 0 rfl) ?_
  refine c_get S hw (n := 0) (ci := 0) (cOk.s (by decide)) (isO_K _) rfl in_X0 0 (by decide) (Or.inl q324) rfl rfl dX0_textTold_3 ?_
  refine c_get S hw (n := 1) (cOk.s (by decide)) ((isO_S (by decide) (by decide)) _) rfl in_X1 8 (by decide) (Or.inr (List.mem_of_getElem? (i := 19) rfl)) rfl rfl dX0_textTold_6 ?_
  refine lv_iconst (v := (1 : Int32)) hx hb dX0_textTold_9 (by decide) ?_
  refine lv_isub hx hb dX0_textTold_10 ?_
  refine c_calli hw (va_runS (As := [.int x1, .int (0 : Int32), .int ((a.1 1 8) - (1 : Int32))]) (rest := []) S (ctC_X0_isIn l D dA ad fv A a x1 (0 : Int32) ((a.1 1 8) - (1 : Int32)) _ h) (cwC_X0_X0_isIn hts ⟨Nat.le_of_ble_eq_true rfl, Nat.le_of_ble_eq_true rfl⟩) (c_preS hw) rfl rfl hl.1 rfl (lv_room (Nat.le_of_ble_eq_true rfl)) dX0_textTold_11 ⟨Nat.le_of_ble_eq_true rfl, Nat.le_of_ble_eq_true rfl⟩) (fun r11 a11 H locs h hw => ?_)
  refine lv_if_eq (tgt := 26) hx hb dX0_textTold_14 (by decide) (fun c14 => ?_) (fun c14 => ?_)
  · replace h := if_t c14 h
    refine lv_ldc hx hb hown (hts _ q435) dX0_textTold_26 ?_
    exact c_iret S hr hlk hw h dX0_textTold_28
  · replace h := if_f c14 h
    refine lv_iload_n hx hb dX0_textTold_17 rfl (lv_at hl 2 rfl) ?_
    refine lv_iconst (v := (0 : Int32)) hx hb dX0_textTold_18 (by decide) ?_
    refine lv_iconst (v := (1 : Int32)) hx hb dX0_textTold_19 (by decide) ?_
    refine c_calli hw (va_runS (As := [.int x2, .int (0 : Int32), .int (1 : Int32)]) (rest := []) S (ctC_X0_isIn l D dA ad fv A a11 x2 (0 : Int32) (1 : Int32) _ h) (cwC_X0_X0_isIn hts ⟨Nat.le_of_ble_eq_true rfl, Nat.le_of_ble_eq_true rfl⟩) (c_preS hw) rfl rfl hl.1 rfl (lv_room (Nat.le_of_ble_eq_true rfl)) dX0_textTold_20 ⟨Nat.le_of_ble_eq_true rfl, Nat.le_of_ble_eq_true rfl⟩) (fun r20 a20 H locs h hw => ?_)
    refine lv_if_ne (tgt := 29) hx hb dX0_textTold_23 (by decide) (fun c23 => ?_) (fun c23 => ?_)
    · replace h := if_f c23 h
      refine lv_iload_n hx hb dX0_textTold_29 rfl (lv_at hl 2 rfl) ?_
      refine lv_if_ne (tgt := 48) hx hb dX0_textTold_30 (by decide) (fun c30 => ?_) (fun c30 => ?_)
      · replace h := if_f c30 h
        refine lv_aload_n hx hb dX0_textTold_48 rfl (lv_at hl 0 rfl) ?_
        refine c_get S hw (n := 0) (ci := 0) (cOk.s (by decide)) (isO_K _) rfl in_X0 0 (by decide) (Or.inl q324) rfl rfl dX0_textTold_49 ?_
        refine c_get S hw (n := 1) (cOk.s (by decide)) ((isO_S (by decide) (by decide)) _) rfl in_X1 9 (by decide) (Or.inr (List.mem_of_getElem? (i := 20) rfl)) rfl rfl dX0_textTold_52 ?_
        refine lv_iload_n hx hb dX0_textTold_55 rfl (lv_at hl 1 rfl) ?_
        have hi56 := h.1
        replace h := h.2
        have hk56_0 := h.1
        replace h := h.2
        refine c_aald S hw (n := 61) (cOk.s (by decide)) ((isR_tx (by decide) (by decide)) _) rfl hi56 (rv_n hk56_0.ne) dX0_textTold_56 ?_
        refine c_get S hw (n := (a20.2.1 61 x1.toNatClampNeg)) (hk56_0.ok (by decide)) ((isO_T hk56_0) _) rfl in_X14 2 (by decide) (Or.inr (List.mem_of_getElem? (i := 34) rfl)) rfl rfl dX0_textTold_57 ?_
        exact c_iret S hr hlk hw h dX0_textTold_60
      · replace h := if_t c30 h
        refine lv_aload_n hx hb dX0_textTold_33 rfl (lv_at hl 0 rfl) ?_
        refine c_get S hw (n := 0) (ci := 0) (cOk.s (by decide)) (isO_K _) rfl in_X0 0 (by decide) (Or.inl q324) rfl rfl dX0_textTold_34 ?_
        refine c_get S hw (n := 1) (cOk.s (by decide)) ((isO_S (by decide) (by decide)) _) rfl in_X1 9 (by decide) (Or.inr (List.mem_of_getElem? (i := 20) rfl)) rfl rfl dX0_textTold_37 ?_
        refine lv_iload_n hx hb dX0_textTold_40 rfl (lv_at hl 1 rfl) ?_
        have hi41 := h.1
        replace h := h.2
        have hk41_0 := h.1
        replace h := h.2
        refine c_aald S hw (n := 61) (cOk.s (by decide)) ((isR_tx (by decide) (by decide)) _) rfl hi41 (rv_n hk41_0.ne) dX0_textTold_41 ?_
        refine c_get S hw (n := (a20.2.1 61 x1.toNatClampNeg)) (hk41_0.ok (by decide)) ((isO_T hk41_0) _) rfl in_X14 0 (by decide) (Or.inr (List.mem_of_getElem? (i := 32) rfl)) rfl rfl dX0_textTold_42 ?_
        refine lv_goto (tgt := 60) hx hb dX0_textTold_45 (by decide) ?_
        exact c_iret S hr hlk hw h dX0_textTold_60
    · replace h := if_t c23 h
      refine lv_ldc hx hb hown (hts _ q435) dX0_textTold_26 ?_
      exact c_iret S hr hlk hw h dX0_textTold_28
theorem ctC_X0_textTold (l : Launch) (D : va_G) (dA : Nat → ClassId) (ad : Nat → Nat) (fv : Nat → Value) (A : Nat → Prop) (a : CS) (x1 : Int32) (x2 : Int32) (Q : Int32 → CS → Prop) (h : wpC_X0_textTold a x1 x2 Q) : Met l yX0_textTold (ws_ yX0_textTold cX0_textTold 3 (some .int)) rmC_X0_textTold (cPc D dA ad fv A a [.ref (ad 0), .int x1, .int x2]) (cQi D dA ad fv A Q) 0 0 A :=
  c_met (by decide) rfl rfl rfl (Nat.le_of_ble_eq_true rfl) (fun p e s m below meth c ls S hr hlk hin2 hw hl => wkC_X0_textTold_e S hr hlk Q x1 x2 a _ _ ls h hw hl)
/-! X0.isSize -/
abbrev rmC_X0_isSize : Room := { frames := 1, cells := 0, slots := 0, locals := 22 }
def wpC_X0_isSize (a : CS) (x0 : Int32) (Q : Int32 → CS → Prop) : Prop := wpC_X0_isIn a x0 (1 : Int32) (9 : Int32) (fun r4 a4 => zok r4 ∧ Q r4 a4)
set_option maxHeartbeats 4000000 in
set_option maxRecDepth 100000 in
theorem wkC_X0_isSize_e (S : CallFix p m c cX0_isSize 1 s args lw_all RX0) (hr : meth.sig.returnType = (some .boolean)) (hlk : meth.locks = false) (Q : Int32 → CS → Prop) (x0 : Int32) (a : CS) (H : Heap) (locs : List Loc) (ls : Array Slot) (h : wpC_X0_isSize a x0 Q) (hw : CW D dA ad fv A a s H locs) (hl : lv_has ls 1 [(0, .int x0)]) : W p l e rmC_X0_isSize s m args below meth c H locs 0 0 (MQ below (cQi D dA ad fv A Q) args s 0 0 A) (F0 m 0 ls []) := by
  have hx := S.1
  have hb := S.2.1
  have hown := S.2.2.2.1
  have hts := S.2.2.2.2
  unfold wpC_X0_isSize at h
  refine lv_iload_n hx hb dX0_isSize_0 rfl (lv_at hl 0 rfl) ?_
  refine lv_iconst (v := (1 : Int32)) hx hb dX0_isSize_1 (by decide) ?_
  refine lv_bipush (v := (9 : Int32)) hx hb dX0_isSize_2 (by decide) ?_
  refine c_calli hw (va_runS (As := [.int x0, .int (1 : Int32), .int (9 : Int32)]) (rest := []) S (ctC_X0_isIn l D dA ad fv A a x0 (1 : Int32) (9 : Int32) _ h) (cwC_X0_X0_isIn hts ⟨Nat.le_of_ble_eq_true rfl, Nat.le_of_ble_eq_true rfl⟩) (c_preS hw) rfl rfl hl.1 rfl (lv_room (Nat.le_of_ble_eq_true rfl)) dX0_isSize_4 ⟨Nat.le_of_ble_eq_true rfl, Nat.le_of_ble_eq_true rfl⟩) (fun r4 a4 H locs h hw => ?_)
  exact c_zret S hr hlk hw h.1 h.2 dX0_isSize_7
theorem ctC_X0_isSize (l : Launch) (D : va_G) (dA : Nat → ClassId) (ad : Nat → Nat) (fv : Nat → Value) (A : Nat → Prop) (a : CS) (x0 : Int32) (Q : Int32 → CS → Prop) (h : wpC_X0_isSize a x0 Q) : Met l yX0_isSize (ws_ yX0_isSize cX0_isSize 1 (some .boolean)) rmC_X0_isSize (cPc D dA ad fv A a [.int x0]) (cQi D dA ad fv A Q) 0 0 A :=
  c_met (by decide) rfl rfl rfl (Nat.le_of_ble_eq_true rfl) (fun p e s m below meth c ls S hr hlk hin2 hw hl => wkC_X0_isSize_e S hr hlk Q x0 a _ _ ls h hw hl)
theorem cwC_X0_X0_isSize {R : Room} {s : State} {args : Array Value} {rm : Room} (hts : ∀ w ∈ lw_all, w.before args s = true) (hR : rm.frames + 1 ≤ R.frames ∧ 8 + (1 + 11) + rm.locals ≤ R.locals) (hc : rm.cells = 0 := by rfl) (hs : rm.slots = 0 := by rfl) : CallB R s args RX0 311 yX0_isSize cX0_isSize 1 (some .boolean) (ws_ yX0_isSize cX0_isSize 1 (some .boolean)) rm 0 0 1 ∧ (Cond.static yX0_isSize).before args s = true :=
  va_cwS 1 hts (lw_S q619 q620 q103 q621) rfl hc hs (by decide +kernel) hR
/-! X0.leaningOn -/
abbrev rmC_X0_leaningOn : Room := { frames := 0, cells := 0, slots := 0, locals := 0 }
def bkC_X0_leaningOn_4 (Q : Int32 → CS → Prop) (x1 : Int32) : Nat → Int32 → Int32 → CS → Prop
  | 0 => fun _ _ _ => False
  | n + 1 => fun x2 x3 a => if (a.1 1 1) ≤ x3 then (Q x2 a) else ((vp_in x3 8) ∧ ((leafK a (a.2.1 41 x3.toNatClampNeg)) ∧ (if (a.1 (a.2.1 41 x3.toNatClampNeg) 3) = x1 then (bkC_X0_leaningOn_4 Q x1 n (x2 + (1 : Int32)) (x3 + (1 : Int32)) a) else (bkC_X0_leaningOn_4 Q x1 n (x2 + (0 : Int32)) (x3 + (1 : Int32)) a))))
set_option maxHeartbeats 4000000 in
set_option maxRecDepth 100000 in
theorem wkC_X0_leaningOn_4 (S : CallFix p m c cX0_leaningOn 4 s args lw_all RX0) (hr : meth.sig.returnType = (some .int)) (hlk : meth.locks = false) (Q : Int32 → CS → Prop) (x1 : Int32) : ∀ (n : Nat) (x2 : Int32) (x3 : Int32) (a : CS) (H : Heap) (locs : List Loc) (ls : Array Slot), bkC_X0_leaningOn_4 Q x1 n x2 x3 a → CW D dA ad fv A a s H locs → lv_has ls 4 [(0, .ref (ad 0)), (1, .int x1), (2, .int x2), (3, .int x3)] → W p l e rmC_X0_leaningOn s m args below meth c H locs 0 0 (MQ below (cQi D dA ad fv A Q) args s 0 0 A) (F0 m 4 ls []) := by
  have hx := S.1
  have hb := S.2.1
  have hown := S.2.2.2.1
  have hts := S.2.2.2.2
  intro n
  induction n with
  | zero =>
    intro x2 x3 a H locs ls h
    exact False.elim h
  | succ n ih =>
    intro x2 x3 a H locs ls h hw hl
    unfold bkC_X0_leaningOn_4 at h
    refine lv_iload_n hx hb dX0_leaningOn_4 rfl (lv_at hl 3 rfl) ?_
    refine lv_aload_n hx hb dX0_leaningOn_5 rfl (lv_at hl 0 rfl) ?_
    refine c_get S hw (n := 0) (ci := 0) (cOk.s (by decide)) (isO_K _) rfl in_X0 0 (by decide) (Or.inl q324) rfl rfl dX0_leaningOn_6 ?_
    refine c_get S hw (n := 1) (cOk.s (by decide)) ((isO_S (by decide) (by decide)) _) rfl in_X1 1 (by decide) (Or.inr (List.mem_of_getElem? (i := 12) rfl)) rfl rfl dX0_leaningOn_9 ?_
    refine lv_icmp_ge (tgt := 45) hx hb dX0_leaningOn_12 (by decide) (fun c12 => ?_) (fun c12 => ?_)
    · replace h := if_t c12 h
      refine lv_iload_n hx hb dX0_leaningOn_45 rfl (lv_at hl 2 rfl) ?_
      exact c_iret S hr hlk hw h dX0_leaningOn_46
    · replace h := if_f c12 h
      refine lv_iload_n hx hb dX0_leaningOn_15 rfl (lv_at hl 2 rfl) ?_
      refine lv_aload_n hx hb dX0_leaningOn_16 rfl (lv_at hl 0 rfl) ?_
      refine c_get S hw (n := 0) (ci := 0) (cOk.s (by decide)) (isO_K _) rfl in_X0 0 (by decide) (Or.inl q324) rfl rfl dX0_leaningOn_17 ?_
      refine c_get S hw (n := 1) (cOk.s (by decide)) ((isO_S (by decide) (by decide)) _) rfl in_X1 2 (by decide) (Or.inr (List.mem_of_getElem? (i := 13) rfl)) rfl rfl dX0_leaningOn_20 ?_
      refine lv_iload_n hx hb dX0_leaningOn_23 rfl (lv_at hl 3 rfl) ?_
      have hi24 := h.1
      replace h := h.2
      have hk24_0 := h.1
      replace h := h.2
      refine c_aald S hw (n := 41) (cOk.s (by decide)) ((isR_lf (by decide) (by decide)) _) rfl hi24 (rv_n hk24_0.ne) dX0_leaningOn_24 ?_
      refine c_lget S hw hk24_0 3 (by decide) (Or.inl q653) dX0_leaningOn_25 ?_
      refine lv_iload_n hx hb dX0_leaningOn_28 rfl (lv_at hl 1 rfl) ?_
      refine lv_icmp_ne (tgt := 36) hx hb dX0_leaningOn_29 (by decide) (fun c29 => ?_) (fun c29 => ?_)
      · replace h := if_f c29 h
        refine lv_iconst (v := (0 : Int32)) hx hb dX0_leaningOn_36 (by decide) ?_
        refine lv_iadd hx hb dX0_leaningOn_37 ?_
        refine lv_istore_n (lv' := [(2, .int (x2 + (0 : Int32))), (0, .ref (ad 0)), (1, .int x1), (3, .int x3)]) hx hb dX0_leaningOn_38 rfl hl (by decide) rfl (fun ls hl => ?_)
        refine lv_iinc (v := (x3 + (1 : Int32))) (lv' := [(3, .int (x3 + (1 : Int32))), (2, .int (x2 + (0 : Int32))), (0, .ref (ad 0)), (1, .int x1)]) hx hb dX0_leaningOn_39 hl (k := 3) rfl rfl (by decide) rfl (fun ls hl => ?_)
        refine lv_goto (tgt := 4) hx hb dX0_leaningOn_42 (by decide) ?_
        exact ih _ _ _ _ _ _ h hw (lv_sub hl [2, 3, 1, 0] rfl)
      · replace h := if_t c29 h
        refine lv_iconst (v := (1 : Int32)) hx hb dX0_leaningOn_32 (by decide) ?_
        refine lv_goto (tgt := 37) hx hb dX0_leaningOn_33 (by decide) ?_
        refine lv_iadd hx hb dX0_leaningOn_37 ?_
        refine lv_istore_n (lv' := [(2, .int (x2 + (1 : Int32))), (0, .ref (ad 0)), (1, .int x1), (3, .int x3)]) hx hb dX0_leaningOn_38 rfl hl (by decide) rfl (fun ls hl => ?_)
        refine lv_iinc (v := (x3 + (1 : Int32))) (lv' := [(3, .int (x3 + (1 : Int32))), (2, .int (x2 + (1 : Int32))), (0, .ref (ad 0)), (1, .int x1)]) hx hb dX0_leaningOn_39 hl (k := 3) rfl rfl (by decide) rfl (fun ls hl => ?_)
        refine lv_goto (tgt := 4) hx hb dX0_leaningOn_42 (by decide) ?_
        exact ih _ _ _ _ _ _ h hw (lv_sub hl [2, 3, 1, 0] rfl)
def wpC_X0_leaningOn (a : CS) (x1 : Int32) (Q : Int32 → CS → Prop) : Prop := ∃ n4, bkC_X0_leaningOn_4 Q x1 n4 (0 : Int32) (0 : Int32) a
set_option maxHeartbeats 4000000 in
set_option maxRecDepth 100000 in
theorem wkC_X0_leaningOn_e (S : CallFix p m c cX0_leaningOn 4 s args lw_all RX0) (hr : meth.sig.returnType = (some .int)) (hlk : meth.locks = false) (Q : Int32 → CS → Prop) (x1 : Int32) (a : CS) (H : Heap) (locs : List Loc) (ls : Array Slot) (h : wpC_X0_leaningOn a x1 Q) (hw : CW D dA ad fv A a s H locs) (hl : lv_has ls 4 [(0, .ref (ad 0)), (1, .int x1)]) : W p l e rmC_X0_leaningOn s m args below meth c H locs 0 0 (MQ below (cQi D dA ad fv A Q) args s 0 0 A) (F0 m 0 ls []) := by
  have hx := S.1
  have hb := S.2.1
  have hown := S.2.2.2.1
  have hts := S.2.2.2.2
  unfold wpC_X0_leaningOn at h
  refine lv_iconst (v := (0 : Int32)) hx hb dX0_leaningOn_0 (by decide) ?_
  refine lv_istore_n (lv' := [(2, .int (0 : Int32)), (0, .ref (ad 0)), (1, .int x1)]) hx hb dX0_leaningOn_1 rfl hl (by decide) rfl (fun ls hl => ?_)
  refine lv_iconst (v := (0 : Int32)) hx hb dX0_leaningOn_2 (by decide) ?_
  refine lv_istore_n (lv' := [(3, .int (0 : Int32)), (2, .int (0 : Int32)), (0, .ref (ad 0)), (1, .int x1)]) hx hb dX0_leaningOn_3 rfl hl (by decide) rfl (fun ls hl => ?_)
  obtain ⟨n4, h⟩ := h
  exact wkC_X0_leaningOn_4 S hr hlk Q x1 n4 _ _ _ _ _ _ h hw (lv_sub hl [2, 3, 1, 0] rfl)
theorem ctC_X0_leaningOn (l : Launch) (D : va_G) (dA : Nat → ClassId) (ad : Nat → Nat) (fv : Nat → Value) (A : Nat → Prop) (a : CS) (x1 : Int32) (Q : Int32 → CS → Prop) (h : wpC_X0_leaningOn a x1 Q) : Met l yX0_leaningOn (ws_ yX0_leaningOn cX0_leaningOn 4 (some .int)) rmC_X0_leaningOn (cPc D dA ad fv A a [.ref (ad 0), .int x1]) (cQi D dA ad fv A Q) 0 0 A :=
  c_met (by decide) rfl rfl rfl (Nat.le_of_ble_eq_true rfl) (fun p e s m below meth c ls S hr hlk hin2 hw hl => wkC_X0_leaningOn_e S hr hlk Q x1 a _ _ ls h hw hl)
theorem cwC_X0_X0_leaningOn {R : Room} {s : State} {args : Array Value} {rm : Room} (hts : ∀ w ∈ lw_all, w.before args s = true) (hR : rm.frames + 1 ≤ R.frames ∧ 8 + (4 + 11) + rm.locals ≤ R.locals) (hc : rm.cells = 0 := by rfl) (hs : rm.slots = 0 := by rfl) : CallW R s args RX0 RX0 334 yX0_leaningOn cX0_leaningOn 4 (some .int) (ws_ yX0_leaningOn cX0_leaningOn 4 (some .int)) rm 0 0 1 :=
  cwV 1 hts (lw_V q769 q771 qs24 q103 q772) rfl hc hs (by decide +kernel) hR
/-! X0.isRead -/
abbrev rmC_X0_isRead : Room := { frames := 0, cells := 0, slots := 0, locals := 0 }
def wpC_X0_isRead (a : CS) (x1 : Int32) (x2 : Int32) (Q : Int32 → CS → Prop) : Prop := (vp_in x1 8) ∧ ((vp_in x1 8) ∧ (if (x2 &&& (a.1 75 x1.toNatClampNeg)) = (a.1 75 x1.toNatClampNeg) then (Q (1 : Int32) a) else (Q (0 : Int32) a)))
set_option maxHeartbeats 4000000 in
set_option maxRecDepth 100000 in
theorem wkC_X0_isRead_e (S : CallFix p m c cX0_isRead 3 s args lw_all RX0) (hr : meth.sig.returnType = (some .boolean)) (hlk : meth.locks = false) (Q : Int32 → CS → Prop) (x1 : Int32) (x2 : Int32) (a : CS) (H : Heap) (locs : List Loc) (ls : Array Slot) (h : wpC_X0_isRead a x1 x2 Q) (hw : CW D dA ad fv A a s H locs) (hl : lv_has ls 3 [(0, .ref (ad 0)), (1, .int x1), (2, .int x2)]) : W p l e rmC_X0_isRead s m args below meth c H locs 0 0 (MQ below (cQi D dA ad fv A Q) args s 0 0 A) (F0 m 0 ls []) := by
  have hx := S.1
  have hb := S.2.1
  have hown := S.2.2.2.1
  have hts := S.2.2.2.2
  unfold wpC_X0_isRead at h
  refine lv_iload_n hx hb dX0_isRead_0 rfl (lv_at hl 2 rfl) ?_
  refine lv_aload_n hx hb dX0_isRead_1 rfl (lv_at hl 0 rfl) ?_
  refine c_get S hw (n := 0) (ci := 0) (cOk.s (by decide)) (isO_K _) rfl in_X0 20 (by decide) (Or.inl q344) rfl rfl dX0_isRead_2 ?_
  refine lv_iload_n hx hb dX0_isRead_5 rfl (lv_at hl 1 rfl) ?_
  have hi6 := h.1
  replace h := h.2
  refine c_ald S hw (n := 75) (cOk.s (by decide)) (fun _ => rfl) hi6 (Or.inl ⟨rfl, dX0_isRead_6⟩) ?_
  refine lv_iand hx hb dX0_isRead_7 ?_
  refine lv_aload_n hx hb dX0_isRead_8 rfl (lv_at hl 0 rfl) ?_
  refine c_get S hw (n := 0) (ci := 0) (cOk.s (by decide)) (isO_K _) rfl in_X0 20 (by decide) (Or.inl q344) rfl rfl dX0_isRead_9 ?_
  refine lv_iload_n hx hb dX0_isRead_12 rfl (lv_at hl 1 rfl) ?_
  have hi13 := h.1
  replace h := h.2
  refine c_ald S hw (n := 75) (cOk.s (by decide)) (fun _ => rfl) hi13 (Or.inl ⟨rfl, dX0_isRead_13⟩) ?_
  refine lv_icmp_ne (tgt := 21) hx hb dX0_isRead_14 (by decide) (fun c14 => ?_) (fun c14 => ?_)
  · replace h := if_f c14 h
    refine lv_iconst (v := (0 : Int32)) hx hb dX0_isRead_21 (by decide) ?_
    exact c_zret S hr hlk hw (Or.inl rfl) h dX0_isRead_22
  · replace h := if_t c14 h
    refine lv_iconst (v := (1 : Int32)) hx hb dX0_isRead_17 (by decide) ?_
    refine lv_goto (tgt := 22) hx hb dX0_isRead_18 (by decide) ?_
    exact c_zret S hr hlk hw (Or.inr rfl) h dX0_isRead_22
theorem ctC_X0_isRead (l : Launch) (D : va_G) (dA : Nat → ClassId) (ad : Nat → Nat) (fv : Nat → Value) (A : Nat → Prop) (a : CS) (x1 : Int32) (x2 : Int32) (Q : Int32 → CS → Prop) (h : wpC_X0_isRead a x1 x2 Q) : Met l yX0_isRead (ws_ yX0_isRead cX0_isRead 3 (some .boolean)) rmC_X0_isRead (cPc D dA ad fv A a [.ref (ad 0), .int x1, .int x2]) (cQi D dA ad fv A Q) 0 0 A :=
  c_met (by decide) rfl rfl rfl (Nat.le_of_ble_eq_true rfl) (fun p e s m below meth c ls S hr hlk hin2 hw hl => wkC_X0_isRead_e S hr hlk Q x1 x2 a _ _ ls h hw hl)
theorem cwC_X0_X0_isRead {R : Room} {s : State} {args : Array Value} {rm : Room} (hts : ∀ w ∈ lw_all, w.before args s = true) (hR : rm.frames + 1 ≤ R.frames ∧ 8 + (3 + 11) + rm.locals ≤ R.locals) (hc : rm.cells = 0 := by rfl) (hs : rm.slots = 0 := by rfl) : CallW R s args RX0 RX0 360 yX0_isRead cX0_isRead 3 (some .boolean) (ws_ yX0_isRead cX0_isRead 3 (some .boolean)) rm 0 0 2 :=
  cwV 2 hts (lw_V q821 q823 qs25 q103 q824) rfl hc hs (by decide +kernel) hR
/-! X0.becomes -/
abbrev rmC_X0_becomes : Room := { frames := 0, cells := 0, slots := 0, locals := 0 }
def bkC_X0_becomes_27 (Q : Int32 → CS → Prop) (x0 : Nat) (x1 : Int32) (x2 : Int32) : Int32 → CS → Prop := fun s0 a => if x1 = (0 : Int32) then ((leafK a x0) ∧ (∀ a58 : CS, a58 = wI a x0 0 x2 → (Q s0 a58))) else (if x1 = (1 : Int32) then ((leafK a x0) ∧ (∀ a66 : CS, a66 = wI a x0 1 x2 → (Q s0 a66))) else ((leafK a x0) ∧ (∀ a74 : CS, a74 = wI a x0 2 x2 → (Q s0 a74))))
set_option maxHeartbeats 4000000 in
set_option maxRecDepth 100000 in
theorem wkC_X0_becomes_27 (S : CallFix p m c cX0_becomes 4 s args lw_all RX0) (hr : meth.sig.returnType = (some .int)) (hlk : meth.locks = false) (Q : Int32 → CS → Prop) (x0 : Nat) (x1 : Int32) (x2 : Int32) : ∀ (s0 : Int32) (a : CS) (H : Heap) (locs : List Loc) (ls : Array Slot), bkC_X0_becomes_27 Q x0 x1 x2 s0 a → CW D dA ad fv A a s H locs → lv_has ls 4 [(0, .ref (ad x0)), (1, .int x1), (2, .int x2)] → W p l e rmC_X0_becomes s m args below meth c H locs 0 0 (MQ below (cQi D dA ad fv A Q) args s 0 0 A) (F0 m 27 ls [.int s0]) := by
  have hx := S.1
  have hb := S.2.1
  have hown := S.2.2.2.1
  have hts := S.2.2.2.2
  intro s0 a H locs ls h hw hl
  unfold bkC_X0_becomes_27 at h
  refine lv_istore_n (lv' := [(3, .int s0), (0, .ref (ad x0)), (1, .int x1), (2, .int x2)]) hx hb dX0_becomes_27 rfl hl (by decide) rfl (fun ls hl => ?_)
  refine lv_iload_n hx hb dX0_becomes_28 rfl (lv_at hl 2 rfl) ?_
  by_cases c29_0 : x1 = (0 : Int32)
  · replace h := if_t c29_0 h
    refine lv_lookup (off := 27) (tgt := 56) hx hb dX0_becomes_29 (by decide) (by rw [c29_0]; decide) (by decide) ?_
    refine lv_aload_n hx hb dX0_becomes_56 rfl (lv_at hl 1 rfl) ?_
    refine lv_iload_n hx hb dX0_becomes_57 rfl (lv_at hl 3 rfl) ?_
    have hk58_0 := h.1
    replace h := h.2
    refine c_lput S hw hk58_0 0 (by decide) (Or.inl q645) dX0_becomes_58 (fun a58 H locs ea58 hw => ?_)
    replace h := h a58 ea58
    refine lv_goto (tgt := 77) hx hb dX0_becomes_61 (by decide) ?_
    refine lv_iload_n hx hb dX0_becomes_77 rfl (lv_at hl 0 rfl) ?_
    exact c_iret S hr hlk hw h dX0_becomes_78
  replace h := if_f c29_0 h
  by_cases c29_1 : x1 = (1 : Int32)
  · replace h := if_t c29_1 h
    refine lv_lookup (off := 35) (tgt := 64) hx hb dX0_becomes_29 (by decide) (by rw [c29_1]; decide) (by decide) ?_
    refine lv_aload_n hx hb dX0_becomes_64 rfl (lv_at hl 1 rfl) ?_
    refine lv_iload_n hx hb dX0_becomes_65 rfl (lv_at hl 3 rfl) ?_
    have hk66_0 := h.1
    replace h := h.2
    refine c_lput S hw hk66_0 1 (by decide) (Or.inl q647) dX0_becomes_66 (fun a66 H locs ea66 hw => ?_)
    replace h := h a66 ea66
    refine lv_goto (tgt := 77) hx hb dX0_becomes_69 (by decide) ?_
    refine lv_iload_n hx hb dX0_becomes_77 rfl (lv_at hl 0 rfl) ?_
    exact c_iret S hr hlk hw h dX0_becomes_78
  replace h := if_f c29_1 h
  refine lv_lookup (off := 43) (tgt := 72) hx hb dX0_becomes_29 (by decide) (by rw [lv_osw c29_0 (by decide)]; rw [lv_osw c29_1 (by decide)]; rfl) (by decide) ?_
  refine lv_aload_n hx hb dX0_becomes_72 rfl (lv_at hl 1 rfl) ?_
  refine lv_iload_n hx hb dX0_becomes_73 rfl (lv_at hl 3 rfl) ?_
  have hk74_0 := h.1
  replace h := h.2
  refine c_lput S hw hk74_0 2 (by decide) (Or.inl q651) dX0_becomes_74 (fun a74 H locs ea74 hw => ?_)
  replace h := h a74 ea74
  refine lv_iload_n hx hb dX0_becomes_77 rfl (lv_at hl 0 rfl) ?_
  exact c_iret S hr hlk hw h dX0_becomes_78
def wpC_X0_becomes (a : CS) (x0 : Nat) (x1 : Int32) (x2 : Int32) (Q : Int32 → CS → Prop) : Prop := if x1 = 0 then ((leafK a x0) ∧ (bkC_X0_becomes_27 Q x0 x1 x2 (a.1 x0 0) a)) else (if x1 = (1 : Int32) then ((leafK a x0) ∧ (bkC_X0_becomes_27 Q x0 x1 x2 (a.1 x0 1) a)) else ((leafK a x0) ∧ (bkC_X0_becomes_27 Q x0 x1 x2 (a.1 x0 2) a)))
set_option maxHeartbeats 4000000 in
set_option maxRecDepth 100000 in
theorem wkC_X0_becomes_e (S : CallFix p m c cX0_becomes 4 s args lw_all RX0) (hr : meth.sig.returnType = (some .int)) (hlk : meth.locks = false) (Q : Int32 → CS → Prop) (x0 : Nat) (x1 : Int32) (x2 : Int32) (a : CS) (H : Heap) (locs : List Loc) (ls : Array Slot) (h : wpC_X0_becomes a x0 x1 x2 Q) (hw : CW D dA ad fv A a s H locs) (hl : lv_has ls 4 [(0, .ref (ad x0)), (1, .int x1), (2, .int x2)]) : W p l e rmC_X0_becomes s m args below meth c H locs 0 0 (MQ below (cQi D dA ad fv A Q) args s 0 0 A) (F0 m 0 ls []) := by
  have hx := S.1
  have hb := S.2.1
  have hown := S.2.2.2.1
  have hts := S.2.2.2.2
  unfold wpC_X0_becomes at h
  refine lv_iload_n hx hb dX0_becomes_0 rfl (lv_at hl 1 rfl) ?_
  refine lv_if_ne (tgt := 11) hx hb dX0_becomes_1 (by decide) (fun c1 => ?_) (fun c1 => ?_)
  · replace h := if_f c1 h
    refine lv_iload_n hx hb dX0_becomes_11 rfl (lv_at hl 1 rfl) ?_
    refine lv_iconst (v := (1 : Int32)) hx hb dX0_becomes_12 (by decide) ?_
    refine lv_icmp_ne (tgt := 23) hx hb dX0_becomes_13 (by decide) (fun c13 => ?_) (fun c13 => ?_)
    · replace h := if_f c13 h
      refine lv_aload_n hx hb dX0_becomes_23 rfl (lv_at hl 0 rfl) ?_
      have hk24_0 := h.1
      replace h := h.2
      refine c_lget S hw hk24_0 2 (by decide) (Or.inl q651) dX0_becomes_24 ?_
      exact wkC_X0_becomes_27 S hr hlk Q x0 x1 x2 _ _ _ _ _ h hw (lv_sub hl [0, 1, 2] rfl)
    · replace h := if_t c13 h
      refine lv_aload_n hx hb dX0_becomes_16 rfl (lv_at hl 0 rfl) ?_
      have hk17_0 := h.1
      replace h := h.2
      refine c_lget S hw hk17_0 1 (by decide) (Or.inl q647) dX0_becomes_17 ?_
      refine lv_goto (tgt := 27) hx hb dX0_becomes_20 (by decide) ?_
      exact wkC_X0_becomes_27 S hr hlk Q x0 x1 x2 _ _ _ _ _ h hw (lv_sub hl [0, 1, 2] rfl)
  · replace h := if_t c1 h
    refine lv_aload_n hx hb dX0_becomes_4 rfl (lv_at hl 0 rfl) ?_
    have hk5_0 := h.1
    replace h := h.2
    refine c_lget S hw hk5_0 0 (by decide) (Or.inl q645) dX0_becomes_5 ?_
    refine lv_goto (tgt := 27) hx hb dX0_becomes_8 (by decide) ?_
    exact wkC_X0_becomes_27 S hr hlk Q x0 x1 x2 _ _ _ _ _ h hw (lv_sub hl [0, 1, 2] rfl)
theorem ctC_X0_becomes (l : Launch) (D : va_G) (dA : Nat → ClassId) (ad : Nat → Nat) (fv : Nat → Value) (A : Nat → Prop) (a : CS) (x0 : Nat) (x1 : Int32) (x2 : Int32) (Q : Int32 → CS → Prop) (h : wpC_X0_becomes a x0 x1 x2 Q) : Met l yX0_becomes (ws_ yX0_becomes cX0_becomes 4 (some .int)) rmC_X0_becomes (cPc D dA ad fv A a [.ref (ad x0), .int x1, .int x2]) (cQi D dA ad fv A Q) 0 0 A :=
  c_met (by decide) rfl rfl rfl (Nat.le_of_ble_eq_true rfl) (fun p e s m below meth c ls S hr hlk hin2 hw hl => wkC_X0_becomes_e S hr hlk Q x0 x1 x2 a _ _ ls h hw hl)
theorem cwC_X0_X0_becomes {R : Room} {s : State} {args : Array Value} {rm : Room} (hts : ∀ w ∈ lw_all, w.before args s = true) (hR : rm.frames + 1 ≤ R.frames ∧ 8 + (4 + 11) + rm.locals ≤ R.locals) (hc : rm.cells = 0 := by rfl) (hs : rm.slots = 0 := by rfl) : CallB R s args RX0 378 yX0_becomes cX0_becomes 4 (some .int) (ws_ yX0_becomes cX0_becomes 4 (some .int)) rm 0 0 3 ∧ (Cond.static yX0_becomes).before args s = true :=
  va_cwS 3 hts (lw_S q902 q903 q103 q904) rfl hc hs (by decide +kernel) hR
/-! X0.set -/
abbrev rmC_X0_set : Room := { frames := 2, cells := 0, slots := 0, locals := 43 }
def bkC_X0_set_39 (Q : Int32 → CS → Prop) (x1 : Int32) (x2 : Int32) (x3 : Int32) : Int32 → Int32 → Int32 → CS → Prop := fun s0 s1 s2 a => wpC_X0_isIn a s0 s1 s2 (fun r39 a39 => if r39 = 0 then (Q (-1000000001 : Int32) a39) else ((vp_in x1 8) ∧ ((leafK a39 (a39.2.1 41 x1.toNatClampNeg)) ∧ (wpC_X0_becomes a39 (a39.2.1 41 x1.toNatClampNeg) x2 x3 (fun r59 a59 => Q r59 a59)))))
set_option maxHeartbeats 4000000 in
set_option maxRecDepth 100000 in
theorem wkC_X0_set_39 (S : CallFix p m c cX0_set 4 s args lw_all RX0) (hr : meth.sig.returnType = (some .int)) (hlk : meth.locks = false) (Q : Int32 → CS → Prop) (x1 : Int32) (x2 : Int32) (x3 : Int32) : ∀ (s0 : Int32) (s1 : Int32) (s2 : Int32) (a : CS) (H : Heap) (locs : List Loc) (ls : Array Slot), bkC_X0_set_39 Q x1 x2 x3 s0 s1 s2 a → CW D dA ad fv A a s H locs → lv_has ls 4 [(0, .ref (ad 0)), (1, .int x1), (2, .int x2), (3, .int x3)] → W p l e rmC_X0_set s m args below meth c H locs 0 0 (MQ below (cQi D dA ad fv A Q) args s 0 0 A) (F0 m 39 ls [.int s2, .int s1, .int s0]) := by
  have hx := S.1
  have hb := S.2.1
  have hown := S.2.2.2.1
  have hts := S.2.2.2.2
  intro s0 s1 s2 a H locs ls h hw hl
  unfold bkC_X0_set_39 at h
  refine c_calli hw (va_runS (As := [.int s0, .int s1, .int s2]) (rest := []) S (ctC_X0_isIn l D dA ad fv A a s0 s1 s2 _ h) (cwC_X0_X0_isIn hts ⟨Nat.le_of_ble_eq_true rfl, Nat.le_of_ble_eq_true rfl⟩) (c_preS hw) rfl rfl hl.1 rfl (lv_room (Nat.le_of_ble_eq_true rfl)) dX0_set_39 ⟨Nat.le_of_ble_eq_true rfl, Nat.le_of_ble_eq_true rfl⟩) (fun r39 a39 H locs h hw => ?_)
  refine lv_if_ne (tgt := 48) hx hb dX0_set_42 (by decide) (fun c42 => ?_) (fun c42 => ?_)
  · replace h := if_f c42 h
    refine lv_aload_n hx hb dX0_set_48 rfl (lv_at hl 0 rfl) ?_
    refine c_get S hw (n := 0) (ci := 0) (cOk.s (by decide)) (isO_K _) rfl in_X0 0 (by decide) (Or.inl q324) rfl rfl dX0_set_49 ?_
    refine c_get S hw (n := 1) (cOk.s (by decide)) ((isO_S (by decide) (by decide)) _) rfl in_X1 2 (by decide) (Or.inr (List.mem_of_getElem? (i := 13) rfl)) rfl rfl dX0_set_52 ?_
    refine lv_iload_n hx hb dX0_set_55 rfl (lv_at hl 1 rfl) ?_
    have hi56 := h.1
    replace h := h.2
    have hk56_0 := h.1
    replace h := h.2
    refine c_aald S hw (n := 41) (cOk.s (by decide)) ((isR_lf (by decide) (by decide)) _) rfl hi56 (rv_n hk56_0.ne) dX0_set_56 ?_
    refine lv_iload_n hx hb dX0_set_57 rfl (lv_at hl 2 rfl) ?_
    refine lv_iload_n hx hb dX0_set_58 rfl (lv_at hl 3 rfl) ?_
    refine c_calli hw (va_runS (As := [.ref (ad (a39.2.1 41 x1.toNatClampNeg)), .int x2, .int x3]) (rest := []) S (ctC_X0_becomes l D dA ad fv A a39 (a39.2.1 41 x1.toNatClampNeg) x2 x3 _ h) (cwC_X0_X0_becomes hts ⟨Nat.le_of_ble_eq_true rfl, Nat.le_of_ble_eq_true rfl⟩) (c_preS hw) rfl rfl hl.1 rfl (lv_room (Nat.le_of_ble_eq_true rfl)) dX0_set_59 ⟨Nat.le_of_ble_eq_true rfl, Nat.le_of_ble_eq_true rfl⟩) (fun r59 a59 H locs h hw => ?_)
    exact c_iret S hr hlk hw h dX0_set_62
  · replace h := if_t c42 h
    refine lv_ldc hx hb hown (hts _ q435) dX0_set_45 ?_
    exact c_iret S hr hlk hw h dX0_set_47
def bkC_X0_set_27 (Q : Int32 → CS → Prop) (x1 : Int32) (x2 : Int32) (x3 : Int32) : Int32 → Int32 → CS → Prop := fun s0 s1 a => if x2 = (1 : Int32) then (bkC_X0_set_39 Q x1 x2 x3 s0 s1 (99 : Int32) a) else (bkC_X0_set_39 Q x1 x2 x3 s0 s1 (9 : Int32) a)
set_option maxHeartbeats 4000000 in
set_option maxRecDepth 100000 in
theorem wkC_X0_set_27 (S : CallFix p m c cX0_set 4 s args lw_all RX0) (hr : meth.sig.returnType = (some .int)) (hlk : meth.locks = false) (Q : Int32 → CS → Prop) (x1 : Int32) (x2 : Int32) (x3 : Int32) : ∀ (s0 : Int32) (s1 : Int32) (a : CS) (H : Heap) (locs : List Loc) (ls : Array Slot), bkC_X0_set_27 Q x1 x2 x3 s0 s1 a → CW D dA ad fv A a s H locs → lv_has ls 4 [(0, .ref (ad 0)), (1, .int x1), (2, .int x2), (3, .int x3)] → W p l e rmC_X0_set s m args below meth c H locs 0 0 (MQ below (cQi D dA ad fv A Q) args s 0 0 A) (F0 m 27 ls [.int s1, .int s0]) := by
  have hx := S.1
  have hb := S.2.1
  have hown := S.2.2.2.1
  have hts := S.2.2.2.2
  intro s0 s1 a H locs ls h hw hl
  unfold bkC_X0_set_27 at h
  refine lv_iload_n hx hb dX0_set_27 rfl (lv_at hl 2 rfl) ?_
  refine lv_iconst (v := (1 : Int32)) hx hb dX0_set_28 (by decide) ?_
  refine lv_icmp_ne (tgt := 37) hx hb dX0_set_29 (by decide) (fun c29 => ?_) (fun c29 => ?_)
  · replace h := if_f c29 h
    refine lv_bipush (v := (9 : Int32)) hx hb dX0_set_37 (by decide) ?_
    exact wkC_X0_set_39 S hr hlk Q x1 x2 x3 _ _ _ _ _ _ _ h hw (lv_sub hl [0, 1, 2, 3] rfl)
  · replace h := if_t c29 h
    refine lv_bipush (v := (99 : Int32)) hx hb dX0_set_32 (by decide) ?_
    refine lv_goto (tgt := 39) hx hb dX0_set_34 (by decide) ?_
    exact wkC_X0_set_39 S hr hlk Q x1 x2 x3 _ _ _ _ _ _ _ h hw (lv_sub hl [0, 1, 2, 3] rfl)
def wpC_X0_set (a : CS) (x1 : Int32) (x2 : Int32) (x3 : Int32) (Q : Int32 → CS → Prop) : Prop := wpC_X0_isLeaf a x1 (fun r2 a2 => if r2 = 0 then (Q (-1000000001 : Int32) a2) else (wpC_X0_isIn a2 x2 (0 : Int32) (2 : Int32) (fun r11 a11 => if r11 = 0 then (Q (-1000000001 : Int32) a11) else (if x2 = 0 then (bkC_X0_set_27 Q x1 x2 x3 x3 (1 : Int32) a11) else (bkC_X0_set_27 Q x1 x2 x3 x3 (0 : Int32) a11)))))
set_option maxHeartbeats 4000000 in
set_option maxRecDepth 100000 in
theorem wkC_X0_set_e (S : CallFix p m c cX0_set 4 s args lw_all RX0) (hr : meth.sig.returnType = (some .int)) (hlk : meth.locks = false) (Q : Int32 → CS → Prop) (x1 : Int32) (x2 : Int32) (x3 : Int32) (a : CS) (H : Heap) (locs : List Loc) (ls : Array Slot) (h : wpC_X0_set a x1 x2 x3 Q) (hw : CW D dA ad fv A a s H locs) (hl : lv_has ls 4 [(0, .ref (ad 0)), (1, .int x1), (2, .int x2), (3, .int x3)]) : W p l e rmC_X0_set s m args below meth c H locs 0 0 (MQ below (cQi D dA ad fv A Q) args s 0 0 A) (F0 m 0 ls []) := by
  have hx := S.1
  have hb := S.2.1
  have hown := S.2.2.2.1
  have hts := S.2.2.2.2
  unfold wpC_X0_set at h
  refine lv_aload_n hx hb dX0_set_0 rfl (lv_at hl 0 rfl) ?_
  refine lv_iload_n hx hb dX0_set_1 rfl (lv_at hl 1 rfl) ?_
  refine c_calli hw (va_runV (As := [.int x1]) (rest := []) S (ctC_X0_isLeaf l D dA ad fv A a x1 _ h) (cwC_X0_X0_isLeaf hts ⟨Nat.le_of_ble_eq_true rfl, Nat.le_of_ble_eq_true rfl⟩) (c_preV hw (n := 0) (cOk.s (by decide)) (isO_K _) rfl) rfl rfl hl.1 rfl (lv_room (Nat.le_of_ble_eq_true rfl)) dX0_set_2 ⟨Nat.le_of_ble_eq_true rfl, Nat.le_of_ble_eq_true rfl⟩) (fun r2 a2 H locs h hw => ?_)
  refine lv_if_eq (tgt := 45) hx hb dX0_set_5 (by decide) (fun c5 => ?_) (fun c5 => ?_)
  · replace h := if_t c5 h
    refine lv_ldc hx hb hown (hts _ q435) dX0_set_45 ?_
    exact c_iret S hr hlk hw h dX0_set_47
  · replace h := if_f c5 h
    refine lv_iload_n hx hb dX0_set_8 rfl (lv_at hl 2 rfl) ?_
    refine lv_iconst (v := (0 : Int32)) hx hb dX0_set_9 (by decide) ?_
    refine lv_iconst (v := (2 : Int32)) hx hb dX0_set_10 (by decide) ?_
    refine c_calli hw (va_runS (As := [.int x2, .int (0 : Int32), .int (2 : Int32)]) (rest := []) S (ctC_X0_isIn l D dA ad fv A a2 x2 (0 : Int32) (2 : Int32) _ h) (cwC_X0_X0_isIn hts ⟨Nat.le_of_ble_eq_true rfl, Nat.le_of_ble_eq_true rfl⟩) (c_preS hw) rfl rfl hl.1 rfl (lv_room (Nat.le_of_ble_eq_true rfl)) dX0_set_11 ⟨Nat.le_of_ble_eq_true rfl, Nat.le_of_ble_eq_true rfl⟩) (fun r11 a11 H locs h hw => ?_)
    refine lv_if_eq (tgt := 45) hx hb dX0_set_14 (by decide) (fun c14 => ?_) (fun c14 => ?_)
    · replace h := if_t c14 h
      refine lv_ldc hx hb hown (hts _ q435) dX0_set_45 ?_
      exact c_iret S hr hlk hw h dX0_set_47
    · replace h := if_f c14 h
      refine lv_iload_n hx hb dX0_set_17 rfl (lv_at hl 3 rfl) ?_
      refine lv_iload_n hx hb dX0_set_18 rfl (lv_at hl 2 rfl) ?_
      refine lv_if_ne (tgt := 26) hx hb dX0_set_19 (by decide) (fun c19 => ?_) (fun c19 => ?_)
      · replace h := if_f c19 h
        refine lv_iconst (v := (0 : Int32)) hx hb dX0_set_26 (by decide) ?_
        exact wkC_X0_set_27 S hr hlk Q x1 x2 x3 _ _ _ _ _ _ h hw (lv_sub hl [0, 1, 2, 3] rfl)
      · replace h := if_t c19 h
        refine lv_iconst (v := (1 : Int32)) hx hb dX0_set_22 (by decide) ?_
        refine lv_goto (tgt := 27) hx hb dX0_set_23 (by decide) ?_
        exact wkC_X0_set_27 S hr hlk Q x1 x2 x3 _ _ _ _ _ _ h hw (lv_sub hl [0, 1, 2, 3] rfl)
theorem ctC_X0_set (l : Launch) (D : va_G) (dA : Nat → ClassId) (ad : Nat → Nat) (fv : Nat → Value) (A : Nat → Prop) (a : CS) (x1 : Int32) (x2 : Int32) (x3 : Int32) (Q : Int32 → CS → Prop) (h : wpC_X0_set a x1 x2 x3 Q) : Met l yX0_set (ws_ yX0_set cX0_set 4 (some .int)) rmC_X0_set (cPc D dA ad fv A a [.ref (ad 0), .int x1, .int x2, .int x3]) (cQi D dA ad fv A Q) 0 0 A :=
  c_met (by decide) rfl rfl rfl (Nat.le_of_ble_eq_true rfl) (fun p e s m below meth c ls S hr hlk hin2 hw hl => wkC_X0_set_e S hr hlk Q x1 x2 x3 a _ _ ls h hw hl)
/-! X0.leans -/
abbrev rmC_X0_leans : Room := { frames := 2, cells := 0, slots := 0, locals := 43 }
def bkC_X0_leans_61 (Q : Int32 → CS → Prop) (x1 : Int32) (x2 : Int32) : Int32 → Nat → Int32 → CS → Prop := fun x3 s0 s1 a => (leafK a s0) ∧ (∀ a61 : CS, a61 = wI a s0 3 s1 → (wpC_X0_orNone a61 x3 (fun r65 a65 => Q r65 a65)))
set_option maxHeartbeats 4000000 in
set_option maxRecDepth 100000 in
theorem wkC_X0_leans_61 (S : CallFix p m c cX0_leans 4 s args lw_all RX0) (hr : meth.sig.returnType = (some .int)) (hlk : meth.locks = false) (Q : Int32 → CS → Prop) (x1 : Int32) (x2 : Int32) : ∀ (x3 : Int32) (s0 : Nat) (s1 : Int32) (a : CS) (H : Heap) (locs : List Loc) (ls : Array Slot), bkC_X0_leans_61 Q x1 x2 x3 s0 s1 a → CW D dA ad fv A a s H locs → lv_has ls 4 [(3, .int x3)] → W p l e rmC_X0_leans s m args below meth c H locs 0 0 (MQ below (cQi D dA ad fv A Q) args s 0 0 A) (F0 m 61 ls [.int s1, .ref (ad s0)]) := by
  have hx := S.1
  have hb := S.2.1
  have hown := S.2.2.2.1
  have hts := S.2.2.2.2
  intro x3 s0 s1 a H locs ls h hw hl
  unfold bkC_X0_leans_61 at h
  have hk61_0 := h.1
  replace h := h.2
  refine c_lput S hw hk61_0 3 (by decide) (Or.inl q653) dX0_leans_61 (fun a61 H locs ea61 hw => ?_)
  replace h := h a61 ea61
  refine lv_iload_n hx hb dX0_leans_64 rfl (lv_at hl 0 rfl) ?_
  refine c_calli hw (va_runS (As := [.int x3]) (rest := []) S (ctC_X0_orNone l D dA ad fv A a61 x3 _ h) (cwC_X0_X0_orNone hts ⟨Nat.le_of_ble_eq_true rfl, Nat.le_of_ble_eq_true rfl⟩) (c_preS hw) rfl rfl hl.1 rfl (lv_room (Nat.le_of_ble_eq_true rfl)) dX0_leans_65 ⟨Nat.le_of_ble_eq_true rfl, Nat.le_of_ble_eq_true rfl⟩) (fun r65 a65 H locs h hw => ?_)
  exact c_iret S hr hlk hw h dX0_leans_68
def bkC_X0_leans_28 (Q : Int32 → CS → Prop) (x1 : Int32) (x2 : Int32) : CS → Prop := fun a => (vp_in x1 8) ∧ ((leafK a (a.2.1 41 x1.toNatClampNeg)) ∧ ((vp_in x1 8) ∧ (if x2 = (-1000000005 : Int32) then (bkC_X0_leans_61 Q x1 x2 (a.1 (a.2.1 41 x1.toNatClampNeg) 3) (a.2.1 41 x1.toNatClampNeg) (-1 : Int32) a) else (bkC_X0_leans_61 Q x1 x2 (a.1 (a.2.1 41 x1.toNatClampNeg) 3) (a.2.1 41 x1.toNatClampNeg) x2 a))))
set_option maxHeartbeats 4000000 in
set_option maxRecDepth 100000 in
theorem wkC_X0_leans_28 (S : CallFix p m c cX0_leans 4 s args lw_all RX0) (hr : meth.sig.returnType = (some .int)) (hlk : meth.locks = false) (Q : Int32 → CS → Prop) (x1 : Int32) (x2 : Int32) : ∀ (a : CS) (H : Heap) (locs : List Loc) (ls : Array Slot), bkC_X0_leans_28 Q x1 x2 a → CW D dA ad fv A a s H locs → lv_has ls 4 [(0, .ref (ad 0)), (1, .int x1), (2, .int x2)] → W p l e rmC_X0_leans s m args below meth c H locs 0 0 (MQ below (cQi D dA ad fv A Q) args s 0 0 A) (F0 m 28 ls []) := by
  have hx := S.1
  have hb := S.2.1
  have hown := S.2.2.2.1
  have hts := S.2.2.2.2
  intro  a H locs ls h hw hl
  unfold bkC_X0_leans_28 at h
  refine lv_aload_n hx hb dX0_leans_28 rfl (lv_at hl 0 rfl) ?_
  refine c_get S hw (n := 0) (ci := 0) (cOk.s (by decide)) (isO_K _) rfl in_X0 0 (by decide) (Or.inl q324) rfl rfl dX0_leans_29 ?_
  refine c_get S hw (n := 1) (cOk.s (by decide)) ((isO_S (by decide) (by decide)) _) rfl in_X1 2 (by decide) (Or.inr (List.mem_of_getElem? (i := 13) rfl)) rfl rfl dX0_leans_32 ?_
  refine lv_iload_n hx hb dX0_leans_35 rfl (lv_at hl 1 rfl) ?_
  have hi36 := h.1
  replace h := h.2
  have hk36_0 := h.1
  replace h := h.2
  refine c_aald S hw (n := 41) (cOk.s (by decide)) ((isR_lf (by decide) (by decide)) _) rfl hi36 (rv_n hk36_0.ne) dX0_leans_36 ?_
  refine c_lget S hw hk36_0 3 (by decide) (Or.inl q653) dX0_leans_37 ?_
  refine lv_istore_n (lv' := [(3, .int (a.1 (a.2.1 41 x1.toNatClampNeg) 3)), (0, .ref (ad 0)), (1, .int x1), (2, .int x2)]) hx hb dX0_leans_40 rfl hl (by decide) rfl (fun ls hl => ?_)
  refine lv_aload_n hx hb dX0_leans_41 rfl (lv_at hl 1 rfl) ?_
  refine c_get S hw (n := 0) (ci := 0) (cOk.s (by decide)) (isO_K _) rfl in_X0 0 (by decide) (Or.inl q324) rfl rfl dX0_leans_42 ?_
  refine c_get S hw (n := 1) (cOk.s (by decide)) ((isO_S (by decide) (by decide)) _) rfl in_X1 2 (by decide) (Or.inr (List.mem_of_getElem? (i := 13) rfl)) rfl rfl dX0_leans_45 ?_
  refine lv_iload_n hx hb dX0_leans_48 rfl (lv_at hl 2 rfl) ?_
  have hi49 := h.1
  replace h := h.2
  refine c_aald S hw (n := 41) (cOk.s (by decide)) ((isR_lf (by decide) (by decide)) _) rfl hi49 (rv_n hk36_0.ne) dX0_leans_49 ?_
  refine lv_iload_n hx hb dX0_leans_50 rfl (lv_at hl 3 rfl) ?_
  refine lv_ldc hx hb hown (hts _ q614) dX0_leans_51 ?_
  refine lv_icmp_ne (tgt := 60) hx hb dX0_leans_53 (by decide) (fun c53 => ?_) (fun c53 => ?_)
  · replace h := if_f c53 h
    refine lv_iload_n hx hb dX0_leans_60 rfl (lv_at hl 3 rfl) ?_
    exact wkC_X0_leans_61 S hr hlk Q x1 x2 _ _ _ _ _ _ _ h hw (lv_sub hl [0] rfl)
  · replace h := if_t c53 h
    refine lv_iconst (v := (-1 : Int32)) hx hb dX0_leans_56 (by decide) ?_
    refine lv_goto (tgt := 61) hx hb dX0_leans_57 (by decide) ?_
    exact wkC_X0_leans_61 S hr hlk Q x1 x2 _ _ _ _ _ _ _ h hw (lv_sub hl [0] rfl)
def wpC_X0_leans (a : CS) (x1 : Int32) (x2 : Int32) (Q : Int32 → CS → Prop) : Prop := wpC_X0_isLeaf a x1 (fun r2 a2 => if r2 = 0 then (Q (-1000000001 : Int32) a2) else (if x2 = (-1000000005 : Int32) then (bkC_X0_leans_28 Q x1 x2 a2) else (wpC_X0_isIn a2 x2 (0 : Int32) (x1 - (1 : Int32)) (fun r19 a19 => if r19 = 0 then (Q (-1000000001 : Int32) a19) else (bkC_X0_leans_28 Q x1 x2 a19)))))
set_option maxHeartbeats 4000000 in
set_option maxRecDepth 100000 in
theorem wkC_X0_leans_e (S : CallFix p m c cX0_leans 4 s args lw_all RX0) (hr : meth.sig.returnType = (some .int)) (hlk : meth.locks = false) (Q : Int32 → CS → Prop) (x1 : Int32) (x2 : Int32) (a : CS) (H : Heap) (locs : List Loc) (ls : Array Slot) (h : wpC_X0_leans a x1 x2 Q) (hw : CW D dA ad fv A a s H locs) (hl : lv_has ls 4 [(0, .ref (ad 0)), (1, .int x1), (2, .int x2)]) : W p l e rmC_X0_leans s m args below meth c H locs 0 0 (MQ below (cQi D dA ad fv A Q) args s 0 0 A) (F0 m 0 ls []) := by
  have hx := S.1
  have hb := S.2.1
  have hown := S.2.2.2.1
  have hts := S.2.2.2.2
  unfold wpC_X0_leans at h
  refine lv_aload_n hx hb dX0_leans_0 rfl (lv_at hl 0 rfl) ?_
  refine lv_iload_n hx hb dX0_leans_1 rfl (lv_at hl 1 rfl) ?_
  refine c_calli hw (va_runV (As := [.int x1]) (rest := []) S (ctC_X0_isLeaf l D dA ad fv A a x1 _ h) (cwC_X0_X0_isLeaf hts ⟨Nat.le_of_ble_eq_true rfl, Nat.le_of_ble_eq_true rfl⟩) (c_preV hw (n := 0) (cOk.s (by decide)) (isO_K _) rfl) rfl rfl hl.1 rfl (lv_room (Nat.le_of_ble_eq_true rfl)) dX0_leans_2 ⟨Nat.le_of_ble_eq_true rfl, Nat.le_of_ble_eq_true rfl⟩) (fun r2 a2 H locs h hw => ?_)
  refine lv_if_eq (tgt := 25) hx hb dX0_leans_5 (by decide) (fun c5 => ?_) (fun c5 => ?_)
  · replace h := if_t c5 h
    refine lv_ldc hx hb hown (hts _ q435) dX0_leans_25 ?_
    exact c_iret S hr hlk hw h dX0_leans_27
  · replace h := if_f c5 h
    refine lv_iload_n hx hb dX0_leans_8 rfl (lv_at hl 2 rfl) ?_
    refine lv_ldc hx hb hown (hts _ q614) dX0_leans_9 ?_
    refine lv_icmp_eq (tgt := 28) hx hb dX0_leans_11 (by decide) (fun c11 => ?_) (fun c11 => ?_)
    · replace h := if_t c11 h
      exact wkC_X0_leans_28 S hr hlk Q x1 x2 _ _ _ _ h hw (lv_sub hl [0, 1, 2] rfl)
    · replace h := if_f c11 h
      refine lv_iload_n hx hb dX0_leans_14 rfl (lv_at hl 2 rfl) ?_
      refine lv_iconst (v := (0 : Int32)) hx hb dX0_leans_15 (by decide) ?_
      refine lv_iload_n hx hb dX0_leans_16 rfl (lv_at hl 1 rfl) ?_
      refine lv_iconst (v := (1 : Int32)) hx hb dX0_leans_17 (by decide) ?_
      refine lv_isub hx hb dX0_leans_18 ?_
      refine c_calli hw (va_runS (As := [.int x2, .int (0 : Int32), .int (x1 - (1 : Int32))]) (rest := []) S (ctC_X0_isIn l D dA ad fv A a2 x2 (0 : Int32) (x1 - (1 : Int32)) _ h) (cwC_X0_X0_isIn hts ⟨Nat.le_of_ble_eq_true rfl, Nat.le_of_ble_eq_true rfl⟩) (c_preS hw) rfl rfl hl.1 rfl (lv_room (Nat.le_of_ble_eq_true rfl)) dX0_leans_19 ⟨Nat.le_of_ble_eq_true rfl, Nat.le_of_ble_eq_true rfl⟩) (fun r19 a19 H locs h hw => ?_)
      refine lv_if_ne (tgt := 28) hx hb dX0_leans_22 (by decide) (fun c22 => ?_) (fun c22 => ?_)
      · replace h := if_f c22 h
        exact wkC_X0_leans_28 S hr hlk Q x1 x2 _ _ _ _ h hw (lv_sub hl [0, 1, 2] rfl)
      · replace h := if_t c22 h
        refine lv_ldc hx hb hown (hts _ q435) dX0_leans_25 ?_
        exact c_iret S hr hlk hw h dX0_leans_27
theorem ctC_X0_leans (l : Launch) (D : va_G) (dA : Nat → ClassId) (ad : Nat → Nat) (fv : Nat → Value) (A : Nat → Prop) (a : CS) (x1 : Int32) (x2 : Int32) (Q : Int32 → CS → Prop) (h : wpC_X0_leans a x1 x2 Q) : Met l yX0_leans (ws_ yX0_leans cX0_leans 4 (some .int)) rmC_X0_leans (cPc D dA ad fv A a [.ref (ad 0), .int x1, .int x2]) (cQi D dA ad fv A Q) 0 0 A :=
  c_met (by decide) rfl rfl rfl (Nat.le_of_ble_eq_true rfl) (fun p e s m below meth c ls S hr hlk hin2 hw hl => wkC_X0_leans_e S hr hlk Q x1 x2 a _ _ ls h hw hl)
/-! X0.copyRow -/
abbrev rmC_X0_copyRow : Room := { frames := 1, cells := 0, slots := 0, locals := 38 }
def wpC_X0_copyRow (a : CS) (f0 : Nat) (f1 : Nat) (Q : CS → Prop) : Prop := (rowK f0) ∧ (rowK f1) ∧ (¬ (0 : Int32) < 0 ∧ ¬ (0 : Int32) < 0 ∧ ¬ (Int32.ofNat (rlen f1)) < 0 ∧ (0 : Int32).toNatClampNeg + (Int32.ofNat (rlen f1)).toNatClampNeg ≤ (rlen f0) ∧ (0 : Int32).toNatClampNeg + (Int32.ofNat (rlen f1)).toNatClampNeg ≤ (rlen f1)) ∧ (∀ a6 : CS, a6 = wC a f1 (va_cpy (a.1 f0) (a.1 f1) (0 : Int32).toNatClampNeg (0 : Int32).toNatClampNeg (Int32.ofNat (rlen f1)).toNatClampNeg) → (Q a6))
set_option maxHeartbeats 4000000 in
set_option maxRecDepth 100000 in
theorem wkC_X0_copyRow_e (S : CallFix p m c cX0_copyRow 2 s args lw_all RX0) (hr : meth.sig.returnType = none) (hlk : meth.locks = false) (Q : CS → Prop) (f0 : Nat) (f1 : Nat) (a : CS) (H : Heap) (locs : List Loc) (ls : Array Slot) (h : wpC_X0_copyRow a f0 f1 Q) (hw : CW D dA ad fv A a s H locs) (hl : lv_has ls 2 [(0, .ref (ad f0)), (1, .ref (ad f1))]) : W p l e rmC_X0_copyRow s m args below meth c H locs 0 0 (MQ below (cQv D dA ad fv A Q) args s 0 0 A) (F0 m 0 ls []) := by
  have hx := S.1
  have hb := S.2.1
  have hown := S.2.2.2.1
  have hts := S.2.2.2.2
  unfold wpC_X0_copyRow at h
  obtain ⟨hx0, h⟩ := h
  obtain ⟨hx1, h⟩ := h
  refine lv_aload_n hx hb dX0_copyRow_0 rfl (lv_at hl 0 rfl) ?_
  refine lv_iconst (v := (0 : Int32)) hx hb dX0_copyRow_1 (by decide) ?_
  refine lv_aload_n hx hb dX0_copyRow_2 rfl (lv_at hl 1 rfl) ?_
  refine lv_iconst (v := (0 : Int32)) hx hb dX0_copyRow_3 (by decide) ?_
  refine lv_aload_n hx hb dX0_copyRow_4 rfl (lv_at hl 1 rfl) ?_
  refine c_alen S hw (n := f1) (t := 0) hx1.ok (hx1.isA _) rfl rfl dX0_copyRow_5 ?_
  have hc6 := h.1
  replace h := h.2
  refine c_copyi S hl.1 hw (f := f0) (g := f1) hx1.ne hx0.ok hx1.ok hx0.isA hx1.isA q1031 q1033 q1032 q122 hc6.1 hc6.2.1 hc6.2.2.1 hc6.2.2.2.1 hc6.2.2.2.2 (Nat.le_of_ble_eq_true rfl) (Nat.le_of_ble_eq_true rfl) dX0_copyRow_6 (fun a6 H locs ea6 hw => ?_)
  replace h := h a6 ea6
  exact c_vret S hr hlk hw h dX0_copyRow_9
theorem ctC_X0_copyRow (l : Launch) (D : va_G) (dA : Nat → ClassId) (ad : Nat → Nat) (fv : Nat → Value) (A : Nat → Prop) (a : CS) (f0 : Nat) (f1 : Nat) (Q : CS → Prop) (h : wpC_X0_copyRow a f0 f1 Q) : Met l yX0_copyRow (ws_ yX0_copyRow cX0_copyRow 2 none) rmC_X0_copyRow (cPc D dA ad fv A a [.ref (ad f0), .ref (ad f1)]) (cQv D dA ad fv A Q) 0 0 A :=
  c_met (by decide) rfl rfl rfl (Nat.le_of_ble_eq_true rfl) (fun p e s m below meth c ls S hr hlk hin2 hw hl => wkC_X0_copyRow_e S hr hlk Q f0 f1 a _ _ ls h hw hl)
theorem cwC_X1_X0_copyRow {R : Room} {s : State} {args : Array Value} {rm : Room} (hts : ∀ w ∈ lw_all, w.before args s = true) (hN : NW s) (hR : rm.frames + 1 ≤ R.frames ∧ 8 + (2 + 11) + rm.locals ≤ R.locals) (hc : rm.cells = 0 := by rfl) (hs : rm.slots = 0 := by rfl) : va_CN R s args RX1 58 yX0_copyRow "KeptLeaves" cX0_copyRow 2 none (ws_ yX0_copyRow cX0_copyRow 2 none) rm 0 0 2 ∧ (Cond.static yX0_copyRow).before args s = true ∧ True :=
  ⟨va_cnB 2 hts (lw_meth q1030) rfl hc hs (hN.1 _ (List.mem_of_getElem? (i := 43) rfl)) (hts _ q103) (by decide +kernel) hR, hts _ q1029, trivial⟩
theorem cwC_X2_X0_copyRow {R : Room} {s : State} {args : Array Value} {rm : Room} (hts : ∀ w ∈ lw_all, w.before args s = true) (hN : NW s) (hR : rm.frames + 1 ≤ R.frames ∧ 8 + (2 + 11) + rm.locals ≤ R.locals) (hc : rm.cells = 0 := by rfl) (hs : rm.slots = 0 := by rfl) : va_CN R s args RX2 37 yX0_copyRow "KeptLeaves" cX0_copyRow 2 none (ws_ yX0_copyRow cX0_copyRow 2 none) rm 0 0 2 ∧ (Cond.static yX0_copyRow).before args s = true ∧ True :=
  ⟨va_cnB 2 hts (lw_meth q1030) rfl hc hs (hN.1 _ (List.mem_of_getElem? (i := 55) rfl)) (hts _ q103) (by decide +kernel) hR, hts _ q1029, trivial⟩
/-! X2.copyOf -/
abbrev rmC_X2_copyOf : Room := { frames := 2, cells := 0, slots := 0, locals := 59 }
def wpC_X2_copyOf (a : CS) (n0 : Nat) (x1 : Nat) (Q : CS → Prop) : Prop := (4 ≤ n0 ∧ n0 ≤ 7) ∧ (4 ≤ x1 ∧ x1 ≤ 7) ∧ ∀ a5 : CS, a5 = wI a n0 0 (a.1 x1 0) → (∀ a13 : CS, a13 = wI a5 n0 1 (a5.1 x1 1) → (∀ a21 : CS, a21 = wI a13 n0 2 (a13.1 x1 2) → (∀ a29 : CS, a29 = wI a21 n0 3 (a21.1 x1 3) → (∀ a37 : CS, a37 = wI a29 n0 4 (a29.1 x1 4) → (wpC_X0_copyRow a37 (x1 + 10) (n0 + 10) (fun a48 => wpC_X0_copyRow a48 (x1 + 20) (n0 + 20) (fun a59 => wpC_X0_copyRow a59 (x1 + 30) (n0 + 30) (fun a70 => Q a70))))))))
set_option maxHeartbeats 4000000 in
set_option maxRecDepth 100000 in
theorem wkC_X2_copyOf_e (S : CallFix p m c cX2_copyOf 2 s args lw_all RX2) (hr : meth.sig.returnType = none) (hlk : meth.locks = false) (Q : CS → Prop) (n0 : Nat) (x1 : Nat) (a : CS) (H : Heap) (locs : List Loc) (ls : Array Slot) (h : wpC_X2_copyOf a n0 x1 Q) (hw : CW D dA ad fv A a s H locs) (hl : lv_has ls 2 [(0, .ref (ad n0)), (1, .ref (ad x1))]) : W p l e rmC_X2_copyOf s m args below meth c H locs 0 0 (MQ below (cQv D dA ad fv A Q) args s 0 0 A) (F0 m 0 ls []) := by
  have hx := S.1
  have hb := S.2.1
  have hown := S.2.2.2.1
  have hts := S.2.2.2.2
  unfold wpC_X2_copyOf at h
  obtain ⟨hn0, h⟩ := h
  obtain ⟨hx1, h⟩ := h
  refine lv_aload_n hx hb dX2_copyOf_0 rfl (lv_at hl 0 rfl) ?_
  refine lv_aload_n hx hb dX2_copyOf_1 rfl (lv_at hl 1 rfl) ?_
  refine c_get S hw (n := x1) (cOk.s (mem_sh hx1.1 hx1.2)) ((isO_H hx1.1 hx1.2) _) rfl in_X2 0 (by decide) (Or.inl q150) rfl rfl dX2_copyOf_2 ?_
  refine c_putI S hw (n := n0) (cOk.s (mem_sh hn0.1 hn0.2)) (isO_H hn0.1 hn0.2) rfl in_X2 tyX2 tyX2_ok nmX2 0 (by decide) (Or.inl q150) rfl rfl rfl rfl (Nat.le_of_ble_eq_true rfl) (fun _ => hset_0) dX2_copyOf_5 (fun a5 H locs ea5 hw => ?_)
  replace h := h a5 ea5
  refine lv_aload_n hx hb dX2_copyOf_8 rfl (lv_at hl 0 rfl) ?_
  refine lv_aload_n hx hb dX2_copyOf_9 rfl (lv_at hl 1 rfl) ?_
  refine c_get S hw (n := x1) (cOk.s (mem_sh hx1.1 hx1.2)) ((isO_H hx1.1 hx1.2) _) rfl in_X2 1 (by decide) (Or.inl q152) rfl rfl dX2_copyOf_10 ?_
  refine c_putI S hw (n := n0) (cOk.s (mem_sh hn0.1 hn0.2)) (isO_H hn0.1 hn0.2) rfl in_X2 tyX2 tyX2_ok nmX2 1 (by decide) (Or.inl q152) rfl rfl rfl rfl (Nat.le_of_ble_eq_true rfl) (fun _ => hset_1) dX2_copyOf_13 (fun a13 H locs ea13 hw => ?_)
  replace h := h a13 ea13
  refine lv_aload_n hx hb dX2_copyOf_16 rfl (lv_at hl 0 rfl) ?_
  refine lv_aload_n hx hb dX2_copyOf_17 rfl (lv_at hl 1 rfl) ?_
  refine c_get S hw (n := x1) (cOk.s (mem_sh hx1.1 hx1.2)) ((isO_H hx1.1 hx1.2) _) rfl in_X2 2 (by decide) (Or.inl q154) rfl rfl dX2_copyOf_18 ?_
  refine c_putI S hw (n := n0) (cOk.s (mem_sh hn0.1 hn0.2)) (isO_H hn0.1 hn0.2) rfl in_X2 tyX2 tyX2_ok nmX2 2 (by decide) (Or.inl q154) rfl rfl rfl rfl (Nat.le_of_ble_eq_true rfl) (fun _ => hset_2) dX2_copyOf_21 (fun a21 H locs ea21 hw => ?_)
  replace h := h a21 ea21
  refine lv_aload_n hx hb dX2_copyOf_24 rfl (lv_at hl 0 rfl) ?_
  refine lv_aload_n hx hb dX2_copyOf_25 rfl (lv_at hl 1 rfl) ?_
  refine c_get S hw (n := x1) (cOk.s (mem_sh hx1.1 hx1.2)) ((isO_H hx1.1 hx1.2) _) rfl in_X2 3 (by decide) (Or.inl q156) rfl rfl dX2_copyOf_26 ?_
  refine c_putI S hw (n := n0) (cOk.s (mem_sh hn0.1 hn0.2)) (isO_H hn0.1 hn0.2) rfl in_X2 tyX2 tyX2_ok nmX2 3 (by decide) (Or.inl q156) rfl rfl rfl rfl (Nat.le_of_ble_eq_true rfl) (fun _ => hset_3) dX2_copyOf_29 (fun a29 H locs ea29 hw => ?_)
  replace h := h a29 ea29
  refine lv_aload_n hx hb dX2_copyOf_32 rfl (lv_at hl 0 rfl) ?_
  refine lv_aload_n hx hb dX2_copyOf_33 rfl (lv_at hl 1 rfl) ?_
  refine c_get S hw (n := x1) (cOk.s (mem_sh hx1.1 hx1.2)) ((isO_H hx1.1 hx1.2) _) rfl in_X2 4 (by decide) (Or.inl q158) rfl rfl dX2_copyOf_34 ?_
  refine c_putI S hw (n := n0) (cOk.s (mem_sh hn0.1 hn0.2)) (isO_H hn0.1 hn0.2) rfl in_X2 tyX2 tyX2_ok nmX2 4 (by decide) (Or.inl q158) rfl rfl rfl rfl (Nat.le_of_ble_eq_true rfl) (fun _ => hset_4) dX2_copyOf_37 (fun a37 H locs ea37 hw => ?_)
  replace h := h a37 ea37
  refine lv_aload_n hx hb dX2_copyOf_40 rfl (lv_at hl 1 rfl) ?_
  refine c_get S hw (n := x1) (cOk.s (mem_sh hx1.1 hx1.2)) ((isO_H hx1.1 hx1.2) _) rfl in_X2 5 (by decide) (Or.inl q160) rfl rfl dX2_copyOf_41 ?_
  refine lv_aload_n hx hb dX2_copyOf_44 rfl (lv_at hl 0 rfl) ?_
  refine c_get S hw (n := n0) (cOk.s (mem_sh hn0.1 hn0.2)) ((isO_H hn0.1 hn0.2) _) rfl in_X2 5 (by decide) (Or.inl q160) rfl rfl dX2_copyOf_45 ?_
  refine c_callv hw (va_runSN (As := [.ref (ad (x1 + 10)), .ref (ad (n0 + 10))]) (rest := []) S (ctC_X0_copyRow l D dA ad fv A a37 (x1 + 10) (n0 + 10) _ h) (cwC_X2_X0_copyRow hts hw.nw ⟨Nat.le_of_ble_eq_true rfl, Nat.le_of_ble_eq_true rfl⟩) (c_preS hw) rfl rfl hl.1 rfl (lv_room (Nat.le_of_ble_eq_true rfl)) dX2_copyOf_48 ⟨Nat.le_of_ble_eq_true rfl, Nat.le_of_ble_eq_true rfl⟩) (fun a48 H locs h hw => ?_)
  refine lv_aload_n hx hb dX2_copyOf_51 rfl (lv_at hl 1 rfl) ?_
  refine c_get S hw (n := x1) (cOk.s (mem_sh hx1.1 hx1.2)) ((isO_H hx1.1 hx1.2) _) rfl in_X2 6 (by decide) (Or.inl q162) rfl rfl dX2_copyOf_52 ?_
  refine lv_aload_n hx hb dX2_copyOf_55 rfl (lv_at hl 0 rfl) ?_
  refine c_get S hw (n := n0) (cOk.s (mem_sh hn0.1 hn0.2)) ((isO_H hn0.1 hn0.2) _) rfl in_X2 6 (by decide) (Or.inl q162) rfl rfl dX2_copyOf_56 ?_
  refine c_callv hw (va_runSN (As := [.ref (ad (x1 + 20)), .ref (ad (n0 + 20))]) (rest := []) S (ctC_X0_copyRow l D dA ad fv A a48 (x1 + 20) (n0 + 20) _ h) (cwC_X2_X0_copyRow hts hw.nw ⟨Nat.le_of_ble_eq_true rfl, Nat.le_of_ble_eq_true rfl⟩) (c_preS hw) rfl rfl hl.1 rfl (lv_room (Nat.le_of_ble_eq_true rfl)) dX2_copyOf_59 ⟨Nat.le_of_ble_eq_true rfl, Nat.le_of_ble_eq_true rfl⟩) (fun a59 H locs h hw => ?_)
  refine lv_aload_n hx hb dX2_copyOf_62 rfl (lv_at hl 1 rfl) ?_
  refine c_get S hw (n := x1) (cOk.s (mem_sh hx1.1 hx1.2)) ((isO_H hx1.1 hx1.2) _) rfl in_X2 7 (by decide) (Or.inl q164) rfl rfl dX2_copyOf_63 ?_
  refine lv_aload_n hx hb dX2_copyOf_66 rfl (lv_at hl 0 rfl) ?_
  refine c_get S hw (n := n0) (cOk.s (mem_sh hn0.1 hn0.2)) ((isO_H hn0.1 hn0.2) _) rfl in_X2 7 (by decide) (Or.inl q164) rfl rfl dX2_copyOf_67 ?_
  refine c_callv hw (va_runSN (As := [.ref (ad (x1 + 30)), .ref (ad (n0 + 30))]) (rest := []) S (ctC_X0_copyRow l D dA ad fv A a59 (x1 + 30) (n0 + 30) _ h) (cwC_X2_X0_copyRow hts hw.nw ⟨Nat.le_of_ble_eq_true rfl, Nat.le_of_ble_eq_true rfl⟩) (c_preS hw) rfl rfl hl.1 rfl (lv_room (Nat.le_of_ble_eq_true rfl)) dX2_copyOf_70 ⟨Nat.le_of_ble_eq_true rfl, Nat.le_of_ble_eq_true rfl⟩) (fun a70 H locs h hw => ?_)
  exact c_vret S hr hlk hw h dX2_copyOf_73
theorem ctC_X2_copyOf (l : Launch) (D : va_G) (dA : Nat → ClassId) (ad : Nat → Nat) (fv : Nat → Value) (A : Nat → Prop) (a : CS) (n0 : Nat) (x1 : Nat) (Q : CS → Prop) (h : wpC_X2_copyOf a n0 x1 Q) : Met l yX2_copyOf (ws_ yX2_copyOf cX2_copyOf 2 none) rmC_X2_copyOf (cPc D dA ad fv A a [.ref (ad n0), .ref (ad x1)]) (cQv D dA ad fv A Q) 0 0 A :=
  c_met (by decide) rfl rfl rfl (Nat.le_of_ble_eq_true rfl) (fun p e s m below meth c ls S hr hlk hin2 hw hl => wkC_X2_copyOf_e S hr hlk Q n0 x1 a _ _ ls h hw hl)
theorem cwC_X0_X2_copyOf {R : Room} {s : State} {args : Array Value} {rm : Room} (hts : ∀ w ∈ lw_all, w.before args s = true) (hR : rm.frames + 1 ≤ R.frames ∧ 8 + (2 + 11) + rm.locals ≤ R.locals) (hc : rm.cells = 0 := by rfl) (hs : rm.slots = 0 := by rfl) : CallW R s args RX0 RX2 444 yX2_copyOf cX2_copyOf 2 none (ws_ yX2_copyOf cX2_copyOf 2 none) rm 0 0 1 :=
  cwV 1 hts (lw_V q1024 q1025 q1026 q105 q1027) rfl hc hs (by decide +kernel) hR
theorem cwC_X1_X2_copyOf {R : Room} {s : State} {args : Array Value} {rm : Room} (hts : ∀ w ∈ lw_all, w.before args s = true) (hR : rm.frames + 1 ≤ R.frames ∧ 8 + (2 + 11) + rm.locals ≤ R.locals) (hc : rm.cells = 0 := by rfl) (hs : rm.slots = 0 := by rfl) : CallW R s args RX1 RX2 38 yX2_copyOf cX2_copyOf 2 none (ws_ yX2_copyOf cX2_copyOf 2 none) rm 0 0 1 :=
  cwV 1 hts (lw_V q1306 q1025 q1026 q105 q1027) rfl hc hs (by decide +kernel) hR
/-! X0.fullness -/
abbrev rmC_X0_fullness : Room := { frames := 0, cells := 0, slots := 0, locals := 0 }
def bkC_X0_fullness_4 (Q : Int32 → CS → Prop) : Nat → Int32 → Int32 → CS → Prop
  | 0 => fun _ _ _ => False
  | n + 1 => fun x1 x2 a => if (a.1 (a.2.1 0 5) 4) ≤ x2 then (Q x1 a) else ((vp_in x2 8) ∧ ((vp_in (a.1 ((a.2.1 0 5) + 10) x2.toNatClampNeg) 8) ∧ (bkC_X0_fullness_4 Q n (x1 + (a.1 73 (a.1 ((a.2.1 0 5) + 10) x2.toNatClampNeg).toNatClampNeg)) (x2 + (1 : Int32)) a)))
set_option maxHeartbeats 4000000 in
set_option maxRecDepth 100000 in
theorem wkC_X0_fullness_4 (S : CallFix p m c cX0_fullness 3 s args lw_all RX0) (hr : meth.sig.returnType = (some .int)) (hlk : meth.locks = false) (Q : Int32 → CS → Prop) : ∀ (n : Nat) (x1 : Int32) (x2 : Int32) (a : CS) (H : Heap) (locs : List Loc) (ls : Array Slot), bkC_X0_fullness_4 Q n x1 x2 a → CW D dA ad fv A a s H locs → lv_has ls 3 [(0, .ref (ad 0)), (1, .int x1), (2, .int x2)] → W p l e rmC_X0_fullness s m args below meth c H locs 0 0 (MQ below (cQi D dA ad fv A Q) args s 0 0 A) (F0 m 4 ls []) := by
  have hx := S.1
  have hb := S.2.1
  have hown := S.2.2.2.1
  have hts := S.2.2.2.2
  intro n
  induction n with
  | zero =>
    intro x1 x2 a H locs ls h
    exact False.elim h
  | succ n ih =>
    intro x1 x2 a H locs ls h hw hl
    unfold bkC_X0_fullness_4 at h
    refine lv_iload_n hx hb dX0_fullness_4 rfl (lv_at hl 2 rfl) ?_
    refine lv_aload_n hx hb dX0_fullness_5 rfl (lv_at hl 0 rfl) ?_
    refine c_getOn S hw (Or.inl q329) dX0_fullness_6 (fun ho6 => ?_)
    refine c_get S hw (n := (a.2.1 0 5)) (cOk.s (mem_sh ho6.1 ho6.2)) ((isO_H ho6.1 ho6.2) _) rfl in_X2 4 (by decide) (Or.inr (List.mem_of_getElem? (i := 7) rfl)) rfl rfl dX0_fullness_9 ?_
    refine lv_icmp_ge (tgt := 38) hx hb dX0_fullness_12 (by decide) (fun c12 => ?_) (fun c12 => ?_)
    · replace h := if_t c12 h
      refine lv_iload_n hx hb dX0_fullness_38 rfl (lv_at hl 1 rfl) ?_
      exact c_iret S hr hlk hw h dX0_fullness_39
    · replace h := if_f c12 h
      refine lv_iload_n hx hb dX0_fullness_15 rfl (lv_at hl 1 rfl) ?_
      refine lv_aload_n hx hb dX0_fullness_16 rfl (lv_at hl 0 rfl) ?_
      refine c_get S hw (n := 0) (ci := 0) (cOk.s (by decide)) (isO_K _) rfl in_X0 18 (by decide) (Or.inl q342) rfl rfl dX0_fullness_17 ?_
      refine lv_aload_n hx hb dX0_fullness_20 rfl (lv_at hl 0 rfl) ?_
      refine c_getOn S hw (Or.inl q329) dX0_fullness_21 (fun ho21 => ?_)
      refine c_get S hw (n := (a.2.1 0 5)) (cOk.s (mem_sh ho21.1 ho21.2)) ((isO_H ho21.1 ho21.2) _) rfl in_X2 5 (by decide) (Or.inr (List.mem_of_getElem? (i := 8) rfl)) rfl rfl dX0_fullness_24 ?_
      refine lv_iload_n hx hb dX0_fullness_27 rfl (lv_at hl 2 rfl) ?_
      have hi28 := h.1
      replace h := h.2
      refine c_ald S hw (n := ((a.2.1 0 5) + 10)) (cOk.s (mem_or ho21.1 ho21.2)) (isA_8 (by have q1 := ho21.1; have q2 := ho21.2; omega) (by have q1 := ho21.1; have q2 := ho21.2; omega)) hi28 (Or.inl ⟨rfl, dX0_fullness_28⟩) ?_
      have hi29 := h.1
      replace h := h.2
      refine c_ald S hw (n := 73) (cOk.s (by decide)) (fun _ => rfl) hi29 (Or.inl ⟨rfl, dX0_fullness_29⟩) ?_
      refine lv_iadd hx hb dX0_fullness_30 ?_
      refine lv_istore_n (lv' := [(1, .int (x1 + (a.1 73 (a.1 ((a.2.1 0 5) + 10) x2.toNatClampNeg).toNatClampNeg))), (0, .ref (ad 0)), (2, .int x2)]) hx hb dX0_fullness_31 rfl hl (by decide) rfl (fun ls hl => ?_)
      refine lv_iinc (v := (x2 + (1 : Int32))) (lv' := [(2, .int (x2 + (1 : Int32))), (1, .int (x1 + (a.1 73 (a.1 ((a.2.1 0 5) + 10) x2.toNatClampNeg).toNatClampNeg))), (0, .ref (ad 0))]) hx hb dX0_fullness_32 hl (k := 2) rfl rfl (by decide) rfl (fun ls hl => ?_)
      refine lv_goto (tgt := 4) hx hb dX0_fullness_35 (by decide) ?_
      exact ih _ _ _ _ _ _ h hw (lv_sub hl [2, 1, 0] rfl)
def wpC_X0_fullness (a : CS) (Q : Int32 → CS → Prop) : Prop := ∃ n4, bkC_X0_fullness_4 Q n4 (0 : Int32) (0 : Int32) a
set_option maxHeartbeats 4000000 in
set_option maxRecDepth 100000 in
theorem wkC_X0_fullness_e (S : CallFix p m c cX0_fullness 3 s args lw_all RX0) (hr : meth.sig.returnType = (some .int)) (hlk : meth.locks = false) (Q : Int32 → CS → Prop) (a : CS) (H : Heap) (locs : List Loc) (ls : Array Slot) (h : wpC_X0_fullness a Q) (hw : CW D dA ad fv A a s H locs) (hl : lv_has ls 3 [(0, .ref (ad 0))]) : W p l e rmC_X0_fullness s m args below meth c H locs 0 0 (MQ below (cQi D dA ad fv A Q) args s 0 0 A) (F0 m 0 ls []) := by
  have hx := S.1
  have hb := S.2.1
  have hown := S.2.2.2.1
  have hts := S.2.2.2.2
  unfold wpC_X0_fullness at h
  refine lv_iconst (v := (0 : Int32)) hx hb dX0_fullness_0 (by decide) ?_
  refine lv_istore_n (lv' := [(1, .int (0 : Int32)), (0, .ref (ad 0))]) hx hb dX0_fullness_1 rfl hl (by decide) rfl (fun ls hl => ?_)
  refine lv_iconst (v := (0 : Int32)) hx hb dX0_fullness_2 (by decide) ?_
  refine lv_istore_n (lv' := [(2, .int (0 : Int32)), (1, .int (0 : Int32)), (0, .ref (ad 0))]) hx hb dX0_fullness_3 rfl hl (by decide) rfl (fun ls hl => ?_)
  obtain ⟨n4, h⟩ := h
  exact wkC_X0_fullness_4 S hr hlk Q n4 _ _ _ _ _ _ h hw (lv_sub hl [2, 1, 0] rfl)
theorem ctC_X0_fullness (l : Launch) (D : va_G) (dA : Nat → ClassId) (ad : Nat → Nat) (fv : Nat → Value) (A : Nat → Prop) (a : CS) (Q : Int32 → CS → Prop) (h : wpC_X0_fullness a Q) : Met l yX0_fullness (ws_ yX0_fullness cX0_fullness 3 (some .int)) rmC_X0_fullness (cPc D dA ad fv A a [.ref (ad 0)]) (cQi D dA ad fv A Q) 0 0 A :=
  c_met (by decide) rfl rfl rfl (Nat.le_of_ble_eq_true rfl) (fun p e s m below meth c ls S hr hlk hin2 hw hl => wkC_X0_fullness_e S hr hlk Q a _ _ ls h hw hl)
theorem cwC_X0_X0_fullness {R : Room} {s : State} {args : Array Value} {rm : Room} (hts : ∀ w ∈ lw_all, w.before args s = true) (hR : rm.frames + 1 ≤ R.frames ∧ 8 + (3 + 11) + rm.locals ≤ R.locals) (hc : rm.cells = 0 := by rfl) (hs : rm.slots = 0 := by rfl) : CallW R s args RX0 RX0 410 yX0_fullness cX0_fullness 3 (some .int) (ws_ yX0_fullness cX0_fullness 3 (some .int)) rm 0 0 0 :=
  cwV 0 hts (lw_V q926 q928 qs27 q103 q929) rfl hc hs (by decide +kernel) hR
/-! X0.isLeaned -/
abbrev rmC_X0_isLeaned : Room := { frames := 0, cells := 0, slots := 0, locals := 0 }
def bkC_X0_isLeaned_2 (Q : Int32 → CS → Prop) (x1 : Int32) : Nat → Int32 → CS → Prop
  | 0 => fun _ _ => False
  | n + 1 => fun x2 a => if (a.1 (a.2.1 0 5) 4) ≤ x2 then (Q (0 : Int32) a) else ((vp_in x2 8) ∧ ((vp_in (a.1 ((a.2.1 0 5) + 10) x2.toNatClampNeg) 8) ∧ ((leafK a (a.2.1 41 (a.1 ((a.2.1 0 5) + 10) x2.toNatClampNeg).toNatClampNeg)) ∧ (if (a.1 (a.2.1 41 (a.1 ((a.2.1 0 5) + 10) x2.toNatClampNeg).toNatClampNeg) 3) = x1 then (Q (1 : Int32) a) else (bkC_X0_isLeaned_2 Q x1 n (x2 + (1 : Int32)) a)))))
set_option maxHeartbeats 4000000 in
set_option maxRecDepth 100000 in
theorem wkC_X0_isLeaned_2 (S : CallFix p m c cX0_isLeaned 3 s args lw_all RX0) (hr : meth.sig.returnType = (some .boolean)) (hlk : meth.locks = false) (Q : Int32 → CS → Prop) (x1 : Int32) : ∀ (n : Nat) (x2 : Int32) (a : CS) (H : Heap) (locs : List Loc) (ls : Array Slot), bkC_X0_isLeaned_2 Q x1 n x2 a → CW D dA ad fv A a s H locs → lv_has ls 3 [(0, .ref (ad 0)), (1, .int x1), (2, .int x2)] → W p l e rmC_X0_isLeaned s m args below meth c H locs 0 0 (MQ below (cQi D dA ad fv A Q) args s 0 0 A) (F0 m 2 ls []) := by
  have hx := S.1
  have hb := S.2.1
  have hown := S.2.2.2.1
  have hts := S.2.2.2.2
  intro n
  induction n with
  | zero =>
    intro x2 a H locs ls h
    exact False.elim h
  | succ n ih =>
    intro x2 a H locs ls h hw hl
    unfold bkC_X0_isLeaned_2 at h
    refine lv_iload_n hx hb dX0_isLeaned_2 rfl (lv_at hl 2 rfl) ?_
    refine lv_aload_n hx hb dX0_isLeaned_3 rfl (lv_at hl 0 rfl) ?_
    refine c_getOn S hw (Or.inl q329) dX0_isLeaned_4 (fun ho4 => ?_)
    refine c_get S hw (n := (a.2.1 0 5)) (cOk.s (mem_sh ho4.1 ho4.2)) ((isO_H ho4.1 ho4.2) _) rfl in_X2 4 (by decide) (Or.inr (List.mem_of_getElem? (i := 7) rfl)) rfl rfl dX0_isLeaned_7 ?_
    refine lv_icmp_ge (tgt := 45) hx hb dX0_isLeaned_10 (by decide) (fun c10 => ?_) (fun c10 => ?_)
    · replace h := if_t c10 h
      refine lv_iconst (v := (0 : Int32)) hx hb dX0_isLeaned_45 (by decide) ?_
      exact c_zret S hr hlk hw (Or.inl rfl) h dX0_isLeaned_46
    · replace h := if_f c10 h
      refine lv_aload_n hx hb dX0_isLeaned_13 rfl (lv_at hl 0 rfl) ?_
      refine c_get S hw (n := 0) (ci := 0) (cOk.s (by decide)) (isO_K _) rfl in_X0 0 (by decide) (Or.inl q324) rfl rfl dX0_isLeaned_14 ?_
      refine c_get S hw (n := 1) (cOk.s (by decide)) ((isO_S (by decide) (by decide)) _) rfl in_X1 2 (by decide) (Or.inr (List.mem_of_getElem? (i := 13) rfl)) rfl rfl dX0_isLeaned_17 ?_
      refine lv_aload_n hx hb dX0_isLeaned_20 rfl (lv_at hl 0 rfl) ?_
      refine c_getOn S hw (Or.inl q329) dX0_isLeaned_21 (fun ho21 => ?_)
      refine c_get S hw (n := (a.2.1 0 5)) (cOk.s (mem_sh ho21.1 ho21.2)) ((isO_H ho21.1 ho21.2) _) rfl in_X2 5 (by decide) (Or.inr (List.mem_of_getElem? (i := 8) rfl)) rfl rfl dX0_isLeaned_24 ?_
      refine lv_iload_n hx hb dX0_isLeaned_27 rfl (lv_at hl 2 rfl) ?_
      have hi28 := h.1
      replace h := h.2
      refine c_ald S hw (n := ((a.2.1 0 5) + 10)) (cOk.s (mem_or ho21.1 ho21.2)) (isA_8 (by have q1 := ho21.1; have q2 := ho21.2; omega) (by have q1 := ho21.1; have q2 := ho21.2; omega)) hi28 (Or.inl ⟨rfl, dX0_isLeaned_28⟩) ?_
      have hi29 := h.1
      replace h := h.2
      have hk29_0 := h.1
      replace h := h.2
      refine c_aald S hw (n := 41) (cOk.s (by decide)) ((isR_lf (by decide) (by decide)) _) rfl hi29 (rv_n hk29_0.ne) dX0_isLeaned_29 ?_
      refine c_lget S hw hk29_0 3 (by decide) (Or.inl q653) dX0_isLeaned_30 ?_
      refine lv_iload_n hx hb dX0_isLeaned_33 rfl (lv_at hl 1 rfl) ?_
      refine lv_icmp_ne (tgt := 39) hx hb dX0_isLeaned_34 (by decide) (fun c34 => ?_) (fun c34 => ?_)
      · replace h := if_f c34 h
        refine lv_iinc (v := (x2 + (1 : Int32))) (lv' := [(2, .int (x2 + (1 : Int32))), (0, .ref (ad 0)), (1, .int x1)]) hx hb dX0_isLeaned_39 hl (k := 2) rfl rfl (by decide) rfl (fun ls hl => ?_)
        refine lv_goto (tgt := 2) hx hb dX0_isLeaned_42 (by decide) ?_
        exact ih _ _ _ _ _ h hw (lv_sub hl [1, 2, 0] rfl)
      · replace h := if_t c34 h
        refine lv_iconst (v := (1 : Int32)) hx hb dX0_isLeaned_37 (by decide) ?_
        exact c_zret S hr hlk hw (Or.inr rfl) h dX0_isLeaned_38
def wpC_X0_isLeaned (a : CS) (x1 : Int32) (Q : Int32 → CS → Prop) : Prop := ∃ n2, bkC_X0_isLeaned_2 Q x1 n2 (0 : Int32) a
set_option maxHeartbeats 4000000 in
set_option maxRecDepth 100000 in
theorem wkC_X0_isLeaned_e (S : CallFix p m c cX0_isLeaned 3 s args lw_all RX0) (hr : meth.sig.returnType = (some .boolean)) (hlk : meth.locks = false) (Q : Int32 → CS → Prop) (x1 : Int32) (a : CS) (H : Heap) (locs : List Loc) (ls : Array Slot) (h : wpC_X0_isLeaned a x1 Q) (hw : CW D dA ad fv A a s H locs) (hl : lv_has ls 3 [(0, .ref (ad 0)), (1, .int x1)]) : W p l e rmC_X0_isLeaned s m args below meth c H locs 0 0 (MQ below (cQi D dA ad fv A Q) args s 0 0 A) (F0 m 0 ls []) := by
  have hx := S.1
  have hb := S.2.1
  have hown := S.2.2.2.1
  have hts := S.2.2.2.2
  unfold wpC_X0_isLeaned at h
  refine lv_iconst (v := (0 : Int32)) hx hb dX0_isLeaned_0 (by decide) ?_
  refine lv_istore_n (lv' := [(2, .int (0 : Int32)), (0, .ref (ad 0)), (1, .int x1)]) hx hb dX0_isLeaned_1 rfl hl (by decide) rfl (fun ls hl => ?_)
  obtain ⟨n2, h⟩ := h
  exact wkC_X0_isLeaned_2 S hr hlk Q x1 n2 _ _ _ _ _ h hw (lv_sub hl [1, 2, 0] rfl)
theorem ctC_X0_isLeaned (l : Launch) (D : va_G) (dA : Nat → ClassId) (ad : Nat → Nat) (fv : Nat → Value) (A : Nat → Prop) (a : CS) (x1 : Int32) (Q : Int32 → CS → Prop) (h : wpC_X0_isLeaned a x1 Q) : Met l yX0_isLeaned (ws_ yX0_isLeaned cX0_isLeaned 3 (some .boolean)) rmC_X0_isLeaned (cPc D dA ad fv A a [.ref (ad 0), .int x1]) (cQi D dA ad fv A Q) 0 0 A :=
  c_met (by decide) rfl rfl rfl (Nat.le_of_ble_eq_true rfl) (fun p e s m below meth c ls S hr hlk hin2 hw hl => wkC_X0_isLeaned_e S hr hlk Q x1 a _ _ ls h hw hl)
theorem cwC_X0_X0_isLeaned {R : Room} {s : State} {args : Array Value} {rm : Room} (hts : ∀ w ∈ lw_all, w.before args s = true) (hR : rm.frames + 1 ≤ R.frames ∧ 8 + (3 + 11) + rm.locals ≤ R.locals) (hc : rm.cells = 0 := by rfl) (hs : rm.slots = 0 := by rfl) : CallW R s args RX0 RX0 398 yX0_isLeaned cX0_isLeaned 3 (some .boolean) (ws_ yX0_isLeaned cX0_isLeaned 3 (some .boolean)) rm 0 0 1 :=
  cwV 1 hts (lw_V q942 q944 qs31 q103 q945) rfl hc hs (by decide +kernel) hR
/-! X0.goesBy -/
abbrev rmC_X0_goesBy : Room := { frames := 2, cells := 0, slots := 0, locals := 46 }
def wpC_X0_goesBy (a : CS) (x1 : Int32) (x2 : Int32) (Q : Int32 → CS → Prop) : Prop := if (a.1 1 4) = (1 : Int32) then ((vp_in x1 8) ∧ (Q (-(a.1 ((a.2.1 0 5) + 20) x1.toNatClampNeg)) a)) else (if (a.1 1 4) = (2 : Int32) then ((vp_in x1 8) ∧ (Q (-(a.1 ((a.2.1 0 5) + 30) x1.toNatClampNeg)) a)) else (if (a.1 1 4) = (4 : Int32) then (if x2 = (-1 : Int32) then (Q (0 : Int32) a) else ((vp_in x1 8) ∧ (∀ a88 : CS, a88 = wI a 72 (97 : Int32).toNatClampNeg ((a.1 (a.2.1 0 5) 1) - (a.1 ((a.2.1 0 5) + 20) x1.toNatClampNeg)) → ((vp_in x1 8) ∧ (∀ a104 : CS, a104 = wI a88 72 (116 : Int32).toNatClampNeg (a88.1 ((a88.2.1 0 5) + 30) x1.toNatClampNeg) → ((vp_in x1 8) ∧ (∀ a117 : CS, a117 = wI a104 72 (114 : Int32).toNatClampNeg (a104.1 73 x1.toNatClampNeg) → (∀ a125 : CS, a125 = wI a117 72 (110 : Int32).toNatClampNeg x1 → ((vp_in x2 14) ∧ ((kindK a125 (a125.2.1 61 x2.toNatClampNeg) 114) ∧ ((kindK a125 (a125.2.1 (a125.2.1 61 x2.toNatClampNeg) 1) 113) ∧ (wpC_X0_reckon a125 (a125.2.1 (a125.2.1 61 x2.toNatClampNeg) 1) (fun r139 a139 => Q r139 a139))))))))))))) else (Q (0 : Int32) a)))
set_option maxHeartbeats 4000000 in
set_option maxRecDepth 100000 in
theorem wkC_X0_goesBy_e (S : CallFix p m c cX0_goesBy 3 s args lw_all RX0) (hr : meth.sig.returnType = (some .int)) (hlk : meth.locks = false) (Q : Int32 → CS → Prop) (x1 : Int32) (x2 : Int32) (a : CS) (H : Heap) (locs : List Loc) (ls : Array Slot) (h : wpC_X0_goesBy a x1 x2 Q) (hw : CW D dA ad fv A a s H locs) (hl : lv_has ls 3 [(0, .ref (ad 0)), (1, .int x1), (2, .int x2)]) : W p l e rmC_X0_goesBy s m args below meth c H locs 0 0 (MQ below (cQi D dA ad fv A Q) args s 0 0 A) (F0 m 0 ls []) := by
  have hx := S.1
  have hb := S.2.1
  have hown := S.2.2.2.1
  have hts := S.2.2.2.2
  unfold wpC_X0_goesBy at h
  refine lv_aload_n hx hb dX0_goesBy_0 rfl (lv_at hl 0 rfl) ?_
  refine c_get S hw (n := 0) (ci := 0) (cOk.s (by decide)) (isO_K _) rfl in_X0 0 (by decide) (Or.inl q324) rfl rfl dX0_goesBy_1 ?_
  refine c_get S hw (n := 1) (cOk.s (by decide)) ((isO_S (by decide) (by decide)) _) rfl in_X1 4 (by decide) (Or.inr (List.mem_of_getElem? (i := 15) rfl)) rfl rfl dX0_goesBy_4 ?_
  by_cases c7_0 : (a.1 1 4) = (1 : Int32)
  · replace h := if_t c7_0 h
    refine lv_tableIn (off := 29) (tgt := 36) hx hb dX0_goesBy_7 (by rw [c7_0]; decide) (by rw [c7_0]; decide) (by rw [c7_0]; decide) (by decide) ?_
    refine lv_aload_n hx hb dX0_goesBy_36 rfl (lv_at hl 0 rfl) ?_
    refine c_getOn S hw (Or.inl q329) dX0_goesBy_37 (fun ho37 => ?_)
    refine c_get S hw (n := (a.2.1 0 5)) (cOk.s (mem_sh ho37.1 ho37.2)) ((isO_H ho37.1 ho37.2) _) rfl in_X2 6 (by decide) (Or.inr (List.mem_of_getElem? (i := 9) rfl)) rfl rfl dX0_goesBy_40 ?_
    refine lv_iload_n hx hb dX0_goesBy_43 rfl (lv_at hl 1 rfl) ?_
    have hi44 := h.1
    replace h := h.2
    refine c_ald S hw (n := ((a.2.1 0 5) + 20)) (cOk.s (mem_la ho37.1 ho37.2)) (isA_8 (by have q1 := ho37.1; have q2 := ho37.2; omega) (by have q1 := ho37.1; have q2 := ho37.2; omega)) hi44 (Or.inl ⟨rfl, dX0_goesBy_44⟩) ?_
    refine lv_ineg hx hb dX0_goesBy_45 ?_
    exact c_iret S hr hlk hw h dX0_goesBy_46
  replace h := if_f c7_0 h
  by_cases c7_1 : (a.1 1 4) = (2 : Int32)
  · replace h := if_t c7_1 h
    refine lv_tableIn (off := 40) (tgt := 47) hx hb dX0_goesBy_7 (by rw [c7_1]; decide) (by rw [c7_1]; decide) (by rw [c7_1]; decide) (by decide) ?_
    refine lv_aload_n hx hb dX0_goesBy_47 rfl (lv_at hl 0 rfl) ?_
    refine c_getOn S hw (Or.inl q329) dX0_goesBy_48 (fun ho48 => ?_)
    refine c_get S hw (n := (a.2.1 0 5)) (cOk.s (mem_sh ho48.1 ho48.2)) ((isO_H ho48.1 ho48.2) _) rfl in_X2 7 (by decide) (Or.inr (List.mem_of_getElem? (i := 10) rfl)) rfl rfl dX0_goesBy_51 ?_
    refine lv_iload_n hx hb dX0_goesBy_54 rfl (lv_at hl 1 rfl) ?_
    have hi55 := h.1
    replace h := h.2
    refine c_ald S hw (n := ((a.2.1 0 5) + 30)) (cOk.s (mem_ti ho48.1 ho48.2)) (isA_8 (by have q1 := ho48.1; have q2 := ho48.2; omega) (by have q1 := ho48.1; have q2 := ho48.2; omega)) hi55 (Or.inl ⟨rfl, dX0_goesBy_55⟩) ?_
    refine lv_ineg hx hb dX0_goesBy_56 ?_
    exact c_iret S hr hlk hw h dX0_goesBy_57
  replace h := if_f c7_1 h
  by_cases c7_2 : (a.1 1 4) = (4 : Int32)
  · replace h := if_t c7_2 h
    refine lv_tableIn (off := 51) (tgt := 58) hx hb dX0_goesBy_7 (by rw [c7_2]; decide) (by rw [c7_2]; decide) (by rw [c7_2]; decide) (by decide) ?_
    refine lv_iload_n hx hb dX0_goesBy_58 rfl (lv_at hl 2 rfl) ?_
    refine lv_iconst (v := (-1 : Int32)) hx hb dX0_goesBy_59 (by decide) ?_
    refine lv_icmp_ne (tgt := 65) hx hb dX0_goesBy_60 (by decide) (fun c60 => ?_) (fun c60 => ?_)
    · replace h := if_f c60 h
      refine lv_aload_n hx hb dX0_goesBy_65 rfl (lv_at hl 0 rfl) ?_
      refine c_get S hw (n := 0) (ci := 0) (cOk.s (by decide)) (isO_K _) rfl in_X0 17 (by decide) (Or.inl q341) rfl rfl dX0_goesBy_66 ?_
      refine lv_bipush (v := (97 : Int32)) hx hb dX0_goesBy_69 (by decide) ?_
      refine lv_aload_n hx hb dX0_goesBy_71 rfl (lv_at hl 0 rfl) ?_
      refine c_getOn S hw (Or.inl q329) dX0_goesBy_72 (fun ho72 => ?_)
      refine c_get S hw (n := (a.2.1 0 5)) (cOk.s (mem_sh ho72.1 ho72.2)) ((isO_H ho72.1 ho72.2) _) rfl in_X2 1 (by decide) (Or.inr (List.mem_of_getElem? (i := 4) rfl)) rfl rfl dX0_goesBy_75 ?_
      refine lv_aload_n hx hb dX0_goesBy_78 rfl (lv_at hl 0 rfl) ?_
      refine c_getOn S hw (Or.inl q329) dX0_goesBy_79 (fun ho79 => ?_)
      refine c_get S hw (n := (a.2.1 0 5)) (cOk.s (mem_sh ho79.1 ho79.2)) ((isO_H ho79.1 ho79.2) _) rfl in_X2 6 (by decide) (Or.inr (List.mem_of_getElem? (i := 9) rfl)) rfl rfl dX0_goesBy_82 ?_
      refine lv_iload_n hx hb dX0_goesBy_85 rfl (lv_at hl 1 rfl) ?_
      have hi86 := h.1
      replace h := h.2
      refine c_ald S hw (n := ((a.2.1 0 5) + 20)) (cOk.s (mem_la ho79.1 ho79.2)) (isA_8 (by have q1 := ho79.1; have q2 := ho79.2; omega) (by have q1 := ho79.1; have q2 := ho79.2; omega)) hi86 (Or.inl ⟨rfl, dX0_goesBy_86⟩) ?_
      refine lv_isub hx hb dX0_goesBy_87 ?_
      refine c_ast S hw (n := 72) (by decide) (cOk.s (by decide)) (fun _ => rfl) (vlit (by decide)) (Or.inl ⟨rfl, rfl, dX0_goesBy_88⟩) (fun a88 H locs ea88 hw => ?_)
      replace h := h a88 ea88
      refine lv_aload_n hx hb dX0_goesBy_89 rfl (lv_at hl 0 rfl) ?_
      refine c_get S hw (n := 0) (ci := 0) (cOk.s (by decide)) (isO_K _) rfl in_X0 17 (by decide) (Or.inl q341) rfl rfl dX0_goesBy_90 ?_
      refine lv_bipush (v := (116 : Int32)) hx hb dX0_goesBy_93 (by decide) ?_
      refine lv_aload_n hx hb dX0_goesBy_95 rfl (lv_at hl 0 rfl) ?_
      refine c_getOn S hw (Or.inl q329) dX0_goesBy_96 (fun ho96 => ?_)
      refine c_get S hw (n := (a88.2.1 0 5)) (cOk.s (mem_sh ho96.1 ho96.2)) ((isO_H ho96.1 ho96.2) _) rfl in_X2 7 (by decide) (Or.inr (List.mem_of_getElem? (i := 10) rfl)) rfl rfl dX0_goesBy_99 ?_
      refine lv_iload_n hx hb dX0_goesBy_102 rfl (lv_at hl 1 rfl) ?_
      have hi103 := h.1
      replace h := h.2
      refine c_ald S hw (n := ((a88.2.1 0 5) + 30)) (cOk.s (mem_ti ho96.1 ho96.2)) (isA_8 (by have q1 := ho96.1; have q2 := ho96.2; omega) (by have q1 := ho96.1; have q2 := ho96.2; omega)) hi103 (Or.inl ⟨rfl, dX0_goesBy_103⟩) ?_
      refine c_ast S hw (n := 72) (by decide) (cOk.s (by decide)) (fun _ => rfl) (vlit (by decide)) (Or.inl ⟨rfl, rfl, dX0_goesBy_104⟩) (fun a104 H locs ea104 hw => ?_)
      replace h := h a104 ea104
      refine lv_aload_n hx hb dX0_goesBy_105 rfl (lv_at hl 0 rfl) ?_
      refine c_get S hw (n := 0) (ci := 0) (cOk.s (by decide)) (isO_K _) rfl in_X0 17 (by decide) (Or.inl q341) rfl rfl dX0_goesBy_106 ?_
      refine lv_bipush (v := (114 : Int32)) hx hb dX0_goesBy_109 (by decide) ?_
      refine lv_aload_n hx hb dX0_goesBy_111 rfl (lv_at hl 0 rfl) ?_
      refine c_get S hw (n := 0) (ci := 0) (cOk.s (by decide)) (isO_K _) rfl in_X0 18 (by decide) (Or.inl q342) rfl rfl dX0_goesBy_112 ?_
      refine lv_iload_n hx hb dX0_goesBy_115 rfl (lv_at hl 1 rfl) ?_
      have hi116 := h.1
      replace h := h.2
      refine c_ald S hw (n := 73) (cOk.s (by decide)) (fun _ => rfl) hi116 (Or.inl ⟨rfl, dX0_goesBy_116⟩) ?_
      refine c_ast S hw (n := 72) (by decide) (cOk.s (by decide)) (fun _ => rfl) (vlit (by decide)) (Or.inl ⟨rfl, rfl, dX0_goesBy_117⟩) (fun a117 H locs ea117 hw => ?_)
      replace h := h a117 ea117
      refine lv_aload_n hx hb dX0_goesBy_118 rfl (lv_at hl 0 rfl) ?_
      refine c_get S hw (n := 0) (ci := 0) (cOk.s (by decide)) (isO_K _) rfl in_X0 17 (by decide) (Or.inl q341) rfl rfl dX0_goesBy_119 ?_
      refine lv_bipush (v := (110 : Int32)) hx hb dX0_goesBy_122 (by decide) ?_
      refine lv_iload_n hx hb dX0_goesBy_124 rfl (lv_at hl 1 rfl) ?_
      refine c_ast S hw (n := 72) (by decide) (cOk.s (by decide)) (fun _ => rfl) (vlit (by decide)) (Or.inl ⟨rfl, rfl, dX0_goesBy_125⟩) (fun a125 H locs ea125 hw => ?_)
      replace h := h a125 ea125
      refine lv_aload_n hx hb dX0_goesBy_126 rfl (lv_at hl 0 rfl) ?_
      refine lv_aload_n hx hb dX0_goesBy_127 rfl (lv_at hl 0 rfl) ?_
      refine c_get S hw (n := 0) (ci := 0) (cOk.s (by decide)) (isO_K _) rfl in_X0 0 (by decide) (Or.inl q324) rfl rfl dX0_goesBy_128 ?_
      refine c_get S hw (n := 1) (cOk.s (by decide)) ((isO_S (by decide) (by decide)) _) rfl in_X1 9 (by decide) (Or.inr (List.mem_of_getElem? (i := 20) rfl)) rfl rfl dX0_goesBy_131 ?_
      refine lv_iload_n hx hb dX0_goesBy_134 rfl (lv_at hl 2 rfl) ?_
      have hi135 := h.1
      replace h := h.2
      have hk135_0 := h.1
      replace h := h.2
      refine c_aald S hw (n := 61) (cOk.s (by decide)) ((isR_tx (by decide) (by decide)) _) rfl hi135 (rv_n hk135_0.ne) dX0_goesBy_135 ?_
      have hk136_1 := h.1
      replace h := h.2
      refine c_getr S hw (n := (a125.2.1 61 x2.toNatClampNeg)) (x := (a125.2.1 (a125.2.1 61 x2.toNatClampNeg) 1)) (hk135_0.ok (by decide)) ((isO_T hk135_0) _) rfl in_X14 1 (by decide) (Or.inr (List.mem_of_getElem? (i := 33) rfl)) rfl rfl hk136_1.ne dX0_goesBy_136 ?_
      refine c_calli hw (va_runV (As := [.ref (ad (a125.2.1 (a125.2.1 61 x2.toNatClampNeg) 1))]) (rest := []) S (ctC_X0_reckon l D dA ad fv A a125 (a125.2.1 (a125.2.1 61 x2.toNatClampNeg) 1) _ h) (cwC_X0_X0_reckon hts ⟨Nat.le_of_ble_eq_true rfl, Nat.le_of_ble_eq_true rfl⟩) (c_preV hw (n := 0) (cOk.s (by decide)) (isO_K _) rfl) rfl rfl hl.1 rfl (lv_room (Nat.le_of_ble_eq_true rfl)) dX0_goesBy_139 ⟨Nat.le_of_ble_eq_true rfl, Nat.le_of_ble_eq_true rfl⟩) (fun r139 a139 H locs h hw => ?_)
      exact c_iret S hr hlk hw h dX0_goesBy_142
    · replace h := if_t c60 h
      refine lv_iconst (v := (0 : Int32)) hx hb dX0_goesBy_63 (by decide) ?_
      exact c_iret S hr hlk hw h dX0_goesBy_64
  replace h := if_f c7_2 h
  have hout : (a.1 1 4).toInt < 1 ∨ 4 < (a.1 1 4).toInt ∨ (#[29, 40, 136, 51] : Array Int)[((a.1 1 4).toInt - 1).toNat]? = some 136 := by
    have n0 := lv_neT c7_0 (a := 1) (by decide)
    have n1 := lv_neT c7_1 (a := 2) (by decide)
    have n2 := lv_neT c7_2 (a := 4) (by decide)
    by_cases h1 : (a.1 1 4).toInt < 1
    · exact Or.inl h1
    by_cases h2 : 4 < (a.1 1 4).toInt
    · exact Or.inr (Or.inl h2)
    exact Or.inr (Or.inr ((by decide : ∀ t : Nat, t < 4 → t ∉ [0, 1, 3] → (#[29, 40, 136, 51] : Array Int)[t]? = some 136) _ (by omega) (by simp only [List.mem_cons, List.not_mem_nil, or_false, not_or]; omega)))
  refine lv_tableD (tgt := 143) hx hb dX0_goesBy_7 hout (by decide) ?_
  refine lv_iconst (v := (0 : Int32)) hx hb dX0_goesBy_143 (by decide) ?_
  exact c_iret S hr hlk hw h dX0_goesBy_144
theorem ctC_X0_goesBy (l : Launch) (D : va_G) (dA : Nat → ClassId) (ad : Nat → Nat) (fv : Nat → Value) (A : Nat → Prop) (a : CS) (x1 : Int32) (x2 : Int32) (Q : Int32 → CS → Prop) (h : wpC_X0_goesBy a x1 x2 Q) : Met l yX0_goesBy (ws_ yX0_goesBy cX0_goesBy 3 (some .int)) rmC_X0_goesBy (cPc D dA ad fv A a [.ref (ad 0), .int x1, .int x2]) (cQi D dA ad fv A Q) 0 0 A :=
  c_met (by decide) rfl rfl rfl (Nat.le_of_ble_eq_true rfl) (fun p e s m below meth c ls S hr hlk hin2 hw hl => wkC_X0_goesBy_e S hr hlk Q x1 x2 a _ _ ls h hw hl)
theorem cwC_X0_X0_goesBy {R : Room} {s : State} {args : Array Value} {rm : Room} (hts : ∀ w ∈ lw_all, w.before args s = true) (hR : rm.frames + 1 ≤ R.frames ∧ 8 + (3 + 11) + rm.locals ≤ R.locals) (hc : rm.cells = 0 := by rfl) (hs : rm.slots = 0 := by rfl) : CallW R s args RX0 RX0 407 yX0_goesBy cX0_goesBy 3 (some .int) (ws_ yX0_goesBy cX0_goesBy 3 (some .int)) rm 0 0 2 :=
  cwV 2 hts (lw_V q946 q948 qs32 q103 q949) rfl hc hs (by decide +kernel) hR
/-! X0.isLooked -/
abbrev rmC_X0_isLooked : Room := { frames := 1, cells := 0, slots := 0, locals := 22 }
def wpC_X0_isLooked (a : CS) (x1 : Int32) (Q : Int32 → CS → Prop) : Prop := if (a.1 1 5) = 0 then (Q (1 : Int32) a) else (wpC_X0_isLeaned a x1 (fun r12 a12 => if r12 = 0 then (Q (1 : Int32) a12) else (Q (0 : Int32) a12)))
set_option maxHeartbeats 4000000 in
set_option maxRecDepth 100000 in
theorem wkC_X0_isLooked_e (S : CallFix p m c cX0_isLooked 2 s args lw_all RX0) (hr : meth.sig.returnType = (some .boolean)) (hlk : meth.locks = false) (Q : Int32 → CS → Prop) (x1 : Int32) (a : CS) (H : Heap) (locs : List Loc) (ls : Array Slot) (h : wpC_X0_isLooked a x1 Q) (hw : CW D dA ad fv A a s H locs) (hl : lv_has ls 2 [(0, .ref (ad 0)), (1, .int x1)]) : W p l e rmC_X0_isLooked s m args below meth c H locs 0 0 (MQ below (cQi D dA ad fv A Q) args s 0 0 A) (F0 m 0 ls []) := by
  have hx := S.1
  have hb := S.2.1
  have hown := S.2.2.2.1
  have hts := S.2.2.2.2
  unfold wpC_X0_isLooked at h
  refine lv_aload_n hx hb dX0_isLooked_0 rfl (lv_at hl 0 rfl) ?_
  refine c_get S hw (n := 0) (ci := 0) (cOk.s (by decide)) (isO_K _) rfl in_X0 0 (by decide) (Or.inl q324) rfl rfl dX0_isLooked_1 ?_
  refine c_get S hw (n := 1) (cOk.s (by decide)) ((isO_S (by decide) (by decide)) _) rfl in_X1 5 (by decide) (Or.inr (List.mem_of_getElem? (i := 16) rfl)) rfl rfl dX0_isLooked_4 ?_
  refine lv_if_eq (tgt := 18) hx hb dX0_isLooked_7 (by decide) (fun c7 => ?_) (fun c7 => ?_)
  · replace h := if_t c7 h
    refine lv_iconst (v := (1 : Int32)) hx hb dX0_isLooked_18 (by decide) ?_
    refine lv_goto (tgt := 23) hx hb dX0_isLooked_19 (by decide) ?_
    exact c_zret S hr hlk hw (Or.inr rfl) h dX0_isLooked_23
  · replace h := if_f c7 h
    refine lv_aload_n hx hb dX0_isLooked_10 rfl (lv_at hl 0 rfl) ?_
    refine lv_iload_n hx hb dX0_isLooked_11 rfl (lv_at hl 1 rfl) ?_
    refine c_calli hw (va_runV (As := [.int x1]) (rest := []) S (ctC_X0_isLeaned l D dA ad fv A a x1 _ h) (cwC_X0_X0_isLeaned hts ⟨Nat.le_of_ble_eq_true rfl, Nat.le_of_ble_eq_true rfl⟩) (c_preV hw (n := 0) (cOk.s (by decide)) (isO_K _) rfl) rfl rfl hl.1 rfl (lv_room (Nat.le_of_ble_eq_true rfl)) dX0_isLooked_12 ⟨Nat.le_of_ble_eq_true rfl, Nat.le_of_ble_eq_true rfl⟩) (fun r12 a12 H locs h hw => ?_)
    refine lv_if_ne (tgt := 22) hx hb dX0_isLooked_15 (by decide) (fun c15 => ?_) (fun c15 => ?_)
    · replace h := if_f c15 h
      refine lv_iconst (v := (0 : Int32)) hx hb dX0_isLooked_22 (by decide) ?_
      exact c_zret S hr hlk hw (Or.inl rfl) h dX0_isLooked_23
    · replace h := if_t c15 h
      refine lv_iconst (v := (1 : Int32)) hx hb dX0_isLooked_18 (by decide) ?_
      refine lv_goto (tgt := 23) hx hb dX0_isLooked_19 (by decide) ?_
      exact c_zret S hr hlk hw (Or.inr rfl) h dX0_isLooked_23
theorem ctC_X0_isLooked (l : Launch) (D : va_G) (dA : Nat → ClassId) (ad : Nat → Nat) (fv : Nat → Value) (A : Nat → Prop) (a : CS) (x1 : Int32) (Q : Int32 → CS → Prop) (h : wpC_X0_isLooked a x1 Q) : Met l yX0_isLooked (ws_ yX0_isLooked cX0_isLooked 2 (some .boolean)) rmC_X0_isLooked (cPc D dA ad fv A a [.ref (ad 0), .int x1]) (cQi D dA ad fv A Q) 0 0 A :=
  c_met (by decide) rfl rfl rfl (Nat.le_of_ble_eq_true rfl) (fun p e s m below meth c ls S hr hlk hin2 hw hl => wkC_X0_isLooked_e S hr hlk Q x1 a _ _ ls h hw hl)
theorem cwC_X0_X0_isLooked {R : Room} {s : State} {args : Array Value} {rm : Room} (hts : ∀ w ∈ lw_all, w.before args s = true) (hR : rm.frames + 1 ≤ R.frames ∧ 8 + (2 + 11) + rm.locals ≤ R.locals) (hc : rm.cells = 0 := by rfl) (hs : rm.slots = 0 := by rfl) : CallW R s args RX0 RX0 401 yX0_isLooked cX0_isLooked 2 (some .boolean) (ws_ yX0_isLooked cX0_isLooked 2 (some .boolean)) rm 0 0 1 :=
  cwV 1 hts (lw_V q938 q940 qs30 q103 q941) rfl hc hs (by decide +kernel) hR
/-! X0.byLot -/
abbrev rmC_X0_byLot : Room := { frames := 2, cells := 0, slots := 0, locals := 43 }
def bkC_X0_byLot_77 (Q : Int32 → CS → Prop) (O57 : Int32 → Int32 → CS → Prop) : Int32 → Int32 → CS → Prop := fun x2 x3 a => (vp_in x3 8) ∧ (wpC_X0_isLooked a (a.1 ((a.2.1 0 5) + 10) x3.toNatClampNeg) (fun r88 a88 => if r88 = 0 then (O57 (x2 - (0 : Int32)) (x3 + (1 : Int32)) a88) else (O57 (x2 - (1 : Int32)) (x3 + (1 : Int32)) a88)))
set_option maxHeartbeats 4000000 in
set_option maxRecDepth 100000 in
theorem wkC_X0_byLot_77 (S : CallFix p m c cX0_byLot 4 s args lw_all RX0) (hr : meth.sig.returnType = (some .int)) (hlk : meth.locks = false) (Q : Int32 → CS → Prop) {O57 : Int32 → Int32 → CS → Prop} (hO57 : ∀ (x2 : Int32) (x3 : Int32) (a : CS) (H : Heap) (locs : List Loc) (ls : Array Slot), O57 x2 x3 a → CW D dA ad fv A a s H locs → lv_has ls 4 [(0, .ref (ad 0)), (2, .int x2), (3, .int x3)] → W p l e rmC_X0_byLot s m args below meth c H locs 0 0 (MQ below (cQi D dA ad fv A Q) args s 0 0 A) (F0 m 57 ls [])) : ∀ (x2 : Int32) (x3 : Int32) (a : CS) (H : Heap) (locs : List Loc) (ls : Array Slot), bkC_X0_byLot_77 Q O57 x2 x3 a → CW D dA ad fv A a s H locs → lv_has ls 4 [(0, .ref (ad 0)), (2, .int x2), (3, .int x3)] → W p l e rmC_X0_byLot s m args below meth c H locs 0 0 (MQ below (cQi D dA ad fv A Q) args s 0 0 A) (F0 m 77 ls []) := by
  have hx := S.1
  have hb := S.2.1
  have hown := S.2.2.2.1
  have hts := S.2.2.2.2
  intro x2 x3 a H locs ls h hw hl
  unfold bkC_X0_byLot_77 at h
  refine lv_iload_n hx hb dX0_byLot_77 rfl (lv_at hl 1 rfl) ?_
  refine lv_aload_n hx hb dX0_byLot_78 rfl (lv_at hl 0 rfl) ?_
  refine lv_aload_n hx hb dX0_byLot_79 rfl (lv_at hl 0 rfl) ?_
  refine c_getOn S hw (Or.inl q329) dX0_byLot_80 (fun ho80 => ?_)
  refine c_get S hw (n := (a.2.1 0 5)) (cOk.s (mem_sh ho80.1 ho80.2)) ((isO_H ho80.1 ho80.2) _) rfl in_X2 5 (by decide) (Or.inr (List.mem_of_getElem? (i := 8) rfl)) rfl rfl dX0_byLot_83 ?_
  refine lv_iload_n hx hb dX0_byLot_86 rfl (lv_at hl 2 rfl) ?_
  have hi87 := h.1
  replace h := h.2
  refine c_ald S hw (n := ((a.2.1 0 5) + 10)) (cOk.s (mem_or ho80.1 ho80.2)) (isA_8 (by have q1 := ho80.1; have q2 := ho80.2; omega) (by have q1 := ho80.1; have q2 := ho80.2; omega)) hi87 (Or.inl ⟨rfl, dX0_byLot_87⟩) ?_
  refine c_calli hw (va_runV (As := [.int (a.1 ((a.2.1 0 5) + 10) x3.toNatClampNeg)]) (rest := [.int x2]) S (ctC_X0_isLooked l D dA ad fv A a (a.1 ((a.2.1 0 5) + 10) x3.toNatClampNeg) _ h) (cwC_X0_X0_isLooked hts ⟨Nat.le_of_ble_eq_true rfl, Nat.le_of_ble_eq_true rfl⟩) (c_preV hw (n := 0) (cOk.s (by decide)) (isO_K _) rfl) rfl rfl hl.1 rfl (lv_room (Nat.le_of_ble_eq_true rfl)) dX0_byLot_88 ⟨Nat.le_of_ble_eq_true rfl, Nat.le_of_ble_eq_true rfl⟩) (fun r88 a88 H locs h hw => ?_)
  refine lv_if_eq (tgt := 98) hx hb dX0_byLot_91 (by decide) (fun c91 => ?_) (fun c91 => ?_)
  · replace h := if_t c91 h
    refine lv_iconst (v := (0 : Int32)) hx hb dX0_byLot_98 (by decide) ?_
    refine lv_isub hx hb dX0_byLot_99 ?_
    refine lv_istore_n (lv' := [(2, .int (x2 - (0 : Int32))), (0, .ref (ad 0)), (3, .int x3)]) hx hb dX0_byLot_100 rfl hl (by decide) rfl (fun ls hl => ?_)
    refine lv_iinc (v := (x3 + (1 : Int32))) (lv' := [(3, .int (x3 + (1 : Int32))), (2, .int (x2 - (0 : Int32))), (0, .ref (ad 0))]) hx hb dX0_byLot_101 hl (k := 2) rfl rfl (by decide) rfl (fun ls hl => ?_)
    refine lv_goto (tgt := 57) hx hb dX0_byLot_104 (by decide) ?_
    exact hO57 _ _ _ _ _ _ h hw (lv_sub hl [2, 1, 0] rfl)
  · replace h := if_f c91 h
    refine lv_iconst (v := (1 : Int32)) hx hb dX0_byLot_94 (by decide) ?_
    refine lv_goto (tgt := 99) hx hb dX0_byLot_95 (by decide) ?_
    refine lv_isub hx hb dX0_byLot_99 ?_
    refine lv_istore_n (lv' := [(2, .int (x2 - (1 : Int32))), (0, .ref (ad 0)), (3, .int x3)]) hx hb dX0_byLot_100 rfl hl (by decide) rfl (fun ls hl => ?_)
    refine lv_iinc (v := (x3 + (1 : Int32))) (lv' := [(3, .int (x3 + (1 : Int32))), (2, .int (x2 - (1 : Int32))), (0, .ref (ad 0))]) hx hb dX0_byLot_101 hl (k := 2) rfl rfl (by decide) rfl (fun ls hl => ?_)
    refine lv_goto (tgt := 57) hx hb dX0_byLot_104 (by decide) ?_
    exact hO57 _ _ _ _ _ _ h hw (lv_sub hl [2, 1, 0] rfl)
def bkC_X0_byLot_57 (Q : Int32 → CS → Prop) : Nat → Int32 → Int32 → CS → Prop
  | 0 => fun _ _ _ => False
  | n + 1 => fun x2 x3 a => if 0 < x2 then (bkC_X0_byLot_77 Q (bkC_X0_byLot_57 Q n) x2 x3 a) else ((vp_in x3 8) ∧ (wpC_X0_isLooked a (a.1 ((a.2.1 0 5) + 10) x3.toNatClampNeg) (fun r71 a71 => if r71 = 0 then (bkC_X0_byLot_77 Q (bkC_X0_byLot_57 Q n) x2 x3 a71) else ((vp_in x3 8) ∧ (Q (a71.1 ((a71.2.1 0 5) + 10) x3.toNatClampNeg) a71)))))
set_option maxHeartbeats 4000000 in
set_option maxRecDepth 100000 in
theorem wkC_X0_byLot_57 (S : CallFix p m c cX0_byLot 4 s args lw_all RX0) (hr : meth.sig.returnType = (some .int)) (hlk : meth.locks = false) (Q : Int32 → CS → Prop) : ∀ (n : Nat) (x2 : Int32) (x3 : Int32) (a : CS) (H : Heap) (locs : List Loc) (ls : Array Slot), bkC_X0_byLot_57 Q n x2 x3 a → CW D dA ad fv A a s H locs → lv_has ls 4 [(0, .ref (ad 0)), (2, .int x2), (3, .int x3)] → W p l e rmC_X0_byLot s m args below meth c H locs 0 0 (MQ below (cQi D dA ad fv A Q) args s 0 0 A) (F0 m 57 ls []) := by
  have hx := S.1
  have hb := S.2.1
  have hown := S.2.2.2.1
  have hts := S.2.2.2.2
  intro n
  induction n with
  | zero =>
    intro x2 x3 a H locs ls h
    exact False.elim h
  | succ n ih =>
    intro x2 x3 a H locs ls h hw hl
    unfold bkC_X0_byLot_57 at h
    refine lv_iload_n hx hb dX0_byLot_57 rfl (lv_at hl 1 rfl) ?_
    refine lv_if_gt (tgt := 77) hx hb dX0_byLot_58 (by decide) (fun c58 => ?_) (fun c58 => ?_)
    · replace h := if_t c58 h
      exact wkC_X0_byLot_77 S hr hlk Q ih _ _ _ _ _ _ h hw (lv_sub hl [0, 1, 2] rfl)
    · replace h := if_f c58 h
      refine lv_aload_n hx hb dX0_byLot_61 rfl (lv_at hl 0 rfl) ?_
      refine lv_aload_n hx hb dX0_byLot_62 rfl (lv_at hl 0 rfl) ?_
      refine c_getOn S hw (Or.inl q329) dX0_byLot_63 (fun ho63 => ?_)
      refine c_get S hw (n := (a.2.1 0 5)) (cOk.s (mem_sh ho63.1 ho63.2)) ((isO_H ho63.1 ho63.2) _) rfl in_X2 5 (by decide) (Or.inr (List.mem_of_getElem? (i := 8) rfl)) rfl rfl dX0_byLot_66 ?_
      refine lv_iload_n hx hb dX0_byLot_69 rfl (lv_at hl 2 rfl) ?_
      have hi70 := h.1
      replace h := h.2
      refine c_ald S hw (n := ((a.2.1 0 5) + 10)) (cOk.s (mem_or ho63.1 ho63.2)) (isA_8 (by have q1 := ho63.1; have q2 := ho63.2; omega) (by have q1 := ho63.1; have q2 := ho63.2; omega)) hi70 (Or.inl ⟨rfl, dX0_byLot_70⟩) ?_
      refine c_calli hw (va_runV (As := [.int (a.1 ((a.2.1 0 5) + 10) x3.toNatClampNeg)]) (rest := []) S (ctC_X0_isLooked l D dA ad fv A a (a.1 ((a.2.1 0 5) + 10) x3.toNatClampNeg) _ h) (cwC_X0_X0_isLooked hts ⟨Nat.le_of_ble_eq_true rfl, Nat.le_of_ble_eq_true rfl⟩) (c_preV hw (n := 0) (cOk.s (by decide)) (isO_K _) rfl) rfl rfl hl.1 rfl (lv_room (Nat.le_of_ble_eq_true rfl)) dX0_byLot_71 ⟨Nat.le_of_ble_eq_true rfl, Nat.le_of_ble_eq_true rfl⟩) (fun r71 a71 H locs h hw => ?_)
      refine lv_if_ne (tgt := 107) hx hb dX0_byLot_74 (by decide) (fun c74 => ?_) (fun c74 => ?_)
      · replace h := if_f c74 h
        refine lv_aload_n hx hb dX0_byLot_107 rfl (lv_at hl 0 rfl) ?_
        refine c_getOn S hw (Or.inl q329) dX0_byLot_108 (fun ho108 => ?_)
        refine c_get S hw (n := (a71.2.1 0 5)) (cOk.s (mem_sh ho108.1 ho108.2)) ((isO_H ho108.1 ho108.2) _) rfl in_X2 5 (by decide) (Or.inr (List.mem_of_getElem? (i := 8) rfl)) rfl rfl dX0_byLot_111 ?_
        refine lv_iload_n hx hb dX0_byLot_114 rfl (lv_at hl 2 rfl) ?_
        have hi115 := h.1
        replace h := h.2
        refine c_ald S hw (n := ((a71.2.1 0 5) + 10)) (cOk.s (mem_or ho108.1 ho108.2)) (isA_8 (by have q1 := ho108.1; have q2 := ho108.2; omega) (by have q1 := ho108.1; have q2 := ho108.2; omega)) hi115 (Or.inl ⟨rfl, dX0_byLot_115⟩) ?_
        exact c_iret S hr hlk hw h dX0_byLot_116
      · replace h := if_t c74 h
        exact wkC_X0_byLot_77 S hr hlk Q ih _ _ _ _ _ _ h hw (lv_sub hl [0, 1, 2] rfl)
def bkC_X0_byLot_4 (Q : Int32 → CS → Prop) : Nat → Int32 → Int32 → CS → Prop
  | 0 => fun _ _ _ => False
  | n + 1 => fun x1 x2 a => if (a.1 (a.2.1 0 5) 4) ≤ x2 then (wpC_X2_draw a (a.2.1 0 5) (fun r49 a49 => (¬ x1 = 0) ∧ (∃ n57, bkC_X0_byLot_57 Q n57 (irm r49 x1) (0 : Int32) a49))) else ((vp_in x2 8) ∧ (wpC_X0_isLooked a (a.1 ((a.2.1 0 5) + 10) x2.toNatClampNeg) (fun r26 a26 => if r26 = 0 then (bkC_X0_byLot_4 Q n (x1 + (0 : Int32)) (x2 + (1 : Int32)) a26) else (bkC_X0_byLot_4 Q n (x1 + (1 : Int32)) (x2 + (1 : Int32)) a26))))
set_option maxHeartbeats 4000000 in
set_option maxRecDepth 100000 in
theorem wkC_X0_byLot_4 (S : CallFix p m c cX0_byLot 4 s args lw_all RX0) (hr : meth.sig.returnType = (some .int)) (hlk : meth.locks = false) (Q : Int32 → CS → Prop) : ∀ (n : Nat) (x1 : Int32) (x2 : Int32) (a : CS) (H : Heap) (locs : List Loc) (ls : Array Slot), bkC_X0_byLot_4 Q n x1 x2 a → CW D dA ad fv A a s H locs → lv_has ls 4 [(0, .ref (ad 0)), (1, .int x1), (2, .int x2)] → W p l e rmC_X0_byLot s m args below meth c H locs 0 0 (MQ below (cQi D dA ad fv A Q) args s 0 0 A) (F0 m 4 ls []) := by
  have hx := S.1
  have hb := S.2.1
  have hown := S.2.2.2.1
  have hts := S.2.2.2.2
  intro n
  induction n with
  | zero =>
    intro x1 x2 a H locs ls h
    exact False.elim h
  | succ n ih =>
    intro x1 x2 a H locs ls h hw hl
    unfold bkC_X0_byLot_4 at h
    refine lv_iload_n hx hb dX0_byLot_4 rfl (lv_at hl 2 rfl) ?_
    refine lv_aload_n hx hb dX0_byLot_5 rfl (lv_at hl 0 rfl) ?_
    refine c_getOn S hw (Or.inl q329) dX0_byLot_6 (fun ho6 => ?_)
    refine c_get S hw (n := (a.2.1 0 5)) (cOk.s (mem_sh ho6.1 ho6.2)) ((isO_H ho6.1 ho6.2) _) rfl in_X2 4 (by decide) (Or.inr (List.mem_of_getElem? (i := 7) rfl)) rfl rfl dX0_byLot_9 ?_
    refine lv_icmp_ge (tgt := 45) hx hb dX0_byLot_12 (by decide) (fun c12 => ?_) (fun c12 => ?_)
    · replace h := if_t c12 h
      refine lv_aload_n hx hb dX0_byLot_45 rfl (lv_at hl 0 rfl) ?_
      refine c_getOn S hw (Or.inl q329) dX0_byLot_46 (fun ho46 => ?_)
      refine c_calli hw (va_runV (As := []) (rest := []) S (ctC_X2_draw l D dA ad fv A a (a.2.1 0 5) _ h) (cwC_X0_X2_draw hts ⟨Nat.le_of_ble_eq_true rfl, Nat.le_of_ble_eq_true rfl⟩) (c_preV hw (n := (a.2.1 0 5)) (cOk.s (mem_sh ho46.1 ho46.2)) ((isO_H ho46.1 ho46.2) _) rfl) rfl rfl hl.1 rfl (lv_room (Nat.le_of_ble_eq_true rfl)) dX0_byLot_49 ⟨Nat.le_of_ble_eq_true rfl, Nat.le_of_ble_eq_true rfl⟩) (fun r49 a49 H locs h hw => ?_)
      refine lv_iload_n hx hb dX0_byLot_52 rfl (lv_at hl 1 rfl) ?_
      have hz53 := h.1
      replace h := h.2
      refine lv_irem hx hb dX0_byLot_53 hz53 ?_
      refine lv_istore_n (lv' := [(2, .int (irm r49 x1)), (0, .ref (ad 0)), (1, .int x1)]) hx hb dX0_byLot_54 rfl hl (by decide) rfl (fun ls hl => ?_)
      refine lv_iconst (v := (0 : Int32)) hx hb dX0_byLot_55 (by decide) ?_
      refine lv_istore_n (lv' := [(3, .int (0 : Int32)), (2, .int (irm r49 x1)), (0, .ref (ad 0)), (1, .int x1)]) hx hb dX0_byLot_56 rfl hl (by decide) rfl (fun ls hl => ?_)
      obtain ⟨n57, h⟩ := h
      exact wkC_X0_byLot_57 S hr hlk Q n57 _ _ _ _ _ _ h hw (lv_sub hl [2, 1, 0] rfl)
    · replace h := if_f c12 h
      refine lv_iload_n hx hb dX0_byLot_15 rfl (lv_at hl 1 rfl) ?_
      refine lv_aload_n hx hb dX0_byLot_16 rfl (lv_at hl 0 rfl) ?_
      refine lv_aload_n hx hb dX0_byLot_17 rfl (lv_at hl 0 rfl) ?_
      refine c_getOn S hw (Or.inl q329) dX0_byLot_18 (fun ho18 => ?_)
      refine c_get S hw (n := (a.2.1 0 5)) (cOk.s (mem_sh ho18.1 ho18.2)) ((isO_H ho18.1 ho18.2) _) rfl in_X2 5 (by decide) (Or.inr (List.mem_of_getElem? (i := 8) rfl)) rfl rfl dX0_byLot_21 ?_
      refine lv_iload_n hx hb dX0_byLot_24 rfl (lv_at hl 2 rfl) ?_
      have hi25 := h.1
      replace h := h.2
      refine c_ald S hw (n := ((a.2.1 0 5) + 10)) (cOk.s (mem_or ho18.1 ho18.2)) (isA_8 (by have q1 := ho18.1; have q2 := ho18.2; omega) (by have q1 := ho18.1; have q2 := ho18.2; omega)) hi25 (Or.inl ⟨rfl, dX0_byLot_25⟩) ?_
      refine c_calli hw (va_runV (As := [.int (a.1 ((a.2.1 0 5) + 10) x2.toNatClampNeg)]) (rest := [.int x1]) S (ctC_X0_isLooked l D dA ad fv A a (a.1 ((a.2.1 0 5) + 10) x2.toNatClampNeg) _ h) (cwC_X0_X0_isLooked hts ⟨Nat.le_of_ble_eq_true rfl, Nat.le_of_ble_eq_true rfl⟩) (c_preV hw (n := 0) (cOk.s (by decide)) (isO_K _) rfl) rfl rfl hl.1 rfl (lv_room (Nat.le_of_ble_eq_true rfl)) dX0_byLot_26 ⟨Nat.le_of_ble_eq_true rfl, Nat.le_of_ble_eq_true rfl⟩) (fun r26 a26 H locs h hw => ?_)
      refine lv_if_eq (tgt := 36) hx hb dX0_byLot_29 (by decide) (fun c29 => ?_) (fun c29 => ?_)
      · replace h := if_t c29 h
        refine lv_iconst (v := (0 : Int32)) hx hb dX0_byLot_36 (by decide) ?_
        refine lv_iadd hx hb dX0_byLot_37 ?_
        refine lv_istore_n (lv' := [(1, .int (x1 + (0 : Int32))), (0, .ref (ad 0)), (2, .int x2)]) hx hb dX0_byLot_38 rfl hl (by decide) rfl (fun ls hl => ?_)
        refine lv_iinc (v := (x2 + (1 : Int32))) (lv' := [(2, .int (x2 + (1 : Int32))), (1, .int (x1 + (0 : Int32))), (0, .ref (ad 0))]) hx hb dX0_byLot_39 hl (k := 2) rfl rfl (by decide) rfl (fun ls hl => ?_)
        refine lv_goto (tgt := 4) hx hb dX0_byLot_42 (by decide) ?_
        exact ih _ _ _ _ _ _ h hw (lv_sub hl [2, 1, 0] rfl)
      · replace h := if_f c29 h
        refine lv_iconst (v := (1 : Int32)) hx hb dX0_byLot_32 (by decide) ?_
        refine lv_goto (tgt := 37) hx hb dX0_byLot_33 (by decide) ?_
        refine lv_iadd hx hb dX0_byLot_37 ?_
        refine lv_istore_n (lv' := [(1, .int (x1 + (1 : Int32))), (0, .ref (ad 0)), (2, .int x2)]) hx hb dX0_byLot_38 rfl hl (by decide) rfl (fun ls hl => ?_)
        refine lv_iinc (v := (x2 + (1 : Int32))) (lv' := [(2, .int (x2 + (1 : Int32))), (1, .int (x1 + (1 : Int32))), (0, .ref (ad 0))]) hx hb dX0_byLot_39 hl (k := 2) rfl rfl (by decide) rfl (fun ls hl => ?_)
        refine lv_goto (tgt := 4) hx hb dX0_byLot_42 (by decide) ?_
        exact ih _ _ _ _ _ _ h hw (lv_sub hl [2, 1, 0] rfl)
def wpC_X0_byLot (a : CS) (Q : Int32 → CS → Prop) : Prop := ∃ n4, bkC_X0_byLot_4 Q n4 (0 : Int32) (0 : Int32) a
set_option maxHeartbeats 4000000 in
set_option maxRecDepth 100000 in
theorem wkC_X0_byLot_e (S : CallFix p m c cX0_byLot 4 s args lw_all RX0) (hr : meth.sig.returnType = (some .int)) (hlk : meth.locks = false) (Q : Int32 → CS → Prop) (a : CS) (H : Heap) (locs : List Loc) (ls : Array Slot) (h : wpC_X0_byLot a Q) (hw : CW D dA ad fv A a s H locs) (hl : lv_has ls 4 [(0, .ref (ad 0))]) : W p l e rmC_X0_byLot s m args below meth c H locs 0 0 (MQ below (cQi D dA ad fv A Q) args s 0 0 A) (F0 m 0 ls []) := by
  have hx := S.1
  have hb := S.2.1
  have hown := S.2.2.2.1
  have hts := S.2.2.2.2
  unfold wpC_X0_byLot at h
  refine lv_iconst (v := (0 : Int32)) hx hb dX0_byLot_0 (by decide) ?_
  refine lv_istore_n (lv' := [(1, .int (0 : Int32)), (0, .ref (ad 0))]) hx hb dX0_byLot_1 rfl hl (by decide) rfl (fun ls hl => ?_)
  refine lv_iconst (v := (0 : Int32)) hx hb dX0_byLot_2 (by decide) ?_
  refine lv_istore_n (lv' := [(2, .int (0 : Int32)), (1, .int (0 : Int32)), (0, .ref (ad 0))]) hx hb dX0_byLot_3 rfl hl (by decide) rfl (fun ls hl => ?_)
  obtain ⟨n4, h⟩ := h
  exact wkC_X0_byLot_4 S hr hlk Q n4 _ _ _ _ _ _ h hw (lv_sub hl [2, 1, 0] rfl)
theorem ctC_X0_byLot (l : Launch) (D : va_G) (dA : Nat → ClassId) (ad : Nat → Nat) (fv : Nat → Value) (A : Nat → Prop) (a : CS) (Q : Int32 → CS → Prop) (h : wpC_X0_byLot a Q) : Met l yX0_byLot (ws_ yX0_byLot cX0_byLot 4 (some .int)) rmC_X0_byLot (cPc D dA ad fv A a [.ref (ad 0)]) (cQi D dA ad fv A Q) 0 0 A :=
  c_met (by decide) rfl rfl rfl (Nat.le_of_ble_eq_true rfl) (fun p e s m below meth c ls S hr hlk hin2 hw hl => wkC_X0_byLot_e S hr hlk Q a _ _ ls h hw hl)
theorem cwC_X0_X0_byLot {R : Room} {s : State} {args : Array Value} {rm : Room} (hts : ∀ w ∈ lw_all, w.before args s = true) (hR : rm.frames + 1 ≤ R.frames ∧ 8 + (4 + 11) + rm.locals ≤ R.locals) (hc : rm.cells = 0 := by rfl) (hs : rm.slots = 0 := by rfl) : CallW R s args RX0 RX0 404 yX0_byLot cX0_byLot 4 (some .int) (ws_ yX0_byLot cX0_byLot 4 (some .int)) rm 0 0 0 :=
  cwV 0 hts (lw_V q934 q936 qs29 q103 q937) rfl hc hs (by decide +kernel) hR
/-! X0.chosen -/
abbrev rmC_X0_chosen : Room := { frames := 3, cells := 0, slots := 0, locals := 68 }
def bkC_X0_chosen_85 (Q : Int32 → CS → Prop) (O29 : Int32 → Int32 → Int32 → Int32 → CS → Prop) : Int32 → Int32 → Int32 → Int32 → CS → Prop := fun x1 x4 x5 x6 a => O29 x1 x5 x6 (x4 + (1 : Int32)) a
set_option maxHeartbeats 4000000 in
set_option maxRecDepth 100000 in
theorem wkC_X0_chosen_85 (S : CallFix p m c cX0_chosen 7 s args lw_all RX0) (hr : meth.sig.returnType = (some .int)) (hlk : meth.locks = false) (Q : Int32 → CS → Prop) {O29 : Int32 → Int32 → Int32 → Int32 → CS → Prop} (hO29 : ∀ (x1 : Int32) (x2 : Int32) (x3 : Int32) (x4 : Int32) (a : CS) (H : Heap) (locs : List Loc) (ls : Array Slot), O29 x1 x2 x3 x4 a → CW D dA ad fv A a s H locs → lv_has ls 7 [(0, .ref (ad 0)), (1, .int x1), (2, .int x2), (3, .int x3), (4, .int x4)] → W p l e rmC_X0_chosen s m args below meth c H locs 0 0 (MQ below (cQi D dA ad fv A Q) args s 0 0 A) (F0 m 29 ls [])) : ∀ (x1 : Int32) (x4 : Int32) (x5 : Int32) (x6 : Int32) (a : CS) (H : Heap) (locs : List Loc) (ls : Array Slot), bkC_X0_chosen_85 Q O29 x1 x4 x5 x6 a → CW D dA ad fv A a s H locs → lv_has ls 7 [(0, .ref (ad 0)), (1, .int x1), (4, .int x4), (5, .int x5), (6, .int x6)] → W p l e rmC_X0_chosen s m args below meth c H locs 0 0 (MQ below (cQi D dA ad fv A Q) args s 0 0 A) (F0 m 85 ls []) := by
  have hx := S.1
  have hb := S.2.1
  have hown := S.2.2.2.1
  have hts := S.2.2.2.2
  intro x1 x4 x5 x6 a H locs ls h hw hl
  unfold bkC_X0_chosen_85 at h
  refine lv_iload hx hb dX0_chosen_85 (lv_at hl 3 rfl) ?_
  refine lv_istore_n (lv' := [(2, .int x5), (0, .ref (ad 0)), (1, .int x1), (4, .int x4), (5, .int x5), (6, .int x6)]) hx hb dX0_chosen_87 rfl hl (by decide) rfl (fun ls hl => ?_)
  refine lv_iload hx hb dX0_chosen_88 (lv_at hl 5 rfl) ?_
  refine lv_istore_n (lv' := [(3, .int x6), (2, .int x5), (0, .ref (ad 0)), (1, .int x1), (4, .int x4), (5, .int x5), (6, .int x6)]) hx hb dX0_chosen_90 rfl hl (by decide) rfl (fun ls hl => ?_)
  refine lv_iinc (v := (x4 + (1 : Int32))) (lv' := [(4, .int (x4 + (1 : Int32))), (3, .int x6), (2, .int x5), (0, .ref (ad 0)), (1, .int x1), (5, .int x5), (6, .int x6)]) hx hb dX0_chosen_91 hl (k := 4) rfl rfl (by decide) rfl (fun ls hl => ?_)
  refine lv_goto (tgt := 29) hx hb dX0_chosen_94 (by decide) ?_
  exact hO29 _ _ _ _ _ _ _ _ h hw (lv_sub hl [3, 4, 2, 1, 0] rfl)
def bkC_X0_chosen_29 (Q : Int32 → CS → Prop) : Nat → Int32 → Int32 → Int32 → Int32 → CS → Prop
  | 0 => fun _ _ _ _ _ => False
  | n + 1 => fun x1 x2 x3 x4 a => if (a.1 (a.2.1 0 5) 4) ≤ x4 then (Q x2 a) else ((vp_in x4 8) ∧ (wpC_X0_isLooked a (a.1 ((a.2.1 0 5) + 10) x4.toNatClampNeg) (fun r56 a56 => if r56 = 0 then (bkC_X0_chosen_29 Q n x1 x2 x3 (x4 + (1 : Int32)) a56) else (wpC_X0_goesBy a56 (a.1 ((a.2.1 0 5) + 10) x4.toNatClampNeg) x1 (fun r69 a69 => if x2 = (-1 : Int32) then (bkC_X0_chosen_85 Q (bkC_X0_chosen_29 Q n) x1 x4 (a.1 ((a.2.1 0 5) + 10) x4.toNatClampNeg) r69 a69) else (if r69 ≤ x3 then (bkC_X0_chosen_29 Q n x1 x2 x3 (x4 + (1 : Int32)) a69) else (bkC_X0_chosen_85 Q (bkC_X0_chosen_29 Q n) x1 x4 (a.1 ((a.2.1 0 5) + 10) x4.toNatClampNeg) r69 a69)))))))
set_option maxHeartbeats 4000000 in
set_option maxRecDepth 100000 in
theorem wkC_X0_chosen_29 (S : CallFix p m c cX0_chosen 7 s args lw_all RX0) (hr : meth.sig.returnType = (some .int)) (hlk : meth.locks = false) (Q : Int32 → CS → Prop) : ∀ (n : Nat) (x1 : Int32) (x2 : Int32) (x3 : Int32) (x4 : Int32) (a : CS) (H : Heap) (locs : List Loc) (ls : Array Slot), bkC_X0_chosen_29 Q n x1 x2 x3 x4 a → CW D dA ad fv A a s H locs → lv_has ls 7 [(0, .ref (ad 0)), (1, .int x1), (2, .int x2), (3, .int x3), (4, .int x4)] → W p l e rmC_X0_chosen s m args below meth c H locs 0 0 (MQ below (cQi D dA ad fv A Q) args s 0 0 A) (F0 m 29 ls []) := by
  have hx := S.1
  have hb := S.2.1
  have hown := S.2.2.2.1
  have hts := S.2.2.2.2
  intro n
  induction n with
  | zero =>
    intro x1 x2 x3 x4 a H locs ls h
    exact False.elim h
  | succ n ih =>
    intro x1 x2 x3 x4 a H locs ls h hw hl
    unfold bkC_X0_chosen_29 at h
    refine lv_iload hx hb dX0_chosen_29 (lv_at hl 4 rfl) ?_
    refine lv_aload_n hx hb dX0_chosen_31 rfl (lv_at hl 0 rfl) ?_
    refine c_getOn S hw (Or.inl q329) dX0_chosen_32 (fun ho32 => ?_)
    refine c_get S hw (n := (a.2.1 0 5)) (cOk.s (mem_sh ho32.1 ho32.2)) ((isO_H ho32.1 ho32.2) _) rfl in_X2 4 (by decide) (Or.inr (List.mem_of_getElem? (i := 7) rfl)) rfl rfl dX0_chosen_35 ?_
    refine lv_icmp_ge (tgt := 97) hx hb dX0_chosen_38 (by decide) (fun c38 => ?_) (fun c38 => ?_)
    · replace h := if_t c38 h
      refine lv_iload_n hx hb dX0_chosen_97 rfl (lv_at hl 2 rfl) ?_
      exact c_iret S hr hlk hw h dX0_chosen_98
    · replace h := if_f c38 h
      refine lv_aload_n hx hb dX0_chosen_41 rfl (lv_at hl 0 rfl) ?_
      refine c_getOn S hw (Or.inl q329) dX0_chosen_42 (fun ho42 => ?_)
      refine c_get S hw (n := (a.2.1 0 5)) (cOk.s (mem_sh ho42.1 ho42.2)) ((isO_H ho42.1 ho42.2) _) rfl in_X2 5 (by decide) (Or.inr (List.mem_of_getElem? (i := 8) rfl)) rfl rfl dX0_chosen_45 ?_
      refine lv_iload hx hb dX0_chosen_48 (lv_at hl 4 rfl) ?_
      have hi50 := h.1
      replace h := h.2
      refine c_ald S hw (n := ((a.2.1 0 5) + 10)) (cOk.s (mem_or ho42.1 ho42.2)) (isA_8 (by have q1 := ho42.1; have q2 := ho42.2; omega) (by have q1 := ho42.1; have q2 := ho42.2; omega)) hi50 (Or.inl ⟨rfl, dX0_chosen_50⟩) ?_
      refine lv_istore (lv' := [(5, .int (a.1 ((a.2.1 0 5) + 10) x4.toNatClampNeg)), (0, .ref (ad 0)), (1, .int x1), (2, .int x2), (3, .int x3), (4, .int x4)]) hx hb dX0_chosen_51 hl (by decide) rfl (fun ls hl => ?_)
      refine lv_aload_n hx hb dX0_chosen_53 rfl (lv_at hl 1 rfl) ?_
      refine lv_iload hx hb dX0_chosen_54 (lv_at hl 0 rfl) ?_
      refine c_calli hw (va_runV (As := [.int (a.1 ((a.2.1 0 5) + 10) x4.toNatClampNeg)]) (rest := []) S (ctC_X0_isLooked l D dA ad fv A a (a.1 ((a.2.1 0 5) + 10) x4.toNatClampNeg) _ h) (cwC_X0_X0_isLooked hts ⟨Nat.le_of_ble_eq_true rfl, Nat.le_of_ble_eq_true rfl⟩) (c_preV hw (n := 0) (cOk.s (by decide)) (isO_K _) rfl) rfl rfl hl.1 rfl (lv_room (Nat.le_of_ble_eq_true rfl)) dX0_chosen_56 ⟨Nat.le_of_ble_eq_true rfl, Nat.le_of_ble_eq_true rfl⟩) (fun r56 a56 H locs h hw => ?_)
      refine lv_if_ne (tgt := 65) hx hb dX0_chosen_59 (by decide) (fun c59 => ?_) (fun c59 => ?_)
      · replace h := if_f c59 h
        refine lv_aload_n hx hb dX0_chosen_65 rfl (lv_at hl 1 rfl) ?_
        refine lv_iload hx hb dX0_chosen_66 (lv_at hl 0 rfl) ?_
        refine lv_iload_n hx hb dX0_chosen_68 rfl (lv_at hl 2 rfl) ?_
        refine c_calli hw (va_runV (As := [.int (a.1 ((a.2.1 0 5) + 10) x4.toNatClampNeg), .int x1]) (rest := []) S (ctC_X0_goesBy l D dA ad fv A a56 (a.1 ((a.2.1 0 5) + 10) x4.toNatClampNeg) x1 _ h) (cwC_X0_X0_goesBy hts ⟨Nat.le_of_ble_eq_true rfl, Nat.le_of_ble_eq_true rfl⟩) (c_preV hw (n := 0) (cOk.s (by decide)) (isO_K _) rfl) rfl rfl hl.1 rfl (lv_room (Nat.le_of_ble_eq_true rfl)) dX0_chosen_69 ⟨Nat.le_of_ble_eq_true rfl, Nat.le_of_ble_eq_true rfl⟩) (fun r69 a69 H locs h hw => ?_)
        refine lv_istore (lv' := [(6, .int r69), (5, .int (a.1 ((a.2.1 0 5) + 10) x4.toNatClampNeg)), (0, .ref (ad 0)), (1, .int x1), (2, .int x2), (3, .int x3), (4, .int x4)]) hx hb dX0_chosen_72 hl (by decide) rfl (fun ls hl => ?_)
        refine lv_iload_n hx hb dX0_chosen_74 rfl (lv_at hl 4 rfl) ?_
        refine lv_iconst (v := (-1 : Int32)) hx hb dX0_chosen_75 (by decide) ?_
        refine lv_icmp_eq (tgt := 85) hx hb dX0_chosen_76 (by decide) (fun c76 => ?_) (fun c76 => ?_)
        · replace h := if_t c76 h
          exact wkC_X0_chosen_85 S hr hlk Q ih _ _ _ _ _ _ _ _ h hw (lv_sub hl [2, 3, 6, 1, 0] rfl)
        · replace h := if_f c76 h
          refine lv_iload hx hb dX0_chosen_79 (lv_at hl 0 rfl) ?_
          refine lv_iload_n hx hb dX0_chosen_81 rfl (lv_at hl 5 rfl) ?_
          refine lv_icmp_le (tgt := 91) hx hb dX0_chosen_82 (by decide) (fun c82 => ?_) (fun c82 => ?_)
          · replace h := if_t c82 h
            refine lv_iinc (v := (x4 + (1 : Int32))) (lv' := [(4, .int (x4 + (1 : Int32))), (6, .int r69), (5, .int (a.1 ((a.2.1 0 5) + 10) x4.toNatClampNeg)), (0, .ref (ad 0)), (1, .int x1), (2, .int x2), (3, .int x3)]) hx hb dX0_chosen_91 hl (k := 6) rfl rfl (by decide) rfl (fun ls hl => ?_)
            refine lv_goto (tgt := 29) hx hb dX0_chosen_94 (by decide) ?_
            exact ih _ _ _ _ _ _ _ _ h hw (lv_sub hl [3, 4, 5, 6, 0] rfl)
          · replace h := if_f c82 h
            exact wkC_X0_chosen_85 S hr hlk Q ih _ _ _ _ _ _ _ _ h hw (lv_sub hl [2, 3, 6, 1, 0] rfl)
      · replace h := if_t c59 h
        refine lv_goto (tgt := 91) hx hb dX0_chosen_62 (by decide) ?_
        refine lv_iinc (v := (x4 + (1 : Int32))) (lv' := [(4, .int (x4 + (1 : Int32))), (5, .int (a.1 ((a.2.1 0 5) + 10) x4.toNatClampNeg)), (0, .ref (ad 0)), (1, .int x1), (2, .int x2), (3, .int x3)]) hx hb dX0_chosen_91 hl (k := 5) rfl rfl (by decide) rfl (fun ls hl => ?_)
        refine lv_goto (tgt := 29) hx hb dX0_chosen_94 (by decide) ?_
        exact ih _ _ _ _ _ _ _ _ h hw (lv_sub hl [2, 3, 4, 5, 0] rfl)
def wpC_X0_chosen (a : CS) (Q : Int32 → CS → Prop) : Prop := if (a.1 1 4) = (3 : Int32) then (wpC_X0_byLot a (fun r12 a12 => Q r12 a12)) else (wpC_X0_counts a (2 : Int32) (fun r18 a18 => ∃ n29, bkC_X0_chosen_29 Q n29 r18 (-1 : Int32) (0 : Int32) (0 : Int32) a18))
set_option maxHeartbeats 4000000 in
set_option maxRecDepth 100000 in
theorem wkC_X0_chosen_e (S : CallFix p m c cX0_chosen 7 s args lw_all RX0) (hr : meth.sig.returnType = (some .int)) (hlk : meth.locks = false) (Q : Int32 → CS → Prop) (a : CS) (H : Heap) (locs : List Loc) (ls : Array Slot) (h : wpC_X0_chosen a Q) (hw : CW D dA ad fv A a s H locs) (hl : lv_has ls 7 [(0, .ref (ad 0))]) : W p l e rmC_X0_chosen s m args below meth c H locs 0 0 (MQ below (cQi D dA ad fv A Q) args s 0 0 A) (F0 m 0 ls []) := by
  have hx := S.1
  have hb := S.2.1
  have hown := S.2.2.2.1
  have hts := S.2.2.2.2
  unfold wpC_X0_chosen at h
  refine lv_aload_n hx hb dX0_chosen_0 rfl (lv_at hl 0 rfl) ?_
  refine c_get S hw (n := 0) (ci := 0) (cOk.s (by decide)) (isO_K _) rfl in_X0 0 (by decide) (Or.inl q324) rfl rfl dX0_chosen_1 ?_
  refine c_get S hw (n := 1) (cOk.s (by decide)) ((isO_S (by decide) (by decide)) _) rfl in_X1 4 (by decide) (Or.inr (List.mem_of_getElem? (i := 15) rfl)) rfl rfl dX0_chosen_4 ?_
  refine lv_iconst (v := (3 : Int32)) hx hb dX0_chosen_7 (by decide) ?_
  refine lv_icmp_ne (tgt := 16) hx hb dX0_chosen_8 (by decide) (fun c8 => ?_) (fun c8 => ?_)
  · replace h := if_f c8 h
    refine lv_aload_n hx hb dX0_chosen_16 rfl (lv_at hl 0 rfl) ?_
    refine lv_iconst (v := (2 : Int32)) hx hb dX0_chosen_17 (by decide) ?_
    refine c_calli hw (va_runV (As := [.int (2 : Int32)]) (rest := []) S (ctC_X0_counts l D dA ad fv A a (2 : Int32) _ h) (cwC_X0_X0_counts hts ⟨Nat.le_of_ble_eq_true rfl, Nat.le_of_ble_eq_true rfl⟩) (c_preV hw (n := 0) (cOk.s (by decide)) (isO_K _) rfl) rfl rfl hl.1 rfl (lv_room (Nat.le_of_ble_eq_true rfl)) dX0_chosen_18 ⟨Nat.le_of_ble_eq_true rfl, Nat.le_of_ble_eq_true rfl⟩) (fun r18 a18 H locs h hw => ?_)
    refine lv_istore_n (lv' := [(1, .int r18), (0, .ref (ad 0))]) hx hb dX0_chosen_21 rfl hl (by decide) rfl (fun ls hl => ?_)
    refine lv_iconst (v := (-1 : Int32)) hx hb dX0_chosen_22 (by decide) ?_
    refine lv_istore_n (lv' := [(2, .int (-1 : Int32)), (1, .int r18), (0, .ref (ad 0))]) hx hb dX0_chosen_23 rfl hl (by decide) rfl (fun ls hl => ?_)
    refine lv_iconst (v := (0 : Int32)) hx hb dX0_chosen_24 (by decide) ?_
    refine lv_istore_n (lv' := [(3, .int (0 : Int32)), (2, .int (-1 : Int32)), (1, .int r18), (0, .ref (ad 0))]) hx hb dX0_chosen_25 rfl hl (by decide) rfl (fun ls hl => ?_)
    refine lv_iconst (v := (0 : Int32)) hx hb dX0_chosen_26 (by decide) ?_
    refine lv_istore (lv' := [(4, .int (0 : Int32)), (3, .int (0 : Int32)), (2, .int (-1 : Int32)), (1, .int r18), (0, .ref (ad 0))]) hx hb dX0_chosen_27 hl (by decide) rfl (fun ls hl => ?_)
    obtain ⟨n29, h⟩ := h
    exact wkC_X0_chosen_29 S hr hlk Q n29 _ _ _ _ _ _ _ _ h hw (lv_sub hl [4, 3, 2, 1, 0] rfl)
  · replace h := if_t c8 h
    refine lv_aload_n hx hb dX0_chosen_11 rfl (lv_at hl 0 rfl) ?_
    refine c_calli hw (va_runV (As := []) (rest := []) S (ctC_X0_byLot l D dA ad fv A a _ h) (cwC_X0_X0_byLot hts ⟨Nat.le_of_ble_eq_true rfl, Nat.le_of_ble_eq_true rfl⟩) (c_preV hw (n := 0) (cOk.s (by decide)) (isO_K _) rfl) rfl rfl hl.1 rfl (lv_room (Nat.le_of_ble_eq_true rfl)) dX0_chosen_12 ⟨Nat.le_of_ble_eq_true rfl, Nat.le_of_ble_eq_true rfl⟩) (fun r12 a12 H locs h hw => ?_)
    exact c_iret S hr hlk hw h dX0_chosen_15
theorem ctC_X0_chosen (l : Launch) (D : va_G) (dA : Nat → ClassId) (ad : Nat → Nat) (fv : Nat → Value) (A : Nat → Prop) (a : CS) (Q : Int32 → CS → Prop) (h : wpC_X0_chosen a Q) : Met l yX0_chosen (ws_ yX0_chosen cX0_chosen 7 (some .int)) rmC_X0_chosen (cPc D dA ad fv A a [.ref (ad 0)]) (cQi D dA ad fv A Q) 0 0 A :=
  c_met (by decide) rfl rfl rfl (Nat.le_of_ble_eq_true rfl) (fun p e s m below meth c ls S hr hlk hin2 hw hl => wkC_X0_chosen_e S hr hlk Q a _ _ ls h hw hl)
theorem cwC_X0_X0_chosen {R : Room} {s : State} {args : Array Value} {rm : Room} (hts : ∀ w ∈ lw_all, w.before args s = true) (hR : rm.frames + 1 ≤ R.frames ∧ 8 + (7 + 11) + rm.locals ≤ R.locals) (hc : rm.cells = 0 := by rfl) (hs : rm.slots = 0 := by rfl) : CallW R s args RX0 RX0 413 yX0_chosen cX0_chosen 7 (some .int) (ws_ yX0_chosen cX0_chosen 7 (some .int)) rm 0 0 0 :=
  cwV 0 hts (lw_V q930 q932 qs28 q103 q933) rfl hc hs (by decide +kernel) hR
/-! X0.throwsDownTo -/
abbrev rmC_X0_throwsDownTo : Room := { frames := 4, cells := 0, slots := 0, locals := 94 }
def bkC_X0_throwsDownTo_2 (Q : Int32 → CS → Prop) (x1 : Int32) : Nat → Int32 → CS → Prop
  | 0 => fun _ _ => False
  | n + 1 => fun x2 a => if (a.1 (a.2.1 0 5) 4) ≤ 0 then (Q x2 a) else (wpC_X0_fullness a (fun r13 a13 => if r13 ≤ x1 then (Q x2 a13) else (wpC_X0_chosen a13 (fun r25 a25 => wpC_X2_goes a25 (a13.2.1 0 5) r25 (fun a28 => bkC_X0_throwsDownTo_2 Q x1 n (x2 + (1 : Int32)) a28)))))
set_option maxHeartbeats 4000000 in
set_option maxRecDepth 100000 in
theorem wkC_X0_throwsDownTo_2 (S : CallFix p m c cX0_throwsDownTo 3 s args lw_all RX0) (hr : meth.sig.returnType = (some .int)) (hlk : meth.locks = false) (Q : Int32 → CS → Prop) (x1 : Int32) : ∀ (n : Nat) (x2 : Int32) (a : CS) (H : Heap) (locs : List Loc) (ls : Array Slot), bkC_X0_throwsDownTo_2 Q x1 n x2 a → CW D dA ad fv A a s H locs → lv_has ls 3 [(0, .ref (ad 0)), (1, .int x1), (2, .int x2)] → W p l e rmC_X0_throwsDownTo s m args below meth c H locs 0 0 (MQ below (cQi D dA ad fv A Q) args s 0 0 A) (F0 m 2 ls []) := by
  have hx := S.1
  have hb := S.2.1
  have hown := S.2.2.2.1
  have hts := S.2.2.2.2
  intro n
  induction n with
  | zero =>
    intro x2 a H locs ls h
    exact False.elim h
  | succ n ih =>
    intro x2 a H locs ls h hw hl
    unfold bkC_X0_throwsDownTo_2 at h
    refine lv_aload_n hx hb dX0_throwsDownTo_2 rfl (lv_at hl 0 rfl) ?_
    refine c_getOn S hw (Or.inl q329) dX0_throwsDownTo_3 (fun ho3 => ?_)
    refine c_get S hw (n := (a.2.1 0 5)) (cOk.s (mem_sh ho3.1 ho3.2)) ((isO_H ho3.1 ho3.2) _) rfl in_X2 4 (by decide) (Or.inr (List.mem_of_getElem? (i := 7) rfl)) rfl rfl dX0_throwsDownTo_6 ?_
    refine lv_if_le (tgt := 37) hx hb dX0_throwsDownTo_9 (by decide) (fun c9 => ?_) (fun c9 => ?_)
    · replace h := if_t c9 h
      refine lv_iload_n hx hb dX0_throwsDownTo_37 rfl (lv_at hl 2 rfl) ?_
      exact c_iret S hr hlk hw h dX0_throwsDownTo_38
    · replace h := if_f c9 h
      refine lv_aload_n hx hb dX0_throwsDownTo_12 rfl (lv_at hl 0 rfl) ?_
      refine c_calli hw (va_runV (As := []) (rest := []) S (ctC_X0_fullness l D dA ad fv A a _ h) (cwC_X0_X0_fullness hts ⟨Nat.le_of_ble_eq_true rfl, Nat.le_of_ble_eq_true rfl⟩) (c_preV hw (n := 0) (cOk.s (by decide)) (isO_K _) rfl) rfl rfl hl.1 rfl (lv_room (Nat.le_of_ble_eq_true rfl)) dX0_throwsDownTo_13 ⟨Nat.le_of_ble_eq_true rfl, Nat.le_of_ble_eq_true rfl⟩) (fun r13 a13 H locs h hw => ?_)
      refine lv_iload_n hx hb dX0_throwsDownTo_16 rfl (lv_at hl 1 rfl) ?_
      refine lv_icmp_le (tgt := 37) hx hb dX0_throwsDownTo_17 (by decide) (fun c17 => ?_) (fun c17 => ?_)
      · replace h := if_t c17 h
        refine lv_iload_n hx hb dX0_throwsDownTo_37 rfl (lv_at hl 2 rfl) ?_
        exact c_iret S hr hlk hw h dX0_throwsDownTo_38
      · replace h := if_f c17 h
        refine lv_aload_n hx hb dX0_throwsDownTo_20 rfl (lv_at hl 0 rfl) ?_
        refine c_getOn S hw (Or.inl q329) dX0_throwsDownTo_21 (fun ho21 => ?_)
        refine lv_aload_n hx hb dX0_throwsDownTo_24 rfl (lv_at hl 0 rfl) ?_
        refine c_calli hw (va_runV (As := []) (rest := [.ref (ad (a13.2.1 0 5))]) S (ctC_X0_chosen l D dA ad fv A a13 _ h) (cwC_X0_X0_chosen hts ⟨Nat.le_of_ble_eq_true rfl, Nat.le_of_ble_eq_true rfl⟩) (c_preV hw (n := 0) (cOk.s (by decide)) (isO_K _) rfl) rfl rfl hl.1 rfl (lv_room (Nat.le_of_ble_eq_true rfl)) dX0_throwsDownTo_25 ⟨Nat.le_of_ble_eq_true rfl, Nat.le_of_ble_eq_true rfl⟩) (fun r25 a25 H locs h hw => ?_)
        refine c_callv hw (va_runV (As := [.int r25]) (rest := []) S (ctC_X2_goes l D dA ad fv A a25 (a13.2.1 0 5) r25 _ h) (cwC_X0_X2_goes hts ⟨Nat.le_of_ble_eq_true rfl, Nat.le_of_ble_eq_true rfl⟩) (c_preV hw (n := (a13.2.1 0 5)) (cOk.s (mem_sh ho21.1 ho21.2)) ((isO_H ho21.1 ho21.2) _) rfl) rfl rfl hl.1 rfl (lv_room (Nat.le_of_ble_eq_true rfl)) dX0_throwsDownTo_28 ⟨Nat.le_of_ble_eq_true rfl, Nat.le_of_ble_eq_true rfl⟩) (fun a28 H locs h hw => ?_)
        refine lv_iinc (v := (x2 + (1 : Int32))) (lv' := [(2, .int (x2 + (1 : Int32))), (0, .ref (ad 0)), (1, .int x1)]) hx hb dX0_throwsDownTo_31 hl (k := 2) rfl rfl (by decide) rfl (fun ls hl => ?_)
        refine lv_goto (tgt := 2) hx hb dX0_throwsDownTo_34 (by decide) ?_
        exact ih _ _ _ _ _ h hw (lv_sub hl [1, 2, 0] rfl)
def wpC_X0_throwsDownTo (a : CS) (x1 : Int32) (Q : Int32 → CS → Prop) : Prop := ∃ n2, bkC_X0_throwsDownTo_2 Q x1 n2 (0 : Int32) a
set_option maxHeartbeats 4000000 in
set_option maxRecDepth 100000 in
theorem wkC_X0_throwsDownTo_e (S : CallFix p m c cX0_throwsDownTo 3 s args lw_all RX0) (hr : meth.sig.returnType = (some .int)) (hlk : meth.locks = false) (Q : Int32 → CS → Prop) (x1 : Int32) (a : CS) (H : Heap) (locs : List Loc) (ls : Array Slot) (h : wpC_X0_throwsDownTo a x1 Q) (hw : CW D dA ad fv A a s H locs) (hl : lv_has ls 3 [(0, .ref (ad 0)), (1, .int x1)]) : W p l e rmC_X0_throwsDownTo s m args below meth c H locs 0 0 (MQ below (cQi D dA ad fv A Q) args s 0 0 A) (F0 m 0 ls []) := by
  have hx := S.1
  have hb := S.2.1
  have hown := S.2.2.2.1
  have hts := S.2.2.2.2
  unfold wpC_X0_throwsDownTo at h
  refine lv_iconst (v := (0 : Int32)) hx hb dX0_throwsDownTo_0 (by decide) ?_
  refine lv_istore_n (lv' := [(2, .int (0 : Int32)), (0, .ref (ad 0)), (1, .int x1)]) hx hb dX0_throwsDownTo_1 rfl hl (by decide) rfl (fun ls hl => ?_)
  obtain ⟨n2, h⟩ := h
  exact wkC_X0_throwsDownTo_2 S hr hlk Q x1 n2 _ _ _ _ _ h hw (lv_sub hl [1, 2, 0] rfl)
theorem ctC_X0_throwsDownTo (l : Launch) (D : va_G) (dA : Nat → ClassId) (ad : Nat → Nat) (fv : Nat → Value) (A : Nat → Prop) (a : CS) (x1 : Int32) (Q : Int32 → CS → Prop) (h : wpC_X0_throwsDownTo a x1 Q) : Met l yX0_throwsDownTo (ws_ yX0_throwsDownTo cX0_throwsDownTo 3 (some .int)) rmC_X0_throwsDownTo (cPc D dA ad fv A a [.ref (ad 0), .int x1]) (cQi D dA ad fv A Q) 0 0 A :=
  c_met (by decide) rfl rfl rfl (Nat.le_of_ble_eq_true rfl) (fun p e s m below meth c ls S hr hlk hin2 hw hl => wkC_X0_throwsDownTo_e S hr hlk Q x1 a _ _ ls h hw hl)
theorem cwC_X0_X0_throwsDownTo {R : Room} {s : State} {args : Array Value} {rm : Room} (hts : ∀ w ∈ lw_all, w.before args s = true) (hR : rm.frames + 1 ≤ R.frames ∧ 8 + (3 + 11) + rm.locals ≤ R.locals) (hc : rm.cells = 0 := by rfl) (hs : rm.slots = 0 := by rfl) : CallW R s args RX0 RX0 427 yX0_throwsDownTo cX0_throwsDownTo 3 (some .int) (ws_ yX0_throwsDownTo cX0_throwsDownTo 3 (some .int)) rm 0 0 1 :=
  cwV 1 hts (lw_V q922 q924 qs26 q103 q925) rfl hc hs (by decide +kernel) hR
/-! X0.isFound -/
abbrev rmC_X0_isFound : Room := { frames := 5, cells := 0, slots := 0, locals := 116 }
def bkC_X0_isFound_154 (Q : Int32 → CS → Prop) (x1 : Int32) : CS → Prop := fun a => wpC_X2_has a (a.2.1 0 5) x1 (fun r159 a159 => if r159 = 0 then (Q (0 : Int32) a159) else ((vp_in x1 8) ∧ (∀ a180 : CS, a180 = wI a159 ((a159.2.1 0 5) + 20) x1.toNatClampNeg (a159.1 (a159.2.1 0 5) 1) → (Q (0 : Int32) a180))))
set_option maxHeartbeats 4000000 in
set_option maxRecDepth 100000 in
theorem wkC_X0_isFound_154 (S : CallFix p m c cX0_isFound 3 s args lw_all RX0) (hr : meth.sig.returnType = (some .boolean)) (hlk : meth.locks = false) (Q : Int32 → CS → Prop) (x1 : Int32) : ∀ (a : CS) (H : Heap) (locs : List Loc) (ls : Array Slot), bkC_X0_isFound_154 Q x1 a → CW D dA ad fv A a s H locs → lv_has ls 3 [(0, .ref (ad 0)), (1, .int x1)] → W p l e rmC_X0_isFound s m args below meth c H locs 0 0 (MQ below (cQi D dA ad fv A Q) args s 0 0 A) (F0 m 154 ls []) := by
  have hx := S.1
  have hb := S.2.1
  have hown := S.2.2.2.1
  have hts := S.2.2.2.2
  intro  a H locs ls h hw hl
  unfold bkC_X0_isFound_154 at h
  refine lv_aload_n hx hb dX0_isFound_154 rfl (lv_at hl 0 rfl) ?_
  refine c_getOn S hw (Or.inl q329) dX0_isFound_155 (fun ho155 => ?_)
  refine lv_iload_n hx hb dX0_isFound_158 rfl (lv_at hl 1 rfl) ?_
  refine c_calli hw (va_runV (As := [.int x1]) (rest := []) S (ctC_X2_has l D dA ad fv A a (a.2.1 0 5) x1 _ h) (cwC_X0_X2_has hts ⟨Nat.le_of_ble_eq_true rfl, Nat.le_of_ble_eq_true rfl⟩) (c_preV hw (n := (a.2.1 0 5)) (cOk.s (mem_sh ho155.1 ho155.2)) ((isO_H ho155.1 ho155.2) _) rfl) rfl rfl hl.1 rfl (lv_room (Nat.le_of_ble_eq_true rfl)) dX0_isFound_159 ⟨Nat.le_of_ble_eq_true rfl, Nat.le_of_ble_eq_true rfl⟩) (fun r159 a159 H locs h hw => ?_)
  refine lv_if_eq (tgt := 181) hx hb dX0_isFound_162 (by decide) (fun c162 => ?_) (fun c162 => ?_)
  · replace h := if_t c162 h
    refine lv_iconst (v := (0 : Int32)) hx hb dX0_isFound_181 (by decide) ?_
    exact c_zret S hr hlk hw (Or.inl rfl) h dX0_isFound_182
  · replace h := if_f c162 h
    refine lv_aload_n hx hb dX0_isFound_165 rfl (lv_at hl 0 rfl) ?_
    refine c_getOn S hw (Or.inl q329) dX0_isFound_166 (fun ho166 => ?_)
    refine c_get S hw (n := (a159.2.1 0 5)) (cOk.s (mem_sh ho166.1 ho166.2)) ((isO_H ho166.1 ho166.2) _) rfl in_X2 6 (by decide) (Or.inr (List.mem_of_getElem? (i := 9) rfl)) rfl rfl dX0_isFound_169 ?_
    refine lv_iload_n hx hb dX0_isFound_172 rfl (lv_at hl 1 rfl) ?_
    refine lv_aload_n hx hb dX0_isFound_173 rfl (lv_at hl 0 rfl) ?_
    refine c_getOn S hw (Or.inl q329) dX0_isFound_174 (fun ho174 => ?_)
    refine c_get S hw (n := (a159.2.1 0 5)) (cOk.s (mem_sh ho174.1 ho174.2)) ((isO_H ho174.1 ho174.2) _) rfl in_X2 1 (by decide) (Or.inr (List.mem_of_getElem? (i := 4) rfl)) rfl rfl dX0_isFound_177 ?_
    have hi180 := h.1
    replace h := h.2
    refine c_ast S hw (n := ((a159.2.1 0 5) + 20)) (by omega) (cOk.s (mem_la ho166.1 ho166.2)) (isA_8 (by have q1 := ho166.1; have q2 := ho166.2; omega) (by have q1 := ho166.1; have q2 := ho166.2; omega)) hi180 (Or.inl ⟨rfl, rfl, dX0_isFound_180⟩) (fun a180 H locs ea180 hw => ?_)
    replace h := h a180 ea180
    refine lv_iconst (v := (0 : Int32)) hx hb dX0_isFound_181 (by decide) ?_
    exact c_zret S hr hlk hw (Or.inl rfl) h dX0_isFound_182
def bkC_X0_isFound_43 (Q : Int32 → CS → Prop) (x1 : Int32) : Nat → Int32 → CS → Prop
  | 0 => fun _ _ => False
  | n + 1 => fun x2 a => if x2 = (-1 : Int32) then (Q (1 : Int32) a) else ((vp_in x2 8) ∧ (∀ a63 : CS, a63 = wI a ((a.2.1 0 5) + 20) x2.toNatClampNeg (a.1 (a.2.1 0 5) 1) → ((vp_in x2 8) ∧ ((leafK a63 (a63.2.1 41 x2.toNatClampNeg)) ∧ (bkC_X0_isFound_43 Q x1 n (a63.1 (a63.2.1 41 x2.toNatClampNeg) 3) a63)))))
set_option maxHeartbeats 4000000 in
set_option maxRecDepth 100000 in
theorem wkC_X0_isFound_43 (S : CallFix p m c cX0_isFound 3 s args lw_all RX0) (hr : meth.sig.returnType = (some .boolean)) (hlk : meth.locks = false) (Q : Int32 → CS → Prop) (x1 : Int32) : ∀ (n : Nat) (x2 : Int32) (a : CS) (H : Heap) (locs : List Loc) (ls : Array Slot), bkC_X0_isFound_43 Q x1 n x2 a → CW D dA ad fv A a s H locs → lv_has ls 3 [(0, .ref (ad 0)), (2, .int x2)] → W p l e rmC_X0_isFound s m args below meth c H locs 0 0 (MQ below (cQi D dA ad fv A Q) args s 0 0 A) (F0 m 43 ls []) := by
  have hx := S.1
  have hb := S.2.1
  have hown := S.2.2.2.1
  have hts := S.2.2.2.2
  intro n
  induction n with
  | zero =>
    intro x2 a H locs ls h
    exact False.elim h
  | succ n ih =>
    intro x2 a H locs ls h hw hl
    unfold bkC_X0_isFound_43 at h
    refine lv_iload_n hx hb dX0_isFound_43 rfl (lv_at hl 1 rfl) ?_
    refine lv_iconst (v := (-1 : Int32)) hx hb dX0_isFound_44 (by decide) ?_
    refine lv_icmp_eq (tgt := 80) hx hb dX0_isFound_45 (by decide) (fun c45 => ?_) (fun c45 => ?_)
    · replace h := if_t c45 h
      refine lv_iconst (v := (1 : Int32)) hx hb dX0_isFound_80 (by decide) ?_
      exact c_zret S hr hlk hw (Or.inr rfl) h dX0_isFound_81
    · replace h := if_f c45 h
      refine lv_aload_n hx hb dX0_isFound_48 rfl (lv_at hl 0 rfl) ?_
      refine c_getOn S hw (Or.inl q329) dX0_isFound_49 (fun ho49 => ?_)
      refine c_get S hw (n := (a.2.1 0 5)) (cOk.s (mem_sh ho49.1 ho49.2)) ((isO_H ho49.1 ho49.2) _) rfl in_X2 6 (by decide) (Or.inr (List.mem_of_getElem? (i := 9) rfl)) rfl rfl dX0_isFound_52 ?_
      refine lv_iload_n hx hb dX0_isFound_55 rfl (lv_at hl 1 rfl) ?_
      refine lv_aload_n hx hb dX0_isFound_56 rfl (lv_at hl 0 rfl) ?_
      refine c_getOn S hw (Or.inl q329) dX0_isFound_57 (fun ho57 => ?_)
      refine c_get S hw (n := (a.2.1 0 5)) (cOk.s (mem_sh ho57.1 ho57.2)) ((isO_H ho57.1 ho57.2) _) rfl in_X2 1 (by decide) (Or.inr (List.mem_of_getElem? (i := 4) rfl)) rfl rfl dX0_isFound_60 ?_
      have hi63 := h.1
      replace h := h.2
      refine c_ast S hw (n := ((a.2.1 0 5) + 20)) (by omega) (cOk.s (mem_la ho49.1 ho49.2)) (isA_8 (by have q1 := ho49.1; have q2 := ho49.2; omega) (by have q1 := ho49.1; have q2 := ho49.2; omega)) hi63 (Or.inl ⟨rfl, rfl, dX0_isFound_63⟩) (fun a63 H locs ea63 hw => ?_)
      replace h := h a63 ea63
      refine lv_aload_n hx hb dX0_isFound_64 rfl (lv_at hl 0 rfl) ?_
      refine c_get S hw (n := 0) (ci := 0) (cOk.s (by decide)) (isO_K _) rfl in_X0 0 (by decide) (Or.inl q324) rfl rfl dX0_isFound_65 ?_
      refine c_get S hw (n := 1) (cOk.s (by decide)) ((isO_S (by decide) (by decide)) _) rfl in_X1 2 (by decide) (Or.inr (List.mem_of_getElem? (i := 13) rfl)) rfl rfl dX0_isFound_68 ?_
      refine lv_iload_n hx hb dX0_isFound_71 rfl (lv_at hl 1 rfl) ?_
      have hi72 := h.1
      replace h := h.2
      have hk72_0 := h.1
      replace h := h.2
      refine c_aald S hw (n := 41) (cOk.s (by decide)) ((isR_lf (by decide) (by decide)) _) rfl hi72 (rv_n hk72_0.ne) dX0_isFound_72 ?_
      refine c_lget S hw hk72_0 3 (by decide) (Or.inl q653) dX0_isFound_73 ?_
      refine lv_istore_n (lv' := [(2, .int (a63.1 (a63.2.1 41 x2.toNatClampNeg) 3)), (0, .ref (ad 0))]) hx hb dX0_isFound_76 rfl hl (by decide) rfl (fun ls hl => ?_)
      refine lv_goto (tgt := 43) hx hb dX0_isFound_77 (by decide) ?_
      exact ih _ _ _ _ _ h hw (lv_sub hl [1, 0] rfl)
def wpC_X0_isFound (a : CS) (x1 : Int32) (Q : Int32 → CS → Prop) : Prop := ∀ a10 : CS, a10 = wI a (a.2.1 0 5) 1 ((a.1 (a.2.1 0 5) 1) + (1 : Int32)) → ((vp_in x1 8) ∧ ((vp_in x1 8) ∧ (∀ a25 : CS, a25 = wI a10 ((a10.2.1 0 5) + 30) x1.toNatClampNeg ((a10.1 ((a10.2.1 0 5) + 30) x1.toNatClampNeg) + (1 : Int32)) → (wpC_X0_isRead a25 x1 (a25.1 (a25.2.1 0 5) 3) (fun r35 a35 => if r35 = 0 then ((vp_in x1 8) ∧ (∀ a97 : CS, a97 = wI a35 (a35.2.1 0 5) 2 ((a35.1 (a35.2.1 0 5) 2) + (a35.1 74 x1.toNatClampNeg)) → (wpC_X2_has a97 (a97.2.1 0 5) x1 (fun r105 a105 => if r105 = 0 then ((vp_in x1 8) ∧ (if (a105.1 1 3) < (a105.1 73 x1.toNatClampNeg) then (bkC_X0_isFound_154 Q x1 a105) else ((vp_in x1 8) ∧ (wpC_X0_throwsDownTo a105 ((a105.1 1 3) - (a105.1 73 x1.toNatClampNeg)) (fun r142 a142 => wpC_X2_comes a142 (a142.2.1 0 5) x1 (fun a151 => bkC_X0_isFound_154 Q x1 a151)))))) else (bkC_X0_isFound_154 Q x1 a105))))) else (∃ n43, bkC_X0_isFound_43 Q x1 n43 x1 a35))))))
set_option maxHeartbeats 4000000 in
set_option maxRecDepth 100000 in
theorem wkC_X0_isFound_e (S : CallFix p m c cX0_isFound 3 s args lw_all RX0) (hr : meth.sig.returnType = (some .boolean)) (hlk : meth.locks = false) (Q : Int32 → CS → Prop) (x1 : Int32) (a : CS) (H : Heap) (locs : List Loc) (ls : Array Slot) (h : wpC_X0_isFound a x1 Q) (hw : CW D dA ad fv A a s H locs) (hl : lv_has ls 3 [(0, .ref (ad 0)), (1, .int x1)]) : W p l e rmC_X0_isFound s m args below meth c H locs 0 0 (MQ below (cQi D dA ad fv A Q) args s 0 0 A) (F0 m 0 ls []) := by
  have hx := S.1
  have hb := S.2.1
  have hown := S.2.2.2.1
  have hts := S.2.2.2.2
  unfold wpC_X0_isFound at h
  refine lv_aload_n hx hb dX0_isFound_0 rfl (lv_at hl 0 rfl) ?_
  refine c_getOn S hw (Or.inl q329) dX0_isFound_1 (fun ho1 => ?_)
  refine lv_dup hx hb dX0_isFound_4 rfl ?_
  refine c_get S hw (n := (a.2.1 0 5)) (cOk.s (mem_sh ho1.1 ho1.2)) ((isO_H ho1.1 ho1.2) _) rfl in_X2 1 (by decide) (Or.inr (List.mem_of_getElem? (i := 4) rfl)) rfl rfl dX0_isFound_5 ?_
  refine lv_iconst (v := (1 : Int32)) hx hb dX0_isFound_8 (by decide) ?_
  refine lv_iadd hx hb dX0_isFound_9 ?_
  refine c_putI S hw (n := (a.2.1 0 5)) (cOk.s (mem_sh ho1.1 ho1.2)) (isO_H ho1.1 ho1.2) rfl in_X2 tyX2 tyX2_ok nmX2 1 (by decide) (Or.inr (List.mem_of_getElem? (i := 4) rfl)) rfl rfl rfl rfl (Nat.le_of_ble_eq_true rfl) (fun _ => hset_1) dX0_isFound_10 (fun a10 H locs ea10 hw => ?_)
  replace h := h a10 ea10
  refine lv_aload_n hx hb dX0_isFound_13 rfl (lv_at hl 0 rfl) ?_
  refine c_getOn S hw (Or.inl q329) dX0_isFound_14 (fun ho14 => ?_)
  refine c_get S hw (n := (a10.2.1 0 5)) (cOk.s (mem_sh ho14.1 ho14.2)) ((isO_H ho14.1 ho14.2) _) rfl in_X2 7 (by decide) (Or.inr (List.mem_of_getElem? (i := 10) rfl)) rfl rfl dX0_isFound_17 ?_
  refine lv_iload_n hx hb dX0_isFound_20 rfl (lv_at hl 1 rfl) ?_
  refine lv_dup2_11 hx hb dX0_isFound_21 rfl rfl ?_
  have hi22 := h.1
  replace h := h.2
  refine c_ald S hw (n := ((a10.2.1 0 5) + 30)) (cOk.s (mem_ti ho14.1 ho14.2)) (isA_8 (by have q1 := ho14.1; have q2 := ho14.2; omega) (by have q1 := ho14.1; have q2 := ho14.2; omega)) hi22 (Or.inl ⟨rfl, dX0_isFound_22⟩) ?_
  refine lv_iconst (v := (1 : Int32)) hx hb dX0_isFound_23 (by decide) ?_
  refine lv_iadd hx hb dX0_isFound_24 ?_
  have hi25 := h.1
  replace h := h.2
  refine c_ast S hw (n := ((a10.2.1 0 5) + 30)) (by omega) (cOk.s (mem_ti ho14.1 ho14.2)) (isA_8 (by have q1 := ho14.1; have q2 := ho14.2; omega) (by have q1 := ho14.1; have q2 := ho14.2; omega)) hi25 (Or.inl ⟨rfl, rfl, dX0_isFound_25⟩) (fun a25 H locs ea25 hw => ?_)
  replace h := h a25 ea25
  refine lv_aload_n hx hb dX0_isFound_26 rfl (lv_at hl 0 rfl) ?_
  refine lv_iload_n hx hb dX0_isFound_27 rfl (lv_at hl 1 rfl) ?_
  refine lv_aload_n hx hb dX0_isFound_28 rfl (lv_at hl 0 rfl) ?_
  refine c_getOn S hw (Or.inl q329) dX0_isFound_29 (fun ho29 => ?_)
  refine c_get S hw (n := (a25.2.1 0 5)) (cOk.s (mem_sh ho29.1 ho29.2)) ((isO_H ho29.1 ho29.2) _) rfl in_X2 3 (by decide) (Or.inr (List.mem_of_getElem? (i := 6) rfl)) rfl rfl dX0_isFound_32 ?_
  refine c_calli hw (va_runV (As := [.int x1, .int (a25.1 (a25.2.1 0 5) 3)]) (rest := []) S (ctC_X0_isRead l D dA ad fv A a25 x1 (a25.1 (a25.2.1 0 5) 3) _ h) (cwC_X0_X0_isRead hts ⟨Nat.le_of_ble_eq_true rfl, Nat.le_of_ble_eq_true rfl⟩) (c_preV hw (n := 0) (cOk.s (by decide)) (isO_K _) rfl) rfl rfl hl.1 rfl (lv_room (Nat.le_of_ble_eq_true rfl)) dX0_isFound_35 ⟨Nat.le_of_ble_eq_true rfl, Nat.le_of_ble_eq_true rfl⟩) (fun r35 a35 H locs h hw => ?_)
  refine lv_if_eq (tgt := 82) hx hb dX0_isFound_38 (by decide) (fun c38 => ?_) (fun c38 => ?_)
  · replace h := if_t c38 h
    refine lv_aload_n hx hb dX0_isFound_82 rfl (lv_at hl 0 rfl) ?_
    refine c_getOn S hw (Or.inl q329) dX0_isFound_83 (fun ho83 => ?_)
    refine lv_dup hx hb dX0_isFound_86 rfl ?_
    refine c_get S hw (n := (a35.2.1 0 5)) (cOk.s (mem_sh ho83.1 ho83.2)) ((isO_H ho83.1 ho83.2) _) rfl in_X2 2 (by decide) (Or.inr (List.mem_of_getElem? (i := 5) rfl)) rfl rfl dX0_isFound_87 ?_
    refine lv_aload_n hx hb dX0_isFound_90 rfl (lv_at hl 0 rfl) ?_
    refine c_get S hw (n := 0) (ci := 0) (cOk.s (by decide)) (isO_K _) rfl in_X0 19 (by decide) (Or.inl q343) rfl rfl dX0_isFound_91 ?_
    refine lv_iload_n hx hb dX0_isFound_94 rfl (lv_at hl 1 rfl) ?_
    have hi95 := h.1
    replace h := h.2
    refine c_ald S hw (n := 74) (cOk.s (by decide)) (fun _ => rfl) hi95 (Or.inl ⟨rfl, dX0_isFound_95⟩) ?_
    refine lv_iadd hx hb dX0_isFound_96 ?_
    refine c_putI S hw (n := (a35.2.1 0 5)) (cOk.s (mem_sh ho83.1 ho83.2)) (isO_H ho83.1 ho83.2) rfl in_X2 tyX2 tyX2_ok nmX2 2 (by decide) (Or.inr (List.mem_of_getElem? (i := 5) rfl)) rfl rfl rfl rfl (Nat.le_of_ble_eq_true rfl) (fun _ => hset_2) dX0_isFound_97 (fun a97 H locs ea97 hw => ?_)
    replace h := h a97 ea97
    refine lv_aload_n hx hb dX0_isFound_100 rfl (lv_at hl 0 rfl) ?_
    refine c_getOn S hw (Or.inl q329) dX0_isFound_101 (fun ho101 => ?_)
    refine lv_iload_n hx hb dX0_isFound_104 rfl (lv_at hl 1 rfl) ?_
    refine c_calli hw (va_runV (As := [.int x1]) (rest := []) S (ctC_X2_has l D dA ad fv A a97 (a97.2.1 0 5) x1 _ h) (cwC_X0_X2_has hts ⟨Nat.le_of_ble_eq_true rfl, Nat.le_of_ble_eq_true rfl⟩) (c_preV hw (n := (a97.2.1 0 5)) (cOk.s (mem_sh ho101.1 ho101.2)) ((isO_H ho101.1 ho101.2) _) rfl) rfl rfl hl.1 rfl (lv_room (Nat.le_of_ble_eq_true rfl)) dX0_isFound_105 ⟨Nat.le_of_ble_eq_true rfl, Nat.le_of_ble_eq_true rfl⟩) (fun r105 a105 H locs h hw => ?_)
    refine lv_if_ne (tgt := 154) hx hb dX0_isFound_108 (by decide) (fun c108 => ?_) (fun c108 => ?_)
    · replace h := if_f c108 h
      exact wkC_X0_isFound_154 S hr hlk Q x1 _ _ _ _ h hw (lv_sub hl [0, 1] rfl)
    · replace h := if_t c108 h
      refine lv_aload_n hx hb dX0_isFound_111 rfl (lv_at hl 0 rfl) ?_
      refine c_get S hw (n := 0) (ci := 0) (cOk.s (by decide)) (isO_K _) rfl in_X0 18 (by decide) (Or.inl q342) rfl rfl dX0_isFound_112 ?_
      refine lv_iload_n hx hb dX0_isFound_115 rfl (lv_at hl 1 rfl) ?_
      have hi116 := h.1
      replace h := h.2
      refine c_ald S hw (n := 73) (cOk.s (by decide)) (fun _ => rfl) hi116 (Or.inl ⟨rfl, dX0_isFound_116⟩) ?_
      refine lv_aload_n hx hb dX0_isFound_117 rfl (lv_at hl 0 rfl) ?_
      refine c_get S hw (n := 0) (ci := 0) (cOk.s (by decide)) (isO_K _) rfl in_X0 0 (by decide) (Or.inl q324) rfl rfl dX0_isFound_118 ?_
      refine c_get S hw (n := 1) (cOk.s (by decide)) ((isO_S (by decide) (by decide)) _) rfl in_X1 3 (by decide) (Or.inr (List.mem_of_getElem? (i := 14) rfl)) rfl rfl dX0_isFound_121 ?_
      refine lv_icmp_gt (tgt := 154) hx hb dX0_isFound_124 (by decide) (fun c124 => ?_) (fun c124 => ?_)
      · replace h := if_t c124 h
        exact wkC_X0_isFound_154 S hr hlk Q x1 _ _ _ _ h hw (lv_sub hl [0, 1] rfl)
      · replace h := if_f c124 h
        refine lv_aload_n hx hb dX0_isFound_127 rfl (lv_at hl 0 rfl) ?_
        refine lv_aload_n hx hb dX0_isFound_128 rfl (lv_at hl 0 rfl) ?_
        refine c_get S hw (n := 0) (ci := 0) (cOk.s (by decide)) (isO_K _) rfl in_X0 0 (by decide) (Or.inl q324) rfl rfl dX0_isFound_129 ?_
        refine c_get S hw (n := 1) (cOk.s (by decide)) ((isO_S (by decide) (by decide)) _) rfl in_X1 3 (by decide) (Or.inr (List.mem_of_getElem? (i := 14) rfl)) rfl rfl dX0_isFound_132 ?_
        refine lv_aload_n hx hb dX0_isFound_135 rfl (lv_at hl 0 rfl) ?_
        refine c_get S hw (n := 0) (ci := 0) (cOk.s (by decide)) (isO_K _) rfl in_X0 18 (by decide) (Or.inl q342) rfl rfl dX0_isFound_136 ?_
        refine lv_iload_n hx hb dX0_isFound_139 rfl (lv_at hl 1 rfl) ?_
        have hi140 := h.1
        replace h := h.2
        refine c_ald S hw (n := 73) (cOk.s (by decide)) (fun _ => rfl) hi140 (Or.inl ⟨rfl, dX0_isFound_140⟩) ?_
        refine lv_isub hx hb dX0_isFound_141 ?_
        refine c_calli hw (va_runV (As := [.int ((a105.1 1 3) - (a105.1 73 x1.toNatClampNeg))]) (rest := []) S (ctC_X0_throwsDownTo l D dA ad fv A a105 ((a105.1 1 3) - (a105.1 73 x1.toNatClampNeg)) _ h) (cwC_X0_X0_throwsDownTo hts ⟨Nat.le_of_ble_eq_true rfl, Nat.le_of_ble_eq_true rfl⟩) (c_preV hw (n := 0) (cOk.s (by decide)) (isO_K _) rfl) rfl rfl hl.1 rfl (lv_room (Nat.le_of_ble_eq_true rfl)) dX0_isFound_142 ⟨Nat.le_of_ble_eq_true rfl, Nat.le_of_ble_eq_true rfl⟩) (fun r142 a142 H locs h hw => ?_)
        refine lv_istore_n (lv' := [(2, .int r142), (0, .ref (ad 0)), (1, .int x1)]) hx hb dX0_isFound_145 rfl hl (by decide) rfl (fun ls hl => ?_)
        refine lv_aload_n hx hb dX0_isFound_146 rfl (lv_at hl 1 rfl) ?_
        refine c_getOn S hw (Or.inl q329) dX0_isFound_147 (fun ho147 => ?_)
        refine lv_iload_n hx hb dX0_isFound_150 rfl (lv_at hl 2 rfl) ?_
        refine c_callv hw (va_runV (As := [.int x1]) (rest := []) S (ctC_X2_comes l D dA ad fv A a142 (a142.2.1 0 5) x1 _ h) (cwC_X0_X2_comes hts ⟨Nat.le_of_ble_eq_true rfl, Nat.le_of_ble_eq_true rfl⟩) (c_preV hw (n := (a142.2.1 0 5)) (cOk.s (mem_sh ho147.1 ho147.2)) ((isO_H ho147.1 ho147.2) _) rfl) rfl rfl hl.1 rfl (lv_room (Nat.le_of_ble_eq_true rfl)) dX0_isFound_151 ⟨Nat.le_of_ble_eq_true rfl, Nat.le_of_ble_eq_true rfl⟩) (fun a151 H locs h hw => ?_)
        exact wkC_X0_isFound_154 S hr hlk Q x1 _ _ _ _ h hw (lv_sub hl [1, 2] rfl)
  · replace h := if_f c38 h
    refine lv_iload_n hx hb dX0_isFound_41 rfl (lv_at hl 1 rfl) ?_
    refine lv_istore_n (lv' := [(2, .int x1), (0, .ref (ad 0)), (1, .int x1)]) hx hb dX0_isFound_42 rfl hl (by decide) rfl (fun ls hl => ?_)
    obtain ⟨n43, h⟩ := h
    exact wkC_X0_isFound_43 S hr hlk Q x1 n43 _ _ _ _ _ h hw (lv_sub hl [1, 0] rfl)
theorem ctC_X0_isFound (l : Launch) (D : va_G) (dA : Nat → ClassId) (ad : Nat → Nat) (fv : Nat → Value) (A : Nat → Prop) (a : CS) (x1 : Int32) (Q : Int32 → CS → Prop) (h : wpC_X0_isFound a x1 Q) : Met l yX0_isFound (ws_ yX0_isFound cX0_isFound 3 (some .boolean)) rmC_X0_isFound (cPc D dA ad fv A a [.ref (ad 0), .int x1]) (cQi D dA ad fv A Q) 0 0 A :=
  c_met (by decide) rfl rfl rfl (Nat.le_of_ble_eq_true rfl) (fun p e s m below meth c ls S hr hlk hin2 hw hl => wkC_X0_isFound_e S hr hlk Q x1 a _ _ ls h hw hl)
theorem cwC_X0_X0_isFound {R : Room} {s : State} {args : Array Value} {rm : Room} (hts : ∀ w ∈ lw_all, w.before args s = true) (hR : rm.frames + 1 ≤ R.frames ∧ 8 + (3 + 11) + rm.locals ≤ R.locals) (hc : rm.cells = 0 := by rfl) (hs : rm.slots = 0 := by rfl) : CallW R s args RX0 RX0 432 yX0_isFound cX0_isFound 3 (some .boolean) (ws_ yX0_isFound cX0_isFound 3 (some .boolean)) rm 0 0 1 :=
  cwV 1 hts (lw_V q967 q969 qs33 q103 q970) rfl hc hs (by decide +kernel) hR
/-! X0.rule -/
abbrev rmC_X0_rule : Room := { frames := 1, cells := 0, slots := 0, locals := 22 }
def wpC_X0_rule (a : CS) (x1 : Int32) (Q : Int32 → CS → Prop) : Prop := wpC_X0_isIn a x1 (0 : Int32) (4 : Int32) (fun r3 a3 => if r3 = 0 then (Q (-1000000001 : Int32) a3) else (∀ a25 : CS, a25 = wI a3 1 4 x1 → (Q (a3.1 1 4) a25)))
set_option maxHeartbeats 4000000 in
set_option maxRecDepth 100000 in
theorem wkC_X0_rule_e (S : CallFix p m c cX0_rule 3 s args lw_all RX0) (hr : meth.sig.returnType = (some .int)) (hlk : meth.locks = false) (Q : Int32 → CS → Prop) (x1 : Int32) (a : CS) (H : Heap) (locs : List Loc) (ls : Array Slot) (h : wpC_X0_rule a x1 Q) (hw : CW D dA ad fv A a s H locs) (hl : lv_has ls 3 [(0, .ref (ad 0)), (1, .int x1)]) : W p l e rmC_X0_rule s m args below meth c H locs 0 0 (MQ below (cQi D dA ad fv A Q) args s 0 0 A) (F0 m 0 ls []) := by
  have hx := S.1
  have hb := S.2.1
  have hown := S.2.2.2.1
  have hts := S.2.2.2.2
  unfold wpC_X0_rule at h
  refine lv_iload_n hx hb dX0_rule_0 rfl (lv_at hl 1 rfl) ?_
  refine lv_iconst (v := (0 : Int32)) hx hb dX0_rule_1 (by decide) ?_
  refine lv_iconst (v := (4 : Int32)) hx hb dX0_rule_2 (by decide) ?_
  refine c_calli hw (va_runS (As := [.int x1, .int (0 : Int32), .int (4 : Int32)]) (rest := []) S (ctC_X0_isIn l D dA ad fv A a x1 (0 : Int32) (4 : Int32) _ h) (cwC_X0_X0_isIn hts ⟨Nat.le_of_ble_eq_true rfl, Nat.le_of_ble_eq_true rfl⟩) (c_preS hw) rfl rfl hl.1 rfl (lv_room (Nat.le_of_ble_eq_true rfl)) dX0_rule_3 ⟨Nat.le_of_ble_eq_true rfl, Nat.le_of_ble_eq_true rfl⟩) (fun r3 a3 H locs h hw => ?_)
  refine lv_if_ne (tgt := 12) hx hb dX0_rule_6 (by decide) (fun c6 => ?_) (fun c6 => ?_)
  · replace h := if_f c6 h
    refine lv_aload_n hx hb dX0_rule_12 rfl (lv_at hl 0 rfl) ?_
    refine c_get S hw (n := 0) (ci := 0) (cOk.s (by decide)) (isO_K _) rfl in_X0 0 (by decide) (Or.inl q324) rfl rfl dX0_rule_13 ?_
    refine c_get S hw (n := 1) (cOk.s (by decide)) ((isO_S (by decide) (by decide)) _) rfl in_X1 4 (by decide) (Or.inr (List.mem_of_getElem? (i := 15) rfl)) rfl rfl dX0_rule_16 ?_
    refine lv_istore_n (lv' := [(2, .int (a3.1 1 4)), (0, .ref (ad 0)), (1, .int x1)]) hx hb dX0_rule_19 rfl hl (by decide) rfl (fun ls hl => ?_)
    refine lv_aload_n hx hb dX0_rule_20 rfl (lv_at hl 1 rfl) ?_
    refine c_get S hw (n := 0) (ci := 0) (cOk.s (by decide)) (isO_K _) rfl in_X0 0 (by decide) (Or.inl q324) rfl rfl dX0_rule_21 ?_
    refine lv_iload_n hx hb dX0_rule_24 rfl (lv_at hl 2 rfl) ?_
    refine c_putI S hw (n := 1) (cOk.s (by decide)) (isO_S (by decide) (by decide)) rfl in_X1 tyX1 tyX1_ok nmX1 4 (by decide) (Or.inr (List.mem_of_getElem? (i := 15) rfl)) rfl rfl rfl rfl (Nat.le_of_ble_eq_true rfl) (fun _ => sset_4) dX0_rule_25 (fun a25 H locs ea25 hw => ?_)
    replace h := h a25 ea25
    refine lv_iload_n hx hb dX0_rule_28 rfl (lv_at hl 0 rfl) ?_
    exact c_iret S hr hlk hw h dX0_rule_29
  · replace h := if_t c6 h
    refine lv_ldc hx hb hown (hts _ q435) dX0_rule_9 ?_
    exact c_iret S hr hlk hw h dX0_rule_11
theorem ctC_X0_rule (l : Launch) (D : va_G) (dA : Nat → ClassId) (ad : Nat → Nat) (fv : Nat → Value) (A : Nat → Prop) (a : CS) (x1 : Int32) (Q : Int32 → CS → Prop) (h : wpC_X0_rule a x1 Q) : Met l yX0_rule (ws_ yX0_rule cX0_rule 3 (some .int)) rmC_X0_rule (cPc D dA ad fv A a [.ref (ad 0), .int x1]) (cQi D dA ad fv A Q) 0 0 A :=
  c_met (by decide) rfl rfl rfl (Nat.le_of_ble_eq_true rfl) (fun p e s m below meth c ls S hr hlk hin2 hw hl => wkC_X0_rule_e S hr hlk Q x1 a _ _ ls h hw hl)
/-! X0.care -/
abbrev rmC_X0_care : Room := { frames := 1, cells := 0, slots := 0, locals := 22 }
def wpC_X0_care (a : CS) (x1 : Int32) (Q : Int32 → CS → Prop) : Prop := wpC_X0_isIn a x1 (0 : Int32) (1 : Int32) (fun r3 a3 => if r3 = 0 then (Q (-1000000001 : Int32) a3) else (∀ a25 : CS, a25 = wI a3 1 5 x1 → (Q (a3.1 1 5) a25)))
set_option maxHeartbeats 4000000 in
set_option maxRecDepth 100000 in
theorem wkC_X0_care_e (S : CallFix p m c cX0_care 3 s args lw_all RX0) (hr : meth.sig.returnType = (some .int)) (hlk : meth.locks = false) (Q : Int32 → CS → Prop) (x1 : Int32) (a : CS) (H : Heap) (locs : List Loc) (ls : Array Slot) (h : wpC_X0_care a x1 Q) (hw : CW D dA ad fv A a s H locs) (hl : lv_has ls 3 [(0, .ref (ad 0)), (1, .int x1)]) : W p l e rmC_X0_care s m args below meth c H locs 0 0 (MQ below (cQi D dA ad fv A Q) args s 0 0 A) (F0 m 0 ls []) := by
  have hx := S.1
  have hb := S.2.1
  have hown := S.2.2.2.1
  have hts := S.2.2.2.2
  unfold wpC_X0_care at h
  refine lv_iload_n hx hb dX0_care_0 rfl (lv_at hl 1 rfl) ?_
  refine lv_iconst (v := (0 : Int32)) hx hb dX0_care_1 (by decide) ?_
  refine lv_iconst (v := (1 : Int32)) hx hb dX0_care_2 (by decide) ?_
  refine c_calli hw (va_runS (As := [.int x1, .int (0 : Int32), .int (1 : Int32)]) (rest := []) S (ctC_X0_isIn l D dA ad fv A a x1 (0 : Int32) (1 : Int32) _ h) (cwC_X0_X0_isIn hts ⟨Nat.le_of_ble_eq_true rfl, Nat.le_of_ble_eq_true rfl⟩) (c_preS hw) rfl rfl hl.1 rfl (lv_room (Nat.le_of_ble_eq_true rfl)) dX0_care_3 ⟨Nat.le_of_ble_eq_true rfl, Nat.le_of_ble_eq_true rfl⟩) (fun r3 a3 H locs h hw => ?_)
  refine lv_if_ne (tgt := 12) hx hb dX0_care_6 (by decide) (fun c6 => ?_) (fun c6 => ?_)
  · replace h := if_f c6 h
    refine lv_aload_n hx hb dX0_care_12 rfl (lv_at hl 0 rfl) ?_
    refine c_get S hw (n := 0) (ci := 0) (cOk.s (by decide)) (isO_K _) rfl in_X0 0 (by decide) (Or.inl q324) rfl rfl dX0_care_13 ?_
    refine c_get S hw (n := 1) (cOk.s (by decide)) ((isO_S (by decide) (by decide)) _) rfl in_X1 5 (by decide) (Or.inr (List.mem_of_getElem? (i := 16) rfl)) rfl rfl dX0_care_16 ?_
    refine lv_istore_n (lv' := [(2, .int (a3.1 1 5)), (0, .ref (ad 0)), (1, .int x1)]) hx hb dX0_care_19 rfl hl (by decide) rfl (fun ls hl => ?_)
    refine lv_aload_n hx hb dX0_care_20 rfl (lv_at hl 1 rfl) ?_
    refine c_get S hw (n := 0) (ci := 0) (cOk.s (by decide)) (isO_K _) rfl in_X0 0 (by decide) (Or.inl q324) rfl rfl dX0_care_21 ?_
    refine lv_iload_n hx hb dX0_care_24 rfl (lv_at hl 2 rfl) ?_
    refine c_putI S hw (n := 1) (cOk.s (by decide)) (isO_S (by decide) (by decide)) rfl in_X1 tyX1 tyX1_ok nmX1 5 (by decide) (Or.inr (List.mem_of_getElem? (i := 16) rfl)) rfl rfl rfl rfl (Nat.le_of_ble_eq_true rfl) (fun _ => sset_5) dX0_care_25 (fun a25 H locs ea25 hw => ?_)
    replace h := h a25 ea25
    refine lv_iload_n hx hb dX0_care_28 rfl (lv_at hl 0 rfl) ?_
    exact c_iret S hr hlk hw h dX0_care_29
  · replace h := if_t c6 h
    refine lv_ldc hx hb hown (hts _ q435) dX0_care_9 ?_
    exact c_iret S hr hlk hw h dX0_care_11
theorem ctC_X0_care (l : Launch) (D : va_G) (dA : Nat → ClassId) (ad : Nat → Nat) (fv : Nat → Value) (A : Nat → Prop) (a : CS) (x1 : Int32) (Q : Int32 → CS → Prop) (h : wpC_X0_care a x1 Q) : Met l yX0_care (ws_ yX0_care cX0_care 3 (some .int)) rmC_X0_care (cPc D dA ad fv A a [.ref (ad 0), .int x1]) (cQi D dA ad fv A Q) 0 0 A :=
  c_met (by decide) rfl rfl rfl (Nat.le_of_ble_eq_true rfl) (fun p e s m below meth c ls S hr hlk hin2 hw hl => wkC_X0_care_e S hr hlk Q x1 a _ _ ls h hw hl)
/-! X0.out -/
abbrev rmC_X0_out : Room := { frames := 2, cells := 0, slots := 0, locals := 44 }
def wpC_X0_out (a : CS) (x1 : Int32) (Q : Int32 → CS → Prop) : Prop := wpC_X0_isLeaf a x1 (fun r2 a2 => if r2 = 0 then (Q (-1000000001 : Int32) a2) else (wpC_X2_has a2 (a2.2.1 0 5) x1 (fun r16 a16 => if r16 = 0 then (Q (0 : Int32) a16) else (wpC_X2_goes a16 (a16.2.1 0 5) x1 (fun a29 => Q (1 : Int32) a29)))))
set_option maxHeartbeats 4000000 in
set_option maxRecDepth 100000 in
theorem wkC_X0_out_e (S : CallFix p m c cX0_out 2 s args lw_all RX0) (hr : meth.sig.returnType = (some .int)) (hlk : meth.locks = false) (Q : Int32 → CS → Prop) (x1 : Int32) (a : CS) (H : Heap) (locs : List Loc) (ls : Array Slot) (h : wpC_X0_out a x1 Q) (hw : CW D dA ad fv A a s H locs) (hl : lv_has ls 2 [(0, .ref (ad 0)), (1, .int x1)]) : W p l e rmC_X0_out s m args below meth c H locs 0 0 (MQ below (cQi D dA ad fv A Q) args s 0 0 A) (F0 m 0 ls []) := by
  have hx := S.1
  have hb := S.2.1
  have hown := S.2.2.2.1
  have hts := S.2.2.2.2
  unfold wpC_X0_out at h
  refine lv_aload_n hx hb dX0_out_0 rfl (lv_at hl 0 rfl) ?_
  refine lv_iload_n hx hb dX0_out_1 rfl (lv_at hl 1 rfl) ?_
  refine c_calli hw (va_runV (As := [.int x1]) (rest := []) S (ctC_X0_isLeaf l D dA ad fv A a x1 _ h) (cwC_X0_X0_isLeaf hts ⟨Nat.le_of_ble_eq_true rfl, Nat.le_of_ble_eq_true rfl⟩) (c_preV hw (n := 0) (cOk.s (by decide)) (isO_K _) rfl) rfl rfl hl.1 rfl (lv_room (Nat.le_of_ble_eq_true rfl)) dX0_out_2 ⟨Nat.le_of_ble_eq_true rfl, Nat.le_of_ble_eq_true rfl⟩) (fun r2 a2 H locs h hw => ?_)
  refine lv_if_ne (tgt := 11) hx hb dX0_out_5 (by decide) (fun c5 => ?_) (fun c5 => ?_)
  · replace h := if_f c5 h
    refine lv_aload_n hx hb dX0_out_11 rfl (lv_at hl 0 rfl) ?_
    refine c_getOn S hw (Or.inl q329) dX0_out_12 (fun ho12 => ?_)
    refine lv_iload_n hx hb dX0_out_15 rfl (lv_at hl 1 rfl) ?_
    refine c_calli hw (va_runV (As := [.int x1]) (rest := []) S (ctC_X2_has l D dA ad fv A a2 (a2.2.1 0 5) x1 _ h) (cwC_X0_X2_has hts ⟨Nat.le_of_ble_eq_true rfl, Nat.le_of_ble_eq_true rfl⟩) (c_preV hw (n := (a2.2.1 0 5)) (cOk.s (mem_sh ho12.1 ho12.2)) ((isO_H ho12.1 ho12.2) _) rfl) rfl rfl hl.1 rfl (lv_room (Nat.le_of_ble_eq_true rfl)) dX0_out_16 ⟨Nat.le_of_ble_eq_true rfl, Nat.le_of_ble_eq_true rfl⟩) (fun r16 a16 H locs h hw => ?_)
    refine lv_if_ne (tgt := 24) hx hb dX0_out_19 (by decide) (fun c19 => ?_) (fun c19 => ?_)
    · replace h := if_f c19 h
      refine lv_aload_n hx hb dX0_out_24 rfl (lv_at hl 0 rfl) ?_
      refine c_getOn S hw (Or.inl q329) dX0_out_25 (fun ho25 => ?_)
      refine lv_iload_n hx hb dX0_out_28 rfl (lv_at hl 1 rfl) ?_
      refine c_callv hw (va_runV (As := [.int x1]) (rest := []) S (ctC_X2_goes l D dA ad fv A a16 (a16.2.1 0 5) x1 _ h) (cwC_X0_X2_goes hts ⟨Nat.le_of_ble_eq_true rfl, Nat.le_of_ble_eq_true rfl⟩) (c_preV hw (n := (a16.2.1 0 5)) (cOk.s (mem_sh ho25.1 ho25.2)) ((isO_H ho25.1 ho25.2) _) rfl) rfl rfl hl.1 rfl (lv_room (Nat.le_of_ble_eq_true rfl)) dX0_out_29 ⟨Nat.le_of_ble_eq_true rfl, Nat.le_of_ble_eq_true rfl⟩) (fun a29 H locs h hw => ?_)
      refine lv_iconst (v := (1 : Int32)) hx hb dX0_out_32 (by decide) ?_
      exact c_iret S hr hlk hw h dX0_out_33
    · replace h := if_t c19 h
      refine lv_iconst (v := (0 : Int32)) hx hb dX0_out_22 (by decide) ?_
      exact c_iret S hr hlk hw h dX0_out_23
  · replace h := if_t c5 h
    refine lv_ldc hx hb hown (hts _ q435) dX0_out_8 ?_
    exact c_iret S hr hlk hw h dX0_out_10
theorem ctC_X0_out (l : Launch) (D : va_G) (dA : Nat → ClassId) (ad : Nat → Nat) (fv : Nat → Value) (A : Nat → Prop) (a : CS) (x1 : Int32) (Q : Int32 → CS → Prop) (h : wpC_X0_out a x1 Q) : Met l yX0_out (ws_ yX0_out cX0_out 2 (some .int)) rmC_X0_out (cPc D dA ad fv A a [.ref (ad 0), .int x1]) (cQi D dA ad fv A Q) 0 0 A :=
  c_met (by decide) rfl rfl rfl (Nat.le_of_ble_eq_true rfl) (fun p e s m below meth c ls S hr hlk hin2 hw hl => wkC_X0_out_e S hr hlk Q x1 a _ _ ls h hw hl)
/-! X0.at -/
abbrev rmC_X0_at : Room := { frames := 0, cells := 0, slots := 0, locals := 0 }
def wpC_X0_at (a : CS) (x1 : Int32) (Q : Int32 → CS → Prop) : Prop := if 0 ≤ x1 then (if (a.1 (a.2.1 0 5) 4) ≤ x1 then (Q (-1000000005 : Int32) a) else ((vp_in x1 8) ∧ (Q (a.1 ((a.2.1 0 5) + 10) x1.toNatClampNeg) a))) else (Q (-1000000001 : Int32) a)
set_option maxHeartbeats 4000000 in
set_option maxRecDepth 100000 in
theorem wkC_X0_at_e (S : CallFix p m c cX0_at 2 s args lw_all RX0) (hr : meth.sig.returnType = (some .int)) (hlk : meth.locks = false) (Q : Int32 → CS → Prop) (x1 : Int32) (a : CS) (H : Heap) (locs : List Loc) (ls : Array Slot) (h : wpC_X0_at a x1 Q) (hw : CW D dA ad fv A a s H locs) (hl : lv_has ls 2 [(0, .ref (ad 0)), (1, .int x1)]) : W p l e rmC_X0_at s m args below meth c H locs 0 0 (MQ below (cQi D dA ad fv A Q) args s 0 0 A) (F0 m 0 ls []) := by
  have hx := S.1
  have hb := S.2.1
  have hown := S.2.2.2.1
  have hts := S.2.2.2.2
  unfold wpC_X0_at at h
  refine lv_iload_n hx hb dX0_at_0 rfl (lv_at hl 1 rfl) ?_
  refine lv_if_ge (tgt := 7) hx hb dX0_at_1 (by decide) (fun c1 => ?_) (fun c1 => ?_)
  · replace h := if_t c1 h
    refine lv_iload_n hx hb dX0_at_7 rfl (lv_at hl 1 rfl) ?_
    refine lv_aload_n hx hb dX0_at_8 rfl (lv_at hl 0 rfl) ?_
    refine c_getOn S hw (Or.inl q329) dX0_at_9 (fun ho9 => ?_)
    refine c_get S hw (n := (a.2.1 0 5)) (cOk.s (mem_sh ho9.1 ho9.2)) ((isO_H ho9.1 ho9.2) _) rfl in_X2 4 (by decide) (Or.inr (List.mem_of_getElem? (i := 7) rfl)) rfl rfl dX0_at_12 ?_
    refine lv_icmp_ge (tgt := 30) hx hb dX0_at_15 (by decide) (fun c15 => ?_) (fun c15 => ?_)
    · replace h := if_t c15 h
      refine lv_ldc hx hb hown (hts _ q614) dX0_at_30 ?_
      exact c_iret S hr hlk hw h dX0_at_32
    · replace h := if_f c15 h
      refine lv_aload_n hx hb dX0_at_18 rfl (lv_at hl 0 rfl) ?_
      refine c_getOn S hw (Or.inl q329) dX0_at_19 (fun ho19 => ?_)
      refine c_get S hw (n := (a.2.1 0 5)) (cOk.s (mem_sh ho19.1 ho19.2)) ((isO_H ho19.1 ho19.2) _) rfl in_X2 5 (by decide) (Or.inr (List.mem_of_getElem? (i := 8) rfl)) rfl rfl dX0_at_22 ?_
      refine lv_iload_n hx hb dX0_at_25 rfl (lv_at hl 1 rfl) ?_
      have hi26 := h.1
      replace h := h.2
      refine c_ald S hw (n := ((a.2.1 0 5) + 10)) (cOk.s (mem_or ho19.1 ho19.2)) (isA_8 (by have q1 := ho19.1; have q2 := ho19.2; omega) (by have q1 := ho19.1; have q2 := ho19.2; omega)) hi26 (Or.inl ⟨rfl, dX0_at_26⟩) ?_
      refine lv_goto (tgt := 32) hx hb dX0_at_27 (by decide) ?_
      exact c_iret S hr hlk hw h dX0_at_32
  · replace h := if_f c1 h
    refine lv_ldc hx hb hown (hts _ q435) dX0_at_4 ?_
    exact c_iret S hr hlk hw h dX0_at_6
theorem ctC_X0_at (l : Launch) (D : va_G) (dA : Nat → ClassId) (ad : Nat → Nat) (fv : Nat → Value) (A : Nat → Prop) (a : CS) (x1 : Int32) (Q : Int32 → CS → Prop) (h : wpC_X0_at a x1 Q) : Met l yX0_at (ws_ yX0_at cX0_at 2 (some .int)) rmC_X0_at (cPc D dA ad fv A a [.ref (ad 0), .int x1]) (cQi D dA ad fv A Q) 0 0 A :=
  c_met (by decide) rfl rfl rfl (Nat.le_of_ble_eq_true rfl) (fun p e s m below meth c ls S hr hlk hin2 hw hl => wkC_X0_at_e S hr hlk Q x1 a _ _ ls h hw hl)
/-! X0.fire -/
abbrev rmC_X0_fire : Room := { frames := 2, cells := 0, slots := 0, locals := 44 }
def bkC_X0_fire_17 (Q : Int32 → CS → Prop) (x1 : Int32) : Nat → Int32 → Int32 → CS → Prop
  | 0 => fun _ _ _ => False
  | n + 1 => fun x2 x3 a => if x1 ≤ x3 then (Q x2 a) else (wpC_X2_draw a (a.2.1 0 5) (fun r26 a26 => wpC_X2_has a26 (a26.2.1 0 5) (irm r26 (8 : Int32)) (fun r40 a40 => if r40 = 0 then (bkC_X0_fire_17 Q x1 n x2 (x3 + (1 : Int32)) a40) else (wpC_X2_goes a40 (a40.2.1 0 5) (irm r26 (8 : Int32)) (fun a52 => bkC_X0_fire_17 Q x1 n (x2 + (1 : Int32)) (x3 + (1 : Int32)) a52)))))
set_option maxHeartbeats 4000000 in
set_option maxRecDepth 100000 in
theorem wkC_X0_fire_17 (S : CallFix p m c cX0_fire 5 s args lw_all RX0) (hr : meth.sig.returnType = (some .int)) (hlk : meth.locks = false) (Q : Int32 → CS → Prop) (x1 : Int32) : ∀ (n : Nat) (x2 : Int32) (x3 : Int32) (a : CS) (H : Heap) (locs : List Loc) (ls : Array Slot), bkC_X0_fire_17 Q x1 n x2 x3 a → CW D dA ad fv A a s H locs → lv_has ls 5 [(0, .ref (ad 0)), (1, .int x1), (2, .int x2), (3, .int x3)] → W p l e rmC_X0_fire s m args below meth c H locs 0 0 (MQ below (cQi D dA ad fv A Q) args s 0 0 A) (F0 m 17 ls []) := by
  have hx := S.1
  have hb := S.2.1
  have hown := S.2.2.2.1
  have hts := S.2.2.2.2
  intro n
  induction n with
  | zero =>
    intro x2 x3 a H locs ls h
    exact False.elim h
  | succ n ih =>
    intro x2 x3 a H locs ls h hw hl
    unfold bkC_X0_fire_17 at h
    refine lv_iload_n hx hb dX0_fire_17 rfl (lv_at hl 3 rfl) ?_
    refine lv_iload_n hx hb dX0_fire_18 rfl (lv_at hl 1 rfl) ?_
    refine lv_icmp_ge (tgt := 64) hx hb dX0_fire_19 (by decide) (fun c19 => ?_) (fun c19 => ?_)
    · replace h := if_t c19 h
      refine lv_iload_n hx hb dX0_fire_64 rfl (lv_at hl 2 rfl) ?_
      exact c_iret S hr hlk hw h dX0_fire_65
    · replace h := if_f c19 h
      refine lv_aload_n hx hb dX0_fire_22 rfl (lv_at hl 0 rfl) ?_
      refine c_getOn S hw (Or.inl q329) dX0_fire_23 (fun ho23 => ?_)
      refine c_calli hw (va_runV (As := []) (rest := []) S (ctC_X2_draw l D dA ad fv A a (a.2.1 0 5) _ h) (cwC_X0_X2_draw hts ⟨Nat.le_of_ble_eq_true rfl, Nat.le_of_ble_eq_true rfl⟩) (c_preV hw (n := (a.2.1 0 5)) (cOk.s (mem_sh ho23.1 ho23.2)) ((isO_H ho23.1 ho23.2) _) rfl) rfl rfl hl.1 rfl (lv_room (Nat.le_of_ble_eq_true rfl)) dX0_fire_26 ⟨Nat.le_of_ble_eq_true rfl, Nat.le_of_ble_eq_true rfl⟩) (fun r26 a26 H locs h hw => ?_)
      refine lv_bipush (v := (8 : Int32)) hx hb dX0_fire_29 (by decide) ?_
      refine lv_irem hx hb dX0_fire_31 (by decide) ?_
      refine lv_istore (lv' := [(4, .int (irm r26 (8 : Int32))), (0, .ref (ad 0)), (1, .int x1), (2, .int x2), (3, .int x3)]) hx hb dX0_fire_32 hl (by decide) rfl (fun ls hl => ?_)
      refine lv_aload_n hx hb dX0_fire_34 rfl (lv_at hl 1 rfl) ?_
      refine c_getOn S hw (Or.inl q329) dX0_fire_35 (fun ho35 => ?_)
      refine lv_iload hx hb dX0_fire_38 (lv_at hl 0 rfl) ?_
      refine c_calli hw (va_runV (As := [.int (irm r26 (8 : Int32))]) (rest := []) S (ctC_X2_has l D dA ad fv A a26 (a26.2.1 0 5) (irm r26 (8 : Int32)) _ h) (cwC_X0_X2_has hts ⟨Nat.le_of_ble_eq_true rfl, Nat.le_of_ble_eq_true rfl⟩) (c_preV hw (n := (a26.2.1 0 5)) (cOk.s (mem_sh ho35.1 ho35.2)) ((isO_H ho35.1 ho35.2) _) rfl) rfl rfl hl.1 rfl (lv_room (Nat.le_of_ble_eq_true rfl)) dX0_fire_40 ⟨Nat.le_of_ble_eq_true rfl, Nat.le_of_ble_eq_true rfl⟩) (fun r40 a40 H locs h hw => ?_)
      refine lv_if_eq (tgt := 58) hx hb dX0_fire_43 (by decide) (fun c43 => ?_) (fun c43 => ?_)
      · replace h := if_t c43 h
        refine lv_iinc (v := (x3 + (1 : Int32))) (lv' := [(3, .int (x3 + (1 : Int32))), (4, .int (irm r26 (8 : Int32))), (0, .ref (ad 0)), (1, .int x1), (2, .int x2)]) hx hb dX0_fire_58 hl (k := 4) rfl rfl (by decide) rfl (fun ls hl => ?_)
        refine lv_goto (tgt := 17) hx hb dX0_fire_61 (by decide) ?_
        exact ih _ _ _ _ _ _ h hw (lv_sub hl [2, 3, 4, 0] rfl)
      · replace h := if_f c43 h
        refine lv_aload_n hx hb dX0_fire_46 rfl (lv_at hl 1 rfl) ?_
        refine c_getOn S hw (Or.inl q329) dX0_fire_47 (fun ho47 => ?_)
        refine lv_iload hx hb dX0_fire_50 (lv_at hl 0 rfl) ?_
        refine c_callv hw (va_runV (As := [.int (irm r26 (8 : Int32))]) (rest := []) S (ctC_X2_goes l D dA ad fv A a40 (a40.2.1 0 5) (irm r26 (8 : Int32)) _ h) (cwC_X0_X2_goes hts ⟨Nat.le_of_ble_eq_true rfl, Nat.le_of_ble_eq_true rfl⟩) (c_preV hw (n := (a40.2.1 0 5)) (cOk.s (mem_sh ho47.1 ho47.2)) ((isO_H ho47.1 ho47.2) _) rfl) rfl rfl hl.1 rfl (lv_room (Nat.le_of_ble_eq_true rfl)) dX0_fire_52 ⟨Nat.le_of_ble_eq_true rfl, Nat.le_of_ble_eq_true rfl⟩) (fun a52 H locs h hw => ?_)
        refine lv_iinc (v := (x2 + (1 : Int32))) (lv' := [(2, .int (x2 + (1 : Int32))), (4, .int (irm r26 (8 : Int32))), (0, .ref (ad 0)), (1, .int x1), (3, .int x3)]) hx hb dX0_fire_55 hl (k := 3) rfl rfl (by decide) rfl (fun ls hl => ?_)
        refine lv_iinc (v := (x3 + (1 : Int32))) (lv' := [(3, .int (x3 + (1 : Int32))), (2, .int (x2 + (1 : Int32))), (4, .int (irm r26 (8 : Int32))), (0, .ref (ad 0)), (1, .int x1)]) hx hb dX0_fire_58 hl (k := 4) rfl rfl (by decide) rfl (fun ls hl => ?_)
        refine lv_goto (tgt := 17) hx hb dX0_fire_61 (by decide) ?_
        exact ih _ _ _ _ _ _ h hw (lv_sub hl [3, 4, 1, 0] rfl)
def wpC_X0_fire (a : CS) (x1 : Int32) (Q : Int32 → CS → Prop) : Prop := wpC_X0_isIn a x1 (1 : Int32) (20 : Int32) (fun r4 a4 => if r4 = 0 then (Q (-1000000001 : Int32) a4) else (∃ n17, bkC_X0_fire_17 Q x1 n17 (0 : Int32) (0 : Int32) a4))
set_option maxHeartbeats 4000000 in
set_option maxRecDepth 100000 in
theorem wkC_X0_fire_e (S : CallFix p m c cX0_fire 5 s args lw_all RX0) (hr : meth.sig.returnType = (some .int)) (hlk : meth.locks = false) (Q : Int32 → CS → Prop) (x1 : Int32) (a : CS) (H : Heap) (locs : List Loc) (ls : Array Slot) (h : wpC_X0_fire a x1 Q) (hw : CW D dA ad fv A a s H locs) (hl : lv_has ls 5 [(0, .ref (ad 0)), (1, .int x1)]) : W p l e rmC_X0_fire s m args below meth c H locs 0 0 (MQ below (cQi D dA ad fv A Q) args s 0 0 A) (F0 m 0 ls []) := by
  have hx := S.1
  have hb := S.2.1
  have hown := S.2.2.2.1
  have hts := S.2.2.2.2
  unfold wpC_X0_fire at h
  refine lv_iload_n hx hb dX0_fire_0 rfl (lv_at hl 1 rfl) ?_
  refine lv_iconst (v := (1 : Int32)) hx hb dX0_fire_1 (by decide) ?_
  refine lv_bipush (v := (20 : Int32)) hx hb dX0_fire_2 (by decide) ?_
  refine c_calli hw (va_runS (As := [.int x1, .int (1 : Int32), .int (20 : Int32)]) (rest := []) S (ctC_X0_isIn l D dA ad fv A a x1 (1 : Int32) (20 : Int32) _ h) (cwC_X0_X0_isIn hts ⟨Nat.le_of_ble_eq_true rfl, Nat.le_of_ble_eq_true rfl⟩) (c_preS hw) rfl rfl hl.1 rfl (lv_room (Nat.le_of_ble_eq_true rfl)) dX0_fire_4 ⟨Nat.le_of_ble_eq_true rfl, Nat.le_of_ble_eq_true rfl⟩) (fun r4 a4 H locs h hw => ?_)
  refine lv_if_ne (tgt := 13) hx hb dX0_fire_7 (by decide) (fun c7 => ?_) (fun c7 => ?_)
  · replace h := if_f c7 h
    refine lv_iconst (v := (0 : Int32)) hx hb dX0_fire_13 (by decide) ?_
    refine lv_istore_n (lv' := [(2, .int (0 : Int32)), (0, .ref (ad 0)), (1, .int x1)]) hx hb dX0_fire_14 rfl hl (by decide) rfl (fun ls hl => ?_)
    refine lv_iconst (v := (0 : Int32)) hx hb dX0_fire_15 (by decide) ?_
    refine lv_istore_n (lv' := [(3, .int (0 : Int32)), (2, .int (0 : Int32)), (0, .ref (ad 0)), (1, .int x1)]) hx hb dX0_fire_16 rfl hl (by decide) rfl (fun ls hl => ?_)
    obtain ⟨n17, h⟩ := h
    exact wkC_X0_fire_17 S hr hlk Q x1 n17 _ _ _ _ _ _ h hw (lv_sub hl [2, 3, 1, 0] rfl)
  · replace h := if_t c7 h
    refine lv_ldc hx hb hown (hts _ q435) dX0_fire_10 ?_
    exact c_iret S hr hlk hw h dX0_fire_12
theorem ctC_X0_fire (l : Launch) (D : va_G) (dA : Nat → ClassId) (ad : Nat → Nat) (fv : Nat → Value) (A : Nat → Prop) (a : CS) (x1 : Int32) (Q : Int32 → CS → Prop) (h : wpC_X0_fire a x1 Q) : Met l yX0_fire (ws_ yX0_fire cX0_fire 5 (some .int)) rmC_X0_fire (cPc D dA ad fv A a [.ref (ad 0), .int x1]) (cQi D dA ad fv A Q) 0 0 A :=
  c_met (by decide) rfl rfl rfl (Nat.le_of_ble_eq_true rfl) (fun p e s m below meth c ls S hr hlk hin2 hw hl => wkC_X0_fire_e S hr hlk Q x1 a _ _ ls h hw hl)
/-! X0.seed -/
abbrev rmC_X0_seed : Room := { frames := 0, cells := 0, slots := 0, locals := 0 }
def wpC_X0_seed (a : CS) (x1 : Int32) (Q : Int32 → CS → Prop) : Prop := ∀ a13 : CS, a13 = wI a (a.2.1 0 5) 0 x1 → (Q (a.1 (a.2.1 0 5) 0) a13)
set_option maxHeartbeats 4000000 in
set_option maxRecDepth 100000 in
theorem wkC_X0_seed_e (S : CallFix p m c cX0_seed 3 s args lw_all RX0) (hr : meth.sig.returnType = (some .int)) (hlk : meth.locks = false) (Q : Int32 → CS → Prop) (x1 : Int32) (a : CS) (H : Heap) (locs : List Loc) (ls : Array Slot) (h : wpC_X0_seed a x1 Q) (hw : CW D dA ad fv A a s H locs) (hl : lv_has ls 3 [(0, .ref (ad 0)), (1, .int x1)]) : W p l e rmC_X0_seed s m args below meth c H locs 0 0 (MQ below (cQi D dA ad fv A Q) args s 0 0 A) (F0 m 0 ls []) := by
  have hx := S.1
  have hb := S.2.1
  have hown := S.2.2.2.1
  have hts := S.2.2.2.2
  unfold wpC_X0_seed at h
  refine lv_aload_n hx hb dX0_seed_0 rfl (lv_at hl 0 rfl) ?_
  refine c_getOn S hw (Or.inl q329) dX0_seed_1 (fun ho1 => ?_)
  refine c_get S hw (n := (a.2.1 0 5)) (cOk.s (mem_sh ho1.1 ho1.2)) ((isO_H ho1.1 ho1.2) _) rfl in_X2 0 (by decide) (Or.inr (List.mem_of_getElem? (i := 3) rfl)) rfl rfl dX0_seed_4 ?_
  refine lv_istore_n (lv' := [(2, .int (a.1 (a.2.1 0 5) 0)), (0, .ref (ad 0)), (1, .int x1)]) hx hb dX0_seed_7 rfl hl (by decide) rfl (fun ls hl => ?_)
  refine lv_aload_n hx hb dX0_seed_8 rfl (lv_at hl 1 rfl) ?_
  refine c_getOn S hw (Or.inl q329) dX0_seed_9 (fun ho9 => ?_)
  refine lv_iload_n hx hb dX0_seed_12 rfl (lv_at hl 2 rfl) ?_
  refine c_putI S hw (n := (a.2.1 0 5)) (cOk.s (mem_sh ho9.1 ho9.2)) (isO_H ho9.1 ho9.2) rfl in_X2 tyX2 tyX2_ok nmX2 0 (by decide) (Or.inr (List.mem_of_getElem? (i := 3) rfl)) rfl rfl rfl rfl (Nat.le_of_ble_eq_true rfl) (fun _ => hset_0) dX0_seed_13 (fun a13 H locs ea13 hw => ?_)
  replace h := h a13 ea13
  refine lv_iload_n hx hb dX0_seed_16 rfl (lv_at hl 0 rfl) ?_
  exact c_iret S hr hlk hw h dX0_seed_17
theorem ctC_X0_seed (l : Launch) (D : va_G) (dA : Nat → ClassId) (ad : Nat → Nat) (fv : Nat → Value) (A : Nat → Prop) (a : CS) (x1 : Int32) (Q : Int32 → CS → Prop) (h : wpC_X0_seed a x1 Q) : Met l yX0_seed (ws_ yX0_seed cX0_seed 3 (some .int)) rmC_X0_seed (cPc D dA ad fv A a [.ref (ad 0), .int x1]) (cQi D dA ad fv A Q) 0 0 A :=
  c_met (by decide) rfl rfl rfl (Nat.le_of_ble_eq_true rfl) (fun p e s m below meth c ls S hr hlk hin2 hw hl => wkC_X0_seed_e S hr hlk Q x1 a _ _ ls h hw hl)
/-! X0.plan -/
abbrev rmC_X0_plan : Room := { frames := 2, cells := 0, slots := 0, locals := 43 }
def wpC_X0_plan (a : CS) (x1 : Int32) (Q : Int32 → CS → Prop) : Prop := wpC_X0_isLeaf a x1 (fun r2 a2 => if r2 = 0 then (Q (-1000000001 : Int32) a2) else (if (a2.1 1 6) = (24 : Int32) then (Q (-1000000003 : Int32) a2) else ((vp_in (a2.1 1 6) 24) ∧ (∀ a41 : CS, a41 = wI a2 51 (a2.1 1 6).toNatClampNeg x1 → (∀ a52 : CS, a52 = wI a41 1 6 ((a41.1 1 6) + (1 : Int32)) → (Q (a52.1 1 6) a52))))))
set_option maxHeartbeats 4000000 in
set_option maxRecDepth 100000 in
theorem wkC_X0_plan_e (S : CallFix p m c cX0_plan 2 s args lw_all RX0) (hr : meth.sig.returnType = (some .int)) (hlk : meth.locks = false) (Q : Int32 → CS → Prop) (x1 : Int32) (a : CS) (H : Heap) (locs : List Loc) (ls : Array Slot) (h : wpC_X0_plan a x1 Q) (hw : CW D dA ad fv A a s H locs) (hl : lv_has ls 2 [(0, .ref (ad 0)), (1, .int x1)]) : W p l e rmC_X0_plan s m args below meth c H locs 0 0 (MQ below (cQi D dA ad fv A Q) args s 0 0 A) (F0 m 0 ls []) := by
  have hx := S.1
  have hb := S.2.1
  have hown := S.2.2.2.1
  have hts := S.2.2.2.2
  unfold wpC_X0_plan at h
  refine lv_aload_n hx hb dX0_plan_0 rfl (lv_at hl 0 rfl) ?_
  refine lv_iload_n hx hb dX0_plan_1 rfl (lv_at hl 1 rfl) ?_
  refine c_calli hw (va_runV (As := [.int x1]) (rest := []) S (ctC_X0_isLeaf l D dA ad fv A a x1 _ h) (cwC_X0_X0_isLeaf hts ⟨Nat.le_of_ble_eq_true rfl, Nat.le_of_ble_eq_true rfl⟩) (c_preV hw (n := 0) (cOk.s (by decide)) (isO_K _) rfl) rfl rfl hl.1 rfl (lv_room (Nat.le_of_ble_eq_true rfl)) dX0_plan_2 ⟨Nat.le_of_ble_eq_true rfl, Nat.le_of_ble_eq_true rfl⟩) (fun r2 a2 H locs h hw => ?_)
  refine lv_if_ne (tgt := 11) hx hb dX0_plan_5 (by decide) (fun c5 => ?_) (fun c5 => ?_)
  · replace h := if_f c5 h
    refine lv_aload_n hx hb dX0_plan_11 rfl (lv_at hl 0 rfl) ?_
    refine c_get S hw (n := 0) (ci := 0) (cOk.s (by decide)) (isO_K _) rfl in_X0 0 (by decide) (Or.inl q324) rfl rfl dX0_plan_12 ?_
    refine c_get S hw (n := 1) (cOk.s (by decide)) ((isO_S (by decide) (by decide)) _) rfl in_X1 6 (by decide) (Or.inr (List.mem_of_getElem? (i := 17) rfl)) rfl rfl dX0_plan_15 ?_
    refine lv_bipush (v := (24 : Int32)) hx hb dX0_plan_18 (by decide) ?_
    refine lv_icmp_ne (tgt := 26) hx hb dX0_plan_20 (by decide) (fun c20 => ?_) (fun c20 => ?_)
    · replace h := if_f c20 h
      refine lv_aload_n hx hb dX0_plan_26 rfl (lv_at hl 0 rfl) ?_
      refine c_get S hw (n := 0) (ci := 0) (cOk.s (by decide)) (isO_K _) rfl in_X0 0 (by decide) (Or.inl q324) rfl rfl dX0_plan_27 ?_
      refine c_get S hw (n := 1) (cOk.s (by decide)) ((isO_S (by decide) (by decide)) _) rfl in_X1 7 (by decide) (Or.inr (List.mem_of_getElem? (i := 18) rfl)) rfl rfl dX0_plan_30 ?_
      refine lv_aload_n hx hb dX0_plan_33 rfl (lv_at hl 0 rfl) ?_
      refine c_get S hw (n := 0) (ci := 0) (cOk.s (by decide)) (isO_K _) rfl in_X0 0 (by decide) (Or.inl q324) rfl rfl dX0_plan_34 ?_
      refine c_get S hw (n := 1) (cOk.s (by decide)) ((isO_S (by decide) (by decide)) _) rfl in_X1 6 (by decide) (Or.inr (List.mem_of_getElem? (i := 17) rfl)) rfl rfl dX0_plan_37 ?_
      refine lv_iload_n hx hb dX0_plan_40 rfl (lv_at hl 1 rfl) ?_
      have hi41 := h.1
      replace h := h.2
      refine c_ast S hw (n := 51) (by decide) (cOk.s (by decide)) (isA_ask (by decide) (by decide)) hi41 (Or.inl ⟨rfl, rfl, dX0_plan_41⟩) (fun a41 H locs ea41 hw => ?_)
      replace h := h a41 ea41
      refine lv_aload_n hx hb dX0_plan_42 rfl (lv_at hl 0 rfl) ?_
      refine c_get S hw (n := 0) (ci := 0) (cOk.s (by decide)) (isO_K _) rfl in_X0 0 (by decide) (Or.inl q324) rfl rfl dX0_plan_43 ?_
      refine lv_dup hx hb dX0_plan_46 rfl ?_
      refine c_get S hw (n := 1) (cOk.s (by decide)) ((isO_S (by decide) (by decide)) _) rfl in_X1 6 (by decide) (Or.inr (List.mem_of_getElem? (i := 17) rfl)) rfl rfl dX0_plan_47 ?_
      refine lv_iconst (v := (1 : Int32)) hx hb dX0_plan_50 (by decide) ?_
      refine lv_iadd hx hb dX0_plan_51 ?_
      refine c_putI S hw (n := 1) (cOk.s (by decide)) (isO_S (by decide) (by decide)) rfl in_X1 tyX1 tyX1_ok nmX1 6 (by decide) (Or.inr (List.mem_of_getElem? (i := 17) rfl)) rfl rfl rfl rfl (Nat.le_of_ble_eq_true rfl) (fun _ => sset_6) dX0_plan_52 (fun a52 H locs ea52 hw => ?_)
      replace h := h a52 ea52
      refine lv_aload_n hx hb dX0_plan_55 rfl (lv_at hl 0 rfl) ?_
      refine c_get S hw (n := 0) (ci := 0) (cOk.s (by decide)) (isO_K _) rfl in_X0 0 (by decide) (Or.inl q324) rfl rfl dX0_plan_56 ?_
      refine c_get S hw (n := 1) (cOk.s (by decide)) ((isO_S (by decide) (by decide)) _) rfl in_X1 6 (by decide) (Or.inr (List.mem_of_getElem? (i := 17) rfl)) rfl rfl dX0_plan_59 ?_
      exact c_iret S hr hlk hw h dX0_plan_62
    · replace h := if_t c20 h
      refine lv_ldc hx hb hown (hts _ q423) dX0_plan_23 ?_
      exact c_iret S hr hlk hw h dX0_plan_25
  · replace h := if_t c5 h
    refine lv_ldc hx hb hown (hts _ q435) dX0_plan_8 ?_
    exact c_iret S hr hlk hw h dX0_plan_10
theorem ctC_X0_plan (l : Launch) (D : va_G) (dA : Nat → ClassId) (ad : Nat → Nat) (fv : Nat → Value) (A : Nat → Prop) (a : CS) (x1 : Int32) (Q : Int32 → CS → Prop) (h : wpC_X0_plan a x1 Q) : Met l yX0_plan (ws_ yX0_plan cX0_plan 2 (some .int)) rmC_X0_plan (cPc D dA ad fv A a [.ref (ad 0), .int x1]) (cQi D dA ad fv A Q) 0 0 A :=
  c_met (by decide) rfl rfl rfl (Nat.le_of_ble_eq_true rfl) (fun p e s m below meth c ls S hr hlk hin2 hw hl => wkC_X0_plan_e S hr hlk Q x1 a _ _ ls h hw hl)
/-! X0.clear -/
abbrev rmC_X0_clear : Room := { frames := 0, cells := 0, slots := 0, locals := 0 }
def wpC_X0_clear (a : CS) (Q : Int32 → CS → Prop) : Prop := ∀ a13 : CS, a13 = wI a 1 6 (0 : Int32) → (Q (a.1 1 6) a13)
set_option maxHeartbeats 4000000 in
set_option maxRecDepth 100000 in
theorem wkC_X0_clear_e (S : CallFix p m c cX0_clear 2 s args lw_all RX0) (hr : meth.sig.returnType = (some .int)) (hlk : meth.locks = false) (Q : Int32 → CS → Prop) (a : CS) (H : Heap) (locs : List Loc) (ls : Array Slot) (h : wpC_X0_clear a Q) (hw : CW D dA ad fv A a s H locs) (hl : lv_has ls 2 [(0, .ref (ad 0))]) : W p l e rmC_X0_clear s m args below meth c H locs 0 0 (MQ below (cQi D dA ad fv A Q) args s 0 0 A) (F0 m 0 ls []) := by
  have hx := S.1
  have hb := S.2.1
  have hown := S.2.2.2.1
  have hts := S.2.2.2.2
  unfold wpC_X0_clear at h
  refine lv_aload_n hx hb dX0_clear_0 rfl (lv_at hl 0 rfl) ?_
  refine c_get S hw (n := 0) (ci := 0) (cOk.s (by decide)) (isO_K _) rfl in_X0 0 (by decide) (Or.inl q324) rfl rfl dX0_clear_1 ?_
  refine c_get S hw (n := 1) (cOk.s (by decide)) ((isO_S (by decide) (by decide)) _) rfl in_X1 6 (by decide) (Or.inr (List.mem_of_getElem? (i := 17) rfl)) rfl rfl dX0_clear_4 ?_
  refine lv_istore_n (lv' := [(1, .int (a.1 1 6)), (0, .ref (ad 0))]) hx hb dX0_clear_7 rfl hl (by decide) rfl (fun ls hl => ?_)
  refine lv_aload_n hx hb dX0_clear_8 rfl (lv_at hl 1 rfl) ?_
  refine c_get S hw (n := 0) (ci := 0) (cOk.s (by decide)) (isO_K _) rfl in_X0 0 (by decide) (Or.inl q324) rfl rfl dX0_clear_9 ?_
  refine lv_iconst (v := (0 : Int32)) hx hb dX0_clear_12 (by decide) ?_
  refine c_putI S hw (n := 1) (cOk.s (by decide)) (isO_S (by decide) (by decide)) rfl in_X1 tyX1 tyX1_ok nmX1 6 (by decide) (Or.inr (List.mem_of_getElem? (i := 17) rfl)) rfl rfl rfl rfl (Nat.le_of_ble_eq_true rfl) (fun _ => sset_6) dX0_clear_13 (fun a13 H locs ea13 hw => ?_)
  replace h := h a13 ea13
  refine lv_iload_n hx hb dX0_clear_16 rfl (lv_at hl 0 rfl) ?_
  exact c_iret S hr hlk hw h dX0_clear_17
theorem ctC_X0_clear (l : Launch) (D : va_G) (dA : Nat → ClassId) (ad : Nat → Nat) (fv : Nat → Value) (A : Nat → Prop) (a : CS) (Q : Int32 → CS → Prop) (h : wpC_X0_clear a Q) : Met l yX0_clear (ws_ yX0_clear cX0_clear 2 (some .int)) rmC_X0_clear (cPc D dA ad fv A a [.ref (ad 0)]) (cQi D dA ad fv A Q) 0 0 A :=
  c_met (by decide) rfl rfl rfl (Nat.le_of_ble_eq_true rfl) (fun p e s m below meth c ls S hr hlk hin2 hw hl => wkC_X0_clear_e S hr hlk Q a _ _ ls h hw hl)
/-! X0.goesThrough -/
abbrev rmC_X0_goesThrough : Room := { frames := 6, cells := 0, slots := 0, locals := 138 }
def bkC_X0_goesThrough_11 (Q : Int32 → CS → Prop) (f1 : Nat) (x2 : Int32) : Nat → Int32 → Int32 → CS → Prop
  | 0 => fun _ _ _ => False
  | n + 1 => fun x3 x4 a => if x2 ≤ x4 then (Q ((a.1 (a.2.1 0 5) 2) - x3) a) else ((vp_in x4 (rlen f1)) ∧ (wpC_X0_isFound a (a.1 f1 x4.toNatClampNeg) (fun r22 a22 => bkC_X0_goesThrough_11 Q f1 x2 n x3 (x4 + (1 : Int32)) a22)))
set_option maxHeartbeats 4000000 in
set_option maxRecDepth 100000 in
theorem wkC_X0_goesThrough_11 (S : CallFix p m c cX0_goesThrough 6 s args lw_all RX0) (hr : meth.sig.returnType = (some .int)) (hlk : meth.locks = false) (Q : Int32 → CS → Prop) (f1 : Nat) (x2 : Int32) (hx1 : rowK f1) : ∀ (n : Nat) (x3 : Int32) (x4 : Int32) (a : CS) (H : Heap) (locs : List Loc) (ls : Array Slot), bkC_X0_goesThrough_11 Q f1 x2 n x3 x4 a → CW D dA ad fv A a s H locs → lv_has ls 6 [(0, .ref (ad 0)), (1, .ref (ad f1)), (2, .int x2), (3, .int x3), (4, .int x4)] → W p l e rmC_X0_goesThrough s m args below meth c H locs 0 0 (MQ below (cQi D dA ad fv A Q) args s 0 0 A) (F0 m 11 ls []) := by
  have hx := S.1
  have hb := S.2.1
  have hown := S.2.2.2.1
  have hts := S.2.2.2.2
  intro n
  induction n with
  | zero =>
    intro x3 x4 a H locs ls h
    exact False.elim h
  | succ n ih =>
    intro x3 x4 a H locs ls h hw hl
    unfold bkC_X0_goesThrough_11 at h
    refine lv_iload hx hb dX0_goesThrough_11 (lv_at hl 4 rfl) ?_
    refine lv_iload_n hx hb dX0_goesThrough_13 rfl (lv_at hl 2 rfl) ?_
    refine lv_icmp_ge (tgt := 33) hx hb dX0_goesThrough_14 (by decide) (fun c14 => ?_) (fun c14 => ?_)
    · replace h := if_t c14 h
      refine lv_aload_n hx hb dX0_goesThrough_33 rfl (lv_at hl 0 rfl) ?_
      refine c_getOn S hw (Or.inl q329) dX0_goesThrough_34 (fun ho34 => ?_)
      refine c_get S hw (n := (a.2.1 0 5)) (cOk.s (mem_sh ho34.1 ho34.2)) ((isO_H ho34.1 ho34.2) _) rfl in_X2 2 (by decide) (Or.inr (List.mem_of_getElem? (i := 5) rfl)) rfl rfl dX0_goesThrough_37 ?_
      refine lv_iload_n hx hb dX0_goesThrough_40 rfl (lv_at hl 3 rfl) ?_
      refine lv_isub hx hb dX0_goesThrough_41 ?_
      exact c_iret S hr hlk hw h dX0_goesThrough_42
    · replace h := if_f c14 h
      refine lv_aload_n hx hb dX0_goesThrough_17 rfl (lv_at hl 0 rfl) ?_
      refine lv_aload_n hx hb dX0_goesThrough_18 rfl (lv_at hl 1 rfl) ?_
      refine lv_iload hx hb dX0_goesThrough_19 (lv_at hl 4 rfl) ?_
      have hi21 := h.1
      replace h := h.2
      refine c_ald S hw (n := f1) hx1.ok hx1.isA hi21 (Or.inl ⟨rfl, dX0_goesThrough_21⟩) ?_
      refine c_calli hw (va_runV (As := [.int (a.1 f1 x4.toNatClampNeg)]) (rest := []) S (ctC_X0_isFound l D dA ad fv A a (a.1 f1 x4.toNatClampNeg) _ h) (cwC_X0_X0_isFound hts ⟨Nat.le_of_ble_eq_true rfl, Nat.le_of_ble_eq_true rfl⟩) (c_preV hw (n := 0) (cOk.s (by decide)) (isO_K _) rfl) rfl rfl hl.1 rfl (lv_room (Nat.le_of_ble_eq_true rfl)) dX0_goesThrough_22 ⟨Nat.le_of_ble_eq_true rfl, Nat.le_of_ble_eq_true rfl⟩) (fun r22 a22 H locs h hw => ?_)
      refine lv_istore (lv' := [(5, .int r22), (0, .ref (ad 0)), (1, .ref (ad f1)), (2, .int x2), (3, .int x3), (4, .int x4)]) hx hb dX0_goesThrough_25 hl (by decide) rfl (fun ls hl => ?_)
      refine lv_iinc (v := (x4 + (1 : Int32))) (lv' := [(4, .int (x4 + (1 : Int32))), (5, .int r22), (0, .ref (ad 0)), (1, .ref (ad f1)), (2, .int x2), (3, .int x3)]) hx hb dX0_goesThrough_27 hl (k := 5) rfl rfl (by decide) rfl (fun ls hl => ?_)
      refine lv_goto (tgt := 11) hx hb dX0_goesThrough_30 (by decide) ?_
      exact ih _ _ _ _ _ _ h hw (lv_sub hl [2, 3, 4, 5, 0] rfl)
def wpC_X0_goesThrough (a : CS) (f1 : Nat) (x2 : Int32) (Q : Int32 → CS → Prop) : Prop := (rowK f1) ∧ ∃ n11, bkC_X0_goesThrough_11 Q f1 x2 n11 (a.1 (a.2.1 0 5) 2) (0 : Int32) a
set_option maxHeartbeats 4000000 in
set_option maxRecDepth 100000 in
theorem wkC_X0_goesThrough_e (S : CallFix p m c cX0_goesThrough 6 s args lw_all RX0) (hr : meth.sig.returnType = (some .int)) (hlk : meth.locks = false) (Q : Int32 → CS → Prop) (f1 : Nat) (x2 : Int32) (a : CS) (H : Heap) (locs : List Loc) (ls : Array Slot) (h : wpC_X0_goesThrough a f1 x2 Q) (hw : CW D dA ad fv A a s H locs) (hl : lv_has ls 6 [(0, .ref (ad 0)), (1, .ref (ad f1)), (2, .int x2)]) : W p l e rmC_X0_goesThrough s m args below meth c H locs 0 0 (MQ below (cQi D dA ad fv A Q) args s 0 0 A) (F0 m 0 ls []) := by
  have hx := S.1
  have hb := S.2.1
  have hown := S.2.2.2.1
  have hts := S.2.2.2.2
  unfold wpC_X0_goesThrough at h
  obtain ⟨hx1, h⟩ := h
  refine lv_aload_n hx hb dX0_goesThrough_0 rfl (lv_at hl 0 rfl) ?_
  refine c_getOn S hw (Or.inl q329) dX0_goesThrough_1 (fun ho1 => ?_)
  refine c_get S hw (n := (a.2.1 0 5)) (cOk.s (mem_sh ho1.1 ho1.2)) ((isO_H ho1.1 ho1.2) _) rfl in_X2 2 (by decide) (Or.inr (List.mem_of_getElem? (i := 5) rfl)) rfl rfl dX0_goesThrough_4 ?_
  refine lv_istore_n (lv' := [(3, .int (a.1 (a.2.1 0 5) 2)), (0, .ref (ad 0)), (1, .ref (ad f1)), (2, .int x2)]) hx hb dX0_goesThrough_7 rfl hl (by decide) rfl (fun ls hl => ?_)
  refine lv_iconst (v := (0 : Int32)) hx hb dX0_goesThrough_8 (by decide) ?_
  refine lv_istore (lv' := [(4, .int (0 : Int32)), (3, .int (a.1 (a.2.1 0 5) 2)), (0, .ref (ad 0)), (1, .ref (ad f1)), (2, .int x2)]) hx hb dX0_goesThrough_9 hl (by decide) rfl (fun ls hl => ?_)
  obtain ⟨n11, h⟩ := h
  exact wkC_X0_goesThrough_11 S hr hlk Q f1 x2 hx1 n11 _ _ _ _ _ _ h hw (lv_sub hl [2, 3, 4, 1, 0] rfl)
theorem ctC_X0_goesThrough (l : Launch) (D : va_G) (dA : Nat → ClassId) (ad : Nat → Nat) (fv : Nat → Value) (A : Nat → Prop) (a : CS) (f1 : Nat) (x2 : Int32) (Q : Int32 → CS → Prop) (h : wpC_X0_goesThrough a f1 x2 Q) : Met l yX0_goesThrough (ws_ yX0_goesThrough cX0_goesThrough 6 (some .int)) rmC_X0_goesThrough (cPc D dA ad fv A a [.ref (ad 0), .ref (ad f1), .int x2]) (cQi D dA ad fv A Q) 0 0 A :=
  c_met (by decide) rfl rfl rfl (Nat.le_of_ble_eq_true rfl) (fun p e s m below meth c ls S hr hlk hin2 hw hl => wkC_X0_goesThrough_e S hr hlk Q f1 x2 a _ _ ls h hw hl)
theorem cwC_X0_X0_goesThrough {R : Room} {s : State} {args : Array Value} {rm : Room} (hts : ∀ w ∈ lw_all, w.before args s = true) (hR : rm.frames + 1 ≤ R.frames ∧ 8 + (6 + 11) + rm.locals ≤ R.locals) (hc : rm.cells = 0 := by rfl) (hs : rm.slots = 0 := by rfl) : CallW R s args RX0 RX0 448 yX0_goesThrough cX0_goesThrough 6 (some .int) (ws_ yX0_goesThrough cX0_goesThrough 6 (some .int)) rm 0 0 2 :=
  cwV 2 hts (lw_V q1012 q1014 qs34 q103 q1015) rfl hc hs (by decide +kernel) hR
/-! X0.thought -/
abbrev rmC_X0_thought : Room := { frames := 7, cells := 0, slots := 0, locals := 163 }
def wpC_X0_thought (a : CS) (f1 : Nat) (x2 : Int32) (Q : Int32 → CS → Prop) : Prop := (rowK f1) ∧ wpC_X2_copyOf a 7 4 (fun a11 => ∀ a19 : CS, a19 = wR a11 0 5 7 → (wpC_X0_goesThrough a19 f1 x2 (fun r25 a25 => ∀ a37 : CS, a37 = wR a25 0 5 4 → (Q r25 a37))))
set_option maxHeartbeats 4000000 in
set_option maxRecDepth 100000 in
theorem wkC_X0_thought_e (S : CallFix p m c cX0_thought 4 s args lw_all RX0) (hr : meth.sig.returnType = (some .int)) (hlk : meth.locks = false) (Q : Int32 → CS → Prop) (f1 : Nat) (x2 : Int32) (a : CS) (H : Heap) (locs : List Loc) (ls : Array Slot) (h : wpC_X0_thought a f1 x2 Q) (hw : CW D dA ad fv A a s H locs) (hl : lv_has ls 4 [(0, .ref (ad 0)), (1, .ref (ad f1)), (2, .int x2)]) : W p l e rmC_X0_thought s m args below meth c H locs 0 0 (MQ below (cQi D dA ad fv A Q) args s 0 0 A) (F0 m 0 ls []) := by
  have hx := S.1
  have hb := S.2.1
  have hown := S.2.2.2.1
  have hts := S.2.2.2.2
  unfold wpC_X0_thought at h
  obtain ⟨hx1, h⟩ := h
  refine lv_aload_n hx hb dX0_thought_0 rfl (lv_at hl 0 rfl) ?_
  refine c_get S hw (n := 0) (ci := 0) (cOk.s (by decide)) (isO_K _) rfl in_X0 4 (by decide) (Or.inl q328) rfl rfl dX0_thought_1 ?_
  refine lv_aload_n hx hb dX0_thought_4 rfl (lv_at hl 0 rfl) ?_
  refine c_get S hw (n := 0) (ci := 0) (cOk.s (by decide)) (isO_K _) rfl in_X0 0 (by decide) (Or.inl q324) rfl rfl dX0_thought_5 ?_
  refine c_get S hw (n := 1) (cOk.s (by decide)) ((isO_S (by decide) (by decide)) _) rfl in_X1 0 (by decide) (Or.inr (List.mem_of_getElem? (i := 11) rfl)) rfl rfl dX0_thought_8 ?_
  refine c_callv hw (va_runV (As := [.ref (ad 4)]) (rest := []) S (ctC_X2_copyOf l D dA ad fv A a 7 4 _ h) (cwC_X0_X2_copyOf hts ⟨Nat.le_of_ble_eq_true rfl, Nat.le_of_ble_eq_true rfl⟩) (c_preV hw (n := 7) (cOk.s (by decide)) ((isO_H (by decide) (by decide)) _) rfl) rfl rfl hl.1 rfl (lv_room (Nat.le_of_ble_eq_true rfl)) dX0_thought_11 ⟨Nat.le_of_ble_eq_true rfl, Nat.le_of_ble_eq_true rfl⟩) (fun a11 H locs h hw => ?_)
  refine lv_aload_n hx hb dX0_thought_14 rfl (lv_at hl 0 rfl) ?_
  refine lv_aload_n hx hb dX0_thought_15 rfl (lv_at hl 0 rfl) ?_
  refine c_get S hw (n := 0) (ci := 0) (cOk.s (by decide)) (isO_K _) rfl in_X0 4 (by decide) (Or.inl q328) rfl rfl dX0_thought_16 ?_
  refine c_putOn S hw (by decide) (by decide) (Or.inl q329) dX0_thought_19 (fun a19 H locs ea19 hw => ?_)
  replace h := h a19 ea19
  refine lv_aload_n hx hb dX0_thought_22 rfl (lv_at hl 0 rfl) ?_
  refine lv_aload_n hx hb dX0_thought_23 rfl (lv_at hl 1 rfl) ?_
  refine lv_iload_n hx hb dX0_thought_24 rfl (lv_at hl 2 rfl) ?_
  refine c_calli hw (va_runV (As := [.ref (ad f1), .int x2]) (rest := []) S (ctC_X0_goesThrough l D dA ad fv A a19 f1 x2 _ h) (cwC_X0_X0_goesThrough hts ⟨Nat.le_of_ble_eq_true rfl, Nat.le_of_ble_eq_true rfl⟩) (c_preV hw (n := 0) (cOk.s (by decide)) (isO_K _) rfl) rfl rfl hl.1 rfl (lv_room (Nat.le_of_ble_eq_true rfl)) dX0_thought_25 ⟨Nat.le_of_ble_eq_true rfl, Nat.le_of_ble_eq_true rfl⟩) (fun r25 a25 H locs h hw => ?_)
  refine lv_istore_n (lv' := [(3, .int r25), (0, .ref (ad 0)), (1, .ref (ad f1)), (2, .int x2)]) hx hb dX0_thought_28 rfl hl (by decide) rfl (fun ls hl => ?_)
  refine lv_aload_n hx hb dX0_thought_29 rfl (lv_at hl 1 rfl) ?_
  refine lv_aload_n hx hb dX0_thought_30 rfl (lv_at hl 1 rfl) ?_
  refine c_get S hw (n := 0) (ci := 0) (cOk.s (by decide)) (isO_K _) rfl in_X0 0 (by decide) (Or.inl q324) rfl rfl dX0_thought_31 ?_
  refine c_get S hw (n := 1) (cOk.s (by decide)) ((isO_S (by decide) (by decide)) _) rfl in_X1 0 (by decide) (Or.inr (List.mem_of_getElem? (i := 11) rfl)) rfl rfl dX0_thought_34 ?_
  refine c_putOn S hw (by decide) (by decide) (Or.inl q329) dX0_thought_37 (fun a37 H locs ea37 hw => ?_)
  replace h := h a37 ea37
  refine lv_iload_n hx hb dX0_thought_40 rfl (lv_at hl 0 rfl) ?_
  exact c_iret S hr hlk hw h dX0_thought_41
theorem ctC_X0_thought (l : Launch) (D : va_G) (dA : Nat → ClassId) (ad : Nat → Nat) (fv : Nat → Value) (A : Nat → Prop) (a : CS) (f1 : Nat) (x2 : Int32) (Q : Int32 → CS → Prop) (h : wpC_X0_thought a f1 x2 Q) : Met l yX0_thought (ws_ yX0_thought cX0_thought 4 (some .int)) rmC_X0_thought (cPc D dA ad fv A a [.ref (ad 0), .ref (ad f1), .int x2]) (cQi D dA ad fv A Q) 0 0 A :=
  c_met (by decide) rfl rfl rfl (Nat.le_of_ble_eq_true rfl) (fun p e s m below meth c ls S hr hlk hin2 hw hl => wkC_X0_thought_e S hr hlk Q f1 x2 a _ _ ls h hw hl)
theorem cwC_X0_X0_thought {R : Room} {s : State} {args : Array Value} {rm : Room} (hts : ∀ w ∈ lw_all, w.before args s = true) (hR : rm.frames + 1 ≤ R.frames ∧ 8 + (4 + 11) + rm.locals ≤ R.locals) (hc : rm.cells = 0 := by rfl) (hs : rm.slots = 0 := by rfl) : CallW R s args RX0 RX0 453 yX0_thought cX0_thought 4 (some .int) (ws_ yX0_thought cX0_thought 4 (some .int)) rm 0 0 2 :=
  cwV 2 hts (lw_V q1020 q1022 qs35 q103 q1023) rfl hc hs (by decide +kernel) hR
/-! X0.sets -/
abbrev rmC_X0_sets : Room := { frames := 0, cells := 0, slots := 0, locals := 0 }
def wpC_X0_sets (a : CS) (Q : Int32 → CS → Prop) : Prop := Q (ishl (1 : Int32) (a.1 1 1)) a
set_option maxHeartbeats 4000000 in
set_option maxRecDepth 100000 in
theorem wkC_X0_sets_e (S : CallFix p m c cX0_sets 1 s args lw_all RX0) (hr : meth.sig.returnType = (some .int)) (hlk : meth.locks = false) (Q : Int32 → CS → Prop) (a : CS) (H : Heap) (locs : List Loc) (ls : Array Slot) (h : wpC_X0_sets a Q) (hw : CW D dA ad fv A a s H locs) (hl : lv_has ls 1 [(0, .ref (ad 0))]) : W p l e rmC_X0_sets s m args below meth c H locs 0 0 (MQ below (cQi D dA ad fv A Q) args s 0 0 A) (F0 m 0 ls []) := by
  have hx := S.1
  have hb := S.2.1
  have hown := S.2.2.2.1
  have hts := S.2.2.2.2
  unfold wpC_X0_sets at h
  refine lv_iconst (v := (1 : Int32)) hx hb dX0_sets_0 (by decide) ?_
  refine lv_aload_n hx hb dX0_sets_1 rfl (lv_at hl 0 rfl) ?_
  refine c_get S hw (n := 0) (ci := 0) (cOk.s (by decide)) (isO_K _) rfl in_X0 0 (by decide) (Or.inl q324) rfl rfl dX0_sets_2 ?_
  refine c_get S hw (n := 1) (cOk.s (by decide)) ((isO_S (by decide) (by decide)) _) rfl in_X1 1 (by decide) (Or.inr (List.mem_of_getElem? (i := 12) rfl)) rfl rfl dX0_sets_5 ?_
  refine lv_ishl hx hb dX0_sets_8 ?_
  exact c_iret S hr hlk hw h dX0_sets_9
theorem ctC_X0_sets (l : Launch) (D : va_G) (dA : Nat → ClassId) (ad : Nat → Nat) (fv : Nat → Value) (A : Nat → Prop) (a : CS) (Q : Int32 → CS → Prop) (h : wpC_X0_sets a Q) : Met l yX0_sets (ws_ yX0_sets cX0_sets 1 (some .int)) rmC_X0_sets (cPc D dA ad fv A a [.ref (ad 0)]) (cQi D dA ad fv A Q) 0 0 A :=
  c_met (by decide) rfl rfl rfl (Nat.le_of_ble_eq_true rfl) (fun p e s m below meth c ls S hr hlk hin2 hw hl => wkC_X0_sets_e S hr hlk Q a _ _ ls h hw hl)
theorem cwC_X0_X0_sets {R : Room} {s : State} {args : Array Value} {rm : Room} (hts : ∀ w ∈ lw_all, w.before args s = true) (hR : rm.frames + 1 ≤ R.frames ∧ 8 + (1 + 11) + rm.locals ≤ R.locals) (hc : rm.cells = 0 := by rfl) (hs : rm.slots = 0 := by rfl) : CallW R s args RX0 RX0 456 yX0_sets cX0_sets 1 (some .int) (ws_ yX0_sets cX0_sets 1 (some .int)) rm 0 0 0 :=
  cwV 0 hts (lw_V q1042 q1044 qs37 q103 q1045) rfl hc hs (by decide +kernel) hR
/-! X0.findFits -/
abbrev rmC_X0_findFits : Room := { frames := 1, cells := 0, slots := 0, locals := 20 }
def bkC_X0_findFits_14 (Q : CS → Prop) (O2 : Int32 → CS → Prop) : Nat → Int32 → Int32 → Int32 → CS → Prop
  | 0 => fun _ _ _ _ => False
  | n + 1 => fun x1 x2 x3 a => if (a.1 1 1) ≤ x3 then (if (a.1 1 3) < x2 then ((vp_in x1 256) ∧ (∀ a74 : CS, a74 = wI a 76 x1.toNatClampNeg (vp_nar .boolean (0 : Int32)) → (O2 (x1 + (1 : Int32)) a74))) else ((vp_in x1 256) ∧ (∀ a74 : CS, a74 = wI a 76 x1.toNatClampNeg (vp_nar .boolean (1 : Int32)) → (O2 (x1 + (1 : Int32)) a74)))) else (if ((ishr x1 x3) &&& (1 : Int32)) = (1 : Int32) then ((vp_in x3 8) ∧ (bkC_X0_findFits_14 Q O2 n x1 (x2 + (a.1 73 x3.toNatClampNeg)) (x3 + (1 : Int32)) a)) else (bkC_X0_findFits_14 Q O2 n x1 (x2 + (0 : Int32)) (x3 + (1 : Int32)) a))
set_option maxHeartbeats 4000000 in
set_option maxRecDepth 100000 in
theorem wkC_X0_findFits_14 (S : CallFix p m c cX0_findFits 4 s args lw_all RX0) (hr : meth.sig.returnType = none) (hlk : meth.locks = false) (Q : CS → Prop) {O2 : Int32 → CS → Prop} (hO2 : ∀ (x1 : Int32) (a : CS) (H : Heap) (locs : List Loc) (ls : Array Slot), O2 x1 a → CW D dA ad fv A a s H locs → lv_has ls 4 [(0, .ref (ad 0)), (1, .int x1)] → W p l e rmC_X0_findFits s m args below meth c H locs 0 0 (MQ below (cQv D dA ad fv A Q) args s 0 0 A) (F0 m 2 ls [])) : ∀ (n : Nat) (x1 : Int32) (x2 : Int32) (x3 : Int32) (a : CS) (H : Heap) (locs : List Loc) (ls : Array Slot), bkC_X0_findFits_14 Q O2 n x1 x2 x3 a → CW D dA ad fv A a s H locs → lv_has ls 4 [(0, .ref (ad 0)), (1, .int x1), (2, .int x2), (3, .int x3)] → W p l e rmC_X0_findFits s m args below meth c H locs 0 0 (MQ below (cQv D dA ad fv A Q) args s 0 0 A) (F0 m 14 ls []) := by
  have hx := S.1
  have hb := S.2.1
  have hown := S.2.2.2.1
  have hts := S.2.2.2.2
  intro n
  induction n with
  | zero =>
    intro x1 x2 x3 a H locs ls h
    exact False.elim h
  | succ n ih =>
    intro x1 x2 x3 a H locs ls h hw hl
    unfold bkC_X0_findFits_14 at h
    refine lv_iload_n hx hb dX0_findFits_14 rfl (lv_at hl 3 rfl) ?_
    refine lv_aload_n hx hb dX0_findFits_15 rfl (lv_at hl 0 rfl) ?_
    refine c_get S hw (n := 0) (ci := 0) (cOk.s (by decide)) (isO_K _) rfl in_X0 0 (by decide) (Or.inl q324) rfl rfl dX0_findFits_16 ?_
    refine c_get S hw (n := 1) (cOk.s (by decide)) ((isO_S (by decide) (by decide)) _) rfl in_X1 1 (by decide) (Or.inr (List.mem_of_getElem? (i := 12) rfl)) rfl rfl dX0_findFits_19 ?_
    refine lv_icmp_ge (tgt := 53) hx hb dX0_findFits_22 (by decide) (fun c22 => ?_) (fun c22 => ?_)
    · replace h := if_t c22 h
      refine lv_aload_n hx hb dX0_findFits_53 rfl (lv_at hl 0 rfl) ?_
      refine c_get S hw (n := 0) (ci := 0) (cOk.s (by decide)) (isO_K _) rfl in_X0 21 (by decide) (Or.inl q345) rfl rfl dX0_findFits_54 ?_
      refine lv_iload_n hx hb dX0_findFits_57 rfl (lv_at hl 1 rfl) ?_
      refine lv_iload_n hx hb dX0_findFits_58 rfl (lv_at hl 2 rfl) ?_
      refine lv_aload_n hx hb dX0_findFits_59 rfl (lv_at hl 0 rfl) ?_
      refine c_get S hw (n := 0) (ci := 0) (cOk.s (by decide)) (isO_K _) rfl in_X0 0 (by decide) (Or.inl q324) rfl rfl dX0_findFits_60 ?_
      refine c_get S hw (n := 1) (cOk.s (by decide)) ((isO_S (by decide) (by decide)) _) rfl in_X1 3 (by decide) (Or.inr (List.mem_of_getElem? (i := 14) rfl)) rfl rfl dX0_findFits_63 ?_
      refine lv_icmp_gt (tgt := 73) hx hb dX0_findFits_66 (by decide) (fun c66 => ?_) (fun c66 => ?_)
      · replace h := if_t c66 h
        refine lv_iconst (v := (0 : Int32)) hx hb dX0_findFits_73 (by decide) ?_
        have hi74 := h.1
        replace h := h.2
        refine c_ast S hw (n := 76) (by decide) (cOk.s (by decide)) (fun _ => rfl) hi74 (Or.inr (Or.inr (Or.inl ⟨rfl, rfl, dX0_findFits_74⟩))) (fun a74 H locs ea74 hw => ?_)
        replace h := h a74 ea74
        refine lv_iinc (v := (x1 + (1 : Int32))) (lv' := [(1, .int (x1 + (1 : Int32))), (0, .ref (ad 0)), (2, .int x2), (3, .int x3)]) hx hb dX0_findFits_75 hl (k := 1) rfl rfl (by decide) rfl (fun ls hl => ?_)
        refine lv_goto (tgt := 2) hx hb dX0_findFits_78 (by decide) ?_
        exact hO2 _ _ _ _ _ h hw (lv_sub hl [1, 0] rfl)
      · replace h := if_f c66 h
        refine lv_iconst (v := (1 : Int32)) hx hb dX0_findFits_69 (by decide) ?_
        refine lv_goto (tgt := 74) hx hb dX0_findFits_70 (by decide) ?_
        have hi74 := h.1
        replace h := h.2
        refine c_ast S hw (n := 76) (by decide) (cOk.s (by decide)) (fun _ => rfl) hi74 (Or.inr (Or.inr (Or.inl ⟨rfl, rfl, dX0_findFits_74⟩))) (fun a74 H locs ea74 hw => ?_)
        replace h := h a74 ea74
        refine lv_iinc (v := (x1 + (1 : Int32))) (lv' := [(1, .int (x1 + (1 : Int32))), (0, .ref (ad 0)), (2, .int x2), (3, .int x3)]) hx hb dX0_findFits_75 hl (k := 1) rfl rfl (by decide) rfl (fun ls hl => ?_)
        refine lv_goto (tgt := 2) hx hb dX0_findFits_78 (by decide) ?_
        exact hO2 _ _ _ _ _ h hw (lv_sub hl [1, 0] rfl)
    · replace h := if_f c22 h
      refine lv_iload_n hx hb dX0_findFits_25 rfl (lv_at hl 2 rfl) ?_
      refine lv_iload_n hx hb dX0_findFits_26 rfl (lv_at hl 1 rfl) ?_
      refine lv_iload_n hx hb dX0_findFits_27 rfl (lv_at hl 3 rfl) ?_
      refine lv_ishr hx hb dX0_findFits_28 ?_
      refine lv_iconst (v := (1 : Int32)) hx hb dX0_findFits_29 (by decide) ?_
      refine lv_iand hx hb dX0_findFits_30 ?_
      refine lv_iconst (v := (1 : Int32)) hx hb dX0_findFits_31 (by decide) ?_
      refine lv_icmp_ne (tgt := 44) hx hb dX0_findFits_32 (by decide) (fun c32 => ?_) (fun c32 => ?_)
      · replace h := if_f c32 h
        refine lv_iconst (v := (0 : Int32)) hx hb dX0_findFits_44 (by decide) ?_
        refine lv_iadd hx hb dX0_findFits_45 ?_
        refine lv_istore_n (lv' := [(2, .int (x2 + (0 : Int32))), (0, .ref (ad 0)), (1, .int x1), (3, .int x3)]) hx hb dX0_findFits_46 rfl hl (by decide) rfl (fun ls hl => ?_)
        refine lv_iinc (v := (x3 + (1 : Int32))) (lv' := [(3, .int (x3 + (1 : Int32))), (2, .int (x2 + (0 : Int32))), (0, .ref (ad 0)), (1, .int x1)]) hx hb dX0_findFits_47 hl (k := 3) rfl rfl (by decide) rfl (fun ls hl => ?_)
        refine lv_goto (tgt := 14) hx hb dX0_findFits_50 (by decide) ?_
        exact ih _ _ _ _ _ _ _ h hw (lv_sub hl [2, 3, 1, 0] rfl)
      · replace h := if_t c32 h
        refine lv_aload_n hx hb dX0_findFits_35 rfl (lv_at hl 0 rfl) ?_
        refine c_get S hw (n := 0) (ci := 0) (cOk.s (by decide)) (isO_K _) rfl in_X0 18 (by decide) (Or.inl q342) rfl rfl dX0_findFits_36 ?_
        refine lv_iload_n hx hb dX0_findFits_39 rfl (lv_at hl 3 rfl) ?_
        have hi40 := h.1
        replace h := h.2
        refine c_ald S hw (n := 73) (cOk.s (by decide)) (fun _ => rfl) hi40 (Or.inl ⟨rfl, dX0_findFits_40⟩) ?_
        refine lv_goto (tgt := 45) hx hb dX0_findFits_41 (by decide) ?_
        refine lv_iadd hx hb dX0_findFits_45 ?_
        refine lv_istore_n (lv' := [(2, .int (x2 + (a.1 73 x3.toNatClampNeg))), (0, .ref (ad 0)), (1, .int x1), (3, .int x3)]) hx hb dX0_findFits_46 rfl hl (by decide) rfl (fun ls hl => ?_)
        refine lv_iinc (v := (x3 + (1 : Int32))) (lv' := [(3, .int (x3 + (1 : Int32))), (2, .int (x2 + (a.1 73 x3.toNatClampNeg))), (0, .ref (ad 0)), (1, .int x1)]) hx hb dX0_findFits_47 hl (k := 3) rfl rfl (by decide) rfl (fun ls hl => ?_)
        refine lv_goto (tgt := 14) hx hb dX0_findFits_50 (by decide) ?_
        exact ih _ _ _ _ _ _ _ h hw (lv_sub hl [2, 3, 1, 0] rfl)
def bkC_X0_findFits_2 (Q : CS → Prop) : Nat → Int32 → CS → Prop
  | 0 => fun _ _ => False
  | n + 1 => fun x1 a => wpC_X0_sets a (fun r4 a4 => if r4 ≤ x1 then (Q a4) else (∃ n14, bkC_X0_findFits_14 Q (bkC_X0_findFits_2 Q n) n14 x1 (0 : Int32) (0 : Int32) a4))
set_option maxHeartbeats 4000000 in
set_option maxRecDepth 100000 in
theorem wkC_X0_findFits_2 (S : CallFix p m c cX0_findFits 4 s args lw_all RX0) (hr : meth.sig.returnType = none) (hlk : meth.locks = false) (Q : CS → Prop) : ∀ (n : Nat) (x1 : Int32) (a : CS) (H : Heap) (locs : List Loc) (ls : Array Slot), bkC_X0_findFits_2 Q n x1 a → CW D dA ad fv A a s H locs → lv_has ls 4 [(0, .ref (ad 0)), (1, .int x1)] → W p l e rmC_X0_findFits s m args below meth c H locs 0 0 (MQ below (cQv D dA ad fv A Q) args s 0 0 A) (F0 m 2 ls []) := by
  have hx := S.1
  have hb := S.2.1
  have hown := S.2.2.2.1
  have hts := S.2.2.2.2
  intro n
  induction n with
  | zero =>
    intro x1 a H locs ls h
    exact False.elim h
  | succ n ih =>
    intro x1 a H locs ls h hw hl
    unfold bkC_X0_findFits_2 at h
    refine lv_iload_n hx hb dX0_findFits_2 rfl (lv_at hl 1 rfl) ?_
    refine lv_aload_n hx hb dX0_findFits_3 rfl (lv_at hl 0 rfl) ?_
    refine c_calli hw (va_runV (As := []) (rest := [.int x1]) S (ctC_X0_sets l D dA ad fv A a _ h) (cwC_X0_X0_sets hts ⟨Nat.le_of_ble_eq_true rfl, Nat.le_of_ble_eq_true rfl⟩) (c_preV hw (n := 0) (cOk.s (by decide)) (isO_K _) rfl) rfl rfl hl.1 rfl (lv_room (Nat.le_of_ble_eq_true rfl)) dX0_findFits_4 ⟨Nat.le_of_ble_eq_true rfl, Nat.le_of_ble_eq_true rfl⟩) (fun r4 a4 H locs h hw => ?_)
    refine lv_icmp_ge (tgt := 81) hx hb dX0_findFits_7 (by decide) (fun c7 => ?_) (fun c7 => ?_)
    · replace h := if_t c7 h
      exact c_vret S hr hlk hw h dX0_findFits_81
    · replace h := if_f c7 h
      refine lv_iconst (v := (0 : Int32)) hx hb dX0_findFits_10 (by decide) ?_
      refine lv_istore_n (lv' := [(2, .int (0 : Int32)), (0, .ref (ad 0)), (1, .int x1)]) hx hb dX0_findFits_11 rfl hl (by decide) rfl (fun ls hl => ?_)
      refine lv_iconst (v := (0 : Int32)) hx hb dX0_findFits_12 (by decide) ?_
      refine lv_istore_n (lv' := [(3, .int (0 : Int32)), (2, .int (0 : Int32)), (0, .ref (ad 0)), (1, .int x1)]) hx hb dX0_findFits_13 rfl hl (by decide) rfl (fun ls hl => ?_)
      obtain ⟨n14, h⟩ := h
      exact wkC_X0_findFits_14 S hr hlk Q ih n14 _ _ _ _ _ _ _ h hw (lv_sub hl [2, 3, 1, 0] rfl)
def wpC_X0_findFits (a : CS) (Q : CS → Prop) : Prop := ∃ n2, bkC_X0_findFits_2 Q n2 (0 : Int32) a
set_option maxHeartbeats 4000000 in
set_option maxRecDepth 100000 in
theorem wkC_X0_findFits_e (S : CallFix p m c cX0_findFits 4 s args lw_all RX0) (hr : meth.sig.returnType = none) (hlk : meth.locks = false) (Q : CS → Prop) (a : CS) (H : Heap) (locs : List Loc) (ls : Array Slot) (h : wpC_X0_findFits a Q) (hw : CW D dA ad fv A a s H locs) (hl : lv_has ls 4 [(0, .ref (ad 0))]) : W p l e rmC_X0_findFits s m args below meth c H locs 0 0 (MQ below (cQv D dA ad fv A Q) args s 0 0 A) (F0 m 0 ls []) := by
  have hx := S.1
  have hb := S.2.1
  have hown := S.2.2.2.1
  have hts := S.2.2.2.2
  unfold wpC_X0_findFits at h
  refine lv_iconst (v := (0 : Int32)) hx hb dX0_findFits_0 (by decide) ?_
  refine lv_istore_n (lv' := [(1, .int (0 : Int32)), (0, .ref (ad 0))]) hx hb dX0_findFits_1 rfl hl (by decide) rfl (fun ls hl => ?_)
  obtain ⟨n2, h⟩ := h
  exact wkC_X0_findFits_2 S hr hlk Q n2 _ _ _ _ _ h hw (lv_sub hl [1, 0] rfl)
theorem ctC_X0_findFits (l : Launch) (D : va_G) (dA : Nat → ClassId) (ad : Nat → Nat) (fv : Nat → Value) (A : Nat → Prop) (a : CS) (Q : CS → Prop) (h : wpC_X0_findFits a Q) : Met l yX0_findFits (ws_ yX0_findFits cX0_findFits 4 none) rmC_X0_findFits (cPc D dA ad fv A a [.ref (ad 0)]) (cQv D dA ad fv A Q) 0 0 A :=
  c_met (by decide) rfl rfl rfl (Nat.le_of_ble_eq_true rfl) (fun p e s m below meth c ls S hr hlk hin2 hw hl => wkC_X0_findFits_e S hr hlk Q a _ _ ls h hw hl)
theorem cwC_X0_X0_findFits {R : Room} {s : State} {args : Array Value} {rm : Room} (hts : ∀ w ∈ lw_all, w.before args s = true) (hR : rm.frames + 1 ≤ R.frames ∧ 8 + (4 + 11) + rm.locals ≤ R.locals) (hc : rm.cells = 0 := by rfl) (hs : rm.slots = 0 := by rfl) : CallW R s args RX0 RX0 466 yX0_findFits cX0_findFits 4 none (ws_ yX0_findFits cX0_findFits 4 none) rm 0 0 0 :=
  cwV 0 hts (lw_V q1038 q1040 qs36 q103 q1041) rfl hc hs (by decide +kernel) hR
/-! X0.findInside -/
abbrev rmC_X0_findInside : Room := { frames := 1, cells := 0, slots := 0, locals := 21 }
def bkC_X0_findInside_58 (Q : CS → Prop) (O45 : Int32 → CS → Prop) : Nat → Int32 → Int32 → CS → Prop
  | 0 => fun _ _ _ => False
  | n + 1 => fun x1 x2 a => wpC_X0_sets a (fun r60 a60 => if r60 ≤ x2 then (O45 (x1 + (1 : Int32)) a60) else (if ((ishr x2 x1) &&& (1 : Int32)) = (1 : Int32) then ((vp_in x2 256) ∧ ((vp_in (x2 &&& ((ishl (1 : Int32) x1) ^^^ (-1 : Int32))) 256) ∧ ((vp_in x2 256) ∧ (∀ a101 : CS, a101 = wI a60 78 x2.toNatClampNeg (if (a60.1 78 (x2 &&& ((ishl (1 : Int32) x1) ^^^ (-1 : Int32))).toNatClampNeg) < (a60.1 78 x2.toNatClampNeg) then (a60.1 78 (x2 &&& ((ishl (1 : Int32) x1) ^^^ (-1 : Int32))).toNatClampNeg) else (a60.1 78 x2.toNatClampNeg)) → (bkC_X0_findInside_58 Q O45 n x1 (x2 + (1 : Int32)) a101))))) else (bkC_X0_findInside_58 Q O45 n x1 (x2 + (1 : Int32)) a60)))
set_option maxHeartbeats 4000000 in
set_option maxRecDepth 100000 in
theorem wkC_X0_findInside_58 (S : CallFix p m c cX0_findInside 3 s args lw_all RX0) (hr : meth.sig.returnType = none) (hlk : meth.locks = false) (Q : CS → Prop) {O45 : Int32 → CS → Prop} (hO45 : ∀ (x1 : Int32) (a : CS) (H : Heap) (locs : List Loc) (ls : Array Slot), O45 x1 a → CW D dA ad fv A a s H locs → lv_has ls 3 [(0, .ref (ad 0)), (1, .int x1)] → W p l e rmC_X0_findInside s m args below meth c H locs 0 0 (MQ below (cQv D dA ad fv A Q) args s 0 0 A) (F0 m 45 ls [])) : ∀ (n : Nat) (x1 : Int32) (x2 : Int32) (a : CS) (H : Heap) (locs : List Loc) (ls : Array Slot), bkC_X0_findInside_58 Q O45 n x1 x2 a → CW D dA ad fv A a s H locs → lv_has ls 3 [(0, .ref (ad 0)), (1, .int x1), (2, .int x2)] → W p l e rmC_X0_findInside s m args below meth c H locs 0 0 (MQ below (cQv D dA ad fv A Q) args s 0 0 A) (F0 m 58 ls []) := by
  have hx := S.1
  have hb := S.2.1
  have hown := S.2.2.2.1
  have hts := S.2.2.2.2
  intro n
  induction n with
  | zero =>
    intro x1 x2 a H locs ls h
    exact False.elim h
  | succ n ih =>
    intro x1 x2 a H locs ls h hw hl
    unfold bkC_X0_findInside_58 at h
    refine lv_iload_n hx hb dX0_findInside_58 rfl (lv_at hl 2 rfl) ?_
    refine lv_aload_n hx hb dX0_findInside_59 rfl (lv_at hl 0 rfl) ?_
    refine c_calli hw (va_runV (As := []) (rest := [.int x2]) S (ctC_X0_sets l D dA ad fv A a _ h) (cwC_X0_X0_sets hts ⟨Nat.le_of_ble_eq_true rfl, Nat.le_of_ble_eq_true rfl⟩) (c_preV hw (n := 0) (cOk.s (by decide)) (isO_K _) rfl) rfl rfl hl.1 rfl (lv_room (Nat.le_of_ble_eq_true rfl)) dX0_findInside_60 ⟨Nat.le_of_ble_eq_true rfl, Nat.le_of_ble_eq_true rfl⟩) (fun r60 a60 H locs h hw => ?_)
    refine lv_icmp_ge (tgt := 108) hx hb dX0_findInside_63 (by decide) (fun c63 => ?_) (fun c63 => ?_)
    · replace h := if_t c63 h
      refine lv_iinc (v := (x1 + (1 : Int32))) (lv' := [(1, .int (x1 + (1 : Int32))), (0, .ref (ad 0)), (2, .int x2)]) hx hb dX0_findInside_108 hl (k := 1) rfl rfl (by decide) rfl (fun ls hl => ?_)
      refine lv_goto (tgt := 45) hx hb dX0_findInside_111 (by decide) ?_
      exact hO45 _ _ _ _ _ h hw (lv_sub hl [1, 0] rfl)
    · replace h := if_f c63 h
      refine lv_iload_n hx hb dX0_findInside_66 rfl (lv_at hl 2 rfl) ?_
      refine lv_iload_n hx hb dX0_findInside_67 rfl (lv_at hl 1 rfl) ?_
      refine lv_ishr hx hb dX0_findInside_68 ?_
      refine lv_iconst (v := (1 : Int32)) hx hb dX0_findInside_69 (by decide) ?_
      refine lv_iand hx hb dX0_findInside_70 ?_
      refine lv_iconst (v := (1 : Int32)) hx hb dX0_findInside_71 (by decide) ?_
      refine lv_icmp_ne (tgt := 102) hx hb dX0_findInside_72 (by decide) (fun c72 => ?_) (fun c72 => ?_)
      · replace h := if_f c72 h
        refine lv_iinc (v := (x2 + (1 : Int32))) (lv' := [(2, .int (x2 + (1 : Int32))), (0, .ref (ad 0)), (1, .int x1)]) hx hb dX0_findInside_102 hl (k := 2) rfl rfl (by decide) rfl (fun ls hl => ?_)
        refine lv_goto (tgt := 58) hx hb dX0_findInside_105 (by decide) ?_
        exact ih _ _ _ _ _ _ h hw (lv_sub hl [1, 2, 0] rfl)
      · replace h := if_t c72 h
        refine lv_aload_n hx hb dX0_findInside_75 rfl (lv_at hl 0 rfl) ?_
        refine c_get S hw (n := 0) (ci := 0) (cOk.s (by decide)) (isO_K _) rfl in_X0 23 (by decide) (Or.inl q347) rfl rfl dX0_findInside_76 ?_
        refine lv_iload_n hx hb dX0_findInside_79 rfl (lv_at hl 2 rfl) ?_
        refine lv_aload_n hx hb dX0_findInside_80 rfl (lv_at hl 0 rfl) ?_
        refine c_get S hw (n := 0) (ci := 0) (cOk.s (by decide)) (isO_K _) rfl in_X0 23 (by decide) (Or.inl q347) rfl rfl dX0_findInside_81 ?_
        refine lv_iload_n hx hb dX0_findInside_84 rfl (lv_at hl 2 rfl) ?_
        have hi85 := h.1
        replace h := h.2
        refine c_ald S hw (n := 78) (cOk.s (by decide)) (fun _ => rfl) hi85 (Or.inl ⟨rfl, dX0_findInside_85⟩) ?_
        refine lv_aload_n hx hb dX0_findInside_86 rfl (lv_at hl 0 rfl) ?_
        refine c_get S hw (n := 0) (ci := 0) (cOk.s (by decide)) (isO_K _) rfl in_X0 23 (by decide) (Or.inl q347) rfl rfl dX0_findInside_87 ?_
        refine lv_iload_n hx hb dX0_findInside_90 rfl (lv_at hl 2 rfl) ?_
        refine lv_iconst (v := (1 : Int32)) hx hb dX0_findInside_91 (by decide) ?_
        refine lv_iload_n hx hb dX0_findInside_92 rfl (lv_at hl 1 rfl) ?_
        refine lv_ishl hx hb dX0_findInside_93 ?_
        refine lv_iconst (v := (-1 : Int32)) hx hb dX0_findInside_94 (by decide) ?_
        refine lv_ixor hx hb dX0_findInside_95 ?_
        refine lv_iand hx hb dX0_findInside_96 ?_
        have hi97 := h.1
        replace h := h.2
        refine c_ald S hw (n := 78) (cOk.s (by decide)) (fun _ => rfl) hi97 (Or.inl ⟨rfl, dX0_findInside_97⟩) ?_
        refine va_mmin hx hb (S.2.2.1.trans hl.1.symm) hown (hts _ q737) (hts _ q738) (hts _ q119) (hts _ q739) (Nat.le_of_ble_eq_true rfl) (Nat.le_of_ble_eq_true rfl) (Nat.zero_le _) (Nat.zero_le _) dX0_findInside_98 ?_
        have hi101 := h.1
        replace h := h.2
        refine c_ast S hw (n := 78) (by decide) (cOk.s (by decide)) (fun _ => rfl) hi101 (Or.inl ⟨rfl, rfl, dX0_findInside_101⟩) (fun a101 H locs ea101 hw => ?_)
        replace h := h a101 ea101
        refine lv_iinc (v := (x2 + (1 : Int32))) (lv' := [(2, .int (x2 + (1 : Int32))), (0, .ref (ad 0)), (1, .int x1)]) hx hb dX0_findInside_102 hl (k := 2) rfl rfl (by decide) rfl (fun ls hl => ?_)
        refine lv_goto (tgt := 58) hx hb dX0_findInside_105 (by decide) ?_
        exact ih _ _ _ _ _ _ h hw (lv_sub hl [1, 2, 0] rfl)
def bkC_X0_findInside_45 (Q : CS → Prop) : Nat → Int32 → CS → Prop
  | 0 => fun _ _ => False
  | n + 1 => fun x1 a => if (a.1 1 1) ≤ x1 then (Q a) else (∃ n58, bkC_X0_findInside_58 Q (bkC_X0_findInside_45 Q n) n58 x1 (0 : Int32) a)
set_option maxHeartbeats 4000000 in
set_option maxRecDepth 100000 in
theorem wkC_X0_findInside_45 (S : CallFix p m c cX0_findInside 3 s args lw_all RX0) (hr : meth.sig.returnType = none) (hlk : meth.locks = false) (Q : CS → Prop) : ∀ (n : Nat) (x1 : Int32) (a : CS) (H : Heap) (locs : List Loc) (ls : Array Slot), bkC_X0_findInside_45 Q n x1 a → CW D dA ad fv A a s H locs → lv_has ls 3 [(0, .ref (ad 0)), (1, .int x1)] → W p l e rmC_X0_findInside s m args below meth c H locs 0 0 (MQ below (cQv D dA ad fv A Q) args s 0 0 A) (F0 m 45 ls []) := by
  have hx := S.1
  have hb := S.2.1
  have hown := S.2.2.2.1
  have hts := S.2.2.2.2
  intro n
  induction n with
  | zero =>
    intro x1 a H locs ls h
    exact False.elim h
  | succ n ih =>
    intro x1 a H locs ls h hw hl
    unfold bkC_X0_findInside_45 at h
    refine lv_iload_n hx hb dX0_findInside_45 rfl (lv_at hl 1 rfl) ?_
    refine lv_aload_n hx hb dX0_findInside_46 rfl (lv_at hl 0 rfl) ?_
    refine c_get S hw (n := 0) (ci := 0) (cOk.s (by decide)) (isO_K _) rfl in_X0 0 (by decide) (Or.inl q324) rfl rfl dX0_findInside_47 ?_
    refine c_get S hw (n := 1) (cOk.s (by decide)) ((isO_S (by decide) (by decide)) _) rfl in_X1 1 (by decide) (Or.inr (List.mem_of_getElem? (i := 12) rfl)) rfl rfl dX0_findInside_50 ?_
    refine lv_icmp_ge (tgt := 114) hx hb dX0_findInside_53 (by decide) (fun c53 => ?_) (fun c53 => ?_)
    · replace h := if_t c53 h
      exact c_vret S hr hlk hw h dX0_findInside_114
    · replace h := if_f c53 h
      refine lv_iconst (v := (0 : Int32)) hx hb dX0_findInside_56 (by decide) ?_
      refine lv_istore_n (lv' := [(2, .int (0 : Int32)), (0, .ref (ad 0)), (1, .int x1)]) hx hb dX0_findInside_57 rfl hl (by decide) rfl (fun ls hl => ?_)
      obtain ⟨n58, h⟩ := h
      exact wkC_X0_findInside_58 S hr hlk Q ih n58 _ _ _ _ _ _ h hw (lv_sub hl [1, 2, 0] rfl)
def bkC_X0_findInside_2 (Q : CS → Prop) : Nat → Int32 → CS → Prop
  | 0 => fun _ _ => False
  | n + 1 => fun x1 a => wpC_X0_sets a (fun r4 a4 => if r4 ≤ x1 then (∃ n45, bkC_X0_findInside_45 Q n45 (0 : Int32) a4) else ((vp_in x1 256) ∧ (if (a4.1 76 x1.toNatClampNeg) = 0 then ((vp_in x1 256) ∧ (∀ a36 : CS, a36 = wI a4 78 x1.toNatClampNeg (1000000 : Int32) → (bkC_X0_findInside_2 Q n (x1 + (1 : Int32)) a36))) else ((vp_in x1 256) ∧ ((vp_in x1 256) ∧ (∀ a36 : CS, a36 = wI a4 78 x1.toNatClampNeg (a4.1 77 x1.toNatClampNeg) → (bkC_X0_findInside_2 Q n (x1 + (1 : Int32)) a36)))))))
set_option maxHeartbeats 4000000 in
set_option maxRecDepth 100000 in
theorem wkC_X0_findInside_2 (S : CallFix p m c cX0_findInside 3 s args lw_all RX0) (hr : meth.sig.returnType = none) (hlk : meth.locks = false) (Q : CS → Prop) : ∀ (n : Nat) (x1 : Int32) (a : CS) (H : Heap) (locs : List Loc) (ls : Array Slot), bkC_X0_findInside_2 Q n x1 a → CW D dA ad fv A a s H locs → lv_has ls 3 [(0, .ref (ad 0)), (1, .int x1)] → W p l e rmC_X0_findInside s m args below meth c H locs 0 0 (MQ below (cQv D dA ad fv A Q) args s 0 0 A) (F0 m 2 ls []) := by
  have hx := S.1
  have hb := S.2.1
  have hown := S.2.2.2.1
  have hts := S.2.2.2.2
  intro n
  induction n with
  | zero =>
    intro x1 a H locs ls h
    exact False.elim h
  | succ n ih =>
    intro x1 a H locs ls h hw hl
    unfold bkC_X0_findInside_2 at h
    refine lv_iload_n hx hb dX0_findInside_2 rfl (lv_at hl 1 rfl) ?_
    refine lv_aload_n hx hb dX0_findInside_3 rfl (lv_at hl 0 rfl) ?_
    refine c_calli hw (va_runV (As := []) (rest := [.int x1]) S (ctC_X0_sets l D dA ad fv A a _ h) (cwC_X0_X0_sets hts ⟨Nat.le_of_ble_eq_true rfl, Nat.le_of_ble_eq_true rfl⟩) (c_preV hw (n := 0) (cOk.s (by decide)) (isO_K _) rfl) rfl rfl hl.1 rfl (lv_room (Nat.le_of_ble_eq_true rfl)) dX0_findInside_4 ⟨Nat.le_of_ble_eq_true rfl, Nat.le_of_ble_eq_true rfl⟩) (fun r4 a4 H locs h hw => ?_)
    refine lv_icmp_ge (tgt := 43) hx hb dX0_findInside_7 (by decide) (fun c7 => ?_) (fun c7 => ?_)
    · replace h := if_t c7 h
      refine lv_iconst (v := (0 : Int32)) hx hb dX0_findInside_43 (by decide) ?_
      refine lv_istore_n (lv' := [(1, .int (0 : Int32)), (0, .ref (ad 0))]) hx hb dX0_findInside_44 rfl hl (by decide) rfl (fun ls hl => ?_)
      obtain ⟨n45, h⟩ := h
      exact wkC_X0_findInside_45 S hr hlk Q n45 _ _ _ _ _ h hw (lv_sub hl [1, 0] rfl)
    · replace h := if_f c7 h
      refine lv_aload_n hx hb dX0_findInside_10 rfl (lv_at hl 0 rfl) ?_
      refine c_get S hw (n := 0) (ci := 0) (cOk.s (by decide)) (isO_K _) rfl in_X0 23 (by decide) (Or.inl q347) rfl rfl dX0_findInside_11 ?_
      refine lv_iload_n hx hb dX0_findInside_14 rfl (lv_at hl 1 rfl) ?_
      refine lv_aload_n hx hb dX0_findInside_15 rfl (lv_at hl 0 rfl) ?_
      refine c_get S hw (n := 0) (ci := 0) (cOk.s (by decide)) (isO_K _) rfl in_X0 21 (by decide) (Or.inl q345) rfl rfl dX0_findInside_16 ?_
      refine lv_iload_n hx hb dX0_findInside_19 rfl (lv_at hl 1 rfl) ?_
      have hi20 := h.1
      replace h := h.2
      refine c_ald S hw (n := 76) (cOk.s (by decide)) (fun _ => rfl) hi20 (Or.inr (Or.inr (Or.inl ⟨rfl, dX0_findInside_20⟩))) ?_
      refine lv_if_eq (tgt := 33) hx hb dX0_findInside_21 (by decide) (fun c21 => ?_) (fun c21 => ?_)
      · replace h := if_t c21 h
        refine lv_ldcw hx hb hown (hts _ q1054) dX0_findInside_33 ?_
        have hi36 := h.1
        replace h := h.2
        refine c_ast S hw (n := 78) (by decide) (cOk.s (by decide)) (fun _ => rfl) hi36 (Or.inl ⟨rfl, rfl, dX0_findInside_36⟩) (fun a36 H locs ea36 hw => ?_)
        replace h := h a36 ea36
        refine lv_iinc (v := (x1 + (1 : Int32))) (lv' := [(1, .int (x1 + (1 : Int32))), (0, .ref (ad 0))]) hx hb dX0_findInside_37 hl (k := 1) rfl rfl (by decide) rfl (fun ls hl => ?_)
        refine lv_goto (tgt := 2) hx hb dX0_findInside_40 (by decide) ?_
        exact ih _ _ _ _ _ h hw (lv_sub hl [1, 0] rfl)
      · replace h := if_f c21 h
        refine lv_aload_n hx hb dX0_findInside_24 rfl (lv_at hl 0 rfl) ?_
        refine c_get S hw (n := 0) (ci := 0) (cOk.s (by decide)) (isO_K _) rfl in_X0 22 (by decide) (Or.inl q346) rfl rfl dX0_findInside_25 ?_
        refine lv_iload_n hx hb dX0_findInside_28 rfl (lv_at hl 1 rfl) ?_
        have hi29 := h.1
        replace h := h.2
        refine c_ald S hw (n := 77) (cOk.s (by decide)) (fun _ => rfl) hi29 (Or.inl ⟨rfl, dX0_findInside_29⟩) ?_
        refine lv_goto (tgt := 36) hx hb dX0_findInside_30 (by decide) ?_
        have hi36 := h.1
        replace h := h.2
        refine c_ast S hw (n := 78) (by decide) (cOk.s (by decide)) (fun _ => rfl) hi36 (Or.inl ⟨rfl, rfl, dX0_findInside_36⟩) (fun a36 H locs ea36 hw => ?_)
        replace h := h a36 ea36
        refine lv_iinc (v := (x1 + (1 : Int32))) (lv' := [(1, .int (x1 + (1 : Int32))), (0, .ref (ad 0))]) hx hb dX0_findInside_37 hl (k := 1) rfl rfl (by decide) rfl (fun ls hl => ?_)
        refine lv_goto (tgt := 2) hx hb dX0_findInside_40 (by decide) ?_
        exact ih _ _ _ _ _ h hw (lv_sub hl [1, 0] rfl)
def wpC_X0_findInside (a : CS) (Q : CS → Prop) : Prop := ∃ n2, bkC_X0_findInside_2 Q n2 (0 : Int32) a
set_option maxHeartbeats 4000000 in
set_option maxRecDepth 100000 in
theorem wkC_X0_findInside_e (S : CallFix p m c cX0_findInside 3 s args lw_all RX0) (hr : meth.sig.returnType = none) (hlk : meth.locks = false) (Q : CS → Prop) (a : CS) (H : Heap) (locs : List Loc) (ls : Array Slot) (h : wpC_X0_findInside a Q) (hw : CW D dA ad fv A a s H locs) (hl : lv_has ls 3 [(0, .ref (ad 0))]) : W p l e rmC_X0_findInside s m args below meth c H locs 0 0 (MQ below (cQv D dA ad fv A Q) args s 0 0 A) (F0 m 0 ls []) := by
  have hx := S.1
  have hb := S.2.1
  have hown := S.2.2.2.1
  have hts := S.2.2.2.2
  unfold wpC_X0_findInside at h
  refine lv_iconst (v := (0 : Int32)) hx hb dX0_findInside_0 (by decide) ?_
  refine lv_istore_n (lv' := [(1, .int (0 : Int32)), (0, .ref (ad 0))]) hx hb dX0_findInside_1 rfl hl (by decide) rfl (fun ls hl => ?_)
  obtain ⟨n2, h⟩ := h
  exact wkC_X0_findInside_2 S hr hlk Q n2 _ _ _ _ _ h hw (lv_sub hl [1, 0] rfl)
theorem ctC_X0_findInside (l : Launch) (D : va_G) (dA : Nat → ClassId) (ad : Nat → Nat) (fv : Nat → Value) (A : Nat → Prop) (a : CS) (Q : CS → Prop) (h : wpC_X0_findInside a Q) : Met l yX0_findInside (ws_ yX0_findInside cX0_findInside 3 none) rmC_X0_findInside (cPc D dA ad fv A a [.ref (ad 0)]) (cQv D dA ad fv A Q) 0 0 A :=
  c_met (by decide) rfl rfl rfl (Nat.le_of_ble_eq_true rfl) (fun p e s m below meth c ls S hr hlk hin2 hw hl => wkC_X0_findInside_e S hr hlk Q a _ _ ls h hw hl)
theorem cwC_X0_X0_findInside {R : Room} {s : State} {args : Array Value} {rm : Room} (hts : ∀ w ∈ lw_all, w.before args s = true) (hR : rm.frames + 1 ≤ R.frames ∧ 8 + (3 + 11) + rm.locals ≤ R.locals) (hc : rm.cells = 0 := by rfl) (hs : rm.slots = 0 := by rfl) : CallW R s args RX0 RX0 460 yX0_findInside cX0_findInside 3 none (ws_ yX0_findInside cX0_findInside 3 none) rm 0 0 0 :=
  cwV 0 hts (lw_V q1050 q1052 qs39 q103 q1053) rfl hc hs (by decide +kernel) hR
/-! X0.missedOf -/
abbrev rmC_X0_missedOf : Room := { frames := 1, cells := 0, slots := 0, locals := 22 }
def wpC_X0_missedOf (a : CS) (x1 : Int32) (x2 : Int32) (Q : Int32 → CS → Prop) : Prop := wpC_X0_isRead a x1 x2 (fun r3 a3 => if r3 = 0 then ((vp_in x1 8) ∧ (Q (a3.1 74 x1.toNatClampNeg) a3)) else (Q (0 : Int32) a3))
set_option maxHeartbeats 4000000 in
set_option maxRecDepth 100000 in
theorem wkC_X0_missedOf_e (S : CallFix p m c cX0_missedOf 3 s args lw_all RX0) (hr : meth.sig.returnType = (some .int)) (hlk : meth.locks = false) (Q : Int32 → CS → Prop) (x1 : Int32) (x2 : Int32) (a : CS) (H : Heap) (locs : List Loc) (ls : Array Slot) (h : wpC_X0_missedOf a x1 x2 Q) (hw : CW D dA ad fv A a s H locs) (hl : lv_has ls 3 [(0, .ref (ad 0)), (1, .int x1), (2, .int x2)]) : W p l e rmC_X0_missedOf s m args below meth c H locs 0 0 (MQ below (cQi D dA ad fv A Q) args s 0 0 A) (F0 m 0 ls []) := by
  have hx := S.1
  have hb := S.2.1
  have hown := S.2.2.2.1
  have hts := S.2.2.2.2
  unfold wpC_X0_missedOf at h
  refine lv_aload_n hx hb dX0_missedOf_0 rfl (lv_at hl 0 rfl) ?_
  refine lv_iload_n hx hb dX0_missedOf_1 rfl (lv_at hl 1 rfl) ?_
  refine lv_iload_n hx hb dX0_missedOf_2 rfl (lv_at hl 2 rfl) ?_
  refine c_calli hw (va_runV (As := [.int x1, .int x2]) (rest := []) S (ctC_X0_isRead l D dA ad fv A a x1 x2 _ h) (cwC_X0_X0_isRead hts ⟨Nat.le_of_ble_eq_true rfl, Nat.le_of_ble_eq_true rfl⟩) (c_preV hw (n := 0) (cOk.s (by decide)) (isO_K _) rfl) rfl rfl hl.1 rfl (lv_room (Nat.le_of_ble_eq_true rfl)) dX0_missedOf_3 ⟨Nat.le_of_ble_eq_true rfl, Nat.le_of_ble_eq_true rfl⟩) (fun r3 a3 H locs h hw => ?_)
  refine lv_if_eq (tgt := 13) hx hb dX0_missedOf_6 (by decide) (fun c6 => ?_) (fun c6 => ?_)
  · replace h := if_t c6 h
    refine lv_aload_n hx hb dX0_missedOf_13 rfl (lv_at hl 0 rfl) ?_
    refine c_get S hw (n := 0) (ci := 0) (cOk.s (by decide)) (isO_K _) rfl in_X0 19 (by decide) (Or.inl q343) rfl rfl dX0_missedOf_14 ?_
    refine lv_iload_n hx hb dX0_missedOf_17 rfl (lv_at hl 1 rfl) ?_
    have hi18 := h.1
    replace h := h.2
    refine c_ald S hw (n := 74) (cOk.s (by decide)) (fun _ => rfl) hi18 (Or.inl ⟨rfl, dX0_missedOf_18⟩) ?_
    exact c_iret S hr hlk hw h dX0_missedOf_19
  · replace h := if_f c6 h
    refine lv_iconst (v := (0 : Int32)) hx hb dX0_missedOf_9 (by decide) ?_
    refine lv_goto (tgt := 19) hx hb dX0_missedOf_10 (by decide) ?_
    exact c_iret S hr hlk hw h dX0_missedOf_19
theorem ctC_X0_missedOf (l : Launch) (D : va_G) (dA : Nat → ClassId) (ad : Nat → Nat) (fv : Nat → Value) (A : Nat → Prop) (a : CS) (x1 : Int32) (x2 : Int32) (Q : Int32 → CS → Prop) (h : wpC_X0_missedOf a x1 x2 Q) : Met l yX0_missedOf (ws_ yX0_missedOf cX0_missedOf 3 (some .int)) rmC_X0_missedOf (cPc D dA ad fv A a [.ref (ad 0), .int x1, .int x2]) (cQi D dA ad fv A Q) 0 0 A :=
  c_met (by decide) rfl rfl rfl (Nat.le_of_ble_eq_true rfl) (fun p e s m below meth c ls S hr hlk hin2 hw hl => wkC_X0_missedOf_e S hr hlk Q x1 x2 a _ _ ls h hw hl)
theorem cwC_X0_X0_missedOf {R : Room} {s : State} {args : Array Value} {rm : Room} (hts : ∀ w ∈ lw_all, w.before args s = true) (hR : rm.frames + 1 ≤ R.frames ∧ 8 + (3 + 11) + rm.locals ≤ R.locals) (hc : rm.cells = 0 := by rfl) (hs : rm.slots = 0 := by rfl) : CallW R s args RX0 RX0 463 yX0_missedOf cX0_missedOf 3 (some .int) (ws_ yX0_missedOf cX0_missedOf 3 (some .int)) rm 0 0 2 :=
  cwV 2 hts (lw_V q1055 q1057 qs40 q103 q1058) rfl hc hs (by decide +kernel) hR
/-! X0.leastOf -/
abbrev rmC_X0_leastOf : Room := { frames := 2, cells := 0, slots := 0, locals := 44 }
def bkC_X0_leastOf_44 (Q : Int32 → CS → Prop) (f1 : Nat) (x2 : Int32) (O33 : Int32 → CS → Prop) : Nat → Int32 → Int32 → CS → Prop
  | 0 => fun _ _ _ => False
  | n + 1 => fun x3 x4 a => wpC_X0_sets a (fun r47 a47 => if r47 ≤ x4 then (O33 (x3 + (-1 : Int32)) a47) else ((vp_in x3 (rlen f1)) ∧ (wpC_X0_missedOf a47 (a47.1 f1 x3.toNatClampNeg) x4 (fun r65 a65 => (vp_in x3 (rlen f1)) ∧ ((vp_in (x4 ||| (ishl (1 : Int32) (a65.1 f1 x3.toNatClampNeg))) 256) ∧ ((vp_in x4 256) ∧ (∀ a82 : CS, a82 = wI a65 77 x4.toNatClampNeg (r65 + (a65.1 78 (x4 ||| (ishl (1 : Int32) (a65.1 f1 x3.toNatClampNeg))).toNatClampNeg)) → (bkC_X0_leastOf_44 Q f1 x2 O33 n x3 (x4 + (1 : Int32)) a82))))))))
set_option maxHeartbeats 4000000 in
set_option maxRecDepth 100000 in
theorem wkC_X0_leastOf_44 (S : CallFix p m c cX0_leastOf 5 s args lw_all RX0) (hr : meth.sig.returnType = (some .int)) (hlk : meth.locks = false) (Q : Int32 → CS → Prop) (f1 : Nat) (x2 : Int32) (hx1 : rowK f1) {O33 : Int32 → CS → Prop} (hO33 : ∀ (x3 : Int32) (a : CS) (H : Heap) (locs : List Loc) (ls : Array Slot), O33 x3 a → CW D dA ad fv A a s H locs → lv_has ls 5 [(0, .ref (ad 0)), (1, .ref (ad f1)), (3, .int x3)] → W p l e rmC_X0_leastOf s m args below meth c H locs 0 0 (MQ below (cQi D dA ad fv A Q) args s 0 0 A) (F0 m 33 ls [])) : ∀ (n : Nat) (x3 : Int32) (x4 : Int32) (a : CS) (H : Heap) (locs : List Loc) (ls : Array Slot), bkC_X0_leastOf_44 Q f1 x2 O33 n x3 x4 a → CW D dA ad fv A a s H locs → lv_has ls 5 [(0, .ref (ad 0)), (1, .ref (ad f1)), (3, .int x3), (4, .int x4)] → W p l e rmC_X0_leastOf s m args below meth c H locs 0 0 (MQ below (cQi D dA ad fv A Q) args s 0 0 A) (F0 m 44 ls []) := by
  have hx := S.1
  have hb := S.2.1
  have hown := S.2.2.2.1
  have hts := S.2.2.2.2
  intro n
  induction n with
  | zero =>
    intro x3 x4 a H locs ls h
    exact False.elim h
  | succ n ih =>
    intro x3 x4 a H locs ls h hw hl
    unfold bkC_X0_leastOf_44 at h
    refine lv_iload hx hb dX0_leastOf_44 (lv_at hl 3 rfl) ?_
    refine lv_aload_n hx hb dX0_leastOf_46 rfl (lv_at hl 0 rfl) ?_
    refine c_calli hw (va_runV (As := []) (rest := [.int x4]) S (ctC_X0_sets l D dA ad fv A a _ h) (cwC_X0_X0_sets hts ⟨Nat.le_of_ble_eq_true rfl, Nat.le_of_ble_eq_true rfl⟩) (c_preV hw (n := 0) (cOk.s (by decide)) (isO_K _) rfl) rfl rfl hl.1 rfl (lv_room (Nat.le_of_ble_eq_true rfl)) dX0_leastOf_47 ⟨Nat.le_of_ble_eq_true rfl, Nat.le_of_ble_eq_true rfl⟩) (fun r47 a47 H locs h hw => ?_)
    refine lv_icmp_ge (tgt := 89) hx hb dX0_leastOf_50 (by decide) (fun c50 => ?_) (fun c50 => ?_)
    · replace h := if_t c50 h
      refine lv_iinc (v := (x3 + (-1 : Int32))) (lv' := [(3, .int (x3 + (-1 : Int32))), (0, .ref (ad 0)), (1, .ref (ad f1)), (4, .int x4)]) hx hb dX0_leastOf_89 hl (k := 2) rfl rfl (by decide) rfl (fun ls hl => ?_)
      refine lv_goto (tgt := 33) hx hb dX0_leastOf_92 (by decide) ?_
      exact hO33 _ _ _ _ _ h hw (lv_sub hl [1, 2, 0] rfl)
    · replace h := if_f c50 h
      refine lv_aload_n hx hb dX0_leastOf_53 rfl (lv_at hl 0 rfl) ?_
      refine c_get S hw (n := 0) (ci := 0) (cOk.s (by decide)) (isO_K _) rfl in_X0 22 (by decide) (Or.inl q346) rfl rfl dX0_leastOf_54 ?_
      refine lv_iload hx hb dX0_leastOf_57 (lv_at hl 3 rfl) ?_
      refine lv_aload_n hx hb dX0_leastOf_59 rfl (lv_at hl 0 rfl) ?_
      refine lv_aload_n hx hb dX0_leastOf_60 rfl (lv_at hl 1 rfl) ?_
      refine lv_iload_n hx hb dX0_leastOf_61 rfl (lv_at hl 2 rfl) ?_
      have hi62 := h.1
      replace h := h.2
      refine c_ald S hw (n := f1) hx1.ok hx1.isA hi62 (Or.inl ⟨rfl, dX0_leastOf_62⟩) ?_
      refine lv_iload hx hb dX0_leastOf_63 (lv_at hl 3 rfl) ?_
      refine c_calli hw (va_runV (As := [.int (a47.1 f1 x3.toNatClampNeg), .int x4]) (rest := [.int x4, .ref (ad 77)]) S (ctC_X0_missedOf l D dA ad fv A a47 (a47.1 f1 x3.toNatClampNeg) x4 _ h) (cwC_X0_X0_missedOf hts ⟨Nat.le_of_ble_eq_true rfl, Nat.le_of_ble_eq_true rfl⟩) (c_preV hw (n := 0) (cOk.s (by decide)) (isO_K _) rfl) rfl rfl hl.1 rfl (lv_room (Nat.le_of_ble_eq_true rfl)) dX0_leastOf_65 ⟨Nat.le_of_ble_eq_true rfl, Nat.le_of_ble_eq_true rfl⟩) (fun r65 a65 H locs h hw => ?_)
      refine lv_aload_n hx hb dX0_leastOf_68 rfl (lv_at hl 0 rfl) ?_
      refine c_get S hw (n := 0) (ci := 0) (cOk.s (by decide)) (isO_K _) rfl in_X0 23 (by decide) (Or.inl q347) rfl rfl dX0_leastOf_69 ?_
      refine lv_iload hx hb dX0_leastOf_72 (lv_at hl 3 rfl) ?_
      refine lv_iconst (v := (1 : Int32)) hx hb dX0_leastOf_74 (by decide) ?_
      refine lv_aload_n hx hb dX0_leastOf_75 rfl (lv_at hl 1 rfl) ?_
      refine lv_iload_n hx hb dX0_leastOf_76 rfl (lv_at hl 2 rfl) ?_
      have hi77 := h.1
      replace h := h.2
      refine c_ald S hw (n := f1) hx1.ok hx1.isA hi77 (Or.inl ⟨rfl, dX0_leastOf_77⟩) ?_
      refine lv_ishl hx hb dX0_leastOf_78 ?_
      refine lv_ior hx hb dX0_leastOf_79 ?_
      have hi80 := h.1
      replace h := h.2
      refine c_ald S hw (n := 78) (cOk.s (by decide)) (fun _ => rfl) hi80 (Or.inl ⟨rfl, dX0_leastOf_80⟩) ?_
      refine lv_iadd hx hb dX0_leastOf_81 ?_
      have hi82 := h.1
      replace h := h.2
      refine c_ast S hw (n := 77) (by decide) (cOk.s (by decide)) (fun _ => rfl) hi82 (Or.inl ⟨rfl, rfl, dX0_leastOf_82⟩) (fun a82 H locs ea82 hw => ?_)
      replace h := h a82 ea82
      refine lv_iinc (v := (x4 + (1 : Int32))) (lv' := [(4, .int (x4 + (1 : Int32))), (0, .ref (ad 0)), (1, .ref (ad f1)), (3, .int x3)]) hx hb dX0_leastOf_83 hl (k := 3) rfl rfl (by decide) rfl (fun ls hl => ?_)
      refine lv_goto (tgt := 44) hx hb dX0_leastOf_86 (by decide) ?_
      exact ih _ _ _ _ _ _ h hw (lv_sub hl [1, 2, 3, 0] rfl)
def bkC_X0_leastOf_33 (Q : Int32 → CS → Prop) (f1 : Nat) (x2 : Int32) : Nat → Int32 → CS → Prop
  | 0 => fun _ _ => False
  | n + 1 => fun x3 a => if x3 ≤ 0 then (wpC_X0_findInside a (fun a96 => (vp_in (0 : Int32) (rlen f1)) ∧ (wpC_X0_missedOf a96 (a96.1 f1 (0 : Int32).toNatClampNeg) (a96.1 4 3) (fun r113 a113 => (vp_in (0 : Int32) (rlen f1)) ∧ ((vp_in ((a113.1 4 3) ||| (ishl (1 : Int32) (a113.1 f1 (0 : Int32).toNatClampNeg))) 256) ∧ (Q (r113 + (a113.1 78 ((a113.1 4 3) ||| (ishl (1 : Int32) (a113.1 f1 (0 : Int32).toNatClampNeg))).toNatClampNeg)) a113)))))) else (wpC_X0_findInside a (fun a38 => ∃ n44, bkC_X0_leastOf_44 Q f1 x2 (bkC_X0_leastOf_33 Q f1 x2 n) n44 x3 (0 : Int32) a38))
set_option maxHeartbeats 4000000 in
set_option maxRecDepth 100000 in
theorem wkC_X0_leastOf_33 (S : CallFix p m c cX0_leastOf 5 s args lw_all RX0) (hr : meth.sig.returnType = (some .int)) (hlk : meth.locks = false) (Q : Int32 → CS → Prop) (f1 : Nat) (x2 : Int32) (hx1 : rowK f1) : ∀ (n : Nat) (x3 : Int32) (a : CS) (H : Heap) (locs : List Loc) (ls : Array Slot), bkC_X0_leastOf_33 Q f1 x2 n x3 a → CW D dA ad fv A a s H locs → lv_has ls 5 [(0, .ref (ad 0)), (1, .ref (ad f1)), (3, .int x3)] → W p l e rmC_X0_leastOf s m args below meth c H locs 0 0 (MQ below (cQi D dA ad fv A Q) args s 0 0 A) (F0 m 33 ls []) := by
  have hx := S.1
  have hb := S.2.1
  have hown := S.2.2.2.1
  have hts := S.2.2.2.2
  intro n
  induction n with
  | zero =>
    intro x3 a H locs ls h
    exact False.elim h
  | succ n ih =>
    intro x3 a H locs ls h hw hl
    unfold bkC_X0_leastOf_33 at h
    refine lv_iload_n hx hb dX0_leastOf_33 rfl (lv_at hl 2 rfl) ?_
    refine lv_if_le (tgt := 95) hx hb dX0_leastOf_34 (by decide) (fun c34 => ?_) (fun c34 => ?_)
    · replace h := if_t c34 h
      refine lv_aload_n hx hb dX0_leastOf_95 rfl (lv_at hl 0 rfl) ?_
      refine c_callv hw (va_runV (As := []) (rest := []) S (ctC_X0_findInside l D dA ad fv A a _ h) (cwC_X0_X0_findInside hts ⟨Nat.le_of_ble_eq_true rfl, Nat.le_of_ble_eq_true rfl⟩) (c_preV hw (n := 0) (cOk.s (by decide)) (isO_K _) rfl) rfl rfl hl.1 rfl (lv_room (Nat.le_of_ble_eq_true rfl)) dX0_leastOf_96 ⟨Nat.le_of_ble_eq_true rfl, Nat.le_of_ble_eq_true rfl⟩) (fun a96 H locs h hw => ?_)
      refine lv_aload_n hx hb dX0_leastOf_99 rfl (lv_at hl 0 rfl) ?_
      refine lv_aload_n hx hb dX0_leastOf_100 rfl (lv_at hl 1 rfl) ?_
      refine lv_iconst (v := (0 : Int32)) hx hb dX0_leastOf_101 (by decide) ?_
      have hi102 := h.1
      replace h := h.2
      refine c_ald S hw (n := f1) hx1.ok hx1.isA hi102 (Or.inl ⟨rfl, dX0_leastOf_102⟩) ?_
      refine lv_aload_n hx hb dX0_leastOf_103 rfl (lv_at hl 0 rfl) ?_
      refine c_get S hw (n := 0) (ci := 0) (cOk.s (by decide)) (isO_K _) rfl in_X0 0 (by decide) (Or.inl q324) rfl rfl dX0_leastOf_104 ?_
      refine c_get S hw (n := 1) (cOk.s (by decide)) ((isO_S (by decide) (by decide)) _) rfl in_X1 0 (by decide) (Or.inr (List.mem_of_getElem? (i := 11) rfl)) rfl rfl dX0_leastOf_107 ?_
      refine c_get S hw (n := 4) (cOk.s (by decide)) ((isO_H (by decide) (by decide)) _) rfl in_X2 3 (by decide) (Or.inr (List.mem_of_getElem? (i := 6) rfl)) rfl rfl dX0_leastOf_110 ?_
      refine c_calli hw (va_runV (As := [.int (a96.1 f1 (0 : Int32).toNatClampNeg), .int (a96.1 4 3)]) (rest := []) S (ctC_X0_missedOf l D dA ad fv A a96 (a96.1 f1 (0 : Int32).toNatClampNeg) (a96.1 4 3) _ h) (cwC_X0_X0_missedOf hts ⟨Nat.le_of_ble_eq_true rfl, Nat.le_of_ble_eq_true rfl⟩) (c_preV hw (n := 0) (cOk.s (by decide)) (isO_K _) rfl) rfl rfl hl.1 rfl (lv_room (Nat.le_of_ble_eq_true rfl)) dX0_leastOf_113 ⟨Nat.le_of_ble_eq_true rfl, Nat.le_of_ble_eq_true rfl⟩) (fun r113 a113 H locs h hw => ?_)
      refine lv_aload_n hx hb dX0_leastOf_116 rfl (lv_at hl 0 rfl) ?_
      refine c_get S hw (n := 0) (ci := 0) (cOk.s (by decide)) (isO_K _) rfl in_X0 23 (by decide) (Or.inl q347) rfl rfl dX0_leastOf_117 ?_
      refine lv_aload_n hx hb dX0_leastOf_120 rfl (lv_at hl 0 rfl) ?_
      refine c_get S hw (n := 0) (ci := 0) (cOk.s (by decide)) (isO_K _) rfl in_X0 0 (by decide) (Or.inl q324) rfl rfl dX0_leastOf_121 ?_
      refine c_get S hw (n := 1) (cOk.s (by decide)) ((isO_S (by decide) (by decide)) _) rfl in_X1 0 (by decide) (Or.inr (List.mem_of_getElem? (i := 11) rfl)) rfl rfl dX0_leastOf_124 ?_
      refine c_get S hw (n := 4) (cOk.s (by decide)) ((isO_H (by decide) (by decide)) _) rfl in_X2 3 (by decide) (Or.inr (List.mem_of_getElem? (i := 6) rfl)) rfl rfl dX0_leastOf_127 ?_
      refine lv_iconst (v := (1 : Int32)) hx hb dX0_leastOf_130 (by decide) ?_
      refine lv_aload_n hx hb dX0_leastOf_131 rfl (lv_at hl 1 rfl) ?_
      refine lv_iconst (v := (0 : Int32)) hx hb dX0_leastOf_132 (by decide) ?_
      have hi133 := h.1
      replace h := h.2
      refine c_ald S hw (n := f1) hx1.ok hx1.isA hi133 (Or.inl ⟨rfl, dX0_leastOf_133⟩) ?_
      refine lv_ishl hx hb dX0_leastOf_134 ?_
      refine lv_ior hx hb dX0_leastOf_135 ?_
      have hi136 := h.1
      replace h := h.2
      refine c_ald S hw (n := 78) (cOk.s (by decide)) (fun _ => rfl) hi136 (Or.inl ⟨rfl, dX0_leastOf_136⟩) ?_
      refine lv_iadd hx hb dX0_leastOf_137 ?_
      exact c_iret S hr hlk hw h dX0_leastOf_138
    · replace h := if_f c34 h
      refine lv_aload_n hx hb dX0_leastOf_37 rfl (lv_at hl 0 rfl) ?_
      refine c_callv hw (va_runV (As := []) (rest := []) S (ctC_X0_findInside l D dA ad fv A a _ h) (cwC_X0_X0_findInside hts ⟨Nat.le_of_ble_eq_true rfl, Nat.le_of_ble_eq_true rfl⟩) (c_preV hw (n := 0) (cOk.s (by decide)) (isO_K _) rfl) rfl rfl hl.1 rfl (lv_room (Nat.le_of_ble_eq_true rfl)) dX0_leastOf_38 ⟨Nat.le_of_ble_eq_true rfl, Nat.le_of_ble_eq_true rfl⟩) (fun a38 H locs h hw => ?_)
      refine lv_iconst (v := (0 : Int32)) hx hb dX0_leastOf_41 (by decide) ?_
      refine lv_istore (lv' := [(4, .int (0 : Int32)), (0, .ref (ad 0)), (1, .ref (ad f1)), (3, .int x3)]) hx hb dX0_leastOf_42 hl (by decide) rfl (fun ls hl => ?_)
      obtain ⟨n44, h⟩ := h
      exact wkC_X0_leastOf_44 S hr hlk Q f1 x2 hx1 ih n44 _ _ _ _ _ _ h hw (lv_sub hl [1, 2, 3, 0] rfl)
def bkC_X0_leastOf_8 (Q : Int32 → CS → Prop) (f1 : Nat) (x2 : Int32) : Nat → Int32 → CS → Prop
  | 0 => fun _ _ => False
  | n + 1 => fun x3 a => wpC_X0_sets a (fun r10 a10 => if r10 ≤ x3 then (∃ n33, bkC_X0_leastOf_33 Q f1 x2 n33 (x2 - (1 : Int32)) a10) else ((vp_in x3 256) ∧ (∀ a22 : CS, a22 = wI a10 77 x3.toNatClampNeg (0 : Int32) → (bkC_X0_leastOf_8 Q f1 x2 n (x3 + (1 : Int32)) a22))))
set_option maxHeartbeats 4000000 in
set_option maxRecDepth 100000 in
theorem wkC_X0_leastOf_8 (S : CallFix p m c cX0_leastOf 5 s args lw_all RX0) (hr : meth.sig.returnType = (some .int)) (hlk : meth.locks = false) (Q : Int32 → CS → Prop) (f1 : Nat) (x2 : Int32) (hx1 : rowK f1) : ∀ (n : Nat) (x3 : Int32) (a : CS) (H : Heap) (locs : List Loc) (ls : Array Slot), bkC_X0_leastOf_8 Q f1 x2 n x3 a → CW D dA ad fv A a s H locs → lv_has ls 5 [(0, .ref (ad 0)), (1, .ref (ad f1)), (2, .int x2), (3, .int x3)] → W p l e rmC_X0_leastOf s m args below meth c H locs 0 0 (MQ below (cQi D dA ad fv A Q) args s 0 0 A) (F0 m 8 ls []) := by
  have hx := S.1
  have hb := S.2.1
  have hown := S.2.2.2.1
  have hts := S.2.2.2.2
  intro n
  induction n with
  | zero =>
    intro x3 a H locs ls h
    exact False.elim h
  | succ n ih =>
    intro x3 a H locs ls h hw hl
    unfold bkC_X0_leastOf_8 at h
    refine lv_iload_n hx hb dX0_leastOf_8 rfl (lv_at hl 3 rfl) ?_
    refine lv_aload_n hx hb dX0_leastOf_9 rfl (lv_at hl 0 rfl) ?_
    refine c_calli hw (va_runV (As := []) (rest := [.int x3]) S (ctC_X0_sets l D dA ad fv A a _ h) (cwC_X0_X0_sets hts ⟨Nat.le_of_ble_eq_true rfl, Nat.le_of_ble_eq_true rfl⟩) (c_preV hw (n := 0) (cOk.s (by decide)) (isO_K _) rfl) rfl rfl hl.1 rfl (lv_room (Nat.le_of_ble_eq_true rfl)) dX0_leastOf_10 ⟨Nat.le_of_ble_eq_true rfl, Nat.le_of_ble_eq_true rfl⟩) (fun r10 a10 H locs h hw => ?_)
    refine lv_icmp_ge (tgt := 29) hx hb dX0_leastOf_13 (by decide) (fun c13 => ?_) (fun c13 => ?_)
    · replace h := if_t c13 h
      refine lv_iload_n hx hb dX0_leastOf_29 rfl (lv_at hl 2 rfl) ?_
      refine lv_iconst (v := (1 : Int32)) hx hb dX0_leastOf_30 (by decide) ?_
      refine lv_isub hx hb dX0_leastOf_31 ?_
      refine lv_istore_n (lv' := [(3, .int (x2 - (1 : Int32))), (0, .ref (ad 0)), (1, .ref (ad f1)), (2, .int x2)]) hx hb dX0_leastOf_32 rfl hl (by decide) rfl (fun ls hl => ?_)
      obtain ⟨n33, h⟩ := h
      exact wkC_X0_leastOf_33 S hr hlk Q f1 x2 hx1 n33 _ _ _ _ _ h hw (lv_sub hl [1, 2, 0] rfl)
    · replace h := if_f c13 h
      refine lv_aload_n hx hb dX0_leastOf_16 rfl (lv_at hl 0 rfl) ?_
      refine c_get S hw (n := 0) (ci := 0) (cOk.s (by decide)) (isO_K _) rfl in_X0 22 (by decide) (Or.inl q346) rfl rfl dX0_leastOf_17 ?_
      refine lv_iload_n hx hb dX0_leastOf_20 rfl (lv_at hl 3 rfl) ?_
      refine lv_iconst (v := (0 : Int32)) hx hb dX0_leastOf_21 (by decide) ?_
      have hi22 := h.1
      replace h := h.2
      refine c_ast S hw (n := 77) (by decide) (cOk.s (by decide)) (fun _ => rfl) hi22 (Or.inl ⟨rfl, rfl, dX0_leastOf_22⟩) (fun a22 H locs ea22 hw => ?_)
      replace h := h a22 ea22
      refine lv_iinc (v := (x3 + (1 : Int32))) (lv' := [(3, .int (x3 + (1 : Int32))), (0, .ref (ad 0)), (1, .ref (ad f1)), (2, .int x2)]) hx hb dX0_leastOf_23 hl (k := 3) rfl rfl (by decide) rfl (fun ls hl => ?_)
      refine lv_goto (tgt := 8) hx hb dX0_leastOf_26 (by decide) ?_
      exact ih _ _ _ _ _ h hw (lv_sub hl [1, 2, 3, 0] rfl)
def wpC_X0_leastOf (a : CS) (f1 : Nat) (x2 : Int32) (Q : Int32 → CS → Prop) : Prop := (rowK f1) ∧ if x2 = 0 then (Q (0 : Int32) a) else (∃ n8, bkC_X0_leastOf_8 Q f1 x2 n8 (0 : Int32) a)
set_option maxHeartbeats 4000000 in
set_option maxRecDepth 100000 in
theorem wkC_X0_leastOf_e (S : CallFix p m c cX0_leastOf 5 s args lw_all RX0) (hr : meth.sig.returnType = (some .int)) (hlk : meth.locks = false) (Q : Int32 → CS → Prop) (f1 : Nat) (x2 : Int32) (a : CS) (H : Heap) (locs : List Loc) (ls : Array Slot) (h : wpC_X0_leastOf a f1 x2 Q) (hw : CW D dA ad fv A a s H locs) (hl : lv_has ls 5 [(0, .ref (ad 0)), (1, .ref (ad f1)), (2, .int x2)]) : W p l e rmC_X0_leastOf s m args below meth c H locs 0 0 (MQ below (cQi D dA ad fv A Q) args s 0 0 A) (F0 m 0 ls []) := by
  have hx := S.1
  have hb := S.2.1
  have hown := S.2.2.2.1
  have hts := S.2.2.2.2
  unfold wpC_X0_leastOf at h
  obtain ⟨hx1, h⟩ := h
  refine lv_iload_n hx hb dX0_leastOf_0 rfl (lv_at hl 2 rfl) ?_
  refine lv_if_ne (tgt := 6) hx hb dX0_leastOf_1 (by decide) (fun c1 => ?_) (fun c1 => ?_)
  · replace h := if_f c1 h
    refine lv_iconst (v := (0 : Int32)) hx hb dX0_leastOf_6 (by decide) ?_
    refine lv_istore_n (lv' := [(3, .int (0 : Int32)), (0, .ref (ad 0)), (1, .ref (ad f1)), (2, .int x2)]) hx hb dX0_leastOf_7 rfl hl (by decide) rfl (fun ls hl => ?_)
    obtain ⟨n8, h⟩ := h
    exact wkC_X0_leastOf_8 S hr hlk Q f1 x2 hx1 n8 _ _ _ _ _ h hw (lv_sub hl [1, 2, 3, 0] rfl)
  · replace h := if_t c1 h
    refine lv_iconst (v := (0 : Int32)) hx hb dX0_leastOf_4 (by decide) ?_
    exact c_iret S hr hlk hw h dX0_leastOf_5
theorem ctC_X0_leastOf (l : Launch) (D : va_G) (dA : Nat → ClassId) (ad : Nat → Nat) (fv : Nat → Value) (A : Nat → Prop) (a : CS) (f1 : Nat) (x2 : Int32) (Q : Int32 → CS → Prop) (h : wpC_X0_leastOf a f1 x2 Q) : Met l yX0_leastOf (ws_ yX0_leastOf cX0_leastOf 5 (some .int)) rmC_X0_leastOf (cPc D dA ad fv A a [.ref (ad 0), .ref (ad f1), .int x2]) (cQi D dA ad fv A Q) 0 0 A :=
  c_met (by decide) rfl rfl rfl (Nat.le_of_ble_eq_true rfl) (fun p e s m below meth c ls S hr hlk hin2 hw hl => wkC_X0_leastOf_e S hr hlk Q f1 x2 a _ _ ls h hw hl)
theorem cwC_X0_X0_leastOf {R : Room} {s : State} {args : Array Value} {rm : Room} (hts : ∀ w ∈ lw_all, w.before args s = true) (hR : rm.frames + 1 ≤ R.frames ∧ 8 + (5 + 11) + rm.locals ≤ R.locals) (hc : rm.cells = 0 := by rfl) (hs : rm.slots = 0 := by rfl) : CallW R s args RX0 RX0 469 yX0_leastOf cX0_leastOf 5 (some .int) (ws_ yX0_leastOf cX0_leastOf 5 (some .int)) rm 0 0 2 :=
  cwV 2 hts (lw_V q1046 q1048 qs38 q103 q1049) rfl hc hs (by decide +kernel) hR
/-! X0.keptBehind -/
abbrev rmC_X0_keptBehind : Room := { frames := 1, cells := 0, slots := 0, locals := 20 }
def bkC_X0_keptBehind_17 (Q : Int32 → CS → Prop) (x1 : Int32) : Nat → Int32 → Int32 → CS → Prop
  | 0 => fun _ _ _ => False
  | n + 1 => fun x2 x3 a => wpC_X0_sets a (fun r19 a19 => if r19 ≤ x3 then (Q (0 : Int32) a19) else (if (x3 &&& (x2 ^^^ (-1 : Int32))) = 0 then ((vp_in x3 256) ∧ (if (a19.1 76 x3.toNatClampNeg) = 0 then (bkC_X0_keptBehind_17 Q x1 n x2 (x3 + (1 : Int32)) a19) else ((vp_in x3 256) ∧ ((vp_in x2 256) ∧ (if (a19.1 77 x3.toNatClampNeg) = (a19.1 78 x2.toNatClampNeg) then (Q x3 a19) else (bkC_X0_keptBehind_17 Q x1 n x2 (x3 + (1 : Int32)) a19)))))) else (bkC_X0_keptBehind_17 Q x1 n x2 (x3 + (1 : Int32)) a19)))
set_option maxHeartbeats 4000000 in
set_option maxRecDepth 100000 in
theorem wkC_X0_keptBehind_17 (S : CallFix p m c cX0_keptBehind 4 s args lw_all RX0) (hr : meth.sig.returnType = (some .int)) (hlk : meth.locks = false) (Q : Int32 → CS → Prop) (x1 : Int32) : ∀ (n : Nat) (x2 : Int32) (x3 : Int32) (a : CS) (H : Heap) (locs : List Loc) (ls : Array Slot), bkC_X0_keptBehind_17 Q x1 n x2 x3 a → CW D dA ad fv A a s H locs → lv_has ls 4 [(0, .ref (ad 0)), (2, .int x2), (3, .int x3)] → W p l e rmC_X0_keptBehind s m args below meth c H locs 0 0 (MQ below (cQi D dA ad fv A Q) args s 0 0 A) (F0 m 17 ls []) := by
  have hx := S.1
  have hb := S.2.1
  have hown := S.2.2.2.1
  have hts := S.2.2.2.2
  intro n
  induction n with
  | zero =>
    intro x2 x3 a H locs ls h
    exact False.elim h
  | succ n ih =>
    intro x2 x3 a H locs ls h hw hl
    unfold bkC_X0_keptBehind_17 at h
    refine lv_iload_n hx hb dX0_keptBehind_17 rfl (lv_at hl 2 rfl) ?_
    refine lv_aload_n hx hb dX0_keptBehind_18 rfl (lv_at hl 0 rfl) ?_
    refine c_calli hw (va_runV (As := []) (rest := [.int x3]) S (ctC_X0_sets l D dA ad fv A a _ h) (cwC_X0_X0_sets hts ⟨Nat.le_of_ble_eq_true rfl, Nat.le_of_ble_eq_true rfl⟩) (c_preV hw (n := 0) (cOk.s (by decide)) (isO_K _) rfl) rfl rfl hl.1 rfl (lv_room (Nat.le_of_ble_eq_true rfl)) dX0_keptBehind_19 ⟨Nat.le_of_ble_eq_true rfl, Nat.le_of_ble_eq_true rfl⟩) (fun r19 a19 H locs h hw => ?_)
    refine lv_icmp_ge (tgt := 65) hx hb dX0_keptBehind_22 (by decide) (fun c22 => ?_) (fun c22 => ?_)
    · replace h := if_t c22 h
      refine lv_iconst (v := (0 : Int32)) hx hb dX0_keptBehind_65 (by decide) ?_
      exact c_iret S hr hlk hw h dX0_keptBehind_66
    · replace h := if_f c22 h
      refine lv_iload_n hx hb dX0_keptBehind_25 rfl (lv_at hl 2 rfl) ?_
      refine lv_iload_n hx hb dX0_keptBehind_26 rfl (lv_at hl 1 rfl) ?_
      refine lv_iconst (v := (-1 : Int32)) hx hb dX0_keptBehind_27 (by decide) ?_
      refine lv_ixor hx hb dX0_keptBehind_28 ?_
      refine lv_iand hx hb dX0_keptBehind_29 ?_
      refine lv_if_ne (tgt := 59) hx hb dX0_keptBehind_30 (by decide) (fun c30 => ?_) (fun c30 => ?_)
      · replace h := if_f c30 h
        refine lv_iinc (v := (x3 + (1 : Int32))) (lv' := [(3, .int (x3 + (1 : Int32))), (0, .ref (ad 0)), (2, .int x2)]) hx hb dX0_keptBehind_59 hl (k := 2) rfl rfl (by decide) rfl (fun ls hl => ?_)
        refine lv_goto (tgt := 17) hx hb dX0_keptBehind_62 (by decide) ?_
        exact ih _ _ _ _ _ _ h hw (lv_sub hl [1, 2, 0] rfl)
      · replace h := if_t c30 h
        refine lv_aload_n hx hb dX0_keptBehind_33 rfl (lv_at hl 0 rfl) ?_
        refine c_get S hw (n := 0) (ci := 0) (cOk.s (by decide)) (isO_K _) rfl in_X0 21 (by decide) (Or.inl q345) rfl rfl dX0_keptBehind_34 ?_
        refine lv_iload_n hx hb dX0_keptBehind_37 rfl (lv_at hl 2 rfl) ?_
        have hi38 := h.1
        replace h := h.2
        refine c_ald S hw (n := 76) (cOk.s (by decide)) (fun _ => rfl) hi38 (Or.inr (Or.inr (Or.inl ⟨rfl, dX0_keptBehind_38⟩))) ?_
        refine lv_if_eq (tgt := 59) hx hb dX0_keptBehind_39 (by decide) (fun c39 => ?_) (fun c39 => ?_)
        · replace h := if_t c39 h
          refine lv_iinc (v := (x3 + (1 : Int32))) (lv' := [(3, .int (x3 + (1 : Int32))), (0, .ref (ad 0)), (2, .int x2)]) hx hb dX0_keptBehind_59 hl (k := 2) rfl rfl (by decide) rfl (fun ls hl => ?_)
          refine lv_goto (tgt := 17) hx hb dX0_keptBehind_62 (by decide) ?_
          exact ih _ _ _ _ _ _ h hw (lv_sub hl [1, 2, 0] rfl)
        · replace h := if_f c39 h
          refine lv_aload_n hx hb dX0_keptBehind_42 rfl (lv_at hl 0 rfl) ?_
          refine c_get S hw (n := 0) (ci := 0) (cOk.s (by decide)) (isO_K _) rfl in_X0 22 (by decide) (Or.inl q346) rfl rfl dX0_keptBehind_43 ?_
          refine lv_iload_n hx hb dX0_keptBehind_46 rfl (lv_at hl 2 rfl) ?_
          have hi47 := h.1
          replace h := h.2
          refine c_ald S hw (n := 77) (cOk.s (by decide)) (fun _ => rfl) hi47 (Or.inl ⟨rfl, dX0_keptBehind_47⟩) ?_
          refine lv_aload_n hx hb dX0_keptBehind_48 rfl (lv_at hl 0 rfl) ?_
          refine c_get S hw (n := 0) (ci := 0) (cOk.s (by decide)) (isO_K _) rfl in_X0 23 (by decide) (Or.inl q347) rfl rfl dX0_keptBehind_49 ?_
          refine lv_iload_n hx hb dX0_keptBehind_52 rfl (lv_at hl 1 rfl) ?_
          have hi53 := h.1
          replace h := h.2
          refine c_ald S hw (n := 78) (cOk.s (by decide)) (fun _ => rfl) hi53 (Or.inl ⟨rfl, dX0_keptBehind_53⟩) ?_
          refine lv_icmp_ne (tgt := 59) hx hb dX0_keptBehind_54 (by decide) (fun c54 => ?_) (fun c54 => ?_)
          · replace h := if_f c54 h
            refine lv_iinc (v := (x3 + (1 : Int32))) (lv' := [(3, .int (x3 + (1 : Int32))), (0, .ref (ad 0)), (2, .int x2)]) hx hb dX0_keptBehind_59 hl (k := 2) rfl rfl (by decide) rfl (fun ls hl => ?_)
            refine lv_goto (tgt := 17) hx hb dX0_keptBehind_62 (by decide) ?_
            exact ih _ _ _ _ _ _ h hw (lv_sub hl [1, 2, 0] rfl)
          · replace h := if_t c54 h
            refine lv_iload_n hx hb dX0_keptBehind_57 rfl (lv_at hl 2 rfl) ?_
            exact c_iret S hr hlk hw h dX0_keptBehind_58
def wpC_X0_keptBehind (a : CS) (x1 : Int32) (Q : Int32 → CS → Prop) : Prop := ∃ n17, bkC_X0_keptBehind_17 Q x1 n17 ((a.1 4 3) ||| (ishl (1 : Int32) x1)) (0 : Int32) a
set_option maxHeartbeats 4000000 in
set_option maxRecDepth 100000 in
theorem wkC_X0_keptBehind_e (S : CallFix p m c cX0_keptBehind 4 s args lw_all RX0) (hr : meth.sig.returnType = (some .int)) (hlk : meth.locks = false) (Q : Int32 → CS → Prop) (x1 : Int32) (a : CS) (H : Heap) (locs : List Loc) (ls : Array Slot) (h : wpC_X0_keptBehind a x1 Q) (hw : CW D dA ad fv A a s H locs) (hl : lv_has ls 4 [(0, .ref (ad 0)), (1, .int x1)]) : W p l e rmC_X0_keptBehind s m args below meth c H locs 0 0 (MQ below (cQi D dA ad fv A Q) args s 0 0 A) (F0 m 0 ls []) := by
  have hx := S.1
  have hb := S.2.1
  have hown := S.2.2.2.1
  have hts := S.2.2.2.2
  unfold wpC_X0_keptBehind at h
  refine lv_aload_n hx hb dX0_keptBehind_0 rfl (lv_at hl 0 rfl) ?_
  refine c_get S hw (n := 0) (ci := 0) (cOk.s (by decide)) (isO_K _) rfl in_X0 0 (by decide) (Or.inl q324) rfl rfl dX0_keptBehind_1 ?_
  refine c_get S hw (n := 1) (cOk.s (by decide)) ((isO_S (by decide) (by decide)) _) rfl in_X1 0 (by decide) (Or.inr (List.mem_of_getElem? (i := 11) rfl)) rfl rfl dX0_keptBehind_4 ?_
  refine c_get S hw (n := 4) (cOk.s (by decide)) ((isO_H (by decide) (by decide)) _) rfl in_X2 3 (by decide) (Or.inr (List.mem_of_getElem? (i := 6) rfl)) rfl rfl dX0_keptBehind_7 ?_
  refine lv_iconst (v := (1 : Int32)) hx hb dX0_keptBehind_10 (by decide) ?_
  refine lv_iload_n hx hb dX0_keptBehind_11 rfl (lv_at hl 1 rfl) ?_
  refine lv_ishl hx hb dX0_keptBehind_12 ?_
  refine lv_ior hx hb dX0_keptBehind_13 ?_
  refine lv_istore_n (lv' := [(2, .int ((a.1 4 3) ||| (ishl (1 : Int32) x1))), (0, .ref (ad 0)), (1, .int x1)]) hx hb dX0_keptBehind_14 rfl hl (by decide) rfl (fun ls hl => ?_)
  refine lv_iconst (v := (0 : Int32)) hx hb dX0_keptBehind_15 (by decide) ?_
  refine lv_istore_n (lv' := [(3, .int (0 : Int32)), (2, .int ((a.1 4 3) ||| (ishl (1 : Int32) x1))), (0, .ref (ad 0)), (1, .int x1)]) hx hb dX0_keptBehind_16 rfl hl (by decide) rfl (fun ls hl => ?_)
  obtain ⟨n17, h⟩ := h
  exact wkC_X0_keptBehind_17 S hr hlk Q x1 n17 _ _ _ _ _ _ h hw (lv_sub hl [2, 1, 0] rfl)
theorem ctC_X0_keptBehind (l : Launch) (D : va_G) (dA : Nat → ClassId) (ad : Nat → Nat) (fv : Nat → Value) (A : Nat → Prop) (a : CS) (x1 : Int32) (Q : Int32 → CS → Prop) (h : wpC_X0_keptBehind a x1 Q) : Met l yX0_keptBehind (ws_ yX0_keptBehind cX0_keptBehind 4 (some .int)) rmC_X0_keptBehind (cPc D dA ad fv A a [.ref (ad 0), .int x1]) (cQi D dA ad fv A Q) 0 0 A :=
  c_met (by decide) rfl rfl rfl (Nat.le_of_ble_eq_true rfl) (fun p e s m below meth c ls S hr hlk hin2 hw hl => wkC_X0_keptBehind_e S hr hlk Q x1 a _ _ ls h hw hl)
theorem cwC_X0_X0_keptBehind {R : Room} {s : State} {args : Array Value} {rm : Room} (hts : ∀ w ∈ lw_all, w.before args s = true) (hR : rm.frames + 1 ≤ R.frames ∧ 8 + (4 + 11) + rm.locals ≤ R.locals) (hc : rm.cells = 0 := by rfl) (hs : rm.slots = 0 := by rfl) : CallW R s args RX0 RX0 472 yX0_keptBehind cX0_keptBehind 4 (some .int) (ws_ yX0_keptBehind cX0_keptBehind 4 (some .int)) rm 0 0 1 :=
  cwV 1 hts (lw_V q1059 q1061 qs41 q103 q1062) rfl hc hs (by decide +kernel) hR
/-! X0.heldOf -/
abbrev rmC_X0_heldOf : Room := { frames := 1, cells := 0, slots := 0, locals := 22 }
def bkC_X0_heldOf_4 (Q : Int32 → CS → Prop) (x1 : Int32) : Nat → Int32 → Int32 → CS → Prop
  | 0 => fun _ _ _ => False
  | n + 1 => fun x2 x3 a => if (a.1 1 1) ≤ x3 then (Q x2 a) else (wpC_X0_isRead a x3 x1 (fun r19 a19 => if r19 = 0 then (bkC_X0_heldOf_4 Q x1 n (x2 + (0 : Int32)) (x3 + (1 : Int32)) a19) else ((vp_in x3 8) ∧ ((leafK a19 (a19.2.1 41 x3.toNatClampNeg)) ∧ ((vp_in x3 8) ∧ (bkC_X0_heldOf_4 Q x1 n (x2 + ((a19.1 (a19.2.1 41 x3.toNatClampNeg) 2) * (a19.1 74 x3.toNatClampNeg))) (x3 + (1 : Int32)) a19))))))
set_option maxHeartbeats 4000000 in
set_option maxRecDepth 100000 in
theorem wkC_X0_heldOf_4 (S : CallFix p m c cX0_heldOf 4 s args lw_all RX0) (hr : meth.sig.returnType = (some .int)) (hlk : meth.locks = false) (Q : Int32 → CS → Prop) (x1 : Int32) : ∀ (n : Nat) (x2 : Int32) (x3 : Int32) (a : CS) (H : Heap) (locs : List Loc) (ls : Array Slot), bkC_X0_heldOf_4 Q x1 n x2 x3 a → CW D dA ad fv A a s H locs → lv_has ls 4 [(0, .ref (ad 0)), (1, .int x1), (2, .int x2), (3, .int x3)] → W p l e rmC_X0_heldOf s m args below meth c H locs 0 0 (MQ below (cQi D dA ad fv A Q) args s 0 0 A) (F0 m 4 ls []) := by
  have hx := S.1
  have hb := S.2.1
  have hown := S.2.2.2.1
  have hts := S.2.2.2.2
  intro n
  induction n with
  | zero =>
    intro x2 x3 a H locs ls h
    exact False.elim h
  | succ n ih =>
    intro x2 x3 a H locs ls h hw hl
    unfold bkC_X0_heldOf_4 at h
    refine lv_iload_n hx hb dX0_heldOf_4 rfl (lv_at hl 3 rfl) ?_
    refine lv_aload_n hx hb dX0_heldOf_5 rfl (lv_at hl 0 rfl) ?_
    refine c_get S hw (n := 0) (ci := 0) (cOk.s (by decide)) (isO_K _) rfl in_X0 0 (by decide) (Or.inl q324) rfl rfl dX0_heldOf_6 ?_
    refine c_get S hw (n := 1) (cOk.s (by decide)) ((isO_S (by decide) (by decide)) _) rfl in_X1 1 (by decide) (Or.inr (List.mem_of_getElem? (i := 12) rfl)) rfl rfl dX0_heldOf_9 ?_
    refine lv_icmp_ge (tgt := 56) hx hb dX0_heldOf_12 (by decide) (fun c12 => ?_) (fun c12 => ?_)
    · replace h := if_t c12 h
      refine lv_iload_n hx hb dX0_heldOf_56 rfl (lv_at hl 2 rfl) ?_
      exact c_iret S hr hlk hw h dX0_heldOf_57
    · replace h := if_f c12 h
      refine lv_iload_n hx hb dX0_heldOf_15 rfl (lv_at hl 2 rfl) ?_
      refine lv_aload_n hx hb dX0_heldOf_16 rfl (lv_at hl 0 rfl) ?_
      refine lv_iload_n hx hb dX0_heldOf_17 rfl (lv_at hl 3 rfl) ?_
      refine lv_iload_n hx hb dX0_heldOf_18 rfl (lv_at hl 1 rfl) ?_
      refine c_calli hw (va_runV (As := [.int x3, .int x1]) (rest := [.int x2]) S (ctC_X0_isRead l D dA ad fv A a x3 x1 _ h) (cwC_X0_X0_isRead hts ⟨Nat.le_of_ble_eq_true rfl, Nat.le_of_ble_eq_true rfl⟩) (c_preV hw (n := 0) (cOk.s (by decide)) (isO_K _) rfl) rfl rfl hl.1 rfl (lv_room (Nat.le_of_ble_eq_true rfl)) dX0_heldOf_19 ⟨Nat.le_of_ble_eq_true rfl, Nat.le_of_ble_eq_true rfl⟩) (fun r19 a19 H locs h hw => ?_)
      refine lv_if_eq (tgt := 47) hx hb dX0_heldOf_22 (by decide) (fun c22 => ?_) (fun c22 => ?_)
      · replace h := if_t c22 h
        refine lv_iconst (v := (0 : Int32)) hx hb dX0_heldOf_47 (by decide) ?_
        refine lv_iadd hx hb dX0_heldOf_48 ?_
        refine lv_istore_n (lv' := [(2, .int (x2 + (0 : Int32))), (0, .ref (ad 0)), (1, .int x1), (3, .int x3)]) hx hb dX0_heldOf_49 rfl hl (by decide) rfl (fun ls hl => ?_)
        refine lv_iinc (v := (x3 + (1 : Int32))) (lv' := [(3, .int (x3 + (1 : Int32))), (2, .int (x2 + (0 : Int32))), (0, .ref (ad 0)), (1, .int x1)]) hx hb dX0_heldOf_50 hl (k := 3) rfl rfl (by decide) rfl (fun ls hl => ?_)
        refine lv_goto (tgt := 4) hx hb dX0_heldOf_53 (by decide) ?_
        exact ih _ _ _ _ _ _ h hw (lv_sub hl [2, 3, 1, 0] rfl)
      · replace h := if_f c22 h
        refine lv_aload_n hx hb dX0_heldOf_25 rfl (lv_at hl 0 rfl) ?_
        refine c_get S hw (n := 0) (ci := 0) (cOk.s (by decide)) (isO_K _) rfl in_X0 0 (by decide) (Or.inl q324) rfl rfl dX0_heldOf_26 ?_
        refine c_get S hw (n := 1) (cOk.s (by decide)) ((isO_S (by decide) (by decide)) _) rfl in_X1 2 (by decide) (Or.inr (List.mem_of_getElem? (i := 13) rfl)) rfl rfl dX0_heldOf_29 ?_
        refine lv_iload_n hx hb dX0_heldOf_32 rfl (lv_at hl 3 rfl) ?_
        have hi33 := h.1
        replace h := h.2
        have hk33_0 := h.1
        replace h := h.2
        refine c_aald S hw (n := 41) (cOk.s (by decide)) ((isR_lf (by decide) (by decide)) _) rfl hi33 (rv_n hk33_0.ne) dX0_heldOf_33 ?_
        refine c_lget S hw hk33_0 2 (by decide) (Or.inl q651) dX0_heldOf_34 ?_
        refine lv_aload_n hx hb dX0_heldOf_37 rfl (lv_at hl 0 rfl) ?_
        refine c_get S hw (n := 0) (ci := 0) (cOk.s (by decide)) (isO_K _) rfl in_X0 19 (by decide) (Or.inl q343) rfl rfl dX0_heldOf_38 ?_
        refine lv_iload_n hx hb dX0_heldOf_41 rfl (lv_at hl 3 rfl) ?_
        have hi42 := h.1
        replace h := h.2
        refine c_ald S hw (n := 74) (cOk.s (by decide)) (fun _ => rfl) hi42 (Or.inl ⟨rfl, dX0_heldOf_42⟩) ?_
        refine lv_imul hx hb dX0_heldOf_43 ?_
        refine lv_goto (tgt := 48) hx hb dX0_heldOf_44 (by decide) ?_
        refine lv_iadd hx hb dX0_heldOf_48 ?_
        refine lv_istore_n (lv' := [(2, .int (x2 + ((a19.1 (a19.2.1 41 x3.toNatClampNeg) 2) * (a19.1 74 x3.toNatClampNeg)))), (0, .ref (ad 0)), (1, .int x1), (3, .int x3)]) hx hb dX0_heldOf_49 rfl hl (by decide) rfl (fun ls hl => ?_)
        refine lv_iinc (v := (x3 + (1 : Int32))) (lv' := [(3, .int (x3 + (1 : Int32))), (2, .int (x2 + ((a19.1 (a19.2.1 41 x3.toNatClampNeg) 2) * (a19.1 74 x3.toNatClampNeg)))), (0, .ref (ad 0)), (1, .int x1)]) hx hb dX0_heldOf_50 hl (k := 3) rfl rfl (by decide) rfl (fun ls hl => ?_)
        refine lv_goto (tgt := 4) hx hb dX0_heldOf_53 (by decide) ?_
        exact ih _ _ _ _ _ _ h hw (lv_sub hl [2, 3, 1, 0] rfl)
def wpC_X0_heldOf (a : CS) (x1 : Int32) (Q : Int32 → CS → Prop) : Prop := ∃ n4, bkC_X0_heldOf_4 Q x1 n4 (0 : Int32) (0 : Int32) a
set_option maxHeartbeats 4000000 in
set_option maxRecDepth 100000 in
theorem wkC_X0_heldOf_e (S : CallFix p m c cX0_heldOf 4 s args lw_all RX0) (hr : meth.sig.returnType = (some .int)) (hlk : meth.locks = false) (Q : Int32 → CS → Prop) (x1 : Int32) (a : CS) (H : Heap) (locs : List Loc) (ls : Array Slot) (h : wpC_X0_heldOf a x1 Q) (hw : CW D dA ad fv A a s H locs) (hl : lv_has ls 4 [(0, .ref (ad 0)), (1, .int x1)]) : W p l e rmC_X0_heldOf s m args below meth c H locs 0 0 (MQ below (cQi D dA ad fv A Q) args s 0 0 A) (F0 m 0 ls []) := by
  have hx := S.1
  have hb := S.2.1
  have hown := S.2.2.2.1
  have hts := S.2.2.2.2
  unfold wpC_X0_heldOf at h
  refine lv_iconst (v := (0 : Int32)) hx hb dX0_heldOf_0 (by decide) ?_
  refine lv_istore_n (lv' := [(2, .int (0 : Int32)), (0, .ref (ad 0)), (1, .int x1)]) hx hb dX0_heldOf_1 rfl hl (by decide) rfl (fun ls hl => ?_)
  refine lv_iconst (v := (0 : Int32)) hx hb dX0_heldOf_2 (by decide) ?_
  refine lv_istore_n (lv' := [(3, .int (0 : Int32)), (2, .int (0 : Int32)), (0, .ref (ad 0)), (1, .int x1)]) hx hb dX0_heldOf_3 rfl hl (by decide) rfl (fun ls hl => ?_)
  obtain ⟨n4, h⟩ := h
  exact wkC_X0_heldOf_4 S hr hlk Q x1 n4 _ _ _ _ _ _ h hw (lv_sub hl [2, 3, 1, 0] rfl)
theorem ctC_X0_heldOf (l : Launch) (D : va_G) (dA : Nat → ClassId) (ad : Nat → Nat) (fv : Nat → Value) (A : Nat → Prop) (a : CS) (x1 : Int32) (Q : Int32 → CS → Prop) (h : wpC_X0_heldOf a x1 Q) : Met l yX0_heldOf (ws_ yX0_heldOf cX0_heldOf 4 (some .int)) rmC_X0_heldOf (cPc D dA ad fv A a [.ref (ad 0), .int x1]) (cQi D dA ad fv A Q) 0 0 A :=
  c_met (by decide) rfl rfl rfl (Nat.le_of_ble_eq_true rfl) (fun p e s m below meth c ls S hr hlk hin2 hw hl => wkC_X0_heldOf_e S hr hlk Q x1 a _ _ ls h hw hl)
theorem cwC_X0_X0_heldOf {R : Room} {s : State} {args : Array Value} {rm : Room} (hts : ∀ w ∈ lw_all, w.before args s = true) (hR : rm.frames + 1 ≤ R.frames ∧ 8 + (4 + 11) + rm.locals ≤ R.locals) (hc : rm.cells = 0 := by rfl) (hs : rm.slots = 0 := by rfl) : CallW R s args RX0 RX0 475 yX0_heldOf cX0_heldOf 4 (some .int) (ws_ yX0_heldOf cX0_heldOf 4 (some .int)) rm 0 0 1 :=
  cwV 1 hts (lw_V q1067 q1069 qs42 q103 q1070) rfl hc hs (by decide +kernel) hR
/-! X0.bestWithout -/
abbrev rmC_X0_bestWithout : Room := { frames := 2, cells := 0, slots := 0, locals := 45 }
def bkC_X0_bestWithout_4 (Q : Int32 → CS → Prop) (x1 : Int32) : Nat → Int32 → Int32 → CS → Prop
  | 0 => fun _ _ _ => False
  | n + 1 => fun x2 x3 a => wpC_X0_sets a (fun r6 a6 => if r6 ≤ x3 then (Q x2 a6) else (if (x3 &&& x1) = 0 then ((vp_in x3 256) ∧ (if (a6.1 76 x3.toNatClampNeg) = 0 then (bkC_X0_bestWithout_4 Q x1 n x2 (x3 + (1 : Int32)) a6) else (wpC_X0_heldOf a6 x3 (fun r29 a29 => wpC_X0_heldOf a29 x2 (fun r34 a34 => if r29 ≤ r34 then (bkC_X0_bestWithout_4 Q x1 n x2 (x3 + (1 : Int32)) a34) else (bkC_X0_bestWithout_4 Q x1 n x3 (x3 + (1 : Int32)) a34)))))) else (bkC_X0_bestWithout_4 Q x1 n x2 (x3 + (1 : Int32)) a6)))
set_option maxHeartbeats 4000000 in
set_option maxRecDepth 100000 in
theorem wkC_X0_bestWithout_4 (S : CallFix p m c cX0_bestWithout 4 s args lw_all RX0) (hr : meth.sig.returnType = (some .int)) (hlk : meth.locks = false) (Q : Int32 → CS → Prop) (x1 : Int32) : ∀ (n : Nat) (x2 : Int32) (x3 : Int32) (a : CS) (H : Heap) (locs : List Loc) (ls : Array Slot), bkC_X0_bestWithout_4 Q x1 n x2 x3 a → CW D dA ad fv A a s H locs → lv_has ls 4 [(0, .ref (ad 0)), (1, .int x1), (2, .int x2), (3, .int x3)] → W p l e rmC_X0_bestWithout s m args below meth c H locs 0 0 (MQ below (cQi D dA ad fv A Q) args s 0 0 A) (F0 m 4 ls []) := by
  have hx := S.1
  have hb := S.2.1
  have hown := S.2.2.2.1
  have hts := S.2.2.2.2
  intro n
  induction n with
  | zero =>
    intro x2 x3 a H locs ls h
    exact False.elim h
  | succ n ih =>
    intro x2 x3 a H locs ls h hw hl
    unfold bkC_X0_bestWithout_4 at h
    refine lv_iload_n hx hb dX0_bestWithout_4 rfl (lv_at hl 3 rfl) ?_
    refine lv_aload_n hx hb dX0_bestWithout_5 rfl (lv_at hl 0 rfl) ?_
    refine c_calli hw (va_runV (As := []) (rest := [.int x3]) S (ctC_X0_sets l D dA ad fv A a _ h) (cwC_X0_X0_sets hts ⟨Nat.le_of_ble_eq_true rfl, Nat.le_of_ble_eq_true rfl⟩) (c_preV hw (n := 0) (cOk.s (by decide)) (isO_K _) rfl) rfl rfl hl.1 rfl (lv_room (Nat.le_of_ble_eq_true rfl)) dX0_bestWithout_6 ⟨Nat.le_of_ble_eq_true rfl, Nat.le_of_ble_eq_true rfl⟩) (fun r6 a6 H locs h hw => ?_)
    refine lv_icmp_ge (tgt := 48) hx hb dX0_bestWithout_9 (by decide) (fun c9 => ?_) (fun c9 => ?_)
    · replace h := if_t c9 h
      refine lv_iload_n hx hb dX0_bestWithout_48 rfl (lv_at hl 2 rfl) ?_
      exact c_iret S hr hlk hw h dX0_bestWithout_49
    · replace h := if_f c9 h
      refine lv_iload_n hx hb dX0_bestWithout_12 rfl (lv_at hl 3 rfl) ?_
      refine lv_iload_n hx hb dX0_bestWithout_13 rfl (lv_at hl 1 rfl) ?_
      refine lv_iand hx hb dX0_bestWithout_14 ?_
      refine lv_if_ne (tgt := 42) hx hb dX0_bestWithout_15 (by decide) (fun c15 => ?_) (fun c15 => ?_)
      · replace h := if_f c15 h
        refine lv_iinc (v := (x3 + (1 : Int32))) (lv' := [(3, .int (x3 + (1 : Int32))), (0, .ref (ad 0)), (1, .int x1), (2, .int x2)]) hx hb dX0_bestWithout_42 hl (k := 3) rfl rfl (by decide) rfl (fun ls hl => ?_)
        refine lv_goto (tgt := 4) hx hb dX0_bestWithout_45 (by decide) ?_
        exact ih _ _ _ _ _ _ h hw (lv_sub hl [1, 2, 3, 0] rfl)
      · replace h := if_t c15 h
        refine lv_aload_n hx hb dX0_bestWithout_18 rfl (lv_at hl 0 rfl) ?_
        refine c_get S hw (n := 0) (ci := 0) (cOk.s (by decide)) (isO_K _) rfl in_X0 21 (by decide) (Or.inl q345) rfl rfl dX0_bestWithout_19 ?_
        refine lv_iload_n hx hb dX0_bestWithout_22 rfl (lv_at hl 3 rfl) ?_
        have hi23 := h.1
        replace h := h.2
        refine c_ald S hw (n := 76) (cOk.s (by decide)) (fun _ => rfl) hi23 (Or.inr (Or.inr (Or.inl ⟨rfl, dX0_bestWithout_23⟩))) ?_
        refine lv_if_eq (tgt := 42) hx hb dX0_bestWithout_24 (by decide) (fun c24 => ?_) (fun c24 => ?_)
        · replace h := if_t c24 h
          refine lv_iinc (v := (x3 + (1 : Int32))) (lv' := [(3, .int (x3 + (1 : Int32))), (0, .ref (ad 0)), (1, .int x1), (2, .int x2)]) hx hb dX0_bestWithout_42 hl (k := 3) rfl rfl (by decide) rfl (fun ls hl => ?_)
          refine lv_goto (tgt := 4) hx hb dX0_bestWithout_45 (by decide) ?_
          exact ih _ _ _ _ _ _ h hw (lv_sub hl [1, 2, 3, 0] rfl)
        · replace h := if_f c24 h
          refine lv_aload_n hx hb dX0_bestWithout_27 rfl (lv_at hl 0 rfl) ?_
          refine lv_iload_n hx hb dX0_bestWithout_28 rfl (lv_at hl 3 rfl) ?_
          refine c_calli hw (va_runV (As := [.int x3]) (rest := []) S (ctC_X0_heldOf l D dA ad fv A a6 x3 _ h) (cwC_X0_X0_heldOf hts ⟨Nat.le_of_ble_eq_true rfl, Nat.le_of_ble_eq_true rfl⟩) (c_preV hw (n := 0) (cOk.s (by decide)) (isO_K _) rfl) rfl rfl hl.1 rfl (lv_room (Nat.le_of_ble_eq_true rfl)) dX0_bestWithout_29 ⟨Nat.le_of_ble_eq_true rfl, Nat.le_of_ble_eq_true rfl⟩) (fun r29 a29 H locs h hw => ?_)
          refine lv_aload_n hx hb dX0_bestWithout_32 rfl (lv_at hl 0 rfl) ?_
          refine lv_iload_n hx hb dX0_bestWithout_33 rfl (lv_at hl 2 rfl) ?_
          refine c_calli hw (va_runV (As := [.int x2]) (rest := [.int r29]) S (ctC_X0_heldOf l D dA ad fv A a29 x2 _ h) (cwC_X0_X0_heldOf hts ⟨Nat.le_of_ble_eq_true rfl, Nat.le_of_ble_eq_true rfl⟩) (c_preV hw (n := 0) (cOk.s (by decide)) (isO_K _) rfl) rfl rfl hl.1 rfl (lv_room (Nat.le_of_ble_eq_true rfl)) dX0_bestWithout_34 ⟨Nat.le_of_ble_eq_true rfl, Nat.le_of_ble_eq_true rfl⟩) (fun r34 a34 H locs h hw => ?_)
          refine lv_icmp_le (tgt := 42) hx hb dX0_bestWithout_37 (by decide) (fun c37 => ?_) (fun c37 => ?_)
          · replace h := if_t c37 h
            refine lv_iinc (v := (x3 + (1 : Int32))) (lv' := [(3, .int (x3 + (1 : Int32))), (0, .ref (ad 0)), (1, .int x1), (2, .int x2)]) hx hb dX0_bestWithout_42 hl (k := 3) rfl rfl (by decide) rfl (fun ls hl => ?_)
            refine lv_goto (tgt := 4) hx hb dX0_bestWithout_45 (by decide) ?_
            exact ih _ _ _ _ _ _ h hw (lv_sub hl [1, 2, 3, 0] rfl)
          · replace h := if_f c37 h
            refine lv_iload_n hx hb dX0_bestWithout_40 rfl (lv_at hl 3 rfl) ?_
            refine lv_istore_n (lv' := [(2, .int x3), (0, .ref (ad 0)), (1, .int x1), (3, .int x3)]) hx hb dX0_bestWithout_41 rfl hl (by decide) rfl (fun ls hl => ?_)
            refine lv_iinc (v := (x3 + (1 : Int32))) (lv' := [(3, .int (x3 + (1 : Int32))), (2, .int x3), (0, .ref (ad 0)), (1, .int x1)]) hx hb dX0_bestWithout_42 hl (k := 3) rfl rfl (by decide) rfl (fun ls hl => ?_)
            refine lv_goto (tgt := 4) hx hb dX0_bestWithout_45 (by decide) ?_
            exact ih _ _ _ _ _ _ h hw (lv_sub hl [2, 3, 1, 0] rfl)
def wpC_X0_bestWithout (a : CS) (x1 : Int32) (Q : Int32 → CS → Prop) : Prop := ∃ n4, bkC_X0_bestWithout_4 Q x1 n4 (0 : Int32) (1 : Int32) a
set_option maxHeartbeats 4000000 in
set_option maxRecDepth 100000 in
theorem wkC_X0_bestWithout_e (S : CallFix p m c cX0_bestWithout 4 s args lw_all RX0) (hr : meth.sig.returnType = (some .int)) (hlk : meth.locks = false) (Q : Int32 → CS → Prop) (x1 : Int32) (a : CS) (H : Heap) (locs : List Loc) (ls : Array Slot) (h : wpC_X0_bestWithout a x1 Q) (hw : CW D dA ad fv A a s H locs) (hl : lv_has ls 4 [(0, .ref (ad 0)), (1, .int x1)]) : W p l e rmC_X0_bestWithout s m args below meth c H locs 0 0 (MQ below (cQi D dA ad fv A Q) args s 0 0 A) (F0 m 0 ls []) := by
  have hx := S.1
  have hb := S.2.1
  have hown := S.2.2.2.1
  have hts := S.2.2.2.2
  unfold wpC_X0_bestWithout at h
  refine lv_iconst (v := (0 : Int32)) hx hb dX0_bestWithout_0 (by decide) ?_
  refine lv_istore_n (lv' := [(2, .int (0 : Int32)), (0, .ref (ad 0)), (1, .int x1)]) hx hb dX0_bestWithout_1 rfl hl (by decide) rfl (fun ls hl => ?_)
  refine lv_iconst (v := (1 : Int32)) hx hb dX0_bestWithout_2 (by decide) ?_
  refine lv_istore_n (lv' := [(3, .int (1 : Int32)), (2, .int (0 : Int32)), (0, .ref (ad 0)), (1, .int x1)]) hx hb dX0_bestWithout_3 rfl hl (by decide) rfl (fun ls hl => ?_)
  obtain ⟨n4, h⟩ := h
  exact wkC_X0_bestWithout_4 S hr hlk Q x1 n4 _ _ _ _ _ _ h hw (lv_sub hl [2, 3, 1, 0] rfl)
theorem ctC_X0_bestWithout (l : Launch) (D : va_G) (dA : Nat → ClassId) (ad : Nat → Nat) (fv : Nat → Value) (A : Nat → Prop) (a : CS) (x1 : Int32) (Q : Int32 → CS → Prop) (h : wpC_X0_bestWithout a x1 Q) : Met l yX0_bestWithout (ws_ yX0_bestWithout cX0_bestWithout 4 (some .int)) rmC_X0_bestWithout (cPc D dA ad fv A a [.ref (ad 0), .int x1]) (cQi D dA ad fv A Q) 0 0 A :=
  c_met (by decide) rfl rfl rfl (Nat.le_of_ble_eq_true rfl) (fun p e s m below meth c ls S hr hlk hin2 hw hl => wkC_X0_bestWithout_e S hr hlk Q x1 a _ _ ls h hw hl)
theorem cwC_X0_X0_bestWithout {R : Room} {s : State} {args : Array Value} {rm : Room} (hts : ∀ w ∈ lw_all, w.before args s = true) (hR : rm.frames + 1 ≤ R.frames ∧ 8 + (4 + 11) + rm.locals ≤ R.locals) (hc : rm.cells = 0 := by rfl) (hs : rm.slots = 0 := by rfl) : CallW R s args RX0 RX0 478 yX0_bestWithout cX0_bestWithout 4 (some .int) (ws_ yX0_bestWithout cX0_bestWithout 4 (some .int)) rm 0 0 1 :=
  cwV 1 hts (lw_V q1075 q1077 qs43 q103 q1078) rfl hc hs (by decide +kernel) hR
/-! X0.isSheet -/
abbrev rmC_X0_isSheet : Room := { frames := 1, cells := 0, slots := 0, locals := 22 }
def wpC_X0_isSheet (a : CS) (x0 : Int32) (Q : Int32 → CS → Prop) : Prop := wpC_X0_isIn a x0 (0 : Int32) (3 : Int32) (fun r3 a3 => zok r3 ∧ Q r3 a3)
set_option maxHeartbeats 4000000 in
set_option maxRecDepth 100000 in
theorem wkC_X0_isSheet_e (S : CallFix p m c cX0_isSheet 1 s args lw_all RX0) (hr : meth.sig.returnType = (some .boolean)) (hlk : meth.locks = false) (Q : Int32 → CS → Prop) (x0 : Int32) (a : CS) (H : Heap) (locs : List Loc) (ls : Array Slot) (h : wpC_X0_isSheet a x0 Q) (hw : CW D dA ad fv A a s H locs) (hl : lv_has ls 1 [(0, .int x0)]) : W p l e rmC_X0_isSheet s m args below meth c H locs 0 0 (MQ below (cQi D dA ad fv A Q) args s 0 0 A) (F0 m 0 ls []) := by
  have hx := S.1
  have hb := S.2.1
  have hown := S.2.2.2.1
  have hts := S.2.2.2.2
  unfold wpC_X0_isSheet at h
  refine lv_iload_n hx hb dX0_isSheet_0 rfl (lv_at hl 0 rfl) ?_
  refine lv_iconst (v := (0 : Int32)) hx hb dX0_isSheet_1 (by decide) ?_
  refine lv_iconst (v := (3 : Int32)) hx hb dX0_isSheet_2 (by decide) ?_
  refine c_calli hw (va_runS (As := [.int x0, .int (0 : Int32), .int (3 : Int32)]) (rest := []) S (ctC_X0_isIn l D dA ad fv A a x0 (0 : Int32) (3 : Int32) _ h) (cwC_X0_X0_isIn hts ⟨Nat.le_of_ble_eq_true rfl, Nat.le_of_ble_eq_true rfl⟩) (c_preS hw) rfl rfl hl.1 rfl (lv_room (Nat.le_of_ble_eq_true rfl)) dX0_isSheet_3 ⟨Nat.le_of_ble_eq_true rfl, Nat.le_of_ble_eq_true rfl⟩) (fun r3 a3 H locs h hw => ?_)
  exact c_zret S hr hlk hw h.1 h.2 dX0_isSheet_6
theorem ctC_X0_isSheet (l : Launch) (D : va_G) (dA : Nat → ClassId) (ad : Nat → Nat) (fv : Nat → Value) (A : Nat → Prop) (a : CS) (x0 : Int32) (Q : Int32 → CS → Prop) (h : wpC_X0_isSheet a x0 Q) : Met l yX0_isSheet (ws_ yX0_isSheet cX0_isSheet 1 (some .boolean)) rmC_X0_isSheet (cPc D dA ad fv A a [.int x0]) (cQi D dA ad fv A Q) 0 0 A :=
  c_met (by decide) rfl rfl rfl (Nat.le_of_ble_eq_true rfl) (fun p e s m below meth c ls S hr hlk hin2 hw hl => wkC_X0_isSheet_e S hr hlk Q x0 a _ _ ls h hw hl)
theorem cwC_X0_X0_isSheet {R : Room} {s : State} {args : Array Value} {rm : Room} (hts : ∀ w ∈ lw_all, w.before args s = true) (hR : rm.frames + 1 ≤ R.frames ∧ 8 + (1 + 11) + rm.locals ≤ R.locals) (hc : rm.cells = 0 := by rfl) (hs : rm.slots = 0 := by rfl) : CallB R s args RX0 487 yX0_isSheet cX0_isSheet 1 (some .boolean) (ws_ yX0_isSheet cX0_isSheet 1 (some .boolean)) rm 0 0 1 ∧ (Cond.static yX0_isSheet).before args s = true :=
  va_cwS 1 hts (lw_S q1114 q1115 q103 q1116) rfl hc hs (by decide +kernel) hR
/-! X0.isSlot -/
abbrev rmC_X0_isSlot : Room := { frames := 1, cells := 0, slots := 0, locals := 22 }
def wpC_X0_isSlot (a : CS) (x0 : Int32) (Q : Int32 → CS → Prop) : Prop := wpC_X0_isIn a x0 (0 : Int32) (4 : Int32) (fun r3 a3 => zok r3 ∧ Q r3 a3)
set_option maxHeartbeats 4000000 in
set_option maxRecDepth 100000 in
theorem wkC_X0_isSlot_e (S : CallFix p m c cX0_isSlot 1 s args lw_all RX0) (hr : meth.sig.returnType = (some .boolean)) (hlk : meth.locks = false) (Q : Int32 → CS → Prop) (x0 : Int32) (a : CS) (H : Heap) (locs : List Loc) (ls : Array Slot) (h : wpC_X0_isSlot a x0 Q) (hw : CW D dA ad fv A a s H locs) (hl : lv_has ls 1 [(0, .int x0)]) : W p l e rmC_X0_isSlot s m args below meth c H locs 0 0 (MQ below (cQi D dA ad fv A Q) args s 0 0 A) (F0 m 0 ls []) := by
  have hx := S.1
  have hb := S.2.1
  have hown := S.2.2.2.1
  have hts := S.2.2.2.2
  unfold wpC_X0_isSlot at h
  refine lv_iload_n hx hb dX0_isSlot_0 rfl (lv_at hl 0 rfl) ?_
  refine lv_iconst (v := (0 : Int32)) hx hb dX0_isSlot_1 (by decide) ?_
  refine lv_iconst (v := (4 : Int32)) hx hb dX0_isSlot_2 (by decide) ?_
  refine c_calli hw (va_runS (As := [.int x0, .int (0 : Int32), .int (4 : Int32)]) (rest := []) S (ctC_X0_isIn l D dA ad fv A a x0 (0 : Int32) (4 : Int32) _ h) (cwC_X0_X0_isIn hts ⟨Nat.le_of_ble_eq_true rfl, Nat.le_of_ble_eq_true rfl⟩) (c_preS hw) rfl rfl hl.1 rfl (lv_room (Nat.le_of_ble_eq_true rfl)) dX0_isSlot_3 ⟨Nat.le_of_ble_eq_true rfl, Nat.le_of_ble_eq_true rfl⟩) (fun r3 a3 H locs h hw => ?_)
  exact c_zret S hr hlk hw h.1 h.2 dX0_isSlot_6
theorem ctC_X0_isSlot (l : Launch) (D : va_G) (dA : Nat → ClassId) (ad : Nat → Nat) (fv : Nat → Value) (A : Nat → Prop) (a : CS) (x0 : Int32) (Q : Int32 → CS → Prop) (h : wpC_X0_isSlot a x0 Q) : Met l yX0_isSlot (ws_ yX0_isSlot cX0_isSlot 1 (some .boolean)) rmC_X0_isSlot (cPc D dA ad fv A a [.int x0]) (cQi D dA ad fv A Q) 0 0 A :=
  c_met (by decide) rfl rfl rfl (Nat.le_of_ble_eq_true rfl) (fun p e s m below meth c ls S hr hlk hin2 hw hl => wkC_X0_isSlot_e S hr hlk Q x0 a _ _ ls h hw hl)
theorem cwC_X0_X0_isSlot {R : Room} {s : State} {args : Array Value} {rm : Room} (hts : ∀ w ∈ lw_all, w.before args s = true) (hR : rm.frames + 1 ≤ R.frames ∧ 8 + (1 + 11) + rm.locals ≤ R.locals) (hc : rm.cells = 0 := by rfl) (hs : rm.slots = 0 := by rfl) : CallB R s args RX0 537 yX0_isSlot cX0_isSlot 1 (some .boolean) (ws_ yX0_isSlot cX0_isSlot 1 (some .boolean)) rm 0 0 1 ∧ (Cond.static yX0_isSlot).before args s = true :=
  va_cwS 1 hts (lw_S q1183 q1184 q103 q1185) rfl hc hs (by decide +kernel) hR
/-! X0.tell -/
abbrev rmC_X0_tell : Room := { frames := 0, cells := 0, slots := 0, locals := 0 }
def wpC_X0_tell (a : CS) (x1 : Int32) (Q : Int32 → CS → Prop) : Prop := if (a.1 0 29) = (60 : Int32) then (Q (-1000000003 : Int32) a) else ((vp_in (a.1 0 29) 60) ∧ (∀ a21 : CS, a21 = wI a 81 (a.1 0 29).toNatClampNeg x1 → (∀ a29 : CS, a29 = wI a21 0 29 ((a21.1 0 29) + (1 : Int32)) → (Q (a29.1 0 29) a29))))
set_option maxHeartbeats 4000000 in
set_option maxRecDepth 100000 in
theorem wkC_X0_tell_e (S : CallFix p m c cX0_tell 2 s args lw_all RX0) (hr : meth.sig.returnType = (some .int)) (hlk : meth.locks = false) (Q : Int32 → CS → Prop) (x1 : Int32) (a : CS) (H : Heap) (locs : List Loc) (ls : Array Slot) (h : wpC_X0_tell a x1 Q) (hw : CW D dA ad fv A a s H locs) (hl : lv_has ls 2 [(0, .ref (ad 0)), (1, .int x1)]) : W p l e rmC_X0_tell s m args below meth c H locs 0 0 (MQ below (cQi D dA ad fv A Q) args s 0 0 A) (F0 m 0 ls []) := by
  have hx := S.1
  have hb := S.2.1
  have hown := S.2.2.2.1
  have hts := S.2.2.2.2
  unfold wpC_X0_tell at h
  refine lv_aload_n hx hb dX0_tell_0 rfl (lv_at hl 0 rfl) ?_
  refine c_get S hw (n := 0) (ci := 0) (cOk.s (by decide)) (isO_K _) rfl in_X0 29 (by decide) (Or.inl q353) rfl rfl dX0_tell_1 ?_
  refine lv_bipush (v := (60 : Int32)) hx hb dX0_tell_4 (by decide) ?_
  refine lv_icmp_ne (tgt := 12) hx hb dX0_tell_6 (by decide) (fun c6 => ?_) (fun c6 => ?_)
  · replace h := if_f c6 h
    refine lv_aload_n hx hb dX0_tell_12 rfl (lv_at hl 0 rfl) ?_
    refine c_get S hw (n := 0) (ci := 0) (cOk.s (by decide)) (isO_K _) rfl in_X0 28 (by decide) (Or.inl q352) rfl rfl dX0_tell_13 ?_
    refine lv_aload_n hx hb dX0_tell_16 rfl (lv_at hl 0 rfl) ?_
    refine c_get S hw (n := 0) (ci := 0) (cOk.s (by decide)) (isO_K _) rfl in_X0 29 (by decide) (Or.inl q353) rfl rfl dX0_tell_17 ?_
    refine lv_iload_n hx hb dX0_tell_20 rfl (lv_at hl 1 rfl) ?_
    have hi21 := h.1
    replace h := h.2
    refine c_ast S hw (n := 81) (by decide) (cOk.s (by decide)) (fun _ => rfl) hi21 (Or.inl ⟨rfl, rfl, dX0_tell_21⟩) (fun a21 H locs ea21 hw => ?_)
    replace h := h a21 ea21
    refine lv_aload_n hx hb dX0_tell_22 rfl (lv_at hl 0 rfl) ?_
    refine lv_dup hx hb dX0_tell_23 rfl ?_
    refine c_get S hw (n := 0) (ci := 0) (cOk.s (by decide)) (isO_K _) rfl in_X0 29 (by decide) (Or.inl q353) rfl rfl dX0_tell_24 ?_
    refine lv_iconst (v := (1 : Int32)) hx hb dX0_tell_27 (by decide) ?_
    refine lv_iadd hx hb dX0_tell_28 ?_
    refine c_putI S hw (n := 0) (cOk.s (by decide)) isO_K rfl in_X0 tyX0 tyX0_ok nmX0 29 (by decide) (Or.inl q353) rfl rfl rfl rfl (Nat.le_of_ble_eq_true rfl) (fun _ => kset_29) dX0_tell_29 (fun a29 H locs ea29 hw => ?_)
    replace h := h a29 ea29
    refine lv_aload_n hx hb dX0_tell_32 rfl (lv_at hl 0 rfl) ?_
    refine c_get S hw (n := 0) (ci := 0) (cOk.s (by decide)) (isO_K _) rfl in_X0 29 (by decide) (Or.inl q353) rfl rfl dX0_tell_33 ?_
    exact c_iret S hr hlk hw h dX0_tell_36
  · replace h := if_t c6 h
    refine lv_ldc hx hb hown (hts _ q423) dX0_tell_9 ?_
    exact c_iret S hr hlk hw h dX0_tell_11
theorem ctC_X0_tell (l : Launch) (D : va_G) (dA : Nat → ClassId) (ad : Nat → Nat) (fv : Nat → Value) (A : Nat → Prop) (a : CS) (x1 : Int32) (Q : Int32 → CS → Prop) (h : wpC_X0_tell a x1 Q) : Met l yX0_tell (ws_ yX0_tell cX0_tell 2 (some .int)) rmC_X0_tell (cPc D dA ad fv A a [.ref (ad 0), .int x1]) (cQi D dA ad fv A Q) 0 0 A :=
  c_met (by decide) rfl rfl rfl (Nat.le_of_ble_eq_true rfl) (fun p e s m below meth c ls S hr hlk hin2 hw hl => wkC_X0_tell_e S hr hlk Q x1 a _ _ ls h hw hl)
end CWalk

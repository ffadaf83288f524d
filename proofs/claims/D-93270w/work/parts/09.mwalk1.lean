theorem lv_tableD {p : Program} {l : Launch} {e : Env} {R : Room} {s : State} {m : MethodId} {args : Array Value} {below : List Frame} {meth : Method} {c : Code} {H : Heap} {locs : List Loc} {cells slots : Nat} {Q : State → Prop} {cc : ByteArray} {pc : Nat} {ls : Array Slot} {rest : List Value} (hexec : p.tables.exec = Jvm.exec) (hb : c.code = cc) {dflt lo hi : Int} {offs : Array Int} {len : Nat} {x : Int32} {tgt : Nat} (hdg : decode cc pc = .ok (.tableswitch dflt lo hi offs, len)) (h : x.toInt < lo ∨ hi < x.toInt ∨ offs[(x.toInt - lo).toNat]? = some dflt) (ht : (pc : Int) + dflt = (tgt : Int))
    (k : W p l e R s m args below meth c H locs cells slots Q (F0 m tgt ls rest)) : W p l e R s m args below meth c H locs cells slots Q (F0 m pc ls (.int x :: rest)) := by
  by_cases h1 : x.toInt < lo
  · exact lv_tableOut hexec hb hdg (Or.inl h1) ht k
  by_cases h2 : hi < x.toInt
  · exact lv_tableOut hexec hb hdg (Or.inr h2) ht k
  · exact lv_tableIn hexec hb hdg h1 h2 (by rcases h with h | h | h; exact absurd h h1; exact absurd h h2; exact h) ht k
theorem pos3_at {f : Nat} (h : f < 3) : mNm[f + 1]? = some f := (by decide : ∀ f, f < 3 → mNm[f + 1]? = some f) f h
abbrev pos3 {f : Nat} (_ : f < 3) : Nat := f + 1
theorem pos3_ne {f : Nat} (h : f < 3) : f ≠ 38 := by omega
theorem pos3_len {f : Nat} (h : f < 3) : mLen f = 3098 := (by decide : ∀ f, f < 3 → mLen f = 3098) f h
theorem mset_3 {ad : Nat → Nat} {b : Nat → Int32} {v : Int32} : (mObj ad b).set 3 (.int v) = mObj ad (upd b 3 v) := by simp [mObj, upd]
theorem mset_19 {ad : Nat → Nat} {b : Nat → Int32} {v : Int32} : (mObj ad b).set 19 (.int v) = mObj ad (upd b 19 v) := by simp [mObj, upd]
theorem mset_21 {ad : Nat → Nat} {b : Nat → Int32} {v : Int32} : (mObj ad b).set 21 (.int v) = mObj ad (upd b 21 v) := by simp [mObj, upd]
theorem mset_22 {ad : Nat → Nat} {b : Nat → Int32} {v : Int32} : (mObj ad b).set 22 (.int v) = mObj ad (upd b 22 v) := by simp [mObj, upd]
theorem mset_23 {ad : Nat → Nat} {b : Nat → Int32} {v : Int32} : (mObj ad b).set 23 (.int v) = mObj ad (upd b 23 v) := by simp [mObj, upd]
theorem mset_24 {ad : Nat → Nat} {b : Nat → Int32} {v : Int32} : (mObj ad b).set 24 (.int v) = mObj ad (upd b 24 v) := by simp [mObj, upd]
theorem mset_25 {ad : Nat → Nat} {b : Nat → Int32} {v : Int32} : (mObj ad b).set 25 (.int v) = mObj ad (upd b 25 v) := by simp [mObj, upd]
theorem mset_26 {ad : Nat → Nat} {b : Nat → Int32} {v : Int32} : (mObj ad b).set 26 (.int v) = mObj ad (upd b 26 v) := by simp [mObj, upd]
theorem mset_27 {ad : Nat → Nat} {b : Nat → Int32} {v : Int32} : (mObj ad b).set 27 (.int v) = mObj ad (upd b 27 v) := by simp [mObj, upd]
theorem mset_28 {ad : Nat → Nat} {b : Nat → Int32} {v : Int32} : (mObj ad b).set 28 (.int v) = mObj ad (upd b 28 v) := by simp [mObj, upd]
theorem mset_29 {ad : Nat → Nat} {b : Nat → Int32} {v : Int32} : (mObj ad b).set 29 (.int v) = mObj ad (upd b 29 v) := by simp [mObj, upd]
theorem mset_30 {ad : Nat → Nat} {b : Nat → Int32} {v : Int32} : (mObj ad b).set 30 (.int v) = mObj ad (upd b 30 v) := by simp [mObj, upd]
theorem mset_31 {ad : Nat → Nat} {b : Nat → Int32} {v : Int32} : (mObj ad b).set 31 (.int v) = mObj ad (upd b 31 v) := by simp [mObj, upd]
theorem mset_36 {ad : Nat → Nat} {b : Nat → Int32} {v : Int32} : (mObj ad b).set 36 (.int v) = mObj ad (upd b 36 v) := by simp [mObj, upd]
section MWalk
variable {p : Program} {l : Launch} {e : Env} {s : State} {m : MethodId} {args : Array Value} {below : List Frame} {meth : Method} {c : Code} {D : va_G} {dA : Nat → ClassId} {ad : Nat → Nat} {A : Nat → Prop}
/-! leafAt -/
abbrev rmM_leafAt : Room := { frames := 0, cells := 0, slots := 0, locals := 0 }
def wpM_leafAt (a : MS) (x1 : Int32) (Q : Int32 → MS → Prop) : Prop := Q ((10 : Int32) + ((7 : Int32) * x1)) a
set_option maxHeartbeats 4000000 in
set_option maxRecDepth 100000 in
theorem wkM_leafAt_e (S : CallFix p m c cX6_leafAt 2 s args lw_all RX6) (hr : meth.sig.returnType = (some .int)) (hlk : meth.locks = false) (Q : Int32 → MS → Prop) (x1 : Int32) (a : MS) (H : Heap) (locs : List Loc) (ls : Array Slot) (h : wpM_leafAt a x1 Q) (hw : MW D dA ad A a s H locs) (hl : lv_has ls 2 [(0, .ref (ad 38)), (1, .int x1)]) : W p l e rmM_leafAt s m args below meth c H locs 0 0 (MQ below (mQi D dA ad A Q) args s 0 0 A) (F0 m 0 ls []) := by
  have hx := S.1
  have hb := S.2.1
  have hown := S.2.2.2.1
  have hts := S.2.2.2.2
  unfold wpM_leafAt at h
  refine lv_bipush (v := (10 : Int32)) hx hb dX6_leafAt_0 (by decide) ?_
  refine lv_bipush (v := (7 : Int32)) hx hb dX6_leafAt_2 (by decide) ?_
  refine lv_iload_n hx hb dX6_leafAt_4 rfl (lv_at hl 1 rfl) ?_
  refine lv_imul hx hb dX6_leafAt_5 ?_
  refine lv_iadd hx hb dX6_leafAt_6 ?_
  exact m_iret S hr hlk hw h dX6_leafAt_7
theorem ctM_leafAt (l : Launch) (D : va_G) (dA : Nat → ClassId) (ad : Nat → Nat) (A : Nat → Prop) (a : MS) (x1 : Int32) (Q : Int32 → MS → Prop) (h : wpM_leafAt a x1 Q) : Met l yX6_leafAt (ws_ yX6_leafAt cX6_leafAt 2 (some .int)) rmM_leafAt (mPc D dA ad A a [.ref (ad 38), .int x1]) (mQi D dA ad A Q) 0 0 A :=
  m_met (by decide) rfl rfl rfl (Nat.le_of_ble_eq_true rfl) (fun p e s m below meth c ls S hr hlk hw hl => wkM_leafAt_e S hr hlk Q x1 a _ _ ls h hw hl)
theorem cwM_leafAt {R : Room} {s : State} {args : Array Value} {rm : Room} (hts : ∀ w ∈ lw_all, w.before args s = true) (hR : rm.frames + 1 ≤ R.frames ∧ 8 + (2 + 11) + rm.locals ≤ R.locals) (hc : rm.cells = 0 := by rfl) (hs : rm.slots = 0 := by rfl) : CallW R s args RX6 RX6 92 yX6_leafAt cX6_leafAt 2 (some .int) (ws_ yX6_leafAt cX6_leafAt 2 (some .int)) rm 0 0 1 :=
  cwV 1 hts (lw_V q1474 q1476 qs52 q112 q1477) rfl hc hs (by decide +kernel) hR
/-! comes -/
abbrev rmM_comes : Room := { frames := 1, cells := 0, slots := 0, locals := 21 }
def wpM_comes (a : MS) (x1 : Int32) (x2 : Int32) (x3 : Int32) (x4 : Int32) (Q : MS → Prop) : Prop := wpM_leafAt a (a 0 (0 : Int32).toNatClampNeg) (fun r7 a7 => vp_in r7 3098 ∧ (∀ a19 : MS, a19 = up2 a7 0 r7.toNatClampNeg x1 → (vp_in (r7 + (1 : Int32)) 3098 ∧ (∀ a29 : MS, a29 = up2 a19 0 (r7 + (1 : Int32)).toNatClampNeg x2 → (vp_in (r7 + (2 : Int32)) 3098 ∧ (∀ a39 : MS, a39 = up2 a29 0 (r7 + (2 : Int32)).toNatClampNeg x3 → (vp_in (r7 + (3 : Int32)) 3098 ∧ (∀ a49 : MS, a49 = up2 a39 0 (r7 + (3 : Int32)).toNatClampNeg (1 : Int32) → (vp_in (r7 + (4 : Int32)) 3098 ∧ (∀ a60 : MS, a60 = up2 a49 0 (r7 + (4 : Int32)).toNatClampNeg x4 → (vp_in (r7 + (5 : Int32)) 3098 ∧ (∀ a70 : MS, a70 = up2 a60 0 (r7 + (5 : Int32)).toNatClampNeg (0 : Int32) → (vp_in (r7 + (6 : Int32)) 3098 ∧ (∀ a81 : MS, a81 = up2 a70 0 (r7 + (6 : Int32)).toNatClampNeg (0 : Int32) → (∀ a91 : MS, a91 = up2 a81 0 (0 : Int32).toNatClampNeg ((a81 0 (0 : Int32).toNatClampNeg) + (1 : Int32)) → (Q a91))))))))))))))))
set_option maxHeartbeats 4000000 in
set_option maxRecDepth 100000 in
theorem wkM_comes_e (S : CallFix p m c cX6_comes 6 s args lw_all RX6) (hr : meth.sig.returnType = none) (hlk : meth.locks = false) (Q : MS → Prop) (x1 : Int32) (x2 : Int32) (x3 : Int32) (x4 : Int32) (a : MS) (H : Heap) (locs : List Loc) (ls : Array Slot) (h : wpM_comes a x1 x2 x3 x4 Q) (hw : MW D dA ad A a s H locs) (hl : lv_has ls 6 [(0, .ref (ad 38)), (1, .int x1), (2, .int x2), (3, .int x3), (4, .int x4)]) : W p l e rmM_comes s m args below meth c H locs 0 0 (MQ below (mQv D dA ad A Q) args s 0 0 A) (F0 m 0 ls []) := by
  have hx := S.1
  have hb := S.2.1
  have hown := S.2.2.2.1
  have hts := S.2.2.2.2
  unfold wpM_comes at h
  refine lv_aload_n hx hb dX6_comes_0 rfl (lv_at hl 0 rfl) ?_
  refine lv_aload_n hx hb dX6_comes_1 rfl (lv_at hl 0 rfl) ?_
  refine m_get S hw 0 (by decide) q1338 rfl rfl dX6_comes_2 ?_
  refine lv_iconst (v := (0 : Int32)) hx hb dX6_comes_5 (by decide) ?_
  refine m_ald S hw 1 0 3098 rfl (by decide) rfl (vlit (by decide)) dX6_comes_6 ?_
  refine m_calli S hw [.int (a 0 (0 : Int32).toNatClampNeg)] [] (ctM_leafAt l D dA ad A a (a 0 (0 : Int32).toNatClampNeg) _ h) (cwM_leafAt hts ⟨Nat.le_of_ble_eq_true rfl, Nat.le_of_ble_eq_true rfl⟩) rfl hl.1 rfl (Nat.le_of_ble_eq_true rfl) dX6_comes_7 ⟨Nat.zero_le _, Nat.zero_le _⟩ (fun r7 a7 H locs h hw => ?_)
  refine lv_istore (lv' := [(5, .int r7), (0, .ref (ad 38)), (1, .int x1), (2, .int x2), (3, .int x3), (4, .int x4)]) hx hb dX6_comes_10 hl (by decide) rfl (fun ls hl => ?_)
  refine lv_aload_n hx hb dX6_comes_12 rfl (lv_at hl 1 rfl) ?_
  refine m_get S hw 0 (by decide) q1338 rfl rfl dX6_comes_13 ?_
  refine lv_iload hx hb dX6_comes_16 (lv_at hl 0 rfl) ?_
  refine lv_iload_n hx hb dX6_comes_18 rfl (lv_at hl 2 rfl) ?_
  refine m_ast S hw 1 0 3098 rfl (by decide) rfl h.1 dX6_comes_19 (fun a19 H locs ea19 hw => ?_)
  replace h := h.2 a19 ea19
  refine lv_aload_n hx hb dX6_comes_20 rfl (lv_at hl 1 rfl) ?_
  refine m_get S hw 0 (by decide) q1338 rfl rfl dX6_comes_21 ?_
  refine lv_iload hx hb dX6_comes_24 (lv_at hl 0 rfl) ?_
  refine lv_iconst (v := (1 : Int32)) hx hb dX6_comes_26 (by decide) ?_
  refine lv_iadd hx hb dX6_comes_27 ?_
  refine lv_iload_n hx hb dX6_comes_28 rfl (lv_at hl 3 rfl) ?_
  refine m_ast S hw 1 0 3098 rfl (by decide) rfl h.1 dX6_comes_29 (fun a29 H locs ea29 hw => ?_)
  replace h := h.2 a29 ea29
  refine lv_aload_n hx hb dX6_comes_30 rfl (lv_at hl 1 rfl) ?_
  refine m_get S hw 0 (by decide) q1338 rfl rfl dX6_comes_31 ?_
  refine lv_iload hx hb dX6_comes_34 (lv_at hl 0 rfl) ?_
  refine lv_iconst (v := (2 : Int32)) hx hb dX6_comes_36 (by decide) ?_
  refine lv_iadd hx hb dX6_comes_37 ?_
  refine lv_iload_n hx hb dX6_comes_38 rfl (lv_at hl 4 rfl) ?_
  refine m_ast S hw 1 0 3098 rfl (by decide) rfl h.1 dX6_comes_39 (fun a39 H locs ea39 hw => ?_)
  replace h := h.2 a39 ea39
  refine lv_aload_n hx hb dX6_comes_40 rfl (lv_at hl 1 rfl) ?_
  refine m_get S hw 0 (by decide) q1338 rfl rfl dX6_comes_41 ?_
  refine lv_iload hx hb dX6_comes_44 (lv_at hl 0 rfl) ?_
  refine lv_iconst (v := (3 : Int32)) hx hb dX6_comes_46 (by decide) ?_
  refine lv_iadd hx hb dX6_comes_47 ?_
  refine lv_iconst (v := (1 : Int32)) hx hb dX6_comes_48 (by decide) ?_
  refine m_ast S hw 1 0 3098 rfl (by decide) rfl h.1 dX6_comes_49 (fun a49 H locs ea49 hw => ?_)
  replace h := h.2 a49 ea49
  refine lv_aload_n hx hb dX6_comes_50 rfl (lv_at hl 1 rfl) ?_
  refine m_get S hw 0 (by decide) q1338 rfl rfl dX6_comes_51 ?_
  refine lv_iload hx hb dX6_comes_54 (lv_at hl 0 rfl) ?_
  refine lv_iconst (v := (4 : Int32)) hx hb dX6_comes_56 (by decide) ?_
  refine lv_iadd hx hb dX6_comes_57 ?_
  refine lv_iload hx hb dX6_comes_58 (lv_at hl 5 rfl) ?_
  refine m_ast S hw 1 0 3098 rfl (by decide) rfl h.1 dX6_comes_60 (fun a60 H locs ea60 hw => ?_)
  replace h := h.2 a60 ea60
  refine lv_aload_n hx hb dX6_comes_61 rfl (lv_at hl 1 rfl) ?_
  refine m_get S hw 0 (by decide) q1338 rfl rfl dX6_comes_62 ?_
  refine lv_iload hx hb dX6_comes_65 (lv_at hl 0 rfl) ?_
  refine lv_iconst (v := (5 : Int32)) hx hb dX6_comes_67 (by decide) ?_
  refine lv_iadd hx hb dX6_comes_68 ?_
  refine lv_iconst (v := (0 : Int32)) hx hb dX6_comes_69 (by decide) ?_
  refine m_ast S hw 1 0 3098 rfl (by decide) rfl h.1 dX6_comes_70 (fun a70 H locs ea70 hw => ?_)
  replace h := h.2 a70 ea70
  refine lv_aload_n hx hb dX6_comes_71 rfl (lv_at hl 1 rfl) ?_
  refine m_get S hw 0 (by decide) q1338 rfl rfl dX6_comes_72 ?_
  refine lv_iload hx hb dX6_comes_75 (lv_at hl 0 rfl) ?_
  refine lv_bipush (v := (6 : Int32)) hx hb dX6_comes_77 (by decide) ?_
  refine lv_iadd hx hb dX6_comes_79 ?_
  refine lv_iconst (v := (0 : Int32)) hx hb dX6_comes_80 (by decide) ?_
  refine m_ast S hw 1 0 3098 rfl (by decide) rfl h.1 dX6_comes_81 (fun a81 H locs ea81 hw => ?_)
  replace h := h.2 a81 ea81
  refine lv_aload_n hx hb dX6_comes_82 rfl (lv_at hl 1 rfl) ?_
  refine m_get S hw 0 (by decide) q1338 rfl rfl dX6_comes_83 ?_
  refine lv_iconst (v := (0 : Int32)) hx hb dX6_comes_86 (by decide) ?_
  refine lv_dup2_11 hx hb dX6_comes_87 rfl rfl ?_
  refine m_ald S hw 1 0 3098 rfl (by decide) rfl (vlit (by decide)) dX6_comes_88 ?_
  refine lv_iconst (v := (1 : Int32)) hx hb dX6_comes_89 (by decide) ?_
  refine lv_iadd hx hb dX6_comes_90 ?_
  refine m_ast S hw 1 0 3098 rfl (by decide) rfl (vlit (by decide)) dX6_comes_91 (fun a91 H locs ea91 hw => ?_)
  replace h := h a91 ea91
  exact m_vret S hr hlk hw h dX6_comes_92
theorem ctM_comes (l : Launch) (D : va_G) (dA : Nat → ClassId) (ad : Nat → Nat) (A : Nat → Prop) (a : MS) (x1 : Int32) (x2 : Int32) (x3 : Int32) (x4 : Int32) (Q : MS → Prop) (h : wpM_comes a x1 x2 x3 x4 Q) : Met l yX6_comes (ws_ yX6_comes cX6_comes 6 none) rmM_comes (mPc D dA ad A a [.ref (ad 38), .int x1, .int x2, .int x3, .int x4]) (mQv D dA ad A Q) 0 0 A :=
  m_met (by decide) rfl rfl rfl (Nat.le_of_ble_eq_true rfl) (fun p e s m below meth c ls S hr hlk hw hl => wkM_comes_e S hr hlk Q x1 x2 x3 x4 a _ _ ls h hw hl)
theorem cwM_comes {R : Room} {s : State} {args : Array Value} {rm : Room} (hts : ∀ w ∈ lw_all, w.before args s = true) (hR : rm.frames + 1 ≤ R.frames ∧ 8 + (6 + 11) + rm.locals ≤ R.locals) (hc : rm.cells = 0 := by rfl) (hs : rm.slots = 0 := by rfl) : CallW R s args RX6 RX6 122 yX6_comes cX6_comes 6 none (ws_ yX6_comes cX6_comes 6 none) rm 0 0 4 :=
  cwV 4 hts (lw_V q1470 q1472 qs51 q112 q1473) rfl hc hs (by decide +kernel) hR
/-! isIn -/
abbrev rmM_isIn : Room := { frames := 0, cells := 0, slots := 0, locals := 0 }
def wpM_isIn (a : MS) (x0 : Int64) (x2 : Int64) (x4 : Int64) (Q : Int32 → MS → Prop) : Prop := if (lg_cmp x0 x2) < 0 then (Q (0 : Int32) a) else (if 0 < (lg_cmp x0 x4) then (Q (0 : Int32) a) else (Q (1 : Int32) a))
set_option maxHeartbeats 4000000 in
set_option maxRecDepth 100000 in
theorem wkM_isIn_e (S : CallFix p m c cX6_isIn 6 s args lw_all RX6) (hr : meth.sig.returnType = (some .boolean)) (hlk : meth.locks = false) (Q : Int32 → MS → Prop) (x0 : Int64) (x2 : Int64) (x4 : Int64) (a : MS) (H : Heap) (locs : List Loc) (ls : Array Slot) (h : wpM_isIn a x0 x2 x4 Q) (hw : MW D dA ad A a s H locs) (hl : lv_has ls 6 [(0, .long x0), (2, .long x2), (4, .long x4)]) : W p l e rmM_isIn s m args below meth c H locs 0 0 (MQ below (mQi D dA ad A Q) args s 0 0 A) (F0 m 0 ls []) := by
  have hx := S.1
  have hb := S.2.1
  have hown := S.2.2.2.1
  have hts := S.2.2.2.2
  unfold wpM_isIn at h
  refine lv_lload_n hx hb dX6_isIn_0 rfl (lv_at hl 0 rfl) ?_
  refine lv_lload_n hx hb dX6_isIn_1 rfl (lv_at hl 1 rfl) ?_
  refine W.lcmp hx hb dX6_isIn_2 ?_
  refine lv_if_lt (tgt := 17) hx hb dX6_isIn_3 (by decide) (fun c3 => ?_) (fun c3 => ?_)
  · replace h := if_t c3 h
    refine lv_iconst (v := (0 : Int32)) hx hb dX6_isIn_17 (by decide) ?_
    exact m_zret S hr hlk hw (Or.inl rfl) h dX6_isIn_18
  · replace h := if_f c3 h
    refine lv_lload_n hx hb dX6_isIn_6 rfl (lv_at hl 0 rfl) ?_
    refine lv_lload hx hb dX6_isIn_7 (lv_at hl 2 rfl) ?_
    refine W.lcmp hx hb dX6_isIn_9 ?_
    refine lv_if_gt (tgt := 17) hx hb dX6_isIn_10 (by decide) (fun c10 => ?_) (fun c10 => ?_)
    · replace h := if_t c10 h
      refine lv_iconst (v := (0 : Int32)) hx hb dX6_isIn_17 (by decide) ?_
      exact m_zret S hr hlk hw (Or.inl rfl) h dX6_isIn_18
    · replace h := if_f c10 h
      refine lv_iconst (v := (1 : Int32)) hx hb dX6_isIn_13 (by decide) ?_
      refine lv_goto (tgt := 18) hx hb dX6_isIn_14 (by decide) ?_
      exact m_zret S hr hlk hw (Or.inr rfl) h dX6_isIn_18
theorem ctM_isIn (l : Launch) (D : va_G) (dA : Nat → ClassId) (ad : Nat → Nat) (A : Nat → Prop) (a : MS) (x0 : Int64) (x2 : Int64) (x4 : Int64) (Q : Int32 → MS → Prop) (h : wpM_isIn a x0 x2 x4 Q) : Met l yX6_isIn (ws_ yX6_isIn cX6_isIn 6 (some .boolean)) rmM_isIn (mPc D dA ad A a [.long x0, .long x2, .long x4]) (mQi D dA ad A Q) 0 0 A :=
  m_met (by decide) rfl rfl rfl (Nat.le_of_ble_eq_true rfl) (fun p e s m below meth c ls S hr hlk hw hl => wkM_isIn_e S hr hlk Q x0 x2 x4 a _ _ ls h hw hl)
theorem cwM_isIn {R : Room} {s : State} {args : Array Value} {rm : Room} (hts : ∀ w ∈ lw_all, w.before args s = true) (hR : rm.frames + 1 ≤ R.frames ∧ 8 + (6 + 11) + rm.locals ≤ R.locals) (hc : rm.cells = 0 := by rfl) (hs : rm.slots = 0 := by rfl) : CallB R s args RX6 83 yX6_isIn cX6_isIn 6 (some .boolean) (ws_ yX6_isIn cX6_isIn 6 (some .boolean)) rm 0 0 3 ∧ (Cond.static yX6_isIn).before args s = true :=
  va_cwS 3 hts (lw_S q1458 q1459 q112 q1460) rfl hc hs (by decide +kernel) hR
/-! isLeaf -/
abbrev rmM_isLeaf : Room := { frames := 1, cells := 0, slots := 0, locals := 25 }
def wpM_isLeaf (a : MS) (x1 : Int32) (Q : Int32 → MS → Prop) : Prop := wpM_isIn a x1.toInt64 (0 : Int64) ((a 0 (0 : Int32).toNatClampNeg) - (1 : Int32)).toInt64 (fun r12 a12 => zok r12 ∧ Q r12 a12)
set_option maxHeartbeats 4000000 in
set_option maxRecDepth 100000 in
theorem wkM_isLeaf_e (S : CallFix p m c cX6_isLeaf 2 s args lw_all RX6) (hr : meth.sig.returnType = (some .boolean)) (hlk : meth.locks = false) (Q : Int32 → MS → Prop) (x1 : Int32) (a : MS) (H : Heap) (locs : List Loc) (ls : Array Slot) (h : wpM_isLeaf a x1 Q) (hw : MW D dA ad A a s H locs) (hl : lv_has ls 2 [(0, .ref (ad 38)), (1, .int x1)]) : W p l e rmM_isLeaf s m args below meth c H locs 0 0 (MQ below (mQi D dA ad A Q) args s 0 0 A) (F0 m 0 ls []) := by
  have hx := S.1
  have hb := S.2.1
  have hown := S.2.2.2.1
  have hts := S.2.2.2.2
  unfold wpM_isLeaf at h
  refine lv_iload_n hx hb dX6_isLeaf_0 rfl (lv_at hl 1 rfl) ?_
  refine lv_i2l (v := x1.toInt64) hx hb dX6_isLeaf_1 rfl ?_
  refine lv_lconst (v := 0) hx hb dX6_isLeaf_2 (by decide) ?_
  refine lv_aload_n hx hb dX6_isLeaf_3 rfl (lv_at hl 0 rfl) ?_
  refine m_get S hw 0 (by decide) q1338 rfl rfl dX6_isLeaf_4 ?_
  refine lv_iconst (v := (0 : Int32)) hx hb dX6_isLeaf_7 (by decide) ?_
  refine m_ald S hw 1 0 3098 rfl (by decide) rfl (vlit (by decide)) dX6_isLeaf_8 ?_
  refine lv_iconst (v := (1 : Int32)) hx hb dX6_isLeaf_9 (by decide) ?_
  refine lv_isub hx hb dX6_isLeaf_10 ?_
  refine lv_i2l (v := ((a 0 (0 : Int32).toNatClampNeg) - (1 : Int32)).toInt64) hx hb dX6_isLeaf_11 rfl ?_
  refine m_callSi S hw [.long x1.toInt64, .long (0 : Int64), .long ((a 0 (0 : Int32).toNatClampNeg) - (1 : Int32)).toInt64] [] (ctM_isIn l D dA ad A a x1.toInt64 (0 : Int64) ((a 0 (0 : Int32).toNatClampNeg) - (1 : Int32)).toInt64 _ h) (cwM_isIn hts ⟨Nat.le_of_ble_eq_true rfl, Nat.le_of_ble_eq_true rfl⟩) rfl hl.1 rfl (Nat.le_of_ble_eq_true rfl) dX6_isLeaf_12 ⟨Nat.zero_le _, Nat.zero_le _⟩ (fun r12 a12 H locs h hw => ?_)
  exact m_zret S hr hlk hw h.1 h.2 dX6_isLeaf_15
theorem ctM_isLeaf (l : Launch) (D : va_G) (dA : Nat → ClassId) (ad : Nat → Nat) (A : Nat → Prop) (a : MS) (x1 : Int32) (Q : Int32 → MS → Prop) (h : wpM_isLeaf a x1 Q) : Met l yX6_isLeaf (ws_ yX6_isLeaf cX6_isLeaf 2 (some .boolean)) rmM_isLeaf (mPc D dA ad A a [.ref (ad 38), .int x1]) (mQi D dA ad A Q) 0 0 A :=
  m_met (by decide) rfl rfl rfl (Nat.le_of_ble_eq_true rfl) (fun p e s m below meth c ls S hr hlk hw hl => wkM_isLeaf_e S hr hlk Q x1 a _ _ ls h hw hl)
theorem cwM_isLeaf {R : Room} {s : State} {args : Array Value} {rm : Room} (hts : ∀ w ∈ lw_all, w.before args s = true) (hR : rm.frames + 1 ≤ R.frames ∧ 8 + (2 + 11) + rm.locals ≤ R.locals) (hc : rm.cells = 0 := by rfl) (hs : rm.slots = 0 := by rfl) : CallW R s args RX6 RX6 116 yX6_isLeaf cX6_isLeaf 2 (some .boolean) (ws_ yX6_isLeaf cX6_isLeaf 2 (some .boolean)) rm 0 0 1 :=
  cwV 1 hts (lw_V q1464 q1466 qs50 q112 q1467) rfl hc hs (by decide +kernel) hR
/-! leaf -/
abbrev rmM_leaf : Room := { frames := 2, cells := 0, slots := 0, locals := 46 }
def bkM_leaf_86 (Q : Int32 → MS → Prop) (x1 : Int32) (x2 : Int32) (x3 : Int32) (x4 : Int32) : Int32 → Int32 → Int32 → Int32 → MS → Prop := fun s1 s2 s3 s4 a => wpM_comes a s1 s2 s3 s4 (fun a86 => Q ((a86 0 (0 : Int32).toNatClampNeg) - (1 : Int32)) a86)
set_option maxHeartbeats 4000000 in
set_option maxRecDepth 100000 in
theorem wkM_leaf_86 (S : CallFix p m c cX6_leaf 5 s args lw_all RX6) (hr : meth.sig.returnType = (some .int)) (hlk : meth.locks = false) (Q : Int32 → MS → Prop) (x1 : Int32) (x2 : Int32) (x3 : Int32) (x4 : Int32) : ∀ (s1 : Int32) (s2 : Int32) (s3 : Int32) (s4 : Int32) (a : MS) (H : Heap) (locs : List Loc) (ls : Array Slot), bkM_leaf_86 Q x1 x2 x3 x4 s1 s2 s3 s4 a → MW D dA ad A a s H locs → lv_has ls 5 [(0, .ref (ad 38))] → W p l e rmM_leaf s m args below meth c H locs 0 0 (MQ below (mQi D dA ad A Q) args s 0 0 A) (F0 m 86 ls [.int s4, .int s3, .int s2, .int s1, .ref (ad 38)]) := by
  have hx := S.1
  have hb := S.2.1
  have hown := S.2.2.2.1
  have hts := S.2.2.2.2
  intro s1 s2 s3 s4 a H locs ls h hw hl
  unfold bkM_leaf_86 at h
  refine m_callv S hw [.int s1, .int s2, .int s3, .int s4] [] (ctM_comes l D dA ad A a s1 s2 s3 s4 _ h) (cwM_comes hts ⟨Nat.le_of_ble_eq_true rfl, Nat.le_of_ble_eq_true rfl⟩) rfl hl.1 rfl (Nat.le_of_ble_eq_true rfl) dX6_leaf_86 ⟨Nat.zero_le _, Nat.zero_le _⟩ (fun a86 H locs h hw => ?_)
  refine lv_aload_n hx hb dX6_leaf_89 rfl (lv_at hl 0 rfl) ?_
  refine m_get S hw 0 (by decide) q1338 rfl rfl dX6_leaf_90 ?_
  refine lv_iconst (v := (0 : Int32)) hx hb dX6_leaf_93 (by decide) ?_
  refine m_ald S hw 1 0 3098 rfl (by decide) rfl (vlit (by decide)) dX6_leaf_94 ?_
  refine lv_iconst (v := (1 : Int32)) hx hb dX6_leaf_95 (by decide) ?_
  refine lv_isub hx hb dX6_leaf_96 ?_
  exact m_iret S hr hlk hw h dX6_leaf_97
def bkM_leaf_55 (Q : Int32 → MS → Prop) (x1 : Int32) (x2 : Int32) (x3 : Int32) (x4 : Int32) : MS → Prop := fun a => if (a 0 (0 : Int32).toNatClampNeg) = (8 : Int32) then (Q (-1000000003 : Int32) a) else (if x4 = (-1000000005 : Int32) then (bkM_leaf_86 Q x1 x2 x3 x4 x1 x2 x3 (-1 : Int32) a) else (bkM_leaf_86 Q x1 x2 x3 x4 x1 x2 x3 x4 a))
set_option maxHeartbeats 4000000 in
set_option maxRecDepth 100000 in
theorem wkM_leaf_55 (S : CallFix p m c cX6_leaf 5 s args lw_all RX6) (hr : meth.sig.returnType = (some .int)) (hlk : meth.locks = false) (Q : Int32 → MS → Prop) (x1 : Int32) (x2 : Int32) (x3 : Int32) (x4 : Int32) : ∀ (a : MS) (H : Heap) (locs : List Loc) (ls : Array Slot), bkM_leaf_55 Q x1 x2 x3 x4 a → MW D dA ad A a s H locs → lv_has ls 5 [(0, .ref (ad 38)), (1, .int x1), (2, .int x2), (3, .int x3), (4, .int x4)] → W p l e rmM_leaf s m args below meth c H locs 0 0 (MQ below (mQi D dA ad A Q) args s 0 0 A) (F0 m 55 ls []) := by
  have hx := S.1
  have hb := S.2.1
  have hown := S.2.2.2.1
  have hts := S.2.2.2.2
  intro  a H locs ls h hw hl
  unfold bkM_leaf_55 at h
  refine lv_aload_n hx hb dX6_leaf_55 rfl (lv_at hl 0 rfl) ?_
  refine m_get S hw 0 (by decide) q1338 rfl rfl dX6_leaf_56 ?_
  refine lv_iconst (v := (0 : Int32)) hx hb dX6_leaf_59 (by decide) ?_
  refine m_ald S hw 1 0 3098 rfl (by decide) rfl (vlit (by decide)) dX6_leaf_60 ?_
  refine lv_bipush (v := (8 : Int32)) hx hb dX6_leaf_61 (by decide) ?_
  refine lv_icmp_ne (tgt := 69) hx hb dX6_leaf_63 (by decide) (fun c63 => ?_) (fun c63 => ?_)
  · replace h := if_f c63 h
    refine lv_aload_n hx hb dX6_leaf_69 rfl (lv_at hl 0 rfl) ?_
    refine lv_iload_n hx hb dX6_leaf_70 rfl (lv_at hl 1 rfl) ?_
    refine lv_iload_n hx hb dX6_leaf_71 rfl (lv_at hl 2 rfl) ?_
    refine lv_iload_n hx hb dX6_leaf_72 rfl (lv_at hl 3 rfl) ?_
    refine lv_iload hx hb dX6_leaf_73 (lv_at hl 4 rfl) ?_
    refine lv_ldc hx hb hown (hts _ q1463) dX6_leaf_75 ?_
    refine lv_icmp_ne (tgt := 84) hx hb dX6_leaf_77 (by decide) (fun c77 => ?_) (fun c77 => ?_)
    · replace h := if_f c77 h
      refine lv_iload hx hb dX6_leaf_84 (lv_at hl 4 rfl) ?_
      exact wkM_leaf_86 S hr hlk Q x1 x2 x3 x4 _ _ _ _ _ _ _ _ h hw (lv_sub hl [0] rfl)
    · replace h := if_t c77 h
      refine lv_iconst (v := (-1 : Int32)) hx hb dX6_leaf_80 (by decide) ?_
      refine lv_goto (tgt := 86) hx hb dX6_leaf_81 (by decide) ?_
      exact wkM_leaf_86 S hr hlk Q x1 x2 x3 x4 _ _ _ _ _ _ _ _ h hw (lv_sub hl [0] rfl)
  · replace h := if_t c63 h
    refine lv_ldc hx hb hown (hts _ q1469) dX6_leaf_66 ?_
    exact m_iret S hr hlk hw h dX6_leaf_68
def wpM_leaf (a : MS) (x1 : Int32) (x2 : Int32) (x3 : Int32) (x4 : Int32) (Q : Int32 → MS → Prop) : Prop := wpM_isIn a x1.toInt64 (0 : Int64) (5 : Int64) (fun r6 a6 => if r6 = 0 then (Q (-1000000001 : Int32) a6) else (wpM_isIn a6 x2.toInt64 (1 : Int64) (9 : Int64) (fun r18 a18 => if r18 = 0 then (Q (-1000000001 : Int32) a18) else (wpM_isIn a18 x3.toInt64 (0 : Int64) (99 : Int64) (fun r30 a30 => if r30 = 0 then (Q (-1000000001 : Int32) a30) else (if x4 = (-1000000005 : Int32) then (bkM_leaf_55 Q x1 x2 x3 x4 a30) else (wpM_isLeaf a30 x4 (fun r46 a46 => if r46 = 0 then (Q (-1000000001 : Int32) a46) else (bkM_leaf_55 Q x1 x2 x3 x4 a46)))))))))
set_option maxHeartbeats 4000000 in
set_option maxRecDepth 100000 in
theorem wkM_leaf_e (S : CallFix p m c cX6_leaf 5 s args lw_all RX6) (hr : meth.sig.returnType = (some .int)) (hlk : meth.locks = false) (Q : Int32 → MS → Prop) (x1 : Int32) (x2 : Int32) (x3 : Int32) (x4 : Int32) (a : MS) (H : Heap) (locs : List Loc) (ls : Array Slot) (h : wpM_leaf a x1 x2 x3 x4 Q) (hw : MW D dA ad A a s H locs) (hl : lv_has ls 5 [(0, .ref (ad 38)), (1, .int x1), (2, .int x2), (3, .int x3), (4, .int x4)]) : W p l e rmM_leaf s m args below meth c H locs 0 0 (MQ below (mQi D dA ad A Q) args s 0 0 A) (F0 m 0 ls []) := by
  have hx := S.1
  have hb := S.2.1
  have hown := S.2.2.2.1
  have hts := S.2.2.2.2
  unfold wpM_leaf at h
  refine lv_iload_n hx hb dX6_leaf_0 rfl (lv_at hl 1 rfl) ?_
  refine lv_i2l (v := x1.toInt64) hx hb dX6_leaf_1 rfl ?_
  refine lv_lconst (v := 0) hx hb dX6_leaf_2 (by decide) ?_
  refine lv_ldc2 hx hb hown (hts _ q1457) dX6_leaf_3 ?_
  refine m_callSi S hw [.long x1.toInt64, .long (0 : Int64), .long (5 : Int64)] [] (ctM_isIn l D dA ad A a x1.toInt64 (0 : Int64) (5 : Int64) _ h) (cwM_isIn hts ⟨Nat.le_of_ble_eq_true rfl, Nat.le_of_ble_eq_true rfl⟩) rfl hl.1 rfl (Nat.le_of_ble_eq_true rfl) dX6_leaf_6 ⟨Nat.zero_le _, Nat.zero_le _⟩ (fun r6 a6 H locs h hw => ?_)
  refine lv_if_eq (tgt := 52) hx hb dX6_leaf_9 (by decide) (fun c9 => ?_) (fun c9 => ?_)
  · replace h := if_t c9 h
    refine lv_ldc hx hb hown (hts _ q1468) dX6_leaf_52 ?_
    exact m_iret S hr hlk hw h dX6_leaf_54
  · replace h := if_f c9 h
    refine lv_iload_n hx hb dX6_leaf_12 rfl (lv_at hl 2 rfl) ?_
    refine lv_i2l (v := x2.toInt64) hx hb dX6_leaf_13 rfl ?_
    refine lv_lconst (v := 1) hx hb dX6_leaf_14 (by decide) ?_
    refine lv_ldc2 hx hb hown (hts _ q1461) dX6_leaf_15 ?_
    refine m_callSi S hw [.long x2.toInt64, .long (1 : Int64), .long (9 : Int64)] [] (ctM_isIn l D dA ad A a6 x2.toInt64 (1 : Int64) (9 : Int64) _ h) (cwM_isIn hts ⟨Nat.le_of_ble_eq_true rfl, Nat.le_of_ble_eq_true rfl⟩) rfl hl.1 rfl (Nat.le_of_ble_eq_true rfl) dX6_leaf_18 ⟨Nat.zero_le _, Nat.zero_le _⟩ (fun r18 a18 H locs h hw => ?_)
    refine lv_if_eq (tgt := 52) hx hb dX6_leaf_21 (by decide) (fun c21 => ?_) (fun c21 => ?_)
    · replace h := if_t c21 h
      refine lv_ldc hx hb hown (hts _ q1468) dX6_leaf_52 ?_
      exact m_iret S hr hlk hw h dX6_leaf_54
    · replace h := if_f c21 h
      refine lv_iload_n hx hb dX6_leaf_24 rfl (lv_at hl 3 rfl) ?_
      refine lv_i2l (v := x3.toInt64) hx hb dX6_leaf_25 rfl ?_
      refine lv_lconst (v := 0) hx hb dX6_leaf_26 (by decide) ?_
      refine lv_ldc2 hx hb hown (hts _ q1462) dX6_leaf_27 ?_
      refine m_callSi S hw [.long x3.toInt64, .long (0 : Int64), .long (99 : Int64)] [] (ctM_isIn l D dA ad A a18 x3.toInt64 (0 : Int64) (99 : Int64) _ h) (cwM_isIn hts ⟨Nat.le_of_ble_eq_true rfl, Nat.le_of_ble_eq_true rfl⟩) rfl hl.1 rfl (Nat.le_of_ble_eq_true rfl) dX6_leaf_30 ⟨Nat.zero_le _, Nat.zero_le _⟩ (fun r30 a30 H locs h hw => ?_)
      refine lv_if_eq (tgt := 52) hx hb dX6_leaf_33 (by decide) (fun c33 => ?_) (fun c33 => ?_)
      · replace h := if_t c33 h
        refine lv_ldc hx hb hown (hts _ q1468) dX6_leaf_52 ?_
        exact m_iret S hr hlk hw h dX6_leaf_54
      · replace h := if_f c33 h
        refine lv_iload hx hb dX6_leaf_36 (lv_at hl 4 rfl) ?_
        refine lv_ldc hx hb hown (hts _ q1463) dX6_leaf_38 ?_
        refine lv_icmp_eq (tgt := 55) hx hb dX6_leaf_40 (by decide) (fun c40 => ?_) (fun c40 => ?_)
        · replace h := if_t c40 h
          exact wkM_leaf_55 S hr hlk Q x1 x2 x3 x4 _ _ _ _ h hw (lv_sub hl [0, 1, 2, 3, 4] rfl)
        · replace h := if_f c40 h
          refine lv_aload_n hx hb dX6_leaf_43 rfl (lv_at hl 0 rfl) ?_
          refine lv_iload hx hb dX6_leaf_44 (lv_at hl 4 rfl) ?_
          refine m_calli S hw [.int x4] [] (ctM_isLeaf l D dA ad A a30 x4 _ h) (cwM_isLeaf hts ⟨Nat.le_of_ble_eq_true rfl, Nat.le_of_ble_eq_true rfl⟩) rfl hl.1 rfl (Nat.le_of_ble_eq_true rfl) dX6_leaf_46 ⟨Nat.zero_le _, Nat.zero_le _⟩ (fun r46 a46 H locs h hw => ?_)
          refine lv_if_ne (tgt := 55) hx hb dX6_leaf_49 (by decide) (fun c49 => ?_) (fun c49 => ?_)
          · replace h := if_f c49 h
            exact wkM_leaf_55 S hr hlk Q x1 x2 x3 x4 _ _ _ _ h hw (lv_sub hl [0, 1, 2, 3, 4] rfl)
          · replace h := if_t c49 h
            refine lv_ldc hx hb hown (hts _ q1468) dX6_leaf_52 ?_
            exact m_iret S hr hlk hw h dX6_leaf_54
theorem ctM_leaf (l : Launch) (D : va_G) (dA : Nat → ClassId) (ad : Nat → Nat) (A : Nat → Prop) (a : MS) (x1 : Int32) (x2 : Int32) (x3 : Int32) (x4 : Int32) (Q : Int32 → MS → Prop) (h : wpM_leaf a x1 x2 x3 x4 Q) : Met l yX6_leaf (ws_ yX6_leaf cX6_leaf 5 (some .int)) rmM_leaf (mPc D dA ad A a [.ref (ad 38), .int x1, .int x2, .int x3, .int x4]) (mQi D dA ad A Q) 0 0 A :=
  m_met (by decide) rfl rfl rfl (Nat.le_of_ble_eq_true rfl) (fun p e s m below meth c ls S hr hlk hw hl => wkM_leaf_e S hr hlk Q x1 x2 x3 x4 a _ _ ls h hw hl)
/-! isRead -/
abbrev rmM_isRead : Room := { frames := 1, cells := 0, slots := 0, locals := 21 }
def bkM_isRead_31 (Q : Int32 → MS → Prop) (x1 : Int32) (x2 : Int32) : Int32 → MS → Prop := fun x3 a => if 0 ≤ x3 then (Q (0 : Int32) a) else (Q (1 : Int32) a)
set_option maxHeartbeats 4000000 in
set_option maxRecDepth 100000 in
theorem wkM_isRead_31 (S : CallFix p m c cX6_isRead 4 s args lw_all RX6) (hr : meth.sig.returnType = (some .boolean)) (hlk : meth.locks = false) (Q : Int32 → MS → Prop) (x1 : Int32) (x2 : Int32) : ∀ (x3 : Int32) (a : MS) (H : Heap) (locs : List Loc) (ls : Array Slot), bkM_isRead_31 Q x1 x2 x3 a → MW D dA ad A a s H locs → lv_has ls 4 [(3, .int x3)] → W p l e rmM_isRead s m args below meth c H locs 0 0 (MQ below (mQi D dA ad A Q) args s 0 0 A) (F0 m 31 ls []) := by
  have hx := S.1
  have hb := S.2.1
  have hown := S.2.2.2.1
  have hts := S.2.2.2.2
  intro x3 a H locs ls h hw hl
  unfold bkM_isRead_31 at h
  refine lv_iload_n hx hb dX6_isRead_31 rfl (lv_at hl 0 rfl) ?_
  refine lv_if_ge (tgt := 39) hx hb dX6_isRead_32 (by decide) (fun c32 => ?_) (fun c32 => ?_)
  · replace h := if_t c32 h
    refine lv_iconst (v := (0 : Int32)) hx hb dX6_isRead_39 (by decide) ?_
    exact m_zret S hr hlk hw (Or.inl rfl) h dX6_isRead_40
  · replace h := if_f c32 h
    refine lv_iconst (v := (1 : Int32)) hx hb dX6_isRead_35 (by decide) ?_
    refine lv_goto (tgt := 40) hx hb dX6_isRead_36 (by decide) ?_
    exact m_zret S hr hlk hw (Or.inr rfl) h dX6_isRead_40
def bkM_isRead_2 (Q : Int32 → MS → Prop) (x1 : Int32) (x2 : Int32) : Nat → Int32 → MS → Prop
  | 0 => fun _ _ => False
  | n + 1 => fun x3 a => if x3 < 0 then (bkM_isRead_31 Q x1 x2 x3 a) else (if ((ishr x1 x3) &&& (1 : Int32)) = (1 : Int32) then (wpM_leafAt a x3 (fun r21 a21 => vp_in (r21 + (4 : Int32)) 3098 ∧ (bkM_isRead_2 Q x1 x2 n (a21 0 (r21 + (4 : Int32)).toNatClampNeg) a21))) else (bkM_isRead_31 Q x1 x2 x3 a))
set_option maxHeartbeats 4000000 in
set_option maxRecDepth 100000 in
theorem wkM_isRead_2 (S : CallFix p m c cX6_isRead 4 s args lw_all RX6) (hr : meth.sig.returnType = (some .boolean)) (hlk : meth.locks = false) (Q : Int32 → MS → Prop) (x1 : Int32) (x2 : Int32) : ∀ (n : Nat) (x3 : Int32) (a : MS) (H : Heap) (locs : List Loc) (ls : Array Slot), bkM_isRead_2 Q x1 x2 n x3 a → MW D dA ad A a s H locs → lv_has ls 4 [(0, .ref (ad 38)), (1, .int x1), (3, .int x3)] → W p l e rmM_isRead s m args below meth c H locs 0 0 (MQ below (mQi D dA ad A Q) args s 0 0 A) (F0 m 2 ls []) := by
  have hx := S.1
  have hb := S.2.1
  have hown := S.2.2.2.1
  have hts := S.2.2.2.2
  intro n
  induction n with
  | zero =>
    intro x3 a H locs ls h
    exact False.elim h
  | succ n ih =>
    intro x3 a H locs ls h hw hl
    unfold bkM_isRead_2 at h
    refine lv_iload_n hx hb dX6_isRead_2 rfl (lv_at hl 2 rfl) ?_
    refine lv_if_lt (tgt := 31) hx hb dX6_isRead_3 (by decide) (fun c3 => ?_) (fun c3 => ?_)
    · replace h := if_t c3 h
      exact wkM_isRead_31 S hr hlk Q x1 x2 _ _ _ _ _ h hw (lv_sub hl [2] rfl)
    · replace h := if_f c3 h
      refine lv_iload_n hx hb dX6_isRead_6 rfl (lv_at hl 1 rfl) ?_
      refine lv_iload_n hx hb dX6_isRead_7 rfl (lv_at hl 2 rfl) ?_
      refine lv_ishr hx hb dX6_isRead_8 ?_
      refine lv_iconst (v := (1 : Int32)) hx hb dX6_isRead_9 (by decide) ?_
      refine lv_iand hx hb dX6_isRead_10 ?_
      refine lv_iconst (v := (1 : Int32)) hx hb dX6_isRead_11 (by decide) ?_
      refine lv_icmp_ne (tgt := 31) hx hb dX6_isRead_12 (by decide) (fun c12 => ?_) (fun c12 => ?_)
      · replace h := if_f c12 h
        exact wkM_isRead_31 S hr hlk Q x1 x2 _ _ _ _ _ h hw (lv_sub hl [2] rfl)
      · replace h := if_t c12 h
        refine lv_aload_n hx hb dX6_isRead_15 rfl (lv_at hl 0 rfl) ?_
        refine m_get S hw 0 (by decide) q1338 rfl rfl dX6_isRead_16 ?_
        refine lv_aload_n hx hb dX6_isRead_19 rfl (lv_at hl 0 rfl) ?_
        refine lv_iload_n hx hb dX6_isRead_20 rfl (lv_at hl 2 rfl) ?_
        refine m_calli S hw [.int x3] [.ref (ad 0)] (ctM_leafAt l D dA ad A a x3 _ h) (cwM_leafAt hts ⟨Nat.le_of_ble_eq_true rfl, Nat.le_of_ble_eq_true rfl⟩) rfl hl.1 rfl (Nat.le_of_ble_eq_true rfl) dX6_isRead_21 ⟨Nat.zero_le _, Nat.zero_le _⟩ (fun r21 a21 H locs h hw => ?_)
        refine lv_iconst (v := (4 : Int32)) hx hb dX6_isRead_24 (by decide) ?_
        refine lv_iadd hx hb dX6_isRead_25 ?_
        refine m_ald S hw 1 0 3098 rfl (by decide) rfl h.1 dX6_isRead_26 ?_
        replace h := h.2
        refine lv_istore_n (lv' := [(3, .int (a21 0 (r21 + (4 : Int32)).toNatClampNeg)), (0, .ref (ad 38)), (1, .int x1)]) hx hb dX6_isRead_27 rfl hl (by decide) rfl (fun ls hl => ?_)
        refine lv_goto (tgt := 2) hx hb dX6_isRead_28 (by decide) ?_
        exact ih _ _ _ _ _ h hw (lv_sub hl [1, 2, 0] rfl)
def wpM_isRead (a : MS) (x1 : Int32) (x2 : Int32) (Q : Int32 → MS → Prop) : Prop := ∃ n2, bkM_isRead_2 Q x1 x2 n2 x2 a
set_option maxHeartbeats 4000000 in
set_option maxRecDepth 100000 in
theorem wkM_isRead_e (S : CallFix p m c cX6_isRead 4 s args lw_all RX6) (hr : meth.sig.returnType = (some .boolean)) (hlk : meth.locks = false) (Q : Int32 → MS → Prop) (x1 : Int32) (x2 : Int32) (a : MS) (H : Heap) (locs : List Loc) (ls : Array Slot) (h : wpM_isRead a x1 x2 Q) (hw : MW D dA ad A a s H locs) (hl : lv_has ls 4 [(0, .ref (ad 38)), (1, .int x1), (2, .int x2)]) : W p l e rmM_isRead s m args below meth c H locs 0 0 (MQ below (mQi D dA ad A Q) args s 0 0 A) (F0 m 0 ls []) := by
  have hx := S.1
  have hb := S.2.1
  have hown := S.2.2.2.1
  have hts := S.2.2.2.2
  unfold wpM_isRead at h
  refine lv_iload_n hx hb dX6_isRead_0 rfl (lv_at hl 2 rfl) ?_
  refine lv_istore_n (lv' := [(3, .int x2), (0, .ref (ad 38)), (1, .int x1), (2, .int x2)]) hx hb dX6_isRead_1 rfl hl (by decide) rfl (fun ls hl => ?_)
  obtain ⟨n2, h⟩ := h
  exact wkM_isRead_2 S hr hlk Q x1 x2 n2 _ _ _ _ _ h hw (lv_sub hl [1, 2, 0] rfl)
theorem ctM_isRead (l : Launch) (D : va_G) (dA : Nat → ClassId) (ad : Nat → Nat) (A : Nat → Prop) (a : MS) (x1 : Int32) (x2 : Int32) (Q : Int32 → MS → Prop) (h : wpM_isRead a x1 x2 Q) : Met l yX6_isRead (ws_ yX6_isRead cX6_isRead 4 (some .boolean)) rmM_isRead (mPc D dA ad A a [.ref (ad 38), .int x1, .int x2]) (mQi D dA ad A Q) 0 0 A :=
  m_met (by decide) rfl rfl rfl (Nat.le_of_ble_eq_true rfl) (fun p e s m below meth c ls S hr hlk hw hl => wkM_isRead_e S hr hlk Q x1 x2 a _ _ ls h hw hl)
theorem cwM_isRead {R : Room} {s : State} {args : Array Value} {rm : Room} (hts : ∀ w ∈ lw_all, w.before args s = true) (hR : rm.frames + 1 ≤ R.frames ∧ 8 + (4 + 11) + rm.locals ≤ R.locals) (hc : rm.cells = 0 := by rfl) (hs : rm.slots = 0 := by rfl) : CallW R s args RX6 RX6 136 yX6_isRead cX6_isRead 4 (some .boolean) (ws_ yX6_isRead cX6_isRead 4 (some .boolean)) rm 0 0 2 :=
  cwV 2 hts (lw_V q1524 q1526 qs62 q112 q1527) rfl hc hs (by decide +kernel) hR
/-! textAt -/
abbrev rmM_textAt : Room := { frames := 0, cells := 0, slots := 0, locals := 0 }
def wpM_textAt (a : MS) (x1 : Int32) (Q : Int32 → MS → Prop) : Prop := Q ((98 : Int32) + ((200 : Int32) * x1)) a
set_option maxHeartbeats 4000000 in
set_option maxRecDepth 100000 in
theorem wkM_textAt_e (S : CallFix p m c cX6_textAt 2 s args lw_all RX6) (hr : meth.sig.returnType = (some .int)) (hlk : meth.locks = false) (Q : Int32 → MS → Prop) (x1 : Int32) (a : MS) (H : Heap) (locs : List Loc) (ls : Array Slot) (h : wpM_textAt a x1 Q) (hw : MW D dA ad A a s H locs) (hl : lv_has ls 2 [(0, .ref (ad 38)), (1, .int x1)]) : W p l e rmM_textAt s m args below meth c H locs 0 0 (MQ below (mQi D dA ad A Q) args s 0 0 A) (F0 m 0 ls []) := by
  have hx := S.1
  have hb := S.2.1
  have hown := S.2.2.2.1
  have hts := S.2.2.2.2
  unfold wpM_textAt at h
  refine lv_bipush (v := (98 : Int32)) hx hb dX6_textAt_0 (by decide) ?_
  refine lv_sipush (v := (200 : Int32)) hx hb dX6_textAt_2 (by decide) ?_
  refine lv_iload_n hx hb dX6_textAt_5 rfl (lv_at hl 1 rfl) ?_
  refine lv_imul hx hb dX6_textAt_6 ?_
  refine lv_iadd hx hb dX6_textAt_7 ?_
  exact m_iret S hr hlk hw h dX6_textAt_8
theorem ctM_textAt (l : Launch) (D : va_G) (dA : Nat → ClassId) (ad : Nat → Nat) (A : Nat → Prop) (a : MS) (x1 : Int32) (Q : Int32 → MS → Prop) (h : wpM_textAt a x1 Q) : Met l yX6_textAt (ws_ yX6_textAt cX6_textAt 2 (some .int)) rmM_textAt (mPc D dA ad A a [.ref (ad 38), .int x1]) (mQi D dA ad A Q) 0 0 A :=
  m_met (by decide) rfl rfl rfl (Nat.le_of_ble_eq_true rfl) (fun p e s m below meth c ls S hr hlk hw hl => wkM_textAt_e S hr hlk Q x1 a _ _ ls h hw hl)
theorem cwM_textAt {R : Room} {s : State} {args : Array Value} {rm : Room} (hts : ∀ w ∈ lw_all, w.before args s = true) (hR : rm.frames + 1 ≤ R.frames ∧ 8 + (2 + 11) + rm.locals ≤ R.locals) (hc : rm.cells = 0 := by rfl) (hs : rm.slots = 0 := by rfl) : CallW R s args RX6 RX6 320 yX6_textAt cX6_textAt 2 (some .int) (ws_ yX6_textAt cX6_textAt 2 (some .int)) rm 0 0 1 :=
  cwV 1 hts (lw_V q1497 q1499 qs56 q112 q1500) rfl hc hs (by decide +kernel) hR
/-! counts -/
abbrev rmM_counts : Room := { frames := 1, cells := 0, slots := 0, locals := 21 }
def bkM_counts_4 (Q : Int32 → MS → Prop) (x1 : Int32) : Nat → Int32 → Int32 → MS → Prop
  | 0 => fun _ _ _ => False
  | n + 1 => fun x2 x3 a => if (a 0 (1 : Int32).toNatClampNeg) ≤ x3 then (Q x2 a) else (wpM_textAt a x3 (fun r20 a20 => vp_in r20 3098 ∧ (if (a20 0 r20.toNatClampNeg) = x1 then (bkM_counts_4 Q x1 n x3 (x3 + (1 : Int32)) a20) else (bkM_counts_4 Q x1 n x2 (x3 + (1 : Int32)) a20))))
set_option maxHeartbeats 4000000 in
set_option maxRecDepth 100000 in
theorem wkM_counts_4 (S : CallFix p m c cX6_counts 4 s args lw_all RX6) (hr : meth.sig.returnType = (some .int)) (hlk : meth.locks = false) (Q : Int32 → MS → Prop) (x1 : Int32) : ∀ (n : Nat) (x2 : Int32) (x3 : Int32) (a : MS) (H : Heap) (locs : List Loc) (ls : Array Slot), bkM_counts_4 Q x1 n x2 x3 a → MW D dA ad A a s H locs → lv_has ls 4 [(0, .ref (ad 38)), (1, .int x1), (2, .int x2), (3, .int x3)] → W p l e rmM_counts s m args below meth c H locs 0 0 (MQ below (mQi D dA ad A Q) args s 0 0 A) (F0 m 4 ls []) := by
  have hx := S.1
  have hb := S.2.1
  have hown := S.2.2.2.1
  have hts := S.2.2.2.2
  intro n
  induction n with
  | zero =>
    intro x2 x3 a H locs ls h
    exact False.elim h
  | succ n ih =>
    intro x2 x3 a H locs ls h hw hl
    unfold bkM_counts_4 at h
    refine lv_iload_n hx hb dX6_counts_4 rfl (lv_at hl 3 rfl) ?_
    refine lv_aload_n hx hb dX6_counts_5 rfl (lv_at hl 0 rfl) ?_
    refine m_get S hw 0 (by decide) q1338 rfl rfl dX6_counts_6 ?_
    refine lv_iconst (v := (1 : Int32)) hx hb dX6_counts_9 (by decide) ?_
    refine m_ald S hw 1 0 3098 rfl (by decide) rfl (vlit (by decide)) dX6_counts_10 ?_
    refine lv_icmp_ge (tgt := 40) hx hb dX6_counts_11 (by decide) (fun c11 => ?_) (fun c11 => ?_)
    · replace h := if_t c11 h
      refine lv_iload_n hx hb dX6_counts_40 rfl (lv_at hl 2 rfl) ?_
      exact m_iret S hr hlk hw h dX6_counts_41
    · replace h := if_f c11 h
      refine lv_aload_n hx hb dX6_counts_14 rfl (lv_at hl 0 rfl) ?_
      refine m_get S hw 0 (by decide) q1338 rfl rfl dX6_counts_15 ?_
      refine lv_aload_n hx hb dX6_counts_18 rfl (lv_at hl 0 rfl) ?_
      refine lv_iload_n hx hb dX6_counts_19 rfl (lv_at hl 3 rfl) ?_
      refine m_calli S hw [.int x3] [.ref (ad 0)] (ctM_textAt l D dA ad A a x3 _ h) (cwM_textAt hts ⟨Nat.le_of_ble_eq_true rfl, Nat.le_of_ble_eq_true rfl⟩) rfl hl.1 rfl (Nat.le_of_ble_eq_true rfl) dX6_counts_20 ⟨Nat.zero_le _, Nat.zero_le _⟩ (fun r20 a20 H locs h hw => ?_)
      refine m_ald S hw 1 0 3098 rfl (by decide) rfl h.1 dX6_counts_23 ?_
      replace h := h.2
      refine lv_iload_n hx hb dX6_counts_24 rfl (lv_at hl 1 rfl) ?_
      refine lv_icmp_ne (tgt := 32) hx hb dX6_counts_25 (by decide) (fun c25 => ?_) (fun c25 => ?_)
      · replace h := if_f c25 h
        refine lv_iload_n hx hb dX6_counts_32 rfl (lv_at hl 2 rfl) ?_
        refine lv_istore_n (lv' := [(2, .int x2), (0, .ref (ad 38)), (1, .int x1), (3, .int x3)]) hx hb dX6_counts_33 rfl hl (by decide) rfl (fun ls hl => ?_)
        refine lv_iinc (v := (x3 + (1 : Int32))) (lv' := [(3, .int (x3 + (1 : Int32))), (2, .int x2), (0, .ref (ad 38)), (1, .int x1)]) hx hb dX6_counts_34 hl (k := 3) rfl rfl (by decide) rfl (fun ls hl => ?_)
        refine lv_goto (tgt := 4) hx hb dX6_counts_37 (by decide) ?_
        exact ih _ _ _ _ _ _ h hw (lv_sub hl [2, 3, 1, 0] rfl)
      · replace h := if_t c25 h
        refine lv_iload_n hx hb dX6_counts_28 rfl (lv_at hl 3 rfl) ?_
        refine lv_goto (tgt := 33) hx hb dX6_counts_29 (by decide) ?_
        refine lv_istore_n (lv' := [(2, .int x3), (0, .ref (ad 38)), (1, .int x1), (3, .int x3)]) hx hb dX6_counts_33 rfl hl (by decide) rfl (fun ls hl => ?_)
        refine lv_iinc (v := (x3 + (1 : Int32))) (lv' := [(3, .int (x3 + (1 : Int32))), (2, .int x3), (0, .ref (ad 38)), (1, .int x1)]) hx hb dX6_counts_34 hl (k := 3) rfl rfl (by decide) rfl (fun ls hl => ?_)
        refine lv_goto (tgt := 4) hx hb dX6_counts_37 (by decide) ?_
        exact ih _ _ _ _ _ _ h hw (lv_sub hl [2, 3, 1, 0] rfl)
def wpM_counts (a : MS) (x1 : Int32) (Q : Int32 → MS → Prop) : Prop := ∃ n4, bkM_counts_4 Q x1 n4 (-1 : Int32) (0 : Int32) a
set_option maxHeartbeats 4000000 in
set_option maxRecDepth 100000 in
theorem wkM_counts_e (S : CallFix p m c cX6_counts 4 s args lw_all RX6) (hr : meth.sig.returnType = (some .int)) (hlk : meth.locks = false) (Q : Int32 → MS → Prop) (x1 : Int32) (a : MS) (H : Heap) (locs : List Loc) (ls : Array Slot) (h : wpM_counts a x1 Q) (hw : MW D dA ad A a s H locs) (hl : lv_has ls 4 [(0, .ref (ad 38)), (1, .int x1)]) : W p l e rmM_counts s m args below meth c H locs 0 0 (MQ below (mQi D dA ad A Q) args s 0 0 A) (F0 m 0 ls []) := by
  have hx := S.1
  have hb := S.2.1
  have hown := S.2.2.2.1
  have hts := S.2.2.2.2
  unfold wpM_counts at h
  refine lv_iconst (v := (-1 : Int32)) hx hb dX6_counts_0 (by decide) ?_
  refine lv_istore_n (lv' := [(2, .int (-1 : Int32)), (0, .ref (ad 38)), (1, .int x1)]) hx hb dX6_counts_1 rfl hl (by decide) rfl (fun ls hl => ?_)
  refine lv_iconst (v := (0 : Int32)) hx hb dX6_counts_2 (by decide) ?_
  refine lv_istore_n (lv' := [(3, .int (0 : Int32)), (2, .int (-1 : Int32)), (0, .ref (ad 38)), (1, .int x1)]) hx hb dX6_counts_3 rfl hl (by decide) rfl (fun ls hl => ?_)
  obtain ⟨n4, h⟩ := h
  exact wkM_counts_4 S hr hlk Q x1 n4 _ _ _ _ _ _ h hw (lv_sub hl [2, 3, 1, 0] rfl)
theorem ctM_counts (l : Launch) (D : va_G) (dA : Nat → ClassId) (ad : Nat → Nat) (A : Nat → Prop) (a : MS) (x1 : Int32) (Q : Int32 → MS → Prop) (h : wpM_counts a x1 Q) : Met l yX6_counts (ws_ yX6_counts cX6_counts 4 (some .int)) rmM_counts (mPc D dA ad A a [.ref (ad 38), .int x1]) (mQi D dA ad A Q) 0 0 A :=
  m_met (by decide) rfl rfl rfl (Nat.le_of_ble_eq_true rfl) (fun p e s m below meth c ls S hr hlk hw hl => wkM_counts_e S hr hlk Q x1 a _ _ ls h hw hl)
theorem cwM_counts {R : Room} {s : State} {args : Array Value} {rm : Room} (hts : ∀ w ∈ lw_all, w.before args s = true) (hR : rm.frames + 1 ≤ R.frames ∧ 8 + (4 + 11) + rm.locals ≤ R.locals) (hc : rm.cells = 0 := by rfl) (hs : rm.slots = 0 := by rfl) : CallW R s args RX6 RX6 88 yX6_counts cX6_counts 4 (some .int) (ws_ yX6_counts cX6_counts 4 (some .int)) rm 0 0 1 :=
  cwV 1 hts (lw_V q1493 q1495 qs55 q112 q1496) rfl hc hs (by decide +kernel) hR
/-! leaners -/
abbrev rmM_leaners : Room := { frames := 1, cells := 0, slots := 0, locals := 21 }
def bkM_leaners_4 (Q : Int32 → MS → Prop) (x1 : Int32) : Nat → Int32 → Int32 → MS → Prop
  | 0 => fun _ _ _ => False
  | n + 1 => fun x2 x3 a => if (a 0 (0 : Int32).toNatClampNeg) ≤ x3 then (Q x2 a) else (wpM_leafAt a x3 (fun r21 a21 => vp_in (r21 + (4 : Int32)) 3098 ∧ (if (a21 0 (r21 + (4 : Int32)).toNatClampNeg) = x1 then (bkM_leaners_4 Q x1 n (x2 + (1 : Int32)) (x3 + (1 : Int32)) a21) else (bkM_leaners_4 Q x1 n (x2 + (0 : Int32)) (x3 + (1 : Int32)) a21))))
set_option maxHeartbeats 4000000 in
set_option maxRecDepth 100000 in
theorem wkM_leaners_4 (S : CallFix p m c cX6_leaners 4 s args lw_all RX6) (hr : meth.sig.returnType = (some .int)) (hlk : meth.locks = false) (Q : Int32 → MS → Prop) (x1 : Int32) : ∀ (n : Nat) (x2 : Int32) (x3 : Int32) (a : MS) (H : Heap) (locs : List Loc) (ls : Array Slot), bkM_leaners_4 Q x1 n x2 x3 a → MW D dA ad A a s H locs → lv_has ls 4 [(0, .ref (ad 38)), (1, .int x1), (2, .int x2), (3, .int x3)] → W p l e rmM_leaners s m args below meth c H locs 0 0 (MQ below (mQi D dA ad A Q) args s 0 0 A) (F0 m 4 ls []) := by
  have hx := S.1
  have hb := S.2.1
  have hown := S.2.2.2.1
  have hts := S.2.2.2.2
  intro n
  induction n with
  | zero =>
    intro x2 x3 a H locs ls h
    exact False.elim h
  | succ n ih =>
    intro x2 x3 a H locs ls h hw hl
    unfold bkM_leaners_4 at h
    refine lv_iload_n hx hb dX6_leaners_4 rfl (lv_at hl 3 rfl) ?_
    refine lv_aload_n hx hb dX6_leaners_5 rfl (lv_at hl 0 rfl) ?_
    refine m_get S hw 0 (by decide) q1338 rfl rfl dX6_leaners_6 ?_
    refine lv_iconst (v := (0 : Int32)) hx hb dX6_leaners_9 (by decide) ?_
    refine m_ald S hw 1 0 3098 rfl (by decide) rfl (vlit (by decide)) dX6_leaners_10 ?_
    refine lv_icmp_ge (tgt := 44) hx hb dX6_leaners_11 (by decide) (fun c11 => ?_) (fun c11 => ?_)
    · replace h := if_t c11 h
      refine lv_iload_n hx hb dX6_leaners_44 rfl (lv_at hl 2 rfl) ?_
      exact m_iret S hr hlk hw h dX6_leaners_45
    · replace h := if_f c11 h
      refine lv_iload_n hx hb dX6_leaners_14 rfl (lv_at hl 2 rfl) ?_
      refine lv_aload_n hx hb dX6_leaners_15 rfl (lv_at hl 0 rfl) ?_
      refine m_get S hw 0 (by decide) q1338 rfl rfl dX6_leaners_16 ?_
      refine lv_aload_n hx hb dX6_leaners_19 rfl (lv_at hl 0 rfl) ?_
      refine lv_iload_n hx hb dX6_leaners_20 rfl (lv_at hl 3 rfl) ?_
      refine m_calli S hw [.int x3] [.ref (ad 0), .int x2] (ctM_leafAt l D dA ad A a x3 _ h) (cwM_leafAt hts ⟨Nat.le_of_ble_eq_true rfl, Nat.le_of_ble_eq_true rfl⟩) rfl hl.1 rfl (Nat.le_of_ble_eq_true rfl) dX6_leaners_21 ⟨Nat.zero_le _, Nat.zero_le _⟩ (fun r21 a21 H locs h hw => ?_)
      refine lv_iconst (v := (4 : Int32)) hx hb dX6_leaners_24 (by decide) ?_
      refine lv_iadd hx hb dX6_leaners_25 ?_
      refine m_ald S hw 1 0 3098 rfl (by decide) rfl h.1 dX6_leaners_26 ?_
      replace h := h.2
      refine lv_iload_n hx hb dX6_leaners_27 rfl (lv_at hl 1 rfl) ?_
      refine lv_icmp_ne (tgt := 35) hx hb dX6_leaners_28 (by decide) (fun c28 => ?_) (fun c28 => ?_)
      · replace h := if_f c28 h
        refine lv_iconst (v := (0 : Int32)) hx hb dX6_leaners_35 (by decide) ?_
        refine lv_iadd hx hb dX6_leaners_36 ?_
        refine lv_istore_n (lv' := [(2, .int (x2 + (0 : Int32))), (0, .ref (ad 38)), (1, .int x1), (3, .int x3)]) hx hb dX6_leaners_37 rfl hl (by decide) rfl (fun ls hl => ?_)
        refine lv_iinc (v := (x3 + (1 : Int32))) (lv' := [(3, .int (x3 + (1 : Int32))), (2, .int (x2 + (0 : Int32))), (0, .ref (ad 38)), (1, .int x1)]) hx hb dX6_leaners_38 hl (k := 3) rfl rfl (by decide) rfl (fun ls hl => ?_)
        refine lv_goto (tgt := 4) hx hb dX6_leaners_41 (by decide) ?_
        exact ih _ _ _ _ _ _ h hw (lv_sub hl [2, 3, 1, 0] rfl)
      · replace h := if_t c28 h
        refine lv_iconst (v := (1 : Int32)) hx hb dX6_leaners_31 (by decide) ?_
        refine lv_goto (tgt := 36) hx hb dX6_leaners_32 (by decide) ?_
        refine lv_iadd hx hb dX6_leaners_36 ?_
        refine lv_istore_n (lv' := [(2, .int (x2 + (1 : Int32))), (0, .ref (ad 38)), (1, .int x1), (3, .int x3)]) hx hb dX6_leaners_37 rfl hl (by decide) rfl (fun ls hl => ?_)
        refine lv_iinc (v := (x3 + (1 : Int32))) (lv' := [(3, .int (x3 + (1 : Int32))), (2, .int (x2 + (1 : Int32))), (0, .ref (ad 38)), (1, .int x1)]) hx hb dX6_leaners_38 hl (k := 3) rfl rfl (by decide) rfl (fun ls hl => ?_)
        refine lv_goto (tgt := 4) hx hb dX6_leaners_41 (by decide) ?_
        exact ih _ _ _ _ _ _ h hw (lv_sub hl [2, 3, 1, 0] rfl)
def wpM_leaners (a : MS) (x1 : Int32) (Q : Int32 → MS → Prop) : Prop := ∃ n4, bkM_leaners_4 Q x1 n4 (0 : Int32) (0 : Int32) a
set_option maxHeartbeats 4000000 in
set_option maxRecDepth 100000 in
theorem wkM_leaners_e (S : CallFix p m c cX6_leaners 4 s args lw_all RX6) (hr : meth.sig.returnType = (some .int)) (hlk : meth.locks = false) (Q : Int32 → MS → Prop) (x1 : Int32) (a : MS) (H : Heap) (locs : List Loc) (ls : Array Slot) (h : wpM_leaners a x1 Q) (hw : MW D dA ad A a s H locs) (hl : lv_has ls 4 [(0, .ref (ad 38)), (1, .int x1)]) : W p l e rmM_leaners s m args below meth c H locs 0 0 (MQ below (mQi D dA ad A Q) args s 0 0 A) (F0 m 0 ls []) := by
  have hx := S.1
  have hb := S.2.1
  have hown := S.2.2.2.1
  have hts := S.2.2.2.2
  unfold wpM_leaners at h
  refine lv_iconst (v := (0 : Int32)) hx hb dX6_leaners_0 (by decide) ?_
  refine lv_istore_n (lv' := [(2, .int (0 : Int32)), (0, .ref (ad 38)), (1, .int x1)]) hx hb dX6_leaners_1 rfl hl (by decide) rfl (fun ls hl => ?_)
  refine lv_iconst (v := (0 : Int32)) hx hb dX6_leaners_2 (by decide) ?_
  refine lv_istore_n (lv' := [(3, .int (0 : Int32)), (2, .int (0 : Int32)), (0, .ref (ad 38)), (1, .int x1)]) hx hb dX6_leaners_3 rfl hl (by decide) rfl (fun ls hl => ?_)
  obtain ⟨n4, h⟩ := h
  exact wkM_leaners_4 S hr hlk Q x1 n4 _ _ _ _ _ _ h hw (lv_sub hl [2, 3, 1, 0] rfl)
theorem ctM_leaners (l : Launch) (D : va_G) (dA : Nat → ClassId) (ad : Nat → Nat) (A : Nat → Prop) (a : MS) (x1 : Int32) (Q : Int32 → MS → Prop) (h : wpM_leaners a x1 Q) : Met l yX6_leaners (ws_ yX6_leaners cX6_leaners 4 (some .int)) rmM_leaners (mPc D dA ad A a [.ref (ad 38), .int x1]) (mQi D dA ad A Q) 0 0 A :=
  m_met (by decide) rfl rfl rfl (Nat.le_of_ble_eq_true rfl) (fun p e s m below meth c ls S hr hlk hw hl => wkM_leaners_e S hr hlk Q x1 a _ _ ls h hw hl)
theorem cwM_leaners {R : Room} {s : State} {args : Array Value} {rm : Room} (hts : ∀ w ∈ lw_all, w.before args s = true) (hR : rm.frames + 1 ≤ R.frames ∧ 8 + (4 + 11) + rm.locals ≤ R.locals) (hc : rm.cells = 0 := by rfl) (hs : rm.slots = 0 := by rfl) : CallW R s args RX6 RX6 101 yX6_leaners cX6_leaners 4 (some .int) (ws_ yX6_leaners cX6_leaners 4 (some .int)) rm 0 0 1 :=
  cwV 1 hts (lw_V q1512 q1514 qs59 q112 q1515) rfl hc hs (by decide +kernel) hR
/-! joined -/
abbrev rmM_joined : Room := { frames := 0, cells := 0, slots := 0, locals := 0 }
def wpM_joined (a : MS) (x0 : Int32) (x1 : Int32) (x2 : Int32) (Q : Int32 → MS → Prop) : Prop := if x0 = (38 : Int32) then (if x1 = 0 then (Q (0 : Int32) a) else (if x2 = 0 then (Q (0 : Int32) a) else (Q (1 : Int32) a))) else (if x0 = (42 : Int32) then (Q (x1 * x2) a) else (if x0 = (43 : Int32) then (Q (x1 + x2) a) else (if x0 = (45 : Int32) then (Q (x1 - x2) a) else (if x0 = (47 : Int32) then (if x2 = 0 then (Q (0 : Int32) a) else (if x2 = (-1 : Int32) then (Q (-x1) a) else ((¬ x2 = 0) ∧ (Q (x1 / x2) a)))) else (if x0 = (60 : Int32) then (if x2 ≤ x1 then (Q (0 : Int32) a) else (Q (1 : Int32) a)) else (if x0 = (61 : Int32) then (if x1 = x2 then (Q (1 : Int32) a) else (Q (0 : Int32) a)) else (if x0 = (62 : Int32) then (if x1 ≤ x2 then (Q (0 : Int32) a) else (Q (1 : Int32) a)) else (if x1 = 0 then (if x2 = 0 then (Q (0 : Int32) a) else (Q (1 : Int32) a)) else (Q (1 : Int32) a)))))))))
set_option maxHeartbeats 4000000 in
set_option maxRecDepth 100000 in
theorem wkM_joined_e (S : CallFix p m c cX6_joined 3 s args lw_all RX6) (hr : meth.sig.returnType = (some .int)) (hlk : meth.locks = false) (Q : Int32 → MS → Prop) (x0 : Int32) (x1 : Int32) (x2 : Int32) (a : MS) (H : Heap) (locs : List Loc) (ls : Array Slot) (h : wpM_joined a x0 x1 x2 Q) (hw : MW D dA ad A a s H locs) (hl : lv_has ls 3 [(0, .int x0), (1, .int x1), (2, .int x2)]) : W p l e rmM_joined s m args below meth c H locs 0 0 (MQ below (mQi D dA ad A Q) args s 0 0 A) (F0 m 0 ls []) := by
  have hx := S.1
  have hb := S.2.1
  have hown := S.2.2.2.1
  have hts := S.2.2.2.2
  unfold wpM_joined at h
  refine lv_iload_n hx hb dX6_joined_0 rfl (lv_at hl 0 rfl) ?_
  by_cases c1_0 : x0 = (38 : Int32)
  · replace h := if_t c1_0 h
    refine lv_tableIn (off := 182) (tgt := 183) hx hb dX6_joined_1 (by rw [c1_0]; decide) (by rw [c1_0]; decide) (by rw [c1_0]; decide) (by decide) ?_
    refine lv_iload_n hx hb dX6_joined_183 rfl (lv_at hl 1 rfl) ?_
    refine lv_if_eq (tgt := 195) hx hb dX6_joined_184 (by decide) (fun c184 => ?_) (fun c184 => ?_)
    · replace h := if_t c184 h
      refine lv_iconst (v := (0 : Int32)) hx hb dX6_joined_195 (by decide) ?_
      exact m_iret S hr hlk hw h dX6_joined_196
    · replace h := if_f c184 h
      refine lv_iload_n hx hb dX6_joined_187 rfl (lv_at hl 2 rfl) ?_
      refine lv_if_eq (tgt := 195) hx hb dX6_joined_188 (by decide) (fun c188 => ?_) (fun c188 => ?_)
      · replace h := if_t c188 h
        refine lv_iconst (v := (0 : Int32)) hx hb dX6_joined_195 (by decide) ?_
        exact m_iret S hr hlk hw h dX6_joined_196
      · replace h := if_f c188 h
        refine lv_iconst (v := (1 : Int32)) hx hb dX6_joined_191 (by decide) ?_
        refine lv_goto (tgt := 196) hx hb dX6_joined_192 (by decide) ?_
        exact m_iret S hr hlk hw h dX6_joined_196
  replace h := if_f c1_0 h
  by_cases c1_1 : x0 = (42 : Int32)
  · replace h := if_t c1_1 h
    refine lv_tableIn (off := 123) (tgt := 124) hx hb dX6_joined_1 (by rw [c1_1]; decide) (by rw [c1_1]; decide) (by rw [c1_1]; decide) (by decide) ?_
    refine lv_iload_n hx hb dX6_joined_124 rfl (lv_at hl 1 rfl) ?_
    refine lv_iload_n hx hb dX6_joined_125 rfl (lv_at hl 2 rfl) ?_
    refine lv_imul hx hb dX6_joined_126 ?_
    exact m_iret S hr hlk hw h dX6_joined_127
  replace h := if_f c1_1 h
  by_cases c1_2 : x0 = (43 : Int32)
  · replace h := if_t c1_2 h
    refine lv_tableIn (off := 115) (tgt := 116) hx hb dX6_joined_1 (by rw [c1_2]; decide) (by rw [c1_2]; decide) (by rw [c1_2]; decide) (by decide) ?_
    refine lv_iload_n hx hb dX6_joined_116 rfl (lv_at hl 1 rfl) ?_
    refine lv_iload_n hx hb dX6_joined_117 rfl (lv_at hl 2 rfl) ?_
    refine lv_iadd hx hb dX6_joined_118 ?_
    exact m_iret S hr hlk hw h dX6_joined_119
  replace h := if_f c1_2 h
  by_cases c1_3 : x0 = (45 : Int32)
  · replace h := if_t c1_3 h
    refine lv_tableIn (off := 119) (tgt := 120) hx hb dX6_joined_1 (by rw [c1_3]; decide) (by rw [c1_3]; decide) (by rw [c1_3]; decide) (by decide) ?_
    refine lv_iload_n hx hb dX6_joined_120 rfl (lv_at hl 1 rfl) ?_
    refine lv_iload_n hx hb dX6_joined_121 rfl (lv_at hl 2 rfl) ?_
    refine lv_isub hx hb dX6_joined_122 ?_
    exact m_iret S hr hlk hw h dX6_joined_123
  replace h := if_f c1_3 h
  by_cases c1_4 : x0 = (47 : Int32)
  · replace h := if_t c1_4 h
    refine lv_tableIn (off := 127) (tgt := 128) hx hb dX6_joined_1 (by rw [c1_4]; decide) (by rw [c1_4]; decide) (by rw [c1_4]; decide) (by decide) ?_
    refine lv_iload_n hx hb dX6_joined_128 rfl (lv_at hl 2 rfl) ?_
    refine lv_if_ne (tgt := 136) hx hb dX6_joined_129 (by decide) (fun c129 => ?_) (fun c129 => ?_)
    · replace h := if_f c129 h
      refine lv_iload_n hx hb dX6_joined_136 rfl (lv_at hl 2 rfl) ?_
      refine lv_iconst (v := (-1 : Int32)) hx hb dX6_joined_137 (by decide) ?_
      refine lv_icmp_ne (tgt := 146) hx hb dX6_joined_138 (by decide) (fun c138 => ?_) (fun c138 => ?_)
      · replace h := if_f c138 h
        refine lv_iload_n hx hb dX6_joined_146 rfl (lv_at hl 1 rfl) ?_
        refine lv_iload_n hx hb dX6_joined_147 rfl (lv_at hl 2 rfl) ?_
        refine lv_idiv hx hb dX6_joined_148 h.1 ?_
        replace h := h.2
        exact m_iret S hr hlk hw h dX6_joined_149
      · replace h := if_t c138 h
        refine lv_iload_n hx hb dX6_joined_141 rfl (lv_at hl 1 rfl) ?_
        refine lv_ineg hx hb dX6_joined_142 ?_
        refine lv_goto (tgt := 149) hx hb dX6_joined_143 (by decide) ?_
        exact m_iret S hr hlk hw h dX6_joined_149
    · replace h := if_t c129 h
      refine lv_iconst (v := (0 : Int32)) hx hb dX6_joined_132 (by decide) ?_
      refine lv_goto (tgt := 149) hx hb dX6_joined_133 (by decide) ?_
      exact m_iret S hr hlk hw h dX6_joined_149
  replace h := if_f c1_4 h
  by_cases c1_5 : x0 = (60 : Int32)
  · replace h := if_t c1_5 h
    refine lv_tableIn (off := 149) (tgt := 150) hx hb dX6_joined_1 (by rw [c1_5]; decide) (by rw [c1_5]; decide) (by rw [c1_5]; decide) (by decide) ?_
    refine lv_iload_n hx hb dX6_joined_150 rfl (lv_at hl 1 rfl) ?_
    refine lv_iload_n hx hb dX6_joined_151 rfl (lv_at hl 2 rfl) ?_
    refine lv_icmp_ge (tgt := 159) hx hb dX6_joined_152 (by decide) (fun c152 => ?_) (fun c152 => ?_)
    · replace h := if_t c152 h
      refine lv_iconst (v := (0 : Int32)) hx hb dX6_joined_159 (by decide) ?_
      exact m_iret S hr hlk hw h dX6_joined_160
    · replace h := if_f c152 h
      refine lv_iconst (v := (1 : Int32)) hx hb dX6_joined_155 (by decide) ?_
      refine lv_goto (tgt := 160) hx hb dX6_joined_156 (by decide) ?_
      exact m_iret S hr hlk hw h dX6_joined_160
  replace h := if_f c1_5 h
  by_cases c1_6 : x0 = (61 : Int32)
  · replace h := if_t c1_6 h
    refine lv_tableIn (off := 171) (tgt := 172) hx hb dX6_joined_1 (by rw [c1_6]; decide) (by rw [c1_6]; decide) (by rw [c1_6]; decide) (by decide) ?_
    refine lv_iload_n hx hb dX6_joined_172 rfl (lv_at hl 1 rfl) ?_
    refine lv_iload_n hx hb dX6_joined_173 rfl (lv_at hl 2 rfl) ?_
    refine lv_icmp_ne (tgt := 181) hx hb dX6_joined_174 (by decide) (fun c174 => ?_) (fun c174 => ?_)
    · replace h := if_f c174 h
      refine lv_iconst (v := (0 : Int32)) hx hb dX6_joined_181 (by decide) ?_
      exact m_iret S hr hlk hw h dX6_joined_182
    · replace h := if_t c174 h
      refine lv_iconst (v := (1 : Int32)) hx hb dX6_joined_177 (by decide) ?_
      refine lv_goto (tgt := 182) hx hb dX6_joined_178 (by decide) ?_
      exact m_iret S hr hlk hw h dX6_joined_182
  replace h := if_f c1_6 h
  by_cases c1_7 : x0 = (62 : Int32)
  · replace h := if_t c1_7 h
    refine lv_tableIn (off := 160) (tgt := 161) hx hb dX6_joined_1 (by rw [c1_7]; decide) (by rw [c1_7]; decide) (by rw [c1_7]; decide) (by decide) ?_
    refine lv_iload_n hx hb dX6_joined_161 rfl (lv_at hl 1 rfl) ?_
    refine lv_iload_n hx hb dX6_joined_162 rfl (lv_at hl 2 rfl) ?_
    refine lv_icmp_le (tgt := 170) hx hb dX6_joined_163 (by decide) (fun c163 => ?_) (fun c163 => ?_)
    · replace h := if_t c163 h
      refine lv_iconst (v := (0 : Int32)) hx hb dX6_joined_170 (by decide) ?_
      exact m_iret S hr hlk hw h dX6_joined_171
    · replace h := if_f c163 h
      refine lv_iconst (v := (1 : Int32)) hx hb dX6_joined_166 (by decide) ?_
      refine lv_goto (tgt := 171) hx hb dX6_joined_167 (by decide) ?_
      exact m_iret S hr hlk hw h dX6_joined_171
  replace h := if_f c1_7 h
  have hout : x0.toInt < 38 ∨ 62 < x0.toInt ∨ (#[182, 196, 196, 196, 123, 115, 196, 119, 196, 127, 196, 196, 196, 196, 196, 196, 196, 196, 196, 196, 196, 196, 149, 171, 160] : Array Int)[(x0.toInt - 38).toNat]? = some 196 := by
    have n0 := lv_neT c1_0 (a := 38) (by decide)
    have n1 := lv_neT c1_1 (a := 42) (by decide)
    have n2 := lv_neT c1_2 (a := 43) (by decide)
    have n3 := lv_neT c1_3 (a := 45) (by decide)
    have n4 := lv_neT c1_4 (a := 47) (by decide)
    have n5 := lv_neT c1_5 (a := 60) (by decide)
    have n6 := lv_neT c1_6 (a := 61) (by decide)
    have n7 := lv_neT c1_7 (a := 62) (by decide)
    by_cases h1 : x0.toInt < 38
    · exact Or.inl h1
    by_cases h2 : 62 < x0.toInt
    · exact Or.inr (Or.inl h2)
    exact Or.inr (Or.inr ((by decide : ∀ t : Nat, t < 25 → t ∉ [0, 4, 5, 7, 9, 22, 23, 24] → (#[182, 196, 196, 196, 123, 115, 196, 119, 196, 127, 196, 196, 196, 196, 196, 196, 196, 196, 196, 196, 196, 196, 149, 171, 160] : Array Int)[t]? = some 196) _ (by omega) (by simp only [List.mem_cons, List.not_mem_nil, or_false, not_or]; omega)))
  refine lv_tableD (tgt := 197) hx hb dX6_joined_1 hout (by decide) ?_
  refine lv_iload_n hx hb dX6_joined_197 rfl (lv_at hl 1 rfl) ?_
  refine lv_if_ne (tgt := 205) hx hb dX6_joined_198 (by decide) (fun c198 => ?_) (fun c198 => ?_)
  · replace h := if_f c198 h
    refine lv_iconst (v := (1 : Int32)) hx hb dX6_joined_205 (by decide) ?_
    refine lv_goto (tgt := 210) hx hb dX6_joined_206 (by decide) ?_
    exact m_iret S hr hlk hw h dX6_joined_210
  · replace h := if_t c198 h
    refine lv_iload_n hx hb dX6_joined_201 rfl (lv_at hl 2 rfl) ?_
    refine lv_if_eq (tgt := 209) hx hb dX6_joined_202 (by decide) (fun c202 => ?_) (fun c202 => ?_)
    · replace h := if_t c202 h
      refine lv_iconst (v := (0 : Int32)) hx hb dX6_joined_209 (by decide) ?_
      exact m_iret S hr hlk hw h dX6_joined_210
    · replace h := if_f c202 h
      refine lv_iconst (v := (1 : Int32)) hx hb dX6_joined_205 (by decide) ?_
      refine lv_goto (tgt := 210) hx hb dX6_joined_206 (by decide) ?_
      exact m_iret S hr hlk hw h dX6_joined_210
theorem ctM_joined (l : Launch) (D : va_G) (dA : Nat → ClassId) (ad : Nat → Nat) (A : Nat → Prop) (a : MS) (x0 : Int32) (x1 : Int32) (x2 : Int32) (Q : Int32 → MS → Prop) (h : wpM_joined a x0 x1 x2 Q) : Met l yX6_joined (ws_ yX6_joined cX6_joined 3 (some .int)) rmM_joined (mPc D dA ad A a [.int x0, .int x1, .int x2]) (mQi D dA ad A Q) 0 0 A :=
  m_met (by decide) rfl rfl rfl (Nat.le_of_ble_eq_true rfl) (fun p e s m below meth c ls S hr hlk hw hl => wkM_joined_e S hr hlk Q x0 x1 x2 a _ _ ls h hw hl)
theorem cwM_joined {R : Room} {s : State} {args : Array Value} {rm : Room} (hts : ∀ w ∈ lw_all, w.before args s = true) (hR : rm.frames + 1 ≤ R.frames ∧ 8 + (3 + 11) + rm.locals ≤ R.locals) (hc : rm.cells = 0 := by rfl) (hs : rm.slots = 0 := by rfl) : CallB R s args RX6 332 yX6_joined cX6_joined 3 (some .int) (ws_ yX6_joined cX6_joined 3 (some .int)) rm 0 0 3 ∧ (Cond.static yX6_joined).before args s = true :=
  va_cwS 3 hts (lw_S q1505 q1506 q112 q1507) rfl hc hs (by decide +kernel) hR
/-! worked -/
abbrev rmM_worked : Room := { frames := 1, cells := 0, slots := 0, locals := 22 }
def bkM_worked_86 (Q : Int32 → MS → Prop) (x1 : Int32) (O4 : Int32 → Int32 → MS → Prop) : Int32 → Int32 → Int32 → Int32 → MS → Prop := fun x2 x3 s1 s2 a => vp_in s1 100 ∧ (∀ a86 : MS, a86 = up2 a 33 s1.toNatClampNeg s2 → (O4 (x2 + (1 : Int32)) (x3 + (1 : Int32)) a86))
set_option maxHeartbeats 4000000 in
set_option maxRecDepth 100000 in
theorem wkM_worked_86 (S : CallFix p m c cX6_worked 6 s args lw_all RX6) (hr : meth.sig.returnType = (some .int)) (hlk : meth.locks = false) (Q : Int32 → MS → Prop) (x1 : Int32) {O4 : Int32 → Int32 → MS → Prop} (hO4 : ∀ (x2 : Int32) (x3 : Int32) (a : MS) (H : Heap) (locs : List Loc) (ls : Array Slot), O4 x2 x3 a → MW D dA ad A a s H locs → lv_has ls 6 [(0, .ref (ad 38)), (1, .int x1), (2, .int x2), (3, .int x3)] → W p l e rmM_worked s m args below meth c H locs 0 0 (MQ below (mQi D dA ad A Q) args s 0 0 A) (F0 m 4 ls [])) : ∀ (x2 : Int32) (x3 : Int32) (s1 : Int32) (s2 : Int32) (a : MS) (H : Heap) (locs : List Loc) (ls : Array Slot), bkM_worked_86 Q x1 O4 x2 x3 s1 s2 a → MW D dA ad A a s H locs → lv_has ls 6 [(0, .ref (ad 38)), (1, .int x1), (2, .int x2), (3, .int x3)] → W p l e rmM_worked s m args below meth c H locs 0 0 (MQ below (mQi D dA ad A Q) args s 0 0 A) (F0 m 86 ls [.int s2, .int s1, .ref (ad 33)]) := by
  have hx := S.1
  have hb := S.2.1
  have hown := S.2.2.2.1
  have hts := S.2.2.2.2
  intro x2 x3 s1 s2 a H locs ls h hw hl
  unfold bkM_worked_86 at h
  refine m_ast S hw 21 33 100 rfl (by decide) rfl h.1 dX6_worked_86 (fun a86 H locs ea86 hw => ?_)
  replace h := h.2 a86 ea86
  refine lv_iinc (v := (x2 + (1 : Int32))) (lv' := [(2, .int (x2 + (1 : Int32))), (0, .ref (ad 38)), (1, .int x1), (3, .int x3)]) hx hb dX6_worked_87 hl (k := 2) rfl rfl (by decide) rfl (fun ls hl => ?_)
  refine lv_goto (tgt := 157) hx hb dX6_worked_90 (by decide) ?_
  refine lv_iinc (v := (x3 + (1 : Int32))) (lv' := [(3, .int (x3 + (1 : Int32))), (2, .int (x2 + (1 : Int32))), (0, .ref (ad 38)), (1, .int x1)]) hx hb dX6_worked_157 hl (k := 3) rfl rfl (by decide) rfl (fun ls hl => ?_)
  refine lv_goto (tgt := 4) hx hb dX6_worked_160 (by decide) ?_
  exact hO4 _ _ _ _ _ _ h hw (lv_sub hl [2, 3, 1, 0] rfl)
def bkM_worked_4 (Q : Int32 → MS → Prop) (x1 : Int32) : Nat → Int32 → Int32 → MS → Prop
  | 0 => fun _ _ _ => False
  | n + 1 => fun x2 x3 a => wpM_textAt a x1 (fun r11 a11 => vp_in (r11 + (2 : Int32)) 3098 ∧ (if (a11 0 (r11 + (2 : Int32)).toNatClampNeg) ≤ x3 then (Q (a11 33 (0 : Int32).toNatClampNeg) a11) else (wpM_textAt a11 x1 (fun r26 a26 => vp_in ((r26 + (4 : Int32)) + ((2 : Int32) * x3)) 3098 ∧ (wpM_textAt a26 x1 (fun r44 a44 => vp_in (((r44 + (4 : Int32)) + ((2 : Int32) * x3)) + (1 : Int32)) 3098 ∧ (if (a26 0 ((r26 + (4 : Int32)) + ((2 : Int32) * x3)).toNatClampNeg) = (2 : Int32) then (if (a44 0 (((r44 + (4 : Int32)) + ((2 : Int32) * x3)) + (1 : Int32)).toNatClampNeg) = (33 : Int32) then (vp_in (x2 - (1 : Int32)) 100 ∧ (if (a44 33 (x2 - (1 : Int32)).toNatClampNeg) = 0 then (vp_in (x2 - (1 : Int32)) 100 ∧ (∀ a123 : MS, a123 = up2 a44 33 (x2 - (1 : Int32)).toNatClampNeg (1 : Int32) → (bkM_worked_4 Q x1 n x2 (x3 + (1 : Int32)) a123))) else (vp_in (x2 - (1 : Int32)) 100 ∧ (∀ a123 : MS, a123 = up2 a44 33 (x2 - (1 : Int32)).toNatClampNeg (0 : Int32) → (bkM_worked_4 Q x1 n x2 (x3 + (1 : Int32)) a123))))) else (vp_in ((x2 + (-1 : Int32)) - (1 : Int32)) 100 ∧ (vp_in (x2 + (-1 : Int32)) 100 ∧ (wpM_joined a44 (a44 0 (((r44 + (4 : Int32)) + ((2 : Int32) * x3)) + (1 : Int32)).toNatClampNeg) (a44 33 ((x2 + (-1 : Int32)) - (1 : Int32)).toNatClampNeg) (a44 33 (x2 + (-1 : Int32)).toNatClampNeg) (fun r153 a153 => vp_in ((x2 + (-1 : Int32)) - (1 : Int32)) 100 ∧ (∀ a156 : MS, a156 = up2 a153 33 ((x2 + (-1 : Int32)) - (1 : Int32)).toNatClampNeg r153 → (bkM_worked_4 Q x1 n (x2 + (-1 : Int32)) (x3 + (1 : Int32)) a156))))))) else (if (a26 0 ((r26 + (4 : Int32)) + ((2 : Int32) * x3)).toNatClampNeg) = 0 then (bkM_worked_86 Q x1 (bkM_worked_4 Q x1 n) x2 x3 x2 (a44 0 (((r44 + (4 : Int32)) + ((2 : Int32) * x3)) + (1 : Int32)).toNatClampNeg) a44) else (vp_in (a44 0 (((r44 + (4 : Int32)) + ((2 : Int32) * x3)) + (1 : Int32)).toNatClampNeg) 128 ∧ (bkM_worked_86 Q x1 (bkM_worked_4 Q x1 n) x2 x3 x2 (a44 32 (a44 0 (((r44 + (4 : Int32)) + ((2 : Int32) * x3)) + (1 : Int32)).toNatClampNeg).toNatClampNeg) a44))))))))))
set_option maxHeartbeats 4000000 in
set_option maxRecDepth 100000 in
theorem wkM_worked_4 (S : CallFix p m c cX6_worked 6 s args lw_all RX6) (hr : meth.sig.returnType = (some .int)) (hlk : meth.locks = false) (Q : Int32 → MS → Prop) (x1 : Int32) : ∀ (n : Nat) (x2 : Int32) (x3 : Int32) (a : MS) (H : Heap) (locs : List Loc) (ls : Array Slot), bkM_worked_4 Q x1 n x2 x3 a → MW D dA ad A a s H locs → lv_has ls 6 [(0, .ref (ad 38)), (1, .int x1), (2, .int x2), (3, .int x3)] → W p l e rmM_worked s m args below meth c H locs 0 0 (MQ below (mQi D dA ad A Q) args s 0 0 A) (F0 m 4 ls []) := by
  have hx := S.1
  have hb := S.2.1
  have hown := S.2.2.2.1
  have hts := S.2.2.2.2
  intro n
  induction n with
  | zero =>
    intro x2 x3 a H locs ls h
    exact False.elim h
  | succ n ih =>
    intro x2 x3 a H locs ls h hw hl
    unfold bkM_worked_4 at h
    refine lv_iload_n hx hb dX6_worked_4 rfl (lv_at hl 3 rfl) ?_
    refine lv_aload_n hx hb dX6_worked_5 rfl (lv_at hl 0 rfl) ?_
    refine m_get S hw 0 (by decide) q1338 rfl rfl dX6_worked_6 ?_
    refine lv_aload_n hx hb dX6_worked_9 rfl (lv_at hl 0 rfl) ?_
    refine lv_iload_n hx hb dX6_worked_10 rfl (lv_at hl 1 rfl) ?_
    refine m_calli S hw [.int x1] [.ref (ad 0), .int x3] (ctM_textAt l D dA ad A a x1 _ h) (cwM_textAt hts ⟨Nat.le_of_ble_eq_true rfl, Nat.le_of_ble_eq_true rfl⟩) rfl hl.1 rfl (Nat.le_of_ble_eq_true rfl) dX6_worked_11 ⟨Nat.zero_le _, Nat.zero_le _⟩ (fun r11 a11 H locs h hw => ?_)
    refine lv_iconst (v := (2 : Int32)) hx hb dX6_worked_14 (by decide) ?_
    refine lv_iadd hx hb dX6_worked_15 ?_
    refine m_ald S hw 1 0 3098 rfl (by decide) rfl h.1 dX6_worked_16 ?_
    replace h := h.2
    refine lv_icmp_ge (tgt := 163) hx hb dX6_worked_17 (by decide) (fun c17 => ?_) (fun c17 => ?_)
    · replace h := if_t c17 h
      refine lv_aload_n hx hb dX6_worked_163 rfl (lv_at hl 0 rfl) ?_
      refine m_get S hw 33 (by decide) q1371 rfl rfl dX6_worked_164 ?_
      refine lv_iconst (v := (0 : Int32)) hx hb dX6_worked_167 (by decide) ?_
      refine m_ald S hw 21 33 100 rfl (by decide) rfl (vlit (by decide)) dX6_worked_168 ?_
      exact m_iret S hr hlk hw h dX6_worked_169
    · replace h := if_f c17 h
      refine lv_aload_n hx hb dX6_worked_20 rfl (lv_at hl 0 rfl) ?_
      refine m_get S hw 0 (by decide) q1338 rfl rfl dX6_worked_21 ?_
      refine lv_aload_n hx hb dX6_worked_24 rfl (lv_at hl 0 rfl) ?_
      refine lv_iload_n hx hb dX6_worked_25 rfl (lv_at hl 1 rfl) ?_
      refine m_calli S hw [.int x1] [.ref (ad 0)] (ctM_textAt l D dA ad A a11 x1 _ h) (cwM_textAt hts ⟨Nat.le_of_ble_eq_true rfl, Nat.le_of_ble_eq_true rfl⟩) rfl hl.1 rfl (Nat.le_of_ble_eq_true rfl) dX6_worked_26 ⟨Nat.zero_le _, Nat.zero_le _⟩ (fun r26 a26 H locs h hw => ?_)
      refine lv_iconst (v := (4 : Int32)) hx hb dX6_worked_29 (by decide) ?_
      refine lv_iadd hx hb dX6_worked_30 ?_
      refine lv_iconst (v := (2 : Int32)) hx hb dX6_worked_31 (by decide) ?_
      refine lv_iload_n hx hb dX6_worked_32 rfl (lv_at hl 3 rfl) ?_
      refine lv_imul hx hb dX6_worked_33 ?_
      refine lv_iadd hx hb dX6_worked_34 ?_
      refine m_ald S hw 1 0 3098 rfl (by decide) rfl h.1 dX6_worked_35 ?_
      replace h := h.2
      refine lv_istore (lv' := [(4, .int (a26 0 ((r26 + (4 : Int32)) + ((2 : Int32) * x3)).toNatClampNeg)), (0, .ref (ad 38)), (1, .int x1), (2, .int x2), (3, .int x3)]) hx hb dX6_worked_36 hl (by decide) rfl (fun ls hl => ?_)
      refine lv_aload_n hx hb dX6_worked_38 rfl (lv_at hl 1 rfl) ?_
      refine m_get S hw 0 (by decide) q1338 rfl rfl dX6_worked_39 ?_
      refine lv_aload_n hx hb dX6_worked_42 rfl (lv_at hl 1 rfl) ?_
      refine lv_iload_n hx hb dX6_worked_43 rfl (lv_at hl 2 rfl) ?_
      refine m_calli S hw [.int x1] [.ref (ad 0)] (ctM_textAt l D dA ad A a26 x1 _ h) (cwM_textAt hts ⟨Nat.le_of_ble_eq_true rfl, Nat.le_of_ble_eq_true rfl⟩) rfl hl.1 rfl (Nat.le_of_ble_eq_true rfl) dX6_worked_44 ⟨Nat.zero_le _, Nat.zero_le _⟩ (fun r44 a44 H locs h hw => ?_)
      refine lv_iconst (v := (4 : Int32)) hx hb dX6_worked_47 (by decide) ?_
      refine lv_iadd hx hb dX6_worked_48 ?_
      refine lv_iconst (v := (2 : Int32)) hx hb dX6_worked_49 (by decide) ?_
      refine lv_iload_n hx hb dX6_worked_50 rfl (lv_at hl 4 rfl) ?_
      refine lv_imul hx hb dX6_worked_51 ?_
      refine lv_iadd hx hb dX6_worked_52 ?_
      refine lv_iconst (v := (1 : Int32)) hx hb dX6_worked_53 (by decide) ?_
      refine lv_iadd hx hb dX6_worked_54 ?_
      refine m_ald S hw 1 0 3098 rfl (by decide) rfl h.1 dX6_worked_55 ?_
      replace h := h.2
      refine lv_istore (lv' := [(5, .int (a44 0 (((r44 + (4 : Int32)) + ((2 : Int32) * x3)) + (1 : Int32)).toNatClampNeg)), (4, .int (a26 0 ((r26 + (4 : Int32)) + ((2 : Int32) * x3)).toNatClampNeg)), (0, .ref (ad 38)), (1, .int x1), (2, .int x2), (3, .int x3)]) hx hb dX6_worked_56 hl (by decide) rfl (fun ls hl => ?_)
      refine lv_iload hx hb dX6_worked_58 (lv_at hl 1 rfl) ?_
      refine lv_iconst (v := (2 : Int32)) hx hb dX6_worked_60 (by decide) ?_
      refine lv_icmp_eq (tgt := 93) hx hb dX6_worked_61 (by decide) (fun c61 => ?_) (fun c61 => ?_)
      · replace h := if_t c61 h
        refine lv_iload hx hb dX6_worked_93 (lv_at hl 0 rfl) ?_
        refine lv_bipush (v := (33 : Int32)) hx hb dX6_worked_95 (by decide) ?_
        refine lv_icmp_ne (tgt := 127) hx hb dX6_worked_97 (by decide) (fun c97 => ?_) (fun c97 => ?_)
        · replace h := if_f c97 h
          refine lv_iinc (v := (x2 + (-1 : Int32))) (lv' := [(2, .int (x2 + (-1 : Int32))), (5, .int (a44 0 (((r44 + (4 : Int32)) + ((2 : Int32) * x3)) + (1 : Int32)).toNatClampNeg)), (4, .int (a26 0 ((r26 + (4 : Int32)) + ((2 : Int32) * x3)).toNatClampNeg)), (0, .ref (ad 38)), (1, .int x1), (3, .int x3)]) hx hb dX6_worked_127 hl (k := 4) rfl rfl (by decide) rfl (fun ls hl => ?_)
          refine lv_aload_n hx hb dX6_worked_130 rfl (lv_at hl 3 rfl) ?_
          refine m_get S hw 33 (by decide) q1371 rfl rfl dX6_worked_131 ?_
          refine lv_iload_n hx hb dX6_worked_134 rfl (lv_at hl 0 rfl) ?_
          refine lv_iconst (v := (1 : Int32)) hx hb dX6_worked_135 (by decide) ?_
          refine lv_isub hx hb dX6_worked_136 ?_
          refine lv_iload hx hb dX6_worked_137 (lv_at hl 1 rfl) ?_
          refine lv_aload_n hx hb dX6_worked_139 rfl (lv_at hl 3 rfl) ?_
          refine m_get S hw 33 (by decide) q1371 rfl rfl dX6_worked_140 ?_
          refine lv_iload_n hx hb dX6_worked_143 rfl (lv_at hl 0 rfl) ?_
          refine lv_iconst (v := (1 : Int32)) hx hb dX6_worked_144 (by decide) ?_
          refine lv_isub hx hb dX6_worked_145 ?_
          refine m_ald S hw 21 33 100 rfl (by decide) rfl h.1 dX6_worked_146 ?_
          replace h := h.2
          refine lv_aload_n hx hb dX6_worked_147 rfl (lv_at hl 3 rfl) ?_
          refine m_get S hw 33 (by decide) q1371 rfl rfl dX6_worked_148 ?_
          refine lv_iload_n hx hb dX6_worked_151 rfl (lv_at hl 0 rfl) ?_
          refine m_ald S hw 21 33 100 rfl (by decide) rfl h.1 dX6_worked_152 ?_
          replace h := h.2
          refine m_callSi S hw [.int (a44 0 (((r44 + (4 : Int32)) + ((2 : Int32) * x3)) + (1 : Int32)).toNatClampNeg), .int (a44 33 ((x2 + (-1 : Int32)) - (1 : Int32)).toNatClampNeg), .int (a44 33 (x2 + (-1 : Int32)).toNatClampNeg)] [.int ((x2 + (-1 : Int32)) - (1 : Int32)), .ref (ad 33)] (ctM_joined l D dA ad A a44 (a44 0 (((r44 + (4 : Int32)) + ((2 : Int32) * x3)) + (1 : Int32)).toNatClampNeg) (a44 33 ((x2 + (-1 : Int32)) - (1 : Int32)).toNatClampNeg) (a44 33 (x2 + (-1 : Int32)).toNatClampNeg) _ h) (cwM_joined hts ⟨Nat.le_of_ble_eq_true rfl, Nat.le_of_ble_eq_true rfl⟩) rfl hl.1 rfl (Nat.le_of_ble_eq_true rfl) dX6_worked_153 ⟨Nat.zero_le _, Nat.zero_le _⟩ (fun r153 a153 H locs h hw => ?_)
          refine m_ast S hw 21 33 100 rfl (by decide) rfl h.1 dX6_worked_156 (fun a156 H locs ea156 hw => ?_)
          replace h := h.2 a156 ea156
          refine lv_iinc (v := (x3 + (1 : Int32))) (lv' := [(3, .int (x3 + (1 : Int32))), (2, .int (x2 + (-1 : Int32))), (5, .int (a44 0 (((r44 + (4 : Int32)) + ((2 : Int32) * x3)) + (1 : Int32)).toNatClampNeg)), (4, .int (a26 0 ((r26 + (4 : Int32)) + ((2 : Int32) * x3)).toNatClampNeg)), (0, .ref (ad 38)), (1, .int x1)]) hx hb dX6_worked_157 hl (k := 5) rfl rfl (by decide) rfl (fun ls hl => ?_)
          refine lv_goto (tgt := 4) hx hb dX6_worked_160 (by decide) ?_
          exact ih _ _ _ _ _ _ h hw (lv_sub hl [4, 5, 1, 0] rfl)
        · replace h := if_t c97 h
          refine lv_aload_n hx hb dX6_worked_100 rfl (lv_at hl 2 rfl) ?_
          refine m_get S hw 33 (by decide) q1371 rfl rfl dX6_worked_101 ?_
          refine lv_iload_n hx hb dX6_worked_104 rfl (lv_at hl 4 rfl) ?_
          refine lv_iconst (v := (1 : Int32)) hx hb dX6_worked_105 (by decide) ?_
          refine lv_isub hx hb dX6_worked_106 ?_
          refine lv_aload_n hx hb dX6_worked_107 rfl (lv_at hl 2 rfl) ?_
          refine m_get S hw 33 (by decide) q1371 rfl rfl dX6_worked_108 ?_
          refine lv_iload_n hx hb dX6_worked_111 rfl (lv_at hl 4 rfl) ?_
          refine lv_iconst (v := (1 : Int32)) hx hb dX6_worked_112 (by decide) ?_
          refine lv_isub hx hb dX6_worked_113 ?_
          refine m_ald S hw 21 33 100 rfl (by decide) rfl h.1 dX6_worked_114 ?_
          replace h := h.2
          refine lv_if_ne (tgt := 122) hx hb dX6_worked_115 (by decide) (fun c115 => ?_) (fun c115 => ?_)
          · replace h := if_f c115 h
            refine lv_iconst (v := (0 : Int32)) hx hb dX6_worked_122 (by decide) ?_
            refine m_ast S hw 21 33 100 rfl (by decide) rfl h.1 dX6_worked_123 (fun a123 H locs ea123 hw => ?_)
            replace h := h.2 a123 ea123
            refine lv_goto (tgt := 157) hx hb dX6_worked_124 (by decide) ?_
            refine lv_iinc (v := (x3 + (1 : Int32))) (lv' := [(3, .int (x3 + (1 : Int32))), (5, .int (a44 0 (((r44 + (4 : Int32)) + ((2 : Int32) * x3)) + (1 : Int32)).toNatClampNeg)), (4, .int (a26 0 ((r26 + (4 : Int32)) + ((2 : Int32) * x3)).toNatClampNeg)), (0, .ref (ad 38)), (1, .int x1), (2, .int x2)]) hx hb dX6_worked_157 hl (k := 5) rfl rfl (by decide) rfl (fun ls hl => ?_)
            refine lv_goto (tgt := 4) hx hb dX6_worked_160 (by decide) ?_
            exact ih _ _ _ _ _ _ h hw (lv_sub hl [3, 4, 5, 0] rfl)
          · replace h := if_t c115 h
            refine lv_iconst (v := (1 : Int32)) hx hb dX6_worked_118 (by decide) ?_
            refine lv_goto (tgt := 123) hx hb dX6_worked_119 (by decide) ?_
            refine m_ast S hw 21 33 100 rfl (by decide) rfl h.1 dX6_worked_123 (fun a123 H locs ea123 hw => ?_)
            replace h := h.2 a123 ea123
            refine lv_goto (tgt := 157) hx hb dX6_worked_124 (by decide) ?_
            refine lv_iinc (v := (x3 + (1 : Int32))) (lv' := [(3, .int (x3 + (1 : Int32))), (5, .int (a44 0 (((r44 + (4 : Int32)) + ((2 : Int32) * x3)) + (1 : Int32)).toNatClampNeg)), (4, .int (a26 0 ((r26 + (4 : Int32)) + ((2 : Int32) * x3)).toNatClampNeg)), (0, .ref (ad 38)), (1, .int x1), (2, .int x2)]) hx hb dX6_worked_157 hl (k := 5) rfl rfl (by decide) rfl (fun ls hl => ?_)
            refine lv_goto (tgt := 4) hx hb dX6_worked_160 (by decide) ?_
            exact ih _ _ _ _ _ _ h hw (lv_sub hl [3, 4, 5, 0] rfl)
      · replace h := if_f c61 h
        refine lv_aload_n hx hb dX6_worked_64 rfl (lv_at hl 2 rfl) ?_
        refine m_get S hw 33 (by decide) q1371 rfl rfl dX6_worked_65 ?_
        refine lv_iload_n hx hb dX6_worked_68 rfl (lv_at hl 4 rfl) ?_
        refine lv_iload hx hb dX6_worked_69 (lv_at hl 1 rfl) ?_
        refine lv_if_ne (tgt := 79) hx hb dX6_worked_71 (by decide) (fun c71 => ?_) (fun c71 => ?_)
        · replace h := if_f c71 h
          refine lv_aload_n hx hb dX6_worked_79 rfl (lv_at hl 2 rfl) ?_
          refine m_get S hw 32 (by decide) q1370 rfl rfl dX6_worked_80 ?_
          refine lv_iload hx hb dX6_worked_83 (lv_at hl 0 rfl) ?_
          refine m_ald S hw 20 32 128 rfl (by decide) rfl h.1 dX6_worked_85 ?_
          replace h := h.2
          exact wkM_worked_86 S hr hlk Q x1 ih _ _ _ _ _ _ _ _ h hw (lv_sub hl [2, 3, 4, 5] rfl)
        · replace h := if_t c71 h
          refine lv_iload hx hb dX6_worked_74 (lv_at hl 0 rfl) ?_
          refine lv_goto (tgt := 86) hx hb dX6_worked_76 (by decide) ?_
          exact wkM_worked_86 S hr hlk Q x1 ih _ _ _ _ _ _ _ _ h hw (lv_sub hl [2, 3, 4, 5] rfl)
def wpM_worked (a : MS) (x1 : Int32) (Q : Int32 → MS → Prop) : Prop := ∃ n4, bkM_worked_4 Q x1 n4 (0 : Int32) (0 : Int32) a
set_option maxHeartbeats 4000000 in
set_option maxRecDepth 100000 in
theorem wkM_worked_e (S : CallFix p m c cX6_worked 6 s args lw_all RX6) (hr : meth.sig.returnType = (some .int)) (hlk : meth.locks = false) (Q : Int32 → MS → Prop) (x1 : Int32) (a : MS) (H : Heap) (locs : List Loc) (ls : Array Slot) (h : wpM_worked a x1 Q) (hw : MW D dA ad A a s H locs) (hl : lv_has ls 6 [(0, .ref (ad 38)), (1, .int x1)]) : W p l e rmM_worked s m args below meth c H locs 0 0 (MQ below (mQi D dA ad A Q) args s 0 0 A) (F0 m 0 ls []) := by
  have hx := S.1
  have hb := S.2.1
  have hown := S.2.2.2.1
  have hts := S.2.2.2.2
  unfold wpM_worked at h
  refine lv_iconst (v := (0 : Int32)) hx hb dX6_worked_0 (by decide) ?_
  refine lv_istore_n (lv' := [(2, .int (0 : Int32)), (0, .ref (ad 38)), (1, .int x1)]) hx hb dX6_worked_1 rfl hl (by decide) rfl (fun ls hl => ?_)
  refine lv_iconst (v := (0 : Int32)) hx hb dX6_worked_2 (by decide) ?_
  refine lv_istore_n (lv' := [(3, .int (0 : Int32)), (2, .int (0 : Int32)), (0, .ref (ad 38)), (1, .int x1)]) hx hb dX6_worked_3 rfl hl (by decide) rfl (fun ls hl => ?_)
  obtain ⟨n4, h⟩ := h
  exact wkM_worked_4 S hr hlk Q x1 n4 _ _ _ _ _ _ h hw (lv_sub hl [2, 3, 1, 0] rfl)
theorem ctM_worked (l : Launch) (D : va_G) (dA : Nat → ClassId) (ad : Nat → Nat) (A : Nat → Prop) (a : MS) (x1 : Int32) (Q : Int32 → MS → Prop) (h : wpM_worked a x1 Q) : Met l yX6_worked (ws_ yX6_worked cX6_worked 6 (some .int)) rmM_worked (mPc D dA ad A a [.ref (ad 38), .int x1]) (mQi D dA ad A Q) 0 0 A :=
  m_met (by decide) rfl rfl rfl (Nat.le_of_ble_eq_true rfl) (fun p e s m below meth c ls S hr hlk hw hl => wkM_worked_e S hr hlk Q x1 a _ _ ls h hw hl)
theorem cwM_worked {R : Room} {s : State} {args : Array Value} {rm : Room} (hts : ∀ w ∈ lw_all, w.before args s = true) (hR : rm.frames + 1 ≤ R.frames ∧ 8 + (6 + 11) + rm.locals ≤ R.locals) (hc : rm.cells = 0 := by rfl) (hs : rm.slots = 0 := by rfl) : CallW R s args RX6 RX6 95 yX6_worked cX6_worked 6 (some .int) (ws_ yX6_worked cX6_worked 6 (some .int)) rm 0 0 1 :=
  cwV 1 hts (lw_V q1501 q1503 qs57 q112 q1504) rfl hc hs (by decide +kernel) hR
/-! miss -/
abbrev rmM_miss : Room := { frames := 2, cells := 0, slots := 0, locals := 47 }
def bkM_miss_88 (Q : Int32 → MS → Prop) (x1 : Int32) : Int32 → Int32 → MS → Prop := fun x2 x3 a => vp_in x2 3098 ∧ (if (a 0 x2.toNatClampNeg) = (1 : Int32) then (Q (x3 + (5 : Int32)) a) else (if (a 0 x2.toNatClampNeg) = (2 : Int32) then (Q (x3 / (2 : Int32)) a) else (if (a 0 x2.toNatClampNeg) = (3 : Int32) then (vp_in (x2 + (1 : Int32)) 3098 ∧ (Q ((x3 + (5 : Int32)) + (a 0 (x2 + (1 : Int32)).toNatClampNeg)) a)) else (if (a 0 x2.toNatClampNeg) = (4 : Int32) then (Q ((x3 / (2 : Int32)) * (2 : Int32)) a) else (if (a 0 x2.toNatClampNeg) = (5 : Int32) then (wpM_leaners a x1 (fun r158 a158 => Q (x3 + r158) a158)) else (Q x3 a))))))
set_option maxHeartbeats 4000000 in
set_option maxRecDepth 100000 in
theorem wkM_miss_88 (S : CallFix p m c cX6_miss 5 s args lw_all RX6) (hr : meth.sig.returnType = (some .int)) (hlk : meth.locks = false) (Q : Int32 → MS → Prop) (x1 : Int32) : ∀ (x2 : Int32) (x3 : Int32) (a : MS) (H : Heap) (locs : List Loc) (ls : Array Slot), bkM_miss_88 Q x1 x2 x3 a → MW D dA ad A a s H locs → lv_has ls 5 [(0, .ref (ad 38)), (1, .int x1), (2, .int x2), (3, .int x3)] → W p l e rmM_miss s m args below meth c H locs 0 0 (MQ below (mQi D dA ad A Q) args s 0 0 A) (F0 m 88 ls []) := by
  have hx := S.1
  have hb := S.2.1
  have hown := S.2.2.2.1
  have hts := S.2.2.2.2
  intro x2 x3 a H locs ls h hw hl
  unfold bkM_miss_88 at h
  refine lv_aload_n hx hb dX6_miss_88 rfl (lv_at hl 0 rfl) ?_
  refine m_get S hw 0 (by decide) q1338 rfl rfl dX6_miss_89 ?_
  refine lv_iload_n hx hb dX6_miss_92 rfl (lv_at hl 2 rfl) ?_
  refine m_ald S hw 1 0 3098 rfl (by decide) rfl h.1 dX6_miss_93 ?_
  replace h := h.2
  by_cases c94_0 : (a 0 x2.toNatClampNeg) = (1 : Int32)
  · replace h := if_t c94_0 h
    refine lv_tableIn (off := 34) (tgt := 128) hx hb dX6_miss_94 (by rw [c94_0]; decide) (by rw [c94_0]; decide) (by rw [c94_0]; decide) (by decide) ?_
    refine lv_iload_n hx hb dX6_miss_128 rfl (lv_at hl 3 rfl) ?_
    refine lv_iconst (v := (5 : Int32)) hx hb dX6_miss_129 (by decide) ?_
    refine lv_iadd hx hb dX6_miss_130 ?_
    exact m_iret S hr hlk hw h dX6_miss_131
  replace h := if_f c94_0 h
  by_cases c94_1 : (a 0 x2.toNatClampNeg) = (2 : Int32)
  · replace h := if_t c94_1 h
    refine lv_tableIn (off := 38) (tgt := 132) hx hb dX6_miss_94 (by rw [c94_1]; decide) (by rw [c94_1]; decide) (by rw [c94_1]; decide) (by decide) ?_
    refine lv_iload_n hx hb dX6_miss_132 rfl (lv_at hl 3 rfl) ?_
    refine lv_iconst (v := (2 : Int32)) hx hb dX6_miss_133 (by decide) ?_
    refine lv_idiv hx hb dX6_miss_134 (by decide) ?_
    exact m_iret S hr hlk hw h dX6_miss_135
  replace h := if_f c94_1 h
  by_cases c94_2 : (a 0 x2.toNatClampNeg) = (3 : Int32)
  · replace h := if_t c94_2 h
    refine lv_tableIn (off := 42) (tgt := 136) hx hb dX6_miss_94 (by rw [c94_2]; decide) (by rw [c94_2]; decide) (by rw [c94_2]; decide) (by decide) ?_
    refine lv_iload_n hx hb dX6_miss_136 rfl (lv_at hl 3 rfl) ?_
    refine lv_iconst (v := (5 : Int32)) hx hb dX6_miss_137 (by decide) ?_
    refine lv_iadd hx hb dX6_miss_138 ?_
    refine lv_aload_n hx hb dX6_miss_139 rfl (lv_at hl 0 rfl) ?_
    refine m_get S hw 0 (by decide) q1338 rfl rfl dX6_miss_140 ?_
    refine lv_iload_n hx hb dX6_miss_143 rfl (lv_at hl 2 rfl) ?_
    refine lv_iconst (v := (1 : Int32)) hx hb dX6_miss_144 (by decide) ?_
    refine lv_iadd hx hb dX6_miss_145 ?_
    refine m_ald S hw 1 0 3098 rfl (by decide) rfl h.1 dX6_miss_146 ?_
    replace h := h.2
    refine lv_iadd hx hb dX6_miss_147 ?_
    exact m_iret S hr hlk hw h dX6_miss_148
  replace h := if_f c94_2 h
  by_cases c94_3 : (a 0 x2.toNatClampNeg) = (4 : Int32)
  · replace h := if_t c94_3 h
    refine lv_tableIn (off := 55) (tgt := 149) hx hb dX6_miss_94 (by rw [c94_3]; decide) (by rw [c94_3]; decide) (by rw [c94_3]; decide) (by decide) ?_
    refine lv_iload_n hx hb dX6_miss_149 rfl (lv_at hl 3 rfl) ?_
    refine lv_iconst (v := (2 : Int32)) hx hb dX6_miss_150 (by decide) ?_
    refine lv_idiv hx hb dX6_miss_151 (by decide) ?_
    refine lv_iconst (v := (2 : Int32)) hx hb dX6_miss_152 (by decide) ?_
    refine lv_imul hx hb dX6_miss_153 ?_
    exact m_iret S hr hlk hw h dX6_miss_154
  replace h := if_f c94_3 h
  by_cases c94_4 : (a 0 x2.toNatClampNeg) = (5 : Int32)
  · replace h := if_t c94_4 h
    refine lv_tableIn (off := 61) (tgt := 155) hx hb dX6_miss_94 (by rw [c94_4]; decide) (by rw [c94_4]; decide) (by rw [c94_4]; decide) (by decide) ?_
    refine lv_iload_n hx hb dX6_miss_155 rfl (lv_at hl 3 rfl) ?_
    refine lv_aload_n hx hb dX6_miss_156 rfl (lv_at hl 0 rfl) ?_
    refine lv_iload_n hx hb dX6_miss_157 rfl (lv_at hl 1 rfl) ?_
    refine m_calli S hw [.int x1] [.int x3] (ctM_leaners l D dA ad A a x1 _ h) (cwM_leaners hts ⟨Nat.le_of_ble_eq_true rfl, Nat.le_of_ble_eq_true rfl⟩) rfl hl.1 rfl (Nat.le_of_ble_eq_true rfl) dX6_miss_158 ⟨Nat.zero_le _, Nat.zero_le _⟩ (fun r158 a158 H locs h hw => ?_)
    refine lv_iadd hx hb dX6_miss_161 ?_
    exact m_iret S hr hlk hw h dX6_miss_162
  replace h := if_f c94_4 h
  have hout : (a 0 x2.toNatClampNeg).toInt < 1 ∨ 5 < (a 0 x2.toNatClampNeg).toInt := by
    have n0 := lv_neT c94_0 (a := 1) (by decide)
    have n1 := lv_neT c94_1 (a := 2) (by decide)
    have n2 := lv_neT c94_2 (a := 3) (by decide)
    have n3 := lv_neT c94_3 (a := 4) (by decide)
    have n4 := lv_neT c94_4 (a := 5) (by decide)
    omega
  refine lv_tableOut (tgt := 163) hx hb dX6_miss_94 hout (by decide) ?_
  refine lv_iload_n hx hb dX6_miss_163 rfl (lv_at hl 3 rfl) ?_
  exact m_iret S hr hlk hw h dX6_miss_164
def bkM_miss_87 (Q : Int32 → MS → Prop) (x1 : Int32) : Int32 → Int32 → MS → Prop := fun x2 s0 a => bkM_miss_88 Q x1 x2 s0 a
set_option maxHeartbeats 4000000 in
set_option maxRecDepth 100000 in
theorem wkM_miss_87 (S : CallFix p m c cX6_miss 5 s args lw_all RX6) (hr : meth.sig.returnType = (some .int)) (hlk : meth.locks = false) (Q : Int32 → MS → Prop) (x1 : Int32) : ∀ (x2 : Int32) (s0 : Int32) (a : MS) (H : Heap) (locs : List Loc) (ls : Array Slot), bkM_miss_87 Q x1 x2 s0 a → MW D dA ad A a s H locs → lv_has ls 5 [(0, .ref (ad 38)), (1, .int x1), (2, .int x2)] → W p l e rmM_miss s m args below meth c H locs 0 0 (MQ below (mQi D dA ad A Q) args s 0 0 A) (F0 m 87 ls [.int s0]) := by
  have hx := S.1
  have hb := S.2.1
  have hown := S.2.2.2.1
  have hts := S.2.2.2.2
  intro x2 s0 a H locs ls h hw hl
  unfold bkM_miss_87 at h
  refine lv_istore_n (lv' := [(3, .int s0), (0, .ref (ad 38)), (1, .int x1), (2, .int x2)]) hx hb dX6_miss_87 rfl hl (by decide) rfl (fun ls hl => ?_)
  exact wkM_miss_88 S hr hlk Q x1 _ _ _ _ _ _ h hw (lv_sub hl [1, 2, 3, 0] rfl)
def wpM_miss (a : MS) (x1 : Int32) (Q : Int32 → MS → Prop) : Prop := wpM_leafAt a x1 (fun r2 a2 => vp_in (r2 + (2 : Int32)) 3098 ∧ (wpM_counts a2 (1 : Int32) (fun r17 a17 => if r17 < 0 then (bkM_miss_88 Q x1 r2 (a2 0 (r2 + (2 : Int32)).toNatClampNeg) a17) else (∀ a34 : MS, a34 = up2 a17 32 (108 : Int32).toNatClampNeg (a2 0 (r2 + (2 : Int32)).toNatClampNeg) → (∀ a42 : MS, a42 = up2 a34 32 (110 : Int32).toNatClampNeg x1 → (vp_in (r2 + (1 : Int32)) 3098 ∧ (∀ a57 : MS, a57 = up2 a42 32 (115 : Int32).toNatClampNeg (a42 0 (r2 + (1 : Int32)).toNatClampNeg) → (wpM_worked a57 r17 (fun r61 a61 => if 0 ≤ r61 then (if r61 ≤ (999 : Int32) then (bkM_miss_87 Q x1 r2 r61 a61) else (bkM_miss_87 Q x1 r2 (999 : Int32) a61)) else (bkM_miss_87 Q x1 r2 (0 : Int32) a61))))))))))
set_option maxHeartbeats 4000000 in
set_option maxRecDepth 100000 in
theorem wkM_miss_e (S : CallFix p m c cX6_miss 5 s args lw_all RX6) (hr : meth.sig.returnType = (some .int)) (hlk : meth.locks = false) (Q : Int32 → MS → Prop) (x1 : Int32) (a : MS) (H : Heap) (locs : List Loc) (ls : Array Slot) (h : wpM_miss a x1 Q) (hw : MW D dA ad A a s H locs) (hl : lv_has ls 5 [(0, .ref (ad 38)), (1, .int x1)]) : W p l e rmM_miss s m args below meth c H locs 0 0 (MQ below (mQi D dA ad A Q) args s 0 0 A) (F0 m 0 ls []) := by
  have hx := S.1
  have hb := S.2.1
  have hown := S.2.2.2.1
  have hts := S.2.2.2.2
  unfold wpM_miss at h
  refine lv_aload_n hx hb dX6_miss_0 rfl (lv_at hl 0 rfl) ?_
  refine lv_iload_n hx hb dX6_miss_1 rfl (lv_at hl 1 rfl) ?_
  refine m_calli S hw [.int x1] [] (ctM_leafAt l D dA ad A a x1 _ h) (cwM_leafAt hts ⟨Nat.le_of_ble_eq_true rfl, Nat.le_of_ble_eq_true rfl⟩) rfl hl.1 rfl (Nat.le_of_ble_eq_true rfl) dX6_miss_2 ⟨Nat.zero_le _, Nat.zero_le _⟩ (fun r2 a2 H locs h hw => ?_)
  refine lv_istore_n (lv' := [(2, .int r2), (0, .ref (ad 38)), (1, .int x1)]) hx hb dX6_miss_5 rfl hl (by decide) rfl (fun ls hl => ?_)
  refine lv_aload_n hx hb dX6_miss_6 rfl (lv_at hl 1 rfl) ?_
  refine m_get S hw 0 (by decide) q1338 rfl rfl dX6_miss_7 ?_
  refine lv_iload_n hx hb dX6_miss_10 rfl (lv_at hl 0 rfl) ?_
  refine lv_iconst (v := (2 : Int32)) hx hb dX6_miss_11 (by decide) ?_
  refine lv_iadd hx hb dX6_miss_12 ?_
  refine m_ald S hw 1 0 3098 rfl (by decide) rfl h.1 dX6_miss_13 ?_
  replace h := h.2
  refine lv_istore_n (lv' := [(3, .int (a2 0 (r2 + (2 : Int32)).toNatClampNeg)), (2, .int r2), (0, .ref (ad 38)), (1, .int x1)]) hx hb dX6_miss_14 rfl hl (by decide) rfl (fun ls hl => ?_)
  refine lv_aload_n hx hb dX6_miss_15 rfl (lv_at hl 2 rfl) ?_
  refine lv_iconst (v := (1 : Int32)) hx hb dX6_miss_16 (by decide) ?_
  refine m_calli S hw [.int (1 : Int32)] [] (ctM_counts l D dA ad A a2 (1 : Int32) _ h) (cwM_counts hts ⟨Nat.le_of_ble_eq_true rfl, Nat.le_of_ble_eq_true rfl⟩) rfl hl.1 rfl (Nat.le_of_ble_eq_true rfl) dX6_miss_17 ⟨Nat.zero_le _, Nat.zero_le _⟩ (fun r17 a17 H locs h hw => ?_)
  refine lv_istore (lv' := [(4, .int r17), (3, .int (a2 0 (r2 + (2 : Int32)).toNatClampNeg)), (2, .int r2), (0, .ref (ad 38)), (1, .int x1)]) hx hb dX6_miss_20 hl (by decide) rfl (fun ls hl => ?_)
  refine lv_iload hx hb dX6_miss_22 (lv_at hl 0 rfl) ?_
  refine lv_if_lt (tgt := 88) hx hb dX6_miss_24 (by decide) (fun c24 => ?_) (fun c24 => ?_)
  · replace h := if_t c24 h
    exact wkM_miss_88 S hr hlk Q x1 _ _ _ _ _ _ h hw (lv_sub hl [3, 4, 2, 1] rfl)
  · replace h := if_f c24 h
    refine lv_aload_n hx hb dX6_miss_27 rfl (lv_at hl 3 rfl) ?_
    refine m_get S hw 32 (by decide) q1370 rfl rfl dX6_miss_28 ?_
    refine lv_bipush (v := (108 : Int32)) hx hb dX6_miss_31 (by decide) ?_
    refine lv_iload_n hx hb dX6_miss_33 rfl (lv_at hl 1 rfl) ?_
    refine m_ast S hw 20 32 128 rfl (by decide) rfl (vlit (by decide)) dX6_miss_34 (fun a34 H locs ea34 hw => ?_)
    replace h := h a34 ea34
    refine lv_aload_n hx hb dX6_miss_35 rfl (lv_at hl 3 rfl) ?_
    refine m_get S hw 32 (by decide) q1370 rfl rfl dX6_miss_36 ?_
    refine lv_bipush (v := (110 : Int32)) hx hb dX6_miss_39 (by decide) ?_
    refine lv_iload_n hx hb dX6_miss_41 rfl (lv_at hl 4 rfl) ?_
    refine m_ast S hw 20 32 128 rfl (by decide) rfl (vlit (by decide)) dX6_miss_42 (fun a42 H locs ea42 hw => ?_)
    replace h := h a42 ea42
    refine lv_aload_n hx hb dX6_miss_43 rfl (lv_at hl 3 rfl) ?_
    refine m_get S hw 32 (by decide) q1370 rfl rfl dX6_miss_44 ?_
    refine lv_bipush (v := (115 : Int32)) hx hb dX6_miss_47 (by decide) ?_
    refine lv_aload_n hx hb dX6_miss_49 rfl (lv_at hl 3 rfl) ?_
    refine m_get S hw 0 (by decide) q1338 rfl rfl dX6_miss_50 ?_
    refine lv_iload_n hx hb dX6_miss_53 rfl (lv_at hl 2 rfl) ?_
    refine lv_iconst (v := (1 : Int32)) hx hb dX6_miss_54 (by decide) ?_
    refine lv_iadd hx hb dX6_miss_55 ?_
    refine m_ald S hw 1 0 3098 rfl (by decide) rfl h.1 dX6_miss_56 ?_
    replace h := h.2
    refine m_ast S hw 20 32 128 rfl (by decide) rfl (vlit (by decide)) dX6_miss_57 (fun a57 H locs ea57 hw => ?_)
    replace h := h a57 ea57
    refine lv_aload_n hx hb dX6_miss_58 rfl (lv_at hl 3 rfl) ?_
    refine lv_iload hx hb dX6_miss_59 (lv_at hl 0 rfl) ?_
    refine m_calli S hw [.int r17] [] (ctM_worked l D dA ad A a57 r17 _ h) (cwM_worked hts ⟨Nat.le_of_ble_eq_true rfl, Nat.le_of_ble_eq_true rfl⟩) rfl hl.1 rfl (Nat.le_of_ble_eq_true rfl) dX6_miss_61 ⟨Nat.zero_le _, Nat.zero_le _⟩ (fun r61 a61 H locs h hw => ?_)
    refine lv_istore_n (lv' := [(3, .int r61), (4, .int r17), (2, .int r2), (0, .ref (ad 38)), (1, .int x1)]) hx hb dX6_miss_64 rfl hl (by decide) rfl (fun ls hl => ?_)
    refine lv_iload_n hx hb dX6_miss_65 rfl (lv_at hl 0 rfl) ?_
    refine lv_if_ge (tgt := 73) hx hb dX6_miss_66 (by decide) (fun c66 => ?_) (fun c66 => ?_)
    · replace h := if_t c66 h
      refine lv_iload_n hx hb dX6_miss_73 rfl (lv_at hl 0 rfl) ?_
      refine lv_sipush (v := (999 : Int32)) hx hb dX6_miss_74 (by decide) ?_
      refine lv_icmp_le (tgt := 86) hx hb dX6_miss_77 (by decide) (fun c77 => ?_) (fun c77 => ?_)
      · replace h := if_t c77 h
        refine lv_iload_n hx hb dX6_miss_86 rfl (lv_at hl 0 rfl) ?_
        exact wkM_miss_87 S hr hlk Q x1 _ _ _ _ _ _ h hw (lv_sub hl [3, 4, 2] rfl)
      · replace h := if_f c77 h
        refine lv_sipush (v := (999 : Int32)) hx hb dX6_miss_80 (by decide) ?_
        refine lv_goto (tgt := 87) hx hb dX6_miss_83 (by decide) ?_
        exact wkM_miss_87 S hr hlk Q x1 _ _ _ _ _ _ h hw (lv_sub hl [3, 4, 2] rfl)
    · replace h := if_f c66 h
      refine lv_iconst (v := (0 : Int32)) hx hb dX6_miss_69 (by decide) ?_
      refine lv_goto (tgt := 87) hx hb dX6_miss_70 (by decide) ?_
      exact wkM_miss_87 S hr hlk Q x1 _ _ _ _ _ _ h hw (lv_sub hl [3, 4, 2] rfl)
theorem ctM_miss (l : Launch) (D : va_G) (dA : Nat → ClassId) (ad : Nat → Nat) (A : Nat → Prop) (a : MS) (x1 : Int32) (Q : Int32 → MS → Prop) (h : wpM_miss a x1 Q) : Met l yX6_miss (ws_ yX6_miss cX6_miss 5 (some .int)) rmM_miss (mPc D dA ad A a [.ref (ad 38), .int x1]) (mQi D dA ad A Q) 0 0 A :=
  m_met (by decide) rfl rfl rfl (Nat.le_of_ble_eq_true rfl) (fun p e s m below meth c ls S hr hlk hw hl => wkM_miss_e S hr hlk Q x1 a _ _ ls h hw hl)
theorem cwM_miss {R : Room} {s : State} {args : Array Value} {rm : Room} (hts : ∀ w ∈ lw_all, w.before args s = true) (hR : rm.frames + 1 ≤ R.frames ∧ 8 + (5 + 11) + rm.locals ≤ R.locals) (hc : rm.cells = 0 := by rfl) (hs : rm.slots = 0 := by rfl) : CallW R s args RX6 RX6 107 yX6_miss cX6_miss 5 (some .int) (ws_ yX6_miss cX6_miss 5 (some .int)) rm 0 0 1 :=
  cwV 1 hts (lw_V q1508 q1510 qs58 q112 q1511) rfl hc hs (by decide +kernel) hR
/-! orNone -/
abbrev rmM_orNone : Room := { frames := 0, cells := 0, slots := 0, locals := 0 }
def wpM_orNone (a : MS) (x0 : Int32) (Q : Int32 → MS → Prop) : Prop := if 0 ≤ x0 then (Q x0 a) else (Q (-1000000005 : Int32) a)
set_option maxHeartbeats 4000000 in
set_option maxRecDepth 100000 in
theorem wkM_orNone_e (S : CallFix p m c cX6_orNone 1 s args lw_all RX6) (hr : meth.sig.returnType = (some .int)) (hlk : meth.locks = false) (Q : Int32 → MS → Prop) (x0 : Int32) (a : MS) (H : Heap) (locs : List Loc) (ls : Array Slot) (h : wpM_orNone a x0 Q) (hw : MW D dA ad A a s H locs) (hl : lv_has ls 1 [(0, .int x0)]) : W p l e rmM_orNone s m args below meth c H locs 0 0 (MQ below (mQi D dA ad A Q) args s 0 0 A) (F0 m 0 ls []) := by
  have hx := S.1
  have hb := S.2.1
  have hown := S.2.2.2.1
  have hts := S.2.2.2.2
  unfold wpM_orNone at h
  refine lv_iload_n hx hb dX6_orNone_0 rfl (lv_at hl 0 rfl) ?_
  refine lv_if_ge (tgt := 9) hx hb dX6_orNone_1 (by decide) (fun c1 => ?_) (fun c1 => ?_)
  · replace h := if_t c1 h
    refine lv_iload_n hx hb dX6_orNone_9 rfl (lv_at hl 0 rfl) ?_
    exact m_iret S hr hlk hw h dX6_orNone_10
  · replace h := if_f c1 h
    refine lv_ldc hx hb hown (hts _ q1463) dX6_orNone_4 ?_
    refine lv_goto (tgt := 10) hx hb dX6_orNone_6 (by decide) ?_
    exact m_iret S hr hlk hw h dX6_orNone_10
theorem ctM_orNone (l : Launch) (D : va_G) (dA : Nat → ClassId) (ad : Nat → Nat) (A : Nat → Prop) (a : MS) (x0 : Int32) (Q : Int32 → MS → Prop) (h : wpM_orNone a x0 Q) : Met l yX6_orNone (ws_ yX6_orNone cX6_orNone 1 (some .int)) rmM_orNone (mPc D dA ad A a [.int x0]) (mQi D dA ad A Q) 0 0 A :=
  m_met (by decide) rfl rfl rfl (Nat.le_of_ble_eq_true rfl) (fun p e s m below meth c ls S hr hlk hw hl => wkM_orNone_e S hr hlk Q x0 a _ _ ls h hw hl)
theorem cwM_orNone {R : Room} {s : State} {args : Array Value} {rm : Room} (hts : ∀ w ∈ lw_all, w.before args s = true) (hR : rm.frames + 1 ≤ R.frames ∧ 8 + (1 + 11) + rm.locals ≤ R.locals) (hc : rm.cells = 0 := by rfl) (hs : rm.slots = 0 := by rfl) : CallB R s args RX6 126 yX6_orNone cX6_orNone 1 (some .int) (ws_ yX6_orNone cX6_orNone 1 (some .int)) rm 0 0 1 ∧ (Cond.static yX6_orNone).before args s = true :=
  va_cwS 1 hts (lw_S q1482 q1483 q112 q1484) rfl hc hs (by decide +kernel) hR
/-! placeOf -/
abbrev rmM_placeOf : Room := { frames := 0, cells := 0, slots := 0, locals := 0 }
def bkM_placeOf_4 (Q : Int32 → MS → Prop) (x1 : Int32) : Nat → Int32 → Int32 → MS → Prop
  | 0 => fun _ _ _ => False
  | n + 1 => fun x2 x3 a => if (a 0 (2 : Int32).toNatClampNeg) ≤ x3 then (Q x2 a) else (vp_in ((66 : Int32) + x3) 3098 ∧ (if (a 0 ((66 : Int32) + x3).toNatClampNeg) = x1 then (bkM_placeOf_4 Q x1 n x3 (x3 + (1 : Int32)) a) else (bkM_placeOf_4 Q x1 n x2 (x3 + (1 : Int32)) a)))
set_option maxHeartbeats 4000000 in
set_option maxRecDepth 100000 in
theorem wkM_placeOf_4 (S : CallFix p m c cX6_placeOf 4 s args lw_all RX6) (hr : meth.sig.returnType = (some .int)) (hlk : meth.locks = false) (Q : Int32 → MS → Prop) (x1 : Int32) : ∀ (n : Nat) (x2 : Int32) (x3 : Int32) (a : MS) (H : Heap) (locs : List Loc) (ls : Array Slot), bkM_placeOf_4 Q x1 n x2 x3 a → MW D dA ad A a s H locs → lv_has ls 4 [(0, .ref (ad 38)), (1, .int x1), (2, .int x2), (3, .int x3)] → W p l e rmM_placeOf s m args below meth c H locs 0 0 (MQ below (mQi D dA ad A Q) args s 0 0 A) (F0 m 4 ls []) := by
  have hx := S.1
  have hb := S.2.1
  have hown := S.2.2.2.1
  have hts := S.2.2.2.2
  intro n
  induction n with
  | zero =>
    intro x2 x3 a H locs ls h
    exact False.elim h
  | succ n ih =>
    intro x2 x3 a H locs ls h hw hl
    unfold bkM_placeOf_4 at h
    refine lv_iload_n hx hb dX6_placeOf_4 rfl (lv_at hl 3 rfl) ?_
    refine lv_aload_n hx hb dX6_placeOf_5 rfl (lv_at hl 0 rfl) ?_
    refine m_get S hw 0 (by decide) q1338 rfl rfl dX6_placeOf_6 ?_
    refine lv_iconst (v := (2 : Int32)) hx hb dX6_placeOf_9 (by decide) ?_
    refine m_ald S hw 1 0 3098 rfl (by decide) rfl (vlit (by decide)) dX6_placeOf_10 ?_
    refine lv_icmp_ge (tgt := 39) hx hb dX6_placeOf_11 (by decide) (fun c11 => ?_) (fun c11 => ?_)
    · replace h := if_t c11 h
      refine lv_iload_n hx hb dX6_placeOf_39 rfl (lv_at hl 2 rfl) ?_
      exact m_iret S hr hlk hw h dX6_placeOf_40
    · replace h := if_f c11 h
      refine lv_aload_n hx hb dX6_placeOf_14 rfl (lv_at hl 0 rfl) ?_
      refine m_get S hw 0 (by decide) q1338 rfl rfl dX6_placeOf_15 ?_
      refine lv_bipush (v := (66 : Int32)) hx hb dX6_placeOf_18 (by decide) ?_
      refine lv_iload_n hx hb dX6_placeOf_20 rfl (lv_at hl 3 rfl) ?_
      refine lv_iadd hx hb dX6_placeOf_21 ?_
      refine m_ald S hw 1 0 3098 rfl (by decide) rfl h.1 dX6_placeOf_22 ?_
      replace h := h.2
      refine lv_iload_n hx hb dX6_placeOf_23 rfl (lv_at hl 1 rfl) ?_
      refine lv_icmp_ne (tgt := 31) hx hb dX6_placeOf_24 (by decide) (fun c24 => ?_) (fun c24 => ?_)
      · replace h := if_f c24 h
        refine lv_iload_n hx hb dX6_placeOf_31 rfl (lv_at hl 2 rfl) ?_
        refine lv_istore_n (lv' := [(2, .int x2), (0, .ref (ad 38)), (1, .int x1), (3, .int x3)]) hx hb dX6_placeOf_32 rfl hl (by decide) rfl (fun ls hl => ?_)
        refine lv_iinc (v := (x3 + (1 : Int32))) (lv' := [(3, .int (x3 + (1 : Int32))), (2, .int x2), (0, .ref (ad 38)), (1, .int x1)]) hx hb dX6_placeOf_33 hl (k := 3) rfl rfl (by decide) rfl (fun ls hl => ?_)
        refine lv_goto (tgt := 4) hx hb dX6_placeOf_36 (by decide) ?_
        exact ih _ _ _ _ _ _ h hw (lv_sub hl [2, 3, 1, 0] rfl)
      · replace h := if_t c24 h
        refine lv_iload_n hx hb dX6_placeOf_27 rfl (lv_at hl 3 rfl) ?_
        refine lv_goto (tgt := 32) hx hb dX6_placeOf_28 (by decide) ?_
        refine lv_istore_n (lv' := [(2, .int x3), (0, .ref (ad 38)), (1, .int x1), (3, .int x3)]) hx hb dX6_placeOf_32 rfl hl (by decide) rfl (fun ls hl => ?_)
        refine lv_iinc (v := (x3 + (1 : Int32))) (lv' := [(3, .int (x3 + (1 : Int32))), (2, .int x3), (0, .ref (ad 38)), (1, .int x1)]) hx hb dX6_placeOf_33 hl (k := 3) rfl rfl (by decide) rfl (fun ls hl => ?_)
        refine lv_goto (tgt := 4) hx hb dX6_placeOf_36 (by decide) ?_
        exact ih _ _ _ _ _ _ h hw (lv_sub hl [2, 3, 1, 0] rfl)
def wpM_placeOf (a : MS) (x1 : Int32) (Q : Int32 → MS → Prop) : Prop := ∃ n4, bkM_placeOf_4 Q x1 n4 (-1 : Int32) (0 : Int32) a
set_option maxHeartbeats 4000000 in
set_option maxRecDepth 100000 in
theorem wkM_placeOf_e (S : CallFix p m c cX6_placeOf 4 s args lw_all RX6) (hr : meth.sig.returnType = (some .int)) (hlk : meth.locks = false) (Q : Int32 → MS → Prop) (x1 : Int32) (a : MS) (H : Heap) (locs : List Loc) (ls : Array Slot) (h : wpM_placeOf a x1 Q) (hw : MW D dA ad A a s H locs) (hl : lv_has ls 4 [(0, .ref (ad 38)), (1, .int x1)]) : W p l e rmM_placeOf s m args below meth c H locs 0 0 (MQ below (mQi D dA ad A Q) args s 0 0 A) (F0 m 0 ls []) := by
  have hx := S.1
  have hb := S.2.1
  have hown := S.2.2.2.1
  have hts := S.2.2.2.2
  unfold wpM_placeOf at h
  refine lv_iconst (v := (-1 : Int32)) hx hb dX6_placeOf_0 (by decide) ?_
  refine lv_istore_n (lv' := [(2, .int (-1 : Int32)), (0, .ref (ad 38)), (1, .int x1)]) hx hb dX6_placeOf_1 rfl hl (by decide) rfl (fun ls hl => ?_)
  refine lv_iconst (v := (0 : Int32)) hx hb dX6_placeOf_2 (by decide) ?_
  refine lv_istore_n (lv' := [(3, .int (0 : Int32)), (2, .int (-1 : Int32)), (0, .ref (ad 38)), (1, .int x1)]) hx hb dX6_placeOf_3 rfl hl (by decide) rfl (fun ls hl => ?_)
  obtain ⟨n4, h⟩ := h
  exact wkM_placeOf_4 S hr hlk Q x1 n4 _ _ _ _ _ _ h hw (lv_sub hl [2, 3, 1, 0] rfl)
theorem ctM_placeOf (l : Launch) (D : va_G) (dA : Nat → ClassId) (ad : Nat → Nat) (A : Nat → Prop) (a : MS) (x1 : Int32) (Q : Int32 → MS → Prop) (h : wpM_placeOf a x1 Q) : Met l yX6_placeOf (ws_ yX6_placeOf cX6_placeOf 4 (some .int)) rmM_placeOf (mPc D dA ad A a [.ref (ad 38), .int x1]) (mQi D dA ad A Q) 0 0 A :=
  m_met (by decide) rfl rfl rfl (Nat.le_of_ble_eq_true rfl) (fun p e s m below meth c ls S hr hlk hw hl => wkM_placeOf_e S hr hlk Q x1 a _ _ ls h hw hl)
theorem cwM_placeOf {R : Room} {s : State} {args : Array Value} {rm : Room} (hts : ∀ w ∈ lw_all, w.before args s = true) (hR : rm.frames + 1 ≤ R.frames ∧ 8 + (4 + 11) + rm.locals ≤ R.locals) (hc : rm.cells = 0 := by rfl) (hs : rm.slots = 0 := by rfl) : CallW R s args RX6 RX6 129 yX6_placeOf cX6_placeOf 4 (some .int) (ws_ yX6_placeOf cX6_placeOf 4 (some .int)) rm 0 0 1 :=
  cwV 1 hts (lw_V q1516 q1518 qs60 q112 q1519) rfl hc hs (by decide +kernel) hR
/-! plainRoom -/
abbrev rmM_plainRoom : Room := { frames := 2, cells := 0, slots := 0, locals := 47 }
def wpM_plainRoom (a : MS) (x1 : Int32) (Q : Int32 → MS → Prop) : Prop := wpM_counts a (0 : Int32) (fun r2 a2 => wpM_leafAt a2 x1 (fun r12 a12 => vp_in (r12 + (1 : Int32)) 3098 ∧ (if 0 ≤ r2 then (∀ a32 : MS, a32 = up2 a12 32 (115 : Int32).toNatClampNeg (a12 0 (r12 + (1 : Int32)).toNatClampNeg) → (∀ a40 : MS, a40 = up2 a32 32 (110 : Int32).toNatClampNeg x1 → (wpM_worked a40 r2 (fun r43 a43 => if (1 : Int32) ≤ r43 then (if r43 ≤ (9 : Int32) then (Q r43 a43) else (Q (9 : Int32) a43)) else (Q (1 : Int32) a43))))) else (Q (a12 0 (r12 + (1 : Int32)).toNatClampNeg) a12))))
set_option maxHeartbeats 4000000 in
set_option maxRecDepth 100000 in
theorem wkM_plainRoom_e (S : CallFix p m c cX6_plainRoom 5 s args lw_all RX6) (hr : meth.sig.returnType = (some .int)) (hlk : meth.locks = false) (Q : Int32 → MS → Prop) (x1 : Int32) (a : MS) (H : Heap) (locs : List Loc) (ls : Array Slot) (h : wpM_plainRoom a x1 Q) (hw : MW D dA ad A a s H locs) (hl : lv_has ls 5 [(0, .ref (ad 38)), (1, .int x1)]) : W p l e rmM_plainRoom s m args below meth c H locs 0 0 (MQ below (mQi D dA ad A Q) args s 0 0 A) (F0 m 0 ls []) := by
  have hx := S.1
  have hb := S.2.1
  have hown := S.2.2.2.1
  have hts := S.2.2.2.2
  unfold wpM_plainRoom at h
  refine lv_aload_n hx hb dX6_plainRoom_0 rfl (lv_at hl 0 rfl) ?_
  refine lv_iconst (v := (0 : Int32)) hx hb dX6_plainRoom_1 (by decide) ?_
  refine m_calli S hw [.int (0 : Int32)] [] (ctM_counts l D dA ad A a (0 : Int32) _ h) (cwM_counts hts ⟨Nat.le_of_ble_eq_true rfl, Nat.le_of_ble_eq_true rfl⟩) rfl hl.1 rfl (Nat.le_of_ble_eq_true rfl) dX6_plainRoom_2 ⟨Nat.zero_le _, Nat.zero_le _⟩ (fun r2 a2 H locs h hw => ?_)
  refine lv_istore_n (lv' := [(2, .int r2), (0, .ref (ad 38)), (1, .int x1)]) hx hb dX6_plainRoom_5 rfl hl (by decide) rfl (fun ls hl => ?_)
  refine lv_aload_n hx hb dX6_plainRoom_6 rfl (lv_at hl 1 rfl) ?_
  refine m_get S hw 0 (by decide) q1338 rfl rfl dX6_plainRoom_7 ?_
  refine lv_aload_n hx hb dX6_plainRoom_10 rfl (lv_at hl 1 rfl) ?_
  refine lv_iload_n hx hb dX6_plainRoom_11 rfl (lv_at hl 2 rfl) ?_
  refine m_calli S hw [.int x1] [.ref (ad 0)] (ctM_leafAt l D dA ad A a2 x1 _ h) (cwM_leafAt hts ⟨Nat.le_of_ble_eq_true rfl, Nat.le_of_ble_eq_true rfl⟩) rfl hl.1 rfl (Nat.le_of_ble_eq_true rfl) dX6_plainRoom_12 ⟨Nat.zero_le _, Nat.zero_le _⟩ (fun r12 a12 H locs h hw => ?_)
  refine lv_iconst (v := (1 : Int32)) hx hb dX6_plainRoom_15 (by decide) ?_
  refine lv_iadd hx hb dX6_plainRoom_16 ?_
  refine m_ald S hw 1 0 3098 rfl (by decide) rfl h.1 dX6_plainRoom_17 ?_
  replace h := h.2
  refine lv_istore_n (lv' := [(3, .int (a12 0 (r12 + (1 : Int32)).toNatClampNeg)), (2, .int r2), (0, .ref (ad 38)), (1, .int x1)]) hx hb dX6_plainRoom_18 rfl hl (by decide) rfl (fun ls hl => ?_)
  refine lv_iload_n hx hb dX6_plainRoom_19 rfl (lv_at hl 1 rfl) ?_
  refine lv_if_ge (tgt := 25) hx hb dX6_plainRoom_20 (by decide) (fun c20 => ?_) (fun c20 => ?_)
  · replace h := if_t c20 h
    refine lv_aload_n hx hb dX6_plainRoom_25 rfl (lv_at hl 2 rfl) ?_
    refine m_get S hw 32 (by decide) q1370 rfl rfl dX6_plainRoom_26 ?_
    refine lv_bipush (v := (115 : Int32)) hx hb dX6_plainRoom_29 (by decide) ?_
    refine lv_iload_n hx hb dX6_plainRoom_31 rfl (lv_at hl 0 rfl) ?_
    refine m_ast S hw 20 32 128 rfl (by decide) rfl (vlit (by decide)) dX6_plainRoom_32 (fun a32 H locs ea32 hw => ?_)
    replace h := h a32 ea32
    refine lv_aload_n hx hb dX6_plainRoom_33 rfl (lv_at hl 2 rfl) ?_
    refine m_get S hw 32 (by decide) q1370 rfl rfl dX6_plainRoom_34 ?_
    refine lv_bipush (v := (110 : Int32)) hx hb dX6_plainRoom_37 (by decide) ?_
    refine lv_iload_n hx hb dX6_plainRoom_39 rfl (lv_at hl 3 rfl) ?_
    refine m_ast S hw 20 32 128 rfl (by decide) rfl (vlit (by decide)) dX6_plainRoom_40 (fun a40 H locs ea40 hw => ?_)
    replace h := h a40 ea40
    refine lv_aload_n hx hb dX6_plainRoom_41 rfl (lv_at hl 2 rfl) ?_
    refine lv_iload_n hx hb dX6_plainRoom_42 rfl (lv_at hl 1 rfl) ?_
    refine m_calli S hw [.int r2] [] (ctM_worked l D dA ad A a40 r2 _ h) (cwM_worked hts ⟨Nat.le_of_ble_eq_true rfl, Nat.le_of_ble_eq_true rfl⟩) rfl hl.1 rfl (Nat.le_of_ble_eq_true rfl) dX6_plainRoom_43 ⟨Nat.zero_le _, Nat.zero_le _⟩ (fun r43 a43 H locs h hw => ?_)
    refine lv_istore (lv' := [(4, .int r43), (3, .int (a12 0 (r12 + (1 : Int32)).toNatClampNeg)), (2, .int r2), (0, .ref (ad 38)), (1, .int x1)]) hx hb dX6_plainRoom_46 hl (by decide) rfl (fun ls hl => ?_)
    refine lv_iload hx hb dX6_plainRoom_48 (lv_at hl 0 rfl) ?_
    refine lv_iconst (v := (1 : Int32)) hx hb dX6_plainRoom_50 (by decide) ?_
    refine lv_icmp_ge (tgt := 58) hx hb dX6_plainRoom_51 (by decide) (fun c51 => ?_) (fun c51 => ?_)
    · replace h := if_t c51 h
      refine lv_iload hx hb dX6_plainRoom_58 (lv_at hl 0 rfl) ?_
      refine lv_bipush (v := (9 : Int32)) hx hb dX6_plainRoom_60 (by decide) ?_
      refine lv_icmp_le (tgt := 70) hx hb dX6_plainRoom_62 (by decide) (fun c62 => ?_) (fun c62 => ?_)
      · replace h := if_t c62 h
        refine lv_iload hx hb dX6_plainRoom_70 (lv_at hl 0 rfl) ?_
        exact m_iret S hr hlk hw h dX6_plainRoom_72
      · replace h := if_f c62 h
        refine lv_bipush (v := (9 : Int32)) hx hb dX6_plainRoom_65 (by decide) ?_
        refine lv_goto (tgt := 72) hx hb dX6_plainRoom_67 (by decide) ?_
        exact m_iret S hr hlk hw h dX6_plainRoom_72
    · replace h := if_f c51 h
      refine lv_iconst (v := (1 : Int32)) hx hb dX6_plainRoom_54 (by decide) ?_
      refine lv_goto (tgt := 72) hx hb dX6_plainRoom_55 (by decide) ?_
      exact m_iret S hr hlk hw h dX6_plainRoom_72
  · replace h := if_f c20 h
    refine lv_iload_n hx hb dX6_plainRoom_23 rfl (lv_at hl 0 rfl) ?_
    exact m_iret S hr hlk hw h dX6_plainRoom_24
theorem ctM_plainRoom (l : Launch) (D : va_G) (dA : Nat → ClassId) (ad : Nat → Nat) (A : Nat → Prop) (a : MS) (x1 : Int32) (Q : Int32 → MS → Prop) (h : wpM_plainRoom a x1 Q) : Met l yX6_plainRoom (ws_ yX6_plainRoom cX6_plainRoom 5 (some .int)) rmM_plainRoom (mPc D dA ad A a [.ref (ad 38), .int x1]) (mQi D dA ad A Q) 0 0 A :=
  m_met (by decide) rfl rfl rfl (Nat.le_of_ble_eq_true rfl) (fun p e s m below meth c ls S hr hlk hw hl => wkM_plainRoom_e S hr hlk Q x1 a _ _ ls h hw hl)
theorem cwM_plainRoom {R : Room} {s : State} {args : Array Value} {rm : Room} (hts : ∀ w ∈ lw_all, w.before args s = true) (hR : rm.frames + 1 ≤ R.frames ∧ 8 + (5 + 11) + rm.locals ≤ R.locals) (hc : rm.cells = 0 := by rfl) (hs : rm.slots = 0 := by rfl) : CallW R s args RX6 RX6 98 yX6_plainRoom cX6_plainRoom 5 (some .int) (ws_ yX6_plainRoom cX6_plainRoom 5 (some .int)) rm 0 0 1 :=
  cwV 1 hts (lw_V q1489 q1491 qs54 q112 q1492) rfl hc hs (by decide +kernel) hR
/-! room -/
abbrev rmM_room : Room := { frames := 3, cells := 0, slots := 0, locals := 71 }
def wpM_room (a : MS) (x1 : Int32) (Q : Int32 → MS → Prop) : Prop := wpM_leafAt a x1 (fun r6 a6 => vp_in r6 3098 ∧ (if (a6 0 r6.toNatClampNeg) = (5 : Int32) then (Q (1 : Int32) a6) else (wpM_plainRoom a6 x1 (fun r20 a20 => if (a6 0 r6.toNatClampNeg) = (1 : Int32) then (Q (r20 + (1 : Int32)) a20) else (if (a6 0 r6.toNatClampNeg) = (3 : Int32) then (Q ((r20 + (2 : Int32)) / (2 : Int32)) a20) else (if (a6 0 r6.toNatClampNeg) = (2 : Int32) then (Q ((r20 + (1 : Int32)) / (2 : Int32)) a20) else (if (a6 0 r6.toNatClampNeg) = (4 : Int32) then (Q (((r20 + (1 : Int32)) / (2 : Int32)) + (1 : Int32)) a20) else (Q r20 a20))))))))
set_option maxHeartbeats 4000000 in
set_option maxRecDepth 100000 in
theorem wkM_room_e (S : CallFix p m c cX6_room 4 s args lw_all RX6) (hr : meth.sig.returnType = (some .int)) (hlk : meth.locks = false) (Q : Int32 → MS → Prop) (x1 : Int32) (a : MS) (H : Heap) (locs : List Loc) (ls : Array Slot) (h : wpM_room a x1 Q) (hw : MW D dA ad A a s H locs) (hl : lv_has ls 4 [(0, .ref (ad 38)), (1, .int x1)]) : W p l e rmM_room s m args below meth c H locs 0 0 (MQ below (mQi D dA ad A Q) args s 0 0 A) (F0 m 0 ls []) := by
  have hx := S.1
  have hb := S.2.1
  have hown := S.2.2.2.1
  have hts := S.2.2.2.2
  unfold wpM_room at h
  refine lv_aload_n hx hb dX6_room_0 rfl (lv_at hl 0 rfl) ?_
  refine m_get S hw 0 (by decide) q1338 rfl rfl dX6_room_1 ?_
  refine lv_aload_n hx hb dX6_room_4 rfl (lv_at hl 0 rfl) ?_
  refine lv_iload_n hx hb dX6_room_5 rfl (lv_at hl 1 rfl) ?_
  refine m_calli S hw [.int x1] [.ref (ad 0)] (ctM_leafAt l D dA ad A a x1 _ h) (cwM_leafAt hts ⟨Nat.le_of_ble_eq_true rfl, Nat.le_of_ble_eq_true rfl⟩) rfl hl.1 rfl (Nat.le_of_ble_eq_true rfl) dX6_room_6 ⟨Nat.zero_le _, Nat.zero_le _⟩ (fun r6 a6 H locs h hw => ?_)
  refine m_ald S hw 1 0 3098 rfl (by decide) rfl h.1 dX6_room_9 ?_
  replace h := h.2
  refine lv_istore_n (lv' := [(2, .int (a6 0 r6.toNatClampNeg)), (0, .ref (ad 38)), (1, .int x1)]) hx hb dX6_room_10 rfl hl (by decide) rfl (fun ls hl => ?_)
  refine lv_iload_n hx hb dX6_room_11 rfl (lv_at hl 0 rfl) ?_
  refine lv_iconst (v := (5 : Int32)) hx hb dX6_room_12 (by decide) ?_
  refine lv_icmp_ne (tgt := 18) hx hb dX6_room_13 (by decide) (fun c13 => ?_) (fun c13 => ?_)
  · replace h := if_f c13 h
    refine lv_aload_n hx hb dX6_room_18 rfl (lv_at hl 1 rfl) ?_
    refine lv_iload_n hx hb dX6_room_19 rfl (lv_at hl 2 rfl) ?_
    refine m_calli S hw [.int x1] [] (ctM_plainRoom l D dA ad A a6 x1 _ h) (cwM_plainRoom hts ⟨Nat.le_of_ble_eq_true rfl, Nat.le_of_ble_eq_true rfl⟩) rfl hl.1 rfl (Nat.le_of_ble_eq_true rfl) dX6_room_20 ⟨Nat.zero_le _, Nat.zero_le _⟩ (fun r20 a20 H locs h hw => ?_)
    refine lv_istore_n (lv' := [(3, .int r20), (2, .int (a6 0 r6.toNatClampNeg)), (0, .ref (ad 38)), (1, .int x1)]) hx hb dX6_room_23 rfl hl (by decide) rfl (fun ls hl => ?_)
    refine lv_iload_n hx hb dX6_room_24 rfl (lv_at hl 1 rfl) ?_
    refine lv_iconst (v := (1 : Int32)) hx hb dX6_room_25 (by decide) ?_
    refine lv_icmp_ne (tgt := 35) hx hb dX6_room_26 (by decide) (fun c26 => ?_) (fun c26 => ?_)
    · replace h := if_f c26 h
      refine lv_iload_n hx hb dX6_room_35 rfl (lv_at hl 1 rfl) ?_
      refine lv_iconst (v := (3 : Int32)) hx hb dX6_room_36 (by decide) ?_
      refine lv_icmp_ne (tgt := 48) hx hb dX6_room_37 (by decide) (fun c37 => ?_) (fun c37 => ?_)
      · replace h := if_f c37 h
        refine lv_iload_n hx hb dX6_room_48 rfl (lv_at hl 1 rfl) ?_
        refine lv_iconst (v := (2 : Int32)) hx hb dX6_room_49 (by decide) ?_
        refine lv_icmp_ne (tgt := 61) hx hb dX6_room_50 (by decide) (fun c50 => ?_) (fun c50 => ?_)
        · replace h := if_f c50 h
          refine lv_iload_n hx hb dX6_room_61 rfl (lv_at hl 1 rfl) ?_
          refine lv_iconst (v := (4 : Int32)) hx hb dX6_room_62 (by decide) ?_
          refine lv_icmp_ne (tgt := 76) hx hb dX6_room_63 (by decide) (fun c63 => ?_) (fun c63 => ?_)
          · replace h := if_f c63 h
            refine lv_iload_n hx hb dX6_room_76 rfl (lv_at hl 0 rfl) ?_
            exact m_iret S hr hlk hw h dX6_room_77
          · replace h := if_t c63 h
            refine lv_iload_n hx hb dX6_room_66 rfl (lv_at hl 0 rfl) ?_
            refine lv_iconst (v := (1 : Int32)) hx hb dX6_room_67 (by decide) ?_
            refine lv_iadd hx hb dX6_room_68 ?_
            refine lv_iconst (v := (2 : Int32)) hx hb dX6_room_69 (by decide) ?_
            refine lv_idiv hx hb dX6_room_70 (by decide) ?_
            refine lv_iconst (v := (1 : Int32)) hx hb dX6_room_71 (by decide) ?_
            refine lv_iadd hx hb dX6_room_72 ?_
            refine lv_goto (tgt := 77) hx hb dX6_room_73 (by decide) ?_
            exact m_iret S hr hlk hw h dX6_room_77
        · replace h := if_t c50 h
          refine lv_iload_n hx hb dX6_room_53 rfl (lv_at hl 0 rfl) ?_
          refine lv_iconst (v := (1 : Int32)) hx hb dX6_room_54 (by decide) ?_
          refine lv_iadd hx hb dX6_room_55 ?_
          refine lv_iconst (v := (2 : Int32)) hx hb dX6_room_56 (by decide) ?_
          refine lv_idiv hx hb dX6_room_57 (by decide) ?_
          refine lv_goto (tgt := 77) hx hb dX6_room_58 (by decide) ?_
          exact m_iret S hr hlk hw h dX6_room_77
      · replace h := if_t c37 h
        refine lv_iload_n hx hb dX6_room_40 rfl (lv_at hl 0 rfl) ?_
        refine lv_iconst (v := (2 : Int32)) hx hb dX6_room_41 (by decide) ?_
        refine lv_iadd hx hb dX6_room_42 ?_
        refine lv_iconst (v := (2 : Int32)) hx hb dX6_room_43 (by decide) ?_
        refine lv_idiv hx hb dX6_room_44 (by decide) ?_
        refine lv_goto (tgt := 77) hx hb dX6_room_45 (by decide) ?_
        exact m_iret S hr hlk hw h dX6_room_77
    · replace h := if_t c26 h
      refine lv_iload_n hx hb dX6_room_29 rfl (lv_at hl 0 rfl) ?_
      refine lv_iconst (v := (1 : Int32)) hx hb dX6_room_30 (by decide) ?_
      refine lv_iadd hx hb dX6_room_31 ?_
      refine lv_goto (tgt := 77) hx hb dX6_room_32 (by decide) ?_
      exact m_iret S hr hlk hw h dX6_room_77
  · replace h := if_t c13 h
    refine lv_iconst (v := (1 : Int32)) hx hb dX6_room_16 (by decide) ?_
    exact m_iret S hr hlk hw h dX6_room_17
theorem ctM_room (l : Launch) (D : va_G) (dA : Nat → ClassId) (ad : Nat → Nat) (A : Nat → Prop) (a : MS) (x1 : Int32) (Q : Int32 → MS → Prop) (h : wpM_room a x1 Q) : Met l yX6_room (ws_ yX6_room cX6_room 4 (some .int)) rmM_room (mPc D dA ad A a [.ref (ad 38), .int x1]) (mQi D dA ad A Q) 0 0 A :=
  m_met (by decide) rfl rfl rfl (Nat.le_of_ble_eq_true rfl) (fun p e s m below meth c ls S hr hlk hw hl => wkM_room_e S hr hlk Q x1 a _ _ ls h hw hl)
theorem cwM_room {R : Room} {s : State} {args : Array Value} {rm : Room} (hts : ∀ w ∈ lw_all, w.before args s = true) (hR : rm.frames + 1 ≤ R.frames ∧ 8 + (4 + 11) + rm.locals ≤ R.locals) (hc : rm.cells = 0 := by rfl) (hs : rm.slots = 0 := by rfl) : CallW R s args RX6 RX6 104 yX6_room cX6_room 4 (some .int) (ws_ yX6_room cX6_room 4 (some .int)) rm 0 0 1 :=
  cwV 1 hts (lw_V q1485 q1487 qs53 q112 q1488) rfl hc hs (by decide +kernel) hR
/-! vaultBits -/
abbrev rmM_vaultBits : Room := { frames := 0, cells := 0, slots := 0, locals := 0 }
def bkM_vaultBits_4 (Q : Int32 → MS → Prop) : Nat → Int32 → Int32 → MS → Prop
  | 0 => fun _ _ _ => False
  | n + 1 => fun x1 x2 a => if (a 0 (2 : Int32).toNatClampNeg) ≤ x2 then (Q x1 a) else (vp_in ((66 : Int32) + x2) 3098 ∧ (bkM_vaultBits_4 Q n (x1 ||| (ishl (1 : Int32) (a 0 ((66 : Int32) + x2).toNatClampNeg))) (x2 + (1 : Int32)) a))
set_option maxHeartbeats 4000000 in
set_option maxRecDepth 100000 in
theorem wkM_vaultBits_4 (S : CallFix p m c cX6_vaultBits 3 s args lw_all RX6) (hr : meth.sig.returnType = (some .int)) (hlk : meth.locks = false) (Q : Int32 → MS → Prop) : ∀ (n : Nat) (x1 : Int32) (x2 : Int32) (a : MS) (H : Heap) (locs : List Loc) (ls : Array Slot), bkM_vaultBits_4 Q n x1 x2 a → MW D dA ad A a s H locs → lv_has ls 3 [(0, .ref (ad 38)), (1, .int x1), (2, .int x2)] → W p l e rmM_vaultBits s m args below meth c H locs 0 0 (MQ below (mQi D dA ad A Q) args s 0 0 A) (F0 m 4 ls []) := by
  have hx := S.1
  have hb := S.2.1
  have hown := S.2.2.2.1
  have hts := S.2.2.2.2
  intro n
  induction n with
  | zero =>
    intro x1 x2 a H locs ls h
    exact False.elim h
  | succ n ih =>
    intro x1 x2 a H locs ls h hw hl
    unfold bkM_vaultBits_4 at h
    refine lv_iload_n hx hb dX6_vaultBits_4 rfl (lv_at hl 2 rfl) ?_
    refine lv_aload_n hx hb dX6_vaultBits_5 rfl (lv_at hl 0 rfl) ?_
    refine m_get S hw 0 (by decide) q1338 rfl rfl dX6_vaultBits_6 ?_
    refine lv_iconst (v := (2 : Int32)) hx hb dX6_vaultBits_9 (by decide) ?_
    refine m_ald S hw 1 0 3098 rfl (by decide) rfl (vlit (by decide)) dX6_vaultBits_10 ?_
    refine lv_icmp_ge (tgt := 34) hx hb dX6_vaultBits_11 (by decide) (fun c11 => ?_) (fun c11 => ?_)
    · replace h := if_t c11 h
      refine lv_iload_n hx hb dX6_vaultBits_34 rfl (lv_at hl 1 rfl) ?_
      exact m_iret S hr hlk hw h dX6_vaultBits_35
    · replace h := if_f c11 h
      refine lv_iload_n hx hb dX6_vaultBits_14 rfl (lv_at hl 1 rfl) ?_
      refine lv_iconst (v := (1 : Int32)) hx hb dX6_vaultBits_15 (by decide) ?_
      refine lv_aload_n hx hb dX6_vaultBits_16 rfl (lv_at hl 0 rfl) ?_
      refine m_get S hw 0 (by decide) q1338 rfl rfl dX6_vaultBits_17 ?_
      refine lv_bipush (v := (66 : Int32)) hx hb dX6_vaultBits_20 (by decide) ?_
      refine lv_iload_n hx hb dX6_vaultBits_22 rfl (lv_at hl 2 rfl) ?_
      refine lv_iadd hx hb dX6_vaultBits_23 ?_
      refine m_ald S hw 1 0 3098 rfl (by decide) rfl h.1 dX6_vaultBits_24 ?_
      replace h := h.2
      refine lv_ishl hx hb dX6_vaultBits_25 ?_
      refine lv_ior hx hb dX6_vaultBits_26 ?_
      refine lv_istore_n (lv' := [(1, .int (x1 ||| (ishl (1 : Int32) (a 0 ((66 : Int32) + x2).toNatClampNeg)))), (0, .ref (ad 38)), (2, .int x2)]) hx hb dX6_vaultBits_27 rfl hl (by decide) rfl (fun ls hl => ?_)
      refine lv_iinc (v := (x2 + (1 : Int32))) (lv' := [(2, .int (x2 + (1 : Int32))), (1, .int (x1 ||| (ishl (1 : Int32) (a 0 ((66 : Int32) + x2).toNatClampNeg)))), (0, .ref (ad 38))]) hx hb dX6_vaultBits_28 hl (k := 2) rfl rfl (by decide) rfl (fun ls hl => ?_)
      refine lv_goto (tgt := 4) hx hb dX6_vaultBits_31 (by decide) ?_
      exact ih _ _ _ _ _ _ h hw (lv_sub hl [2, 1, 0] rfl)
def wpM_vaultBits (a : MS) (Q : Int32 → MS → Prop) : Prop := ∃ n4, bkM_vaultBits_4 Q n4 (0 : Int32) (0 : Int32) a
set_option maxHeartbeats 4000000 in
set_option maxRecDepth 100000 in
theorem wkM_vaultBits_e (S : CallFix p m c cX6_vaultBits 3 s args lw_all RX6) (hr : meth.sig.returnType = (some .int)) (hlk : meth.locks = false) (Q : Int32 → MS → Prop) (a : MS) (H : Heap) (locs : List Loc) (ls : Array Slot) (h : wpM_vaultBits a Q) (hw : MW D dA ad A a s H locs) (hl : lv_has ls 3 [(0, .ref (ad 38))]) : W p l e rmM_vaultBits s m args below meth c H locs 0 0 (MQ below (mQi D dA ad A Q) args s 0 0 A) (F0 m 0 ls []) := by
  have hx := S.1
  have hb := S.2.1
  have hown := S.2.2.2.1
  have hts := S.2.2.2.2
  unfold wpM_vaultBits at h
  refine lv_iconst (v := (0 : Int32)) hx hb dX6_vaultBits_0 (by decide) ?_
  refine lv_istore_n (lv' := [(1, .int (0 : Int32)), (0, .ref (ad 38))]) hx hb dX6_vaultBits_1 rfl hl (by decide) rfl (fun ls hl => ?_)
  refine lv_iconst (v := (0 : Int32)) hx hb dX6_vaultBits_2 (by decide) ?_
  refine lv_istore_n (lv' := [(2, .int (0 : Int32)), (1, .int (0 : Int32)), (0, .ref (ad 38))]) hx hb dX6_vaultBits_3 rfl hl (by decide) rfl (fun ls hl => ?_)
  obtain ⟨n4, h⟩ := h
  exact wkM_vaultBits_4 S hr hlk Q n4 _ _ _ _ _ _ h hw (lv_sub hl [2, 1, 0] rfl)
theorem ctM_vaultBits (l : Launch) (D : va_G) (dA : Nat → ClassId) (ad : Nat → Nat) (A : Nat → Prop) (a : MS) (Q : Int32 → MS → Prop) (h : wpM_vaultBits a Q) : Met l yX6_vaultBits (ws_ yX6_vaultBits cX6_vaultBits 3 (some .int)) rmM_vaultBits (mPc D dA ad A a [.ref (ad 38)]) (mQi D dA ad A Q) 0 0 A :=
  m_met (by decide) rfl rfl rfl (Nat.le_of_ble_eq_true rfl) (fun p e s m below meth c ls S hr hlk hw hl => wkM_vaultBits_e S hr hlk Q a _ _ ls h hw hl)
theorem cwM_vaultBits {R : Room} {s : State} {args : Array Value} {rm : Room} (hts : ∀ w ∈ lw_all, w.before args s = true) (hR : rm.frames + 1 ≤ R.frames ∧ 8 + (3 + 11) + rm.locals ≤ R.locals) (hc : rm.cells = 0 := by rfl) (hs : rm.slots = 0 := by rfl) : CallW R s args RX6 RX6 132 yX6_vaultBits cX6_vaultBits 3 (some .int) (ws_ yX6_vaultBits cX6_vaultBits 3 (some .int)) rm 0 0 0 :=
  cwV 0 hts (lw_V q1520 q1522 qs61 q112 q1523) rfl hc hs (by decide +kernel) hR
/-! worth -/
abbrev rmM_worth : Room := { frames := 1, cells := 0, slots := 0, locals := 21 }
def wpM_worth (a : MS) (x1 : Int32) (Q : Int32 → MS → Prop) : Prop := wpM_leafAt a x1 (fun r2 a2 => vp_in (r2 + (2 : Int32)) 3098 ∧ (vp_in (r2 + (1 : Int32)) 3098 ∧ (vp_in r2 3098 ∧ (if (a2 0 r2.toNatClampNeg) = (1 : Int32) then (Q (((a2 0 (r2 + (2 : Int32)).toNatClampNeg) + (a2 0 (r2 + (1 : Int32)).toNatClampNeg)) + (10 : Int32)) a2) else (if (a2 0 r2.toNatClampNeg) = (2 : Int32) then (Q (((a2 0 (r2 + (2 : Int32)).toNatClampNeg) + (a2 0 (r2 + (1 : Int32)).toNatClampNeg)) / (2 : Int32)) a2) else (if (a2 0 r2.toNatClampNeg) = (3 : Int32) then (vp_in (r2 + (2 : Int32)) 3098 ∧ (Q ((a2 0 (r2 + (2 : Int32)).toNatClampNeg) + (10 : Int32)) a2)) else (if (a2 0 r2.toNatClampNeg) = (4 : Int32) then (vp_in (r2 + (3 : Int32)) 3098 ∧ (Q ((((a2 0 (r2 + (2 : Int32)).toNatClampNeg) + (a2 0 (r2 + (1 : Int32)).toNatClampNeg)) / (2 : Int32)) + (a2 0 (r2 + (3 : Int32)).toNatClampNeg)) a2)) else (if (a2 0 r2.toNatClampNeg) = (5 : Int32) then (Q (7 : Int32) a2) else (Q ((a2 0 (r2 + (2 : Int32)).toNatClampNeg) + (a2 0 (r2 + (1 : Int32)).toNatClampNeg)) a2)))))))))
set_option maxHeartbeats 4000000 in
set_option maxRecDepth 100000 in
theorem wkM_worth_e (S : CallFix p m c cX6_worth 4 s args lw_all RX6) (hr : meth.sig.returnType = (some .int)) (hlk : meth.locks = false) (Q : Int32 → MS → Prop) (x1 : Int32) (a : MS) (H : Heap) (locs : List Loc) (ls : Array Slot) (h : wpM_worth a x1 Q) (hw : MW D dA ad A a s H locs) (hl : lv_has ls 4 [(0, .ref (ad 38)), (1, .int x1)]) : W p l e rmM_worth s m args below meth c H locs 0 0 (MQ below (mQi D dA ad A Q) args s 0 0 A) (F0 m 0 ls []) := by
  have hx := S.1
  have hb := S.2.1
  have hown := S.2.2.2.1
  have hts := S.2.2.2.2
  unfold wpM_worth at h
  refine lv_aload_n hx hb dX6_worth_0 rfl (lv_at hl 0 rfl) ?_
  refine lv_iload_n hx hb dX6_worth_1 rfl (lv_at hl 1 rfl) ?_
  refine m_calli S hw [.int x1] [] (ctM_leafAt l D dA ad A a x1 _ h) (cwM_leafAt hts ⟨Nat.le_of_ble_eq_true rfl, Nat.le_of_ble_eq_true rfl⟩) rfl hl.1 rfl (Nat.le_of_ble_eq_true rfl) dX6_worth_2 ⟨Nat.zero_le _, Nat.zero_le _⟩ (fun r2 a2 H locs h hw => ?_)
  refine lv_istore_n (lv' := [(2, .int r2), (0, .ref (ad 38)), (1, .int x1)]) hx hb dX6_worth_5 rfl hl (by decide) rfl (fun ls hl => ?_)
  refine lv_aload_n hx hb dX6_worth_6 rfl (lv_at hl 1 rfl) ?_
  refine m_get S hw 0 (by decide) q1338 rfl rfl dX6_worth_7 ?_
  refine lv_iload_n hx hb dX6_worth_10 rfl (lv_at hl 0 rfl) ?_
  refine lv_iconst (v := (2 : Int32)) hx hb dX6_worth_11 (by decide) ?_
  refine lv_iadd hx hb dX6_worth_12 ?_
  refine m_ald S hw 1 0 3098 rfl (by decide) rfl h.1 dX6_worth_13 ?_
  replace h := h.2
  refine lv_aload_n hx hb dX6_worth_14 rfl (lv_at hl 1 rfl) ?_
  refine m_get S hw 0 (by decide) q1338 rfl rfl dX6_worth_15 ?_
  refine lv_iload_n hx hb dX6_worth_18 rfl (lv_at hl 0 rfl) ?_
  refine lv_iconst (v := (1 : Int32)) hx hb dX6_worth_19 (by decide) ?_
  refine lv_iadd hx hb dX6_worth_20 ?_
  refine m_ald S hw 1 0 3098 rfl (by decide) rfl h.1 dX6_worth_21 ?_
  replace h := h.2
  refine lv_iadd hx hb dX6_worth_22 ?_
  refine lv_istore_n (lv' := [(3, .int ((a2 0 (r2 + (2 : Int32)).toNatClampNeg) + (a2 0 (r2 + (1 : Int32)).toNatClampNeg))), (2, .int r2), (0, .ref (ad 38)), (1, .int x1)]) hx hb dX6_worth_23 rfl hl (by decide) rfl (fun ls hl => ?_)
  refine lv_aload_n hx hb dX6_worth_24 rfl (lv_at hl 2 rfl) ?_
  refine m_get S hw 0 (by decide) q1338 rfl rfl dX6_worth_25 ?_
  refine lv_iload_n hx hb dX6_worth_28 rfl (lv_at hl 1 rfl) ?_
  refine m_ald S hw 1 0 3098 rfl (by decide) rfl h.1 dX6_worth_29 ?_
  replace h := h.2
  by_cases c30_0 : (a2 0 r2.toNatClampNeg) = (1 : Int32)
  · replace h := if_t c30_0 h
    refine lv_tableIn (off := 34) (tgt := 64) hx hb dX6_worth_30 (by rw [c30_0]; decide) (by rw [c30_0]; decide) (by rw [c30_0]; decide) (by decide) ?_
    refine lv_iload_n hx hb dX6_worth_64 rfl (lv_at hl 0 rfl) ?_
    refine lv_bipush (v := (10 : Int32)) hx hb dX6_worth_65 (by decide) ?_
    refine lv_iadd hx hb dX6_worth_67 ?_
    exact m_iret S hr hlk hw h dX6_worth_68
  replace h := if_f c30_0 h
  by_cases c30_1 : (a2 0 r2.toNatClampNeg) = (2 : Int32)
  · replace h := if_t c30_1 h
    refine lv_tableIn (off := 39) (tgt := 69) hx hb dX6_worth_30 (by rw [c30_1]; decide) (by rw [c30_1]; decide) (by rw [c30_1]; decide) (by decide) ?_
    refine lv_iload_n hx hb dX6_worth_69 rfl (lv_at hl 0 rfl) ?_
    refine lv_iconst (v := (2 : Int32)) hx hb dX6_worth_70 (by decide) ?_
    refine lv_idiv hx hb dX6_worth_71 (by decide) ?_
    exact m_iret S hr hlk hw h dX6_worth_72
  replace h := if_f c30_1 h
  by_cases c30_2 : (a2 0 r2.toNatClampNeg) = (3 : Int32)
  · replace h := if_t c30_2 h
    refine lv_tableIn (off := 43) (tgt := 73) hx hb dX6_worth_30 (by rw [c30_2]; decide) (by rw [c30_2]; decide) (by rw [c30_2]; decide) (by decide) ?_
    refine lv_aload_n hx hb dX6_worth_73 rfl (lv_at hl 2 rfl) ?_
    refine m_get S hw 0 (by decide) q1338 rfl rfl dX6_worth_74 ?_
    refine lv_iload_n hx hb dX6_worth_77 rfl (lv_at hl 1 rfl) ?_
    refine lv_iconst (v := (2 : Int32)) hx hb dX6_worth_78 (by decide) ?_
    refine lv_iadd hx hb dX6_worth_79 ?_
    refine m_ald S hw 1 0 3098 rfl (by decide) rfl h.1 dX6_worth_80 ?_
    replace h := h.2
    refine lv_bipush (v := (10 : Int32)) hx hb dX6_worth_81 (by decide) ?_
    refine lv_iadd hx hb dX6_worth_83 ?_
    exact m_iret S hr hlk hw h dX6_worth_84
  replace h := if_f c30_2 h
  by_cases c30_3 : (a2 0 r2.toNatClampNeg) = (4 : Int32)
  · replace h := if_t c30_3 h
    refine lv_tableIn (off := 55) (tgt := 85) hx hb dX6_worth_30 (by rw [c30_3]; decide) (by rw [c30_3]; decide) (by rw [c30_3]; decide) (by decide) ?_
    refine lv_iload_n hx hb dX6_worth_85 rfl (lv_at hl 0 rfl) ?_
    refine lv_iconst (v := (2 : Int32)) hx hb dX6_worth_86 (by decide) ?_
    refine lv_idiv hx hb dX6_worth_87 (by decide) ?_
    refine lv_aload_n hx hb dX6_worth_88 rfl (lv_at hl 2 rfl) ?_
    refine m_get S hw 0 (by decide) q1338 rfl rfl dX6_worth_89 ?_
    refine lv_iload_n hx hb dX6_worth_92 rfl (lv_at hl 1 rfl) ?_
    refine lv_iconst (v := (3 : Int32)) hx hb dX6_worth_93 (by decide) ?_
    refine lv_iadd hx hb dX6_worth_94 ?_
    refine m_ald S hw 1 0 3098 rfl (by decide) rfl h.1 dX6_worth_95 ?_
    replace h := h.2
    refine lv_iadd hx hb dX6_worth_96 ?_
    exact m_iret S hr hlk hw h dX6_worth_97
  replace h := if_f c30_3 h
  by_cases c30_4 : (a2 0 r2.toNatClampNeg) = (5 : Int32)
  · replace h := if_t c30_4 h
    refine lv_tableIn (off := 68) (tgt := 98) hx hb dX6_worth_30 (by rw [c30_4]; decide) (by rw [c30_4]; decide) (by rw [c30_4]; decide) (by decide) ?_
    refine lv_bipush (v := (7 : Int32)) hx hb dX6_worth_98 (by decide) ?_
    exact m_iret S hr hlk hw h dX6_worth_100
  replace h := if_f c30_4 h
  have hout : (a2 0 r2.toNatClampNeg).toInt < 1 ∨ 5 < (a2 0 r2.toNatClampNeg).toInt := by
    have n0 := lv_neT c30_0 (a := 1) (by decide)
    have n1 := lv_neT c30_1 (a := 2) (by decide)
    have n2 := lv_neT c30_2 (a := 3) (by decide)
    have n3 := lv_neT c30_3 (a := 4) (by decide)
    have n4 := lv_neT c30_4 (a := 5) (by decide)
    omega
  refine lv_tableOut (tgt := 101) hx hb dX6_worth_30 hout (by decide) ?_
  refine lv_iload_n hx hb dX6_worth_101 rfl (lv_at hl 0 rfl) ?_
  exact m_iret S hr hlk hw h dX6_worth_102
theorem ctM_worth (l : Launch) (D : va_G) (dA : Nat → ClassId) (ad : Nat → Nat) (A : Nat → Prop) (a : MS) (x1 : Int32) (Q : Int32 → MS → Prop) (h : wpM_worth a x1 Q) : Met l yX6_worth (ws_ yX6_worth cX6_worth 4 (some .int)) rmM_worth (mPc D dA ad A a [.ref (ad 38), .int x1]) (mQi D dA ad A Q) 0 0 A :=
  m_met (by decide) rfl rfl rfl (Nat.le_of_ble_eq_true rfl) (fun p e s m below meth c ls S hr hlk hw hl => wkM_worth_e S hr hlk Q x1 a _ _ ls h hw hl)
theorem cwM_worth {R : Room} {s : State} {args : Array Value} {rm : Room} (hts : ∀ w ∈ lw_all, w.before args s = true) (hR : rm.frames + 1 ≤ R.frames ∧ 8 + (4 + 11) + rm.locals ≤ R.locals) (hc : rm.cells = 0 := by rfl) (hs : rm.slots = 0 := by rfl) : CallW R s args RX6 RX6 140 yX6_worth cX6_worth 4 (some .int) (ws_ yX6_worth cX6_worth 4 (some .int)) rm 0 0 1 :=
  cwV 1 hts (lw_V q1528 q1530 qs63 q112 q1531) rfl hc hs (by decide +kernel) hR
/-! told -/
abbrev rmM_told : Room := { frames := 4, cells := 0, slots := 0, locals := 94 }
def wpM_told (a : MS) (x1 : Int32) (x2 : Int32) (Q : Int32 → MS → Prop) : Prop := wpM_isLeaf a x1 (fun r2 a2 => if r2 = 0 then (Q (-1000000001 : Int32) a2) else (wpM_leafAt a2 x1 (fun r13 a13 => if x2 = (0 : Int32) then (vp_in r13 3098 ∧ (Q (a13 0 r13.toNatClampNeg) a13)) else (if x2 = (1 : Int32) then (vp_in (r13 + (1 : Int32)) 3098 ∧ (Q (a13 0 (r13 + (1 : Int32)).toNatClampNeg) a13)) else (if x2 = (2 : Int32) then (vp_in (r13 + (2 : Int32)) 3098 ∧ (Q (a13 0 (r13 + (2 : Int32)).toNatClampNeg) a13)) else (if x2 = (3 : Int32) then (vp_in (r13 + (3 : Int32)) 3098 ∧ (Q (a13 0 (r13 + (3 : Int32)).toNatClampNeg) a13)) else (if x2 = (4 : Int32) then (vp_in (r13 + (4 : Int32)) 3098 ∧ (wpM_orNone a13 (a13 0 (r13 + (4 : Int32)).toNatClampNeg) (fun r122 a122 => Q r122 a122))) else (if x2 = (5 : Int32) then (wpM_room a13 x1 (fun r128 a128 => Q r128 a128)) else (if x2 = (6 : Int32) then (wpM_miss a13 x1 (fun r134 a134 => Q r134 a134)) else (if x2 = (7 : Int32) then (vp_in (r13 + (6 : Int32)) 3098 ∧ (Q (a13 0 (r13 + (6 : Int32)).toNatClampNeg) a13)) else (if x2 = (8 : Int32) then (vp_in (r13 + (5 : Int32)) 3098 ∧ (Q (a13 0 (r13 + (5 : Int32)).toNatClampNeg) a13)) else (if x2 = (9 : Int32) then (wpM_placeOf a13 x1 (fun r159 a159 => wpM_orNone a159 r159 (fun r162 a162 => Q r162 a162))) else (if x2 = (10 : Int32) then (wpM_vaultBits a13 (fun r168 a168 => wpM_isRead a168 r168 x1 (fun r172 a172 => if r172 = 0 then (Q (0 : Int32) a172) else (Q (1 : Int32) a172)))) else (if x2 = (11 : Int32) then (wpM_worth a13 x1 (fun r186 a186 => Q r186 a186)) else (Q (-1000000001 : Int32) a13)))))))))))))))
set_option maxHeartbeats 4000000 in
set_option maxRecDepth 100000 in
theorem wkM_told_e (S : CallFix p m c cX6_told 4 s args lw_all RX6) (hr : meth.sig.returnType = (some .int)) (hlk : meth.locks = false) (Q : Int32 → MS → Prop) (x1 : Int32) (x2 : Int32) (a : MS) (H : Heap) (locs : List Loc) (ls : Array Slot) (h : wpM_told a x1 x2 Q) (hw : MW D dA ad A a s H locs) (hl : lv_has ls 4 [(0, .ref (ad 38)), (1, .int x1), (2, .int x2)]) : W p l e rmM_told s m args below meth c H locs 0 0 (MQ below (mQi D dA ad A Q) args s 0 0 A) (F0 m 0 ls []) := by
  have hx := S.1
  have hb := S.2.1
  have hown := S.2.2.2.1
  have hts := S.2.2.2.2
  unfold wpM_told at h
  refine lv_aload_n hx hb dX6_told_0 rfl (lv_at hl 0 rfl) ?_
  refine lv_iload_n hx hb dX6_told_1 rfl (lv_at hl 1 rfl) ?_
  refine m_calli S hw [.int x1] [] (ctM_isLeaf l D dA ad A a x1 _ h) (cwM_isLeaf hts ⟨Nat.le_of_ble_eq_true rfl, Nat.le_of_ble_eq_true rfl⟩) rfl hl.1 rfl (Nat.le_of_ble_eq_true rfl) dX6_told_2 ⟨Nat.zero_le _, Nat.zero_le _⟩ (fun r2 a2 H locs h hw => ?_)
  refine lv_if_ne (tgt := 11) hx hb dX6_told_5 (by decide) (fun c5 => ?_) (fun c5 => ?_)
  · replace h := if_f c5 h
    refine lv_aload_n hx hb dX6_told_11 rfl (lv_at hl 0 rfl) ?_
    refine lv_iload_n hx hb dX6_told_12 rfl (lv_at hl 1 rfl) ?_
    refine m_calli S hw [.int x1] [] (ctM_leafAt l D dA ad A a2 x1 _ h) (cwM_leafAt hts ⟨Nat.le_of_ble_eq_true rfl, Nat.le_of_ble_eq_true rfl⟩) rfl hl.1 rfl (Nat.le_of_ble_eq_true rfl) dX6_told_13 ⟨Nat.zero_le _, Nat.zero_le _⟩ (fun r13 a13 H locs h hw => ?_)
    refine lv_istore_n (lv' := [(3, .int r13), (0, .ref (ad 38)), (1, .int x1), (2, .int x2)]) hx hb dX6_told_16 rfl hl (by decide) rfl (fun ls hl => ?_)
    refine lv_iload_n hx hb dX6_told_17 rfl (lv_at hl 3 rfl) ?_
    by_cases c18_0 : x2 = (0 : Int32)
    · replace h := if_t c18_0 h
      refine lv_tableIn (off := 62) (tgt := 80) hx hb dX6_told_18 (by rw [c18_0]; decide) (by rw [c18_0]; decide) (by rw [c18_0]; decide) (by decide) ?_
      refine lv_aload_n hx hb dX6_told_80 rfl (lv_at hl 1 rfl) ?_
      refine m_get S hw 0 (by decide) q1338 rfl rfl dX6_told_81 ?_
      refine lv_iload_n hx hb dX6_told_84 rfl (lv_at hl 0 rfl) ?_
      refine m_ald S hw 1 0 3098 rfl (by decide) rfl h.1 dX6_told_85 ?_
      replace h := h.2
      exact m_iret S hr hlk hw h dX6_told_86
    replace h := if_f c18_0 h
    by_cases c18_1 : x2 = (1 : Int32)
    · replace h := if_t c18_1 h
      refine lv_tableIn (off := 69) (tgt := 87) hx hb dX6_told_18 (by rw [c18_1]; decide) (by rw [c18_1]; decide) (by rw [c18_1]; decide) (by decide) ?_
      refine lv_aload_n hx hb dX6_told_87 rfl (lv_at hl 1 rfl) ?_
      refine m_get S hw 0 (by decide) q1338 rfl rfl dX6_told_88 ?_
      refine lv_iload_n hx hb dX6_told_91 rfl (lv_at hl 0 rfl) ?_
      refine lv_iconst (v := (1 : Int32)) hx hb dX6_told_92 (by decide) ?_
      refine lv_iadd hx hb dX6_told_93 ?_
      refine m_ald S hw 1 0 3098 rfl (by decide) rfl h.1 dX6_told_94 ?_
      replace h := h.2
      exact m_iret S hr hlk hw h dX6_told_95
    replace h := if_f c18_1 h
    by_cases c18_2 : x2 = (2 : Int32)
    · replace h := if_t c18_2 h
      refine lv_tableIn (off := 78) (tgt := 96) hx hb dX6_told_18 (by rw [c18_2]; decide) (by rw [c18_2]; decide) (by rw [c18_2]; decide) (by decide) ?_
      refine lv_aload_n hx hb dX6_told_96 rfl (lv_at hl 1 rfl) ?_
      refine m_get S hw 0 (by decide) q1338 rfl rfl dX6_told_97 ?_
      refine lv_iload_n hx hb dX6_told_100 rfl (lv_at hl 0 rfl) ?_
      refine lv_iconst (v := (2 : Int32)) hx hb dX6_told_101 (by decide) ?_
      refine lv_iadd hx hb dX6_told_102 ?_
      refine m_ald S hw 1 0 3098 rfl (by decide) rfl h.1 dX6_told_103 ?_
      replace h := h.2
      exact m_iret S hr hlk hw h dX6_told_104
    replace h := if_f c18_2 h
    by_cases c18_3 : x2 = (3 : Int32)
    · replace h := if_t c18_3 h
      refine lv_tableIn (off := 87) (tgt := 105) hx hb dX6_told_18 (by rw [c18_3]; decide) (by rw [c18_3]; decide) (by rw [c18_3]; decide) (by decide) ?_
      refine lv_aload_n hx hb dX6_told_105 rfl (lv_at hl 1 rfl) ?_
      refine m_get S hw 0 (by decide) q1338 rfl rfl dX6_told_106 ?_
      refine lv_iload_n hx hb dX6_told_109 rfl (lv_at hl 0 rfl) ?_
      refine lv_iconst (v := (3 : Int32)) hx hb dX6_told_110 (by decide) ?_
      refine lv_iadd hx hb dX6_told_111 ?_
      refine m_ald S hw 1 0 3098 rfl (by decide) rfl h.1 dX6_told_112 ?_
      replace h := h.2
      exact m_iret S hr hlk hw h dX6_told_113
    replace h := if_f c18_3 h
    by_cases c18_4 : x2 = (4 : Int32)
    · replace h := if_t c18_4 h
      refine lv_tableIn (off := 96) (tgt := 114) hx hb dX6_told_18 (by rw [c18_4]; decide) (by rw [c18_4]; decide) (by rw [c18_4]; decide) (by decide) ?_
      refine lv_aload_n hx hb dX6_told_114 rfl (lv_at hl 1 rfl) ?_
      refine m_get S hw 0 (by decide) q1338 rfl rfl dX6_told_115 ?_
      refine lv_iload_n hx hb dX6_told_118 rfl (lv_at hl 0 rfl) ?_
      refine lv_iconst (v := (4 : Int32)) hx hb dX6_told_119 (by decide) ?_
      refine lv_iadd hx hb dX6_told_120 ?_
      refine m_ald S hw 1 0 3098 rfl (by decide) rfl h.1 dX6_told_121 ?_
      replace h := h.2
      refine m_callSi S hw [.int (a13 0 (r13 + (4 : Int32)).toNatClampNeg)] [] (ctM_orNone l D dA ad A a13 (a13 0 (r13 + (4 : Int32)).toNatClampNeg) _ h) (cwM_orNone hts ⟨Nat.le_of_ble_eq_true rfl, Nat.le_of_ble_eq_true rfl⟩) rfl hl.1 rfl (Nat.le_of_ble_eq_true rfl) dX6_told_122 ⟨Nat.zero_le _, Nat.zero_le _⟩ (fun r122 a122 H locs h hw => ?_)
      exact m_iret S hr hlk hw h dX6_told_125
    replace h := if_f c18_4 h
    by_cases c18_5 : x2 = (5 : Int32)
    · replace h := if_t c18_5 h
      refine lv_tableIn (off := 108) (tgt := 126) hx hb dX6_told_18 (by rw [c18_5]; decide) (by rw [c18_5]; decide) (by rw [c18_5]; decide) (by decide) ?_
      refine lv_aload_n hx hb dX6_told_126 rfl (lv_at hl 1 rfl) ?_
      refine lv_iload_n hx hb dX6_told_127 rfl (lv_at hl 2 rfl) ?_
      refine m_calli S hw [.int x1] [] (ctM_room l D dA ad A a13 x1 _ h) (cwM_room hts ⟨Nat.le_of_ble_eq_true rfl, Nat.le_of_ble_eq_true rfl⟩) rfl hl.1 rfl (Nat.le_of_ble_eq_true rfl) dX6_told_128 ⟨Nat.zero_le _, Nat.zero_le _⟩ (fun r128 a128 H locs h hw => ?_)
      exact m_iret S hr hlk hw h dX6_told_131
    replace h := if_f c18_5 h
    by_cases c18_6 : x2 = (6 : Int32)
    · replace h := if_t c18_6 h
      refine lv_tableIn (off := 114) (tgt := 132) hx hb dX6_told_18 (by rw [c18_6]; decide) (by rw [c18_6]; decide) (by rw [c18_6]; decide) (by decide) ?_
      refine lv_aload_n hx hb dX6_told_132 rfl (lv_at hl 1 rfl) ?_
      refine lv_iload_n hx hb dX6_told_133 rfl (lv_at hl 2 rfl) ?_
      refine m_calli S hw [.int x1] [] (ctM_miss l D dA ad A a13 x1 _ h) (cwM_miss hts ⟨Nat.le_of_ble_eq_true rfl, Nat.le_of_ble_eq_true rfl⟩) rfl hl.1 rfl (Nat.le_of_ble_eq_true rfl) dX6_told_134 ⟨Nat.zero_le _, Nat.zero_le _⟩ (fun r134 a134 H locs h hw => ?_)
      exact m_iret S hr hlk hw h dX6_told_137
    replace h := if_f c18_6 h
    by_cases c18_7 : x2 = (7 : Int32)
    · replace h := if_t c18_7 h
      refine lv_tableIn (off := 120) (tgt := 138) hx hb dX6_told_18 (by rw [c18_7]; decide) (by rw [c18_7]; decide) (by rw [c18_7]; decide) (by decide) ?_
      refine lv_aload_n hx hb dX6_told_138 rfl (lv_at hl 1 rfl) ?_
      refine m_get S hw 0 (by decide) q1338 rfl rfl dX6_told_139 ?_
      refine lv_iload_n hx hb dX6_told_142 rfl (lv_at hl 0 rfl) ?_
      refine lv_bipush (v := (6 : Int32)) hx hb dX6_told_143 (by decide) ?_
      refine lv_iadd hx hb dX6_told_145 ?_
      refine m_ald S hw 1 0 3098 rfl (by decide) rfl h.1 dX6_told_146 ?_
      replace h := h.2
      exact m_iret S hr hlk hw h dX6_told_147
    replace h := if_f c18_7 h
    by_cases c18_8 : x2 = (8 : Int32)
    · replace h := if_t c18_8 h
      refine lv_tableIn (off := 130) (tgt := 148) hx hb dX6_told_18 (by rw [c18_8]; decide) (by rw [c18_8]; decide) (by rw [c18_8]; decide) (by decide) ?_
      refine lv_aload_n hx hb dX6_told_148 rfl (lv_at hl 1 rfl) ?_
      refine m_get S hw 0 (by decide) q1338 rfl rfl dX6_told_149 ?_
      refine lv_iload_n hx hb dX6_told_152 rfl (lv_at hl 0 rfl) ?_
      refine lv_iconst (v := (5 : Int32)) hx hb dX6_told_153 (by decide) ?_
      refine lv_iadd hx hb dX6_told_154 ?_
      refine m_ald S hw 1 0 3098 rfl (by decide) rfl h.1 dX6_told_155 ?_
      replace h := h.2
      exact m_iret S hr hlk hw h dX6_told_156
    replace h := if_f c18_8 h
    by_cases c18_9 : x2 = (9 : Int32)
    · replace h := if_t c18_9 h
      refine lv_tableIn (off := 139) (tgt := 157) hx hb dX6_told_18 (by rw [c18_9]; decide) (by rw [c18_9]; decide) (by rw [c18_9]; decide) (by decide) ?_
      refine lv_aload_n hx hb dX6_told_157 rfl (lv_at hl 1 rfl) ?_
      refine lv_iload_n hx hb dX6_told_158 rfl (lv_at hl 2 rfl) ?_
      refine m_calli S hw [.int x1] [] (ctM_placeOf l D dA ad A a13 x1 _ h) (cwM_placeOf hts ⟨Nat.le_of_ble_eq_true rfl, Nat.le_of_ble_eq_true rfl⟩) rfl hl.1 rfl (Nat.le_of_ble_eq_true rfl) dX6_told_159 ⟨Nat.zero_le _, Nat.zero_le _⟩ (fun r159 a159 H locs h hw => ?_)
      refine m_callSi S hw [.int r159] [] (ctM_orNone l D dA ad A a159 r159 _ h) (cwM_orNone hts ⟨Nat.le_of_ble_eq_true rfl, Nat.le_of_ble_eq_true rfl⟩) rfl hl.1 rfl (Nat.le_of_ble_eq_true rfl) dX6_told_162 ⟨Nat.zero_le _, Nat.zero_le _⟩ (fun r162 a162 H locs h hw => ?_)
      exact m_iret S hr hlk hw h dX6_told_165
    replace h := if_f c18_9 h
    by_cases c18_10 : x2 = (10 : Int32)
    · replace h := if_t c18_10 h
      refine lv_tableIn (off := 148) (tgt := 166) hx hb dX6_told_18 (by rw [c18_10]; decide) (by rw [c18_10]; decide) (by rw [c18_10]; decide) (by decide) ?_
      refine lv_aload_n hx hb dX6_told_166 rfl (lv_at hl 1 rfl) ?_
      refine lv_aload_n hx hb dX6_told_167 rfl (lv_at hl 1 rfl) ?_
      refine m_calli S hw [] [.ref (ad 38)] (ctM_vaultBits l D dA ad A a13 _ h) (cwM_vaultBits hts ⟨Nat.le_of_ble_eq_true rfl, Nat.le_of_ble_eq_true rfl⟩) rfl hl.1 rfl (Nat.le_of_ble_eq_true rfl) dX6_told_168 ⟨Nat.zero_le _, Nat.zero_le _⟩ (fun r168 a168 H locs h hw => ?_)
      refine lv_iload_n hx hb dX6_told_171 rfl (lv_at hl 2 rfl) ?_
      refine m_calli S hw [.int r168, .int x1] [] (ctM_isRead l D dA ad A a168 r168 x1 _ h) (cwM_isRead hts ⟨Nat.le_of_ble_eq_true rfl, Nat.le_of_ble_eq_true rfl⟩) rfl hl.1 rfl (Nat.le_of_ble_eq_true rfl) dX6_told_172 ⟨Nat.zero_le _, Nat.zero_le _⟩ (fun r172 a172 H locs h hw => ?_)
      refine lv_if_eq (tgt := 182) hx hb dX6_told_175 (by decide) (fun c175 => ?_) (fun c175 => ?_)
      · replace h := if_t c175 h
        refine lv_iconst (v := (0 : Int32)) hx hb dX6_told_182 (by decide) ?_
        exact m_iret S hr hlk hw h dX6_told_183
      · replace h := if_f c175 h
        refine lv_iconst (v := (1 : Int32)) hx hb dX6_told_178 (by decide) ?_
        refine lv_goto (tgt := 183) hx hb dX6_told_179 (by decide) ?_
        exact m_iret S hr hlk hw h dX6_told_183
    replace h := if_f c18_10 h
    by_cases c18_11 : x2 = (11 : Int32)
    · replace h := if_t c18_11 h
      refine lv_tableIn (off := 166) (tgt := 184) hx hb dX6_told_18 (by rw [c18_11]; decide) (by rw [c18_11]; decide) (by rw [c18_11]; decide) (by decide) ?_
      refine lv_aload_n hx hb dX6_told_184 rfl (lv_at hl 1 rfl) ?_
      refine lv_iload_n hx hb dX6_told_185 rfl (lv_at hl 2 rfl) ?_
      refine m_calli S hw [.int x1] [] (ctM_worth l D dA ad A a13 x1 _ h) (cwM_worth hts ⟨Nat.le_of_ble_eq_true rfl, Nat.le_of_ble_eq_true rfl⟩) rfl hl.1 rfl (Nat.le_of_ble_eq_true rfl) dX6_told_186 ⟨Nat.zero_le _, Nat.zero_le _⟩ (fun r186 a186 H locs h hw => ?_)
      exact m_iret S hr hlk hw h dX6_told_189
    replace h := if_f c18_11 h
    have hout : x2.toInt < 0 ∨ 11 < x2.toInt := by
      have n0 := lv_neT c18_0 (a := 0) (by decide)
      have n1 := lv_neT c18_1 (a := 1) (by decide)
      have n2 := lv_neT c18_2 (a := 2) (by decide)
      have n3 := lv_neT c18_3 (a := 3) (by decide)
      have n4 := lv_neT c18_4 (a := 4) (by decide)
      have n5 := lv_neT c18_5 (a := 5) (by decide)
      have n6 := lv_neT c18_6 (a := 6) (by decide)
      have n7 := lv_neT c18_7 (a := 7) (by decide)
      have n8 := lv_neT c18_8 (a := 8) (by decide)
      have n9 := lv_neT c18_9 (a := 9) (by decide)
      have n10 := lv_neT c18_10 (a := 10) (by decide)
      have n11 := lv_neT c18_11 (a := 11) (by decide)
      omega
    refine lv_tableOut (tgt := 190) hx hb dX6_told_18 hout (by decide) ?_
    refine lv_ldc hx hb hown (hts _ q1468) dX6_told_190 ?_
    exact m_iret S hr hlk hw h dX6_told_192
  · replace h := if_t c5 h
    refine lv_ldc hx hb hown (hts _ q1468) dX6_told_8 ?_
    exact m_iret S hr hlk hw h dX6_told_10
theorem ctM_told (l : Launch) (D : va_G) (dA : Nat → ClassId) (ad : Nat → Nat) (A : Nat → Prop) (a : MS) (x1 : Int32) (x2 : Int32) (Q : Int32 → MS → Prop) (h : wpM_told a x1 x2 Q) : Met l yX6_told (ws_ yX6_told cX6_told 4 (some .int)) rmM_told (mPc D dA ad A a [.ref (ad 38), .int x1, .int x2]) (mQi D dA ad A Q) 0 0 A :=
  m_met (by decide) rfl rfl rfl (Nat.le_of_ble_eq_true rfl) (fun p e s m below meth c ls S hr hlk hw hl => wkM_told_e S hr hlk Q x1 x2 a _ _ ls h hw hl)
/-! isOf -/
abbrev rmM_isOf : Room := { frames := 0, cells := 0, slots := 0, locals := 0 }
def bkM_isOf_19 (Q : Int32 → MS → Prop) (x0 : Int32) (x1 : Int32) : MS → Prop := fun a => if x1 = (2 : Int32) then (if x0 = (4 : Int32) then (Q (1 : Int32) a) else (Q (0 : Int32) a)) else (Q (0 : Int32) a)
set_option maxHeartbeats 4000000 in
set_option maxRecDepth 100000 in
theorem wkM_isOf_19 (S : CallFix p m c cX6_isOf 2 s args lw_all RX6) (hr : meth.sig.returnType = (some .boolean)) (hlk : meth.locks = false) (Q : Int32 → MS → Prop) (x0 : Int32) (x1 : Int32) : ∀ (a : MS) (H : Heap) (locs : List Loc) (ls : Array Slot), bkM_isOf_19 Q x0 x1 a → MW D dA ad A a s H locs → lv_has ls 2 [(0, .int x0), (1, .int x1)] → W p l e rmM_isOf s m args below meth c H locs 0 0 (MQ below (mQi D dA ad A Q) args s 0 0 A) (F0 m 19 ls []) := by
  have hx := S.1
  have hb := S.2.1
  have hown := S.2.2.2.1
  have hts := S.2.2.2.2
  intro  a H locs ls h hw hl
  unfold bkM_isOf_19 at h
  refine lv_iload_n hx hb dX6_isOf_19 rfl (lv_at hl 1 rfl) ?_
  refine lv_iconst (v := (2 : Int32)) hx hb dX6_isOf_20 (by decide) ?_
  refine lv_icmp_ne (tgt := 33) hx hb dX6_isOf_21 (by decide) (fun c21 => ?_) (fun c21 => ?_)
  · replace h := if_f c21 h
    refine lv_iconst (v := (0 : Int32)) hx hb dX6_isOf_33 (by decide) ?_
    exact m_zret S hr hlk hw (Or.inl rfl) h dX6_isOf_34
  · replace h := if_t c21 h
    refine lv_iload_n hx hb dX6_isOf_24 rfl (lv_at hl 0 rfl) ?_
    refine lv_iconst (v := (4 : Int32)) hx hb dX6_isOf_25 (by decide) ?_
    refine lv_icmp_ne (tgt := 33) hx hb dX6_isOf_26 (by decide) (fun c26 => ?_) (fun c26 => ?_)
    · replace h := if_f c26 h
      refine lv_iconst (v := (0 : Int32)) hx hb dX6_isOf_33 (by decide) ?_
      exact m_zret S hr hlk hw (Or.inl rfl) h dX6_isOf_34
    · replace h := if_t c26 h
      refine lv_iconst (v := (1 : Int32)) hx hb dX6_isOf_29 (by decide) ?_
      refine lv_goto (tgt := 34) hx hb dX6_isOf_30 (by decide) ?_
      exact m_zret S hr hlk hw (Or.inr rfl) h dX6_isOf_34
def wpM_isOf (a : MS) (x0 : Int32) (x1 : Int32) (Q : Int32 → MS → Prop) : Prop := if x0 = x1 then (Q (1 : Int32) a) else (if x1 = 0 then (Q (1 : Int32) a) else (if x1 = (1 : Int32) then (if x0 = (3 : Int32) then (Q (1 : Int32) a) else (bkM_isOf_19 Q x0 x1 a)) else (bkM_isOf_19 Q x0 x1 a)))
set_option maxHeartbeats 4000000 in
set_option maxRecDepth 100000 in
theorem wkM_isOf_e (S : CallFix p m c cX6_isOf 2 s args lw_all RX6) (hr : meth.sig.returnType = (some .boolean)) (hlk : meth.locks = false) (Q : Int32 → MS → Prop) (x0 : Int32) (x1 : Int32) (a : MS) (H : Heap) (locs : List Loc) (ls : Array Slot) (h : wpM_isOf a x0 x1 Q) (hw : MW D dA ad A a s H locs) (hl : lv_has ls 2 [(0, .int x0), (1, .int x1)]) : W p l e rmM_isOf s m args below meth c H locs 0 0 (MQ below (mQi D dA ad A Q) args s 0 0 A) (F0 m 0 ls []) := by
  have hx := S.1
  have hb := S.2.1
  have hown := S.2.2.2.1
  have hts := S.2.2.2.2
  unfold wpM_isOf at h
  refine lv_iload_n hx hb dX6_isOf_0 rfl (lv_at hl 0 rfl) ?_
  refine lv_iload_n hx hb dX6_isOf_1 rfl (lv_at hl 1 rfl) ?_
  refine lv_icmp_eq (tgt := 29) hx hb dX6_isOf_2 (by decide) (fun c2 => ?_) (fun c2 => ?_)
  · replace h := if_t c2 h
    refine lv_iconst (v := (1 : Int32)) hx hb dX6_isOf_29 (by decide) ?_
    refine lv_goto (tgt := 34) hx hb dX6_isOf_30 (by decide) ?_
    exact m_zret S hr hlk hw (Or.inr rfl) h dX6_isOf_34
  · replace h := if_f c2 h
    refine lv_iload_n hx hb dX6_isOf_5 rfl (lv_at hl 1 rfl) ?_
    refine lv_if_eq (tgt := 29) hx hb dX6_isOf_6 (by decide) (fun c6 => ?_) (fun c6 => ?_)
    · replace h := if_t c6 h
      refine lv_iconst (v := (1 : Int32)) hx hb dX6_isOf_29 (by decide) ?_
      refine lv_goto (tgt := 34) hx hb dX6_isOf_30 (by decide) ?_
      exact m_zret S hr hlk hw (Or.inr rfl) h dX6_isOf_34
    · replace h := if_f c6 h
      refine lv_iload_n hx hb dX6_isOf_9 rfl (lv_at hl 1 rfl) ?_
      refine lv_iconst (v := (1 : Int32)) hx hb dX6_isOf_10 (by decide) ?_
      refine lv_icmp_ne (tgt := 19) hx hb dX6_isOf_11 (by decide) (fun c11 => ?_) (fun c11 => ?_)
      · replace h := if_f c11 h
        exact wkM_isOf_19 S hr hlk Q x0 x1 _ _ _ _ h hw (lv_sub hl [0, 1] rfl)
      · replace h := if_t c11 h
        refine lv_iload_n hx hb dX6_isOf_14 rfl (lv_at hl 0 rfl) ?_
        refine lv_iconst (v := (3 : Int32)) hx hb dX6_isOf_15 (by decide) ?_
        refine lv_icmp_eq (tgt := 29) hx hb dX6_isOf_16 (by decide) (fun c16 => ?_) (fun c16 => ?_)
        · replace h := if_t c16 h
          refine lv_iconst (v := (1 : Int32)) hx hb dX6_isOf_29 (by decide) ?_
          refine lv_goto (tgt := 34) hx hb dX6_isOf_30 (by decide) ?_
          exact m_zret S hr hlk hw (Or.inr rfl) h dX6_isOf_34
        · replace h := if_f c16 h
          exact wkM_isOf_19 S hr hlk Q x0 x1 _ _ _ _ h hw (lv_sub hl [0, 1] rfl)
theorem ctM_isOf (l : Launch) (D : va_G) (dA : Nat → ClassId) (ad : Nat → Nat) (A : Nat → Prop) (a : MS) (x0 : Int32) (x1 : Int32) (Q : Int32 → MS → Prop) (h : wpM_isOf a x0 x1 Q) : Met l yX6_isOf (ws_ yX6_isOf cX6_isOf 2 (some .boolean)) rmM_isOf (mPc D dA ad A a [.int x0, .int x1]) (mQi D dA ad A Q) 0 0 A :=
  m_met (by decide) rfl rfl rfl (Nat.le_of_ble_eq_true rfl) (fun p e s m below meth c ls S hr hlk hw hl => wkM_isOf_e S hr hlk Q x0 x1 a _ _ ls h hw hl)
theorem cwM_isOf {R : Room} {s : State} {args : Array Value} {rm : Room} (hts : ∀ w ∈ lw_all, w.before args s = true) (hR : rm.frames + 1 ≤ R.frames ∧ 8 + (2 + 11) + rm.locals ≤ R.locals) (hc : rm.cells = 0 := by rfl) (hs : rm.slots = 0 := by rfl) : CallB R s args RX6 143 yX6_isOf cX6_isOf 2 (some .boolean) (ws_ yX6_isOf cX6_isOf 2 (some .boolean)) rm 0 0 2 ∧ (Cond.static yX6_isOf).before args s = true :=
  va_cwS 2 hts (lw_S q1536 q1537 q112 q1538) rfl hc hs (by decide +kernel) hR
/-! as -/
abbrev rmM_as : Room := { frames := 2, cells := 0, slots := 0, locals := 46 }
def wpM_as (a : MS) (x1 : Int32) (x2 : Int32) (Q : Int32 → MS → Prop) : Prop := wpM_isLeaf a x1 (fun r2 a2 => if r2 = 0 then (Q (-1000000001 : Int32) a2) else (wpM_isIn a2 x2.toInt64 (0 : Int64) (5 : Int64) (fun r14 a14 => if r14 = 0 then (Q (-1000000001 : Int32) a14) else (wpM_leafAt a14 x1 (fun r29 a29 => vp_in r29 3098 ∧ (wpM_isOf a29 (a29 0 r29.toNatClampNeg) x2 (fun r34 a34 => if r34 = 0 then (Q (-1000000012 : Int32) a34) else (wpM_leafAt a34 x1 (fun r46 a46 => vp_in (r46 + (1 : Int32)) 3098 ∧ (Q (a46 0 (r46 + (1 : Int32)).toNatClampNeg) a46))))))))))
set_option maxHeartbeats 4000000 in
set_option maxRecDepth 100000 in
theorem wkM_as_e (S : CallFix p m c cX6_as 3 s args lw_all RX6) (hr : meth.sig.returnType = (some .int)) (hlk : meth.locks = false) (Q : Int32 → MS → Prop) (x1 : Int32) (x2 : Int32) (a : MS) (H : Heap) (locs : List Loc) (ls : Array Slot) (h : wpM_as a x1 x2 Q) (hw : MW D dA ad A a s H locs) (hl : lv_has ls 3 [(0, .ref (ad 38)), (1, .int x1), (2, .int x2)]) : W p l e rmM_as s m args below meth c H locs 0 0 (MQ below (mQi D dA ad A Q) args s 0 0 A) (F0 m 0 ls []) := by
  have hx := S.1
  have hb := S.2.1
  have hown := S.2.2.2.1
  have hts := S.2.2.2.2
  unfold wpM_as at h
  refine lv_aload_n hx hb dX6_as_0 rfl (lv_at hl 0 rfl) ?_
  refine lv_iload_n hx hb dX6_as_1 rfl (lv_at hl 1 rfl) ?_
  refine m_calli S hw [.int x1] [] (ctM_isLeaf l D dA ad A a x1 _ h) (cwM_isLeaf hts ⟨Nat.le_of_ble_eq_true rfl, Nat.le_of_ble_eq_true rfl⟩) rfl hl.1 rfl (Nat.le_of_ble_eq_true rfl) dX6_as_2 ⟨Nat.zero_le _, Nat.zero_le _⟩ (fun r2 a2 H locs h hw => ?_)
  refine lv_if_eq (tgt := 20) hx hb dX6_as_5 (by decide) (fun c5 => ?_) (fun c5 => ?_)
  · replace h := if_t c5 h
    refine lv_ldc hx hb hown (hts _ q1468) dX6_as_20 ?_
    exact m_iret S hr hlk hw h dX6_as_22
  · replace h := if_f c5 h
    refine lv_iload_n hx hb dX6_as_8 rfl (lv_at hl 2 rfl) ?_
    refine lv_i2l (v := x2.toInt64) hx hb dX6_as_9 rfl ?_
    refine lv_lconst (v := 0) hx hb dX6_as_10 (by decide) ?_
    refine lv_ldc2 hx hb hown (hts _ q1457) dX6_as_11 ?_
    refine m_callSi S hw [.long x2.toInt64, .long (0 : Int64), .long (5 : Int64)] [] (ctM_isIn l D dA ad A a2 x2.toInt64 (0 : Int64) (5 : Int64) _ h) (cwM_isIn hts ⟨Nat.le_of_ble_eq_true rfl, Nat.le_of_ble_eq_true rfl⟩) rfl hl.1 rfl (Nat.le_of_ble_eq_true rfl) dX6_as_14 ⟨Nat.zero_le _, Nat.zero_le _⟩ (fun r14 a14 H locs h hw => ?_)
    refine lv_if_ne (tgt := 23) hx hb dX6_as_17 (by decide) (fun c17 => ?_) (fun c17 => ?_)
    · replace h := if_f c17 h
      refine lv_aload_n hx hb dX6_as_23 rfl (lv_at hl 0 rfl) ?_
      refine m_get S hw 0 (by decide) q1338 rfl rfl dX6_as_24 ?_
      refine lv_aload_n hx hb dX6_as_27 rfl (lv_at hl 0 rfl) ?_
      refine lv_iload_n hx hb dX6_as_28 rfl (lv_at hl 1 rfl) ?_
      refine m_calli S hw [.int x1] [.ref (ad 0)] (ctM_leafAt l D dA ad A a14 x1 _ h) (cwM_leafAt hts ⟨Nat.le_of_ble_eq_true rfl, Nat.le_of_ble_eq_true rfl⟩) rfl hl.1 rfl (Nat.le_of_ble_eq_true rfl) dX6_as_29 ⟨Nat.zero_le _, Nat.zero_le _⟩ (fun r29 a29 H locs h hw => ?_)
      refine m_ald S hw 1 0 3098 rfl (by decide) rfl h.1 dX6_as_32 ?_
      replace h := h.2
      refine lv_iload_n hx hb dX6_as_33 rfl (lv_at hl 2 rfl) ?_
      refine m_callSi S hw [.int (a29 0 r29.toNatClampNeg), .int x2] [] (ctM_isOf l D dA ad A a29 (a29 0 r29.toNatClampNeg) x2 _ h) (cwM_isOf hts ⟨Nat.le_of_ble_eq_true rfl, Nat.le_of_ble_eq_true rfl⟩) rfl hl.1 rfl (Nat.le_of_ble_eq_true rfl) dX6_as_34 ⟨Nat.zero_le _, Nat.zero_le _⟩ (fun r34 a34 H locs h hw => ?_)
      refine lv_if_eq (tgt := 55) hx hb dX6_as_37 (by decide) (fun c37 => ?_) (fun c37 => ?_)
      · replace h := if_t c37 h
        refine lv_ldc hx hb hown (hts _ q1539) dX6_as_55 ?_
        exact m_iret S hr hlk hw h dX6_as_57
      · replace h := if_f c37 h
        refine lv_aload_n hx hb dX6_as_40 rfl (lv_at hl 0 rfl) ?_
        refine m_get S hw 0 (by decide) q1338 rfl rfl dX6_as_41 ?_
        refine lv_aload_n hx hb dX6_as_44 rfl (lv_at hl 0 rfl) ?_
        refine lv_iload_n hx hb dX6_as_45 rfl (lv_at hl 1 rfl) ?_
        refine m_calli S hw [.int x1] [.ref (ad 0)] (ctM_leafAt l D dA ad A a34 x1 _ h) (cwM_leafAt hts ⟨Nat.le_of_ble_eq_true rfl, Nat.le_of_ble_eq_true rfl⟩) rfl hl.1 rfl (Nat.le_of_ble_eq_true rfl) dX6_as_46 ⟨Nat.zero_le _, Nat.zero_le _⟩ (fun r46 a46 H locs h hw => ?_)
        refine lv_iconst (v := (1 : Int32)) hx hb dX6_as_49 (by decide) ?_
        refine lv_iadd hx hb dX6_as_50 ?_
        refine m_ald S hw 1 0 3098 rfl (by decide) rfl h.1 dX6_as_51 ?_
        replace h := h.2
        refine lv_goto (tgt := 57) hx hb dX6_as_52 (by decide) ?_
        exact m_iret S hr hlk hw h dX6_as_57
    · replace h := if_t c17 h
      refine lv_ldc hx hb hown (hts _ q1468) dX6_as_20 ?_
      exact m_iret S hr hlk hw h dX6_as_22
theorem ctM_as (l : Launch) (D : va_G) (dA : Nat → ClassId) (ad : Nat → Nat) (A : Nat → Prop) (a : MS) (x1 : Int32) (x2 : Int32) (Q : Int32 → MS → Prop) (h : wpM_as a x1 x2 Q) : Met l yX6_as (ws_ yX6_as cX6_as 3 (some .int)) rmM_as (mPc D dA ad A a [.ref (ad 38), .int x1, .int x2]) (mQi D dA ad A Q) 0 0 A :=
  m_met (by decide) rfl rfl rfl (Nat.le_of_ble_eq_true rfl) (fun p e s m below meth c ls S hr hlk hw hl => wkM_as_e S hr hlk Q x1 x2 a _ _ ls h hw hl)
/-! becomes -/
abbrev rmM_becomes : Room := { frames := 0, cells := 0, slots := 0, locals := 0 }
def wpM_becomes (a : MS) (x1 : Int32) (x2 : Int32) (Q : Int32 → MS → Prop) : Prop := vp_in x1 3098 ∧ (vp_in x1 3098 ∧ (∀ a13 : MS, a13 = up2 a 0 x1.toNatClampNeg x2 → (Q (a 0 x1.toNatClampNeg) a13)))
set_option maxHeartbeats 4000000 in
set_option maxRecDepth 100000 in
theorem wkM_becomes_e (S : CallFix p m c cX6_becomes 4 s args lw_all RX6) (hr : meth.sig.returnType = (some .int)) (hlk : meth.locks = false) (Q : Int32 → MS → Prop) (x1 : Int32) (x2 : Int32) (a : MS) (H : Heap) (locs : List Loc) (ls : Array Slot) (h : wpM_becomes a x1 x2 Q) (hw : MW D dA ad A a s H locs) (hl : lv_has ls 4 [(0, .ref (ad 38)), (1, .int x1), (2, .int x2)]) : W p l e rmM_becomes s m args below meth c H locs 0 0 (MQ below (mQi D dA ad A Q) args s 0 0 A) (F0 m 0 ls []) := by
  have hx := S.1
  have hb := S.2.1
  have hown := S.2.2.2.1
  have hts := S.2.2.2.2
  unfold wpM_becomes at h
  refine lv_aload_n hx hb dX6_becomes_0 rfl (lv_at hl 0 rfl) ?_
  refine m_get S hw 0 (by decide) q1338 rfl rfl dX6_becomes_1 ?_
  refine lv_iload_n hx hb dX6_becomes_4 rfl (lv_at hl 1 rfl) ?_
  refine m_ald S hw 1 0 3098 rfl (by decide) rfl h.1 dX6_becomes_5 ?_
  replace h := h.2
  refine lv_istore_n (lv' := [(3, .int (a 0 x1.toNatClampNeg)), (0, .ref (ad 38)), (1, .int x1), (2, .int x2)]) hx hb dX6_becomes_6 rfl hl (by decide) rfl (fun ls hl => ?_)
  refine lv_aload_n hx hb dX6_becomes_7 rfl (lv_at hl 1 rfl) ?_
  refine m_get S hw 0 (by decide) q1338 rfl rfl dX6_becomes_8 ?_
  refine lv_iload_n hx hb dX6_becomes_11 rfl (lv_at hl 2 rfl) ?_
  refine lv_iload_n hx hb dX6_becomes_12 rfl (lv_at hl 3 rfl) ?_
  refine m_ast S hw 1 0 3098 rfl (by decide) rfl h.1 dX6_becomes_13 (fun a13 H locs ea13 hw => ?_)
  replace h := h.2 a13 ea13
  refine lv_iload_n hx hb dX6_becomes_14 rfl (lv_at hl 0 rfl) ?_
  exact m_iret S hr hlk hw h dX6_becomes_15
theorem ctM_becomes (l : Launch) (D : va_G) (dA : Nat → ClassId) (ad : Nat → Nat) (A : Nat → Prop) (a : MS) (x1 : Int32) (x2 : Int32) (Q : Int32 → MS → Prop) (h : wpM_becomes a x1 x2 Q) : Met l yX6_becomes (ws_ yX6_becomes cX6_becomes 4 (some .int)) rmM_becomes (mPc D dA ad A a [.ref (ad 38), .int x1, .int x2]) (mQi D dA ad A Q) 0 0 A :=
  m_met (by decide) rfl rfl rfl (Nat.le_of_ble_eq_true rfl) (fun p e s m below meth c ls S hr hlk hw hl => wkM_becomes_e S hr hlk Q x1 x2 a _ _ ls h hw hl)
theorem cwM_becomes {R : Room} {s : State} {args : Array Value} {rm : Room} (hts : ∀ w ∈ lw_all, w.before args s = true) (hR : rm.frames + 1 ≤ R.frames ∧ 8 + (4 + 11) + rm.locals ≤ R.locals) (hc : rm.cells = 0 := by rfl) (hs : rm.slots = 0 := by rfl) : CallW R s args RX6 RX6 147 yX6_becomes cX6_becomes 4 (some .int) (ws_ yX6_becomes cX6_becomes 4 (some .int)) rm 0 0 2 :=
  cwV 2 hts (lw_V q1544 q1546 qs64 q112 q1547) rfl hc hs (by decide +kernel) hR
/-! turns -/
abbrev rmM_turns : Room := { frames := 2, cells := 0, slots := 0, locals := 46 }
def wpM_turns (a : MS) (x1 : Int32) (x2 : Int32) (Q : Int32 → MS → Prop) : Prop := wpM_isLeaf a x1 (fun r2 a2 => if r2 = 0 then (Q (-1000000001 : Int32) a2) else (wpM_isIn a2 x2.toInt64 (0 : Int64) (5 : Int64) (fun r14 a14 => if r14 = 0 then (Q (-1000000001 : Int32) a14) else (wpM_leafAt a14 x1 (fun r23 a23 => wpM_becomes a23 r23 x2 (fun r27 a27 => Q r27 a27))))))
set_option maxHeartbeats 4000000 in
set_option maxRecDepth 100000 in
theorem wkM_turns_e (S : CallFix p m c cX6_turns 3 s args lw_all RX6) (hr : meth.sig.returnType = (some .int)) (hlk : meth.locks = false) (Q : Int32 → MS → Prop) (x1 : Int32) (x2 : Int32) (a : MS) (H : Heap) (locs : List Loc) (ls : Array Slot) (h : wpM_turns a x1 x2 Q) (hw : MW D dA ad A a s H locs) (hl : lv_has ls 3 [(0, .ref (ad 38)), (1, .int x1), (2, .int x2)]) : W p l e rmM_turns s m args below meth c H locs 0 0 (MQ below (mQi D dA ad A Q) args s 0 0 A) (F0 m 0 ls []) := by
  have hx := S.1
  have hb := S.2.1
  have hown := S.2.2.2.1
  have hts := S.2.2.2.2
  unfold wpM_turns at h
  refine lv_aload_n hx hb dX6_turns_0 rfl (lv_at hl 0 rfl) ?_
  refine lv_iload_n hx hb dX6_turns_1 rfl (lv_at hl 1 rfl) ?_
  refine m_calli S hw [.int x1] [] (ctM_isLeaf l D dA ad A a x1 _ h) (cwM_isLeaf hts ⟨Nat.le_of_ble_eq_true rfl, Nat.le_of_ble_eq_true rfl⟩) rfl hl.1 rfl (Nat.le_of_ble_eq_true rfl) dX6_turns_2 ⟨Nat.zero_le _, Nat.zero_le _⟩ (fun r2 a2 H locs h hw => ?_)
  refine lv_if_eq (tgt := 33) hx hb dX6_turns_5 (by decide) (fun c5 => ?_) (fun c5 => ?_)
  · replace h := if_t c5 h
    refine lv_ldc hx hb hown (hts _ q1468) dX6_turns_33 ?_
    exact m_iret S hr hlk hw h dX6_turns_35
  · replace h := if_f c5 h
    refine lv_iload_n hx hb dX6_turns_8 rfl (lv_at hl 2 rfl) ?_
    refine lv_i2l (v := x2.toInt64) hx hb dX6_turns_9 rfl ?_
    refine lv_lconst (v := 0) hx hb dX6_turns_10 (by decide) ?_
    refine lv_ldc2 hx hb hown (hts _ q1457) dX6_turns_11 ?_
    refine m_callSi S hw [.long x2.toInt64, .long (0 : Int64), .long (5 : Int64)] [] (ctM_isIn l D dA ad A a2 x2.toInt64 (0 : Int64) (5 : Int64) _ h) (cwM_isIn hts ⟨Nat.le_of_ble_eq_true rfl, Nat.le_of_ble_eq_true rfl⟩) rfl hl.1 rfl (Nat.le_of_ble_eq_true rfl) dX6_turns_14 ⟨Nat.zero_le _, Nat.zero_le _⟩ (fun r14 a14 H locs h hw => ?_)
    refine lv_if_eq (tgt := 33) hx hb dX6_turns_17 (by decide) (fun c17 => ?_) (fun c17 => ?_)
    · replace h := if_t c17 h
      refine lv_ldc hx hb hown (hts _ q1468) dX6_turns_33 ?_
      exact m_iret S hr hlk hw h dX6_turns_35
    · replace h := if_f c17 h
      refine lv_aload_n hx hb dX6_turns_20 rfl (lv_at hl 0 rfl) ?_
      refine lv_aload_n hx hb dX6_turns_21 rfl (lv_at hl 0 rfl) ?_
      refine lv_iload_n hx hb dX6_turns_22 rfl (lv_at hl 1 rfl) ?_
      refine m_calli S hw [.int x1] [.ref (ad 38)] (ctM_leafAt l D dA ad A a14 x1 _ h) (cwM_leafAt hts ⟨Nat.le_of_ble_eq_true rfl, Nat.le_of_ble_eq_true rfl⟩) rfl hl.1 rfl (Nat.le_of_ble_eq_true rfl) dX6_turns_23 ⟨Nat.zero_le _, Nat.zero_le _⟩ (fun r23 a23 H locs h hw => ?_)
      refine lv_iload_n hx hb dX6_turns_26 rfl (lv_at hl 2 rfl) ?_
      refine m_calli S hw [.int r23, .int x2] [] (ctM_becomes l D dA ad A a23 r23 x2 _ h) (cwM_becomes hts ⟨Nat.le_of_ble_eq_true rfl, Nat.le_of_ble_eq_true rfl⟩) rfl hl.1 rfl (Nat.le_of_ble_eq_true rfl) dX6_turns_27 ⟨Nat.zero_le _, Nat.zero_le _⟩ (fun r27 a27 H locs h hw => ?_)
      refine lv_goto (tgt := 35) hx hb dX6_turns_30 (by decide) ?_
      exact m_iret S hr hlk hw h dX6_turns_35
theorem ctM_turns (l : Launch) (D : va_G) (dA : Nat → ClassId) (ad : Nat → Nat) (A : Nat → Prop) (a : MS) (x1 : Int32) (x2 : Int32) (Q : Int32 → MS → Prop) (h : wpM_turns a x1 x2 Q) : Met l yX6_turns (ws_ yX6_turns cX6_turns 3 (some .int)) rmM_turns (mPc D dA ad A a [.ref (ad 38), .int x1, .int x2]) (mQi D dA ad A Q) 0 0 A :=
  m_met (by decide) rfl rfl rfl (Nat.le_of_ble_eq_true rfl) (fun p e s m below meth c ls S hr hlk hw hl => wkM_turns_e S hr hlk Q x1 x2 a _ _ ls h hw hl)
/-! set -/
abbrev rmM_set : Room := { frames := 2, cells := 0, slots := 0, locals := 46 }
def bkM_set_45 (Q : Int32 → MS → Prop) (x1 : Int32) (x2 : Int32) (x3 : Int32) : Int64 → Int64 → Int64 → MS → Prop := fun s0 s1 s2 a => wpM_isIn a s0 s1 s2 (fun r45 a45 => if r45 = 0 then (Q (-1000000001 : Int32) a45) else (wpM_leafAt a45 x1 (fun r57 a57 => wpM_becomes a57 ((r57 + (1 : Int32)) + x2) x3 (fun r65 a65 => Q r65 a65))))
set_option maxHeartbeats 4000000 in
set_option maxRecDepth 100000 in
theorem wkM_set_45 (S : CallFix p m c cX6_set 4 s args lw_all RX6) (hr : meth.sig.returnType = (some .int)) (hlk : meth.locks = false) (Q : Int32 → MS → Prop) (x1 : Int32) (x2 : Int32) (x3 : Int32) : ∀ (s0 : Int64) (s1 : Int64) (s2 : Int64) (a : MS) (H : Heap) (locs : List Loc) (ls : Array Slot), bkM_set_45 Q x1 x2 x3 s0 s1 s2 a → MW D dA ad A a s H locs → lv_has ls 4 [(0, .ref (ad 38)), (1, .int x1), (2, .int x2), (3, .int x3)] → W p l e rmM_set s m args below meth c H locs 0 0 (MQ below (mQi D dA ad A Q) args s 0 0 A) (F0 m 45 ls [.long s2, .long s1, .long s0]) := by
  have hx := S.1
  have hb := S.2.1
  have hown := S.2.2.2.1
  have hts := S.2.2.2.2
  intro s0 s1 s2 a H locs ls h hw hl
  unfold bkM_set_45 at h
  refine m_callSi S hw [.long s0, .long s1, .long s2] [] (ctM_isIn l D dA ad A a s0 s1 s2 _ h) (cwM_isIn hts ⟨Nat.le_of_ble_eq_true rfl, Nat.le_of_ble_eq_true rfl⟩) rfl hl.1 rfl (Nat.le_of_ble_eq_true rfl) dX6_set_45 ⟨Nat.zero_le _, Nat.zero_le _⟩ (fun r45 a45 H locs h hw => ?_)
  refine lv_if_ne (tgt := 54) hx hb dX6_set_48 (by decide) (fun c48 => ?_) (fun c48 => ?_)
  · replace h := if_f c48 h
    refine lv_aload_n hx hb dX6_set_54 rfl (lv_at hl 0 rfl) ?_
    refine lv_aload_n hx hb dX6_set_55 rfl (lv_at hl 0 rfl) ?_
    refine lv_iload_n hx hb dX6_set_56 rfl (lv_at hl 1 rfl) ?_
    refine m_calli S hw [.int x1] [.ref (ad 38)] (ctM_leafAt l D dA ad A a45 x1 _ h) (cwM_leafAt hts ⟨Nat.le_of_ble_eq_true rfl, Nat.le_of_ble_eq_true rfl⟩) rfl hl.1 rfl (Nat.le_of_ble_eq_true rfl) dX6_set_57 ⟨Nat.zero_le _, Nat.zero_le _⟩ (fun r57 a57 H locs h hw => ?_)
    refine lv_iconst (v := (1 : Int32)) hx hb dX6_set_60 (by decide) ?_
    refine lv_iadd hx hb dX6_set_61 ?_
    refine lv_iload_n hx hb dX6_set_62 rfl (lv_at hl 2 rfl) ?_
    refine lv_iadd hx hb dX6_set_63 ?_
    refine lv_iload_n hx hb dX6_set_64 rfl (lv_at hl 3 rfl) ?_
    refine m_calli S hw [.int ((r57 + (1 : Int32)) + x2), .int x3] [] (ctM_becomes l D dA ad A a57 ((r57 + (1 : Int32)) + x2) x3 _ h) (cwM_becomes hts ⟨Nat.le_of_ble_eq_true rfl, Nat.le_of_ble_eq_true rfl⟩) rfl hl.1 rfl (Nat.le_of_ble_eq_true rfl) dX6_set_65 ⟨Nat.zero_le _, Nat.zero_le _⟩ (fun r65 a65 H locs h hw => ?_)
    exact m_iret S hr hlk hw h dX6_set_68
  · replace h := if_t c48 h
    refine lv_ldc hx hb hown (hts _ q1468) dX6_set_51 ?_
    exact m_iret S hr hlk hw h dX6_set_53
def bkM_set_31 (Q : Int32 → MS → Prop) (x1 : Int32) (x2 : Int32) (x3 : Int32) : Int64 → Int64 → MS → Prop := fun s0 s1 a => if x2 = (1 : Int32) then (bkM_set_45 Q x1 x2 x3 s0 s1 (99 : Int64) a) else (bkM_set_45 Q x1 x2 x3 s0 s1 (9 : Int64) a)
set_option maxHeartbeats 4000000 in
set_option maxRecDepth 100000 in
theorem wkM_set_31 (S : CallFix p m c cX6_set 4 s args lw_all RX6) (hr : meth.sig.returnType = (some .int)) (hlk : meth.locks = false) (Q : Int32 → MS → Prop) (x1 : Int32) (x2 : Int32) (x3 : Int32) : ∀ (s0 : Int64) (s1 : Int64) (a : MS) (H : Heap) (locs : List Loc) (ls : Array Slot), bkM_set_31 Q x1 x2 x3 s0 s1 a → MW D dA ad A a s H locs → lv_has ls 4 [(0, .ref (ad 38)), (1, .int x1), (2, .int x2), (3, .int x3)] → W p l e rmM_set s m args below meth c H locs 0 0 (MQ below (mQi D dA ad A Q) args s 0 0 A) (F0 m 31 ls [.long s1, .long s0]) := by
  have hx := S.1
  have hb := S.2.1
  have hown := S.2.2.2.1
  have hts := S.2.2.2.2
  intro s0 s1 a H locs ls h hw hl
  unfold bkM_set_31 at h
  refine lv_iload_n hx hb dX6_set_31 rfl (lv_at hl 2 rfl) ?_
  refine lv_iconst (v := (1 : Int32)) hx hb dX6_set_32 (by decide) ?_
  refine lv_icmp_ne (tgt := 42) hx hb dX6_set_33 (by decide) (fun c33 => ?_) (fun c33 => ?_)
  · replace h := if_f c33 h
    refine lv_ldc2 hx hb hown (hts _ q1461) dX6_set_42 ?_
    exact wkM_set_45 S hr hlk Q x1 x2 x3 _ _ _ _ _ _ _ h hw (lv_sub hl [0, 1, 2, 3] rfl)
  · replace h := if_t c33 h
    refine lv_ldc2 hx hb hown (hts _ q1462) dX6_set_36 ?_
    refine lv_goto (tgt := 45) hx hb dX6_set_39 (by decide) ?_
    exact wkM_set_45 S hr hlk Q x1 x2 x3 _ _ _ _ _ _ _ h hw (lv_sub hl [0, 1, 2, 3] rfl)
def wpM_set (a : MS) (x1 : Int32) (x2 : Int32) (x3 : Int32) (Q : Int32 → MS → Prop) : Prop := wpM_isLeaf a x1 (fun r2 a2 => if r2 = 0 then (Q (-1000000001 : Int32) a2) else (wpM_isIn a2 x2.toInt64 (0 : Int64) (2 : Int64) (fun r14 a14 => if r14 = 0 then (Q (-1000000001 : Int32) a14) else (if x2 = 0 then (bkM_set_31 Q x1 x2 x3 x3.toInt64 (1 : Int64) a14) else (bkM_set_31 Q x1 x2 x3 x3.toInt64 (0 : Int64) a14)))))
set_option maxHeartbeats 4000000 in
set_option maxRecDepth 100000 in
theorem wkM_set_e (S : CallFix p m c cX6_set 4 s args lw_all RX6) (hr : meth.sig.returnType = (some .int)) (hlk : meth.locks = false) (Q : Int32 → MS → Prop) (x1 : Int32) (x2 : Int32) (x3 : Int32) (a : MS) (H : Heap) (locs : List Loc) (ls : Array Slot) (h : wpM_set a x1 x2 x3 Q) (hw : MW D dA ad A a s H locs) (hl : lv_has ls 4 [(0, .ref (ad 38)), (1, .int x1), (2, .int x2), (3, .int x3)]) : W p l e rmM_set s m args below meth c H locs 0 0 (MQ below (mQi D dA ad A Q) args s 0 0 A) (F0 m 0 ls []) := by
  have hx := S.1
  have hb := S.2.1
  have hown := S.2.2.2.1
  have hts := S.2.2.2.2
  unfold wpM_set at h
  refine lv_aload_n hx hb dX6_set_0 rfl (lv_at hl 0 rfl) ?_
  refine lv_iload_n hx hb dX6_set_1 rfl (lv_at hl 1 rfl) ?_
  refine m_calli S hw [.int x1] [] (ctM_isLeaf l D dA ad A a x1 _ h) (cwM_isLeaf hts ⟨Nat.le_of_ble_eq_true rfl, Nat.le_of_ble_eq_true rfl⟩) rfl hl.1 rfl (Nat.le_of_ble_eq_true rfl) dX6_set_2 ⟨Nat.zero_le _, Nat.zero_le _⟩ (fun r2 a2 H locs h hw => ?_)
  refine lv_if_eq (tgt := 51) hx hb dX6_set_5 (by decide) (fun c5 => ?_) (fun c5 => ?_)
  · replace h := if_t c5 h
    refine lv_ldc hx hb hown (hts _ q1468) dX6_set_51 ?_
    exact m_iret S hr hlk hw h dX6_set_53
  · replace h := if_f c5 h
    refine lv_iload_n hx hb dX6_set_8 rfl (lv_at hl 2 rfl) ?_
    refine lv_i2l (v := x2.toInt64) hx hb dX6_set_9 rfl ?_
    refine lv_lconst (v := 0) hx hb dX6_set_10 (by decide) ?_
    refine lv_ldc2 hx hb hown (hts _ q1552) dX6_set_11 ?_
    refine m_callSi S hw [.long x2.toInt64, .long (0 : Int64), .long (2 : Int64)] [] (ctM_isIn l D dA ad A a2 x2.toInt64 (0 : Int64) (2 : Int64) _ h) (cwM_isIn hts ⟨Nat.le_of_ble_eq_true rfl, Nat.le_of_ble_eq_true rfl⟩) rfl hl.1 rfl (Nat.le_of_ble_eq_true rfl) dX6_set_14 ⟨Nat.zero_le _, Nat.zero_le _⟩ (fun r14 a14 H locs h hw => ?_)
    refine lv_if_eq (tgt := 51) hx hb dX6_set_17 (by decide) (fun c17 => ?_) (fun c17 => ?_)
    · replace h := if_t c17 h
      refine lv_ldc hx hb hown (hts _ q1468) dX6_set_51 ?_
      exact m_iret S hr hlk hw h dX6_set_53
    · replace h := if_f c17 h
      refine lv_iload_n hx hb dX6_set_20 rfl (lv_at hl 3 rfl) ?_
      refine lv_i2l (v := x3.toInt64) hx hb dX6_set_21 rfl ?_
      refine lv_iload_n hx hb dX6_set_22 rfl (lv_at hl 2 rfl) ?_
      refine lv_if_ne (tgt := 30) hx hb dX6_set_23 (by decide) (fun c23 => ?_) (fun c23 => ?_)
      · replace h := if_f c23 h
        refine lv_lconst (v := 0) hx hb dX6_set_30 (by decide) ?_
        exact wkM_set_31 S hr hlk Q x1 x2 x3 _ _ _ _ _ _ h hw (lv_sub hl [0, 1, 2, 3] rfl)
      · replace h := if_t c23 h
        refine lv_lconst (v := 1) hx hb dX6_set_26 (by decide) ?_
        refine lv_goto (tgt := 31) hx hb dX6_set_27 (by decide) ?_
        exact wkM_set_31 S hr hlk Q x1 x2 x3 _ _ _ _ _ _ h hw (lv_sub hl [0, 1, 2, 3] rfl)
theorem ctM_set (l : Launch) (D : va_G) (dA : Nat → ClassId) (ad : Nat → Nat) (A : Nat → Prop) (a : MS) (x1 : Int32) (x2 : Int32) (x3 : Int32) (Q : Int32 → MS → Prop) (h : wpM_set a x1 x2 x3 Q) : Met l yX6_set (ws_ yX6_set cX6_set 4 (some .int)) rmM_set (mPc D dA ad A a [.ref (ad 38), .int x1, .int x2, .int x3]) (mQi D dA ad A Q) 0 0 A :=
  m_met (by decide) rfl rfl rfl (Nat.le_of_ble_eq_true rfl) (fun p e s m below meth c ls S hr hlk hw hl => wkM_set_e S hr hlk Q x1 x2 x3 a _ _ ls h hw hl)
/-! leans -/
abbrev rmM_leans : Room := { frames := 2, cells := 0, slots := 0, locals := 46 }
def bkM_leans_49 (Q : Int32 → MS → Prop) (x1 : Int32) (x2 : Int32) : Int32 → Int32 → MS → Prop := fun s1 s2 a => wpM_becomes a s1 s2 (fun r49 a49 => wpM_orNone a49 r49 (fun r52 a52 => Q r52 a52))
set_option maxHeartbeats 4000000 in
set_option maxRecDepth 100000 in
theorem wkM_leans_49 (S : CallFix p m c cX6_leans 3 s args lw_all RX6) (hr : meth.sig.returnType = (some .int)) (hlk : meth.locks = false) (Q : Int32 → MS → Prop) (x1 : Int32) (x2 : Int32) : ∀ (s1 : Int32) (s2 : Int32) (a : MS) (H : Heap) (locs : List Loc) (ls : Array Slot), bkM_leans_49 Q x1 x2 s1 s2 a → MW D dA ad A a s H locs → lv_has ls 3 [] → W p l e rmM_leans s m args below meth c H locs 0 0 (MQ below (mQi D dA ad A Q) args s 0 0 A) (F0 m 49 ls [.int s2, .int s1, .ref (ad 38)]) := by
  have hx := S.1
  have hb := S.2.1
  have hown := S.2.2.2.1
  have hts := S.2.2.2.2
  intro s1 s2 a H locs ls h hw hl
  unfold bkM_leans_49 at h
  refine m_calli S hw [.int s1, .int s2] [] (ctM_becomes l D dA ad A a s1 s2 _ h) (cwM_becomes hts ⟨Nat.le_of_ble_eq_true rfl, Nat.le_of_ble_eq_true rfl⟩) rfl hl.1 rfl (Nat.le_of_ble_eq_true rfl) dX6_leans_49 ⟨Nat.zero_le _, Nat.zero_le _⟩ (fun r49 a49 H locs h hw => ?_)
  refine m_callSi S hw [.int r49] [] (ctM_orNone l D dA ad A a49 r49 _ h) (cwM_orNone hts ⟨Nat.le_of_ble_eq_true rfl, Nat.le_of_ble_eq_true rfl⟩) rfl hl.1 rfl (Nat.le_of_ble_eq_true rfl) dX6_leans_52 ⟨Nat.zero_le _, Nat.zero_le _⟩ (fun r52 a52 H locs h hw => ?_)
  exact m_iret S hr hlk hw h dX6_leans_55
def bkM_leans_30 (Q : Int32 → MS → Prop) (x1 : Int32) (x2 : Int32) : MS → Prop := fun a => wpM_leafAt a x1 (fun r33 a33 => if x2 = (-1000000005 : Int32) then (bkM_leans_49 Q x1 x2 (r33 + (4 : Int32)) (-1 : Int32) a33) else (bkM_leans_49 Q x1 x2 (r33 + (4 : Int32)) x2 a33))
set_option maxHeartbeats 4000000 in
set_option maxRecDepth 100000 in
theorem wkM_leans_30 (S : CallFix p m c cX6_leans 3 s args lw_all RX6) (hr : meth.sig.returnType = (some .int)) (hlk : meth.locks = false) (Q : Int32 → MS → Prop) (x1 : Int32) (x2 : Int32) : ∀ (a : MS) (H : Heap) (locs : List Loc) (ls : Array Slot), bkM_leans_30 Q x1 x2 a → MW D dA ad A a s H locs → lv_has ls 3 [(0, .ref (ad 38)), (1, .int x1), (2, .int x2)] → W p l e rmM_leans s m args below meth c H locs 0 0 (MQ below (mQi D dA ad A Q) args s 0 0 A) (F0 m 30 ls []) := by
  have hx := S.1
  have hb := S.2.1
  have hown := S.2.2.2.1
  have hts := S.2.2.2.2
  intro  a H locs ls h hw hl
  unfold bkM_leans_30 at h
  refine lv_aload_n hx hb dX6_leans_30 rfl (lv_at hl 0 rfl) ?_
  refine lv_aload_n hx hb dX6_leans_31 rfl (lv_at hl 0 rfl) ?_
  refine lv_iload_n hx hb dX6_leans_32 rfl (lv_at hl 1 rfl) ?_
  refine m_calli S hw [.int x1] [.ref (ad 38)] (ctM_leafAt l D dA ad A a x1 _ h) (cwM_leafAt hts ⟨Nat.le_of_ble_eq_true rfl, Nat.le_of_ble_eq_true rfl⟩) rfl hl.1 rfl (Nat.le_of_ble_eq_true rfl) dX6_leans_33 ⟨Nat.zero_le _, Nat.zero_le _⟩ (fun r33 a33 H locs h hw => ?_)
  refine lv_iconst (v := (4 : Int32)) hx hb dX6_leans_36 (by decide) ?_
  refine lv_iadd hx hb dX6_leans_37 ?_
  refine lv_iload_n hx hb dX6_leans_38 rfl (lv_at hl 2 rfl) ?_
  refine lv_ldc hx hb hown (hts _ q1463) dX6_leans_39 ?_
  refine lv_icmp_ne (tgt := 48) hx hb dX6_leans_41 (by decide) (fun c41 => ?_) (fun c41 => ?_)
  · replace h := if_f c41 h
    refine lv_iload_n hx hb dX6_leans_48 rfl (lv_at hl 2 rfl) ?_
    exact wkM_leans_49 S hr hlk Q x1 x2 _ _ _ _ _ _ h hw (lv_sub hl [] rfl)
  · replace h := if_t c41 h
    refine lv_iconst (v := (-1 : Int32)) hx hb dX6_leans_44 (by decide) ?_
    refine lv_goto (tgt := 49) hx hb dX6_leans_45 (by decide) ?_
    exact wkM_leans_49 S hr hlk Q x1 x2 _ _ _ _ _ _ h hw (lv_sub hl [] rfl)
def wpM_leans (a : MS) (x1 : Int32) (x2 : Int32) (Q : Int32 → MS → Prop) : Prop := wpM_isLeaf a x1 (fun r2 a2 => if r2 = 0 then (Q (-1000000001 : Int32) a2) else (if x2 = (-1000000005 : Int32) then (bkM_leans_30 Q x1 x2 a2) else (wpM_isIn a2 x2.toInt64 (0 : Int64) (x1 - (1 : Int32)).toInt64 (fun r21 a21 => if r21 = 0 then (Q (-1000000001 : Int32) a21) else (bkM_leans_30 Q x1 x2 a21)))))
set_option maxHeartbeats 4000000 in
set_option maxRecDepth 100000 in
theorem wkM_leans_e (S : CallFix p m c cX6_leans 3 s args lw_all RX6) (hr : meth.sig.returnType = (some .int)) (hlk : meth.locks = false) (Q : Int32 → MS → Prop) (x1 : Int32) (x2 : Int32) (a : MS) (H : Heap) (locs : List Loc) (ls : Array Slot) (h : wpM_leans a x1 x2 Q) (hw : MW D dA ad A a s H locs) (hl : lv_has ls 3 [(0, .ref (ad 38)), (1, .int x1), (2, .int x2)]) : W p l e rmM_leans s m args below meth c H locs 0 0 (MQ below (mQi D dA ad A Q) args s 0 0 A) (F0 m 0 ls []) := by
  have hx := S.1
  have hb := S.2.1
  have hown := S.2.2.2.1
  have hts := S.2.2.2.2
  unfold wpM_leans at h
  refine lv_aload_n hx hb dX6_leans_0 rfl (lv_at hl 0 rfl) ?_
  refine lv_iload_n hx hb dX6_leans_1 rfl (lv_at hl 1 rfl) ?_
  refine m_calli S hw [.int x1] [] (ctM_isLeaf l D dA ad A a x1 _ h) (cwM_isLeaf hts ⟨Nat.le_of_ble_eq_true rfl, Nat.le_of_ble_eq_true rfl⟩) rfl hl.1 rfl (Nat.le_of_ble_eq_true rfl) dX6_leans_2 ⟨Nat.zero_le _, Nat.zero_le _⟩ (fun r2 a2 H locs h hw => ?_)
  refine lv_if_eq (tgt := 27) hx hb dX6_leans_5 (by decide) (fun c5 => ?_) (fun c5 => ?_)
  · replace h := if_t c5 h
    refine lv_ldc hx hb hown (hts _ q1468) dX6_leans_27 ?_
    exact m_iret S hr hlk hw h dX6_leans_29
  · replace h := if_f c5 h
    refine lv_iload_n hx hb dX6_leans_8 rfl (lv_at hl 2 rfl) ?_
    refine lv_ldc hx hb hown (hts _ q1463) dX6_leans_9 ?_
    refine lv_icmp_eq (tgt := 30) hx hb dX6_leans_11 (by decide) (fun c11 => ?_) (fun c11 => ?_)
    · replace h := if_t c11 h
      exact wkM_leans_30 S hr hlk Q x1 x2 _ _ _ _ h hw (lv_sub hl [0, 1, 2] rfl)
    · replace h := if_f c11 h
      refine lv_iload_n hx hb dX6_leans_14 rfl (lv_at hl 2 rfl) ?_
      refine lv_i2l (v := x2.toInt64) hx hb dX6_leans_15 rfl ?_
      refine lv_lconst (v := 0) hx hb dX6_leans_16 (by decide) ?_
      refine lv_iload_n hx hb dX6_leans_17 rfl (lv_at hl 1 rfl) ?_
      refine lv_iconst (v := (1 : Int32)) hx hb dX6_leans_18 (by decide) ?_
      refine lv_isub hx hb dX6_leans_19 ?_
      refine lv_i2l (v := (x1 - (1 : Int32)).toInt64) hx hb dX6_leans_20 rfl ?_
      refine m_callSi S hw [.long x2.toInt64, .long (0 : Int64), .long (x1 - (1 : Int32)).toInt64] [] (ctM_isIn l D dA ad A a2 x2.toInt64 (0 : Int64) (x1 - (1 : Int32)).toInt64 _ h) (cwM_isIn hts ⟨Nat.le_of_ble_eq_true rfl, Nat.le_of_ble_eq_true rfl⟩) rfl hl.1 rfl (Nat.le_of_ble_eq_true rfl) dX6_leans_21 ⟨Nat.zero_le _, Nat.zero_le _⟩ (fun r21 a21 H locs h hw => ?_)
      refine lv_if_ne (tgt := 30) hx hb dX6_leans_24 (by decide) (fun c24 => ?_) (fun c24 => ?_)
      · replace h := if_f c24 h
        exact wkM_leans_30 S hr hlk Q x1 x2 _ _ _ _ h hw (lv_sub hl [0, 1, 2] rfl)
      · replace h := if_t c24 h
        refine lv_ldc hx hb hown (hts _ q1468) dX6_leans_27 ?_
        exact m_iret S hr hlk hw h dX6_leans_29
theorem ctM_leans (l : Launch) (D : va_G) (dA : Nat → ClassId) (ad : Nat → Nat) (A : Nat → Prop) (a : MS) (x1 : Int32) (x2 : Int32) (Q : Int32 → MS → Prop) (h : wpM_leans a x1 x2 Q) : Met l yX6_leans (ws_ yX6_leans cX6_leans 3 (some .int)) rmM_leans (mPc D dA ad A a [.ref (ad 38), .int x1, .int x2]) (mQi D dA ad A Q) 0 0 A :=
  m_met (by decide) rfl rfl rfl (Nat.le_of_ble_eq_true rfl) (fun p e s m below meth c ls S hr hlk hw hl => wkM_leans_e S hr hlk Q x1 x2 a _ _ ls h hw hl)
/-! drawn -/
abbrev rmM_drawn : Room := { frames := 0, cells := 0, slots := 0, locals := 0 }
def wpM_drawn (a : MS) (Q : Int32 → MS → Prop) : Prop := ∀ a20 : MS, a20 = up2 a 0 (9 : Int32).toNatClampNeg (((a 0 (9 : Int32).toNatClampNeg) * (1103515245 : Int32)) + (12345 : Int32)) → (Q (iush (a20 0 (9 : Int32).toNatClampNeg) (8 : Int32)) a20)
set_option maxHeartbeats 4000000 in
set_option maxRecDepth 100000 in
theorem wkM_drawn_e (S : CallFix p m c cX6_drawn 1 s args lw_all RX6) (hr : meth.sig.returnType = (some .int)) (hlk : meth.locks = false) (Q : Int32 → MS → Prop) (a : MS) (H : Heap) (locs : List Loc) (ls : Array Slot) (h : wpM_drawn a Q) (hw : MW D dA ad A a s H locs) (hl : lv_has ls 1 [(0, .ref (ad 38))]) : W p l e rmM_drawn s m args below meth c H locs 0 0 (MQ below (mQi D dA ad A Q) args s 0 0 A) (F0 m 0 ls []) := by
  have hx := S.1
  have hb := S.2.1
  have hown := S.2.2.2.1
  have hts := S.2.2.2.2
  unfold wpM_drawn at h
  refine lv_aload_n hx hb dX6_drawn_0 rfl (lv_at hl 0 rfl) ?_
  refine m_get S hw 0 (by decide) q1338 rfl rfl dX6_drawn_1 ?_
  refine lv_bipush (v := (9 : Int32)) hx hb dX6_drawn_4 (by decide) ?_
  refine lv_aload_n hx hb dX6_drawn_6 rfl (lv_at hl 0 rfl) ?_
  refine m_get S hw 0 (by decide) q1338 rfl rfl dX6_drawn_7 ?_
  refine lv_bipush (v := (9 : Int32)) hx hb dX6_drawn_10 (by decide) ?_
  refine m_ald S hw 1 0 3098 rfl (by decide) rfl (vlit (by decide)) dX6_drawn_12 ?_
  refine lv_ldc hx hb hown (hts _ q1566) dX6_drawn_13 ?_
  refine lv_imul hx hb dX6_drawn_15 ?_
  refine lv_sipush (v := (12345 : Int32)) hx hb dX6_drawn_16 (by decide) ?_
  refine lv_iadd hx hb dX6_drawn_19 ?_
  refine m_ast S hw 1 0 3098 rfl (by decide) rfl (vlit (by decide)) dX6_drawn_20 (fun a20 H locs ea20 hw => ?_)
  replace h := h a20 ea20
  refine lv_aload_n hx hb dX6_drawn_21 rfl (lv_at hl 0 rfl) ?_
  refine m_get S hw 0 (by decide) q1338 rfl rfl dX6_drawn_22 ?_
  refine lv_bipush (v := (9 : Int32)) hx hb dX6_drawn_25 (by decide) ?_
  refine m_ald S hw 1 0 3098 rfl (by decide) rfl (vlit (by decide)) dX6_drawn_27 ?_
  refine lv_bipush (v := (8 : Int32)) hx hb dX6_drawn_28 (by decide) ?_
  refine lv_iushr (v := (iush (a20 0 (9 : Int32).toNatClampNeg) (8 : Int32))) hx hb dX6_drawn_30 rfl ?_
  exact m_iret S hr hlk hw h dX6_drawn_31
theorem ctM_drawn (l : Launch) (D : va_G) (dA : Nat → ClassId) (ad : Nat → Nat) (A : Nat → Prop) (a : MS) (Q : Int32 → MS → Prop) (h : wpM_drawn a Q) : Met l yX6_drawn (ws_ yX6_drawn cX6_drawn 1 (some .int)) rmM_drawn (mPc D dA ad A a [.ref (ad 38)]) (mQi D dA ad A Q) 0 0 A :=
  m_met (by decide) rfl rfl rfl (Nat.le_of_ble_eq_true rfl) (fun p e s m below meth c ls S hr hlk hw hl => wkM_drawn_e S hr hlk Q a _ _ ls h hw hl)
theorem cwM_drawn {R : Room} {s : State} {args : Array Value} {rm : Room} (hts : ∀ w ∈ lw_all, w.before args s = true) (hR : rm.frames + 1 ≤ R.frames ∧ 8 + (1 + 11) + rm.locals ≤ R.locals) (hc : rm.cells = 0 := by rfl) (hs : rm.slots = 0 := by rfl) : CallW R s args RX6 RX6 155 yX6_drawn cX6_drawn 1 (some .int) (ws_ yX6_drawn cX6_drawn 1 (some .int)) rm 0 0 0 :=
  cwV 0 hts (lw_V q1562 q1564 qs65 q112 q1565) rfl hc hs (by decide +kernel) hR
/-! deal -/
abbrev rmM_deal : Room := { frames := 2, cells := 0, slots := 0, locals := 46 }
def bkM_deal_89 (Q : Int32 → MS → Prop) (x1 : Int32) (O17 : Int32 → MS → Prop) : Int32 → Int32 → Int32 → Int32 → Int32 → MS → Prop := fun x2 s1 s2 s3 s4 a => wpM_comes a s1 s2 s3 s4 (fun a89 => O17 (x2 + (1 : Int32)) a89)
set_option maxHeartbeats 4000000 in
set_option maxRecDepth 100000 in
theorem wkM_deal_89 (S : CallFix p m c cX6_deal 6 s args lw_all RX6) (hr : meth.sig.returnType = (some .int)) (hlk : meth.locks = false) (Q : Int32 → MS → Prop) (x1 : Int32) {O17 : Int32 → MS → Prop} (hO17 : ∀ (x2 : Int32) (a : MS) (H : Heap) (locs : List Loc) (ls : Array Slot), O17 x2 a → MW D dA ad A a s H locs → lv_has ls 6 [(0, .ref (ad 38)), (1, .int x1), (2, .int x2)] → W p l e rmM_deal s m args below meth c H locs 0 0 (MQ below (mQi D dA ad A Q) args s 0 0 A) (F0 m 17 ls [])) : ∀ (x2 : Int32) (s1 : Int32) (s2 : Int32) (s3 : Int32) (s4 : Int32) (a : MS) (H : Heap) (locs : List Loc) (ls : Array Slot), bkM_deal_89 Q x1 O17 x2 s1 s2 s3 s4 a → MW D dA ad A a s H locs → lv_has ls 6 [(0, .ref (ad 38)), (1, .int x1), (2, .int x2)] → W p l e rmM_deal s m args below meth c H locs 0 0 (MQ below (mQi D dA ad A Q) args s 0 0 A) (F0 m 89 ls [.int s4, .int s3, .int s2, .int s1, .ref (ad 38)]) := by
  have hx := S.1
  have hb := S.2.1
  have hown := S.2.2.2.1
  have hts := S.2.2.2.2
  intro x2 s1 s2 s3 s4 a H locs ls h hw hl
  unfold bkM_deal_89 at h
  refine m_callv S hw [.int s1, .int s2, .int s3, .int s4] [] (ctM_comes l D dA ad A a s1 s2 s3 s4 _ h) (cwM_comes hts ⟨Nat.le_of_ble_eq_true rfl, Nat.le_of_ble_eq_true rfl⟩) rfl hl.1 rfl (Nat.le_of_ble_eq_true rfl) dX6_deal_89 ⟨Nat.zero_le _, Nat.zero_le _⟩ (fun a89 H locs h hw => ?_)
  refine lv_iinc (v := (x2 + (1 : Int32))) (lv' := [(2, .int (x2 + (1 : Int32))), (0, .ref (ad 38)), (1, .int x1)]) hx hb dX6_deal_92 hl (k := 2) rfl rfl (by decide) rfl (fun ls hl => ?_)
  refine lv_goto (tgt := 17) hx hb dX6_deal_95 (by decide) ?_
  exact hO17 _ _ _ _ _ h hw (lv_sub hl [1, 2, 0] rfl)
def bkM_deal_17 (Q : Int32 → MS → Prop) (x1 : Int32) : Nat → Int32 → MS → Prop
  | 0 => fun _ _ => False
  | n + 1 => fun x2 a => if x1 ≤ x2 then (Q x2 a) else (if (8 : Int32) ≤ (a 0 (0 : Int32).toNatClampNeg) then (Q x2 a) else (wpM_drawn a (fun r35 a35 => wpM_drawn a35 (fun r44 a44 => wpM_drawn a44 (fun r53 a53 => (¬ ((1 : Int32) + (a53 0 (0 : Int32).toNatClampNeg)) = 0) ∧ (if (irm r53 ((1 : Int32) + (a53 0 (0 : Int32).toNatClampNeg))) = (a53 0 (0 : Int32).toNatClampNeg) then (bkM_deal_89 Q x1 (bkM_deal_17 Q x1 n) x2 (0 : Int32) ((1 : Int32) + (irm r35 (9 : Int32))) (irm r44 (100 : Int32)) (-1 : Int32) a53) else (bkM_deal_89 Q x1 (bkM_deal_17 Q x1 n) x2 (0 : Int32) ((1 : Int32) + (irm r35 (9 : Int32))) (irm r44 (100 : Int32)) (irm r53 ((1 : Int32) + (a53 0 (0 : Int32).toNatClampNeg))) a53)))))))
set_option maxHeartbeats 4000000 in
set_option maxRecDepth 100000 in
theorem wkM_deal_17 (S : CallFix p m c cX6_deal 6 s args lw_all RX6) (hr : meth.sig.returnType = (some .int)) (hlk : meth.locks = false) (Q : Int32 → MS → Prop) (x1 : Int32) : ∀ (n : Nat) (x2 : Int32) (a : MS) (H : Heap) (locs : List Loc) (ls : Array Slot), bkM_deal_17 Q x1 n x2 a → MW D dA ad A a s H locs → lv_has ls 6 [(0, .ref (ad 38)), (1, .int x1), (2, .int x2)] → W p l e rmM_deal s m args below meth c H locs 0 0 (MQ below (mQi D dA ad A Q) args s 0 0 A) (F0 m 17 ls []) := by
  have hx := S.1
  have hb := S.2.1
  have hown := S.2.2.2.1
  have hts := S.2.2.2.2
  intro n
  induction n with
  | zero =>
    intro x2 a H locs ls h
    exact False.elim h
  | succ n ih =>
    intro x2 a H locs ls h hw hl
    unfold bkM_deal_17 at h
    refine lv_iload_n hx hb dX6_deal_17 rfl (lv_at hl 2 rfl) ?_
    refine lv_iload_n hx hb dX6_deal_18 rfl (lv_at hl 1 rfl) ?_
    refine lv_icmp_ge (tgt := 98) hx hb dX6_deal_19 (by decide) (fun c19 => ?_) (fun c19 => ?_)
    · replace h := if_t c19 h
      refine lv_iload_n hx hb dX6_deal_98 rfl (lv_at hl 2 rfl) ?_
      exact m_iret S hr hlk hw h dX6_deal_99
    · replace h := if_f c19 h
      refine lv_aload_n hx hb dX6_deal_22 rfl (lv_at hl 0 rfl) ?_
      refine m_get S hw 0 (by decide) q1338 rfl rfl dX6_deal_23 ?_
      refine lv_iconst (v := (0 : Int32)) hx hb dX6_deal_26 (by decide) ?_
      refine m_ald S hw 1 0 3098 rfl (by decide) rfl (vlit (by decide)) dX6_deal_27 ?_
      refine lv_bipush (v := (8 : Int32)) hx hb dX6_deal_28 (by decide) ?_
      refine lv_icmp_ge (tgt := 98) hx hb dX6_deal_30 (by decide) (fun c30 => ?_) (fun c30 => ?_)
      · replace h := if_t c30 h
        refine lv_iload_n hx hb dX6_deal_98 rfl (lv_at hl 2 rfl) ?_
        exact m_iret S hr hlk hw h dX6_deal_99
      · replace h := if_f c30 h
        refine lv_iconst (v := (1 : Int32)) hx hb dX6_deal_33 (by decide) ?_
        refine lv_aload_n hx hb dX6_deal_34 rfl (lv_at hl 0 rfl) ?_
        refine m_calli S hw [] [.int (1 : Int32)] (ctM_drawn l D dA ad A a _ h) (cwM_drawn hts ⟨Nat.le_of_ble_eq_true rfl, Nat.le_of_ble_eq_true rfl⟩) rfl hl.1 rfl (Nat.le_of_ble_eq_true rfl) dX6_deal_35 ⟨Nat.zero_le _, Nat.zero_le _⟩ (fun r35 a35 H locs h hw => ?_)
        refine lv_bipush (v := (9 : Int32)) hx hb dX6_deal_38 (by decide) ?_
        refine lv_irem hx hb dX6_deal_40 (by decide) ?_
        refine lv_iadd hx hb dX6_deal_41 ?_
        refine lv_istore_n (lv' := [(3, .int ((1 : Int32) + (irm r35 (9 : Int32)))), (0, .ref (ad 38)), (1, .int x1), (2, .int x2)]) hx hb dX6_deal_42 rfl hl (by decide) rfl (fun ls hl => ?_)
        refine lv_aload_n hx hb dX6_deal_43 rfl (lv_at hl 1 rfl) ?_
        refine m_calli S hw [] [] (ctM_drawn l D dA ad A a35 _ h) (cwM_drawn hts ⟨Nat.le_of_ble_eq_true rfl, Nat.le_of_ble_eq_true rfl⟩) rfl hl.1 rfl (Nat.le_of_ble_eq_true rfl) dX6_deal_44 ⟨Nat.zero_le _, Nat.zero_le _⟩ (fun r44 a44 H locs h hw => ?_)
        refine lv_bipush (v := (100 : Int32)) hx hb dX6_deal_47 (by decide) ?_
        refine lv_irem hx hb dX6_deal_49 (by decide) ?_
        refine lv_istore (lv' := [(4, .int (irm r44 (100 : Int32))), (3, .int ((1 : Int32) + (irm r35 (9 : Int32)))), (0, .ref (ad 38)), (1, .int x1), (2, .int x2)]) hx hb dX6_deal_50 hl (by decide) rfl (fun ls hl => ?_)
        refine lv_aload_n hx hb dX6_deal_52 rfl (lv_at hl 2 rfl) ?_
        refine m_calli S hw [] [] (ctM_drawn l D dA ad A a44 _ h) (cwM_drawn hts ⟨Nat.le_of_ble_eq_true rfl, Nat.le_of_ble_eq_true rfl⟩) rfl hl.1 rfl (Nat.le_of_ble_eq_true rfl) dX6_deal_53 ⟨Nat.zero_le _, Nat.zero_le _⟩ (fun r53 a53 H locs h hw => ?_)
        refine lv_iconst (v := (1 : Int32)) hx hb dX6_deal_56 (by decide) ?_
        refine lv_aload_n hx hb dX6_deal_57 rfl (lv_at hl 2 rfl) ?_
        refine m_get S hw 0 (by decide) q1338 rfl rfl dX6_deal_58 ?_
        refine lv_iconst (v := (0 : Int32)) hx hb dX6_deal_61 (by decide) ?_
        refine m_ald S hw 1 0 3098 rfl (by decide) rfl (vlit (by decide)) dX6_deal_62 ?_
        refine lv_iadd hx hb dX6_deal_63 ?_
        refine lv_irem hx hb dX6_deal_64 h.1 ?_
        replace h := h.2
        refine lv_istore (lv' := [(5, .int (irm r53 ((1 : Int32) + (a53 0 (0 : Int32).toNatClampNeg)))), (4, .int (irm r44 (100 : Int32))), (3, .int ((1 : Int32) + (irm r35 (9 : Int32)))), (0, .ref (ad 38)), (1, .int x1), (2, .int x2)]) hx hb dX6_deal_65 hl (by decide) rfl (fun ls hl => ?_)
        refine lv_aload_n hx hb dX6_deal_67 rfl (lv_at hl 3 rfl) ?_
        refine lv_iconst (v := (0 : Int32)) hx hb dX6_deal_68 (by decide) ?_
        refine lv_iload_n hx hb dX6_deal_69 rfl (lv_at hl 2 rfl) ?_
        refine lv_iload hx hb dX6_deal_70 (lv_at hl 1 rfl) ?_
        refine lv_iload hx hb dX6_deal_72 (lv_at hl 0 rfl) ?_
        refine lv_aload_n hx hb dX6_deal_74 rfl (lv_at hl 3 rfl) ?_
        refine m_get S hw 0 (by decide) q1338 rfl rfl dX6_deal_75 ?_
        refine lv_iconst (v := (0 : Int32)) hx hb dX6_deal_78 (by decide) ?_
        refine m_ald S hw 1 0 3098 rfl (by decide) rfl (vlit (by decide)) dX6_deal_79 ?_
        refine lv_icmp_ne (tgt := 87) hx hb dX6_deal_80 (by decide) (fun c80 => ?_) (fun c80 => ?_)
        · replace h := if_f c80 h
          refine lv_iload hx hb dX6_deal_87 (lv_at hl 0 rfl) ?_
          exact wkM_deal_89 S hr hlk Q x1 ih _ _ _ _ _ _ _ _ _ h hw (lv_sub hl [3, 4, 5] rfl)
        · replace h := if_t c80 h
          refine lv_iconst (v := (-1 : Int32)) hx hb dX6_deal_83 (by decide) ?_
          refine lv_goto (tgt := 89) hx hb dX6_deal_84 (by decide) ?_
          exact wkM_deal_89 S hr hlk Q x1 ih _ _ _ _ _ _ _ _ _ h hw (lv_sub hl [3, 4, 5] rfl)
def wpM_deal (a : MS) (x1 : Int32) (Q : Int32 → MS → Prop) : Prop := wpM_isIn a x1.toInt64 (1 : Int64) (8 : Int64) (fun r6 a6 => if r6 = 0 then (Q (-1000000001 : Int32) a6) else (∃ n17, bkM_deal_17 Q x1 n17 (0 : Int32) a6))
set_option maxHeartbeats 4000000 in
set_option maxRecDepth 100000 in
theorem wkM_deal_e (S : CallFix p m c cX6_deal 6 s args lw_all RX6) (hr : meth.sig.returnType = (some .int)) (hlk : meth.locks = false) (Q : Int32 → MS → Prop) (x1 : Int32) (a : MS) (H : Heap) (locs : List Loc) (ls : Array Slot) (h : wpM_deal a x1 Q) (hw : MW D dA ad A a s H locs) (hl : lv_has ls 6 [(0, .ref (ad 38)), (1, .int x1)]) : W p l e rmM_deal s m args below meth c H locs 0 0 (MQ below (mQi D dA ad A Q) args s 0 0 A) (F0 m 0 ls []) := by
  have hx := S.1
  have hb := S.2.1
  have hown := S.2.2.2.1
  have hts := S.2.2.2.2
  unfold wpM_deal at h
  refine lv_iload_n hx hb dX6_deal_0 rfl (lv_at hl 1 rfl) ?_
  refine lv_i2l (v := x1.toInt64) hx hb dX6_deal_1 rfl ?_
  refine lv_lconst (v := 1) hx hb dX6_deal_2 (by decide) ?_
  refine lv_ldc2 hx hb hown (hts _ q1561) dX6_deal_3 ?_
  refine m_callSi S hw [.long x1.toInt64, .long (1 : Int64), .long (8 : Int64)] [] (ctM_isIn l D dA ad A a x1.toInt64 (1 : Int64) (8 : Int64) _ h) (cwM_isIn hts ⟨Nat.le_of_ble_eq_true rfl, Nat.le_of_ble_eq_true rfl⟩) rfl hl.1 rfl (Nat.le_of_ble_eq_true rfl) dX6_deal_6 ⟨Nat.zero_le _, Nat.zero_le _⟩ (fun r6 a6 H locs h hw => ?_)
  refine lv_if_ne (tgt := 15) hx hb dX6_deal_9 (by decide) (fun c9 => ?_) (fun c9 => ?_)
  · replace h := if_f c9 h
    refine lv_iconst (v := (0 : Int32)) hx hb dX6_deal_15 (by decide) ?_
    refine lv_istore_n (lv' := [(2, .int (0 : Int32)), (0, .ref (ad 38)), (1, .int x1)]) hx hb dX6_deal_16 rfl hl (by decide) rfl (fun ls hl => ?_)
    obtain ⟨n17, h⟩ := h
    exact wkM_deal_17 S hr hlk Q x1 n17 _ _ _ _ _ h hw (lv_sub hl [1, 2, 0] rfl)
  · replace h := if_t c9 h
    refine lv_ldc hx hb hown (hts _ q1468) dX6_deal_12 ?_
    exact m_iret S hr hlk hw h dX6_deal_14
theorem ctM_deal (l : Launch) (D : va_G) (dA : Nat → ClassId) (ad : Nat → Nat) (A : Nat → Prop) (a : MS) (x1 : Int32) (Q : Int32 → MS → Prop) (h : wpM_deal a x1 Q) : Met l yX6_deal (ws_ yX6_deal cX6_deal 6 (some .int)) rmM_deal (mPc D dA ad A a [.ref (ad 38), .int x1]) (mQi D dA ad A Q) 0 0 A :=
  m_met (by decide) rfl rfl rfl (Nat.le_of_ble_eq_true rfl) (fun p e s m below meth c ls S hr hlk hw hl => wkM_deal_e S hr hlk Q x1 a _ _ ls h hw hl)
/-! knows -/
abbrev rmM_knows : Room := { frames := 4, cells := 0, slots := 0, locals := 94 }
def bkM_knows_2 (Q : MS → Prop) : Nat → Int32 → MS → Prop
  | 0 => fun _ _ => False
  | n + 1 => fun x1 a => if (a 0 (0 : Int32).toNatClampNeg) ≤ x1 then (Q a) else (wpM_room a x1 (fun r19 a19 => vp_in x1 8 ∧ (∀ a22 : MS, a22 = up2 a19 12 x1.toNatClampNeg r19 → (wpM_miss a22 x1 (fun r30 a30 => vp_in x1 8 ∧ (∀ a33 : MS, a33 = up2 a30 13 x1.toNatClampNeg r30 → (bkM_knows_2 Q n (x1 + (1 : Int32)) a33)))))))
set_option maxHeartbeats 4000000 in
set_option maxRecDepth 100000 in
theorem wkM_knows_2 (S : CallFix p m c cX6_knows 2 s args lw_all RX6) (hr : meth.sig.returnType = none) (hlk : meth.locks = false) (Q : MS → Prop) : ∀ (n : Nat) (x1 : Int32) (a : MS) (H : Heap) (locs : List Loc) (ls : Array Slot), bkM_knows_2 Q n x1 a → MW D dA ad A a s H locs → lv_has ls 2 [(0, .ref (ad 38)), (1, .int x1)] → W p l e rmM_knows s m args below meth c H locs 0 0 (MQ below (mQv D dA ad A Q) args s 0 0 A) (F0 m 2 ls []) := by
  have hx := S.1
  have hb := S.2.1
  have hown := S.2.2.2.1
  have hts := S.2.2.2.2
  intro n
  induction n with
  | zero =>
    intro x1 a H locs ls h
    exact False.elim h
  | succ n ih =>
    intro x1 a H locs ls h hw hl
    unfold bkM_knows_2 at h
    refine lv_iload_n hx hb dX6_knows_2 rfl (lv_at hl 1 rfl) ?_
    refine lv_aload_n hx hb dX6_knows_3 rfl (lv_at hl 0 rfl) ?_
    refine m_get S hw 0 (by decide) q1338 rfl rfl dX6_knows_4 ?_
    refine lv_iconst (v := (0 : Int32)) hx hb dX6_knows_7 (by decide) ?_
    refine m_ald S hw 1 0 3098 rfl (by decide) rfl (vlit (by decide)) dX6_knows_8 ?_
    refine lv_icmp_ge (tgt := 40) hx hb dX6_knows_9 (by decide) (fun c9 => ?_) (fun c9 => ?_)
    · replace h := if_t c9 h
      exact m_vret S hr hlk hw h dX6_knows_40
    · replace h := if_f c9 h
      refine lv_aload_n hx hb dX6_knows_12 rfl (lv_at hl 0 rfl) ?_
      refine m_get S hw 12 (by decide) q1350 rfl rfl dX6_knows_13 ?_
      refine lv_iload_n hx hb dX6_knows_16 rfl (lv_at hl 1 rfl) ?_
      refine lv_aload_n hx hb dX6_knows_17 rfl (lv_at hl 0 rfl) ?_
      refine lv_iload_n hx hb dX6_knows_18 rfl (lv_at hl 1 rfl) ?_
      refine m_calli S hw [.int x1] [.int x1, .ref (ad 12)] (ctM_room l D dA ad A a x1 _ h) (cwM_room hts ⟨Nat.le_of_ble_eq_true rfl, Nat.le_of_ble_eq_true rfl⟩) rfl hl.1 rfl (Nat.le_of_ble_eq_true rfl) dX6_knows_19 ⟨Nat.zero_le _, Nat.zero_le _⟩ (fun r19 a19 H locs h hw => ?_)
      refine m_ast S hw 12 12 8 rfl (by decide) rfl h.1 dX6_knows_22 (fun a22 H locs ea22 hw => ?_)
      replace h := h.2 a22 ea22
      refine lv_aload_n hx hb dX6_knows_23 rfl (lv_at hl 0 rfl) ?_
      refine m_get S hw 13 (by decide) q1351 rfl rfl dX6_knows_24 ?_
      refine lv_iload_n hx hb dX6_knows_27 rfl (lv_at hl 1 rfl) ?_
      refine lv_aload_n hx hb dX6_knows_28 rfl (lv_at hl 0 rfl) ?_
      refine lv_iload_n hx hb dX6_knows_29 rfl (lv_at hl 1 rfl) ?_
      refine m_calli S hw [.int x1] [.int x1, .ref (ad 13)] (ctM_miss l D dA ad A a22 x1 _ h) (cwM_miss hts ⟨Nat.le_of_ble_eq_true rfl, Nat.le_of_ble_eq_true rfl⟩) rfl hl.1 rfl (Nat.le_of_ble_eq_true rfl) dX6_knows_30 ⟨Nat.zero_le _, Nat.zero_le _⟩ (fun r30 a30 H locs h hw => ?_)
      refine m_ast S hw 13 13 8 rfl (by decide) rfl h.1 dX6_knows_33 (fun a33 H locs ea33 hw => ?_)
      replace h := h.2 a33 ea33
      refine lv_iinc (v := (x1 + (1 : Int32))) (lv' := [(1, .int (x1 + (1 : Int32))), (0, .ref (ad 38))]) hx hb dX6_knows_34 hl (k := 1) rfl rfl (by decide) rfl (fun ls hl => ?_)
      refine lv_goto (tgt := 2) hx hb dX6_knows_37 (by decide) ?_
      exact ih _ _ _ _ _ h hw (lv_sub hl [1, 0] rfl)
def wpM_knows (a : MS) (Q : MS → Prop) : Prop := ∃ n2, bkM_knows_2 Q n2 (0 : Int32) a
set_option maxHeartbeats 4000000 in
set_option maxRecDepth 100000 in
theorem wkM_knows_e (S : CallFix p m c cX6_knows 2 s args lw_all RX6) (hr : meth.sig.returnType = none) (hlk : meth.locks = false) (Q : MS → Prop) (a : MS) (H : Heap) (locs : List Loc) (ls : Array Slot) (h : wpM_knows a Q) (hw : MW D dA ad A a s H locs) (hl : lv_has ls 2 [(0, .ref (ad 38))]) : W p l e rmM_knows s m args below meth c H locs 0 0 (MQ below (mQv D dA ad A Q) args s 0 0 A) (F0 m 0 ls []) := by
  have hx := S.1
  have hb := S.2.1
  have hown := S.2.2.2.1
  have hts := S.2.2.2.2
  unfold wpM_knows at h
  refine lv_iconst (v := (0 : Int32)) hx hb dX6_knows_0 (by decide) ?_
  refine lv_istore_n (lv' := [(1, .int (0 : Int32)), (0, .ref (ad 38))]) hx hb dX6_knows_1 rfl hl (by decide) rfl (fun ls hl => ?_)
  obtain ⟨n2, h⟩ := h
  exact wkM_knows_2 S hr hlk Q n2 _ _ _ _ _ h hw (lv_sub hl [1, 0] rfl)
theorem ctM_knows (l : Launch) (D : va_G) (dA : Nat → ClassId) (ad : Nat → Nat) (A : Nat → Prop) (a : MS) (Q : MS → Prop) (h : wpM_knows a Q) : Met l yX6_knows (ws_ yX6_knows cX6_knows 2 none) rmM_knows (mPc D dA ad A a [.ref (ad 38)]) (mQv D dA ad A Q) 0 0 A :=
  m_met (by decide) rfl rfl rfl (Nat.le_of_ble_eq_true rfl) (fun p e s m below meth c ls S hr hlk hw hl => wkM_knows_e S hr hlk Q a _ _ ls h hw hl)
theorem cwM_knows {R : Room} {s : State} {args : Array Value} {rm : Room} (hts : ∀ w ∈ lw_all, w.before args s = true) (hR : rm.frames + 1 ≤ R.frames ∧ 8 + (2 + 11) + rm.locals ≤ R.locals) (hc : rm.cells = 0 := by rfl) (hs : rm.slots = 0 := by rfl) : CallW R s args RX6 RX6 182 yX6_knows cX6_knows 2 none (ws_ yX6_knows cX6_knows 2 none) rm 0 0 0 :=
  cwV 0 hts (lw_V q1572 q1574 qs66 q112 q1575) rfl hc hs (by decide +kernel) hR
/-! fullness -/
abbrev rmM_fullness : Room := { frames := 0, cells := 0, slots := 0, locals := 0 }
def bkM_fullness_4 (Q : Int32 → MS → Prop) : Nat → Int32 → Int32 → MS → Prop
  | 0 => fun _ _ _ => False
  | n + 1 => fun x1 x2 a => if (a 0 (2 : Int32).toNatClampNeg) ≤ x2 then (Q x1 a) else (vp_in ((66 : Int32) + x2) 3098 ∧ (vp_in (a 0 ((66 : Int32) + x2).toNatClampNeg) 8 ∧ (bkM_fullness_4 Q n (x1 + (a 12 (a 0 ((66 : Int32) + x2).toNatClampNeg).toNatClampNeg)) (x2 + (1 : Int32)) a)))
set_option maxHeartbeats 4000000 in
set_option maxRecDepth 100000 in
theorem wkM_fullness_4 (S : CallFix p m c cX6_fullness 3 s args lw_all RX6) (hr : meth.sig.returnType = (some .int)) (hlk : meth.locks = false) (Q : Int32 → MS → Prop) : ∀ (n : Nat) (x1 : Int32) (x2 : Int32) (a : MS) (H : Heap) (locs : List Loc) (ls : Array Slot), bkM_fullness_4 Q n x1 x2 a → MW D dA ad A a s H locs → lv_has ls 3 [(0, .ref (ad 38)), (1, .int x1), (2, .int x2)] → W p l e rmM_fullness s m args below meth c H locs 0 0 (MQ below (mQi D dA ad A Q) args s 0 0 A) (F0 m 4 ls []) := by
  have hx := S.1
  have hb := S.2.1
  have hown := S.2.2.2.1
  have hts := S.2.2.2.2
  intro n
  induction n with
  | zero =>
    intro x1 x2 a H locs ls h
    exact False.elim h
  | succ n ih =>
    intro x1 x2 a H locs ls h hw hl
    unfold bkM_fullness_4 at h
    refine lv_iload_n hx hb dX6_fullness_4 rfl (lv_at hl 2 rfl) ?_
    refine lv_aload_n hx hb dX6_fullness_5 rfl (lv_at hl 0 rfl) ?_
    refine m_get S hw 0 (by decide) q1338 rfl rfl dX6_fullness_6 ?_
    refine lv_iconst (v := (2 : Int32)) hx hb dX6_fullness_9 (by decide) ?_
    refine m_ald S hw 1 0 3098 rfl (by decide) rfl (vlit (by decide)) dX6_fullness_10 ?_
    refine lv_icmp_ge (tgt := 37) hx hb dX6_fullness_11 (by decide) (fun c11 => ?_) (fun c11 => ?_)
    · replace h := if_t c11 h
      refine lv_iload_n hx hb dX6_fullness_37 rfl (lv_at hl 1 rfl) ?_
      exact m_iret S hr hlk hw h dX6_fullness_38
    · replace h := if_f c11 h
      refine lv_iload_n hx hb dX6_fullness_14 rfl (lv_at hl 1 rfl) ?_
      refine lv_aload_n hx hb dX6_fullness_15 rfl (lv_at hl 0 rfl) ?_
      refine m_get S hw 12 (by decide) q1350 rfl rfl dX6_fullness_16 ?_
      refine lv_aload_n hx hb dX6_fullness_19 rfl (lv_at hl 0 rfl) ?_
      refine m_get S hw 0 (by decide) q1338 rfl rfl dX6_fullness_20 ?_
      refine lv_bipush (v := (66 : Int32)) hx hb dX6_fullness_23 (by decide) ?_
      refine lv_iload_n hx hb dX6_fullness_25 rfl (lv_at hl 2 rfl) ?_
      refine lv_iadd hx hb dX6_fullness_26 ?_
      refine m_ald S hw 1 0 3098 rfl (by decide) rfl h.1 dX6_fullness_27 ?_
      replace h := h.2
      refine m_ald S hw 12 12 8 rfl (by decide) rfl h.1 dX6_fullness_28 ?_
      replace h := h.2
      refine lv_iadd hx hb dX6_fullness_29 ?_
      refine lv_istore_n (lv' := [(1, .int (x1 + (a 12 (a 0 ((66 : Int32) + x2).toNatClampNeg).toNatClampNeg))), (0, .ref (ad 38)), (2, .int x2)]) hx hb dX6_fullness_30 rfl hl (by decide) rfl (fun ls hl => ?_)
      refine lv_iinc (v := (x2 + (1 : Int32))) (lv' := [(2, .int (x2 + (1 : Int32))), (1, .int (x1 + (a 12 (a 0 ((66 : Int32) + x2).toNatClampNeg).toNatClampNeg))), (0, .ref (ad 38))]) hx hb dX6_fullness_31 hl (k := 2) rfl rfl (by decide) rfl (fun ls hl => ?_)
      refine lv_goto (tgt := 4) hx hb dX6_fullness_34 (by decide) ?_
      exact ih _ _ _ _ _ _ h hw (lv_sub hl [2, 1, 0] rfl)
def wpM_fullness (a : MS) (Q : Int32 → MS → Prop) : Prop := ∃ n4, bkM_fullness_4 Q n4 (0 : Int32) (0 : Int32) a
set_option maxHeartbeats 4000000 in
set_option maxRecDepth 100000 in
theorem wkM_fullness_e (S : CallFix p m c cX6_fullness 3 s args lw_all RX6) (hr : meth.sig.returnType = (some .int)) (hlk : meth.locks = false) (Q : Int32 → MS → Prop) (a : MS) (H : Heap) (locs : List Loc) (ls : Array Slot) (h : wpM_fullness a Q) (hw : MW D dA ad A a s H locs) (hl : lv_has ls 3 [(0, .ref (ad 38))]) : W p l e rmM_fullness s m args below meth c H locs 0 0 (MQ below (mQi D dA ad A Q) args s 0 0 A) (F0 m 0 ls []) := by
  have hx := S.1
  have hb := S.2.1
  have hown := S.2.2.2.1
  have hts := S.2.2.2.2
  unfold wpM_fullness at h
  refine lv_iconst (v := (0 : Int32)) hx hb dX6_fullness_0 (by decide) ?_
  refine lv_istore_n (lv' := [(1, .int (0 : Int32)), (0, .ref (ad 38))]) hx hb dX6_fullness_1 rfl hl (by decide) rfl (fun ls hl => ?_)
  refine lv_iconst (v := (0 : Int32)) hx hb dX6_fullness_2 (by decide) ?_
  refine lv_istore_n (lv' := [(2, .int (0 : Int32)), (1, .int (0 : Int32)), (0, .ref (ad 38))]) hx hb dX6_fullness_3 rfl hl (by decide) rfl (fun ls hl => ?_)
  obtain ⟨n4, h⟩ := h
  exact wkM_fullness_4 S hr hlk Q n4 _ _ _ _ _ _ h hw (lv_sub hl [2, 1, 0] rfl)
theorem ctM_fullness (l : Launch) (D : va_G) (dA : Nat → ClassId) (ad : Nat → Nat) (A : Nat → Prop) (a : MS) (Q : Int32 → MS → Prop) (h : wpM_fullness a Q) : Met l yX6_fullness (ws_ yX6_fullness cX6_fullness 3 (some .int)) rmM_fullness (mPc D dA ad A a [.ref (ad 38)]) (mQi D dA ad A Q) 0 0 A :=
  m_met (by decide) rfl rfl rfl (Nat.le_of_ble_eq_true rfl) (fun p e s m below meth c ls S hr hlk hw hl => wkM_fullness_e S hr hlk Q a _ _ ls h hw hl)
theorem cwM_fullness {R : Room} {s : State} {args : Array Value} {rm : Room} (hts : ∀ w ∈ lw_all, w.before args s = true) (hR : rm.frames + 1 ≤ R.frames ∧ 8 + (3 + 11) + rm.locals ≤ R.locals) (hc : rm.cells = 0 := by rfl) (hs : rm.slots = 0 := by rfl) : CallW R s args RX6 RX6 167 yX6_fullness cX6_fullness 3 (some .int) (ws_ yX6_fullness cX6_fullness 3 (some .int)) rm 0 0 0 :=
  cwV 0 hts (lw_V q1580 q1582 qs68 q112 q1583) rfl hc hs (by decide +kernel) hR
/-! isLeaned -/
abbrev rmM_isLeaned : Room := { frames := 1, cells := 0, slots := 0, locals := 21 }
def bkM_isLeaned_42 (Q : Int32 → MS → Prop) (x1 : Int32) (O4 : Int32 → Int32 → MS → Prop) : Int32 → MS → Prop := fun x3 a => O4 (1 : Int32) (x3 + (1 : Int32)) a
set_option maxHeartbeats 4000000 in
set_option maxRecDepth 100000 in
theorem wkM_isLeaned_42 (S : CallFix p m c cX6_isLeaned 4 s args lw_all RX6) (hr : meth.sig.returnType = (some .boolean)) (hlk : meth.locks = false) (Q : Int32 → MS → Prop) (x1 : Int32) {O4 : Int32 → Int32 → MS → Prop} (hO4 : ∀ (x2 : Int32) (x3 : Int32) (a : MS) (H : Heap) (locs : List Loc) (ls : Array Slot), O4 x2 x3 a → MW D dA ad A a s H locs → lv_has ls 4 [(0, .ref (ad 38)), (1, .int x1), (2, .int x2), (3, .int x3)] → W p l e rmM_isLeaned s m args below meth c H locs 0 0 (MQ below (mQi D dA ad A Q) args s 0 0 A) (F0 m 4 ls [])) : ∀ (x3 : Int32) (a : MS) (H : Heap) (locs : List Loc) (ls : Array Slot), bkM_isLeaned_42 Q x1 O4 x3 a → MW D dA ad A a s H locs → lv_has ls 4 [(0, .ref (ad 38)), (1, .int x1), (3, .int x3)] → W p l e rmM_isLeaned s m args below meth c H locs 0 0 (MQ below (mQi D dA ad A Q) args s 0 0 A) (F0 m 42 ls []) := by
  have hx := S.1
  have hb := S.2.1
  have hown := S.2.2.2.1
  have hts := S.2.2.2.2
  intro x3 a H locs ls h hw hl
  unfold bkM_isLeaned_42 at h
  refine lv_iconst (v := (1 : Int32)) hx hb dX6_isLeaned_42 (by decide) ?_
  refine lv_goto (tgt := 47) hx hb dX6_isLeaned_43 (by decide) ?_
  refine lv_istore_n (lv' := [(2, .int (1 : Int32)), (0, .ref (ad 38)), (1, .int x1), (3, .int x3)]) hx hb dX6_isLeaned_47 rfl hl (by decide) rfl (fun ls hl => ?_)
  refine lv_iinc (v := (x3 + (1 : Int32))) (lv' := [(3, .int (x3 + (1 : Int32))), (2, .int (1 : Int32)), (0, .ref (ad 38)), (1, .int x1)]) hx hb dX6_isLeaned_48 hl (k := 3) rfl rfl (by decide) rfl (fun ls hl => ?_)
  refine lv_goto (tgt := 4) hx hb dX6_isLeaned_51 (by decide) ?_
  exact hO4 _ _ _ _ _ _ h hw (lv_sub hl [2, 3, 1, 0] rfl)
def bkM_isLeaned_4 (Q : Int32 → MS → Prop) (x1 : Int32) : Nat → Int32 → Int32 → MS → Prop
  | 0 => fun _ _ _ => False
  | n + 1 => fun x2 x3 a => if (a 0 (2 : Int32).toNatClampNeg) ≤ x3 then (zok x2 ∧ Q x2 a) else (if x2 = 0 then (vp_in ((66 : Int32) + x3) 3098 ∧ (wpM_leafAt a (a 0 ((66 : Int32) + x3).toNatClampNeg) (fun r32 a32 => vp_in (r32 + (4 : Int32)) 3098 ∧ (if (a32 0 (r32 + (4 : Int32)).toNatClampNeg) = x1 then (bkM_isLeaned_42 Q x1 (bkM_isLeaned_4 Q x1 n) x3 a32) else (bkM_isLeaned_4 Q x1 n (0 : Int32) (x3 + (1 : Int32)) a32))))) else (bkM_isLeaned_42 Q x1 (bkM_isLeaned_4 Q x1 n) x3 a))
set_option maxHeartbeats 4000000 in
set_option maxRecDepth 100000 in
theorem wkM_isLeaned_4 (S : CallFix p m c cX6_isLeaned 4 s args lw_all RX6) (hr : meth.sig.returnType = (some .boolean)) (hlk : meth.locks = false) (Q : Int32 → MS → Prop) (x1 : Int32) : ∀ (n : Nat) (x2 : Int32) (x3 : Int32) (a : MS) (H : Heap) (locs : List Loc) (ls : Array Slot), bkM_isLeaned_4 Q x1 n x2 x3 a → MW D dA ad A a s H locs → lv_has ls 4 [(0, .ref (ad 38)), (1, .int x1), (2, .int x2), (3, .int x3)] → W p l e rmM_isLeaned s m args below meth c H locs 0 0 (MQ below (mQi D dA ad A Q) args s 0 0 A) (F0 m 4 ls []) := by
  have hx := S.1
  have hb := S.2.1
  have hown := S.2.2.2.1
  have hts := S.2.2.2.2
  intro n
  induction n with
  | zero =>
    intro x2 x3 a H locs ls h
    exact False.elim h
  | succ n ih =>
    intro x2 x3 a H locs ls h hw hl
    unfold bkM_isLeaned_4 at h
    refine lv_iload_n hx hb dX6_isLeaned_4 rfl (lv_at hl 3 rfl) ?_
    refine lv_aload_n hx hb dX6_isLeaned_5 rfl (lv_at hl 0 rfl) ?_
    refine m_get S hw 0 (by decide) q1338 rfl rfl dX6_isLeaned_6 ?_
    refine lv_iconst (v := (2 : Int32)) hx hb dX6_isLeaned_9 (by decide) ?_
    refine m_ald S hw 1 0 3098 rfl (by decide) rfl (vlit (by decide)) dX6_isLeaned_10 ?_
    refine lv_icmp_ge (tgt := 54) hx hb dX6_isLeaned_11 (by decide) (fun c11 => ?_) (fun c11 => ?_)
    · replace h := if_t c11 h
      refine lv_iload_n hx hb dX6_isLeaned_54 rfl (lv_at hl 2 rfl) ?_
      exact m_zret S hr hlk hw h.1 h.2 dX6_isLeaned_55
    · replace h := if_f c11 h
      refine lv_iload_n hx hb dX6_isLeaned_14 rfl (lv_at hl 2 rfl) ?_
      refine lv_if_ne (tgt := 42) hx hb dX6_isLeaned_15 (by decide) (fun c15 => ?_) (fun c15 => ?_)
      · replace h := if_f c15 h
        exact wkM_isLeaned_42 S hr hlk Q x1 ih _ _ _ _ _ h hw (lv_sub hl [0, 1, 3] rfl)
      · replace h := if_t c15 h
        refine lv_aload_n hx hb dX6_isLeaned_18 rfl (lv_at hl 0 rfl) ?_
        refine m_get S hw 0 (by decide) q1338 rfl rfl dX6_isLeaned_19 ?_
        refine lv_aload_n hx hb dX6_isLeaned_22 rfl (lv_at hl 0 rfl) ?_
        refine lv_aload_n hx hb dX6_isLeaned_23 rfl (lv_at hl 0 rfl) ?_
        refine m_get S hw 0 (by decide) q1338 rfl rfl dX6_isLeaned_24 ?_
        refine lv_bipush (v := (66 : Int32)) hx hb dX6_isLeaned_27 (by decide) ?_
        refine lv_iload_n hx hb dX6_isLeaned_29 rfl (lv_at hl 3 rfl) ?_
        refine lv_iadd hx hb dX6_isLeaned_30 ?_
        refine m_ald S hw 1 0 3098 rfl (by decide) rfl h.1 dX6_isLeaned_31 ?_
        replace h := h.2
        refine m_calli S hw [.int (a 0 ((66 : Int32) + x3).toNatClampNeg)] [.ref (ad 0)] (ctM_leafAt l D dA ad A a (a 0 ((66 : Int32) + x3).toNatClampNeg) _ h) (cwM_leafAt hts ⟨Nat.le_of_ble_eq_true rfl, Nat.le_of_ble_eq_true rfl⟩) rfl hl.1 rfl (Nat.le_of_ble_eq_true rfl) dX6_isLeaned_32 ⟨Nat.zero_le _, Nat.zero_le _⟩ (fun r32 a32 H locs h hw => ?_)
        refine lv_iconst (v := (4 : Int32)) hx hb dX6_isLeaned_35 (by decide) ?_
        refine lv_iadd hx hb dX6_isLeaned_36 ?_
        refine m_ald S hw 1 0 3098 rfl (by decide) rfl h.1 dX6_isLeaned_37 ?_
        replace h := h.2
        refine lv_iload_n hx hb dX6_isLeaned_38 rfl (lv_at hl 1 rfl) ?_
        refine lv_icmp_ne (tgt := 46) hx hb dX6_isLeaned_39 (by decide) (fun c39 => ?_) (fun c39 => ?_)
        · replace h := if_f c39 h
          refine lv_iconst (v := (0 : Int32)) hx hb dX6_isLeaned_46 (by decide) ?_
          refine lv_istore_n (lv' := [(2, .int (0 : Int32)), (0, .ref (ad 38)), (1, .int x1), (3, .int x3)]) hx hb dX6_isLeaned_47 rfl hl (by decide) rfl (fun ls hl => ?_)
          refine lv_iinc (v := (x3 + (1 : Int32))) (lv' := [(3, .int (x3 + (1 : Int32))), (2, .int (0 : Int32)), (0, .ref (ad 38)), (1, .int x1)]) hx hb dX6_isLeaned_48 hl (k := 3) rfl rfl (by decide) rfl (fun ls hl => ?_)
          refine lv_goto (tgt := 4) hx hb dX6_isLeaned_51 (by decide) ?_
          exact ih _ _ _ _ _ _ h hw (lv_sub hl [2, 3, 1, 0] rfl)
        · replace h := if_t c39 h
          exact wkM_isLeaned_42 S hr hlk Q x1 ih _ _ _ _ _ h hw (lv_sub hl [0, 1, 3] rfl)
def wpM_isLeaned (a : MS) (x1 : Int32) (Q : Int32 → MS → Prop) : Prop := ∃ n4, bkM_isLeaned_4 Q x1 n4 (0 : Int32) (0 : Int32) a
set_option maxHeartbeats 4000000 in
set_option maxRecDepth 100000 in
theorem wkM_isLeaned_e (S : CallFix p m c cX6_isLeaned 4 s args lw_all RX6) (hr : meth.sig.returnType = (some .boolean)) (hlk : meth.locks = false) (Q : Int32 → MS → Prop) (x1 : Int32) (a : MS) (H : Heap) (locs : List Loc) (ls : Array Slot) (h : wpM_isLeaned a x1 Q) (hw : MW D dA ad A a s H locs) (hl : lv_has ls 4 [(0, .ref (ad 38)), (1, .int x1)]) : W p l e rmM_isLeaned s m args below meth c H locs 0 0 (MQ below (mQi D dA ad A Q) args s 0 0 A) (F0 m 0 ls []) := by
  have hx := S.1
  have hb := S.2.1
  have hown := S.2.2.2.1
  have hts := S.2.2.2.2
  unfold wpM_isLeaned at h
  refine lv_iconst (v := (0 : Int32)) hx hb dX6_isLeaned_0 (by decide) ?_
  refine lv_istore_n (lv' := [(2, .int (0 : Int32)), (0, .ref (ad 38)), (1, .int x1)]) hx hb dX6_isLeaned_1 rfl hl (by decide) rfl (fun ls hl => ?_)
  refine lv_iconst (v := (0 : Int32)) hx hb dX6_isLeaned_2 (by decide) ?_
  refine lv_istore_n (lv' := [(3, .int (0 : Int32)), (2, .int (0 : Int32)), (0, .ref (ad 38)), (1, .int x1)]) hx hb dX6_isLeaned_3 rfl hl (by decide) rfl (fun ls hl => ?_)
  obtain ⟨n4, h⟩ := h
  exact wkM_isLeaned_4 S hr hlk Q x1 n4 _ _ _ _ _ _ h hw (lv_sub hl [2, 3, 1, 0] rfl)
theorem ctM_isLeaned (l : Launch) (D : va_G) (dA : Nat → ClassId) (ad : Nat → Nat) (A : Nat → Prop) (a : MS) (x1 : Int32) (Q : Int32 → MS → Prop) (h : wpM_isLeaned a x1 Q) : Met l yX6_isLeaned (ws_ yX6_isLeaned cX6_isLeaned 4 (some .boolean)) rmM_isLeaned (mPc D dA ad A a [.ref (ad 38), .int x1]) (mQi D dA ad A Q) 0 0 A :=
  m_met (by decide) rfl rfl rfl (Nat.le_of_ble_eq_true rfl) (fun p e s m below meth c ls S hr hlk hw hl => wkM_isLeaned_e S hr hlk Q x1 a _ _ ls h hw hl)
theorem cwM_isLeaned {R : Room} {s : State} {args : Array Value} {rm : Room} (hts : ∀ w ∈ lw_all, w.before args s = true) (hR : rm.frames + 1 ≤ R.frames ∧ 8 + (4 + 11) + rm.locals ≤ R.locals) (hc : rm.cells = 0 := by rfl) (hs : rm.slots = 0 := by rfl) : CallW R s args RX6 RX6 158 yX6_isLeaned cX6_isLeaned 4 (some .boolean) (ws_ yX6_isLeaned cX6_isLeaned 4 (some .boolean)) rm 0 0 1 :=
  cwV 1 hts (lw_V q1592 q1594 qs71 q112 q1595) rfl hc hs (by decide +kernel) hR
/-! mayGo -/
abbrev rmM_mayGo : Room := { frames := 2, cells := 0, slots := 0, locals := 44 }
def wpM_mayGo (a : MS) (x1 : Int32) (Q : Int32 → MS → Prop) : Prop := if (a 0 (5 : Int32).toNatClampNeg) = 0 then (Q (1 : Int32) a) else (vp_in ((66 : Int32) + x1) 3098 ∧ (wpM_isLeaned a (a 0 ((66 : Int32) + x1).toNatClampNeg) (fun r19 a19 => if r19 = 0 then (Q (1 : Int32) a19) else (Q (0 : Int32) a19))))
set_option maxHeartbeats 4000000 in
set_option maxRecDepth 100000 in
theorem wkM_mayGo_e (S : CallFix p m c cX6_mayGo 2 s args lw_all RX6) (hr : meth.sig.returnType = (some .boolean)) (hlk : meth.locks = false) (Q : Int32 → MS → Prop) (x1 : Int32) (a : MS) (H : Heap) (locs : List Loc) (ls : Array Slot) (h : wpM_mayGo a x1 Q) (hw : MW D dA ad A a s H locs) (hl : lv_has ls 2 [(0, .ref (ad 38)), (1, .int x1)]) : W p l e rmM_mayGo s m args below meth c H locs 0 0 (MQ below (mQi D dA ad A Q) args s 0 0 A) (F0 m 0 ls []) := by
  have hx := S.1
  have hb := S.2.1
  have hown := S.2.2.2.1
  have hts := S.2.2.2.2
  unfold wpM_mayGo at h
  refine lv_aload_n hx hb dX6_mayGo_0 rfl (lv_at hl 0 rfl) ?_
  refine m_get S hw 0 (by decide) q1338 rfl rfl dX6_mayGo_1 ?_
  refine lv_iconst (v := (5 : Int32)) hx hb dX6_mayGo_4 (by decide) ?_
  refine m_ald S hw 1 0 3098 rfl (by decide) rfl (vlit (by decide)) dX6_mayGo_5 ?_
  refine lv_if_eq (tgt := 25) hx hb dX6_mayGo_6 (by decide) (fun c6 => ?_) (fun c6 => ?_)
  · replace h := if_t c6 h
    refine lv_iconst (v := (1 : Int32)) hx hb dX6_mayGo_25 (by decide) ?_
    refine lv_goto (tgt := 30) hx hb dX6_mayGo_26 (by decide) ?_
    exact m_zret S hr hlk hw (Or.inr rfl) h dX6_mayGo_30
  · replace h := if_f c6 h
    refine lv_aload_n hx hb dX6_mayGo_9 rfl (lv_at hl 0 rfl) ?_
    refine lv_aload_n hx hb dX6_mayGo_10 rfl (lv_at hl 0 rfl) ?_
    refine m_get S hw 0 (by decide) q1338 rfl rfl dX6_mayGo_11 ?_
    refine lv_bipush (v := (66 : Int32)) hx hb dX6_mayGo_14 (by decide) ?_
    refine lv_iload_n hx hb dX6_mayGo_16 rfl (lv_at hl 1 rfl) ?_
    refine lv_iadd hx hb dX6_mayGo_17 ?_
    refine m_ald S hw 1 0 3098 rfl (by decide) rfl h.1 dX6_mayGo_18 ?_
    replace h := h.2
    refine m_calli S hw [.int (a 0 ((66 : Int32) + x1).toNatClampNeg)] [] (ctM_isLeaned l D dA ad A a (a 0 ((66 : Int32) + x1).toNatClampNeg) _ h) (cwM_isLeaned hts ⟨Nat.le_of_ble_eq_true rfl, Nat.le_of_ble_eq_true rfl⟩) rfl hl.1 rfl (Nat.le_of_ble_eq_true rfl) dX6_mayGo_19 ⟨Nat.zero_le _, Nat.zero_le _⟩ (fun r19 a19 H locs h hw => ?_)
    refine lv_if_ne (tgt := 29) hx hb dX6_mayGo_22 (by decide) (fun c22 => ?_) (fun c22 => ?_)
    · replace h := if_f c22 h
      refine lv_iconst (v := (0 : Int32)) hx hb dX6_mayGo_29 (by decide) ?_
      exact m_zret S hr hlk hw (Or.inl rfl) h dX6_mayGo_30
    · replace h := if_t c22 h
      refine lv_iconst (v := (1 : Int32)) hx hb dX6_mayGo_25 (by decide) ?_
      refine lv_goto (tgt := 30) hx hb dX6_mayGo_26 (by decide) ?_
      exact m_zret S hr hlk hw (Or.inr rfl) h dX6_mayGo_30
theorem ctM_mayGo (l : Launch) (D : va_G) (dA : Nat → ClassId) (ad : Nat → Nat) (A : Nat → Prop) (a : MS) (x1 : Int32) (Q : Int32 → MS → Prop) (h : wpM_mayGo a x1 Q) : Met l yX6_mayGo (ws_ yX6_mayGo cX6_mayGo 2 (some .boolean)) rmM_mayGo (mPc D dA ad A a [.ref (ad 38), .int x1]) (mQi D dA ad A Q) 0 0 A :=
  m_met (by decide) rfl rfl rfl (Nat.le_of_ble_eq_true rfl) (fun p e s m below meth c ls S hr hlk hw hl => wkM_mayGo_e S hr hlk Q x1 a _ _ ls h hw hl)
theorem cwM_mayGo {R : Room} {s : State} {args : Array Value} {rm : Room} (hts : ∀ w ∈ lw_all, w.before args s = true) (hR : rm.frames + 1 ≤ R.frames ∧ 8 + (2 + 11) + rm.locals ≤ R.locals) (hc : rm.cells = 0 := by rfl) (hs : rm.slots = 0 := by rfl) : CallW R s args RX6 RX6 161 yX6_mayGo cX6_mayGo 2 (some .boolean) (ws_ yX6_mayGo cX6_mayGo 2 (some .boolean)) rm 0 0 1 :=
  cwV 1 hts (lw_V q1588 q1590 qs70 q112 q1591) rfl hc hs (by decide +kernel) hR
/-! speaks -/
abbrev rmM_speaks : Room := { frames := 2, cells := 0, slots := 0, locals := 47 }
def wpM_speaks (a : MS) (x1 : Int32) (Q : Int32 → MS → Prop) : Prop := vp_in ((66 : Int32) + x1) 3098 ∧ (wpM_leafAt a (a 0 ((66 : Int32) + x1).toNatClampNeg) (fun r12 a12 => wpM_counts a12 (2 : Int32) (fun r18 a18 => if (a18 0 (4 : Int32).toNatClampNeg) = (1 : Int32) then (vp_in (r12 + (6 : Int32)) 3098 ∧ (Q (-(a18 0 (r12 + (6 : Int32)).toNatClampNeg)) a18)) else (if (a18 0 (4 : Int32).toNatClampNeg) = (2 : Int32) then (vp_in (r12 + (5 : Int32)) 3098 ∧ (Q (-(a18 0 (r12 + (5 : Int32)).toNatClampNeg)) a18)) else (if (a18 0 (4 : Int32).toNatClampNeg) < (4 : Int32) then (Q (0 : Int32) a18) else (if 0 ≤ r18 then (vp_in (r12 + (6 : Int32)) 3098 ∧ (∀ a104 : MS, a104 = up2 a18 32 (97 : Int32).toNatClampNeg ((a18 0 (6 : Int32).toNatClampNeg) - (a18 0 (r12 + (6 : Int32)).toNatClampNeg)) → (vp_in (r12 + (5 : Int32)) 3098 ∧ (∀ a119 : MS, a119 = up2 a104 32 (116 : Int32).toNatClampNeg (a104 0 (r12 + (5 : Int32)).toNatClampNeg) → (vp_in (a 0 ((66 : Int32) + x1).toNatClampNeg) 8 ∧ (∀ a132 : MS, a132 = up2 a119 32 (114 : Int32).toNatClampNeg (a119 12 (a 0 ((66 : Int32) + x1).toNatClampNeg).toNatClampNeg) → (∀ a140 : MS, a140 = up2 a132 32 (110 : Int32).toNatClampNeg (a 0 ((66 : Int32) + x1).toNatClampNeg) → (wpM_worked a140 r18 (fun r144 a144 => Q r144 a144))))))))) else (Q (0 : Int32) a18)))))))
set_option maxHeartbeats 4000000 in
set_option maxRecDepth 100000 in
theorem wkM_speaks_e (S : CallFix p m c cX6_speaks 5 s args lw_all RX6) (hr : meth.sig.returnType = (some .int)) (hlk : meth.locks = false) (Q : Int32 → MS → Prop) (x1 : Int32) (a : MS) (H : Heap) (locs : List Loc) (ls : Array Slot) (h : wpM_speaks a x1 Q) (hw : MW D dA ad A a s H locs) (hl : lv_has ls 5 [(0, .ref (ad 38)), (1, .int x1)]) : W p l e rmM_speaks s m args below meth c H locs 0 0 (MQ below (mQi D dA ad A Q) args s 0 0 A) (F0 m 0 ls []) := by
  have hx := S.1
  have hb := S.2.1
  have hown := S.2.2.2.1
  have hts := S.2.2.2.2
  unfold wpM_speaks at h
  refine lv_aload_n hx hb dX6_speaks_0 rfl (lv_at hl 0 rfl) ?_
  refine m_get S hw 0 (by decide) q1338 rfl rfl dX6_speaks_1 ?_
  refine lv_bipush (v := (66 : Int32)) hx hb dX6_speaks_4 (by decide) ?_
  refine lv_iload_n hx hb dX6_speaks_6 rfl (lv_at hl 1 rfl) ?_
  refine lv_iadd hx hb dX6_speaks_7 ?_
  refine m_ald S hw 1 0 3098 rfl (by decide) rfl h.1 dX6_speaks_8 ?_
  replace h := h.2
  refine lv_istore_n (lv' := [(2, .int (a 0 ((66 : Int32) + x1).toNatClampNeg)), (0, .ref (ad 38)), (1, .int x1)]) hx hb dX6_speaks_9 rfl hl (by decide) rfl (fun ls hl => ?_)
  refine lv_aload_n hx hb dX6_speaks_10 rfl (lv_at hl 1 rfl) ?_
  refine lv_iload_n hx hb dX6_speaks_11 rfl (lv_at hl 0 rfl) ?_
  refine m_calli S hw [.int (a 0 ((66 : Int32) + x1).toNatClampNeg)] [] (ctM_leafAt l D dA ad A a (a 0 ((66 : Int32) + x1).toNatClampNeg) _ h) (cwM_leafAt hts ⟨Nat.le_of_ble_eq_true rfl, Nat.le_of_ble_eq_true rfl⟩) rfl hl.1 rfl (Nat.le_of_ble_eq_true rfl) dX6_speaks_12 ⟨Nat.zero_le _, Nat.zero_le _⟩ (fun r12 a12 H locs h hw => ?_)
  refine lv_istore_n (lv' := [(3, .int r12), (2, .int (a 0 ((66 : Int32) + x1).toNatClampNeg)), (0, .ref (ad 38)), (1, .int x1)]) hx hb dX6_speaks_15 rfl hl (by decide) rfl (fun ls hl => ?_)
  refine lv_aload_n hx hb dX6_speaks_16 rfl (lv_at hl 2 rfl) ?_
  refine lv_iconst (v := (2 : Int32)) hx hb dX6_speaks_17 (by decide) ?_
  refine m_calli S hw [.int (2 : Int32)] [] (ctM_counts l D dA ad A a12 (2 : Int32) _ h) (cwM_counts hts ⟨Nat.le_of_ble_eq_true rfl, Nat.le_of_ble_eq_true rfl⟩) rfl hl.1 rfl (Nat.le_of_ble_eq_true rfl) dX6_speaks_18 ⟨Nat.zero_le _, Nat.zero_le _⟩ (fun r18 a18 H locs h hw => ?_)
  refine lv_istore (lv' := [(4, .int r18), (3, .int r12), (2, .int (a 0 ((66 : Int32) + x1).toNatClampNeg)), (0, .ref (ad 38)), (1, .int x1)]) hx hb dX6_speaks_21 hl (by decide) rfl (fun ls hl => ?_)
  refine lv_aload_n hx hb dX6_speaks_23 rfl (lv_at hl 3 rfl) ?_
  refine m_get S hw 0 (by decide) q1338 rfl rfl dX6_speaks_24 ?_
  refine lv_iconst (v := (4 : Int32)) hx hb dX6_speaks_27 (by decide) ?_
  refine m_ald S hw 1 0 3098 rfl (by decide) rfl (vlit (by decide)) dX6_speaks_28 ?_
  refine lv_iconst (v := (1 : Int32)) hx hb dX6_speaks_29 (by decide) ?_
  refine lv_icmp_ne (tgt := 44) hx hb dX6_speaks_30 (by decide) (fun c30 => ?_) (fun c30 => ?_)
  · replace h := if_f c30 h
    refine lv_aload_n hx hb dX6_speaks_44 rfl (lv_at hl 3 rfl) ?_
    refine m_get S hw 0 (by decide) q1338 rfl rfl dX6_speaks_45 ?_
    refine lv_iconst (v := (4 : Int32)) hx hb dX6_speaks_48 (by decide) ?_
    refine m_ald S hw 1 0 3098 rfl (by decide) rfl (vlit (by decide)) dX6_speaks_49 ?_
    refine lv_iconst (v := (2 : Int32)) hx hb dX6_speaks_50 (by decide) ?_
    refine lv_icmp_ne (tgt := 64) hx hb dX6_speaks_51 (by decide) (fun c51 => ?_) (fun c51 => ?_)
    · replace h := if_f c51 h
      refine lv_aload_n hx hb dX6_speaks_64 rfl (lv_at hl 3 rfl) ?_
      refine m_get S hw 0 (by decide) q1338 rfl rfl dX6_speaks_65 ?_
      refine lv_iconst (v := (4 : Int32)) hx hb dX6_speaks_68 (by decide) ?_
      refine m_ald S hw 1 0 3098 rfl (by decide) rfl (vlit (by decide)) dX6_speaks_69 ?_
      refine lv_iconst (v := (4 : Int32)) hx hb dX6_speaks_70 (by decide) ?_
      refine lv_icmp_lt (tgt := 79) hx hb dX6_speaks_71 (by decide) (fun c71 => ?_) (fun c71 => ?_)
      · replace h := if_t c71 h
        refine lv_iconst (v := (0 : Int32)) hx hb dX6_speaks_79 (by decide) ?_
        exact m_iret S hr hlk hw h dX6_speaks_80
      · replace h := if_f c71 h
        refine lv_iload hx hb dX6_speaks_74 (lv_at hl 0 rfl) ?_
        refine lv_if_ge (tgt := 81) hx hb dX6_speaks_76 (by decide) (fun c76 => ?_) (fun c76 => ?_)
        · replace h := if_t c76 h
          refine lv_aload_n hx hb dX6_speaks_81 rfl (lv_at hl 3 rfl) ?_
          refine m_get S hw 32 (by decide) q1370 rfl rfl dX6_speaks_82 ?_
          refine lv_bipush (v := (97 : Int32)) hx hb dX6_speaks_85 (by decide) ?_
          refine lv_aload_n hx hb dX6_speaks_87 rfl (lv_at hl 3 rfl) ?_
          refine m_get S hw 0 (by decide) q1338 rfl rfl dX6_speaks_88 ?_
          refine lv_bipush (v := (6 : Int32)) hx hb dX6_speaks_91 (by decide) ?_
          refine m_ald S hw 1 0 3098 rfl (by decide) rfl (vlit (by decide)) dX6_speaks_93 ?_
          refine lv_aload_n hx hb dX6_speaks_94 rfl (lv_at hl 3 rfl) ?_
          refine m_get S hw 0 (by decide) q1338 rfl rfl dX6_speaks_95 ?_
          refine lv_iload_n hx hb dX6_speaks_98 rfl (lv_at hl 1 rfl) ?_
          refine lv_bipush (v := (6 : Int32)) hx hb dX6_speaks_99 (by decide) ?_
          refine lv_iadd hx hb dX6_speaks_101 ?_
          refine m_ald S hw 1 0 3098 rfl (by decide) rfl h.1 dX6_speaks_102 ?_
          replace h := h.2
          refine lv_isub hx hb dX6_speaks_103 ?_
          refine m_ast S hw 20 32 128 rfl (by decide) rfl (vlit (by decide)) dX6_speaks_104 (fun a104 H locs ea104 hw => ?_)
          replace h := h a104 ea104
          refine lv_aload_n hx hb dX6_speaks_105 rfl (lv_at hl 3 rfl) ?_
          refine m_get S hw 32 (by decide) q1370 rfl rfl dX6_speaks_106 ?_
          refine lv_bipush (v := (116 : Int32)) hx hb dX6_speaks_109 (by decide) ?_
          refine lv_aload_n hx hb dX6_speaks_111 rfl (lv_at hl 3 rfl) ?_
          refine m_get S hw 0 (by decide) q1338 rfl rfl dX6_speaks_112 ?_
          refine lv_iload_n hx hb dX6_speaks_115 rfl (lv_at hl 1 rfl) ?_
          refine lv_iconst (v := (5 : Int32)) hx hb dX6_speaks_116 (by decide) ?_
          refine lv_iadd hx hb dX6_speaks_117 ?_
          refine m_ald S hw 1 0 3098 rfl (by decide) rfl h.1 dX6_speaks_118 ?_
          replace h := h.2
          refine m_ast S hw 20 32 128 rfl (by decide) rfl (vlit (by decide)) dX6_speaks_119 (fun a119 H locs ea119 hw => ?_)
          replace h := h a119 ea119
          refine lv_aload_n hx hb dX6_speaks_120 rfl (lv_at hl 3 rfl) ?_
          refine m_get S hw 32 (by decide) q1370 rfl rfl dX6_speaks_121 ?_
          refine lv_bipush (v := (114 : Int32)) hx hb dX6_speaks_124 (by decide) ?_
          refine lv_aload_n hx hb dX6_speaks_126 rfl (lv_at hl 3 rfl) ?_
          refine m_get S hw 12 (by decide) q1350 rfl rfl dX6_speaks_127 ?_
          refine lv_iload_n hx hb dX6_speaks_130 rfl (lv_at hl 2 rfl) ?_
          refine m_ald S hw 12 12 8 rfl (by decide) rfl h.1 dX6_speaks_131 ?_
          replace h := h.2
          refine m_ast S hw 20 32 128 rfl (by decide) rfl (vlit (by decide)) dX6_speaks_132 (fun a132 H locs ea132 hw => ?_)
          replace h := h a132 ea132
          refine lv_aload_n hx hb dX6_speaks_133 rfl (lv_at hl 3 rfl) ?_
          refine m_get S hw 32 (by decide) q1370 rfl rfl dX6_speaks_134 ?_
          refine lv_bipush (v := (110 : Int32)) hx hb dX6_speaks_137 (by decide) ?_
          refine lv_iload_n hx hb dX6_speaks_139 rfl (lv_at hl 2 rfl) ?_
          refine m_ast S hw 20 32 128 rfl (by decide) rfl (vlit (by decide)) dX6_speaks_140 (fun a140 H locs ea140 hw => ?_)
          replace h := h a140 ea140
          refine lv_aload_n hx hb dX6_speaks_141 rfl (lv_at hl 3 rfl) ?_
          refine lv_iload hx hb dX6_speaks_142 (lv_at hl 0 rfl) ?_
          refine m_calli S hw [.int r18] [] (ctM_worked l D dA ad A a140 r18 _ h) (cwM_worked hts ⟨Nat.le_of_ble_eq_true rfl, Nat.le_of_ble_eq_true rfl⟩) rfl hl.1 rfl (Nat.le_of_ble_eq_true rfl) dX6_speaks_144 ⟨Nat.zero_le _, Nat.zero_le _⟩ (fun r144 a144 H locs h hw => ?_)
          exact m_iret S hr hlk hw h dX6_speaks_147
        · replace h := if_f c76 h
          refine lv_iconst (v := (0 : Int32)) hx hb dX6_speaks_79 (by decide) ?_
          exact m_iret S hr hlk hw h dX6_speaks_80
    · replace h := if_t c51 h
      refine lv_aload_n hx hb dX6_speaks_54 rfl (lv_at hl 3 rfl) ?_
      refine m_get S hw 0 (by decide) q1338 rfl rfl dX6_speaks_55 ?_
      refine lv_iload_n hx hb dX6_speaks_58 rfl (lv_at hl 1 rfl) ?_
      refine lv_iconst (v := (5 : Int32)) hx hb dX6_speaks_59 (by decide) ?_
      refine lv_iadd hx hb dX6_speaks_60 ?_
      refine m_ald S hw 1 0 3098 rfl (by decide) rfl h.1 dX6_speaks_61 ?_
      replace h := h.2
      refine lv_ineg hx hb dX6_speaks_62 ?_
      exact m_iret S hr hlk hw h dX6_speaks_63
  · replace h := if_t c30 h
    refine lv_aload_n hx hb dX6_speaks_33 rfl (lv_at hl 3 rfl) ?_
    refine m_get S hw 0 (by decide) q1338 rfl rfl dX6_speaks_34 ?_
    refine lv_iload_n hx hb dX6_speaks_37 rfl (lv_at hl 1 rfl) ?_
    refine lv_bipush (v := (6 : Int32)) hx hb dX6_speaks_38 (by decide) ?_
    refine lv_iadd hx hb dX6_speaks_40 ?_
    refine m_ald S hw 1 0 3098 rfl (by decide) rfl h.1 dX6_speaks_41 ?_
    replace h := h.2
    refine lv_ineg hx hb dX6_speaks_42 ?_
    exact m_iret S hr hlk hw h dX6_speaks_43
theorem ctM_speaks (l : Launch) (D : va_G) (dA : Nat → ClassId) (ad : Nat → Nat) (A : Nat → Prop) (a : MS) (x1 : Int32) (Q : Int32 → MS → Prop) (h : wpM_speaks a x1 Q) : Met l yX6_speaks (ws_ yX6_speaks cX6_speaks 5 (some .int)) rmM_speaks (mPc D dA ad A a [.ref (ad 38), .int x1]) (mQi D dA ad A Q) 0 0 A :=
  m_met (by decide) rfl rfl rfl (Nat.le_of_ble_eq_true rfl) (fun p e s m below meth c ls S hr hlk hw hl => wkM_speaks_e S hr hlk Q x1 a _ _ ls h hw hl)
theorem cwM_speaks {R : Room} {s : State} {args : Array Value} {rm : Room} (hts : ∀ w ∈ lw_all, w.before args s = true) (hR : rm.frames + 1 ≤ R.frames ∧ 8 + (5 + 11) + rm.locals ≤ R.locals) (hc : rm.cells = 0 := by rfl) (hs : rm.slots = 0 := by rfl) : CallW R s args RX6 RX6 164 yX6_speaks cX6_speaks 5 (some .int) (ws_ yX6_speaks cX6_speaks 5 (some .int)) rm 0 0 1 :=
  cwV 1 hts (lw_V q1596 q1598 qs72 q112 q1599) rfl hc hs (by decide +kernel) hR
/-! goesFirst -/
abbrev rmM_goesFirst : Room := { frames := 3, cells := 0, slots := 0, locals := 71 }
def bkM_goesFirst_136 (Q : Int32 → MS → Prop) (O69 : Int32 → Int32 → Int32 → Int32 → MS → Prop) : Int32 → Int32 → Int32 → MS → Prop := fun x2 x5 x6 a => O69 x2 x5 x6 (x5 + (1 : Int32)) a
set_option maxHeartbeats 4000000 in
set_option maxRecDepth 100000 in
theorem wkM_goesFirst_136 (S : CallFix p m c cX6_goesFirst 7 s args lw_all RX6) (hr : meth.sig.returnType = (some .int)) (hlk : meth.locks = false) (Q : Int32 → MS → Prop) {O69 : Int32 → Int32 → Int32 → Int32 → MS → Prop} (hO69 : ∀ (x2 : Int32) (x3 : Int32) (x4 : Int32) (x5 : Int32) (a : MS) (H : Heap) (locs : List Loc) (ls : Array Slot), O69 x2 x3 x4 x5 a → MW D dA ad A a s H locs → lv_has ls 7 [(0, .ref (ad 38)), (2, .int x2), (3, .int x3), (4, .int x4), (5, .int x5)] → W p l e rmM_goesFirst s m args below meth c H locs 0 0 (MQ below (mQi D dA ad A Q) args s 0 0 A) (F0 m 69 ls [])) : ∀ (x2 : Int32) (x5 : Int32) (x6 : Int32) (a : MS) (H : Heap) (locs : List Loc) (ls : Array Slot), bkM_goesFirst_136 Q O69 x2 x5 x6 a → MW D dA ad A a s H locs → lv_has ls 7 [(0, .ref (ad 38)), (2, .int x2), (5, .int x5), (6, .int x6)] → W p l e rmM_goesFirst s m args below meth c H locs 0 0 (MQ below (mQi D dA ad A Q) args s 0 0 A) (F0 m 136 ls []) := by
  have hx := S.1
  have hb := S.2.1
  have hown := S.2.2.2.1
  have hts := S.2.2.2.2
  intro x2 x5 x6 a H locs ls h hw hl
  unfold bkM_goesFirst_136 at h
  refine lv_iload hx hb dX6_goesFirst_136 (lv_at hl 2 rfl) ?_
  refine lv_istore_n (lv' := [(3, .int x5), (0, .ref (ad 38)), (2, .int x2), (5, .int x5), (6, .int x6)]) hx hb dX6_goesFirst_138 rfl hl (by decide) rfl (fun ls hl => ?_)
  refine lv_iload hx hb dX6_goesFirst_139 (lv_at hl 4 rfl) ?_
  refine lv_istore (lv' := [(4, .int x6), (3, .int x5), (0, .ref (ad 38)), (2, .int x2), (5, .int x5), (6, .int x6)]) hx hb dX6_goesFirst_141 hl (by decide) rfl (fun ls hl => ?_)
  refine lv_iinc (v := (x5 + (1 : Int32))) (lv' := [(5, .int (x5 + (1 : Int32))), (4, .int x6), (3, .int x5), (0, .ref (ad 38)), (2, .int x2), (6, .int x6)]) hx hb dX6_goesFirst_143 hl (k := 4) rfl rfl (by decide) rfl (fun ls hl => ?_)
  refine lv_goto (tgt := 69) hx hb dX6_goesFirst_146 (by decide) ?_
  exact hO69 _ _ _ _ _ _ _ _ h hw (lv_sub hl [3, 4, 2, 1, 0] rfl)
def bkM_goesFirst_120 (Q : Int32 → MS → Prop) (O69 : Int32 → Int32 → Int32 → Int32 → MS → Prop) : Int32 → Int32 → Int32 → Int32 → Int32 → MS → Prop := fun x2 x3 x4 x5 s0 a => if x3 < 0 then (bkM_goesFirst_136 Q O69 (x2 + (-1 : Int32)) x5 s0 a) else (if s0 ≤ x4 then (O69 (x2 + (-1 : Int32)) x3 x4 (x5 + (1 : Int32)) a) else (bkM_goesFirst_136 Q O69 (x2 + (-1 : Int32)) x5 s0 a))
set_option maxHeartbeats 4000000 in
set_option maxRecDepth 100000 in
theorem wkM_goesFirst_120 (S : CallFix p m c cX6_goesFirst 7 s args lw_all RX6) (hr : meth.sig.returnType = (some .int)) (hlk : meth.locks = false) (Q : Int32 → MS → Prop) {O69 : Int32 → Int32 → Int32 → Int32 → MS → Prop} (hO69 : ∀ (x2 : Int32) (x3 : Int32) (x4 : Int32) (x5 : Int32) (a : MS) (H : Heap) (locs : List Loc) (ls : Array Slot), O69 x2 x3 x4 x5 a → MW D dA ad A a s H locs → lv_has ls 7 [(0, .ref (ad 38)), (2, .int x2), (3, .int x3), (4, .int x4), (5, .int x5)] → W p l e rmM_goesFirst s m args below meth c H locs 0 0 (MQ below (mQi D dA ad A Q) args s 0 0 A) (F0 m 69 ls [])) : ∀ (x2 : Int32) (x3 : Int32) (x4 : Int32) (x5 : Int32) (s0 : Int32) (a : MS) (H : Heap) (locs : List Loc) (ls : Array Slot), bkM_goesFirst_120 Q O69 x2 x3 x4 x5 s0 a → MW D dA ad A a s H locs → lv_has ls 7 [(0, .ref (ad 38)), (2, .int x2), (3, .int x3), (4, .int x4), (5, .int x5)] → W p l e rmM_goesFirst s m args below meth c H locs 0 0 (MQ below (mQi D dA ad A Q) args s 0 0 A) (F0 m 120 ls [.int s0]) := by
  have hx := S.1
  have hb := S.2.1
  have hown := S.2.2.2.1
  have hts := S.2.2.2.2
  intro x2 x3 x4 x5 s0 a H locs ls h hw hl
  unfold bkM_goesFirst_120 at h
  refine lv_istore (lv' := [(6, .int s0), (0, .ref (ad 38)), (2, .int x2), (3, .int x3), (4, .int x4), (5, .int x5)]) hx hb dX6_goesFirst_120 hl (by decide) rfl (fun ls hl => ?_)
  refine lv_iinc (v := (x2 + (-1 : Int32))) (lv' := [(2, .int (x2 + (-1 : Int32))), (6, .int s0), (0, .ref (ad 38)), (3, .int x3), (4, .int x4), (5, .int x5)]) hx hb dX6_goesFirst_122 hl (k := 2) rfl rfl (by decide) rfl (fun ls hl => ?_)
  refine lv_iload_n hx hb dX6_goesFirst_125 rfl (lv_at hl 3 rfl) ?_
  refine lv_if_lt (tgt := 136) hx hb dX6_goesFirst_126 (by decide) (fun c126 => ?_) (fun c126 => ?_)
  · replace h := if_t c126 h
    exact wkM_goesFirst_136 S hr hlk Q hO69 _ _ _ _ _ _ _ h hw (lv_sub hl [2, 0, 5, 1] rfl)
  · replace h := if_f c126 h
    refine lv_iload hx hb dX6_goesFirst_129 (lv_at hl 1 rfl) ?_
    refine lv_iload hx hb dX6_goesFirst_131 (lv_at hl 4 rfl) ?_
    refine lv_icmp_le (tgt := 143) hx hb dX6_goesFirst_133 (by decide) (fun c133 => ?_) (fun c133 => ?_)
    · replace h := if_t c133 h
      refine lv_iinc (v := (x5 + (1 : Int32))) (lv' := [(5, .int (x5 + (1 : Int32))), (2, .int (x2 + (-1 : Int32))), (6, .int s0), (0, .ref (ad 38)), (3, .int x3), (4, .int x4)]) hx hb dX6_goesFirst_143 hl (k := 5) rfl rfl (by decide) rfl (fun ls hl => ?_)
      refine lv_goto (tgt := 69) hx hb dX6_goesFirst_146 (by decide) ?_
      exact hO69 _ _ _ _ _ _ _ _ h hw (lv_sub hl [3, 1, 4, 5, 0] rfl)
    · replace h := if_f c133 h
      exact wkM_goesFirst_136 S hr hlk Q hO69 _ _ _ _ _ _ _ h hw (lv_sub hl [2, 0, 5, 1] rfl)
def bkM_goesFirst_69 (Q : Int32 → MS → Prop) : Nat → Int32 → Int32 → Int32 → Int32 → MS → Prop
  | 0 => fun _ _ _ _ _ => False
  | n + 1 => fun x2 x3 x4 x5 a => if (a 0 (2 : Int32).toNatClampNeg) ≤ x5 then (Q x3 a) else (wpM_mayGo a x5 (fun r83 a83 => if r83 = 0 then (bkM_goesFirst_69 Q n x2 x3 x4 (x5 + (1 : Int32)) a83) else (if (a83 0 (4 : Int32).toNatClampNeg) = (3 : Int32) then (if x2 = 0 then (bkM_goesFirst_120 Q (bkM_goesFirst_69 Q n) x2 x3 x4 x5 (1 : Int32) a83) else (bkM_goesFirst_120 Q (bkM_goesFirst_69 Q n) x2 x3 x4 x5 (0 : Int32) a83)) else (wpM_speaks a83 x5 (fun r117 a117 => bkM_goesFirst_120 Q (bkM_goesFirst_69 Q n) x2 x3 x4 x5 r117 a117)))))
set_option maxHeartbeats 4000000 in
set_option maxRecDepth 100000 in
theorem wkM_goesFirst_69 (S : CallFix p m c cX6_goesFirst 7 s args lw_all RX6) (hr : meth.sig.returnType = (some .int)) (hlk : meth.locks = false) (Q : Int32 → MS → Prop) : ∀ (n : Nat) (x2 : Int32) (x3 : Int32) (x4 : Int32) (x5 : Int32) (a : MS) (H : Heap) (locs : List Loc) (ls : Array Slot), bkM_goesFirst_69 Q n x2 x3 x4 x5 a → MW D dA ad A a s H locs → lv_has ls 7 [(0, .ref (ad 38)), (2, .int x2), (3, .int x3), (4, .int x4), (5, .int x5)] → W p l e rmM_goesFirst s m args below meth c H locs 0 0 (MQ below (mQi D dA ad A Q) args s 0 0 A) (F0 m 69 ls []) := by
  have hx := S.1
  have hb := S.2.1
  have hown := S.2.2.2.1
  have hts := S.2.2.2.2
  intro n
  induction n with
  | zero =>
    intro x2 x3 x4 x5 a H locs ls h
    exact False.elim h
  | succ n ih =>
    intro x2 x3 x4 x5 a H locs ls h hw hl
    unfold bkM_goesFirst_69 at h
    refine lv_iload hx hb dX6_goesFirst_69 (lv_at hl 4 rfl) ?_
    refine lv_aload_n hx hb dX6_goesFirst_71 rfl (lv_at hl 0 rfl) ?_
    refine m_get S hw 0 (by decide) q1338 rfl rfl dX6_goesFirst_72 ?_
    refine lv_iconst (v := (2 : Int32)) hx hb dX6_goesFirst_75 (by decide) ?_
    refine m_ald S hw 1 0 3098 rfl (by decide) rfl (vlit (by decide)) dX6_goesFirst_76 ?_
    refine lv_icmp_ge (tgt := 149) hx hb dX6_goesFirst_77 (by decide) (fun c77 => ?_) (fun c77 => ?_)
    · replace h := if_t c77 h
      refine lv_iload_n hx hb dX6_goesFirst_149 rfl (lv_at hl 2 rfl) ?_
      exact m_iret S hr hlk hw h dX6_goesFirst_150
    · replace h := if_f c77 h
      refine lv_aload_n hx hb dX6_goesFirst_80 rfl (lv_at hl 0 rfl) ?_
      refine lv_iload hx hb dX6_goesFirst_81 (lv_at hl 4 rfl) ?_
      refine m_calli S hw [.int x5] [] (ctM_mayGo l D dA ad A a x5 _ h) (cwM_mayGo hts ⟨Nat.le_of_ble_eq_true rfl, Nat.le_of_ble_eq_true rfl⟩) rfl hl.1 rfl (Nat.le_of_ble_eq_true rfl) dX6_goesFirst_83 ⟨Nat.zero_le _, Nat.zero_le _⟩ (fun r83 a83 H locs h hw => ?_)
      refine lv_if_ne (tgt := 92) hx hb dX6_goesFirst_86 (by decide) (fun c86 => ?_) (fun c86 => ?_)
      · replace h := if_f c86 h
        refine lv_aload_n hx hb dX6_goesFirst_92 rfl (lv_at hl 0 rfl) ?_
        refine m_get S hw 0 (by decide) q1338 rfl rfl dX6_goesFirst_93 ?_
        refine lv_iconst (v := (4 : Int32)) hx hb dX6_goesFirst_96 (by decide) ?_
        refine m_ald S hw 1 0 3098 rfl (by decide) rfl (vlit (by decide)) dX6_goesFirst_97 ?_
        refine lv_iconst (v := (3 : Int32)) hx hb dX6_goesFirst_98 (by decide) ?_
        refine lv_icmp_ne (tgt := 114) hx hb dX6_goesFirst_99 (by decide) (fun c99 => ?_) (fun c99 => ?_)
        · replace h := if_f c99 h
          refine lv_aload_n hx hb dX6_goesFirst_114 rfl (lv_at hl 0 rfl) ?_
          refine lv_iload hx hb dX6_goesFirst_115 (lv_at hl 4 rfl) ?_
          refine m_calli S hw [.int x5] [] (ctM_speaks l D dA ad A a83 x5 _ h) (cwM_speaks hts ⟨Nat.le_of_ble_eq_true rfl, Nat.le_of_ble_eq_true rfl⟩) rfl hl.1 rfl (Nat.le_of_ble_eq_true rfl) dX6_goesFirst_117 ⟨Nat.zero_le _, Nat.zero_le _⟩ (fun r117 a117 H locs h hw => ?_)
          exact wkM_goesFirst_120 S hr hlk Q ih _ _ _ _ _ _ _ _ _ h hw (lv_sub hl [0, 1, 2, 3, 4] rfl)
        · replace h := if_t c99 h
          refine lv_iload_n hx hb dX6_goesFirst_102 rfl (lv_at hl 1 rfl) ?_
          refine lv_if_ne (tgt := 110) hx hb dX6_goesFirst_103 (by decide) (fun c103 => ?_) (fun c103 => ?_)
          · replace h := if_f c103 h
            refine lv_iconst (v := (0 : Int32)) hx hb dX6_goesFirst_110 (by decide) ?_
            refine lv_goto (tgt := 120) hx hb dX6_goesFirst_111 (by decide) ?_
            exact wkM_goesFirst_120 S hr hlk Q ih _ _ _ _ _ _ _ _ _ h hw (lv_sub hl [0, 1, 2, 3, 4] rfl)
          · replace h := if_t c103 h
            refine lv_iconst (v := (1 : Int32)) hx hb dX6_goesFirst_106 (by decide) ?_
            refine lv_goto (tgt := 120) hx hb dX6_goesFirst_107 (by decide) ?_
            exact wkM_goesFirst_120 S hr hlk Q ih _ _ _ _ _ _ _ _ _ h hw (lv_sub hl [0, 1, 2, 3, 4] rfl)
      · replace h := if_t c86 h
        refine lv_goto (tgt := 143) hx hb dX6_goesFirst_89 (by decide) ?_
        refine lv_iinc (v := (x5 + (1 : Int32))) (lv' := [(5, .int (x5 + (1 : Int32))), (0, .ref (ad 38)), (2, .int x2), (3, .int x3), (4, .int x4)]) hx hb dX6_goesFirst_143 hl (k := 4) rfl rfl (by decide) rfl (fun ls hl => ?_)
        refine lv_goto (tgt := 69) hx hb dX6_goesFirst_146 (by decide) ?_
        exact ih _ _ _ _ _ _ _ _ h hw (lv_sub hl [1, 2, 3, 4, 0] rfl)
def bkM_goesFirst_60 (Q : Int32 → MS → Prop) : Int32 → MS → Prop := fun s0 a => ∃ n69, bkM_goesFirst_69 Q n69 s0 (-1 : Int32) (0 : Int32) (0 : Int32) a
set_option maxHeartbeats 4000000 in
set_option maxRecDepth 100000 in
theorem wkM_goesFirst_60 (S : CallFix p m c cX6_goesFirst 7 s args lw_all RX6) (hr : meth.sig.returnType = (some .int)) (hlk : meth.locks = false) (Q : Int32 → MS → Prop) : ∀ (s0 : Int32) (a : MS) (H : Heap) (locs : List Loc) (ls : Array Slot), bkM_goesFirst_60 Q s0 a → MW D dA ad A a s H locs → lv_has ls 7 [(0, .ref (ad 38))] → W p l e rmM_goesFirst s m args below meth c H locs 0 0 (MQ below (mQi D dA ad A Q) args s 0 0 A) (F0 m 60 ls [.int s0]) := by
  have hx := S.1
  have hb := S.2.1
  have hown := S.2.2.2.1
  have hts := S.2.2.2.2
  intro s0 a H locs ls h hw hl
  unfold bkM_goesFirst_60 at h
  refine lv_istore_n (lv' := [(2, .int s0), (0, .ref (ad 38))]) hx hb dX6_goesFirst_60 rfl hl (by decide) rfl (fun ls hl => ?_)
  refine lv_iconst (v := (-1 : Int32)) hx hb dX6_goesFirst_61 (by decide) ?_
  refine lv_istore_n (lv' := [(3, .int (-1 : Int32)), (2, .int s0), (0, .ref (ad 38))]) hx hb dX6_goesFirst_62 rfl hl (by decide) rfl (fun ls hl => ?_)
  refine lv_iconst (v := (0 : Int32)) hx hb dX6_goesFirst_63 (by decide) ?_
  refine lv_istore (lv' := [(4, .int (0 : Int32)), (3, .int (-1 : Int32)), (2, .int s0), (0, .ref (ad 38))]) hx hb dX6_goesFirst_64 hl (by decide) rfl (fun ls hl => ?_)
  refine lv_iconst (v := (0 : Int32)) hx hb dX6_goesFirst_66 (by decide) ?_
  refine lv_istore (lv' := [(5, .int (0 : Int32)), (4, .int (0 : Int32)), (3, .int (-1 : Int32)), (2, .int s0), (0, .ref (ad 38))]) hx hb dX6_goesFirst_67 hl (by decide) rfl (fun ls hl => ?_)
  obtain ⟨n69, h⟩ := h
  exact wkM_goesFirst_69 S hr hlk Q n69 _ _ _ _ _ _ _ _ h hw (lv_sub hl [4, 3, 2, 1, 0] rfl)
def bkM_goesFirst_59 (Q : Int32 → MS → Prop) : MS → Prop := fun a => bkM_goesFirst_60 Q (0 : Int32) a
set_option maxHeartbeats 4000000 in
set_option maxRecDepth 100000 in
theorem wkM_goesFirst_59 (S : CallFix p m c cX6_goesFirst 7 s args lw_all RX6) (hr : meth.sig.returnType = (some .int)) (hlk : meth.locks = false) (Q : Int32 → MS → Prop) : ∀ (a : MS) (H : Heap) (locs : List Loc) (ls : Array Slot), bkM_goesFirst_59 Q a → MW D dA ad A a s H locs → lv_has ls 7 [(0, .ref (ad 38))] → W p l e rmM_goesFirst s m args below meth c H locs 0 0 (MQ below (mQi D dA ad A Q) args s 0 0 A) (F0 m 59 ls []) := by
  have hx := S.1
  have hb := S.2.1
  have hown := S.2.2.2.1
  have hts := S.2.2.2.2
  intro  a H locs ls h hw hl
  unfold bkM_goesFirst_59 at h
  refine lv_iconst (v := (0 : Int32)) hx hb dX6_goesFirst_59 (by decide) ?_
  exact wkM_goesFirst_60 S hr hlk Q _ _ _ _ _ h hw (lv_sub hl [0] rfl)
def bkM_goesFirst_4 (Q : Int32 → MS → Prop) : Nat → Int32 → Int32 → MS → Prop
  | 0 => fun _ _ _ => False
  | n + 1 => fun x1 x2 a => if (a 0 (2 : Int32).toNatClampNeg) ≤ x2 then (if (a 0 (4 : Int32).toNatClampNeg) = (3 : Int32) then (if x1 ≤ 0 then (bkM_goesFirst_59 Q a) else (wpM_drawn a (fun r51 a51 => (¬ x1 = 0) ∧ (bkM_goesFirst_60 Q (irm r51 x1) a51)))) else (bkM_goesFirst_59 Q a)) else (wpM_mayGo a x2 (fun r17 a17 => if r17 = 0 then (bkM_goesFirst_4 Q n (x1 + (0 : Int32)) (x2 + (1 : Int32)) a17) else (bkM_goesFirst_4 Q n (x1 + (1 : Int32)) (x2 + (1 : Int32)) a17)))
set_option maxHeartbeats 4000000 in
set_option maxRecDepth 100000 in
theorem wkM_goesFirst_4 (S : CallFix p m c cX6_goesFirst 7 s args lw_all RX6) (hr : meth.sig.returnType = (some .int)) (hlk : meth.locks = false) (Q : Int32 → MS → Prop) : ∀ (n : Nat) (x1 : Int32) (x2 : Int32) (a : MS) (H : Heap) (locs : List Loc) (ls : Array Slot), bkM_goesFirst_4 Q n x1 x2 a → MW D dA ad A a s H locs → lv_has ls 7 [(0, .ref (ad 38)), (1, .int x1), (2, .int x2)] → W p l e rmM_goesFirst s m args below meth c H locs 0 0 (MQ below (mQi D dA ad A Q) args s 0 0 A) (F0 m 4 ls []) := by
  have hx := S.1
  have hb := S.2.1
  have hown := S.2.2.2.1
  have hts := S.2.2.2.2
  intro n
  induction n with
  | zero =>
    intro x1 x2 a H locs ls h
    exact False.elim h
  | succ n ih =>
    intro x1 x2 a H locs ls h hw hl
    unfold bkM_goesFirst_4 at h
    refine lv_iload_n hx hb dX6_goesFirst_4 rfl (lv_at hl 2 rfl) ?_
    refine lv_aload_n hx hb dX6_goesFirst_5 rfl (lv_at hl 0 rfl) ?_
    refine m_get S hw 0 (by decide) q1338 rfl rfl dX6_goesFirst_6 ?_
    refine lv_iconst (v := (2 : Int32)) hx hb dX6_goesFirst_9 (by decide) ?_
    refine m_ald S hw 1 0 3098 rfl (by decide) rfl (vlit (by decide)) dX6_goesFirst_10 ?_
    refine lv_icmp_ge (tgt := 36) hx hb dX6_goesFirst_11 (by decide) (fun c11 => ?_) (fun c11 => ?_)
    · replace h := if_t c11 h
      refine lv_aload_n hx hb dX6_goesFirst_36 rfl (lv_at hl 0 rfl) ?_
      refine m_get S hw 0 (by decide) q1338 rfl rfl dX6_goesFirst_37 ?_
      refine lv_iconst (v := (4 : Int32)) hx hb dX6_goesFirst_40 (by decide) ?_
      refine m_ald S hw 1 0 3098 rfl (by decide) rfl (vlit (by decide)) dX6_goesFirst_41 ?_
      refine lv_iconst (v := (3 : Int32)) hx hb dX6_goesFirst_42 (by decide) ?_
      refine lv_icmp_ne (tgt := 59) hx hb dX6_goesFirst_43 (by decide) (fun c43 => ?_) (fun c43 => ?_)
      · replace h := if_f c43 h
        exact wkM_goesFirst_59 S hr hlk Q _ _ _ _ h hw (lv_sub hl [0] rfl)
      · replace h := if_t c43 h
        refine lv_iload_n hx hb dX6_goesFirst_46 rfl (lv_at hl 1 rfl) ?_
        refine lv_if_le (tgt := 59) hx hb dX6_goesFirst_47 (by decide) (fun c47 => ?_) (fun c47 => ?_)
        · replace h := if_t c47 h
          exact wkM_goesFirst_59 S hr hlk Q _ _ _ _ h hw (lv_sub hl [0] rfl)
        · replace h := if_f c47 h
          refine lv_aload_n hx hb dX6_goesFirst_50 rfl (lv_at hl 0 rfl) ?_
          refine m_calli S hw [] [] (ctM_drawn l D dA ad A a _ h) (cwM_drawn hts ⟨Nat.le_of_ble_eq_true rfl, Nat.le_of_ble_eq_true rfl⟩) rfl hl.1 rfl (Nat.le_of_ble_eq_true rfl) dX6_goesFirst_51 ⟨Nat.zero_le _, Nat.zero_le _⟩ (fun r51 a51 H locs h hw => ?_)
          refine lv_iload_n hx hb dX6_goesFirst_54 rfl (lv_at hl 1 rfl) ?_
          refine lv_irem hx hb dX6_goesFirst_55 h.1 ?_
          replace h := h.2
          refine lv_goto (tgt := 60) hx hb dX6_goesFirst_56 (by decide) ?_
          exact wkM_goesFirst_60 S hr hlk Q _ _ _ _ _ h hw (lv_sub hl [0] rfl)
    · replace h := if_f c11 h
      refine lv_iload_n hx hb dX6_goesFirst_14 rfl (lv_at hl 1 rfl) ?_
      refine lv_aload_n hx hb dX6_goesFirst_15 rfl (lv_at hl 0 rfl) ?_
      refine lv_iload_n hx hb dX6_goesFirst_16 rfl (lv_at hl 2 rfl) ?_
      refine m_calli S hw [.int x2] [.int x1] (ctM_mayGo l D dA ad A a x2 _ h) (cwM_mayGo hts ⟨Nat.le_of_ble_eq_true rfl, Nat.le_of_ble_eq_true rfl⟩) rfl hl.1 rfl (Nat.le_of_ble_eq_true rfl) dX6_goesFirst_17 ⟨Nat.zero_le _, Nat.zero_le _⟩ (fun r17 a17 H locs h hw => ?_)
      refine lv_if_eq (tgt := 27) hx hb dX6_goesFirst_20 (by decide) (fun c20 => ?_) (fun c20 => ?_)
      · replace h := if_t c20 h
        refine lv_iconst (v := (0 : Int32)) hx hb dX6_goesFirst_27 (by decide) ?_
        refine lv_iadd hx hb dX6_goesFirst_28 ?_
        refine lv_istore_n (lv' := [(1, .int (x1 + (0 : Int32))), (0, .ref (ad 38)), (2, .int x2)]) hx hb dX6_goesFirst_29 rfl hl (by decide) rfl (fun ls hl => ?_)
        refine lv_iinc (v := (x2 + (1 : Int32))) (lv' := [(2, .int (x2 + (1 : Int32))), (1, .int (x1 + (0 : Int32))), (0, .ref (ad 38))]) hx hb dX6_goesFirst_30 hl (k := 2) rfl rfl (by decide) rfl (fun ls hl => ?_)
        refine lv_goto (tgt := 4) hx hb dX6_goesFirst_33 (by decide) ?_
        exact ih _ _ _ _ _ _ h hw (lv_sub hl [2, 1, 0] rfl)
      · replace h := if_f c20 h
        refine lv_iconst (v := (1 : Int32)) hx hb dX6_goesFirst_23 (by decide) ?_
        refine lv_goto (tgt := 28) hx hb dX6_goesFirst_24 (by decide) ?_
        refine lv_iadd hx hb dX6_goesFirst_28 ?_
        refine lv_istore_n (lv' := [(1, .int (x1 + (1 : Int32))), (0, .ref (ad 38)), (2, .int x2)]) hx hb dX6_goesFirst_29 rfl hl (by decide) rfl (fun ls hl => ?_)
        refine lv_iinc (v := (x2 + (1 : Int32))) (lv' := [(2, .int (x2 + (1 : Int32))), (1, .int (x1 + (1 : Int32))), (0, .ref (ad 38))]) hx hb dX6_goesFirst_30 hl (k := 2) rfl rfl (by decide) rfl (fun ls hl => ?_)
        refine lv_goto (tgt := 4) hx hb dX6_goesFirst_33 (by decide) ?_
        exact ih _ _ _ _ _ _ h hw (lv_sub hl [2, 1, 0] rfl)
def wpM_goesFirst (a : MS) (Q : Int32 → MS → Prop) : Prop := ∃ n4, bkM_goesFirst_4 Q n4 (0 : Int32) (0 : Int32) a
set_option maxHeartbeats 4000000 in
set_option maxRecDepth 100000 in
theorem wkM_goesFirst_e (S : CallFix p m c cX6_goesFirst 7 s args lw_all RX6) (hr : meth.sig.returnType = (some .int)) (hlk : meth.locks = false) (Q : Int32 → MS → Prop) (a : MS) (H : Heap) (locs : List Loc) (ls : Array Slot) (h : wpM_goesFirst a Q) (hw : MW D dA ad A a s H locs) (hl : lv_has ls 7 [(0, .ref (ad 38))]) : W p l e rmM_goesFirst s m args below meth c H locs 0 0 (MQ below (mQi D dA ad A Q) args s 0 0 A) (F0 m 0 ls []) := by
  have hx := S.1
  have hb := S.2.1
  have hown := S.2.2.2.1
  have hts := S.2.2.2.2
  unfold wpM_goesFirst at h
  refine lv_iconst (v := (0 : Int32)) hx hb dX6_goesFirst_0 (by decide) ?_
  refine lv_istore_n (lv' := [(1, .int (0 : Int32)), (0, .ref (ad 38))]) hx hb dX6_goesFirst_1 rfl hl (by decide) rfl (fun ls hl => ?_)
  refine lv_iconst (v := (0 : Int32)) hx hb dX6_goesFirst_2 (by decide) ?_
  refine lv_istore_n (lv' := [(2, .int (0 : Int32)), (1, .int (0 : Int32)), (0, .ref (ad 38))]) hx hb dX6_goesFirst_3 rfl hl (by decide) rfl (fun ls hl => ?_)
  obtain ⟨n4, h⟩ := h
  exact wkM_goesFirst_4 S hr hlk Q n4 _ _ _ _ _ _ h hw (lv_sub hl [2, 1, 0] rfl)
theorem ctM_goesFirst (l : Launch) (D : va_G) (dA : Nat → ClassId) (ad : Nat → Nat) (A : Nat → Prop) (a : MS) (Q : Int32 → MS → Prop) (h : wpM_goesFirst a Q) : Met l yX6_goesFirst (ws_ yX6_goesFirst cX6_goesFirst 7 (some .int)) rmM_goesFirst (mPc D dA ad A a [.ref (ad 38)]) (mQi D dA ad A Q) 0 0 A :=
  m_met (by decide) rfl rfl rfl (Nat.le_of_ble_eq_true rfl) (fun p e s m below meth c ls S hr hlk hw hl => wkM_goesFirst_e S hr hlk Q a _ _ ls h hw hl)
theorem cwM_goesFirst {R : Room} {s : State} {args : Array Value} {rm : Room} (hts : ∀ w ∈ lw_all, w.before args s = true) (hR : rm.frames + 1 ≤ R.frames ∧ 8 + (7 + 11) + rm.locals ≤ R.locals) (hc : rm.cells = 0 := by rfl) (hs : rm.slots = 0 := by rfl) : CallW R s args RX6 RX6 170 yX6_goesFirst cX6_goesFirst 7 (some .int) (ws_ yX6_goesFirst cX6_goesFirst 7 (some .int)) rm 0 0 0 :=
  cwV 0 hts (lw_V q1584 q1586 qs69 q112 q1587) rfl hc hs (by decide +kernel) hR
/-! leaves -/
abbrev rmM_leaves : Room := { frames := 0, cells := 0, slots := 0, locals := 0 }
def bkM_leaves_12 (Q : MS → Prop) (x1 : Int32) : Nat → Int32 → MS → Prop
  | 0 => fun _ _ => False
  | n + 1 => fun x2 a => if (a 0 (2 : Int32).toNatClampNeg) ≤ x2 then (Q a) else (vp_in (((66 : Int32) + x2) + (1 : Int32)) 3098 ∧ (vp_in ((66 : Int32) + x2) 3098 ∧ (∀ a41 : MS, a41 = up2 a 0 ((66 : Int32) + x2).toNatClampNeg (a 0 (((66 : Int32) + x2) + (1 : Int32)).toNatClampNeg) → (bkM_leaves_12 Q x1 n (x2 + (1 : Int32)) a41))))
set_option maxHeartbeats 4000000 in
set_option maxRecDepth 100000 in
theorem wkM_leaves_12 (S : CallFix p m c cX6_leaves 3 s args lw_all RX6) (hr : meth.sig.returnType = none) (hlk : meth.locks = false) (Q : MS → Prop) (x1 : Int32) : ∀ (n : Nat) (x2 : Int32) (a : MS) (H : Heap) (locs : List Loc) (ls : Array Slot), bkM_leaves_12 Q x1 n x2 a → MW D dA ad A a s H locs → lv_has ls 3 [(0, .ref (ad 38)), (2, .int x2)] → W p l e rmM_leaves s m args below meth c H locs 0 0 (MQ below (mQv D dA ad A Q) args s 0 0 A) (F0 m 12 ls []) := by
  have hx := S.1
  have hb := S.2.1
  have hown := S.2.2.2.1
  have hts := S.2.2.2.2
  intro n
  induction n with
  | zero =>
    intro x2 a H locs ls h
    exact False.elim h
  | succ n ih =>
    intro x2 a H locs ls h hw hl
    unfold bkM_leaves_12 at h
    refine lv_iload_n hx hb dX6_leaves_12 rfl (lv_at hl 1 rfl) ?_
    refine lv_aload_n hx hb dX6_leaves_13 rfl (lv_at hl 0 rfl) ?_
    refine m_get S hw 0 (by decide) q1338 rfl rfl dX6_leaves_14 ?_
    refine lv_iconst (v := (2 : Int32)) hx hb dX6_leaves_17 (by decide) ?_
    refine m_ald S hw 1 0 3098 rfl (by decide) rfl (vlit (by decide)) dX6_leaves_18 ?_
    refine lv_icmp_ge (tgt := 48) hx hb dX6_leaves_19 (by decide) (fun c19 => ?_) (fun c19 => ?_)
    · replace h := if_t c19 h
      exact m_vret S hr hlk hw h dX6_leaves_48
    · replace h := if_f c19 h
      refine lv_aload_n hx hb dX6_leaves_22 rfl (lv_at hl 0 rfl) ?_
      refine m_get S hw 0 (by decide) q1338 rfl rfl dX6_leaves_23 ?_
      refine lv_bipush (v := (66 : Int32)) hx hb dX6_leaves_26 (by decide) ?_
      refine lv_iload_n hx hb dX6_leaves_28 rfl (lv_at hl 1 rfl) ?_
      refine lv_iadd hx hb dX6_leaves_29 ?_
      refine lv_aload_n hx hb dX6_leaves_30 rfl (lv_at hl 0 rfl) ?_
      refine m_get S hw 0 (by decide) q1338 rfl rfl dX6_leaves_31 ?_
      refine lv_bipush (v := (66 : Int32)) hx hb dX6_leaves_34 (by decide) ?_
      refine lv_iload_n hx hb dX6_leaves_36 rfl (lv_at hl 1 rfl) ?_
      refine lv_iadd hx hb dX6_leaves_37 ?_
      refine lv_iconst (v := (1 : Int32)) hx hb dX6_leaves_38 (by decide) ?_
      refine lv_iadd hx hb dX6_leaves_39 ?_
      refine m_ald S hw 1 0 3098 rfl (by decide) rfl h.1 dX6_leaves_40 ?_
      replace h := h.2
      refine m_ast S hw 1 0 3098 rfl (by decide) rfl h.1 dX6_leaves_41 (fun a41 H locs ea41 hw => ?_)
      replace h := h.2 a41 ea41
      refine lv_iinc (v := (x2 + (1 : Int32))) (lv' := [(2, .int (x2 + (1 : Int32))), (0, .ref (ad 38))]) hx hb dX6_leaves_42 hl (k := 1) rfl rfl (by decide) rfl (fun ls hl => ?_)
      refine lv_goto (tgt := 12) hx hb dX6_leaves_45 (by decide) ?_
      exact ih _ _ _ _ _ h hw (lv_sub hl [1, 0] rfl)
def wpM_leaves (a : MS) (x1 : Int32) (Q : MS → Prop) : Prop := ∀ a9 : MS, a9 = up2 a 0 (2 : Int32).toNatClampNeg ((a 0 (2 : Int32).toNatClampNeg) - (1 : Int32)) → (∃ n12, bkM_leaves_12 Q x1 n12 x1 a9)
set_option maxHeartbeats 4000000 in
set_option maxRecDepth 100000 in
theorem wkM_leaves_e (S : CallFix p m c cX6_leaves 3 s args lw_all RX6) (hr : meth.sig.returnType = none) (hlk : meth.locks = false) (Q : MS → Prop) (x1 : Int32) (a : MS) (H : Heap) (locs : List Loc) (ls : Array Slot) (h : wpM_leaves a x1 Q) (hw : MW D dA ad A a s H locs) (hl : lv_has ls 3 [(0, .ref (ad 38)), (1, .int x1)]) : W p l e rmM_leaves s m args below meth c H locs 0 0 (MQ below (mQv D dA ad A Q) args s 0 0 A) (F0 m 0 ls []) := by
  have hx := S.1
  have hb := S.2.1
  have hown := S.2.2.2.1
  have hts := S.2.2.2.2
  unfold wpM_leaves at h
  refine lv_aload_n hx hb dX6_leaves_0 rfl (lv_at hl 0 rfl) ?_
  refine m_get S hw 0 (by decide) q1338 rfl rfl dX6_leaves_1 ?_
  refine lv_iconst (v := (2 : Int32)) hx hb dX6_leaves_4 (by decide) ?_
  refine lv_dup2_11 hx hb dX6_leaves_5 rfl rfl ?_
  refine m_ald S hw 1 0 3098 rfl (by decide) rfl (vlit (by decide)) dX6_leaves_6 ?_
  refine lv_iconst (v := (1 : Int32)) hx hb dX6_leaves_7 (by decide) ?_
  refine lv_isub hx hb dX6_leaves_8 ?_
  refine m_ast S hw 1 0 3098 rfl (by decide) rfl (vlit (by decide)) dX6_leaves_9 (fun a9 H locs ea9 hw => ?_)
  replace h := h a9 ea9
  refine lv_iload_n hx hb dX6_leaves_10 rfl (lv_at hl 1 rfl) ?_
  refine lv_istore_n (lv' := [(2, .int x1), (0, .ref (ad 38)), (1, .int x1)]) hx hb dX6_leaves_11 rfl hl (by decide) rfl (fun ls hl => ?_)
  obtain ⟨n12, h⟩ := h
  exact wkM_leaves_12 S hr hlk Q x1 n12 _ _ _ _ _ h hw (lv_sub hl [1, 0] rfl)
theorem ctM_leaves (l : Launch) (D : va_G) (dA : Nat → ClassId) (ad : Nat → Nat) (A : Nat → Prop) (a : MS) (x1 : Int32) (Q : MS → Prop) (h : wpM_leaves a x1 Q) : Met l yX6_leaves (ws_ yX6_leaves cX6_leaves 3 none) rmM_leaves (mPc D dA ad A a [.ref (ad 38), .int x1]) (mQv D dA ad A Q) 0 0 A :=
  m_met (by decide) rfl rfl rfl (Nat.le_of_ble_eq_true rfl) (fun p e s m below meth c ls S hr hlk hw hl => wkM_leaves_e S hr hlk Q x1 a _ _ ls h hw hl)
theorem cwM_leaves {R : Room} {s : State} {args : Array Value} {rm : Room} (hts : ∀ w ∈ lw_all, w.before args s = true) (hR : rm.frames + 1 ≤ R.frames ∧ 8 + (3 + 11) + rm.locals ≤ R.locals) (hc : rm.cells = 0 := by rfl) (hs : rm.slots = 0 := by rfl) : CallW R s args RX6 RX6 173 yX6_leaves cX6_leaves 3 none (ws_ yX6_leaves cX6_leaves 3 none) rm 0 0 1 :=
  cwV 1 hts (lw_V q1600 q1602 qs73 q112 q1603) rfl hc hs (by decide +kernel) hR
/-! throwsFor -/
abbrev rmM_throwsFor : Room := { frames := 4, cells := 0, slots := 0, locals := 97 }
def bkM_throwsFor_2 (Q : Int32 → MS → Prop) (x1 : Int32) : Nat → Int32 → MS → Prop
  | 0 => fun _ _ => False
  | n + 1 => fun x2 a => if (a 0 (2 : Int32).toNatClampNeg) ≤ 0 then (Q x2 a) else (wpM_fullness a (fun r12 a12 => if (r12 + x1) ≤ (a12 0 (3 : Int32).toNatClampNeg) then (Q x2 a12) else (wpM_goesFirst a12 (fun r28 a28 => wpM_leaves a28 r28 (fun a31 => bkM_throwsFor_2 Q x1 n (x2 + (1 : Int32)) a31)))))
set_option maxHeartbeats 4000000 in
set_option maxRecDepth 100000 in
theorem wkM_throwsFor_2 (S : CallFix p m c cX6_throwsFor 3 s args lw_all RX6) (hr : meth.sig.returnType = (some .int)) (hlk : meth.locks = false) (Q : Int32 → MS → Prop) (x1 : Int32) : ∀ (n : Nat) (x2 : Int32) (a : MS) (H : Heap) (locs : List Loc) (ls : Array Slot), bkM_throwsFor_2 Q x1 n x2 a → MW D dA ad A a s H locs → lv_has ls 3 [(0, .ref (ad 38)), (1, .int x1), (2, .int x2)] → W p l e rmM_throwsFor s m args below meth c H locs 0 0 (MQ below (mQi D dA ad A Q) args s 0 0 A) (F0 m 2 ls []) := by
  have hx := S.1
  have hb := S.2.1
  have hown := S.2.2.2.1
  have hts := S.2.2.2.2
  intro n
  induction n with
  | zero =>
    intro x2 a H locs ls h
    exact False.elim h
  | succ n ih =>
    intro x2 a H locs ls h hw hl
    unfold bkM_throwsFor_2 at h
    refine lv_aload_n hx hb dX6_throwsFor_2 rfl (lv_at hl 0 rfl) ?_
    refine m_get S hw 0 (by decide) q1338 rfl rfl dX6_throwsFor_3 ?_
    refine lv_iconst (v := (2 : Int32)) hx hb dX6_throwsFor_6 (by decide) ?_
    refine m_ald S hw 1 0 3098 rfl (by decide) rfl (vlit (by decide)) dX6_throwsFor_7 ?_
    refine lv_if_le (tgt := 40) hx hb dX6_throwsFor_8 (by decide) (fun c8 => ?_) (fun c8 => ?_)
    · replace h := if_t c8 h
      refine lv_iload_n hx hb dX6_throwsFor_40 rfl (lv_at hl 2 rfl) ?_
      exact m_iret S hr hlk hw h dX6_throwsFor_41
    · replace h := if_f c8 h
      refine lv_aload_n hx hb dX6_throwsFor_11 rfl (lv_at hl 0 rfl) ?_
      refine m_calli S hw [] [] (ctM_fullness l D dA ad A a _ h) (cwM_fullness hts ⟨Nat.le_of_ble_eq_true rfl, Nat.le_of_ble_eq_true rfl⟩) rfl hl.1 rfl (Nat.le_of_ble_eq_true rfl) dX6_throwsFor_12 ⟨Nat.zero_le _, Nat.zero_le _⟩ (fun r12 a12 H locs h hw => ?_)
      refine lv_iload_n hx hb dX6_throwsFor_15 rfl (lv_at hl 1 rfl) ?_
      refine lv_iadd hx hb dX6_throwsFor_16 ?_
      refine lv_aload_n hx hb dX6_throwsFor_17 rfl (lv_at hl 0 rfl) ?_
      refine m_get S hw 0 (by decide) q1338 rfl rfl dX6_throwsFor_18 ?_
      refine lv_iconst (v := (3 : Int32)) hx hb dX6_throwsFor_21 (by decide) ?_
      refine m_ald S hw 1 0 3098 rfl (by decide) rfl (vlit (by decide)) dX6_throwsFor_22 ?_
      refine lv_icmp_le (tgt := 40) hx hb dX6_throwsFor_23 (by decide) (fun c23 => ?_) (fun c23 => ?_)
      · replace h := if_t c23 h
        refine lv_iload_n hx hb dX6_throwsFor_40 rfl (lv_at hl 2 rfl) ?_
        exact m_iret S hr hlk hw h dX6_throwsFor_41
      · replace h := if_f c23 h
        refine lv_aload_n hx hb dX6_throwsFor_26 rfl (lv_at hl 0 rfl) ?_
        refine lv_aload_n hx hb dX6_throwsFor_27 rfl (lv_at hl 0 rfl) ?_
        refine m_calli S hw [] [.ref (ad 38)] (ctM_goesFirst l D dA ad A a12 _ h) (cwM_goesFirst hts ⟨Nat.le_of_ble_eq_true rfl, Nat.le_of_ble_eq_true rfl⟩) rfl hl.1 rfl (Nat.le_of_ble_eq_true rfl) dX6_throwsFor_28 ⟨Nat.zero_le _, Nat.zero_le _⟩ (fun r28 a28 H locs h hw => ?_)
        refine m_callv S hw [.int r28] [] (ctM_leaves l D dA ad A a28 r28 _ h) (cwM_leaves hts ⟨Nat.le_of_ble_eq_true rfl, Nat.le_of_ble_eq_true rfl⟩) rfl hl.1 rfl (Nat.le_of_ble_eq_true rfl) dX6_throwsFor_31 ⟨Nat.zero_le _, Nat.zero_le _⟩ (fun a31 H locs h hw => ?_)
        refine lv_iinc (v := (x2 + (1 : Int32))) (lv' := [(2, .int (x2 + (1 : Int32))), (0, .ref (ad 38)), (1, .int x1)]) hx hb dX6_throwsFor_34 hl (k := 2) rfl rfl (by decide) rfl (fun ls hl => ?_)
        refine lv_goto (tgt := 2) hx hb dX6_throwsFor_37 (by decide) ?_
        exact ih _ _ _ _ _ h hw (lv_sub hl [1, 2, 0] rfl)
def wpM_throwsFor (a : MS) (x1 : Int32) (Q : Int32 → MS → Prop) : Prop := ∃ n2, bkM_throwsFor_2 Q x1 n2 (0 : Int32) a
set_option maxHeartbeats 4000000 in
set_option maxRecDepth 100000 in
theorem wkM_throwsFor_e (S : CallFix p m c cX6_throwsFor 3 s args lw_all RX6) (hr : meth.sig.returnType = (some .int)) (hlk : meth.locks = false) (Q : Int32 → MS → Prop) (x1 : Int32) (a : MS) (H : Heap) (locs : List Loc) (ls : Array Slot) (h : wpM_throwsFor a x1 Q) (hw : MW D dA ad A a s H locs) (hl : lv_has ls 3 [(0, .ref (ad 38)), (1, .int x1)]) : W p l e rmM_throwsFor s m args below meth c H locs 0 0 (MQ below (mQi D dA ad A Q) args s 0 0 A) (F0 m 0 ls []) := by
  have hx := S.1
  have hb := S.2.1
  have hown := S.2.2.2.1
  have hts := S.2.2.2.2
  unfold wpM_throwsFor at h
  refine lv_iconst (v := (0 : Int32)) hx hb dX6_throwsFor_0 (by decide) ?_
  refine lv_istore_n (lv' := [(2, .int (0 : Int32)), (0, .ref (ad 38)), (1, .int x1)]) hx hb dX6_throwsFor_1 rfl hl (by decide) rfl (fun ls hl => ?_)
  obtain ⟨n2, h⟩ := h
  exact wkM_throwsFor_2 S hr hlk Q x1 n2 _ _ _ _ _ h hw (lv_sub hl [1, 2, 0] rfl)
theorem ctM_throwsFor (l : Launch) (D : va_G) (dA : Nat → ClassId) (ad : Nat → Nat) (A : Nat → Prop) (a : MS) (x1 : Int32) (Q : Int32 → MS → Prop) (h : wpM_throwsFor a x1 Q) : Met l yX6_throwsFor (ws_ yX6_throwsFor cX6_throwsFor 3 (some .int)) rmM_throwsFor (mPc D dA ad A a [.ref (ad 38), .int x1]) (mQi D dA ad A Q) 0 0 A :=
  m_met (by decide) rfl rfl rfl (Nat.le_of_ble_eq_true rfl) (fun p e s m below meth c ls S hr hlk hw hl => wkM_throwsFor_e S hr hlk Q x1 a _ _ ls h hw hl)
theorem cwM_throwsFor {R : Room} {s : State} {args : Array Value} {rm : Room} (hts : ∀ w ∈ lw_all, w.before args s = true) (hR : rm.frames + 1 ≤ R.frames ∧ 8 + (3 + 11) + rm.locals ≤ R.locals) (hc : rm.cells = 0 := by rfl) (hs : rm.slots = 0 := by rfl) : CallW R s args RX6 RX6 177 yX6_throwsFor cX6_throwsFor 3 (some .int) (ws_ yX6_throwsFor cX6_throwsFor 3 (some .int)) rm 0 0 1 :=
  cwV 1 hts (lw_V q1576 q1578 qs67 q112 q1579) rfl hc hs (by decide +kernel) hR
/-! space -/
abbrev rmM_space : Room := { frames := 5, cells := 0, slots := 0, locals := 119 }
def wpM_space (a : MS) (x1 : Int32) (Q : Int32 → MS → Prop) : Prop := wpM_isIn a x1.toInt64 (0 : Int64) (60 : Int64) (fun r6 a6 => if r6 = 0 then (Q (-1000000001 : Int32) a6) else (wpM_knows a6 (fun a16 => ∀ a25 : MS, a25 = up2 a16 0 (3 : Int32).toNatClampNeg x1 → (wpM_throwsFor a25 (0 : Int32) (fun r28 a28 => Q r28 a28)))))
set_option maxHeartbeats 4000000 in
set_option maxRecDepth 100000 in
theorem wkM_space_e (S : CallFix p m c cX6_space 2 s args lw_all RX6) (hr : meth.sig.returnType = (some .int)) (hlk : meth.locks = false) (Q : Int32 → MS → Prop) (x1 : Int32) (a : MS) (H : Heap) (locs : List Loc) (ls : Array Slot) (h : wpM_space a x1 Q) (hw : MW D dA ad A a s H locs) (hl : lv_has ls 2 [(0, .ref (ad 38)), (1, .int x1)]) : W p l e rmM_space s m args below meth c H locs 0 0 (MQ below (mQi D dA ad A Q) args s 0 0 A) (F0 m 0 ls []) := by
  have hx := S.1
  have hb := S.2.1
  have hown := S.2.2.2.1
  have hts := S.2.2.2.2
  unfold wpM_space at h
  refine lv_iload_n hx hb dX6_space_0 rfl (lv_at hl 1 rfl) ?_
  refine lv_i2l (v := x1.toInt64) hx hb dX6_space_1 rfl ?_
  refine lv_lconst (v := 0) hx hb dX6_space_2 (by decide) ?_
  refine lv_ldc2 hx hb hown (hts _ q1571) dX6_space_3 ?_
  refine m_callSi S hw [.long x1.toInt64, .long (0 : Int64), .long (60 : Int64)] [] (ctM_isIn l D dA ad A a x1.toInt64 (0 : Int64) (60 : Int64) _ h) (cwM_isIn hts ⟨Nat.le_of_ble_eq_true rfl, Nat.le_of_ble_eq_true rfl⟩) rfl hl.1 rfl (Nat.le_of_ble_eq_true rfl) dX6_space_6 ⟨Nat.zero_le _, Nat.zero_le _⟩ (fun r6 a6 H locs h hw => ?_)
  refine lv_if_ne (tgt := 15) hx hb dX6_space_9 (by decide) (fun c9 => ?_) (fun c9 => ?_)
  · replace h := if_f c9 h
    refine lv_aload_n hx hb dX6_space_15 rfl (lv_at hl 0 rfl) ?_
    refine m_callv S hw [] [] (ctM_knows l D dA ad A a6 _ h) (cwM_knows hts ⟨Nat.le_of_ble_eq_true rfl, Nat.le_of_ble_eq_true rfl⟩) rfl hl.1 rfl (Nat.le_of_ble_eq_true rfl) dX6_space_16 ⟨Nat.zero_le _, Nat.zero_le _⟩ (fun a16 H locs h hw => ?_)
    refine lv_aload_n hx hb dX6_space_19 rfl (lv_at hl 0 rfl) ?_
    refine m_get S hw 0 (by decide) q1338 rfl rfl dX6_space_20 ?_
    refine lv_iconst (v := (3 : Int32)) hx hb dX6_space_23 (by decide) ?_
    refine lv_iload_n hx hb dX6_space_24 rfl (lv_at hl 1 rfl) ?_
    refine m_ast S hw 1 0 3098 rfl (by decide) rfl (vlit (by decide)) dX6_space_25 (fun a25 H locs ea25 hw => ?_)
    replace h := h a25 ea25
    refine lv_aload_n hx hb dX6_space_26 rfl (lv_at hl 0 rfl) ?_
    refine lv_iconst (v := (0 : Int32)) hx hb dX6_space_27 (by decide) ?_
    refine m_calli S hw [.int (0 : Int32)] [] (ctM_throwsFor l D dA ad A a25 (0 : Int32) _ h) (cwM_throwsFor hts ⟨Nat.le_of_ble_eq_true rfl, Nat.le_of_ble_eq_true rfl⟩) rfl hl.1 rfl (Nat.le_of_ble_eq_true rfl) dX6_space_28 ⟨Nat.zero_le _, Nat.zero_le _⟩ (fun r28 a28 H locs h hw => ?_)
    exact m_iret S hr hlk hw h dX6_space_31
  · replace h := if_t c9 h
    refine lv_ldc hx hb hown (hts _ q1468) dX6_space_12 ?_
    exact m_iret S hr hlk hw h dX6_space_14
theorem ctM_space (l : Launch) (D : va_G) (dA : Nat → ClassId) (ad : Nat → Nat) (A : Nat → Prop) (a : MS) (x1 : Int32) (Q : Int32 → MS → Prop) (h : wpM_space a x1 Q) : Met l yX6_space (ws_ yX6_space cX6_space 2 (some .int)) rmM_space (mPc D dA ad A a [.ref (ad 38), .int x1]) (mQi D dA ad A Q) 0 0 A :=
  m_met (by decide) rfl rfl rfl (Nat.le_of_ble_eq_true rfl) (fun p e s m below meth c ls S hr hlk hw hl => wkM_space_e S hr hlk Q x1 a _ _ ls h hw hl)
/-! rule -/
abbrev rmM_rule : Room := { frames := 1, cells := 0, slots := 0, locals := 25 }
def wpM_rule (a : MS) (x1 : Int32) (Q : Int32 → MS → Prop) : Prop := wpM_isIn a x1.toInt64 (0 : Int64) (4 : Int64) (fun r6 a6 => if r6 = 0 then (Q (-1000000001 : Int32) a6) else (wpM_becomes a6 (4 : Int32) x1 (fun r15 a15 => Q r15 a15)))
set_option maxHeartbeats 4000000 in
set_option maxRecDepth 100000 in
theorem wkM_rule_e (S : CallFix p m c cX6_rule 2 s args lw_all RX6) (hr : meth.sig.returnType = (some .int)) (hlk : meth.locks = false) (Q : Int32 → MS → Prop) (x1 : Int32) (a : MS) (H : Heap) (locs : List Loc) (ls : Array Slot) (h : wpM_rule a x1 Q) (hw : MW D dA ad A a s H locs) (hl : lv_has ls 2 [(0, .ref (ad 38)), (1, .int x1)]) : W p l e rmM_rule s m args below meth c H locs 0 0 (MQ below (mQi D dA ad A Q) args s 0 0 A) (F0 m 0 ls []) := by
  have hx := S.1
  have hb := S.2.1
  have hown := S.2.2.2.1
  have hts := S.2.2.2.2
  unfold wpM_rule at h
  refine lv_iload_n hx hb dX6_rule_0 rfl (lv_at hl 1 rfl) ?_
  refine lv_i2l (v := x1.toInt64) hx hb dX6_rule_1 rfl ?_
  refine lv_lconst (v := 0) hx hb dX6_rule_2 (by decide) ?_
  refine lv_ldc2 hx hb hown (hts _ q1608) dX6_rule_3 ?_
  refine m_callSi S hw [.long x1.toInt64, .long (0 : Int64), .long (4 : Int64)] [] (ctM_isIn l D dA ad A a x1.toInt64 (0 : Int64) (4 : Int64) _ h) (cwM_isIn hts ⟨Nat.le_of_ble_eq_true rfl, Nat.le_of_ble_eq_true rfl⟩) rfl hl.1 rfl (Nat.le_of_ble_eq_true rfl) dX6_rule_6 ⟨Nat.zero_le _, Nat.zero_le _⟩ (fun r6 a6 H locs h hw => ?_)
  refine lv_if_eq (tgt := 21) hx hb dX6_rule_9 (by decide) (fun c9 => ?_) (fun c9 => ?_)
  · replace h := if_t c9 h
    refine lv_ldc hx hb hown (hts _ q1468) dX6_rule_21 ?_
    exact m_iret S hr hlk hw h dX6_rule_23
  · replace h := if_f c9 h
    refine lv_aload_n hx hb dX6_rule_12 rfl (lv_at hl 0 rfl) ?_
    refine lv_iconst (v := (4 : Int32)) hx hb dX6_rule_13 (by decide) ?_
    refine lv_iload_n hx hb dX6_rule_14 rfl (lv_at hl 1 rfl) ?_
    refine m_calli S hw [.int (4 : Int32), .int x1] [] (ctM_becomes l D dA ad A a6 (4 : Int32) x1 _ h) (cwM_becomes hts ⟨Nat.le_of_ble_eq_true rfl, Nat.le_of_ble_eq_true rfl⟩) rfl hl.1 rfl (Nat.le_of_ble_eq_true rfl) dX6_rule_15 ⟨Nat.zero_le _, Nat.zero_le _⟩ (fun r15 a15 H locs h hw => ?_)
    refine lv_goto (tgt := 23) hx hb dX6_rule_18 (by decide) ?_
    exact m_iret S hr hlk hw h dX6_rule_23
theorem ctM_rule (l : Launch) (D : va_G) (dA : Nat → ClassId) (ad : Nat → Nat) (A : Nat → Prop) (a : MS) (x1 : Int32) (Q : Int32 → MS → Prop) (h : wpM_rule a x1 Q) : Met l yX6_rule (ws_ yX6_rule cX6_rule 2 (some .int)) rmM_rule (mPc D dA ad A a [.ref (ad 38), .int x1]) (mQi D dA ad A Q) 0 0 A :=
  m_met (by decide) rfl rfl rfl (Nat.le_of_ble_eq_true rfl) (fun p e s m below meth c ls S hr hlk hw hl => wkM_rule_e S hr hlk Q x1 a _ _ ls h hw hl)
/-! care -/
abbrev rmM_care : Room := { frames := 1, cells := 0, slots := 0, locals := 25 }
def wpM_care (a : MS) (x1 : Int32) (Q : Int32 → MS → Prop) : Prop := wpM_isIn a x1.toInt64 (0 : Int64) (1 : Int64) (fun r4 a4 => if r4 = 0 then (Q (-1000000001 : Int32) a4) else (wpM_becomes a4 (5 : Int32) x1 (fun r13 a13 => Q r13 a13)))
set_option maxHeartbeats 4000000 in
set_option maxRecDepth 100000 in
theorem wkM_care_e (S : CallFix p m c cX6_care 2 s args lw_all RX6) (hr : meth.sig.returnType = (some .int)) (hlk : meth.locks = false) (Q : Int32 → MS → Prop) (x1 : Int32) (a : MS) (H : Heap) (locs : List Loc) (ls : Array Slot) (h : wpM_care a x1 Q) (hw : MW D dA ad A a s H locs) (hl : lv_has ls 2 [(0, .ref (ad 38)), (1, .int x1)]) : W p l e rmM_care s m args below meth c H locs 0 0 (MQ below (mQi D dA ad A Q) args s 0 0 A) (F0 m 0 ls []) := by
  have hx := S.1
  have hb := S.2.1
  have hown := S.2.2.2.1
  have hts := S.2.2.2.2
  unfold wpM_care at h
  refine lv_iload_n hx hb dX6_care_0 rfl (lv_at hl 1 rfl) ?_
  refine lv_i2l (v := x1.toInt64) hx hb dX6_care_1 rfl ?_
  refine lv_lconst (v := 0) hx hb dX6_care_2 (by decide) ?_
  refine lv_lconst (v := 1) hx hb dX6_care_3 (by decide) ?_
  refine m_callSi S hw [.long x1.toInt64, .long (0 : Int64), .long (1 : Int64)] [] (ctM_isIn l D dA ad A a x1.toInt64 (0 : Int64) (1 : Int64) _ h) (cwM_isIn hts ⟨Nat.le_of_ble_eq_true rfl, Nat.le_of_ble_eq_true rfl⟩) rfl hl.1 rfl (Nat.le_of_ble_eq_true rfl) dX6_care_4 ⟨Nat.zero_le _, Nat.zero_le _⟩ (fun r4 a4 H locs h hw => ?_)
  refine lv_if_eq (tgt := 19) hx hb dX6_care_7 (by decide) (fun c7 => ?_) (fun c7 => ?_)
  · replace h := if_t c7 h
    refine lv_ldc hx hb hown (hts _ q1468) dX6_care_19 ?_
    exact m_iret S hr hlk hw h dX6_care_21
  · replace h := if_f c7 h
    refine lv_aload_n hx hb dX6_care_10 rfl (lv_at hl 0 rfl) ?_
    refine lv_iconst (v := (5 : Int32)) hx hb dX6_care_11 (by decide) ?_
    refine lv_iload_n hx hb dX6_care_12 rfl (lv_at hl 1 rfl) ?_
    refine m_calli S hw [.int (5 : Int32), .int x1] [] (ctM_becomes l D dA ad A a4 (5 : Int32) x1 _ h) (cwM_becomes hts ⟨Nat.le_of_ble_eq_true rfl, Nat.le_of_ble_eq_true rfl⟩) rfl hl.1 rfl (Nat.le_of_ble_eq_true rfl) dX6_care_13 ⟨Nat.zero_le _, Nat.zero_le _⟩ (fun r13 a13 H locs h hw => ?_)
    refine lv_goto (tgt := 21) hx hb dX6_care_16 (by decide) ?_
    exact m_iret S hr hlk hw h dX6_care_21
theorem ctM_care (l : Launch) (D : va_G) (dA : Nat → ClassId) (ad : Nat → Nat) (A : Nat → Prop) (a : MS) (x1 : Int32) (Q : Int32 → MS → Prop) (h : wpM_care a x1 Q) : Met l yX6_care (ws_ yX6_care cX6_care 2 (some .int)) rmM_care (mPc D dA ad A a [.ref (ad 38), .int x1]) (mQi D dA ad A Q) 0 0 A :=
  m_met (by decide) rfl rfl rfl (Nat.le_of_ble_eq_true rfl) (fun p e s m below meth c ls S hr hlk hw hl => wkM_care_e S hr hlk Q x1 a _ _ ls h hw hl)
/-! asks -/
abbrev rmM_asks : Room := { frames := 5, cells := 0, slots := 0, locals := 119 }
def bkM_asks_172 (Q : Int32 → MS → Prop) (x1 : Int32) : Int32 → Int32 → MS → Prop := fun x2 x3 a => if x3 = 0 then (vp_in (x2 + (6 : Int32)) 3098 ∧ (vp_in (x2 + (6 : Int32)) 3098 ∧ (∀ a203 : MS, a203 = up2 a 0 (x2 + (6 : Int32)).toNatClampNeg (a 0 (x2 + (6 : Int32)).toNatClampNeg) → (Q (0 : Int32) a203)))) else (vp_in (x2 + (6 : Int32)) 3098 ∧ (∀ a203 : MS, a203 = up2 a 0 (x2 + (6 : Int32)).toNatClampNeg (a 0 (6 : Int32).toNatClampNeg) → (Q (0 : Int32) a203)))
set_option maxHeartbeats 4000000 in
set_option maxRecDepth 100000 in
theorem wkM_asks_172 (S : CallFix p m c cX6_asks 4 s args lw_all RX6) (hr : meth.sig.returnType = (some .boolean)) (hlk : meth.locks = false) (Q : Int32 → MS → Prop) (x1 : Int32) : ∀ (x2 : Int32) (x3 : Int32) (a : MS) (H : Heap) (locs : List Loc) (ls : Array Slot), bkM_asks_172 Q x1 x2 x3 a → MW D dA ad A a s H locs → lv_has ls 4 [(0, .ref (ad 38)), (2, .int x2), (3, .int x3)] → W p l e rmM_asks s m args below meth c H locs 0 0 (MQ below (mQi D dA ad A Q) args s 0 0 A) (F0 m 172 ls []) := by
  have hx := S.1
  have hb := S.2.1
  have hown := S.2.2.2.1
  have hts := S.2.2.2.2
  intro x2 x3 a H locs ls h hw hl
  unfold bkM_asks_172 at h
  refine lv_aload_n hx hb dX6_asks_172 rfl (lv_at hl 0 rfl) ?_
  refine m_get S hw 0 (by decide) q1338 rfl rfl dX6_asks_173 ?_
  refine lv_iload_n hx hb dX6_asks_176 rfl (lv_at hl 1 rfl) ?_
  refine lv_bipush (v := (6 : Int32)) hx hb dX6_asks_177 (by decide) ?_
  refine lv_iadd hx hb dX6_asks_179 ?_
  refine lv_iload_n hx hb dX6_asks_180 rfl (lv_at hl 2 rfl) ?_
  refine lv_if_eq (tgt := 194) hx hb dX6_asks_181 (by decide) (fun c181 => ?_) (fun c181 => ?_)
  · replace h := if_t c181 h
    refine lv_aload_n hx hb dX6_asks_194 rfl (lv_at hl 0 rfl) ?_
    refine m_get S hw 0 (by decide) q1338 rfl rfl dX6_asks_195 ?_
    refine lv_iload_n hx hb dX6_asks_198 rfl (lv_at hl 1 rfl) ?_
    refine lv_bipush (v := (6 : Int32)) hx hb dX6_asks_199 (by decide) ?_
    refine lv_iadd hx hb dX6_asks_201 ?_
    refine m_ald S hw 1 0 3098 rfl (by decide) rfl h.1 dX6_asks_202 ?_
    replace h := h.2
    refine m_ast S hw 1 0 3098 rfl (by decide) rfl h.1 dX6_asks_203 (fun a203 H locs ea203 hw => ?_)
    replace h := h.2 a203 ea203
    refine lv_iconst (v := (0 : Int32)) hx hb dX6_asks_204 (by decide) ?_
    exact m_zret S hr hlk hw (Or.inl rfl) h dX6_asks_205
  · replace h := if_f c181 h
    refine lv_aload_n hx hb dX6_asks_184 rfl (lv_at hl 0 rfl) ?_
    refine m_get S hw 0 (by decide) q1338 rfl rfl dX6_asks_185 ?_
    refine lv_bipush (v := (6 : Int32)) hx hb dX6_asks_188 (by decide) ?_
    refine m_ald S hw 1 0 3098 rfl (by decide) rfl (vlit (by decide)) dX6_asks_190 ?_
    refine lv_goto (tgt := 203) hx hb dX6_asks_191 (by decide) ?_
    refine m_ast S hw 1 0 3098 rfl (by decide) rfl h.1 dX6_asks_203 (fun a203 H locs ea203 hw => ?_)
    replace h := h.2 a203 ea203
    refine lv_iconst (v := (0 : Int32)) hx hb dX6_asks_204 (by decide) ?_
    exact m_zret S hr hlk hw (Or.inl rfl) h dX6_asks_205
def bkM_asks_114 (Q : Int32 → MS → Prop) (x1 : Int32) : Int32 → Int32 → MS → Prop := fun x2 s0 a => if s0 = 0 then (vp_in x1 8 ∧ (if (a 0 (3 : Int32).toNatClampNeg) < (a 12 x1.toNatClampNeg) then (bkM_asks_172 Q x1 x2 s0 a) else (vp_in x1 8 ∧ (wpM_throwsFor a (a 12 x1.toNatClampNeg) (fun r141 a141 => vp_in ((66 : Int32) + (a141 0 (2 : Int32).toNatClampNeg)) 3098 ∧ (∀ a159 : MS, a159 = up2 a141 0 ((66 : Int32) + (a141 0 (2 : Int32).toNatClampNeg)).toNatClampNeg x1 → (∀ a169 : MS, a169 = up2 a159 0 (2 : Int32).toNatClampNeg ((a159 0 (2 : Int32).toNatClampNeg) + (1 : Int32)) → (bkM_asks_172 Q x1 x2 (1 : Int32) a169)))))))) else (bkM_asks_172 Q x1 x2 s0 a)
set_option maxHeartbeats 4000000 in
set_option maxRecDepth 100000 in
theorem wkM_asks_114 (S : CallFix p m c cX6_asks 4 s args lw_all RX6) (hr : meth.sig.returnType = (some .boolean)) (hlk : meth.locks = false) (Q : Int32 → MS → Prop) (x1 : Int32) : ∀ (x2 : Int32) (s0 : Int32) (a : MS) (H : Heap) (locs : List Loc) (ls : Array Slot), bkM_asks_114 Q x1 x2 s0 a → MW D dA ad A a s H locs → lv_has ls 4 [(0, .ref (ad 38)), (1, .int x1), (2, .int x2)] → W p l e rmM_asks s m args below meth c H locs 0 0 (MQ below (mQi D dA ad A Q) args s 0 0 A) (F0 m 114 ls [.int s0]) := by
  have hx := S.1
  have hb := S.2.1
  have hown := S.2.2.2.1
  have hts := S.2.2.2.2
  intro x2 s0 a H locs ls h hw hl
  unfold bkM_asks_114 at h
  refine lv_istore_n (lv' := [(3, .int s0), (0, .ref (ad 38)), (1, .int x1), (2, .int x2)]) hx hb dX6_asks_114 rfl hl (by decide) rfl (fun ls hl => ?_)
  refine lv_iload_n hx hb dX6_asks_115 rfl (lv_at hl 0 rfl) ?_
  refine lv_if_ne (tgt := 172) hx hb dX6_asks_116 (by decide) (fun c116 => ?_) (fun c116 => ?_)
  · replace h := if_f c116 h
    exact wkM_asks_172 S hr hlk Q x1 _ _ _ _ _ _ h hw (lv_sub hl [1, 3, 0] rfl)
  · replace h := if_t c116 h
    refine lv_aload_n hx hb dX6_asks_119 rfl (lv_at hl 1 rfl) ?_
    refine m_get S hw 12 (by decide) q1350 rfl rfl dX6_asks_120 ?_
    refine lv_iload_n hx hb dX6_asks_123 rfl (lv_at hl 2 rfl) ?_
    refine m_ald S hw 12 12 8 rfl (by decide) rfl h.1 dX6_asks_124 ?_
    replace h := h.2
    refine lv_aload_n hx hb dX6_asks_125 rfl (lv_at hl 1 rfl) ?_
    refine m_get S hw 0 (by decide) q1338 rfl rfl dX6_asks_126 ?_
    refine lv_iconst (v := (3 : Int32)) hx hb dX6_asks_129 (by decide) ?_
    refine m_ald S hw 1 0 3098 rfl (by decide) rfl (vlit (by decide)) dX6_asks_130 ?_
    refine lv_icmp_gt (tgt := 172) hx hb dX6_asks_131 (by decide) (fun c131 => ?_) (fun c131 => ?_)
    · replace h := if_t c131 h
      exact wkM_asks_172 S hr hlk Q x1 _ _ _ _ _ _ h hw (lv_sub hl [1, 3, 0] rfl)
    · replace h := if_f c131 h
      refine lv_aload_n hx hb dX6_asks_134 rfl (lv_at hl 1 rfl) ?_
      refine lv_aload_n hx hb dX6_asks_135 rfl (lv_at hl 1 rfl) ?_
      refine m_get S hw 12 (by decide) q1350 rfl rfl dX6_asks_136 ?_
      refine lv_iload_n hx hb dX6_asks_139 rfl (lv_at hl 2 rfl) ?_
      refine m_ald S hw 12 12 8 rfl (by decide) rfl h.1 dX6_asks_140 ?_
      replace h := h.2
      refine m_calli S hw [.int (a 12 x1.toNatClampNeg)] [] (ctM_throwsFor l D dA ad A a (a 12 x1.toNatClampNeg) _ h) (cwM_throwsFor hts ⟨Nat.le_of_ble_eq_true rfl, Nat.le_of_ble_eq_true rfl⟩) rfl hl.1 rfl (Nat.le_of_ble_eq_true rfl) dX6_asks_141 ⟨Nat.zero_le _, Nat.zero_le _⟩ (fun r141 a141 H locs h hw => ?_)
      refine lv_pop hx hb dX6_asks_144 rfl ?_
      refine lv_aload_n hx hb dX6_asks_145 rfl (lv_at hl 1 rfl) ?_
      refine m_get S hw 0 (by decide) q1338 rfl rfl dX6_asks_146 ?_
      refine lv_bipush (v := (66 : Int32)) hx hb dX6_asks_149 (by decide) ?_
      refine lv_aload_n hx hb dX6_asks_151 rfl (lv_at hl 1 rfl) ?_
      refine m_get S hw 0 (by decide) q1338 rfl rfl dX6_asks_152 ?_
      refine lv_iconst (v := (2 : Int32)) hx hb dX6_asks_155 (by decide) ?_
      refine m_ald S hw 1 0 3098 rfl (by decide) rfl (vlit (by decide)) dX6_asks_156 ?_
      refine lv_iadd hx hb dX6_asks_157 ?_
      refine lv_iload_n hx hb dX6_asks_158 rfl (lv_at hl 2 rfl) ?_
      refine m_ast S hw 1 0 3098 rfl (by decide) rfl h.1 dX6_asks_159 (fun a159 H locs ea159 hw => ?_)
      replace h := h.2 a159 ea159
      refine lv_aload_n hx hb dX6_asks_160 rfl (lv_at hl 1 rfl) ?_
      refine m_get S hw 0 (by decide) q1338 rfl rfl dX6_asks_161 ?_
      refine lv_iconst (v := (2 : Int32)) hx hb dX6_asks_164 (by decide) ?_
      refine lv_dup2_11 hx hb dX6_asks_165 rfl rfl ?_
      refine m_ald S hw 1 0 3098 rfl (by decide) rfl (vlit (by decide)) dX6_asks_166 ?_
      refine lv_iconst (v := (1 : Int32)) hx hb dX6_asks_167 (by decide) ?_
      refine lv_iadd hx hb dX6_asks_168 ?_
      refine m_ast S hw 1 0 3098 rfl (by decide) rfl (vlit (by decide)) dX6_asks_169 (fun a169 H locs ea169 hw => ?_)
      replace h := h a169 ea169
      refine lv_iconst (v := (1 : Int32)) hx hb dX6_asks_170 (by decide) ?_
      refine lv_istore_n (lv' := [(3, .int (1 : Int32)), (0, .ref (ad 38)), (1, .int x1), (2, .int x2)]) hx hb dX6_asks_171 rfl hl (by decide) rfl (fun ls hl => ?_)
      exact wkM_asks_172 S hr hlk Q x1 _ _ _ _ _ _ h hw (lv_sub hl [1, 3, 0] rfl)
def bkM_asks_43 (Q : Int32 → MS → Prop) (x1 : Int32) : Nat → Int32 → MS → Prop
  | 0 => fun _ _ => False
  | n + 1 => fun x3 a => if x3 < 0 then (Q (1 : Int32) a) else (wpM_leafAt a x3 (fun r53 a53 => vp_in (r53 + (6 : Int32)) 3098 ∧ (∀ a66 : MS, a66 = up2 a53 0 (r53 + (6 : Int32)).toNatClampNeg (a53 0 (6 : Int32).toNatClampNeg) → (wpM_leafAt a66 x3 (fun r73 a73 => vp_in (r73 + (4 : Int32)) 3098 ∧ (bkM_asks_43 Q x1 n (a73 0 (r73 + (4 : Int32)).toNatClampNeg) a73))))))
set_option maxHeartbeats 4000000 in
set_option maxRecDepth 100000 in
theorem wkM_asks_43 (S : CallFix p m c cX6_asks 4 s args lw_all RX6) (hr : meth.sig.returnType = (some .boolean)) (hlk : meth.locks = false) (Q : Int32 → MS → Prop) (x1 : Int32) : ∀ (n : Nat) (x3 : Int32) (a : MS) (H : Heap) (locs : List Loc) (ls : Array Slot), bkM_asks_43 Q x1 n x3 a → MW D dA ad A a s H locs → lv_has ls 4 [(0, .ref (ad 38)), (3, .int x3)] → W p l e rmM_asks s m args below meth c H locs 0 0 (MQ below (mQi D dA ad A Q) args s 0 0 A) (F0 m 43 ls []) := by
  have hx := S.1
  have hb := S.2.1
  have hown := S.2.2.2.1
  have hts := S.2.2.2.2
  intro n
  induction n with
  | zero =>
    intro x3 a H locs ls h
    exact False.elim h
  | succ n ih =>
    intro x3 a H locs ls h hw hl
    unfold bkM_asks_43 at h
    refine lv_iload_n hx hb dX6_asks_43 rfl (lv_at hl 1 rfl) ?_
    refine lv_if_lt (tgt := 83) hx hb dX6_asks_44 (by decide) (fun c44 => ?_) (fun c44 => ?_)
    · replace h := if_t c44 h
      refine lv_iconst (v := (1 : Int32)) hx hb dX6_asks_83 (by decide) ?_
      exact m_zret S hr hlk hw (Or.inr rfl) h dX6_asks_84
    · replace h := if_f c44 h
      refine lv_aload_n hx hb dX6_asks_47 rfl (lv_at hl 0 rfl) ?_
      refine m_get S hw 0 (by decide) q1338 rfl rfl dX6_asks_48 ?_
      refine lv_aload_n hx hb dX6_asks_51 rfl (lv_at hl 0 rfl) ?_
      refine lv_iload_n hx hb dX6_asks_52 rfl (lv_at hl 1 rfl) ?_
      refine m_calli S hw [.int x3] [.ref (ad 0)] (ctM_leafAt l D dA ad A a x3 _ h) (cwM_leafAt hts ⟨Nat.le_of_ble_eq_true rfl, Nat.le_of_ble_eq_true rfl⟩) rfl hl.1 rfl (Nat.le_of_ble_eq_true rfl) dX6_asks_53 ⟨Nat.zero_le _, Nat.zero_le _⟩ (fun r53 a53 H locs h hw => ?_)
      refine lv_bipush (v := (6 : Int32)) hx hb dX6_asks_56 (by decide) ?_
      refine lv_iadd hx hb dX6_asks_58 ?_
      refine lv_aload_n hx hb dX6_asks_59 rfl (lv_at hl 0 rfl) ?_
      refine m_get S hw 0 (by decide) q1338 rfl rfl dX6_asks_60 ?_
      refine lv_bipush (v := (6 : Int32)) hx hb dX6_asks_63 (by decide) ?_
      refine m_ald S hw 1 0 3098 rfl (by decide) rfl (vlit (by decide)) dX6_asks_65 ?_
      refine m_ast S hw 1 0 3098 rfl (by decide) rfl h.1 dX6_asks_66 (fun a66 H locs ea66 hw => ?_)
      replace h := h.2 a66 ea66
      refine lv_aload_n hx hb dX6_asks_67 rfl (lv_at hl 0 rfl) ?_
      refine m_get S hw 0 (by decide) q1338 rfl rfl dX6_asks_68 ?_
      refine lv_aload_n hx hb dX6_asks_71 rfl (lv_at hl 0 rfl) ?_
      refine lv_iload_n hx hb dX6_asks_72 rfl (lv_at hl 1 rfl) ?_
      refine m_calli S hw [.int x3] [.ref (ad 0)] (ctM_leafAt l D dA ad A a66 x3 _ h) (cwM_leafAt hts ⟨Nat.le_of_ble_eq_true rfl, Nat.le_of_ble_eq_true rfl⟩) rfl hl.1 rfl (Nat.le_of_ble_eq_true rfl) dX6_asks_73 ⟨Nat.zero_le _, Nat.zero_le _⟩ (fun r73 a73 H locs h hw => ?_)
      refine lv_iconst (v := (4 : Int32)) hx hb dX6_asks_76 (by decide) ?_
      refine lv_iadd hx hb dX6_asks_77 ?_
      refine m_ald S hw 1 0 3098 rfl (by decide) rfl h.1 dX6_asks_78 ?_
      replace h := h.2
      refine lv_istore_n (lv' := [(3, .int (a73 0 (r73 + (4 : Int32)).toNatClampNeg)), (0, .ref (ad 38))]) hx hb dX6_asks_79 rfl hl (by decide) rfl (fun ls hl => ?_)
      refine lv_goto (tgt := 43) hx hb dX6_asks_80 (by decide) ?_
      exact ih _ _ _ _ _ h hw (lv_sub hl [1, 0] rfl)
def wpM_asks (a : MS) (x1 : Int32) (Q : Int32 → MS → Prop) : Prop := wpM_leafAt a x1 (fun r2 a2 => ∀ a16 : MS, a16 = up2 a2 0 (6 : Int32).toNatClampNeg ((a2 0 (6 : Int32).toNatClampNeg) + (1 : Int32)) → (vp_in (r2 + (5 : Int32)) 3098 ∧ (vp_in (r2 + (5 : Int32)) 3098 ∧ (∀ a28 : MS, a28 = up2 a16 0 (r2 + (5 : Int32)).toNatClampNeg ((a16 0 (r2 + (5 : Int32)).toNatClampNeg) + (1 : Int32)) → (wpM_vaultBits a28 (fun r31 a31 => wpM_isRead a31 r31 x1 (fun r35 a35 => if r35 = 0 then (vp_in x1 8 ∧ (∀ a100 : MS, a100 = up2 a35 0 (7 : Int32).toNatClampNeg ((a35 0 (7 : Int32).toNatClampNeg) + (a35 13 x1.toNatClampNeg)) → (wpM_placeOf a100 x1 (fun r103 a103 => if r103 < 0 then (bkM_asks_114 Q x1 r2 (0 : Int32) a103) else (bkM_asks_114 Q x1 r2 (1 : Int32) a103))))) else (∃ n43, bkM_asks_43 Q x1 n43 x1 a35))))))))
set_option maxHeartbeats 4000000 in
set_option maxRecDepth 100000 in
theorem wkM_asks_e (S : CallFix p m c cX6_asks 4 s args lw_all RX6) (hr : meth.sig.returnType = (some .boolean)) (hlk : meth.locks = false) (Q : Int32 → MS → Prop) (x1 : Int32) (a : MS) (H : Heap) (locs : List Loc) (ls : Array Slot) (h : wpM_asks a x1 Q) (hw : MW D dA ad A a s H locs) (hl : lv_has ls 4 [(0, .ref (ad 38)), (1, .int x1)]) : W p l e rmM_asks s m args below meth c H locs 0 0 (MQ below (mQi D dA ad A Q) args s 0 0 A) (F0 m 0 ls []) := by
  have hx := S.1
  have hb := S.2.1
  have hown := S.2.2.2.1
  have hts := S.2.2.2.2
  unfold wpM_asks at h
  refine lv_aload_n hx hb dX6_asks_0 rfl (lv_at hl 0 rfl) ?_
  refine lv_iload_n hx hb dX6_asks_1 rfl (lv_at hl 1 rfl) ?_
  refine m_calli S hw [.int x1] [] (ctM_leafAt l D dA ad A a x1 _ h) (cwM_leafAt hts ⟨Nat.le_of_ble_eq_true rfl, Nat.le_of_ble_eq_true rfl⟩) rfl hl.1 rfl (Nat.le_of_ble_eq_true rfl) dX6_asks_2 ⟨Nat.zero_le _, Nat.zero_le _⟩ (fun r2 a2 H locs h hw => ?_)
  refine lv_istore_n (lv' := [(2, .int r2), (0, .ref (ad 38)), (1, .int x1)]) hx hb dX6_asks_5 rfl hl (by decide) rfl (fun ls hl => ?_)
  refine lv_aload_n hx hb dX6_asks_6 rfl (lv_at hl 1 rfl) ?_
  refine m_get S hw 0 (by decide) q1338 rfl rfl dX6_asks_7 ?_
  refine lv_bipush (v := (6 : Int32)) hx hb dX6_asks_10 (by decide) ?_
  refine lv_dup2_11 hx hb dX6_asks_12 rfl rfl ?_
  refine m_ald S hw 1 0 3098 rfl (by decide) rfl (vlit (by decide)) dX6_asks_13 ?_
  refine lv_iconst (v := (1 : Int32)) hx hb dX6_asks_14 (by decide) ?_
  refine lv_iadd hx hb dX6_asks_15 ?_
  refine m_ast S hw 1 0 3098 rfl (by decide) rfl (vlit (by decide)) dX6_asks_16 (fun a16 H locs ea16 hw => ?_)
  replace h := h a16 ea16
  refine lv_aload_n hx hb dX6_asks_17 rfl (lv_at hl 1 rfl) ?_
  refine m_get S hw 0 (by decide) q1338 rfl rfl dX6_asks_18 ?_
  refine lv_iload_n hx hb dX6_asks_21 rfl (lv_at hl 0 rfl) ?_
  refine lv_iconst (v := (5 : Int32)) hx hb dX6_asks_22 (by decide) ?_
  refine lv_iadd hx hb dX6_asks_23 ?_
  refine lv_dup2_11 hx hb dX6_asks_24 rfl rfl ?_
  refine m_ald S hw 1 0 3098 rfl (by decide) rfl h.1 dX6_asks_25 ?_
  replace h := h.2
  refine lv_iconst (v := (1 : Int32)) hx hb dX6_asks_26 (by decide) ?_
  refine lv_iadd hx hb dX6_asks_27 ?_
  refine m_ast S hw 1 0 3098 rfl (by decide) rfl h.1 dX6_asks_28 (fun a28 H locs ea28 hw => ?_)
  replace h := h.2 a28 ea28
  refine lv_aload_n hx hb dX6_asks_29 rfl (lv_at hl 1 rfl) ?_
  refine lv_aload_n hx hb dX6_asks_30 rfl (lv_at hl 1 rfl) ?_
  refine m_calli S hw [] [.ref (ad 38)] (ctM_vaultBits l D dA ad A a28 _ h) (cwM_vaultBits hts ⟨Nat.le_of_ble_eq_true rfl, Nat.le_of_ble_eq_true rfl⟩) rfl hl.1 rfl (Nat.le_of_ble_eq_true rfl) dX6_asks_31 ⟨Nat.zero_le _, Nat.zero_le _⟩ (fun r31 a31 H locs h hw => ?_)
  refine lv_iload_n hx hb dX6_asks_34 rfl (lv_at hl 2 rfl) ?_
  refine m_calli S hw [.int r31, .int x1] [] (ctM_isRead l D dA ad A a31 r31 x1 _ h) (cwM_isRead hts ⟨Nat.le_of_ble_eq_true rfl, Nat.le_of_ble_eq_true rfl⟩) rfl hl.1 rfl (Nat.le_of_ble_eq_true rfl) dX6_asks_35 ⟨Nat.zero_le _, Nat.zero_le _⟩ (fun r35 a35 H locs h hw => ?_)
  refine lv_if_eq (tgt := 85) hx hb dX6_asks_38 (by decide) (fun c38 => ?_) (fun c38 => ?_)
  · replace h := if_t c38 h
    refine lv_aload_n hx hb dX6_asks_85 rfl (lv_at hl 1 rfl) ?_
    refine m_get S hw 0 (by decide) q1338 rfl rfl dX6_asks_86 ?_
    refine lv_bipush (v := (7 : Int32)) hx hb dX6_asks_89 (by decide) ?_
    refine lv_dup2_11 hx hb dX6_asks_91 rfl rfl ?_
    refine m_ald S hw 1 0 3098 rfl (by decide) rfl (vlit (by decide)) dX6_asks_92 ?_
    refine lv_aload_n hx hb dX6_asks_93 rfl (lv_at hl 1 rfl) ?_
    refine m_get S hw 13 (by decide) q1351 rfl rfl dX6_asks_94 ?_
    refine lv_iload_n hx hb dX6_asks_97 rfl (lv_at hl 2 rfl) ?_
    refine m_ald S hw 13 13 8 rfl (by decide) rfl h.1 dX6_asks_98 ?_
    replace h := h.2
    refine lv_iadd hx hb dX6_asks_99 ?_
    refine m_ast S hw 1 0 3098 rfl (by decide) rfl (vlit (by decide)) dX6_asks_100 (fun a100 H locs ea100 hw => ?_)
    replace h := h a100 ea100
    refine lv_aload_n hx hb dX6_asks_101 rfl (lv_at hl 1 rfl) ?_
    refine lv_iload_n hx hb dX6_asks_102 rfl (lv_at hl 2 rfl) ?_
    refine m_calli S hw [.int x1] [] (ctM_placeOf l D dA ad A a100 x1 _ h) (cwM_placeOf hts ⟨Nat.le_of_ble_eq_true rfl, Nat.le_of_ble_eq_true rfl⟩) rfl hl.1 rfl (Nat.le_of_ble_eq_true rfl) dX6_asks_103 ⟨Nat.zero_le _, Nat.zero_le _⟩ (fun r103 a103 H locs h hw => ?_)
    refine lv_if_lt (tgt := 113) hx hb dX6_asks_106 (by decide) (fun c106 => ?_) (fun c106 => ?_)
    · replace h := if_t c106 h
      refine lv_iconst (v := (0 : Int32)) hx hb dX6_asks_113 (by decide) ?_
      exact wkM_asks_114 S hr hlk Q x1 _ _ _ _ _ _ h hw (lv_sub hl [1, 2, 0] rfl)
    · replace h := if_f c106 h
      refine lv_iconst (v := (1 : Int32)) hx hb dX6_asks_109 (by decide) ?_
      refine lv_goto (tgt := 114) hx hb dX6_asks_110 (by decide) ?_
      exact wkM_asks_114 S hr hlk Q x1 _ _ _ _ _ _ h hw (lv_sub hl [1, 2, 0] rfl)
  · replace h := if_f c38 h
    refine lv_iload_n hx hb dX6_asks_41 rfl (lv_at hl 2 rfl) ?_
    refine lv_istore_n (lv' := [(3, .int x1), (2, .int r2), (0, .ref (ad 38)), (1, .int x1)]) hx hb dX6_asks_42 rfl hl (by decide) rfl (fun ls hl => ?_)
    obtain ⟨n43, h⟩ := h
    exact wkM_asks_43 S hr hlk Q x1 n43 _ _ _ _ _ h hw (lv_sub hl [2, 0] rfl)
theorem ctM_asks (l : Launch) (D : va_G) (dA : Nat → ClassId) (ad : Nat → Nat) (A : Nat → Prop) (a : MS) (x1 : Int32) (Q : Int32 → MS → Prop) (h : wpM_asks a x1 Q) : Met l yX6_asks (ws_ yX6_asks cX6_asks 4 (some .boolean)) rmM_asks (mPc D dA ad A a [.ref (ad 38), .int x1]) (mQi D dA ad A Q) 0 0 A :=
  m_met (by decide) rfl rfl rfl (Nat.le_of_ble_eq_true rfl) (fun p e s m below meth c ls S hr hlk hw hl => wkM_asks_e S hr hlk Q x1 a _ _ ls h hw hl)
theorem cwM_asks {R : Room} {s : State} {args : Array Value} {rm : Room} (hts : ∀ w ∈ lw_all, w.before args s = true) (hR : rm.frames + 1 ≤ R.frames ∧ 8 + (4 + 11) + rm.locals ≤ R.locals) (hc : rm.cells = 0 := by rfl) (hs : rm.slots = 0 := by rfl) : CallW R s args RX6 RX6 187 yX6_asks cX6_asks 4 (some .boolean) (ws_ yX6_asks cX6_asks 4 (some .boolean)) rm 0 0 1 :=
  cwV 1 hts (lw_V q1617 q1619 qs74 q112 q1620) rfl hc hs (by decide +kernel) hR
/-! want -/
abbrev rmM_want : Room := { frames := 6, cells := 0, slots := 0, locals := 142 }
def wpM_want (a : MS) (x1 : Int32) (Q : Int32 → MS → Prop) : Prop := wpM_isLeaf a x1 (fun r2 a2 => if r2 = 0 then (Q (-1000000001 : Int32) a2) else (wpM_knows a2 (fun a12 => wpM_asks a12 x1 (fun r17 a17 => if r17 = 0 then (Q (0 : Int32) a17) else (Q (1 : Int32) a17)))))
set_option maxHeartbeats 4000000 in
set_option maxRecDepth 100000 in
theorem wkM_want_e (S : CallFix p m c cX6_want 2 s args lw_all RX6) (hr : meth.sig.returnType = (some .int)) (hlk : meth.locks = false) (Q : Int32 → MS → Prop) (x1 : Int32) (a : MS) (H : Heap) (locs : List Loc) (ls : Array Slot) (h : wpM_want a x1 Q) (hw : MW D dA ad A a s H locs) (hl : lv_has ls 2 [(0, .ref (ad 38)), (1, .int x1)]) : W p l e rmM_want s m args below meth c H locs 0 0 (MQ below (mQi D dA ad A Q) args s 0 0 A) (F0 m 0 ls []) := by
  have hx := S.1
  have hb := S.2.1
  have hown := S.2.2.2.1
  have hts := S.2.2.2.2
  unfold wpM_want at h
  refine lv_aload_n hx hb dX6_want_0 rfl (lv_at hl 0 rfl) ?_
  refine lv_iload_n hx hb dX6_want_1 rfl (lv_at hl 1 rfl) ?_
  refine m_calli S hw [.int x1] [] (ctM_isLeaf l D dA ad A a x1 _ h) (cwM_isLeaf hts ⟨Nat.le_of_ble_eq_true rfl, Nat.le_of_ble_eq_true rfl⟩) rfl hl.1 rfl (Nat.le_of_ble_eq_true rfl) dX6_want_2 ⟨Nat.zero_le _, Nat.zero_le _⟩ (fun r2 a2 H locs h hw => ?_)
  refine lv_if_ne (tgt := 11) hx hb dX6_want_5 (by decide) (fun c5 => ?_) (fun c5 => ?_)
  · replace h := if_f c5 h
    refine lv_aload_n hx hb dX6_want_11 rfl (lv_at hl 0 rfl) ?_
    refine m_callv S hw [] [] (ctM_knows l D dA ad A a2 _ h) (cwM_knows hts ⟨Nat.le_of_ble_eq_true rfl, Nat.le_of_ble_eq_true rfl⟩) rfl hl.1 rfl (Nat.le_of_ble_eq_true rfl) dX6_want_12 ⟨Nat.zero_le _, Nat.zero_le _⟩ (fun a12 H locs h hw => ?_)
    refine lv_aload_n hx hb dX6_want_15 rfl (lv_at hl 0 rfl) ?_
    refine lv_iload_n hx hb dX6_want_16 rfl (lv_at hl 1 rfl) ?_
    refine m_calli S hw [.int x1] [] (ctM_asks l D dA ad A a12 x1 _ h) (cwM_asks hts ⟨Nat.le_of_ble_eq_true rfl, Nat.le_of_ble_eq_true rfl⟩) rfl hl.1 rfl (Nat.le_of_ble_eq_true rfl) dX6_want_17 ⟨Nat.zero_le _, Nat.zero_le _⟩ (fun r17 a17 H locs h hw => ?_)
    refine lv_if_eq (tgt := 27) hx hb dX6_want_20 (by decide) (fun c20 => ?_) (fun c20 => ?_)
    · replace h := if_t c20 h
      refine lv_iconst (v := (0 : Int32)) hx hb dX6_want_27 (by decide) ?_
      exact m_iret S hr hlk hw h dX6_want_28
    · replace h := if_f c20 h
      refine lv_iconst (v := (1 : Int32)) hx hb dX6_want_23 (by decide) ?_
      refine lv_goto (tgt := 28) hx hb dX6_want_24 (by decide) ?_
      exact m_iret S hr hlk hw h dX6_want_28
  · replace h := if_t c5 h
    refine lv_ldc hx hb hown (hts _ q1468) dX6_want_8 ?_
    exact m_iret S hr hlk hw h dX6_want_10
theorem ctM_want (l : Launch) (D : va_G) (dA : Nat → ClassId) (ad : Nat → Nat) (A : Nat → Prop) (a : MS) (x1 : Int32) (Q : Int32 → MS → Prop) (h : wpM_want a x1 Q) : Met l yX6_want (ws_ yX6_want cX6_want 2 (some .int)) rmM_want (mPc D dA ad A a [.ref (ad 38), .int x1]) (mQi D dA ad A Q) 0 0 A :=
  m_met (by decide) rfl rfl rfl (Nat.le_of_ble_eq_true rfl) (fun p e s m below meth c ls S hr hlk hw hl => wkM_want_e S hr hlk Q x1 a _ _ ls h hw hl)
/-! next -/
abbrev rmM_next : Room := { frames := 5, cells := 0, slots := 0, locals := 115 }
def wpM_next (a : MS) (Q : Int32 → MS → Prop) : Prop := wpM_knows a (fun a1 => wpM_goesFirst a1 (fun r13 a13 => ∀ a24 : MS, a24 = up2 a13 0 (9 : Int32).toNatClampNeg (a1 0 (9 : Int32).toNatClampNeg) → (if 0 ≤ r13 then (vp_in ((66 : Int32) + r13) 3098 ∧ (Q (a24 0 ((66 : Int32) + r13).toNatClampNeg) a24)) else (Q (-1000000005 : Int32) a24))))
set_option maxHeartbeats 4000000 in
set_option maxRecDepth 100000 in
theorem wkM_next_e (S : CallFix p m c cX6_next 3 s args lw_all RX6) (hr : meth.sig.returnType = (some .int)) (hlk : meth.locks = false) (Q : Int32 → MS → Prop) (a : MS) (H : Heap) (locs : List Loc) (ls : Array Slot) (h : wpM_next a Q) (hw : MW D dA ad A a s H locs) (hl : lv_has ls 3 [(0, .ref (ad 38))]) : W p l e rmM_next s m args below meth c H locs 0 0 (MQ below (mQi D dA ad A Q) args s 0 0 A) (F0 m 0 ls []) := by
  have hx := S.1
  have hb := S.2.1
  have hown := S.2.2.2.1
  have hts := S.2.2.2.2
  unfold wpM_next at h
  refine lv_aload_n hx hb dX6_next_0 rfl (lv_at hl 0 rfl) ?_
  refine m_callv S hw [] [] (ctM_knows l D dA ad A a _ h) (cwM_knows hts ⟨Nat.le_of_ble_eq_true rfl, Nat.le_of_ble_eq_true rfl⟩) rfl hl.1 rfl (Nat.le_of_ble_eq_true rfl) dX6_next_1 ⟨Nat.zero_le _, Nat.zero_le _⟩ (fun a1 H locs h hw => ?_)
  refine lv_aload_n hx hb dX6_next_4 rfl (lv_at hl 0 rfl) ?_
  refine m_get S hw 0 (by decide) q1338 rfl rfl dX6_next_5 ?_
  refine lv_bipush (v := (9 : Int32)) hx hb dX6_next_8 (by decide) ?_
  refine m_ald S hw 1 0 3098 rfl (by decide) rfl (vlit (by decide)) dX6_next_10 ?_
  refine lv_istore_n (lv' := [(1, .int (a1 0 (9 : Int32).toNatClampNeg)), (0, .ref (ad 38))]) hx hb dX6_next_11 rfl hl (by decide) rfl (fun ls hl => ?_)
  refine lv_aload_n hx hb dX6_next_12 rfl (lv_at hl 1 rfl) ?_
  refine m_calli S hw [] [] (ctM_goesFirst l D dA ad A a1 _ h) (cwM_goesFirst hts ⟨Nat.le_of_ble_eq_true rfl, Nat.le_of_ble_eq_true rfl⟩) rfl hl.1 rfl (Nat.le_of_ble_eq_true rfl) dX6_next_13 ⟨Nat.zero_le _, Nat.zero_le _⟩ (fun r13 a13 H locs h hw => ?_)
  refine lv_istore_n (lv' := [(2, .int r13), (1, .int (a1 0 (9 : Int32).toNatClampNeg)), (0, .ref (ad 38))]) hx hb dX6_next_16 rfl hl (by decide) rfl (fun ls hl => ?_)
  refine lv_aload_n hx hb dX6_next_17 rfl (lv_at hl 2 rfl) ?_
  refine m_get S hw 0 (by decide) q1338 rfl rfl dX6_next_18 ?_
  refine lv_bipush (v := (9 : Int32)) hx hb dX6_next_21 (by decide) ?_
  refine lv_iload_n hx hb dX6_next_23 rfl (lv_at hl 1 rfl) ?_
  refine m_ast S hw 1 0 3098 rfl (by decide) rfl (vlit (by decide)) dX6_next_24 (fun a24 H locs ea24 hw => ?_)
  replace h := h a24 ea24
  refine lv_iload_n hx hb dX6_next_25 rfl (lv_at hl 0 rfl) ?_
  refine lv_if_ge (tgt := 34) hx hb dX6_next_26 (by decide) (fun c26 => ?_) (fun c26 => ?_)
  · replace h := if_t c26 h
    refine lv_aload_n hx hb dX6_next_34 rfl (lv_at hl 2 rfl) ?_
    refine m_get S hw 0 (by decide) q1338 rfl rfl dX6_next_35 ?_
    refine lv_bipush (v := (66 : Int32)) hx hb dX6_next_38 (by decide) ?_
    refine lv_iload_n hx hb dX6_next_40 rfl (lv_at hl 0 rfl) ?_
    refine lv_iadd hx hb dX6_next_41 ?_
    refine m_ald S hw 1 0 3098 rfl (by decide) rfl h.1 dX6_next_42 ?_
    replace h := h.2
    exact m_iret S hr hlk hw h dX6_next_43
  · replace h := if_f c26 h
    refine lv_ldc hx hb hown (hts _ q1463) dX6_next_29 ?_
    refine lv_goto (tgt := 43) hx hb dX6_next_31 (by decide) ?_
    exact m_iret S hr hlk hw h dX6_next_43
theorem ctM_next (l : Launch) (D : va_G) (dA : Nat → ClassId) (ad : Nat → Nat) (A : Nat → Prop) (a : MS) (Q : Int32 → MS → Prop) (h : wpM_next a Q) : Met l yX6_next (ws_ yX6_next cX6_next 3 (some .int)) rmM_next (mPc D dA ad A a [.ref (ad 38)]) (mQi D dA ad A Q) 0 0 A :=
  m_met (by decide) rfl rfl rfl (Nat.le_of_ble_eq_true rfl) (fun p e s m below meth c ls S hr hlk hw hl => wkM_next_e S hr hlk Q a _ _ ls h hw hl)
/-! out -/
abbrev rmM_out : Room := { frames := 2, cells := 0, slots := 0, locals := 46 }
def bkM_out_26 (Q : Int32 → MS → Prop) (x1 : Int32) : Int32 → MS → Prop := fun x2 a => if 0 ≤ x2 then (Q (1 : Int32) a) else (Q (0 : Int32) a)
set_option maxHeartbeats 4000000 in
set_option maxRecDepth 100000 in
theorem wkM_out_26 (S : CallFix p m c cX6_out 3 s args lw_all RX6) (hr : meth.sig.returnType = (some .int)) (hlk : meth.locks = false) (Q : Int32 → MS → Prop) (x1 : Int32) : ∀ (x2 : Int32) (a : MS) (H : Heap) (locs : List Loc) (ls : Array Slot), bkM_out_26 Q x1 x2 a → MW D dA ad A a s H locs → lv_has ls 3 [(2, .int x2)] → W p l e rmM_out s m args below meth c H locs 0 0 (MQ below (mQi D dA ad A Q) args s 0 0 A) (F0 m 26 ls []) := by
  have hx := S.1
  have hb := S.2.1
  have hown := S.2.2.2.1
  have hts := S.2.2.2.2
  intro x2 a H locs ls h hw hl
  unfold bkM_out_26 at h
  refine lv_iload_n hx hb dX6_out_26 rfl (lv_at hl 0 rfl) ?_
  refine lv_if_ge (tgt := 34) hx hb dX6_out_27 (by decide) (fun c27 => ?_) (fun c27 => ?_)
  · replace h := if_t c27 h
    refine lv_iconst (v := (1 : Int32)) hx hb dX6_out_34 (by decide) ?_
    exact m_iret S hr hlk hw h dX6_out_35
  · replace h := if_f c27 h
    refine lv_iconst (v := (0 : Int32)) hx hb dX6_out_30 (by decide) ?_
    refine lv_goto (tgt := 35) hx hb dX6_out_31 (by decide) ?_
    exact m_iret S hr hlk hw h dX6_out_35
def wpM_out (a : MS) (x1 : Int32) (Q : Int32 → MS → Prop) : Prop := wpM_isLeaf a x1 (fun r2 a2 => if r2 = 0 then (Q (-1000000001 : Int32) a2) else (wpM_placeOf a2 x1 (fun r13 a13 => if r13 < 0 then (bkM_out_26 Q x1 r13 a13) else (wpM_leaves a13 r13 (fun a23 => bkM_out_26 Q x1 r13 a23)))))
set_option maxHeartbeats 4000000 in
set_option maxRecDepth 100000 in
theorem wkM_out_e (S : CallFix p m c cX6_out 3 s args lw_all RX6) (hr : meth.sig.returnType = (some .int)) (hlk : meth.locks = false) (Q : Int32 → MS → Prop) (x1 : Int32) (a : MS) (H : Heap) (locs : List Loc) (ls : Array Slot) (h : wpM_out a x1 Q) (hw : MW D dA ad A a s H locs) (hl : lv_has ls 3 [(0, .ref (ad 38)), (1, .int x1)]) : W p l e rmM_out s m args below meth c H locs 0 0 (MQ below (mQi D dA ad A Q) args s 0 0 A) (F0 m 0 ls []) := by
  have hx := S.1
  have hb := S.2.1
  have hown := S.2.2.2.1
  have hts := S.2.2.2.2
  unfold wpM_out at h
  refine lv_aload_n hx hb dX6_out_0 rfl (lv_at hl 0 rfl) ?_
  refine lv_iload_n hx hb dX6_out_1 rfl (lv_at hl 1 rfl) ?_
  refine m_calli S hw [.int x1] [] (ctM_isLeaf l D dA ad A a x1 _ h) (cwM_isLeaf hts ⟨Nat.le_of_ble_eq_true rfl, Nat.le_of_ble_eq_true rfl⟩) rfl hl.1 rfl (Nat.le_of_ble_eq_true rfl) dX6_out_2 ⟨Nat.zero_le _, Nat.zero_le _⟩ (fun r2 a2 H locs h hw => ?_)
  refine lv_if_ne (tgt := 11) hx hb dX6_out_5 (by decide) (fun c5 => ?_) (fun c5 => ?_)
  · replace h := if_f c5 h
    refine lv_aload_n hx hb dX6_out_11 rfl (lv_at hl 0 rfl) ?_
    refine lv_iload_n hx hb dX6_out_12 rfl (lv_at hl 1 rfl) ?_
    refine m_calli S hw [.int x1] [] (ctM_placeOf l D dA ad A a2 x1 _ h) (cwM_placeOf hts ⟨Nat.le_of_ble_eq_true rfl, Nat.le_of_ble_eq_true rfl⟩) rfl hl.1 rfl (Nat.le_of_ble_eq_true rfl) dX6_out_13 ⟨Nat.zero_le _, Nat.zero_le _⟩ (fun r13 a13 H locs h hw => ?_)
    refine lv_istore_n (lv' := [(2, .int r13), (0, .ref (ad 38)), (1, .int x1)]) hx hb dX6_out_16 rfl hl (by decide) rfl (fun ls hl => ?_)
    refine lv_iload_n hx hb dX6_out_17 rfl (lv_at hl 0 rfl) ?_
    refine lv_if_lt (tgt := 26) hx hb dX6_out_18 (by decide) (fun c18 => ?_) (fun c18 => ?_)
    · replace h := if_t c18 h
      exact wkM_out_26 S hr hlk Q x1 _ _ _ _ _ h hw (lv_sub hl [0] rfl)
    · replace h := if_f c18 h
      refine lv_aload_n hx hb dX6_out_21 rfl (lv_at hl 1 rfl) ?_
      refine lv_iload_n hx hb dX6_out_22 rfl (lv_at hl 0 rfl) ?_
      refine m_callv S hw [.int r13] [] (ctM_leaves l D dA ad A a13 r13 _ h) (cwM_leaves hts ⟨Nat.le_of_ble_eq_true rfl, Nat.le_of_ble_eq_true rfl⟩) rfl hl.1 rfl (Nat.le_of_ble_eq_true rfl) dX6_out_23 ⟨Nat.zero_le _, Nat.zero_le _⟩ (fun a23 H locs h hw => ?_)
      exact wkM_out_26 S hr hlk Q x1 _ _ _ _ _ h hw (lv_sub hl [0] rfl)
  · replace h := if_t c5 h
    refine lv_ldc hx hb hown (hts _ q1468) dX6_out_8 ?_
    exact m_iret S hr hlk hw h dX6_out_10
theorem ctM_out (l : Launch) (D : va_G) (dA : Nat → ClassId) (ad : Nat → Nat) (A : Nat → Prop) (a : MS) (x1 : Int32) (Q : Int32 → MS → Prop) (h : wpM_out a x1 Q) : Met l yX6_out (ws_ yX6_out cX6_out 3 (some .int)) rmM_out (mPc D dA ad A a [.ref (ad 38), .int x1]) (mQi D dA ad A Q) 0 0 A :=
  m_met (by decide) rfl rfl rfl (Nat.le_of_ble_eq_true rfl) (fun p e s m below meth c ls S hr hlk hw hl => wkM_out_e S hr hlk Q x1 a _ _ ls h hw hl)
/-! at -/
abbrev rmM_at : Room := { frames := 0, cells := 0, slots := 0, locals := 0 }
def wpM_at (a : MS) (x1 : Int32) (Q : Int32 → MS → Prop) : Prop := if 0 ≤ x1 then (if (a 0 (2 : Int32).toNatClampNeg) ≤ x1 then (Q (-1000000005 : Int32) a) else (vp_in ((66 : Int32) + x1) 3098 ∧ (Q (a 0 ((66 : Int32) + x1).toNatClampNeg) a))) else (Q (-1000000001 : Int32) a)
set_option maxHeartbeats 4000000 in
set_option maxRecDepth 100000 in
theorem wkM_at_e (S : CallFix p m c cX6_at 2 s args lw_all RX6) (hr : meth.sig.returnType = (some .int)) (hlk : meth.locks = false) (Q : Int32 → MS → Prop) (x1 : Int32) (a : MS) (H : Heap) (locs : List Loc) (ls : Array Slot) (h : wpM_at a x1 Q) (hw : MW D dA ad A a s H locs) (hl : lv_has ls 2 [(0, .ref (ad 38)), (1, .int x1)]) : W p l e rmM_at s m args below meth c H locs 0 0 (MQ below (mQi D dA ad A Q) args s 0 0 A) (F0 m 0 ls []) := by
  have hx := S.1
  have hb := S.2.1
  have hown := S.2.2.2.1
  have hts := S.2.2.2.2
  unfold wpM_at at h
  refine lv_iload_n hx hb dX6_at_0 rfl (lv_at hl 1 rfl) ?_
  refine lv_if_ge (tgt := 9) hx hb dX6_at_1 (by decide) (fun c1 => ?_) (fun c1 => ?_)
  · replace h := if_t c1 h
    refine lv_iload_n hx hb dX6_at_9 rfl (lv_at hl 1 rfl) ?_
    refine lv_aload_n hx hb dX6_at_10 rfl (lv_at hl 0 rfl) ?_
    refine m_get S hw 0 (by decide) q1338 rfl rfl dX6_at_11 ?_
    refine lv_iconst (v := (2 : Int32)) hx hb dX6_at_14 (by decide) ?_
    refine m_ald S hw 1 0 3098 rfl (by decide) rfl (vlit (by decide)) dX6_at_15 ?_
    refine lv_icmp_ge (tgt := 31) hx hb dX6_at_16 (by decide) (fun c16 => ?_) (fun c16 => ?_)
    · replace h := if_t c16 h
      refine lv_ldc hx hb hown (hts _ q1463) dX6_at_31 ?_
      exact m_iret S hr hlk hw h dX6_at_33
    · replace h := if_f c16 h
      refine lv_aload_n hx hb dX6_at_19 rfl (lv_at hl 0 rfl) ?_
      refine m_get S hw 0 (by decide) q1338 rfl rfl dX6_at_20 ?_
      refine lv_bipush (v := (66 : Int32)) hx hb dX6_at_23 (by decide) ?_
      refine lv_iload_n hx hb dX6_at_25 rfl (lv_at hl 1 rfl) ?_
      refine lv_iadd hx hb dX6_at_26 ?_
      refine m_ald S hw 1 0 3098 rfl (by decide) rfl h.1 dX6_at_27 ?_
      replace h := h.2
      refine lv_goto (tgt := 33) hx hb dX6_at_28 (by decide) ?_
      exact m_iret S hr hlk hw h dX6_at_33
  · replace h := if_f c1 h
    refine lv_ldc hx hb hown (hts _ q1468) dX6_at_4 ?_
    refine lv_goto (tgt := 33) hx hb dX6_at_6 (by decide) ?_
    exact m_iret S hr hlk hw h dX6_at_33
theorem ctM_at (l : Launch) (D : va_G) (dA : Nat → ClassId) (ad : Nat → Nat) (A : Nat → Prop) (a : MS) (x1 : Int32) (Q : Int32 → MS → Prop) (h : wpM_at a x1 Q) : Met l yX6_at (ws_ yX6_at cX6_at 2 (some .int)) rmM_at (mPc D dA ad A a [.ref (ad 38), .int x1]) (mQi D dA ad A Q) 0 0 A :=
  m_met (by decide) rfl rfl rfl (Nat.le_of_ble_eq_true rfl) (fun p e s m below meth c ls S hr hlk hw hl => wkM_at_e S hr hlk Q x1 a _ _ ls h hw hl)
/-! fire -/
abbrev rmM_fire : Room := { frames := 1, cells := 0, slots := 0, locals := 25 }
def bkM_fire_19 (Q : Int32 → MS → Prop) (x1 : Int32) : Nat → Int32 → Int32 → MS → Prop
  | 0 => fun _ _ _ => False
  | n + 1 => fun x2 x3 a => if x1 ≤ x3 then (Q x2 a) else (wpM_drawn a (fun r26 a26 => wpM_placeOf a26 (irm r26 (8 : Int32)) (fun r32 a32 => if r32 < 0 then (bkM_fire_19 Q x1 n x2 (x3 + (1 : Int32)) a32) else (wpM_leaves a32 r32 (fun a45 => bkM_fire_19 Q x1 n (x2 + (1 : Int32)) (x3 + (1 : Int32)) a45)))))
set_option maxHeartbeats 4000000 in
set_option maxRecDepth 100000 in
theorem wkM_fire_19 (S : CallFix p m c cX6_fire 5 s args lw_all RX6) (hr : meth.sig.returnType = (some .int)) (hlk : meth.locks = false) (Q : Int32 → MS → Prop) (x1 : Int32) : ∀ (n : Nat) (x2 : Int32) (x3 : Int32) (a : MS) (H : Heap) (locs : List Loc) (ls : Array Slot), bkM_fire_19 Q x1 n x2 x3 a → MW D dA ad A a s H locs → lv_has ls 5 [(0, .ref (ad 38)), (1, .int x1), (2, .int x2), (3, .int x3)] → W p l e rmM_fire s m args below meth c H locs 0 0 (MQ below (mQi D dA ad A Q) args s 0 0 A) (F0 m 19 ls []) := by
  have hx := S.1
  have hb := S.2.1
  have hown := S.2.2.2.1
  have hts := S.2.2.2.2
  intro n
  induction n with
  | zero =>
    intro x2 x3 a H locs ls h
    exact False.elim h
  | succ n ih =>
    intro x2 x3 a H locs ls h hw hl
    unfold bkM_fire_19 at h
    refine lv_iload_n hx hb dX6_fire_19 rfl (lv_at hl 3 rfl) ?_
    refine lv_iload_n hx hb dX6_fire_20 rfl (lv_at hl 1 rfl) ?_
    refine lv_icmp_ge (tgt := 57) hx hb dX6_fire_21 (by decide) (fun c21 => ?_) (fun c21 => ?_)
    · replace h := if_t c21 h
      refine lv_iload_n hx hb dX6_fire_57 rfl (lv_at hl 2 rfl) ?_
      exact m_iret S hr hlk hw h dX6_fire_58
    · replace h := if_f c21 h
      refine lv_aload_n hx hb dX6_fire_24 rfl (lv_at hl 0 rfl) ?_
      refine lv_aload_n hx hb dX6_fire_25 rfl (lv_at hl 0 rfl) ?_
      refine m_calli S hw [] [.ref (ad 38)] (ctM_drawn l D dA ad A a _ h) (cwM_drawn hts ⟨Nat.le_of_ble_eq_true rfl, Nat.le_of_ble_eq_true rfl⟩) rfl hl.1 rfl (Nat.le_of_ble_eq_true rfl) dX6_fire_26 ⟨Nat.zero_le _, Nat.zero_le _⟩ (fun r26 a26 H locs h hw => ?_)
      refine lv_bipush (v := (8 : Int32)) hx hb dX6_fire_29 (by decide) ?_
      refine lv_irem hx hb dX6_fire_31 (by decide) ?_
      refine m_calli S hw [.int (irm r26 (8 : Int32))] [] (ctM_placeOf l D dA ad A a26 (irm r26 (8 : Int32)) _ h) (cwM_placeOf hts ⟨Nat.le_of_ble_eq_true rfl, Nat.le_of_ble_eq_true rfl⟩) rfl hl.1 rfl (Nat.le_of_ble_eq_true rfl) dX6_fire_32 ⟨Nat.zero_le _, Nat.zero_le _⟩ (fun r32 a32 H locs h hw => ?_)
      refine lv_istore (lv' := [(4, .int r32), (0, .ref (ad 38)), (1, .int x1), (2, .int x2), (3, .int x3)]) hx hb dX6_fire_35 hl (by decide) rfl (fun ls hl => ?_)
      refine lv_iload hx hb dX6_fire_37 (lv_at hl 0 rfl) ?_
      refine lv_if_lt (tgt := 51) hx hb dX6_fire_39 (by decide) (fun c39 => ?_) (fun c39 => ?_)
      · replace h := if_t c39 h
        refine lv_iinc (v := (x3 + (1 : Int32))) (lv' := [(3, .int (x3 + (1 : Int32))), (4, .int r32), (0, .ref (ad 38)), (1, .int x1), (2, .int x2)]) hx hb dX6_fire_51 hl (k := 4) rfl rfl (by decide) rfl (fun ls hl => ?_)
        refine lv_goto (tgt := 19) hx hb dX6_fire_54 (by decide) ?_
        exact ih _ _ _ _ _ _ h hw (lv_sub hl [2, 3, 4, 0] rfl)
      · replace h := if_f c39 h
        refine lv_aload_n hx hb dX6_fire_42 rfl (lv_at hl 1 rfl) ?_
        refine lv_iload hx hb dX6_fire_43 (lv_at hl 0 rfl) ?_
        refine m_callv S hw [.int r32] [] (ctM_leaves l D dA ad A a32 r32 _ h) (cwM_leaves hts ⟨Nat.le_of_ble_eq_true rfl, Nat.le_of_ble_eq_true rfl⟩) rfl hl.1 rfl (Nat.le_of_ble_eq_true rfl) dX6_fire_45 ⟨Nat.zero_le _, Nat.zero_le _⟩ (fun a45 H locs h hw => ?_)
        refine lv_iinc (v := (x2 + (1 : Int32))) (lv' := [(2, .int (x2 + (1 : Int32))), (4, .int r32), (0, .ref (ad 38)), (1, .int x1), (3, .int x3)]) hx hb dX6_fire_48 hl (k := 3) rfl rfl (by decide) rfl (fun ls hl => ?_)
        refine lv_iinc (v := (x3 + (1 : Int32))) (lv' := [(3, .int (x3 + (1 : Int32))), (2, .int (x2 + (1 : Int32))), (4, .int r32), (0, .ref (ad 38)), (1, .int x1)]) hx hb dX6_fire_51 hl (k := 4) rfl rfl (by decide) rfl (fun ls hl => ?_)
        refine lv_goto (tgt := 19) hx hb dX6_fire_54 (by decide) ?_
        exact ih _ _ _ _ _ _ h hw (lv_sub hl [3, 4, 1, 0] rfl)
def wpM_fire (a : MS) (x1 : Int32) (Q : Int32 → MS → Prop) : Prop := wpM_isIn a x1.toInt64 (1 : Int64) (20 : Int64) (fun r6 a6 => if r6 = 0 then (Q (-1000000001 : Int32) a6) else (∃ n19, bkM_fire_19 Q x1 n19 (0 : Int32) (0 : Int32) a6))
set_option maxHeartbeats 4000000 in
set_option maxRecDepth 100000 in
theorem wkM_fire_e (S : CallFix p m c cX6_fire 5 s args lw_all RX6) (hr : meth.sig.returnType = (some .int)) (hlk : meth.locks = false) (Q : Int32 → MS → Prop) (x1 : Int32) (a : MS) (H : Heap) (locs : List Loc) (ls : Array Slot) (h : wpM_fire a x1 Q) (hw : MW D dA ad A a s H locs) (hl : lv_has ls 5 [(0, .ref (ad 38)), (1, .int x1)]) : W p l e rmM_fire s m args below meth c H locs 0 0 (MQ below (mQi D dA ad A Q) args s 0 0 A) (F0 m 0 ls []) := by
  have hx := S.1
  have hb := S.2.1
  have hown := S.2.2.2.1
  have hts := S.2.2.2.2
  unfold wpM_fire at h
  refine lv_iload_n hx hb dX6_fire_0 rfl (lv_at hl 1 rfl) ?_
  refine lv_i2l (v := x1.toInt64) hx hb dX6_fire_1 rfl ?_
  refine lv_lconst (v := 1) hx hb dX6_fire_2 (by decide) ?_
  refine lv_ldc2 hx hb hown (hts _ q1637) dX6_fire_3 ?_
  refine m_callSi S hw [.long x1.toInt64, .long (1 : Int64), .long (20 : Int64)] [] (ctM_isIn l D dA ad A a x1.toInt64 (1 : Int64) (20 : Int64) _ h) (cwM_isIn hts ⟨Nat.le_of_ble_eq_true rfl, Nat.le_of_ble_eq_true rfl⟩) rfl hl.1 rfl (Nat.le_of_ble_eq_true rfl) dX6_fire_6 ⟨Nat.zero_le _, Nat.zero_le _⟩ (fun r6 a6 H locs h hw => ?_)
  refine lv_if_ne (tgt := 15) hx hb dX6_fire_9 (by decide) (fun c9 => ?_) (fun c9 => ?_)
  · replace h := if_f c9 h
    refine lv_iconst (v := (0 : Int32)) hx hb dX6_fire_15 (by decide) ?_
    refine lv_istore_n (lv' := [(2, .int (0 : Int32)), (0, .ref (ad 38)), (1, .int x1)]) hx hb dX6_fire_16 rfl hl (by decide) rfl (fun ls hl => ?_)
    refine lv_iconst (v := (0 : Int32)) hx hb dX6_fire_17 (by decide) ?_
    refine lv_istore_n (lv' := [(3, .int (0 : Int32)), (2, .int (0 : Int32)), (0, .ref (ad 38)), (1, .int x1)]) hx hb dX6_fire_18 rfl hl (by decide) rfl (fun ls hl => ?_)
    obtain ⟨n19, h⟩ := h
    exact wkM_fire_19 S hr hlk Q x1 n19 _ _ _ _ _ _ h hw (lv_sub hl [2, 3, 1, 0] rfl)
  · replace h := if_t c9 h
    refine lv_ldc hx hb hown (hts _ q1468) dX6_fire_12 ?_
    exact m_iret S hr hlk hw h dX6_fire_14
theorem ctM_fire (l : Launch) (D : va_G) (dA : Nat → ClassId) (ad : Nat → Nat) (A : Nat → Prop) (a : MS) (x1 : Int32) (Q : Int32 → MS → Prop) (h : wpM_fire a x1 Q) : Met l yX6_fire (ws_ yX6_fire cX6_fire 5 (some .int)) rmM_fire (mPc D dA ad A a [.ref (ad 38), .int x1]) (mQi D dA ad A Q) 0 0 A :=
  m_met (by decide) rfl rfl rfl (Nat.le_of_ble_eq_true rfl) (fun p e s m below meth c ls S hr hlk hw hl => wkM_fire_e S hr hlk Q x1 a _ _ ls h hw hl)
/-! seed -/
abbrev rmM_seed : Room := { frames := 1, cells := 0, slots := 0, locals := 23 }
def wpM_seed (a : MS) (x1 : Int32) (Q : Int32 → MS → Prop) : Prop := wpM_becomes a (9 : Int32) x1 (fun r4 a4 => Q r4 a4)
set_option maxHeartbeats 4000000 in
set_option maxRecDepth 100000 in
theorem wkM_seed_e (S : CallFix p m c cX6_seed 2 s args lw_all RX6) (hr : meth.sig.returnType = (some .int)) (hlk : meth.locks = false) (Q : Int32 → MS → Prop) (x1 : Int32) (a : MS) (H : Heap) (locs : List Loc) (ls : Array Slot) (h : wpM_seed a x1 Q) (hw : MW D dA ad A a s H locs) (hl : lv_has ls 2 [(0, .ref (ad 38)), (1, .int x1)]) : W p l e rmM_seed s m args below meth c H locs 0 0 (MQ below (mQi D dA ad A Q) args s 0 0 A) (F0 m 0 ls []) := by
  have hx := S.1
  have hb := S.2.1
  have hown := S.2.2.2.1
  have hts := S.2.2.2.2
  unfold wpM_seed at h
  refine lv_aload_n hx hb dX6_seed_0 rfl (lv_at hl 0 rfl) ?_
  refine lv_bipush (v := (9 : Int32)) hx hb dX6_seed_1 (by decide) ?_
  refine lv_iload_n hx hb dX6_seed_3 rfl (lv_at hl 1 rfl) ?_
  refine m_calli S hw [.int (9 : Int32), .int x1] [] (ctM_becomes l D dA ad A a (9 : Int32) x1 _ h) (cwM_becomes hts ⟨Nat.le_of_ble_eq_true rfl, Nat.le_of_ble_eq_true rfl⟩) rfl hl.1 rfl (Nat.le_of_ble_eq_true rfl) dX6_seed_4 ⟨Nat.zero_le _, Nat.zero_le _⟩ (fun r4 a4 H locs h hw => ?_)
  exact m_iret S hr hlk hw h dX6_seed_7
theorem ctM_seed (l : Launch) (D : va_G) (dA : Nat → ClassId) (ad : Nat → Nat) (A : Nat → Prop) (a : MS) (x1 : Int32) (Q : Int32 → MS → Prop) (h : wpM_seed a x1 Q) : Met l yX6_seed (ws_ yX6_seed cX6_seed 2 (some .int)) rmM_seed (mPc D dA ad A a [.ref (ad 38), .int x1]) (mQi D dA ad A Q) 0 0 A :=
  m_met (by decide) rfl rfl rfl (Nat.le_of_ble_eq_true rfl) (fun p e s m below meth c ls S hr hlk hw hl => wkM_seed_e S hr hlk Q x1 a _ _ ls h hw hl)
/-! plan -/
abbrev rmM_plan : Room := { frames := 2, cells := 0, slots := 0, locals := 46 }
def wpM_plan (a : MS) (x1 : Int32) (Q : Int32 → MS → Prop) : Prop := wpM_isLeaf a x1 (fun r2 a2 => if r2 = 0 then (Q (-1000000001 : Int32) a2) else (if (a2 0 (8 : Int32).toNatClampNeg) = (24 : Int32) then (Q (-1000000003 : Int32) a2) else (vp_in ((74 : Int32) + (a2 0 (8 : Int32).toNatClampNeg)) 3098 ∧ (∀ a41 : MS, a41 = up2 a2 0 ((74 : Int32) + (a2 0 (8 : Int32).toNatClampNeg)).toNatClampNeg x1 → (∀ a52 : MS, a52 = up2 a41 0 (8 : Int32).toNatClampNeg ((a41 0 (8 : Int32).toNatClampNeg) + (1 : Int32)) → (Q (a52 0 (8 : Int32).toNatClampNeg) a52))))))
set_option maxHeartbeats 4000000 in
set_option maxRecDepth 100000 in
theorem wkM_plan_e (S : CallFix p m c cX6_plan 2 s args lw_all RX6) (hr : meth.sig.returnType = (some .int)) (hlk : meth.locks = false) (Q : Int32 → MS → Prop) (x1 : Int32) (a : MS) (H : Heap) (locs : List Loc) (ls : Array Slot) (h : wpM_plan a x1 Q) (hw : MW D dA ad A a s H locs) (hl : lv_has ls 2 [(0, .ref (ad 38)), (1, .int x1)]) : W p l e rmM_plan s m args below meth c H locs 0 0 (MQ below (mQi D dA ad A Q) args s 0 0 A) (F0 m 0 ls []) := by
  have hx := S.1
  have hb := S.2.1
  have hown := S.2.2.2.1
  have hts := S.2.2.2.2
  unfold wpM_plan at h
  refine lv_aload_n hx hb dX6_plan_0 rfl (lv_at hl 0 rfl) ?_
  refine lv_iload_n hx hb dX6_plan_1 rfl (lv_at hl 1 rfl) ?_
  refine m_calli S hw [.int x1] [] (ctM_isLeaf l D dA ad A a x1 _ h) (cwM_isLeaf hts ⟨Nat.le_of_ble_eq_true rfl, Nat.le_of_ble_eq_true rfl⟩) rfl hl.1 rfl (Nat.le_of_ble_eq_true rfl) dX6_plan_2 ⟨Nat.zero_le _, Nat.zero_le _⟩ (fun r2 a2 H locs h hw => ?_)
  refine lv_if_ne (tgt := 11) hx hb dX6_plan_5 (by decide) (fun c5 => ?_) (fun c5 => ?_)
  · replace h := if_f c5 h
    refine lv_aload_n hx hb dX6_plan_11 rfl (lv_at hl 0 rfl) ?_
    refine m_get S hw 0 (by decide) q1338 rfl rfl dX6_plan_12 ?_
    refine lv_bipush (v := (8 : Int32)) hx hb dX6_plan_15 (by decide) ?_
    refine m_ald S hw 1 0 3098 rfl (by decide) rfl (vlit (by decide)) dX6_plan_17 ?_
    refine lv_bipush (v := (24 : Int32)) hx hb dX6_plan_18 (by decide) ?_
    refine lv_icmp_ne (tgt := 26) hx hb dX6_plan_20 (by decide) (fun c20 => ?_) (fun c20 => ?_)
    · replace h := if_f c20 h
      refine lv_aload_n hx hb dX6_plan_26 rfl (lv_at hl 0 rfl) ?_
      refine m_get S hw 0 (by decide) q1338 rfl rfl dX6_plan_27 ?_
      refine lv_bipush (v := (74 : Int32)) hx hb dX6_plan_30 (by decide) ?_
      refine lv_aload_n hx hb dX6_plan_32 rfl (lv_at hl 0 rfl) ?_
      refine m_get S hw 0 (by decide) q1338 rfl rfl dX6_plan_33 ?_
      refine lv_bipush (v := (8 : Int32)) hx hb dX6_plan_36 (by decide) ?_
      refine m_ald S hw 1 0 3098 rfl (by decide) rfl (vlit (by decide)) dX6_plan_38 ?_
      refine lv_iadd hx hb dX6_plan_39 ?_
      refine lv_iload_n hx hb dX6_plan_40 rfl (lv_at hl 1 rfl) ?_
      refine m_ast S hw 1 0 3098 rfl (by decide) rfl h.1 dX6_plan_41 (fun a41 H locs ea41 hw => ?_)
      replace h := h.2 a41 ea41
      refine lv_aload_n hx hb dX6_plan_42 rfl (lv_at hl 0 rfl) ?_
      refine m_get S hw 0 (by decide) q1338 rfl rfl dX6_plan_43 ?_
      refine lv_bipush (v := (8 : Int32)) hx hb dX6_plan_46 (by decide) ?_
      refine lv_dup2_11 hx hb dX6_plan_48 rfl rfl ?_
      refine m_ald S hw 1 0 3098 rfl (by decide) rfl (vlit (by decide)) dX6_plan_49 ?_
      refine lv_iconst (v := (1 : Int32)) hx hb dX6_plan_50 (by decide) ?_
      refine lv_iadd hx hb dX6_plan_51 ?_
      refine m_ast S hw 1 0 3098 rfl (by decide) rfl (vlit (by decide)) dX6_plan_52 (fun a52 H locs ea52 hw => ?_)
      replace h := h a52 ea52
      refine lv_aload_n hx hb dX6_plan_53 rfl (lv_at hl 0 rfl) ?_
      refine m_get S hw 0 (by decide) q1338 rfl rfl dX6_plan_54 ?_
      refine lv_bipush (v := (8 : Int32)) hx hb dX6_plan_57 (by decide) ?_
      refine m_ald S hw 1 0 3098 rfl (by decide) rfl (vlit (by decide)) dX6_plan_59 ?_
      exact m_iret S hr hlk hw h dX6_plan_60
    · replace h := if_t c20 h
      refine lv_ldc hx hb hown (hts _ q1469) dX6_plan_23 ?_
      exact m_iret S hr hlk hw h dX6_plan_25
  · replace h := if_t c5 h
    refine lv_ldc hx hb hown (hts _ q1468) dX6_plan_8 ?_
    exact m_iret S hr hlk hw h dX6_plan_10
theorem ctM_plan (l : Launch) (D : va_G) (dA : Nat → ClassId) (ad : Nat → Nat) (A : Nat → Prop) (a : MS) (x1 : Int32) (Q : Int32 → MS → Prop) (h : wpM_plan a x1 Q) : Met l yX6_plan (ws_ yX6_plan cX6_plan 2 (some .int)) rmM_plan (mPc D dA ad A a [.ref (ad 38), .int x1]) (mQi D dA ad A Q) 0 0 A :=
  m_met (by decide) rfl rfl rfl (Nat.le_of_ble_eq_true rfl) (fun p e s m below meth c ls S hr hlk hw hl => wkM_plan_e S hr hlk Q x1 a _ _ ls h hw hl)
/-! clear -/
abbrev rmM_clear : Room := { frames := 1, cells := 0, slots := 0, locals := 23 }
def wpM_clear (a : MS) (Q : Int32 → MS → Prop) : Prop := wpM_becomes a (8 : Int32) (0 : Int32) (fun r4 a4 => Q r4 a4)
set_option maxHeartbeats 4000000 in
set_option maxRecDepth 100000 in
theorem wkM_clear_e (S : CallFix p m c cX6_clear 1 s args lw_all RX6) (hr : meth.sig.returnType = (some .int)) (hlk : meth.locks = false) (Q : Int32 → MS → Prop) (a : MS) (H : Heap) (locs : List Loc) (ls : Array Slot) (h : wpM_clear a Q) (hw : MW D dA ad A a s H locs) (hl : lv_has ls 1 [(0, .ref (ad 38))]) : W p l e rmM_clear s m args below meth c H locs 0 0 (MQ below (mQi D dA ad A Q) args s 0 0 A) (F0 m 0 ls []) := by
  have hx := S.1
  have hb := S.2.1
  have hown := S.2.2.2.1
  have hts := S.2.2.2.2
  unfold wpM_clear at h
  refine lv_aload_n hx hb dX6_clear_0 rfl (lv_at hl 0 rfl) ?_
  refine lv_bipush (v := (8 : Int32)) hx hb dX6_clear_1 (by decide) ?_
  refine lv_iconst (v := (0 : Int32)) hx hb dX6_clear_3 (by decide) ?_
  refine m_calli S hw [.int (8 : Int32), .int (0 : Int32)] [] (ctM_becomes l D dA ad A a (8 : Int32) (0 : Int32) _ h) (cwM_becomes hts ⟨Nat.le_of_ble_eq_true rfl, Nat.le_of_ble_eq_true rfl⟩) rfl hl.1 rfl (Nat.le_of_ble_eq_true rfl) dX6_clear_4 ⟨Nat.zero_le _, Nat.zero_le _⟩ (fun r4 a4 H locs h hw => ?_)
  exact m_iret S hr hlk hw h dX6_clear_7
theorem ctM_clear (l : Launch) (D : va_G) (dA : Nat → ClassId) (ad : Nat → Nat) (A : Nat → Prop) (a : MS) (Q : Int32 → MS → Prop) (h : wpM_clear a Q) : Met l yX6_clear (ws_ yX6_clear cX6_clear 1 (some .int)) rmM_clear (mPc D dA ad A a [.ref (ad 38)]) (mQi D dA ad A Q) 0 0 A :=
  m_met (by decide) rfl rfl rfl (Nat.le_of_ble_eq_true rfl) (fun p e s m below meth c ls S hr hlk hw hl => wkM_clear_e S hr hlk Q a _ _ ls h hw hl)
/-! run -/
abbrev rmM_run : Room := { frames := 6, cells := 0, slots := 0, locals := 142 }
def bkM_run_43 (Q : Int32 → MS → Prop) (x1 : Int32) : Nat → Int32 → Int32 → MS → Prop
  | 0 => fun _ _ _ => False
  | n + 1 => fun x2 x3 a => if x1 ≤ x3 then (Q ((a 0 (7 : Int32).toNatClampNeg) - x2) a) else (vp_in ((74 : Int32) + x3) 3098 ∧ (wpM_asks a (a 0 ((74 : Int32) + x3).toNatClampNeg) (fun r58 a58 => bkM_run_43 Q x1 n x2 (x3 + (1 : Int32)) a58)))
set_option maxHeartbeats 4000000 in
set_option maxRecDepth 100000 in
theorem wkM_run_43 (S : CallFix p m c cX6_run 5 s args lw_all RX6) (hr : meth.sig.returnType = (some .int)) (hlk : meth.locks = false) (Q : Int32 → MS → Prop) (x1 : Int32) : ∀ (n : Nat) (x2 : Int32) (x3 : Int32) (a : MS) (H : Heap) (locs : List Loc) (ls : Array Slot), bkM_run_43 Q x1 n x2 x3 a → MW D dA ad A a s H locs → lv_has ls 5 [(0, .ref (ad 38)), (1, .int x1), (2, .int x2), (3, .int x3)] → W p l e rmM_run s m args below meth c H locs 0 0 (MQ below (mQi D dA ad A Q) args s 0 0 A) (F0 m 43 ls []) := by
  have hx := S.1
  have hb := S.2.1
  have hown := S.2.2.2.1
  have hts := S.2.2.2.2
  intro n
  induction n with
  | zero =>
    intro x2 x3 a H locs ls h
    exact False.elim h
  | succ n ih =>
    intro x2 x3 a H locs ls h hw hl
    unfold bkM_run_43 at h
    refine lv_iload_n hx hb dX6_run_43 rfl (lv_at hl 3 rfl) ?_
    refine lv_iload_n hx hb dX6_run_44 rfl (lv_at hl 1 rfl) ?_
    refine lv_icmp_ge (tgt := 69) hx hb dX6_run_45 (by decide) (fun c45 => ?_) (fun c45 => ?_)
    · replace h := if_t c45 h
      refine lv_aload_n hx hb dX6_run_69 rfl (lv_at hl 0 rfl) ?_
      refine m_get S hw 0 (by decide) q1338 rfl rfl dX6_run_70 ?_
      refine lv_bipush (v := (7 : Int32)) hx hb dX6_run_73 (by decide) ?_
      refine m_ald S hw 1 0 3098 rfl (by decide) rfl (vlit (by decide)) dX6_run_75 ?_
      refine lv_iload_n hx hb dX6_run_76 rfl (lv_at hl 2 rfl) ?_
      refine lv_isub hx hb dX6_run_77 ?_
      exact m_iret S hr hlk hw h dX6_run_78
    · replace h := if_f c45 h
      refine lv_aload_n hx hb dX6_run_48 rfl (lv_at hl 0 rfl) ?_
      refine lv_aload_n hx hb dX6_run_49 rfl (lv_at hl 0 rfl) ?_
      refine m_get S hw 0 (by decide) q1338 rfl rfl dX6_run_50 ?_
      refine lv_bipush (v := (74 : Int32)) hx hb dX6_run_53 (by decide) ?_
      refine lv_iload_n hx hb dX6_run_55 rfl (lv_at hl 3 rfl) ?_
      refine lv_iadd hx hb dX6_run_56 ?_
      refine m_ald S hw 1 0 3098 rfl (by decide) rfl h.1 dX6_run_57 ?_
      replace h := h.2
      refine m_calli S hw [.int (a 0 ((74 : Int32) + x3).toNatClampNeg)] [] (ctM_asks l D dA ad A a (a 0 ((74 : Int32) + x3).toNatClampNeg) _ h) (cwM_asks hts ⟨Nat.le_of_ble_eq_true rfl, Nat.le_of_ble_eq_true rfl⟩) rfl hl.1 rfl (Nat.le_of_ble_eq_true rfl) dX6_run_58 ⟨Nat.zero_le _, Nat.zero_le _⟩ (fun r58 a58 H locs h hw => ?_)
      refine lv_istore (lv' := [(4, .int r58), (0, .ref (ad 38)), (1, .int x1), (2, .int x2), (3, .int x3)]) hx hb dX6_run_61 hl (by decide) rfl (fun ls hl => ?_)
      refine lv_iinc (v := (x3 + (1 : Int32))) (lv' := [(3, .int (x3 + (1 : Int32))), (4, .int r58), (0, .ref (ad 38)), (1, .int x1), (2, .int x2)]) hx hb dX6_run_63 hl (k := 4) rfl rfl (by decide) rfl (fun ls hl => ?_)
      refine lv_goto (tgt := 43) hx hb dX6_run_66 (by decide) ?_
      exact ih _ _ _ _ _ _ h hw (lv_sub hl [2, 3, 4, 0] rfl)
def wpM_run (a : MS) (x1 : Int32) (Q : Int32 → MS → Prop) : Prop := wpM_isIn a x1.toInt64 (1 : Int64) (24 : Int64) (fun r6 a6 => if r6 = 0 then (Q (-1000000001 : Int32) a6) else (if x1 ≤ (a6 0 (8 : Int32).toNatClampNeg) then (wpM_knows a6 (fun a30 => ∃ n43, bkM_run_43 Q x1 n43 (a30 0 (7 : Int32).toNatClampNeg) (0 : Int32) a30)) else (Q (-1000000002 : Int32) a6)))
set_option maxHeartbeats 4000000 in
set_option maxRecDepth 100000 in
theorem wkM_run_e (S : CallFix p m c cX6_run 5 s args lw_all RX6) (hr : meth.sig.returnType = (some .int)) (hlk : meth.locks = false) (Q : Int32 → MS → Prop) (x1 : Int32) (a : MS) (H : Heap) (locs : List Loc) (ls : Array Slot) (h : wpM_run a x1 Q) (hw : MW D dA ad A a s H locs) (hl : lv_has ls 5 [(0, .ref (ad 38)), (1, .int x1)]) : W p l e rmM_run s m args below meth c H locs 0 0 (MQ below (mQi D dA ad A Q) args s 0 0 A) (F0 m 0 ls []) := by
  have hx := S.1
  have hb := S.2.1
  have hown := S.2.2.2.1
  have hts := S.2.2.2.2
  unfold wpM_run at h
  refine lv_iload_n hx hb dX6_run_0 rfl (lv_at hl 1 rfl) ?_
  refine lv_i2l (v := x1.toInt64) hx hb dX6_run_1 rfl ?_
  refine lv_lconst (v := 1) hx hb dX6_run_2 (by decide) ?_
  refine lv_ldc2 hx hb hown (hts _ q1654) dX6_run_3 ?_
  refine m_callSi S hw [.long x1.toInt64, .long (1 : Int64), .long (24 : Int64)] [] (ctM_isIn l D dA ad A a x1.toInt64 (1 : Int64) (24 : Int64) _ h) (cwM_isIn hts ⟨Nat.le_of_ble_eq_true rfl, Nat.le_of_ble_eq_true rfl⟩) rfl hl.1 rfl (Nat.le_of_ble_eq_true rfl) dX6_run_6 ⟨Nat.zero_le _, Nat.zero_le _⟩ (fun r6 a6 H locs h hw => ?_)
  refine lv_if_ne (tgt := 15) hx hb dX6_run_9 (by decide) (fun c9 => ?_) (fun c9 => ?_)
  · replace h := if_f c9 h
    refine lv_iload_n hx hb dX6_run_15 rfl (lv_at hl 1 rfl) ?_
    refine lv_aload_n hx hb dX6_run_16 rfl (lv_at hl 0 rfl) ?_
    refine m_get S hw 0 (by decide) q1338 rfl rfl dX6_run_17 ?_
    refine lv_bipush (v := (8 : Int32)) hx hb dX6_run_20 (by decide) ?_
    refine m_ald S hw 1 0 3098 rfl (by decide) rfl (vlit (by decide)) dX6_run_22 ?_
    refine lv_icmp_le (tgt := 29) hx hb dX6_run_23 (by decide) (fun c23 => ?_) (fun c23 => ?_)
    · replace h := if_t c23 h
      refine lv_aload_n hx hb dX6_run_29 rfl (lv_at hl 0 rfl) ?_
      refine m_callv S hw [] [] (ctM_knows l D dA ad A a6 _ h) (cwM_knows hts ⟨Nat.le_of_ble_eq_true rfl, Nat.le_of_ble_eq_true rfl⟩) rfl hl.1 rfl (Nat.le_of_ble_eq_true rfl) dX6_run_30 ⟨Nat.zero_le _, Nat.zero_le _⟩ (fun a30 H locs h hw => ?_)
      refine lv_aload_n hx hb dX6_run_33 rfl (lv_at hl 0 rfl) ?_
      refine m_get S hw 0 (by decide) q1338 rfl rfl dX6_run_34 ?_
      refine lv_bipush (v := (7 : Int32)) hx hb dX6_run_37 (by decide) ?_
      refine m_ald S hw 1 0 3098 rfl (by decide) rfl (vlit (by decide)) dX6_run_39 ?_
      refine lv_istore_n (lv' := [(2, .int (a30 0 (7 : Int32).toNatClampNeg)), (0, .ref (ad 38)), (1, .int x1)]) hx hb dX6_run_40 rfl hl (by decide) rfl (fun ls hl => ?_)
      refine lv_iconst (v := (0 : Int32)) hx hb dX6_run_41 (by decide) ?_
      refine lv_istore_n (lv' := [(3, .int (0 : Int32)), (2, .int (a30 0 (7 : Int32).toNatClampNeg)), (0, .ref (ad 38)), (1, .int x1)]) hx hb dX6_run_42 rfl hl (by decide) rfl (fun ls hl => ?_)
      obtain ⟨n43, h⟩ := h
      exact wkM_run_43 S hr hlk Q x1 n43 _ _ _ _ _ _ h hw (lv_sub hl [2, 3, 1, 0] rfl)
    · replace h := if_f c23 h
      refine lv_ldc hx hb hown (hts _ q1655) dX6_run_26 ?_
      exact m_iret S hr hlk hw h dX6_run_28
  · replace h := if_t c9 h
    refine lv_ldc hx hb hown (hts _ q1468) dX6_run_12 ?_
    exact m_iret S hr hlk hw h dX6_run_14
theorem ctM_run (l : Launch) (D : va_G) (dA : Nat → ClassId) (ad : Nat → Nat) (A : Nat → Prop) (a : MS) (x1 : Int32) (Q : Int32 → MS → Prop) (h : wpM_run a x1 Q) : Met l yX6_run (ws_ yX6_run cX6_run 5 (some .int)) rmM_run (mPc D dA ad A a [.ref (ad 38), .int x1]) (mQi D dA ad A Q) 0 0 A :=
  m_met (by decide) rfl rfl rfl (Nat.le_of_ble_eq_true rfl) (fun p e s m below meth c ls S hr hlk hw hl => wkM_run_e S hr hlk Q x1 a _ _ ls h hw hl)
/-! triesRow -/
abbrev rmM_triesRow : Room := { frames := 0, cells := 0, slots := 0, locals := 0 }
def bkM_triesRow_2 (Q : Int32 → MS → Prop) : Nat → Int32 → MS → Prop
  | 0 => fun _ _ => False
  | n + 1 => fun x1 a => if (a 0 (8 : Int32).toNatClampNeg) ≤ x1 then (Q (a 0 (8 : Int32).toNatClampNeg) a) else (vp_in ((74 : Int32) + x1) 3098 ∧ (vp_in x1 24 ∧ (∀ a27 : MS, a27 = up2 a 16 x1.toNatClampNeg (a 0 ((74 : Int32) + x1).toNatClampNeg) → (bkM_triesRow_2 Q n (x1 + (1 : Int32)) a27))))
set_option maxHeartbeats 4000000 in
set_option maxRecDepth 100000 in
theorem wkM_triesRow_2 (S : CallFix p m c cX6_triesRow 2 s args lw_all RX6) (hr : meth.sig.returnType = (some .int)) (hlk : meth.locks = false) (Q : Int32 → MS → Prop) : ∀ (n : Nat) (x1 : Int32) (a : MS) (H : Heap) (locs : List Loc) (ls : Array Slot), bkM_triesRow_2 Q n x1 a → MW D dA ad A a s H locs → lv_has ls 2 [(0, .ref (ad 38)), (1, .int x1)] → W p l e rmM_triesRow s m args below meth c H locs 0 0 (MQ below (mQi D dA ad A Q) args s 0 0 A) (F0 m 2 ls []) := by
  have hx := S.1
  have hb := S.2.1
  have hown := S.2.2.2.1
  have hts := S.2.2.2.2
  intro n
  induction n with
  | zero =>
    intro x1 a H locs ls h
    exact False.elim h
  | succ n ih =>
    intro x1 a H locs ls h hw hl
    unfold bkM_triesRow_2 at h
    refine lv_iload_n hx hb dX6_triesRow_2 rfl (lv_at hl 1 rfl) ?_
    refine lv_aload_n hx hb dX6_triesRow_3 rfl (lv_at hl 0 rfl) ?_
    refine m_get S hw 0 (by decide) q1338 rfl rfl dX6_triesRow_4 ?_
    refine lv_bipush (v := (8 : Int32)) hx hb dX6_triesRow_7 (by decide) ?_
    refine m_ald S hw 1 0 3098 rfl (by decide) rfl (vlit (by decide)) dX6_triesRow_9 ?_
    refine lv_icmp_ge (tgt := 34) hx hb dX6_triesRow_10 (by decide) (fun c10 => ?_) (fun c10 => ?_)
    · replace h := if_t c10 h
      refine lv_aload_n hx hb dX6_triesRow_34 rfl (lv_at hl 0 rfl) ?_
      refine m_get S hw 0 (by decide) q1338 rfl rfl dX6_triesRow_35 ?_
      refine lv_bipush (v := (8 : Int32)) hx hb dX6_triesRow_38 (by decide) ?_
      refine m_ald S hw 1 0 3098 rfl (by decide) rfl (vlit (by decide)) dX6_triesRow_40 ?_
      exact m_iret S hr hlk hw h dX6_triesRow_41
    · replace h := if_f c10 h
      refine lv_aload_n hx hb dX6_triesRow_13 rfl (lv_at hl 0 rfl) ?_
      refine m_get S hw 16 (by decide) q1354 rfl rfl dX6_triesRow_14 ?_
      refine lv_iload_n hx hb dX6_triesRow_17 rfl (lv_at hl 1 rfl) ?_
      refine lv_aload_n hx hb dX6_triesRow_18 rfl (lv_at hl 0 rfl) ?_
      refine m_get S hw 0 (by decide) q1338 rfl rfl dX6_triesRow_19 ?_
      refine lv_bipush (v := (74 : Int32)) hx hb dX6_triesRow_22 (by decide) ?_
      refine lv_iload_n hx hb dX6_triesRow_24 rfl (lv_at hl 1 rfl) ?_
      refine lv_iadd hx hb dX6_triesRow_25 ?_
      refine m_ald S hw 1 0 3098 rfl (by decide) rfl h.1 dX6_triesRow_26 ?_
      replace h := h.2
      refine m_ast S hw 16 16 24 rfl (by decide) rfl h.1 dX6_triesRow_27 (fun a27 H locs ea27 hw => ?_)
      replace h := h.2 a27 ea27
      refine lv_iinc (v := (x1 + (1 : Int32))) (lv' := [(1, .int (x1 + (1 : Int32))), (0, .ref (ad 38))]) hx hb dX6_triesRow_28 hl (k := 1) rfl rfl (by decide) rfl (fun ls hl => ?_)
      refine lv_goto (tgt := 2) hx hb dX6_triesRow_31 (by decide) ?_
      exact ih _ _ _ _ _ h hw (lv_sub hl [1, 0] rfl)
def wpM_triesRow (a : MS) (Q : Int32 → MS → Prop) : Prop := ∃ n2, bkM_triesRow_2 Q n2 (0 : Int32) a
set_option maxHeartbeats 4000000 in
set_option maxRecDepth 100000 in
theorem wkM_triesRow_e (S : CallFix p m c cX6_triesRow 2 s args lw_all RX6) (hr : meth.sig.returnType = (some .int)) (hlk : meth.locks = false) (Q : Int32 → MS → Prop) (a : MS) (H : Heap) (locs : List Loc) (ls : Array Slot) (h : wpM_triesRow a Q) (hw : MW D dA ad A a s H locs) (hl : lv_has ls 2 [(0, .ref (ad 38))]) : W p l e rmM_triesRow s m args below meth c H locs 0 0 (MQ below (mQi D dA ad A Q) args s 0 0 A) (F0 m 0 ls []) := by
  have hx := S.1
  have hb := S.2.1
  have hown := S.2.2.2.1
  have hts := S.2.2.2.2
  unfold wpM_triesRow at h
  refine lv_iconst (v := (0 : Int32)) hx hb dX6_triesRow_0 (by decide) ?_
  refine lv_istore_n (lv' := [(1, .int (0 : Int32)), (0, .ref (ad 38))]) hx hb dX6_triesRow_1 rfl hl (by decide) rfl (fun ls hl => ?_)
  obtain ⟨n2, h⟩ := h
  exact wkM_triesRow_2 S hr hlk Q n2 _ _ _ _ _ h hw (lv_sub hl [1, 0] rfl)
theorem ctM_triesRow (l : Launch) (D : va_G) (dA : Nat → ClassId) (ad : Nat → Nat) (A : Nat → Prop) (a : MS) (Q : Int32 → MS → Prop) (h : wpM_triesRow a Q) : Met l yX6_triesRow (ws_ yX6_triesRow cX6_triesRow 2 (some .int)) rmM_triesRow (mPc D dA ad A a [.ref (ad 38)]) (mQi D dA ad A Q) 0 0 A :=
  m_met (by decide) rfl rfl rfl (Nat.le_of_ble_eq_true rfl) (fun p e s m below meth c ls S hr hlk hw hl => wkM_triesRow_e S hr hlk Q a _ _ ls h hw hl)
theorem cwM_triesRow {R : Room} {s : State} {args : Array Value} {rm : Room} (hts : ∀ w ∈ lw_all, w.before args s = true) (hR : rm.frames + 1 ≤ R.frames ∧ 8 + (2 + 11) + rm.locals ≤ R.locals) (hc : rm.cells = 0 := by rfl) (hs : rm.slots = 0 := by rfl) : CallW R s args RX6 RX6 195 yX6_triesRow cX6_triesRow 2 (some .int) (ws_ yX6_triesRow cX6_triesRow 2 (some .int)) rm 0 0 0 :=
  cwV 0 hts (lw_V q1660 q1662 qs75 q112 q1663) rfl hc hs (by decide +kernel) hR
/-! wouldCost -/
abbrev rmM_wouldCost : Room := { frames := 6, cells := 0, slots := 0, locals := 142 }
def bkM_wouldCost_68 (Q : Int32 → MS → Prop) (x1 : Int32) : Nat → Int32 → Int32 → MS → Prop
  | 0 => fun _ _ _ => False
  | n + 1 => fun x2 x3 a => if (98 : Int32) ≤ x3 then (Q x2 a) else (vp_in x3 98 ∧ (vp_in x3 3098 ∧ (∀ a85 : MS, a85 = up2 a 0 x3.toNatClampNeg (a 15 x3.toNatClampNeg) → (bkM_wouldCost_68 Q x1 n x2 (x3 + (1 : Int32)) a85))))
set_option maxHeartbeats 4000000 in
set_option maxRecDepth 100000 in
theorem wkM_wouldCost_68 (S : CallFix p m c cX6_wouldCost 4 s args lw_all RX6) (hr : meth.sig.returnType = (some .int)) (hlk : meth.locks = false) (Q : Int32 → MS → Prop) (x1 : Int32) : ∀ (n : Nat) (x2 : Int32) (x3 : Int32) (a : MS) (H : Heap) (locs : List Loc) (ls : Array Slot), bkM_wouldCost_68 Q x1 n x2 x3 a → MW D dA ad A a s H locs → lv_has ls 4 [(0, .ref (ad 38)), (2, .int x2), (3, .int x3)] → W p l e rmM_wouldCost s m args below meth c H locs 0 0 (MQ below (mQi D dA ad A Q) args s 0 0 A) (F0 m 68 ls []) := by
  have hx := S.1
  have hb := S.2.1
  have hown := S.2.2.2.1
  have hts := S.2.2.2.2
  intro n
  induction n with
  | zero =>
    intro x2 x3 a H locs ls h
    exact False.elim h
  | succ n ih =>
    intro x2 x3 a H locs ls h hw hl
    unfold bkM_wouldCost_68 at h
    refine lv_iload_n hx hb dX6_wouldCost_68 rfl (lv_at hl 2 rfl) ?_
    refine lv_bipush (v := (98 : Int32)) hx hb dX6_wouldCost_69 (by decide) ?_
    refine lv_icmp_ge (tgt := 92) hx hb dX6_wouldCost_71 (by decide) (fun c71 => ?_) (fun c71 => ?_)
    · replace h := if_t c71 h
      refine lv_iload_n hx hb dX6_wouldCost_92 rfl (lv_at hl 1 rfl) ?_
      exact m_iret S hr hlk hw h dX6_wouldCost_93
    · replace h := if_f c71 h
      refine lv_aload_n hx hb dX6_wouldCost_74 rfl (lv_at hl 0 rfl) ?_
      refine m_get S hw 0 (by decide) q1338 rfl rfl dX6_wouldCost_75 ?_
      refine lv_iload_n hx hb dX6_wouldCost_78 rfl (lv_at hl 2 rfl) ?_
      refine lv_aload_n hx hb dX6_wouldCost_79 rfl (lv_at hl 0 rfl) ?_
      refine m_get S hw 15 (by decide) q1353 rfl rfl dX6_wouldCost_80 ?_
      refine lv_iload_n hx hb dX6_wouldCost_83 rfl (lv_at hl 2 rfl) ?_
      refine m_ald S hw 15 15 98 rfl (by decide) rfl h.1 dX6_wouldCost_84 ?_
      replace h := h.2
      refine m_ast S hw 1 0 3098 rfl (by decide) rfl h.1 dX6_wouldCost_85 (fun a85 H locs ea85 hw => ?_)
      replace h := h.2 a85 ea85
      refine lv_iinc (v := (x3 + (1 : Int32))) (lv' := [(3, .int (x3 + (1 : Int32))), (0, .ref (ad 38)), (2, .int x2)]) hx hb dX6_wouldCost_86 hl (k := 2) rfl rfl (by decide) rfl (fun ls hl => ?_)
      refine lv_goto (tgt := 68) hx hb dX6_wouldCost_89 (by decide) ?_
      exact ih _ _ _ _ _ _ h hw (lv_sub hl [1, 2, 0] rfl)
def bkM_wouldCost_28 (Q : Int32 → MS → Prop) (x1 : Int32) : Nat → Int32 → MS → Prop
  | 0 => fun _ _ => False
  | n + 1 => fun x2 a => if x1 ≤ x2 then (∃ n68, bkM_wouldCost_68 Q x1 n68 ((a 0 (7 : Int32).toNatClampNeg) - (a 15 (7 : Int32).toNatClampNeg)) (0 : Int32) a) else (vp_in x2 24 ∧ (wpM_asks a (a 16 x2.toNatClampNeg) (fun r40 a40 => bkM_wouldCost_28 Q x1 n (x2 + (1 : Int32)) a40)))
set_option maxHeartbeats 4000000 in
set_option maxRecDepth 100000 in
theorem wkM_wouldCost_28 (S : CallFix p m c cX6_wouldCost 4 s args lw_all RX6) (hr : meth.sig.returnType = (some .int)) (hlk : meth.locks = false) (Q : Int32 → MS → Prop) (x1 : Int32) : ∀ (n : Nat) (x2 : Int32) (a : MS) (H : Heap) (locs : List Loc) (ls : Array Slot), bkM_wouldCost_28 Q x1 n x2 a → MW D dA ad A a s H locs → lv_has ls 4 [(0, .ref (ad 38)), (1, .int x1), (2, .int x2)] → W p l e rmM_wouldCost s m args below meth c H locs 0 0 (MQ below (mQi D dA ad A Q) args s 0 0 A) (F0 m 28 ls []) := by
  have hx := S.1
  have hb := S.2.1
  have hown := S.2.2.2.1
  have hts := S.2.2.2.2
  intro n
  induction n with
  | zero =>
    intro x2 a H locs ls h
    exact False.elim h
  | succ n ih =>
    intro x2 a H locs ls h hw hl
    unfold bkM_wouldCost_28 at h
    refine lv_iload_n hx hb dX6_wouldCost_28 rfl (lv_at hl 2 rfl) ?_
    refine lv_iload_n hx hb dX6_wouldCost_29 rfl (lv_at hl 1 rfl) ?_
    refine lv_icmp_ge (tgt := 50) hx hb dX6_wouldCost_30 (by decide) (fun c30 => ?_) (fun c30 => ?_)
    · replace h := if_t c30 h
      refine lv_aload_n hx hb dX6_wouldCost_50 rfl (lv_at hl 0 rfl) ?_
      refine m_get S hw 0 (by decide) q1338 rfl rfl dX6_wouldCost_51 ?_
      refine lv_bipush (v := (7 : Int32)) hx hb dX6_wouldCost_54 (by decide) ?_
      refine m_ald S hw 1 0 3098 rfl (by decide) rfl (vlit (by decide)) dX6_wouldCost_56 ?_
      refine lv_aload_n hx hb dX6_wouldCost_57 rfl (lv_at hl 0 rfl) ?_
      refine m_get S hw 15 (by decide) q1353 rfl rfl dX6_wouldCost_58 ?_
      refine lv_bipush (v := (7 : Int32)) hx hb dX6_wouldCost_61 (by decide) ?_
      refine m_ald S hw 15 15 98 rfl (by decide) rfl (vlit (by decide)) dX6_wouldCost_63 ?_
      refine lv_isub hx hb dX6_wouldCost_64 ?_
      refine lv_istore_n (lv' := [(2, .int ((a 0 (7 : Int32).toNatClampNeg) - (a 15 (7 : Int32).toNatClampNeg))), (0, .ref (ad 38)), (1, .int x1)]) hx hb dX6_wouldCost_65 rfl hl (by decide) rfl (fun ls hl => ?_)
      refine lv_iconst (v := (0 : Int32)) hx hb dX6_wouldCost_66 (by decide) ?_
      refine lv_istore_n (lv' := [(3, .int (0 : Int32)), (2, .int ((a 0 (7 : Int32).toNatClampNeg) - (a 15 (7 : Int32).toNatClampNeg))), (0, .ref (ad 38)), (1, .int x1)]) hx hb dX6_wouldCost_67 rfl hl (by decide) rfl (fun ls hl => ?_)
      obtain ⟨n68, h⟩ := h
      exact wkM_wouldCost_68 S hr hlk Q x1 n68 _ _ _ _ _ _ h hw (lv_sub hl [2, 1, 0] rfl)
    · replace h := if_f c30 h
      refine lv_aload_n hx hb dX6_wouldCost_33 rfl (lv_at hl 0 rfl) ?_
      refine lv_aload_n hx hb dX6_wouldCost_34 rfl (lv_at hl 0 rfl) ?_
      refine m_get S hw 16 (by decide) q1354 rfl rfl dX6_wouldCost_35 ?_
      refine lv_iload_n hx hb dX6_wouldCost_38 rfl (lv_at hl 2 rfl) ?_
      refine m_ald S hw 16 16 24 rfl (by decide) rfl h.1 dX6_wouldCost_39 ?_
      replace h := h.2
      refine m_calli S hw [.int (a 16 x2.toNatClampNeg)] [] (ctM_asks l D dA ad A a (a 16 x2.toNatClampNeg) _ h) (cwM_asks hts ⟨Nat.le_of_ble_eq_true rfl, Nat.le_of_ble_eq_true rfl⟩) rfl hl.1 rfl (Nat.le_of_ble_eq_true rfl) dX6_wouldCost_40 ⟨Nat.zero_le _, Nat.zero_le _⟩ (fun r40 a40 H locs h hw => ?_)
      refine lv_istore_n (lv' := [(3, .int r40), (0, .ref (ad 38)), (1, .int x1), (2, .int x2)]) hx hb dX6_wouldCost_43 rfl hl (by decide) rfl (fun ls hl => ?_)
      refine lv_iinc (v := (x2 + (1 : Int32))) (lv' := [(2, .int (x2 + (1 : Int32))), (3, .int r40), (0, .ref (ad 38)), (1, .int x1)]) hx hb dX6_wouldCost_44 hl (k := 3) rfl rfl (by decide) rfl (fun ls hl => ?_)
      refine lv_goto (tgt := 28) hx hb dX6_wouldCost_47 (by decide) ?_
      exact ih _ _ _ _ _ h hw (lv_sub hl [2, 3, 0] rfl)
def bkM_wouldCost_2 (Q : Int32 → MS → Prop) (x1 : Int32) : Nat → Int32 → MS → Prop
  | 0 => fun _ _ => False
  | n + 1 => fun x2 a => if (98 : Int32) ≤ x2 then (∃ n28, bkM_wouldCost_28 Q x1 n28 (0 : Int32) a) else (vp_in x2 3098 ∧ (vp_in x2 98 ∧ (∀ a19 : MS, a19 = up2 a 15 x2.toNatClampNeg (a 0 x2.toNatClampNeg) → (bkM_wouldCost_2 Q x1 n (x2 + (1 : Int32)) a19))))
set_option maxHeartbeats 4000000 in
set_option maxRecDepth 100000 in
theorem wkM_wouldCost_2 (S : CallFix p m c cX6_wouldCost 4 s args lw_all RX6) (hr : meth.sig.returnType = (some .int)) (hlk : meth.locks = false) (Q : Int32 → MS → Prop) (x1 : Int32) : ∀ (n : Nat) (x2 : Int32) (a : MS) (H : Heap) (locs : List Loc) (ls : Array Slot), bkM_wouldCost_2 Q x1 n x2 a → MW D dA ad A a s H locs → lv_has ls 4 [(0, .ref (ad 38)), (1, .int x1), (2, .int x2)] → W p l e rmM_wouldCost s m args below meth c H locs 0 0 (MQ below (mQi D dA ad A Q) args s 0 0 A) (F0 m 2 ls []) := by
  have hx := S.1
  have hb := S.2.1
  have hown := S.2.2.2.1
  have hts := S.2.2.2.2
  intro n
  induction n with
  | zero =>
    intro x2 a H locs ls h
    exact False.elim h
  | succ n ih =>
    intro x2 a H locs ls h hw hl
    unfold bkM_wouldCost_2 at h
    refine lv_iload_n hx hb dX6_wouldCost_2 rfl (lv_at hl 2 rfl) ?_
    refine lv_bipush (v := (98 : Int32)) hx hb dX6_wouldCost_3 (by decide) ?_
    refine lv_icmp_ge (tgt := 26) hx hb dX6_wouldCost_5 (by decide) (fun c5 => ?_) (fun c5 => ?_)
    · replace h := if_t c5 h
      refine lv_iconst (v := (0 : Int32)) hx hb dX6_wouldCost_26 (by decide) ?_
      refine lv_istore_n (lv' := [(2, .int (0 : Int32)), (0, .ref (ad 38)), (1, .int x1)]) hx hb dX6_wouldCost_27 rfl hl (by decide) rfl (fun ls hl => ?_)
      obtain ⟨n28, h⟩ := h
      exact wkM_wouldCost_28 S hr hlk Q x1 n28 _ _ _ _ _ h hw (lv_sub hl [1, 2, 0] rfl)
    · replace h := if_f c5 h
      refine lv_aload_n hx hb dX6_wouldCost_8 rfl (lv_at hl 0 rfl) ?_
      refine m_get S hw 15 (by decide) q1353 rfl rfl dX6_wouldCost_9 ?_
      refine lv_iload_n hx hb dX6_wouldCost_12 rfl (lv_at hl 2 rfl) ?_
      refine lv_aload_n hx hb dX6_wouldCost_13 rfl (lv_at hl 0 rfl) ?_
      refine m_get S hw 0 (by decide) q1338 rfl rfl dX6_wouldCost_14 ?_
      refine lv_iload_n hx hb dX6_wouldCost_17 rfl (lv_at hl 2 rfl) ?_
      refine m_ald S hw 1 0 3098 rfl (by decide) rfl h.1 dX6_wouldCost_18 ?_
      replace h := h.2
      refine m_ast S hw 15 15 98 rfl (by decide) rfl h.1 dX6_wouldCost_19 (fun a19 H locs ea19 hw => ?_)
      replace h := h.2 a19 ea19
      refine lv_iinc (v := (x2 + (1 : Int32))) (lv' := [(2, .int (x2 + (1 : Int32))), (0, .ref (ad 38)), (1, .int x1)]) hx hb dX6_wouldCost_20 hl (k := 2) rfl rfl (by decide) rfl (fun ls hl => ?_)
      refine lv_goto (tgt := 2) hx hb dX6_wouldCost_23 (by decide) ?_
      exact ih _ _ _ _ _ h hw (lv_sub hl [1, 2, 0] rfl)
def wpM_wouldCost (a : MS) (x1 : Int32) (Q : Int32 → MS → Prop) : Prop := ∃ n2, bkM_wouldCost_2 Q x1 n2 (0 : Int32) a
set_option maxHeartbeats 4000000 in
set_option maxRecDepth 100000 in
theorem wkM_wouldCost_e (S : CallFix p m c cX6_wouldCost 4 s args lw_all RX6) (hr : meth.sig.returnType = (some .int)) (hlk : meth.locks = false) (Q : Int32 → MS → Prop) (x1 : Int32) (a : MS) (H : Heap) (locs : List Loc) (ls : Array Slot) (h : wpM_wouldCost a x1 Q) (hw : MW D dA ad A a s H locs) (hl : lv_has ls 4 [(0, .ref (ad 38)), (1, .int x1)]) : W p l e rmM_wouldCost s m args below meth c H locs 0 0 (MQ below (mQi D dA ad A Q) args s 0 0 A) (F0 m 0 ls []) := by
  have hx := S.1
  have hb := S.2.1
  have hown := S.2.2.2.1
  have hts := S.2.2.2.2
  unfold wpM_wouldCost at h
  refine lv_iconst (v := (0 : Int32)) hx hb dX6_wouldCost_0 (by decide) ?_
  refine lv_istore_n (lv' := [(2, .int (0 : Int32)), (0, .ref (ad 38)), (1, .int x1)]) hx hb dX6_wouldCost_1 rfl hl (by decide) rfl (fun ls hl => ?_)
  obtain ⟨n2, h⟩ := h
  exact wkM_wouldCost_2 S hr hlk Q x1 n2 _ _ _ _ _ h hw (lv_sub hl [1, 2, 0] rfl)
theorem ctM_wouldCost (l : Launch) (D : va_G) (dA : Nat → ClassId) (ad : Nat → Nat) (A : Nat → Prop) (a : MS) (x1 : Int32) (Q : Int32 → MS → Prop) (h : wpM_wouldCost a x1 Q) : Met l yX6_wouldCost (ws_ yX6_wouldCost cX6_wouldCost 4 (some .int)) rmM_wouldCost (mPc D dA ad A a [.ref (ad 38), .int x1]) (mQi D dA ad A Q) 0 0 A :=
  m_met (by decide) rfl rfl rfl (Nat.le_of_ble_eq_true rfl) (fun p e s m below meth c ls S hr hlk hw hl => wkM_wouldCost_e S hr hlk Q x1 a _ _ ls h hw hl)
theorem cwM_wouldCost {R : Room} {s : State} {args : Array Value} {rm : Room} (hts : ∀ w ∈ lw_all, w.before args s = true) (hR : rm.frames + 1 ≤ R.frames ∧ 8 + (4 + 11) + rm.locals ≤ R.locals) (hc : rm.cells = 0 := by rfl) (hs : rm.slots = 0 := by rfl) : CallW R s args RX6 RX6 198 yX6_wouldCost cX6_wouldCost 4 (some .int) (ws_ yX6_wouldCost cX6_wouldCost 4 (some .int)) rm 0 0 1 :=
  cwV 1 hts (lw_V q1664 q1666 qs76 q112 q1667) rfl hc hs (by decide +kernel) hR
/-! would -/
abbrev rmM_would : Room := { frames := 7, cells := 0, slots := 0, locals := 165 }
def wpM_would (a : MS) (Q : Int32 → MS → Prop) : Prop := wpM_knows a (fun a1 => wpM_triesRow a1 (fun r6 a6 => wpM_wouldCost a6 r6 (fun r9 a9 => Q r9 a9)))
set_option maxHeartbeats 4000000 in
set_option maxRecDepth 100000 in
theorem wkM_would_e (S : CallFix p m c cX6_would 1 s args lw_all RX6) (hr : meth.sig.returnType = (some .int)) (hlk : meth.locks = false) (Q : Int32 → MS → Prop) (a : MS) (H : Heap) (locs : List Loc) (ls : Array Slot) (h : wpM_would a Q) (hw : MW D dA ad A a s H locs) (hl : lv_has ls 1 [(0, .ref (ad 38))]) : W p l e rmM_would s m args below meth c H locs 0 0 (MQ below (mQi D dA ad A Q) args s 0 0 A) (F0 m 0 ls []) := by
  have hx := S.1
  have hb := S.2.1
  have hown := S.2.2.2.1
  have hts := S.2.2.2.2
  unfold wpM_would at h
  refine lv_aload_n hx hb dX6_would_0 rfl (lv_at hl 0 rfl) ?_
  refine m_callv S hw [] [] (ctM_knows l D dA ad A a _ h) (cwM_knows hts ⟨Nat.le_of_ble_eq_true rfl, Nat.le_of_ble_eq_true rfl⟩) rfl hl.1 rfl (Nat.le_of_ble_eq_true rfl) dX6_would_1 ⟨Nat.zero_le _, Nat.zero_le _⟩ (fun a1 H locs h hw => ?_)
  refine lv_aload_n hx hb dX6_would_4 rfl (lv_at hl 0 rfl) ?_
  refine lv_aload_n hx hb dX6_would_5 rfl (lv_at hl 0 rfl) ?_
  refine m_calli S hw [] [.ref (ad 38)] (ctM_triesRow l D dA ad A a1 _ h) (cwM_triesRow hts ⟨Nat.le_of_ble_eq_true rfl, Nat.le_of_ble_eq_true rfl⟩) rfl hl.1 rfl (Nat.le_of_ble_eq_true rfl) dX6_would_6 ⟨Nat.zero_le _, Nat.zero_le _⟩ (fun r6 a6 H locs h hw => ?_)
  refine m_calli S hw [.int r6] [] (ctM_wouldCost l D dA ad A a6 r6 _ h) (cwM_wouldCost hts ⟨Nat.le_of_ble_eq_true rfl, Nat.le_of_ble_eq_true rfl⟩) rfl hl.1 rfl (Nat.le_of_ble_eq_true rfl) dX6_would_9 ⟨Nat.zero_le _, Nat.zero_le _⟩ (fun r9 a9 H locs h hw => ?_)
  exact m_iret S hr hlk hw h dX6_would_12
theorem ctM_would (l : Launch) (D : va_G) (dA : Nat → ClassId) (ad : Nat → Nat) (A : Nat → Prop) (a : MS) (Q : Int32 → MS → Prop) (h : wpM_would a Q) : Met l yX6_would (ws_ yX6_would cX6_would 1 (some .int)) rmM_would (mPc D dA ad A a [.ref (ad 38)]) (mQi D dA ad A Q) 0 0 A :=
  m_met (by decide) rfl rfl rfl (Nat.le_of_ble_eq_true rfl) (fun p e s m below meth c ls S hr hlk hw hl => wkM_would_e S hr hlk Q a _ _ ls h hw hl)
end MWalk

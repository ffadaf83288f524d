section CWalk
variable {p : Program} {l : Launch} {e : Env} {s : State} {m : MethodId} {args : Array Value} {below : List Frame} {meth : Method} {c : Code} {D : va_G} {dA : Nat → ClassId} {ad : Nat → Nat} {fv : Nat → Value} {A : Nat → Prop}
/-! X0.wrong -/
abbrev rmC_X0_wrong : Room := { frames := 0, cells := 0, slots := 0, locals := 0 }
def wpC_X0_wrong (a : CS) (Q : CS → Prop) (E : CS → Prop) : Prop := ∀ a8 : CS, a8 = wI a 85 6 (a.1 0 10) → (E a8)
set_option maxHeartbeats 4000000 in
set_option maxRecDepth 100000 in
theorem wkC_X0_wrong_e (S : CallFix p m c cX0_wrong 1 s args lw_all RX0) (hr : meth.sig.returnType = none) (hlk : meth.locks = false) (hout : ∀ pc, ∀ x ∈ c.exceptionTable.toList, covers x pc = false) (Q : CS → Prop) (E : CS → Prop) (a : CS) (H : Heap) (locs : List Loc) (ls : Array Slot) (h : wpC_X0_wrong a Q E) (hw : CW D dA ad fv A a s H locs) (hl : lv_has ls 1 [(0, .ref (ad 0))]) : W p l e rmC_X0_wrong s m args below meth c H locs 0 0 (MQT below (cT (cQv D dA ad fv A Q) (cE D dA ad fv A (exF ad) E)) args s 0 0 A) (F0 m 0 ls []) := by
  have hx := S.1
  have hb := S.2.1
  have hown := S.2.2.2.1
  have hts := S.2.2.2.2
  unfold wpC_X0_wrong at h
  refine lv_aload_n hx hb dX0_wrong_0 rfl (lv_at hl 0 rfl) ?_
  refine c_get S hw (n := 0) (ci := 0) (cOk.s (by decide)) (isO_K _) rfl in_X0 9 (by decide) (Or.inl q333) rfl rfl dX0_wrong_1 ?_
  refine lv_aload_n hx hb dX0_wrong_4 rfl (lv_at hl 0 rfl) ?_
  refine c_get S hw (n := 0) (ci := 0) (cOk.s (by decide)) (isO_K _) rfl in_X0 10 (by decide) (Or.inl q334) rfl rfl dX0_wrong_5 ?_
  refine c_putI S hw (n := 85) (cOk.s (by decide)) isO_F rfl in_X3 tyX3 tyX3_ok nmX3 6 (by decide) (Or.inr (List.mem_of_getElem? (i := 23) rfl)) rfl rfl rfl rfl (Nat.le_of_ble_eq_true rfl) (fun _ => by simp [upd]) dX0_wrong_8 (fun a8 H locs ea8 hw => ?_)
  replace h := h a8 ea8
  refine lv_aload_n hx hb dX0_wrong_11 rfl (lv_at hl 0 rfl) ?_
  refine c_get S hw (n := 0) (ci := 0) (cOk.s (by decide)) (isO_K _) rfl in_X0 9 (by decide) (Or.inl q333) rfl rfl dX0_wrong_12 ?_
  exact c_athrow S hw h hlk (hout _) (Nat.le_of_ble_eq_true rfl) (Nat.le_of_ble_eq_true rfl) dX0_wrong_15
theorem ctC_X0_wrong (l : Launch) (D : va_G) (dA : Nat → ClassId) (ad : Nat → Nat) (fv : Nat → Value) (A : Nat → Prop) (a : CS) (Q : CS → Prop) (E : CS → Prop) (h : wpC_X0_wrong a Q E) : MetT l yX0_wrong (ws_ yX0_wrong cX0_wrong 1 none) rmC_X0_wrong (cPc D dA ad fv A a [.ref (ad 0)]) (cT (cQv D dA ad fv A Q) (cE D dA ad fv A (exF ad) E)) 0 0 A :=
  c_metT (by decide) rfl rfl rfl (Nat.le_of_ble_eq_true rfl) (fun p e s m below meth c ls S hr hlk hout hw hl => wkC_X0_wrong_e S hr hlk hout Q E a _ _ ls h hw hl)
theorem cwC_X0_X0_wrong {R : Room} {s : State} {args : Array Value} {rm : Room} (hts : ∀ w ∈ lw_all, w.before args s = true) (hR : rm.frames + 1 ≤ R.frames ∧ 8 + (1 + 11) + rm.locals ≤ R.locals) (hc : rm.cells = 0 := by rfl) (hs : rm.slots = 0 := by rfl) : CallW R s args RX0 RX0 184 yX0_wrong cX0_wrong 1 none (ws_ yX0_wrong cX0_wrong 1 none) rm 0 0 0 :=
  cwV 0 hts (lw_V q454 q456 qs4 q103 q457) rfl hc hs (by decide +kernel) hR
/-! X0.goes -/
abbrev rmC_X0_goes : Room := { frames := 2, cells := 0, slots := 0, locals := 42 }
def bkC_X0_goes_290 (Q : CS → Prop) (E : CS → Prop) : CS → Prop := fun a => wpC_X0_wrong a (fun a291 => Q a291) E
set_option maxHeartbeats 4000000 in
set_option maxRecDepth 100000 in
theorem wkC_X0_goes_290 (S : CallFix p m c cX0_goes 5 s args lw_all RX0) (hr : meth.sig.returnType = none) (hlk : meth.locks = false) (hout : ∀ pc, ∀ x ∈ c.exceptionTable.toList, covers x pc = false) (Q : CS → Prop) (E : CS → Prop) : ∀ (a : CS) (H : Heap) (locs : List Loc) (ls : Array Slot), bkC_X0_goes_290 Q E a → CW D dA ad fv A a s H locs → lv_has ls 5 [(0, .ref (ad 0))] → W p l e rmC_X0_goes s m args below meth c H locs 0 0 (MQT below (cT (cQv D dA ad fv A Q) (cE D dA ad fv A (exF ad) E)) args s 0 0 A) (F0 m 290 ls []) := by
  have hx := S.1
  have hb := S.2.1
  have hown := S.2.2.2.1
  have hts := S.2.2.2.2
  intro  a H locs ls h hw hl
  unfold bkC_X0_goes_290 at h
  refine lv_aload_n hx hb dX0_goes_290 rfl (lv_at hl 0 rfl) ?_
  refine c_callTv hw (runTV (As := []) (rest := []) S (ctC_X0_wrong l D dA ad fv A a _ _ h) (cwC_X0_X0_wrong hts ⟨Nat.le_of_ble_eq_true rfl, Nat.le_of_ble_eq_true rfl⟩) (c_preV hw (n := 0) (cOk.s (by decide)) (isO_K _) rfl) rfl rfl hl.1 rfl (lv_room (Nat.le_of_ble_eq_true rfl)) dX0_goes_291 ⟨Nat.le_of_ble_eq_true rfl, Nat.le_of_ble_eq_true rfl⟩) (fun _ _ _ hE hw => c_leaveT hw hE hlk (hout _) (Nat.le_of_ble_eq_true rfl) (Nat.le_of_ble_eq_true rfl)) (fun a291 H locs h hw => ?_)
  exact W.mono (MQ.toT (fun _ _ h9 => Or.inl h9)) (c_vret S hr hlk hw h dX0_goes_294)
def bkC_X0_goes_275 (Q : CS → Prop) (E : CS → Prop) : Int32 → Int32 → Int32 → CS → Prop := fun x2 x3 s0 a => if s0 = 0 then (Q a) else (if x2 = 0 then (if x3 = 0 then (Q a) else (bkC_X0_goes_290 Q E a)) else (bkC_X0_goes_290 Q E a))
set_option maxHeartbeats 4000000 in
set_option maxRecDepth 100000 in
theorem wkC_X0_goes_275 (S : CallFix p m c cX0_goes 5 s args lw_all RX0) (hr : meth.sig.returnType = none) (hlk : meth.locks = false) (hout : ∀ pc, ∀ x ∈ c.exceptionTable.toList, covers x pc = false) (Q : CS → Prop) (E : CS → Prop) : ∀ (x2 : Int32) (x3 : Int32) (s0 : Int32) (a : CS) (H : Heap) (locs : List Loc) (ls : Array Slot), bkC_X0_goes_275 Q E x2 x3 s0 a → CW D dA ad fv A a s H locs → lv_has ls 5 [(0, .ref (ad 0)), (2, .int x2), (3, .int x3)] → W p l e rmC_X0_goes s m args below meth c H locs 0 0 (MQT below (cT (cQv D dA ad fv A Q) (cE D dA ad fv A (exF ad) E)) args s 0 0 A) (F0 m 275 ls [.int s0]) := by
  have hx := S.1
  have hb := S.2.1
  have hown := S.2.2.2.1
  have hts := S.2.2.2.2
  intro x2 x3 s0 a H locs ls h hw hl
  unfold bkC_X0_goes_275 at h
  refine lv_istore (lv' := [(4, .int s0), (0, .ref (ad 0)), (2, .int x2), (3, .int x3)]) hx hb dX0_goes_275 hl (by decide) rfl (fun ls hl => ?_)
  refine lv_iload hx hb dX0_goes_277 (lv_at hl 0 rfl) ?_
  refine lv_if_eq (tgt := 294) hx hb dX0_goes_279 (by decide) (fun c279 => ?_) (fun c279 => ?_)
  · replace h := if_t c279 h
    exact W.mono (MQ.toT (fun _ _ h9 => Or.inl h9)) (c_vret S hr hlk hw h dX0_goes_294)
  · replace h := if_f c279 h
    refine lv_iload_n hx hb dX0_goes_282 rfl (lv_at hl 2 rfl) ?_
    refine lv_if_ne (tgt := 290) hx hb dX0_goes_283 (by decide) (fun c283 => ?_) (fun c283 => ?_)
    · replace h := if_f c283 h
      exact wkC_X0_goes_290 S hr hlk hout Q E _ _ _ _ h hw (lv_sub hl [1] rfl)
    · replace h := if_t c283 h
      refine lv_iload_n hx hb dX0_goes_286 rfl (lv_at hl 3 rfl) ?_
      refine lv_if_eq (tgt := 294) hx hb dX0_goes_287 (by decide) (fun c287 => ?_) (fun c287 => ?_)
      · replace h := if_t c287 h
        exact W.mono (MQ.toT (fun _ _ h9 => Or.inl h9)) (c_vret S hr hlk hw h dX0_goes_294)
      · replace h := if_f c287 h
        exact wkC_X0_goes_290 S hr hlk hout Q E _ _ _ _ h hw (lv_sub hl [1] rfl)
def bkC_X0_goes_274 (Q : CS → Prop) (E : CS → Prop) : Int32 → Int32 → CS → Prop := fun x2 x3 a => bkC_X0_goes_275 Q E x2 x3 (0 : Int32) a
set_option maxHeartbeats 4000000 in
set_option maxRecDepth 100000 in
theorem wkC_X0_goes_274 (S : CallFix p m c cX0_goes 5 s args lw_all RX0) (hr : meth.sig.returnType = none) (hlk : meth.locks = false) (hout : ∀ pc, ∀ x ∈ c.exceptionTable.toList, covers x pc = false) (Q : CS → Prop) (E : CS → Prop) : ∀ (x2 : Int32) (x3 : Int32) (a : CS) (H : Heap) (locs : List Loc) (ls : Array Slot), bkC_X0_goes_274 Q E x2 x3 a → CW D dA ad fv A a s H locs → lv_has ls 5 [(0, .ref (ad 0)), (2, .int x2), (3, .int x3)] → W p l e rmC_X0_goes s m args below meth c H locs 0 0 (MQT below (cT (cQv D dA ad fv A Q) (cE D dA ad fv A (exF ad) E)) args s 0 0 A) (F0 m 274 ls []) := by
  have hx := S.1
  have hb := S.2.1
  have hown := S.2.2.2.1
  have hts := S.2.2.2.2
  intro x2 x3 a H locs ls h hw hl
  unfold bkC_X0_goes_274 at h
  refine lv_iconst (v := (0 : Int32)) hx hb dX0_goes_274 (by decide) ?_
  exact wkC_X0_goes_275 S hr hlk hout Q E _ _ _ _ _ _ _ h hw (lv_sub hl [0, 1, 2] rfl)
def bkC_X0_goes_270 (Q : CS → Prop) (E : CS → Prop) : Int32 → Int32 → CS → Prop := fun x2 x3 a => bkC_X0_goes_275 Q E x2 x3 (1 : Int32) a
set_option maxHeartbeats 4000000 in
set_option maxRecDepth 100000 in
theorem wkC_X0_goes_270 (S : CallFix p m c cX0_goes 5 s args lw_all RX0) (hr : meth.sig.returnType = none) (hlk : meth.locks = false) (hout : ∀ pc, ∀ x ∈ c.exceptionTable.toList, covers x pc = false) (Q : CS → Prop) (E : CS → Prop) : ∀ (x2 : Int32) (x3 : Int32) (a : CS) (H : Heap) (locs : List Loc) (ls : Array Slot), bkC_X0_goes_270 Q E x2 x3 a → CW D dA ad fv A a s H locs → lv_has ls 5 [(0, .ref (ad 0)), (2, .int x2), (3, .int x3)] → W p l e rmC_X0_goes s m args below meth c H locs 0 0 (MQT below (cT (cQv D dA ad fv A Q) (cE D dA ad fv A (exF ad) E)) args s 0 0 A) (F0 m 270 ls []) := by
  have hx := S.1
  have hb := S.2.1
  have hown := S.2.2.2.1
  have hts := S.2.2.2.2
  intro x2 x3 a H locs ls h hw hl
  unfold bkC_X0_goes_270 at h
  refine lv_iconst (v := (1 : Int32)) hx hb dX0_goes_270 (by decide) ?_
  refine lv_goto (tgt := 275) hx hb dX0_goes_271 (by decide) ?_
  exact wkC_X0_goes_275 S hr hlk hout Q E _ _ _ _ _ _ _ h hw (lv_sub hl [0, 1, 2] rfl)
def bkC_X0_goes_230 (Q : CS → Prop) (E : CS → Prop) : Int32 → Int32 → Int32 → CS → Prop := fun x1 x2 x3 a => if (a.1 0 10) = x1 then (if x1 ≤ 0 then (bkC_X0_goes_274 Q E x2 x3 a) else ((vp_in (x1 - (1 : Int32)) 96) ∧ (wpC_X0_isLetter a (a.1 71 (x1 - (1 : Int32)).toNatClampNeg) (fun r250 a250 => if r250 = 0 then ((vp_in (x1 - (1 : Int32)) 96) ∧ (wpC_X0_isDigit a250 (a250.1 71 (x1 - (1 : Int32)).toNatClampNeg) (fun r264 a264 => if r264 = 0 then (bkC_X0_goes_274 Q E x2 x3 a264) else (bkC_X0_goes_270 Q E x2 x3 a264)))) else (bkC_X0_goes_270 Q E x2 x3 a250))))) else (bkC_X0_goes_274 Q E x2 x3 a)
set_option maxHeartbeats 4000000 in
set_option maxRecDepth 100000 in
theorem wkC_X0_goes_230 (S : CallFix p m c cX0_goes 5 s args lw_all RX0) (hr : meth.sig.returnType = none) (hlk : meth.locks = false) (hout : ∀ pc, ∀ x ∈ c.exceptionTable.toList, covers x pc = false) (Q : CS → Prop) (E : CS → Prop) : ∀ (x1 : Int32) (x2 : Int32) (x3 : Int32) (a : CS) (H : Heap) (locs : List Loc) (ls : Array Slot), bkC_X0_goes_230 Q E x1 x2 x3 a → CW D dA ad fv A a s H locs → lv_has ls 5 [(0, .ref (ad 0)), (1, .int x1), (2, .int x2), (3, .int x3)] → W p l e rmC_X0_goes s m args below meth c H locs 0 0 (MQT below (cT (cQv D dA ad fv A Q) (cE D dA ad fv A (exF ad) E)) args s 0 0 A) (F0 m 230 ls []) := by
  have hx := S.1
  have hb := S.2.1
  have hown := S.2.2.2.1
  have hts := S.2.2.2.2
  intro x1 x2 x3 a H locs ls h hw hl
  unfold bkC_X0_goes_230 at h
  refine lv_aload_n hx hb dX0_goes_230 rfl (lv_at hl 0 rfl) ?_
  refine c_get S hw (n := 0) (ci := 0) (cOk.s (by decide)) (isO_K _) rfl in_X0 10 (by decide) (Or.inl q334) rfl rfl dX0_goes_231 ?_
  refine lv_iload_n hx hb dX0_goes_234 rfl (lv_at hl 1 rfl) ?_
  refine lv_icmp_ne (tgt := 274) hx hb dX0_goes_235 (by decide) (fun c235 => ?_) (fun c235 => ?_)
  · replace h := if_f c235 h
    exact wkC_X0_goes_274 S hr hlk hout Q E _ _ _ _ _ _ h hw (lv_sub hl [0, 2, 3] rfl)
  · replace h := if_t c235 h
    refine lv_iload_n hx hb dX0_goes_238 rfl (lv_at hl 1 rfl) ?_
    refine lv_if_le (tgt := 274) hx hb dX0_goes_239 (by decide) (fun c239 => ?_) (fun c239 => ?_)
    · replace h := if_t c239 h
      exact wkC_X0_goes_274 S hr hlk hout Q E _ _ _ _ _ _ h hw (lv_sub hl [0, 2, 3] rfl)
    · replace h := if_f c239 h
      refine lv_aload_n hx hb dX0_goes_242 rfl (lv_at hl 0 rfl) ?_
      refine c_get S hw (n := 0) (ci := 0) (cOk.s (by decide)) (isO_K _) rfl in_X0 7 (by decide) (Or.inl q331) rfl rfl dX0_goes_243 ?_
      refine lv_iload_n hx hb dX0_goes_246 rfl (lv_at hl 1 rfl) ?_
      refine lv_iconst (v := (1 : Int32)) hx hb dX0_goes_247 (by decide) ?_
      refine lv_isub hx hb dX0_goes_248 ?_
      have hi249 := h.1
      replace h := h.2
      refine c_ald S hw (n := 71) (cOk.s (by decide)) (fun _ => rfl) hi249 (Or.inr (Or.inl ⟨rfl, dX0_goes_249⟩)) ?_
      refine c_calli hw (va_runS (As := [.int (a.1 71 (x1 - (1 : Int32)).toNatClampNeg)]) (rest := []) S (ctC_X0_isLetter l D dA ad fv A a (a.1 71 (x1 - (1 : Int32)).toNatClampNeg) _ h) (cwC_X0_X0_isLetter hts ⟨Nat.le_of_ble_eq_true rfl, Nat.le_of_ble_eq_true rfl⟩) (c_preS hw) rfl rfl hl.1 rfl (lv_room (Nat.le_of_ble_eq_true rfl)) dX0_goes_250 ⟨Nat.le_of_ble_eq_true rfl, Nat.le_of_ble_eq_true rfl⟩) (fun r250 a250 H locs h hw => ?_)
      refine lv_if_ne (tgt := 270) hx hb dX0_goes_253 (by decide) (fun c253 => ?_) (fun c253 => ?_)
      · replace h := if_f c253 h
        exact wkC_X0_goes_270 S hr hlk hout Q E _ _ _ _ _ _ h hw (lv_sub hl [0, 2, 3] rfl)
      · replace h := if_t c253 h
        refine lv_aload_n hx hb dX0_goes_256 rfl (lv_at hl 0 rfl) ?_
        refine c_get S hw (n := 0) (ci := 0) (cOk.s (by decide)) (isO_K _) rfl in_X0 7 (by decide) (Or.inl q331) rfl rfl dX0_goes_257 ?_
        refine lv_iload_n hx hb dX0_goes_260 rfl (lv_at hl 1 rfl) ?_
        refine lv_iconst (v := (1 : Int32)) hx hb dX0_goes_261 (by decide) ?_
        refine lv_isub hx hb dX0_goes_262 ?_
        have hi263 := h.1
        replace h := h.2
        refine c_ald S hw (n := 71) (cOk.s (by decide)) (fun _ => rfl) hi263 (Or.inr (Or.inl ⟨rfl, dX0_goes_263⟩)) ?_
        refine c_calli hw (va_runS (As := [.int (a250.1 71 (x1 - (1 : Int32)).toNatClampNeg)]) (rest := []) S (ctC_X0_isDigit l D dA ad fv A a250 (a250.1 71 (x1 - (1 : Int32)).toNatClampNeg) _ h) (cwC_X0_X0_isDigit hts ⟨Nat.le_of_ble_eq_true rfl, Nat.le_of_ble_eq_true rfl⟩) (c_preS hw) rfl rfl hl.1 rfl (lv_room (Nat.le_of_ble_eq_true rfl)) dX0_goes_264 ⟨Nat.le_of_ble_eq_true rfl, Nat.le_of_ble_eq_true rfl⟩) (fun r264 a264 H locs h hw => ?_)
        refine lv_if_eq (tgt := 274) hx hb dX0_goes_267 (by decide) (fun c267 => ?_) (fun c267 => ?_)
        · replace h := if_t c267 h
          exact wkC_X0_goes_274 S hr hlk hout Q E _ _ _ _ _ _ h hw (lv_sub hl [0, 2, 3] rfl)
        · replace h := if_f c267 h
          exact wkC_X0_goes_270 S hr hlk hout Q E _ _ _ _ _ _ h hw (lv_sub hl [0, 2, 3] rfl)
def bkC_X0_goes_170 (Q : CS → Prop) (E : CS → Prop) : Nat → Int32 → Int32 → Int32 → CS → Prop
  | 0 => fun _ _ _ _ => False
  | n + 1 => fun x1 x2 x3 a => if (a.1 0 12) ≤ (a.1 0 11) then (bkC_X0_goes_230 Q E x1 x2 x3 a) else ((vp_in (a.1 0 11) 96) ∧ (wpC_X0_isDigit a (a.1 71 (a.1 0 11).toNatClampNeg) (fun r190 a190 => if r190 = 0 then (bkC_X0_goes_230 Q E x1 x2 x3 a190) else (∀ a203 : CS, a203 = wI a190 0 11 ((a190.1 0 11) + (1 : Int32)) → (bkC_X0_goes_170 Q E n x1 x2 x3 a203)))))
set_option maxHeartbeats 4000000 in
set_option maxRecDepth 100000 in
theorem wkC_X0_goes_170 (S : CallFix p m c cX0_goes 5 s args lw_all RX0) (hr : meth.sig.returnType = none) (hlk : meth.locks = false) (hout : ∀ pc, ∀ x ∈ c.exceptionTable.toList, covers x pc = false) (Q : CS → Prop) (E : CS → Prop) : ∀ (n : Nat) (x1 : Int32) (x2 : Int32) (x3 : Int32) (a : CS) (H : Heap) (locs : List Loc) (ls : Array Slot), bkC_X0_goes_170 Q E n x1 x2 x3 a → CW D dA ad fv A a s H locs → lv_has ls 5 [(0, .ref (ad 0)), (1, .int x1), (2, .int x2), (3, .int x3)] → W p l e rmC_X0_goes s m args below meth c H locs 0 0 (MQT below (cT (cQv D dA ad fv A Q) (cE D dA ad fv A (exF ad) E)) args s 0 0 A) (F0 m 170 ls []) := by
  have hx := S.1
  have hb := S.2.1
  have hown := S.2.2.2.1
  have hts := S.2.2.2.2
  intro n
  induction n with
  | zero =>
    intro x1 x2 x3 a H locs ls h
    exact False.elim h
  | succ n ih =>
    intro x1 x2 x3 a H locs ls h hw hl
    unfold bkC_X0_goes_170 at h
    refine lv_aload_n hx hb dX0_goes_170 rfl (lv_at hl 0 rfl) ?_
    refine c_get S hw (n := 0) (ci := 0) (cOk.s (by decide)) (isO_K _) rfl in_X0 11 (by decide) (Or.inl q335) rfl rfl dX0_goes_171 ?_
    refine lv_aload_n hx hb dX0_goes_174 rfl (lv_at hl 0 rfl) ?_
    refine c_get S hw (n := 0) (ci := 0) (cOk.s (by decide)) (isO_K _) rfl in_X0 12 (by decide) (Or.inl q336) rfl rfl dX0_goes_175 ?_
    refine lv_icmp_ge (tgt := 230) hx hb dX0_goes_178 (by decide) (fun c178 => ?_) (fun c178 => ?_)
    · replace h := if_t c178 h
      exact wkC_X0_goes_230 S hr hlk hout Q E _ _ _ _ _ _ _ h hw (lv_sub hl [0, 1, 2, 3] rfl)
    · replace h := if_f c178 h
      refine lv_aload_n hx hb dX0_goes_181 rfl (lv_at hl 0 rfl) ?_
      refine c_get S hw (n := 0) (ci := 0) (cOk.s (by decide)) (isO_K _) rfl in_X0 7 (by decide) (Or.inl q331) rfl rfl dX0_goes_182 ?_
      refine lv_aload_n hx hb dX0_goes_185 rfl (lv_at hl 0 rfl) ?_
      refine c_get S hw (n := 0) (ci := 0) (cOk.s (by decide)) (isO_K _) rfl in_X0 11 (by decide) (Or.inl q335) rfl rfl dX0_goes_186 ?_
      have hi189 := h.1
      replace h := h.2
      refine c_ald S hw (n := 71) (cOk.s (by decide)) (fun _ => rfl) hi189 (Or.inr (Or.inl ⟨rfl, dX0_goes_189⟩)) ?_
      refine c_calli hw (va_runS (As := [.int (a.1 71 (a.1 0 11).toNatClampNeg)]) (rest := []) S (ctC_X0_isDigit l D dA ad fv A a (a.1 71 (a.1 0 11).toNatClampNeg) _ h) (cwC_X0_X0_isDigit hts ⟨Nat.le_of_ble_eq_true rfl, Nat.le_of_ble_eq_true rfl⟩) (c_preS hw) rfl rfl hl.1 rfl (lv_room (Nat.le_of_ble_eq_true rfl)) dX0_goes_190 ⟨Nat.le_of_ble_eq_true rfl, Nat.le_of_ble_eq_true rfl⟩) (fun r190 a190 H locs h hw => ?_)
      refine lv_if_eq (tgt := 230) hx hb dX0_goes_193 (by decide) (fun c193 => ?_) (fun c193 => ?_)
      · replace h := if_t c193 h
        exact wkC_X0_goes_230 S hr hlk hout Q E _ _ _ _ _ _ _ h hw (lv_sub hl [0, 1, 2, 3] rfl)
      · replace h := if_f c193 h
        refine lv_aload_n hx hb dX0_goes_196 rfl (lv_at hl 0 rfl) ?_
        refine lv_dup hx hb dX0_goes_197 rfl ?_
        refine c_get S hw (n := 0) (ci := 0) (cOk.s (by decide)) (isO_K _) rfl in_X0 11 (by decide) (Or.inl q335) rfl rfl dX0_goes_198 ?_
        refine lv_iconst (v := (1 : Int32)) hx hb dX0_goes_201 (by decide) ?_
        refine lv_iadd hx hb dX0_goes_202 ?_
        refine c_putI S hw (n := 0) (cOk.s (by decide)) isO_K rfl in_X0 tyX0 tyX0_ok nmX0 11 (by decide) (Or.inl q335) rfl rfl rfl rfl (Nat.le_of_ble_eq_true rfl) (fun _ => kset_11) dX0_goes_203 (fun a203 H locs ea203 hw => ?_)
        replace h := h a203 ea203
        refine lv_goto (tgt := 170) hx hb dX0_goes_206 (by decide) ?_
        exact ih _ _ _ _ _ _ _ h hw (lv_sub hl [0, 1, 2, 3] rfl)
def bkC_X0_goes_127 (Q : CS → Prop) (E : CS → Prop) : Nat → Int32 → Int32 → Int32 → CS → Prop
  | 0 => fun _ _ _ _ => False
  | n + 1 => fun x1 x2 x3 a => if (a.1 0 12) ≤ (a.1 0 11) then (bkC_X0_goes_230 Q E x1 x2 x3 a) else ((vp_in (a.1 0 11) 96) ∧ (wpC_X0_isLetter a (a.1 71 (a.1 0 11).toNatClampNeg) (fun r147 a147 => if r147 = 0 then (bkC_X0_goes_230 Q E x1 x2 x3 a147) else (∀ a160 : CS, a160 = wI a147 0 11 ((a147.1 0 11) + (1 : Int32)) → (bkC_X0_goes_127 Q E n x1 x2 x3 a160)))))
set_option maxHeartbeats 4000000 in
set_option maxRecDepth 100000 in
theorem wkC_X0_goes_127 (S : CallFix p m c cX0_goes 5 s args lw_all RX0) (hr : meth.sig.returnType = none) (hlk : meth.locks = false) (hout : ∀ pc, ∀ x ∈ c.exceptionTable.toList, covers x pc = false) (Q : CS → Prop) (E : CS → Prop) : ∀ (n : Nat) (x1 : Int32) (x2 : Int32) (x3 : Int32) (a : CS) (H : Heap) (locs : List Loc) (ls : Array Slot), bkC_X0_goes_127 Q E n x1 x2 x3 a → CW D dA ad fv A a s H locs → lv_has ls 5 [(0, .ref (ad 0)), (1, .int x1), (2, .int x2), (3, .int x3)] → W p l e rmC_X0_goes s m args below meth c H locs 0 0 (MQT below (cT (cQv D dA ad fv A Q) (cE D dA ad fv A (exF ad) E)) args s 0 0 A) (F0 m 127 ls []) := by
  have hx := S.1
  have hb := S.2.1
  have hown := S.2.2.2.1
  have hts := S.2.2.2.2
  intro n
  induction n with
  | zero =>
    intro x1 x2 x3 a H locs ls h
    exact False.elim h
  | succ n ih =>
    intro x1 x2 x3 a H locs ls h hw hl
    unfold bkC_X0_goes_127 at h
    refine lv_aload_n hx hb dX0_goes_127 rfl (lv_at hl 0 rfl) ?_
    refine c_get S hw (n := 0) (ci := 0) (cOk.s (by decide)) (isO_K _) rfl in_X0 11 (by decide) (Or.inl q335) rfl rfl dX0_goes_128 ?_
    refine lv_aload_n hx hb dX0_goes_131 rfl (lv_at hl 0 rfl) ?_
    refine c_get S hw (n := 0) (ci := 0) (cOk.s (by decide)) (isO_K _) rfl in_X0 12 (by decide) (Or.inl q336) rfl rfl dX0_goes_132 ?_
    refine lv_icmp_ge (tgt := 230) hx hb dX0_goes_135 (by decide) (fun c135 => ?_) (fun c135 => ?_)
    · replace h := if_t c135 h
      exact wkC_X0_goes_230 S hr hlk hout Q E _ _ _ _ _ _ _ h hw (lv_sub hl [0, 1, 2, 3] rfl)
    · replace h := if_f c135 h
      refine lv_aload_n hx hb dX0_goes_138 rfl (lv_at hl 0 rfl) ?_
      refine c_get S hw (n := 0) (ci := 0) (cOk.s (by decide)) (isO_K _) rfl in_X0 7 (by decide) (Or.inl q331) rfl rfl dX0_goes_139 ?_
      refine lv_aload_n hx hb dX0_goes_142 rfl (lv_at hl 0 rfl) ?_
      refine c_get S hw (n := 0) (ci := 0) (cOk.s (by decide)) (isO_K _) rfl in_X0 11 (by decide) (Or.inl q335) rfl rfl dX0_goes_143 ?_
      have hi146 := h.1
      replace h := h.2
      refine c_ald S hw (n := 71) (cOk.s (by decide)) (fun _ => rfl) hi146 (Or.inr (Or.inl ⟨rfl, dX0_goes_146⟩)) ?_
      refine c_calli hw (va_runS (As := [.int (a.1 71 (a.1 0 11).toNatClampNeg)]) (rest := []) S (ctC_X0_isLetter l D dA ad fv A a (a.1 71 (a.1 0 11).toNatClampNeg) _ h) (cwC_X0_X0_isLetter hts ⟨Nat.le_of_ble_eq_true rfl, Nat.le_of_ble_eq_true rfl⟩) (c_preS hw) rfl rfl hl.1 rfl (lv_room (Nat.le_of_ble_eq_true rfl)) dX0_goes_147 ⟨Nat.le_of_ble_eq_true rfl, Nat.le_of_ble_eq_true rfl⟩) (fun r147 a147 H locs h hw => ?_)
      refine lv_if_eq (tgt := 230) hx hb dX0_goes_150 (by decide) (fun c150 => ?_) (fun c150 => ?_)
      · replace h := if_t c150 h
        exact wkC_X0_goes_230 S hr hlk hout Q E _ _ _ _ _ _ _ h hw (lv_sub hl [0, 1, 2, 3] rfl)
      · replace h := if_f c150 h
        refine lv_aload_n hx hb dX0_goes_153 rfl (lv_at hl 0 rfl) ?_
        refine lv_dup hx hb dX0_goes_154 rfl ?_
        refine c_get S hw (n := 0) (ci := 0) (cOk.s (by decide)) (isO_K _) rfl in_X0 11 (by decide) (Or.inl q335) rfl rfl dX0_goes_155 ?_
        refine lv_iconst (v := (1 : Int32)) hx hb dX0_goes_158 (by decide) ?_
        refine lv_iadd hx hb dX0_goes_159 ?_
        refine c_putI S hw (n := 0) (cOk.s (by decide)) isO_K rfl in_X0 tyX0 tyX0_ok nmX0 11 (by decide) (Or.inl q335) rfl rfl rfl rfl (Nat.le_of_ble_eq_true rfl) (fun _ => kset_11) dX0_goes_160 (fun a160 H locs ea160 hw => ?_)
        replace h := h a160 ea160
        refine lv_goto (tgt := 127) hx hb dX0_goes_163 (by decide) ?_
        exact ih _ _ _ _ _ _ _ h hw (lv_sub hl [0, 1, 2, 3] rfl)
def bkC_X0_goes_122 (Q : CS → Prop) (E : CS → Prop) : Int32 → Int32 → Int32 → CS → Prop := fun x1 x2 s0 a => if x2 = 0 then (if s0 = 0 then (if (a.1 0 12) ≤ (a.1 0 10) then (bkC_X0_goes_230 Q E x1 x2 s0 a) else (∀ a227 : CS, a227 = wI a 0 11 ((a.1 0 11) + (1 : Int32)) → (bkC_X0_goes_230 Q E x1 x2 s0 a227))) else (∃ n170, bkC_X0_goes_170 Q E n170 x1 x2 s0 a)) else (∃ n127, bkC_X0_goes_127 Q E n127 x1 x2 s0 a)
set_option maxHeartbeats 4000000 in
set_option maxRecDepth 100000 in
theorem wkC_X0_goes_122 (S : CallFix p m c cX0_goes 5 s args lw_all RX0) (hr : meth.sig.returnType = none) (hlk : meth.locks = false) (hout : ∀ pc, ∀ x ∈ c.exceptionTable.toList, covers x pc = false) (Q : CS → Prop) (E : CS → Prop) : ∀ (x1 : Int32) (x2 : Int32) (s0 : Int32) (a : CS) (H : Heap) (locs : List Loc) (ls : Array Slot), bkC_X0_goes_122 Q E x1 x2 s0 a → CW D dA ad fv A a s H locs → lv_has ls 5 [(0, .ref (ad 0)), (1, .int x1), (2, .int x2)] → W p l e rmC_X0_goes s m args below meth c H locs 0 0 (MQT below (cT (cQv D dA ad fv A Q) (cE D dA ad fv A (exF ad) E)) args s 0 0 A) (F0 m 122 ls [.int s0]) := by
  have hx := S.1
  have hb := S.2.1
  have hown := S.2.2.2.1
  have hts := S.2.2.2.2
  intro x1 x2 s0 a H locs ls h hw hl
  unfold bkC_X0_goes_122 at h
  refine lv_istore_n (lv' := [(3, .int s0), (0, .ref (ad 0)), (1, .int x1), (2, .int x2)]) hx hb dX0_goes_122 rfl hl (by decide) rfl (fun ls hl => ?_)
  refine lv_iload_n hx hb dX0_goes_123 rfl (lv_at hl 3 rfl) ?_
  refine lv_if_eq (tgt := 166) hx hb dX0_goes_124 (by decide) (fun c124 => ?_) (fun c124 => ?_)
  · replace h := if_t c124 h
    refine lv_iload_n hx hb dX0_goes_166 rfl (lv_at hl 0 rfl) ?_
    refine lv_if_eq (tgt := 209) hx hb dX0_goes_167 (by decide) (fun c167 => ?_) (fun c167 => ?_)
    · replace h := if_t c167 h
      refine lv_aload_n hx hb dX0_goes_209 rfl (lv_at hl 1 rfl) ?_
      refine c_get S hw (n := 0) (ci := 0) (cOk.s (by decide)) (isO_K _) rfl in_X0 10 (by decide) (Or.inl q334) rfl rfl dX0_goes_210 ?_
      refine lv_aload_n hx hb dX0_goes_213 rfl (lv_at hl 1 rfl) ?_
      refine c_get S hw (n := 0) (ci := 0) (cOk.s (by decide)) (isO_K _) rfl in_X0 12 (by decide) (Or.inl q336) rfl rfl dX0_goes_214 ?_
      refine lv_icmp_ge (tgt := 230) hx hb dX0_goes_217 (by decide) (fun c217 => ?_) (fun c217 => ?_)
      · replace h := if_t c217 h
        exact wkC_X0_goes_230 S hr hlk hout Q E _ _ _ _ _ _ _ h hw (lv_sub hl [1, 2, 3, 0] rfl)
      · replace h := if_f c217 h
        refine lv_aload_n hx hb dX0_goes_220 rfl (lv_at hl 1 rfl) ?_
        refine lv_dup hx hb dX0_goes_221 rfl ?_
        refine c_get S hw (n := 0) (ci := 0) (cOk.s (by decide)) (isO_K _) rfl in_X0 11 (by decide) (Or.inl q335) rfl rfl dX0_goes_222 ?_
        refine lv_iconst (v := (1 : Int32)) hx hb dX0_goes_225 (by decide) ?_
        refine lv_iadd hx hb dX0_goes_226 ?_
        refine c_putI S hw (n := 0) (cOk.s (by decide)) isO_K rfl in_X0 tyX0 tyX0_ok nmX0 11 (by decide) (Or.inl q335) rfl rfl rfl rfl (Nat.le_of_ble_eq_true rfl) (fun _ => kset_11) dX0_goes_227 (fun a227 H locs ea227 hw => ?_)
        replace h := h a227 ea227
        exact wkC_X0_goes_230 S hr hlk hout Q E _ _ _ _ _ _ _ h hw (lv_sub hl [1, 2, 3, 0] rfl)
    · replace h := if_f c167 h
      obtain ⟨n170, h⟩ := h
      exact wkC_X0_goes_170 S hr hlk hout Q E n170 _ _ _ _ _ _ _ h hw (lv_sub hl [1, 2, 3, 0] rfl)
  · replace h := if_f c124 h
    obtain ⟨n127, h⟩ := h
    exact wkC_X0_goes_127 S hr hlk hout Q E n127 _ _ _ _ _ _ _ h hw (lv_sub hl [1, 2, 3, 0] rfl)
def bkC_X0_goes_121 (Q : CS → Prop) (E : CS → Prop) : Int32 → Int32 → CS → Prop := fun x1 x2 a => bkC_X0_goes_122 Q E x1 x2 (0 : Int32) a
set_option maxHeartbeats 4000000 in
set_option maxRecDepth 100000 in
theorem wkC_X0_goes_121 (S : CallFix p m c cX0_goes 5 s args lw_all RX0) (hr : meth.sig.returnType = none) (hlk : meth.locks = false) (hout : ∀ pc, ∀ x ∈ c.exceptionTable.toList, covers x pc = false) (Q : CS → Prop) (E : CS → Prop) : ∀ (x1 : Int32) (x2 : Int32) (a : CS) (H : Heap) (locs : List Loc) (ls : Array Slot), bkC_X0_goes_121 Q E x1 x2 a → CW D dA ad fv A a s H locs → lv_has ls 5 [(0, .ref (ad 0)), (1, .int x1), (2, .int x2)] → W p l e rmC_X0_goes s m args below meth c H locs 0 0 (MQT below (cT (cQv D dA ad fv A Q) (cE D dA ad fv A (exF ad) E)) args s 0 0 A) (F0 m 121 ls []) := by
  have hx := S.1
  have hb := S.2.1
  have hown := S.2.2.2.1
  have hts := S.2.2.2.2
  intro x1 x2 a H locs ls h hw hl
  unfold bkC_X0_goes_121 at h
  refine lv_iconst (v := (0 : Int32)) hx hb dX0_goes_121 (by decide) ?_
  exact wkC_X0_goes_122 S hr hlk hout Q E _ _ _ _ _ _ _ h hw (lv_sub hl [0, 1, 2] rfl)
def bkC_X0_goes_90 (Q : CS → Prop) (E : CS → Prop) : Int32 → Int32 → CS → Prop := fun x1 s0 a => if (a.1 0 12) ≤ (a.1 0 10) then (bkC_X0_goes_121 Q E x1 s0 a) else ((vp_in (a.1 0 10) 96) ∧ (wpC_X0_isDigit a (a.1 71 (a.1 0 10).toNatClampNeg) (fun r111 a111 => if r111 = 0 then (bkC_X0_goes_121 Q E x1 s0 a111) else (bkC_X0_goes_122 Q E x1 s0 (1 : Int32) a111))))
set_option maxHeartbeats 4000000 in
set_option maxRecDepth 100000 in
theorem wkC_X0_goes_90 (S : CallFix p m c cX0_goes 5 s args lw_all RX0) (hr : meth.sig.returnType = none) (hlk : meth.locks = false) (hout : ∀ pc, ∀ x ∈ c.exceptionTable.toList, covers x pc = false) (Q : CS → Prop) (E : CS → Prop) : ∀ (x1 : Int32) (s0 : Int32) (a : CS) (H : Heap) (locs : List Loc) (ls : Array Slot), bkC_X0_goes_90 Q E x1 s0 a → CW D dA ad fv A a s H locs → lv_has ls 5 [(0, .ref (ad 0)), (1, .int x1)] → W p l e rmC_X0_goes s m args below meth c H locs 0 0 (MQT below (cT (cQv D dA ad fv A Q) (cE D dA ad fv A (exF ad) E)) args s 0 0 A) (F0 m 90 ls [.int s0]) := by
  have hx := S.1
  have hb := S.2.1
  have hown := S.2.2.2.1
  have hts := S.2.2.2.2
  intro x1 s0 a H locs ls h hw hl
  unfold bkC_X0_goes_90 at h
  refine lv_istore_n (lv' := [(2, .int s0), (0, .ref (ad 0)), (1, .int x1)]) hx hb dX0_goes_90 rfl hl (by decide) rfl (fun ls hl => ?_)
  refine lv_aload_n hx hb dX0_goes_91 rfl (lv_at hl 1 rfl) ?_
  refine c_get S hw (n := 0) (ci := 0) (cOk.s (by decide)) (isO_K _) rfl in_X0 10 (by decide) (Or.inl q334) rfl rfl dX0_goes_92 ?_
  refine lv_aload_n hx hb dX0_goes_95 rfl (lv_at hl 1 rfl) ?_
  refine c_get S hw (n := 0) (ci := 0) (cOk.s (by decide)) (isO_K _) rfl in_X0 12 (by decide) (Or.inl q336) rfl rfl dX0_goes_96 ?_
  refine lv_icmp_ge (tgt := 121) hx hb dX0_goes_99 (by decide) (fun c99 => ?_) (fun c99 => ?_)
  · replace h := if_t c99 h
    exact wkC_X0_goes_121 S hr hlk hout Q E _ _ _ _ _ _ h hw (lv_sub hl [1, 2, 0] rfl)
  · replace h := if_f c99 h
    refine lv_aload_n hx hb dX0_goes_102 rfl (lv_at hl 1 rfl) ?_
    refine c_get S hw (n := 0) (ci := 0) (cOk.s (by decide)) (isO_K _) rfl in_X0 7 (by decide) (Or.inl q331) rfl rfl dX0_goes_103 ?_
    refine lv_aload_n hx hb dX0_goes_106 rfl (lv_at hl 1 rfl) ?_
    refine c_get S hw (n := 0) (ci := 0) (cOk.s (by decide)) (isO_K _) rfl in_X0 10 (by decide) (Or.inl q334) rfl rfl dX0_goes_107 ?_
    have hi110 := h.1
    replace h := h.2
    refine c_ald S hw (n := 71) (cOk.s (by decide)) (fun _ => rfl) hi110 (Or.inr (Or.inl ⟨rfl, dX0_goes_110⟩)) ?_
    refine c_calli hw (va_runS (As := [.int (a.1 71 (a.1 0 10).toNatClampNeg)]) (rest := []) S (ctC_X0_isDigit l D dA ad fv A a (a.1 71 (a.1 0 10).toNatClampNeg) _ h) (cwC_X0_X0_isDigit hts ⟨Nat.le_of_ble_eq_true rfl, Nat.le_of_ble_eq_true rfl⟩) (c_preS hw) rfl rfl hl.1 rfl (lv_room (Nat.le_of_ble_eq_true rfl)) dX0_goes_111 ⟨Nat.le_of_ble_eq_true rfl, Nat.le_of_ble_eq_true rfl⟩) (fun r111 a111 H locs h hw => ?_)
    refine lv_if_eq (tgt := 121) hx hb dX0_goes_114 (by decide) (fun c114 => ?_) (fun c114 => ?_)
    · replace h := if_t c114 h
      exact wkC_X0_goes_121 S hr hlk hout Q E _ _ _ _ _ _ h hw (lv_sub hl [1, 2, 0] rfl)
    · replace h := if_f c114 h
      refine lv_iconst (v := (1 : Int32)) hx hb dX0_goes_117 (by decide) ?_
      refine lv_goto (tgt := 122) hx hb dX0_goes_118 (by decide) ?_
      exact wkC_X0_goes_122 S hr hlk hout Q E _ _ _ _ _ _ _ h hw (lv_sub hl [1, 2, 0] rfl)
def bkC_X0_goes_89 (Q : CS → Prop) (E : CS → Prop) : Int32 → CS → Prop := fun x1 a => bkC_X0_goes_90 Q E x1 (0 : Int32) a
set_option maxHeartbeats 4000000 in
set_option maxRecDepth 100000 in
theorem wkC_X0_goes_89 (S : CallFix p m c cX0_goes 5 s args lw_all RX0) (hr : meth.sig.returnType = none) (hlk : meth.locks = false) (hout : ∀ pc, ∀ x ∈ c.exceptionTable.toList, covers x pc = false) (Q : CS → Prop) (E : CS → Prop) : ∀ (x1 : Int32) (a : CS) (H : Heap) (locs : List Loc) (ls : Array Slot), bkC_X0_goes_89 Q E x1 a → CW D dA ad fv A a s H locs → lv_has ls 5 [(0, .ref (ad 0)), (1, .int x1)] → W p l e rmC_X0_goes s m args below meth c H locs 0 0 (MQT below (cT (cQv D dA ad fv A Q) (cE D dA ad fv A (exF ad) E)) args s 0 0 A) (F0 m 89 ls []) := by
  have hx := S.1
  have hb := S.2.1
  have hown := S.2.2.2.1
  have hts := S.2.2.2.2
  intro x1 a H locs ls h hw hl
  unfold bkC_X0_goes_89 at h
  refine lv_iconst (v := (0 : Int32)) hx hb dX0_goes_89 (by decide) ?_
  exact wkC_X0_goes_90 S hr hlk hout Q E _ _ _ _ _ _ h hw (lv_sub hl [0, 1] rfl)
def bkC_X0_goes_51 (Q : CS → Prop) (E : CS → Prop) : Int32 → CS → Prop := fun x1 a => ∀ a56 : CS, a56 = wI a 0 11 (a.1 0 10) → (if (a56.1 0 12) ≤ (a56.1 0 10) then (bkC_X0_goes_89 Q E x1 a56) else ((vp_in (a56.1 0 10) 96) ∧ (wpC_X0_isLetter a56 (a56.1 71 (a56.1 0 10).toNatClampNeg) (fun r79 a79 => if r79 = 0 then (bkC_X0_goes_89 Q E x1 a79) else (bkC_X0_goes_90 Q E x1 (1 : Int32) a79)))))
set_option maxHeartbeats 4000000 in
set_option maxRecDepth 100000 in
theorem wkC_X0_goes_51 (S : CallFix p m c cX0_goes 5 s args lw_all RX0) (hr : meth.sig.returnType = none) (hlk : meth.locks = false) (hout : ∀ pc, ∀ x ∈ c.exceptionTable.toList, covers x pc = false) (Q : CS → Prop) (E : CS → Prop) : ∀ (x1 : Int32) (a : CS) (H : Heap) (locs : List Loc) (ls : Array Slot), bkC_X0_goes_51 Q E x1 a → CW D dA ad fv A a s H locs → lv_has ls 5 [(0, .ref (ad 0)), (1, .int x1)] → W p l e rmC_X0_goes s m args below meth c H locs 0 0 (MQT below (cT (cQv D dA ad fv A Q) (cE D dA ad fv A (exF ad) E)) args s 0 0 A) (F0 m 51 ls []) := by
  have hx := S.1
  have hb := S.2.1
  have hown := S.2.2.2.1
  have hts := S.2.2.2.2
  intro x1 a H locs ls h hw hl
  unfold bkC_X0_goes_51 at h
  refine lv_aload_n hx hb dX0_goes_51 rfl (lv_at hl 0 rfl) ?_
  refine lv_aload_n hx hb dX0_goes_52 rfl (lv_at hl 0 rfl) ?_
  refine c_get S hw (n := 0) (ci := 0) (cOk.s (by decide)) (isO_K _) rfl in_X0 10 (by decide) (Or.inl q334) rfl rfl dX0_goes_53 ?_
  refine c_putI S hw (n := 0) (cOk.s (by decide)) isO_K rfl in_X0 tyX0 tyX0_ok nmX0 11 (by decide) (Or.inl q335) rfl rfl rfl rfl (Nat.le_of_ble_eq_true rfl) (fun _ => kset_11) dX0_goes_56 (fun a56 H locs ea56 hw => ?_)
  replace h := h a56 ea56
  refine lv_aload_n hx hb dX0_goes_59 rfl (lv_at hl 0 rfl) ?_
  refine c_get S hw (n := 0) (ci := 0) (cOk.s (by decide)) (isO_K _) rfl in_X0 10 (by decide) (Or.inl q334) rfl rfl dX0_goes_60 ?_
  refine lv_aload_n hx hb dX0_goes_63 rfl (lv_at hl 0 rfl) ?_
  refine c_get S hw (n := 0) (ci := 0) (cOk.s (by decide)) (isO_K _) rfl in_X0 12 (by decide) (Or.inl q336) rfl rfl dX0_goes_64 ?_
  refine lv_icmp_ge (tgt := 89) hx hb dX0_goes_67 (by decide) (fun c67 => ?_) (fun c67 => ?_)
  · replace h := if_t c67 h
    exact wkC_X0_goes_89 S hr hlk hout Q E _ _ _ _ _ h hw (lv_sub hl [0, 1] rfl)
  · replace h := if_f c67 h
    refine lv_aload_n hx hb dX0_goes_70 rfl (lv_at hl 0 rfl) ?_
    refine c_get S hw (n := 0) (ci := 0) (cOk.s (by decide)) (isO_K _) rfl in_X0 7 (by decide) (Or.inl q331) rfl rfl dX0_goes_71 ?_
    refine lv_aload_n hx hb dX0_goes_74 rfl (lv_at hl 0 rfl) ?_
    refine c_get S hw (n := 0) (ci := 0) (cOk.s (by decide)) (isO_K _) rfl in_X0 10 (by decide) (Or.inl q334) rfl rfl dX0_goes_75 ?_
    have hi78 := h.1
    replace h := h.2
    refine c_ald S hw (n := 71) (cOk.s (by decide)) (fun _ => rfl) hi78 (Or.inr (Or.inl ⟨rfl, dX0_goes_78⟩)) ?_
    refine c_calli hw (va_runS (As := [.int (a56.1 71 (a56.1 0 10).toNatClampNeg)]) (rest := []) S (ctC_X0_isLetter l D dA ad fv A a56 (a56.1 71 (a56.1 0 10).toNatClampNeg) _ h) (cwC_X0_X0_isLetter hts ⟨Nat.le_of_ble_eq_true rfl, Nat.le_of_ble_eq_true rfl⟩) (c_preS hw) rfl rfl hl.1 rfl (lv_room (Nat.le_of_ble_eq_true rfl)) dX0_goes_79 ⟨Nat.le_of_ble_eq_true rfl, Nat.le_of_ble_eq_true rfl⟩) (fun r79 a79 H locs h hw => ?_)
    refine lv_if_eq (tgt := 89) hx hb dX0_goes_82 (by decide) (fun c82 => ?_) (fun c82 => ?_)
    · replace h := if_t c82 h
      exact wkC_X0_goes_89 S hr hlk hout Q E _ _ _ _ _ h hw (lv_sub hl [0, 1] rfl)
    · replace h := if_f c82 h
      refine lv_iconst (v := (1 : Int32)) hx hb dX0_goes_85 (by decide) ?_
      refine lv_goto (tgt := 90) hx hb dX0_goes_86 (by decide) ?_
      exact wkC_X0_goes_90 S hr hlk hout Q E _ _ _ _ _ _ h hw (lv_sub hl [0, 1] rfl)
def bkC_X0_goes_13 (Q : CS → Prop) (E : CS → Prop) : Nat → Int32 → CS → Prop
  | 0 => fun _ _ => False
  | n + 1 => fun x1 a => if (a.1 0 12) ≤ (a.1 0 10) then (bkC_X0_goes_51 Q E x1 a) else ((vp_in (a.1 0 10) 96) ∧ (if (a.1 71 (a.1 0 10).toNatClampNeg) = (32 : Int32) then (∀ a45 : CS, a45 = wI a 0 10 ((a.1 0 10) + (1 : Int32)) → (bkC_X0_goes_13 Q E n x1 a45)) else (bkC_X0_goes_51 Q E x1 a)))
set_option maxHeartbeats 4000000 in
set_option maxRecDepth 100000 in
theorem wkC_X0_goes_13 (S : CallFix p m c cX0_goes 5 s args lw_all RX0) (hr : meth.sig.returnType = none) (hlk : meth.locks = false) (hout : ∀ pc, ∀ x ∈ c.exceptionTable.toList, covers x pc = false) (Q : CS → Prop) (E : CS → Prop) : ∀ (n : Nat) (x1 : Int32) (a : CS) (H : Heap) (locs : List Loc) (ls : Array Slot), bkC_X0_goes_13 Q E n x1 a → CW D dA ad fv A a s H locs → lv_has ls 5 [(0, .ref (ad 0)), (1, .int x1)] → W p l e rmC_X0_goes s m args below meth c H locs 0 0 (MQT below (cT (cQv D dA ad fv A Q) (cE D dA ad fv A (exF ad) E)) args s 0 0 A) (F0 m 13 ls []) := by
  have hx := S.1
  have hb := S.2.1
  have hown := S.2.2.2.1
  have hts := S.2.2.2.2
  intro n
  induction n with
  | zero =>
    intro x1 a H locs ls h
    exact False.elim h
  | succ n ih =>
    intro x1 a H locs ls h hw hl
    unfold bkC_X0_goes_13 at h
    refine lv_aload_n hx hb dX0_goes_13 rfl (lv_at hl 0 rfl) ?_
    refine c_get S hw (n := 0) (ci := 0) (cOk.s (by decide)) (isO_K _) rfl in_X0 10 (by decide) (Or.inl q334) rfl rfl dX0_goes_14 ?_
    refine lv_aload_n hx hb dX0_goes_17 rfl (lv_at hl 0 rfl) ?_
    refine c_get S hw (n := 0) (ci := 0) (cOk.s (by decide)) (isO_K _) rfl in_X0 12 (by decide) (Or.inl q336) rfl rfl dX0_goes_18 ?_
    refine lv_icmp_ge (tgt := 51) hx hb dX0_goes_21 (by decide) (fun c21 => ?_) (fun c21 => ?_)
    · replace h := if_t c21 h
      exact wkC_X0_goes_51 S hr hlk hout Q E _ _ _ _ _ h hw (lv_sub hl [0, 1] rfl)
    · replace h := if_f c21 h
      refine lv_aload_n hx hb dX0_goes_24 rfl (lv_at hl 0 rfl) ?_
      refine c_get S hw (n := 0) (ci := 0) (cOk.s (by decide)) (isO_K _) rfl in_X0 7 (by decide) (Or.inl q331) rfl rfl dX0_goes_25 ?_
      refine lv_aload_n hx hb dX0_goes_28 rfl (lv_at hl 0 rfl) ?_
      refine c_get S hw (n := 0) (ci := 0) (cOk.s (by decide)) (isO_K _) rfl in_X0 10 (by decide) (Or.inl q334) rfl rfl dX0_goes_29 ?_
      have hi32 := h.1
      replace h := h.2
      refine c_ald S hw (n := 71) (cOk.s (by decide)) (fun _ => rfl) hi32 (Or.inr (Or.inl ⟨rfl, dX0_goes_32⟩)) ?_
      refine lv_bipush (v := (32 : Int32)) hx hb dX0_goes_33 (by decide) ?_
      refine lv_icmp_ne (tgt := 51) hx hb dX0_goes_35 (by decide) (fun c35 => ?_) (fun c35 => ?_)
      · replace h := if_f c35 h
        exact wkC_X0_goes_51 S hr hlk hout Q E _ _ _ _ _ h hw (lv_sub hl [0, 1] rfl)
      · replace h := if_t c35 h
        refine lv_aload_n hx hb dX0_goes_38 rfl (lv_at hl 0 rfl) ?_
        refine lv_dup hx hb dX0_goes_39 rfl ?_
        refine c_get S hw (n := 0) (ci := 0) (cOk.s (by decide)) (isO_K _) rfl in_X0 10 (by decide) (Or.inl q334) rfl rfl dX0_goes_40 ?_
        refine lv_iconst (v := (1 : Int32)) hx hb dX0_goes_43 (by decide) ?_
        refine lv_iadd hx hb dX0_goes_44 ?_
        refine c_putI S hw (n := 0) (cOk.s (by decide)) isO_K rfl in_X0 tyX0 tyX0_ok nmX0 10 (by decide) (Or.inl q334) rfl rfl rfl rfl (Nat.le_of_ble_eq_true rfl) (fun _ => kset_10) dX0_goes_45 (fun a45 H locs ea45 hw => ?_)
        replace h := h a45 ea45
        refine lv_goto (tgt := 13) hx hb dX0_goes_48 (by decide) ?_
        exact ih _ _ _ _ _ h hw (lv_sub hl [0, 1] rfl)
def wpC_X0_goes (a : CS) (Q : CS → Prop) (E : CS → Prop) : Prop := ∀ a10 : CS, a10 = wI a 0 10 (a.1 0 11) → (∃ n13, bkC_X0_goes_13 Q E n13 (a.1 0 11) a10)
set_option maxHeartbeats 4000000 in
set_option maxRecDepth 100000 in
theorem wkC_X0_goes_e (S : CallFix p m c cX0_goes 5 s args lw_all RX0) (hr : meth.sig.returnType = none) (hlk : meth.locks = false) (hout : ∀ pc, ∀ x ∈ c.exceptionTable.toList, covers x pc = false) (Q : CS → Prop) (E : CS → Prop) (a : CS) (H : Heap) (locs : List Loc) (ls : Array Slot) (h : wpC_X0_goes a Q E) (hw : CW D dA ad fv A a s H locs) (hl : lv_has ls 5 [(0, .ref (ad 0))]) : W p l e rmC_X0_goes s m args below meth c H locs 0 0 (MQT below (cT (cQv D dA ad fv A Q) (cE D dA ad fv A (exF ad) E)) args s 0 0 A) (F0 m 0 ls []) := by
  have hx := S.1
  have hb := S.2.1
  have hown := S.2.2.2.1
  have hts := S.2.2.2.2
  unfold wpC_X0_goes at h
  refine lv_aload_n hx hb dX0_goes_0 rfl (lv_at hl 0 rfl) ?_
  refine c_get S hw (n := 0) (ci := 0) (cOk.s (by decide)) (isO_K _) rfl in_X0 11 (by decide) (Or.inl q335) rfl rfl dX0_goes_1 ?_
  refine lv_istore_n (lv' := [(1, .int (a.1 0 11)), (0, .ref (ad 0))]) hx hb dX0_goes_4 rfl hl (by decide) rfl (fun ls hl => ?_)
  refine lv_aload_n hx hb dX0_goes_5 rfl (lv_at hl 1 rfl) ?_
  refine lv_aload_n hx hb dX0_goes_6 rfl (lv_at hl 1 rfl) ?_
  refine c_get S hw (n := 0) (ci := 0) (cOk.s (by decide)) (isO_K _) rfl in_X0 11 (by decide) (Or.inl q335) rfl rfl dX0_goes_7 ?_
  refine c_putI S hw (n := 0) (cOk.s (by decide)) isO_K rfl in_X0 tyX0 tyX0_ok nmX0 10 (by decide) (Or.inl q334) rfl rfl rfl rfl (Nat.le_of_ble_eq_true rfl) (fun _ => kset_10) dX0_goes_10 (fun a10 H locs ea10 hw => ?_)
  replace h := h a10 ea10
  obtain ⟨n13, h⟩ := h
  exact wkC_X0_goes_13 S hr hlk hout Q E n13 _ _ _ _ _ h hw (lv_sub hl [1, 0] rfl)
theorem ctC_X0_goes (l : Launch) (D : va_G) (dA : Nat → ClassId) (ad : Nat → Nat) (fv : Nat → Value) (A : Nat → Prop) (a : CS) (Q : CS → Prop) (E : CS → Prop) (h : wpC_X0_goes a Q E) : MetT l yX0_goes (ws_ yX0_goes cX0_goes 5 none) rmC_X0_goes (cPc D dA ad fv A a [.ref (ad 0)]) (cT (cQv D dA ad fv A Q) (cE D dA ad fv A (exF ad) E)) 0 0 A :=
  c_metT (by decide) rfl rfl rfl (Nat.le_of_ble_eq_true rfl) (fun p e s m below meth c ls S hr hlk hout hw hl => wkC_X0_goes_e S hr hlk hout Q E a _ _ ls h hw hl)
theorem cwC_X0_X0_goes {R : Room} {s : State} {args : Array Value} {rm : Room} (hts : ∀ w ∈ lw_all, w.before args s = true) (hR : rm.frames + 1 ≤ R.frames ∧ 8 + (5 + 11) + rm.locals ≤ R.locals) (hc : rm.cells = 0 := by rfl) (hs : rm.slots = 0 := by rfl) : CallW R s args RX0 RX0 197 yX0_goes cX0_goes 5 none (ws_ yX0_goes cX0_goes 5 none) rm 0 0 0 :=
  cwV 0 hts (lw_V q444 q446 qs3 q103 q447) rfl hc hs (by decide +kernel) hR
/-! X0.number -/
abbrev rmC_X0_number : Room := { frames := 3, cells := 0, slots := 0, locals := 66 }
def bkC_X0_number_50 (Q : Int32 → CS → Prop) (E : CS → Prop) : Nat → Int32 → Int32 → CS → Prop
  | 0 => fun _ _ _ => False
  | n + 1 => fun x1 x2 a => if (a.1 0 11) ≤ x2 then (wpC_X0_goes a (fun a80 => Q x1 a80) E) else ((vp_in x2 96) ∧ (bkC_X0_number_50 Q E n ((((10 : Int32) * x1) + (a.1 71 x2.toNatClampNeg)) - (48 : Int32)) (x2 + (1 : Int32)) a))
set_option maxHeartbeats 4000000 in
set_option maxRecDepth 100000 in
theorem wkC_X0_number_50 (S : CallFix p m c cX0_number 3 s args lw_all RX0) (hr : meth.sig.returnType = (some .int)) (hlk : meth.locks = false) (hout : ∀ pc, ∀ x ∈ c.exceptionTable.toList, covers x pc = false) (Q : Int32 → CS → Prop) (E : CS → Prop) : ∀ (n : Nat) (x1 : Int32) (x2 : Int32) (a : CS) (H : Heap) (locs : List Loc) (ls : Array Slot), bkC_X0_number_50 Q E n x1 x2 a → CW D dA ad fv A a s H locs → lv_has ls 3 [(0, .ref (ad 0)), (1, .int x1), (2, .int x2)] → W p l e rmC_X0_number s m args below meth c H locs 0 0 (MQT below (cT (cQi D dA ad fv A Q) (cE D dA ad fv A (exF ad) E)) args s 0 0 A) (F0 m 50 ls []) := by
  have hx := S.1
  have hb := S.2.1
  have hown := S.2.2.2.1
  have hts := S.2.2.2.2
  intro n
  induction n with
  | zero =>
    intro x1 x2 a H locs ls h
    exact False.elim h
  | succ n ih =>
    intro x1 x2 a H locs ls h hw hl
    unfold bkC_X0_number_50 at h
    refine lv_iload_n hx hb dX0_number_50 rfl (lv_at hl 2 rfl) ?_
    refine lv_aload_n hx hb dX0_number_51 rfl (lv_at hl 0 rfl) ?_
    refine c_get S hw (n := 0) (ci := 0) (cOk.s (by decide)) (isO_K _) rfl in_X0 11 (by decide) (Or.inl q335) rfl rfl dX0_number_52 ?_
    refine lv_icmp_ge (tgt := 79) hx hb dX0_number_55 (by decide) (fun c55 => ?_) (fun c55 => ?_)
    · replace h := if_t c55 h
      refine lv_aload_n hx hb dX0_number_79 rfl (lv_at hl 0 rfl) ?_
      refine c_callTv hw (runTV (As := []) (rest := []) S (ctC_X0_goes l D dA ad fv A a _ _ h) (cwC_X0_X0_goes hts ⟨Nat.le_of_ble_eq_true rfl, Nat.le_of_ble_eq_true rfl⟩) (c_preV hw (n := 0) (cOk.s (by decide)) (isO_K _) rfl) rfl rfl hl.1 rfl (lv_room (Nat.le_of_ble_eq_true rfl)) dX0_number_80 ⟨Nat.le_of_ble_eq_true rfl, Nat.le_of_ble_eq_true rfl⟩) (fun _ _ _ hE hw => c_leaveT hw hE hlk (hout _) (Nat.le_of_ble_eq_true rfl) (Nat.le_of_ble_eq_true rfl)) (fun a80 H locs h hw => ?_)
      refine lv_iload_n hx hb dX0_number_83 rfl (lv_at hl 1 rfl) ?_
      exact W.mono (MQ.toT (fun _ _ h9 => Or.inl h9)) (c_iret S hr hlk hw h dX0_number_84)
    · replace h := if_f c55 h
      refine lv_bipush (v := (10 : Int32)) hx hb dX0_number_58 (by decide) ?_
      refine lv_iload_n hx hb dX0_number_60 rfl (lv_at hl 1 rfl) ?_
      refine lv_imul hx hb dX0_number_61 ?_
      refine lv_aload_n hx hb dX0_number_62 rfl (lv_at hl 0 rfl) ?_
      refine c_get S hw (n := 0) (ci := 0) (cOk.s (by decide)) (isO_K _) rfl in_X0 7 (by decide) (Or.inl q331) rfl rfl dX0_number_63 ?_
      refine lv_iload_n hx hb dX0_number_66 rfl (lv_at hl 2 rfl) ?_
      have hi67 := h.1
      replace h := h.2
      refine c_ald S hw (n := 71) (cOk.s (by decide)) (fun _ => rfl) hi67 (Or.inr (Or.inl ⟨rfl, dX0_number_67⟩)) ?_
      refine lv_iadd hx hb dX0_number_68 ?_
      refine lv_bipush (v := (48 : Int32)) hx hb dX0_number_69 (by decide) ?_
      refine lv_isub hx hb dX0_number_71 ?_
      refine lv_istore_n (lv' := [(1, .int ((((10 : Int32) * x1) + (a.1 71 x2.toNatClampNeg)) - (48 : Int32))), (0, .ref (ad 0)), (2, .int x2)]) hx hb dX0_number_72 rfl hl (by decide) rfl (fun ls hl => ?_)
      refine lv_iinc (v := (x2 + (1 : Int32))) (lv' := [(2, .int (x2 + (1 : Int32))), (1, .int ((((10 : Int32) * x1) + (a.1 71 x2.toNatClampNeg)) - (48 : Int32))), (0, .ref (ad 0))]) hx hb dX0_number_73 hl (k := 2) rfl rfl (by decide) rfl (fun ls hl => ?_)
      refine lv_goto (tgt := 50) hx hb dX0_number_76 (by decide) ?_
      exact ih _ _ _ _ _ _ h hw (lv_sub hl [2, 1, 0] rfl)
def bkC_X0_number_43 (Q : Int32 → CS → Prop) (E : CS → Prop) : CS → Prop := fun a => ∃ n50, bkC_X0_number_50 Q E n50 (0 : Int32) (a.1 0 10) a
set_option maxHeartbeats 4000000 in
set_option maxRecDepth 100000 in
theorem wkC_X0_number_43 (S : CallFix p m c cX0_number 3 s args lw_all RX0) (hr : meth.sig.returnType = (some .int)) (hlk : meth.locks = false) (hout : ∀ pc, ∀ x ∈ c.exceptionTable.toList, covers x pc = false) (Q : Int32 → CS → Prop) (E : CS → Prop) : ∀ (a : CS) (H : Heap) (locs : List Loc) (ls : Array Slot), bkC_X0_number_43 Q E a → CW D dA ad fv A a s H locs → lv_has ls 3 [(0, .ref (ad 0))] → W p l e rmC_X0_number s m args below meth c H locs 0 0 (MQT below (cT (cQi D dA ad fv A Q) (cE D dA ad fv A (exF ad) E)) args s 0 0 A) (F0 m 43 ls []) := by
  have hx := S.1
  have hb := S.2.1
  have hown := S.2.2.2.1
  have hts := S.2.2.2.2
  intro  a H locs ls h hw hl
  unfold bkC_X0_number_43 at h
  refine lv_iconst (v := (0 : Int32)) hx hb dX0_number_43 (by decide) ?_
  refine lv_istore_n (lv' := [(1, .int (0 : Int32)), (0, .ref (ad 0))]) hx hb dX0_number_44 rfl hl (by decide) rfl (fun ls hl => ?_)
  refine lv_aload_n hx hb dX0_number_45 rfl (lv_at hl 1 rfl) ?_
  refine c_get S hw (n := 0) (ci := 0) (cOk.s (by decide)) (isO_K _) rfl in_X0 10 (by decide) (Or.inl q334) rfl rfl dX0_number_46 ?_
  refine lv_istore_n (lv' := [(2, .int (a.1 0 10)), (1, .int (0 : Int32)), (0, .ref (ad 0))]) hx hb dX0_number_49 rfl hl (by decide) rfl (fun ls hl => ?_)
  obtain ⟨n50, h⟩ := h
  exact wkC_X0_number_50 S hr hlk hout Q E n50 _ _ _ _ _ _ h hw (lv_sub hl [2, 1, 0] rfl)
def bkC_X0_number_39 (Q : Int32 → CS → Prop) (E : CS → Prop) : CS → Prop := fun a => wpC_X0_wrong a (fun a40 => bkC_X0_number_43 Q E a40) E
set_option maxHeartbeats 4000000 in
set_option maxRecDepth 100000 in
theorem wkC_X0_number_39 (S : CallFix p m c cX0_number 3 s args lw_all RX0) (hr : meth.sig.returnType = (some .int)) (hlk : meth.locks = false) (hout : ∀ pc, ∀ x ∈ c.exceptionTable.toList, covers x pc = false) (Q : Int32 → CS → Prop) (E : CS → Prop) : ∀ (a : CS) (H : Heap) (locs : List Loc) (ls : Array Slot), bkC_X0_number_39 Q E a → CW D dA ad fv A a s H locs → lv_has ls 3 [(0, .ref (ad 0))] → W p l e rmC_X0_number s m args below meth c H locs 0 0 (MQT below (cT (cQi D dA ad fv A Q) (cE D dA ad fv A (exF ad) E)) args s 0 0 A) (F0 m 39 ls []) := by
  have hx := S.1
  have hb := S.2.1
  have hown := S.2.2.2.1
  have hts := S.2.2.2.2
  intro  a H locs ls h hw hl
  unfold bkC_X0_number_39 at h
  refine lv_aload_n hx hb dX0_number_39 rfl (lv_at hl 0 rfl) ?_
  refine c_callTv hw (runTV (As := []) (rest := []) S (ctC_X0_wrong l D dA ad fv A a _ _ h) (cwC_X0_X0_wrong hts ⟨Nat.le_of_ble_eq_true rfl, Nat.le_of_ble_eq_true rfl⟩) (c_preV hw (n := 0) (cOk.s (by decide)) (isO_K _) rfl) rfl rfl hl.1 rfl (lv_room (Nat.le_of_ble_eq_true rfl)) dX0_number_40 ⟨Nat.le_of_ble_eq_true rfl, Nat.le_of_ble_eq_true rfl⟩) (fun _ _ _ hE hw => c_leaveT hw hE hlk (hout _) (Nat.le_of_ble_eq_true rfl) (Nat.le_of_ble_eq_true rfl)) (fun a40 H locs h hw => ?_)
  exact wkC_X0_number_43 S hr hlk hout Q E _ _ _ _ h hw (lv_sub hl [0] rfl)
def wpC_X0_number (a : CS) (Q : Int32 → CS → Prop) (E : CS → Prop) : Prop := if (a.1 0 10) = (a.1 0 12) then (bkC_X0_number_39 Q E a) else ((vp_in (a.1 0 10) 96) ∧ (wpC_X0_isDigit a (a.1 71 (a.1 0 10).toNatClampNeg) (fun r20 a20 => if r20 = 0 then (bkC_X0_number_39 Q E a20) else (if ((a20.1 0 11) - (a20.1 0 10)) ≤ (4 : Int32) then (bkC_X0_number_43 Q E a20) else (bkC_X0_number_39 Q E a20)))))
set_option maxHeartbeats 4000000 in
set_option maxRecDepth 100000 in
theorem wkC_X0_number_e (S : CallFix p m c cX0_number 3 s args lw_all RX0) (hr : meth.sig.returnType = (some .int)) (hlk : meth.locks = false) (hout : ∀ pc, ∀ x ∈ c.exceptionTable.toList, covers x pc = false) (Q : Int32 → CS → Prop) (E : CS → Prop) (a : CS) (H : Heap) (locs : List Loc) (ls : Array Slot) (h : wpC_X0_number a Q E) (hw : CW D dA ad fv A a s H locs) (hl : lv_has ls 3 [(0, .ref (ad 0))]) : W p l e rmC_X0_number s m args below meth c H locs 0 0 (MQT below (cT (cQi D dA ad fv A Q) (cE D dA ad fv A (exF ad) E)) args s 0 0 A) (F0 m 0 ls []) := by
  have hx := S.1
  have hb := S.2.1
  have hown := S.2.2.2.1
  have hts := S.2.2.2.2
  unfold wpC_X0_number at h
  refine lv_aload_n hx hb dX0_number_0 rfl (lv_at hl 0 rfl) ?_
  refine c_get S hw (n := 0) (ci := 0) (cOk.s (by decide)) (isO_K _) rfl in_X0 10 (by decide) (Or.inl q334) rfl rfl dX0_number_1 ?_
  refine lv_aload_n hx hb dX0_number_4 rfl (lv_at hl 0 rfl) ?_
  refine c_get S hw (n := 0) (ci := 0) (cOk.s (by decide)) (isO_K _) rfl in_X0 12 (by decide) (Or.inl q336) rfl rfl dX0_number_5 ?_
  refine lv_icmp_eq (tgt := 39) hx hb dX0_number_8 (by decide) (fun c8 => ?_) (fun c8 => ?_)
  · replace h := if_t c8 h
    exact wkC_X0_number_39 S hr hlk hout Q E _ _ _ _ h hw (lv_sub hl [0] rfl)
  · replace h := if_f c8 h
    refine lv_aload_n hx hb dX0_number_11 rfl (lv_at hl 0 rfl) ?_
    refine c_get S hw (n := 0) (ci := 0) (cOk.s (by decide)) (isO_K _) rfl in_X0 7 (by decide) (Or.inl q331) rfl rfl dX0_number_12 ?_
    refine lv_aload_n hx hb dX0_number_15 rfl (lv_at hl 0 rfl) ?_
    refine c_get S hw (n := 0) (ci := 0) (cOk.s (by decide)) (isO_K _) rfl in_X0 10 (by decide) (Or.inl q334) rfl rfl dX0_number_16 ?_
    have hi19 := h.1
    replace h := h.2
    refine c_ald S hw (n := 71) (cOk.s (by decide)) (fun _ => rfl) hi19 (Or.inr (Or.inl ⟨rfl, dX0_number_19⟩)) ?_
    refine c_calli hw (va_runS (As := [.int (a.1 71 (a.1 0 10).toNatClampNeg)]) (rest := []) S (ctC_X0_isDigit l D dA ad fv A a (a.1 71 (a.1 0 10).toNatClampNeg) _ h) (cwC_X0_X0_isDigit hts ⟨Nat.le_of_ble_eq_true rfl, Nat.le_of_ble_eq_true rfl⟩) (c_preS hw) rfl rfl hl.1 rfl (lv_room (Nat.le_of_ble_eq_true rfl)) dX0_number_20 ⟨Nat.le_of_ble_eq_true rfl, Nat.le_of_ble_eq_true rfl⟩) (fun r20 a20 H locs h hw => ?_)
    refine lv_if_eq (tgt := 39) hx hb dX0_number_23 (by decide) (fun c23 => ?_) (fun c23 => ?_)
    · replace h := if_t c23 h
      exact wkC_X0_number_39 S hr hlk hout Q E _ _ _ _ h hw (lv_sub hl [0] rfl)
    · replace h := if_f c23 h
      refine lv_aload_n hx hb dX0_number_26 rfl (lv_at hl 0 rfl) ?_
      refine c_get S hw (n := 0) (ci := 0) (cOk.s (by decide)) (isO_K _) rfl in_X0 11 (by decide) (Or.inl q335) rfl rfl dX0_number_27 ?_
      refine lv_aload_n hx hb dX0_number_30 rfl (lv_at hl 0 rfl) ?_
      refine c_get S hw (n := 0) (ci := 0) (cOk.s (by decide)) (isO_K _) rfl in_X0 10 (by decide) (Or.inl q334) rfl rfl dX0_number_31 ?_
      refine lv_isub hx hb dX0_number_34 ?_
      refine lv_iconst (v := (4 : Int32)) hx hb dX0_number_35 (by decide) ?_
      refine lv_icmp_le (tgt := 43) hx hb dX0_number_36 (by decide) (fun c36 => ?_) (fun c36 => ?_)
      · replace h := if_t c36 h
        exact wkC_X0_number_43 S hr hlk hout Q E _ _ _ _ h hw (lv_sub hl [0] rfl)
      · replace h := if_f c36 h
        exact wkC_X0_number_39 S hr hlk hout Q E _ _ _ _ h hw (lv_sub hl [0] rfl)
theorem ctC_X0_number (l : Launch) (D : va_G) (dA : Nat → ClassId) (ad : Nat → Nat) (fv : Nat → Value) (A : Nat → Prop) (a : CS) (Q : Int32 → CS → Prop) (E : CS → Prop) (h : wpC_X0_number a Q E) : MetT l yX0_number (ws_ yX0_number cX0_number 3 (some .int)) rmC_X0_number (cPc D dA ad fv A a [.ref (ad 0)]) (cT (cQi D dA ad fv A Q) (cE D dA ad fv A (exF ad) E)) 0 0 A :=
  c_metT (by decide) rfl rfl rfl (Nat.le_of_ble_eq_true rfl) (fun p e s m below meth c ls S hr hlk hout hw hl => wkC_X0_number_e S hr hlk hout Q E a _ _ ls h hw hl)
theorem cwC_X0_X0_number {R : Room} {s : State} {args : Array Value} {rm : Room} (hts : ∀ w ∈ lw_all, w.before args s = true) (hR : rm.frames + 1 ≤ R.frames ∧ 8 + (3 + 11) + rm.locals ≤ R.locals) (hc : rm.cells = 0 := by rfl) (hs : rm.slots = 0 := by rfl) : CallW R s args RX0 RX0 239 yX0_number cX0_number 3 (some .int) (ws_ yX0_number cX0_number 3 (some .int)) rm 0 0 0 :=
  cwV 0 hts (lw_V q572 q574 qs15 q103 q575) rfl hc hs (by decide +kernel) hR
/-! X13.add -/
abbrev rmC_X13_add : Room := { frames := 0, cells := 0, slots := 0, locals := 0 }
def wpC_X13_add (a : CS) (n0 : Nat) (x1 : Int32) (x2 : Int32) (Q : CS → Prop) : Prop := (kindK a n0 113) ∧ ((kindK a (a.2.1 n0 0) 20) ∧ ((vp_in (a.1 n0 2) (a.2.2.1 (a.2.1 n0 0)).2) ∧ (∀ a9 : CS, a9 = wI a (a.2.1 n0 0) (a.1 n0 2).toNatClampNeg x1 → ((kindK a9 n0 113) ∧ ((kindK a9 (a9.2.1 n0 1) 20) ∧ ((vp_in (a9.1 n0 2) (a9.2.2.1 (a9.2.1 n0 1)).2) ∧ (∀ a19 : CS, a19 = wI a9 (a9.2.1 n0 1) (a9.1 n0 2).toNatClampNeg x2 → ((kindK a19 n0 113) ∧ (∀ a27 : CS, a27 = wI a19 n0 2 ((a19.1 n0 2) + (1 : Int32)) → (Q a27))))))))))
set_option maxHeartbeats 4000000 in
set_option maxRecDepth 100000 in
theorem wkC_X13_add_e (S : CallFix p m c cX13_add 3 s args lw_all RX13) (hr : meth.sig.returnType = none) (hlk : meth.locks = false) (Q : CS → Prop) (n0 : Nat) (x1 : Int32) (x2 : Int32) (a : CS) (H : Heap) (locs : List Loc) (ls : Array Slot) (h : wpC_X13_add a n0 x1 x2 Q) (hw : CW D dA ad fv A a s H locs) (hl : lv_has ls 3 [(0, .ref (ad n0)), (1, .int x1), (2, .int x2)]) : W p l e rmC_X13_add s m args below meth c H locs 0 0 (MQ below (cQv D dA ad fv A Q) args s 0 0 A) (F0 m 0 ls []) := by
  have hx := S.1
  have hb := S.2.1
  have hown := S.2.2.2.1
  have hts := S.2.2.2.2
  unfold wpC_X13_add at h
  refine lv_aload_n hx hb dX13_add_0 rfl (lv_at hl 0 rfl) ?_
  have hk1_0 := h.1
  replace h := h.2
  have hk1_1 := h.1
  replace h := h.2
  refine c_getr S hw (n := n0) (x := (a.2.1 n0 0)) (hk1_0.ok (by decide)) ((isO_W hk1_0) _) rfl in_X13 0 (by decide) (Or.inl q527) rfl rfl hk1_1.ne dX13_add_1 ?_
  refine lv_aload_n hx hb dX13_add_4 rfl (lv_at hl 0 rfl) ?_
  refine c_get S hw (n := n0) (hk1_0.ok (by decide)) ((isO_W hk1_0) _) rfl in_X13 2 (by decide) (Or.inl q531) rfl rfl dX13_add_5 ?_
  refine lv_iload_n hx hb dX13_add_8 rfl (lv_at hl 1 rfl) ?_
  have hi9 := h.1
  replace h := h.2
  refine c_ast S hw (n := (a.2.1 n0 0)) hk1_1.ne (hk1_1.ok (by decide)) (isA_d hk1_1) hi9 (Or.inl ⟨rfl, rfl, dX13_add_9⟩) (fun a9 H locs ea9 hw => ?_)
  replace h := h a9 ea9
  refine lv_aload_n hx hb dX13_add_10 rfl (lv_at hl 0 rfl) ?_
  have hk11_2 := h.1
  replace h := h.2
  have hk11_3 := h.1
  replace h := h.2
  refine c_getr S hw (n := n0) (x := (a9.2.1 n0 1)) (hk11_2.ok (by decide)) ((isO_W hk11_2) _) rfl in_X13 1 (by decide) (Or.inl q529) rfl rfl hk11_3.ne dX13_add_11 ?_
  refine lv_aload_n hx hb dX13_add_14 rfl (lv_at hl 0 rfl) ?_
  refine c_get S hw (n := n0) (hk11_2.ok (by decide)) ((isO_W hk11_2) _) rfl in_X13 2 (by decide) (Or.inl q531) rfl rfl dX13_add_15 ?_
  refine lv_iload_n hx hb dX13_add_18 rfl (lv_at hl 2 rfl) ?_
  have hi19 := h.1
  replace h := h.2
  refine c_ast S hw (n := (a9.2.1 n0 1)) hk11_3.ne (hk11_3.ok (by decide)) (isA_d hk11_3) hi19 (Or.inl ⟨rfl, rfl, dX13_add_19⟩) (fun a19 H locs ea19 hw => ?_)
  replace h := h a19 ea19
  refine lv_aload_n hx hb dX13_add_20 rfl (lv_at hl 0 rfl) ?_
  refine lv_dup hx hb dX13_add_21 rfl ?_
  have hk22_4 := h.1
  replace h := h.2
  refine c_get S hw (n := n0) (hk22_4.ok (by decide)) ((isO_W hk22_4) _) rfl in_X13 2 (by decide) (Or.inl q531) rfl rfl dX13_add_22 ?_
  refine lv_iconst (v := (1 : Int32)) hx hb dX13_add_25 (by decide) ?_
  refine lv_iadd hx hb dX13_add_26 ?_
  refine c_putI S hw (n := n0) (hk22_4.ok (by decide)) (isO_W hk22_4) rfl in_X13 tyX13 tyX13_ok nmX13 2 (by decide) (Or.inl q531) rfl rfl rfl rfl (Nat.le_of_ble_eq_true rfl) (fun _ => by simp [upd]) dX13_add_27 (fun a27 H locs ea27 hw => ?_)
  replace h := h a27 ea27
  exact c_vret S hr hlk hw h dX13_add_30
theorem ctC_X13_add (l : Launch) (D : va_G) (dA : Nat → ClassId) (ad : Nat → Nat) (fv : Nat → Value) (A : Nat → Prop) (a : CS) (n0 : Nat) (x1 : Int32) (x2 : Int32) (Q : CS → Prop) (h : wpC_X13_add a n0 x1 x2 Q) : Met l yX13_add (ws_ yX13_add cX13_add 3 none) rmC_X13_add (cPc D dA ad fv A a [.ref (ad n0), .int x1, .int x2]) (cQv D dA ad fv A Q) 0 0 A :=
  c_met (by decide) rfl rfl rfl (Nat.le_of_ble_eq_true rfl) (fun p e s m below meth c ls S hr hlk hin2 hw hl => wkC_X13_add_e S hr hlk Q n0 x1 x2 a _ _ ls h hw hl)
theorem cwC_X0_X13_add {R : Room} {s : State} {args : Array Value} {rm : Room} (hts : ∀ w ∈ lw_all, w.before args s = true) (hR : rm.frames + 1 ≤ R.frames ∧ 8 + (3 + 11) + rm.locals ≤ R.locals) (hc : rm.cells = 0 := by rfl) (hs : rm.slots = 0 := by rfl) : CallW R s args RX0 RX13 211 yX13_add cX13_add 3 none (ws_ yX13_add cX13_add 3 none) rm 0 0 2 :=
  cwV 2 hts (lw_V q568 q569 q570 q126 q571) rfl hc hs (by decide +kernel) hR
end CWalk

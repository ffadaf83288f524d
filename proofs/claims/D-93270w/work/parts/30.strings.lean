/-! STRING CONSTANTS: length and charAt -/
section STR
variable {p : Program} {l : Launch} {e : Env} {R : Room} {s : State} {m : MethodId} {args : Array Value} {below : List Frame} {meth : Method} {c : Code} {H : Heap} {locs : List Loc} {cells slots : Nat} {Q : State → Prop}
variable {cc : ByteArray} {nL pc : Nat} {ls : Array Slot} {rest st0 : List Value} {D : va_G} {dA : Nat → ClassId} {ad : Nat → Nat} {fv : Nat → Value} {a : CS} {A : Nat → Prop} {own : String}
/-- a return of any small number -/
theorem c_nret {K : Int32 → CS → Prop} {v : Int32} {ty : FieldType} (S : CallFix p m c cc nL s args lw_all own) (hr : meth.sig.returnType = some ty) (hlk : meth.locks = false) (hw : CW D dA ad fv A a s H locs) (hz : narrow ty (.int v) = .int v) (h : K v a) (hdg : decode cc pc = .ok (.ireturn, 1)) : W p l e R s m args below meth c H locs cells slots (MQ below (cQi D dA ad fv A K) args s cells slots A) (F0 m pc ls [.int v]) :=
  W.zret (v := v) S.1 S.2.1 hr hz (fun t ht hW => ⟨⟨v, a, rfl, h, hw.to ht hW⟩, hw.st.F ht⟩) hw.st.2.2 hdg hlk
theorem c_str (hw : CW D dA ad fv A a s H locs) {i : Nat} (hi : i < 3) : va_OF "java/lang/String" "coder" "B" (.int 0) (ad (i + 95)) A s s.heap ∧ va_OF "java/lang/String" "value" "[B" (.ref (ad (i + 98))) (ad (i + 95)) A s s.heap ∧ va_T .byte (ad (i + 98)) (lenJ.getD i 0) (fun j => .int ((bytJ.getD i []).getD j 0)) A s s.heap := (hw.kw.1.1 i hi).2
theorem c_preStr (hw : CW D dA ad fv A a s H locs) {i : Nat} (hi : i < 3) {As : List Value} : PreV s H "java/lang/String" (ad (i + 95)) (cPc D dA ad fv A a (.ref (ad (i + 95)) :: As)) As :=
  ⟨c_blind, vk_recv (i := i) hw.kw.1 hi hw.st, fun U hU hW => ⟨rfl, hw.to hU hW⟩⟩
abbrev rmJ0 : Room := { frames := 0, cells := 0, slots := 0, locals := 0 }
abbrev rmJ1 : Room := { frames := 1, cells := 0, slots := 0, locals := 30 }
abbrev rmJ2 : Room := { frames := 2, cells := 0, slots := 0, locals := 60 }
abbrev rmJ3 : Room := { frames := 3, cells := 0, slots := 0, locals := 90 }
variable (l : Launch) (D : va_G) (dA : Nat → ClassId) (ad : Nat → Nat) (fv : Nat → Value) (A : Nat → Prop) (a : CS)
theorem ctJ_coder (i : Nat) (hi : i < 3) (Q : Int32 → CS → Prop) (h : Q 0 a) : Met l yJ5_coder (ws_ yJ5_coder cJ5_coder 1 (some .byte)) rmJ0 (cPc D dA ad fv A a [.ref (ad (i + 95))]) (cQi D dA ad fv A Q) 0 0 A :=
  c_met (by decide) rfl rfl rfl (Nat.le_of_ble_eq_true rfl) (fun p e s m below meth c ls S hr hlk hin2 hw hl => by
    have hx := S.1
    have hb := S.2.1
    have hown := S.2.2.2.1
    have hts := S.2.2.2.2
    refine va_gets hx hb hw.kw.2.2.1 hw.st hown (hts _ q475) (fun _ h9 => h9) dJ5_coder_0 ?_
    refine lv_if_eq (tgt := 13) hx hb dJ5_coder_3 (by decide) (fun c3 => absurd c3 (by decide)) (fun c3 => ?_)
    refine lv_aload_n hx hb dJ5_coder_6 rfl (lv_at hl 0 rfl) ?_
    refine vk_getf hx hb (c_str hw hi).1 hw.st hown (hts _ q1908) (fun _ h9 => h9) dJ5_coder_7 ?_
    refine lv_goto (tgt := 14) hx hb dJ5_coder_10 (by decide) ?_
    exact c_nret S hr hlk hw (by decide) h dJ5_coder_14)
theorem ctJ_isLatin1 (i : Nat) (hi : i < 3) (Q : Int32 → CS → Prop) (h : Q 1 a) : Met l yJ5_isLatin1 (ws_ yJ5_isLatin1 cJ5_isLatin1 1 (some .boolean)) rmJ0 (cPc D dA ad fv A a [.ref (ad (i + 95))]) (cQi D dA ad fv A Q) 0 0 A :=
  c_met (by decide) rfl rfl rfl (Nat.le_of_ble_eq_true rfl) (fun p e s m below meth c ls S hr hlk hin2 hw hl => by
    have hx := S.1
    have hb := S.2.1
    have hown := S.2.2.2.1
    have hts := S.2.2.2.2
    refine va_gets hx hb hw.kw.2.2.1 hw.st hown (hts _ q475) (fun _ h9 => h9) dJ5_isLatin1_0 ?_
    refine lv_if_eq (tgt := 17) hx hb dJ5_isLatin1_3 (by decide) (fun c3 => absurd c3 (by decide)) (fun c3 => ?_)
    refine lv_aload_n hx hb dJ5_isLatin1_6 rfl (lv_at hl 0 rfl) ?_
    refine vk_getf hx hb (c_str hw hi).1 hw.st hown (hts _ q1908) (fun _ h9 => h9) dJ5_isLatin1_7 ?_
    refine lv_if_ne (tgt := 17) hx hb dJ5_isLatin1_10 (by decide) (fun c3 => absurd rfl c3) (fun c3 => ?_)
    refine lv_iconst (v := (1 : Int32)) hx hb dJ5_isLatin1_13 (by decide) ?_
    refine lv_goto (tgt := 18) hx hb dJ5_isLatin1_14 (by decide) ?_
    exact c_zret S hr hlk hw (Or.inr rfl) h dJ5_isLatin1_18)
theorem ctJ_pre (x0 x1 : Int32) (v : Value) (hv : v.category = 1) (h0 : ¬ x0 < 0) (h1 : x0 < x1) (Q : Int32 → CS → Prop) (h : Q x0 a) : Met l yJ7_checkIndex (ws_ yJ7_checkIndex cJ7_checkIndex 3 (some .int)) rmJ0 (cPc D dA ad fv A a [.int x0, .int x1, v]) (cQi D dA ad fv A Q) 0 0 A :=
  c_met (by decide) rfl rfl rfl (by cases v <;> first | exact Nat.le_of_ble_eq_true rfl | (exfalso; exact absurd (show (2 : Nat) = 1 from hv) (by decide))) (fun p e s m below meth c ls S hr hlk hin2 hw hl => by
    have hx := S.1
    have hb := S.2.1
    have hown := S.2.2.2.1
    have hts := S.2.2.2.2
    refine lv_iload_n hx hb dJ7_checkIndex_0 rfl (lv_at hl 0 rfl) ?_
    refine lv_if_lt (tgt := 9) hx hb dJ7_checkIndex_1 (by decide) (fun c3 => absurd c3 h0) (fun c3 => ?_)
    refine lv_iload_n hx hb dJ7_checkIndex_4 rfl (lv_at hl 0 rfl) ?_
    refine lv_iload_n hx hb dJ7_checkIndex_5 rfl (lv_at hl 1 rfl) ?_
    refine lv_icmp_lt (tgt := 16) hx hb dJ7_checkIndex_6 (by decide) (fun c3 => ?_) (fun c3 => absurd h1 c3)
    refine lv_iload_n hx hb dJ7_checkIndex_16 rfl (lv_at hl 0 rfl) ?_
    exact c_iret S hr hlk hw h dJ7_checkIndex_17)
theorem ctJ_check (x0 x1 : Int32) (h0 : ¬ x0 < 0) (h1 : x0 < x1) (Q : CS → Prop) (h : Q a) : Met l yJ5_checkIndex (ws_ yJ5_checkIndex cJ5_checkIndex 2 none) rmJ1 (cPc D dA ad fv A a [.int x0, .int x1]) (cQv D dA ad fv A Q) 0 0 A :=
  c_met (by decide) rfl rfl rfl (Nat.le_of_ble_eq_true rfl) (fun p e s m below meth c ls S hr hlk hin2 hw hl => by
    have hx := S.1
    have hb := S.2.1
    have hown := S.2.2.2.1
    have hts := S.2.2.2.2
    obtain ⟨v, hv, hq⟩ := hw.kw.2.2.2.1.Z
    refine lv_iload_n hx hb dJ5_checkIndex_0 rfl (lv_at hl 0 rfl) ?_
    refine lv_iload_n hx hb dJ5_checkIndex_1 rfl (lv_at hl 1 rfl) ?_
    refine va_gets hx hb hq hw.st hown (hts _ q491) (fun _ h9 => h9) dJ5_checkIndex_2 ?_
    refine c_calli hw (va_runS (As := [.int x0, .int x1, v]) (rest := []) S (ctJ_pre l D dA ad fv A a x0 x1 v hv h0 h1 (fun _ a1 => Q a1) h) (va_cwS 3 hts (lw_S q493 q494 q124 q495) rfl rfl rfl (by decide +kernel) ⟨Nat.le_of_ble_eq_true rfl, Nat.le_of_ble_eq_true rfl⟩) (c_preS hw) rfl rfl hl.1 rfl (lv_room (Nat.le_of_ble_eq_true rfl)) dJ5_checkIndex_5 ⟨Nat.le_of_ble_eq_true rfl, Nat.le_of_ble_eq_true rfl⟩) (fun r5 a5 H locs h hw => ?_)
    refine lv_pop hx hb dJ5_checkIndex_8 rfl ?_
    exact c_vret S hr hlk hw h dJ5_checkIndex_9)
/-- the letter at a place -/
def chJ (i : Nat) (k : Int32) : Int32 := (bytJ.getD i []).getD k.toNatClampNeg 0
theorem chJ_ok {i : Nat} (hi : i < 3) {k : Int32} (hk : vp_in k (lenJ.getD i 0)) : ((chJ i k &&& 255).toUInt32 % 65536).toInt32 = chJ i k ∧ narrow .char (.int (chJ i k)) = .int (chJ i k) := by
  have h1 : ∀ i, i < 3 → ∀ j, j < 5 → (((bytJ.getD i []).getD j 0 &&& 255).toUInt32 % 65536).toInt32 = (bytJ.getD i []).getD j 0 ∧ narrow .char (.int ((bytJ.getD i []).getD j 0)) = .int ((bytJ.getD i []).getD j 0) := by decide +kernel
  have h2 : ∀ i, i < 3 → lenJ.getD i 0 ≤ 5 := by decide +kernel
  have h3 := h2 i hi
  refine h1 i hi k.toNatClampNeg ?_
  have h4 : k.toNatClampNeg < lenJ.getD i 0 := Nat.lt_of_not_le (fun z => hk (Or.inr z))
  omega
theorem ctJ_charAtL (i : Nat) (hi : i < 3) (k : Int32) (hk : vp_in k (lenJ.getD i 0)) (Q : Int32 → CS → Prop) (h : Q (chJ i k) a) : Met l yJ6_charAt (ws_ yJ6_charAt cJ6_charAt 2 (some .char)) rmJ2 (cPc D dA ad fv A a [.ref (ad (i + 98)), .int k]) (cQi D dA ad fv A Q) 0 0 A :=
  c_met (by decide) rfl rfl rfl (Nat.le_of_ble_eq_true rfl) (fun p e s m below meth c ls S hr hlk hin2 hw hl => by
    have hx := S.1
    have hb := S.2.1
    have hown := S.2.2.2.1
    have hts := S.2.2.2.2
    have hk2 : ¬ k < 0 ∧ k < Int32.ofNat (lenJ.getD i 0) := by
      have h2 : ∀ i, i < 3 → lenJ.getD i 0 ≤ 5 := by decide +kernel
      have h3 := h2 i hi
      obtain ⟨j, hj, rfl⟩ := vp_in_of hk (by omega)
      exact ⟨nI_pos (by omega), nI_lt hj (by omega)⟩
    refine lv_iload_n hx hb dJ6_charAt_0 rfl (lv_at hl 1 rfl) ?_
    refine lv_aload_n hx hb dJ6_charAt_1 rfl (lv_at hl 0 rfl) ?_
    refine va_tlen hx hb (c_str hw hi).2.2 hw.st rfl dJ6_charAt_2 ?_
    refine c_callv hw (va_runS (As := [.int k, .int (Int32.ofNat (lenJ.getD i 0))]) (rest := []) S (ctJ_check l D dA ad fv A a k (Int32.ofNat (lenJ.getD i 0)) hk2.1 hk2.2 (fun a1 => Q (chJ i k) a1) h) (va_cwS 2 hts (lw_S q488 q489 q121 q490) rfl rfl rfl (by decide +kernel) ⟨Nat.le_of_ble_eq_true rfl, Nat.le_of_ble_eq_true rfl⟩) (c_preS hw) rfl rfl hl.1 rfl (lv_room (Nat.le_of_ble_eq_true rfl)) dJ6_charAt_3 ⟨Nat.le_of_ble_eq_true rfl, Nat.le_of_ble_eq_true rfl⟩) (fun a5 H locs h hw => ?_)
    refine lv_aload_n hx hb dJ6_charAt_6 rfl (lv_at hl 0 rfl) ?_
    refine lv_iload_n hx hb dJ6_charAt_7 rfl (lv_at hl 1 rfl) ?_
    refine va_tb hx hb (c_str hw hi).2.2 hw.st hk (v := .int (chJ i k)) rfl dJ6_charAt_8 ?_
    refine lv_sipush (v := (255 : Int32)) hx hb dJ6_charAt_9 (by decide) ?_
    refine lv_iand hx hb dJ6_charAt_12 ?_
    refine lv_i2c hx hb dJ6_charAt_13 (chJ_ok hi hk).1 ?_
    exact c_nret S hr hlk hw (chJ_ok hi hk).2 h dJ6_charAt_14)
theorem ctJ_charAt (i : Nat) (hi : i < 3) (k : Int32) (hk : vp_in k (lenJ.getD i 0)) (Q : Int32 → CS → Prop) (h : Q (chJ i k) a) : Met l yJ5_charAt (ws_ yJ5_charAt cJ5_charAt 2 (some .char)) rmJ3 (cPc D dA ad fv A a [.ref (ad (i + 95)), .int k]) (cQi D dA ad fv A Q) 0 0 A :=
  c_met (by decide) rfl rfl rfl (Nat.le_of_ble_eq_true rfl) (fun p e s m below meth c ls S hr hlk hin2 hw hl => by
    have hx := S.1
    have hb := S.2.1
    have hown := S.2.2.2.1
    have hts := S.2.2.2.2
    refine lv_aload_n hx hb dJ5_charAt_0 rfl (lv_at hl 0 rfl) ?_
    refine c_calli hw (va_runV (As := []) (rest := []) S (ctJ_isLatin1 l D dA ad fv A a i hi (fun r a1 => r = 1 ∧ Q (chJ i k) a1) ⟨rfl, h⟩) (cwV 0 hts (lw_V q481 q482 q483 q121 q484) rfl rfl rfl (by decide +kernel) ⟨Nat.le_of_ble_eq_true rfl, Nat.le_of_ble_eq_true rfl⟩) (c_preStr hw hi) rfl rfl hl.1 rfl (lv_room (Nat.le_of_ble_eq_true rfl)) dJ5_charAt_1 ⟨Nat.le_of_ble_eq_true rfl, Nat.le_of_ble_eq_true rfl⟩) (fun r1 a1 H locs h hw => ?_)
    obtain ⟨rfl, h⟩ := h
    refine lv_if_eq (tgt := 16) hx hb dJ5_charAt_4 (by decide) (fun c3 => absurd c3 (by decide)) (fun c3 => ?_)
    refine lv_aload_n hx hb dJ5_charAt_7 rfl (lv_at hl 0 rfl) ?_
    refine vk_getf hx hb (c_str hw hi).2.1 hw.st hown (hts _ q1907) (fun _ h9 => h9) dJ5_charAt_8 ?_
    refine lv_iload_n hx hb dJ5_charAt_11 rfl (lv_at hl 1 rfl) ?_
    refine c_calli hw (va_runS (As := [.ref (ad (i + 98)), .int k]) (rest := []) S (ctJ_charAtL l D dA ad fv A a1 i hi k hk (fun r a1 => r = chJ i k ∧ Q (chJ i k) a1) ⟨rfl, h⟩) (va_cwS 2 hts (lw_S q485 q486 q123 q487) rfl rfl rfl (by decide +kernel) ⟨Nat.le_of_ble_eq_true rfl, Nat.le_of_ble_eq_true rfl⟩) (c_preS hw) rfl rfl hl.1 rfl (lv_room (Nat.le_of_ble_eq_true rfl)) dJ5_charAt_12 ⟨Nat.le_of_ble_eq_true rfl, Nat.le_of_ble_eq_true rfl⟩) (fun r5 a5 H locs h hw => ?_)
    obtain ⟨rfl, h⟩ := h
    exact c_nret S hr hlk hw (chJ_ok hi hk).2 h dJ5_charAt_15)
theorem ctJ_length (i : Nat) (hi : i < 3) (Q : Int32 → CS → Prop) (h : Q (Int32.ofNat (lenJ.getD i 0)) a) : Met l yJ5_length (ws_ yJ5_length cJ5_length 1 (some .int)) rmJ1 (cPc D dA ad fv A a [.ref (ad (i + 95))]) (cQi D dA ad fv A Q) 0 0 A :=
  c_met (by decide) rfl rfl rfl (Nat.le_of_ble_eq_true rfl) (fun p e s m below meth c ls S hr hlk hin2 hw hl => by
    have hx := S.1
    have hb := S.2.1
    have hown := S.2.2.2.1
    have hts := S.2.2.2.2
    refine lv_aload_n hx hb dJ5_length_0 rfl (lv_at hl 0 rfl) ?_
    refine vk_getf hx hb (c_str hw hi).2.1 hw.st hown (hts _ q1907) (fun _ h9 => h9) dJ5_length_1 ?_
    refine va_tlen hx hb (c_str hw hi).2.2 hw.st rfl dJ5_length_4 ?_
    refine lv_aload_n hx hb dJ5_length_5 rfl (lv_at hl 0 rfl) ?_
    refine c_calli hw (va_runV (As := []) (rest := [.int (Int32.ofNat (lenJ.getD i 0))]) S (ctJ_coder l D dA ad fv A a i hi (fun r a1 => r = 0 ∧ Q (Int32.ofNat (lenJ.getD i 0)) a1) ⟨rfl, h⟩) (cwV 0 hts (lw_V q471 q472 q473 q121 q474) rfl rfl rfl (by decide +kernel) ⟨Nat.le_of_ble_eq_true rfl, Nat.le_of_ble_eq_true rfl⟩) (c_preStr hw hi) rfl rfl hl.1 rfl (lv_room (Nat.le_of_ble_eq_true rfl)) dJ5_length_6 ⟨Nat.le_of_ble_eq_true rfl, Nat.le_of_ble_eq_true rfl⟩) (fun r1 a1 H locs h hw => ?_)
    obtain ⟨rfl, h⟩ := h
    refine lv_ishr hx hb dJ5_length_9 ?_
    have h3 : ∀ i, i < 3 → (Int32.ofNat (lenJ.getD i 0)) >>> ((0 : Int32) &&& 31) = Int32.ofNat (lenJ.getD i 0) := by decide +kernel
    rw [h3 i hi]
    exact c_iret S hr hlk hw h dJ5_length_10)
theorem cwJ_length {R : Room} {s : State} {args : Array Value} {rm : Room} (hts : ∀ w ∈ lw_all, w.before args s = true) (hR : rm.frames + 1 ≤ R.frames ∧ 8 + (1 + 11) + rm.locals ≤ R.locals) (hc : rm.cells = 0 := by rfl) (hs : rm.slots = 0 := by rfl) : CallW R s args RX0 RJ5 187 yJ5_length cJ5_length 1 (some .int) (ws_ yJ5_length cJ5_length 1 (some .int)) rm 0 0 0 :=
  cwV 0 hts (lw_V q467 q468 q469 q121 q470) rfl hc hs (by decide +kernel) hR
theorem cwJ_charAt {R : Room} {s : State} {args : Array Value} {rm : Room} (hts : ∀ w ∈ lw_all, w.before args s = true) (hR : rm.frames + 1 ≤ R.frames ∧ 8 + (2 + 11) + rm.locals ≤ R.locals) (hc : rm.cells = 0 := by rfl) (hs : rm.slots = 0 := by rfl) : CallW R s args RX0 RJ5 193 yJ5_charAt cJ5_charAt 2 (some .char) (ws_ yJ5_charAt cJ5_charAt 2 (some .char)) rm 0 0 1 :=
  cwV 1 hts (lw_V q477 q478 q479 q121 q480) rfl hc hs (by decide +kernel) hR
end STR

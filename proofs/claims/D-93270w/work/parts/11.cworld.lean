/-! THE COMPONENT's WORLD -/
abbrev cNest : List Cond := [.castable "java/lang/ClassCastException" "java/lang/ClassCastException", .castable "java/lang/NegativeArraySizeException" "java/lang/NegativeArraySizeException", .methodLinkNest "KeptLeaves" (45 : Nat) ({ cls := "KeptLeaves$State", name := "<init>", desc := "()V" } : Jvm.MethodName) "KeptLeaves", .fieldLinkNest "KeptLeaves" (435 : Nat) "KeptLeaves$Shelf" "z" "I" "KeptLeaves", .fieldLinkNest "KeptLeaves" (392 : Nat) "KeptLeaves$Shelf" "turn" "I" "KeptLeaves", .fieldLinkNest "KeptLeaves" (418 : Nat) "KeptLeaves$Shelf" "cost" "I" "KeptLeaves", .fieldLinkNest "KeptLeaves" (357 : Nat) "KeptLeaves$Shelf" "set" "I" "KeptLeaves", .fieldLinkNest "KeptLeaves" (385 : Nat) "KeptLeaves$Shelf" "many" "I" "KeptLeaves", .fieldLinkNest "KeptLeaves" (386 : Nat) "KeptLeaves$Shelf" "order" "[I" "KeptLeaves", .fieldLinkNest "KeptLeaves" (305 : Nat) "KeptLeaves$Shelf" "last" "[I" "KeptLeaves", .fieldLinkNest "KeptLeaves" (308 : Nat) "KeptLeaves$Shelf" "times" "[I" "KeptLeaves", .fieldLinkNest "KeptLeaves" (63 : Nat) "KeptLeaves$State" "shelf" "LKeptLeaves$Shelf;" "KeptLeaves", .fieldLinkNest "KeptLeaves" (133 : Nat) "KeptLeaves$State" "leaves" "I" "KeptLeaves", .fieldLinkNest "KeptLeaves" (288 : Nat) "KeptLeaves$State" "leaf" "[LKeptLeaves$Leaf;" "KeptLeaves", .fieldLinkNest "KeptLeaves" (424 : Nat) "KeptLeaves$State" "space" "I" "KeptLeaves", .fieldLinkNest "KeptLeaves" (389 : Nat) "KeptLeaves$State" "rule" "I" "KeptLeaves", .fieldLinkNest "KeptLeaves" (395 : Nat) "KeptLeaves$State" "care" "I" "KeptLeaves", .fieldLinkNest "KeptLeaves" (438 : Nat) "KeptLeaves$State" "askings" "I" "KeptLeaves", .fieldLinkNest "KeptLeaves" (441 : Nat) "KeptLeaves$State" "asking" "[I" "KeptLeaves", .fieldLinkNest "KeptLeaves" (271 : Nat) "KeptLeaves$State" "texts" "I" "KeptLeaves", .fieldLinkNest "KeptLeaves" (274 : Nat) "KeptLeaves$State" "text" "[LKeptLeaves$Text;" "KeptLeaves", .methodLinkNest "KeptLeaves" (58 : Nat) ({ cls := "KeptLeaves$Shelf", name := "<init>", desc := "()V" } : Jvm.MethodName) "KeptLeaves", .methodLinkNest "KeptLeaves" (79 : Nat) ({ cls := "KeptLeaves$Fault", name := "<init>", desc := "()V" } : Jvm.MethodName) "KeptLeaves", .fieldLinkNest "KeptLeaves" (168 : Nat) "KeptLeaves$Fault" "place" "I" "KeptLeaves", .methodLinkNest "KeptLeaves" (111 : Nat) ({ cls := "KeptLeaves$Sheet", name := "<init>", desc := "()V" } : Jvm.MethodName) "KeptLeaves", .fieldLinkNest "KeptLeaves" (490 : Nat) "KeptLeaves$Sheet" "row" "Ljava/lang/Object;" "KeptLeaves", .methodLinkNest "KeptLeaves" (118 : Nat) ({ cls := "KeptLeaves$Slot", name := "<init>", desc := "()V" } : Jvm.MethodName) "KeptLeaves", .fieldLinkNest "KeptLeaves" (555 : Nat) "KeptLeaves$Slot" "held" "Ljava/lang/Object;" "KeptLeaves", .methodLinkNest "KeptLeaves" (200 : Nat) ({ cls := "KeptLeaves$Words", name := "<init>", desc := "()V" } : Jvm.MethodName) "KeptLeaves", .fieldLinkNest "KeptLeaves" (146 : Nat) "KeptLeaves$Words" "word" "[I" "KeptLeaves", .fieldLinkNest "KeptLeaves" (149 : Nat) "KeptLeaves$Words" "value" "[I" "KeptLeaves", .fieldLinkNest "KeptLeaves" (141 : Nat) "KeptLeaves$Words" "many" "I" "KeptLeaves", .fieldLinkNest "KeptLeaves" (278 : Nat) "KeptLeaves$Text" "key" "I" "KeptLeaves", .fieldLinkNest "KeptLeaves" (321 : Nat) "KeptLeaves$Text" "words" "LKeptLeaves$Words;" "KeptLeaves", .fieldLinkNest "KeptLeaves" (280 : Nat) "KeptLeaves$Text" "many" "I" "KeptLeaves", .methodLinkNest "KeptLeaves" (15 : Nat) ({ cls := "KeptLeaves$OldLeaf", name := "<init>", desc := "()V" } : Jvm.MethodName) "KeptLeaves", .methodLinkNest "KeptLeaves" (21 : Nat) ({ cls := "KeptLeaves$CopyLeaf", name := "<init>", desc := "()V" } : Jvm.MethodName) "KeptLeaves", .methodLinkNest "KeptLeaves" (24 : Nat) ({ cls := "KeptLeaves$TornLeaf", name := "<init>", desc := "()V" } : Jvm.MethodName) "KeptLeaves", .methodLinkNest "KeptLeaves" (27 : Nat) ({ cls := "KeptLeaves$FadedLeaf", name := "<init>", desc := "()V" } : Jvm.MethodName) "KeptLeaves", .methodLinkNest "KeptLeaves" (30 : Nat) ({ cls := "KeptLeaves$ListLeaf", name := "<init>", desc := "()V" } : Jvm.MethodName) "KeptLeaves", .methodLinkNest "KeptLeaves" (33 : Nat) ({ cls := "KeptLeaves$Leaf", name := "<init>", desc := "()V" } : Jvm.MethodName) "KeptLeaves", .fieldLinkNest "KeptLeaves" (561 : Nat) "KeptLeaves$Figure" "v" "I" "KeptLeaves", .methodLinkNest "KeptLeaves$State" (11 : Nat) ({ cls := "KeptLeaves$Shelf", name := "<init>", desc := "()V" } : Jvm.MethodName) "KeptLeaves", .methodLinkNest "KeptLeaves$State" (58 : Nat) ({ cls := "KeptLeaves", name := "copyRow", desc := "([I[I)V" } : Jvm.MethodName) "KeptLeaves", .methodLinkNest "KeptLeaves$TornLeaf" (1 : Nat) ({ cls := "KeptLeaves$OldLeaf", name := "<init>", desc := "()V" } : Jvm.MethodName) "KeptLeaves", .castable "KeptLeaves$TornLeaf" "KeptLeaves$Missed", .castable "KeptLeaves$TornLeaf" "KeptLeaves$OldLeaf", .castable "KeptLeaves$TornLeaf" "KeptLeaves$Leaf", .methodLinkNest "KeptLeaves$FadedLeaf" (1 : Nat) ({ cls := "KeptLeaves$CopyLeaf", name := "<init>", desc := "()V" } : Jvm.MethodName) "KeptLeaves", .castable "KeptLeaves$FadedLeaf" "KeptLeaves$Missed", .castable "KeptLeaves$FadedLeaf" "KeptLeaves$CopyLeaf", .castable "KeptLeaves$FadedLeaf" "KeptLeaves$Leaf", .methodLinkNest "KeptLeaves$ListLeaf" (3 : Nat) ({ cls := "KeptLeaves$Leaf", name := "<init>", desc := "()V" } : Jvm.MethodName) "KeptLeaves", .castable "KeptLeaves$ListLeaf" "KeptLeaves$Missed", .castable "KeptLeaves$ListLeaf" "KeptLeaves$Leaf", .methodLinkNest "KeptLeaves$Shelf" (37 : Nat) ({ cls := "KeptLeaves", name := "copyRow", desc := "([I[I)V" } : Jvm.MethodName) "KeptLeaves", .castable "KeptLeaves$Fault" "KeptLeaves$Fault", .castable "KeptLeaves$Leaf" "KeptLeaves$Missed", .methodLinkNest "KeptLeaves$OldLeaf" (3 : Nat) ({ cls := "KeptLeaves$Leaf", name := "<init>", desc := "()V" } : Jvm.MethodName) "KeptLeaves", .castable "KeptLeaves$OldLeaf" "KeptLeaves$Missed", .castable "KeptLeaves$OldLeaf" "KeptLeaves$Leaf", .methodLinkNest "KeptLeaves$CopyLeaf" (3 : Nat) ({ cls := "KeptLeaves$Leaf", name := "<init>", desc := "()V" } : Jvm.MethodName) "KeptLeaves", .castable "KeptLeaves$CopyLeaf" "KeptLeaves$Missed", .castable "KeptLeaves$CopyLeaf" "KeptLeaves$Leaf"]
theorem cNest_tbl : ∀ w ∈ cNest, w ∈ lw_tbl := by
  intro w h
  simp only [cNest, List.mem_cons, List.not_mem_nil, or_false] at h
  rcases h with h | h | h | h | h | h | h | h | h | h | h | h | h | h | h | h | h | h | h | h | h | h | h | h | h | h | h | h | h | h | h | h | h | h | h | h | h | h | h | h | h | h | h | h | h | h | h | h | h | h | h | h | h | h | h | h | h | h | h | h | h | h | h | h
  · rw [h]; exact q873
  · rw [h]; exact q1112
  · rw [h]; exact q140
  · rw [h]; exact q151
  · rw [h]; exact q153
  · rw [h]; exact q155
  · rw [h]; exact q157
  · rw [h]; exact q159
  · rw [h]; exact q161
  · rw [h]; exact q163
  · rw [h]; exact q165
  · rw [h]; exact q189
  · rw [h]; exact q191
  · rw [h]; exact q193
  · rw [h]; exact q195
  · rw [h]; exact q197
  · rw [h]; exact q199
  · rw [h]; exact q201
  · rw [h]; exact q203
  · rw [h]; exact q205
  · rw [h]; exact q207
  · rw [h]; exact q230
  · rw [h]; exact q272
  · rw [h]; exact q282
  · rw [h]; exact q302
  · rw [h]; exact q307
  · rw [h]; exact q315
  · rw [h]; exact q320
  · rw [h]; exact q523
  · rw [h]; exact q528
  · rw [h]; exact q530
  · rw [h]; exact q532
  · rw [h]; exact q587
  · rw [h]; exact q589
  · rw [h]; exact q591
  · rw [h]; exact q635
  · rw [h]; exact q665
  · rw [h]; exact q676
  · rw [h]; exact q687
  · rw [h]; exact q698
  · rw [h]; exact q709
  · rw [h]; exact q1246
  · rw [h]; exact q146
  · rw [h]; exact q1314
  · rw [h]; exact q679
  · rw [h]; exact q1278
  · rw [h]; exact q1900
  · rw [h]; exact q1906
  · rw [h]; exact q690
  · rw [h]; exact q1262
  · rw [h]; exact q1901
  · rw [h]; exact q1903
  · rw [h]; exact q701
  · rw [h]; exact q1270
  · rw [h]; exact q1904
  · rw [h]; exact q1028
  · rw [h]; exact q233
  · rw [h]; exact q1266
  · rw [h]; exact q638
  · rw [h]; exact q1274
  · rw [h]; exact q1905
  · rw [h]; exact q668
  · rw [h]; exact q1258
  · rw [h]; exact q1902
def isNest : Cond → Bool
  | .fieldLinkNest .. => true
  | .methodLinkNest .. => true
  | .castable .. => true
  | _ => false
theorem nest_warm {w : Cond} (hk : isNest w = true) {s U : State} (hW : s.WarmedH U.vm) (h : va_Nw w s) : va_Nw w U := by
  cases w with
  | fieldLinkNest a i b n d h0 => exact va_Nw.warmF hW h
  | methodLinkNest a i x h0 => exact va_Nw.warmM hW h
  | castable C T => exact va_Nw.warmC hW h
  | _ => exact absurd hk (by simp [isNest])
theorem nest_on {w : Cond} (hk : isNest w = true) : w.onTables = true := by
  cases w with
  | fieldLinkNest a i b n d h0 => rfl
  | methodLinkNest a i x h0 => rfl
  | castable C T => rfl
  | _ => exact absurd hk (by simp [isNest])
theorem cNest_is : ∀ w ∈ cNest, isNest w = true := by
  intro w h
  have h1 : cNest.all isNest = true := by rfl
  exact List.all_eq_true.mp h1 w h
abbrev cNot : List (String × String) := [("KeptLeaves$Sheet", "KeptLeaves$Leaf"), ("KeptLeaves$Figure", "KeptLeaves$Leaf"), ("KeptLeaves$OldLeaf", "KeptLeaves$Sheet"), ("KeptLeaves$CopyLeaf", "KeptLeaves$Sheet"), ("KeptLeaves$TornLeaf", "KeptLeaves$Sheet"), ("KeptLeaves$FadedLeaf", "KeptLeaves$Sheet"), ("KeptLeaves$ListLeaf", "KeptLeaves$Sheet"), ("KeptLeaves$Leaf", "KeptLeaves$Sheet"), ("KeptLeaves$Figure", "KeptLeaves$Sheet"), ("KeptLeaves$Sheet", "KeptLeaves$Figure"), ("KeptLeaves$OldLeaf", "KeptLeaves$Figure"), ("KeptLeaves$CopyLeaf", "KeptLeaves$Figure"), ("KeptLeaves$TornLeaf", "KeptLeaves$Figure"), ("KeptLeaves$FadedLeaf", "KeptLeaves$Figure"), ("KeptLeaves$ListLeaf", "KeptLeaves$Figure"), ("KeptLeaves$Leaf", "KeptLeaves$Figure"), ("KeptLeaves$Sheet", "KeptLeaves$OldLeaf"), ("KeptLeaves$CopyLeaf", "KeptLeaves$OldLeaf"), ("KeptLeaves$FadedLeaf", "KeptLeaves$OldLeaf"), ("KeptLeaves$ListLeaf", "KeptLeaves$OldLeaf"), ("KeptLeaves$Leaf", "KeptLeaves$OldLeaf"), ("KeptLeaves$Figure", "KeptLeaves$OldLeaf"), ("KeptLeaves$Sheet", "KeptLeaves$CopyLeaf"), ("KeptLeaves$OldLeaf", "KeptLeaves$CopyLeaf"), ("KeptLeaves$TornLeaf", "KeptLeaves$CopyLeaf"), ("KeptLeaves$ListLeaf", "KeptLeaves$CopyLeaf"), ("KeptLeaves$Leaf", "KeptLeaves$CopyLeaf"), ("KeptLeaves$Figure", "KeptLeaves$CopyLeaf"), ("KeptLeaves$Sheet", "KeptLeaves$TornLeaf"), ("KeptLeaves$OldLeaf", "KeptLeaves$TornLeaf"), ("KeptLeaves$CopyLeaf", "KeptLeaves$TornLeaf"), ("KeptLeaves$FadedLeaf", "KeptLeaves$TornLeaf"), ("KeptLeaves$ListLeaf", "KeptLeaves$TornLeaf"), ("KeptLeaves$Leaf", "KeptLeaves$TornLeaf"), ("KeptLeaves$Figure", "KeptLeaves$TornLeaf"), ("KeptLeaves$Sheet", "KeptLeaves$FadedLeaf"), ("KeptLeaves$OldLeaf", "KeptLeaves$FadedLeaf"), ("KeptLeaves$CopyLeaf", "KeptLeaves$FadedLeaf"), ("KeptLeaves$TornLeaf", "KeptLeaves$FadedLeaf"), ("KeptLeaves$ListLeaf", "KeptLeaves$FadedLeaf"), ("KeptLeaves$Leaf", "KeptLeaves$FadedLeaf"), ("KeptLeaves$Figure", "KeptLeaves$FadedLeaf"), ("KeptLeaves$Sheet", "KeptLeaves$ListLeaf"), ("KeptLeaves$OldLeaf", "KeptLeaves$ListLeaf"), ("KeptLeaves$CopyLeaf", "KeptLeaves$ListLeaf"), ("KeptLeaves$TornLeaf", "KeptLeaves$ListLeaf"), ("KeptLeaves$FadedLeaf", "KeptLeaves$ListLeaf"), ("KeptLeaves$Leaf", "KeptLeaves$ListLeaf"), ("KeptLeaves$Figure", "KeptLeaves$ListLeaf"), ("[F", "KeptLeaves$OldLeaf"), ("[S", "KeptLeaves$OldLeaf"), ("[F", "KeptLeaves$CopyLeaf"), ("[S", "KeptLeaves$CopyLeaf"), ("[F", "KeptLeaves$TornLeaf"), ("[S", "KeptLeaves$TornLeaf"), ("[F", "KeptLeaves$FadedLeaf"), ("[S", "KeptLeaves$FadedLeaf"), ("[F", "KeptLeaves$ListLeaf"), ("[S", "KeptLeaves$ListLeaf"), ("[F", "KeptLeaves$Leaf"), ("[S", "KeptLeaves$Leaf"), ("KeptLeaves$Sheet", "[F"), ("KeptLeaves$OldLeaf", "[F"), ("KeptLeaves$CopyLeaf", "[F"), ("KeptLeaves$TornLeaf", "[F"), ("KeptLeaves$FadedLeaf", "[F"), ("KeptLeaves$ListLeaf", "[F"), ("KeptLeaves$Leaf", "[F"), ("KeptLeaves$Figure", "[F"), ("[S", "[F"), ("KeptLeaves$Sheet", "[S"), ("KeptLeaves$OldLeaf", "[S"), ("KeptLeaves$CopyLeaf", "[S"), ("KeptLeaves$TornLeaf", "[S"), ("KeptLeaves$FadedLeaf", "[S"), ("KeptLeaves$ListLeaf", "[S"), ("KeptLeaves$Leaf", "[S"), ("KeptLeaves$Figure", "[S"), ("[F", "[S"), ("[F", "KeptLeaves$Sheet"), ("[S", "KeptLeaves$Sheet"), ("[F", "KeptLeaves$Figure"), ("[S", "KeptLeaves$Figure")]
abbrev cFw : List (String × MethodName × MethodName) := [("KeptLeaves$Leaf", ⟨"KeptLeaves$Missed", "worth", "()I"⟩, ⟨"KeptLeaves$Leaf", "worth", "()I"⟩), ("KeptLeaves$OldLeaf", ⟨"KeptLeaves$Missed", "worth", "()I"⟩, ⟨"KeptLeaves$OldLeaf", "worth", "()I"⟩), ("KeptLeaves$CopyLeaf", ⟨"KeptLeaves$Missed", "worth", "()I"⟩, ⟨"KeptLeaves$CopyLeaf", "worth", "()I"⟩), ("KeptLeaves$TornLeaf", ⟨"KeptLeaves$Missed", "worth", "()I"⟩, ⟨"KeptLeaves$TornLeaf", "worth", "()I"⟩), ("KeptLeaves$FadedLeaf", ⟨"KeptLeaves$Missed", "worth", "()I"⟩, ⟨"KeptLeaves$FadedLeaf", "worth", "()I"⟩), ("KeptLeaves$ListLeaf", ⟨"KeptLeaves$Missed", "worth", "()I"⟩, ⟨"KeptLeaves$ListLeaf", "worth", "()I"⟩)]
abbrev cLD : List (String × MethodName × MethodName) := [("KeptLeaves$Leaf", ⟨"KeptLeaves$Leaf", "room", "(I)I"⟩, ⟨"KeptLeaves$Takes", "room", "(I)I"⟩), ("KeptLeaves$Leaf", ⟨"KeptLeaves$Leaf", "miss", "(II)I"⟩, ⟨"KeptLeaves$Missed", "miss", "(II)I"⟩)]
theorem cDef_is : ∀ w ∈ defaultWords_1, (w.onTables && w.keeps) = true := by
  intro w h
  have h1 : defaultWords_1.all (fun w => w.onTables && w.keeps) = true := by rfl
  exact List.all_eq_true.mp h1 w h
theorem LDw.warm {C : String} {x y : MethodName} {s U : State} (hW : s.WarmedH U.vm) (h : LDw C x y s) : LDw C x y U := LDw.moved (u := s) (vm' := U.vm) hW.alike h
theorem cFw_ok : ∀ q ∈ cFw, q.2.1.cls ≠ "java/lang/invoke/MethodHandle" ∧ q.2.1.cls ≠ "java/lang/invoke/VarHandle" := by
  intro q hq
  simp only [cFw, List.mem_cons, List.not_mem_nil, or_false] at hq
  rcases hq with e | e | e | e | e | e <;> (rw [e]; decide +kernel)
/-- the nest mates' words -/
def NW (U : State) : Prop := (∀ w ∈ cNest, va_Nw w U) ∧ (∀ q ∈ cNot, va_Nc q.1 q.2 U) ∧ (∀ q ∈ cFw, va_Fw q.1 q.2.1 q.2.2 U) ∧ (∀ w ∈ defaultWords_1, va_Nw w U) ∧ (∀ q ∈ cLD, LDw q.1 q.2.1 q.2.2 U)
theorem NW.warm {s U : State} (hW : s.WarmedH U.vm) (h : NW s) : NW U := ⟨fun w hw => nest_warm (cNest_is w hw) hW (h.1 w hw), fun q hq => (h.2.1 q hq).moved hW.alike, fun q hq => (h.2.2.1 q hq).moved (cFw_ok q hq) hW.alike, fun w hw => word_at hW (Or.inl (cDef_is w hw)) (h.2.2.2.1 w hw), fun q hq => (h.2.2.2.2 q hq).warm hW⟩
theorem NW.calling {U : State} {g : JFrame} {mk : MethodId} {a : Array Value} (h : NW U) : NW (U.calling g mk a) := ⟨fun w hw => va_Nw.same (u := U) (U := U.calling g mk a) (nest_on (cNest_is w hw)) rfl (h.1 w hw), fun q hq => va_Nc.moved (u := U) (U := U.calling g mk a) (Vm.Alike.refl U.vm) (h.2.1 q hq), fun q hq => va_Fw.moved (u := U) (U := U.calling g mk a) (cFw_ok q hq) (Vm.Alike.refl U.vm) (h.2.2.1 q hq), fun w hw => va_Nw.same (u := U) (U := U.calling g mk a) (by have := cDef_is w hw; simp only [Bool.and_eq_true] at this; exact this.1) rfl (h.2.2.2.1 w hw), fun q hq => h.2.2.2.2 q hq⟩
theorem NW.start {s : State} {args : Array Value} (h : ∀ w ∈ lw_tbl, w.before args s = true) (hn : ∀ q ∈ cNot, (Cond.not (.castable q.1 q.2)).before args s = true) (hdw : ∀ w ∈ defaultWords_1, w.before args s = true) (hld : ∀ q ∈ cLD, (Cond.landsInDefault q.1 q.2.1 q.2.2).before args s = true) : NW s := by
  refine ⟨fun w hw => va_Nw.of (nest_on (cNest_is w hw)) (h w (cNest_tbl w hw)), fun q hq => va_Nc.of (hn q hq), fun q hq => ?_, fun w hw => va_Nw.of (by have := cDef_is w hw; simp only [Bool.and_eq_true] at this; exact this.1) (hdw w hw), fun q hq => ?_⟩
  · simp only [cFw, List.mem_cons, List.not_mem_nil, or_false] at hq
    rcases hq with e | e | e | e | e | e
    · rw [e]; exact va_Fw.of (h _ q1257) (h _ q1256) (h _ q1269) (h _ q1268) (h _ q1266)
    · rw [e]; exact va_Fw.of (h _ q1257) (h _ q1256) (h _ q1277) (h _ q1276) (h _ q1274)
    · rw [e]; exact va_Fw.of (h _ q1257) (h _ q1256) (h _ q1261) (h _ q1260) (h _ q1258)
    · rw [e]; exact va_Fw.of (h _ q1257) (h _ q1256) (h _ q1281) (h _ q1280) (h _ q1278)
    · rw [e]; exact va_Fw.of (h _ q1257) (h _ q1256) (h _ q1265) (h _ q1264) (h _ q1262)
    · rw [e]; exact va_Fw.of (h _ q1257) (h _ q1256) (h _ q1273) (h _ q1272) (h _ q1270)
  · have hl := hld q hq
    simp only [cLD, List.mem_cons, List.not_mem_nil, or_false] at hq
    rcases hq with e | e
    · rw [e] at hl ⊢; exact LDw.of (owner := "KeptLeaves$Takes") (by decide +kernel) (hdw _ (List.mem_of_getElem? (i := 1) rfl)) hl
    · rw [e] at hl ⊢; exact LDw.of (owner := "KeptLeaves$Missed") (by decide +kernel) (hdw _ (List.mem_of_getElem? (i := 5) rfl)) hl
abbrev CS : Type := (Nat → Nat → Int32) × (Nat → Nat → Nat) × (Nat → Nat × Nat) × (Nat → Nat → UInt32)
/-- a name as an address; 0 is null -/
def rq (ad : Nat → Nat) (x : Nat) : Option Nat := if x = 0 then none else some (ad x)
abbrev rv (ad : Nat → Nat) (x : Nat) : Value := va_rf (rq ad x)
theorem rv_0 {ad : Nat → Nat} : rv ad 0 = .null := by simp [rv, rq, va_rf]
theorem rv_n {ad : Nat → Nat} {x : Nat} (h : x ≠ 0) : rv ad x = .ref (ad x) := by simp [rv, rq, va_rf, h]
abbrev kObj (ad : Nat → Nat) (i : Nat → Int32) (r : Nat → Nat) : List Value := [.ref (ad 1), .ref (ad 2), .ref (ad 3), .int (i 3), .ref (ad 7), rv ad (r 5), .ref (ad 70), .ref (ad 71), .int (i 8), .ref (ad 85), .int (i 10), .int (i 11), .int (i 12), .int (i 13), .int (i 14), .int (i 15), .int (i 16), .ref (ad 72), .ref (ad 73), .ref (ad 74), .ref (ad 75), .ref (ad 76), .ref (ad 77), .ref (ad 78), .ref (ad 79), .ref (ad 83), .ref (ad 84), .ref (ad 80), .ref (ad 81), .int (i 29), .ref (ad 82)]
abbrev sObj (ad : Nat → Nat) (n : Nat) (i : Nat → Int32) : List Value := [.ref (ad (n + 3)), .int (i 1), .ref (ad (n + 40)), .int (i 3), .int (i 4), .int (i 5), .int (i 6), .ref (ad (n + 50)), .int (i 8), .ref (ad (n + 60))]
abbrev hObj (ad : Nat → Nat) (n : Nat) (i : Nat → Int32) : List Value := [.int (i 0), .int (i 1), .int (i 2), .int (i 3), .int (i 4), .ref (ad (n + 10)), .ref (ad (n + 20)), .ref (ad (n + 30))]
abbrev lObj (i : Nat → Int32) : List Value := [.int (i 0), .int (i 1), .int (i 2), .int (i 3)]
abbrev fObj (fv : Nat → Value) (i : Nat → Int32) : List Value := [fv 0, fv 1, fv 2, fv 3, fv 4, fv 5, .int (i 6)]
abbrev rRow (ad : Nat → Nat) (r : Nat → Nat) : (Nat → Int32) ⊕ (Nat → Int64) ⊕ (Nat → UInt32) ⊕ (Nat → UInt64) ⊕ (Nat → Option Nat) := .inr (.inr (.inr (.inr (fun j => rq ad (r j)))))
/-- what was made later, by its kind: 100 + class, 20 int[], 23 float[], 24 short[] -/
def dCell (dA : Nat → ClassId) (ad : Nat → Nat) (i : Nat → Int32) (r : Nat → Nat) (t : Nat × Nat) (g : Nat → UInt32) : va_E :=
  if t.1 = 104 then .inr (4, [rv ad (r 0)]) else if 107 ≤ t.1 ∧ t.1 ≤ 112 then .inr (t.1 - 100, lObj i) else if t.1 = 113 then .inr (13, [rv ad (r 0), rv ad (r 1), .int (i 2)]) else if t.1 = 114 then .inr (14, [.int (i 0), rv ad (r 1), .int (i 2)]) else if t.1 = 115 then .inr (15, [.int (i 0)])
  else if t.1 = 23 then .inl (dA 3, t.2, .inr (.inr (.inl g))) else if t.1 = 24 then .inl (dA 4, t.2, .inl i) else .inl (dA 0, t.2, .inl i)
def cCell (dA : Nat → ClassId) (ad : Nat → Nat) (fv : Nat → Value) (n : Nat) (i : Nat → Int32) (r : Nat → Nat) (t : Nat × Nat) (g : Nat → UInt32) : va_E :=
  if n = 0 then .inr (0, kObj ad i r) else if n ≤ 3 then .inr (1, sObj ad n i) else if n ≤ 7 then .inr (2, hObj ad n i) else if n ≤ 37 then .inl (dA 0, 8, .inl i) else if n ≤ 43 then .inl (dA 5, 8, rRow ad r) else if n ≤ 53 then .inl (dA 0, 24, .inl i) else if n ≤ 63 then .inl (dA 6, 14, rRow ad r)
  else if n ≤ 70 then .inl (dA 0, 96, .inl i) else if n = 71 then .inl (dA 1, 96, .inl i) else if n = 72 then .inl (dA 0, 128, .inl i) else if n ≤ 75 then .inl (dA 0, 8, .inl i) else if n = 76 then .inl (dA 2, 256, .inl i) else if n ≤ 78 then .inl (dA 0, 256, .inl i) else if n = 79 then .inl (dA 0, 3, .inl i) else if n = 80 then .inl (dA 3, 24, .inr (.inr (.inl g))) else if n ≤ 82 then .inl (dA 0, 60, .inl i)
  else if n = 83 then .inl (dA 7, 4, rRow ad (fun j => j + 86)) else if n = 84 then .inl (dA 8, 5, rRow ad (fun j => j + 90)) else if n = 85 then .inr (3, fObj fv i) else if n ≤ 89 then .inr (4, [rv ad (r 0)]) else if n ≤ 94 then .inr (5, [rv ad (r 0)]) else dCell dA ad i r t g
def cC (dA : Nat → ClassId) (ad : Nat → Nat) (fv : Nat → Value) (a : CS) : Nat → va_E := fun n => cCell dA ad fv n (a.1 n) (a.2.1 n) (a.2.2.1 n) (a.2.2.2 n)
abbrev sL : List Nat := [0, 1, 2, 3, 4, 5, 6, 7, 14, 15, 16, 17, 24, 25, 26, 27, 34, 35, 36, 37, 41, 42, 43, 51, 52, 53, 61, 62, 63, 70, 71, 72, 73, 74, 75, 76, 77, 78, 79, 80, 81, 82, 83, 84, 85, 86, 87, 88, 89, 90, 91, 92, 93, 94]
def wI (a : CS) (n k : Nat) (v : Int32) : CS := (up2 a.1 n k v, a.2)
def wR (a : CS) (n k : Nat) (x : Nat) : CS := (a.1, up2 a.2.1 n k x, a.2.2)
def wG (a : CS) (n k : Nat) (v : UInt32) : CS := (a.1, a.2.1, a.2.2.1, up2 a.2.2.2 n k v)
/-- a new thing at the name n: all nought -/
def wN (a : CS) (n : Nat) (t : Nat × Nat) : CS := (va_up a.1 n (fun _ => 0), va_up a.2.1 n (fun _ => 0), va_up a.2.2.1 n t, va_up a.2.2.2 n (fun _ => 0))
theorem up2_rowA {α : Type} {a : Nat → Nat → α} {f j : Nat} {v : α} : up2 a f j v f = va_up (a f) j v := by
  funext q
  simp [up2, va_up]
theorem up2_offA {α : Type} {a : Nat → Nat → α} {f g j : Nat} {v : α} (h : g ≠ f) : up2 a f j v g = a g := by
  funext q
  simp [up2, h]
theorem cC_up {dA : Nat → ClassId} {ad : Nat → Nat} {fv : Nat → Value} {a b : CS} {n : Nat} {e : va_E} (h : ∀ g, g ≠ n → b.1 g = a.1 g ∧ b.2.1 g = a.2.1 g ∧ b.2.2.1 g = a.2.2.1 g ∧ b.2.2.2 g = a.2.2.2 g) (he : cC dA ad fv b n = e) : va_up (cC dA ad fv a) n e = cC dA ad fv b := by
  funext g
  by_cases hg : g = n
  · subst hg
    simp [va_up, he]
  · obtain ⟨h1, h2, h3, h4⟩ := h g hg
    simp only [va_up, if_neg hg, cC, h1, h2, h3, h4]
theorem wI_off {a : CS} {n k : Nat} {v : Int32} : ∀ g, g ≠ n → (wI a n k v).1 g = a.1 g ∧ (wI a n k v).2.1 g = a.2.1 g ∧ (wI a n k v).2.2.1 g = a.2.2.1 g ∧ (wI a n k v).2.2.2 g = a.2.2.2 g := fun g hg => ⟨up2_off hg, rfl, rfl, rfl⟩
theorem wR_off {a : CS} {n k x : Nat} : ∀ g, g ≠ n → (wR a n k x).1 g = a.1 g ∧ (wR a n k x).2.1 g = a.2.1 g ∧ (wR a n k x).2.2.1 g = a.2.2.1 g ∧ (wR a n k x).2.2.2 g = a.2.2.2 g := fun g hg => ⟨rfl, up2_offA hg, rfl, rfl⟩
theorem wG_off {a : CS} {n k : Nat} {v : UInt32} : ∀ g, g ≠ n → (wG a n k v).1 g = a.1 g ∧ (wG a n k v).2.1 g = a.2.1 g ∧ (wG a n k v).2.2.1 g = a.2.2.1 g ∧ (wG a n k v).2.2.2 g = a.2.2.2 g := fun g hg => ⟨rfl, rfl, rfl, up2_offA hg⟩
theorem wN_off {a : CS} {n : Nat} {t : Nat × Nat} : ∀ g, g ≠ n → (wN a n t).1 g = a.1 g ∧ (wN a n t).2.1 g = a.2.1 g ∧ (wN a n t).2.2.1 g = a.2.2.1 g ∧ (wN a n t).2.2.2 g = a.2.2.2 g := fun g hg => ⟨by simp [wN, va_up, hg], by simp [wN, va_up, hg], by simp [wN, va_up, hg], by simp [wN, va_up, hg]⟩
abbrev lenJ : List Nat := [4, 4, 5]
abbrev bytJ : List (List Int32) := [[114, 111, 111, 109], [109, 105, 115, 115], [116, 104, 114, 111, 119]]
/-- a static that holds a reference or null and that nobody writes -/
def ZR (C n d : String) (A : Nat → Prop) (U : State) : Prop := ∃ (c : ClassId) (k : Class) (i : Nat) (f : Field) (a : Nat) (cell : Cell) (v : Value), U.vm.findClass C = some c ∧ U.fieldFound? C n d = some (c, k, i, f) ∧ f.isStatic = true ∧ k.init = .initialized ∧ k.statics = some a ∧ U.heap[a]? = some cell ∧ cell.vm.isStatics = true ∧ cell.cls = c ∧ f.slot < cell.slots.size ∧ k.staticTypes[f.slot]? = some f.type ∧ cell.slots[f.slot]? = some v ∧ (v = .null ∨ ∃ q, v = .ref q) ∧ ¬ A a
theorem ZR.moved {C n d : String} {A : Nat → Prop} {s U : State} (hW : s.vm.Alike U.vm) (hk : ∀ q : Nat, q < s.heap.size → ¬ A q → U.heap[q]? = s.heap[q]?) (h : ZR C n d A s) : ZR C n d A U := by
  obtain ⟨c, k, i, f, a, cell, v, h1, h2, h3, h4, h5, h6, h7, h8, h9, h10, h11, h12, h13⟩ := h
  obtain ⟨k1, hi1, he⟩ := State.fieldFound?_setVm hW h2
  exact ⟨c, k1, i, f, a, cell, v, by rw [hW.findClass]; exact h1, hi1, h3, by rw [he]; exact h4, by rw [he]; exact h5, by rw [hk a (Array.getElem?_eq_some_iff.mp h6).1 h13]; exact h6, h7, h8, h9, by rw [he]; exact h10, h11, h12, h13⟩
theorem ZR.lays {C n d : String} {A : Nat → Prop} {U : State} {args : Array Value} (h : ZR C n d A U) : (Cond.laysStatic C n d).before args U = true := by
  obtain ⟨c, k, i, f, a, cell, v, h1, h2, h3, h4, h5, h6, h7, h8, h9, h10, h11, h12, h13⟩ := h
  exact Cond.laysStatic_of h1 h2 h3 h5 h6 h7 h8 h9 h10
theorem ZR.ref {C n d : String} {A : Nat → Prop} {U : State} {args : Array Value} (h : ZR C n d A U) : (Cond.isRef (.static C n d)).before args U = true := by
  obtain ⟨c, k, i, f, a, cell, v, h1, h2, h3, h4, h5, h6, h7, h8, h9, h10, h11, h12, h13⟩ := h
  have he : (Term.static C n d).eval args U none [] U = some v := by
    simp [Term.eval, State.fieldNamed?, h2, h3, h5, h6, h7, h11]
  rcases h12 with e | ⟨q, e⟩ <;> (subst e; simp [Cond.before, Cond.holds, Cond.value, he])
theorem ZR.Z {C n d : String} {A : Nat → Prop} {U : State} (h : ZR C n d A U) : ∃ v : Value, v.category = 1 ∧ va_Z C n d v A U U.heap := by
  obtain ⟨c, k, i, f, a, cell, v, h1, h2, h3, h4, h5, h6, h7, h8, h9, h10, h11, h12, h13⟩ := h
  refine ⟨v, ?_, c, k, i, f, a, cell, h2, h3, h4, h5, h6, h7, h11, h13⟩
  rcases h12 with e | ⟨q, e⟩ <;> (subst e; rfl)
theorem ZR.of {args : Array Value} {s : State} {C n d : String} {A : Nat → Prop} (hl : (Cond.laysStatic C n d).before args s = true) (hini : (Cond.initialized C).before args s = true) (hr : (Cond.isRef (.static C n d)).before args s = true) (hA : ∀ a : Nat, a < s.heap.size → ¬ A a) : ZR C n d A s := by
  obtain ⟨c, k, i, f, a, cell, hc, hi, hst, ha, hcell, hs, hcls, hlt, hty⟩ := Cond.laysStatic_spec hl
  have he : (Term.static C n d).eval args s none [] s = cell.slots[f.slot]? := by
    simp [Term.eval, State.fieldNamed?, hi, hst, ha, hcell, hs]
  obtain ⟨v, hv⟩ : ∃ v, cell.slots[f.slot]? = some v := ⟨_, Array.getElem?_eq_getElem hlt⟩
  refine ⟨c, k, i, f, a, cell, v, hc, hi, hst, Cond.initialized_spec hc (State.fieldFound?_spec hi).1 hini, ha, hcell, hs, hcls, hlt, hty, hv, ?_, hA a (Array.getElem?_eq_some_iff.mp hcell).1⟩
  rw [hv] at he
  simp only [Cond.before, Cond.holds, Cond.value, he] at hr
  cases v with
  | null => exact Or.inl rfl
  | ref q => exact Or.inr ⟨q, rfl⟩
  | _ => simp at hr
abbrev iniS (X : String) : MethodName := ⟨X, "<init>", "(Ljava/lang/String;)V"⟩
/-- the string constants, the statics that nobody writes, the table of modules -/
def KW (ad : Nat → Nat) (A : Nat → Prop) (U : State) : Prop :=
  vk_S 3 lenJ bytJ (fun i => ad (i + 95)) (fun i => ad (i + 98)) A U U.heap ∧ (vk_R "KeptLeaves" 245 "room" (ad 95) U ∧ vk_R "KeptLeaves" 251 "miss" (ad 96) U ∧ vk_R "KeptLeaves" 253 "throw" (ad 97) U) ∧ va_Z "java/lang/String" "COMPACT_STRINGS" "Z" (.int 1) A U U.heap ∧ ZR "jdk/internal/util/Preconditions" "SIOOBE_FORMATTER" "Ljava/util/function/BiFunction;" A U ∧ ZR "java/lang/Throwable" "UNASSIGNED_STACK" "[Ljava/lang/StackTraceElement;" A U ∧ ZR "java/lang/Throwable" "SUPPRESSED_SENTINEL" "Ljava/util/List;" A U ∧ (va_Nw (.declares (iniS "java/lang/RuntimeException")) U ∧ va_Nw (.declares (iniS "java/lang/Exception")) U ∧ va_Nw (.declares (iniS "java/lang/Throwable")) U) ∧ modulesRight_1 U = true
theorem mods_moved {s U : State} (h : s.vm.Alike U.vm) (hm : modulesRight_1 s = true) : modulesRight_1 U = true := by
  have e : U.vm.modules = s.vm.modules := by rw [h.1]
  unfold modulesRight_1 at hm ⊢
  rw [e]
  exact hm
theorem KW.moved {ad : Nat → Nat} {A : Nat → Prop} {s U : State} (hW : s.WarmedH U.vm) (hk : ∀ q : Nat, q < s.heap.size → ¬ A q → U.heap[q]? = s.heap[q]?) (h : KW ad A s) : KW ad A U := by
  obtain ⟨h1, ⟨r1, r2, r3⟩, h2, h3, h4, h5, ⟨d1, d2, d3⟩, hm⟩ := h
  exact ⟨(h1.moved hW.alike).kept hk, ⟨r1.warm hW, r2.warm hW, r3.warm hW⟩, (h2.moved hW.alike).kept hk, h3.moved hW.alike hk, h4.moved hW.alike hk, h5.moved hW.alike hk, ⟨d1.warmD hW, d2.warmD hW, d3.warmD hW⟩, mods_moved hW.alike hm⟩
theorem KW.calling {ad : Nat → Nat} {A : Nat → Prop} {U : State} {g : JFrame} {mk : MethodId} {a : Array Value} (h : KW ad A U) : KW ad A (U.calling g mk a) := by
  obtain ⟨h1, ⟨r1, r2, r3⟩, h2, h3, h4, h5, ⟨d1, d2, d3⟩, hm⟩ := h
  exact ⟨h1.moved (U := U.calling g mk a) (Vm.Alike.refl U.vm), ⟨r1.same (U := U.calling g mk a) rfl, r2.same (U := U.calling g mk a) rfl, r3.same (U := U.calling g mk a) rfl⟩, h2.moved (U := U.calling g mk a) (Vm.Alike.refl U.vm), h3.moved (U := U.calling g mk a) (Vm.Alike.refl U.vm) (fun _ _ _ => rfl), h4.moved (U := U.calling g mk a) (Vm.Alike.refl U.vm) (fun _ _ _ => rfl), h5.moved (U := U.calling g mk a) (Vm.Alike.refl U.vm) (fun _ _ _ => rfl), ⟨d1.same (U := U.calling g mk a) rfl rfl, d2.same (U := U.calling g mk a) rfl rfl, d3.same (U := U.calling g mk a) rfl rfl⟩, mods_moved (U := U.calling g mk a) (Vm.Alike.refl U.vm) hm⟩
/-- the component's world: in a walk; at a contract's start and end -/
def CW (D : va_G) (dA : Nat → ClassId) (ad : Nat → Nat) (fv : Nat → Value) (A : Nat → Prop) (a : CS) (s : State) (H : Heap) (locs : List Loc) : Prop :=
  ∃ dyn : List Nat, xw D dA (sL ++ dyn) ad (cC dA ad fv a) A s H locs ∧ (∀ n, n ∈ dyn ↔ 1000 ≤ n ∧ (a.2.2.1 n).1 ≠ 0) ∧ (4 ≤ a.2.1 0 5 ∧ a.2.1 0 5 ≤ 7) ∧ (∀ q, ad (q + 1000) = q) ∧ NW s ∧ KW ad A s
def CI (D : va_G) (dA : Nat → ClassId) (ad : Nat → Nat) (fv : Nat → Value) (A : Nat → Prop) (a : CS) (U : State) : Prop :=
  ∃ dyn : List Nat, xi D dA (sL ++ dyn) ad (cC dA ad fv a) A U ∧ (∀ n, n ∈ dyn ↔ 1000 ≤ n ∧ (a.2.2.1 n).1 ≠ 0) ∧ (4 ≤ a.2.1 0 5 ∧ a.2.1 0 5 ≤ 7) ∧ (∀ q, ad (q + 1000) = q) ∧ NW U ∧ KW ad A U
/-- a name that stands for a cell of this world -/
def cOk (a : CS) (n : Nat) : Prop := n ∈ sL ∨ (1000 ≤ n ∧ (a.2.2.1 n).1 ≠ 0)
theorem cOk.s {a : CS} {n : Nat} (h : n ∈ sL) : cOk a n := Or.inl h
theorem cOk.mem {a : CS} {n : Nat} {dyn : List Nat} (h : cOk a n) (hd : ∀ n, n ∈ dyn ↔ 1000 ≤ n ∧ (a.2.2.1 n).1 ≠ 0) : n ∈ sL ++ dyn := by
  rcases h with h | h
  · exact List.mem_append_left _ h
  · exact List.mem_append_right _ ((hd n).mpr h)

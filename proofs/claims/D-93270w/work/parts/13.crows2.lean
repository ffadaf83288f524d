/-! ROWS OF THE COMPONENT's WORLD: objects, references, calls -/
def isO (dA : Nat → ClassId) (ad : Nat → Nat) (fv : Nat → Value) (a : CS) (n ci : Nat) (F : (Nat → Int32) → List Value) : Prop := ∀ i, cCell dA ad fv n i (a.2.1 n) (a.2.2.1 n) (a.2.2.2 n) = .inr (ci, F i)
section CK
variable {dA : Nat → ClassId} {ad : Nat → Nat} {fv : Nat → Value} {a : CS} {n : Nat}
theorem isO_K : isO dA ad fv a 0 0 (fun i => kObj ad i (a.2.1 0)) := fun _ => rfl
theorem isO_S (h1 : 1 ≤ n) (h2 : n ≤ 3) : isO dA ad fv a n 1 (sObj ad n) := fun i => by
  unfold cCell
  rw [if_neg (by omega), if_pos h2]
theorem isO_H (h1 : 4 ≤ n) (h2 : n ≤ 7) : isO dA ad fv a n 2 (hObj ad n) := fun i => by
  unfold cCell
  rw [if_neg (by omega), if_neg (by omega), if_pos h2]
theorem isO_F : isO dA ad fv a 85 3 (fObj fv) := fun _ => rfl
theorem isO_sh (h1 : 86 ≤ n) (h2 : n ≤ 89) : isO dA ad fv a n 4 (fun _ => [rv ad (a.2.1 n 0)]) := fun i => by
  unfold cCell
  iterate 19 rw [if_neg (by omega)]
  rw [if_pos h2]
theorem isO_sl (h1 : 90 ≤ n) (h2 : n ≤ 94) : isO dA ad fv a n 5 (fun _ => [rv ad (a.2.1 n 0)]) := fun i => by
  unfold cCell
  iterate 20 rw [if_neg (by omega)]
  rw [if_pos h2]
theorem cCell_d (h : 1000 ≤ n) {i : Nat → Int32} {r : Nat → Nat} {t : Nat × Nat} {g : Nat → UInt32} : cCell dA ad fv n i r t g = dCell dA ad i r t g := by
  unfold cCell
  iterate 21 rw [if_neg (by omega)]
/-- kinds of what was made later -/
def leafK (a : CS) (n : Nat) : Prop := 1000 ≤ n ∧ 107 ≤ (a.2.2.1 n).1 ∧ (a.2.2.1 n).1 ≤ 112
def kindK (a : CS) (n k : Nat) : Prop := 1000 ≤ n ∧ (a.2.2.1 n).1 = k
theorem leafK.ok (h : leafK a n) : cOk a n := Or.inr ⟨h.1, by have := h.2.1; omega⟩
theorem kindK.ok {k : Nat} (h : kindK a n k) (hk : k ≠ 0) : cOk a n := Or.inr ⟨h.1, by rw [h.2]; exact hk⟩
theorem leafK.ne (h : leafK a n) : n ≠ 0 := by have := h.1; omega
theorem kindK.ne {k : Nat} (h : kindK a n k) : n ≠ 0 := by have := h.1; omega
theorem isO_L (h : leafK a n) : isO dA ad fv a n ((a.2.2.1 n).1 - 100) lObj := fun i => by
  rw [cCell_d h.1]
  unfold dCell
  rw [if_neg (by have := h.2.1; omega), if_pos h.2]
theorem isO_W (h : kindK a n 113) : isO dA ad fv a n 13 (fun i => [rv ad (a.2.1 n 0), rv ad (a.2.1 n 1), .int (i 2)]) := fun i => by
  rw [cCell_d h.1]
  unfold dCell
  rw [h.2]
  rfl
theorem isO_T (h : kindK a n 114) : isO dA ad fv a n 14 (fun i => [.int (i 0), rv ad (a.2.1 n 1), .int (i 2)]) := fun i => by
  rw [cCell_d h.1]
  unfold dCell
  rw [h.2]
  rfl
theorem isO_G (h : kindK a n 115) : isO dA ad fv a n 15 (fun i => [.int (i 0)]) := fun i => by
  rw [cCell_d h.1]
  unfold dCell
  rw [h.2]
  rfl
theorem isO_shD (h : kindK a n 104) : isO dA ad fv a n 4 (fun _ => [rv ad (a.2.1 n 0)]) := fun i => by
  rw [cCell_d h.1]
  unfold dCell
  rw [h.2]
  rfl
theorem isA_8 (h1 : 8 ≤ n) (h2 : n ≤ 37) : isA dA ad fv a n 0 8 := fun i => by
  unfold cCell
  rw [if_neg (by omega), if_neg (by omega), if_neg (by omega), if_pos h2]
theorem isA_ask (h1 : 44 ≤ n) (h2 : n ≤ 53) : isA dA ad fv a n 0 24 := fun i => by
  unfold cCell
  rw [if_neg (by omega), if_neg (by omega), if_neg (by omega), if_neg (by omega), if_neg (by omega), if_pos h2]
theorem isA_d (h : kindK a n 20) : isA dA ad fv a n 0 (a.2.2.1 n).2 := fun i => by
  rw [cCell_d h.1]
  unfold dCell
  rw [h.2]
  rfl
theorem isA_s (h : kindK a n 24) : isA dA ad fv a n 4 (a.2.2.1 n).2 := fun i => by
  rw [cCell_d h.1]
  unfold dCell
  rw [h.2]
  rfl
/-- a row of references -/
def isR (dA : Nat → ClassId) (ad : Nat → Nat) (fv : Nat → Value) (a : CS) (n t len : Nat) : Prop := ∀ r, cCell dA ad fv n (a.1 n) r (a.2.2.1 n) (a.2.2.2 n) = .inl (dA t, len, rRow ad r)
theorem isR_lf (h1 : 38 ≤ n) (h2 : n ≤ 43) : isR dA ad fv a n 5 8 := fun i => by
  unfold cCell
  rw [if_neg (by omega), if_neg (by omega), if_neg (by omega), if_neg (by omega), if_pos h2]
theorem isR_tx (h1 : 54 ≤ n) (h2 : n ≤ 63) : isR dA ad fv a n 6 14 := fun i => by
  unfold cCell
  rw [if_neg (by omega), if_neg (by omega), if_neg (by omega), if_neg (by omega), if_neg (by omega), if_neg (by omega), if_pos h2]
theorem mem_sh (h1 : 4 ≤ n) (h2 : n ≤ 7) : n ∈ sL := (by decide : ∀ n, n < 8 → 4 ≤ n → n ∈ sL) n (by omega) h1
theorem mem_st (h1 : 1 ≤ n) (h2 : n ≤ 3) : n ∈ sL := (by decide : ∀ n, n < 4 → 1 ≤ n → n ∈ sL) n (by omega) h1
theorem mem_or (h1 : 4 ≤ n) (h2 : n ≤ 7) : n + 10 ∈ sL := (by decide : ∀ n, n < 8 → 4 ≤ n → n + 10 ∈ sL) n (by omega) h1
theorem mem_la (h1 : 4 ≤ n) (h2 : n ≤ 7) : n + 20 ∈ sL := (by decide : ∀ n, n < 8 → 4 ≤ n → n + 20 ∈ sL) n (by omega) h1
theorem mem_ti (h1 : 4 ≤ n) (h2 : n ≤ 7) : n + 30 ∈ sL := (by decide : ∀ n, n < 8 → 4 ≤ n → n + 30 ∈ sL) n (by omega) h1
theorem mem_lf (h1 : 1 ≤ n) (h2 : n ≤ 3) : n + 40 ∈ sL := (by decide : ∀ n, n < 4 → 1 ≤ n → n + 40 ∈ sL) n (by omega) h1
theorem mem_as (h1 : 1 ≤ n) (h2 : n ≤ 3) : n + 50 ∈ sL := (by decide : ∀ n, n < 4 → 1 ≤ n → n + 50 ∈ sL) n (by omega) h1
theorem mem_tx (h1 : 1 ≤ n) (h2 : n ≤ 3) : n + 60 ∈ sL := (by decide : ∀ n, n < 4 → 1 ≤ n → n + 60 ∈ sL) n (by omega) h1
theorem mem_sheet (h1 : 86 ≤ n) (h2 : n ≤ 94) : n ∈ sL := (by decide : ∀ n, n < 95 → 86 ≤ n → n ∈ sL) n (by omega) h1
end CK
section CR2
variable {p : Program} {l : Launch} {e : Env} {R : Room} {s : State} {m : MethodId} {args : Array Value} {below : List Frame} {meth : Method} {c : Code} {H : Heap} {locs : List Loc} {cells slots : Nat} {Q : State → Prop}
variable {cc : ByteArray} {nL pc : Nat} {ls : Array Slot} {rest st0 : List Value} {D : va_G} {dA : Nat → ClassId} {ad : Nat → Nat} {fv : Nat → Value} {a : CS} {A : Nat → Prop} {own : String}
theorem CW.on (hw : CW D dA ad fv A a s H locs) : 4 ≤ a.2.1 0 5 ∧ a.2.1 0 5 ≤ 7 := by
  obtain ⟨dyn, -, -, hon, -⟩ := hw
  exact hon
theorem CW.nw (hw : CW D dA ad fv A a s H locs) : NW s := by
  obtain ⟨dyn, -, -, -, -, h⟩ := hw
  exact h.1
theorem CW.kw (hw : CW D dA ad fv A a s H locs) : KW ad A s := by
  obtain ⟨dyn, -, -, -, -, h⟩ := hw
  exact h.2
theorem c_putI (S : CallFix p m c cc nL s args lw_all own) (hw : CW D dA ad fv A a s H locs) {ref C : String} {T : u_T} {N ci index n : Nat} {F : (Nat → Int32) → List Value} (hm : cOk a n) (ho : isO dA ad fv a n ci F) (hc : vwCl[ci]? = some (C, T, N)) (hin : ∀ w ∈ u_ws C T N, w ∈ lw_all) (ty0 : Nat → FieldType) (hty : ∀ k, k < N → parseFieldDescriptor (T k).2.2.1 = some (ty0 k)) (hnm : ∀ a, a < N → ∀ b, b < N → a ≠ b → (T a).2.1 ≠ (T b).2.1) (k : Nat) (hk : k < N) (hlink : fLk own index ref (T k).2.1 (T k).2.2.1) (hsame : ref = (T k).1) (hfin : (T k).2.2.2 = false) {v : Int32} (hn : narrow (ty0 k) (.int v) = .int v) (hfit : fits (ty0 k) (.int v) = true) (hl : k < (F (a.1 n)).length) (hset : ∀ i : Nat → Int32, (F i).set k (.int v) = F (upd i k v)) (hdg : decode cc pc = .ok (.putfield index, 3))
    (kk : ∀ (a1 : CS) (H1 : Heap) (locs1 : List Loc), a1 = wI a n k v → CW D dA ad fv A a1 s H1 locs1 → W p l e R s m args below meth c H1 locs1 cells slots Q (F0 m (pc + 3) ls rest)) : W p l e R s m args below meth c H locs cells slots Q (F0 m pc ls (.int v :: .ref (ad n) :: rest)) := by
  refine c_put S hw (wI a n k v) hm (ho (a.1 n)) hc hin ty0 hty hnm k hk hlink hsame hfin hn hfit hl wI_off rfl hw.on ?_ hdg (fun H1 locs1 hw1 => kk _ H1 locs1 rfl hw1)
  show cCell dA ad fv n ((wI a n k v).1 n) _ _ _ = _
  rw [wI_row, hset]
  exact ho _
theorem c_putR (S : CallFix p m c cc nL s args lw_all own) (hw : CW D dA ad fv A a s H locs) {ref C : String} {T : u_T} {N ci index n x : Nat} {fs : List Value} (hm : cOk a n) (he : cC dA ad fv a n = .inr (ci, fs)) (hc : vwCl[ci]? = some (C, T, N)) (hin : ∀ w ∈ u_ws C T N, w ∈ lw_all) (ty0 : Nat → FieldType) (hty : ∀ k, k < N → parseFieldDescriptor (T k).2.2.1 = some (ty0 k)) (hnm : ∀ a, a < N → ∀ b, b < N → a ≠ b → (T a).2.1 ≠ (T b).2.1) (k : Nat) (hk : k < N) (hlink : fLk own index ref (T k).2.1 (T k).2.2.1) (hsame : ref = (T k).1) (hfin : (T k).2.2.2 = false) {v : Value} (hv : v = rv ad x) (hn : ∀ y, narrow (ty0 k) (rv ad y) = rv ad y) (hfit : ∀ y, fits (ty0 k) (rv ad y) = true) (hl : k < fs.length) (hon : 4 ≤ (wR a n k x).2.1 0 5 ∧ (wR a n k x).2.1 0 5 ≤ 7) (hnew : cC dA ad fv (wR a n k x) n = .inr (ci, fs.set k (rv ad x))) (hdg : decode cc pc = .ok (.putfield index, 3))
    (kk : ∀ (a1 : CS) (H1 : Heap) (locs1 : List Loc), a1 = wR a n k x → CW D dA ad fv A a1 s H1 locs1 → W p l e R s m args below meth c H1 locs1 cells slots Q (F0 m (pc + 3) ls rest)) : W p l e R s m args below meth c H locs cells slots Q (F0 m pc ls (v :: .ref (ad n) :: rest)) := by
  subst hv
  exact c_put S hw (wR a n k x) hm he hc hin ty0 hty hnm k hk hlink hsame hfin (hn x) (hfit x) hl wR_off rfl hon hnew hdg (fun H1 locs1 hw1 => kk _ H1 locs1 rfl hw1)
/-- a leaf's class by its kind -/
theorem leaf_cases {a : CS} {n : Nat} {P : Nat → Prop} (h : leafK a n) (h7 : (a.2.2.1 n).1 = 107 → P 7) (h8 : (a.2.2.1 n).1 = 108 → P 8) (h9 : (a.2.2.1 n).1 = 109 → P 9) (h10 : (a.2.2.1 n).1 = 110 → P 10) (h11 : (a.2.2.1 n).1 = 111 → P 11) (h12 : (a.2.2.1 n).1 = 112 → P 12) : P ((a.2.2.1 n).1 - 100) := by
  obtain ⟨-, h1, h2⟩ := h
  have : (a.2.2.1 n).1 = 107 ∨ (a.2.2.1 n).1 = 108 ∨ (a.2.2.1 n).1 = 109 ∨ (a.2.2.1 n).1 = 110 ∨ (a.2.2.1 n).1 = 111 ∨ (a.2.2.1 n).1 = 112 := by omega
  rcases this with q | q | q | q | q | q
  · have := h7 q; rw [q]; exact this
  · have := h8 q; rw [q]; exact this
  · have := h9 q; rw [q]; exact this
  · have := h10 q; rw [q]; exact this
  · have := h11 q; rw [q]; exact this
  · have := h12 q; rw [q]; exact this
theorem isO_Lc {a : CS} {n k : Nat} (h : leafK a n) (hk : (a.2.2.1 n).1 = 100 + k) : isO dA ad fv a n k lObj := by
  have h1 := isO_L (dA := dA) (ad := ad) (fv := fv) h
  rw [hk] at h1
  have h2 : 100 + k - 100 = k := by omega
  rw [h2] at h1
  exact h1
theorem c_lget (S : CallFix p m c cc nL s args lw_all own) (hw : CW D dA ad fv A a s H locs) {index n : Nat} (h : leafK a n) (k : Nat) (hk : k < 4) (hlink : fLk own index "KeptLeaves$Leaf" (TX7 k).2.1 "I") (hdg : decode cc pc = .ok (.getfield index, 3))
    (kk : W p l e R s m args below meth c H locs cells slots Q (F0 m (pc + 3) ls (.int (a.1 n k) :: rest))) : W p l e R s m args below meth c H locs cells slots Q (F0 m pc ls (.ref (ad n) :: rest)) := by
  have h6 : (a.2.2.1 n).1 = 107 ∨ (a.2.2.1 n).1 = 108 ∨ (a.2.2.1 n).1 = 109 ∨ (a.2.2.1 n).1 = 110 ∨ (a.2.2.1 n).1 = 111 ∨ (a.2.2.1 n).1 = 112 := by have h1 := h.2.1; have h2 := h.2.2; omega
  have h4 : k = 0 ∨ k = 1 ∨ k = 2 ∨ k = 3 := by omega
  rcases h6 with q | q | q | q | q | q
  · rcases h4 with e | e | e | e
    · subst e; exact c_get S hw h.ok (isO_Lc (k := 7) h q _) rfl in_X7 0 (by decide) hlink rfl rfl hdg kk
    · subst e; exact c_get S hw h.ok (isO_Lc (k := 7) h q _) rfl in_X7 1 (by decide) hlink rfl rfl hdg kk
    · subst e; exact c_get S hw h.ok (isO_Lc (k := 7) h q _) rfl in_X7 2 (by decide) hlink rfl rfl hdg kk
    · subst e; exact c_get S hw h.ok (isO_Lc (k := 7) h q _) rfl in_X7 3 (by decide) hlink rfl rfl hdg kk
  · rcases h4 with e | e | e | e
    · subst e; exact c_get S hw h.ok (isO_Lc (k := 8) h q _) rfl in_X8 0 (by decide) hlink rfl rfl hdg kk
    · subst e; exact c_get S hw h.ok (isO_Lc (k := 8) h q _) rfl in_X8 1 (by decide) hlink rfl rfl hdg kk
    · subst e; exact c_get S hw h.ok (isO_Lc (k := 8) h q _) rfl in_X8 2 (by decide) hlink rfl rfl hdg kk
    · subst e; exact c_get S hw h.ok (isO_Lc (k := 8) h q _) rfl in_X8 3 (by decide) hlink rfl rfl hdg kk
  · rcases h4 with e | e | e | e
    · subst e; exact c_get S hw h.ok (isO_Lc (k := 9) h q _) rfl in_X9 0 (by decide) hlink rfl rfl hdg kk
    · subst e; exact c_get S hw h.ok (isO_Lc (k := 9) h q _) rfl in_X9 1 (by decide) hlink rfl rfl hdg kk
    · subst e; exact c_get S hw h.ok (isO_Lc (k := 9) h q _) rfl in_X9 2 (by decide) hlink rfl rfl hdg kk
    · subst e; exact c_get S hw h.ok (isO_Lc (k := 9) h q _) rfl in_X9 3 (by decide) hlink rfl rfl hdg kk
  · rcases h4 with e | e | e | e
    · subst e; exact c_get S hw h.ok (isO_Lc (k := 10) h q _) rfl in_X10 0 (by decide) hlink rfl rfl hdg kk
    · subst e; exact c_get S hw h.ok (isO_Lc (k := 10) h q _) rfl in_X10 1 (by decide) hlink rfl rfl hdg kk
    · subst e; exact c_get S hw h.ok (isO_Lc (k := 10) h q _) rfl in_X10 2 (by decide) hlink rfl rfl hdg kk
    · subst e; exact c_get S hw h.ok (isO_Lc (k := 10) h q _) rfl in_X10 3 (by decide) hlink rfl rfl hdg kk
  · rcases h4 with e | e | e | e
    · subst e; exact c_get S hw h.ok (isO_Lc (k := 11) h q _) rfl in_X11 0 (by decide) hlink rfl rfl hdg kk
    · subst e; exact c_get S hw h.ok (isO_Lc (k := 11) h q _) rfl in_X11 1 (by decide) hlink rfl rfl hdg kk
    · subst e; exact c_get S hw h.ok (isO_Lc (k := 11) h q _) rfl in_X11 2 (by decide) hlink rfl rfl hdg kk
    · subst e; exact c_get S hw h.ok (isO_Lc (k := 11) h q _) rfl in_X11 3 (by decide) hlink rfl rfl hdg kk
  · rcases h4 with e | e | e | e
    · subst e; exact c_get S hw h.ok (isO_Lc (k := 12) h q _) rfl in_X12 0 (by decide) hlink rfl rfl hdg kk
    · subst e; exact c_get S hw h.ok (isO_Lc (k := 12) h q _) rfl in_X12 1 (by decide) hlink rfl rfl hdg kk
    · subst e; exact c_get S hw h.ok (isO_Lc (k := 12) h q _) rfl in_X12 2 (by decide) hlink rfl rfl hdg kk
    · subst e; exact c_get S hw h.ok (isO_Lc (k := 12) h q _) rfl in_X12 3 (by decide) hlink rfl rfl hdg kk
theorem lset {k : Nat} (hk : k < 4) (v : Int32) : ∀ i : Nat → Int32, (lObj i).set k (.int v) = lObj (upd i k v) := by
  intro i
  have h4 : k = 0 ∨ k = 1 ∨ k = 2 ∨ k = 3 := by omega
  rcases h4 with e | e | e | e <;> (subst e; simp [lObj, upd])
theorem c_lput (S : CallFix p m c cc nL s args lw_all own) (hw : CW D dA ad fv A a s H locs) {index n : Nat} {v : Int32} (h : leafK a n) (k : Nat) (hk : k < 4) (hlink : fLk own index "KeptLeaves$Leaf" (TX7 k).2.1 "I") (hdg : decode cc pc = .ok (.putfield index, 3))
    (kk : ∀ (a1 : CS) (H1 : Heap) (locs1 : List Loc), a1 = wI a n k v → CW D dA ad fv A a1 s H1 locs1 → W p l e R s m args below meth c H1 locs1 cells slots Q (F0 m (pc + 3) ls rest)) : W p l e R s m args below meth c H locs cells slots Q (F0 m pc ls (.int v :: .ref (ad n) :: rest)) := by
  have h6 : (a.2.2.1 n).1 = 107 ∨ (a.2.2.1 n).1 = 108 ∨ (a.2.2.1 n).1 = 109 ∨ (a.2.2.1 n).1 = 110 ∨ (a.2.2.1 n).1 = 111 ∨ (a.2.2.1 n).1 = 112 := by have h1 := h.2.1; have h2 := h.2.2; omega
  have hs := lset hk v
  have h4 : k = 0 ∨ k = 1 ∨ k = 2 ∨ k = 3 := by omega
  rcases h6 with q | q | q | q | q | q
  · rcases h4 with e | e | e | e
    · subst e; exact c_putI S hw h.ok (isO_Lc (k := 7) h q) rfl in_X7 tyX7 tyX7_ok nmX7 0 (by decide) hlink rfl rfl rfl rfl (Nat.le_of_ble_eq_true rfl) hs hdg kk
    · subst e; exact c_putI S hw h.ok (isO_Lc (k := 7) h q) rfl in_X7 tyX7 tyX7_ok nmX7 1 (by decide) hlink rfl rfl rfl rfl (Nat.le_of_ble_eq_true rfl) hs hdg kk
    · subst e; exact c_putI S hw h.ok (isO_Lc (k := 7) h q) rfl in_X7 tyX7 tyX7_ok nmX7 2 (by decide) hlink rfl rfl rfl rfl (Nat.le_of_ble_eq_true rfl) hs hdg kk
    · subst e; exact c_putI S hw h.ok (isO_Lc (k := 7) h q) rfl in_X7 tyX7 tyX7_ok nmX7 3 (by decide) hlink rfl rfl rfl rfl (Nat.le_of_ble_eq_true rfl) hs hdg kk
  · rcases h4 with e | e | e | e
    · subst e; exact c_putI S hw h.ok (isO_Lc (k := 8) h q) rfl in_X8 tyX8 tyX8_ok nmX8 0 (by decide) hlink rfl rfl rfl rfl (Nat.le_of_ble_eq_true rfl) hs hdg kk
    · subst e; exact c_putI S hw h.ok (isO_Lc (k := 8) h q) rfl in_X8 tyX8 tyX8_ok nmX8 1 (by decide) hlink rfl rfl rfl rfl (Nat.le_of_ble_eq_true rfl) hs hdg kk
    · subst e; exact c_putI S hw h.ok (isO_Lc (k := 8) h q) rfl in_X8 tyX8 tyX8_ok nmX8 2 (by decide) hlink rfl rfl rfl rfl (Nat.le_of_ble_eq_true rfl) hs hdg kk
    · subst e; exact c_putI S hw h.ok (isO_Lc (k := 8) h q) rfl in_X8 tyX8 tyX8_ok nmX8 3 (by decide) hlink rfl rfl rfl rfl (Nat.le_of_ble_eq_true rfl) hs hdg kk
  · rcases h4 with e | e | e | e
    · subst e; exact c_putI S hw h.ok (isO_Lc (k := 9) h q) rfl in_X9 tyX9 tyX9_ok nmX9 0 (by decide) hlink rfl rfl rfl rfl (Nat.le_of_ble_eq_true rfl) hs hdg kk
    · subst e; exact c_putI S hw h.ok (isO_Lc (k := 9) h q) rfl in_X9 tyX9 tyX9_ok nmX9 1 (by decide) hlink rfl rfl rfl rfl (Nat.le_of_ble_eq_true rfl) hs hdg kk
    · subst e; exact c_putI S hw h.ok (isO_Lc (k := 9) h q) rfl in_X9 tyX9 tyX9_ok nmX9 2 (by decide) hlink rfl rfl rfl rfl (Nat.le_of_ble_eq_true rfl) hs hdg kk
    · subst e; exact c_putI S hw h.ok (isO_Lc (k := 9) h q) rfl in_X9 tyX9 tyX9_ok nmX9 3 (by decide) hlink rfl rfl rfl rfl (Nat.le_of_ble_eq_true rfl) hs hdg kk
  · rcases h4 with e | e | e | e
    · subst e; exact c_putI S hw h.ok (isO_Lc (k := 10) h q) rfl in_X10 tyX10 tyX10_ok nmX10 0 (by decide) hlink rfl rfl rfl rfl (Nat.le_of_ble_eq_true rfl) hs hdg kk
    · subst e; exact c_putI S hw h.ok (isO_Lc (k := 10) h q) rfl in_X10 tyX10 tyX10_ok nmX10 1 (by decide) hlink rfl rfl rfl rfl (Nat.le_of_ble_eq_true rfl) hs hdg kk
    · subst e; exact c_putI S hw h.ok (isO_Lc (k := 10) h q) rfl in_X10 tyX10 tyX10_ok nmX10 2 (by decide) hlink rfl rfl rfl rfl (Nat.le_of_ble_eq_true rfl) hs hdg kk
    · subst e; exact c_putI S hw h.ok (isO_Lc (k := 10) h q) rfl in_X10 tyX10 tyX10_ok nmX10 3 (by decide) hlink rfl rfl rfl rfl (Nat.le_of_ble_eq_true rfl) hs hdg kk
  · rcases h4 with e | e | e | e
    · subst e; exact c_putI S hw h.ok (isO_Lc (k := 11) h q) rfl in_X11 tyX11 tyX11_ok nmX11 0 (by decide) hlink rfl rfl rfl rfl (Nat.le_of_ble_eq_true rfl) hs hdg kk
    · subst e; exact c_putI S hw h.ok (isO_Lc (k := 11) h q) rfl in_X11 tyX11 tyX11_ok nmX11 1 (by decide) hlink rfl rfl rfl rfl (Nat.le_of_ble_eq_true rfl) hs hdg kk
    · subst e; exact c_putI S hw h.ok (isO_Lc (k := 11) h q) rfl in_X11 tyX11 tyX11_ok nmX11 2 (by decide) hlink rfl rfl rfl rfl (Nat.le_of_ble_eq_true rfl) hs hdg kk
    · subst e; exact c_putI S hw h.ok (isO_Lc (k := 11) h q) rfl in_X11 tyX11 tyX11_ok nmX11 3 (by decide) hlink rfl rfl rfl rfl (Nat.le_of_ble_eq_true rfl) hs hdg kk
  · rcases h4 with e | e | e | e
    · subst e; exact c_putI S hw h.ok (isO_Lc (k := 12) h q) rfl in_X12 tyX12 tyX12_ok nmX12 0 (by decide) hlink rfl rfl rfl rfl (Nat.le_of_ble_eq_true rfl) hs hdg kk
    · subst e; exact c_putI S hw h.ok (isO_Lc (k := 12) h q) rfl in_X12 tyX12 tyX12_ok nmX12 1 (by decide) hlink rfl rfl rfl rfl (Nat.le_of_ble_eq_true rfl) hs hdg kk
    · subst e; exact c_putI S hw h.ok (isO_Lc (k := 12) h q) rfl in_X12 tyX12 tyX12_ok nmX12 2 (by decide) hlink rfl rfl rfl rfl (Nat.le_of_ble_eq_true rfl) hs hdg kk
    · subst e; exact c_putI S hw h.ok (isO_Lc (k := 12) h q) rfl in_X12 tyX12 tyX12_ok nmX12 3 (by decide) hlink rfl rfl rfl rfl (Nat.le_of_ble_eq_true rfl) hs hdg kk
/-- a row of references is read -/
theorem c_aald (S : CallFix p m c cc nL s args lw_all own) (hw : CW D dA ad fv A a s H locs) {n t len : Nat} {r : Nat → Nat} {C : String} (hm : cOk a n) (he : cC dA ad fv a n = .inl (dA t, len, rRow ad r)) (ht : (tyA dA)[t]? = some (dA t, .object C)) {i : Int32} (hin : vp_in i len) {v : Value} (hv : rv ad (r i.toNatClampNeg) = v) (hdg : decode cc pc = .ok (.aaload, 1))
    (kk : W p l e R s m args below meth c H locs cells slots Q (F0 m (pc + 1) ls (v :: rest))) : W p l e R s m args below meth c H locs cells slots Q (F0 m pc ls (.int i :: .ref (ad n) :: rest)) := by
  obtain ⟨hx, hb, -, hown, hts⟩ := S
  obtain ⟨dyn, ⟨hP, -, -, -, hK⟩, hd, -, -, hN⟩ := hw
  obtain ⟨pos, hpos⟩ := List.getElem?_of_mem (hm.mem hd)
  subst hv
  exact va_aldq hx hb hK hP pos t (by rw [fw_at hpos, he]) ht hin hdg kk
theorem CW.recv (hw : CW D dA ad fv A a s H locs) {n ci : Nat} {q : vw_C} {fs : List Value} (hm : cOk a n) (he : cC dA ad fv a n = .inr (ci, fs)) (hc : vwCl[ci]? = some q) : ∃ cell : Cell, H[ad n]? = some cell ∧ cell.vm.isStatics = false ∧ s.vm.findClass q.1 = some cell.cls := by
  obtain ⟨dyn, hx, hd, -, -, hN⟩ := hw
  obtain ⟨pos, hpos⟩ := List.getElem?_of_mem (hm.mem hd)
  exact hx.recv hpos he hc
theorem cast_asg {C T : String} (h : va_Nw (.castable C T) s) : ∀ comp c0 : ClassId, s.vm.findClass T = some comp → s.vm.findClass C = some c0 → s.vm.assignable c0 comp = true := by
  intro comp c0 h1 h2
  obtain ⟨x, y, f1, f2, f3⟩ := Cond.castable_spec (va_Nw.use (A := #[]) rfl h)
  cases f1.symm.trans h2
  cases f2.symm.trans h1
  exact f3
theorem self_asg {C : String} : ∀ comp c0 : ClassId, s.vm.findClass C = some comp → s.vm.findClass C = some c0 → s.vm.assignable c0 comp = true := by
  intro comp c0 h1 h2
  cases h1.symm.trans h2
  exact va_asg _ _
theorem CW.any (hw : CW D dA ad fv A a s H locs) {n ci : Nat} {q : vw_C} {fs : List Value} {E : String} (hm : cOk a n) (he : cC dA ad fv a n = .inr (ci, fs)) (hc : vwCl[ci]? = some q) (hasg : ∀ comp c0 : ClassId, s.vm.findClass E = some comp → s.vm.findClass q.1 = some c0 → s.vm.assignable c0 comp = true) : va_Any E s H (ad n) := by
  obtain ⟨dyn, hx, hd, -, -, hN⟩ := hw
  obtain ⟨pos, hpos⟩ := List.getElem?_of_mem (hm.mem hd)
  exact va_rAny hx.2.2.2.2 hx.1 (q0 := pos) (by rw [fw_at hpos, he]) hc hasg
/-- a row of references is written -/
theorem c_aast (S : CallFix p m c cc nL s args lw_all own) (hw : CW D dA ad fv A a s H locs) {n t len x : Nat} {C : String} (hn0 : n ≠ 0) (hm : cOk a n) (he : isR dA ad fv a n t len) (ht : (tyA dA)[t]? = some (dA t, .object C)) (hx0 : x ≠ 0) (hany : va_Any C s H (ad x)) {i : Int32} (hin : vp_in i len) (hdg : decode cc pc = .ok (.aastore, 1))
    (kk : ∀ (a1 : CS) (H1 : Heap) (locs1 : List Loc), a1 = wR a n i.toNatClampNeg x → CW D dA ad fv A a1 s H1 locs1 → W p l e R s m args below meth c H1 locs1 cells slots Q (F0 m (pc + 1) ls rest)) : W p l e R s m args below meth c H locs cells slots Q (F0 m pc ls (.ref (ad x) :: .int i :: .ref (ad n) :: rest)) := by
  obtain ⟨hx, hb, -, hown, hts⟩ := S
  obtain ⟨dyn, ⟨hP, hD, hS, hA, hK⟩, hd, hon, had, hN⟩ := hw
  obtain ⟨pos, hpos⟩ := List.getElem?_of_mem (hm.mem hd)
  refine va_astqM hx hb hK hP hD hS pos t (by rw [fw_at hpos]; exact congrArg _ (congrArg _ (he (a.2.1 n)))) ht hany hin hdg (fun H1 locs1 hP1 hD1 hS1 => ?_)
  have hnew : cC dA ad fv (wR a n i.toNatClampNeg x) n = .inl (dA t, len, .inr (.inr (.inr (.inr (va_up (fun j => rq ad (a.2.1 n j)) i.toNatClampNeg (some (ad x))))))) := by
    show cCell dA ad fv n (a.1 n) (up2 a.2.1 n i.toNatClampNeg x n) (a.2.2.1 n) (a.2.2.2 n) = _
    rw [he, up2_rowA]
    have hf : (fun j => rq ad (va_up (a.2.1 n) i.toNatClampNeg x j)) = va_up (fun j => rq ad (a.2.1 n j)) i.toNatClampNeg (some (ad x)) := by
      funext j
      by_cases hj : j = i.toNatClampNeg
      · simp [va_up, hj, rq, hx0]
      · simp [va_up, hj]
    unfold rRow
    rw [hf]
  rw [fw_set hD hpos, cC_up wR_off hnew] at hP1 hD1
  refine kk _ H1 locs1 rfl ⟨dyn, ⟨hP1, hD1, hS1, hA, hK⟩, hd, ?_, had, hN⟩
  have : (wR a n i.toNatClampNeg x).2.1 0 = a.2.1 0 := up2_offA (Ne.symm hn0)
  rw [this]
  exact hon
/-- what a method of the component asks and leaves -/
abbrev cPc (D : va_G) (dA : Nat → ClassId) (ad : Nat → Nat) (fv : Nat → Value) (A : Nat → Prop) (a : CS) (As : List Value) : Array Value → State → Prop := va_Pc As (fun U => CI D dA ad fv A a U)
abbrev cQi (D : va_G) (dA : Nat → ClassId) (ad : Nat → Nat) (fv : Nat → Value) (A : Nat → Prop) (Q : Int32 → CS → Prop) : Array Value → State → Outcome → State → Prop := va_Qi Q (fun u t => CI D dA ad fv A u t) A
abbrev cQl (D : va_G) (dA : Nat → ClassId) (ad : Nat → Nat) (fv : Nat → Value) (A : Nat → Prop) (Q : Int64 → CS → Prop) : Array Value → State → Outcome → State → Prop := va_Ql Q (fun u t => CI D dA ad fv A u t) A
abbrev cQv (D : va_G) (dA : Nat → ClassId) (ad : Nat → Nat) (fv : Nat → Value) (A : Nat → Prop) (Q : CS → Prop) : Array Value → State → Outcome → State → Prop := va_Qv Q (fun u t => CI D dA ad fv A u t) A
abbrev cQr (D : va_G) (dA : Nat → ClassId) (ad : Nat → Nat) (fv : Nat → Value) (A : Nat → Prop) (Q : Nat → CS → Prop) : Array Value → State → Outcome → State → Prop := va_Qr (S := Nat × CS) (fun u => Q u.1 u.2) (fun u x t => x = ad u.1 ∧ CI D dA ad fv A u.2 t) A
theorem CW.to (hw : CW D dA ad fv A a s H locs) {t : State} (ht : t.heap = H) (hW : s.WarmedH t.vm) : CI D dA ad fv A a t := by
  obtain ⟨dyn, hx, hd, hon, had, hN⟩ := hw
  exact ⟨dyn, hx.to ht hW, hd, hon, had, hN.1.warm hW, hN.2.moved hW (by rw [ht]; exact hx.2.2.1.2.1)⟩
theorem CI.blind {U : State} {g : JFrame} {mk : MethodId} {b : Array Value} (h : CI D dA ad fv A a U) : CI D dA ad fv A a (U.calling g mk b) := by
  obtain ⟨dyn, hx, hd, hon, had, hN⟩ := h
  exact ⟨dyn, hx.blind, hd, hon, had, hN.1.calling, hN.2.calling⟩
theorem CI.cw (h : CI D dA ad fv A a s) : CW D dA ad fv A a s s.heap [] := by
  obtain ⟨dyn, hx, hd, hon, had, hN⟩ := h
  exact ⟨dyn, xw_of hx, hd, hon, had, hN⟩
theorem CW.st (hw : CW D dA ad fv A a s H locs) : va_S A s.heap H locs := by
  obtain ⟨dyn, hx, -⟩ := hw
  exact hx.2.2.1
theorem CW.back {b : CS} {t : State} {H1 : Heap} {locs1 : List Loc} (hw : CW D dA ad fv A a s H locs) (hi : CI D dA ad fv A b t) (ht : t.heap = H1) (hS : va_S A s.heap H1 locs1) : CW D dA ad fv A b s H1 locs1 := by
  obtain ⟨dyn, hx, -, -, had, hN⟩ := hw
  obtain ⟨dyn1, hx1, hd1, hon1, -, -⟩ := hi
  exact ⟨dyn1, hx.back hx1 ht hS, hd1, hon1, had, hN⟩
theorem c_blind {As : List Value} : FrameBlind (cPc D dA ad fv A a As) := fun _ _ _ _ q => ⟨q.1, q.2.blind⟩
theorem c_preV (hw : CW D dA ad fv A a s H locs) {As : List Value} {n ci : Nat} {C : String} {T : u_T} {N : Nat} {fs : List Value} (hm : cOk a n) (he : cC dA ad fv a n = .inr (ci, fs)) (hc : vwCl[ci]? = some (C, T, N)) : PreV s H C (ad n) (cPc D dA ad fv A a (.ref (ad n) :: As)) As :=
  ⟨c_blind, hw.recv hm he hc, fun U hU hW => ⟨rfl, hw.to hU hW⟩⟩
theorem c_preS (hw : CW D dA ad fv A a s H locs) {As : List Value} : PreS s H (cPc D dA ad fv A a As) As :=
  ⟨c_blind, fun U hU hW => ⟨rfl, hw.to hU hW⟩⟩
variable {mc ms : Nat} {arr : Array Value}
theorem c_calli {K : Int32 → CS → Prop} (hw : CW D dA ad fv A a s H locs) (hr : va_Run p l e R s m args below meth c H locs cells slots mc ms (F0 m pc ls st0) rest (cQi D dA ad fv A K arr) A)
    (kk : ∀ (r : Int32) (a1 : CS) (H1 : Heap) (locs1 : List Loc), K r a1 → CW D dA ad fv A a1 s H1 locs1 → W p l e R s m args below meth c H1 locs1 (cells + mc) (slots + ms) Q (F0 m (pc + 3) ls (.int r :: rest))) : W p l e R s m args below meth c H locs cells slots Q (F0 m pc ls st0) :=
  va_calli hr hw.st (fun _ _ h => h) (fun _ h => h) (fun r u t H1 locs1 ht _ hp hB _ _ hS => kk r u H1 locs1 hp (hw.back hB ht hS))
theorem c_calll {K : Int64 → CS → Prop} (hw : CW D dA ad fv A a s H locs) (hr : va_Run p l e R s m args below meth c H locs cells slots mc ms (F0 m pc ls st0) rest (cQl D dA ad fv A K arr) A)
    (kk : ∀ (r : Int64) (a1 : CS) (H1 : Heap) (locs1 : List Loc), K r a1 → CW D dA ad fv A a1 s H1 locs1 → W p l e R s m args below meth c H1 locs1 (cells + mc) (slots + ms) Q (F0 m (pc + 3) ls (.long r :: rest))) : W p l e R s m args below meth c H locs cells slots Q (F0 m pc ls st0) :=
  va_calll hr hw.st (fun _ _ h => h) (fun _ h => h) (fun r u t H1 locs1 ht _ hp hB _ _ hS => kk r u H1 locs1 hp (hw.back hB ht hS))
theorem c_callv {K : CS → Prop} (hw : CW D dA ad fv A a s H locs) (hr : va_Run p l e R s m args below meth c H locs cells slots mc ms (F0 m pc ls st0) rest (cQv D dA ad fv A K arr) A)
    (kk : ∀ (a1 : CS) (H1 : Heap) (locs1 : List Loc), K a1 → CW D dA ad fv A a1 s H1 locs1 → W p l e R s m args below meth c H1 locs1 (cells + mc) (slots + ms) Q (F0 m (pc + 3) ls rest)) : W p l e R s m args below meth c H locs cells slots Q (F0 m pc ls st0) :=
  va_callv hr hw.st (fun _ _ h => h) (fun _ h => h) (fun u t H1 locs1 ht _ hp hB _ _ hS => kk u H1 locs1 hp (hw.back hB ht hS))
theorem c_callr {K : Nat → CS → Prop} (hw : CW D dA ad fv A a s H locs) (hr : va_Run p l e R s m args below meth c H locs cells slots mc ms (F0 m pc ls st0) rest (cQr D dA ad fv A K arr) A)
    (kk : ∀ (x : Nat) (a1 : CS) (H1 : Heap) (locs1 : List Loc), K x a1 → CW D dA ad fv A a1 s H1 locs1 → W p l e R s m args below meth c H1 locs1 (cells + mc) (slots + ms) Q (F0 m (pc + 3) ls (.ref (ad x) :: rest))) : W p l e R s m args below meth c H locs cells slots Q (F0 m pc ls st0) :=
  va_callr hr hw.st (fun _ _ h => h) (fun _ h => h) (fun u ra t H1 locs1 ht _ hp hB _ _ hS => by
    obtain ⟨rfl, hB⟩ := hB
    exact kk u.1 u.2 H1 locs1 hp (hw.back hB ht hS))
theorem c_iret {K : Int32 → CS → Prop} {v : Int32} (S : CallFix p m c cc nL s args lw_all own) (hr : meth.sig.returnType = some .int) (hlk : meth.locks = false) (hw : CW D dA ad fv A a s H locs) (h : K v a) (hdg : decode cc pc = .ok (.ireturn, 1)) : W p l e R s m args below meth c H locs cells slots (MQ below (cQi D dA ad fv A K) args s cells slots A) (F0 m pc ls [.int v]) :=
  W.iret (v := v) S.1 S.2.1 hr (fun t ht hW => ⟨⟨v, a, rfl, h, hw.to ht hW⟩, hw.st.F ht⟩) hw.st.2.2 hdg hlk
theorem c_zret {K : Int32 → CS → Prop} {v : Int32} (S : CallFix p m c cc nL s args lw_all own) (hr : meth.sig.returnType = some .boolean) (hlk : meth.locks = false) (hw : CW D dA ad fv A a s H locs) (hz : zok v) (h : K v a) (hdg : decode cc pc = .ok (.ireturn, 1)) : W p l e R s m args below meth c H locs cells slots (MQ below (cQi D dA ad fv A K) args s cells slots A) (F0 m pc ls [.int v]) :=
  W.zret (v := v) S.1 S.2.1 hr hz.nar (fun t ht hW => ⟨⟨v, a, rfl, h, hw.to ht hW⟩, hw.st.F ht⟩) hw.st.2.2 hdg hlk
theorem c_lret {K : Int64 → CS → Prop} {v : Int64} (S : CallFix p m c cc nL s args lw_all own) (hr : meth.sig.returnType = some .long) (hlk : meth.locks = false) (hw : CW D dA ad fv A a s H locs) (h : K v a) (hdg : decode cc pc = .ok (.lreturn, 1)) : W p l e R s m args below meth c H locs cells slots (MQ below (cQl D dA ad fv A K) args s cells slots A) (F0 m pc ls [.long v]) :=
  W.lret (v := v) S.1 S.2.1 hr (fun t ht hW => ⟨⟨v, a, rfl, h, hw.to ht hW⟩, hw.st.F ht⟩) hw.st.2.2 hdg hlk
theorem c_vret {K : CS → Prop} (S : CallFix p m c cc nL s args lw_all own) (hr : meth.sig.returnType = none) (hlk : meth.locks = false) (hw : CW D dA ad fv A a s H locs) (h : K a) (hdg : decode cc pc = .ok (.return_, 1)) : W p l e R s m args below meth c H locs cells slots (MQ below (cQv D dA ad fv A K) args s cells slots A) (F0 m pc ls []) :=
  W.vret S.1 S.2.1 hr (fun t ht hW => ⟨⟨a, rfl, h, hw.to ht hW⟩, hw.st.F ht⟩) hw.st.2.2 hdg hlk
variable {y : MethodName} {bytes : ByteArray} {maxL : Nat} {ret : Option FieldType} {ws : List Cond} {rm : Room} {As : List Value}
/-- a contract out of a walk -/
theorem c_met {Qc : Array Value → State → Outcome → State → Prop} {ws' : List Cond} {mc ms : Nat} (hy : plainName y.cls = true) (hcls : y.cls = own) (hw : ws = Cond.code y bytes maxL ret :: ws') (hws : ws' = lw_all) (hlen : (lg_sl As).length ≤ maxL)
    (body : ∀ (p : Program) (e : Env) (s : State) (m : MethodId) (below : List Frame) (meth : Method) (c : Code) (ls : Array Slot), CallFix p m c bytes maxL s As.toArray lw_all own → meth.sig.returnType = ret → meth.locks = false → meth.name = y.name → CW D dA ad fv A a s s.heap [] → lv_has ls maxL (lv_args 0 As) → W p l e rm s m As.toArray below meth c s.heap [] 0 0 (MQ below Qc As.toArray s mc ms A) (F0 m 0 ls [])) : Met l y ws rm (cPc D dA ad fv A a As) Qc mc ms A := by
  refine Met.ofW (cc := bytes) (maxL := maxL) (ret := ret) hy hw ?_
  intro p e s m args below meth c s₁ B hml hv
  obtain ⟨rfl, hI⟩ := hv
  have hts := atoms_spec (ws := ws) B.pre
  subst hws
  have hts : ∀ w ∈ lw_all, w.before _ s = true := fun w h => hts w (by rw [hw]; exact List.mem_cons_of_mem _ h)
  have hown : s.vm.findClass own = some m.cls := by rw [← hcls]; exact findClass_of_methodNamed B.named
  have hl := lv_entry As (n := maxL) hlen
  rw [lg_entry_eq]
  exact body p e s m below meth c _ ⟨B.exec, B.bytes, hml, hown, hts⟩ B.returns B.notSynchronized (name_of_methodNamed B.named B.method).1 hI.cw hl
end CR2

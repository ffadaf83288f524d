/-! THE WORLD: one list of named cells. Names below 1000 are fixed places (their addresses by 'ad'), a name q + 1000 is the cell at address q. -/
abbrev vwCl : List vw_C := [(RX0, TX0, 31), (RX1, TX1, 10), (RX2, TX2, 8), (RX3, TX3, 7), (RX4, TX4, 1), (RX5, TX5, 1), (RX6, TX6, 38), (RX7, TX7, 4), (RX8, TX8, 4), (RX9, TX9, 4), (RX10, TX10, 4), (RX11, TX11, 4), (RX12, TX12, 4), (RX13, TX13, 3), (RX14, TX14, 3), (RX15, TX15, 1)]
abbrev tyA (dA : Nat → ClassId) : List (ClassId × FieldType) := [(dA 0, .int), (dA 1, .byte), (dA 2, .boolean), (dA 3, .float), (dA 4, .short), (dA 5, .object "KeptLeaves$Leaf"), (dA 6, .object "KeptLeaves$Text"), (dA 7, .object "KeptLeaves$Sheet"), (dA 8, .object "KeptLeaves$Slot")]
/-- what Java's remainder is -/
abbrev irm (x y : Int32) : Int32 := x - x / y * y
/-- a place of a row of rows -/
def up2 {α : Type} (a : Nat → Nat → α) (i j : Nat) (v : α) : Nat → Nat → α := fun i' j' => if i' = i ∧ j' = j then v else a i' j'
/-- a boolean's numbers -/
def zok (r : Int32) : Prop := r = 0 ∨ r = 1
theorem zok.nar {r : Int32} (h : zok r) : narrow .boolean (.int r) = .int r := by
  rcases h with h | h <;> (rw [h]; decide)
theorem if_t {c A B : Prop} [Decidable c] (hc : c) (h : if c then A else B) : A := by rw [if_pos hc] at h; exact h
theorem if_f {c A B : Prop} [Decidable c] (hc : ¬ c) (h : if c then A else B) : B := by rw [if_neg hc] at h; exact h
/-- the cells of a list of names -/
def fw (L : List Nat) (ad : Nat → Nat) (cs : Nat → va_E) : va_W := L.map (fun f => (ad f, cs f))
theorem fw_at {L : List Nat} {ad : Nat → Nat} {cs : Nat → va_E} {pos f : Nat} (h : L[pos]? = some f) : (fw L ad cs)[pos]? = some (ad f, cs f) := by
  simp [fw, h]
theorem fw_set {L : List Nat} {ad : Nat → Nat} {cs : Nat → va_E} {A : Nat → Prop} {pos f : Nat} {e : va_E} (hD : va_D A (fw L ad cs)) (h : L[pos]? = some f) : (fw L ad cs).set pos (ad f, e) = fw L ad (va_up cs f e) := by
  apply List.ext_getElem?
  intro i
  by_cases hi : i = pos
  · subst hi
    have hl : i < (fw L ad cs).length := (List.getElem?_eq_some_iff.mp (fw_at (ad := ad) (cs := cs) h)).1
    rw [List.getElem?_set_self hl, fw_at h]
    simp [va_up]
  · rw [List.getElem?_set_ne (Ne.symm hi)]
    cases hq : L[i]? with
    | none => simp [fw, hq]
    | some g =>
      rw [fw_at hq, fw_at hq]
      by_cases hg : g = f
      · subst hg
        exact absurd (hD.1 i pos _ _ (fw_at hq) (fw_at h) rfl) hi
      · simp [va_up, hg]
/-- the world in a walk -/
def xw (D : va_G) (dA : Nat → ClassId) (L : List Nat) (ad : Nat → Nat) (cs : Nat → va_E) (A : Nat → Prop) (s : State) (H : Heap) (locs : List Loc) : Prop :=
  va_P D vwCl (fw L ad cs) H ∧ va_D A (fw L ad cs) ∧ va_S A s.heap H locs ∧ (∀ q, s.heap.size ≤ q → A q) ∧ va_K D vwCl (tyA dA) s
/-- the world at a contract's start and end -/
def xi (D : va_G) (dA : Nat → ClassId) (L : List Nat) (ad : Nat → Nat) (cs : Nat → va_E) (A : Nat → Prop) (U : State) : Prop :=
  va_P D vwCl (fw L ad cs) U.heap ∧ va_D A (fw L ad cs) ∧ (∀ q, U.heap.size ≤ q → A q) ∧ va_K D vwCl (tyA dA) U
section XW
variable {p : Program} {l : Launch} {e : Env} {R : Room} {s : State} {m : MethodId} {args : Array Value} {below : List Frame} {meth : Method} {c : Code} {H : Heap} {locs : List Loc} {cells slots : Nat} {Q : State → Prop}
variable {cc : ByteArray} {nL pc : Nat} {ls : Array Slot} {rest : List Value} {D : va_G} {dA : Nat → ClassId} {L : List Nat} {ad : Nat → Nat} {cs : Nat → va_E} {A : Nat → Prop} {own : String}
theorem xw_get (S : CallFix p m c cc nL s args lw_all own) (hw : xw D dA L ad cs A s H locs) {ref C : String} {T : u_T} {N ci index pos f : Nat} (hpos : L[pos]? = some f) {fs : List Value} (he : cs f = .inr (ci, fs)) (hc : vwCl[ci]? = some (C, T, N)) (hin : ∀ w ∈ u_ws C T N, w ∈ lw_all) (k : Nat) (hk : k < N) (hlink : (Cond.fieldLink own index ref (T k).2.1 (T k).2.2.1) ∈ lw_all) (hsame : ref = (T k).1) {v : Value} (hv : fs[k]? = some v) (hdg : decode cc pc = .ok (.getfield index, 3))
    (kk : W p l e R s m args below meth c H locs cells slots Q (F0 m (pc + 3) ls (v :: rest))) : W p l e R s m args below meth c H locs cells slots Q (F0 m pc ls (.ref (ad f) :: rest)) := by
  obtain ⟨hx, hb, -, hown, hts⟩ := S
  obtain ⟨hP, -, -, -, hK⟩ := hw
  subst hsame
  exact va_get hx hb hts hin hown hK hP pos (by rw [fw_at hpos, he]) hc k hk (hts _ hlink) (fun _ h9 => h9) hv hdg kk
theorem xw_put (S : CallFix p m c cc nL s args lw_all own) (hw : xw D dA L ad cs A s H locs) {ref C : String} {T : u_T} {N ci index pos f : Nat} (hpos : L[pos]? = some f) {fs : List Value} (he : cs f = .inr (ci, fs)) (hc : vwCl[ci]? = some (C, T, N)) (hin : ∀ w ∈ u_ws C T N, w ∈ lw_all) (ty0 : Nat → FieldType) (hty : ∀ k, k < N → parseFieldDescriptor (T k).2.2.1 = some (ty0 k)) (hnm : ∀ a, a < N → ∀ b, b < N → a ≠ b → (T a).2.1 ≠ (T b).2.1) (k : Nat) (hk : k < N) (hlink : (Cond.fieldLink own index ref (T k).2.1 (T k).2.2.1) ∈ lw_all) (hsame : ref = (T k).1) (hfin : (T k).2.2.2 = false) {v : Value} (hn : narrow (ty0 k) v = v) (hfit : fits (ty0 k) v = true) (hl : k < fs.length) (hdg : decode cc pc = .ok (.putfield index, 3))
    (kk : ∀ (H1 : Heap) (locs1 : List Loc), xw D dA L ad (va_up cs f (.inr (ci, fs.set k v))) A s H1 locs1 → W p l e R s m args below meth c H1 locs1 cells slots Q (F0 m (pc + 3) ls rest)) : W p l e R s m args below meth c H locs cells slots Q (F0 m pc ls (v :: .ref (ad f) :: rest)) := by
  obtain ⟨hx, hb, -, hown, hts⟩ := S
  obtain ⟨hP, hD, hS, hA, hK⟩ := hw
  subst hsame
  refine va_put hx hb hts hin ty0 hty hnm hown hK hP hD hS pos (by rw [fw_at hpos, he]) hc k hk (hts _ hlink) (fun _ h9 => h9) hfin (hty k hk) hn hfit hl hdg (fun H1 locs1 hP1 hD1 hS1 => ?_)
  rw [fw_set hD hpos] at hP1 hD1
  exact kk H1 locs1 ⟨hP1, hD1, hS1, hA, hK⟩
theorem xw_iald (S : CallFix p m c cc nL s args lw_all own) (hw : xw D dA L ad cs A s H locs) {pos f : Nat} (hpos : L[pos]? = some f) {n : Nat} {g : Nat → Int32} (he : cs f = .inl (dA 0, n, .inl g)) {i : Int32} (hin : vp_in i n) (hdg : decode cc pc = .ok (.iaload, 1))
    (kk : W p l e R s m args below meth c H locs cells slots Q (F0 m (pc + 1) ls (.int (g i.toNatClampNeg) :: rest))) : W p l e R s m args below meth c H locs cells slots Q (F0 m pc ls (.int i :: .ref (ad f) :: rest)) := by
  obtain ⟨hx, hb, -, hown, hts⟩ := S
  obtain ⟨hP, -, -, -, hK⟩ := hw
  exact va_iald hx hb hK hP pos 0 (by rw [fw_at hpos, he]) rfl hin hdg kk
theorem xw_iast (S : CallFix p m c cc nL s args lw_all own) (hw : xw D dA L ad cs A s H locs) {pos f : Nat} (hpos : L[pos]? = some f) {n : Nat} {g : Nat → Int32} (he : cs f = .inl (dA 0, n, .inl g)) {i x : Int32} (hin : vp_in i n) (hdg : decode cc pc = .ok (.iastore, 1))
    (kk : ∀ (H1 : Heap) (locs1 : List Loc), xw D dA L ad (va_up cs f (.inl (dA 0, n, .inl (upd g i.toNatClampNeg x)))) A s H1 locs1 → W p l e R s m args below meth c H1 locs1 cells slots Q (F0 m (pc + 1) ls rest)) : W p l e R s m args below meth c H locs cells slots Q (F0 m pc ls (.int x :: .int i :: .ref (ad f) :: rest)) := by
  obtain ⟨hx, hb, -, hown, hts⟩ := S
  obtain ⟨hP, hD, hS, hA, hK⟩ := hw
  refine va_iast hx hb hK hP hD hS pos 0 (by rw [fw_at hpos, he]) rfl hin hdg (fun H1 locs1 hP1 hD1 hS1 => ?_)
  rw [fw_set hD hpos] at hP1 hD1
  exact kk H1 locs1 ⟨hP1, hD1, hS1, hA, hK⟩
theorem xw_alen (S : CallFix p m c cc nL s args lw_all own) (hw : xw D dA L ad cs A s H locs) {pos f : Nat} (hpos : L[pos]? = some f) {t0 : Nat} {ty : FieldType} {x : vp_A} (he : cs f = .inl (dA t0, x)) (ht : (tyA dA)[t0]? = some (dA t0, ty)) {v : Int32} (hv : Int32.ofNat x.1 = v) (hdg : decode cc pc = .ok (.arraylength, 1))
    (kk : W p l e R s m args below meth c H locs cells slots Q (F0 m (pc + 1) ls (.int v :: rest))) : W p l e R s m args below meth c H locs cells slots Q (F0 m pc ls (.ref (ad f) :: rest)) := by
  obtain ⟨hx, hb, -, hown, hts⟩ := S
  obtain ⟨hP, -, -, -, hK⟩ := hw
  exact va_alen hx hb hK hP pos t0 (by rw [fw_at hpos, he]) ht hv hdg kk
/-- at a contract's start -/
theorem xw_of (h : xi D dA L ad cs A s) : xw D dA L ad cs A s s.heap [] := ⟨h.1, h.2.1, va_S.rf, h.2.2.1, h.2.2.2⟩
/-- at a contract's end -/
theorem xw.to (h : xw D dA L ad cs A s H locs) {t : State} (ht : t.heap = H) (hW : s.WarmedH t.vm) : xi D dA L ad cs A t := by
  obtain ⟨hP, hD, hS, hA, hK⟩ := h
  refine ⟨by rw [ht]; exact hP, hD, fun q hq => hA q ?_, va_K.moved hW.alike hK⟩
  rw [ht] at hq
  exact Nat.le_trans hS.1 hq
/-- for a call -/
theorem xw.give (h : xw D dA L ad cs A s H locs) {U : State} (hU : U.heap = H) (hW : s.WarmedH U.vm) : xi D dA L ad cs A U := h.to hU hW
theorem xi.blind {U : State} {g : JFrame} {mk : MethodId} {a : Array Value} (h : xi D dA L ad cs A U) : xi D dA L ad cs A (U.calling g mk a) :=
  ⟨h.1, h.2.1, h.2.2.1, va_K.moved (u := U) (U := U.calling g mk a) (Vm.Alike.refl U.vm) h.2.2.2⟩
theorem xw.recv (h : xw D dA L ad cs A s H locs) {pos f ci : Nat} {q : vw_C} {fs : List Value} (hpos : L[pos]? = some f) (he : cs f = .inr (ci, fs)) (hc : vwCl[ci]? = some q) : ∃ cell : Cell, H[ad f]? = some cell ∧ cell.vm.isStatics = false ∧ s.vm.findClass q.1 = some cell.cls :=
  va_recv h.2.2.2.2 h.1 hc (q0 := pos) (by rw [fw_at hpos, he])
/-- behind a call: the world that came back -/
theorem xw.back {cs1 : Nat → va_E} {L1 : List Nat} {t : State} {H1 : Heap} {locs1 : List Loc} (h : xw D dA L ad cs A s H locs) (hi : xi D dA L1 ad cs1 A t) (ht : t.heap = H1) (hS : va_S A s.heap H1 locs1) : xw D dA L1 ad cs1 A s H1 locs1 := by
  obtain ⟨hP, hD, -, hA, hK⟩ := h
  obtain ⟨hP1, hD1, -, -⟩ := hi
  exact ⟨by rw [← ht]; exact hP1, hD1, hS, hA, hK⟩
end XW

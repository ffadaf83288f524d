/-! ROWS OF THE COMPONENT's WORLD -/
section CR
variable {p : Program} {l : Launch} {e : Env} {R : Room} {s : State} {m : MethodId} {args : Array Value} {below : List Frame} {meth : Method} {c : Code} {H : Heap} {locs : List Loc} {cells slots : Nat} {Q : State → Prop}
variable {cc : ByteArray} {nL pc : Nat} {ls : Array Slot} {rest : List Value} {D : va_G} {dA : Nat → ClassId} {ad : Nat → Nat} {fv : Nat → Value} {a : CS} {A : Nat → Prop} {own : String}
/-- a field's link, the class's own or a nest mate's -/
def fLk (own : String) (index : Nat) (ref nm ds : String) : Prop := Cond.fieldLink own index ref nm ds ∈ lw_all ∨ Cond.fieldLinkNest own index ref nm ds "KeptLeaves" ∈ cNest
theorem c_get (S : CallFix p m c cc nL s args lw_all own) (hw : CW D dA ad fv A a s H locs) {ref C : String} {T : u_T} {N ci index n : Nat} (hm : cOk a n) {fs : List Value} (he : cC dA ad fv a n = .inr (ci, fs)) (hc : vwCl[ci]? = some (C, T, N)) (hin : ∀ w ∈ u_ws C T N, w ∈ lw_all) (k : Nat) (hk : k < N) (hlink : fLk own index ref (T k).2.1 (T k).2.2.1) (hsame : ref = (T k).1) {v : Value} (hv : fs[k]? = some v) (hdg : decode cc pc = .ok (.getfield index, 3))
    (kk : W p l e R s m args below meth c H locs cells slots Q (F0 m (pc + 3) ls (v :: rest))) : W p l e R s m args below meth c H locs cells slots Q (F0 m pc ls (.ref (ad n) :: rest)) := by
  obtain ⟨hx, hb, -, hown, hts⟩ := S
  obtain ⟨dyn, ⟨hP, -, -, -, hK⟩, hd, -, -, hN⟩ := hw
  obtain ⟨pos, hpos⟩ := List.getElem?_of_mem (hm.mem hd)
  subst hsame
  rcases hlink with hlink | hlink
  · exact va_get hx hb hts hin hown hK hP pos (by rw [fw_at hpos, he]) hc k hk (hts _ hlink) (fun _ h9 => h9) hv hdg kk
  · exact va_getN hx hb hts hin hown hK hP pos (by rw [fw_at hpos, he]) hc k hk (va_Nw.use rfl (hN.1.1 _ hlink)) (fun _ h9 => h9) hv hdg kk
theorem c_put (S : CallFix p m c cc nL s args lw_all own) (hw : CW D dA ad fv A a s H locs) (b : CS) {ref C : String} {T : u_T} {N ci index n : Nat} (hm : cOk a n) {fs : List Value} (he : cC dA ad fv a n = .inr (ci, fs)) (hc : vwCl[ci]? = some (C, T, N)) (hin : ∀ w ∈ u_ws C T N, w ∈ lw_all) (ty0 : Nat → FieldType) (hty : ∀ k, k < N → parseFieldDescriptor (T k).2.2.1 = some (ty0 k)) (hnm : ∀ a, a < N → ∀ b, b < N → a ≠ b → (T a).2.1 ≠ (T b).2.1) (k : Nat) (hk : k < N) (hlink : fLk own index ref (T k).2.1 (T k).2.2.1) (hsame : ref = (T k).1) (hfin : (T k).2.2.2 = false) {v : Value} (hn : narrow (ty0 k) v = v) (hfit : fits (ty0 k) v = true) (hl : k < fs.length)
    (hoff : ∀ g, g ≠ n → b.1 g = a.1 g ∧ b.2.1 g = a.2.1 g ∧ b.2.2.1 g = a.2.2.1 g ∧ b.2.2.2 g = a.2.2.2 g) (hT : b.2.2.1 = a.2.2.1) (hon : 4 ≤ b.2.1 0 5 ∧ b.2.1 0 5 ≤ 7) (hnew : cC dA ad fv b n = .inr (ci, fs.set k v)) (hdg : decode cc pc = .ok (.putfield index, 3))
    (kk : ∀ (H1 : Heap) (locs1 : List Loc), CW D dA ad fv A b s H1 locs1 → W p l e R s m args below meth c H1 locs1 cells slots Q (F0 m (pc + 3) ls rest)) : W p l e R s m args below meth c H locs cells slots Q (F0 m pc ls (v :: .ref (ad n) :: rest)) := by
  obtain ⟨hx, hb, -, hown, hts⟩ := S
  obtain ⟨dyn, ⟨hP, hD, hS, hA, hK⟩, hd, -, had, hN⟩ := hw
  obtain ⟨pos, hpos⟩ := List.getElem?_of_mem (hm.mem hd)
  subst hsame
  have go : ∀ (H1 : Heap) (locs1 : List Loc), va_P D vwCl ((fw (sL ++ dyn) ad (cC dA ad fv a)).set pos (ad n, .inr (ci, fs.set k v))) H1 → va_D A ((fw (sL ++ dyn) ad (cC dA ad fv a)).set pos (ad n, .inr (ci, fs.set k v))) → va_S A s.heap H1 locs1 → W p l e R s m args below meth c H1 locs1 cells slots Q (F0 m (pc + 3) ls rest) := by
    intro H1 locs1 hP1 hD1 hS1
    rw [fw_set hD hpos, cC_up hoff hnew] at hP1 hD1
    exact kk H1 locs1 ⟨dyn, ⟨hP1, hD1, hS1, hA, hK⟩, by rw [hT]; exact hd, hon, had, hN⟩
  rcases hlink with hlink | hlink
  · exact va_put hx hb hts hin ty0 hty hnm hown hK hP hD hS pos (by rw [fw_at hpos, he]) hc k hk (hts _ hlink) (fun _ h9 => h9) hfin (hty k hk) hn hfit hl hdg go
  · exact va_putN hx hb hts hin ty0 hty hnm hown hK hP hD hS pos (by rw [fw_at hpos, he]) hc k hk (va_Nw.use rfl (hN.1.1 _ hlink)) (fun _ h9 => h9) hfin (hty k hk) hn hfit hl hdg go
/-- the cell at a name, with any whole numbers in it -/
def isA (dA : Nat → ClassId) (ad : Nat → Nat) (fv : Nat → Value) (a : CS) (n t len : Nat) : Prop := ∀ i, cCell dA ad fv n i (a.2.1 n) (a.2.2.1 n) (a.2.2.2 n) = .inl (dA t, len, .inl i)
theorem c_ald (S : CallFix p m c cc nL s args lw_all own) (hw : CW D dA ad fv A a s H locs) {n t len : Nat} (hm : cOk a n) (he : isA dA ad fv a n t len) {i : Int32} (hin : vp_in i len)
    (hk : (t = 0 ∧ decode cc pc = .ok (.iaload, 1)) ∨ (t = 1 ∧ decode cc pc = .ok (.baload, 1)) ∨ (t = 2 ∧ decode cc pc = .ok (.baload, 1)) ∨ (t = 4 ∧ decode cc pc = .ok (.saload, 1)))
    (kk : W p l e R s m args below meth c H locs cells slots Q (F0 m (pc + 1) ls (.int (a.1 n i.toNatClampNeg) :: rest))) : W p l e R s m args below meth c H locs cells slots Q (F0 m pc ls (.int i :: .ref (ad n) :: rest)) := by
  obtain ⟨hx, hb, -, hown, hts⟩ := S
  obtain ⟨dyn, ⟨hP, -, -, -, hK⟩, hd, -, -, hN⟩ := hw
  obtain ⟨pos, hpos⟩ := List.getElem?_of_mem (hm.mem hd)
  have ha : (fw (sL ++ dyn) ad (cC dA ad fv a))[pos]? = some (ad n, .inl (dA t, len, .inl (a.1 n))) := by rw [fw_at hpos]; exact congrArg _ (congrArg _ (he (a.1 n)))
  rcases hk with ⟨h, hdg⟩ | ⟨h, hdg⟩ | ⟨h, hdg⟩ | ⟨h, hdg⟩
  · subst h; exact va_iald hx hb hK hP pos 0 ha rfl hin hdg kk
  · subst h; exact va_bald hx hb hK hP pos 1 ha rfl hin hdg kk
  · subst h; exact va_zald hx hb hK hP pos 2 ha rfl hin hdg kk
  · subst h; exact va_sald hx hb hK hP pos 4 ha rfl hin hdg kk
theorem wI_row {a : CS} {n k : Nat} {v : Int32} : (wI a n k v).1 n = upd (a.1 n) k v := up2_row
theorem cC_wI {dA : Nat → ClassId} {ad : Nat → Nat} {fv : Nat → Value} {a : CS} {n t len k : Nat} {v : Int32} (he : isA dA ad fv a n t len) : cC dA ad fv (wI a n k v) n = .inl (dA t, len, .inl (upd (a.1 n) k v)) := by
  show cCell dA ad fv n ((wI a n k v).1 n) _ _ _ = _
  rw [wI_row]
  exact he _
theorem c_ast (S : CallFix p m c cc nL s args lw_all own) (hw : CW D dA ad fv A a s H locs) {n t len : Nat} (hn0 : n ≠ 0) (hm : cOk a n) (he : isA dA ad fv a n t len) {i x y : Int32} (hin : vp_in i len)
    (hk : (t = 0 ∧ y = x ∧ decode cc pc = .ok (.iastore, 1)) ∨ (t = 1 ∧ y = vp_nar .byte x ∧ decode cc pc = .ok (.bastore, 1)) ∨ (t = 2 ∧ y = vp_nar .boolean x ∧ decode cc pc = .ok (.bastore, 1)) ∨ (t = 4 ∧ y = vp_nar .short x ∧ decode cc pc = .ok (.sastore, 1)))
    (kk : ∀ (a1 : CS) (H1 : Heap) (locs1 : List Loc), a1 = wI a n i.toNatClampNeg y → CW D dA ad fv A a1 s H1 locs1 → W p l e R s m args below meth c H1 locs1 cells slots Q (F0 m (pc + 1) ls rest)) : W p l e R s m args below meth c H locs cells slots Q (F0 m pc ls (.int x :: .int i :: .ref (ad n) :: rest)) := by
  obtain ⟨hx, hb, -, hown, hts⟩ := S
  obtain ⟨dyn, ⟨hP, hD, hS, hA, hK⟩, hd, hon, had, hN⟩ := hw
  obtain ⟨pos, hpos⟩ := List.getElem?_of_mem (hm.mem hd)
  have ha : (fw (sL ++ dyn) ad (cC dA ad fv a))[pos]? = some (ad n, .inl (dA t, len, .inl (a.1 n))) := by rw [fw_at hpos]; exact congrArg _ (congrArg _ (he (a.1 n)))
  have go : ∀ (H1 : Heap) (locs1 : List Loc), va_P D vwCl ((fw (sL ++ dyn) ad (cC dA ad fv a)).set pos (ad n, .inl (dA t, len, .inl (upd (a.1 n) i.toNatClampNeg y)))) H1 → va_D A ((fw (sL ++ dyn) ad (cC dA ad fv a)).set pos (ad n, .inl (dA t, len, .inl (upd (a.1 n) i.toNatClampNeg y)))) → va_S A s.heap H1 locs1 → W p l e R s m args below meth c H1 locs1 cells slots Q (F0 m (pc + 1) ls rest) := by
    intro H1 locs1 hP1 hD1 hS1
    rw [fw_set hD hpos, cC_up wI_off (cC_wI he)] at hP1 hD1
    exact kk _ H1 locs1 rfl ⟨dyn, ⟨hP1, hD1, hS1, hA, hK⟩, hd, hon, had, hN⟩
  rcases hk with ⟨h, hy, hdg⟩ | ⟨h, hy, hdg⟩ | ⟨h, hy, hdg⟩ | ⟨h, hy, hdg⟩
  · subst h; subst hy; exact va_iast hx hb hK hP hD hS pos 0 ha rfl hin hdg go
  · subst h; subst hy; exact va_bast hx hb hK hP hD hS pos 1 ha rfl hin hdg go
  · subst h; subst hy; exact va_zast hx hb hK hP hD hS pos 2 ha rfl hin hdg go
  · subst h; subst hy; exact va_sast hx hb hK hP hD hS pos 4 ha rfl hin hdg go
end CR

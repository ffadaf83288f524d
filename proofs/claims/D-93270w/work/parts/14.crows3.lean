/-! ROWS OF THE COMPONENT's WORLD: the shelf looked at, arrays by name, small rows -/
/-- a row of whole numbers that is handed on: of a shelf, the askings, or the row that is thought -/
def rowK (f : Nat) : Prop := f ∈ sL ∧ ((8 ≤ f ∧ f ≤ 37) ∨ (44 ≤ f ∧ f ≤ 53) ∨ f = 79)
def rlen (f : Nat) : Nat := if f = 79 then 3 else if f ≤ 37 then 8 else 24
/-- a sheet: one of the four, or one of a slot -/
def shK (a : CS) (n : Nat) : Prop := (86 ≤ n ∧ n ≤ 89) ∨ kindK a n 104
section CR3
variable {p : Program} {l : Launch} {e : Env} {R : Room} {s : State} {m : MethodId} {args : Array Value} {below : List Frame} {meth : Method} {c : Code} {H : Heap} {locs : List Loc} {cells slots : Nat} {Q : State → Prop}
variable {cc : ByteArray} {nL pc : Nat} {ls : Array Slot} {rest st0 : List Value} {D : va_G} {dA : Nat → ClassId} {ad : Nat → Nat} {fv : Nat → Value} {a : CS} {A : Nat → Prop} {own : String}
theorem rowK.ok {f : Nat} (h : rowK f) : cOk a f := cOk.s h.1
theorem rowK.isA {f : Nat} (h : rowK f) : isA dA ad fv a f 0 (rlen f) := by
  obtain ⟨-, h | h | h⟩ := h
  · have e : rlen f = 8 := by unfold rlen; rw [if_neg (by omega), if_pos h.2]
    rw [e]; exact isA_8 h.1 h.2
  · have e : rlen f = 24 := by unfold rlen; rw [if_neg (by omega), if_neg (by omega)]
    rw [e]; exact isA_ask h.1 h.2
  · subst h; exact fun _ => rfl
theorem rowK.ne {f : Nat} (h : rowK f) : f ≠ 0 := by obtain ⟨-, h | h | h⟩ := h <;> omega
theorem shK.ok {n : Nat} (h : shK a n) : cOk a n := by
  rcases h with h | h
  · exact cOk.s (mem_sheet h.1 (by omega))
  · exact h.ok (by decide)
theorem shK.isO {n : Nat} (h : shK a n) : isO dA ad fv a n 4 (fun _ => [rv ad (a.2.1 n 0)]) := by
  rcases h with h | h
  · exact isO_sh h.1 h.2
  · exact isO_shD h
theorem shK.ne {n : Nat} (h : shK a n) : n ≠ 0 := by
  rcases h with h | h
  · omega
  · exact h.ne
theorem c_getr (S : CallFix p m c cc nL s args lw_all own) (hw : CW D dA ad fv A a s H locs) {ref C : String} {T : u_T} {N ci index n x : Nat} (hm : cOk a n) {fs : List Value} (he : cC dA ad fv a n = .inr (ci, fs)) (hc : vwCl[ci]? = some (C, T, N)) (hin : ∀ w ∈ u_ws C T N, w ∈ lw_all) (k : Nat) (hk : k < N) (hlink : fLk own index ref (T k).2.1 (T k).2.2.1) (hsame : ref = (T k).1) (hv : fs[k]? = some (rv ad x)) (hx : x ≠ 0) (hdg : decode cc pc = .ok (.getfield index, 3))
    (kk : W p l e R s m args below meth c H locs cells slots Q (F0 m (pc + 3) ls (.ref (ad x) :: rest))) : W p l e R s m args below meth c H locs cells slots Q (F0 m pc ls (.ref (ad n) :: rest)) :=
  c_get S hw hm he hc hin k hk hlink hsame (hv.trans (by rw [rv_n hx])) hdg kk
theorem c_getn (S : CallFix p m c cc nL s args lw_all own) (hw : CW D dA ad fv A a s H locs) {ref C : String} {T : u_T} {N ci index n x : Nat} (hm : cOk a n) {fs : List Value} (he : cC dA ad fv a n = .inr (ci, fs)) (hc : vwCl[ci]? = some (C, T, N)) (hin : ∀ w ∈ u_ws C T N, w ∈ lw_all) (k : Nat) (hk : k < N) (hlink : fLk own index ref (T k).2.1 (T k).2.2.1) (hsame : ref = (T k).1) (hv : fs[k]? = some (rv ad x)) (hx : x = 0) (hdg : decode cc pc = .ok (.getfield index, 3))
    (kk : W p l e R s m args below meth c H locs cells slots Q (F0 m (pc + 3) ls (.null :: rest))) : W p l e R s m args below meth c H locs cells slots Q (F0 m pc ls (.ref (ad n) :: rest)) :=
  c_get S hw hm he hc hin k hk hlink hsame (hv.trans (by rw [hx, rv_0])) hdg kk
theorem c_getOn (S : CallFix p m c cc nL s args lw_all RX0) (hw : CW D dA ad fv A a s H locs) {index : Nat} (hlink : fLk RX0 index RX0 (TX0 5).2.1 (TX0 5).2.2.1) (hdg : decode cc pc = .ok (.getfield index, 3))
    (kk : 4 ≤ a.2.1 0 5 ∧ a.2.1 0 5 ≤ 7 → W p l e R s m args below meth c H locs cells slots Q (F0 m (pc + 3) ls (.ref (ad (a.2.1 0 5)) :: rest))) : W p l e R s m args below meth c H locs cells slots Q (F0 m pc ls (.ref (ad 0) :: rest)) :=
  c_getr S hw (n := 0) (ci := 0) (cOk.s (by decide)) (isO_K _) rfl in_X0 5 (by decide) hlink rfl rfl (by have := hw.on; omega) hdg (kk hw.on)
theorem rv_nar {t : FieldType} {x : Nat} (h : ∀ v : Value, narrow t v = v) : ∀ y, narrow t (rv ad y) = rv ad y := fun y => h _
theorem kset5 {i : Nat → Int32} {r : Nat → Nat} {x : Nat} : (kObj ad i r).set 5 (rv ad x) = kObj ad i (va_up r 5 x) := by simp [kObj, va_up]
theorem c_putOn (S : CallFix p m c cc nL s args lw_all RX0) (hw : CW D dA ad fv A a s H locs) {index x : Nat} (h1 : 4 ≤ x) (h2 : x ≤ 7) (hlink : fLk RX0 index RX0 (TX0 5).2.1 (TX0 5).2.2.1) (hdg : decode cc pc = .ok (.putfield index, 3))
    (kk : ∀ (a1 : CS) (H1 : Heap) (locs1 : List Loc), a1 = wR a 0 5 x → CW D dA ad fv A a1 s H1 locs1 → W p l e R s m args below meth c H1 locs1 cells slots Q (F0 m (pc + 3) ls rest)) : W p l e R s m args below meth c H locs cells slots Q (F0 m pc ls (.ref (ad x) :: .ref (ad 0) :: rest)) := by
  have hf : (wR a 0 5 x).2.1 0 5 = x := by simp [wR, up2]
  refine c_putR S hw (n := 0) (ci := 0) (x := x) (cOk.s (by decide)) (isO_K _) rfl in_X0 tyX0 tyX0_ok nmX0 5 (by decide) hlink rfl rfl (rv_n (by omega)).symm ?_ ?_ (Nat.le_of_ble_eq_true rfl) (by rw [hf]; exact ⟨h1, h2⟩) ?_ hdg kk
  · intro y
    by_cases hy : y = 0
    · rw [hy, rv_0]; rfl
    · rw [rv_n hy]; rfl
  · intro y
    by_cases hy : y = 0
    · rw [hy, rv_0]; rfl
    · rw [rv_n hy]; rfl
  · show cCell dA ad fv 0 (a.1 0) ((wR a 0 5 x).2.1 0) _ _ = _
    have : (wR a 0 5 x).2.1 0 = va_up (a.2.1 0) 5 x := up2_rowA
    rw [this, kset5]
    rfl
theorem c_alen (S : CallFix p m c cc nL s args lw_all own) (hw : CW D dA ad fv A a s H locs) {n t len : Nat} {ty : FieldType} {x : (Nat → Int32) ⊕ (Nat → Int64) ⊕ (Nat → UInt32) ⊕ (Nat → UInt64) ⊕ (Nat → Option Nat)} (hm : cOk a n) (he : cC dA ad fv a n = .inl (dA t, len, x)) (ht : (tyA dA)[t]? = some (dA t, ty)) {v : Int32} (hv : Int32.ofNat len = v) (hdg : decode cc pc = .ok (.arraylength, 1))
    (kk : W p l e R s m args below meth c H locs cells slots Q (F0 m (pc + 1) ls (.int v :: rest))) : W p l e R s m args below meth c H locs cells slots Q (F0 m pc ls (.ref (ad n) :: rest)) := by
  obtain ⟨hx, hb, -, hown, hts⟩ := S
  obtain ⟨dyn, ⟨hP, -, -, -, hK⟩, hd, -, -, hN⟩ := hw
  obtain ⟨pos, hpos⟩ := List.getElem?_of_mem (hm.mem hd)
  exact va_alen hx hb hK hP pos t (by rw [fw_at hpos, he]) ht hv hdg kk
/-- a whole row is laid anew -/
def wC (a : CS) (g : Nat) (row : Nat → Int32) : CS := (va_up a.1 g row, a.2)
theorem wC_off {a : CS} {n : Nat} {row : Nat → Int32} : ∀ g, g ≠ n → (wC a n row).1 g = a.1 g ∧ (wC a n row).2.1 g = a.2.1 g ∧ (wC a n row).2.2.1 g = a.2.2.1 g ∧ (wC a n row).2.2.2 g = a.2.2.2 g := fun g hg => ⟨by simp [wC, va_up, hg], rfl, rfl, rfl⟩
/-- System.arraycopy between two rows of whole numbers -/
theorem c_copyi (S : CallFix p m c cc nL s args lw_all own) (hsz : ls.size = nL) (hw : CW D dA ad fv A a s H locs) {index f g l0 l1 : Nat} (hg0 : g ≠ 0) (hmf : cOk a f) (hmg : cOk a g) (hef : isA dA ad fv a f 0 l0) (heg : isA dA ad fv a g 0 l1) (hlink : (Cond.methodLink own index arraycopyName) ∈ lw_all) (hnat : (Cond.native arraycopyName) ∈ lw_all) (hstat : (Cond.static arraycopyName) ∈ lw_all) (hini : (Cond.initialized "java/lang/System") ∈ lw_all)
    {sp dp n : Int32} (h1 : ¬ sp < 0) (h2 : ¬ dp < 0) (h3 : ¬ n < 0) (h4 : sp.toNatClampNeg + n.toNatClampNeg ≤ l0) (h5 : dp.toNatClampNeg + n.toNatClampNeg ≤ l1) (hframes : 1 ≤ R.frames) (hlocals : (rest.map fun v => v.category).sum + (nativeFrameWords "java/lang/System" "arraycopy" 5 + 11) ≤ R.locals) (hdg : decode cc pc = .ok (.invokestatic index, 3))
    (kk : ∀ (a1 : CS) (H1 : Heap) (locs1 : List Loc), a1 = wC a g (va_cpy (a.1 f) (a.1 g) sp.toNatClampNeg dp.toNatClampNeg n.toNatClampNeg) → CW D dA ad fv A a1 s H1 locs1 → W p l e R s m args below meth c H1 locs1 cells slots Q (F0 m (pc + 3) ls rest)) : W p l e R s m args below meth c H locs cells slots Q (F0 m pc ls (.int n :: .int dp :: .ref (ad g) :: .int sp :: .ref (ad f) :: rest)) := by
  obtain ⟨hx, hb, hml, hown, hts⟩ := S
  obtain ⟨dyn, ⟨hP, hD, hS, hA, hK⟩, hd, hon, had, hN⟩ := hw
  obtain ⟨pf, hpf⟩ := List.getElem?_of_mem (hmf.mem hd)
  obtain ⟨pg, hpg⟩ := List.getElem?_of_mem (hmg.mem hd)
  have hf : (fw (sL ++ dyn) ad (cC dA ad fv a))[pf]? = some (ad f, .inl (dA 0, l0, .inl (a.1 f))) := by rw [fw_at hpf]; exact congrArg _ (congrArg _ (hef (a.1 f)))
  have hg : (fw (sL ++ dyn) ad (cC dA ad fv a))[pg]? = some (ad g, .inl (dA 0, l1, .inl (a.1 g))) := by rw [fw_at hpg]; exact congrArg _ (congrArg _ (heg (a.1 g)))
  refine va_copyi hx hb (hml.trans hsz.symm) hown (hts _ hlink) (hts _ hnat) (hts _ hstat) (hts _ hini) hK hP hD hS pf pg 0 0 hf hg rfl rfl rfl h1 h2 h3 h4 h5 (fun _ _ => rfl) hframes hlocals hdg (fun H1 locs1 hP1 hD1 hS1 => ?_)
  have hnew : cC dA ad fv (wC a g (va_cpy (a.1 f) (a.1 g) sp.toNatClampNeg dp.toNatClampNeg n.toNatClampNeg)) g = .inl (dA 0, l1, .inl (va_cpy (a.1 f) (a.1 g) sp.toNatClampNeg dp.toNatClampNeg n.toNatClampNeg)) := by
    show cCell dA ad fv g (va_up a.1 g _ g) _ _ _ = _
    rw [show va_up a.1 g (va_cpy (a.1 f) (a.1 g) sp.toNatClampNeg dp.toNatClampNeg n.toNatClampNeg) g = va_cpy (a.1 f) (a.1 g) sp.toNatClampNeg dp.toNatClampNeg n.toNatClampNeg by simp [va_up]]
    exact heg _
  rw [fw_set hD hpg, cC_up wC_off hnew] at hP1 hD1
  exact kk _ H1 locs1 rfl ⟨dyn, ⟨hP1, hD1, hS1, hA, hK⟩, hd, hon, had, hN⟩
end CR3

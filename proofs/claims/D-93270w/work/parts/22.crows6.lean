/-! ROWS OF THE COMPONENT's WORLD: floats, what a thing is, rows made -/
section CR6
variable {p : Program} {l : Launch} {e : Env} {R : Room} {s : State} {m : MethodId} {args : Array Value} {below : List Frame} {meth : Method} {c : Code} {H : Heap} {locs : List Loc} {cells slots : Nat} {Q : State → Prop}
variable {cc : ByteArray} {nL pc : Nat} {ls : Array Slot} {rest st0 : List Value} {D : va_G} {dA : Nat → ClassId} {ad : Nat → Nat} {fv : Nat → Value} {a : CS} {A : Nat → Prop} {own : String}
/-- a row of floats -/
def isG (dA : Nat → ClassId) (ad : Nat → Nat) (fv : Nat → Value) (a : CS) (n len : Nat) : Prop := ∀ g, cCell dA ad fv n (a.1 n) (a.2.1 n) (a.2.2.1 n) g = .inl (dA 3, len, .inr (.inr (.inl g)))
theorem isG_80 : isG dA ad fv a 80 24 := fun _ => rfl
theorem isG_d {n : Nat} (h : kindK a n 23) : isG dA ad fv a n (a.2.2.1 n).2 := fun g => by
  rw [cCell_d h.1]
  unfold dCell
  rw [h.2]
  rfl
theorem c_fald (S : CallFix p m c cc nL s args lw_all own) (hw : CW D dA ad fv A a s H locs) {n len : Nat} (hm : cOk a n) (he : isG dA ad fv a n len) {i : Int32} (hin : vp_in i len) (hdg : decode cc pc = .ok (.faload, 1))
    (kk : W p l e R s m args below meth c H locs cells slots Q (F0 m (pc + 1) ls (.float (a.2.2.2 n i.toNatClampNeg) :: rest))) : W p l e R s m args below meth c H locs cells slots Q (F0 m pc ls (.int i :: .ref (ad n) :: rest)) := by
  obtain ⟨hx, hb, -, hown, hts⟩ := S
  obtain ⟨dyn, ⟨hP, -, -, -, hK⟩, hd, -, -, hN⟩ := hw
  obtain ⟨pos, hpos⟩ := List.getElem?_of_mem (hm.mem hd)
  have ha : (fw (sL ++ dyn) ad (cC dA ad fv a))[pos]? = some (ad n, .inl (dA 3, len, .inr (.inr (.inl (a.2.2.2 n))))) := by rw [fw_at hpos]; exact congrArg _ (congrArg _ (he (a.2.2.2 n)))
  exact va_fald hx hb hK hP pos 3 ha rfl hin hdg kk
theorem wG_row {a : CS} {n k : Nat} {v : UInt32} : (wG a n k v).2.2.2 n = vf_upd (a.2.2.2 n) k v := by
  funext q
  simp [wG, up2, vf_upd]
theorem c_fast (S : CallFix p m c cc nL s args lw_all own) (hw : CW D dA ad fv A a s H locs) {n len : Nat} (hm : cOk a n) (he : isG dA ad fv a n len) {i : Int32} {x : UInt32} (hin : vp_in i len) (hdg : decode cc pc = .ok (.fastore, 1))
    (kk : ∀ (a1 : CS) (H1 : Heap) (locs1 : List Loc), a1 = wG a n i.toNatClampNeg x → CW D dA ad fv A a1 s H1 locs1 → W p l e R s m args below meth c H1 locs1 cells slots Q (F0 m (pc + 1) ls rest)) : W p l e R s m args below meth c H locs cells slots Q (F0 m pc ls (.float x :: .int i :: .ref (ad n) :: rest)) := by
  obtain ⟨hx, hb, -, hown, hts⟩ := S
  obtain ⟨dyn, ⟨hP, hD, hS, hA, hK⟩, hd, hon, had, hN⟩ := hw
  obtain ⟨pos, hpos⟩ := List.getElem?_of_mem (hm.mem hd)
  have ha : (fw (sL ++ dyn) ad (cC dA ad fv a))[pos]? = some (ad n, .inl (dA 3, len, .inr (.inr (.inl (a.2.2.2 n))))) := by rw [fw_at hpos]; exact congrArg _ (congrArg _ (he (a.2.2.2 n)))
  have hnew : cC dA ad fv (wG a n i.toNatClampNeg x) n = .inl (dA 3, len, .inr (.inr (.inl (vf_upd (a.2.2.2 n) i.toNatClampNeg x)))) := by
    show cCell dA ad fv n _ _ _ ((wG a n i.toNatClampNeg x).2.2.2 n) = _
    rw [wG_row]
    exact he _
  refine va_fast hx hb hK hP hD hS pos 3 ha rfl hin hdg (fun H1 locs1 hP1 hD1 hS1 => ?_)
  rw [fw_set hD hpos, cC_up wG_off hnew] at hP1 hD1
  exact kk _ H1 locs1 rfl ⟨dyn, ⟨hP1, hD1, hS1, hA, hK⟩, hd, hon, had, hN⟩
theorem c_copys (S : CallFix p m c cc nL s args lw_all own) (hsz : ls.size = nL) (hw : CW D dA ad fv A a s H locs) {index f g l0 l1 : Nat} (hg0 : g ≠ 0) (hmf : cOk a f) (hmg : cOk a g) (hef : isA dA ad fv a f 4 l0) (heg : isA dA ad fv a g 4 l1) (hlink : (Cond.methodLink own index arraycopyName) ∈ lw_all) (hnat : (Cond.native arraycopyName) ∈ lw_all) (hstat : (Cond.static arraycopyName) ∈ lw_all) (hini : (Cond.initialized "java/lang/System") ∈ lw_all)
    {sp dp n : Int32} (h1 : ¬ sp < 0) (h2 : ¬ dp < 0) (h3 : ¬ n < 0) (h4 : sp.toNatClampNeg + n.toNatClampNeg ≤ l0) (h5 : dp.toNatClampNeg + n.toNatClampNeg ≤ l1) (hfit : ∀ i, i < n.toNatClampNeg → fits .short (.int (a.1 f (sp.toNatClampNeg + i))) = true) (hframes : 1 ≤ R.frames) (hlocals : (rest.map fun v => v.category).sum + (nativeFrameWords "java/lang/System" "arraycopy" 5 + 11) ≤ R.locals) (hdg : decode cc pc = .ok (.invokestatic index, 3))
    (kk : ∀ (a1 : CS) (H1 : Heap) (locs1 : List Loc), a1 = wC a g (va_cpy (a.1 f) (a.1 g) sp.toNatClampNeg dp.toNatClampNeg n.toNatClampNeg) → CW D dA ad fv A a1 s H1 locs1 → W p l e R s m args below meth c H1 locs1 cells slots Q (F0 m (pc + 3) ls rest)) : W p l e R s m args below meth c H locs cells slots Q (F0 m pc ls (.int n :: .int dp :: .ref (ad g) :: .int sp :: .ref (ad f) :: rest)) := by
  obtain ⟨hx, hb, hml, hown, hts⟩ := S
  obtain ⟨dyn, ⟨hP, hD, hS, hA, hK⟩, hd, hon, had, hN⟩ := hw
  obtain ⟨pf, hpf⟩ := List.getElem?_of_mem (hmf.mem hd)
  obtain ⟨pg, hpg⟩ := List.getElem?_of_mem (hmg.mem hd)
  have hf : (fw (sL ++ dyn) ad (cC dA ad fv a))[pf]? = some (ad f, .inl (dA 4, l0, .inl (a.1 f))) := by rw [fw_at hpf]; exact congrArg _ (congrArg _ (hef (a.1 f)))
  have hg : (fw (sL ++ dyn) ad (cC dA ad fv a))[pg]? = some (ad g, .inl (dA 4, l1, .inl (a.1 g))) := by rw [fw_at hpg]; exact congrArg _ (congrArg _ (heg (a.1 g)))
  refine va_copyi hx hb (hml.trans hsz.symm) hown (hts _ hlink) (hts _ hnat) (hts _ hstat) (hts _ hini) hK hP hD hS pf pg 4 4 hf hg rfl rfl rfl h1 h2 h3 h4 h5 hfit hframes hlocals hdg (fun H1 locs1 hP1 hD1 hS1 => ?_)
  have hnew : cC dA ad fv (wC a g (va_cpy (a.1 f) (a.1 g) sp.toNatClampNeg dp.toNatClampNeg n.toNatClampNeg)) g = .inl (dA 4, l1, .inl (va_cpy (a.1 f) (a.1 g) sp.toNatClampNeg dp.toNatClampNeg n.toNatClampNeg)) := by
    show cCell dA ad fv g (va_up a.1 g _ g) _ _ _ = _
    rw [show va_up a.1 g (va_cpy (a.1 f) (a.1 g) sp.toNatClampNeg dp.toNatClampNeg n.toNatClampNeg) g = va_cpy (a.1 f) (a.1 g) sp.toNatClampNeg dp.toNatClampNeg n.toNatClampNeg by simp [va_up]]
    exact heg _
  rw [fw_set hD hpg, cC_up wC_off hnew] at hP1 hD1
  exact kk _ H1 locs1 rfl ⟨dyn, ⟨hP1, hD1, hS1, hA, hK⟩, hd, hon, had, hN⟩
/-- what a slot or a sheet may hold -/
def objK (a : CS) (n : Nat) : Prop := 1000 ≤ n ∧ ((a.2.2.1 n).1 = 23 ∨ (a.2.2.1 n).1 = 24 ∨ (a.2.2.1 n).1 = 104 ∨ (a.2.2.1 n).1 = 115 ∨ (107 ≤ (a.2.2.1 n).1 ∧ (a.2.2.1 n).1 ≤ 112))
theorem objK.ne {n : Nat} (h : objK a n) : n ≠ 0 := by have := h.1; omega
theorem objK.ok {n : Nat} (h : objK a n) : cOk a n := Or.inr ⟨h.1, by have := h.2; omega⟩
/-- the class of a thing by its kind -/
def kcls (k : Nat) : String := if k = 23 then "[F" else if k = 24 then "[S" else if k = 104 then "KeptLeaves$Sheet" else if k = 115 then "KeptLeaves$Figure" else if k = 107 then "KeptLeaves$Leaf" else if k = 108 then "KeptLeaves$OldLeaf" else if k = 109 then "KeptLeaves$CopyLeaf" else if k = 110 then "KeptLeaves$TornLeaf" else if k = 111 then "KeptLeaves$FadedLeaf" else "KeptLeaves$ListLeaf"
theorem CW.recvA (hw : CW D dA ad fv A a s H locs) {n t len : Nat} {x : (Nat → Int32) ⊕ (Nat → Int64) ⊕ (Nat → UInt32) ⊕ (Nat → UInt64) ⊕ (Nat → Option Nat)} (hm : cOk a n) (he : cC dA ad fv a n = .inl (dA t, len, x)) {nm : String} (hnm : s.vm.findClass nm = some (dA t)) : ∃ cell : Cell, H[ad n]? = some cell ∧ cell.vm.isStatics = false ∧ s.vm.findClass nm = some cell.cls := by
  obtain ⟨dyn, ⟨hP, -, -, -, hK⟩, hd, -, -, hN⟩ := hw
  obtain ⟨pos, hpos⟩ := List.getElem?_of_mem (hm.mem hd)
  have h1 := hP pos _ (fw_at hpos)
  rw [he] at h1
  have hvm0 : (vp_cell (dA t) (len, x)).vm = .none := by
    obtain f | f | f | f | f := x <;> rfl
  have hcl0 : (vp_cell (dA t) (len, x)).cls = dA t := by
    obtain f | f | f | f | f := x <;> rfl
  exact ⟨_, h1, by rw [hvm0]; rfl, by rw [hcl0]; exact hnm⟩
theorem CW.nameF (hw : CW D dA ad fv A a s H locs) : s.vm.findClass "[F" = some (dA 3) := by
  obtain ⟨dyn, ⟨hP, -, -, -, hK⟩, hd, -, -, hN⟩ := hw
  exact (hK.2 3 (dA 3, .float) rfl).2
theorem CW.nameS (hw : CW D dA ad fv A a s H locs) : s.vm.findClass "[S" = some (dA 4) := by
  obtain ⟨dyn, ⟨hP, -, -, -, hK⟩, hd, -, -, hN⟩ := hw
  exact (hK.2 4 (dA 4, .short) rfl).2
theorem objK.recv {n : Nat} (h : objK a n) (hw : CW D dA ad fv A a s H locs) : ∃ cell : Cell, H[ad n]? = some cell ∧ cell.vm.isStatics = false ∧ s.vm.findClass (kcls (a.2.2.1 n).1) = some cell.cls := by
  have hok := h.ok
  obtain ⟨hn, h | h | h | h | h⟩ := h
  · rw [h]; exact hw.recvA hok (isG_d ⟨hn, h⟩ _) hw.nameF
  · rw [h]; exact hw.recvA hok (isA_s ⟨hn, h⟩ _) hw.nameS
  · rw [h]; exact hw.recv hok (isO_shD ⟨hn, h⟩ _) (q := (_, _, _)) rfl
  · rw [h]; exact hw.recv hok (isO_G ⟨hn, h⟩ _) (q := (_, _, _)) rfl
  · have hl : leafK a n := ⟨hn, h⟩
    rcases (show (a.2.2.1 n).1 = 107 ∨ (a.2.2.1 n).1 = 108 ∨ (a.2.2.1 n).1 = 109 ∨ (a.2.2.1 n).1 = 110 ∨ (a.2.2.1 n).1 = 111 ∨ (a.2.2.1 n).1 = 112 by omega) with e | e | e | e | e | e
    · rw [e]; exact hw.recv hok (isO_Lc hl (k := 7) e _) (q := (_, _, _)) rfl
    · rw [e]; exact hw.recv hok (isO_Lc hl (k := 8) e _) (q := (_, _, _)) rfl
    · rw [e]; exact hw.recv hok (isO_Lc hl (k := 9) e _) (q := (_, _, _)) rfl
    · rw [e]; exact hw.recv hok (isO_Lc hl (k := 10) e _) (q := (_, _, _)) rfl
    · rw [e]; exact hw.recv hok (isO_Lc hl (k := 11) e _) (q := (_, _, _)) rfl
    · rw [e]; exact hw.recv hok (isO_Lc hl (k := 12) e _) (q := (_, _, _)) rfl
theorem c_inst (S : CallFix p m c cc nL s args lw_all own) (hw : CW D dA ad fv A a s H locs) {index n : Nat} {T : String} (h : objK a n) (hlink : Cond.classLink own index T ∈ lw_all) {v : Int32}
    (hv : (kcls (a.2.2.1 n).1 = T ∧ v = 1) ∨ (Cond.castable (kcls (a.2.2.1 n).1) T ∈ cNest ∧ v = 1) ∨ ((kcls (a.2.2.1 n).1, T) ∈ cNot ∧ v = 0)) (hdg : decode cc pc = .ok (.instanceof index, 3))
    (kk : W p l e R s m args below meth c H locs cells slots Q (F0 m (pc + 3) ls (.int v :: rest))) : W p l e R s m args below meth c H locs cells slots Q (F0 m pc ls (.ref (ad n) :: rest)) := by
  obtain ⟨hx, hb, -, hown, hts⟩ := S
  have hr := h.recv hw
  rcases hv with ⟨h1, h2⟩ | ⟨h1, h2⟩ | ⟨h1, h2⟩
  · subst h2; rw [h1] at hr; exact va_instE hx hb hown (hts _ hlink) hr hdg kk
  · subst h2; exact va_instY hx hb hown (hts _ hlink) (hw.nw.1 _ h1) hr hdg kk
  · subst h2; exact va_instNo hx hb hown (hts _ hlink) (hw.nw.2.1 _ h1) hr hdg kk
theorem c_cast (S : CallFix p m c cc nL s args lw_all own) (hw : CW D dA ad fv A a s H locs) {index n : Nat} {T : String} (h : objK a n) (hlink : Cond.classLink own index T ∈ lw_all)
    (hv : kcls (a.2.2.1 n).1 = T ∨ Cond.castable (kcls (a.2.2.1 n).1) T ∈ cNest) (hdg : decode cc pc = .ok (.checkcast index, 3))
    (kk : W p l e R s m args below meth c H locs cells slots Q (F0 m (pc + 3) ls (.ref (ad n) :: rest))) : W p l e R s m args below meth c H locs cells slots Q (F0 m pc ls (.ref (ad n) :: rest)) := by
  obtain ⟨hx, hb, -, hown, hts⟩ := S
  have hr := h.recv hw
  rcases hv with h1 | h1
  · rw [h1] at hr; exact va_castE hx hb hown (hts _ hlink) hr hdg kk
  · exact va_castY hx hb hown (hts _ hlink) (hw.nw.1 _ h1) hr hdg kk
theorem kind_cases {a : CS} {n : Nat} {P : Nat → Prop} (h : objK a n) (h1 : P 23) (h2 : P 24) (h3 : P 104) (h4 : P 115) (h5 : P 107) (h6 : P 108) (h7 : P 109) (h8 : P 110) (h9 : P 111) (h0 : P 112) : P (a.2.2.1 n).1 := by
  rcases (show (a.2.2.1 n).1 = 23 ∨ (a.2.2.1 n).1 = 24 ∨ (a.2.2.1 n).1 = 104 ∨ (a.2.2.1 n).1 = 115 ∨ (a.2.2.1 n).1 = 107 ∨ (a.2.2.1 n).1 = 108 ∨ (a.2.2.1 n).1 = 109 ∨ (a.2.2.1 n).1 = 110 ∨ (a.2.2.1 n).1 = 111 ∨ (a.2.2.1 n).1 = 112 by have := h.2; omega) with e | e | e | e | e | e | e | e | e | e <;> (rw [e]; assumption)
/-- the answers of instanceof -/
def ansF (k : Nat) : Int32 := if k = 23 then 1 else 0
def ansSh (k : Nat) : Int32 := if k = 104 then 1 else 0
def ansG (k : Nat) : Int32 := if k = 115 then 1 else 0
def ansL (k : Nat) : Int32 := if 107 ≤ k ∧ k ≤ 112 then 1 else 0
theorem instF {n : Nat} (h : objK a n) : (kcls (a.2.2.1 n).1 = "[F" ∧ ansF (a.2.2.1 n).1 = 1) ∨ (Cond.castable (kcls (a.2.2.1 n).1) "[F" ∈ cNest ∧ ansF (a.2.2.1 n).1 = 1) ∨ ((kcls (a.2.2.1 n).1, "[F") ∈ cNot ∧ ansF (a.2.2.1 n).1 = 0) := by
  refine kind_cases (P := fun k => (kcls k = "[F" ∧ ansF k = 1) ∨ (Cond.castable (kcls k) "[F" ∈ cNest ∧ ansF k = 1) ∨ ((kcls k, "[F") ∈ cNot ∧ ansF k = 0)) h (Or.inl ⟨rfl, rfl⟩) ?_ ?_ ?_ ?_ ?_ ?_ ?_ ?_ ?_ <;> exact Or.inr (Or.inr ⟨by decide +kernel, rfl⟩)
theorem instSh {n : Nat} (h : objK a n) : (kcls (a.2.2.1 n).1 = "KeptLeaves$Sheet" ∧ ansSh (a.2.2.1 n).1 = 1) ∨ (Cond.castable (kcls (a.2.2.1 n).1) "KeptLeaves$Sheet" ∈ cNest ∧ ansSh (a.2.2.1 n).1 = 1) ∨ ((kcls (a.2.2.1 n).1, "KeptLeaves$Sheet") ∈ cNot ∧ ansSh (a.2.2.1 n).1 = 0) := by
  refine kind_cases (P := fun k => (kcls k = "KeptLeaves$Sheet" ∧ ansSh k = 1) ∨ (Cond.castable (kcls k) "KeptLeaves$Sheet" ∈ cNest ∧ ansSh k = 1) ∨ ((kcls k, "KeptLeaves$Sheet") ∈ cNot ∧ ansSh k = 0)) h ?_ ?_ (Or.inl ⟨rfl, rfl⟩) ?_ ?_ ?_ ?_ ?_ ?_ ?_ <;> exact Or.inr (Or.inr ⟨by decide +kernel, rfl⟩)
theorem instG {n : Nat} (h : objK a n) : (kcls (a.2.2.1 n).1 = "KeptLeaves$Figure" ∧ ansG (a.2.2.1 n).1 = 1) ∨ (Cond.castable (kcls (a.2.2.1 n).1) "KeptLeaves$Figure" ∈ cNest ∧ ansG (a.2.2.1 n).1 = 1) ∨ ((kcls (a.2.2.1 n).1, "KeptLeaves$Figure") ∈ cNot ∧ ansG (a.2.2.1 n).1 = 0) := by
  refine kind_cases (P := fun k => (kcls k = "KeptLeaves$Figure" ∧ ansG k = 1) ∨ (Cond.castable (kcls k) "KeptLeaves$Figure" ∈ cNest ∧ ansG k = 1) ∨ ((kcls k, "KeptLeaves$Figure") ∈ cNot ∧ ansG k = 0)) h ?_ ?_ ?_ (Or.inl ⟨rfl, rfl⟩) ?_ ?_ ?_ ?_ ?_ ?_ <;> exact Or.inr (Or.inr ⟨by decide +kernel, rfl⟩)
theorem instL {n : Nat} (h : objK a n) : (kcls (a.2.2.1 n).1 = "KeptLeaves$Leaf" ∧ ansL (a.2.2.1 n).1 = 1) ∨ (Cond.castable (kcls (a.2.2.1 n).1) "KeptLeaves$Leaf" ∈ cNest ∧ ansL (a.2.2.1 n).1 = 1) ∨ ((kcls (a.2.2.1 n).1, "KeptLeaves$Leaf") ∈ cNot ∧ ansL (a.2.2.1 n).1 = 0) := by
  refine kind_cases (P := fun k => (kcls k = "KeptLeaves$Leaf" ∧ ansL k = 1) ∨ (Cond.castable (kcls k) "KeptLeaves$Leaf" ∈ cNest ∧ ansL k = 1) ∨ ((kcls k, "KeptLeaves$Leaf") ∈ cNot ∧ ansL k = 0)) h ?_ ?_ ?_ ?_ (Or.inl ⟨rfl, rfl⟩) ?_ ?_ ?_ ?_ ?_
  · exact Or.inr (Or.inr ⟨by decide +kernel, rfl⟩)
  · exact Or.inr (Or.inr ⟨by decide +kernel, rfl⟩)
  · exact Or.inr (Or.inr ⟨by decide +kernel, rfl⟩)
  · exact Or.inr (Or.inr ⟨by decide +kernel, rfl⟩)
  · exact Or.inr (Or.inl ⟨List.mem_of_getElem? (i := 60) rfl, rfl⟩)
  · exact Or.inr (Or.inl ⟨List.mem_of_getElem? (i := 63) rfl, rfl⟩)
  · exact Or.inr (Or.inl ⟨List.mem_of_getElem? (i := 47) rfl, rfl⟩)
  · exact Or.inr (Or.inl ⟨List.mem_of_getElem? (i := 51) rfl, rfl⟩)
  · exact Or.inr (Or.inl ⟨List.mem_of_getElem? (i := 54) rfl, rfl⟩)
theorem kindK.obj {n k : Nat} (h : kindK a n k) (hk : k = 23 ∨ k = 24 ∨ k = 104 ∨ k = 115) : objK a n := ⟨h.1, by rw [h.2]; omega⟩
theorem leafK.obj {n : Nat} (h : leafK a n) : objK a n := ⟨h.1, Or.inr (Or.inr (Or.inr (Or.inr h.2)))⟩
theorem kindK.kcls {n k : Nat} {T : String} (h : kindK a n k) (hk : kcls k = T) : kcls (a.2.2.1 n).1 = T := by rw [h.2]; exact hk
theorem va_ldcwF {T : State} (X : Stand p l e R s m args below meth c T locs cells slots) (hexec : p.tables.exec = Jvm.exec) {own : String} {index : Nat} {v : UInt32} (hown : s.vm.findClass own = some m.cls)
    (hconst : (Cond.constantFloat own index v).before args s = true) {g : JFrame} (hg : g.method = m) (hdg : decode c.code g.pc = .ok (.ldc_w index, 3)) :
    ∀ target, Steps p.tables e below (T.setTop { g with pc := g.pc + 3, stack := .float v :: g.stack }) target → Steps p.tables e below (T.setTop g) target := by
  obtain ⟨k, cf, hk, hcf, hcp⟩ := Cond.constantFloat_spec hown hconst
  obtain ⟨k', hk', he⟩ := X.warmed.alike.2.2 _ _ hk
  intro target hrest
  subst hg
  jvm_step X.here [hexec, hdg, ldc_w.wp_float (s := T) (f := g) X.here.top hk' (by rw [he]; exact hcf) hcp]
  exact hrest
theorem lv_ldcwf (hexec : p.tables.exec = Jvm.exec) (hb : c.code = cc) {own : String} {index : Nat} {v : UInt32} (hown : s.vm.findClass own = some m.cls) (hconst : (Jvm.Cond.constantFloat own index v).before args s = true) (hdg : decode cc pc = .ok (.ldc_w index, 3)) (k : W p l e R s m args below meth c H locs cells slots Q (F0 m (pc + 3) ls (.float v :: rest))) : W p l e R s m args below meth c H locs cells slots Q (F0 m pc ls rest) := by
  intro T hT X
  obtain ⟨t, a, b⟩ := k T hT X
  exact ⟨t, va_ldcwF X hexec hown hconst (g := F0 m pc ls rest) rfl (by rw [hb]; exact hdg) t a, b⟩
theorem f_new {k : Nat} (hk : k = 23 ∨ k = 24) {n N : Nat} (hn : 1000 ≤ n) : ∃ x, cC dA ad fv (wN a n (k, N)) n = .inl (dA (k - 20), N, x) ∧ x = (if k = 23 then .inr (.inr (.inl (fun _ => 0))) else .inl (fun _ => 0)) := by
  have e : cC dA ad fv (wN a n (k, N)) n = dCell dA ad (fun _ => 0) (fun _ => 0) (k, N) (fun _ => 0) := by
    show cCell dA ad fv n _ _ _ _ = _
    rw [cCell_d hn]
    simp [wN, va_up]
  rcases hk with h | h
  · subst h; exact ⟨_, e, rfl⟩
  · subst h; exact ⟨_, e, rfl⟩
/-- the two rows that a sheet may get -/
theorem c_newF (S : CallFix p m c cc nL s args lw_all own) (hw : CW D dA ad fv A a s H locs) (harr : Cond.arrayClass .float ∈ lw_all) {v : Int32} (hv : ¬ v < 0) (hmax : v.toNatClampNeg ≤ 24) (hcells : cells + 1 ≤ R.cells) (hslots : slots + 24 ≤ R.slots) (hdg : decode cc pc = .ok (.newarray .float, 2))
    (kk : ∀ (n : Nat) (a1 : CS) (H1 : Heap), 1000 ≤ n → (a.2.2.1 n).1 = 0 → a1 = wN a n (23, v.toNatClampNeg) → CW D dA ad fv A a1 s H1 locs → W p l e R s m args below meth c H1 locs (cells + 1) (slots + 24) Q (F0 m (pc + 2) ls (.ref (ad n) :: rest))) : W p l e R s m args below meth c H locs cells slots Q (F0 m pc ls (.int v :: rest)) := by
  obtain ⟨hx, hb, -, hown, hts⟩ := S
  have had : ∀ q, ad (q + 1000) = q := by obtain ⟨dyn, -, -, -, had, -⟩ := hw; exact had
  refine va_newaK (atype := .float) hx hb (hts _ harr) (g := F0 m pc ls (.int v :: rest)) rfl hdg rfl hv rfl (by show _ * 4 ≤ _; omega) hcells (by omega) rfl fun H1 cA e1 z1 o1 hAr hNm => ?_
  have hcA : cA = dA 3 := Option.some.inj (hNm.symm.trans hw.nameF)
  subst hcA
  obtain ⟨x, hx1, hx2⟩ := f_new (dA := dA) (ad := ad) (fv := fv) (a := a) (k := 23) (Or.inl rfl) (n := H.size + 1000) (N := v.toNatClampNeg) (by omega)
  obtain ⟨h0, kG⟩ := hw.grow (q := H.size) (H1 := H1) (t := (23, v.toNatClampNeg)) (Nat.le_refl _) (by show 23 ≠ 0; omega) hx1
  refine kG _ (fun dyn hP hD hS hA hK back => ?_)
  have hk : ∀ (k : Nat) (x : Nat × va_E), (fw (sL ++ dyn) ad (cC dA ad fv a))[k]? = some x → H1[x.1]? = H[x.1]? := fun k x hx => o1 x.1 ((hP k x hx).lt)
  have hw1 := back ((hP.kept hk).app (fun k x hx => by
      have hz : k < 1 := (List.getElem?_eq_some_iff.mp hx).1
      rw [show k = 0 by omega] at hx
      cases hx
      rw [hx2]
      exact e1)) (hD.push hP rfl (hA _ hS.1)) ⟨Nat.le_trans hS.1 (by omega), fun x h1 h2 => (o1 x (Nat.lt_of_lt_of_le h1 hS.1)).trans (hS.2.1 x h1 h2), hS.2.2⟩
  have hres := kk (H.size + 1000) _ H1 (by omega) h0 rfl hw1
  rw [had] at hres
  exact W.widen (Nat.le_refl _) (by omega) hres
theorem c_newS (S : CallFix p m c cc nL s args lw_all own) (hw : CW D dA ad fv A a s H locs) (harr : Cond.arrayClass .short ∈ lw_all) {v : Int32} (hv : ¬ v < 0) (hmax : v.toNatClampNeg ≤ 24) (hcells : cells + 1 ≤ R.cells) (hslots : slots + 24 ≤ R.slots) (hdg : decode cc pc = .ok (.newarray .short, 2))
    (kk : ∀ (n : Nat) (a1 : CS) (H1 : Heap), 1000 ≤ n → (a.2.2.1 n).1 = 0 → a1 = wN a n (24, v.toNatClampNeg) → CW D dA ad fv A a1 s H1 locs → W p l e R s m args below meth c H1 locs (cells + 1) (slots + 24) Q (F0 m (pc + 2) ls (.ref (ad n) :: rest))) : W p l e R s m args below meth c H locs cells slots Q (F0 m pc ls (.int v :: rest)) := by
  obtain ⟨hx, hb, -, hown, hts⟩ := S
  have had : ∀ q, ad (q + 1000) = q := by obtain ⟨dyn, -, -, -, had, -⟩ := hw; exact had
  refine va_newaK (atype := .short) hx hb (hts _ harr) (g := F0 m pc ls (.int v :: rest)) rfl hdg rfl hv rfl (by show _ * 2 ≤ _; omega) hcells (by omega) rfl fun H1 cA e1 z1 o1 hAr hNm => ?_
  have hcA : cA = dA 4 := Option.some.inj (hNm.symm.trans hw.nameS)
  subst hcA
  obtain ⟨x, hx1, hx2⟩ := f_new (dA := dA) (ad := ad) (fv := fv) (a := a) (k := 24) (Or.inr rfl) (n := H.size + 1000) (N := v.toNatClampNeg) (by omega)
  obtain ⟨h0, kG⟩ := hw.grow (q := H.size) (H1 := H1) (t := (24, v.toNatClampNeg)) (Nat.le_refl _) (by show 24 ≠ 0; omega) hx1
  refine kG _ (fun dyn hP hD hS hA hK back => ?_)
  have hk : ∀ (k : Nat) (x : Nat × va_E), (fw (sL ++ dyn) ad (cC dA ad fv a))[k]? = some x → H1[x.1]? = H[x.1]? := fun k x hx => o1 x.1 ((hP k x hx).lt)
  have hw1 := back ((hP.kept hk).app (fun k x hx => by
      have hz : k < 1 := (List.getElem?_eq_some_iff.mp hx).1
      rw [show k = 0 by omega] at hx
      cases hx
      rw [hx2]
      exact e1)) (hD.push hP rfl (hA _ hS.1)) ⟨Nat.le_trans hS.1 (by omega), fun x h1 h2 => (o1 x (Nat.lt_of_lt_of_le h1 hS.1)).trans (hS.2.1 x h1 h2), hS.2.2⟩
  have hres := kk (H.size + 1000) _ H1 (by omega) h0 rfl hw1
  rw [had] at hres
  exact W.widen (Nat.le_refl _) (by omega) hres
end CR6
section CR6b
variable {p : Program} {l : Launch} {e : Env} {R : Room} {s : State} {m : MethodId} {args : Array Value} {below : List Frame} {meth : Method} {c : Code} {H : Heap} {locs : List Loc} {cells slots : Nat} {Q : State → Prop}
variable {cc : ByteArray} {nL pc : Nat} {ls : Array Slot} {rest st0 : List Value} {D : va_G} {dA : Nat → ClassId} {ad : Nat → Nat} {fv : Nat → Value} {a : CS} {A : Nat → Prop} {own : String}
/-- a thing with one name in it -/
def isX (dA : Nat → ClassId) (ad : Nat → Nat) (fv : Nat → Value) (a : CS) (n ci : Nat) : Prop := ∀ r : Nat → Nat, cCell dA ad fv n (a.1 n) r (a.2.2.1 n) (a.2.2.2 n) = .inr (ci, [rv ad (r 0)])
theorem shK.isX {n : Nat} (h : shK a n) : isX dA ad fv a n 4 := by
  intro r
  rcases h with h | h
  · unfold cCell
    rw [if_neg (by omega), if_neg (by omega), if_neg (by omega), if_neg (by omega), if_neg (by omega), if_neg (by omega), if_neg (by omega), if_neg (by omega), if_neg (by omega), if_neg (by omega), if_neg (by omega), if_neg (by omega), if_neg (by omega), if_neg (by omega), if_neg (by omega), if_neg (by omega), if_neg (by omega), if_neg (by omega), if_neg (by omega), if_pos (by omega)]
  · rw [cCell_d h.1]
    unfold dCell
    rw [h.2]
    rfl
theorem isX_sl {n : Nat} (h1 : 90 ≤ n) (h2 : n ≤ 94) : isX dA ad fv a n 5 := by
  intro r
  unfold cCell
  rw [if_neg (by omega), if_neg (by omega), if_neg (by omega), if_neg (by omega), if_neg (by omega), if_neg (by omega), if_neg (by omega), if_neg (by omega), if_neg (by omega), if_neg (by omega), if_neg (by omega), if_neg (by omega), if_neg (by omega), if_neg (by omega), if_neg (by omega), if_neg (by omega), if_neg (by omega), if_neg (by omega), if_neg (by omega), if_neg (by omega), if_pos (by omega)]
theorem wR_row {a : CS} {n k x : Nat} : (wR a n k x).2.1 n = va_up (a.2.1 n) k x := up2_rowA
theorem c_putX (S : CallFix p m c cc nL s args lw_all own) (hw : CW D dA ad fv A a s H locs) {ref C : String} {T : u_T} {ci index n x : Nat} (hn0 : n ≠ 0) (hm : cOk a n) (he : isX dA ad fv a n ci) (hc : vwCl[ci]? = some (C, T, 1)) (hin : ∀ w ∈ u_ws C T 1, w ∈ lw_all) (ty0 : Nat → FieldType) (hty : ∀ k, k < 1 → parseFieldDescriptor (T k).2.2.1 = some (ty0 k)) (hnm : ∀ a, a < 1 → ∀ b, b < 1 → a ≠ b → (T a).2.1 ≠ (T b).2.1) (hlink : fLk own index ref (T 0).2.1 (T 0).2.2.1) (hsame : ref = (T 0).1) (hfin : (T 0).2.2.2 = false) {v : Value} (hv : v = rv ad x) {o : String} (ho : ty0 0 = .object o) (hdg : decode cc pc = .ok (.putfield index, 3))
    (kk : ∀ (a1 : CS) (H1 : Heap) (locs1 : List Loc), a1 = wR a n 0 x → CW D dA ad fv A a1 s H1 locs1 → W p l e R s m args below meth c H1 locs1 cells slots Q (F0 m (pc + 3) ls rest)) : W p l e R s m args below meth c H locs cells slots Q (F0 m pc ls (v :: .ref (ad n) :: rest)) := by
  refine c_putR S hw (n := n) (x := x) hm (he _) hc hin ty0 hty hnm 0 (by decide) hlink hsame hfin hv ?_ ?_ (Nat.le_of_ble_eq_true rfl) ?_ ?_ hdg kk
  · intro y
    rw [ho]
    by_cases hy : y = 0
    · rw [hy, rv_0]; rfl
    · rw [rv_n hy]; rfl
  · intro y
    rw [ho]
    by_cases hy : y = 0
    · rw [hy, rv_0]; rfl
    · rw [rv_n hy]; rfl
  · have : (wR a n 0 x).2.1 0 = a.2.1 0 := up2_offA (Ne.symm hn0)
    rw [this]
    exact hw.on
  · refine (he ((wR a n 0 x).2.1 n)).trans ?_
    rw [wR_row]
    simp [va_up]
end CR6b
section CR6c
variable {p : Program} {l : Launch} {e : Env} {R : Room} {s : State} {m : MethodId} {args : Array Value} {below : List Frame} {meth : Method} {c : Code} {H : Heap} {locs : List Loc} {cells slots : Nat} {Q : State → Prop}
variable {cc : ByteArray} {nL pc : Nat} {ls : Array Slot} {rest st0 : List Value} {D : va_G} {dA : Nat → ClassId} {ad : Nat → Nat} {fv : Nat → Value} {a : CS} {A : Nat → Prop} {own : String}
theorem c_putF (S : CallFix p m c cc nL s args lw_all own) (hw : CW D dA ad fv A a s H locs) (b : CS) {ref C : String} {T : u_T} {N ci index n : Nat} (hm : cOk a n) {fs : List Value} (he : cC dA ad fv a n = .inr (ci, fs)) (hc : vwCl[ci]? = some (C, T, N)) (hin : ∀ w ∈ u_ws C T N, w ∈ lw_all) (ty0 : Nat → FieldType) (hty : ∀ k, k < N → parseFieldDescriptor (T k).2.2.1 = some (ty0 k)) (hnm : ∀ a, a < N → ∀ b, b < N → a ≠ b → (T a).2.1 ≠ (T b).2.1) (k : Nat) (hk : k < N) (hlink : Cond.fieldLink own index ref (T k).2.1 (T k).2.2.1 ∈ lw_all) (hsame : ref = (T k).1) (hfin : (T k).2.2.2 = true) (hin2 : meth.name = "<init>") (hdecl : (T k).1 = own) {v : Value} (hn : narrow (ty0 k) v = v) (hfit : fits (ty0 k) v = true) (hl : k < fs.length)
    (hoff : ∀ g, g ≠ n → b.1 g = a.1 g ∧ b.2.1 g = a.2.1 g ∧ b.2.2.1 g = a.2.2.1 g ∧ b.2.2.2 g = a.2.2.2 g) (hT : b.2.2.1 = a.2.2.1) (hon : 4 ≤ b.2.1 0 5 ∧ b.2.1 0 5 ≤ 7) (hnew : cC dA ad fv b n = .inr (ci, fs.set k v)) (hdg : decode cc pc = .ok (.putfield index, 3))
    (kk : ∀ (H1 : Heap) (locs1 : List Loc), CW D dA ad fv A b s H1 locs1 → W p l e R s m args below meth c H1 locs1 cells slots Q (F0 m (pc + 3) ls rest)) : W p l e R s m args below meth c H locs cells slots Q (F0 m pc ls (v :: .ref (ad n) :: rest)) := by
  obtain ⟨hx, hb, -, hown, hts⟩ := S
  obtain ⟨dyn, ⟨hP, hD, hS, hA, hK⟩, hd, -, had, hN⟩ := hw
  obtain ⟨pos, hpos⟩ := List.getElem?_of_mem (hm.mem hd)
  subst hsame
  have go : ∀ (H1 : Heap) (locs1 : List Loc), va_P D vwCl ((fw (sL ++ dyn) ad (cC dA ad fv a)).set pos (ad n, .inr (ci, fs.set k v))) H1 → va_D A ((fw (sL ++ dyn) ad (cC dA ad fv a)).set pos (ad n, .inr (ci, fs.set k v))) → va_S A s.heap H1 locs1 → W p l e R s m args below meth c H1 locs1 cells slots Q (F0 m (pc + 3) ls rest) := by
    intro H1 locs1 hP1 hD1 hS1
    rw [fw_set hD hpos, cC_up hoff hnew] at hP1 hD1
    exact kk H1 locs1 ⟨dyn, ⟨hP1, hD1, hS1, hA, hK⟩, by rw [hT]; exact hd, hon, had, hN⟩
  exact va_putF hx hb hts hin ty0 hty hnm hown hK hP hD hS pos (by rw [fw_at hpos, he]) hc k hk (hts _ hlink) (fun _ h9 => h9) hfin hin2 hdecl (hty k hk) hn hfit hl hdg go
theorem c_putFI (S : CallFix p m c cc nL s args lw_all own) (hw : CW D dA ad fv A a s H locs) {ref C : String} {T : u_T} {N ci index n : Nat} {F : (Nat → Int32) → List Value} (hm : cOk a n) (ho : isO dA ad fv a n ci F) (hc : vwCl[ci]? = some (C, T, N)) (hin : ∀ w ∈ u_ws C T N, w ∈ lw_all) (ty0 : Nat → FieldType) (hty : ∀ k, k < N → parseFieldDescriptor (T k).2.2.1 = some (ty0 k)) (hnm : ∀ a, a < N → ∀ b, b < N → a ≠ b → (T a).2.1 ≠ (T b).2.1) (k : Nat) (hk : k < N) (hlink : Cond.fieldLink own index ref (T k).2.1 (T k).2.2.1 ∈ lw_all) (hsame : ref = (T k).1) (hfin : (T k).2.2.2 = true) (hin2 : meth.name = "<init>") (hdecl : (T k).1 = own) {v : Int32} (hn : narrow (ty0 k) (.int v) = .int v) (hfit : fits (ty0 k) (.int v) = true) (hl : k < (F (a.1 n)).length) (hset : ∀ i : Nat → Int32, (F i).set k (.int v) = F (upd i k v)) (hdg : decode cc pc = .ok (.putfield index, 3))
    (kk : ∀ (a1 : CS) (H1 : Heap) (locs1 : List Loc), a1 = wI a n k v → CW D dA ad fv A a1 s H1 locs1 → W p l e R s m args below meth c H1 locs1 cells slots Q (F0 m (pc + 3) ls rest)) : W p l e R s m args below meth c H locs cells slots Q (F0 m pc ls (.int v :: .ref (ad n) :: rest)) := by
  refine c_putF S hw (wI a n k v) hm (ho (a.1 n)) hc hin ty0 hty hnm k hk hlink hsame hfin hin2 hdecl hn hfit hl wI_off rfl hw.on ?_ hdg (fun H1 locs1 hw1 => kk _ H1 locs1 rfl hw1)
  show cCell dA ad fv n ((wI a n k v).1 n) _ _ _ = _
  rw [wI_row, hset]
  exact ho _
/-- a name is put into a final field of a thing made later -/
theorem c_putFR (S : CallFix p m c cc nL s args lw_all own) (hw : CW D dA ad fv A a s H locs) {ref C : String} {T : u_T} {N ci index n x : Nat} {F : (Nat → Nat) → List Value} (h1000 : 1000 ≤ n) (hm : cOk a n) (ho : ∀ r, cCell dA ad fv n (a.1 n) r (a.2.2.1 n) (a.2.2.2 n) = .inr (ci, F r)) (hc : vwCl[ci]? = some (C, T, N)) (hin : ∀ w ∈ u_ws C T N, w ∈ lw_all) (ty0 : Nat → FieldType) (hty : ∀ k, k < N → parseFieldDescriptor (T k).2.2.1 = some (ty0 k)) (hnm : ∀ a, a < N → ∀ b, b < N → a ≠ b → (T a).2.1 ≠ (T b).2.1) (k : Nat) (hk : k < N) (hlink : Cond.fieldLink own index ref (T k).2.1 (T k).2.2.1 ∈ lw_all) (hsame : ref = (T k).1) (hfin : (T k).2.2.2 = true) (hin2 : meth.name = "<init>") (hdecl : (T k).1 = own) (hx0 : x ≠ 0) (hn : narrow (ty0 k) (.ref (ad x)) = .ref (ad x)) (hfit : fits (ty0 k) (.ref (ad x)) = true) (hl : k < (F (a.2.1 n)).length) (hset : ∀ r : Nat → Nat, (F r).set k (rv ad x) = F (va_up r k x)) (hdg : decode cc pc = .ok (.putfield index, 3))
    (kk : ∀ (a1 : CS) (H1 : Heap) (locs1 : List Loc), a1 = wR a n k x → CW D dA ad fv A a1 s H1 locs1 → W p l e R s m args below meth c H1 locs1 cells slots Q (F0 m (pc + 3) ls rest)) : W p l e R s m args below meth c H locs cells slots Q (F0 m pc ls (.ref (ad x) :: .ref (ad n) :: rest)) := by
  refine c_putF S hw (wR a n k x) hm (ho (a.2.1 n)) hc hin ty0 hty hnm k hk hlink hsame hfin hin2 hdecl hn hfit hl wR_off rfl ?_ ?_ hdg (fun H1 locs1 hw1 => kk _ H1 locs1 rfl hw1)
  · have : (wR a n k x).2.1 0 = a.2.1 0 := up2_offA (by omega)
    rw [this]
    exact hw.on
  · refine (ho ((wR a n k x).2.1 n)).trans ?_
    rw [wR_row, ← hset, rv_n hx0]
theorem isF_T {n : Nat} (h : kindK a n 114) : ∀ r : Nat → Nat, cCell dA ad fv n (a.1 n) r (a.2.2.1 n) (a.2.2.2 n) = .inr (14, [.int (a.1 n 0), rv ad (r 1), .int (a.1 n 2)]) := fun r => by
  rw [cCell_d h.1]
  unfold dCell
  rw [h.2]
  rfl
theorem isF_W {n : Nat} (h : kindK a n 113) : ∀ r : Nat → Nat, cCell dA ad fv n (a.1 n) r (a.2.2.1 n) (a.2.2.2 n) = .inr (13, [rv ad (r 0), rv ad (r 1), .int (a.1 n 2)]) := fun r => by
  rw [cCell_d h.1]
  unfold dCell
  rw [h.2]
  rfl
theorem CW.nameI (hw : CW D dA ad fv A a s H locs) : s.vm.findClass "[I" = some (dA 0) := by
  obtain ⟨dyn, ⟨hP, -, -, -, hK⟩, hd, -, -, hN⟩ := hw
  exact (hK.2 0 (dA 0, .int) rfl).2
theorem c_newI (S : CallFix p m c cc nL s args lw_all own) (hw : CW D dA ad fv A a s H locs) (harr : Cond.arrayClass .int ∈ lw_all) {v : Int32} {N : Nat} (hv : ¬ v < 0) (hN : v.toNatClampNeg = N) (hmax : N ≤ 1000) (hcells : cells + 1 ≤ R.cells) (hslots : slots + N ≤ R.slots) (hdg : decode cc pc = .ok (.newarray .int, 2))
    (kk : ∀ (n : Nat) (a1 : CS) (H1 : Heap), 1000 ≤ n → (a.2.2.1 n).1 = 0 → a1 = wN a n (20, N) → CW D dA ad fv A a1 s H1 locs → W p l e R s m args below meth c H1 locs (cells + 1) (slots + N) Q (F0 m (pc + 2) ls (.ref (ad n) :: rest))) : W p l e R s m args below meth c H locs cells slots Q (F0 m pc ls (.int v :: rest)) := by
  obtain ⟨hx, hb, -, hown, hts⟩ := S
  have had : ∀ q, ad (q + 1000) = q := by obtain ⟨dyn, -, -, -, had, -⟩ := hw; exact had
  refine va_newaK (atype := .int) hx hb (hts _ harr) (g := F0 m pc ls (.int v :: rest)) rfl hdg rfl hv hN (by show _ * 4 ≤ _; omega) hcells hslots rfl fun H1 cA e1 z1 o1 hAr hNm => ?_
  have hcA : cA = dA 0 := Option.some.inj (hNm.symm.trans hw.nameI)
  subst hcA
  have hx1 : cC dA ad fv (wN a (H.size + 1000) (20, N)) (H.size + 1000) = .inl (dA 0, N, .inl (fun _ => 0)) := by
    show cCell dA ad fv (H.size + 1000) _ _ _ _ = _
    rw [cCell_d (by omega)]
    simp [wN, va_up, dCell]
  obtain ⟨h0, kG⟩ := hw.grow (q := H.size) (H1 := H1) (t := (20, N)) (Nat.le_refl _) (by show 20 ≠ 0; omega) hx1
  refine kG _ (fun dyn hP hD hS hA hK back => ?_)
  have hk : ∀ (k : Nat) (x : Nat × va_E), (fw (sL ++ dyn) ad (cC dA ad fv a))[k]? = some x → H1[x.1]? = H[x.1]? := fun k x hx => o1 x.1 ((hP k x hx).lt)
  have hw1 := back ((hP.kept hk).app (fun k x hx => by
      have hz : k < 1 := (List.getElem?_eq_some_iff.mp hx).1
      rw [show k = 0 by omega] at hx
      cases hx
      exact e1)) (hD.push hP rfl (hA _ hS.1)) ⟨Nat.le_trans hS.1 (by omega), fun x h1 h2 => (o1 x (Nat.lt_of_lt_of_le h1 hS.1)).trans (hS.2.1 x h1 h2), hS.2.2⟩
  have hres := kk (H.size + 1000) _ H1 (by omega) h0 rfl hw1
  rw [had] at hres
  exact hres
end CR6c

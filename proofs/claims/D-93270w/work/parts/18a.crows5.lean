/-! ROWS OF THE COMPONENT's WORLD: a row of texts is copied -/
/-- a whole row of references is laid anew -/
def wCr (a : CS) (g : Nat) (row : Nat → Nat) : CS := (a.1, va_up a.2.1 g row, a.2.2)
theorem wCr_off {a : CS} {n : Nat} {row : Nat → Nat} : ∀ g, g ≠ n → (wCr a n row).1 g = a.1 g ∧ (wCr a n row).2.1 g = a.2.1 g ∧ (wCr a n row).2.2.1 g = a.2.2.1 g ∧ (wCr a n row).2.2.2 g = a.2.2.2 g := fun g hg => ⟨rfl, by simp [wCr, va_up, hg], rfl, rfl⟩
/-- the texts of a row are texts, or nothing -/
def txRow (a : CS) (f : Nat) : Prop := ∀ j, j < 14 → a.2.1 f j = 0 ∨ kindK a (a.2.1 f j) 114
section CR6
variable {p : Program} {l : Launch} {e : Env} {R : Room} {s : State} {m : MethodId} {args : Array Value} {below : List Frame} {meth : Method} {c : Code} {H : Heap} {locs : List Loc} {cells slots : Nat} {Q : State → Prop}
variable {cc : ByteArray} {nL pc : Nat} {ls : Array Slot} {rest st0 : List Value} {D : va_G} {dA : Nat → ClassId} {ad : Nat → Nat} {fv : Nat → Value} {a : CS} {A : Nat → Prop} {own : String}
theorem c_copyt (S : CallFix p m c cc nL s args lw_all own) (hsz : ls.size = nL) (hw : CW D dA ad fv A a s H locs) {index f g : Nat} (hg0 : g ≠ 0) (hmf : cOk a f) (hmg : cOk a g) (hef : isR dA ad fv a f 6 14) (heg : isR dA ad fv a g 6 14) (hlink : (Cond.methodLink own index arraycopyName) ∈ lw_all) (hnat : (Cond.native arraycopyName) ∈ lw_all) (hstat : (Cond.static arraycopyName) ∈ lw_all) (hini : (Cond.initialized "java/lang/System") ∈ lw_all)
    (hrow : txRow a f) (hframes : 1 ≤ R.frames) (hlocals : (rest.map fun v => v.category).sum + (nativeFrameWords "java/lang/System" "arraycopy" 5 + 11) ≤ R.locals) (hdg : decode cc pc = .ok (.invokestatic index, 3))
    (kk : ∀ (a1 : CS) (H1 : Heap) (locs1 : List Loc), a1 = wCr a g (va_cpy (a.2.1 f) (a.2.1 g) 0 0 14) → CW D dA ad fv A a1 s H1 locs1 → W p l e R s m args below meth c H1 locs1 cells slots Q (F0 m (pc + 3) ls rest)) : W p l e R s m args below meth c H locs cells slots Q (F0 m pc ls (.int 14 :: .int 0 :: .ref (ad g) :: .int 0 :: .ref (ad f) :: rest)) := by
  have hany : ∀ j, j < 14 → ∀ y, rq ad (a.2.1 f j) = some y → va_Any "KeptLeaves$Text" s H y := by
    intro j hj y hy
    rcases hrow j hj with h | h
    · rw [h] at hy; simp [rq] at hy
    · have : rq ad (a.2.1 f j) = some (ad (a.2.1 f j)) := by simp [rq, h.ne]
      rw [this] at hy
      cases hy
      exact hw.any (h.ok (by decide)) (isO_T h _) rfl self_asg
  obtain ⟨hx, hb, hml, hown, hts⟩ := S
  obtain ⟨dyn, ⟨hP, hD, hS, hA, hK⟩, hd, hon, had, hN⟩ := hw
  obtain ⟨pf, hpf⟩ := List.getElem?_of_mem (hmf.mem hd)
  obtain ⟨pg, hpg⟩ := List.getElem?_of_mem (hmg.mem hd)
  have hf : (fw (sL ++ dyn) ad (cC dA ad fv a))[pf]? = some (ad f, .inl (dA 6, 14, rRow ad (a.2.1 f))) := by rw [fw_at hpf]; exact congrArg _ (congrArg _ (hef (a.2.1 f)))
  have hg : (fw (sL ++ dyn) ad (cC dA ad fv a))[pg]? = some (ad g, .inl (dA 6, 14, rRow ad (a.2.1 g))) := by rw [fw_at hpg]; exact congrArg _ (congrArg _ (heg (a.2.1 g)))
  refine va_copyM hx hb (hml.trans hsz.symm) hown (hts _ hlink) (hts _ hnat) (hts _ hstat) (hts _ hini) hK hP hD hS pf pg 6 6 hf hg rfl rfl (sp := 0) (dp := 0) (n := 14) (by decide) (by decide) (by decide) (by decide) (by decide) (fun i hi y hy => hany i hi y (by simpa using hy)) hframes hlocals hdg (fun H1 locs1 hP1 hD1 hS1 => ?_)
  have hrw : (va_cpy (fun j => rq ad (a.2.1 f j)) (fun j => rq ad (a.2.1 g j)) (0 : Int32).toNatClampNeg (0 : Int32).toNatClampNeg (14 : Int32).toNatClampNeg) = fun j => rq ad (va_cpy (a.2.1 f) (a.2.1 g) 0 0 14 j) := by
    funext j
    show va_cpy _ _ 0 0 14 j = _
    unfold va_cpy
    split <;> rfl
  have hnew : cC dA ad fv (wCr a g (va_cpy (a.2.1 f) (a.2.1 g) 0 0 14)) g = .inl (dA 6, 14, .inr (.inr (.inr (.inr (va_cpy (fun j => rq ad (a.2.1 f j)) (fun j => rq ad (a.2.1 g j)) (0 : Int32).toNatClampNeg (0 : Int32).toNatClampNeg (14 : Int32).toNatClampNeg))))) := by
    show cCell dA ad fv g _ (va_up a.2.1 g _ g) _ _ = _
    rw [hrw, show va_up a.2.1 g (va_cpy (a.2.1 f) (a.2.1 g) 0 0 14) g = va_cpy (a.2.1 f) (a.2.1 g) 0 0 14 by simp [va_up]]
    exact heg _
  rw [fw_set hD hpg, cC_up wCr_off hnew] at hP1 hD1
  refine kk _ H1 locs1 rfl ⟨dyn, ⟨hP1, hD1, hS1, hA, hK⟩, hd, ?_, had, hN⟩
  have : (wCr a g (va_cpy (a.2.1 f) (a.2.1 g) 0 0 14)).2.1 0 = a.2.1 0 := by simp [wCr, va_up, Ne.symm hg0]
  rw [this]
  exact hon
end CR6

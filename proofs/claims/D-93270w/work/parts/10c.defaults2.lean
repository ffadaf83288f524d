/-! DEFAULT METHODS by super: what invokespecial finds from a class that has none of its own -/
theorem nd_php : ∀ (N : Nat) (f : Nat → Nat), (∀ i, i ≤ N → f i < N) → ∃ i j, i < j ∧ j ≤ N ∧ f i = f j := by
  intro N
  induction N with
  | zero => intro f h; exact absurd (h 0 (Nat.le_refl _)) (by omega)
  | succ N ih =>
    intro f h
    by_cases hx : ∃ i, i ≤ N ∧ f i = f (N + 1)
    · obtain ⟨i, h1, h2⟩ := hx
      exact ⟨i, N + 1, by omega, Nat.le_refl _, h2⟩
    · have hne : ∀ i, i ≤ N → f i ≠ f (N + 1) := fun i hi e => hx ⟨i, hi, e⟩
      have hv := h (N + 1) (Nat.le_refl _)
      obtain ⟨i, j, h1, h2, h3⟩ := ih (fun i => if f i < f (N + 1) then f i else f i - 1) (fun i hi => by
        have a1 := hne i hi
        have a2 := h i (by omega)
        show (if f i < f (N + 1) then f i else f i - 1) < N
        split <;> omega)
      refine ⟨i, j, h1, by omega, ?_⟩
      have a1 := hne i (by omega)
      have a2 := hne j (by omega)
      have h3 : (if f i < f (N + 1) then f i else f i - 1) = (if f j < f (N + 1) then f j else f j - 1) := h3
      split at h3 <;> split at h3 <;> omega
def nd_it (vm : Vm) : Nat → ClassId → Option ClassId
  | 0, c => some c
  | n + 1, c => (vm.classes[c]?.bind (·.super)).bind (nd_it vm n)
theorem nd_it_add (vm : Vm) : ∀ (a b : Nat) (c : ClassId), nd_it vm (a + b) c = (nd_it vm a c).bind (nd_it vm b) := by
  intro a
  induction a with
  | zero => intro b c; simp [nd_it]
  | succ a ih =>
    intro b c
    rw [show a + 1 + b = (a + b) + 1 by omega]
    show (vm.classes[c]?.bind (·.super)).bind (nd_it vm (a + b)) = ((vm.classes[c]?.bind (·.super)).bind (nd_it vm a)).bind (nd_it vm b)
    cases vm.classes[c]?.bind (·.super) with
    | none => rfl
    | some q => simp [ih]
theorem nd_look (vm : Vm) (name desc : String) : ∀ (n : Nat) (c : ClassId), lookupInSuperclasses vm name desc (n + 1) c = none → ∀ k, k ≤ n → ∀ p, nd_it vm k c = some p → ownMethod vm name desc p = none := by
  intro n
  induction n with
  | zero =>
    intro c h k hk p hp
    have : k = 0 := by omega
    subst this
    cases hp
    unfold lookupInSuperclasses at h
    cases hc : vm.classes[c]? with
    | none => simp [ownMethod, hc]
    | some kc =>
      cases hf : kc.findMethod name desc with
      | none => simp [ownMethod, hc, hf]
      | some i => simp [hc, hf] at h
  | succ n ih =>
    intro c h k hk p hp
    unfold lookupInSuperclasses at h
    cases hc : vm.classes[c]? with
    | none =>
      cases k with
      | zero => cases hp; simp [ownMethod, hc]
      | succ k => simp [nd_it, hc] at hp
    | some kc =>
      cases hf : kc.findMethod name desc with
      | some i => simp [hc, hf] at h
      | none =>
        cases k with
        | zero => cases hp; simp [ownMethod, hc, hf]
        | succ k =>
          simp only [nd_it, hc, Option.bind_some] at hp
          cases hs : kc.super with
          | none => simp [hs] at hp
          | some q =>
            simp only [hs, Option.bind_some] at hp
            simp only [hc, hf, hs, Option.bind_eq_bind, Option.bind_some] at h
            exact ih q h k (by omega) p hp
theorem nd_mem (vm : Vm) : ∀ (n : Nat) (c p : ClassId), p ∈ vm.superclassesAux n c → ∃ k, nd_it vm k c = some p := by
  intro n
  induction n with
  | zero => intro c p h; simp [Vm.superclassesAux] at h
  | succ n ih =>
    intro c p h
    unfold Vm.superclassesAux at h
    cases hq : vm.classes[c]?.bind (·.super) with
    | none => simp [hq] at h
    | some q =>
      simp only [hq, List.mem_cons] at h
      rcases h with h | h
      · subst h
        exact ⟨1, by simp [nd_it, hq]⟩
      · obtain ⟨k, hk⟩ := ih q p h
        exact ⟨k + 1, by simp [nd_it, hq, hk]⟩
theorem nd_all (vm : Vm) (name desc : String) (c : ClassId) (h : lookupInSuperclasses vm name desc (vm.classes.size + 1) c = none) : ∀ k p, nd_it vm k c = some p → ownMethod vm name desc p = none := by
  intro k
  induction k using Nat.strongRecOn with
  | ind k ih =>
    intro p hp
    by_cases hk : k ≤ vm.classes.size
    · exact nd_look vm name desc _ c h k hk p hp
    · have hsome : ∀ i, i ≤ vm.classes.size → ∃ q, nd_it vm i c = some q ∧ q < vm.classes.size := by
        intro i hi
        have e : nd_it vm k c = (nd_it vm i c).bind (nd_it vm ((k - i - 1) + 1)) := by
          rw [← nd_it_add, show i + (k - i - 1 + 1) = k by omega]
        cases hq : nd_it vm i c with
        | none => rw [hq, hp] at e; simp at e
        | some q =>
          rw [hq, hp] at e
          simp only [Option.bind_some, nd_it] at e
          refine ⟨q, rfl, ?_⟩
          cases hc : vm.classes[q]? with
          | none => simp [hc] at e
          | some kc => exact (Array.getElem?_eq_some_iff.mp hc).1
      obtain ⟨i, j, h1, h2, h3⟩ := nd_php vm.classes.size (fun i => (nd_it vm i c).getD 0) (fun i hi => by
        obtain ⟨q, hq, hl⟩ := hsome i hi
        show (nd_it vm i c).getD 0 < _
        rw [hq]
        exact hl)
      obtain ⟨qi, hqi, -⟩ := hsome i (by omega)
      obtain ⟨qj, hqj, -⟩ := hsome j h2
      have h3 : (nd_it vm i c).getD 0 = (nd_it vm j c).getD 0 := h3
      rw [hqi, hqj] at h3
      have h3 : qi = qj := h3
      have e1 : nd_it vm k c = nd_it vm (k - j) qj := by
        rw [show k = j + (k - j) by omega, nd_it_add, hqj]
        simp
      have e2 : nd_it vm (i + (k - j)) c = some p := by
        rw [nd_it_add, hqi, h3]
        show nd_it vm (k - j) qj = some p
        rw [← e1]
        exact hp
      exact ih (i + (k - j)) (by omega) p e2
theorem nd_selIn (vm : Vm) (mR : MethodId) (name desc : String) : ∀ (n : Nat) (c : ClassId), (∀ k p, nd_it vm k c = some p → ownMethod vm name desc p = none) → selectInSuperclasses vm mR name desc n c = none := by
  intro n
  induction n with
  | zero => intro c _; rfl
  | succ n ih =>
    intro c h
    unfold selectInSuperclasses
    have h0 := h 0 c rfl
    cases hc : vm.classes[c]? with
    | none => simp
    | some kc =>
      have hf : kc.findMethod name desc = none := by
        cases hf : kc.findMethod name desc with
        | none => rfl
        | some i => simp [ownMethod, hc, hf] at h0
      simp only [Option.bind_eq_bind, Option.bind_some, hf, Option.bind_none]
      cases hs : kc.super with
      | none => simp
      | some q =>
        have := ih q (fun k p hp => h (k + 1) p (by simp [nd_it, hc, hs, hp]))
        simp [this]
theorem nd_special {vm : Vm} {c : ClassId} {k : Class} {name desc : String} {m : MethodId} {rm : Method} (hk : vm.classes[c]? = some k) (hni : k.isInterface = false) (hl : vm.lookupUp c name desc = some m) (hm : vm.method? m = some rm) (hst : rm.isStatic = false) (hn : rm.name = name) (hd : rm.desc = desc) (hp : rm.isPrivate = false) (hif : ∃ mk, vm.classes[m.cls]? = some mk ∧ mk.isInterface = true) (hsel : selectMethod {} vm c m = .method m) : lookupSpecial vm c name desc = .method m := by
  cases hq : lookupInSuperclasses vm name desc (vm.classes.size + 1) c with
  | some m' =>
    have : m' = m := by
      unfold Vm.lookupUp at hl
      rw [hq] at hl
      simpa using hl
    subst this
    exact lookupSpecial_of_superclasses hk hni hq hm hst
  | none =>
    have hall := nd_all vm name desc c hq
    have hsi := nd_selIn vm m name desc (vm.classes.size + 1) c hall
    have hown : (vm.classes[c]?.bind (·.findMethod name desc)).map (fun i => (⟨c, i⟩ : MethodId)) = none := hall 0 c rfl
    have habove : superclassMethods vm c name desc = [] := by
      unfold superclassMethods
      rw [List.filterMap_eq_nil_iff]
      intro p hp
      obtain ⟨j, hj⟩ := nd_mem vm _ c p hp
      exact hall j p hj
    obtain ⟨mk, hmk, hmi⟩ := hif
    have hfil : (maximallySpecific vm c name desc).filter (fun m => (vm.method? m).any (!·.isAbstract)) = [m] := by
      unfold selectMethod at hsel
      rw [hm] at hsel
      simp only [hp, hn, hd, Bool.false_eq_true, if_false, hmk, Option.any_some, hmi, Bool.not_true, Bool.and_false, hsi] at hsel
      split at hsel
      · cases hsel
      · split at hsel
        · rename_i m9 h9
          cases hsel
          exact h9
        · cases hsel
        · cases hsel
    unfold lookupSpecial
    simp only [hown, habove, Option.toList_none, List.filter_nil, List.append_nil, List.find?_nil, hfil]

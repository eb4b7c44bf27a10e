set_option maxRecDepth 100000
/-! super.m() where no superclass declares m: an interface's own method -/
theorem pigeon : ∀ (n : Nat) (g : Nat → Nat), (∀ k, k ≤ n → g k < n) → ∃ i j, i < j ∧ j ≤ n ∧ g i = g j
  | 0, g, h => absurd (h 0 (Nat.le_refl 0)) (Nat.not_lt_zero _)
  | n + 1, g, h => by
    by_cases hx : ∃ i, i ≤ n ∧ g i = g (n + 1)
    · obtain ⟨i, h1, h2⟩ := hx
      exact ⟨i, n + 1, by omega, Nat.le_refl _, h2⟩
    · have hv := h (n + 1) (Nat.le_refl _)
      have hne : ∀ i, i ≤ n → g i ≠ g (n + 1) := fun i hi he => hx ⟨i, hi, he⟩
      obtain ⟨i, j, h1, h2, h3⟩ := pigeon n (fun k => if g k = n then g (n + 1) else g k) (fun k hk => by
        have h4 := h k (by omega)
        have h5 := hne k hk
        by_cases h6 : g k = n
        · simp only [h6, if_true]; omega
        · simp only [h6, if_false]; omega)
      refine ⟨i, j, h1, by omega, ?_⟩
      have a1 := hne i (by omega)
      have a2 := hne j (by omega)
      by_cases e1 : g i = n <;> by_cases e2 : g j = n
      · rw [e1, e2]
      · simp only [e1, e2, if_true, if_false] at h3; exact absurd h3.symm a2
      · simp only [e1, e2, if_true, if_false] at h3; exact absurd h3 a1
      · simpa only [e1, e2, if_false] using h3
def itS (vm : Vm) : Nat → ClassId → Option ClassId
  | 0, c => some c
  | k + 1, c => match vm.classes[c]?.bind (·.super) with
    | some p => itS vm k p
    | none => none
theorem itS_add (vm : Vm) : ∀ (i t : Nat) (c : ClassId), itS vm (i + t) c = (itS vm i c).bind (itS vm t)
  | 0, t, c => by rw [Nat.zero_add]; rfl
  | i + 1, t, c => by
    rw [show i + 1 + t = (i + t) + 1 from by omega]
    unfold itS
    cases vm.classes[c]?.bind (·.super) with
    | none => rfl
    | some p => exact itS_add vm i t p
theorem itS_lt (vm : Vm) : ∀ (k : Nat) (c : ClassId), (itS vm (k + 1) c).isSome → ∃ q, itS vm k c = some q ∧ q < vm.classes.size
  | 0, c, h => by
    refine ⟨c, rfl, ?_⟩
    by_cases hc : c < vm.classes.size
    · exact hc
    · unfold itS at h
      have hn : vm.classes[c]? = none := Array.getElem?_eq_none (Nat.le_of_not_lt hc)
      rw [hn] at h
      simp at h
  | k + 1, c, h => by
    unfold itS at h
    cases hs : vm.classes[c]?.bind (·.super) with
    | none => rw [hs] at h; simp at h
    | some p =>
      rw [hs] at h
      obtain ⟨q, h1, h2⟩ := itS_lt vm k p h
      refine ⟨q, ?_, h2⟩
      unfold itS
      rw [hs]
      exact h1
theorem itS_mem (vm : Vm) : ∀ (n : Nat) (c q : ClassId), q ∈ vm.superclassesAux n c → ∃ k, 1 ≤ k ∧ k ≤ n ∧ itS vm k c = some q
  | 0, c, q, h => by simp [Vm.superclassesAux] at h
  | n + 1, c, q, h => by
    unfold Vm.superclassesAux at h
    cases hs : vm.classes[c]?.bind (·.super) with
    | none => rw [hs] at h; simp at h
    | some p =>
      rw [hs] at h
      rcases List.mem_cons.mp h with e | e
      · refine ⟨1, Nat.le_refl _, by omega, ?_⟩
        unfold itS
        rw [hs, e]
        rfl
      · obtain ⟨k, h1, h2, h3⟩ := itS_mem vm n p q e
        refine ⟨k + 1, by omega, by omega, ?_⟩
        unfold itS
        rw [hs]
        exact h3
theorem look_none (vm : Vm) (name desc : String) : ∀ (n : Nat) (c : ClassId), lookupInSuperclasses vm name desc n c = none → ∀ (k : Nat) (q : ClassId), k < n → itS vm k c = some q → (vm.classes[q]?.bind (·.findMethod name desc)) = none
  | 0, c, h, k, q, hk, hq => absurd hk (Nat.not_lt_zero _)
  | n + 1, c, h, k, q, hk, hq => by
    unfold lookupInSuperclasses at h
    cases hc : vm.classes[c]? with
    | none =>
      cases k with
      | zero => cases hq; rw [hc]; rfl
      | succ k => unfold itS at hq; rw [hc] at hq; simp at hq
    | some kc =>
      rw [hc] at h
      simp only [Option.bind_eq_bind, Option.bind_some] at h
      cases hf : kc.findMethod name desc with
      | some i => rw [hf] at h; simp at h
      | none =>
        rw [hf] at h
        cases k with
        | zero => cases hq; rw [hc]; simpa using hf
        | succ k =>
          unfold itS at hq
          rw [hc] at hq
          simp only [Option.bind_some] at hq
          cases hs : kc.super with
          | none => rw [hs] at hq; simp at hq
          | some p =>
            rw [hs] at hq h
            exact look_none vm name desc n p (by simpa using h) k q (by omega) hq
theorem chain_none {vm : Vm} {name desc : String} {c : ClassId} (h : lookupInSuperclasses vm name desc (vm.classes.size + 1) c = none) : ∀ q ∈ vm.superclasses c, (vm.classes[q]?.bind (·.findMethod name desc)) = none := by
  intro q hq
  obtain ⟨k, h1, h2, h3⟩ := itS_mem vm _ c q hq
  by_cases hk : k < vm.classes.size + 1
  · exact look_none vm name desc _ c h k q hk h3
  · have hk : k = vm.classes.size + 1 := by omega
    subst hk
    have hval : ∀ i, i ≤ vm.classes.size → ∃ z, itS vm i c = some z ∧ z < vm.classes.size := by
      intro i hi
      have e : itS vm (i + 1 + (vm.classes.size - i)) c = some q := by rw [show i + 1 + (vm.classes.size - i) = vm.classes.size + 1 from by omega]; exact h3
      rw [itS_add] at e
      refine itS_lt vm i c ?_
      cases hz : itS vm (i + 1) c with
      | none => rw [hz] at e; cases e
      | some z => rfl
    obtain ⟨i, j, hij, hj, he⟩ := pigeon vm.classes.size (fun k => (itS vm k c).getD vm.classes.size) (fun k hk => by
      obtain ⟨z, hz, hl⟩ := hval k hk
      simp only [hz, Option.getD_some]; exact hl)
    obtain ⟨zi, hzi, -⟩ := hval i (by omega)
    obtain ⟨zj, hzj, -⟩ := hval j hj
    simp only [hzi, hzj, Option.getD_some] at he
    subst he
    have e1 : itS vm (j + (vm.classes.size + 1 - j)) c = some q := by rw [show j + (vm.classes.size + 1 - j) = vm.classes.size + 1 from by omega]; exact h3
    rw [itS_add, hzj] at e1
    have e2 : itS vm (i + (vm.classes.size + 1 - j)) c = some q := by rw [itS_add, hzi]; exact e1
    exact look_none vm name desc _ c h _ q (by omega) e2
theorem sel_none (vm : Vm) (mR : MethodId) (name desc : String) : ∀ (n : Nat) (c : ClassId), lookupInSuperclasses vm name desc n c = none → selectInSuperclasses vm mR name desc n c = none
  | 0, c, _ => rfl
  | n + 1, c, h => by
    unfold lookupInSuperclasses at h
    unfold selectInSuperclasses
    cases hc : vm.classes[c]? with
    | none => rfl
    | some kc =>
      rw [hc] at h
      simp only [Option.bind_eq_bind, Option.bind_some] at h ⊢
      cases hf : kc.findMethod name desc with
      | some i => rw [hf] at h; simp at h
      | none =>
        rw [hf] at h
        cases hs : kc.super with
        | none => simp
        | some p =>
          rw [hs] at h
          simpa using sel_none vm mR name desc n p (by simpa using h)
/-- what invokespecial finds above the class c -/
theorem d_look {vm : Vm} {c : ClassId} {kc : Class} {r0 : MethodId} {r : Method} {mk : Class} (hk : vm.classes[c]? = some kc) (hni : kc.isInterface = false) (hup : vm.lookupUp c r.name r.desc = some r0) (hrm : vm.method? r0 = some r) (hst : r.isStatic = false) (hpr : r.isPrivate = false)
    (hmk : vm.classes[r0.cls]? = some mk) (hi : mk.isInterface = true) (hsel : selectMethod {} vm c r0 = .method r0) : lookupSpecial vm c r.name r.desc = .method r0 := by
  cases hl : lookupInSuperclasses vm r.name r.desc (vm.classes.size + 1) c with
  | some z => exact lookupSpecial_of_lookupUp hk hni hup (by rw [hl]; rfl) hrm hst
  | none =>
    have hown : vm.classes[c]?.bind (·.findMethod r.name r.desc) = none := look_none vm _ _ _ c hl 0 c (by omega) rfl
    have habove : superclassMethods vm c r.name r.desc = [] := by
      unfold superclassMethods
      rw [List.filterMap_eq_nil_iff]
      intro q hq
      rw [chain_none hl q hq]
      rfl
    have hsn := sel_none vm r0 r.name r.desc _ c hl
    unfold selectMethod at hsel
    simp only [hrm, hpr, hsn, hmk, Option.any_some, hi, Bool.not_true, Bool.and_false, Bool.false_eq_true, if_false] at hsel
    unfold lookupSpecial
    simp only [hown, habove, Option.map_none, Option.toList_none, List.filter_nil, List.append_nil, List.find?_nil]
    split at hsel
    · cases hsel
    · exact hsel

set_option maxRecDepth 100000
/-! ===== a default method: where a call of it lands ===== -/
theorem d_pigeon : ∀ (n : Nat) (f : Nat → Nat), (∀ i, i ≤ n → f i < n) → ∃ i j, i < j ∧ j ≤ n ∧ f i = f j := by
  intro n
  induction n with
  | zero => intro f h; exact absurd (h 0 (Nat.le_refl _)) (Nat.not_lt_zero _)
  | succ n ih =>
    intro f h
    by_cases he : ∃ i, i ≤ n ∧ f i = f (n + 1)
    · obtain ⟨i, h1, h2⟩ := he
      exact ⟨i, n + 1, by omega, Nat.le_refl _, h2⟩
    · have hne : ∀ i, i ≤ n → f i ≠ f (n + 1) := fun i hi e => he ⟨i, hi, e⟩
      obtain ⟨i, j, h1, h2, h3⟩ := ih (fun i => if f i = n then f (n + 1) else f i) (by
        intro i hi
        have a1 := h i (by omega)
        have a2 := h (n + 1) (Nat.le_refl _)
        have a3 := hne i hi
        show (if f i = n then f (n + 1) else f i) < n
        by_cases hn : f i = n
        · rw [if_pos hn]; omega
        · rw [if_neg hn]; omega)
      refine ⟨i, j, h1, by omega, ?_⟩
      have a3 := hne i (by omega)
      have a4 := hne j h2
      have h3 : (if f i = n then f (n + 1) else f i) = (if f j = n then f (n + 1) else f j) := h3
      by_cases hi : f i = n
      · by_cases hj : f j = n
        · omega
        · rw [if_pos hi, if_neg hj] at h3
          exact absurd h3.symm a4
      · by_cases hj : f j = n
        · rw [if_neg hi, if_pos hj] at h3
          exact absurd h3 a3
        · rw [if_neg hi, if_neg hj] at h3
          exact h3
/-- the class k steps up -/
def dUp (vm : Vm) (c : ClassId) : Nat → Option ClassId
  | 0 => some c
  | k + 1 => (dUp vm c k).bind fun q => (vm.classes[q]?).bind (·.super)
def dOwn (vm : Vm) (n d : String) (q : ClassId) : Option MethodId := (vm.classes[q]?.bind (·.findMethod n d)).map fun i => (⟨q, i⟩ : MethodId)
theorem dUp_add (vm : Vm) (c q : ClassId) : ∀ (i : Nat), dUp vm c i = some q → ∀ k, dUp vm c (i + k) = dUp vm q k := by
  intro i hi k
  induction k with
  | zero => exact hi
  | succ k ih => show (dUp vm c (i + k)).bind _ = (dUp vm q k).bind _; rw [ih]
theorem dUp_one (vm : Vm) (c q : ClassId) (k : Class) (hk : vm.classes[c]? = some k) (hs : k.super = some q) (j : Nat) : dUp vm c (j + 1) = dUp vm q j := by
  rw [Nat.add_comm]
  exact dUp_add vm c q 1 (by show ((vm.classes[c]?).bind (·.super)) = some q; rw [hk]; exact hs) j
theorem d_lookNone (vm : Vm) (n d : String) : ∀ (fuel : Nat) (c : ClassId), lookupInSuperclasses vm n d fuel c = none → ∀ j, j < fuel → ∀ q, dUp vm c j = some q → dOwn vm n d q = none := by
  intro fuel
  induction fuel with
  | zero => intro c _ j hj; exact absurd hj (Nat.not_lt_zero _)
  | succ f ih =>
    intro c hh j hj q hq
    unfold lookupInSuperclasses at hh
    cases hk : vm.classes[c]? with
    | none =>
      cases j with
      | zero => cases hq; simp [dOwn, hk]
      | succ j =>
        have : dUp vm c 1 = none := by show ((vm.classes[c]?).bind (·.super)) = none; rw [hk]; rfl
        have h2 : ∀ k, dUp vm c (1 + k) = none := by
          intro k
          induction k with
          | zero => exact this
          | succ k ih2 => show (dUp vm c (1 + k)).bind _ = none; rw [ih2]; rfl
        rw [Nat.add_comm, h2] at hq
        cases hq
    | some k =>
      simp only [hk, Option.bind_eq_bind, Option.bind_some] at hh
      cases hf : k.findMethod n d with
      | some i => simp [hf] at hh
      | none =>
        simp only [hf] at hh
        cases j with
        | zero => cases hq; simp [dOwn, hk, hf]
        | succ j =>
          cases hs : k.super with
          | none =>
            have : dUp vm c 1 = none := by show ((vm.classes[c]?).bind (·.super)) = none; rw [hk]; exact hs
            have h2 : ∀ k, dUp vm c (1 + k) = none := by
              intro k
              induction k with
              | zero => exact this
              | succ k ih2 => show (dUp vm c (1 + k)).bind _ = none; rw [ih2]; rfl
            rw [Nat.add_comm, h2] at hq
            cases hq
          | some s =>
            simp only [hs, Option.bind_some] at hh
            rw [dUp_one vm c s k hk hs] at hq
            exact ih s hh j (by omega) q hq
theorem d_selNone (vm : Vm) (n d : String) (mR : MethodId) : ∀ (fuel : Nat) (c : ClassId), lookupInSuperclasses vm n d fuel c = none → selectInSuperclasses vm mR n d fuel c = none := by
  intro fuel
  induction fuel with
  | zero => intro c _; rfl
  | succ f ih =>
    intro c hh
    unfold lookupInSuperclasses at hh
    unfold selectInSuperclasses
    cases hk : vm.classes[c]? with
    | none => simp
    | some k =>
      simp only [hk, Option.bind_eq_bind, Option.bind_some] at hh ⊢
      cases hf : k.findMethod n d with
      | some i => simp [hf] at hh
      | none =>
        simp only [hf] at hh
        cases hs : k.super with
        | none => simp
        | some s =>
          simp only [hs, Option.bind_some] at hh
          simp [ih s hh]
theorem d_aux (vm : Vm) : ∀ (fuel : Nat) (c q : ClassId), q ∈ vm.superclassesAux fuel c → ∃ j, j < fuel ∧ dUp vm c (j + 1) = some q := by
  intro fuel
  induction fuel with
  | zero => intro c q h; simp [Vm.superclassesAux] at h
  | succ f ih =>
    intro c q h
    unfold Vm.superclassesAux at h
    cases hs : vm.classes[c]?.bind (·.super) with
    | none => rw [hs] at h; simp at h
    | some s =>
      rw [hs] at h
      rcases List.mem_cons.mp h with rfl | h
      · exact ⟨0, by omega, hs⟩
      · obtain ⟨j, hj, hq⟩ := ih s q h
        refine ⟨j + 1, by omega, ?_⟩
        have := dUp_add vm c s 1 hs (j + 1)
        rw [Nat.add_comm] at this
        rw [this]
        exact hq
/-- up to any height the chain holds no other classes than the first ones -/
theorem d_cover (vm : Vm) (c : ClassId) : ∀ (j : Nat) (q : ClassId), dUp vm c j = some q → ∃ i, i ≤ vm.classes.size ∧ dUp vm c i = some q := by
  have lower : ∀ (j : Nat) (q : ClassId), dUp vm c j = some q → ∀ i, i < j → ∃ r, dUp vm c i = some r ∧ r < vm.classes.size := by
    intro j
    induction j with
    | zero => intro q _ i hi; exact absurd hi (Nat.not_lt_zero _)
    | succ j ih =>
      intro q hq i hi
      have hq' : (dUp vm c j).bind (fun q => (vm.classes[q]?).bind (·.super)) = some q := hq
      cases hr : dUp vm c j with
      | none => rw [hr] at hq'; cases hq'
      | some r =>
        rw [hr] at hq'
        have hq' : (vm.classes[r]?).bind (·.super) = some q := hq'
        by_cases hij : i = j
        · subst hij
          refine ⟨r, hr, ?_⟩
          cases hk : vm.classes[r]? with
          | none => rw [hk] at hq'; cases hq'
          | some k => exact (Array.getElem?_eq_some_iff.mp hk).1
        · exact ih r hr i (by omega)
  intro j
  induction j using Nat.strongRecOn with
  | _ j ih =>
    intro q hq
    by_cases hj : j ≤ vm.classes.size
    · exact ⟨j, hj, hq⟩
    · obtain ⟨a, b, hab, hb, he⟩ := d_pigeon vm.classes.size (fun i => (dUp vm c i).getD 0) (fun i hi => by
        obtain ⟨r, h1, h2⟩ := lower j q hq i (by omega)
        show (dUp vm c i).getD 0 < _
        rw [h1]; exact h2)
      obtain ⟨ra, ha1, -⟩ := lower j q hq a (by omega)
      obtain ⟨rb, hb1, -⟩ := lower j q hq b (by omega)
      have he : (dUp vm c a).getD 0 = (dUp vm c b).getD 0 := he
      rw [ha1, hb1] at he
      have he : ra = rb := he
      subst he
      have e1 : dUp vm c (b + (j - b)) = dUp vm ra (j - b) := dUp_add vm c ra b hb1 (j - b)
      have e2 : dUp vm c (a + (j - b)) = dUp vm ra (j - b) := dUp_add vm c ra a ha1 (j - b)
      rw [show b + (j - b) = j by omega, hq] at e1
      exact ih (a + (j - b)) (by omega) q (e2.trans e1.symm)
/-- where no class of the chain declares it, and the one default is r: super's call lands there -/
theorem d_special {vm : Vm} {c : ClassId} {n d : String} {r : MethodId} (hn : lookupInSuperclasses vm n d (vm.classes.size + 1) c = none) (hf : (maximallySpecific vm c n d).filter (fun m => (vm.method? m).any (!·.isAbstract)) = [r]) : lookupSpecial vm c n d = .method r := by
  have hno : ∀ j q, dUp vm c j = some q → dOwn vm n d q = none := by
    intro j q hq
    obtain ⟨i, hi, hq'⟩ := d_cover vm c j q hq
    exact d_lookNone vm n d _ c hn i (by omega) q hq'
  have h1 : (vm.classes[c]?.bind (·.findMethod n d)).map (fun i => (⟨c, i⟩ : MethodId)) = none := hno 0 c rfl
  have h2 : superclassMethods vm c n d = [] := by
    unfold superclassMethods
    rw [List.filterMap_eq_nil_iff]
    intro q hq
    obtain ⟨j, -, hj⟩ := d_aux vm _ c q hq
    exact hno _ q hj
  unfold lookupSpecial
  simp only [h1, h2, hf]
  simp
/-- what the nearest class holds in its table is that very default, or nothing -/
def dNear (vm : Vm) (c : ClassId) (n d : String) (m : MethodId) : Prop := (∀ k x, nearestHeld vm c n d = some (k, .default x) → x = m) ∧ ∀ k b, nearestHeld vm c n d ≠ some (k, .thrower b)
theorem d_anyB (vm : Vm) (f : Class → Bool) (hf : ∀ k : Class, f k.bare = f k) (c : ClassId) : (vm.bare.classes[c]?).any f = (vm.classes[c]?).any f := by
  rw [Vm.classes_bare]
  cases vm.classes[c]? with
  | none => rfl
  | some k => exact hf k
theorem d_declB (vm : Vm) (n d : String) (k : ClassId) : declaredIn vm.bare n d k = declaredIn vm n d k := by
  unfold declaredIn
  rw [Vm.classes_bare, Vm.method?_bare]
  cases vm.classes[k]? <;> rfl
theorem d_nearB (vm : Vm) (c : ClassId) (n d : String) : nearestHeld vm.bare c n d = nearestHeld vm c n d := by
  have e4 : ∀ k : ClassId, ((vm.bare.classes[k]?).any fun x => x.methods.any fun m => !m.isAbstract && !m.isStatic) = (vm.classes[k]?).any fun x => x.methods.any fun m => !m.isAbstract && !m.isStatic := d_anyB vm _ fun _ => rfl
  have e5 : ∀ (g : ClassId → Bool) (k : ClassId), (vm.bare.classes[k]?).any (·.interfaces.any g) = (vm.classes[k]?).any (·.interfaces.any g) := fun g => d_anyB vm _ fun _ => rfl
  simp only [nearestHeld, held, Vm.superclasses_bare, d_declB, Vm.superinterfaces_bare, Vm.method?_bare, superinterfaceMethods_bare, maximallySpecific_bare, Vm.isInterfaceAt_bare, e4, e5]
theorem dNear.alike {vm vm' : Vm} {c : ClassId} {n d : String} {m : MethodId} (h : dNear vm c n d m) (ha : vm.Alike vm') : dNear vm' c n d m := by
  unfold dNear
  rw [← d_nearB vm', ha.bare_eq, d_nearB vm]
  exact h
def dPN : MethodName := ⟨"LeaningStreet$Pushes", "pushes", "(I)I"⟩
def dHN : MethodName := ⟨RX6, "pushes", "(I)I"⟩
theorem d_foundI {s : State} {cls name desc : String} {c : ClassId} {k : Class} {i : Nat} (hc : s.vm.findClass cls = some c) (hk : s.vm.classes[c]? = some k) (hi : k.isInterface = true) (hpoly : ∀ y, signaturePolymorphic k y = false) (hm : k.findMethod name desc = some i) : s.methodFound? cls name desc = some ⟨c, i⟩ := by
  simp only [State.methodFound?, hc, hk, Option.bind_eq_bind, Option.bind_some]
  have hany : ∀ j : Nat, Option.any (signaturePolymorphic k) k.methods[j]? = false := fun j => by cases k.methods[j]? <;> simp [hpoly]
  simp only [methodIn, VmM.ask, VmM.bind_run, getClass, VmM.getVm, hk, VmM.pure_run]
  generalize (List.filter (fun (i : Nat) => Option.any (fun (x_1 : Method) => x_1.name == name) k.methods[i]?) (List.range k.methods.size)) = L
  rcases L with _ | ⟨j, _ | ⟨j', L⟩⟩ <;>
  · simp [VmM.bind_run, VmM.getVm, VmM.getEnv, VmM.mark, hany, hi, hm, hk, Except.toOption]
/-- House's pushes is Pushes' own -/
def dfl (U : State) : Prop := ∃ (cH : ClassId) (kH kP : Class) (r0 : MethodId) (rm : Method), U.vm.findClass RX6 = some cH ∧ U.vm.classes[cH]? = some kH ∧ kH.isInterface = false ∧ U.methodNamed? dPN = some r0 ∧ U.vm.method? r0 = some rm ∧ U.vm.classes[r0.cls]? = some kP ∧ kP.isInterface = true ∧ selectMethod {} U.vm cH r0 = .method r0 ∧ lookupSpecial U.vm cH "pushes" "(I)I" = .method r0 ∧ dNear U.vm cH "pushes" "(I)I" r0
theorem dfl.warm {u U : State} (ha : u.vm.Alike U.vm) (h : dfl u) : dfl U := by
  obtain ⟨cH, kH, kP, r0, rm, h1, h2, h3, h4, h5, h6, h7, h8, h9, h10⟩ := h
  obtain ⟨kH', g1, e1⟩ := ha.2.2 _ _ h2
  obtain ⟨kP', g2, e2⟩ := ha.2.2 _ _ h6
  refine ⟨cH, kH', kP', r0, rm, by rw [ha.findClass]; exact h1, g1, by rw [e1]; exact h3, ?_, by rw [ha.method?]; exact h5, g2, by rw [e2]; exact h7, by rw [ha.selectMethod]; exact h8, by rw [ha.lookupSpecial]; exact h9, h10.alike ha⟩
  have := State.methodNamed?_setVm (s := u) ha dPN
  rw [h4] at this
  exact this
theorem dfl.start {args : Array Value} {s : State} (h : (Cond.landsInDefault RX6 dHN dPN).before args s = true) (hsame : (Cond.sameMethod RX6 "LeaningStreet$Pushes" "pushes" "(I)I").before args s = true) (hinst : (Cond.instanceMethod dPN).before args s = true) : dfl s := by
  obtain ⟨cn, ck, r1, hcn, hck, hni, hf, hn1⟩ := Cond.sameMethod_found hsame
  have hn1 : s.methodNamed? dPN = some r1 := hn1
  have hf' : s.methodFound? dHN.cls dHN.name dHN.desc = some r1 := hf
  cases hrm : s.vm.method? r1 with
  | none => simp [Cond.before, Cond.holds, Cond.value, hcn, hf', hn1, hrm] at h
  | some rm =>
    obtain ⟨e1, e2⟩ := name_of_methodNamed hn1 hrm
    have e1 : rm.name = "pushes" := e1
    have e2 : rm.desc = "(I)I" := e2
    simp only [Cond.before, Cond.holds, Cond.value, hcn, hf', hn1, hrm, Option.map_some] at h
    cases hsel : selectMethod {} s.vm cn r1 with
    | none => simp [hsel] at h
    | several => simp [hsel] at h
    | refused => simp [hsel] at h
    | method m' =>
      simp only [hsel, e1, e2] at h
      simp only [beq_iff_eq, Option.some.injEq, Bool.and_eq_true, decide_eq_true_eq, Bool.not_eq_true'] at h
      obtain ⟨⟨⟨⟨rfl, hitf⟩, hpr⟩, hdc⟩, hnear⟩ := h
      obtain ⟨kP, hkP, hiP⟩ : ∃ kP, s.vm.classes[m'.cls]? = some kP ∧ kP.isInterface = true := by
        cases hk : s.vm.classes[m'.cls]? with
        | none => simp [hk] at hitf
        | some k => exact ⟨k, rfl, by simpa [hk] using hitf⟩
      have hN : dNear s.vm cn "pushes" "(I)I" m' := by
        refine ⟨fun k x e => ?_, fun k b e => ?_⟩
        · simpa [e] using hnear
        · simp [e] at hnear
      have hpoly : ∀ y, signaturePolymorphic ck y = false := by
        intro y
        obtain ⟨kN, hkN, hnm⟩ := Vm.findClass_spec hcn
        cases hck.symm.trans hkN
        simp [signaturePolymorphic, hnm, RX6]
      have hup := ((State.methodFound?_class hcn hck hni hpoly m').mp hf).1
      have hstat : rm.isStatic = false := by
        obtain ⟨z0, zr, z1, z2, z3, -⟩ := Cond.instanceMethod_spec hinst
        cases hn1.symm.trans z1
        cases hrm.symm.trans z2
        exact z3
      have hL : lookupSpecial s.vm cn "pushes" "(I)I" = .method m' := by
        cases hl : lookupInSuperclasses s.vm "pushes" "(I)I" (s.vm.classes.size + 1) cn with
        | some z => exact lookupSpecial_of_lookupUp hck hni hup (by rw [hl]; rfl) hrm hstat
        | none =>
          have hs0 := d_selNone s.vm "pushes" "(I)I" m' _ cn hl
          refine d_special hl ?_
          unfold selectMethod at hsel
          simp only [hrm, e1, e2, hs0, hpr, hitf, Bool.not_true, Bool.and_false, Bool.false_eq_true, if_false] at hsel
          split at hsel
          · cases hsel
          · generalize (maximallySpecific s.vm cn "pushes" "(I)I").filter (fun m => (s.vm.method? m).any (!·.isAbstract)) = F at hsel ⊢
            rcases F with _ | ⟨a, _ | ⟨b, F⟩⟩
            · cases hsel
            · cases hsel; rfl
            · cases hsel
      exact ⟨cn, ck, kP, m', rm, hcn, hck, hni, hn1, hrm, hkP, hiP, hsel, hL, hN⟩

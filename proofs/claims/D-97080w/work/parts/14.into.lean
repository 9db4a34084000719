set_option maxRecDepth 100000
/-! ===== an invoking instruction, up to the callee's door ===== -/
def xInto (p : Program) (l : Launch) (e : Env) (R : Room) (s : State) (m : MethodId) (args : Array Value) (below : List Frame) (meth : Method) (c : Code) (H : Heap) (locs : List Loc) (cells slots : Nat) (g : JFrame) (rest : List Value) (y : MethodName) (a : Array Value) : Prop :=
  ∃ mk : MethodId, s.methodNamed? y = some mk ∧ ∀ T : State, T.heap = H → Stand p l e R s m args below meth c T locs cells slots → ∃ vm₁ : Vm, Stand p l e R s m args below meth c (T.setVm vm₁) locs cells slots ∧
    ∀ target, Steps p.tables e below (doInvoke e ((T.setVm vm₁).setTop { g with stack := rest }) [] mk a).1 target → Steps p.tables e below (T.setTop g) target
section XI
variable {p : Program} {l : Launch} {e : Env} {R : Room} {s : State} {m : MethodId} {args : Array Value} {below : List Frame} {meth : Method} {c : Code} {H : Heap} {locs : List Loc} {cells slots : Nat}
/-- a callee that returns, by its contract -/
theorem d_run {y : MethodName} {cc : ByteArray} {mc ms nL : Nat} {ws : List Cond} {rm : Room} {Pc : Array Value → State → Prop} {Qc : Array Value → State → Outcome → State → Prop} {free : Addr → Prop} {g : JFrame} {rest : List Value} {a : Array Value} {ig : Instr} {bytes : ByteArray} {maxL : Nat} {ret : Option FieldType}
    (hI : xInto p l e R s m args below meth c H locs cells slots g rest y a) (hM : Met l y ws rm Pc Qc mc ms free) (hbl : FrameBlind Pc) (hrc : rm.cells = mc) (hrs : rm.slots = ms) (hfr : rm.frames + 1 ≤ R.frames) (hlo : 8 + (maxL + 11) + rm.locals ≤ R.locals)
    (hws : ∀ w ∈ ws, ∀ (a' : Array Value) (U : State), s.WarmedH U.vm → w.before a' U = true) (hcw : Cond.code y bytes maxL ret ∈ ws) (hini : (Cond.initialized y.cls).before args s = true) (hb : c.code = cc) (hml : c.maxLocals = nL)
    (hPc : ∀ U : State, U.heap = H → s.WarmedH U.vm → Pc a U) (hg : g.method = m) (hsize : g.locals.size = nL) (hW : 2 * g.monitorRoom + (rest.map fun v => v.category).sum ≤ 8) (hdg : decode cc g.pc = .ok (ig, 3)) (hf : cells + mc ≤ R.cells ∧ slots + ms ≤ R.slots) :
    va_Run p l e R s m args below meth c H locs cells slots mc ms g rest (Qc a) free := by
  have hK : Back l R p e below s args y 3 8 (PreOf R mc ms Pc) (PostOf Qc mc ms free) := back_of (bytes := bytes) (maxL := maxL) (ret := ret) hM hbl hrc hrs hfr hlo hws hcw (fun a' U hW => word_at hW (Or.inl (by first | rfl | simp [Cond.onTables, Cond.keeps, Cond.steady])) hini)
  obtain ⟨mk, hnamed, hst⟩ := hI
  intro T hT X
  obtain ⟨vm₁, X₁, hs⟩ := hst T hT X
  obtain ⟨v, ⟨U', l2, c2, s2⟩, X', ⟨g', mk', t, L, e1, e2, hq, h1, hL, h2, h3⟩, hsteps⟩ := hK m meth c ⟨T.setVm vm₁, locs, cells, slots⟩ { g with stack := rest } ig mk a X₁ hg (hsize.trans hml.symm) (by rw [hb]; exact hdg) hW (X₁.named hnamed) ⟨hf.1, hf.2, hPc (T.setVm vm₁) hT X₁.warmed⟩
  dsimp only [Pt.U, Pt.locs, Pt.cells, Pt.slots] at X' e1 e2 h1 h2 h3 hsteps
  subst h1; subst h2; subst h3
  exact ⟨v, (T.setVm vm₁).calling g' mk' a, t, U', L, hT, X', hL, e1, e2, hq, fun target h => hs target (hsteps.trans h)⟩
theorem i_V {cc : ByteArray} {own C : String} {index : Nat} {y : MethodName} {bytes : ByteArray} {maxL : Nat} {ret : Option FieldType} {b : Addr} {As rest : List Value} {g : JFrame} (hexec : p.tables.exec = Jvm.exec) (hb : c.code = cc) (hown : s.vm.findClass own = some m.cls) (hlink : (Cond.methodLink own index y).before args s = true) (hinst : (Cond.instanceMethod y).before args s = true) (hsel : (Cond.selects C y y).before args s = true) (hcode : (Cond.code y bytes maxL ret).before args s = true) (hy : y.cls ≠ "java/lang/invoke/MethodHandle" ∧ y.cls ≠ "java/lang/invoke/VarHandle")
    (hcell : ∃ cell : Cell, H[b]? = some cell ∧ cell.vm.isStatics = false ∧ s.vm.findClass C = some cell.cls) (hg : g.method = m) (hlen : ∀ sig, parseMethodDescriptor y.desc = some sig → As.length = sig.parameters.length) (hstack : g.stack = As.reverse ++ .ref b :: rest) (hdg : decode cc g.pc = .ok (.invokevirtual index, 3)) :
    xInto p l e R s m args below meth c H locs cells slots g rest y (Value.ref b :: As).toArray := by
  obtain ⟨cellB, hcB, hobj, hclB⟩ := hcell
  obtain ⟨mk, methM, hnamed, hmethM, hstM, habM⟩ := Cond.instanceMethod_spec hinst
  obtain ⟨c2, r2, m2, q1, q2, q3, q4, kP, hkP, hkPi⟩ := Cond.selects_spec hsel
  cases hclB.symm.trans q1
  cases (State.methodFound?_of_named hnamed hy).symm.trans q2
  cases hnamed.symm.trans q3
  obtain ⟨meth', c0, hrm', -, -, -, -, -, -, hsig⟩ := Cond.code_spec hnamed hcode
  cases hmethM.symm.trans hrm'
  refine ⟨mk, hnamed, fun T hT X => ?_⟩
  have hselP : selectMethod e.platform s.vm cellB.cls mk = .method mk := by rw [Launch.admits_selectMethod X.admits]; exact q4
  obtain ⟨vm₁, X₁, hstep₁⟩ := X.invokevirtual hexec hown hlink hnamed hmethM hstM hkP hkPi hy (a := b) (cell := cellB) (by rw [hT]; exact hcB)
    (fun z h => by rw [h] at hobj; cases hobj) hselP hmethM habM hkP hkPi (g := g) hg (argsL := As) (rest := rest) (hlen _ hsig) hstack (by rw [hb]; exact hdg)
  exact ⟨vm₁, X₁, fun target h => hstep₁ _ fun acts => by rw [doInvoke_state]; exact h⟩
theorem i_S {cc : ByteArray} {own : String} {index : Nat} {y : MethodName} {bytes : ByteArray} {maxL : Nat} {ret : Option FieldType} {As rest : List Value} {g : JFrame} (hexec : p.tables.exec = Jvm.exec) (hb : c.code = cc) (hown : s.vm.findClass own = some m.cls) (hlink : (Cond.methodLink own index y).before args s = true) (hstat : (Cond.static y).before args s = true) (hinit : (Cond.initialized y.cls).before args s = true) (hcode : (Cond.code y bytes maxL ret).before args s = true) (hy : y.cls ≠ "java/lang/invoke/MethodHandle" ∧ y.cls ≠ "java/lang/invoke/VarHandle")
    (hg : g.method = m) (hlen : ∀ sig, parseMethodDescriptor y.desc = some sig → As.length = sig.parameters.length) (hstack : g.stack = As.reverse ++ rest) (hdg : decode cc g.pc = .ok (.invokestatic index, 3)) :
    xInto p l e R s m args below meth c H locs cells slots g rest y As.toArray := by
  obtain ⟨mk, hnamed⟩ := Cond.code_named hcode
  obtain ⟨methM, c0, hmethM, -, -, -, -, -, -, hsig⟩ := Cond.code_spec hnamed hcode
  have hstatic : methM.isStatic = true := Cond.static_spec hnamed hmethM hstat
  obtain ⟨kP, hkP, -⟩ := className_of_methodNamed hnamed
  have hinitP : kP.init = .initialized := Cond.initialized_spec (findClass_of_methodNamed hnamed) hkP hinit
  refine ⟨mk, hnamed, fun T hT X => ?_⟩
  obtain ⟨vm₁, X₁, hstep₁⟩ := X.invokestatic hexec hown hlink hnamed hmethM hstatic hkP hinitP hy (g := g) hg (argsL := As) (rest := rest) (hlen _ hsig) hstack (by rw [hb]; exact hdg)
  exact ⟨vm₁, X₁, fun target h => hstep₁ _ fun acts => by rw [doInvoke_state]; exact h⟩
/-! the default method -/
theorem d_found {u : State} (h : dfl u) : ∃ r0, u.methodNamed? dPN = some r0 ∧ u.methodFound? dPN.cls dPN.name dPN.desc = some r0 := by
  obtain ⟨cH, kH, kP, r0, rm, h1, h2, h3, h4, h5, h6, h7, h8, h9, h10⟩ := h
  refine ⟨r0, h4, ?_⟩
  have hc := findClass_of_methodNamed h4
  obtain ⟨kN, hkN, hnm⟩ := Vm.findClass_spec hc
  cases h6.symm.trans hkN
  have h' := h4
  simp only [State.methodNamed?, hc, h6, Option.bind_eq_bind, Option.bind_some, Option.bind_eq_some_iff, Option.pure_def, Option.some.injEq] at h'
  obtain ⟨i, hi, hmi⟩ := h'
  have := d_foundI (s := u) hc h6 h7 (fun y => by simp [signaturePolymorphic, hnm, dPN]) hi
  rw [this, hmi]
/-- invokevirtual of House's pushes, on an object of a class below that has its own -/
theorem i_dV {cc : ByteArray} {own C : String} {index : Nat} {y : MethodName} {b : Addr} {As rest : List Value} {g : JFrame} (hexec : p.tables.exec = Jvm.exec) (hb : c.code = cc) (hown : s.vm.findClass own = some m.cls) (hlink : (Cond.methodLink own index dHN).before args s = true) (hsame : (Cond.sameMethod RX6 "LeaningStreet$Pushes" "pushes" "(I)I").before args s = true) (hi0 : (Cond.instanceMethod dPN).before args s = true) (hd : dfl s) (hsel : (Cond.selects C dPN y).before args s = true) (hinst : (Cond.instanceMethod y).before args s = true)
    (hcell : ∃ cell : Cell, H[b]? = some cell ∧ cell.vm.isStatics = false ∧ s.vm.findClass C = some cell.cls) (hg : g.method = m) (hlen : As.length = 1) (hstack : g.stack = As.reverse ++ .ref b :: rest) (hdg : decode cc g.pc = .ok (.invokevirtual index, 3)) (hcode : ∃ by0 n0 r0, (Cond.code dPN by0 n0 r0).before args s = true) :
    xInto p l e R s m args below meth c H locs cells slots g rest y (Value.ref b :: As).toArray := by
  obtain ⟨cellB, hcB, hobj, hclB⟩ := hcell
  obtain ⟨r0, hn0, hfI⟩ := d_found hd
  obtain ⟨mk, methM, hnamed, hmethM, -, habM⟩ := Cond.instanceMethod_spec hinst
  obtain ⟨z0, rm, hz0, hrm, hstR, -⟩ := Cond.instanceMethod_spec hi0
  cases hn0.symm.trans hz0
  obtain ⟨c2, r2, m2, q1, q2, q3, q4, kP, hkP, hkPi⟩ := Cond.selects_spec hsel
  cases hclB.symm.trans q1
  cases hfI.symm.trans q2
  cases hnamed.symm.trans q3
  obtain ⟨by0, n0, rt0, hcode⟩ := hcode
  obtain ⟨meth', c0, hrm', -, -, -, -, -, -, hsig⟩ := Cond.code_spec hn0 hcode
  cases hrm.symm.trans hrm'
  have hl : As.length = rm.sig.parameters.length := by
    have e1 : (parseMethodDescriptor dPN.desc).map (fun d => d.parameters.length) = some 1 := by decide +kernel
    rw [hsig] at e1
    rw [hlen]
    exact (Option.some.inj e1).symm
  refine ⟨mk, hnamed, fun T hT X => ?_⟩
  have hselP : selectMethod e.platform s.vm cellB.cls r0 = .method mk := by rw [Launch.admits_selectMethod X.admits]; exact q4
  obtain ⟨vm₁, X₁, hstep₁⟩ := X.invokevirtualUp hexec (x := dHN) (owner := "LeaningStreet$Pushes") hown hlink hsame (by decide) hn0 hrm hstR (a := b) (cell := cellB) (by rw [hT]; exact hcB)
    (fun z h => by rw [h] at hobj; cases hobj) hselP hmethM habM hkP hkPi (g := g) hg (argsL := As) (rest := rest) hl hstack (by rw [hb]; exact hdg)
  exact ⟨vm₁, X₁, fun target h => hstep₁ _ fun acts => by rw [doInvoke_state]; exact h⟩
/-- super's, from a class right below House -/
theorem i_dS {cc : ByteArray} {own C : String} {index : Nat} {b : Addr} {As rest : List Value} {g : JFrame} (hexec : p.tables.exec = Jvm.exec) (hb : c.code = cc) (hown : s.vm.findClass own = some m.cls) (hlink : (Cond.methodLink own index dHN).before args s = true) (hsame : (Cond.sameMethod RX6 "LeaningStreet$Pushes" "pushes" "(I)I").before args s = true) (hi0 : (Cond.instanceMethod dPN).before args s = true) (hd : dfl s) (hsup : (Cond.superclass own RX6).before args s = true)
    (hcell : ∃ cell : Cell, H[b]? = some cell ∧ cell.vm.isStatics = false ∧ s.vm.findClass C = some cell.cls) (hg : g.method = m) (hlen : As.length = 1) (hstack : g.stack = As.reverse ++ .ref b :: rest) (hdg : decode cc g.pc = .ok (.invokespecial index, 3)) (hcode : ∃ by0 n0 r0, (Cond.code dPN by0 n0 r0).before args s = true) :
    xInto p l e R s m args below meth c H locs cells slots g rest dPN (Value.ref b :: As).toArray := by
  obtain ⟨cellB, hcB, hobj, hclB⟩ := hcell
  obtain ⟨kB, hkB, -⟩ := Vm.findClass_spec hclB
  obtain ⟨z0, rm, hz0, hrm, hstR, habR⟩ := Cond.instanceMethod_spec hi0
  obtain ⟨by0, n0, rt0, hcode⟩ := hcode
  obtain ⟨meth', c0, hrm', -, -, -, -, -, -, hsig⟩ := Cond.code_spec hz0 hcode
  cases hrm.symm.trans hrm'
  have hl : As.length = rm.sig.parameters.length := by
    have e1 : (parseMethodDescriptor dPN.desc).map (fun d => d.parameters.length) = some 1 := by decide +kernel
    rw [hsig] at e1
    rw [hlen]
    exact (Option.some.inj e1).symm
  obtain ⟨ps, dk, kp, hps, hdk, hkp, hsuper, -, -, hnid⟩ := Cond.superclass_spec hown hsup
  obtain ⟨cH, kH, kP, r0, rm0, h1, h2, h3, h4, h5, h6, h7, h8, h9, h10⟩ := hd
  cases hz0.symm.trans h4
  cases hps.symm.trans h1
  refine ⟨z0, hz0, fun T hT X => ?_⟩
  have hpl : e.platform.magicAccessors = ({} : Platform).magicAccessors := by rw [X.admits.platform]
  obtain ⟨cn', ck, r1, hcn', hck, hni, hf, hn1⟩ := Cond.sameMethod_found hsame
  cases hps.symm.trans hcn'
  have hn1 : s.methodNamed? dPN = some r1 := hn1
  cases hz0.symm.trans hn1
  obtain ⟨ci, hlk, hright⟩ := Cond.methodLink_specUp (x := dHN) hown hps hck hni hf hlink e.platform hpl (by rw [X.admits.platform])
  obtain ⟨hrn, hrd⟩ := name_of_methodNamed hz0 hrm
  have hrn : rm.name = "pushes" := hrn
  have hrd : rm.desc = "(I)I" := hrd
  obtain ⟨dk₀, cfile, nt, _, _, ck₀, _, _, hd₀, hcf, hcp, -, -, -, hc₀, -, hpoly, -⟩ := hlk.here
  cases hdk.symm.trans hd₀
  subst hg
  obtain ⟨vm', hW', st⟩ := Steps.invokeSuperColdArgs (tb := p.tables) (e := e) (s₀ := s) (U := T) (f := g) (args := As) (rest := rest) (a := b) (cell := cellB) (m := z0) X.here hexec (by rw [hb]; exact hdg) X.warmed hlk hright hdk hcf hcp hrm hck
    (by rw [hrn]; rfl) hstR (by rw [hrn, hrd, hsuper]; simpa using h9) hnid h6 habR hl hstack (by rw [hT]; exact hcB) (fun z h => by rw [h] at hobj; cases hobj) hkB
  exact ⟨vm', X.noted hW', st⟩
theorem d_selV {Q : Selection → Pre} {E : CtlPost} {d : Bool} {acts : List Action} {u : State} {cc : ClassId} {r z : MethodId} {rmeth zmeth : Method} {mk : Class} (hsel : selectMethod e.platform u.vm cc r = .method z) (hrm : u.vm.method? r = some rmeth) (hm : u.vm.method? z = some zmeth) (hmk : u.vm.classes[z.cls]? = some mk) (hitf : mk.isInterface = true) (hnear : dNear u.vm cc rmeth.name rmeth.desc z) :
    wp (Op.invokeinterface.selectVirtual cc r) Q E e d acts u ↔ Q (.method z) d acts u := by
  cases hp : e.platform.privateHidesDefault with
  | false => simp [Op.invokeinterface.selectVirtual, hrm, Op.selectFor_method hsel hm, hmk, hitf, hp]
  | true =>
    cases hn : nearestHeld u.vm cc rmeth.name rmeth.desc with
    | none => simp [Op.invokeinterface.selectVirtual, hrm, Op.selectFor_method hsel hm, hmk, hitf, hp, hn]
    | some kh =>
      obtain ⟨k, hd⟩ := kh
      cases hd with
      | nothing => simp [Op.invokeinterface.selectVirtual, hrm, Op.selectFor_method hsel hm, hmk, hitf, hp, hn]
      | default x =>
        cases hnear.1 k x hn
        simp [Op.invokeinterface.selectVirtual, hrm, Op.selectFor_method hsel hm, hmk, hitf, hp, hn]
      | thrower bb => exact absurd hn (hnear.2 k bb)
theorem d_wpV {Q : Unit → Pre} {E : CtlPost} {d : Bool} {acts : List Action} {u : State} {f : JFrame} {index a : Nat} {r z : MethodId} {c' : ClassId} {k k' mk : Class} {rmeth zmeth : Method} {av rest : List Value} {cell : Cell}
    (hs : u.topJava?.isSome) (hnamed : Op.namesResolved u.vm f.method.cls index c') (hk' : u.vm.classes[c']? = some k') (hclass : k'.isInterface = false) (hr : u.vm.methodReady f.method.cls index r)
    (hk : u.vm.classes[r.cls]? = some k) (hrm : u.vm.method? r = some rmeth) (hpoly : signaturePolymorphic k rmeth = false) (hstatic : rmeth.isStatic = false) (hlen : av.length = rmeth.sig.parameters.length) (hstack : f.stack = av.reverse ++ .ref a :: rest)
    (hcell : u.heap[a]? = some cell) (hobj : ∀ c, cell.vm ≠ .statics c) (hsel : selectMethod e.platform u.vm cell.cls r = .method z) (hm : u.vm.method? z = some zmeth) (habs : zmeth.isAbstract = false) (hmk : u.vm.classes[z.cls]? = some mk) (hitf : mk.isInterface = true) (hnear : dNear u.vm cell.cls rmeth.name rmeth.desc z) :
    wp (Op.invokevirtual.sem index) Q E e d acts (u.setTop f) ↔ E (.invoke z (.ref a :: av).toArray) acts (u.setTop { f with stack := rest }) := by
  obtain ⟨kc, cf, ci, n, h1, h2, h3, h4⟩ := hnamed
  have hpre : ∀ {Q' : ClassId → Pre}, wp (Jvm.refClassAt index) Q' E e d acts (u.setTop f) ↔ Q' c' d acts (u.setTop f) := by
    intro Q'
    rcases h3 with h3 | h3 <;>
      simp [Jvm.refClassAt, Jvm.constantAt, State.method?_setTop f hs, h1, h2, h3, W.resolveClassAt_ready (State.method?_setTop f hs) h4]
  simp only [Op.invokevirtual.sem, wp_bind', hpre, W.theClass, State.vm_setTop, hk', Option.some.injEq, exists_eq_left', W.ite, hclass, Bool.false_eq_true, if_false, wp_pure',
    W.resolveMethodAt_ready (State.method?_setTop f hs) hr]
  simp only [W.theMethod, State.vm_setTop, hrm, Option.some.injEq, exists_eq_left', Seam.isPolymorphic, wp_bind', W.theClass, hk, wp_pure', hpoly,
    W.ite, Bool.false_eq_true, if_false, hstatic, Jvm.popArgs, ← hlen, popN_top hs hstack]
  simp [hs, hcell, hobj, d_selV (u := u.setTop _) (show selectMethod e.platform (u.setTop _).vm cell.cls r = .method z from hsel) hrm hm hmk hitf hnear, hm, habs]
/-- on a House itself -/
theorem i_dH {cc : ByteArray} {own : String} {index : Nat} {b : Addr} {As rest : List Value} {g : JFrame} (hexec : p.tables.exec = Jvm.exec) (hb : c.code = cc) (hown : s.vm.findClass own = some m.cls) (hlink : (Cond.methodLink own index dHN).before args s = true) (hsame : (Cond.sameMethod RX6 "LeaningStreet$Pushes" "pushes" "(I)I").before args s = true) (hi0 : (Cond.instanceMethod dPN).before args s = true) (hd : dfl s)
    (hcell : ∃ cell : Cell, H[b]? = some cell ∧ cell.vm.isStatics = false ∧ s.vm.findClass RX6 = some cell.cls) (hg : g.method = m) (hlen : As.length = 1) (hstack : g.stack = As.reverse ++ .ref b :: rest) (hdg : decode cc g.pc = .ok (.invokevirtual index, 3)) (hcode : ∃ by0 n0 r0, (Cond.code dPN by0 n0 r0).before args s = true) :
    xInto p l e R s m args below meth c H locs cells slots g rest dPN (Value.ref b :: As).toArray := by
  obtain ⟨cellB, hcB, hobj, hclB⟩ := hcell
  obtain ⟨z0, rm, hz0, hrm, hstR, habR⟩ := Cond.instanceMethod_spec hi0
  obtain ⟨by0, n0, rt0, hcode⟩ := hcode
  obtain ⟨meth', c0, hrm', -, -, -, -, -, -, hsig⟩ := Cond.code_spec hz0 hcode
  cases hrm.symm.trans hrm'
  have hl : As.length = rm.sig.parameters.length := by
    have e1 : (parseMethodDescriptor dPN.desc).map (fun d => d.parameters.length) = some 1 := by decide +kernel
    rw [hsig] at e1
    rw [hlen]
    exact (Option.some.inj e1).symm
  obtain ⟨cH, kH, kP, r0, rm0, h1, h2, h3, h4, h5, h6, h7, h8, h9, h10⟩ := hd
  cases hz0.symm.trans h4
  cases hclB.symm.trans h1
  refine ⟨z0, hz0, fun T hT X => ?_⟩
  have hpl : e.platform.magicAccessors = ({} : Platform).magicAccessors := by rw [X.admits.platform]
  obtain ⟨cn', ck, r1, hcn', hck, hni, hf, hn1⟩ := Cond.sameMethod_found hsame
  cases hclB.symm.trans hcn'
  have hn1 : s.methodNamed? dPN = some r1 := hn1
  cases hz0.symm.trans hn1
  obtain ⟨hrn, hrd⟩ := name_of_methodNamed hz0 hrm
  have hrn : rm.name = "pushes" := hrn
  have hrd : rm.desc = "(I)I" := hrd
  obtain ⟨ci, hlk, hright⟩ := Cond.methodLink_specUp (x := dHN) hown hclB hck hni hf hlink e.platform hpl (by rw [X.admits.platform])
  have hE : s.MethodEntryUp e T.vm m.cls index cellB.cls z0 ci := State.methodEntryUp X.warmed hlk hright
  obtain ⟨kr, hkr, hnr⟩ := className_of_methodNamed hz0
  obtain ⟨dk, cfile, nt, _, _, _, _, _, hdk, hcf, hcp, -⟩ := hlk.here
  have alike := hE.warmed.alike
  obtain ⟨dk₂, hdk₂, hres⟩ := hE.classReady
  obtain ⟨dk₃, hdk₃, hed⟩ := alike.2.2 _ _ hdk
  cases hdk₂.symm.trans hdk₃
  obtain ⟨kr₂, hkr₂, her⟩ := alike.2.2 _ _ hkr
  obtain ⟨ck₂, hck₂, hec⟩ := alike.2.2 _ _ hck
  obtain ⟨mk₂, hmk₂, hem⟩ := alike.2.2 _ _ h6
  have hselP : selectMethod e.platform s.vm cellB.cls z0 = .method z0 := by rw [Launch.admits_selectMethod X.admits]; exact h8
  refine ⟨T.vm.calledUp m.cls ci index cellB.cls z0, X.noted hE.warmed, fun target hrest => ?_⟩
  subst hg
  have hdg : decode c.code g.pc = .ok (.invokevirtual index, 3) := by rw [hb]; exact hdg
  jvm_step X.here [hexec, hdg, Op.invokevirtual.wp_coldUp (e := e) (s := T) (s₀ := s) (f := g) X.here.top X.warmed hE hdk hcf (Or.inl hcp) hck hni,
    d_wpV (e := e) (u := T.setVm (T.vm.calledUp g.method.cls ci index cellB.cls z0)) (f := g) (r := z0) (z := z0) (c' := cellB.cls) (k := kr₂) (k' := ck₂) (mk := mk₂) (rmeth := rm) (zmeth := rm) (a := b) (av := As) (rest := rest) (cell := cellB)
      X.here.top ⟨dk₂, cfile, ci, nt, hdk₂, by rw [hed]; exact hcf, Or.inl hcp, dk₂, hdk₂, hres⟩ hck₂ (by rw [hec]; exact hni) hE.ready hkr₂
      (by show (T.vm.calledUp g.method.cls ci index cellB.cls z0).method? z0 = some rm; rw [alike.method?]; exact hrm)
      (by rw [her]; show signaturePolymorphic kr rm = false; simp [signaturePolymorphic, hnr, dPN]) hstR hl hstack (by show T.heap[b]? = some cellB; rw [hT]; exact hcB) (fun z h => by rw [h] at hobj; cases hobj)
      (by show selectMethod e.platform (T.vm.calledUp g.method.cls ci index cellB.cls z0) cellB.cls z0 = .method z0; rw [alike.selectMethod]; exact hselP)
      (by show (T.vm.calledUp g.method.cls ci index cellB.cls z0).method? z0 = some rm; rw [alike.method?]; exact hrm) habR hmk₂ (by rw [hem]; exact h7)
      (by show dNear (T.vm.calledUp g.method.cls ci index cellB.cls z0) cellB.cls rm.name rm.desc z0; rw [hrn, hrd]; exact h10.alike alike)]
  intro acts2
  rw [doInvoke_state]
  exact hrest
/-- the default itself: it gives back what it is given -/
theorem d_same {Q : State → Prop} {cc : ByteArray} {ig : Instr} {g : JFrame} {rest : List Value} {b : Addr} {k : Int32} {nL : Nat} (hexec : p.tables.exec = Jvm.exec) (hb : c.code = cc) (hml : c.maxLocals = nL) (hI : xInto p l e R s m args below meth c H locs cells slots g rest dPN #[.ref b, .int k]) (hcode : (Cond.code dPN cX15_pushes 2 (some .int)).before args s = true) (hg : g.method = m) (hsize : g.locals.size = nL) (hmr : g.monitorRoom = 0) (hW : (rest.map fun v => v.category).sum ≤ 8) (hfr0 : 1 ≤ R.frames) (hlo : 21 ≤ R.locals) (hdg : decode cc g.pc = .ok (ig, 3))
    (kk : W p l e R s m args below meth c H locs cells slots Q { g with pc := g.pc + 3, stack := .int k :: rest }) : W p l e R s m args below meth c H locs cells slots Q g := by
  intro T hT X
  obtain ⟨mk, hnamed, hst⟩ := hI
  obtain ⟨vm₁, X₁, hs⟩ := hst T hT X
  obtain ⟨t, a1, b1⟩ := kk (T.setVm vm₁) hT X₁
  refine ⟨t, hs t ?_, b1⟩
  obtain ⟨methM, cM, hm0, hc, hby, hlocals, hret, hl, -, -⟩ := Cond.code_spec hnamed hcode
  have hm : (T.setVm vm₁).vm.method? mk = some methM := by rw [X₁.warmed.alike.method?]; exact hm0
  subst hg
  generalize T.setVm vm₁ = U at *
  have hA0 : At U ({ g with stack := rest } : JFrame).method c below := X₁.here
  have hroom : e.platform.stackFull (((U.setTop { g with stack := rest }).threads[(U.setTop { g with stack := rest }).cur]?).getD { frames := [] }) (U.setTop { g with stack := rest }).frames cM.maxLocals = false :=
    X₁.notFull (g := { g with stack := rest }) (vars := cM.maxLocals) (hsize.trans hml.symm) hfr0 (by rw [hlocals]; show 2 * g.monitorRoom + (List.map (fun v => v.category) rest).sum + (2 + 11) ≤ R.locals; rw [hmr]; omega)
  have hp : U.plainMethod mk := by
    refine State.plainMethod.of_name ?_
    intro kk hk
    obtain ⟨k', hk', hn⟩ := className_of_methodNamed (X₁.named hnamed)
    cases hk.symm.trans hk'
    rw [hn]
    decide
  rw [doInvoke_enter hA0.top [] hm hc hl hroom]
  have hA : At ((U.setTop { g with stack := rest }).pushFrame (.java (entryFrame mk #[.ref b, .int k] cM.maxLocals))) mk cM below := hA0.enter #[.ref b, .int k] hm hc hp
  have hfr := frames_entered (g := { g with stack := rest }) hA0.top (.java (entryFrame mk #[.ref b, .int k] cM.maxLocals))
  have hback : ((U.setTop { g with stack := rest }).pushFrame (.java (entryFrame mk #[.ref b, .int k] cM.maxLocals))).setFrames (.java { g with stack := rest } :: U.frames.tail) = U.setTop { g with stack := rest } :=
    setFrames_entered (s := U) (g := { g with stack := rest }) hA0.top (.java (entryFrame mk #[.ref b, .int k] cM.maxLocals))
  have hvm : ((U.setTop { g with stack := rest }).pushFrame (.java (entryFrame mk #[.ref b, .int k] cM.maxLocals))).vm = U.vm := rfl
  have hcg0 : ((U.setTop { g with stack := rest }).pushFrame (.java (entryFrame mk #[.ref b, .int k] cM.maxLocals))).code? g.method = some c := by
    have := hA0.code
    rw [State.code?_eq] at this ⊢
    simpa [State.pushFrame, State.setFrames] using this
  generalize (U.setTop { g with stack := rest }).pushFrame (.java (entryFrame mk #[.ref b, .int k] cM.maxLocals)) = u at hA hfr hback hvm hcg0 ⊢
  have hm' : u.vm.method? mk = some methM := by rw [hvm]; exact hm
  have hloc : argsToLocals #[.ref b, .int k] 2 = #[.val (.ref b), .val (.int k)] := rfl
  have h0 : decode cM.code 0 = .ok (.iload_n 1, 1) := by rw [hby]; exact dX15_pushes_0
  have h1 : decode cM.code 1 = .ok (.ireturn, 1) := by rw [hby]; exact dX15_pushes_1
  unfold entryFrame
  rw [hlocals, hloc]
  jvm_step hA [hexec, h0]
  jvm_step hA [hA.top, hexec, h1, hm', hret, narrow]
  intro acts'
  rw [doReturn_leave (g := { g with stack := rest }) (meth := methM) (cg := c) (ig := ig) (len := 3) acts' hfr hm' hl rfl rfl hcg0 (by rw [hb]; exact hdg), hback, State.setTop_setTop]
  simpa using a1
end XI

set_option maxRecDepth 100000
/-! ===== methods with handlers ===== -/
abbrev xH : Type := List (Nat × Nat × Nat × Nat)
def xhd (hh : xH) (pc : Nat) : Option (Nat × Nat × Nat × Nat) := hh.find? (fun q => decide (q.1 ≤ pc) && decide (pc < q.2.1))
def xtb (c : Code) : xH := c.exceptionTable.toList.map (fun h => (h.startPc, h.endPc, h.handlerPc, h.catchType))
theorem x_go {Q : Handler → Pre} {E : CtlPost} {e : Env} {d : Bool} {acts : List Action} {u : State} {f : JFrame} {a : Addr} {cT : ClassId} {cell : Cell} {s0 e0 hp t : Nat} (hl : u.vm.ClassLinks e.platform f.method.cls t cT) (h0 : t ≠ 0) (hcell : u.heap[a]? = some cell) (hobj : ∀ k, cell.vm ≠ .statics k)
    (hk : ∃ k, u.vm.classes[cell.cls]? = some k) (hc : ∃ k, u.vm.classes[cT]? = some k) (hfit : u.vm.assignable cell.cls cT = true) : ∀ tbl : List ExceptionTableEntry, xhd (tbl.map fun h => (h.startPc, h.endPc, h.handlerPc, h.catchType)) f.pc = some (s0, e0, hp, t) →
    (wp (findHandler.go f a tbl) Q E e d acts u ↔ Q (.found hp) d acts (u.setVm (u.vm.noted f.method.cls t (.cls cT)))) := by
  intro tbl
  induction tbl with
  | nil => intro h; cases h
  | cons x tb ih =>
    intro h
    unfold xhd at h
    rw [List.map_cons, List.find?_cons] at h
    cases hx : (decide (x.startPc ≤ f.pc) && decide (f.pc < x.endPc)) with
    | false =>
      rw [hx] at h
      rw [W.findHandler_go_skip (by simpa [covers] using hx)]
      exact ih h
    | true =>
      rw [hx] at h
      cases h
      obtain ⟨ha, ht⟩ := (resolveClass_links e.toSetting hl).op (op := VmOp.resolveClass f.method.cls x.catchType) rfl
      have hal : u.vm.Alike (u.vm.noted f.method.cls x.catchType (.cls cT)) := (Vm.Alike.refl u.vm).noted _ _ _
      obtain ⟨k1, hk1⟩ := hk
      obtain ⟨k2, hk2⟩ := hc
      obtain ⟨k1', hk1', -⟩ := hal.2.2 _ _ hk1
      obtain ⟨k2', hk2', -⟩ := hal.2.2 _ _ hk2
      have hfit' : (u.vm.noted f.method.cls x.catchType (.cls cT)).assignable cell.cls cT = true := by rw [hal.assignable]; exact hfit
      simp only [Bool.and_eq_true, decide_eq_true_eq] at hx
      simp [findHandler.go, hx, h0, ha, ht, hcell, hobj, hk1', hk2', hfit', VmOp.dirties, VmOp.acts]
theorem x_setF (u : State) (vm' : Vm) (F G : List Frame) : ((u.setFrames F).setVm vm').setFrames G = (u.setVm vm').setFrames G := by
  show ((u.setVm vm').setFrames F).setFrames G = _
  rw [State.setFrames_setFrames]
/-- the exception is caught in the walked method: on at the handler -/
theorem x_catch {p : Program} {l : Launch} {e : Env} {R : Room} {s : State} {m : MethodId} {args : Array Value} {below : List Frame} {meth : Method} {c : Code} {T : State} {locs : List Loc} {cells slots : Nat} (X : Stand p l e R s m args below meth c T locs cells slots) (a : Addr) {g : JFrame} (hg : g.method = m) {own name : String} (hown : s.vm.findClass own = some m.cls)
    {s0 e0 hp t : Nat} (hh : xhd (xtb c) g.pc = some (s0, e0, hp, t)) (h0 : t ≠ 0) (hlink : (Cond.classLink own t name).before args s = true) {cT : ClassId} {cell : Cell} (hcT : s.vm.findClass name = some cT) (hcell : T.heap[a]? = some cell) (hobj : cell.vm.isStatics = false) (hfit : s.vm.assignable cell.cls cT = true) :
    ∃ vm' : Vm, Stand p l e R s m args below meth c (T.setVm vm') locs cells slots ∧ ∀ target, Steps p.tables e below ((T.setVm vm').setTop { g with pc := hp, stack := [.ref a] }) target → Steps p.tables e below ((T.setTop g).pushFrame (.throwing a)) target := by
  have hpl : e.platform.magicAccessors = ({} : Platform).magicAccessors := by rw [X.admits.platform]
  obtain ⟨c', hc', hcl⟩ := Cond.classLink_spec hown hlink e.platform hpl
  cases hcT.symm.trans hc'
  obtain ⟨dk, _, _, kt, hd, _, _, _, _, hkt, _, hopen⟩ := hcl.here
  have hcl₀ := X.warmed.classLinks hcl
  have hW' : s.WarmedH (T.vm.noted m.cls t (.cls cT)) := X.warmed.noted hd hopen (State.rightAt_cls hcl)
  have hal := X.warmed.alike
  obtain ⟨kt', hkt', -⟩ := hal.2.2 _ _ hkt
  have hfit' : T.vm.assignable cell.cls cT = true := by rw [hal.assignable]; exact hfit
  refine ⟨_, X.noted hW', fun target hrest => ?_⟩
  subst hg
  have hw : ∀ (Q : Handler → Pre) (E : CtlPost) (d : Bool) (acts : List Action), wp (findHandler g a) Q E e d acts ((T.setTop g).pushFrame (.throwing a)) ↔ Q (.found hp) d acts (((T.setTop g).pushFrame (.throwing a)).setVm (T.vm.noted g.method.cls t (.cls cT))) := by
    intro Q E d acts
    rw [W.findHandler_eq (s := (T.setTop g).pushFrame (.throwing a)) (f := g) (meth := meth) (code := c) X.method' X.code]
    exact x_go (u := (T.setTop g).pushFrame (.throwing a)) hcl₀ h0 hcell (fun k hk => by rw [hk] at hobj; cases hobj) (Vm.classAt_of_assignable hfit' ⟨kt', hkt'⟩) ⟨kt', hkt'⟩ hfit' _ hh
  obtain ⟨hgo, hwi⟩ := X.here.throwing a (g := g)
  refine Steps.head hgo hwi ?_
  have hst : (stepThrowing e ((T.setTop g).pushFrame (.throwing a)) a (.java g :: T.frames.tail)).1 = (((T.setTop g).pushFrame (.throwing a)).setVm (T.vm.noted g.method.cls t (.cls cT))).setFrames (.java { g with pc := hp, stack := [.ref a] } :: T.frames.tail) := by
    simp only [stepThrowing, searchFrame, vmDo]
    generalize hr : Sem.go _ e false [] ((T.setTop g).pushFrame (.throwing a)) = res
    obtain ⟨as, rfl, ha⟩ := Sem.eq_ok_of hr (a := Handler.found hp) (s' := ((T.setTop g).pushFrame (.throwing a)).setVm (T.vm.noted g.method.cls t (.cls cT))) (acts' := []) (by simp [hw _ _ _ _])
    rfl
  obtain ⟨g₀, hg0⟩ := Option.isSome_iff_exists.mp X.here.top
  obtain ⟨r, hr⟩ := State.topJava?_eq_some.mp hg0
  have hr' : (T.setVm (T.vm.noted g.method.cls t (.cls cT))).frames = .java g₀ :: r := hr
  rw [stepThread_throwing (frames_entered X.here.top _), hst]
  rw [State.setTop_of_frames _ hr'] at hrest
  rw [hr, List.tail_cons, State.pushFrame, x_setF, State.setTop_of_frames _ hr, x_setF]
  exact hrest
def gStH {α : Type} (l : Launch) (R : Room) (cc : ByteArray) (own nm : String) (nL : Nat) (ret : Option FieldType) (hh : xH) (G : gG) (L : gL) (o : Nat) (ad : Nat → Nat) (vv : α → Option Value) (K : α → gY → gH → Prop) (mc ms : Nat) (J : gJt) : Prop :=
  ∃ (p : Program) (e : Env) (s : State) (m : MethodId) (args : Array Value) (below : List Frame) (meth : Method) (c : Code) (A : Nat → Prop) (Qf : State → Prop), ((∀ t, MQ below (gQ G L o ad vv K A) args s mc ms A t → Qf t) ∧ ∀ q, A q → ∀ cell : Cell, s.heap[q]? = some cell → cell.vm.isStatics = false) ∧ xtb c = hh ∧
    J = gJf p l e R s m args below meth c Qf nL G L o ad A ∧ p.tables.exec = Jvm.exec ∧ c.code = cc ∧ c.maxLocals = nL ∧ meth.sig.returnType = ret ∧ meth.locks = false ∧ s.vm.findClass own = some m.cls ∧ (∀ w ∈ lw_all, w.before args s = true) ∧ gK G s ∧ meth.name = nm ∧ gOK G
theorem gStH.st {α : Type} {l : Launch} {R : Room} {cc : ByteArray} {own nm : String} {nL : Nat} {ret : Option FieldType} {hh : xH} {G : gG} {L : gL} {o : Nat} {ad : Nat → Nat} {vv : α → Option Value} {K : α → gY → gH → Prop} {mc ms : Nat} {J : gJt} (S : gStH l R cc own nm nL ret hh G L o ad vv K mc ms J) : gSt l R cc own nm nL ret G L o ad vv K mc ms J := by
  obtain ⟨p, e, s, m, args, below, meth, c, A, Qf, h1, -, h⟩ := S
  exact ⟨p, e, s, m, args, below, meth, c, A, Qf, h1, h⟩
theorem gMet.inH {α : Type} {l : Launch} {y : MethodName} {cc : ByteArray} {nL : Nat} {ret : Option FieldType} {hh : xH} {rm : Room} {G : gG} {L : gL} {o : Nat} {ad : Nat → Nat} {av : List Value} {vv : α → Option Value} {K : α → gY → gH → Prop} {mc ms : Nat} {Y : gY} {h : gH} {lv : List (Option Value)}
    (hy : plainName y.cls = true) (hla : Nat.ble (lg_sl av).length nL = true) (hlv : lv = gin av nL) (body : ∀ J : gJt, gStH l rm cc y.cls y.name nL ret hh G L o ad vv K mc ms J → J Y h 0 0 0 lv []) : gMet l y (wsW_ y cc nL ret hh) rm G L o ad av vv K mc ms Y h := by
  intro hG sz
  refine va_MetW (cc := cc) (maxL := nL) (ret := ret) (hh := hh) hy rfl ?_
  intro p e s m args below meth c s₁ B hml hv
  obtain ⟨rfl, hsz, hV, hX, hK, hF⟩ := hv
  have hts := atoms_spec (ws := wsW_ y cc nL ret hh) B.pre
  have hcd := hts _ List.mem_cons_self
  have hts : ∀ w ∈ lw_all, w.before _ s = true := fun w h => hts w (List.mem_cons_of_mem _ h)
  have hown : s.vm.findClass y.cls = some m.cls := findClass_of_methodNamed B.named
  obtain ⟨m9, meth9, c9, z1, z2, z3, -, -, htb, -⟩ := Cond.codeWith_spec hcd
  cases B.named.symm.trans z1
  cases B.method.symm.trans z2
  cases (Stand.of_body B).code.symm.trans z3
  subst hsz
  have hl := lv_entry av (n := nL) (Nat.le_of_ble_eq_true hla)
  rw [lg_entry_eq]
  have S := body _ ⟨p, e, s, m, _, below, meth, c, gA L o ad h s.heap.size, _, ⟨fun _ h => h, gA_ns hV⟩, htb, rfl, B.exec, B.bytes, hml, B.returns, B.notSynchronized, hown, hts, hK, (name_of_methodNamed B.named B.method).1, hG⟩
  exact S s.heap [] _ ⟨hV, hX, fun q hq => hq, va_S.rf⟩ hF ⟨hl.1, hl.2.1, fun i v hi => hl.2.2 (i, v) (by
      rw [hlv] at hi; have := gin_ok av nL 0 i v hi; rwa [Nat.zero_add] at this)⟩
section XC
variable {α β : Type} {l : Launch} {R : Room} {cc : ByteArray} {own nm : String} {nL : Nat} {ret : Option FieldType} {hh : xH} {G : gG} {L : gL} {o : Nat} {ad : Nat → Nat} {vv : α → Option Value} {K : α → gY → gH → Prop} {mc ms : Nat} {J : gJt}
variable {Y : gY} {h : gH} {cs ss pc : Nat} {lv : List (Option Value)} {st : List Value}
/-- what is thrown is an object of the class of this number, and the first entry that covers the call catches that class -/
theorem w_caught {p : Program} {e : Env} {s : State} {m : MethodId} {args : Array Value} {below : List Frame} {meth : Method} {c : Code} {Qf : State → Prop} {A : Nat → Prop} {H1 : Heap} {locs1 : List Loc} {ls : Array Slot} {rest : List Value} {x ci s0 e0 hp t : Nat} {fs : List Value} {q : vw_C} {C : String} {T' : State}
    (htb : xhd (xtb c) pc = some (s0, e0, hp, t)) (h0 : t ≠ 0) (hown : s.vm.findClass own = some m.cls) (hlink : (Cond.classLink own t C).before args s = true) (hK : gK G s) (w : gW G L o ad Y h A s.heap H1 locs1) (hx : h x = some (.inr (ci, fs))) (hc : gcl[ci]? = some q) (hq : q.1 = C) (hT' : T'.heap = H1) (X' : Stand p l e R s m args below meth c T' locs1 cs ss)
    (kk : W p l e R s m args below meth c H1 locs1 cs ss Qf (F0 m hp ls [.ref x])) : ∃ t, Steps p.tables e below ((T'.setTop (F0 m pc ls rest)).pushFrame (.throwing x)) t ∧ Qf t := by
  subst hq
  obtain ⟨cell, h1, h2, h3⟩ := va_recv (q0 := 0) (ws := [(x, .inr (ci, fs))]) hK.1 (gP1 (w.1.2.2 x _ hx)) hc rfl
  have hcl := (hK.1.1 ci q hc).2
  have hce : G.1.1 ci = cell.cls := Option.some.inj (hcl.1.symm.trans h3)
  obtain ⟨vm', X2, st2⟩ := x_catch X' x (g := F0 m pc ls rest) rfl hown htb h0 hlink hcl.1 (by rw [hT']; exact h1) h2 (by rw [← hce]; exact va_assign hcl)
  obtain ⟨t2, a1, b1⟩ := kk (T'.setVm vm') hT' X2
  exact ⟨t2, st2 t2 a1, b1⟩
theorem j_callXVh (S : gStH l R cc own nm nL ret hh G L o ad vv K mc ms J) {y : MethodName} {bytes : ByteArray} {maxL mc' ms' index : Nat} {ret' : Option FieldType} {rm' : Room} {C C' : String} {b ci s0 e0 hp t : Nat} {q' : vw_C} {As rest : List Value} {vv' : β → Option Value} {K' : β → gY → gH → Prop} {E' : Nat → gY → gH → Prop} (n : Nat)
    (hM : gMetX l y (ws_ y bytes maxL ret') rm' G L o ad (.ref b :: As) vv' K' E' mc' ms' Y h) (hw : GoodIn lw_all (wsV own index C y (ws_ y bytes maxL ret'))) (hrc : rm'.cells = mc') (hrs : rm'.slots = ms')
    (hd : y.cls = C ∧ y.cls ≠ "java/lang/invoke/MethodHandle" ∧ y.cls ≠ "java/lang/invoke/VarHandle" ∧ (parseMethodDescriptor y.desc).map (fun d => d.parameters.length) = some n) (hR1 : Nat.ble (rm'.frames + 1) R.frames = true) (hR2 : Nat.ble (8 + (maxL + 11) + rm'.locals) R.locals = true)
    (hrv : ∀ H, gV G L o ad Y h H → ∃ (ci : Nat) (q : vw_C) (fs : List Value), gcl[ci]? = some q ∧ q.1 = C ∧ va_at G.1 gcl (b, .inr (ci, fs)) H) (hn : As.length = n) (hst : st = As.reverse ++ .ref b :: rest) (hsum : Nat.ble (rest.map fun v => v.category).sum 8 = true)
    (d : decode cc pc = .ok (.invokevirtual index, 3)) (hcs : cs + mc' ≤ R.cells) (hss : ss + ms' ≤ R.slots) (htb : xhd hh pc = some (s0, e0, hp, t)) (h0 : t ≠ 0) (q1 : Cond.classLink own t C' ∈ lw_all) (hc : gcl[ci]? = some q') (hq : q'.1 = C')
    (kk : ∀ (r : β) (Y' : gY) (h' : gH), K' r Y' h' → J Y' h' (cs + mc') (ss + ms') (pc + 3) lv ((vv' r).toList ++ rest))
    (tt : ∀ (x : Nat) (Y' : gY) (h' : gH), E' x Y' h' → (∃ fs, h' x = some (.inr (ci, fs))) ∧ J Y' h' (cs + mc') (ss + ms') hp lv [.ref x]) : J Y h cs ss pc lv st := by
  obtain ⟨p, e, s, m, args, below, meth, c, A, Qf, hQf, htc, rfl, hx, hb, hml, hr, hlk, hown, hts, hK, hnm, hG⟩ := S
  intro H locs ls w f hl
  subst hst
  obtain ⟨ci2, q, fs, hq1, hq2, hat⟩ := hrv H w.1
  have hrecv := va_recv (q0 := 0) (ws := [(b, .inr (ci2, fs))]) hK.1 (gP1 hat) hq1 rfl
  rw [hq2] at hrecv
  obtain ⟨⟨k1, k2, k3, k4, k5, k6, k7, k8, k9, k10, k11⟩, k12, k13⟩ := cwV n hts hw rfl hrc hrs hd ⟨Nat.le_of_ble_eq_true hR1, Nat.le_of_ble_eq_true hR2⟩
  refine g_callX (x_run (i_V (As := As) (rest := rest) (g := F0 m pc ls (As.reverse ++ .ref b :: rest)) hx hb hown k11 k12 k13 k7 k9 hrecv rfl (fun sig hs => hn.trans (k10 sig hs)) rfl d) (hM hG H.size) (gPre_blind hG) k1 k2 k3 k4 k5 k6 k8 hb hml (fun U hU hW => g_pre hG hK w f hU hW) rfl hl.1 (lv_room (Nat.le_of_ble_eq_true hsum)) d ⟨hcs, hss⟩) w.2.2.2 w.sub w.sub (fun r Y' h' H1 locs1 hk hV hX hdm hkp hS => ?_) (fun x Y' h' H1 locs1 hk hV hX hdm hkp hS T' hT' X' => ?_)
  · exact kk r Y' h' hk H1 locs1 ls (w.after hV hX hdm hS) (hG.2.2.2.1 A s H H1 (fun q h1 h2 => hkp q h1 (fun z => h2 (w.sub q z))) f) hl
  · obtain ⟨⟨fs', hx'⟩, hj⟩ := tt x Y' h' hk
    have w' := w.after hV hX hdm hS
    exact w_caught (by rw [htc]; exact htb) h0 hown (hts _ q1) hK w' hx' hc hq hT' X' (hj H1 locs1 ls w' (hG.2.2.2.1 A s H H1 (fun q h1 h2 => hkp q h1 (fun z => h2 (w.sub q z))) f) hl)
theorem j_callXSh (S : gStH l R cc own nm nL ret hh G L o ad vv K mc ms J) {y : MethodName} {bytes : ByteArray} {maxL mc' ms' index : Nat} {ret' : Option FieldType} {rm' : Room} {C' : String} {ci s0 e0 hp t : Nat} {q' : vw_C} {As rest : List Value} {vv' : β → Option Value} {K' : β → gY → gH → Prop} {E' : Nat → gY → gH → Prop} (n : Nat)
    (hM : gMetX l y (ws_ y bytes maxL ret') rm' G L o ad As vv' K' E' mc' ms' Y h) (hw : GoodIn lw_all (va_wsS own index y (ws_ y bytes maxL ret'))) (hrc : rm'.cells = mc') (hrs : rm'.slots = ms')
    (hd : y.cls ≠ "java/lang/invoke/MethodHandle" ∧ y.cls ≠ "java/lang/invoke/VarHandle" ∧ (parseMethodDescriptor y.desc).map (fun d => d.parameters.length) = some n) (hR1 : Nat.ble (rm'.frames + 1) R.frames = true) (hR2 : Nat.ble (8 + (maxL + 11) + rm'.locals) R.locals = true)
    (hn : As.length = n) (hst : st = As.reverse ++ rest) (hsum : Nat.ble (rest.map fun v => v.category).sum 8 = true)
    (d : decode cc pc = .ok (.invokestatic index, 3)) (hcs : cs + mc' ≤ R.cells) (hss : ss + ms' ≤ R.slots) (htb : xhd hh pc = some (s0, e0, hp, t)) (h0 : t ≠ 0) (q1 : Cond.classLink own t C' ∈ lw_all) (hc : gcl[ci]? = some q') (hq : q'.1 = C')
    (kk : ∀ (r : β) (Y' : gY) (h' : gH), K' r Y' h' → J Y' h' (cs + mc') (ss + ms') (pc + 3) lv ((vv' r).toList ++ rest))
    (tt : ∀ (x : Nat) (Y' : gY) (h' : gH), E' x Y' h' → (∃ fs, h' x = some (.inr (ci, fs))) ∧ J Y' h' (cs + mc') (ss + ms') hp lv [.ref x]) : J Y h cs ss pc lv st := by
  obtain ⟨p, e, s, m, args, below, meth, c, A, Qf, hQf, htc, rfl, hx, hb, hml, hr, hlk, hown, hts, hK, hnm, hG⟩ := S
  intro H locs ls w f hl
  subst hst
  obtain ⟨⟨k1, k2, k3, k4, k5, k6, k7, k8, k9, k10, k11⟩, k12⟩ := va_cwS n hts hw rfl hrc hrs hd ⟨Nat.le_of_ble_eq_true hR1, Nat.le_of_ble_eq_true hR2⟩
  refine g_callX (x_run (i_S (As := As) (rest := rest) (g := F0 m pc ls (As.reverse ++ rest)) hx hb hown k11 k12 k8 k7 k9 rfl (fun sig hs => hn.trans (k10 sig hs)) rfl d) (hM hG H.size) (gPre_blind hG) k1 k2 k3 k4 k5 k6 k8 hb hml (fun U hU hW => g_pre hG hK w f hU hW) rfl hl.1 (lv_room (Nat.le_of_ble_eq_true hsum)) d ⟨hcs, hss⟩) w.2.2.2 w.sub w.sub (fun r Y' h' H1 locs1 hk hV hX hdm hkp hS => ?_) (fun x Y' h' H1 locs1 hk hV hX hdm hkp hS T' hT' X' => ?_)
  · exact kk r Y' h' hk H1 locs1 ls (w.after hV hX hdm hS) (hG.2.2.2.1 A s H H1 (fun q h1 h2 => hkp q h1 (fun z => h2 (w.sub q z))) f) hl
  · obtain ⟨⟨fs', hx'⟩, hj⟩ := tt x Y' h' hk
    have w' := w.after hV hX hdm hS
    exact w_caught (by rw [htc]; exact htb) h0 hown (hts _ q1) hK w' hx' hc hq hT' X' (hj H1 locs1 ls w' (hG.2.2.2.1 A s H H1 (fun q h1 h2 => hkp q h1 (fun z => h2 (w.sub q z))) f) hl)
end XC

set_option maxRecDepth 100000
/-! ===== the component's own exception is made (and not thrown) ===== -/
def xFA : List Cond := Jvm.Bundle.throwableAtoms ++ Jvm.Bundle.chain0Atoms RX2 ["java/lang/RuntimeException", "java/lang/Exception"] ++ [.instantiable RX2 7, .selects RX2 Jvm.Bundle.tFill0 Jvm.Bundle.tFill0, .selects RX2 Jvm.Bundle.tFill Jvm.Bundle.tFill, .lays RX2 Jvm.Bundle.tN "cause" "Ljava/lang/Throwable;", .lays RX2 Jvm.Bundle.tN "stackTrace" Jvm.Bundle.steD, .lays RX2 Jvm.Bundle.tN "suppressedExceptions" Jvm.Bundle.listD, .lays RX2 Jvm.Bundle.tN "detailMessage" "Ljava/lang/String;",
   .isRef (.static Jvm.Bundle.tN "UNASSIGNED_STACK" Jvm.Bundle.steD), .isRef (.static Jvm.Bundle.tN "SUPPRESSED_SENTINEL" Jvm.Bundle.listD), .fieldLink Jvm.Bundle.tN 198 Jvm.Bundle.tN "backtrace" "Ljava/lang/Object;", .lays Jvm.Bundle.tN Jvm.Bundle.tN "backtrace" "Ljava/lang/Object;", .lays RX2 Jvm.Bundle.tN "backtrace" "Ljava/lang/Object;"]
theorem xFA_in : xFA.all (fun x => decide (x ∈ lw_all) || decide (x ∈ cNW) || decide (x ∈ xST)) = true := by decide +kernel
theorem xFA_i0 : Cond.instanceMethod (Jvm.Bundle.init0 RX2) ∈ xFA := by simp [xFA, Jvm.Bundle.chain0Atoms, Jvm.Bundle.passAtoms]
theorem xFA_i1 : Cond.code (Jvm.Bundle.init0 RX2) Jvm.Bundle.five 1 none ∈ xFA := by simp [xFA, Jvm.Bundle.chain0Atoms, Jvm.Bundle.passAtoms]
set_option maxHeartbeats 1000000 in
theorem x_fault {p : Program} {l : Launch} {e : Env} {R : Room} {s : State} {m₀ : MethodId} {args : Array Value} {below : List Frame} {meth : Method} {c : Code} {W : State} {locs : List Loc} {cells slots : Nat} (X : Stand p l e R s m₀ args below meth c W locs cells slots) (hexec : p.tables.exec = Jvm.exec) (htr : e.platform.stackTraces = false) {own host : String} {ic : Nat} (hown : s.vm.findClass own = some m₀.cls)
    (h : ∀ a ∈ xFA, a.before args s = true) (hnest : (Cond.methodLinkNest own ic (Jvm.Bundle.init0 RX2) host).before args s = true) (hlocs : ∀ x ∈ locs, ∀ cell, s.heap[x.base]? = some cell → cell.vm.isStatics = false)
    {a : Addr} {cX : ClassId} {kX : Class} (hfoundX : s.vm.findClass RX2 = some cX) (hkX : s.vm.classes[cX]? = some kX) (hcell : W.heap[a]? = some (freshCell cX kX)) (hnew : s.heap.size ≤ a)
    {g : JFrame} (hg : g.method = m₀) (hsize : g.locals.size = c.maxLocals) {rest : List Value} (hstack : g.stack = .ref a :: rest) (hd6 : decode c.code g.pc = .ok (.invokespecial ic, 3))
    (hRframes : 5 < R.frames) (hRlocals : 2 * g.monitorRoom + (rest.map fun v => v.category).sum + 80 ≤ R.locals) :
    ∃ (vm' : Vm) (i0 i1 i2 : Nat) (u0 sen : Value), SlotIs s "java/lang/Throwable" "cause" "Ljava/lang/Throwable;" i0 ∧ SlotIs s "java/lang/Throwable" "stackTrace" "[Ljava/lang/StackTraceElement;" i1 ∧ SlotIs s "java/lang/Throwable" "suppressedExceptions" "Ljava/util/List;" i2 ∧
      Stand p l e R s m₀ args below meth c ((W.setVm vm').setCell a (((((freshCell cX kX).setSlot i0 (.ref a)).setSlot i1 u0).setSlot i2 sen).setSlot i1 u0)) (locs ++ [⟨a, i0⟩, ⟨a, i1⟩, ⟨a, i2⟩, ⟨a, i1⟩]) cells slots ∧
      ∀ target, Steps p.tables e below (((W.setVm vm').setCell a (((((freshCell cX kX).setSlot i0 (.ref a)).setSlot i1 u0).setSlot i2 sen).setSlot i1 u0)).setTop { g with pc := g.pc + 3, stack := rest }) target → Steps p.tables e below (W.setTop g) target := by
  have howns : e.platform.frameOwnsMonitors = true := by rw [X.admits.platform]
  have hfin : e.platform.finalization = false := by rw [X.admits.platform]
  have hpl : e.platform.magicAccessors = ({} : Platform).magicAccessors := by rw [X.admits.platform]
  have a' : ∀ x, x ∈ xFA → x.holds args s none s [] = true := fun x hx => h x hx
  obtain ⟨T, Z, L, LZ, Y⟩ := ThrowableC.of_atoms (args := args) howns hfin hpl (fun x hx => h x (by simp [xFA, hx]))
  obtain ⟨P1, Ps, hlen, L1, hL, hP1m, hlink1, hlink⟩ := Jvm.Bundle.chain0 (args := args) hpl Y.init0 ["java/lang/RuntimeException", "java/lang/Exception"] RX2 (by decide +kernel) (by decide +kernel) (fun x hx => h x (by simp [xFA, hx]))
  have hlen : Ps.length = 2 := hlen
  have hfound : s.vm.findClass RX2 = some P1.m.cls := findClass_of_methodNamed hP1m
  cases Option.some.inj (hfoundX.symm.trans hfound)
  obtain ⟨c1, kX', hc1, hk, hord, -, -, hn6⟩ := Cond.instantiable_spec (a' (.instantiable RX2 7) (by simp [xFA]))
  cases Option.some.inj (hc1.symm.trans hfound)
  cases Option.some.inj (hkX.symm.trans hk)
  have hsel0 : selectMethod e.platform s.vm P1.m.cls T.fill0 = .method T.fill0 := by
    obtain ⟨c2, r2, m2, q1, q2, q3, q4, -⟩ := Cond.selects_spec (a' (.selects RX2 Jvm.Bundle.tFill0 Jvm.Bundle.tFill0) (by simp [xFA]))
    cases Option.some.inj (q1.symm.trans hfound)
    cases Option.some.inj (q2.symm.trans (State.methodFound?_of_named Y.fill0 (by decide)))
    cases Option.some.inj (q3.symm.trans Y.fill0)
    rw [Launch.admits_selectMethod X.admits]; exact q4
  have hselF : selectMethod e.platform s.vm P1.m.cls T.fill = .method T.fill := by
    obtain ⟨c2, r2, m2, q1, q2, q3, q4, -⟩ := Cond.selects_spec (a' (.selects RX2 Jvm.Bundle.tFill Jvm.Bundle.tFill) (by simp [xFA]))
    cases Option.some.inj (q1.symm.trans hfound)
    cases Option.some.inj (q2.symm.trans (State.methodFound?_of_named Y.fill (by decide)))
    cases Option.some.inj (q3.symm.trans Y.fill)
    rw [Launch.admits_selectMethod X.admits]; exact q4
  obtain ⟨cellS0, hcS0, hiss⟩ := Y.statics
  obtain ⟨u0, hu0⟩ := Cond.staticRefV Y.unassigned L.unassignedStatic L.statics hcS0 hiss (a' (.isRef (.static Jvm.Bundle.tN "UNASSIGNED_STACK" Jvm.Bundle.steD)) (by simp [xFA]))
  obtain ⟨sen, hsen⟩ := Cond.staticRefV Y.sentinel L.sentinelStatic L.statics hcS0 hiss (a' (.isRef (.static Jvm.Bundle.tN "SUPPRESSED_SENTINEL" Jvm.Bundle.listD)) (by simp [xFA]))
  obtain ⟨ci198, i198, fB, hk198, hg198, ha198, hsB, -, hnB, htB, hffB⟩ := Cond.ownField (t := .object "java/lang/Object") Y.found L.cls (by decide +kernel) (a' (.fieldLink Jvm.Bundle.tN 198 Jvm.Bundle.tN "backtrace" "Ljava/lang/Object;") (by simp [xFA])) (a' (.lays Jvm.Bundle.tN Jvm.Bundle.tN "backtrace" "Ljava/lang/Object;") (by simp [xFA])) e.platform hpl
  obtain ⟨cellS, hcS', heS, -, hkeep⟩ := X.same.2.2.2.2.2 T.aS cellS0 hcS0
  have hcellS : W.heap[T.aS]? = some cellS := hcS'
  have hout' : ∀ i, (⟨T.aS, i⟩ : Loc) ∉ locs := fun i hmem => by
    have := hlocs _ hmem cellS0 hcS0
    rw [hiss] at this; cases this
  have hknownS : cellS.vm ≠ .unknown := by
    rw [heS]; intro hu
    rw [show cellS0.vm = .unknown from hu] at hiss
    cases hiss
  have hneS : T.aS ≠ a := Nat.ne_of_lt (Nat.lt_of_lt_of_le (Array.getElem?_eq_some_iff.mp hcS0).1 hnew)
  obtain ⟨tyC, dC, hdC, hdnC⟩ := Cond.laysAt hfound hk Y.cause (a' (.lays RX2 Jvm.Bundle.tN "cause" "Ljava/lang/Throwable;") (by simp [xFA]))
  obtain ⟨tyS, dS, hdS, hdnS⟩ := Cond.laysAt hfound hk Y.stack (a' (.lays RX2 Jvm.Bundle.tN "stackTrace" Jvm.Bundle.steD) (by simp [xFA]))
  obtain ⟨tyP, dP, hdP, hdnP⟩ := Cond.laysAt hfound hk Y.supp (a' (.lays RX2 Jvm.Bundle.tN "suppressedExceptions" Jvm.Bundle.listD) (by simp [xFA]))
  obtain ⟨tyB, dB, hdB, hdnB⟩ := Cond.laysAt hfound hk hffB (a' (.lays RX2 Jvm.Bundle.tN "backtrace" "Ljava/lang/Object;") (by simp [xFA]))
  have bC := Cond.laysApart hdB hdC hdnB hdnC (by rw [hnB, Y.causeName]; decide)
  have bS := Cond.laysApart hdB hdS hdnB hdnS (by rw [hnB, Y.stackName]; decide)
  have bP := Cond.laysApart hdB hdP hdnB hdnP (by rw [hnB, Y.suppName]; decide)
  have hskip : SkipFacts T e.platform s (fun u => u) u0 ((preparedCellV T.toThrowableT (freshCell P1.m.cls kX) a u0 sen).withEntry W.cur) :=
    ⟨{ ci198 := ci198, i198 := i198, fBack := fB }, ⟨hk198, hg198, ha198, hsB⟩, by
      have := fresh_default (c := P1.m.cls) tyB
      rw [htB] at this
      simpa [preparedCellV, Cell.setSlot, Cell.withEntry, Array.getElem?_setIfInBounds, bC, bS, bP, bC.symm, bS.symm, bP.symm, defaultValue] using this, fun _ _ => rfl⟩
  obtain ⟨tm, methC, cdC, kC, vm₁, hnC, -, -, -, -, -, -, -, hW₁, st1⟩ := Steps.initColdArgsNest (tb := p.tables) (e := e) (below := below) (s := s) (U := W) X.here hexec X.warmed hpl hown (t := Jvm.Bundle.init0 RX2) rfl (by decide) hnest (h _ xFA_i0) (bytes := Jvm.Bundle.five) (maxL := 1) (h _ xFA_i1)
    (f := g) hg (a := a) (argsL := []) (rest := rest) (fun sig hs => by rw [show parseMethodDescriptor (Jvm.Bundle.init0 RX2).desc = some { parameters := [], returnType := none } by decide +kernel] at hs; cases hs; rfl) hstack hd6
  cases Option.some.inj (hnC.symm.trans hP1m)
  have X₁ := X.noted hW₁
  obtain ⟨vm₂, X₂, st2⟩ := X₁.ctorPlainOffV hexec (g := { g with stack := rest }) hg hsize T L Z LZ (P1 :: Ps)
    (fun P hP => by rcases List.mem_cons.mp hP with rfl | hP; exact L1; exact hL P hP) ⟨hlink1, hlink⟩ (u0 := u0) (sen := sen) (self := a) (cell := freshCell P1.m.cls kX) (cellS := cellS)
    hcell (fun _ => by simp) (by simp) rfl rfl hsel0 hselF hcellS hneS hknownS (by rw [hkeep _ (hout' _)]; exact hu0) (by rw [hkeep _ (hout' _)]; exact hsen)
    (Takes.of_laid hk hord tyC (by rw [Y.causeType]; rfl)) (Takes.of_laid hk hord tyS (by rw [Y.stackType]; exact fits_refV_array _ u0)) (Takes.of_laid hk hord tyP (by rw [Y.suppType]; exact fits_refV_object _ sen)) Y.objLocals hskip htr [] hd6
    (by simp only [List.length_cons, hlen]; omega) (by simp only [List.length_cons, hlen]; exact hRlocals)
  refine ⟨vm₂, T.fCause.slot, T.fStack.slot, T.fSupp.slot, u0.v, sen.v, ⟨_, _, _, _, Y.cause, rfl⟩, ⟨_, _, _, _, Y.stack, rfl⟩, ⟨_, _, _, _, Y.supp, rfl⟩, X₂, fun target ht => st1 _ (fun acts => ?_)⟩
  rw [doInvoke_state]
  exact st2 _ ht
section JF
variable {α : Type} {l : Launch} {R : Room} {cc : ByteArray} {own nm : String} {nL : Nat} {ret : Option FieldType} {G : gG} {L : gL} {o : Nat} {ad : Nat → Nat} {vv : α → Option Value} {K : α → gY → gH → Prop} {mc ms : Nat} {J : gJt}
variable {Y : gY} {h : gH} {cs ss pc : Nat} {lv : List (Option Value)} {st : List Value}
theorem gW.new1 {A : Nat → Prop} {H0 H H1 : Heap} {locs locs1 : List Loc} {e : gE} (w : gW G L o ad Y h A H0 H locs) (he : va_at G.1 gcl (H.size, gtr G.2.1 e) H1) (z : H1.size = H.size + 1) (o1 : ∀ q : Nat, q < H.size → H1[q]? = H[q]?) (hl : ∀ y ∈ locs1, y ∈ locs ∨ y.base = H.size) : gW G L o ad Y (hup h H.size e) A H0 H1 locs1 := by
  have w1 := w.new he z o1
  refine ⟨w1.1, w1.2.1, w1.2.2.1, ⟨w1.2.2.2.1, w1.2.2.2.2.1, fun y hy => ?_⟩⟩
  rcases hl y hy with h1 | h1
  · exact w.2.2.2.2.2 y h1
  · rw [h1]; exact w.2.2.1 _ (Or.inr (Or.inr (Or.inr w.2.2.2.1)))
theorem j_fault (S : gSt l R cc own nm nL ret G L o ad vv K mc ms J) (hTr : l.stackTraces = false) (hC : cOK G) (hF : xFO G) {i1 i2 : Nat} {host : String} (q1 : Cond.classLink own i1 RX2 ∈ lw_all) (q2 : ∀ U, G.2.2.1 U → va_Nw (.methodLinkNest own i2 yX2_init host) U) (hR1 : Nat.ble 6 R.frames = true) (hR2 : Nat.ble 88 R.locals = true) (hsum : Nat.ble (st.map fun v => v.category).sum 7 = true)
    (d1 : decode cc pc = .ok (.new i1, 3)) (d2 : decode cc (pc + 3) = .ok (.dup, 1)) (d3 : decode cc (pc + 3 + 1) = .ok (.invokespecial i2, 3)) (hcs : cs + 1 ≤ R.cells) (hss : ss + 7 ≤ R.slots)
    (kk : ∀ (q : Nat) (h' : gH) (u v : Value), h q = none → h' = hup h q (.inr (12, [.ref q, u, v, .null, .null, .int 0, .int 0])) → J Y h' (cs + 1) (ss + 7) (pc + 3 + 1 + 3) lv (.ref q :: st)) : J Y h cs ss pc lv st := by
  obtain ⟨p, e, s, m, args, below, meth, c, A, Qf, hQf, rfl, hx, hb, hml, hr, hlk, hown, hts, hK, hnm', hG⟩ := S
  intro H locs ls w f hl
  have hc : gcl[12]? = some (RX2, TX2, 7) := rfl
  have hKn := hK.1.1 12 _ hc
  refine W.newcK hx hb hown (hts _ q1) (hts _ q158) (hts _ q84) rfl d1 hcs hss hKn.2.1 rfl fun H1 kC hkC e1 z1 o1 => ?_
  refine lv_dup hx hb d2 rfl ?_
  intro T hT X
  have htr : e.platform.stackTraces = false := by rw [X.admits.platform]; exact hTr
  have hsz : s.heap.size ≤ H.size := w.2.2.2.1
  obtain ⟨vm', j0, j1, j2, u, v, s0, s1, s2, X2, stp⟩ := x_fault X hx htr hown (x_atoms xFA_in hts hK hC hF w f) (va_Nw.use rfl (q2 s hK.2)) (fun x hx' cell hcl => hQf.2 _ (w.2.2.2.2.2 x hx') cell hcl) hKn.2.1 hkC (a := H.size) (by rw [hT]; exact e1) hsz (g := F0 m (pc + 3 + 1) ls (.ref H.size :: .ref H.size :: st)) rfl (hl.1.trans hml.symm) (rest := .ref H.size :: st) rfl (by rw [hb]; exact d3) (Nat.le_of_ble_eq_true hR1) (by
    have h1 := Nat.le_of_ble_eq_true hR2
    have h2 := Nat.le_of_ble_eq_true hsum
    show 2 * 0 + (1 + (st.map fun v => v.category).sum) + 80 ≤ R.locals
    omega)
  have hap := va_apart (own := own) hts in_X2 tyX2 tyX2_ok nmX2 hK.1 hc
  have hs : ∀ k, k < 7 → ∀ j, SlotIs s (TX2 k).1 (TX2 k).2.1 (TX2 k).2.2.1 j → G.1.2 12 k = j := by
    intro k hk j hj
    obtain ⟨_, _, _, f1, a1, b1⟩ := hKn.1 k hk
    obtain ⟨_, _, _, f2, a2, b2⟩ := hj
    have := a1.symm.trans a2
    cases this
    rw [← b1, ← b2]
  have g0 := hs 0 (by decide) j0 s0
  have g1 := hs 1 (by decide) j1 s1
  have g2 := hs 2 (by decide) j2 s2
  have hob := u_born tyX2 hts in_X2 hKn hkC e1 tyX2_ok
  obtain ⟨cell, c1, c2, c3, c4⟩ := hob
  cases c1.symm.trans e1
  subst g0 g1 g2
  have hlt : ∀ k, k < 7 → G.1.2 12 k < (freshCell (G.1.1 12) kC).slots.size := fun k hk => (Array.getElem?_eq_some_iff.mp (c4 k hk)).1
  have hcl' : H.size < (T.setVm vm').heap.size := by show H.size < T.heap.size; rw [hT, z1]; omega
  have hU := heapAt_setCell_self (s := T.setVm vm') (((((freshCell (G.1.1 12) kC).setSlot (G.1.2 12 0) (.ref H.size)).setSlot (G.1.2 12 1) u).setSlot (G.1.2 12 2) v).setSlot (G.1.2 12 1) u) hcl'
  have hat : va_at G.1 gcl (H.size, gtr G.2.1 (.inr (12, [.ref H.size, u, v, .null, .null, .int 0, .int 0]))) ((T.setVm vm').setCell H.size (((((freshCell (G.1.1 12) kC).setSlot (G.1.2 12 0) (.ref H.size)).setSlot (G.1.2 12 1) u).setSlot (G.1.2 12 2) v).setSlot (G.1.2 12 1) u)).heap := by
    refine ⟨_, hc, _, hU, rfl, rfl, fun k hk => ?_⟩
    have a01 := hap 0 1 (by decide) (by decide) (by decide)
    have a02 := hap 0 2 (by decide) (by decide) (by decide)
    have a12 := hap 1 2 (by decide) (by decide) (by decide)
    have l0 := hlt 0 (by decide)
    have l1 := hlt 1 (by decide)
    have l2 := hlt 2 (by decide)
    have hk : k < 7 := hk
    rcases (show k = 0 ∨ k = 1 ∨ k = 2 ∨ 3 ≤ k by omega) with rfl | rfl | rfl | h3
    · simp [Cell.setSlot, Array.getElem?_setIfInBounds, a01, a02, a12, a01.symm, a02.symm, a12.symm, vp_V]
      simpa using l0
    · simp [Cell.setSlot, Array.getElem?_setIfInBounds, a01, a02, a12, a01.symm, a02.symm, a12.symm, vp_V]
      simpa using l1
    · simp [Cell.setSlot, Array.getElem?_setIfInBounds, a01, a02, a12, a01.symm, a02.symm, a12.symm, vp_V]
      simpa using l2
    · have n0 := hap 0 k (by decide) hk (by omega)
      have n1 := hap 1 k (by decide) hk (by omega)
      have n2 := hap 2 k (by decide) hk (by omega)
      have e9 := c4 k hk
      rcases (show k = 3 ∨ k = 4 ∨ k = 5 ∨ k = 6 by omega) with rfl | rfl | rfl | rfl
      · simp only [Cell.setSlot, Array.getElem?_setIfInBounds, n0, n1, n2, if_false]; exact e9
      · simp only [Cell.setSlot, Array.getElem?_setIfInBounds, n0, n1, n2, if_false]; exact e9
      · simp only [Cell.setSlot, Array.getElem?_setIfInBounds, n0, n1, n2, if_false]; exact e9
      · simp only [Cell.setSlot, Array.getElem?_setIfInBounds, n0, n1, n2, if_false]; exact e9
  have hz : ((T.setVm vm').setCell H.size (((((freshCell (G.1.1 12) kC).setSlot (G.1.2 12 0) (.ref H.size)).setSlot (G.1.2 12 1) u).setSlot (G.1.2 12 2) v).setSlot (G.1.2 12 1) u)).heap.size = H.size + 1 := by
    rw [State.setCell]
    simp only [Array.size_setIfInBounds]
    show T.heap.size = _
    rw [hT, z1]
  have ho : ∀ q : Nat, q < H.size → ((T.setVm vm').setCell H.size (((((freshCell (G.1.1 12) kC).setSlot (G.1.2 12 0) (.ref H.size)).setSlot (G.1.2 12 1) u).setSlot (G.1.2 12 2) v).setSlot (G.1.2 12 1) u)).heap[q]? = H[q]? := by
    intro q hq
    have hne : H.size ≠ q := by omega
    rw [heapAt_setCell_ne _ hne]
    show T.heap[q]? = _
    rw [hT]; exact o1 q hq
  have w2 := w.new1 hat hz ho (locs1 := locs ++ [⟨H.size, G.1.2 12 0⟩, ⟨H.size, G.1.2 12 1⟩, ⟨H.size, G.1.2 12 2⟩, ⟨H.size, G.1.2 12 1⟩]) (fun y hy => by
    rcases List.mem_append.mp hy with h1 | h1
    · exact Or.inl h1
    · refine Or.inr ?_
      simp only [List.mem_cons, List.not_mem_nil, or_false] at h1
      rcases h1 with rfl | rfl | rfl | rfl <;> rfl)
  obtain ⟨t, r1, r2⟩ := kk H.size _ u v w.fresh rfl _ _ ls w2 (hG.2.2.2.1 A s H _ (fun q h1 _ => ho q h1) f) hl _ rfl X2
  exact ⟨t, stp t r1, r2⟩
end JF

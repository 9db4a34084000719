set_option maxRecDepth 100000
theorem t_cls {vm : Vm} {c : ClassId} {k : Class} {n : String} (hf : vm.findClass n = some c) (hk : vm.classes[c]? = some k) : k.name = n ∧ k.hidden = none ∧ k.loader = none := by
  obtain ⟨hlt, hp, _⟩ := Array.findIdx?_eq_some_iff_getElem.mp hf
  have e : vm.classes[c] = k := by
    have := Array.getElem?_eq_getElem hlt
    exact Option.some.inj (this.symm.trans hk)
  rw [e] at hp
  simp only [Bool.and_eq_true, beq_iff_eq, Option.isNone_iff_eq_none] at hp
  exact ⟨hp.1.1.1, hp.1.1.2, hp.2⟩
theorem t_neg {n : Int32} (hn : n < 0) : (toString n).length ≤ 400 ∧ (toString n == notModelled) = false := by
  have h1 : n.toInt < 0 := by simpa using Int32.lt_iff_toInt_lt.mp hn
  have h2 : -2147483648 ≤ n.toInt := Int32.le_toInt n
  obtain ⟨m, hm⟩ := Int.eq_negSucc_of_lt_zero h1
  have e : toString n = "-" ++ Nat.repr (m + 1) := by
    show toString n.toInt = _
    rw [hm]
    rfl
  have h3 : m + 1 < 10 ^ 11 := by omega
  have h4 := (Nat.length_repr_le_iff (n := m + 1) (k := 11) (by decide)).mpr h3
  rw [e]
  refine ⟨?_, ?_⟩
  · rw [String.length_append]
    have c1 : "-".length = 1 := by decide
    omega
  · rw [beq_eq_false_iff_ne]
    intro e2
    have e3 := congrArg String.toList e2
    unfold notModelled at e3
    rw [String.toList_append] at e3
    have e4 := congrArg List.head? e3
    simp at e4
/-- a cast that fails, up to the note -/
theorem x_castFail {p : Program} {l : Launch} {e : Env} {R : Room} {s : State} {m : MethodId} {args : Array Value} {below : List Frame} {meth : Method} {c : Code} {T : State} {locs : List Loc} {cells slots : Nat} (X : Stand p l e R s m args below meth c T locs cells slots) (hexec : p.tables.exec = Jvm.exec) {own name : String} {index : Nat} (hown : s.vm.findClass own = some m.cls) (hlink : (Cond.classLink own index name).before args s = true)
    {a : Addr} {cell : Cell} {cT : ClassId} {ks kt : Class} (hcell : T.heap[a]? = some cell) (hobj : cell.vm.isStatics = false) (hks : s.vm.classes[cell.cls]? = some ks) (hcT : s.vm.findClass name = some cT) (hkt : s.vm.classes[cT]? = some kt) (hasg : s.vm.assignable cell.cls cT = false) (hm : tMod s.vm) (hS : (t : Class) → t = ks ∨ t = kt → t.kind = .ordinary ∧ t.hidden = none ∧ t.loader = none ∧ (packageOf t.name = "" ∨ packageOf t.name = "java/lang") ∧ (dotted t.name).length ≤ 40)
    {g : JFrame} (hg : g.method = m) {rest : List Value} (hstack : g.stack = .ref a :: rest) (hdg : decode c.code g.pc = .ok (.checkcast index, 3)) :
    ∃ (vm' : Vm) (text : String), Stand p l e R s m args below meth c (T.setVm vm') locs cells slots ∧ text.length ≤ 400 ∧ (text == notModelled) = false ∧
      ∀ target, Steps p.tables e below (((T.setVm vm').setTop g).pushFrame (.throwNew "java/lang/ClassCastException" (some text) none)) target → Steps p.tables e below (T.setTop g) target := by
  have hpl : e.platform.magicAccessors = ({} : Platform).magicAccessors := by rw [X.admits.platform]
  obtain ⟨c', hc', hcl⟩ := Cond.classLink_spec hown hlink e.platform hpl
  cases hcT.symm.trans hc'
  obtain ⟨dk, _, _, kt0, hd, _, _, _, _, hkt0, _, hopen⟩ := hcl.here
  have hcl₀ := X.warmed.classLinks hcl
  have hW' : s.WarmedH (T.vm.noted m.cls index (.cls cT)) := X.warmed.noted hd hopen (State.rightAt_cls hcl)
  obtain ⟨ks', hks', e1⟩ := hW'.alike.2.2 _ _ hks
  obtain ⟨kt', hkt', e2⟩ := hW'.alike.2.2 _ _ hkt
  obtain ⟨s1, s2, s3, s4, s5⟩ := hS ks (Or.inl rfl)
  obtain ⟨t1, t2, t3, t4, t5⟩ := hS kt (Or.inr rfl)
  have b := t_cast (vm := T.vm.noted m.cls index (.cls cT)) (a := ks') (b := kt') (by rw [e1]; exact s2) (by rw [e2]; exact t2) (by rw [e1]; exact s3) (by rw [e2]; exact t3) (by rw [e1]; exact s4) (by rw [e2]; exact t4) (by rw [e1]; simp [Class.ofPrimitives, s1]) (by rw [e2]; simp [Class.ofPrimitives, t1]) (hm.alike hW'.alike) (by rw [e1]; exact s5) (by rw [e2]; exact t5)
  refine ⟨T.vm.noted m.cls index (.cls cT), Op.checkcast.message (T.vm.noted m.cls index (.cls cT)) ks' kt', X.noted hW', b.1, b.2, fun target hrest => ?_⟩
  subst hg
  jvm_step X.here [hexec, hdg, Op.checkcast.wp_cold (e := e) (s := T) (f := g) X.here.top hstack (resolveClass_links e.toSetting hcl₀) hcl₀.ready,
    Op.checkcast.wp_ready (e := e) (s := T.setVm (T.vm.noted g.method.cls index (.cls cT))) (f := g) X.here.top hcl₀.ready hstack]
  refine ⟨cell, hcell, (fun k hk => by rw [hk] at hobj; cases hobj), ks', hks', kt', hkt', ?_⟩
  rw [if_neg (by rw [hW'.alike.assignable, hasg]; decide)]
  exact hrest
section XW
variable {α : Type} {l : Launch} {R : Room} {cc : ByteArray} {own nm : String} {nL : Nat} {ret : Option FieldType} {hh : xH} {G : gG} {L : gL} {o : Nat} {ad : Nat → Nat} {vv : α → Option Value} {K : α → gY → gH → Prop} {E : Nat → gY → gH → Prop} {mc ms : Nat} {J : gJt}
variable {Y : gY} {h : gH} {cs ss pc : Nat} {lv : List (Option Value)} {st : List Value}
/-- a class of the list: its record -/
theorem x_rec {s : State} {ci : Nat} {q : vw_C} (hK : gK G s) (hc : gcl[ci]? = some q) (hn : packageOf q.1 = "" ∧ Nat.ble (dotted q.1).length 40 = true) : ∃ k : Class, s.vm.findClass q.1 = some (G.1.1 ci) ∧ s.vm.classes[G.1.1 ci]? = some k ∧ k.kind = .ordinary ∧ k.hidden = none ∧ k.loader = none ∧ (packageOf k.name = "" ∨ packageOf k.name = "java/lang") ∧ (dotted k.name).length ≤ 40 := by
  obtain ⟨hS, hfc, kC, hkC, hkind⟩ := hK.1.1 ci q hc
  obtain ⟨n1, n2, n3⟩ := t_cls hfc hkC
  exact ⟨kC, hfc, hkC, hkind, n2, n3, by rw [n1]; exact Or.inl hn.1, by rw [n1]; exact Nat.le_of_ble_eq_true hn.2⟩
theorem w_castFail {p : Program} {e : Env} {s : State} {m : MethodId} {args : Array Value} {below : List Frame} {meth : Method} {c : Code} {A : Nat → Prop} {H : Heap} {locs : List Loc} {ls : Array Slot} {T : State} {index b ci cj : Nat} {fs : List Value} {q q' : vw_C} (hx : p.tables.exec = Jvm.exec) (hb : c.code = cc) (hml : c.maxLocals = nL) (hTr : l.stackTraces = false) (hown : s.vm.findClass own = some m.cls) (hts : ∀ w ∈ lw_all, w.before args s = true) (hK : gK G s) (hG : gOK G) (hC : cOK G) (hF : xFO G) (hAs : ∀ q, A q → ∀ cell : Cell, s.heap[q]? = some cell → cell.vm.isStatics = false) (w : gW G L o ad Y h A s.heap H locs) (f : G.2.2.2 A s H) (hl : glv ls nL lv)
    (hbb : h b = some (.inr (ci, fs))) (hc : gcl[ci]? = some q) (hc' : gcl[cj]? = some q') (q1 : Cond.classLink own index q'.1 ∈ lw_all) (hno : ∀ U, G.2.2.1 U → va_Nc q.1 q'.1 U) (hn1 : packageOf q.1 = "" ∧ Nat.ble (dotted q.1).length 40 = true) (hn2 : packageOf q'.1 = "" ∧ Nat.ble (dotted q'.1).length 40 = true) (hR1 : 6 < R.frames) (hR2 : 10248 ≤ R.locals) (hsum : (st.map fun v => v.category).sum ≤ 7) (d : decode cc pc = .ok (.checkcast index, 3)) (hcs : cs + 3 ≤ R.cells) (hss : ss + 1610 ≤ R.slots) (hT : T.heap = H) (X : Stand p l e R s m args below meth c T locs cs ss) :
    ∃ (U : State) (locs' : List Loc), Stand p l e R s m args below meth c U locs' (cs + 3) (ss + 1610) ∧ gW G L o ad Y (hup h (H.size + 2) (.inr (15, []))) A s.heap U.heap locs' ∧ h (H.size + 2) = none ∧ G.2.2.2 A s U.heap ∧ ∀ target, Steps p.tables e below ((U.setTop (F0 m pc ls (.ref b :: st))).pushFrame (.throwing (H.size + 2))) target → Steps p.tables e below (T.setTop (F0 m pc ls (.ref b :: st))) target := by
  obtain ⟨cell, h1, h2, h3⟩ := va_recv (q0 := 0) (ws := [(b, .inr (ci, fs))]) hK.1 (gP1 (w.1.2.2 b _ hbb)) hc rfl
  obtain ⟨ks, z1, z2, z3, z4⟩ := x_rec hK hc hn1
  obtain ⟨kt, y1, y2, y3, y4⟩ := x_rec hK hc' hn2
  obtain ⟨c0, t0, f1, f2, f3⟩ := hno s hK.2
  cases f1.symm.trans z1
  cases f2.symm.trans y1
  have hce : cell.cls = G.1.1 ci := Option.some.inj (h3.symm.trans z1)
  obtain ⟨vm', text, X1, hlen, htx, st1⟩ := x_castFail X hx hown (hts _ q1) (by rw [hT]; exact h1) h2 (by rw [hce]; exact z2) y1 y2 (by rw [hce]; exact f3) (hF.2 s hK.2) (fun t ht => by
    rcases ht with rfl | rfl
    · exact ⟨z3, z4⟩
    · exact ⟨y3, y4⟩) (g := F0 m pc ls (.ref b :: st)) rfl rfl (by rw [hb]; exact d)
  obtain ⟨U, locs', X2, w2, hn, f2', st2⟩ := w_thrown (xs := ["java/lang/RuntimeException", "java/lang/Exception"]) (ci := 15) hx hTr hK hG hAs w f X1 hT (by decide) (by decide) (by decide) (by decide) rfl (x_atoms xCC_in hts hK hC hF w f) htx hlen rfl (g := F0 m pc ls (.ref b :: st)) rfl (hl.1.trans hml.symm) rfl (by show 1 + (List.map (fun v => v.category) st).sum ≤ 8; omega) hR1 hR2 hcs hss
  exact ⟨U, locs', X2, w2, hn, f2', fun target ht => st1 target (st2 target ht)⟩
/-- a cast that fails, in a method without handlers -/
theorem j_castX (S : gStX l R cc own nm nL ret G L o ad vv K E mc ms J) (hRc : R.cells = mc) (hRs : R.slots = ms) (hTr : l.stackTraces = false) (hC : cOK G) (hF : xFO G) {index b ci cj : Nat} {fs : List Value} {q q' : vw_C} (hbb : h b = some (.inr (ci, fs))) (hc : gcl[ci]? = some q) (hc' : gcl[cj]? = some q') (q1 : Cond.classLink own index q'.1 ∈ lw_all) (hno : ∀ U, G.2.2.1 U → va_Nc q.1 q'.1 U) (hn1 : packageOf q.1 = "" ∧ Nat.ble (dotted q.1).length 40 = true) (hn2 : packageOf q'.1 = "" ∧ Nat.ble (dotted q'.1).length 40 = true) (hR1 : Nat.ble 7 R.frames = true) (hR2 : Nat.ble 10248 R.locals = true) (hsum : Nat.ble (st.map fun v => v.category).sum 7 = true) (d : decode cc pc = .ok (.checkcast index, 3)) (hcs : cs + 3 ≤ mc) (hss : ss + 1610 ≤ ms)
    (hE : ∀ (x : Nat) (h' : gH), h x = none → h' = hup h x (.inr (15, [])) → E x Y h') : J Y h cs ss pc lv (.ref b :: st) := by
  obtain ⟨p, e, s, m, args, below, meth, c, A, Qf, hQf, hQe, hout, rfl, hx, hb, hml, hr, hlk, hown, hts, hK, hnm, hG⟩ := S
  intro H locs ls w f hl T hT X
  obtain ⟨U, locs', X2, w2, hn, f2, st2⟩ := w_castFail hx hb hml hTr hown hts hK hG hC hF hQf.2 w f hl hbb hc hc' q1 hno hn1 hn2 (Nat.le_of_ble_eq_true hR1) (Nat.le_of_ble_eq_true hR2) (Nat.le_of_ble_eq_true hsum) d (by rw [hRc]; exact hcs) (by rw [hRs]; exact hss) hT X
  obtain ⟨a1, a2, a3, a4, a5⟩ := (stand_widen X2 hcs hss).leaveThrown (H.size + 2) (g := F0 m pc ls (.ref b :: st)) rfl rfl rfl (x_out hout _) hlk
  exact ⟨_, st2 _ a1, hQe _ ⟨.threw (H.size + 2), a2, a3, ⟨⟨H.size + 2, Y, _, rfl, hE _ _ hn rfl, w2.1, w2.2.1, fun q e hq => w2.2.2.1 q (Or.inr (Or.inr (Or.inl ⟨e, hq⟩)))⟩, w2.2.2.2.F rfl⟩, _, ⟨a4, a5⟩, w2.2.2.2.2.2⟩⟩
/-- a cast that fails and is caught here -/
theorem j_castH (S : gStH l R cc own nm nL ret hh G L o ad vv K mc ms J) (hTr : l.stackTraces = false) (hC : cOK G) (hF : xFO G) {index b ci cj s0 e0 hp t : Nat} {fs : List Value} {q q' : vw_C} (hbb : h b = some (.inr (ci, fs))) (hc : gcl[ci]? = some q) (hc' : gcl[cj]? = some q') (q1 : Cond.classLink own index q'.1 ∈ lw_all) (hno : ∀ U, G.2.2.1 U → va_Nc q.1 q'.1 U) (hn1 : packageOf q.1 = "" ∧ Nat.ble (dotted q.1).length 40 = true) (hn2 : packageOf q'.1 = "" ∧ Nat.ble (dotted q'.1).length 40 = true) (hR1 : Nat.ble 7 R.frames = true) (hR2 : Nat.ble 10248 R.locals = true) (hsum : Nat.ble (st.map fun v => v.category).sum 7 = true) (d : decode cc pc = .ok (.checkcast index, 3)) (hcs : cs + 3 ≤ R.cells) (hss : ss + 1610 ≤ R.slots) (htb : xhd hh pc = some (s0, e0, hp, t)) (h0 : t ≠ 0) (q2 : Cond.classLink own t "java/lang/ClassCastException" ∈ lw_all)
    (kk : ∀ (x : Nat) (h' : gH), h x = none → h' = hup h x (.inr (15, [])) → J Y h' (cs + 3) (ss + 1610) hp lv [.ref x]) : J Y h cs ss pc lv (.ref b :: st) := by
  obtain ⟨p, e, s, m, args, below, meth, c, A, Qf, hQf, htc, rfl, hx, hb, hml, hr, hlk, hown, hts, hK, hnm, hG⟩ := S
  intro H locs ls w f hl T hT X
  obtain ⟨U, locs', X2, w2, hn, f2, st2⟩ := w_castFail hx hb hml hTr hown hts hK hG hC hF hQf.2 w f hl hbb hc hc' q1 hno hn1 hn2 (Nat.le_of_ble_eq_true hR1) (Nat.le_of_ble_eq_true hR2) (Nat.le_of_ble_eq_true hsum) d hcs hss hT X
  obtain ⟨t2, a1, b1⟩ := w_caught (rest := .ref b :: st) (by rw [htc]; exact htb) h0 hown (hts _ q2) hK w2 (hup_self h (H.size + 2) (.inr (15, []))) rfl rfl rfl X2 (kk _ _ hn rfl U.heap locs' ls w2 f2 hl)
  exact ⟨t2, st2 t2 a1, b1⟩
/-- an array of a negative size, in a method without handlers -/
theorem j_newX (S : gStX l R cc own nm nL ret G L o ad vv K E mc ms J) (hRc : R.cells = mc) (hRs : R.slots = ms) (hTr : l.stackTraces = false) (hC : cOK G) (hF : xFO G) {atype : ArrayType} {n : Int32} (hn0 : n < 0) (hR1 : Nat.ble 7 R.frames = true) (hR2 : Nat.ble 10248 R.locals = true) (hsum : Nat.ble (st.map fun v => v.category).sum 7 = true) (d : decode cc pc = .ok (.newarray atype, 2)) (hcs : cs + 3 ≤ mc) (hss : ss + 1610 ≤ ms)
    (hE : ∀ (x : Nat) (h' : gH), h x = none → h' = hup h x (.inr (16, [])) → E x Y h') : J Y h cs ss pc lv (.int n :: st) := by
  obtain ⟨p, e, s, m, args, below, meth, c, A, Qf, hQf, hQe, hout, rfl, hx, hb, hml, hr, hlk, hown, hts, hK, hnm, hG⟩ := S
  intro H locs ls w f hl T hT X
  have tl : (toString n).length ≤ 400 ∧ (toString n == notModelled) = false := t_neg hn0
  have st1 := X.newarrayNegative hx (g := F0 m pc ls (.int n :: st)) rfl hn0 (rest := st) rfl (atype := atype) (by rw [hb]; exact d)
  obtain ⟨U, locs', X2, w2, hn, f2, st2⟩ := w_thrown (xs := ["java/lang/RuntimeException", "java/lang/Exception"]) (ci := 16) hx hTr hK hG hQf.2 w f X hT (by decide) (by decide) (by decide) (by decide) rfl (x_atoms xNA_in hts hK hC hF w f) tl.2 tl.1 rfl (g := F0 m pc ls st) rfl (hl.1.trans hml.symm) rfl (by have := Nat.le_of_ble_eq_true hsum; show (List.map (fun v => v.category) st).sum ≤ 8; omega) (Nat.le_of_ble_eq_true hR1) (Nat.le_of_ble_eq_true hR2) (by rw [hRc]; exact hcs) (by rw [hRs]; exact hss)
  obtain ⟨a1, a2, a3, a4, a5⟩ := (stand_widen X2 hcs hss).leaveThrown (H.size + 2) (g := F0 m pc ls st) rfl rfl rfl (x_out hout _) hlk
  exact ⟨_, st1 _ (st2 _ a1), hQe _ ⟨.threw (H.size + 2), a2, a3, ⟨⟨H.size + 2, Y, _, rfl, hE _ _ hn rfl, w2.1, w2.2.1, fun q e hq => w2.2.2.1 q (Or.inr (Or.inr (Or.inl ⟨e, hq⟩)))⟩, w2.2.2.2.F rfl⟩, _, ⟨a4, a5⟩, w2.2.2.2.2.2⟩⟩
end XW

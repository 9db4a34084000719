set_option maxRecDepth 100000
/-! ===== methods that may throw ===== -/
def xFE (st t : State) (L : List Loc) (k n : Nat) : Prop := st.WarmedH t.vm ∧ st.sameButNew ({ t with vm := st.vm } : State) L k n
def xMet (l : Launch) (y : MethodName) (ws : List Cond) (rm : Room) (Pc : Array Value → State → Prop) (Qc : Array Value → State → Outcome → State → Prop) (mc ms : Nat) (free : Addr → Prop) : Prop :=
  MetFree l y (headSpec ws rm) Pc (fun _ _ _ _ _ => True) (fun a st o t => Qc a st o t ∧ ∃ L, xFE st t L mc ms ∧ ∀ q ∈ L, free q.base)
def xMQ (below : List Frame) (Qc : Array Value → State → Outcome → State → Prop) (a : Array Value) (s : State) (mc ms : Nat) (free : Addr → Prop) : State → Prop := fun t =>
  ∃ o, t.status = .running ∧ Ended t below o ∧ Qc a s o t ∧ ∃ L, xFE s t L mc ms ∧ ∀ q ∈ L, free q.base
/-- it threw: the object, the abstract state then -/
def gQe (G : gG) (L : gL) (o : Nat) (ad : Nat → Nat) (E : Nat → gY → gH → Prop) (A : Nat → Prop) : Array Value → State → Outcome → State → Prop :=
  fun _ st oc t => (∃ (x : Nat) (Y : gY) (h : gH), oc = .threw x ∧ E x Y h ∧ gV G L o ad Y h t.heap ∧ gX L o ad h ∧ ∀ q e, h q = some e → A q) ∧ va_F A st t
def gQx {α : Type} (G : gG) (L : gL) (o : Nat) (ad : Nat → Nat) (vv : α → Option Value) (K : α → gY → gH → Prop) (E : Nat → gY → gH → Prop) (A : Nat → Prop) : Array Value → State → Outcome → State → Prop :=
  fun a st oc t => gQ G L o ad vv K A a st oc t ∨ gQe G L o ad E A a st oc t
def gMetX {α : Type} (l : Launch) (y : MethodName) (ws : List Cond) (rm : Room) (G : gG) (L : gL) (o : Nat) (ad : Nat → Nat) (av : List Value) (vv : α → Option Value) (K : α → gY → gH → Prop) (E : Nat → gY → gH → Prop) (mc ms : Nat) (Y : gY) (h : gH) : Prop :=
  gOK G → ∀ sz : Nat, xMet l y ws rm (gPre G L o ad Y h av sz) (gQx G L o ad vv K E (gA L o ad h sz)) mc ms (gA L o ad h sz)
def gStX {α : Type} (l : Launch) (R : Room) (cc : ByteArray) (own nm : String) (nL : Nat) (ret : Option FieldType) (G : gG) (L : gL) (o : Nat) (ad : Nat → Nat) (vv : α → Option Value) (K : α → gY → gH → Prop) (E : Nat → gY → gH → Prop) (mc ms : Nat) (J : gJt) : Prop :=
  ∃ (p : Program) (e : Env) (s : State) (m : MethodId) (args : Array Value) (below : List Frame) (meth : Method) (c : Code) (A : Nat → Prop) (Qf : State → Prop), ((∀ t, MQ below (gQ G L o ad vv K A) args s mc ms A t → Qf t) ∧ ∀ q, A q → ∀ cell : Cell, s.heap[q]? = some cell → cell.vm.isStatics = false) ∧ (∀ t, xMQ below (gQe G L o ad E A) args s mc ms A t → Qf t) ∧ c.exceptionTable.isEmpty = true ∧
    J = gJf p l e R s m args below meth c Qf nL G L o ad A ∧ p.tables.exec = Jvm.exec ∧ c.code = cc ∧ c.maxLocals = nL ∧ meth.sig.returnType = ret ∧ meth.locks = false ∧ s.vm.findClass own = some m.cls ∧ (∀ w ∈ lw_all, w.before args s = true) ∧ gK G s ∧ meth.name = nm ∧ gOK G
theorem gStX.st {α : Type} {l : Launch} {R : Room} {cc : ByteArray} {own nm : String} {nL : Nat} {ret : Option FieldType} {G : gG} {L : gL} {o : Nat} {ad : Nat → Nat} {vv : α → Option Value} {K : α → gY → gH → Prop} {E : Nat → gY → gH → Prop} {mc ms : Nat} {J : gJt} (S : gStX l R cc own nm nL ret G L o ad vv K E mc ms J) : gSt l R cc own nm nL ret G L o ad vv K mc ms J := by
  obtain ⟨p, e, s, m, args, below, meth, c, A, Qf, h1, -, -, h⟩ := S
  exact ⟨p, e, s, m, args, below, meth, c, A, Qf, h1, h⟩
theorem gMetX.in {α : Type} {l : Launch} {y : MethodName} {cc : ByteArray} {nL : Nat} {ret : Option FieldType} {rm : Room} {G : gG} {L : gL} {o : Nat} {ad : Nat → Nat} {av : List Value} {vv : α → Option Value} {K : α → gY → gH → Prop} {E : Nat → gY → gH → Prop} {mc ms : Nat} {Y : gY} {h : gH} {lv : List (Option Value)}
    (hy : plainName y.cls = true) (hla : Nat.ble (lg_sl av).length nL = true) (hlv : lv = gin av nL) (body : ∀ J : gJt, gStX l rm cc y.cls y.name nL ret G L o ad vv K E mc ms J → J Y h 0 0 0 lv []) : gMetX l y (ws_ y cc nL ret) rm G L o ad av vv K E mc ms Y h := by
  intro hG sz
  refine MetFree.of_bodyS (code := cc) (maxLocals := nL) (ret := ret) hy ?_ ?_
  · intro args s m h hn
    obtain ⟨meth, c, h1, h2, h3, h4, h5, h6, -, -⟩ := Cond.code_spec hn (atoms_spec (ws := ws_ y cc nL ret) h _ List.mem_cons_self)
    exact ⟨meth, c, h1, h2, h3, h4, h5, h6⟩
  · intro p e s m args below meth c s₁ B hml hv _
    have hh0 : s₁.heap = s.heap := by rw [B.state]; rfl
    obtain ⟨rfl, hsz, hV, hX, hK, hF⟩ := hv
    have hts := atoms_spec (ws := ws_ y cc nL ret) B.pre
    have hcd := hts _ List.mem_cons_self
    have hts : ∀ w ∈ lw_all, w.before _ s = true := fun w h => hts w (List.mem_cons_of_mem _ h)
    have hown : s.vm.findClass y.cls = some m.cls := findClass_of_methodNamed B.named
    subst hsz
    have hl := lv_entry av (n := nL) (Nat.le_of_ble_eq_true hla)
    rw [lg_entry_eq]
    have S := body _ ⟨p, e, s, m, _, below, meth, c, gA L o ad h s.heap.size, xMQ below (gQx G L o ad vv K E (gA L o ad h s.heap.size)) _ s mc ms (gA L o ad h s.heap.size), ⟨(fun t ht => by
      obtain ⟨oc, a1, a2, a3, L', a4, a5⟩ := ht
      exact ⟨oc, a1, a2, Or.inl a3, L', a4.2, a5⟩), gA_ns hV⟩, (fun t ht => by
      obtain ⟨oc, a1, a2, a3, a4⟩ := ht
      exact ⟨oc, a1, a2, Or.inr a3, a4⟩), BodyLoose.noHandlers B hcd, rfl, B.exec, B.bytes, hml, B.returns, B.notSynchronized, hown, hts, hK, (name_of_methodNamed B.named B.method).1, hG⟩
    obtain ⟨t, a1, oc, b1, b2, b3⟩ := S s.heap [] _ ⟨hV, hX, fun q hq => hq, va_S.rf⟩ hF ⟨hl.1, hl.2.1, fun i v hi => hl.2.2 (i, v) (by
      rw [hlv] at hi; have := gin_ok av nL 0 i v hi; rwa [Nat.zero_add] at this)⟩ s₁ hh0 (Stand.of_body B)
    exact ⟨t, oc, a1, b1, b2, b3⟩
section XT
variable {α β : Type} {l : Launch} {R : Room} {cc : ByteArray} {own nm : String} {nL : Nat} {ret : Option FieldType} {G : gG} {L : gL} {o : Nat} {ad : Nat → Nat} {vv : α → Option Value} {K : α → gY → gH → Prop} {E : Nat → gY → gH → Prop} {mc ms : Nat} {J : gJt}
variable {Y : gY} {h : gH} {cs ss pc : Nat} {lv : List (Option Value)} {st : List Value}
theorem x_out {c : Code} (hE : c.exceptionTable.isEmpty = true) (pc : Nat) : ∀ x ∈ c.exceptionTable.toList, covers x pc = false := by
  intro x hx
  have : c.exceptionTable = #[] := by simpa using hE
  rw [this] at hx
  cases hx
/-- athrow, out of the method -/
theorem j_athrow (S : gStX l R cc own nm nL ret G L o ad vv K E mc ms J) {x : Nat} (h1 : cs ≤ mc) (h2 : ss ≤ ms) (d : decode cc pc = .ok (.athrow, 1)) (hE : E x Y h) : J Y h cs ss pc lv (.ref x :: st) := by
  obtain ⟨p, e, s, m, args, below, meth, c, A, Qf, hQf, hQe, hout, rfl, hx, hb, hml, hr, hlk, hown, hts, hK, hnm, hG⟩ := S
  intro H locs ls w f hl
  refine W.widen h1 h2 ?_
  intro T hT X
  obtain ⟨a1, a2, a3, a4, a5⟩ := X.athrowLeaves hx (g := F0 m pc ls (.ref x :: st)) rfl rfl rfl (x_out hout _) (a := x) (rest := st) rfl (by rw [hb]; exact d) hlk
  exact ⟨_, a1, hQe _ ⟨.threw x, a2, a3, ⟨⟨x, Y, h, rfl, hE, by show gV _ _ _ _ _ _ T.heap; rw [hT]; exact w.1, w.2.1, fun q e hq => w.2.2.1 q (Or.inr (Or.inr (Or.inl ⟨e, hq⟩)))⟩, w.2.2.2.F hT⟩, locs, ⟨a4, a5⟩, w.2.2.2.2.2⟩⟩
/-- a callee by its contract: it returns, or it throws -/
theorem x_run {p : Program} {e : Env} {s : State} {m : MethodId} {args : Array Value} {below : List Frame} {meth : Method} {c : Code} {H : Heap} {locs : List Loc} {cells slots : Nat} {y : MethodName} {mc' ms' : Nat} {ws : List Cond} {rm : Room} {Pc : Array Value → State → Prop} {Qc : Array Value → State → Outcome → State → Prop} {free : Addr → Prop} {g : JFrame} {rest : List Value} {a : Array Value} {ig : Instr} {bytes : ByteArray} {maxL : Nat} {ret' : Option FieldType}
    (hI : xInto p l e R s m args below meth c H locs cells slots g rest y a) (hM : xMet l y ws rm Pc Qc mc' ms' free) (hbl : FrameBlind Pc) (hrc : rm.cells = mc') (hrs : rm.slots = ms') (hfr : rm.frames + 1 ≤ R.frames) (hlo : 8 + (maxL + 11) + rm.locals ≤ R.locals)
    (hws : ∀ w ∈ ws, ∀ (a' : Array Value) (U : State), s.WarmedH U.vm → w.before a' U = true) (hcw : Cond.code y bytes maxL ret' ∈ ws) (hini : (Cond.initialized y.cls).before args s = true) (hb : c.code = cc) (hml : c.maxLocals = nL)
    (hPc : ∀ U : State, U.heap = H → s.WarmedH U.vm → Pc a U) (hg : g.method = m) (hsize : g.locals.size = nL) (hW : 2 * g.monitorRoom + (rest.map fun v => v.category).sum ≤ 8) (hdg : decode cc g.pc = .ok (ig, 3)) (hf : cells + mc' ≤ R.cells ∧ slots + ms' ≤ R.slots) :
    ∀ T : State, T.heap = H → Stand p l e R s m args below meth c T locs cells slots → ∃ (oc : Outcome) (st₀ t T' : State) (Lc : List Loc), st₀.heap = H ∧ Stand p l e R s m args below meth c T' (locs ++ Lc) (cells + mc') (slots + ms') ∧ (∀ q ∈ Lc, free q.base) ∧ T'.heap = t.heap ∧ Qc a st₀ oc t ∧
      (∀ v, oc = .returned v → ∀ target, Steps p.tables e below (T'.setTop { g with pc := g.pc + 3, stack := v.toList ++ rest }) target → Steps p.tables e below (T.setTop g) target) ∧
      (∀ x, oc = .threw x → ∀ target, Steps p.tables e below ((T'.setTop { g with stack := rest }).pushFrame (.throwing x)) target → Steps p.tables e below (T.setTop g) target) := by
  obtain ⟨mk, hnamed, hst⟩ := hI
  intro T hT X0
  obtain ⟨vm₁, X, hs⟩ := hst T hT X0
  have hn := X.named hnamed
  have hini' : (Cond.initialized y.cls).before a (T.setVm vm₁) = true := word_at X.warmed (Or.inl (by first | rfl | simp [Cond.onTables, Cond.keeps, Cond.steady])) hini
  obtain ⟨methY, cY, hmY, hcY, -, hlY, -⟩ := Cond.code_spec hn (hws _ hcw a (T.setVm vm₁) X.warmed)
  obtain ⟨kY, hkY, -⟩ := className_of_methodNamed hn
  have hinitY : kY.init = .initialized := Cond.initialized_spec (findClass_of_methodNamed hn) hkY hini'
  generalize hU : T.setVm vm₁ = U at *
  have hTU : U.heap = H := by rw [← hU]; exact hT
  subst hg
  have hA : At U g.method c below := X.here
  have hA2 : At U ({ g with stack := rest } : JFrame).method c below := X.here
  have happ : (headSpec ws rm).appliesLoose y e.platform (U.calling { g with stack := rest } mk a) = true :=
    Spec.appliesLoose_calling (g := { g with stack := rest }) hA2 (by rw [hb]; exact hdg) hn hkY hinitY
      (X.room_calling (g := { g with stack := rest }) (R' := (headSpec ws rm).room) (hsize.trans hml.symm) hmY hcY hfr (by rw [hlY]; show 2 * g.monitorRoom + (List.map (fun v => v.category) rest).sum + (maxL + 11) + rm.locals ≤ R.locals; omega) (by show cells + rm.cells ≤ _; rw [hrc]; exact hf.1) (by show slots + rm.slots ≤ _; rw [hrs]; exact hf.2)) (atoms_intro fun w hw => hws w hw _ _ X.warmed)
  obtain ⟨mid, hmid⟩ := hA.above
  have hfr2 : (U.setTop { g with stack := rest }).frames = (.java { g with stack := rest } :: mid) ++ below := by rw [State.frames_setTop' _ hA.top, hmid]; rfl
  obtain ⟨oc, s₂, hsteps, -, hend, hq⟩ := Steps.callFree hM p X.admits X.cas X.clock (acts := []) hfr2 happ (hbl _ _ _ _ (hPc U hTU X.warmed)) trivial
  have hq' : Qc a (U.calling { g with stack := rest } mk a) oc s₂ ∧ ∃ L, xFE (U.calling { g with stack := rest } mk a) s₂ L mc' ms' ∧ ∀ q ∈ L, free q.base := hq
  obtain ⟨hq1, Lc, ⟨hW₂, hsame⟩, hfree⟩ := hq'
  rw [State.frames_setTop' _ hA.top] at hend
  cases oc with
  | threw x =>
    obtain ⟨T', X', hW', hsame', he⟩ := X.outOfThrown (g := { g with stack := rest }) rfl (by rw [X.tail] at hend; exact hend) hW₂ hsame
    refine ⟨.threw x, U.calling { g with stack := rest } mk a, s₂, T', Lc, hTU, X', hfree, ?_, hq1, (fun v hv => Outcome.noConfusion hv), fun x' hx' target h => ?_⟩
    · rw [he, Stand.throwing_heap]
    · cases hx'
      refine hs target (hsteps.trans ?_)
      rw [he]
      exact h
  | returned v =>
    obtain ⟨e2, q2, q3, q4, q5, q6⟩ := hsame
    have e3 : s₂ = ({ (U.calling { g with stack := rest } mk a).setFrames s₂.frames with heap := s₂.heap, slotsUsed := s₂.slotsUsed } : State).setVm s₂.vm := by
      have : s₂ = ({ s₂ with vm := (U.calling { g with stack := rest } mk a).vm } : State).setVm s₂.vm := rfl
      rw [e2] at this
      exact this
    obtain ⟨c₂, i₂, len₂, hc₂, hd₂, hf₂⟩ := hend
    have hW' : U.WarmedH s₂.vm := hW₂
    have hcc : c₂ = c := by
      have h1 : s₂.code? g.method = U.code? g.method := by
        rw [State.code?_eq, State.code?_eq, hW'.alike.method?]
      exact Option.some.inj (hc₂.symm.trans (h1.trans hA.code))
    subst hcc
    have hlen : len₂ = 3 := by
      have hd₂ : decode c₂.code g.pc = .ok (i₂, len₂) := hd₂
      rw [hb, hdg] at hd₂; cases hd₂; rfl
    subst hlen
    obtain ⟨g₀, hg0⟩ := Option.isSome_iff_exists.mp hA.top
    obtain ⟨r, hr⟩ := State.topJava?_eq_some.mp hg0
    have hs₂ : s₂ = (({ U with heap := s₂.heap, slotsUsed := s₂.slotsUsed } : State).setVm s₂.vm).setTop { g with pc := g.pc + 3, stack := v.toList ++ rest } := by
      have hr' : (({ U with heap := s₂.heap, slotsUsed := s₂.slotsUsed } : State).setVm s₂.vm).frames = .java g₀ :: r := hr
      refine e3.trans ?_
      rw [hf₂, State.calling_eq hA.top, State.setFrames_setFrames, State.setTop_of_frames _ hr', hr]
      rfl
    have hsame2 : U.sameButNew ({ U with heap := s₂.heap, slotsUsed := s₂.slotsUsed } : State) Lc mc' ms' := by
      refine ⟨?_, q2, q3, q4, q5, q6⟩
      obtain ⟨t, ht, -⟩ := State.frames_cons hr
      show ({ U with heap := s₂.heap, slotsUsed := s₂.slotsUsed } : State) = { U.setFrames U.frames with heap := s₂.heap, slotsUsed := s₂.slotsUsed }
      rw [State.setFrames_self ht]
    refine ⟨.returned v, U.calling { g with stack := rest } mk a, s₂, ({ U with heap := s₂.heap, slotsUsed := s₂.slotsUsed } : State).setVm s₂.vm, Lc, hTU,
      ⟨X.admits, X.cas, X.clock, X.frames, X.room, X.hears, X.method, X.code, (X.here.setHeapUsed s₂.heap s₂.slotsUsed).setVm hW'.alike, X.tail, State.WarmedH.trans X.warmed hW', X.limits, X.bytes, X.same.trans (hsame2.setVm s.vm)⟩, hfree, rfl, hq1, fun v' hv' target h => ?_, (fun x hx => Outcome.noConfusion hx)⟩
    cases hv'
    refine hs target (hsteps.trans ?_)
    rw [hs₂]
    exact h
theorem g_callX {p : Program} {e : Env} {s : State} {m : MethodId} {args : Array Value} {below : List Frame} {meth : Method} {c : Code} {H H0 : Heap} {locs : List Loc} {cells slots mc' ms' : Nat} {Q : State → Prop} {ls : Array Slot} {rest st0 : List Value} {a : Array Value} {A0 A1 : Nat → Prop} {free : Addr → Prop} {vv' : β → Option Value} {K' : β → gY → gH → Prop} {E' : Nat → gY → gH → Prop}
    (hr : ∀ T : State, T.heap = H → Stand p l e R s m args below meth c T locs cells slots → ∃ (oc : Outcome) (st₀ t T' : State) (Lc : List Loc), st₀.heap = H ∧ Stand p l e R s m args below meth c T' (locs ++ Lc) (cells + mc') (slots + ms') ∧ (∀ q ∈ Lc, free q.base) ∧ T'.heap = t.heap ∧ gQx G L o ad vv' K' E' A1 a st₀ oc t ∧
      (∀ v, oc = .returned v → ∀ target, Steps p.tables e below (T'.setTop { F0 m pc ls st0 with pc := (F0 m pc ls st0).pc + 3, stack := v.toList ++ rest }) target → Steps p.tables e below (T.setTop (F0 m pc ls st0)) target) ∧
      (∀ x, oc = .threw x → ∀ target, Steps p.tables e below ((T'.setTop { F0 m pc ls st0 with stack := rest }).pushFrame (.throwing x)) target → Steps p.tables e below (T.setTop (F0 m pc ls st0)) target))
    (hS : va_S A0 H0 H locs) (hA : ∀ q, A1 q → A0 q) (hf : ∀ q, free q → A0 q)
    (kk : ∀ (r : β) (Y' : gY) (h' : gH) (H1 : Heap) (locs1 : List Loc), K' r Y' h' → gV G L o ad Y' h' H1 → gX L o ad h' → (∀ q e, h' q = some e → A1 q) → (∀ q : Nat, q < H.size → ¬ A1 q → H1[q]? = H[q]?) → va_S A0 H0 H1 locs1 → W p l e R s m args below meth c H1 locs1 (cells + mc') (slots + ms') Q (F0 m (pc + 3) ls ((vv' r).toList ++ rest)))
    (tt : ∀ (x : Nat) (Y' : gY) (h' : gH) (H1 : Heap) (locs1 : List Loc), E' x Y' h' → gV G L o ad Y' h' H1 → gX L o ad h' → (∀ q e, h' q = some e → A1 q) → (∀ q : Nat, q < H.size → ¬ A1 q → H1[q]? = H[q]?) → va_S A0 H0 H1 locs1 → ∀ T' : State, T'.heap = H1 → Stand p l e R s m args below meth c T' locs1 (cells + mc') (slots + ms') → ∃ t, Steps p.tables e below ((T'.setTop (F0 m pc ls rest)).pushFrame (.throwing x)) t ∧ Q t) :
    W p l e R s m args below meth c H locs cells slots Q (F0 m pc ls st0) := by
  intro T hT X
  obtain ⟨oc, st₀, t, T', L', h0, X', hL, e1, hq, stp, stt⟩ := hr T hT X
  have hva : ∀ (hz : st₀.heap.size ≤ t.heap.size) (hkp : ∀ q : Nat, q < st₀.heap.size → ¬ A1 q → t.heap[q]? = st₀.heap[q]?), va_S A0 H0 T'.heap (locs ++ L') := by
    intro hz hkp
    rw [h0] at hz hkp
    exact ⟨Nat.le_trans hS.1 (by rw [e1]; exact hz), fun q h1 h2 => by rw [e1, hkp q (Nat.lt_of_lt_of_le h1 hS.1) (fun z => h2 (hA q z))]; exact hS.2.1 q h1 h2, fun q hq => by
      rcases List.mem_append.mp hq with h | h
      · exact hS.2.2 q h
      · exact hf _ (hL q h)⟩
  rcases hq with ⟨⟨r, Y', h', hv, hk, hV, hX, hd⟩, hz, hkp⟩ | ⟨⟨x, Y', h', hv, hk, hV, hX, hd⟩, hz, hkp⟩
  · obtain ⟨t2, a1, b1⟩ := kk r Y' h' T'.heap (locs ++ L') hk (by rw [e1]; exact hV) hX hd (fun q h1 h2 => by rw [h0] at hkp; rw [e1]; exact hkp q h1 h2) (hva hz hkp) T' rfl X'
    exact ⟨t2, stp _ hv t2 a1, b1⟩
  · obtain ⟨t2, a1, b1⟩ := tt x Y' h' T'.heap (locs ++ L') hk (by rw [e1]; exact hV) hX hd (fun q h1 h2 => by rw [h0] at hkp; rw [e1]; exact hkp q h1 h2) (hva hz hkp) T' rfl X'
    exact ⟨t2, stt _ hv t2 a1, b1⟩
/-- a call of a method that may throw, from one that has no handlers: what it throws goes on -/
theorem j_callXV (S : gStX l R cc own nm nL ret G L o ad vv K E mc ms J) {y : MethodName} {bytes : ByteArray} {maxL mc' ms' index : Nat} {ret' : Option FieldType} {rm' : Room} {C : String} {b : Nat} {As rest : List Value} {vv' : β → Option Value} {K' : β → gY → gH → Prop} (n : Nat)
    (hM : gMetX l y (ws_ y bytes maxL ret') rm' G L o ad (.ref b :: As) vv' K' E mc' ms' Y h) (hw : GoodIn lw_all (wsV own index C y (ws_ y bytes maxL ret'))) (hrc : rm'.cells = mc') (hrs : rm'.slots = ms')
    (hd : y.cls = C ∧ y.cls ≠ "java/lang/invoke/MethodHandle" ∧ y.cls ≠ "java/lang/invoke/VarHandle" ∧ (parseMethodDescriptor y.desc).map (fun d => d.parameters.length) = some n) (hR1 : Nat.ble (rm'.frames + 1) R.frames = true) (hR2 : Nat.ble (8 + (maxL + 11) + rm'.locals) R.locals = true)
    (hrv : ∀ H, gV G L o ad Y h H → ∃ (ci : Nat) (q : vw_C) (fs : List Value), gcl[ci]? = some q ∧ q.1 = C ∧ va_at G.1 gcl (b, .inr (ci, fs)) H) (hn : As.length = n) (hst : st = As.reverse ++ .ref b :: rest) (hsum : Nat.ble (rest.map fun v => v.category).sum 8 = true)
    (d : decode cc pc = .ok (.invokevirtual index, 3)) (hcs : cs + mc' ≤ R.cells) (hss : ss + ms' ≤ R.slots) (hcm : cs + mc' ≤ mc) (hsm : ss + ms' ≤ ms)
    (kk : ∀ (r : β) (Y' : gY) (h' : gH), K' r Y' h' → J Y' h' (cs + mc') (ss + ms') (pc + 3) lv ((vv' r).toList ++ rest)) : J Y h cs ss pc lv st := by
  obtain ⟨p, e, s, m, args, below, meth, c, A, Qf, hQf, hQe, hout, rfl, hx, hb, hml, hr, hlk, hown, hts, hK, hnm, hG⟩ := S
  intro H locs ls w f hl
  subst hst
  obtain ⟨ci, q, fs, hq1, hq2, hat⟩ := hrv H w.1
  have hrecv := va_recv (q0 := 0) (ws := [(b, .inr (ci, fs))]) hK.1 (gP1 hat) hq1 rfl
  rw [hq2] at hrecv
  obtain ⟨⟨k1, k2, k3, k4, k5, k6, k7, k8, k9, k10, k11⟩, k12, k13⟩ := cwV n hts hw rfl hrc hrs hd ⟨Nat.le_of_ble_eq_true hR1, Nat.le_of_ble_eq_true hR2⟩
  refine g_callX (x_run (i_V (As := As) (rest := rest) (g := F0 m pc ls (As.reverse ++ .ref b :: rest)) hx hb hown k11 k12 k13 k7 k9 hrecv rfl (fun sig hs => hn.trans (k10 sig hs)) rfl d) (hM hG H.size) (gPre_blind hG) k1 k2 k3 k4 k5 k6 k8 hb hml (fun U hU hW => g_pre hG hK w f hU hW) rfl hl.1 (lv_room (Nat.le_of_ble_eq_true hsum)) d ⟨hcs, hss⟩) w.2.2.2 w.sub w.sub (fun r Y' h' H1 locs1 hk hV hX hdm hkp hS => ?_) (fun x Y' h' H1 locs1 hk hV hX hdm hkp hS T' hT' X' => ?_)
  · exact kk r Y' h' hk H1 locs1 ls (w.after hV hX hdm hS) (hG.2.2.2.1 A s H H1 (fun q h1 h2 => hkp q h1 (fun z => h2 (w.sub q z))) f) hl
  · have w' := w.after hV hX hdm hS
    obtain ⟨a1, a2, a3, a4, a5⟩ := (stand_widen X' hcm hsm).leaveThrown x (g := F0 m pc ls rest) rfl rfl rfl (x_out hout _) hlk
    exact ⟨_, a1, hQe _ ⟨.threw x, a2, a3, ⟨⟨x, Y', h', rfl, hk, by show gV _ _ _ _ _ _ T'.heap; rw [hT']; exact hV, hX, fun q e hq => w'.2.2.1 q (Or.inr (Or.inr (Or.inl ⟨e, hq⟩)))⟩, hS.F hT'⟩, _, ⟨a4, a5⟩, hS.2.2⟩⟩
end XT

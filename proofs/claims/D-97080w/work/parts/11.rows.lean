set_option maxRecDepth 100000
/-! ===== contracts and the judgement J ===== -/
def gQ {α : Type} (G : gG) (L : gL) (o : Nat) (ad : Nat → Nat) (vv : α → Option Value) (K : α → gY → gH → Prop) (A : Nat → Prop) : Array Value → State → Outcome → State → Prop :=
  fun _ st oc t => (∃ (r : α) (Y : gY) (h : gH), oc = .returned (vv r) ∧ K r Y h ∧ gV G L o ad Y h t.heap ∧ gX L o ad h ∧ ∀ q e, h q = some e → A q) ∧ va_F A st t
def gPre (G : gG) (L : gL) (o : Nat) (ad : Nat → Nat) (Y : gY) (h : gH) (av : List Value) (sz : Nat) : Array Value → State → Prop :=
  va_Pc av (fun U => U.heap.size = sz ∧ gV G L o ad Y h U.heap ∧ gX L o ad h ∧ gK G U ∧ G.2.2.2 (gA L o ad h sz) U U.heap)
/-- a method's contract: from the abstract state (Y, h) it returns with K of its answer and the abstract state then -/
def gMet {α : Type} (l : Launch) (y : MethodName) (ws : List Cond) (rm : Room) (G : gG) (L : gL) (o : Nat) (ad : Nat → Nat) (av : List Value) (vv : α → Option Value) (K : α → gY → gH → Prop) (mc ms : Nat) (Y : gY) (h : gH) : Prop :=
  gOK G → ∀ sz : Nat, Met l y ws rm (gPre G L o ad Y h av sz) (gQ G L o ad vv K (gA L o ad h sz)) mc ms (gA L o ad h sz)
abbrev gJt : Type := gY → gH → Nat → Nat → Nat → List (Option Value) → List Value → Prop
def gJf (p : Program) (l : Launch) (e : Env) (R : Room) (s : State) (m : MethodId) (args : Array Value) (below : List Frame) (meth : Method) (c : Code) (Q : State → Prop) (nL : Nat) (G : gG) (L : gL) (o : Nat) (ad : Nat → Nat) (A : Nat → Prop) : gJt :=
  fun Y h cs ss pc lv st => ∀ (H : Heap) (locs : List Loc) (ls : Array Slot), gW G L o ad Y h A s.heap H locs → G.2.2.2 A s H → glv ls nL lv → W p l e R s m args below meth c H locs cs ss Q (F0 m pc ls st)
def gSt {α : Type} (l : Launch) (R : Room) (cc : ByteArray) (own nm : String) (nL : Nat) (ret : Option FieldType) (G : gG) (L : gL) (o : Nat) (ad : Nat → Nat) (vv : α → Option Value) (K : α → gY → gH → Prop) (mc ms : Nat) (J : gJt) : Prop :=
  ∃ (p : Program) (e : Env) (s : State) (m : MethodId) (args : Array Value) (below : List Frame) (meth : Method) (c : Code) (A : Nat → Prop) (Qf : State → Prop), ((∀ t, MQ below (gQ G L o ad vv K A) args s mc ms A t → Qf t) ∧ ∀ q, A q → ∀ cell : Cell, s.heap[q]? = some cell → cell.vm.isStatics = false) ∧
    J = gJf p l e R s m args below meth c Qf nL G L o ad A ∧ p.tables.exec = Jvm.exec ∧ c.code = cc ∧ c.maxLocals = nL ∧ meth.sig.returnType = ret ∧ meth.locks = false ∧ s.vm.findClass own = some m.cls ∧ (∀ w ∈ lw_all, w.before args s = true) ∧ gK G s ∧ meth.name = nm ∧ gOK G
theorem gmono {p : Program} {l : Launch} {e : Env} {R : Room} {s : State} {m : MethodId} {args : Array Value} {below : List Frame} {meth : Method} {c : Code} {H : Heap} {locs : List Loc} {cells slots : Nat} {Q Q' : State → Prop} {g : JFrame} (hQ : ∀ t, Q t → Q' t) (k : W p l e R s m args below meth c H locs cells slots Q g) : W p l e R s m args below meth c H locs cells slots Q' g := by
  intro T hT X
  obtain ⟨t, a, b⟩ := k T hT X
  exact ⟨t, a, hQ t b⟩
theorem gK.moved {G : gG} {u U : State} (hG : gOK G) (hW : u.WarmedH U.vm) (h : gK G u) : gK G U := ⟨va_K.moved hW.alike h.1, hG.1 u U hW h.2⟩
theorem gPre_blind {G : gG} {L : gL} {o : Nat} {ad : Nat → Nat} {Y : gY} {h : gH} {av : List Value} {sz : Nat} (hG : gOK G) : FrameBlind (gPre G L o ad Y h av sz) := by
  intro a U g mk q
  obtain ⟨q0, q1, q2, q3, q4, q5⟩ := q
  exact ⟨q0, q1, q2, q3, ⟨va_K.moved (u := U) (U := U.calling g mk a) (Vm.Alike.refl U.vm) q4.1, hG.2.1 U _ rfl q4.2⟩, hG.2.2.1 _ U (U.calling g mk a) _ (Vm.Alike.refl U.vm) q5⟩
theorem gMet.of {α : Type} {l : Launch} {y : MethodName} {cc : ByteArray} {nL : Nat} {ret : Option FieldType} {ws' : List Cond} {rm : Room} {G : gG} {L : gL} {o : Nat} {ad : Nat → Nat} {av : List Value} {vv : α → Option Value} {K : α → gY → gH → Prop} {mc ms : Nat} {Y : gY} {h : gH} {lv : List (Option Value)}
    (hy : plainName y.cls = true) (hla : (lg_sl av).length ≤ nL) (hlv : ∀ (i : Nat) (v : Value), lv[i]? = some (some v) → (i, v) ∈ lv_args 0 av)
    (body : ∀ J : gJt, gSt l rm cc y.cls y.name nL ret G L o ad vv K mc ms J → J Y h 0 0 0 lv []) : gMet l y (ws_ y cc nL ret) rm G L o ad av vv K mc ms Y h := by
  intro hG sz
  refine Met.ofW (cc := cc) (maxL := nL) (ret := ret) hy rfl ?_
  intro p e s m args below meth c s₁ B hml hv
  obtain ⟨rfl, hsz, hV, hX, hK, hF⟩ := hv
  have hts := atoms_spec (ws := ws_ y cc nL ret) B.pre
  have hts : ∀ w ∈ lw_all, w.before _ s = true := fun w h => hts w (List.mem_cons_of_mem _ h)
  have hown : s.vm.findClass y.cls = some m.cls := findClass_of_methodNamed B.named
  subst hsz
  have hl := lv_entry av (n := nL) hla
  rw [lg_entry_eq]
  have S := body _ ⟨p, e, s, m, _, below, meth, c, gA L o ad h s.heap.size, _, ⟨fun _ h => h, gA_ns hV⟩, rfl, B.exec, B.bytes, hml, B.returns, B.notSynchronized, hown, hts, hK, (name_of_methodNamed B.named B.method).1, hG⟩
  exact S s.heap [] _ ⟨hV, hX, fun q hq => hq, va_S.rf⟩ hF ⟨hl.1, hl.2.1, fun i v hi => hl.2.2 (i, v) (hlv i v hi)⟩
section RW
variable {α β : Type} {l : Launch} {R : Room} {cc : ByteArray} {own nm : String} {nL : Nat} {ret : Option FieldType} {G : gG} {L : gL} {o : Nat} {ad : Nat → Nat} {vv : α → Option Value} {K : α → gY → gH → Prop} {mc ms : Nat} {J : gJt}
variable {Y : gY} {h : gH} {cs ss pc : Nat} {lv : List (Option Value)} {st : List Value}
theorem j_sub (S : gSt l R cc own nm nL ret G L o ad vv K mc ms J) {lv' : List (Option Value)} (k : J Y h cs ss pc lv' st) (hs : gle lv' lv) : J Y h cs ss pc lv st := by
  obtain ⟨p, e, s, m, args, below, meth, c, A, Qf, hQf, rfl, hx, hb, hml, hr, hlk, hown, hts, hK, hnm, hG⟩ := S
  exact fun H locs ls w f hl => k H locs ls w f (hl.sub hs)
theorem j_topi {x : Int32} (k : ∀ y : Int32, y = x → J Y h cs ss pc lv (.int y :: st)) : J Y h cs ss pc lv (.int x :: st) := k x rfl
theorem j_topl {x : Int64} (k : ∀ y : Int64, y = x → J Y h cs ss pc lv (.long y :: st)) : J Y h cs ss pc lv (.long x :: st) := k x rfl
theorem j_widen (S : gSt l R cc own nm nL ret G L o ad vv K mc ms J) {cs' ss' : Nat} (h1 : cs ≤ cs') (h2 : ss ≤ ss') (k : J Y h cs' ss' pc lv st) : J Y h cs ss pc lv st := by
  obtain ⟨p, e, s, m, args, below, meth, c, A, Qf, hQf, rfl, hx, hb, hml, hr, hlk, hown, hts, hK, hnm, hG⟩ := S
  exact fun H locs ls w f hl => W.widen h1 h2 (k H locs ls w f hl)
theorem j_iconst (S : gSt l R cc own nm nL ret G L o ad vv K mc ms J) {n : Int} {v : Int32} (d : decode cc pc = .ok (.iconst n, 1)) (hv : Int32.ofInt n = v) (k : J Y h cs ss (pc + 1) lv (.int v :: st)) : J Y h cs ss pc lv st := by
  obtain ⟨p, e, s, m, args, below, meth, c, A, Qf, hQf, rfl, hx, hb, hml, hr, hlk, hown, hts, hK, hnm, hG⟩ := S
  exact fun H locs ls w f hl => lv_iconst hx hb d hv (k H locs ls w f hl)
theorem j_bipush (S : gSt l R cc own nm nL ret G L o ad vv K mc ms J) {n : Int} {v : Int32} (d : decode cc pc = .ok (.bipush n, 2)) (hv : (Int8.ofInt n).toInt32 = v) (k : J Y h cs ss (pc + 2) lv (.int v :: st)) : J Y h cs ss pc lv st := by
  obtain ⟨p, e, s, m, args, below, meth, c, A, Qf, hQf, rfl, hx, hb, hml, hr, hlk, hown, hts, hK, hnm, hG⟩ := S
  exact fun H locs ls w f hl => lv_bipush hx hb d hv (k H locs ls w f hl)
theorem j_sipush (S : gSt l R cc own nm nL ret G L o ad vv K mc ms J) {n : Int} {v : Int32} (d : decode cc pc = .ok (.sipush n, 3)) (hv : (Int16.ofInt n).toInt32 = v) (k : J Y h cs ss (pc + 3) lv (.int v :: st)) : J Y h cs ss pc lv st := by
  obtain ⟨p, e, s, m, args, below, meth, c, A, Qf, hQf, rfl, hx, hb, hml, hr, hlk, hown, hts, hK, hnm, hG⟩ := S
  exact fun H locs ls w f hl => lv_sipush hx hb d hv (k H locs ls w f hl)
theorem j_lconst (S : gSt l R cc own nm nL ret G L o ad vv K mc ms J) {n : Fin 2} {v : Int64} (d : decode cc pc = .ok (.lconst n, 1)) (hv : Int64.ofNat (n : Nat) = v) (k : J Y h cs ss (pc + 1) lv (.long v :: st)) : J Y h cs ss pc lv st := by
  obtain ⟨p, e, s, m, args, below, meth, c, A, Qf, hQf, rfl, hx, hb, hml, hr, hlk, hown, hts, hK, hnm, hG⟩ := S
  exact fun H locs ls w f hl => lv_lconst hx hb d hv (k H locs ls w f hl)
theorem j_ldc (S : gSt l R cc own nm nL ret G L o ad vv K mc ms J) {index : Nat} {v : Int32} (q : Cond.constant own index v ∈ lw_all) (d : decode cc pc = .ok (.ldc index, 2)) (k : J Y h cs ss (pc + 2) lv (.int v :: st)) : J Y h cs ss pc lv st := by
  obtain ⟨p, e, s, m, args, below, meth, c, A, Qf, hQf, rfl, hx, hb, hml, hr, hlk, hown, hts, hK, hnm, hG⟩ := S
  exact fun H locs ls w f hl => lv_ldc hx hb hown (hts _ q) d (k H locs ls w f hl)
theorem j_ldcw (S : gSt l R cc own nm nL ret G L o ad vv K mc ms J) {index : Nat} {v : Int32} (q : Cond.constant own index v ∈ lw_all) (d : decode cc pc = .ok (.ldc_w index, 3)) (k : J Y h cs ss (pc + 3) lv (.int v :: st)) : J Y h cs ss pc lv st := by
  obtain ⟨p, e, s, m, args, below, meth, c, A, Qf, hQf, rfl, hx, hb, hml, hr, hlk, hown, hts, hK, hnm, hG⟩ := S
  exact fun H locs ls w f hl => lv_ldcw hx hb hown (hts _ q) d (k H locs ls w f hl)
theorem j_ldc2 (S : gSt l R cc own nm nL ret G L o ad vv K mc ms J) {index : Nat} {v : Int64} (q : Cond.constantLong own index v ∈ lw_all) (d : decode cc pc = .ok (.ldc2_w index, 3)) (k : J Y h cs ss (pc + 3) lv (.long v :: st)) : J Y h cs ss pc lv st := by
  obtain ⟨p, e, s, m, args, below, meth, c, A, Qf, hQf, rfl, hx, hb, hml, hr, hlk, hown, hts, hK, hnm, hG⟩ := S
  exact fun H locs ls w f hl => lv_ldc2 hx hb hown (hts _ q) d (k H locs ls w f hl)
theorem j_ild0 (S : gSt l R cc own nm nL ret G L o ad vv K mc ms J) {t : List (Option Value)} {x : Int32} (d : decode cc pc = .ok (.iload_n 0, 1)) (k : J Y h cs ss (pc + 1) (some (.int x) :: t) (.int x :: st)) : J Y h cs ss pc (some (.int x) :: t) st := by
  obtain ⟨p, e, s, m, args, below, meth, c, A, Qf, hQf, rfl, hx, hb, hml, hr, hlk, hown, hts, hK, hnm, hG⟩ := S
  exact fun H locs ls w f hl => lv_iload_n hx hb d rfl (hl.2.2 0 _ rfl) (k H locs ls w f hl)
theorem j_ald0 (S : gSt l R cc own nm nL ret G L o ad vv K mc ms J) {t : List (Option Value)} {x : Nat} (d : decode cc pc = .ok (.aload_n 0, 1)) (k : J Y h cs ss (pc + 1) (some (.ref x) :: t) (.ref x :: st)) : J Y h cs ss pc (some (.ref x) :: t) st := by
  obtain ⟨p, e, s, m, args, below, meth, c, A, Qf, hQf, rfl, hx, hb, hml, hr, hlk, hown, hts, hK, hnm, hG⟩ := S
  exact fun H locs ls w f hl => lv_aload_n hx hb d rfl (hl.2.2 0 _ rfl) (k H locs ls w f hl)
theorem j_lld0 (S : gSt l R cc own nm nL ret G L o ad vv K mc ms J) {t : List (Option Value)} {x : Int64} (d : decode cc pc = .ok (.lload_n 0, 1)) (k : J Y h cs ss (pc + 1) (some (.long x) :: t) (.long x :: st)) : J Y h cs ss pc (some (.long x) :: t) st := by
  obtain ⟨p, e, s, m, args, below, meth, c, A, Qf, hQf, rfl, hx, hb, hml, hr, hlk, hown, hts, hK, hnm, hG⟩ := S
  exact fun H locs ls w f hl => lv_lload_n hx hb d rfl (hl.2.2 0 _ rfl) (k H locs ls w f hl)
theorem j_ist0 (S : gSt l R cc own nm nL ret G L o ad vv K mc ms J) {a0 : Option Value} {t : List (Option Value)} {x : Int32} (d : decode cc pc = .ok (.istore_n 0, 1)) (hn : Nat.ble 1 nL = true) (hg : gok (a0 :: t) 0 = true) (k : J Y h cs ss (pc + 1) (some (.int x) :: t) st) : J Y h cs ss pc (a0 :: t) (.int x :: st) := by
  obtain ⟨p, e, s, m, args, below, meth, c, A, Qf, hQf, rfl, hx, hb, hml, hr, hlk, hown, hts, hK, hnm, hG⟩ := S
  exact fun H locs ls w f hl => lv_istore_n hx hb d rfl hl.has (Nat.le_of_ble_eq_true hn) rfl (fun ls' hl' => k H locs ls' w f (glv.put hg hl'))
theorem j_ast0 (S : gSt l R cc own nm nL ret G L o ad vv K mc ms J) {a0 : Option Value} {t : List (Option Value)} {x : Nat} (d : decode cc pc = .ok (.astore_n 0, 1)) (hn : Nat.ble 1 nL = true) (hg : gok (a0 :: t) 0 = true) (k : J Y h cs ss (pc + 1) (some (.ref x) :: t) st) : J Y h cs ss pc (a0 :: t) (.ref x :: st) := by
  obtain ⟨p, e, s, m, args, below, meth, c, A, Qf, hQf, rfl, hx, hb, hml, hr, hlk, hown, hts, hK, hnm, hG⟩ := S
  exact fun H locs ls w f hl => lv_astore_n hx hb d rfl hl.has (Nat.le_of_ble_eq_true hn) rfl (fun ls' hl' => k H locs ls' w f (glv.put hg hl'))
theorem j_lst0 (S : gSt l R cc own nm nL ret G L o ad vv K mc ms J) {a0 a1 : Option Value} {t : List (Option Value)} {x : Int64} (d : decode cc pc = .ok (.lstore_n 0, 1)) (hn : Nat.ble 2 nL = true) (hg : gok (a0 :: a1 :: t) 0 = true) (k : J Y h cs ss (pc + 1) (some (.long x) :: none :: t) st) : J Y h cs ss pc (a0 :: a1 :: t) (.long x :: st) := by
  obtain ⟨p, e, s, m, args, below, meth, c, A, Qf, hQf, rfl, hx, hb, hml, hr, hlk, hown, hts, hK, hnm, hG⟩ := S
  exact fun H locs ls w f hl => lv_lstore_n hx hb d rfl hl.has (Nat.le_of_ble_eq_true hn) rfl (fun ls' hl' => k H locs ls' w f (glv.put2 hg hl'))
theorem j_iinc0 (S : gSt l R cc own nm nL ret G L o ad vv K mc ms J) {t : List (Option Value)} {x v : Int32} {n : Int} (d : decode cc pc = .ok (.iinc 0 n, 3)) (hv : x + Int32.ofInt n = v) (hn : Nat.ble 1 nL = true) (hg : gok (some (.int x) :: t) 0 = true) (k : J Y h cs ss (pc + 3) (some (.int v) :: t) st) : J Y h cs ss pc (some (.int x) :: t) st := by
  obtain ⟨p, e, s, m, args, below, meth, c, A, Qf, hQf, rfl, hx, hb, hml, hr, hlk, hown, hts, hK, hnm, hG⟩ := S
  exact fun H locs ls w f hl => by
    obtain ⟨q, hq⟩ := List.getElem?_of_mem (gtp_mem.mpr (show (some (.int x) :: t)[0]? = some (some (.int x)) from rfl))
    exact lv_iinc hx hb d hl.has hq hv (Nat.le_of_ble_eq_true hn) rfl (fun ls' hl' => k H locs ls' w f (glv.put hg hl'))
theorem j_ild1 (S : gSt l R cc own nm nL ret G L o ad vv K mc ms J) {a0 : Option Value} {t : List (Option Value)} {x : Int32} (d : decode cc pc = .ok (.iload_n 1, 1)) (k : J Y h cs ss (pc + 1) (a0 :: some (.int x) :: t) (.int x :: st)) : J Y h cs ss pc (a0 :: some (.int x) :: t) st := by
  obtain ⟨p, e, s, m, args, below, meth, c, A, Qf, hQf, rfl, hx, hb, hml, hr, hlk, hown, hts, hK, hnm, hG⟩ := S
  exact fun H locs ls w f hl => lv_iload_n hx hb d rfl (hl.2.2 1 _ rfl) (k H locs ls w f hl)
theorem j_ald1 (S : gSt l R cc own nm nL ret G L o ad vv K mc ms J) {a0 : Option Value} {t : List (Option Value)} {x : Nat} (d : decode cc pc = .ok (.aload_n 1, 1)) (k : J Y h cs ss (pc + 1) (a0 :: some (.ref x) :: t) (.ref x :: st)) : J Y h cs ss pc (a0 :: some (.ref x) :: t) st := by
  obtain ⟨p, e, s, m, args, below, meth, c, A, Qf, hQf, rfl, hx, hb, hml, hr, hlk, hown, hts, hK, hnm, hG⟩ := S
  exact fun H locs ls w f hl => lv_aload_n hx hb d rfl (hl.2.2 1 _ rfl) (k H locs ls w f hl)
theorem j_lld1 (S : gSt l R cc own nm nL ret G L o ad vv K mc ms J) {a0 : Option Value} {t : List (Option Value)} {x : Int64} (d : decode cc pc = .ok (.lload_n 1, 1)) (k : J Y h cs ss (pc + 1) (a0 :: some (.long x) :: t) (.long x :: st)) : J Y h cs ss pc (a0 :: some (.long x) :: t) st := by
  obtain ⟨p, e, s, m, args, below, meth, c, A, Qf, hQf, rfl, hx, hb, hml, hr, hlk, hown, hts, hK, hnm, hG⟩ := S
  exact fun H locs ls w f hl => lv_lload_n hx hb d rfl (hl.2.2 1 _ rfl) (k H locs ls w f hl)
theorem j_ist1 (S : gSt l R cc own nm nL ret G L o ad vv K mc ms J) {a0 a1 : Option Value} {t : List (Option Value)} {x : Int32} (d : decode cc pc = .ok (.istore_n 1, 1)) (hn : Nat.ble 2 nL = true) (hg : gok (a0 :: a1 :: t) 1 = true) (k : J Y h cs ss (pc + 1) (a0 :: some (.int x) :: t) st) : J Y h cs ss pc (a0 :: a1 :: t) (.int x :: st) := by
  obtain ⟨p, e, s, m, args, below, meth, c, A, Qf, hQf, rfl, hx, hb, hml, hr, hlk, hown, hts, hK, hnm, hG⟩ := S
  exact fun H locs ls w f hl => lv_istore_n hx hb d rfl hl.has (Nat.le_of_ble_eq_true hn) rfl (fun ls' hl' => k H locs ls' w f (glv.put hg hl'))
theorem j_ast1 (S : gSt l R cc own nm nL ret G L o ad vv K mc ms J) {a0 a1 : Option Value} {t : List (Option Value)} {x : Nat} (d : decode cc pc = .ok (.astore_n 1, 1)) (hn : Nat.ble 2 nL = true) (hg : gok (a0 :: a1 :: t) 1 = true) (k : J Y h cs ss (pc + 1) (a0 :: some (.ref x) :: t) st) : J Y h cs ss pc (a0 :: a1 :: t) (.ref x :: st) := by
  obtain ⟨p, e, s, m, args, below, meth, c, A, Qf, hQf, rfl, hx, hb, hml, hr, hlk, hown, hts, hK, hnm, hG⟩ := S
  exact fun H locs ls w f hl => lv_astore_n hx hb d rfl hl.has (Nat.le_of_ble_eq_true hn) rfl (fun ls' hl' => k H locs ls' w f (glv.put hg hl'))
theorem j_lst1 (S : gSt l R cc own nm nL ret G L o ad vv K mc ms J) {a0 a1 a2 : Option Value} {t : List (Option Value)} {x : Int64} (d : decode cc pc = .ok (.lstore_n 1, 1)) (hn : Nat.ble 3 nL = true) (hg : gok (a0 :: a1 :: a2 :: t) 1 = true) (k : J Y h cs ss (pc + 1) (a0 :: some (.long x) :: none :: t) st) : J Y h cs ss pc (a0 :: a1 :: a2 :: t) (.long x :: st) := by
  obtain ⟨p, e, s, m, args, below, meth, c, A, Qf, hQf, rfl, hx, hb, hml, hr, hlk, hown, hts, hK, hnm, hG⟩ := S
  exact fun H locs ls w f hl => lv_lstore_n hx hb d rfl hl.has (Nat.le_of_ble_eq_true hn) rfl (fun ls' hl' => k H locs ls' w f (glv.put2 hg hl'))
theorem j_iinc1 (S : gSt l R cc own nm nL ret G L o ad vv K mc ms J) {a0 : Option Value} {t : List (Option Value)} {x v : Int32} {n : Int} (d : decode cc pc = .ok (.iinc 1 n, 3)) (hv : x + Int32.ofInt n = v) (hn : Nat.ble 2 nL = true) (hg : gok (a0 :: some (.int x) :: t) 1 = true) (k : J Y h cs ss (pc + 3) (a0 :: some (.int v) :: t) st) : J Y h cs ss pc (a0 :: some (.int x) :: t) st := by
  obtain ⟨p, e, s, m, args, below, meth, c, A, Qf, hQf, rfl, hx, hb, hml, hr, hlk, hown, hts, hK, hnm, hG⟩ := S
  exact fun H locs ls w f hl => by
    obtain ⟨q, hq⟩ := List.getElem?_of_mem (gtp_mem.mpr (show (a0 :: some (.int x) :: t)[1]? = some (some (.int x)) from rfl))
    exact lv_iinc hx hb d hl.has hq hv (Nat.le_of_ble_eq_true hn) rfl (fun ls' hl' => k H locs ls' w f (glv.put hg hl'))
theorem j_ild2 (S : gSt l R cc own nm nL ret G L o ad vv K mc ms J) {a0 a1 : Option Value} {t : List (Option Value)} {x : Int32} (d : decode cc pc = .ok (.iload_n 2, 1)) (k : J Y h cs ss (pc + 1) (a0 :: a1 :: some (.int x) :: t) (.int x :: st)) : J Y h cs ss pc (a0 :: a1 :: some (.int x) :: t) st := by
  obtain ⟨p, e, s, m, args, below, meth, c, A, Qf, hQf, rfl, hx, hb, hml, hr, hlk, hown, hts, hK, hnm, hG⟩ := S
  exact fun H locs ls w f hl => lv_iload_n hx hb d rfl (hl.2.2 2 _ rfl) (k H locs ls w f hl)
theorem j_ald2 (S : gSt l R cc own nm nL ret G L o ad vv K mc ms J) {a0 a1 : Option Value} {t : List (Option Value)} {x : Nat} (d : decode cc pc = .ok (.aload_n 2, 1)) (k : J Y h cs ss (pc + 1) (a0 :: a1 :: some (.ref x) :: t) (.ref x :: st)) : J Y h cs ss pc (a0 :: a1 :: some (.ref x) :: t) st := by
  obtain ⟨p, e, s, m, args, below, meth, c, A, Qf, hQf, rfl, hx, hb, hml, hr, hlk, hown, hts, hK, hnm, hG⟩ := S
  exact fun H locs ls w f hl => lv_aload_n hx hb d rfl (hl.2.2 2 _ rfl) (k H locs ls w f hl)
theorem j_lld2 (S : gSt l R cc own nm nL ret G L o ad vv K mc ms J) {a0 a1 : Option Value} {t : List (Option Value)} {x : Int64} (d : decode cc pc = .ok (.lload_n 2, 1)) (k : J Y h cs ss (pc + 1) (a0 :: a1 :: some (.long x) :: t) (.long x :: st)) : J Y h cs ss pc (a0 :: a1 :: some (.long x) :: t) st := by
  obtain ⟨p, e, s, m, args, below, meth, c, A, Qf, hQf, rfl, hx, hb, hml, hr, hlk, hown, hts, hK, hnm, hG⟩ := S
  exact fun H locs ls w f hl => lv_lload_n hx hb d rfl (hl.2.2 2 _ rfl) (k H locs ls w f hl)
theorem j_ist2 (S : gSt l R cc own nm nL ret G L o ad vv K mc ms J) {a0 a1 a2 : Option Value} {t : List (Option Value)} {x : Int32} (d : decode cc pc = .ok (.istore_n 2, 1)) (hn : Nat.ble 3 nL = true) (hg : gok (a0 :: a1 :: a2 :: t) 2 = true) (k : J Y h cs ss (pc + 1) (a0 :: a1 :: some (.int x) :: t) st) : J Y h cs ss pc (a0 :: a1 :: a2 :: t) (.int x :: st) := by
  obtain ⟨p, e, s, m, args, below, meth, c, A, Qf, hQf, rfl, hx, hb, hml, hr, hlk, hown, hts, hK, hnm, hG⟩ := S
  exact fun H locs ls w f hl => lv_istore_n hx hb d rfl hl.has (Nat.le_of_ble_eq_true hn) rfl (fun ls' hl' => k H locs ls' w f (glv.put hg hl'))
theorem j_ast2 (S : gSt l R cc own nm nL ret G L o ad vv K mc ms J) {a0 a1 a2 : Option Value} {t : List (Option Value)} {x : Nat} (d : decode cc pc = .ok (.astore_n 2, 1)) (hn : Nat.ble 3 nL = true) (hg : gok (a0 :: a1 :: a2 :: t) 2 = true) (k : J Y h cs ss (pc + 1) (a0 :: a1 :: some (.ref x) :: t) st) : J Y h cs ss pc (a0 :: a1 :: a2 :: t) (.ref x :: st) := by
  obtain ⟨p, e, s, m, args, below, meth, c, A, Qf, hQf, rfl, hx, hb, hml, hr, hlk, hown, hts, hK, hnm, hG⟩ := S
  exact fun H locs ls w f hl => lv_astore_n hx hb d rfl hl.has (Nat.le_of_ble_eq_true hn) rfl (fun ls' hl' => k H locs ls' w f (glv.put hg hl'))
theorem j_lst2 (S : gSt l R cc own nm nL ret G L o ad vv K mc ms J) {a0 a1 a2 a3 : Option Value} {t : List (Option Value)} {x : Int64} (d : decode cc pc = .ok (.lstore_n 2, 1)) (hn : Nat.ble 4 nL = true) (hg : gok (a0 :: a1 :: a2 :: a3 :: t) 2 = true) (k : J Y h cs ss (pc + 1) (a0 :: a1 :: some (.long x) :: none :: t) st) : J Y h cs ss pc (a0 :: a1 :: a2 :: a3 :: t) (.long x :: st) := by
  obtain ⟨p, e, s, m, args, below, meth, c, A, Qf, hQf, rfl, hx, hb, hml, hr, hlk, hown, hts, hK, hnm, hG⟩ := S
  exact fun H locs ls w f hl => lv_lstore_n hx hb d rfl hl.has (Nat.le_of_ble_eq_true hn) rfl (fun ls' hl' => k H locs ls' w f (glv.put2 hg hl'))
theorem j_iinc2 (S : gSt l R cc own nm nL ret G L o ad vv K mc ms J) {a0 a1 : Option Value} {t : List (Option Value)} {x v : Int32} {n : Int} (d : decode cc pc = .ok (.iinc 2 n, 3)) (hv : x + Int32.ofInt n = v) (hn : Nat.ble 3 nL = true) (hg : gok (a0 :: a1 :: some (.int x) :: t) 2 = true) (k : J Y h cs ss (pc + 3) (a0 :: a1 :: some (.int v) :: t) st) : J Y h cs ss pc (a0 :: a1 :: some (.int x) :: t) st := by
  obtain ⟨p, e, s, m, args, below, meth, c, A, Qf, hQf, rfl, hx, hb, hml, hr, hlk, hown, hts, hK, hnm, hG⟩ := S
  exact fun H locs ls w f hl => by
    obtain ⟨q, hq⟩ := List.getElem?_of_mem (gtp_mem.mpr (show (a0 :: a1 :: some (.int x) :: t)[2]? = some (some (.int x)) from rfl))
    exact lv_iinc hx hb d hl.has hq hv (Nat.le_of_ble_eq_true hn) rfl (fun ls' hl' => k H locs ls' w f (glv.put hg hl'))
theorem j_ild3 (S : gSt l R cc own nm nL ret G L o ad vv K mc ms J) {a0 a1 a2 : Option Value} {t : List (Option Value)} {x : Int32} (d : decode cc pc = .ok (.iload_n 3, 1)) (k : J Y h cs ss (pc + 1) (a0 :: a1 :: a2 :: some (.int x) :: t) (.int x :: st)) : J Y h cs ss pc (a0 :: a1 :: a2 :: some (.int x) :: t) st := by
  obtain ⟨p, e, s, m, args, below, meth, c, A, Qf, hQf, rfl, hx, hb, hml, hr, hlk, hown, hts, hK, hnm, hG⟩ := S
  exact fun H locs ls w f hl => lv_iload_n hx hb d rfl (hl.2.2 3 _ rfl) (k H locs ls w f hl)
theorem j_ald3 (S : gSt l R cc own nm nL ret G L o ad vv K mc ms J) {a0 a1 a2 : Option Value} {t : List (Option Value)} {x : Nat} (d : decode cc pc = .ok (.aload_n 3, 1)) (k : J Y h cs ss (pc + 1) (a0 :: a1 :: a2 :: some (.ref x) :: t) (.ref x :: st)) : J Y h cs ss pc (a0 :: a1 :: a2 :: some (.ref x) :: t) st := by
  obtain ⟨p, e, s, m, args, below, meth, c, A, Qf, hQf, rfl, hx, hb, hml, hr, hlk, hown, hts, hK, hnm, hG⟩ := S
  exact fun H locs ls w f hl => lv_aload_n hx hb d rfl (hl.2.2 3 _ rfl) (k H locs ls w f hl)
theorem j_lld3 (S : gSt l R cc own nm nL ret G L o ad vv K mc ms J) {a0 a1 a2 : Option Value} {t : List (Option Value)} {x : Int64} (d : decode cc pc = .ok (.lload_n 3, 1)) (k : J Y h cs ss (pc + 1) (a0 :: a1 :: a2 :: some (.long x) :: t) (.long x :: st)) : J Y h cs ss pc (a0 :: a1 :: a2 :: some (.long x) :: t) st := by
  obtain ⟨p, e, s, m, args, below, meth, c, A, Qf, hQf, rfl, hx, hb, hml, hr, hlk, hown, hts, hK, hnm, hG⟩ := S
  exact fun H locs ls w f hl => lv_lload_n hx hb d rfl (hl.2.2 3 _ rfl) (k H locs ls w f hl)
theorem j_ist3 (S : gSt l R cc own nm nL ret G L o ad vv K mc ms J) {a0 a1 a2 a3 : Option Value} {t : List (Option Value)} {x : Int32} (d : decode cc pc = .ok (.istore_n 3, 1)) (hn : Nat.ble 4 nL = true) (hg : gok (a0 :: a1 :: a2 :: a3 :: t) 3 = true) (k : J Y h cs ss (pc + 1) (a0 :: a1 :: a2 :: some (.int x) :: t) st) : J Y h cs ss pc (a0 :: a1 :: a2 :: a3 :: t) (.int x :: st) := by
  obtain ⟨p, e, s, m, args, below, meth, c, A, Qf, hQf, rfl, hx, hb, hml, hr, hlk, hown, hts, hK, hnm, hG⟩ := S
  exact fun H locs ls w f hl => lv_istore_n hx hb d rfl hl.has (Nat.le_of_ble_eq_true hn) rfl (fun ls' hl' => k H locs ls' w f (glv.put hg hl'))
theorem j_ast3 (S : gSt l R cc own nm nL ret G L o ad vv K mc ms J) {a0 a1 a2 a3 : Option Value} {t : List (Option Value)} {x : Nat} (d : decode cc pc = .ok (.astore_n 3, 1)) (hn : Nat.ble 4 nL = true) (hg : gok (a0 :: a1 :: a2 :: a3 :: t) 3 = true) (k : J Y h cs ss (pc + 1) (a0 :: a1 :: a2 :: some (.ref x) :: t) st) : J Y h cs ss pc (a0 :: a1 :: a2 :: a3 :: t) (.ref x :: st) := by
  obtain ⟨p, e, s, m, args, below, meth, c, A, Qf, hQf, rfl, hx, hb, hml, hr, hlk, hown, hts, hK, hnm, hG⟩ := S
  exact fun H locs ls w f hl => lv_astore_n hx hb d rfl hl.has (Nat.le_of_ble_eq_true hn) rfl (fun ls' hl' => k H locs ls' w f (glv.put hg hl'))
theorem j_lst3 (S : gSt l R cc own nm nL ret G L o ad vv K mc ms J) {a0 a1 a2 a3 a4 : Option Value} {t : List (Option Value)} {x : Int64} (d : decode cc pc = .ok (.lstore_n 3, 1)) (hn : Nat.ble 5 nL = true) (hg : gok (a0 :: a1 :: a2 :: a3 :: a4 :: t) 3 = true) (k : J Y h cs ss (pc + 1) (a0 :: a1 :: a2 :: some (.long x) :: none :: t) st) : J Y h cs ss pc (a0 :: a1 :: a2 :: a3 :: a4 :: t) (.long x :: st) := by
  obtain ⟨p, e, s, m, args, below, meth, c, A, Qf, hQf, rfl, hx, hb, hml, hr, hlk, hown, hts, hK, hnm, hG⟩ := S
  exact fun H locs ls w f hl => lv_lstore_n hx hb d rfl hl.has (Nat.le_of_ble_eq_true hn) rfl (fun ls' hl' => k H locs ls' w f (glv.put2 hg hl'))
theorem j_iinc3 (S : gSt l R cc own nm nL ret G L o ad vv K mc ms J) {a0 a1 a2 : Option Value} {t : List (Option Value)} {x v : Int32} {n : Int} (d : decode cc pc = .ok (.iinc 3 n, 3)) (hv : x + Int32.ofInt n = v) (hn : Nat.ble 4 nL = true) (hg : gok (a0 :: a1 :: a2 :: some (.int x) :: t) 3 = true) (k : J Y h cs ss (pc + 3) (a0 :: a1 :: a2 :: some (.int v) :: t) st) : J Y h cs ss pc (a0 :: a1 :: a2 :: some (.int x) :: t) st := by
  obtain ⟨p, e, s, m, args, below, meth, c, A, Qf, hQf, rfl, hx, hb, hml, hr, hlk, hown, hts, hK, hnm, hG⟩ := S
  exact fun H locs ls w f hl => by
    obtain ⟨q, hq⟩ := List.getElem?_of_mem (gtp_mem.mpr (show (a0 :: a1 :: a2 :: some (.int x) :: t)[3]? = some (some (.int x)) from rfl))
    exact lv_iinc hx hb d hl.has hq hv (Nat.le_of_ble_eq_true hn) rfl (fun ls' hl' => k H locs ls' w f (glv.put hg hl'))
theorem j_ild4 (S : gSt l R cc own nm nL ret G L o ad vv K mc ms J) {a0 a1 a2 a3 : Option Value} {t : List (Option Value)} {x : Int32} (d : decode cc pc = .ok (.iload 4, 2)) (k : J Y h cs ss (pc + 2) (a0 :: a1 :: a2 :: a3 :: some (.int x) :: t) (.int x :: st)) : J Y h cs ss pc (a0 :: a1 :: a2 :: a3 :: some (.int x) :: t) st := by
  obtain ⟨p, e, s, m, args, below, meth, c, A, Qf, hQf, rfl, hx, hb, hml, hr, hlk, hown, hts, hK, hnm, hG⟩ := S
  exact fun H locs ls w f hl => lv_iload hx hb d (hl.2.2 4 _ rfl) (k H locs ls w f hl)
theorem j_ald4 (S : gSt l R cc own nm nL ret G L o ad vv K mc ms J) {a0 a1 a2 a3 : Option Value} {t : List (Option Value)} {x : Nat} (d : decode cc pc = .ok (.aload 4, 2)) (k : J Y h cs ss (pc + 2) (a0 :: a1 :: a2 :: a3 :: some (.ref x) :: t) (.ref x :: st)) : J Y h cs ss pc (a0 :: a1 :: a2 :: a3 :: some (.ref x) :: t) st := by
  obtain ⟨p, e, s, m, args, below, meth, c, A, Qf, hQf, rfl, hx, hb, hml, hr, hlk, hown, hts, hK, hnm, hG⟩ := S
  exact fun H locs ls w f hl => lv_aload hx hb d (hl.2.2 4 _ rfl) (k H locs ls w f hl)
theorem j_lld4 (S : gSt l R cc own nm nL ret G L o ad vv K mc ms J) {a0 a1 a2 a3 : Option Value} {t : List (Option Value)} {x : Int64} (d : decode cc pc = .ok (.lload 4, 2)) (k : J Y h cs ss (pc + 2) (a0 :: a1 :: a2 :: a3 :: some (.long x) :: t) (.long x :: st)) : J Y h cs ss pc (a0 :: a1 :: a2 :: a3 :: some (.long x) :: t) st := by
  obtain ⟨p, e, s, m, args, below, meth, c, A, Qf, hQf, rfl, hx, hb, hml, hr, hlk, hown, hts, hK, hnm, hG⟩ := S
  exact fun H locs ls w f hl => lv_lload hx hb d (hl.2.2 4 _ rfl) (k H locs ls w f hl)
theorem j_ist4 (S : gSt l R cc own nm nL ret G L o ad vv K mc ms J) {a0 a1 a2 a3 a4 : Option Value} {t : List (Option Value)} {x : Int32} (d : decode cc pc = .ok (.istore 4, 2)) (hn : Nat.ble 5 nL = true) (hg : gok (a0 :: a1 :: a2 :: a3 :: a4 :: t) 4 = true) (k : J Y h cs ss (pc + 2) (a0 :: a1 :: a2 :: a3 :: some (.int x) :: t) st) : J Y h cs ss pc (a0 :: a1 :: a2 :: a3 :: a4 :: t) (.int x :: st) := by
  obtain ⟨p, e, s, m, args, below, meth, c, A, Qf, hQf, rfl, hx, hb, hml, hr, hlk, hown, hts, hK, hnm, hG⟩ := S
  exact fun H locs ls w f hl => lv_istore hx hb d hl.has (Nat.le_of_ble_eq_true hn) rfl (fun ls' hl' => k H locs ls' w f (glv.put hg hl'))
theorem j_ast4 (S : gSt l R cc own nm nL ret G L o ad vv K mc ms J) {a0 a1 a2 a3 a4 : Option Value} {t : List (Option Value)} {x : Nat} (d : decode cc pc = .ok (.astore 4, 2)) (hn : Nat.ble 5 nL = true) (hg : gok (a0 :: a1 :: a2 :: a3 :: a4 :: t) 4 = true) (k : J Y h cs ss (pc + 2) (a0 :: a1 :: a2 :: a3 :: some (.ref x) :: t) st) : J Y h cs ss pc (a0 :: a1 :: a2 :: a3 :: a4 :: t) (.ref x :: st) := by
  obtain ⟨p, e, s, m, args, below, meth, c, A, Qf, hQf, rfl, hx, hb, hml, hr, hlk, hown, hts, hK, hnm, hG⟩ := S
  exact fun H locs ls w f hl => lv_astore hx hb d hl.has (Nat.le_of_ble_eq_true hn) rfl (fun ls' hl' => k H locs ls' w f (glv.put hg hl'))
theorem j_lst4 (S : gSt l R cc own nm nL ret G L o ad vv K mc ms J) {a0 a1 a2 a3 a4 a5 : Option Value} {t : List (Option Value)} {x : Int64} (d : decode cc pc = .ok (.lstore 4, 2)) (hn : Nat.ble 6 nL = true) (hg : gok (a0 :: a1 :: a2 :: a3 :: a4 :: a5 :: t) 4 = true) (k : J Y h cs ss (pc + 2) (a0 :: a1 :: a2 :: a3 :: some (.long x) :: none :: t) st) : J Y h cs ss pc (a0 :: a1 :: a2 :: a3 :: a4 :: a5 :: t) (.long x :: st) := by
  obtain ⟨p, e, s, m, args, below, meth, c, A, Qf, hQf, rfl, hx, hb, hml, hr, hlk, hown, hts, hK, hnm, hG⟩ := S
  exact fun H locs ls w f hl => lv_lstore hx hb d hl.has (Nat.le_of_ble_eq_true hn) rfl (fun ls' hl' => k H locs ls' w f (glv.put2 hg hl'))
theorem j_iinc4 (S : gSt l R cc own nm nL ret G L o ad vv K mc ms J) {a0 a1 a2 a3 : Option Value} {t : List (Option Value)} {x v : Int32} {n : Int} (d : decode cc pc = .ok (.iinc 4 n, 3)) (hv : x + Int32.ofInt n = v) (hn : Nat.ble 5 nL = true) (hg : gok (a0 :: a1 :: a2 :: a3 :: some (.int x) :: t) 4 = true) (k : J Y h cs ss (pc + 3) (a0 :: a1 :: a2 :: a3 :: some (.int v) :: t) st) : J Y h cs ss pc (a0 :: a1 :: a2 :: a3 :: some (.int x) :: t) st := by
  obtain ⟨p, e, s, m, args, below, meth, c, A, Qf, hQf, rfl, hx, hb, hml, hr, hlk, hown, hts, hK, hnm, hG⟩ := S
  exact fun H locs ls w f hl => by
    obtain ⟨q, hq⟩ := List.getElem?_of_mem (gtp_mem.mpr (show (a0 :: a1 :: a2 :: a3 :: some (.int x) :: t)[4]? = some (some (.int x)) from rfl))
    exact lv_iinc hx hb d hl.has hq hv (Nat.le_of_ble_eq_true hn) rfl (fun ls' hl' => k H locs ls' w f (glv.put hg hl'))
theorem j_ild5 (S : gSt l R cc own nm nL ret G L o ad vv K mc ms J) {a0 a1 a2 a3 a4 : Option Value} {t : List (Option Value)} {x : Int32} (d : decode cc pc = .ok (.iload 5, 2)) (k : J Y h cs ss (pc + 2) (a0 :: a1 :: a2 :: a3 :: a4 :: some (.int x) :: t) (.int x :: st)) : J Y h cs ss pc (a0 :: a1 :: a2 :: a3 :: a4 :: some (.int x) :: t) st := by
  obtain ⟨p, e, s, m, args, below, meth, c, A, Qf, hQf, rfl, hx, hb, hml, hr, hlk, hown, hts, hK, hnm, hG⟩ := S
  exact fun H locs ls w f hl => lv_iload hx hb d (hl.2.2 5 _ rfl) (k H locs ls w f hl)
theorem j_ald5 (S : gSt l R cc own nm nL ret G L o ad vv K mc ms J) {a0 a1 a2 a3 a4 : Option Value} {t : List (Option Value)} {x : Nat} (d : decode cc pc = .ok (.aload 5, 2)) (k : J Y h cs ss (pc + 2) (a0 :: a1 :: a2 :: a3 :: a4 :: some (.ref x) :: t) (.ref x :: st)) : J Y h cs ss pc (a0 :: a1 :: a2 :: a3 :: a4 :: some (.ref x) :: t) st := by
  obtain ⟨p, e, s, m, args, below, meth, c, A, Qf, hQf, rfl, hx, hb, hml, hr, hlk, hown, hts, hK, hnm, hG⟩ := S
  exact fun H locs ls w f hl => lv_aload hx hb d (hl.2.2 5 _ rfl) (k H locs ls w f hl)
theorem j_lld5 (S : gSt l R cc own nm nL ret G L o ad vv K mc ms J) {a0 a1 a2 a3 a4 : Option Value} {t : List (Option Value)} {x : Int64} (d : decode cc pc = .ok (.lload 5, 2)) (k : J Y h cs ss (pc + 2) (a0 :: a1 :: a2 :: a3 :: a4 :: some (.long x) :: t) (.long x :: st)) : J Y h cs ss pc (a0 :: a1 :: a2 :: a3 :: a4 :: some (.long x) :: t) st := by
  obtain ⟨p, e, s, m, args, below, meth, c, A, Qf, hQf, rfl, hx, hb, hml, hr, hlk, hown, hts, hK, hnm, hG⟩ := S
  exact fun H locs ls w f hl => lv_lload hx hb d (hl.2.2 5 _ rfl) (k H locs ls w f hl)
theorem j_ist5 (S : gSt l R cc own nm nL ret G L o ad vv K mc ms J) {a0 a1 a2 a3 a4 a5 : Option Value} {t : List (Option Value)} {x : Int32} (d : decode cc pc = .ok (.istore 5, 2)) (hn : Nat.ble 6 nL = true) (hg : gok (a0 :: a1 :: a2 :: a3 :: a4 :: a5 :: t) 5 = true) (k : J Y h cs ss (pc + 2) (a0 :: a1 :: a2 :: a3 :: a4 :: some (.int x) :: t) st) : J Y h cs ss pc (a0 :: a1 :: a2 :: a3 :: a4 :: a5 :: t) (.int x :: st) := by
  obtain ⟨p, e, s, m, args, below, meth, c, A, Qf, hQf, rfl, hx, hb, hml, hr, hlk, hown, hts, hK, hnm, hG⟩ := S
  exact fun H locs ls w f hl => lv_istore hx hb d hl.has (Nat.le_of_ble_eq_true hn) rfl (fun ls' hl' => k H locs ls' w f (glv.put hg hl'))
theorem j_ast5 (S : gSt l R cc own nm nL ret G L o ad vv K mc ms J) {a0 a1 a2 a3 a4 a5 : Option Value} {t : List (Option Value)} {x : Nat} (d : decode cc pc = .ok (.astore 5, 2)) (hn : Nat.ble 6 nL = true) (hg : gok (a0 :: a1 :: a2 :: a3 :: a4 :: a5 :: t) 5 = true) (k : J Y h cs ss (pc + 2) (a0 :: a1 :: a2 :: a3 :: a4 :: some (.ref x) :: t) st) : J Y h cs ss pc (a0 :: a1 :: a2 :: a3 :: a4 :: a5 :: t) (.ref x :: st) := by
  obtain ⟨p, e, s, m, args, below, meth, c, A, Qf, hQf, rfl, hx, hb, hml, hr, hlk, hown, hts, hK, hnm, hG⟩ := S
  exact fun H locs ls w f hl => lv_astore hx hb d hl.has (Nat.le_of_ble_eq_true hn) rfl (fun ls' hl' => k H locs ls' w f (glv.put hg hl'))
theorem j_lst5 (S : gSt l R cc own nm nL ret G L o ad vv K mc ms J) {a0 a1 a2 a3 a4 a5 a6 : Option Value} {t : List (Option Value)} {x : Int64} (d : decode cc pc = .ok (.lstore 5, 2)) (hn : Nat.ble 7 nL = true) (hg : gok (a0 :: a1 :: a2 :: a3 :: a4 :: a5 :: a6 :: t) 5 = true) (k : J Y h cs ss (pc + 2) (a0 :: a1 :: a2 :: a3 :: a4 :: some (.long x) :: none :: t) st) : J Y h cs ss pc (a0 :: a1 :: a2 :: a3 :: a4 :: a5 :: a6 :: t) (.long x :: st) := by
  obtain ⟨p, e, s, m, args, below, meth, c, A, Qf, hQf, rfl, hx, hb, hml, hr, hlk, hown, hts, hK, hnm, hG⟩ := S
  exact fun H locs ls w f hl => lv_lstore hx hb d hl.has (Nat.le_of_ble_eq_true hn) rfl (fun ls' hl' => k H locs ls' w f (glv.put2 hg hl'))
theorem j_iinc5 (S : gSt l R cc own nm nL ret G L o ad vv K mc ms J) {a0 a1 a2 a3 a4 : Option Value} {t : List (Option Value)} {x v : Int32} {n : Int} (d : decode cc pc = .ok (.iinc 5 n, 3)) (hv : x + Int32.ofInt n = v) (hn : Nat.ble 6 nL = true) (hg : gok (a0 :: a1 :: a2 :: a3 :: a4 :: some (.int x) :: t) 5 = true) (k : J Y h cs ss (pc + 3) (a0 :: a1 :: a2 :: a3 :: a4 :: some (.int v) :: t) st) : J Y h cs ss pc (a0 :: a1 :: a2 :: a3 :: a4 :: some (.int x) :: t) st := by
  obtain ⟨p, e, s, m, args, below, meth, c, A, Qf, hQf, rfl, hx, hb, hml, hr, hlk, hown, hts, hK, hnm, hG⟩ := S
  exact fun H locs ls w f hl => by
    obtain ⟨q, hq⟩ := List.getElem?_of_mem (gtp_mem.mpr (show (a0 :: a1 :: a2 :: a3 :: a4 :: some (.int x) :: t)[5]? = some (some (.int x)) from rfl))
    exact lv_iinc hx hb d hl.has hq hv (Nat.le_of_ble_eq_true hn) rfl (fun ls' hl' => k H locs ls' w f (glv.put hg hl'))
theorem j_ild6 (S : gSt l R cc own nm nL ret G L o ad vv K mc ms J) {a0 a1 a2 a3 a4 a5 : Option Value} {t : List (Option Value)} {x : Int32} (d : decode cc pc = .ok (.iload 6, 2)) (k : J Y h cs ss (pc + 2) (a0 :: a1 :: a2 :: a3 :: a4 :: a5 :: some (.int x) :: t) (.int x :: st)) : J Y h cs ss pc (a0 :: a1 :: a2 :: a3 :: a4 :: a5 :: some (.int x) :: t) st := by
  obtain ⟨p, e, s, m, args, below, meth, c, A, Qf, hQf, rfl, hx, hb, hml, hr, hlk, hown, hts, hK, hnm, hG⟩ := S
  exact fun H locs ls w f hl => lv_iload hx hb d (hl.2.2 6 _ rfl) (k H locs ls w f hl)
theorem j_ald6 (S : gSt l R cc own nm nL ret G L o ad vv K mc ms J) {a0 a1 a2 a3 a4 a5 : Option Value} {t : List (Option Value)} {x : Nat} (d : decode cc pc = .ok (.aload 6, 2)) (k : J Y h cs ss (pc + 2) (a0 :: a1 :: a2 :: a3 :: a4 :: a5 :: some (.ref x) :: t) (.ref x :: st)) : J Y h cs ss pc (a0 :: a1 :: a2 :: a3 :: a4 :: a5 :: some (.ref x) :: t) st := by
  obtain ⟨p, e, s, m, args, below, meth, c, A, Qf, hQf, rfl, hx, hb, hml, hr, hlk, hown, hts, hK, hnm, hG⟩ := S
  exact fun H locs ls w f hl => lv_aload hx hb d (hl.2.2 6 _ rfl) (k H locs ls w f hl)
theorem j_lld6 (S : gSt l R cc own nm nL ret G L o ad vv K mc ms J) {a0 a1 a2 a3 a4 a5 : Option Value} {t : List (Option Value)} {x : Int64} (d : decode cc pc = .ok (.lload 6, 2)) (k : J Y h cs ss (pc + 2) (a0 :: a1 :: a2 :: a3 :: a4 :: a5 :: some (.long x) :: t) (.long x :: st)) : J Y h cs ss pc (a0 :: a1 :: a2 :: a3 :: a4 :: a5 :: some (.long x) :: t) st := by
  obtain ⟨p, e, s, m, args, below, meth, c, A, Qf, hQf, rfl, hx, hb, hml, hr, hlk, hown, hts, hK, hnm, hG⟩ := S
  exact fun H locs ls w f hl => lv_lload hx hb d (hl.2.2 6 _ rfl) (k H locs ls w f hl)
theorem j_ist6 (S : gSt l R cc own nm nL ret G L o ad vv K mc ms J) {a0 a1 a2 a3 a4 a5 a6 : Option Value} {t : List (Option Value)} {x : Int32} (d : decode cc pc = .ok (.istore 6, 2)) (hn : Nat.ble 7 nL = true) (hg : gok (a0 :: a1 :: a2 :: a3 :: a4 :: a5 :: a6 :: t) 6 = true) (k : J Y h cs ss (pc + 2) (a0 :: a1 :: a2 :: a3 :: a4 :: a5 :: some (.int x) :: t) st) : J Y h cs ss pc (a0 :: a1 :: a2 :: a3 :: a4 :: a5 :: a6 :: t) (.int x :: st) := by
  obtain ⟨p, e, s, m, args, below, meth, c, A, Qf, hQf, rfl, hx, hb, hml, hr, hlk, hown, hts, hK, hnm, hG⟩ := S
  exact fun H locs ls w f hl => lv_istore hx hb d hl.has (Nat.le_of_ble_eq_true hn) rfl (fun ls' hl' => k H locs ls' w f (glv.put hg hl'))
theorem j_ast6 (S : gSt l R cc own nm nL ret G L o ad vv K mc ms J) {a0 a1 a2 a3 a4 a5 a6 : Option Value} {t : List (Option Value)} {x : Nat} (d : decode cc pc = .ok (.astore 6, 2)) (hn : Nat.ble 7 nL = true) (hg : gok (a0 :: a1 :: a2 :: a3 :: a4 :: a5 :: a6 :: t) 6 = true) (k : J Y h cs ss (pc + 2) (a0 :: a1 :: a2 :: a3 :: a4 :: a5 :: some (.ref x) :: t) st) : J Y h cs ss pc (a0 :: a1 :: a2 :: a3 :: a4 :: a5 :: a6 :: t) (.ref x :: st) := by
  obtain ⟨p, e, s, m, args, below, meth, c, A, Qf, hQf, rfl, hx, hb, hml, hr, hlk, hown, hts, hK, hnm, hG⟩ := S
  exact fun H locs ls w f hl => lv_astore hx hb d hl.has (Nat.le_of_ble_eq_true hn) rfl (fun ls' hl' => k H locs ls' w f (glv.put hg hl'))
theorem j_lst6 (S : gSt l R cc own nm nL ret G L o ad vv K mc ms J) {a0 a1 a2 a3 a4 a5 a6 a7 : Option Value} {t : List (Option Value)} {x : Int64} (d : decode cc pc = .ok (.lstore 6, 2)) (hn : Nat.ble 8 nL = true) (hg : gok (a0 :: a1 :: a2 :: a3 :: a4 :: a5 :: a6 :: a7 :: t) 6 = true) (k : J Y h cs ss (pc + 2) (a0 :: a1 :: a2 :: a3 :: a4 :: a5 :: some (.long x) :: none :: t) st) : J Y h cs ss pc (a0 :: a1 :: a2 :: a3 :: a4 :: a5 :: a6 :: a7 :: t) (.long x :: st) := by
  obtain ⟨p, e, s, m, args, below, meth, c, A, Qf, hQf, rfl, hx, hb, hml, hr, hlk, hown, hts, hK, hnm, hG⟩ := S
  exact fun H locs ls w f hl => lv_lstore hx hb d hl.has (Nat.le_of_ble_eq_true hn) rfl (fun ls' hl' => k H locs ls' w f (glv.put2 hg hl'))
theorem j_iinc6 (S : gSt l R cc own nm nL ret G L o ad vv K mc ms J) {a0 a1 a2 a3 a4 a5 : Option Value} {t : List (Option Value)} {x v : Int32} {n : Int} (d : decode cc pc = .ok (.iinc 6 n, 3)) (hv : x + Int32.ofInt n = v) (hn : Nat.ble 7 nL = true) (hg : gok (a0 :: a1 :: a2 :: a3 :: a4 :: a5 :: some (.int x) :: t) 6 = true) (k : J Y h cs ss (pc + 3) (a0 :: a1 :: a2 :: a3 :: a4 :: a5 :: some (.int v) :: t) st) : J Y h cs ss pc (a0 :: a1 :: a2 :: a3 :: a4 :: a5 :: some (.int x) :: t) st := by
  obtain ⟨p, e, s, m, args, below, meth, c, A, Qf, hQf, rfl, hx, hb, hml, hr, hlk, hown, hts, hK, hnm, hG⟩ := S
  exact fun H locs ls w f hl => by
    obtain ⟨q, hq⟩ := List.getElem?_of_mem (gtp_mem.mpr (show (a0 :: a1 :: a2 :: a3 :: a4 :: a5 :: some (.int x) :: t)[6]? = some (some (.int x)) from rfl))
    exact lv_iinc hx hb d hl.has hq hv (Nat.le_of_ble_eq_true hn) rfl (fun ls' hl' => k H locs ls' w f (glv.put hg hl'))
theorem j_ild7 (S : gSt l R cc own nm nL ret G L o ad vv K mc ms J) {a0 a1 a2 a3 a4 a5 a6 : Option Value} {t : List (Option Value)} {x : Int32} (d : decode cc pc = .ok (.iload 7, 2)) (k : J Y h cs ss (pc + 2) (a0 :: a1 :: a2 :: a3 :: a4 :: a5 :: a6 :: some (.int x) :: t) (.int x :: st)) : J Y h cs ss pc (a0 :: a1 :: a2 :: a3 :: a4 :: a5 :: a6 :: some (.int x) :: t) st := by
  obtain ⟨p, e, s, m, args, below, meth, c, A, Qf, hQf, rfl, hx, hb, hml, hr, hlk, hown, hts, hK, hnm, hG⟩ := S
  exact fun H locs ls w f hl => lv_iload hx hb d (hl.2.2 7 _ rfl) (k H locs ls w f hl)
theorem j_ald7 (S : gSt l R cc own nm nL ret G L o ad vv K mc ms J) {a0 a1 a2 a3 a4 a5 a6 : Option Value} {t : List (Option Value)} {x : Nat} (d : decode cc pc = .ok (.aload 7, 2)) (k : J Y h cs ss (pc + 2) (a0 :: a1 :: a2 :: a3 :: a4 :: a5 :: a6 :: some (.ref x) :: t) (.ref x :: st)) : J Y h cs ss pc (a0 :: a1 :: a2 :: a3 :: a4 :: a5 :: a6 :: some (.ref x) :: t) st := by
  obtain ⟨p, e, s, m, args, below, meth, c, A, Qf, hQf, rfl, hx, hb, hml, hr, hlk, hown, hts, hK, hnm, hG⟩ := S
  exact fun H locs ls w f hl => lv_aload hx hb d (hl.2.2 7 _ rfl) (k H locs ls w f hl)
theorem j_lld7 (S : gSt l R cc own nm nL ret G L o ad vv K mc ms J) {a0 a1 a2 a3 a4 a5 a6 : Option Value} {t : List (Option Value)} {x : Int64} (d : decode cc pc = .ok (.lload 7, 2)) (k : J Y h cs ss (pc + 2) (a0 :: a1 :: a2 :: a3 :: a4 :: a5 :: a6 :: some (.long x) :: t) (.long x :: st)) : J Y h cs ss pc (a0 :: a1 :: a2 :: a3 :: a4 :: a5 :: a6 :: some (.long x) :: t) st := by
  obtain ⟨p, e, s, m, args, below, meth, c, A, Qf, hQf, rfl, hx, hb, hml, hr, hlk, hown, hts, hK, hnm, hG⟩ := S
  exact fun H locs ls w f hl => lv_lload hx hb d (hl.2.2 7 _ rfl) (k H locs ls w f hl)
theorem j_ist7 (S : gSt l R cc own nm nL ret G L o ad vv K mc ms J) {a0 a1 a2 a3 a4 a5 a6 a7 : Option Value} {t : List (Option Value)} {x : Int32} (d : decode cc pc = .ok (.istore 7, 2)) (hn : Nat.ble 8 nL = true) (hg : gok (a0 :: a1 :: a2 :: a3 :: a4 :: a5 :: a6 :: a7 :: t) 7 = true) (k : J Y h cs ss (pc + 2) (a0 :: a1 :: a2 :: a3 :: a4 :: a5 :: a6 :: some (.int x) :: t) st) : J Y h cs ss pc (a0 :: a1 :: a2 :: a3 :: a4 :: a5 :: a6 :: a7 :: t) (.int x :: st) := by
  obtain ⟨p, e, s, m, args, below, meth, c, A, Qf, hQf, rfl, hx, hb, hml, hr, hlk, hown, hts, hK, hnm, hG⟩ := S
  exact fun H locs ls w f hl => lv_istore hx hb d hl.has (Nat.le_of_ble_eq_true hn) rfl (fun ls' hl' => k H locs ls' w f (glv.put hg hl'))
theorem j_ast7 (S : gSt l R cc own nm nL ret G L o ad vv K mc ms J) {a0 a1 a2 a3 a4 a5 a6 a7 : Option Value} {t : List (Option Value)} {x : Nat} (d : decode cc pc = .ok (.astore 7, 2)) (hn : Nat.ble 8 nL = true) (hg : gok (a0 :: a1 :: a2 :: a3 :: a4 :: a5 :: a6 :: a7 :: t) 7 = true) (k : J Y h cs ss (pc + 2) (a0 :: a1 :: a2 :: a3 :: a4 :: a5 :: a6 :: some (.ref x) :: t) st) : J Y h cs ss pc (a0 :: a1 :: a2 :: a3 :: a4 :: a5 :: a6 :: a7 :: t) (.ref x :: st) := by
  obtain ⟨p, e, s, m, args, below, meth, c, A, Qf, hQf, rfl, hx, hb, hml, hr, hlk, hown, hts, hK, hnm, hG⟩ := S
  exact fun H locs ls w f hl => lv_astore hx hb d hl.has (Nat.le_of_ble_eq_true hn) rfl (fun ls' hl' => k H locs ls' w f (glv.put hg hl'))
theorem j_lst7 (S : gSt l R cc own nm nL ret G L o ad vv K mc ms J) {a0 a1 a2 a3 a4 a5 a6 a7 a8 : Option Value} {t : List (Option Value)} {x : Int64} (d : decode cc pc = .ok (.lstore 7, 2)) (hn : Nat.ble 9 nL = true) (hg : gok (a0 :: a1 :: a2 :: a3 :: a4 :: a5 :: a6 :: a7 :: a8 :: t) 7 = true) (k : J Y h cs ss (pc + 2) (a0 :: a1 :: a2 :: a3 :: a4 :: a5 :: a6 :: some (.long x) :: none :: t) st) : J Y h cs ss pc (a0 :: a1 :: a2 :: a3 :: a4 :: a5 :: a6 :: a7 :: a8 :: t) (.long x :: st) := by
  obtain ⟨p, e, s, m, args, below, meth, c, A, Qf, hQf, rfl, hx, hb, hml, hr, hlk, hown, hts, hK, hnm, hG⟩ := S
  exact fun H locs ls w f hl => lv_lstore hx hb d hl.has (Nat.le_of_ble_eq_true hn) rfl (fun ls' hl' => k H locs ls' w f (glv.put2 hg hl'))
theorem j_iinc7 (S : gSt l R cc own nm nL ret G L o ad vv K mc ms J) {a0 a1 a2 a3 a4 a5 a6 : Option Value} {t : List (Option Value)} {x v : Int32} {n : Int} (d : decode cc pc = .ok (.iinc 7 n, 3)) (hv : x + Int32.ofInt n = v) (hn : Nat.ble 8 nL = true) (hg : gok (a0 :: a1 :: a2 :: a3 :: a4 :: a5 :: a6 :: some (.int x) :: t) 7 = true) (k : J Y h cs ss (pc + 3) (a0 :: a1 :: a2 :: a3 :: a4 :: a5 :: a6 :: some (.int v) :: t) st) : J Y h cs ss pc (a0 :: a1 :: a2 :: a3 :: a4 :: a5 :: a6 :: some (.int x) :: t) st := by
  obtain ⟨p, e, s, m, args, below, meth, c, A, Qf, hQf, rfl, hx, hb, hml, hr, hlk, hown, hts, hK, hnm, hG⟩ := S
  exact fun H locs ls w f hl => by
    obtain ⟨q, hq⟩ := List.getElem?_of_mem (gtp_mem.mpr (show (a0 :: a1 :: a2 :: a3 :: a4 :: a5 :: a6 :: some (.int x) :: t)[7]? = some (some (.int x)) from rfl))
    exact lv_iinc hx hb d hl.has hq hv (Nat.le_of_ble_eq_true hn) rfl (fun ls' hl' => k H locs ls' w f (glv.put hg hl'))
theorem j_ild8 (S : gSt l R cc own nm nL ret G L o ad vv K mc ms J) {a0 a1 a2 a3 a4 a5 a6 a7 : Option Value} {t : List (Option Value)} {x : Int32} (d : decode cc pc = .ok (.iload 8, 2)) (k : J Y h cs ss (pc + 2) (a0 :: a1 :: a2 :: a3 :: a4 :: a5 :: a6 :: a7 :: some (.int x) :: t) (.int x :: st)) : J Y h cs ss pc (a0 :: a1 :: a2 :: a3 :: a4 :: a5 :: a6 :: a7 :: some (.int x) :: t) st := by
  obtain ⟨p, e, s, m, args, below, meth, c, A, Qf, hQf, rfl, hx, hb, hml, hr, hlk, hown, hts, hK, hnm, hG⟩ := S
  exact fun H locs ls w f hl => lv_iload hx hb d (hl.2.2 8 _ rfl) (k H locs ls w f hl)
theorem j_ald8 (S : gSt l R cc own nm nL ret G L o ad vv K mc ms J) {a0 a1 a2 a3 a4 a5 a6 a7 : Option Value} {t : List (Option Value)} {x : Nat} (d : decode cc pc = .ok (.aload 8, 2)) (k : J Y h cs ss (pc + 2) (a0 :: a1 :: a2 :: a3 :: a4 :: a5 :: a6 :: a7 :: some (.ref x) :: t) (.ref x :: st)) : J Y h cs ss pc (a0 :: a1 :: a2 :: a3 :: a4 :: a5 :: a6 :: a7 :: some (.ref x) :: t) st := by
  obtain ⟨p, e, s, m, args, below, meth, c, A, Qf, hQf, rfl, hx, hb, hml, hr, hlk, hown, hts, hK, hnm, hG⟩ := S
  exact fun H locs ls w f hl => lv_aload hx hb d (hl.2.2 8 _ rfl) (k H locs ls w f hl)
theorem j_lld8 (S : gSt l R cc own nm nL ret G L o ad vv K mc ms J) {a0 a1 a2 a3 a4 a5 a6 a7 : Option Value} {t : List (Option Value)} {x : Int64} (d : decode cc pc = .ok (.lload 8, 2)) (k : J Y h cs ss (pc + 2) (a0 :: a1 :: a2 :: a3 :: a4 :: a5 :: a6 :: a7 :: some (.long x) :: t) (.long x :: st)) : J Y h cs ss pc (a0 :: a1 :: a2 :: a3 :: a4 :: a5 :: a6 :: a7 :: some (.long x) :: t) st := by
  obtain ⟨p, e, s, m, args, below, meth, c, A, Qf, hQf, rfl, hx, hb, hml, hr, hlk, hown, hts, hK, hnm, hG⟩ := S
  exact fun H locs ls w f hl => lv_lload hx hb d (hl.2.2 8 _ rfl) (k H locs ls w f hl)
theorem j_ist8 (S : gSt l R cc own nm nL ret G L o ad vv K mc ms J) {a0 a1 a2 a3 a4 a5 a6 a7 a8 : Option Value} {t : List (Option Value)} {x : Int32} (d : decode cc pc = .ok (.istore 8, 2)) (hn : Nat.ble 9 nL = true) (hg : gok (a0 :: a1 :: a2 :: a3 :: a4 :: a5 :: a6 :: a7 :: a8 :: t) 8 = true) (k : J Y h cs ss (pc + 2) (a0 :: a1 :: a2 :: a3 :: a4 :: a5 :: a6 :: a7 :: some (.int x) :: t) st) : J Y h cs ss pc (a0 :: a1 :: a2 :: a3 :: a4 :: a5 :: a6 :: a7 :: a8 :: t) (.int x :: st) := by
  obtain ⟨p, e, s, m, args, below, meth, c, A, Qf, hQf, rfl, hx, hb, hml, hr, hlk, hown, hts, hK, hnm, hG⟩ := S
  exact fun H locs ls w f hl => lv_istore hx hb d hl.has (Nat.le_of_ble_eq_true hn) rfl (fun ls' hl' => k H locs ls' w f (glv.put hg hl'))
theorem j_ast8 (S : gSt l R cc own nm nL ret G L o ad vv K mc ms J) {a0 a1 a2 a3 a4 a5 a6 a7 a8 : Option Value} {t : List (Option Value)} {x : Nat} (d : decode cc pc = .ok (.astore 8, 2)) (hn : Nat.ble 9 nL = true) (hg : gok (a0 :: a1 :: a2 :: a3 :: a4 :: a5 :: a6 :: a7 :: a8 :: t) 8 = true) (k : J Y h cs ss (pc + 2) (a0 :: a1 :: a2 :: a3 :: a4 :: a5 :: a6 :: a7 :: some (.ref x) :: t) st) : J Y h cs ss pc (a0 :: a1 :: a2 :: a3 :: a4 :: a5 :: a6 :: a7 :: a8 :: t) (.ref x :: st) := by
  obtain ⟨p, e, s, m, args, below, meth, c, A, Qf, hQf, rfl, hx, hb, hml, hr, hlk, hown, hts, hK, hnm, hG⟩ := S
  exact fun H locs ls w f hl => lv_astore hx hb d hl.has (Nat.le_of_ble_eq_true hn) rfl (fun ls' hl' => k H locs ls' w f (glv.put hg hl'))
theorem j_lst8 (S : gSt l R cc own nm nL ret G L o ad vv K mc ms J) {a0 a1 a2 a3 a4 a5 a6 a7 a8 a9 : Option Value} {t : List (Option Value)} {x : Int64} (d : decode cc pc = .ok (.lstore 8, 2)) (hn : Nat.ble 10 nL = true) (hg : gok (a0 :: a1 :: a2 :: a3 :: a4 :: a5 :: a6 :: a7 :: a8 :: a9 :: t) 8 = true) (k : J Y h cs ss (pc + 2) (a0 :: a1 :: a2 :: a3 :: a4 :: a5 :: a6 :: a7 :: some (.long x) :: none :: t) st) : J Y h cs ss pc (a0 :: a1 :: a2 :: a3 :: a4 :: a5 :: a6 :: a7 :: a8 :: a9 :: t) (.long x :: st) := by
  obtain ⟨p, e, s, m, args, below, meth, c, A, Qf, hQf, rfl, hx, hb, hml, hr, hlk, hown, hts, hK, hnm, hG⟩ := S
  exact fun H locs ls w f hl => lv_lstore hx hb d hl.has (Nat.le_of_ble_eq_true hn) rfl (fun ls' hl' => k H locs ls' w f (glv.put2 hg hl'))
theorem j_iinc8 (S : gSt l R cc own nm nL ret G L o ad vv K mc ms J) {a0 a1 a2 a3 a4 a5 a6 a7 : Option Value} {t : List (Option Value)} {x v : Int32} {n : Int} (d : decode cc pc = .ok (.iinc 8 n, 3)) (hv : x + Int32.ofInt n = v) (hn : Nat.ble 9 nL = true) (hg : gok (a0 :: a1 :: a2 :: a3 :: a4 :: a5 :: a6 :: a7 :: some (.int x) :: t) 8 = true) (k : J Y h cs ss (pc + 3) (a0 :: a1 :: a2 :: a3 :: a4 :: a5 :: a6 :: a7 :: some (.int v) :: t) st) : J Y h cs ss pc (a0 :: a1 :: a2 :: a3 :: a4 :: a5 :: a6 :: a7 :: some (.int x) :: t) st := by
  obtain ⟨p, e, s, m, args, below, meth, c, A, Qf, hQf, rfl, hx, hb, hml, hr, hlk, hown, hts, hK, hnm, hG⟩ := S
  exact fun H locs ls w f hl => by
    obtain ⟨q, hq⟩ := List.getElem?_of_mem (gtp_mem.mpr (show (a0 :: a1 :: a2 :: a3 :: a4 :: a5 :: a6 :: a7 :: some (.int x) :: t)[8]? = some (some (.int x)) from rfl))
    exact lv_iinc hx hb d hl.has hq hv (Nat.le_of_ble_eq_true hn) rfl (fun ls' hl' => k H locs ls' w f (glv.put hg hl'))
theorem j_ild9 (S : gSt l R cc own nm nL ret G L o ad vv K mc ms J) {a0 a1 a2 a3 a4 a5 a6 a7 a8 : Option Value} {t : List (Option Value)} {x : Int32} (d : decode cc pc = .ok (.iload 9, 2)) (k : J Y h cs ss (pc + 2) (a0 :: a1 :: a2 :: a3 :: a4 :: a5 :: a6 :: a7 :: a8 :: some (.int x) :: t) (.int x :: st)) : J Y h cs ss pc (a0 :: a1 :: a2 :: a3 :: a4 :: a5 :: a6 :: a7 :: a8 :: some (.int x) :: t) st := by
  obtain ⟨p, e, s, m, args, below, meth, c, A, Qf, hQf, rfl, hx, hb, hml, hr, hlk, hown, hts, hK, hnm, hG⟩ := S
  exact fun H locs ls w f hl => lv_iload hx hb d (hl.2.2 9 _ rfl) (k H locs ls w f hl)
theorem j_ald9 (S : gSt l R cc own nm nL ret G L o ad vv K mc ms J) {a0 a1 a2 a3 a4 a5 a6 a7 a8 : Option Value} {t : List (Option Value)} {x : Nat} (d : decode cc pc = .ok (.aload 9, 2)) (k : J Y h cs ss (pc + 2) (a0 :: a1 :: a2 :: a3 :: a4 :: a5 :: a6 :: a7 :: a8 :: some (.ref x) :: t) (.ref x :: st)) : J Y h cs ss pc (a0 :: a1 :: a2 :: a3 :: a4 :: a5 :: a6 :: a7 :: a8 :: some (.ref x) :: t) st := by
  obtain ⟨p, e, s, m, args, below, meth, c, A, Qf, hQf, rfl, hx, hb, hml, hr, hlk, hown, hts, hK, hnm, hG⟩ := S
  exact fun H locs ls w f hl => lv_aload hx hb d (hl.2.2 9 _ rfl) (k H locs ls w f hl)
theorem j_lld9 (S : gSt l R cc own nm nL ret G L o ad vv K mc ms J) {a0 a1 a2 a3 a4 a5 a6 a7 a8 : Option Value} {t : List (Option Value)} {x : Int64} (d : decode cc pc = .ok (.lload 9, 2)) (k : J Y h cs ss (pc + 2) (a0 :: a1 :: a2 :: a3 :: a4 :: a5 :: a6 :: a7 :: a8 :: some (.long x) :: t) (.long x :: st)) : J Y h cs ss pc (a0 :: a1 :: a2 :: a3 :: a4 :: a5 :: a6 :: a7 :: a8 :: some (.long x) :: t) st := by
  obtain ⟨p, e, s, m, args, below, meth, c, A, Qf, hQf, rfl, hx, hb, hml, hr, hlk, hown, hts, hK, hnm, hG⟩ := S
  exact fun H locs ls w f hl => lv_lload hx hb d (hl.2.2 9 _ rfl) (k H locs ls w f hl)
theorem j_ist9 (S : gSt l R cc own nm nL ret G L o ad vv K mc ms J) {a0 a1 a2 a3 a4 a5 a6 a7 a8 a9 : Option Value} {t : List (Option Value)} {x : Int32} (d : decode cc pc = .ok (.istore 9, 2)) (hn : Nat.ble 10 nL = true) (hg : gok (a0 :: a1 :: a2 :: a3 :: a4 :: a5 :: a6 :: a7 :: a8 :: a9 :: t) 9 = true) (k : J Y h cs ss (pc + 2) (a0 :: a1 :: a2 :: a3 :: a4 :: a5 :: a6 :: a7 :: a8 :: some (.int x) :: t) st) : J Y h cs ss pc (a0 :: a1 :: a2 :: a3 :: a4 :: a5 :: a6 :: a7 :: a8 :: a9 :: t) (.int x :: st) := by
  obtain ⟨p, e, s, m, args, below, meth, c, A, Qf, hQf, rfl, hx, hb, hml, hr, hlk, hown, hts, hK, hnm, hG⟩ := S
  exact fun H locs ls w f hl => lv_istore hx hb d hl.has (Nat.le_of_ble_eq_true hn) rfl (fun ls' hl' => k H locs ls' w f (glv.put hg hl'))
theorem j_ast9 (S : gSt l R cc own nm nL ret G L o ad vv K mc ms J) {a0 a1 a2 a3 a4 a5 a6 a7 a8 a9 : Option Value} {t : List (Option Value)} {x : Nat} (d : decode cc pc = .ok (.astore 9, 2)) (hn : Nat.ble 10 nL = true) (hg : gok (a0 :: a1 :: a2 :: a3 :: a4 :: a5 :: a6 :: a7 :: a8 :: a9 :: t) 9 = true) (k : J Y h cs ss (pc + 2) (a0 :: a1 :: a2 :: a3 :: a4 :: a5 :: a6 :: a7 :: a8 :: some (.ref x) :: t) st) : J Y h cs ss pc (a0 :: a1 :: a2 :: a3 :: a4 :: a5 :: a6 :: a7 :: a8 :: a9 :: t) (.ref x :: st) := by
  obtain ⟨p, e, s, m, args, below, meth, c, A, Qf, hQf, rfl, hx, hb, hml, hr, hlk, hown, hts, hK, hnm, hG⟩ := S
  exact fun H locs ls w f hl => lv_astore hx hb d hl.has (Nat.le_of_ble_eq_true hn) rfl (fun ls' hl' => k H locs ls' w f (glv.put hg hl'))
theorem j_lst9 (S : gSt l R cc own nm nL ret G L o ad vv K mc ms J) {a0 a1 a2 a3 a4 a5 a6 a7 a8 a9 a10 : Option Value} {t : List (Option Value)} {x : Int64} (d : decode cc pc = .ok (.lstore 9, 2)) (hn : Nat.ble 11 nL = true) (hg : gok (a0 :: a1 :: a2 :: a3 :: a4 :: a5 :: a6 :: a7 :: a8 :: a9 :: a10 :: t) 9 = true) (k : J Y h cs ss (pc + 2) (a0 :: a1 :: a2 :: a3 :: a4 :: a5 :: a6 :: a7 :: a8 :: some (.long x) :: none :: t) st) : J Y h cs ss pc (a0 :: a1 :: a2 :: a3 :: a4 :: a5 :: a6 :: a7 :: a8 :: a9 :: a10 :: t) (.long x :: st) := by
  obtain ⟨p, e, s, m, args, below, meth, c, A, Qf, hQf, rfl, hx, hb, hml, hr, hlk, hown, hts, hK, hnm, hG⟩ := S
  exact fun H locs ls w f hl => lv_lstore hx hb d hl.has (Nat.le_of_ble_eq_true hn) rfl (fun ls' hl' => k H locs ls' w f (glv.put2 hg hl'))
theorem j_iinc9 (S : gSt l R cc own nm nL ret G L o ad vv K mc ms J) {a0 a1 a2 a3 a4 a5 a6 a7 a8 : Option Value} {t : List (Option Value)} {x v : Int32} {n : Int} (d : decode cc pc = .ok (.iinc 9 n, 3)) (hv : x + Int32.ofInt n = v) (hn : Nat.ble 10 nL = true) (hg : gok (a0 :: a1 :: a2 :: a3 :: a4 :: a5 :: a6 :: a7 :: a8 :: some (.int x) :: t) 9 = true) (k : J Y h cs ss (pc + 3) (a0 :: a1 :: a2 :: a3 :: a4 :: a5 :: a6 :: a7 :: a8 :: some (.int v) :: t) st) : J Y h cs ss pc (a0 :: a1 :: a2 :: a3 :: a4 :: a5 :: a6 :: a7 :: a8 :: some (.int x) :: t) st := by
  obtain ⟨p, e, s, m, args, below, meth, c, A, Qf, hQf, rfl, hx, hb, hml, hr, hlk, hown, hts, hK, hnm, hG⟩ := S
  exact fun H locs ls w f hl => by
    obtain ⟨q, hq⟩ := List.getElem?_of_mem (gtp_mem.mpr (show (a0 :: a1 :: a2 :: a3 :: a4 :: a5 :: a6 :: a7 :: a8 :: some (.int x) :: t)[9]? = some (some (.int x)) from rfl))
    exact lv_iinc hx hb d hl.has hq hv (Nat.le_of_ble_eq_true hn) rfl (fun ls' hl' => k H locs ls' w f (glv.put hg hl'))
theorem j_ild10 (S : gSt l R cc own nm nL ret G L o ad vv K mc ms J) {a0 a1 a2 a3 a4 a5 a6 a7 a8 a9 : Option Value} {t : List (Option Value)} {x : Int32} (d : decode cc pc = .ok (.iload 10, 2)) (k : J Y h cs ss (pc + 2) (a0 :: a1 :: a2 :: a3 :: a4 :: a5 :: a6 :: a7 :: a8 :: a9 :: some (.int x) :: t) (.int x :: st)) : J Y h cs ss pc (a0 :: a1 :: a2 :: a3 :: a4 :: a5 :: a6 :: a7 :: a8 :: a9 :: some (.int x) :: t) st := by
  obtain ⟨p, e, s, m, args, below, meth, c, A, Qf, hQf, rfl, hx, hb, hml, hr, hlk, hown, hts, hK, hnm, hG⟩ := S
  exact fun H locs ls w f hl => lv_iload hx hb d (hl.2.2 10 _ rfl) (k H locs ls w f hl)
theorem j_ald10 (S : gSt l R cc own nm nL ret G L o ad vv K mc ms J) {a0 a1 a2 a3 a4 a5 a6 a7 a8 a9 : Option Value} {t : List (Option Value)} {x : Nat} (d : decode cc pc = .ok (.aload 10, 2)) (k : J Y h cs ss (pc + 2) (a0 :: a1 :: a2 :: a3 :: a4 :: a5 :: a6 :: a7 :: a8 :: a9 :: some (.ref x) :: t) (.ref x :: st)) : J Y h cs ss pc (a0 :: a1 :: a2 :: a3 :: a4 :: a5 :: a6 :: a7 :: a8 :: a9 :: some (.ref x) :: t) st := by
  obtain ⟨p, e, s, m, args, below, meth, c, A, Qf, hQf, rfl, hx, hb, hml, hr, hlk, hown, hts, hK, hnm, hG⟩ := S
  exact fun H locs ls w f hl => lv_aload hx hb d (hl.2.2 10 _ rfl) (k H locs ls w f hl)
theorem j_lld10 (S : gSt l R cc own nm nL ret G L o ad vv K mc ms J) {a0 a1 a2 a3 a4 a5 a6 a7 a8 a9 : Option Value} {t : List (Option Value)} {x : Int64} (d : decode cc pc = .ok (.lload 10, 2)) (k : J Y h cs ss (pc + 2) (a0 :: a1 :: a2 :: a3 :: a4 :: a5 :: a6 :: a7 :: a8 :: a9 :: some (.long x) :: t) (.long x :: st)) : J Y h cs ss pc (a0 :: a1 :: a2 :: a3 :: a4 :: a5 :: a6 :: a7 :: a8 :: a9 :: some (.long x) :: t) st := by
  obtain ⟨p, e, s, m, args, below, meth, c, A, Qf, hQf, rfl, hx, hb, hml, hr, hlk, hown, hts, hK, hnm, hG⟩ := S
  exact fun H locs ls w f hl => lv_lload hx hb d (hl.2.2 10 _ rfl) (k H locs ls w f hl)
theorem j_ist10 (S : gSt l R cc own nm nL ret G L o ad vv K mc ms J) {a0 a1 a2 a3 a4 a5 a6 a7 a8 a9 a10 : Option Value} {t : List (Option Value)} {x : Int32} (d : decode cc pc = .ok (.istore 10, 2)) (hn : Nat.ble 11 nL = true) (hg : gok (a0 :: a1 :: a2 :: a3 :: a4 :: a5 :: a6 :: a7 :: a8 :: a9 :: a10 :: t) 10 = true) (k : J Y h cs ss (pc + 2) (a0 :: a1 :: a2 :: a3 :: a4 :: a5 :: a6 :: a7 :: a8 :: a9 :: some (.int x) :: t) st) : J Y h cs ss pc (a0 :: a1 :: a2 :: a3 :: a4 :: a5 :: a6 :: a7 :: a8 :: a9 :: a10 :: t) (.int x :: st) := by
  obtain ⟨p, e, s, m, args, below, meth, c, A, Qf, hQf, rfl, hx, hb, hml, hr, hlk, hown, hts, hK, hnm, hG⟩ := S
  exact fun H locs ls w f hl => lv_istore hx hb d hl.has (Nat.le_of_ble_eq_true hn) rfl (fun ls' hl' => k H locs ls' w f (glv.put hg hl'))
theorem j_ast10 (S : gSt l R cc own nm nL ret G L o ad vv K mc ms J) {a0 a1 a2 a3 a4 a5 a6 a7 a8 a9 a10 : Option Value} {t : List (Option Value)} {x : Nat} (d : decode cc pc = .ok (.astore 10, 2)) (hn : Nat.ble 11 nL = true) (hg : gok (a0 :: a1 :: a2 :: a3 :: a4 :: a5 :: a6 :: a7 :: a8 :: a9 :: a10 :: t) 10 = true) (k : J Y h cs ss (pc + 2) (a0 :: a1 :: a2 :: a3 :: a4 :: a5 :: a6 :: a7 :: a8 :: a9 :: some (.ref x) :: t) st) : J Y h cs ss pc (a0 :: a1 :: a2 :: a3 :: a4 :: a5 :: a6 :: a7 :: a8 :: a9 :: a10 :: t) (.ref x :: st) := by
  obtain ⟨p, e, s, m, args, below, meth, c, A, Qf, hQf, rfl, hx, hb, hml, hr, hlk, hown, hts, hK, hnm, hG⟩ := S
  exact fun H locs ls w f hl => lv_astore hx hb d hl.has (Nat.le_of_ble_eq_true hn) rfl (fun ls' hl' => k H locs ls' w f (glv.put hg hl'))
theorem j_lst10 (S : gSt l R cc own nm nL ret G L o ad vv K mc ms J) {a0 a1 a2 a3 a4 a5 a6 a7 a8 a9 a10 a11 : Option Value} {t : List (Option Value)} {x : Int64} (d : decode cc pc = .ok (.lstore 10, 2)) (hn : Nat.ble 12 nL = true) (hg : gok (a0 :: a1 :: a2 :: a3 :: a4 :: a5 :: a6 :: a7 :: a8 :: a9 :: a10 :: a11 :: t) 10 = true) (k : J Y h cs ss (pc + 2) (a0 :: a1 :: a2 :: a3 :: a4 :: a5 :: a6 :: a7 :: a8 :: a9 :: some (.long x) :: none :: t) st) : J Y h cs ss pc (a0 :: a1 :: a2 :: a3 :: a4 :: a5 :: a6 :: a7 :: a8 :: a9 :: a10 :: a11 :: t) (.long x :: st) := by
  obtain ⟨p, e, s, m, args, below, meth, c, A, Qf, hQf, rfl, hx, hb, hml, hr, hlk, hown, hts, hK, hnm, hG⟩ := S
  exact fun H locs ls w f hl => lv_lstore hx hb d hl.has (Nat.le_of_ble_eq_true hn) rfl (fun ls' hl' => k H locs ls' w f (glv.put2 hg hl'))
theorem j_iinc10 (S : gSt l R cc own nm nL ret G L o ad vv K mc ms J) {a0 a1 a2 a3 a4 a5 a6 a7 a8 a9 : Option Value} {t : List (Option Value)} {x v : Int32} {n : Int} (d : decode cc pc = .ok (.iinc 10 n, 3)) (hv : x + Int32.ofInt n = v) (hn : Nat.ble 11 nL = true) (hg : gok (a0 :: a1 :: a2 :: a3 :: a4 :: a5 :: a6 :: a7 :: a8 :: a9 :: some (.int x) :: t) 10 = true) (k : J Y h cs ss (pc + 3) (a0 :: a1 :: a2 :: a3 :: a4 :: a5 :: a6 :: a7 :: a8 :: a9 :: some (.int v) :: t) st) : J Y h cs ss pc (a0 :: a1 :: a2 :: a3 :: a4 :: a5 :: a6 :: a7 :: a8 :: a9 :: some (.int x) :: t) st := by
  obtain ⟨p, e, s, m, args, below, meth, c, A, Qf, hQf, rfl, hx, hb, hml, hr, hlk, hown, hts, hK, hnm, hG⟩ := S
  exact fun H locs ls w f hl => by
    obtain ⟨q, hq⟩ := List.getElem?_of_mem (gtp_mem.mpr (show (a0 :: a1 :: a2 :: a3 :: a4 :: a5 :: a6 :: a7 :: a8 :: a9 :: some (.int x) :: t)[10]? = some (some (.int x)) from rfl))
    exact lv_iinc hx hb d hl.has hq hv (Nat.le_of_ble_eq_true hn) rfl (fun ls' hl' => k H locs ls' w f (glv.put hg hl'))
theorem j_ild11 (S : gSt l R cc own nm nL ret G L o ad vv K mc ms J) {a0 a1 a2 a3 a4 a5 a6 a7 a8 a9 a10 : Option Value} {t : List (Option Value)} {x : Int32} (d : decode cc pc = .ok (.iload 11, 2)) (k : J Y h cs ss (pc + 2) (a0 :: a1 :: a2 :: a3 :: a4 :: a5 :: a6 :: a7 :: a8 :: a9 :: a10 :: some (.int x) :: t) (.int x :: st)) : J Y h cs ss pc (a0 :: a1 :: a2 :: a3 :: a4 :: a5 :: a6 :: a7 :: a8 :: a9 :: a10 :: some (.int x) :: t) st := by
  obtain ⟨p, e, s, m, args, below, meth, c, A, Qf, hQf, rfl, hx, hb, hml, hr, hlk, hown, hts, hK, hnm, hG⟩ := S
  exact fun H locs ls w f hl => lv_iload hx hb d (hl.2.2 11 _ rfl) (k H locs ls w f hl)
theorem j_ald11 (S : gSt l R cc own nm nL ret G L o ad vv K mc ms J) {a0 a1 a2 a3 a4 a5 a6 a7 a8 a9 a10 : Option Value} {t : List (Option Value)} {x : Nat} (d : decode cc pc = .ok (.aload 11, 2)) (k : J Y h cs ss (pc + 2) (a0 :: a1 :: a2 :: a3 :: a4 :: a5 :: a6 :: a7 :: a8 :: a9 :: a10 :: some (.ref x) :: t) (.ref x :: st)) : J Y h cs ss pc (a0 :: a1 :: a2 :: a3 :: a4 :: a5 :: a6 :: a7 :: a8 :: a9 :: a10 :: some (.ref x) :: t) st := by
  obtain ⟨p, e, s, m, args, below, meth, c, A, Qf, hQf, rfl, hx, hb, hml, hr, hlk, hown, hts, hK, hnm, hG⟩ := S
  exact fun H locs ls w f hl => lv_aload hx hb d (hl.2.2 11 _ rfl) (k H locs ls w f hl)
theorem j_lld11 (S : gSt l R cc own nm nL ret G L o ad vv K mc ms J) {a0 a1 a2 a3 a4 a5 a6 a7 a8 a9 a10 : Option Value} {t : List (Option Value)} {x : Int64} (d : decode cc pc = .ok (.lload 11, 2)) (k : J Y h cs ss (pc + 2) (a0 :: a1 :: a2 :: a3 :: a4 :: a5 :: a6 :: a7 :: a8 :: a9 :: a10 :: some (.long x) :: t) (.long x :: st)) : J Y h cs ss pc (a0 :: a1 :: a2 :: a3 :: a4 :: a5 :: a6 :: a7 :: a8 :: a9 :: a10 :: some (.long x) :: t) st := by
  obtain ⟨p, e, s, m, args, below, meth, c, A, Qf, hQf, rfl, hx, hb, hml, hr, hlk, hown, hts, hK, hnm, hG⟩ := S
  exact fun H locs ls w f hl => lv_lload hx hb d (hl.2.2 11 _ rfl) (k H locs ls w f hl)
theorem j_ist11 (S : gSt l R cc own nm nL ret G L o ad vv K mc ms J) {a0 a1 a2 a3 a4 a5 a6 a7 a8 a9 a10 a11 : Option Value} {t : List (Option Value)} {x : Int32} (d : decode cc pc = .ok (.istore 11, 2)) (hn : Nat.ble 12 nL = true) (hg : gok (a0 :: a1 :: a2 :: a3 :: a4 :: a5 :: a6 :: a7 :: a8 :: a9 :: a10 :: a11 :: t) 11 = true) (k : J Y h cs ss (pc + 2) (a0 :: a1 :: a2 :: a3 :: a4 :: a5 :: a6 :: a7 :: a8 :: a9 :: a10 :: some (.int x) :: t) st) : J Y h cs ss pc (a0 :: a1 :: a2 :: a3 :: a4 :: a5 :: a6 :: a7 :: a8 :: a9 :: a10 :: a11 :: t) (.int x :: st) := by
  obtain ⟨p, e, s, m, args, below, meth, c, A, Qf, hQf, rfl, hx, hb, hml, hr, hlk, hown, hts, hK, hnm, hG⟩ := S
  exact fun H locs ls w f hl => lv_istore hx hb d hl.has (Nat.le_of_ble_eq_true hn) rfl (fun ls' hl' => k H locs ls' w f (glv.put hg hl'))
theorem j_ast11 (S : gSt l R cc own nm nL ret G L o ad vv K mc ms J) {a0 a1 a2 a3 a4 a5 a6 a7 a8 a9 a10 a11 : Option Value} {t : List (Option Value)} {x : Nat} (d : decode cc pc = .ok (.astore 11, 2)) (hn : Nat.ble 12 nL = true) (hg : gok (a0 :: a1 :: a2 :: a3 :: a4 :: a5 :: a6 :: a7 :: a8 :: a9 :: a10 :: a11 :: t) 11 = true) (k : J Y h cs ss (pc + 2) (a0 :: a1 :: a2 :: a3 :: a4 :: a5 :: a6 :: a7 :: a8 :: a9 :: a10 :: some (.ref x) :: t) st) : J Y h cs ss pc (a0 :: a1 :: a2 :: a3 :: a4 :: a5 :: a6 :: a7 :: a8 :: a9 :: a10 :: a11 :: t) (.ref x :: st) := by
  obtain ⟨p, e, s, m, args, below, meth, c, A, Qf, hQf, rfl, hx, hb, hml, hr, hlk, hown, hts, hK, hnm, hG⟩ := S
  exact fun H locs ls w f hl => lv_astore hx hb d hl.has (Nat.le_of_ble_eq_true hn) rfl (fun ls' hl' => k H locs ls' w f (glv.put hg hl'))
theorem j_lst11 (S : gSt l R cc own nm nL ret G L o ad vv K mc ms J) {a0 a1 a2 a3 a4 a5 a6 a7 a8 a9 a10 a11 a12 : Option Value} {t : List (Option Value)} {x : Int64} (d : decode cc pc = .ok (.lstore 11, 2)) (hn : Nat.ble 13 nL = true) (hg : gok (a0 :: a1 :: a2 :: a3 :: a4 :: a5 :: a6 :: a7 :: a8 :: a9 :: a10 :: a11 :: a12 :: t) 11 = true) (k : J Y h cs ss (pc + 2) (a0 :: a1 :: a2 :: a3 :: a4 :: a5 :: a6 :: a7 :: a8 :: a9 :: a10 :: some (.long x) :: none :: t) st) : J Y h cs ss pc (a0 :: a1 :: a2 :: a3 :: a4 :: a5 :: a6 :: a7 :: a8 :: a9 :: a10 :: a11 :: a12 :: t) (.long x :: st) := by
  obtain ⟨p, e, s, m, args, below, meth, c, A, Qf, hQf, rfl, hx, hb, hml, hr, hlk, hown, hts, hK, hnm, hG⟩ := S
  exact fun H locs ls w f hl => lv_lstore hx hb d hl.has (Nat.le_of_ble_eq_true hn) rfl (fun ls' hl' => k H locs ls' w f (glv.put2 hg hl'))
theorem j_iinc11 (S : gSt l R cc own nm nL ret G L o ad vv K mc ms J) {a0 a1 a2 a3 a4 a5 a6 a7 a8 a9 a10 : Option Value} {t : List (Option Value)} {x v : Int32} {n : Int} (d : decode cc pc = .ok (.iinc 11 n, 3)) (hv : x + Int32.ofInt n = v) (hn : Nat.ble 12 nL = true) (hg : gok (a0 :: a1 :: a2 :: a3 :: a4 :: a5 :: a6 :: a7 :: a8 :: a9 :: a10 :: some (.int x) :: t) 11 = true) (k : J Y h cs ss (pc + 3) (a0 :: a1 :: a2 :: a3 :: a4 :: a5 :: a6 :: a7 :: a8 :: a9 :: a10 :: some (.int v) :: t) st) : J Y h cs ss pc (a0 :: a1 :: a2 :: a3 :: a4 :: a5 :: a6 :: a7 :: a8 :: a9 :: a10 :: some (.int x) :: t) st := by
  obtain ⟨p, e, s, m, args, below, meth, c, A, Qf, hQf, rfl, hx, hb, hml, hr, hlk, hown, hts, hK, hnm, hG⟩ := S
  exact fun H locs ls w f hl => by
    obtain ⟨q, hq⟩ := List.getElem?_of_mem (gtp_mem.mpr (show (a0 :: a1 :: a2 :: a3 :: a4 :: a5 :: a6 :: a7 :: a8 :: a9 :: a10 :: some (.int x) :: t)[11]? = some (some (.int x)) from rfl))
    exact lv_iinc hx hb d hl.has hq hv (Nat.le_of_ble_eq_true hn) rfl (fun ls' hl' => k H locs ls' w f (glv.put hg hl'))
theorem j_iadd (S : gSt l R cc own nm nL ret G L o ad vv K mc ms J) {x y : Int32} (d : decode cc pc = .ok (.iadd, 1)) (k : J Y h cs ss (pc + 1) lv (.int (x + y) :: st)) : J Y h cs ss pc lv (.int y :: .int x :: st) := by
  obtain ⟨p, e, s, m, args, below, meth, c, A, Qf, hQf, rfl, hx, hb, hml, hr, hlk, hown, hts, hK, hnm, hG⟩ := S
  exact fun H locs ls w f hl => lv_iadd hx hb d (k H locs ls w f hl)
theorem j_isub (S : gSt l R cc own nm nL ret G L o ad vv K mc ms J) {x y : Int32} (d : decode cc pc = .ok (.isub, 1)) (k : J Y h cs ss (pc + 1) lv (.int (x - y) :: st)) : J Y h cs ss pc lv (.int y :: .int x :: st) := by
  obtain ⟨p, e, s, m, args, below, meth, c, A, Qf, hQf, rfl, hx, hb, hml, hr, hlk, hown, hts, hK, hnm, hG⟩ := S
  exact fun H locs ls w f hl => lv_isub hx hb d (k H locs ls w f hl)
theorem j_imul (S : gSt l R cc own nm nL ret G L o ad vv K mc ms J) {x y : Int32} (d : decode cc pc = .ok (.imul, 1)) (k : J Y h cs ss (pc + 1) lv (.int (x * y) :: st)) : J Y h cs ss pc lv (.int y :: .int x :: st) := by
  obtain ⟨p, e, s, m, args, below, meth, c, A, Qf, hQf, rfl, hx, hb, hml, hr, hlk, hown, hts, hK, hnm, hG⟩ := S
  exact fun H locs ls w f hl => lv_imul hx hb d (k H locs ls w f hl)
theorem j_iand (S : gSt l R cc own nm nL ret G L o ad vv K mc ms J) {x y : Int32} (d : decode cc pc = .ok (.iand, 1)) (k : J Y h cs ss (pc + 1) lv (.int (x &&& y) :: st)) : J Y h cs ss pc lv (.int y :: .int x :: st) := by
  obtain ⟨p, e, s, m, args, below, meth, c, A, Qf, hQf, rfl, hx, hb, hml, hr, hlk, hown, hts, hK, hnm, hG⟩ := S
  exact fun H locs ls w f hl => lv_iand hx hb d (k H locs ls w f hl)
theorem j_ior (S : gSt l R cc own nm nL ret G L o ad vv K mc ms J) {x y : Int32} (d : decode cc pc = .ok (.ior, 1)) (k : J Y h cs ss (pc + 1) lv (.int (x ||| y) :: st)) : J Y h cs ss pc lv (.int y :: .int x :: st) := by
  obtain ⟨p, e, s, m, args, below, meth, c, A, Qf, hQf, rfl, hx, hb, hml, hr, hlk, hown, hts, hK, hnm, hG⟩ := S
  exact fun H locs ls w f hl => lv_ior hx hb d (k H locs ls w f hl)
theorem j_ixor (S : gSt l R cc own nm nL ret G L o ad vv K mc ms J) {x y : Int32} (d : decode cc pc = .ok (.ixor, 1)) (k : J Y h cs ss (pc + 1) lv (.int (x ^^^ y) :: st)) : J Y h cs ss pc lv (.int y :: .int x :: st) := by
  obtain ⟨p, e, s, m, args, below, meth, c, A, Qf, hQf, rfl, hx, hb, hml, hr, hlk, hown, hts, hK, hnm, hG⟩ := S
  exact fun H locs ls w f hl => lv_ixor hx hb d (k H locs ls w f hl)
theorem j_ishl (S : gSt l R cc own nm nL ret G L o ad vv K mc ms J) {x y : Int32} (d : decode cc pc = .ok (.ishl, 1)) (k : J Y h cs ss (pc + 1) lv (.int (x <<< (y &&& 31)) :: st)) : J Y h cs ss pc lv (.int y :: .int x :: st) := by
  obtain ⟨p, e, s, m, args, below, meth, c, A, Qf, hQf, rfl, hx, hb, hml, hr, hlk, hown, hts, hK, hnm, hG⟩ := S
  exact fun H locs ls w f hl => lv_ishl hx hb d (k H locs ls w f hl)
theorem j_ishr (S : gSt l R cc own nm nL ret G L o ad vv K mc ms J) {x y : Int32} (d : decode cc pc = .ok (.ishr, 1)) (k : J Y h cs ss (pc + 1) lv (.int (x >>> (y &&& 31)) :: st)) : J Y h cs ss pc lv (.int y :: .int x :: st) := by
  obtain ⟨p, e, s, m, args, below, meth, c, A, Qf, hQf, rfl, hx, hb, hml, hr, hlk, hown, hts, hK, hnm, hG⟩ := S
  exact fun H locs ls w f hl => lv_ishr hx hb d (k H locs ls w f hl)
theorem j_iushr (S : gSt l R cc own nm nL ret G L o ad vv K mc ms J) {x y : Int32} (d : decode cc pc = .ok (.iushr, 1)) (k : J Y h cs ss (pc + 1) lv (.int ((x.toUInt32 >>> (y.toUInt32 &&& Int32.toUInt32 31)).toInt32) :: st)) : J Y h cs ss pc lv (.int y :: .int x :: st) := by
  obtain ⟨p, e, s, m, args, below, meth, c, A, Qf, hQf, rfl, hx, hb, hml, hr, hlk, hown, hts, hK, hnm, hG⟩ := S
  exact fun H locs ls w f hl => lv_iushr hx hb d rfl (k H locs ls w f hl)
theorem j_ineg (S : gSt l R cc own nm nL ret G L o ad vv K mc ms J) {x : Int32} (d : decode cc pc = .ok (.ineg, 1)) (k : J Y h cs ss (pc + 1) lv (.int (-x) :: st)) : J Y h cs ss pc lv (.int x :: st) := by
  obtain ⟨p, e, s, m, args, below, meth, c, A, Qf, hQf, rfl, hx, hb, hml, hr, hlk, hown, hts, hK, hnm, hG⟩ := S
  exact fun H locs ls w f hl => lv_ineg hx hb d (k H locs ls w f hl)
theorem j_idiv (S : gSt l R cc own nm nL ret G L o ad vv K mc ms J) {x y : Int32} (hne : ¬ y = 0) (d : decode cc pc = .ok (.idiv, 1)) (k : J Y h cs ss (pc + 1) lv (.int (x / y) :: st)) : J Y h cs ss pc lv (.int y :: .int x :: st) := by
  obtain ⟨p, e, s, m, args, below, meth, c, A, Qf, hQf, rfl, hx, hb, hml, hr, hlk, hown, hts, hK, hnm, hG⟩ := S
  exact fun H locs ls w f hl => lv_idiv hx hb d hne (k H locs ls w f hl)
theorem j_irem (S : gSt l R cc own nm nL ret G L o ad vv K mc ms J) {x y : Int32} (hne : ¬ y = 0) (d : decode cc pc = .ok (.irem, 1)) (k : J Y h cs ss (pc + 1) lv (.int (x - x / y * y) :: st)) : J Y h cs ss pc lv (.int y :: .int x :: st) := by
  obtain ⟨p, e, s, m, args, below, meth, c, A, Qf, hQf, rfl, hx, hb, hml, hr, hlk, hown, hts, hK, hnm, hG⟩ := S
  exact fun H locs ls w f hl => lv_irem hx hb d hne (k H locs ls w f hl)
theorem j_ladd (S : gSt l R cc own nm nL ret G L o ad vv K mc ms J) {x y : Int64} (d : decode cc pc = .ok (.ladd, 1)) (k : J Y h cs ss (pc + 1) lv (.long (x + y) :: st)) : J Y h cs ss pc lv (.long y :: .long x :: st) := by
  obtain ⟨p, e, s, m, args, below, meth, c, A, Qf, hQf, rfl, hx, hb, hml, hr, hlk, hown, hts, hK, hnm, hG⟩ := S
  exact fun H locs ls w f hl => lv_ladd hx hb d (k H locs ls w f hl)
theorem j_lsub (S : gSt l R cc own nm nL ret G L o ad vv K mc ms J) {x y : Int64} (d : decode cc pc = .ok (.lsub, 1)) (k : J Y h cs ss (pc + 1) lv (.long (x - y) :: st)) : J Y h cs ss pc lv (.long y :: .long x :: st) := by
  obtain ⟨p, e, s, m, args, below, meth, c, A, Qf, hQf, rfl, hx, hb, hml, hr, hlk, hown, hts, hK, hnm, hG⟩ := S
  exact fun H locs ls w f hl => lv_lsub hx hb d (k H locs ls w f hl)
theorem j_lcmp (S : gSt l R cc own nm nL ret G L o ad vv K mc ms J) {x y : Int64} (d : decode cc pc = .ok (.lcmp, 1)) (k : J Y h cs ss (pc + 1) lv (.int (lg_cmp x y) :: st)) : J Y h cs ss pc lv (.long y :: .long x :: st) := by
  obtain ⟨p, e, s, m, args, below, meth, c, A, Qf, hQf, rfl, hx, hb, hml, hr, hlk, hown, hts, hK, hnm, hG⟩ := S
  exact fun H locs ls w f hl => W.lcmp hx hb d (k H locs ls w f hl)
theorem j_i2l (S : gSt l R cc own nm nL ret G L o ad vv K mc ms J) {x : Int32} (d : decode cc pc = .ok (.i2l, 1)) (k : J Y h cs ss (pc + 1) lv (.long x.toInt64 :: st)) : J Y h cs ss pc lv (.int x :: st) := by
  obtain ⟨p, e, s, m, args, below, meth, c, A, Qf, hQf, rfl, hx, hb, hml, hr, hlk, hown, hts, hK, hnm, hG⟩ := S
  exact fun H locs ls w f hl => lv_i2l hx hb d rfl (k H locs ls w f hl)
theorem j_l2i (S : gSt l R cc own nm nL ret G L o ad vv K mc ms J) {x : Int64} (d : decode cc pc = .ok (.l2i, 1)) (k : J Y h cs ss (pc + 1) lv (.int x.toInt32 :: st)) : J Y h cs ss pc lv (.long x :: st) := by
  obtain ⟨p, e, s, m, args, below, meth, c, A, Qf, hQf, rfl, hx, hb, hml, hr, hlk, hown, hts, hK, hnm, hG⟩ := S
  exact fun H locs ls w f hl => lv_l2i hx hb d rfl (k H locs ls w f hl)
theorem j_i2b (S : gSt l R cc own nm nL ret G L o ad vv K mc ms J) {x : Int32} (d : decode cc pc = .ok (.i2b, 1)) (k : J Y h cs ss (pc + 1) lv (.int x.toInt8.toInt32 :: st)) : J Y h cs ss pc lv (.int x :: st) := by
  obtain ⟨p, e, s, m, args, below, meth, c, A, Qf, hQf, rfl, hx, hb, hml, hr, hlk, hown, hts, hK, hnm, hG⟩ := S
  exact fun H locs ls w f hl => lv_i2b hx hb d rfl (k H locs ls w f hl)
theorem j_i2s (S : gSt l R cc own nm nL ret G L o ad vv K mc ms J) {x : Int32} (d : decode cc pc = .ok (.i2s, 1)) (k : J Y h cs ss (pc + 1) lv (.int x.toInt16.toInt32 :: st)) : J Y h cs ss pc lv (.int x :: st) := by
  obtain ⟨p, e, s, m, args, below, meth, c, A, Qf, hQf, rfl, hx, hb, hml, hr, hlk, hown, hts, hK, hnm, hG⟩ := S
  exact fun H locs ls w f hl => lv_i2s hx hb d rfl (k H locs ls w f hl)
theorem j_dup (S : gSt l R cc own nm nL ret G L o ad vv K mc ms J) {v : Value} (d : decode cc pc = .ok (.dup, 1)) (hv : v.category = 1) (k : J Y h cs ss (pc + 1) lv (v :: v :: st)) : J Y h cs ss pc lv (v :: st) := by
  obtain ⟨p, e, s, m, args, below, meth, c, A, Qf, hQf, rfl, hx, hb, hml, hr, hlk, hown, hts, hK, hnm, hG⟩ := S
  exact fun H locs ls w f hl => lv_dup hx hb d hv (k H locs ls w f hl)
theorem j_pop (S : gSt l R cc own nm nL ret G L o ad vv K mc ms J) {v : Value} (d : decode cc pc = .ok (.pop, 1)) (hv : v.category = 1) (k : J Y h cs ss (pc + 1) lv st) : J Y h cs ss pc lv (v :: st) := by
  obtain ⟨p, e, s, m, args, below, meth, c, A, Qf, hQf, rfl, hx, hb, hml, hr, hlk, hown, hts, hK, hnm, hG⟩ := S
  exact fun H locs ls w f hl => lv_pop hx hb d hv (k H locs ls w f hl)
theorem j_dup2 (S : gSt l R cc own nm nL ret G L o ad vv K mc ms J) {v u : Value} (d : decode cc pc = .ok (.dup2, 1)) (hv : v.category = 1) (hu : u.category = 1) (k : J Y h cs ss (pc + 1) lv (v :: u :: v :: u :: st)) : J Y h cs ss pc lv (v :: u :: st) := by
  obtain ⟨p, e, s, m, args, below, meth, c, A, Qf, hQf, rfl, hx, hb, hml, hr, hlk, hown, hts, hK, hnm, hG⟩ := S
  exact fun H locs ls w f hl => lv_dup2_11 hx hb d hv hu (k H locs ls w f hl)
theorem j_goto (S : gSt l R cc own nm nL ret G L o ad vv K mc ms J) {off : Int} {tgt : Nat} (d : decode cc pc = .ok (.goto off, 3)) (ht : (pc : Int) + off = (tgt : Int)) (k : J Y h cs ss tgt lv st) : J Y h cs ss pc lv st := by
  obtain ⟨p, e, s, m, args, below, meth, c, A, Qf, hQf, rfl, hx, hb, hml, hr, hlk, hown, hts, hK, hnm, hG⟩ := S
  exact fun H locs ls w f hl => lv_goto hx hb d ht (k H locs ls w f hl)
theorem j_if_eq (S : gSt l R cc own nm nL ret G L o ad vv K mc ms J) {x : Int32} {off : Int} {tgt : Nat} (d : decode cc pc = .ok (.ifCond .eq off, 3)) (ht : (pc : Int) + off = (tgt : Int)) (kt : x = 0 → J Y h cs ss tgt lv st) (kf : ¬ x = 0 → J Y h cs ss (pc + 3) lv st) : J Y h cs ss pc lv (.int x :: st) := by
  obtain ⟨p, e, s, m, args, below, meth, c, A, Qf, hQf, rfl, hx, hb, hml, hr, hlk, hown, hts, hK, hnm, hG⟩ := S
  exact fun H locs ls w f hl => lv_if_eq hx hb d ht (fun q => kt q H locs ls w f hl) (fun q => kf q H locs ls w f hl)
theorem j_icmp_eq (S : gSt l R cc own nm nL ret G L o ad vv K mc ms J) {x y : Int32} {off : Int} {tgt : Nat} (d : decode cc pc = .ok (.if_icmp .eq off, 3)) (ht : (pc : Int) + off = (tgt : Int)) (kt : x = y → J Y h cs ss tgt lv st) (kf : ¬ x = y → J Y h cs ss (pc + 3) lv st) : J Y h cs ss pc lv (.int y :: .int x :: st) := by
  obtain ⟨p, e, s, m, args, below, meth, c, A, Qf, hQf, rfl, hx, hb, hml, hr, hlk, hown, hts, hK, hnm, hG⟩ := S
  exact fun H locs ls w f hl => lv_icmp_eq hx hb d ht (fun q => kt q H locs ls w f hl) (fun q => kf q H locs ls w f hl)
theorem j_if_ne (S : gSt l R cc own nm nL ret G L o ad vv K mc ms J) {x : Int32} {off : Int} {tgt : Nat} (d : decode cc pc = .ok (.ifCond .ne off, 3)) (ht : (pc : Int) + off = (tgt : Int)) (kt : ¬ x = 0 → J Y h cs ss tgt lv st) (kf : x = 0 → J Y h cs ss (pc + 3) lv st) : J Y h cs ss pc lv (.int x :: st) := by
  obtain ⟨p, e, s, m, args, below, meth, c, A, Qf, hQf, rfl, hx, hb, hml, hr, hlk, hown, hts, hK, hnm, hG⟩ := S
  exact fun H locs ls w f hl => lv_if_ne hx hb d ht (fun q => kt q H locs ls w f hl) (fun q => kf q H locs ls w f hl)
theorem j_icmp_ne (S : gSt l R cc own nm nL ret G L o ad vv K mc ms J) {x y : Int32} {off : Int} {tgt : Nat} (d : decode cc pc = .ok (.if_icmp .ne off, 3)) (ht : (pc : Int) + off = (tgt : Int)) (kt : ¬ x = y → J Y h cs ss tgt lv st) (kf : x = y → J Y h cs ss (pc + 3) lv st) : J Y h cs ss pc lv (.int y :: .int x :: st) := by
  obtain ⟨p, e, s, m, args, below, meth, c, A, Qf, hQf, rfl, hx, hb, hml, hr, hlk, hown, hts, hK, hnm, hG⟩ := S
  exact fun H locs ls w f hl => lv_icmp_ne hx hb d ht (fun q => kt q H locs ls w f hl) (fun q => kf q H locs ls w f hl)
theorem j_if_lt (S : gSt l R cc own nm nL ret G L o ad vv K mc ms J) {x : Int32} {off : Int} {tgt : Nat} (d : decode cc pc = .ok (.ifCond .lt off, 3)) (ht : (pc : Int) + off = (tgt : Int)) (kt : x < 0 → J Y h cs ss tgt lv st) (kf : ¬ x < 0 → J Y h cs ss (pc + 3) lv st) : J Y h cs ss pc lv (.int x :: st) := by
  obtain ⟨p, e, s, m, args, below, meth, c, A, Qf, hQf, rfl, hx, hb, hml, hr, hlk, hown, hts, hK, hnm, hG⟩ := S
  exact fun H locs ls w f hl => lv_if_lt hx hb d ht (fun q => kt q H locs ls w f hl) (fun q => kf q H locs ls w f hl)
theorem j_icmp_lt (S : gSt l R cc own nm nL ret G L o ad vv K mc ms J) {x y : Int32} {off : Int} {tgt : Nat} (d : decode cc pc = .ok (.if_icmp .lt off, 3)) (ht : (pc : Int) + off = (tgt : Int)) (kt : x < y → J Y h cs ss tgt lv st) (kf : ¬ x < y → J Y h cs ss (pc + 3) lv st) : J Y h cs ss pc lv (.int y :: .int x :: st) := by
  obtain ⟨p, e, s, m, args, below, meth, c, A, Qf, hQf, rfl, hx, hb, hml, hr, hlk, hown, hts, hK, hnm, hG⟩ := S
  exact fun H locs ls w f hl => lv_icmp_lt hx hb d ht (fun q => kt q H locs ls w f hl) (fun q => kf q H locs ls w f hl)
theorem j_if_ge (S : gSt l R cc own nm nL ret G L o ad vv K mc ms J) {x : Int32} {off : Int} {tgt : Nat} (d : decode cc pc = .ok (.ifCond .ge off, 3)) (ht : (pc : Int) + off = (tgt : Int)) (kt : 0 ≤ x → J Y h cs ss tgt lv st) (kf : ¬ 0 ≤ x → J Y h cs ss (pc + 3) lv st) : J Y h cs ss pc lv (.int x :: st) := by
  obtain ⟨p, e, s, m, args, below, meth, c, A, Qf, hQf, rfl, hx, hb, hml, hr, hlk, hown, hts, hK, hnm, hG⟩ := S
  exact fun H locs ls w f hl => lv_if_ge hx hb d ht (fun q => kt q H locs ls w f hl) (fun q => kf q H locs ls w f hl)
theorem j_icmp_ge (S : gSt l R cc own nm nL ret G L o ad vv K mc ms J) {x y : Int32} {off : Int} {tgt : Nat} (d : decode cc pc = .ok (.if_icmp .ge off, 3)) (ht : (pc : Int) + off = (tgt : Int)) (kt : y ≤ x → J Y h cs ss tgt lv st) (kf : ¬ y ≤ x → J Y h cs ss (pc + 3) lv st) : J Y h cs ss pc lv (.int y :: .int x :: st) := by
  obtain ⟨p, e, s, m, args, below, meth, c, A, Qf, hQf, rfl, hx, hb, hml, hr, hlk, hown, hts, hK, hnm, hG⟩ := S
  exact fun H locs ls w f hl => lv_icmp_ge hx hb d ht (fun q => kt q H locs ls w f hl) (fun q => kf q H locs ls w f hl)
theorem j_if_gt (S : gSt l R cc own nm nL ret G L o ad vv K mc ms J) {x : Int32} {off : Int} {tgt : Nat} (d : decode cc pc = .ok (.ifCond .gt off, 3)) (ht : (pc : Int) + off = (tgt : Int)) (kt : 0 < x → J Y h cs ss tgt lv st) (kf : ¬ 0 < x → J Y h cs ss (pc + 3) lv st) : J Y h cs ss pc lv (.int x :: st) := by
  obtain ⟨p, e, s, m, args, below, meth, c, A, Qf, hQf, rfl, hx, hb, hml, hr, hlk, hown, hts, hK, hnm, hG⟩ := S
  exact fun H locs ls w f hl => lv_if_gt hx hb d ht (fun q => kt q H locs ls w f hl) (fun q => kf q H locs ls w f hl)
theorem j_icmp_gt (S : gSt l R cc own nm nL ret G L o ad vv K mc ms J) {x y : Int32} {off : Int} {tgt : Nat} (d : decode cc pc = .ok (.if_icmp .gt off, 3)) (ht : (pc : Int) + off = (tgt : Int)) (kt : y < x → J Y h cs ss tgt lv st) (kf : ¬ y < x → J Y h cs ss (pc + 3) lv st) : J Y h cs ss pc lv (.int y :: .int x :: st) := by
  obtain ⟨p, e, s, m, args, below, meth, c, A, Qf, hQf, rfl, hx, hb, hml, hr, hlk, hown, hts, hK, hnm, hG⟩ := S
  exact fun H locs ls w f hl => lv_icmp_gt hx hb d ht (fun q => kt q H locs ls w f hl) (fun q => kf q H locs ls w f hl)
theorem j_if_le (S : gSt l R cc own nm nL ret G L o ad vv K mc ms J) {x : Int32} {off : Int} {tgt : Nat} (d : decode cc pc = .ok (.ifCond .le off, 3)) (ht : (pc : Int) + off = (tgt : Int)) (kt : x ≤ 0 → J Y h cs ss tgt lv st) (kf : ¬ x ≤ 0 → J Y h cs ss (pc + 3) lv st) : J Y h cs ss pc lv (.int x :: st) := by
  obtain ⟨p, e, s, m, args, below, meth, c, A, Qf, hQf, rfl, hx, hb, hml, hr, hlk, hown, hts, hK, hnm, hG⟩ := S
  exact fun H locs ls w f hl => lv_if_le hx hb d ht (fun q => kt q H locs ls w f hl) (fun q => kf q H locs ls w f hl)
theorem j_icmp_le (S : gSt l R cc own nm nL ret G L o ad vv K mc ms J) {x y : Int32} {off : Int} {tgt : Nat} (d : decode cc pc = .ok (.if_icmp .le off, 3)) (ht : (pc : Int) + off = (tgt : Int)) (kt : x ≤ y → J Y h cs ss tgt lv st) (kf : ¬ x ≤ y → J Y h cs ss (pc + 3) lv st) : J Y h cs ss pc lv (.int y :: .int x :: st) := by
  obtain ⟨p, e, s, m, args, below, meth, c, A, Qf, hQf, rfl, hx, hb, hml, hr, hlk, hown, hts, hK, hnm, hG⟩ := S
  exact fun H locs ls w f hl => lv_icmp_le hx hb d ht (fun q => kt q H locs ls w f hl) (fun q => kf q H locs ls w f hl)
theorem j_tblOut (S : gSt l R cc own nm nL ret G L o ad vv K mc ms J) {dflt lo hi : Int} {offs : Array Int} {len : Nat} {x : Int32} {tgt : Nat} (d : decode cc pc = .ok (.tableswitch dflt lo hi offs, len)) (hq : x.toInt < lo ∨ hi < x.toInt) (ht : (pc : Int) + dflt = (tgt : Int)) (k : J Y h cs ss tgt lv st) : J Y h cs ss pc lv (.int x :: st) := by
  obtain ⟨p, e, s, m, args, below, meth, c, A, Qf, hQf, rfl, hx, hb, hml, hr, hlk, hown, hts, hK, hnm, hG⟩ := S
  exact fun H locs ls w f hl => lv_tableOut hx hb d hq ht (k H locs ls w f hl)
theorem j_tblIn (S : gSt l R cc own nm nL ret G L o ad vv K mc ms J) {dflt lo hi : Int} {offs : Array Int} {len : Nat} {x : Int32} {off : Int} {tgt : Nat} (d : decode cc pc = .ok (.tableswitch dflt lo hi offs, len)) (h1 : ¬ x.toInt < lo) (h2 : ¬ hi < x.toInt) (ho : offs[(x.toInt - lo).toNat]? = some off) (ht : (pc : Int) + off = (tgt : Int)) (k : J Y h cs ss tgt lv st) : J Y h cs ss pc lv (.int x :: st) := by
  obtain ⟨p, e, s, m, args, below, meth, c, A, Qf, hQf, rfl, hx, hb, hml, hr, hlk, hown, hts, hK, hnm, hG⟩ := S
  exact fun H locs ls w f hl => lv_tableIn hx hb d h1 h2 ho ht (k H locs ls w f hl)
theorem j_lookup (S : gSt l R cc own nm nL ret G L o ad vv K mc ms J) {dflt : Int} {ps : Array (Int × Int)} {len : Nat} {x : Int32} {off : Int} {tgt : Nat} (d : decode cc pc = .ok (.lookupswitch dflt ps, len)) (hp : (ps.toList.zip (ps.toList.drop 1)).all (fun (a, next) => a.1 < next.1) = true) (ho : Op.lookupswitch.offset ps.toList dflt x.toInt = off) (ht : (pc : Int) + off = (tgt : Int)) (k : J Y h cs ss tgt lv st) : J Y h cs ss pc lv (.int x :: st) := by
  obtain ⟨p, e, s, m, args, below, meth, c, A, Qf, hQf, rfl, hx, hb, hml, hr, hlk, hown, hts, hK, hnm, hG⟩ := S
  exact fun H locs ls w f hl => lv_lookup hx hb d hp ho ht (k H locs ls w f hl)
/-! ===== calls, answers ===== -/
theorem j_iret {K : Int32 → gY → gH → Prop} (S : gSt l R cc own nm nL (some .int) G L o ad (fun r => some (.int r)) K mc ms J) {r : Int32} (h1 : cs ≤ mc) (h2 : ss ≤ ms) (d : decode cc pc = .ok (.ireturn, 1)) (hk : K r Y h) : J Y h cs ss pc lv [.int r] := by
  obtain ⟨p, e, s, m, args, below, meth, c, A, Qf, hQf, rfl, hx, hb, hml, hr, hlk, hown, hts, hK, hnm, hG⟩ := S
  exact fun H locs ls w f hl => gmono hQf.1 (W.widen h1 h2 (W.iret (v := r) hx hb hr (fun t ht hW => ⟨⟨r, Y, h, rfl, hk, by rw [ht]; exact w.1, w.2.1, fun q e hq => w.2.2.1 q (Or.inr (Or.inr (Or.inl ⟨e, hq⟩)))⟩, w.2.2.2.F ht⟩) w.2.2.2.2.2 d hlk))
theorem j_zret {K : Int32 → gY → gH → Prop} (S : gSt l R cc own nm nL (some .boolean) G L o ad (fun r => some (.int r)) K mc ms J) {r : Int32} (h1 : cs ≤ mc) (h2 : ss ≤ ms) (d : decode cc pc = .ok (.ireturn, 1)) (hn : narrow .boolean (.int r) = .int r) (hk : K r Y h) : J Y h cs ss pc lv [.int r] := by
  obtain ⟨p, e, s, m, args, below, meth, c, A, Qf, hQf, rfl, hx, hb, hml, hr, hlk, hown, hts, hK, hnm, hG⟩ := S
  exact fun H locs ls w f hl => gmono hQf.1 (W.widen h1 h2 (W.zret (v := r) hx hb hr hn (fun t ht hW => ⟨⟨r, Y, h, rfl, hk, by rw [ht]; exact w.1, w.2.1, fun q e hq => w.2.2.1 q (Or.inr (Or.inr (Or.inl ⟨e, hq⟩)))⟩, w.2.2.2.F ht⟩) w.2.2.2.2.2 d hlk))
theorem j_vret {K : Unit → gY → gH → Prop} (S : gSt l R cc own nm nL none G L o ad (fun _ => none) K mc ms J) (h1 : cs ≤ mc) (h2 : ss ≤ ms) (d : decode cc pc = .ok (.return_, 1)) (hk : K () Y h) : J Y h cs ss pc lv [] := by
  obtain ⟨p, e, s, m, args, below, meth, c, A, Qf, hQf, rfl, hx, hb, hml, hr, hlk, hown, hts, hK, hnm, hG⟩ := S
  exact fun H locs ls w f hl => gmono hQf.1 (W.widen h1 h2 (W.vret hx hb hr (fun t ht hW => ⟨⟨(), Y, h, rfl, hk, by rw [ht]; exact w.1, w.2.1, fun q e hq => w.2.2.1 q (Or.inr (Or.inr (Or.inl ⟨e, hq⟩)))⟩, w.2.2.2.F ht⟩) w.2.2.2.2.2 d hlk))
theorem j_lret {K : Int64 → gY → gH → Prop} (S : gSt l R cc own nm nL (some .long) G L o ad (fun r => some (.long r)) K mc ms J) {r : Int64} (h1 : cs ≤ mc) (h2 : ss ≤ ms) (d : decode cc pc = .ok (.lreturn, 1)) (hk : K r Y h) : J Y h cs ss pc lv [.long r] := by
  obtain ⟨p, e, s, m, args, below, meth, c, A, Qf, hQf, rfl, hx, hb, hml, hr, hlk, hown, hts, hK, hnm, hG⟩ := S
  exact fun H locs ls w f hl => gmono hQf.1 (W.widen h1 h2 (W.lret (v := r) hx hb hr (fun t ht hW => ⟨⟨r, Y, h, rfl, hk, by rw [ht]; exact w.1, w.2.1, fun q e hq => w.2.2.1 q (Or.inr (Or.inr (Or.inl ⟨e, hq⟩)))⟩, w.2.2.2.F ht⟩) w.2.2.2.2.2 d hlk))
/-- an answer that is an object's address -/
theorem j_aret {K : Nat → gY → gH → Prop} {rt : FieldType} (S : gSt l R cc own nm nL (some rt) G L o ad (fun r => some (.ref r)) K mc ms J) (hrt : (∃ n, rt = .object n) ∨ ∃ t, rt = .array t) {r : Nat} (h1 : cs ≤ mc) (h2 : ss ≤ ms) (d : decode cc pc = .ok (.areturn, 1)) (hk : K r Y h) : J Y h cs ss pc lv [.ref r] := by
  obtain ⟨p, e, s, m, args, below, meth, c, A, Qf, hQf, rfl, hx, hb, hml, hr, hlk, hown, hts, hK, hnm, hG⟩ := S
  exact fun H locs ls w f hl => gmono hQf.1 (W.widen h1 h2 (W.aret (v := .ref r) hx hb hr hrt (Or.inr ⟨r, rfl⟩) (fun t ht hW => ⟨⟨r, Y, h, rfl, hk, by rw [ht]; exact w.1, w.2.1, fun q e hq => w.2.2.1 q (Or.inr (Or.inr (Or.inl ⟨e, hq⟩)))⟩, w.2.2.2.F ht⟩) w.2.2.2.2.2 d hlk))
theorem g_call {p : Program} {e : Env} {s : State} {m : MethodId} {args : Array Value} {below : List Frame} {meth : Method} {c : Code} {H H0 : Heap} {locs : List Loc} {cells slots mc' ms' : Nat} {Q : State → Prop} {ls : Array Slot} {rest st0 : List Value} {a : Array Value} {A0 A1 : Nat → Prop} {free : Addr → Prop} {vv' : β → Option Value} {K' : β → gY → gH → Prop}
    (hr : va_Run p l e R s m args below meth c H locs cells slots mc' ms' (F0 m pc ls st0) rest (gQ G L o ad vv' K' A1 a) free) (hS : va_S A0 H0 H locs) (hA : ∀ q, A1 q → A0 q) (hf : ∀ q, free q → A0 q)
    (kk : ∀ (r : β) (Y' : gY) (h' : gH) (H1 : Heap) (locs1 : List Loc), K' r Y' h' → gV G L o ad Y' h' H1 → gX L o ad h' → (∀ q e, h' q = some e → A1 q) → (∀ q : Nat, q < H.size → ¬ A1 q → H1[q]? = H[q]?) → va_S A0 H0 H1 locs1 → W p l e R s m args below meth c H1 locs1 (cells + mc') (slots + ms') Q (F0 m (pc + 3) ls ((vv' r).toList ++ rest))) : W p l e R s m args below meth c H locs cells slots Q (F0 m pc ls st0) := by
  intro T hT X
  obtain ⟨v, st₀, t, T', L', h0, X', hL, e1, e2, ⟨⟨r, Y', h', hv, hk, hV, hX, hd⟩, hz, hkp⟩, stp⟩ := hr T hT X
  cases hv
  rw [h0] at hz hkp
  obtain ⟨t2, a1, b1⟩ := kk r Y' h' T'.heap (locs ++ L') hk (by rw [e1]; exact hV) hX hd (fun q h1 h2 => by rw [e1]; exact hkp q h1 h2)
    ⟨Nat.le_trans hS.1 (by rw [e1]; exact hz), fun q h1 h2 => by rw [e1, hkp q (Nat.lt_of_lt_of_le h1 hS.1) (fun z => h2 (hA q z))]; exact hS.2.1 q h1 h2, fun q hq => by
      rcases List.mem_append.mp hq with h | h
      · exact hS.2.2 q h
      · exact hf _ (hL q h)⟩ T' rfl X'
  exact ⟨t2, stp t2 a1, b1⟩
theorem gW.sub {A : Nat → Prop} {H0 H : Heap} {locs : List Loc} (w : gW G L o ad Y h A H0 H locs) : ∀ q, gA L o ad h H.size q → A q := by
  intro q hq
  rcases hq with hq | hq | hq | hq
  · exact w.2.2.1 q (Or.inl hq)
  · exact w.2.2.1 q (Or.inr (Or.inl hq))
  · exact w.2.2.1 q (Or.inr (Or.inr (Or.inl hq)))
  · exact w.2.2.1 q (Or.inr (Or.inr (Or.inr (Nat.le_trans w.2.2.2.1 hq))))
theorem gW.after {A : Nat → Prop} {H0 H H1 : Heap} {locs locs1 : List Loc} {Y' : gY} {h' : gH} (w : gW G L o ad Y h A H0 H locs) (hV : gV G L o ad Y' h' H1) (hX : gX L o ad h') (hd : ∀ q e, h' q = some e → gA L o ad h H.size q) (hS : va_S A H0 H1 locs1) : gW G L o ad Y' h' A H0 H1 locs1 := by
  refine ⟨hV, hX, fun q hq => ?_, hS⟩
  rcases hq with hq | hq | ⟨e, hq⟩ | hq
  · exact w.2.2.1 q (Or.inl hq)
  · exact w.2.2.1 q (Or.inr (Or.inl hq))
  · exact w.sub q (hd q e hq)
  · exact w.2.2.1 q (Or.inr (Or.inr (Or.inr hq)))
/-- what a callee gets -/
theorem g_pre {s U : State} {A : Nat → Prop} {H0 H : Heap} {locs : List Loc} {av : List Value} (hG : gOK G) (hK : gK G s) (w : gW G L o ad Y h A H0 H locs) (f : G.2.2.2 A s H) (hU : U.heap = H) (hW : s.WarmedH U.vm) : gPre G L o ad Y h av H.size av.toArray U := by
  refine ⟨rfl, by rw [hU], by rw [hU]; exact w.1, w.2.1, hK.moved hG hW, ?_⟩
  rw [hU]
  exact hG.2.2.2.2 A _ U H w.sub (hG.2.2.1 A s U H hW.alike f)
/-- a call through an object whose class declares the method -/
theorem j_callV (S : gSt l R cc own nm nL ret G L o ad vv K mc ms J) {y : MethodName} {bytes : ByteArray} {maxL mc' ms' index : Nat} {ret' : Option FieldType} {rm' : Room} {C : String} {b : Nat} {As rest : List Value} {vv' : β → Option Value} {K' : β → gY → gH → Prop} (n : Nat)
    (hM : gMet l y (ws_ y bytes maxL ret') rm' G L o ad (.ref b :: As) vv' K' mc' ms' Y h) (hw : GoodIn lw_all (wsV own index C y (ws_ y bytes maxL ret'))) (hrc : rm'.cells = mc') (hrs : rm'.slots = ms')
    (hd : y.cls = C ∧ y.cls ≠ "java/lang/invoke/MethodHandle" ∧ y.cls ≠ "java/lang/invoke/VarHandle" ∧ (parseMethodDescriptor y.desc).map (fun d => d.parameters.length) = some n) (hR1 : Nat.ble (rm'.frames + 1) R.frames = true) (hR2 : Nat.ble (8 + (maxL + 11) + rm'.locals) R.locals = true)
    (hrv : ∀ H, gV G L o ad Y h H → ∃ (ci : Nat) (q : vw_C) (fs : List Value), gcl[ci]? = some q ∧ q.1 = C ∧ va_at G.1 gcl (b, .inr (ci, fs)) H) (hn : As.length = n) (hst : st = As.reverse ++ .ref b :: rest) (hsum : Nat.ble (rest.map fun v => v.category).sum 8 = true)
    (d : decode cc pc = .ok (.invokevirtual index, 3)) (hcs : cs + mc' ≤ R.cells) (hss : ss + ms' ≤ R.slots)
    (kk : ∀ (r : β) (Y' : gY) (h' : gH), K' r Y' h' → J Y' h' (cs + mc') (ss + ms') (pc + 3) lv ((vv' r).toList ++ rest)) : J Y h cs ss pc lv st := by
  obtain ⟨p, e, s, m, args, below, meth, c, A, Qf, hQf, rfl, hx, hb, hml, hr, hlk, hown, hts, hK, hnm, hG⟩ := S
  intro H locs ls w f hl
  subst hst
  obtain ⟨ci, q, fs, hq1, hq2, hat⟩ := hrv H w.1
  have hrecv := va_recv (q0 := 0) (ws := [(b, .inr (ci, fs))]) hK.1 (fun j x hj => by cases j with | zero => cases hj; exact hat | succ j => simp at hj) hq1 rfl
  rw [hq2] at hrecv
  refine g_call (va_runV (As := As) (rest := rest) ⟨hx, hb, hml, hown, hts⟩ (hM hG H.size) (cwV n hts hw rfl hrc hrs hd ⟨Nat.le_of_ble_eq_true hR1, Nat.le_of_ble_eq_true hR2⟩) ⟨gPre_blind hG, hrecv, fun U hU hW => g_pre hG hK w f hU hW⟩ rfl hn hl.1 rfl (lv_room (Nat.le_of_ble_eq_true hsum)) d ⟨hcs, hss⟩) w.2.2.2 w.sub w.sub (fun r Y' h' H1 locs1 hk hV hX hdm hkp hS => ?_)
  exact kk r Y' h' hk H1 locs1 ls (w.after hV hX hdm hS) (hG.2.2.2.1 A s H H1 (fun q h1 h2 => hkp q h1 (fun z => h2 (w.sub q z))) f) hl
/-- a static call -/
theorem j_callS (S : gSt l R cc own nm nL ret G L o ad vv K mc ms J) {y : MethodName} {bytes : ByteArray} {maxL mc' ms' index : Nat} {ret' : Option FieldType} {rm' : Room} {As rest : List Value} {vv' : β → Option Value} {K' : β → gY → gH → Prop} (n : Nat)
    (hM : gMet l y (ws_ y bytes maxL ret') rm' G L o ad As vv' K' mc' ms' Y h) (hw : GoodIn lw_all (va_wsS own index y (ws_ y bytes maxL ret'))) (hrc : rm'.cells = mc') (hrs : rm'.slots = ms')
    (hd : y.cls ≠ "java/lang/invoke/MethodHandle" ∧ y.cls ≠ "java/lang/invoke/VarHandle" ∧ (parseMethodDescriptor y.desc).map (fun d => d.parameters.length) = some n) (hR1 : Nat.ble (rm'.frames + 1) R.frames = true) (hR2 : Nat.ble (8 + (maxL + 11) + rm'.locals) R.locals = true)
    (hn : As.length = n) (hst : st = As.reverse ++ rest) (hsum : Nat.ble (rest.map fun v => v.category).sum 8 = true)
    (d : decode cc pc = .ok (.invokestatic index, 3)) (hcs : cs + mc' ≤ R.cells) (hss : ss + ms' ≤ R.slots)
    (kk : ∀ (r : β) (Y' : gY) (h' : gH), K' r Y' h' → J Y' h' (cs + mc') (ss + ms') (pc + 3) lv ((vv' r).toList ++ rest)) : J Y h cs ss pc lv st := by
  obtain ⟨p, e, s, m, args, below, meth, c, A, Qf, hQf, rfl, hx, hb, hml, hr, hlk, hown, hts, hK, hnm, hG⟩ := S
  intro H locs ls w f hl
  subst hst
  refine g_call (va_runS (As := As) (rest := rest) ⟨hx, hb, hml, hown, hts⟩ (hM hG H.size) (va_cwS n hts hw rfl hrc hrs hd ⟨Nat.le_of_ble_eq_true hR1, Nat.le_of_ble_eq_true hR2⟩) ⟨gPre_blind hG, fun U hU hW => g_pre hG hK w f hU hW⟩ rfl hn hl.1 rfl (lv_room (Nat.le_of_ble_eq_true hsum)) d ⟨hcs, hss⟩) w.2.2.2 w.sub w.sub (fun r Y' h' H1 locs1 hk hV hX hdm hkp hS => ?_)
  exact kk r Y' h' hk H1 locs1 ls (w.after hV hX hdm hS) (hG.2.2.2.1 A s H H1 (fun q h1 h2 => hkp q h1 (fun z => h2 (w.sub q z))) f) hl
/-! ===== the owner's own cells ===== -/
theorem gP1 {D : va_G} {q : Nat × va_E} {H : Heap} (hq : va_at D gcl q H) : va_P D gcl [q] H := fun j x hj => by
  cases j with
  | zero => cases hj; exact hq
  | succ j => simp at hj
theorem j_getO (S : gSt l R cc own nm nL ret G L o ad vv K mc ms J) {C : String} {T : u_T} {index : Nat} {v : Value} (k : Nat) (hc : gcl[L.1]? = some (C, T, L.2.1)) (hin : ∀ w ∈ u_ws C T L.2.1, w ∈ lw_all) (hk : Nat.ble (k + 1) L.2.1 = true)
    (q : Cond.fieldLink own index (T k).1 (T k).2.1 (T k).2.2.1 ∈ lw_all) (hv : (if L.2.2.1 k then Value.int (Y k 0) else Value.ref (ad k)) = v) (d : decode cc pc = .ok (.getfield index, 3)) (kk : J Y h cs ss (pc + 3) lv (v :: st)) : J Y h cs ss pc lv (.ref o :: st) := by
  obtain ⟨p, e, s, m, args, below, meth, c, A, Qf, hQf, rfl, hx, hb, hml, hr, hlk, hown, hts, hK, hnm, hG⟩ := S
  intro H locs ls w f hl
  have hk : k < L.2.1 := Nat.le_of_ble_eq_true hk
  exact va_get (D := G.1) (cl := gcl) (C := C) (T := T) (N := L.2.1) hx hb hts hin hown hK.1 (gP1 (w.1.1 (fun z => by rw [z] at hk; exact Nat.not_lt_zero _ hk))) 0 rfl hc k hk (hts _ q) (fun _ h9 => h9) (by rw [gO_get hk, hv]) d (kk H locs ls w f hl)
/-- a field is written: the core of va_put -/
theorem w_put {p : Program} {e : Env} {s : State} {m : MethodId} {args : Array Value} {below : List Frame} {meth : Method} {c : Code} {H : Heap} {locs : List Loc} {cells slots : Nat} {Q : State → Prop} {ls : Array Slot} {rest : List Value} {D : va_G} {a : Nat} {tys : List (ClassId × FieldType)}
    (hexec : p.tables.exec = Jvm.exec) (hb : c.code = cc) {own ref C : String} {T : u_T} {N ci index : Nat} {Ts : List Cond} (hts : ∀ w ∈ Ts, w.before args s = true) (hin : ∀ w ∈ u_ws C T N, w ∈ Ts) (ty0 : Nat → FieldType) (hty : ∀ k, k < N → parseFieldDescriptor (T k).2.2.1 = some (ty0 k)) (hnm : ∀ a, a < N → ∀ b, b < N → a ≠ b → (T a).2.1 ≠ (T b).2.1) (hown : s.vm.findClass own = some m.cls) (hK : va_K D gcl tys s)
    {fs : List Value} (hat : va_at D gcl (a, .inr (ci, fs)) H) (hc : gcl[ci]? = some (C, T, N)) (k : Nat) (hk : k < N) (hlink : (Cond.fieldLink own index ref (T k).2.1 (T k).2.2.1).before args s = true) (hsame : ∀ x, s.fieldFound? (T k).1 (T k).2.1 (T k).2.2.1 = some x → s.fieldFound? ref (T k).2.1 (T k).2.2.1 = some x) (hfin : (T k).2.2.2 = false) {ty : FieldType} {v : Value} (hd : parseFieldDescriptor (T k).2.2.1 = some ty) (hn : narrow ty v = v) (hfit : fits ty v = true) (hl : k < fs.length)
    (hdg : decode cc pc = .ok (.putfield index, 3)) (kk : ∀ (H1 : Heap) (j : Nat), va_at D gcl (a, .inr (ci, fs.set k v)) H1 → H1.size = H.size → (∀ q : Nat, q ≠ a → H1[q]? = H[q]?) → W p l e R s m args below meth c H1 (locs ++ [⟨a, j⟩]) cells slots Q (F0 m (pc + 3) ls rest)) : W p l e R s m args below meth c H locs cells slots Q (F0 m pc ls (v :: .ref a :: rest)) := by
  have hap := va_apart (own := own) hts hin ty0 hty hnm hK hc
  obtain ⟨r, h1, cell, q1, q2, q3, q4⟩ := hat
  have hr : r = (C, T, N) := Option.some.inj (h1.symm.trans hc)
  subst hr
  obtain ⟨hS, hfc, kC, hkC, hkind⟩ := hK.1 ci _ hc
  obtain ⟨cf, kf, fi, f, hi, hsl⟩ := hS k hk
  have hlay := hts _ (hin _ (u_in_lay hk))
  unfold u_lay at hlay
  rw [if_neg (by rw [hfin]; decide)] at hlay
  have hst := (u_facts hfc hkC (u_lays hts hin hk) hi).1
  have h6 := u_store hfc hkC hkind hlay hi hd hn hfit
  refine W.putK hexec hb (f := f) ⟨hown, hlink, ⟨_, _, _, hsame _ hi⟩, hst⟩ (by rw [q2]; exact h6) q1 q3 (by rw [hsl]; exact k2_hasslot (q4 k hk)) rfl rfl hdg fun H' e1 e2 e3 => ?_
  rw [hsl] at e1
  exact kk H' _ ⟨_, hc, t_OB.to (V := updV (vp_V fs) k v) ⟨_, e1, q2, q3, t_set q4 hap hk v⟩ (fun j _ => vp_updV_set hl v j)⟩ e2 e3
theorem j_putO (S : gSt l R cc own nm nL ret G L o ad vv K mc ms J) {C : String} {T : u_T} {index : Nat} {v : Int32} (k : Nat) (hc : gcl[L.1]? = some (C, T, L.2.1)) (hin : ∀ w ∈ u_ws C T L.2.1, w ∈ lw_all) (ty0 : Nat → FieldType) (hty : ∀ k, k < L.2.1 → parseFieldDescriptor (T k).2.2.1 = some (ty0 k)) (hnm : ∀ a, a < L.2.1 → ∀ b, b < L.2.1 → a ≠ b → (T a).2.1 ≠ (T b).2.1) (hk : Nat.ble (k + 1) L.2.1 = true)
    (q : Cond.fieldLink own index (T k).1 (T k).2.1 (T k).2.2.1 ∈ lw_all) (hi : L.2.2.1 k = true) (hfin : (T k).2.2.2 = false) (hnw : narrow (ty0 k) (.int v) = .int v) (hft : fits (ty0 k) (.int v) = true) (d : decode cc pc = .ok (.putfield index, 3)) (kk : ∀ Y' : gY, Y' = yset Y k v → J Y' h cs ss (pc + 3) lv st) : J Y h cs ss pc lv (.int v :: .ref o :: st) := by
  obtain ⟨p, e, s, m, args, below, meth, c, A, Qf, hQf, rfl, hx, hb, hml, hr, hlk, hown, hts, hK, hnm', hG⟩ := S
  intro H locs ls w f hl
  have hk : k < L.2.1 := Nat.le_of_ble_eq_true hk
  have hL : L.2.1 ≠ 0 := fun z => by rw [z] at hk; exact Nat.not_lt_zero _ hk
  refine w_put hx hb hts hin ty0 hty hnm hown hK.1 (w.1.1 hL) hc k hk (hts _ q) (fun _ h9 => h9) hfin (hty k hk) hnw hft (by rw [gO_len]; exact hk) d (fun H1 j hat z oq => ?_)
  rw [gO_set hk hi] at hat
  refine kk _ rfl H1 _ ls (w.setO hL hat (fun k' hk' => ?_) z oq) (hG.2.2.2.1 A s H H1 (fun q h1 h2 => oq q (fun e => h2 (by rw [e]; exact w.2.2.1 o (Or.inl ⟨hL, rfl⟩)))) f) hl
  unfold yset
  exact va_up_ne _ _ (fun e => by have := w.2.1.1 k' hk'; rw [e, hi] at this; cases this)
theorem set_i (cA : ClassId) (n : Nat) (f : Nat → Int32) (j : Nat) (x : Int32) : (vp_cell cA (n, .inl f)).setSlot j (.int x) = vp_cell cA (n, .inl (upd f j x)) := by
  rw [vp_cell_i, vp_cell_i, arrV_store]
  congr 2
  funext q
  by_cases hq : q = j
  · subst hq
    simp [updV, upd]
  · simp [updV, upd, hq]
theorem j_iald (S : gSt l R cc own nm nL ret G L o ad vv K mc ms J) (k : Nat) {i : Int32} (hk : L.2.2.2.1.elem k = true) (ht : L.2.2.2.2.2 k = 0) (hin : vp_in i (L.2.2.2.2.1 k)) (d : decode cc pc = .ok (.iaload, 1)) (kk : J Y h cs ss (pc + 1) lv (.int (Y k i.toNatClampNeg) :: st)) : J Y h cs ss pc lv (.int i :: .ref (ad k) :: st) := by
  obtain ⟨p, e, s, m, args, below, meth, c, A, Qf, hQf, rfl, hx, hb, hml, hr, hlk, hown, hts, hK, hnm, hG⟩ := S
  intro H locs ls w f hl
  have hk : k ∈ L.2.2.2.1 := List.elem_iff.mp hk
  exact va_iald (D := G.1) (cl := gcl) hx hb hK.1 (gP1 (w.1.2.1 k hk)) 0 0 rfl (by rw [ht]; rfl) hin d (kk H locs ls w f hl)
theorem j_iast (S : gSt l R cc own nm nL ret G L o ad vv K mc ms J) (k : Nat) {i x : Int32} (hk : L.2.2.2.1.elem k = true) (ht : L.2.2.2.2.2 k = 0) (hin : vp_in i (L.2.2.2.2.1 k)) (d : decode cc pc = .ok (.iastore, 1)) (kk : ∀ Y' : gY, Y' = yupd Y k i.toNatClampNeg x → J Y' h cs ss (pc + 1) lv st) : J Y h cs ss pc lv (.int x :: .int i :: .ref (ad k) :: st) := by
  obtain ⟨p, e, s, m, args, below, meth, c, A, Qf, hQf, rfl, hx, hb, hml, hr, hlk, hown, hts, hK, hnm, hG⟩ := S
  intro H locs ls w f hl
  have hk : k ∈ L.2.2.2.1 := List.elem_iff.mp hk
  refine W.iast hx hb (w.1.2.1 k hk) ((hK.1.2 0 _ (show (gty G.2.1)[0]? = some (G.2.1 (L.2.2.2.2.2 k), .int) by rw [ht]; rfl)).1 _ (fun j => .int (Y k j))) (fun q => by cases q) (by show ¬ (i < 0 ∨ (arrV _ _ _).slots.size ≤ _); rw [arrV_size]; exact hin) rfl rfl d fun H1 e1 z oq => ?_
  refine kk _ rfl H1 _ ls (w.setA hk ?_ (fun j hj => va_up_ne _ _ hj) z oq) (hG.2.2.2.1 A s H H1 (fun q h1 h2 => oq q (fun e => h2 (by rw [e]; exact w.2.2.1 _ (Or.inr (Or.inl ⟨k, hk, rfl⟩))))) f) hl
  show H1[ad k]? = some (vp_cell _ _)
  rw [e1, set_i]
  unfold yupd
  rw [va_up_self]
end RW
/-! ===== the model ===== -/
def mI (k : Nat) : Bool := k == 3 || (Nat.ble 16 k && Nat.ble k 26) || k == 31
def mAR : List Nat := [0, 1, 2, 4, 5, 6, 7, 8, 9, 10, 11, 12, 13, 14, 15, 27, 28, 29, 30, 32]
def msz : Nat → Nat := fun k => match k with
  | 0 => 3069
  | 1 => 3069
  | 2 => 3069
  | 4 => 4
  | 5 => 4
  | 6 => 96
  | 11 => 120
  | 12 => 9
  | 13 => 9
  | 14 => 69
  | 15 => 96
  | 27 => 128
  | 28 => 100
  | 29 => 24
  | 30 => 60
  | 32 => 60
  | _ => 5
def mL : gL := (14, 33, mI, mAR, msz, fun _ => 0)
section RM
variable {α β : Type} {l : Launch} {R : Room} {cc : ByteArray} {own nm : String} {nL : Nat} {ret : Option FieldType} {G : gG} {o : Nat} {ad : Nat → Nat} {vv : α → Option Value} {K : α → gY → gH → Prop} {mc ms : Nat} {J : gJt}
variable {Y : gY} {h : gH} {cs ss pc : Nat} {lv : List (Option Value)} {st : List Value}
theorem m_getI (S : gSt l R cc RX5 nm nL ret G mL o ad vv K mc ms J) (k : Nat) {index : Nat} (hk : Nat.ble (k + 1) 33 = true) (hi : mI k = true) (q : Cond.fieldLink RX5 index (TX5 k).1 (TX5 k).2.1 (TX5 k).2.2.1 ∈ lw_all) (d : decode cc pc = .ok (.getfield index, 3)) (kk : J Y h cs ss (pc + 3) lv (.int (Y k 0) :: st)) : J Y h cs ss pc lv (.ref o :: st) :=
  j_getO (C := RX5) (T := TX5) S k rfl in_X5 hk q (by show (if mI k then _ else _) = _; rw [hi]; rfl) d kk
theorem m_getA (S : gSt l R cc RX5 nm nL ret G mL o ad vv K mc ms J) (k : Nat) {index : Nat} (hk : Nat.ble (k + 1) 33 = true) (hi : mI k = false) (q : Cond.fieldLink RX5 index (TX5 k).1 (TX5 k).2.1 (TX5 k).2.2.1 ∈ lw_all) (d : decode cc pc = .ok (.getfield index, 3)) (kk : J Y h cs ss (pc + 3) lv (.ref (ad k) :: st)) : J Y h cs ss pc lv (.ref o :: st) :=
  j_getO (C := RX5) (T := TX5) S k rfl in_X5 hk q (by show (if mI k then _ else _) = _; rw [hi]; rfl) d kk
theorem m_putI (S : gSt l R cc RX5 nm nL ret G mL o ad vv K mc ms J) (k : Nat) {index : Nat} {v : Int32} (hk : Nat.ble (k + 1) 33 = true) (hi : mI k = true) (hf : (TX5 k).2.2.2 = false) (hn : narrow (tyX5 k) (.int v) = .int v) (hft : fits (tyX5 k) (.int v) = true) (q : Cond.fieldLink RX5 index (TX5 k).1 (TX5 k).2.1 (TX5 k).2.2.1 ∈ lw_all) (d : decode cc pc = .ok (.putfield index, 3)) (kk : ∀ Y' : gY, Y' = yset Y k v → J Y' h cs ss (pc + 3) lv st) : J Y h cs ss pc lv (.int v :: .ref o :: st) :=
  j_putO (C := RX5) (T := TX5) S k rfl in_X5 tyX5 tyX5_ok nmX5 hk q hi hf hn hft d kk
theorem m_ald (S : gSt l R cc own nm nL ret G mL o ad vv K mc ms J) (k : Nat) {i : Int32} (hk : mAR.elem k = true) (hin : vp_in i (msz k)) (d : decode cc pc = .ok (.iaload, 1)) (kk : J Y h cs ss (pc + 1) lv (.int (Y k i.toNatClampNeg) :: st)) : J Y h cs ss pc lv (.int i :: .ref (ad k) :: st) := j_iald S k hk rfl hin d kk
theorem m_ast (S : gSt l R cc own nm nL ret G mL o ad vv K mc ms J) (k : Nat) {i x : Int32} (hk : mAR.elem k = true) (hin : vp_in i (msz k)) (d : decode cc pc = .ok (.iastore, 1)) (kk : ∀ Y' : gY, Y' = yupd Y k i.toNatClampNeg x → J Y' h cs ss (pc + 1) lv st) : J Y h cs ss pc lv (.int x :: .int i :: .ref (ad k) :: st) := j_iast S k hk rfl hin d kk
theorem m_recv {Y : gY} {h : gH} : ∀ H, gV G mL o ad Y h H → ∃ (ci : Nat) (q : vw_C) (fs : List Value), gcl[ci]? = some q ∧ q.1 = RX5 ∧ va_at G.1 gcl (o, .inr (ci, fs)) H := fun H hv => ⟨14, _, _, rfl, rfl, hv.1 (by decide)⟩
/-- a call of an own method, no cells made -/
theorem m_callV (S : gSt l R cc RX5 nm nL ret G mL o ad vv K mc ms J) {y : MethodName} {bytes : ByteArray} {maxL index : Nat} {ret' : Option FieldType} {rm' : Room} {As rest : List Value} {vv' : β → Option Value} {K' : β → gY → Prop} (n : Nat)
    (hM : gMet l y (ws_ y bytes maxL ret') rm' G mL o ad (.ref o :: As) vv' (fun r Y h => h = hN ∧ K' r Y) 0 0 Y hN) (hw : GoodIn lw_all (wsV RX5 index RX5 y (ws_ y bytes maxL ret'))) (hrc : rm'.cells = 0) (hrs : rm'.slots = 0)
    (hd : y.cls = RX5 ∧ y.cls ≠ "java/lang/invoke/MethodHandle" ∧ y.cls ≠ "java/lang/invoke/VarHandle" ∧ (parseMethodDescriptor y.desc).map (fun d => d.parameters.length) = some n) (hR1 : Nat.ble (rm'.frames + 1) R.frames = true) (hR2 : Nat.ble (8 + (maxL + 11) + rm'.locals) R.locals = true)
    (hn : As.length = n) (hst : st = As.reverse ++ .ref o :: rest) (hsum : Nat.ble (rest.map fun v => v.category).sum 8 = true) (d : decode cc pc = .ok (.invokevirtual index, 3)) (hcs : Nat.ble cs R.cells = true) (hss : Nat.ble ss R.slots = true)
    (kk : ∀ (r : β) (Y' : gY), K' r Y' → J Y' hN cs ss (pc + 3) lv ((vv' r).toList ++ rest)) : J Y hN cs ss pc lv st :=
  j_callV S n hM hw hrc hrs hd hR1 hR2 m_recv hn hst hsum d (Nat.le_of_ble_eq_true hcs) (Nat.le_of_ble_eq_true hss) (fun r Y' h' q => by obtain ⟨rfl, q⟩ := q; exact kk r Y' q)
theorem m_callS (S : gSt l R cc RX5 nm nL ret G mL o ad vv K mc ms J) {y : MethodName} {bytes : ByteArray} {maxL index : Nat} {ret' : Option FieldType} {rm' : Room} {As rest : List Value} {vv' : β → Option Value} {K' : β → gY → Prop} (n : Nat)
    (hM : gMet l y (ws_ y bytes maxL ret') rm' G mL o ad As vv' (fun r Y h => h = hN ∧ K' r Y) 0 0 Y hN) (hw : GoodIn lw_all (va_wsS RX5 index y (ws_ y bytes maxL ret'))) (hrc : rm'.cells = 0) (hrs : rm'.slots = 0)
    (hd : y.cls ≠ "java/lang/invoke/MethodHandle" ∧ y.cls ≠ "java/lang/invoke/VarHandle" ∧ (parseMethodDescriptor y.desc).map (fun d => d.parameters.length) = some n) (hR1 : Nat.ble (rm'.frames + 1) R.frames = true) (hR2 : Nat.ble (8 + (maxL + 11) + rm'.locals) R.locals = true)
    (hn : As.length = n) (hst : st = As.reverse ++ rest) (hsum : Nat.ble (rest.map fun v => v.category).sum 8 = true) (d : decode cc pc = .ok (.invokestatic index, 3)) (hcs : Nat.ble cs R.cells = true) (hss : Nat.ble ss R.slots = true)
    (kk : ∀ (r : β) (Y' : gY), K' r Y' → J Y' hN cs ss (pc + 3) lv ((vv' r).toList ++ rest)) : J Y hN cs ss pc lv st :=
  j_callS S n hM hw hrc hrs hd hR1 hR2 hn hst hsum d (Nat.le_of_ble_eq_true hcs) (Nat.le_of_ble_eq_true hss) (fun r Y' h' q => by obtain ⟨rfl, q⟩ := q; exact kk r Y' q)
end RM

set_option maxRecDepth 100000
theorem lw_U {own : String} {idx : Nat} {C owner : String} {x y : MethodName} {b : ByteArray} {L : Nat} {r : Option FieldType} (h1 : Cond.methodLink own idx x ∈ lw_all) (h2 : Cond.sameMethod x.cls owner x.name x.desc ∈ lw_all) (h3 : Cond.selects C x y ∈ lw_all) (h4 : Cond.instanceMethod y ∈ lw_all) (h5 : Cond.initialized y.cls ∈ lw_all) (h6 : Cond.code y b L r ∈ lw_all) : GoodIn lw_all (va_wsU own idx C owner x y (ws_ y b L r)) := by
  refine lw_app ?_ (lw_meth h6)
  intro w hw
  simp only [List.mem_cons, List.not_mem_nil, or_false] at hw
  rcases hw with e | e | e | e | e <;> rw [e] <;> assumption
theorem lw_O {own : String} {idx : Nat} {C owner : String} {x y : MethodName} {b : ByteArray} {L : Nat} {r : Option FieldType} (h1 : Cond.methodLink own idx x ∈ lw_all) (h2 : Cond.sameMethod x.cls owner x.name x.desc ∈ lw_all) (h7 : Cond.instanceMethod ⟨owner, x.name, x.desc⟩ ∈ lw_all) (h3 : Cond.selects C x y ∈ lw_all) (h4 : Cond.instanceMethod y ∈ lw_all) (h5 : Cond.initialized y.cls ∈ lw_all) (h6 : Cond.code y b L r ∈ lw_all) : GoodIn lw_all (va_wsO own idx C owner x y (ws_ y b L r)) := by
  refine lw_app ?_ (lw_meth h6)
  intro w hw
  simp only [List.mem_cons, List.not_mem_nil, or_false] at hw
  rcases hw with e | e | e | e | e | e <;> rw [e] <;> assumption
theorem lw_SU {own : String} {idx : Nat} {y : MethodName} {b : ByteArray} {L : Nat} {r : Option FieldType} (h1 : Cond.methodLink own idx y ∈ lw_all) (h2 : Cond.sameMethod y.cls y.cls y.name y.desc ∈ lw_all) (h3 : Cond.superclass own y.cls ∈ lw_all) (h4 : Cond.instanceMethod y ∈ lw_all) (h5 : Cond.initialized y.cls ∈ lw_all) (h6 : Cond.code y b L r ∈ lw_all) : GoodIn lw_all (va_wsSU own idx y (ws_ y b L r)) := by
  refine lw_app ?_ (lw_meth h6)
  intro w hw
  simp only [List.mem_cons, List.not_mem_nil, or_false] at hw
  rcases hw with e | e | e | e | e <;> rw [e] <;> assumption
theorem nw_opt {c : String} (r : Option Nat) : narrow (.object c) (va_rf r) = va_rf r := by cases r <;> rfl
theorem ft_opt {c : String} (r : Option Nat) : fits (.object c) (va_rf r) = true := by cases r <;> rfl
theorem rf_cat (r : Option Nat) : (va_rf r).category = 1 := by cases r <;> rfl
section RD
variable {α β : Type} {l : Launch} {R : Room} {cc : ByteArray} {own nm : String} {nL : Nat} {ret : Option FieldType} {G : gG} {L : gL} {o : Nat} {ad : Nat → Nat} {vv : α → Option Value} {K : α → gY → gH → Prop} {mc ms : Nat} {J : gJt}
variable {Y : gY} {h : gH} {cs ss pc : Nat} {lv : List (Option Value)} {st : List Value} {a : Nat}
theorem j_old0 (S : gSt l R cc own nm nL ret G L o ad vv K mc ms J) {t : List (Option Value)} {r : Option Nat} (d : decode cc pc = .ok (.aload_n 0, 1)) (k : J Y h cs ss (pc + 1) (some (va_rf r) :: t) (va_rf r :: st)) : J Y h cs ss pc (some (va_rf r) :: t) st := by
  obtain ⟨p, e, s, m, args, below, meth, c, A, Qf, hQf, rfl, hx, hb, hml, hr, hlk, hown, hts, hK, hnm, hG⟩ := S
  intro H locs ls w f hl
  cases r with
  | none => exact lv_aload_nN hx hb d rfl (hl.2.2 0 _ rfl) (k H locs ls w f hl)
  | some b => exact lv_aload_n hx hb d rfl (hl.2.2 0 _ rfl) (k H locs ls w f hl)
theorem j_ost0 (S : gSt l R cc own nm nL ret G L o ad vv K mc ms J) {a0 : Option Value} {t : List (Option Value)} {r : Option Nat} (d : decode cc pc = .ok (.astore_n 0, 1)) (hn : Nat.ble 1 nL = true) (hg : gok (a0 :: t) 0 = true) (k : J Y h cs ss (pc + 1) (some (va_rf r) :: t) st) : J Y h cs ss pc (a0 :: t) (va_rf r :: st) := by
  obtain ⟨p, e, s, m, args, below, meth, c, A, Qf, hQf, rfl, hx, hb, hml, hr, hlk, hown, hts, hK, hnm, hG⟩ := S
  intro H locs ls w f hl
  cases r with
  | none => exact lv_astore_nN hx hb d rfl hl.has (Nat.le_of_ble_eq_true hn) rfl (fun ls' hl' => k H locs ls' w f (glv.put hg hl'))
  | some b => exact lv_astore_n hx hb d rfl hl.has (Nat.le_of_ble_eq_true hn) rfl (fun ls' hl' => k H locs ls' w f (glv.put hg hl'))
theorem j_old1 (S : gSt l R cc own nm nL ret G L o ad vv K mc ms J) {a0 : Option Value} {t : List (Option Value)} {r : Option Nat} (d : decode cc pc = .ok (.aload_n 1, 1)) (k : J Y h cs ss (pc + 1) (a0 :: some (va_rf r) :: t) (va_rf r :: st)) : J Y h cs ss pc (a0 :: some (va_rf r) :: t) st := by
  obtain ⟨p, e, s, m, args, below, meth, c, A, Qf, hQf, rfl, hx, hb, hml, hr, hlk, hown, hts, hK, hnm, hG⟩ := S
  intro H locs ls w f hl
  cases r with
  | none => exact lv_aload_nN hx hb d rfl (hl.2.2 1 _ rfl) (k H locs ls w f hl)
  | some b => exact lv_aload_n hx hb d rfl (hl.2.2 1 _ rfl) (k H locs ls w f hl)
theorem j_ost1 (S : gSt l R cc own nm nL ret G L o ad vv K mc ms J) {a0 a1 : Option Value} {t : List (Option Value)} {r : Option Nat} (d : decode cc pc = .ok (.astore_n 1, 1)) (hn : Nat.ble 2 nL = true) (hg : gok (a0 :: a1 :: t) 1 = true) (k : J Y h cs ss (pc + 1) (a0 :: some (va_rf r) :: t) st) : J Y h cs ss pc (a0 :: a1 :: t) (va_rf r :: st) := by
  obtain ⟨p, e, s, m, args, below, meth, c, A, Qf, hQf, rfl, hx, hb, hml, hr, hlk, hown, hts, hK, hnm, hG⟩ := S
  intro H locs ls w f hl
  cases r with
  | none => exact lv_astore_nN hx hb d rfl hl.has (Nat.le_of_ble_eq_true hn) rfl (fun ls' hl' => k H locs ls' w f (glv.put hg hl'))
  | some b => exact lv_astore_n hx hb d rfl hl.has (Nat.le_of_ble_eq_true hn) rfl (fun ls' hl' => k H locs ls' w f (glv.put hg hl'))
theorem j_old2 (S : gSt l R cc own nm nL ret G L o ad vv K mc ms J) {a0 a1 : Option Value} {t : List (Option Value)} {r : Option Nat} (d : decode cc pc = .ok (.aload_n 2, 1)) (k : J Y h cs ss (pc + 1) (a0 :: a1 :: some (va_rf r) :: t) (va_rf r :: st)) : J Y h cs ss pc (a0 :: a1 :: some (va_rf r) :: t) st := by
  obtain ⟨p, e, s, m, args, below, meth, c, A, Qf, hQf, rfl, hx, hb, hml, hr, hlk, hown, hts, hK, hnm, hG⟩ := S
  intro H locs ls w f hl
  cases r with
  | none => exact lv_aload_nN hx hb d rfl (hl.2.2 2 _ rfl) (k H locs ls w f hl)
  | some b => exact lv_aload_n hx hb d rfl (hl.2.2 2 _ rfl) (k H locs ls w f hl)
theorem j_ost2 (S : gSt l R cc own nm nL ret G L o ad vv K mc ms J) {a0 a1 a2 : Option Value} {t : List (Option Value)} {r : Option Nat} (d : decode cc pc = .ok (.astore_n 2, 1)) (hn : Nat.ble 3 nL = true) (hg : gok (a0 :: a1 :: a2 :: t) 2 = true) (k : J Y h cs ss (pc + 1) (a0 :: a1 :: some (va_rf r) :: t) st) : J Y h cs ss pc (a0 :: a1 :: a2 :: t) (va_rf r :: st) := by
  obtain ⟨p, e, s, m, args, below, meth, c, A, Qf, hQf, rfl, hx, hb, hml, hr, hlk, hown, hts, hK, hnm, hG⟩ := S
  intro H locs ls w f hl
  cases r with
  | none => exact lv_astore_nN hx hb d rfl hl.has (Nat.le_of_ble_eq_true hn) rfl (fun ls' hl' => k H locs ls' w f (glv.put hg hl'))
  | some b => exact lv_astore_n hx hb d rfl hl.has (Nat.le_of_ble_eq_true hn) rfl (fun ls' hl' => k H locs ls' w f (glv.put hg hl'))
theorem j_old3 (S : gSt l R cc own nm nL ret G L o ad vv K mc ms J) {a0 a1 a2 : Option Value} {t : List (Option Value)} {r : Option Nat} (d : decode cc pc = .ok (.aload_n 3, 1)) (k : J Y h cs ss (pc + 1) (a0 :: a1 :: a2 :: some (va_rf r) :: t) (va_rf r :: st)) : J Y h cs ss pc (a0 :: a1 :: a2 :: some (va_rf r) :: t) st := by
  obtain ⟨p, e, s, m, args, below, meth, c, A, Qf, hQf, rfl, hx, hb, hml, hr, hlk, hown, hts, hK, hnm, hG⟩ := S
  intro H locs ls w f hl
  cases r with
  | none => exact lv_aload_nN hx hb d rfl (hl.2.2 3 _ rfl) (k H locs ls w f hl)
  | some b => exact lv_aload_n hx hb d rfl (hl.2.2 3 _ rfl) (k H locs ls w f hl)
theorem j_ost3 (S : gSt l R cc own nm nL ret G L o ad vv K mc ms J) {a0 a1 a2 a3 : Option Value} {t : List (Option Value)} {r : Option Nat} (d : decode cc pc = .ok (.astore_n 3, 1)) (hn : Nat.ble 4 nL = true) (hg : gok (a0 :: a1 :: a2 :: a3 :: t) 3 = true) (k : J Y h cs ss (pc + 1) (a0 :: a1 :: a2 :: some (va_rf r) :: t) st) : J Y h cs ss pc (a0 :: a1 :: a2 :: a3 :: t) (va_rf r :: st) := by
  obtain ⟨p, e, s, m, args, below, meth, c, A, Qf, hQf, rfl, hx, hb, hml, hr, hlk, hown, hts, hK, hnm, hG⟩ := S
  intro H locs ls w f hl
  cases r with
  | none => exact lv_astore_nN hx hb d rfl hl.has (Nat.le_of_ble_eq_true hn) rfl (fun ls' hl' => k H locs ls' w f (glv.put hg hl'))
  | some b => exact lv_astore_n hx hb d rfl hl.has (Nat.le_of_ble_eq_true hn) rfl (fun ls' hl' => k H locs ls' w f (glv.put hg hl'))
theorem j_old4 (S : gSt l R cc own nm nL ret G L o ad vv K mc ms J) {a0 a1 a2 a3 : Option Value} {t : List (Option Value)} {r : Option Nat} (d : decode cc pc = .ok (.aload 4, 2)) (k : J Y h cs ss (pc + 2) (a0 :: a1 :: a2 :: a3 :: some (va_rf r) :: t) (va_rf r :: st)) : J Y h cs ss pc (a0 :: a1 :: a2 :: a3 :: some (va_rf r) :: t) st := by
  obtain ⟨p, e, s, m, args, below, meth, c, A, Qf, hQf, rfl, hx, hb, hml, hr, hlk, hown, hts, hK, hnm, hG⟩ := S
  intro H locs ls w f hl
  cases r with
  | none => exact lv_aloadN hx hb d (hl.2.2 4 _ rfl) (k H locs ls w f hl)
  | some b => exact lv_aload hx hb d (hl.2.2 4 _ rfl) (k H locs ls w f hl)
theorem j_ost4 (S : gSt l R cc own nm nL ret G L o ad vv K mc ms J) {a0 a1 a2 a3 a4 : Option Value} {t : List (Option Value)} {r : Option Nat} (d : decode cc pc = .ok (.astore 4, 2)) (hn : Nat.ble 5 nL = true) (hg : gok (a0 :: a1 :: a2 :: a3 :: a4 :: t) 4 = true) (k : J Y h cs ss (pc + 2) (a0 :: a1 :: a2 :: a3 :: some (va_rf r) :: t) st) : J Y h cs ss pc (a0 :: a1 :: a2 :: a3 :: a4 :: t) (va_rf r :: st) := by
  obtain ⟨p, e, s, m, args, below, meth, c, A, Qf, hQf, rfl, hx, hb, hml, hr, hlk, hown, hts, hK, hnm, hG⟩ := S
  intro H locs ls w f hl
  cases r with
  | none => exact lv_astoreN hx hb d hl.has (Nat.le_of_ble_eq_true hn) rfl (fun ls' hl' => k H locs ls' w f (glv.put hg hl'))
  | some b => exact lv_astore hx hb d hl.has (Nat.le_of_ble_eq_true hn) rfl (fun ls' hl' => k H locs ls' w f (glv.put hg hl'))
theorem j_old5 (S : gSt l R cc own nm nL ret G L o ad vv K mc ms J) {a0 a1 a2 a3 a4 : Option Value} {t : List (Option Value)} {r : Option Nat} (d : decode cc pc = .ok (.aload 5, 2)) (k : J Y h cs ss (pc + 2) (a0 :: a1 :: a2 :: a3 :: a4 :: some (va_rf r) :: t) (va_rf r :: st)) : J Y h cs ss pc (a0 :: a1 :: a2 :: a3 :: a4 :: some (va_rf r) :: t) st := by
  obtain ⟨p, e, s, m, args, below, meth, c, A, Qf, hQf, rfl, hx, hb, hml, hr, hlk, hown, hts, hK, hnm, hG⟩ := S
  intro H locs ls w f hl
  cases r with
  | none => exact lv_aloadN hx hb d (hl.2.2 5 _ rfl) (k H locs ls w f hl)
  | some b => exact lv_aload hx hb d (hl.2.2 5 _ rfl) (k H locs ls w f hl)
theorem j_ost5 (S : gSt l R cc own nm nL ret G L o ad vv K mc ms J) {a0 a1 a2 a3 a4 a5 : Option Value} {t : List (Option Value)} {r : Option Nat} (d : decode cc pc = .ok (.astore 5, 2)) (hn : Nat.ble 6 nL = true) (hg : gok (a0 :: a1 :: a2 :: a3 :: a4 :: a5 :: t) 5 = true) (k : J Y h cs ss (pc + 2) (a0 :: a1 :: a2 :: a3 :: a4 :: some (va_rf r) :: t) st) : J Y h cs ss pc (a0 :: a1 :: a2 :: a3 :: a4 :: a5 :: t) (va_rf r :: st) := by
  obtain ⟨p, e, s, m, args, below, meth, c, A, Qf, hQf, rfl, hx, hb, hml, hr, hlk, hown, hts, hK, hnm, hG⟩ := S
  intro H locs ls w f hl
  cases r with
  | none => exact lv_astoreN hx hb d hl.has (Nat.le_of_ble_eq_true hn) rfl (fun ls' hl' => k H locs ls' w f (glv.put hg hl'))
  | some b => exact lv_astore hx hb d hl.has (Nat.le_of_ble_eq_true hn) rfl (fun ls' hl' => k H locs ls' w f (glv.put hg hl'))
theorem j_old6 (S : gSt l R cc own nm nL ret G L o ad vv K mc ms J) {a0 a1 a2 a3 a4 a5 : Option Value} {t : List (Option Value)} {r : Option Nat} (d : decode cc pc = .ok (.aload 6, 2)) (k : J Y h cs ss (pc + 2) (a0 :: a1 :: a2 :: a3 :: a4 :: a5 :: some (va_rf r) :: t) (va_rf r :: st)) : J Y h cs ss pc (a0 :: a1 :: a2 :: a3 :: a4 :: a5 :: some (va_rf r) :: t) st := by
  obtain ⟨p, e, s, m, args, below, meth, c, A, Qf, hQf, rfl, hx, hb, hml, hr, hlk, hown, hts, hK, hnm, hG⟩ := S
  intro H locs ls w f hl
  cases r with
  | none => exact lv_aloadN hx hb d (hl.2.2 6 _ rfl) (k H locs ls w f hl)
  | some b => exact lv_aload hx hb d (hl.2.2 6 _ rfl) (k H locs ls w f hl)
theorem j_ost6 (S : gSt l R cc own nm nL ret G L o ad vv K mc ms J) {a0 a1 a2 a3 a4 a5 a6 : Option Value} {t : List (Option Value)} {r : Option Nat} (d : decode cc pc = .ok (.astore 6, 2)) (hn : Nat.ble 7 nL = true) (hg : gok (a0 :: a1 :: a2 :: a3 :: a4 :: a5 :: a6 :: t) 6 = true) (k : J Y h cs ss (pc + 2) (a0 :: a1 :: a2 :: a3 :: a4 :: a5 :: some (va_rf r) :: t) st) : J Y h cs ss pc (a0 :: a1 :: a2 :: a3 :: a4 :: a5 :: a6 :: t) (va_rf r :: st) := by
  obtain ⟨p, e, s, m, args, below, meth, c, A, Qf, hQf, rfl, hx, hb, hml, hr, hlk, hown, hts, hK, hnm, hG⟩ := S
  intro H locs ls w f hl
  cases r with
  | none => exact lv_astoreN hx hb d hl.has (Nat.le_of_ble_eq_true hn) rfl (fun ls' hl' => k H locs ls' w f (glv.put hg hl'))
  | some b => exact lv_astore hx hb d hl.has (Nat.le_of_ble_eq_true hn) rfl (fun ls' hl' => k H locs ls' w f (glv.put hg hl'))
theorem j_old7 (S : gSt l R cc own nm nL ret G L o ad vv K mc ms J) {a0 a1 a2 a3 a4 a5 a6 : Option Value} {t : List (Option Value)} {r : Option Nat} (d : decode cc pc = .ok (.aload 7, 2)) (k : J Y h cs ss (pc + 2) (a0 :: a1 :: a2 :: a3 :: a4 :: a5 :: a6 :: some (va_rf r) :: t) (va_rf r :: st)) : J Y h cs ss pc (a0 :: a1 :: a2 :: a3 :: a4 :: a5 :: a6 :: some (va_rf r) :: t) st := by
  obtain ⟨p, e, s, m, args, below, meth, c, A, Qf, hQf, rfl, hx, hb, hml, hr, hlk, hown, hts, hK, hnm, hG⟩ := S
  intro H locs ls w f hl
  cases r with
  | none => exact lv_aloadN hx hb d (hl.2.2 7 _ rfl) (k H locs ls w f hl)
  | some b => exact lv_aload hx hb d (hl.2.2 7 _ rfl) (k H locs ls w f hl)
theorem j_ost7 (S : gSt l R cc own nm nL ret G L o ad vv K mc ms J) {a0 a1 a2 a3 a4 a5 a6 a7 : Option Value} {t : List (Option Value)} {r : Option Nat} (d : decode cc pc = .ok (.astore 7, 2)) (hn : Nat.ble 8 nL = true) (hg : gok (a0 :: a1 :: a2 :: a3 :: a4 :: a5 :: a6 :: a7 :: t) 7 = true) (k : J Y h cs ss (pc + 2) (a0 :: a1 :: a2 :: a3 :: a4 :: a5 :: a6 :: some (va_rf r) :: t) st) : J Y h cs ss pc (a0 :: a1 :: a2 :: a3 :: a4 :: a5 :: a6 :: a7 :: t) (va_rf r :: st) := by
  obtain ⟨p, e, s, m, args, below, meth, c, A, Qf, hQf, rfl, hx, hb, hml, hr, hlk, hown, hts, hK, hnm, hG⟩ := S
  intro H locs ls w f hl
  cases r with
  | none => exact lv_astoreN hx hb d hl.has (Nat.le_of_ble_eq_true hn) rfl (fun ls' hl' => k H locs ls' w f (glv.put hg hl'))
  | some b => exact lv_astore hx hb d hl.has (Nat.le_of_ble_eq_true hn) rfl (fun ls' hl' => k H locs ls' w f (glv.put hg hl'))
theorem j_i2f (S : gSt l R cc own nm nL ret G L o ad vv K mc ms J) {x : Int32} (d : decode cc pc = .ok (.i2f, 1)) (k : J Y h cs ss (pc + 1) lv (.float (FP.i2f x) :: st)) : J Y h cs ss pc lv (.int x :: st) := by
  obtain ⟨p, e, s, m, args, below, meth, c, A, Qf, hQf, rfl, hx, hb, hml, hr, hlk, hown, hts, hK, hnm, hG⟩ := S
  intro H locs ls w f hl
  exact lv_i2f hx hb d (k H locs ls w f hl)
theorem j_f2i (S : gSt l R cc own nm nL ret G L o ad vv K mc ms J) {x : UInt32} (d : decode cc pc = .ok (.f2i, 1)) (k : J Y h cs ss (pc + 1) lv (.int (FP.f2i x) :: st)) : J Y h cs ss pc lv (.float x :: st) := by
  obtain ⟨p, e, s, m, args, below, meth, c, A, Qf, hQf, rfl, hx, hb, hml, hr, hlk, hown, hts, hK, hnm, hG⟩ := S
  intro H locs ls w f hl
  exact lv_f2i hx hb d (k H locs ls w f hl)
theorem j_fcmp (S : gSt l R cc own nm nL ret G L o ad vv K mc ms J) {x y : UInt32} {op : CmpOp} (d : decode cc pc = .ok (.fcmp op, 1)) (k : J Y h cs ss (pc + 1) lv (.int (Op.cmpValue (FP.fcmp x y) op) :: st)) : J Y h cs ss pc lv (.float y :: .float x :: st) := by
  obtain ⟨p, e, s, m, args, below, meth, c, A, Qf, hQf, rfl, hx, hb, hml, hr, hlk, hown, hts, hK, hnm, hG⟩ := S
  intro H locs ls w f hl
  exact lv_fcmp hx hb d (k H locs ls w f hl)
theorem j_ldcf (S : gSt l R cc own nm nL ret G L o ad vv K mc ms J) {index : Nat} {v : UInt32} (q : Cond.constantFloat own index v ∈ lw_all) (d : decode cc pc = .ok (.ldc index, 2)) (k : J Y h cs ss (pc + 2) lv (.float v :: st)) : J Y h cs ss pc lv st := by
  obtain ⟨p, e, s, m, args, below, meth, c, A, Qf, hQf, rfl, hx, hb, hml, hr, hlk, hown, hts, hK, hnm, hG⟩ := S
  intro H locs ls w f hl
  exact lv_ldcf hx hb hown (hts _ q) d (k H locs ls w f hl)
theorem j_ldcwf (S : gSt l R cc own nm nL ret G L o ad vv K mc ms J) {index : Nat} {v : UInt32} (q : Cond.constantFloat own index v ∈ lw_all) (d : decode cc pc = .ok (.ldc_w index, 3)) (k : J Y h cs ss (pc + 3) lv (.float v :: st)) : J Y h cs ss pc lv st := by
  obtain ⟨p, e, s, m, args, below, meth, c, A, Qf, hQf, rfl, hx, hb, hml, hr, hlk, hown, hts, hK, hnm, hG⟩ := S
  intro H locs ls w f hl
  intro T hT X
  obtain ⟨t, a, b⟩ := k H locs ls w f hl T hT X
  refine ⟨t, ?_, b⟩
  obtain ⟨k, cf, hk, hcf, hcp⟩ := Cond.constantFloat_spec hown (hts _ q)
  obtain ⟨k', hk', he⟩ := X.warmed.alike.2.2 _ _ hk
  have hdg : decode c.code (F0 m pc ls st).pc = .ok (.ldc_w index, 3) := by rw [hb]; exact d
  jvm_step X.here [hx, hdg, ldc_w.wp_float (s := T) (f := F0 m pc ls st) X.here.top hk' (by rw [he]; exact hcf) hcp]
  exact a
theorem j_lneg (S : gSt l R cc own nm nL ret G L o ad vv K mc ms J) {x : Int64} (d : decode cc pc = .ok (.lneg, 1)) (k : J Y h cs ss (pc + 1) lv (.long (-x) :: st)) : J Y h cs ss pc lv (.long x :: st) := by
  obtain ⟨p, e, s, m, args, below, meth, c, A, Qf, hQf, rfl, hx, hb, hml, hr, hlk, hown, hts, hK, hnm, hG⟩ := S
  intro H locs ls w f hl
  exact lv_lneg hx hb d (k H locs ls w f hl)
theorem cd_mabs : Cond.code Lib.Math.abs.name Lib.Math.abs.code 1 (some .int) ∈ lw_all := q672
theorem j_mabs (S : gSt l R cc own nm nL ret G L o ad vv K mc ms J) {x : Int32} {index : Nat} (q : Cond.methodLink own index Lib.Math.abs.name ∈ lw_all) (hf : Nat.ble 1 R.frames = true) (hl0 : Nat.ble ((st.map fun v => v.category).sum + 13) R.locals = true) (d : decode cc pc = .ok (.invokestatic index, 3)) (hcs : cs ≤ R.cells) (hss : ss ≤ R.slots) (k : J Y h cs ss (pc + 3) lv (.int (if 0 ≤ x then x else 0 - x) :: st)) : J Y h cs ss pc lv (.int x :: st) := by
  obtain ⟨p, e, s, m, args, below, meth, c, A, Qf, hQf, rfl, hx, hb, hml, hr, hlk, hown, hts, hK, hnm, hG⟩ := S
  intro H locs ls w f hl
  exact va_mabs hx hb (hml.trans hl.1.symm) hown (hts _ q) (hts _ q671) (hts _ q94) (hts _ cd_mabs) (Nat.le_of_ble_eq_true hf) (Nat.le_of_ble_eq_true hl0) hcs hss d (k H locs ls w f hl)
theorem cd_mmin : Cond.code Lib.Math.min.name Lib.Math.min.code 2 (some .int) ∈ lw_all := q678
theorem j_mmin (S : gSt l R cc own nm nL ret G L o ad vv K mc ms J) {x y : Int32} {index : Nat} (q : Cond.methodLink own index Lib.Math.min.name ∈ lw_all) (hf : Nat.ble 1 R.frames = true) (hl0 : Nat.ble ((st.map fun v => v.category).sum + 13) R.locals = true) (d : decode cc pc = .ok (.invokestatic index, 3)) (hcs : cs ≤ R.cells) (hss : ss ≤ R.slots) (k : J Y h cs ss (pc + 3) lv (.int (if y < x then y else x) :: st)) : J Y h cs ss pc lv (.int y :: .int x :: st) := by
  obtain ⟨p, e, s, m, args, below, meth, c, A, Qf, hQf, rfl, hx, hb, hml, hr, hlk, hown, hts, hK, hnm, hG⟩ := S
  intro H locs ls w f hl
  exact va_mmin hx hb (hml.trans hl.1.symm) hown (hts _ q) (hts _ q677) (hts _ q94) (hts _ cd_mmin) (Nat.le_of_ble_eq_true hf) (Nat.le_of_ble_eq_true hl0) hcs hss d (k H locs ls w f hl)
theorem cd_mmax : Cond.code Lib.Math.max.name Lib.Math.max.code 2 (some .int) ∈ lw_all := q681
theorem j_mmax (S : gSt l R cc own nm nL ret G L o ad vv K mc ms J) {x y : Int32} {index : Nat} (q : Cond.methodLink own index Lib.Math.max.name ∈ lw_all) (hf : Nat.ble 1 R.frames = true) (hl0 : Nat.ble ((st.map fun v => v.category).sum + 13) R.locals = true) (d : decode cc pc = .ok (.invokestatic index, 3)) (hcs : cs ≤ R.cells) (hss : ss ≤ R.slots) (k : J Y h cs ss (pc + 3) lv (.int (if x < y then y else x) :: st)) : J Y h cs ss pc lv (.int y :: .int x :: st) := by
  obtain ⟨p, e, s, m, args, below, meth, c, A, Qf, hQf, rfl, hx, hb, hml, hr, hlk, hown, hts, hK, hnm, hG⟩ := S
  intro H locs ls w f hl
  exact va_mmax hx hb (hml.trans hl.1.symm) hown (hts _ q) (hts _ q680) (hts _ q94) (hts _ cd_mmax) (Nat.le_of_ble_eq_true hf) (Nat.le_of_ble_eq_true hl0) hcs hss d (k H locs ls w f hl)
theorem cd_mabsl : Cond.code Lib.MathLoose.abs_long.x Lib.MathLoose.abs_long.code 2 (some .long) ∈ lw_all := q1073
theorem j_mabsl (S : gSt l R cc own nm nL ret G L o ad vv K mc ms J) {x : Int64} {index : Nat} (q : Cond.methodLink own index Lib.MathLoose.abs_long.x ∈ lw_all) (hf : Nat.ble 1 R.frames = true) (hl0 : Nat.ble ((st.map fun v => v.category).sum + 13) R.locals = true) (d : decode cc pc = .ok (.invokestatic index, 3)) (hcs : cs ≤ R.cells) (hss : ss ≤ R.slots) (k : J Y h cs ss (pc + 3) lv (.long (if 0 < x then x else -x) :: st)) : J Y h cs ss pc lv (.long x :: st) := by
  obtain ⟨p, e, s, m, args, below, meth, c, A, Qf, hQf, rfl, hx, hb, hml, hr, hlk, hown, hts, hK, hnm, hG⟩ := S
  intro H locs ls w f hl
  exact va_mabs_long hx hb (hml.trans hl.1.symm) hown (hts _ q) (hts _ q1072) (hts _ q94) (hts _ cd_mabsl) (Nat.le_of_ble_eq_true hf) (Nat.le_of_ble_eq_true hl0) hcs hss d (k H locs ls w f hl)
theorem w_recv {s : State} {A : Nat → Prop} {H0 H : Heap} {locs : List Loc} {b ci : Nat} {fs : List Value} {q : vw_C} (hK : gK G s) (w : gW G L o ad Y h A H0 H locs) (hb : h b = some (.inr (ci, fs))) (hc : gcl[ci]? = some q) : ∃ cell : Cell, H[b]? = some cell ∧ cell.vm.isStatics = false ∧ s.vm.findClass q.1 = some cell.cls := va_recv (q0 := 0) (ws := [(b, .inr (ci, fs))]) hK.1 (gP1 (w.1.2.2 b _ hb)) hc rfl
/-- instanceof, of an object of class C by a word of the tables -/
theorem h_instY (S : gSt l R cc own nm nL ret G L o ad vv K mc ms J) {C nm' : String} {index b ci : Nat} {fs : List Value} {q : vw_C} (hb : h b = some (.inr (ci, fs))) (hc : gcl[ci]? = some q) (hq : q.1 = C) (q1 : Cond.classLink own index nm' ∈ lw_all) (q2 : ∀ U, G.2.2.1 U → va_Nw (.castable C nm') U) (d : decode cc pc = .ok (.instanceof index, 3)) (k : J Y h cs ss (pc + 3) lv (.int 1 :: st)) : J Y h cs ss pc lv (.ref b :: st) := by
  obtain ⟨p, e, s, m, args, below, meth, c, A, Qf, hQf, rfl, hx, hb0, hml, hr, hlk, hown, hts, hK, hnm, hG⟩ := S
  intro H locs ls w f hl
  exact va_instY hx hb0 hown (hts _ q1) (q2 s hK.2) (by rw [← hq]; exact w_recv hK w hb hc) d (k H locs ls w f hl)
theorem h_instS (S : gSt l R cc own nm nL ret G L o ad vv K mc ms J) {C : String} {index b ci : Nat} {fs : List Value} {q : vw_C} (hb : h b = some (.inr (ci, fs))) (hc : gcl[ci]? = some q) (hq : q.1 = C) (q1 : Cond.classLink own index C ∈ lw_all) (d : decode cc pc = .ok (.instanceof index, 3)) (k : J Y h cs ss (pc + 3) lv (.int 1 :: st)) : J Y h cs ss pc lv (.ref b :: st) := by
  obtain ⟨p, e, s, m, args, below, meth, c, A, Qf, hQf, rfl, hx, hb0, hml, hr, hlk, hown, hts, hK, hnm, hG⟩ := S
  intro H locs ls w f hl
  subst hq
  exact va_instS hx hb0 hown (hts _ q1) (hK.1.1 ci q hc).2 (w_recv hK w hb hc) d (k H locs ls w f hl)
theorem h_instN (S : gSt l R cc own nm nL ret G L o ad vv K mc ms J) {C nm' : String} {index b ci : Nat} {fs : List Value} {q : vw_C} (hb : h b = some (.inr (ci, fs))) (hc : gcl[ci]? = some q) (hq : q.1 = C) (q1 : Cond.classLink own index nm' ∈ lw_all) (q2 : ∀ U, G.2.2.1 U → va_Nc C nm' U) (d : decode cc pc = .ok (.instanceof index, 3)) (k : J Y h cs ss (pc + 3) lv (.int 0 :: st)) : J Y h cs ss pc lv (.ref b :: st) := by
  obtain ⟨p, e, s, m, args, below, meth, c, A, Qf, hQf, rfl, hx, hb0, hml, hr, hlk, hown, hts, hK, hnm, hG⟩ := S
  intro H locs ls w f hl
  exact va_instNo hx hb0 hown (hts _ q1) (q2 s hK.2) (by rw [← hq]; exact w_recv hK w hb hc) d (k H locs ls w f hl)
theorem h_castY (S : gSt l R cc own nm nL ret G L o ad vv K mc ms J) {C nm' : String} {index b ci : Nat} {fs : List Value} {q : vw_C} (hb : h b = some (.inr (ci, fs))) (hc : gcl[ci]? = some q) (hq : q.1 = C) (q1 : Cond.classLink own index nm' ∈ lw_all) (q2 : ∀ U, G.2.2.1 U → va_Nw (.castable C nm') U) (d : decode cc pc = .ok (.checkcast index, 3)) (k : J Y h cs ss (pc + 3) lv (.ref b :: st)) : J Y h cs ss pc lv (.ref b :: st) := by
  obtain ⟨p, e, s, m, args, below, meth, c, A, Qf, hQf, rfl, hx, hb0, hml, hr, hlk, hown, hts, hK, hnm, hG⟩ := S
  intro H locs ls w f hl
  exact va_castY hx hb0 hown (hts _ q1) (q2 s hK.2) (by rw [← hq]; exact w_recv hK w hb hc) d (k H locs ls w f hl)
theorem h_castS (S : gSt l R cc own nm nL ret G L o ad vv K mc ms J) {C : String} {index b ci : Nat} {fs : List Value} {q : vw_C} (hb : h b = some (.inr (ci, fs))) (hc : gcl[ci]? = some q) (hq : q.1 = C) (q1 : Cond.classLink own index C ∈ lw_all) (d : decode cc pc = .ok (.checkcast index, 3)) (k : J Y h cs ss (pc + 3) lv (.ref b :: st)) : J Y h cs ss pc lv (.ref b :: st) := by
  obtain ⟨p, e, s, m, args, below, meth, c, A, Qf, hQf, rfl, hx, hb0, hml, hr, hlk, hown, hts, hK, hnm, hG⟩ := S
  intro H locs ls w f hl
  subst hq
  exact va_castS hx hb0 hown (hts _ q1) (hK.1.1 ci q hc).2 (w_recv hK w hb hc) d (k H locs ls w f hl)
/-- arrays: of type t, by the name of its class -/
theorem h_castA (S : gSt l R cc own nm nL ret G L o ad vv K mc ms J) {nm' : String} {index b : Nat} {x : vp_A} {ty : FieldType} (t : Nat) (ht : ∀ dA : Nat → ClassId, (gty dA)[t]? = some (dA t, ty)) (hra : ∀ (s : State) (cA : ClassId), va_RA s cA ty → s.vm.findClass nm' = some cA) (hb : h b = some (.inl (t, x))) (q1 : Cond.classLink own index nm' ∈ lw_all) (d : decode cc pc = .ok (.checkcast index, 3)) (k : J Y h cs ss (pc + 3) lv (.ref b :: st)) : J Y h cs ss pc lv (.ref b :: st) := by
  obtain ⟨p, e, s, m, args, below, meth, c, A, Qf, hQf, rfl, hx, hb0, hml, hr, hlk, hown, hts, hK, hnm, hG⟩ := S
  intro H locs ls w f hl
  exact va_castA (D := G.1) (cl := gcl) hx hb0 hown (hts _ q1) (gP1 (w.1.2.2 b _ hb)) 0 rfl (hra s _ (hK.1.2 t _ (ht G.2.1)).2) d (k H locs ls w f hl)
theorem h_instA (S : gSt l R cc own nm nL ret G L o ad vv K mc ms J) {nm' : String} {index b : Nat} {x : vp_A} {ty : FieldType} (t : Nat) (ht : ∀ dA : Nat → ClassId, (gty dA)[t]? = some (dA t, ty)) (hra : ∀ (s : State) (cA : ClassId), va_RA s cA ty → s.vm.findClass nm' = some cA) (hb : h b = some (.inl (t, x))) (q1 : Cond.classLink own index nm' ∈ lw_all) (d : decode cc pc = .ok (.instanceof index, 3)) (k : J Y h cs ss (pc + 3) lv (.int 1 :: st)) : J Y h cs ss pc lv (.ref b :: st) := by
  obtain ⟨p, e, s, m, args, below, meth, c, A, Qf, hQf, rfl, hx, hb0, hml, hr, hlk, hown, hts, hK, hnm, hG⟩ := S
  intro H locs ls w f hl
  have hc : H[b]? = some (vp_cell (G.2.1 t) x) := w.1.2.2 b _ hb
  refine va_instE hx hb0 hown (hts _ q1) ⟨_, hc, ?_, ?_⟩ d (k H locs ls w f hl)
  · obtain ⟨n, g | g | g | g | g⟩ := x <;> rfl
  · have e1 := hra s _ (hK.1.2 t _ (ht G.2.1)).2
    obtain ⟨n, g | g | g | g | g⟩ := x <;> exact e1
theorem h_instAN (S : gSt l R cc own nm nL ret G L o ad vv K mc ms J) {nm' C : String} {index b : Nat} {x : vp_A} {ty : FieldType} (t : Nat) (ht : ∀ dA : Nat → ClassId, (gty dA)[t]? = some (dA t, ty)) (hra : ∀ (s : State) (cA : ClassId), va_RA s cA ty → s.vm.findClass C = some cA) (hb : h b = some (.inl (t, x))) (q1 : Cond.classLink own index nm' ∈ lw_all) (q2 : ∀ U, G.2.2.1 U → va_Nc C nm' U) (d : decode cc pc = .ok (.instanceof index, 3)) (k : J Y h cs ss (pc + 3) lv (.int 0 :: st)) : J Y h cs ss pc lv (.ref b :: st) := by
  obtain ⟨p, e, s, m, args, below, meth, c, A, Qf, hQf, rfl, hx, hb0, hml, hr, hlk, hown, hts, hK, hnm, hG⟩ := S
  intro H locs ls w f hl
  have hc : H[b]? = some (vp_cell (G.2.1 t) x) := w.1.2.2 b _ hb
  refine va_instNo hx hb0 hown (hts _ q1) (q2 s hK.2) ⟨_, hc, ?_, ?_⟩ d (k H locs ls w f hl)
  · obtain ⟨n, g | g | g | g | g⟩ := x <;> rfl
  · have e1 := hra s _ (hK.1.2 t _ (ht G.2.1)).2
    obtain ⟨n, g | g | g | g | g⟩ := x <;> exact e1
/-- is the row one of floats? it is of shorts or of floats -/
theorem h_isF (S : gSt l R cc own nm nL ret G L o ad vv K mc ms J) (hC : cOK G) {index b t : Nat} {x : vp_A} (hb : h b = some (.inl (t, x))) (ht : t = 2 ∨ t = 3) (q1 : Cond.classLink own index "[F" ∈ lw_all) (d : decode cc pc = .ok (.instanceof index, 3)) (k : J Y h cs ss (pc + 3) lv (.int (if t = 3 then 1 else 0) :: st)) : J Y h cs ss pc lv (.ref b :: st) := by
  rcases ht with rfl | rfl
  · exact h_instAN (C := "[S") S 2 (fun _ => rfl) (fun _ _ h => h) hb q1 (cnc hC 254 rfl) d k
  · exact h_instA S 3 (fun _ => rfl) (fun _ _ h => h) hb q1 d k
theorem h_toF (S : gSt l R cc own nm nL ret G L o ad vv K mc ms J) {index b : Nat} {x : vp_A} (hb : h b = some (.inl (3, x))) (q1 : Cond.classLink own index "[F" ∈ lw_all) (d : decode cc pc = .ok (.checkcast index, 3)) (k : J Y h cs ss (pc + 3) lv (.ref b :: st)) : J Y h cs ss pc lv (.ref b :: st) := h_castA S 3 (fun _ => rfl) (fun _ _ h => h) hb q1 d k
theorem h_toS (S : gSt l R cc own nm nL ret G L o ad vv K mc ms J) {index b : Nat} {x : vp_A} (hb : h b = some (.inl (2, x))) (q1 : Cond.classLink own index "[S" ∈ lw_all) (d : decode cc pc = .ok (.checkcast index, 3)) (k : J Y h cs ss (pc + 3) lv (.ref b :: st)) : J Y h cs ss pc lv (.ref b :: st) := h_castA S 2 (fun _ => rfl) (fun _ _ h => h) hb q1 d k
theorem h_isHouse (S : gSt l R cc own nm nL ret G L o ad vv K mc ms J) (hC : cOK G) {index b ci : Nat} {fs : List Value} (hb : h b = some (.inr (ci, fs))) (hci : ci < 6 ∨ ci = 9 ∨ ci = 11) (q1 : Cond.classLink own index "LeaningStreet$House" ∈ lw_all) (d : decode cc pc = .ok (.instanceof index, 3)) (k : J Y h cs ss (pc + 3) lv (.int (if ci < 6 then 1 else 0) :: st)) : J Y h cs ss pc lv (.ref b :: st) := by
  rcases hci with hci | rfl | rfl
  · rcases (show ci = 0 ∨ ci = 1 ∨ ci = 2 ∨ ci = 3 ∨ ci = 4 ∨ ci = 5 by omega) with rfl | rfl | rfl | rfl | rfl | rfl
    · exact h_instS S hb rfl rfl q1 d k
    · exact h_instY S hb rfl rfl q1 (cn hC 57 rfl) d k
    · exact h_instY S hb rfl rfl q1 (cn hC 53 rfl) d k
    · exact h_instY S hb rfl rfl q1 (cn hC 55 rfl) d k
    · exact h_instY S hb rfl rfl q1 (cn hC 54 rfl) d k
    · exact h_instY S hb rfl rfl q1 (cn hC 56 rfl) d k
  · exact h_instN S hb rfl rfl q1 (cnc hC 51 rfl) d k
  · exact h_instN S hb rfl rfl q1 (cnc hC 58 rfl) d k
theorem h_isSheet (S : gSt l R cc own nm nL ret G L o ad vv K mc ms J) (hC : cOK G) {index b ci : Nat} {fs : List Value} (hb : h b = some (.inr (ci, fs))) (hci : ci < 6 ∨ ci = 9 ∨ ci = 11) (q1 : Cond.classLink own index "LeaningStreet$Sheet" ∈ lw_all) (d : decode cc pc = .ok (.instanceof index, 3)) (k : J Y h cs ss (pc + 3) lv (.int (if ci = 9 then 1 else 0) :: st)) : J Y h cs ss pc lv (.ref b :: st) := by
  rcases hci with hci | rfl | rfl
  · rcases (show ci = 0 ∨ ci = 1 ∨ ci = 2 ∨ ci = 3 ∨ ci = 4 ∨ ci = 5 by omega) with rfl | rfl | rfl | rfl | rfl | rfl
    · exact h_instN S hb rfl rfl q1 (cnc hC 69 rfl) d k
    · exact h_instN S hb rfl rfl q1 (cnc hC 64 rfl) d k
    · exact h_instN S hb rfl rfl q1 (cnc hC 65 rfl) d k
    · exact h_instN S hb rfl rfl q1 (cnc hC 66 rfl) d k
    · exact h_instN S hb rfl rfl q1 (cnc hC 67 rfl) d k
    · exact h_instN S hb rfl rfl q1 (cnc hC 68 rfl) d k
  · exact h_instS S hb rfl rfl q1 d k
  · exact h_instN S hb rfl rfl q1 (cnc hC 74 rfl) d k
theorem h_isFigure (S : gSt l R cc own nm nL ret G L o ad vv K mc ms J) (hC : cOK G) {index b ci : Nat} {fs : List Value} (hb : h b = some (.inr (ci, fs))) (hci : ci < 6 ∨ ci = 9 ∨ ci = 11) (q1 : Cond.classLink own index "LeaningStreet$Figure" ∈ lw_all) (d : decode cc pc = .ok (.instanceof index, 3)) (k : J Y h cs ss (pc + 3) lv (.int (if ci = 11 then 1 else 0) :: st)) : J Y h cs ss pc lv (.ref b :: st) := by
  rcases hci with hci | rfl | rfl
  · rcases (show ci = 0 ∨ ci = 1 ∨ ci = 2 ∨ ci = 3 ∨ ci = 4 ∨ ci = 5 by omega) with rfl | rfl | rfl | rfl | rfl | rfl
    · exact h_instN S hb rfl rfl q1 (cnc hC 86 rfl) d k
    · exact h_instN S hb rfl rfl q1 (cnc hC 81 rfl) d k
    · exact h_instN S hb rfl rfl q1 (cnc hC 82 rfl) d k
    · exact h_instN S hb rfl rfl q1 (cnc hC 83 rfl) d k
    · exact h_instN S hb rfl rfl q1 (cnc hC 84 rfl) d k
    · exact h_instN S hb rfl rfl q1 (cnc hC 85 rfl) d k
  · exact h_instN S hb rfl rfl q1 (cnc hC 78 rfl) d k
  · exact h_instS S hb rfl rfl q1 d k
theorem h_to0 (S : gSt l R cc own nm nL ret G L o ad vv K mc ms J) (hC : cOK G) {index b ci : Nat} {fs : List Value} (hb : h b = some (.inr (ci, fs))) (hci : ci < 6) (q1 : Cond.classLink own index "LeaningStreet$House" ∈ lw_all) (d : decode cc pc = .ok (.checkcast index, 3)) (k : J Y h cs ss (pc + 3) lv (.ref b :: st)) : J Y h cs ss pc lv (.ref b :: st) := by
  rcases (show ci = 0 ∨ ci = 1 ∨ ci = 2 ∨ ci = 3 ∨ ci = 4 ∨ ci = 5 by omega) with rfl | rfl | rfl | rfl | rfl | rfl
  · exact h_castS S hb rfl rfl q1 d k
  · exact h_castY S hb rfl rfl q1 (cn hC 57 rfl) d k
  · exact h_castY S hb rfl rfl q1 (cn hC 53 rfl) d k
  · exact h_castY S hb rfl rfl q1 (cn hC 55 rfl) d k
  · exact h_castY S hb rfl rfl q1 (cn hC 54 rfl) d k
  · exact h_castY S hb rfl rfl q1 (cn hC 56 rfl) d k
theorem h_to1 (S : gSt l R cc own nm nL ret G L o ad vv K mc ms J) (hC : cOK G) {index b ci : Nat} {fs : List Value} (hb : h b = some (.inr (ci, fs))) (hci : ci = 1 ∨ ci = 3) (q1 : Cond.classLink own index "LeaningStreet$TimberHouse" ∈ lw_all) (d : decode cc pc = .ok (.checkcast index, 3)) (k : J Y h cs ss (pc + 3) lv (.ref b :: st)) : J Y h cs ss pc lv (.ref b :: st) := by
  rcases hci with rfl | rfl
  · exact h_castS S hb rfl rfl q1 d k
  · exact h_castY S hb rfl rfl q1 (cn hC 51 rfl) d k
theorem h_to2 (S : gSt l R cc own nm nL ret G L o ad vv K mc ms J) (hC : cOK G) {index b ci : Nat} {fs : List Value} (hb : h b = some (.inr (ci, fs))) (hci : ci = 2 ∨ ci = 4) (q1 : Cond.classLink own index "LeaningStreet$BrickHouse" ∈ lw_all) (d : decode cc pc = .ok (.checkcast index, 3)) (k : J Y h cs ss (pc + 3) lv (.ref b :: st)) : J Y h cs ss pc lv (.ref b :: st) := by
  rcases hci with rfl | rfl
  · exact h_castS S hb rfl rfl q1 d k
  · exact h_castY S hb rfl rfl q1 (cn hC 52 rfl) d k
theorem h_to3 (S : gSt l R cc own nm nL ret G L o ad vv K mc ms J) (hC : cOK G) {index b ci : Nat} {fs : List Value} (hb : h b = some (.inr (ci, fs))) (hci : ci = 3) (q1 : Cond.classLink own index "LeaningStreet$EmptyHouse" ∈ lw_all) (d : decode cc pc = .ok (.checkcast index, 3)) (k : J Y h cs ss (pc + 3) lv (.ref b :: st)) : J Y h cs ss pc lv (.ref b :: st) := by
  subst hci
  exact h_castS S hb rfl rfl q1 d k
theorem h_to4 (S : gSt l R cc own nm nL ret G L o ad vv K mc ms J) (hC : cOK G) {index b ci : Nat} {fs : List Value} (hb : h b = some (.inr (ci, fs))) (hci : ci = 4) (q1 : Cond.classLink own index "LeaningStreet$DoubleHouse" ∈ lw_all) (d : decode cc pc = .ok (.checkcast index, 3)) (k : J Y h cs ss (pc + 3) lv (.ref b :: st)) : J Y h cs ss pc lv (.ref b :: st) := by
  subst hci
  exact h_castS S hb rfl rfl q1 d k
theorem h_to5 (S : gSt l R cc own nm nL ret G L o ad vv K mc ms J) (hC : cOK G) {index b ci : Nat} {fs : List Value} (hb : h b = some (.inr (ci, fs))) (hci : ci = 5) (q1 : Cond.classLink own index "LeaningStreet$FloatingHouse" ∈ lw_all) (d : decode cc pc = .ok (.checkcast index, 3)) (k : J Y h cs ss (pc + 3) lv (.ref b :: st)) : J Y h cs ss pc lv (.ref b :: st) := by
  subst hci
  exact h_castS S hb rfl rfl q1 d k
theorem hh_aast (S : gSt l R cc own nm nL ret G L o ad vv K mc ms J) (hC : cOK G) {n v ci : Nat} {g : Nat → Option Nat} {vs : List Value} {i : Int32} (ha : h a = some (.inl (4, n, .inr (.inr (.inr (.inr g)))))) (hci : ci < 6) (hv : h v = some (.inr (ci, vs))) (hin : vp_in i n) (d : decode cc pc = .ok (.aastore, 1)) (kk : ∀ h' : gH, h' = hup h a (.inl (4, n, .inr (.inr (.inr (.inr (va_up g i.toNatClampNeg (some v))))))) → J Y h' cs ss (pc + 1) lv st) : J Y h cs ss pc lv (.ref v :: .int i :: .ref a :: st) := by
  rcases (show ci = 0 ∨ ci = 1 ∨ ci = 2 ∨ ci = 3 ∨ ci = 4 ∨ ci = 5 by omega) with rfl | rfl | rfl | rfl | rfl | rfl
  · exact h_aast S 4 (fun _ => rfl) ha hv rfl (Or.inl rfl) hin d kk
  · exact h_aast S 4 (fun _ => rfl) ha hv rfl (Or.inr (cn hC 57 rfl)) hin d kk
  · exact h_aast S 4 (fun _ => rfl) ha hv rfl (Or.inr (cn hC 53 rfl)) hin d kk
  · exact h_aast S 4 (fun _ => rfl) ha hv rfl (Or.inr (cn hC 55 rfl)) hin d kk
  · exact h_aast S 4 (fun _ => rfl) ha hv rfl (Or.inr (cn hC 54 rfl)) hin d kk
  · exact h_aast S 4 (fun _ => rfl) ha hv rfl (Or.inr (cn hC 56 rfl)) hin d kk
theorem h_copyS (S : gSt l R cc own nm nL ret G L o ad vv K mc ms J) {index a0 n0 n1 : Nat} {f0 g : Nat → Int32} {sp dp n : Int32} {rest : List Value} (q1 : Cond.methodLink own index arraycopyName ∈ lw_all) (q2 : Cond.native arraycopyName ∈ lw_all) (q3 : Cond.static arraycopyName ∈ lw_all) (q4 : Cond.initialized "java/lang/System" ∈ lw_all)
    (ha0 : h a0 = some (.inl (2, n0, .inl f0))) (ha1 : h a = some (.inl (2, n1, .inl g))) (h1 : ¬ sp < 0) (h2 : ¬ dp < 0) (h3 : ¬ n < 0) (h4 : sp.toNatClampNeg + n.toNatClampNeg ≤ n0) (h5 : dp.toNatClampNeg + n.toNatClampNeg ≤ n1) (hfit : ∀ i, i < n.toNatClampNeg → fits .short (.int (f0 (sp.toNatClampNeg + i))) = true)
    (hframes : Nat.ble 1 R.frames = true) (hlocals : Nat.ble ((rest.map fun v => v.category).sum + (nativeFrameWords "java/lang/System" "arraycopy" 5 + 11)) R.locals = true) (d : decode cc pc = .ok (.invokestatic index, 3))
    (kk : ∀ h' : gH, h' = hup h a (.inl (2, n1, .inl (va_cpy f0 g sp.toNatClampNeg dp.toNatClampNeg n.toNatClampNeg))) → J Y h' cs ss (pc + 3) lv rest) : J Y h cs ss pc lv (.int n :: .int dp :: .ref a :: .int sp :: .ref a0 :: rest) := by
  obtain ⟨p, e, s, m, args, below, meth, c, A, Qf, hQf, rfl, hx, hb, hml, hr, hlk, hown, hts, hK, hnm, hG⟩ := S
  intro H locs ls w f hl
  have nn : ∀ z : Int32, ¬ z < 0 → z.toInt = (z.toNatClampNeg : Int) := by
    intro z hz
    have hz0 : (0 : Int) ≤ z.toInt := by
      have := Int32.not_lt.mp hz
      simpa using Int32.le_iff_toInt_le.mp this
    show z.toInt = ((z.toInt.toNat : Nat) : Int)
    omega
  intro T hT X
  have hc0 : H[a0]? = some (vp_cell (G.2.1 2) (n0, .inl f0)) := w.1.2.2 a0 _ ha0
  have hc1 : H[a]? = some (vp_cell (G.2.1 2) (n1, .inl g)) := w.1.2.2 a _ ha1
  have ht : (gty G.2.1)[2]? = some (G.2.1 2, .short) := rfl
  obtain ⟨-, k0, hk0, cm0, hkk0⟩ := (hK.1.2 2 _ ht).1 n0 (fun j => .int (f0 j))
  obtain ⟨-, k1, hk1, cm1, hkk1⟩ := (hK.1.2 2 _ ht).1 n1 (fun j => .int (g j))
  obtain ⟨vm', X', step⟩ := X.arraycopy hx hown (hts _ q1) (hts _ q2) (hts _ q3) (hts _ q4) (src := a0) (dst := a) (cs := vp_cell (G.2.1 2) (n0, .inl f0)) (cd := vp_cell (G.2.1 2) (n1, .inl g)) (srcPos := sp) (destPos := dp) (n := n) (by rw [hT]; exact hc0) (by rw [hT]; exact hc1)
    (fun _ h => by cases h) (fun _ h => by cases h) (fun h => by cases h) (fun h => by cases h) hk0 hk1 hkk0 hkk1 (by simp [refKind]) h1 h2 h3
    (by rw [nn sp h1, nn n h3]; show ¬ _ > ((arrV _ n0 (fun j => .int (f0 j))).slots.size : Int); rw [arrV_size]; omega)
    (by rw [nn dp h2, nn n h3]; show ¬ _ > ((arrV _ n1 (fun j => .int (g j))).slots.size : Int); rw [arrV_size]; omega)
    (fun vm₁ hal i hi => by
      have e : (vp_cell (G.2.1 2) (n0, .inl f0)).slots.getD (sp.toNatClampNeg + i) .null = .int (f0 (sp.toNatClampNeg + i)) := by
        show (arrV _ n0 (fun j => .int (f0 j))).slots.getD _ _ = _
        rw [Array.getD_eq_getD_getElem?, arrV_read _ _ (by omega)]
        rfl
      refine ⟨?_, ?_⟩
      · rw [e]
        exact hfit i hi
      · rw [e]
        exact trivial)
    (g := F0 m pc ls (.int n :: .int dp :: .ref a :: .int sp :: .ref a0 :: rest)) rfl (by rw [hml]; exact hl.1) (rest := rest) rfl (by rw [hb]; exact d) (Nat.le_of_ble_eq_true hframes) (by have := Nat.le_of_ble_eq_true hlocals; show 2 * 0 + _ + _ ≤ _; omega)
  have e1 : copied (vp_cell (G.2.1 2) (n0, .inl f0)) (vp_cell (G.2.1 2) (n1, .inl g)) sp dp n = vp_cell (G.2.1 2) (n1, .inl (va_cpy f0 g sp.toNatClampNeg dp.toNatClampNeg n.toNatClampNeg)) := by
    exact va_copied (fun z => .int z) _ _ f0 g h4
  rw [e1] at X' step
  have hlt : a < H.size := (Array.getElem?_eq_some_iff.mp hc1).1
  have hheap : ((T.setVm vm').setCell a (vp_cell (G.2.1 2) (n1, .inl (va_cpy f0 g sp.toNatClampNeg dp.toNatClampNeg n.toNatClampNeg)))).heap = H.setIfInBounds a (vp_cell (G.2.1 2) (n1, .inl (va_cpy f0 g sp.toNatClampNeg dp.toNatClampNeg n.toNatClampNeg))) := by rw [← hT]; rfl
  have oq : ∀ q : Nat, q ≠ a → (H.setIfInBounds a (vp_cell (G.2.1 2) (n1, .inl (va_cpy f0 g sp.toNatClampNeg dp.toNatClampNeg n.toNatClampNeg))))[q]? = H[q]? := fun q hq => by simp [Array.getElem?_setIfInBounds, Ne.symm hq]
  have hAa : A a := w.2.2.1 _ (Or.inr (Or.inr (Or.inl ⟨_, ha1⟩)))
  obtain ⟨t, a1, b1⟩ := kk _ rfl _ _ ls (w.setS (e := .inl (2, n1, .inl (va_cpy f0 g sp.toNatClampNeg dp.toNatClampNeg n.toNatClampNeg))) ha1 (show (H.setIfInBounds a _)[a]? = some _ by simp [Array.getElem?_setIfInBounds, hlt]) oq ⟨by simp; exact w.2.2.2.1, fun q g1 g2 => by
      rw [oq q (fun e => g2 (by rw [e]; exact hAa))]
      exact w.2.2.2.2.1 q g1 g2, fun q hq => by
      rcases List.mem_append.mp hq with h | h
      · exact w.2.2.2.2.2 q h
      · obtain ⟨z, -, hz⟩ := List.mem_map.mp h
        rw [← hz]
        exact hAa⟩) (w.keepH hG ha1 oq f) hl _ hheap X'
  exact ⟨t, step t a1, b1⟩
theorem h_copyT (S : gSt l R cc own nm nL ret G L o ad vv K mc ms J) {index a0 n0 n1 : Nat} {f0 g : Nat → Option Nat} {sp dp n : Int32} {rest : List Value} (q1 : Cond.methodLink own index arraycopyName ∈ lw_all) (q2 : Cond.native arraycopyName ∈ lw_all) (q3 : Cond.static arraycopyName ∈ lw_all) (q4 : Cond.initialized "java/lang/System" ∈ lw_all)
    (ha0 : h a0 = some (.inl (5, n0, .inr (.inr (.inr (.inr f0)))))) (ha1 : h a = some (.inl (5, n1, .inr (.inr (.inr (.inr g)))))) (h1 : ¬ sp < 0) (h2 : ¬ dp < 0) (h3 : ¬ n < 0) (h4 : sp.toNatClampNeg + n.toNatClampNeg ≤ n0) (h5 : dp.toNatClampNeg + n.toNatClampNeg ≤ n1) (hel : ∀ i, i < n.toNatClampNeg → ∀ y, f0 (sp.toNatClampNeg + i) = some y → ∃ vs, h y = some (.inr (8, vs)))
    (hframes : Nat.ble 1 R.frames = true) (hlocals : Nat.ble ((rest.map fun v => v.category).sum + (nativeFrameWords "java/lang/System" "arraycopy" 5 + 11)) R.locals = true) (d : decode cc pc = .ok (.invokestatic index, 3))
    (kk : ∀ h' : gH, h' = hup h a (.inl (5, n1, .inr (.inr (.inr (.inr (va_cpy f0 g sp.toNatClampNeg dp.toNatClampNeg n.toNatClampNeg)))))) → J Y h' cs ss (pc + 3) lv rest) : J Y h cs ss pc lv (.int n :: .int dp :: .ref a :: .int sp :: .ref a0 :: rest) := by
  obtain ⟨p, e, s, m, args, below, meth, c, A, Qf, hQf, rfl, hx, hb, hml, hr, hlk, hown, hts, hK, hnm, hG⟩ := S
  intro H locs ls w f hl
  have nn : ∀ z : Int32, ¬ z < 0 → z.toInt = (z.toNatClampNeg : Int) := by
    intro z hz
    have hz0 : (0 : Int) ≤ z.toInt := by
      have := Int32.not_lt.mp hz
      simpa using Int32.le_iff_toInt_le.mp this
    show z.toInt = ((z.toInt.toNat : Nat) : Int)
    omega
  intro T hT X
  have hc0 : H[a0]? = some (vp_cell (G.2.1 5) (n0, .inr (.inr (.inr (.inr f0))))) := w.1.2.2 a0 _ ha0
  have hc1 : H[a]? = some (vp_cell (G.2.1 5) (n1, .inr (.inr (.inr (.inr g))))) := w.1.2.2 a _ ha1
  have ht : (gty G.2.1)[5]? = some (G.2.1 5, .object RX13) := rfl
  obtain ⟨-, k0, hk0, cm0, hkk0⟩ := (hK.1.2 5 _ ht).1 n0 (fun j => va_rf (f0 j))
  obtain ⟨-, k1, hk1, cm1, hkk1⟩ := (hK.1.2 5 _ ht).1 n1 (fun j => va_rf (g j))
  obtain ⟨vm', X', step⟩ := X.arraycopy hx hown (hts _ q1) (hts _ q2) (hts _ q3) (hts _ q4) (src := a0) (dst := a) (cs := vp_cell (G.2.1 5) (n0, .inr (.inr (.inr (.inr f0))))) (cd := vp_cell (G.2.1 5) (n1, .inr (.inr (.inr (.inr g))))) (srcPos := sp) (destPos := dp) (n := n) (by rw [hT]; exact hc0) (by rw [hT]; exact hc1)
    (fun _ h => by cases h) (fun _ h => by cases h) (fun h => by cases h) (fun h => by cases h) hk0 hk1 hkk0 hkk1 rfl h1 h2 h3
    (by rw [nn sp h1, nn n h3]; show ¬ _ > ((arrV _ n0 (fun j => va_rf (f0 j))).slots.size : Int); rw [arrV_size]; omega)
    (by rw [nn dp h2, nn n h3]; show ¬ _ > ((arrV _ n1 (fun j => va_rf (g j))).slots.size : Int); rw [arrV_size]; omega)
    (fun vm₁ hal i hi => by
      have e : (vp_cell (G.2.1 5) (n0, .inr (.inr (.inr (.inr f0))))).slots.getD (sp.toNatClampNeg + i) .null = va_rf (f0 (sp.toNatClampNeg + i)) := by
        show (arrV _ n0 (fun j => va_rf (f0 j))).slots.getD _ _ = _
        rw [Array.getD_eq_getD_getElem?, arrV_read _ _ (by omega)]
        rfl
      rw [e]
      cases hy : f0 (sp.toNatClampNeg + i) with
      | none => exact ⟨rfl, trivial⟩
      | some y =>
        obtain ⟨vs, hvs⟩ := hel i hi y hy
        obtain ⟨cellV, g1, g2, g3⟩ := w_recv (q := (RX13, TX13, 3)) hK w hvs rfl
        obtain ⟨kC, hkC, -⟩ := Vm.findClass_spec g3
        obtain ⟨kA, comp, r1, r2, r3, -⟩ := (hK.1.2 5 _ ht).2
        cases hk1.symm.trans r1
        cases hkk1.symm.trans r2
        obtain ⟨kE, hkE, -⟩ := Vm.findClass_spec r3
        obtain ⟨kC', hkC', -⟩ := hal.2.2 _ _ hkC
        obtain ⟨kE', hkE', -⟩ := hal.2.2 _ _ hkE
        have hcl := (hK.1.1 8 (RX13, TX13, 3) rfl).2
        have e2 : cellV.cls = cm1 := Option.some.inj (g3.symm.trans r3)
        have e3 : G.1.1 8 = cm1 := Option.some.inj (hcl.1.symm.trans r3)
        refine ⟨rfl, cellV, (show T.heap[y]? = some cellV by rw [hT]; exact g1), (fun q h => by rw [h] at g2; cases g2), ⟨kC', hkC'⟩, ?_, ?_⟩
        · exact ⟨kE', hkE'⟩
        · show vm₁.assignable _ _ = true
          rw [hal.assignable, e2, ← e3]
          exact va_assign hcl)
    (g := F0 m pc ls (.int n :: .int dp :: .ref a :: .int sp :: .ref a0 :: rest)) rfl (by rw [hml]; exact hl.1) (rest := rest) rfl (by rw [hb]; exact d) (Nat.le_of_ble_eq_true hframes) (by have := Nat.le_of_ble_eq_true hlocals; show 2 * 0 + _ + _ ≤ _; omega)
  have e1 : copied (vp_cell (G.2.1 5) (n0, .inr (.inr (.inr (.inr f0))))) (vp_cell (G.2.1 5) (n1, .inr (.inr (.inr (.inr g))))) sp dp n = vp_cell (G.2.1 5) (n1, .inr (.inr (.inr (.inr (va_cpy f0 g sp.toNatClampNeg dp.toNatClampNeg n.toNatClampNeg))))) := by
    rw [vp_cell_q, vp_cell_q, vp_cell_q]
    exact va_copied (fun z => va_rf z) _ _ f0 g h4
  rw [e1] at X' step
  have hlt : a < H.size := (Array.getElem?_eq_some_iff.mp hc1).1
  have hheap : ((T.setVm vm').setCell a (vp_cell (G.2.1 5) (n1, .inr (.inr (.inr (.inr (va_cpy f0 g sp.toNatClampNeg dp.toNatClampNeg n.toNatClampNeg))))))).heap = H.setIfInBounds a (vp_cell (G.2.1 5) (n1, .inr (.inr (.inr (.inr (va_cpy f0 g sp.toNatClampNeg dp.toNatClampNeg n.toNatClampNeg)))))) := by rw [← hT]; rfl
  have oq : ∀ q : Nat, q ≠ a → (H.setIfInBounds a (vp_cell (G.2.1 5) (n1, .inr (.inr (.inr (.inr (va_cpy f0 g sp.toNatClampNeg dp.toNatClampNeg n.toNatClampNeg)))))))[q]? = H[q]? := fun q hq => by simp [Array.getElem?_setIfInBounds, Ne.symm hq]
  have hAa : A a := w.2.2.1 _ (Or.inr (Or.inr (Or.inl ⟨_, ha1⟩)))
  obtain ⟨t, a1, b1⟩ := kk _ rfl _ _ ls (w.setS (e := .inl (5, n1, .inr (.inr (.inr (.inr (va_cpy f0 g sp.toNatClampNeg dp.toNatClampNeg n.toNatClampNeg)))))) ha1 (show (H.setIfInBounds a _)[a]? = some _ by simp [Array.getElem?_setIfInBounds, hlt]) oq ⟨by simp; exact w.2.2.2.1, fun q g1 g2 => by
      rw [oq q (fun e => g2 (by rw [e]; exact hAa))]
      exact w.2.2.2.2.1 q g1 g2, fun q hq => by
      rcases List.mem_append.mp hq with h | h
      · exact w.2.2.2.2.2 q h
      · obtain ⟨z, -, hz⟩ := List.mem_map.mp h
        rw [← hz]
        exact hAa⟩) (w.keepH hG ha1 oq f) hl _ hheap X'
  exact ⟨t, step t a1, b1⟩
end RD

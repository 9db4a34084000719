set_option maxRecDepth 100000
section RC
variable {α β : Type} {l : Launch} {R : Room} {cc : ByteArray} {own nm : String} {nL : Nat} {ret : Option FieldType} {G : gG} {L : gL} {o : Nat} {ad : Nat → Nat} {vv : α → Option Value} {K : α → gY → gH → Prop} {mc ms : Nat} {J : gJt}
variable {Y : gY} {h : gH} {cs ss pc : Nat} {lv : List (Option Value)} {st : List Value} {a : Nat}
theorem c_recv {Y : gY} {h : gH} : ∀ H, gV G cL o ad Y h H → ∃ (ci : Nat) (q : vw_C) (fs : List Value), gcl[ci]? = some q ∧ q.1 = RX0 ∧ va_at G.1 gcl (o, .inr (ci, fs)) H := fun H hv => ⟨13, _, _, rfl, rfl, hv.1 (by decide)⟩
theorem h_recv {Y : gY} {h : gH} {b ci : Nat} {fs : List Value} {q : vw_C} {C : String} (hb : h b = some (.inr (ci, fs))) (hc : gcl[ci]? = some q) (hq : q.1 = C) : ∀ H, gV G L o ad Y h H → ∃ (ci : Nat) (q : vw_C) (fs : List Value), gcl[ci]? = some q ∧ q.1 = C ∧ va_at G.1 gcl (b, .inr (ci, fs)) H := fun H hv => ⟨ci, _, _, hc, hq, hv.2.2 b _ hb⟩
theorem j_callU (S : gSt l R cc own nm nL ret G L o ad vv K mc ms J) {x y : MethodName} {C owner : String} {b : Nat} {bytes : ByteArray} {maxL mc' ms' index : Nat} {ret' : Option FieldType} {rm' : Room} {As rest : List Value} {vv' : β → Option Value} {K' : β → gY → gH → Prop} (n : Nat)
    (hM : gMet l y (ws_ y bytes maxL ret') rm' G L o ad (.ref b :: As) vv' K' mc' ms' Y h) (hw : GoodIn lw_all (va_wsU own index C owner x y (ws_ y bytes maxL ret'))) (hrc : rm'.cells = mc') (hrs : rm'.slots = ms') (hyx : y = ⟨owner, x.name, x.desc⟩) (hd : owner ≠ "java/lang/invoke/MethodHandle" ∧ owner ≠ "java/lang/invoke/VarHandle" ∧ (parseMethodDescriptor x.desc).map (fun d => d.parameters.length) = some n) (hR1 : Nat.ble (rm'.frames + 1) R.frames = true) (hR2 : Nat.ble (8 + (maxL + 11) + rm'.locals) R.locals = true) (hrv : ∀ H, gV G L o ad Y h H → ∃ (ci : Nat) (q : vw_C) (fs : List Value), gcl[ci]? = some q ∧ q.1 = C ∧ va_at G.1 gcl (b, .inr (ci, fs)) H) (hn : As.length = n) (hst : st = As.reverse ++ .ref b :: rest) (hsum : Nat.ble (rest.map fun v => v.category).sum 8 = true) (d : decode cc pc = .ok (.invokevirtual index, 3)) (hcs : cs + mc' ≤ R.cells) (hss : ss + ms' ≤ R.slots)
    (kk : ∀ (r : β) (Y' : gY) (h' : gH), K' r Y' h' → J Y' h' (cs + mc') (ss + ms') (pc + 3) lv ((vv' r).toList ++ rest)) : J Y h cs ss pc lv st := by
  obtain ⟨p, e, s, m, args, below, meth, c, A, Qf, hQf, rfl, hx, hb, hml, hr, hlk, hown, hts, hK, hnm, hG⟩ := S
  intro H locs ls w f hl
  subst hst
  obtain ⟨ci, q, fs, hq1, hq2, hat⟩ := hrv H w.1
  have hrecv := va_recv (q0 := 0) (ws := [(b, .inr (ci, fs))]) hK.1 (gP1 hat) hq1 rfl
  have hcat := (hK.1.1 ci q hq1).2
  rw [hq2] at hrecv hcat
  refine g_call (va_runU (As := As) (rest := rest) ⟨hx, hb, hml, hown, hts⟩ (hM hG H.size) (va_cwU n hts hw rfl hrc hrs hyx hd ⟨Nat.le_of_ble_eq_true hR1, Nat.le_of_ble_eq_true hR2⟩) ⟨gPre_blind hG, hrecv, fun U hU hW => g_pre hG hK w f hU hW⟩ rfl hn hl.1 rfl (lv_room (Nat.le_of_ble_eq_true hsum)) d ⟨hcs, hss⟩) w.2.2.2 w.sub w.sub (fun r Y' h' H1 locs1 hk hV hX hdm hkp hS => ?_)
  exact kk r Y' h' hk H1 locs1 ls (w.after hV hX hdm hS) (hG.2.2.2.1 A s H H1 (fun q h1 h2 => hkp q h1 (fun z => h2 (w.sub q z))) f) hl
theorem j_callO (S : gSt l R cc own nm nL ret G L o ad vv K mc ms J) {x y : MethodName} {C owner : String} {b m0 : Nat} {b0 : ByteArray} {r0 : Option FieldType} {bytes : ByteArray} {maxL mc' ms' index : Nat} {ret' : Option FieldType} {rm' : Room} {As rest : List Value} {vv' : β → Option Value} {K' : β → gY → gH → Prop} (n : Nat)
    (hM : gMet l y (ws_ y bytes maxL ret') rm' G L o ad (.ref b :: As) vv' K' mc' ms' Y h) (hw : GoodIn lw_all (va_wsO own index C owner x y (ws_ y bytes maxL ret'))) (hrc : rm'.cells = mc') (hrs : rm'.slots = ms') (h0 : Cond.code ⟨owner, x.name, x.desc⟩ b0 m0 r0 ∈ lw_all) (hd : owner ≠ "java/lang/invoke/MethodHandle" ∧ owner ≠ "java/lang/invoke/VarHandle" ∧ (parseMethodDescriptor x.desc).map (fun d => d.parameters.length) = some n) (hR1 : Nat.ble (rm'.frames + 1) R.frames = true) (hR2 : Nat.ble (8 + (maxL + 11) + rm'.locals) R.locals = true) (hrv : ∀ H, gV G L o ad Y h H → ∃ (ci : Nat) (q : vw_C) (fs : List Value), gcl[ci]? = some q ∧ q.1 = C ∧ va_at G.1 gcl (b, .inr (ci, fs)) H) (hn : As.length = n) (hst : st = As.reverse ++ .ref b :: rest) (hsum : Nat.ble (rest.map fun v => v.category).sum 8 = true) (d : decode cc pc = .ok (.invokevirtual index, 3)) (hcs : cs + mc' ≤ R.cells) (hss : ss + ms' ≤ R.slots)
    (kk : ∀ (r : β) (Y' : gY) (h' : gH), K' r Y' h' → J Y' h' (cs + mc') (ss + ms') (pc + 3) lv ((vv' r).toList ++ rest)) : J Y h cs ss pc lv st := by
  obtain ⟨p, e, s, m, args, below, meth, c, A, Qf, hQf, rfl, hx, hb, hml, hr, hlk, hown, hts, hK, hnm, hG⟩ := S
  intro H locs ls w f hl
  subst hst
  obtain ⟨ci, q, fs, hq1, hq2, hat⟩ := hrv H w.1
  have hrecv := va_recv (q0 := 0) (ws := [(b, .inr (ci, fs))]) hK.1 (gP1 hat) hq1 rfl
  have hcat := (hK.1.1 ci q hq1).2
  rw [hq2] at hrecv hcat
  refine g_call (va_runU (As := As) (rest := rest) ⟨hx, hb, hml, hown, hts⟩ (hM hG H.size) (va_cwO n hts hw rfl hrc hrs h0 hd ⟨Nat.le_of_ble_eq_true hR1, Nat.le_of_ble_eq_true hR2⟩) ⟨gPre_blind hG, hrecv, fun U hU hW => g_pre hG hK w f hU hW⟩ rfl hn hl.1 rfl (lv_room (Nat.le_of_ble_eq_true hsum)) d ⟨hcs, hss⟩) w.2.2.2 w.sub w.sub (fun r Y' h' H1 locs1 hk hV hX hdm hkp hS => ?_)
  exact kk r Y' h' hk H1 locs1 ls (w.after hV hX hdm hS) (hG.2.2.2.1 A s H H1 (fun q h1 h2 => hkp q h1 (fun z => h2 (w.sub q z))) f) hl
theorem j_callI (S : gSt l R cc own nm nL ret G L o ad vv K mc ms J) {y : MethodName} {b : Nat} {bytes : ByteArray} {maxL mc' ms' index : Nat} {ret' : Option FieldType} {rm' : Room} {As rest : List Value} {vv' : β → Option Value} {K' : β → gY → gH → Prop} (n : Nat)
    (hM : gMet l y (ws_ y bytes maxL none) rm' G L o ad (.ref b :: As) vv' K' mc' ms' Y h) (hw : GoodIn lw_all (ws_ y bytes maxL none)) (hrc : rm'.cells = mc') (hrs : rm'.slots = ms') (q1 : Cond.initialized y.cls ∈ lw_all) (q2 : Cond.methodLink own index y ∈ lw_all) (q3 : Cond.instanceMethod y ∈ lw_all) (hy : y.name = "<init>") (hd : y.cls ≠ "java/lang/invoke/MethodHandle" ∧ y.cls ≠ "java/lang/invoke/VarHandle" ∧ (parseMethodDescriptor y.desc).map (fun d => d.parameters.length) = some n) (hR1 : Nat.ble (rm'.frames + 1) R.frames = true) (hR2 : Nat.ble (8 + (maxL + 11) + rm'.locals) R.locals = true) (hn : As.length = n) (hst : st = As.reverse ++ .ref b :: rest) (hsum : Nat.ble (rest.map fun v => v.category).sum 8 = true) (d : decode cc pc = .ok (.invokespecial index, 3)) (hcs : cs + mc' ≤ R.cells) (hss : ss + ms' ≤ R.slots)
    (kk : ∀ (r : β) (Y' : gY) (h' : gH), K' r Y' h' → J Y' h' (cs + mc') (ss + ms') (pc + 3) lv ((vv' r).toList ++ rest)) : J Y h cs ss pc lv st := by
  obtain ⟨p, e, s, m, args, below, meth, c, A, Qf, hQf, rfl, hx, hb, hml, hr, hlk, hown, hts, hK, hnm, hG⟩ := S
  intro H locs ls w f hl
  subst hst
  refine g_call (va_runI (As := As) (rest := rest) ⟨hx, hb, hml, hown, hts⟩ (hM hG H.size) (cwI n hts hw rfl hrc hrs (hts _ q1) (hts _ q2) (hts _ q3) hy hd ⟨Nat.le_of_ble_eq_true hR1, Nat.le_of_ble_eq_true hR2⟩) ⟨gPre_blind hG, fun U hU hW => g_pre hG hK w f hU hW⟩ rfl hn hl.1 rfl (lv_room (Nat.le_of_ble_eq_true hsum)) d ⟨hcs, hss⟩) w.2.2.2 w.sub w.sub (fun r Y' h' H1 locs1 hk hV hX hdm hkp hS => ?_)
  exact kk r Y' h' hk H1 locs1 ls (w.after hV hX hdm hS) (hG.2.2.2.1 A s H H1 (fun q h1 h2 => hkp q h1 (fun z => h2 (w.sub q z))) f) hl
theorem j_callIN (S : gSt l R cc own nm nL ret G L o ad vv K mc ms J) {y : MethodName} {host : String} {b : Nat} {bytes : ByteArray} {maxL mc' ms' index : Nat} {ret' : Option FieldType} {rm' : Room} {As rest : List Value} {vv' : β → Option Value} {K' : β → gY → gH → Prop} (n : Nat)
    (hM : gMet l y (ws_ y bytes maxL none) rm' G L o ad (.ref b :: As) vv' K' mc' ms' Y h) (hw : GoodIn lw_all (ws_ y bytes maxL none)) (hrc : rm'.cells = mc') (hrs : rm'.slots = ms') (q1 : Cond.initialized y.cls ∈ lw_all) (q2 : ∀ U, G.2.2.1 U → va_Nw (.methodLinkNest own index y host) U) (q3 : Cond.instanceMethod y ∈ lw_all) (hy : y.name = "<init>") (hd : y.cls ≠ "java/lang/invoke/MethodHandle" ∧ y.cls ≠ "java/lang/invoke/VarHandle" ∧ (parseMethodDescriptor y.desc).map (fun d => d.parameters.length) = some n) (hR1 : Nat.ble (rm'.frames + 1) R.frames = true) (hR2 : Nat.ble (8 + (maxL + 11) + rm'.locals) R.locals = true) (hn : As.length = n) (hst : st = As.reverse ++ .ref b :: rest) (hsum : Nat.ble (rest.map fun v => v.category).sum 8 = true) (d : decode cc pc = .ok (.invokespecial index, 3)) (hcs : cs + mc' ≤ R.cells) (hss : ss + ms' ≤ R.slots)
    (kk : ∀ (r : β) (Y' : gY) (h' : gH), K' r Y' h' → J Y' h' (cs + mc') (ss + ms') (pc + 3) lv ((vv' r).toList ++ rest)) : J Y h cs ss pc lv st := by
  obtain ⟨p, e, s, m, args, below, meth, c, A, Qf, hQf, rfl, hx, hb, hml, hr, hlk, hown, hts, hK, hnm, hG⟩ := S
  intro H locs ls w f hl
  subst hst
  refine g_call (va_runIN (As := As) (rest := rest) ⟨hx, hb, hml, hown, hts⟩ (hM hG H.size) ⟨va_cnB n hts hw rfl hrc hrs (q2 s hK.2) (hts _ q1) hd ⟨Nat.le_of_ble_eq_true hR1, Nat.le_of_ble_eq_true hR2⟩, hy, hts _ q3⟩ ⟨gPre_blind hG, fun U hU hW => g_pre hG hK w f hU hW⟩ rfl hn hl.1 rfl (lv_room (Nat.le_of_ble_eq_true hsum)) d ⟨hcs, hss⟩) w.2.2.2 w.sub w.sub (fun r Y' h' H1 locs1 hk hV hX hdm hkp hS => ?_)
  exact kk r Y' h' hk H1 locs1 ls (w.after hV hX hdm hS) (hG.2.2.2.1 A s H H1 (fun q h1 h2 => hkp q h1 (fun z => h2 (w.sub q z))) f) hl
theorem j_callSU (S : gSt l R cc own nm nL ret G L o ad vv K mc ms J) {y : MethodName} {C : String} {b : Nat} {bytes : ByteArray} {maxL mc' ms' index : Nat} {ret' : Option FieldType} {rm' : Room} {As rest : List Value} {vv' : β → Option Value} {K' : β → gY → gH → Prop} (n : Nat)
    (hM : gMet l y (ws_ y bytes maxL ret') rm' G L o ad (.ref b :: As) vv' K' mc' ms' Y h) (hw : GoodIn lw_all (va_wsSU own index y (ws_ y bytes maxL ret'))) (hrc : rm'.cells = mc') (hrs : rm'.slots = ms') (hd : y.name ≠ "<init>" ∧ (parseMethodDescriptor y.desc).map (fun d => d.parameters.length) = some n) (hR1 : Nat.ble (rm'.frames + 1) R.frames = true) (hR2 : Nat.ble (8 + (maxL + 11) + rm'.locals) R.locals = true) (hrv : ∀ H, gV G L o ad Y h H → ∃ (ci : Nat) (q : vw_C) (fs : List Value), gcl[ci]? = some q ∧ q.1 = C ∧ va_at G.1 gcl (b, .inr (ci, fs)) H) (hn : As.length = n) (hst : st = As.reverse ++ .ref b :: rest) (hsum : Nat.ble (rest.map fun v => v.category).sum 8 = true) (d : decode cc pc = .ok (.invokespecial index, 3)) (hcs : cs + mc' ≤ R.cells) (hss : ss + ms' ≤ R.slots)
    (kk : ∀ (r : β) (Y' : gY) (h' : gH), K' r Y' h' → J Y' h' (cs + mc') (ss + ms') (pc + 3) lv ((vv' r).toList ++ rest)) : J Y h cs ss pc lv st := by
  obtain ⟨p, e, s, m, args, below, meth, c, A, Qf, hQf, rfl, hx, hb, hml, hr, hlk, hown, hts, hK, hnm, hG⟩ := S
  intro H locs ls w f hl
  subst hst
  obtain ⟨ci, q, fs, hq1, hq2, hat⟩ := hrv H w.1
  have hrecv := va_recv (q0 := 0) (ws := [(b, .inr (ci, fs))]) hK.1 (gP1 hat) hq1 rfl
  have hcat := (hK.1.1 ci q hq1).2
  rw [hq2] at hrecv hcat
  refine g_call (va_runSU (As := As) (rest := rest) hcat ⟨hx, hb, hml, hown, hts⟩ (hM hG H.size) (va_cwSU n hts hw rfl hrc hrs hd ⟨Nat.le_of_ble_eq_true hR1, Nat.le_of_ble_eq_true hR2⟩) ⟨gPre_blind hG, hrecv, fun U hU hW => g_pre hG hK w f hU hW⟩ rfl hn hl.1 rfl (lv_room (Nat.le_of_ble_eq_true hsum)) d ⟨hcs, hss⟩) w.2.2.2 w.sub w.sub (fun r Y' h' H1 locs1 hk hV hX hdm hkp hS => ?_)
  exact kk r Y' h' hk H1 locs1 ls (w.after hV hX hdm hS) (hG.2.2.2.1 A s H H1 (fun q h1 h2 => hkp q h1 (fun z => h2 (w.sub q z))) f) hl
theorem hc_of' {ci : Nat} (h : ci < 6) : ∃ q, gcl[ci]? = some q := by
  rcases (show ci = 0 ∨ ci = 1 ∨ ci = 2 ∨ ci = 3 ∨ ci = 4 ∨ ci = 5 by omega) with rfl | rfl | rfl | rfl | rfl | rfl <;> exact ⟨_, rfl⟩
/-- super's pushes, House's: the default -/
theorem j_dS (S : gSt l R cc own nm nL ret G L o ad vv K mc ms J) (hC : cOK G) {index b ci : Nat} {fs : List Value} {k : Int32} {rest : List Value} (q0 : ∀ U, G.2.2.1 U → va_Nw (.methodLink own index dHN) U) (q1 : Cond.superclass own RX6 ∈ lw_all) (hci : ci < 6) (hbb : h b = some (.inr (ci, fs))) (hR1 : Nat.ble 1 R.frames = true) (hR2 : Nat.ble 21 R.locals = true) (hsum : Nat.ble (rest.map fun v => v.category).sum 8 = true) (d : decode cc pc = .ok (.invokespecial index, 3)) (kk : J Y h cs ss (pc + 3) lv (.int k :: rest)) : J Y h cs ss pc lv (.int k :: .ref b :: rest) := by
  obtain ⟨p, e, s, m, args, below, meth, c, A, Qf, hQf, rfl, hx, hb, hml, hr, hlk, hown, hts, hK, hnm, hG⟩ := S
  intro H locs ls w f hl
  obtain ⟨q, hq⟩ := hc_of' hci
  have hrecv := va_recv (q0 := 0) (ws := [(b, .inr (ci, fs))]) hK.1 (gP1 (w.1.2.2 b _ hbb)) hq rfl
  have hp := (hC s hK.2).2.2.2.2.2.2
  exact d_same (g := F0 m pc ls (.int k :: .ref b :: rest)) hx hb hml (i_dS (As := [.int k]) (rest := rest) hx hb hown (va_Nw.use rfl (q0 s hK.2)) (va_Nw.use rfl hp.2.2.2.1) (hts _ q686) hp.2.2.2.2 (hts _ q1) hrecv rfl rfl rfl d ⟨_, _, _, hts _ q687⟩) (hts _ q687) rfl hl.1 rfl (Nat.le_of_ble_eq_true hsum) (Nat.le_of_ble_eq_true hR1) (Nat.le_of_ble_eq_true hR2) d (kk H locs ls w f hl)
/-- pushes, of a House that is no more -/
theorem j_dH (S : gSt l R cc own nm nL ret G L o ad vv K mc ms J) (hC : cOK G) {index b : Nat} {fs : List Value} {k : Int32} {rest : List Value} (q0 : ∀ U, G.2.2.1 U → va_Nw (.methodLink own index dHN) U) (hbb : h b = some (.inr (0, fs))) (hR1 : Nat.ble 1 R.frames = true) (hR2 : Nat.ble 21 R.locals = true) (hsum : Nat.ble (rest.map fun v => v.category).sum 8 = true) (d : decode cc pc = .ok (.invokevirtual index, 3)) (kk : J Y h cs ss (pc + 3) lv (.int k :: rest)) : J Y h cs ss pc lv (.int k :: .ref b :: rest) := by
  obtain ⟨p, e, s, m, args, below, meth, c, A, Qf, hQf, rfl, hx, hb, hml, hr, hlk, hown, hts, hK, hnm, hG⟩ := S
  intro H locs ls w f hl
  have hrecv := va_recv (q0 := 0) (ws := [(b, .inr (0, fs))]) hK.1 (gP1 (w.1.2.2 b _ hbb)) (show gcl[0]? = some _ from rfl) rfl
  have hp := (hC s hK.2).2.2.2.2.2.2
  exact d_same (g := F0 m pc ls (.int k :: .ref b :: rest)) hx hb hml (i_dH (As := [.int k]) (rest := rest) hx hb hown (va_Nw.use rfl (q0 s hK.2)) (va_Nw.use rfl hp.2.2.2.1) (hts _ q686) hp.2.2.2.2 hrecv rfl rfl rfl d ⟨_, _, _, hts _ q687⟩) (hts _ q687) rfl hl.1 rfl (Nat.le_of_ble_eq_true hsum) (Nat.le_of_ble_eq_true hR1) (Nat.le_of_ble_eq_true hR2) d (kk H locs ls w f hl)
/-- pushes, of a class that has its own -/
theorem j_dV (S : gSt l R cc own nm nL ret G L o ad vv K mc ms J) (hC : cOK G) {y : MethodName} {C : String} {index b ci maxL : Nat} {fs : List Value} {q : vw_C} {k : Int32} {rest : List Value} {bytes : ByteArray} {ret' : Option FieldType} {rm' : Room} {K' : Int32 → gY → gH → Prop} (hM : gMet l y (ws_ y bytes maxL ret') rm' G L o ad [.ref b, .int k] (fun r => some (.int r)) K' 0 0 Y h) (hrc : rm'.cells = 0) (hrs : rm'.slots = 0) (q0 : ∀ U, G.2.2.1 U → va_Nw (.methodLink own index dHN) U) (q1 : Cond.selects C dPN y ∈ lw_all) (q2 : Cond.instanceMethod y ∈ lw_all) (q3 : Cond.initialized y.cls ∈ lw_all) (q4 : Cond.code y bytes maxL ret' ∈ lw_all) (hbb : h b = some (.inr (ci, fs))) (hci : gcl[ci]? = some q) (hq : q.1 = C) (hR1 : Nat.ble (rm'.frames + 1) R.frames = true) (hR2 : Nat.ble (8 + (maxL + 11) + rm'.locals) R.locals = true) (hsum : Nat.ble (rest.map fun v => v.category).sum 8 = true) (d : decode cc pc = .ok (.invokevirtual index, 3)) (hcs : cs ≤ R.cells) (hss : ss ≤ R.slots) (kk : ∀ (r : Int32) (Y' : gY) (h' : gH), K' r Y' h' → J Y' h' cs ss (pc + 3) lv (.int r :: rest)) : J Y h cs ss pc lv (.int k :: .ref b :: rest) := by
  obtain ⟨p, e, s, m, args, below, meth, c, A, Qf, hQf, rfl, hx, hb, hml, hr, hlk, hown, hts, hK, hnm, hG⟩ := S
  intro H locs ls w f hl
  have hrecv := va_recv (q0 := 0) (ws := [(b, .inr (ci, fs))]) hK.1 (gP1 (w.1.2.2 b _ hbb)) hci rfl
  rw [hq] at hrecv
  have hp := (hC s hK.2).2.2.2.2.2.2
  refine g_call (mc' := 0) (ms' := 0) (d_run (i_dV (As := [.int k]) (rest := rest) (g := F0 m pc ls (.int k :: .ref b :: rest)) hx hb hown (va_Nw.use rfl (q0 s hK.2)) (va_Nw.use rfl hp.2.2.2.1) (hts _ q686) hp.2.2.2.2 (hts _ q1) (hts _ q2) hrecv rfl rfl rfl d ⟨_, _, _, hts _ q687⟩) (hM hG H.size) (gPre_blind hG) hrc hrs (Nat.le_of_ble_eq_true hR1) (Nat.le_of_ble_eq_true hR2) (pay_in hts (lw_meth q4)) List.mem_cons_self (hts _ q3) hb hml (fun U hU hW => g_pre hG hK w f hU hW) rfl hl.1 (lv_room (Nat.le_of_ble_eq_true hsum)) d ⟨hcs, hss⟩) w.2.2.2 w.sub w.sub (fun r Y' h' H1 locs1 hk hV hX hdm hkp hS => ?_)
  exact kk r Y' h' hk H1 locs1 ls (w.after hV hX hdm hS) (hG.2.2.2.1 A s H H1 (fun q h1 h2 => hkp q h1 (fun z => h2 (w.sub q z))) f) hl
end RC

set_option maxRecDepth 100000
/-! ===== a call through the interface Bears ===== -/
def bW : MethodName := ⟨"LeaningStreet$Bears", "worth", "()I"⟩
def cFW (U : State) : Prop := va_Fw RX6 bW yX6_worth U ∧ va_Fw RX7 bW yX7_worth U ∧ va_Fw RX8 bW yX8_worth U ∧ va_Fw RX9 bW yX9_worth U ∧ va_Fw RX10 bW yX10_worth U ∧ va_Fw RX11 bW yX11_worth U
def xFW (G : gG) : Prop := ∀ U : State, G.2.2.1 U → cFW U
theorem lw_F {own : String} {idx : Nat} {C : String} {x y : MethodName} {b : ByteArray} {L : Nat} {r : Option FieldType} (h1 : Cond.methodLink own idx x ∈ lw_all) (h3 : Cond.selects C x y ∈ lw_all) (h4 : Cond.instanceMethod y ∈ lw_all) (h5 : Cond.initialized y.cls ∈ lw_all) (h6 : Cond.code y b L r ∈ lw_all) : GoodIn lw_all (va_wsF own idx C x y (ws_ y b L r)) := by
  refine lw_app ?_ (lw_meth h6)
  intro w hw
  simp only [List.mem_cons, List.not_mem_nil, or_false] at hw
  rcases hw with e | e | e | e <;> rw [e] <;> assumption
section IF
variable {α β : Type} {l : Launch} {R : Room} {cc : ByteArray} {own nm : String} {nL : Nat} {ret : Option FieldType} {G : gG} {L : gL} {o : Nat} {ad : Nat → Nat} {vv : α → Option Value} {K : α → gY → gH → Prop} {mc ms : Nat} {J : gJt}
variable {Y : gY} {h : gH} {cs ss pc : Nat} {lv : List (Option Value)} {st : List Value}
theorem g_call5 {p : Program} {e : Env} {s : State} {m : MethodId} {args : Array Value} {below : List Frame} {meth : Method} {c : Code} {H H0 : Heap} {locs : List Loc} {cells slots mc' ms' : Nat} {Q : State → Prop} {ls : Array Slot} {rest st0 : List Value} {a : Array Value} {A0 A1 : Nat → Prop} {free : Addr → Prop} {vv' : β → Option Value} {K' : β → gY → gH → Prop}
    (hr : va_Run5 p l e R s m args below meth c H locs cells slots mc' ms' (F0 m pc ls st0) rest (gQ G L o ad vv' K' A1 a) free) (hS : va_S A0 H0 H locs) (hA : ∀ q, A1 q → A0 q) (hf : ∀ q, free q → A0 q)
    (kk : ∀ (r : β) (Y' : gY) (h' : gH) (H1 : Heap) (locs1 : List Loc), K' r Y' h' → gV G L o ad Y' h' H1 → gX L o ad h' → (∀ q e, h' q = some e → A1 q) → (∀ q : Nat, q < H.size → ¬ A1 q → H1[q]? = H[q]?) → va_S A0 H0 H1 locs1 → W p l e R s m args below meth c H1 locs1 (cells + mc') (slots + ms') Q (F0 m (pc + 5) ls ((vv' r).toList ++ rest))) : W p l e R s m args below meth c H locs cells slots Q (F0 m pc ls st0) := by
  intro T hT X
  obtain ⟨v, st₀, t, T', L', h0, X', hL, e1, e2, ⟨⟨r, Y', h', hv, hk, hV, hX, hd⟩, hz, hkp⟩, stp⟩ := hr T hT X
  cases hv
  rw [h0] at hz hkp
  obtain ⟨t2, a1, b1⟩ := kk r Y' h' T'.heap (locs ++ L') hk (by rw [e1]; exact hV) hX hd (fun q h1 h2 => by rw [e1]; exact hkp q h1 h2)
    ⟨Nat.le_trans hS.1 (by rw [e1]; exact hz), fun q h1 h2 => by rw [e1, hkp q (Nat.lt_of_lt_of_le h1 hS.1) (fun z => h2 (hA q z))]; exact hS.2.1 q h1 h2, fun q hq => by
      rcases List.mem_append.mp hq with h | h
      · exact hS.2.2 q h
      · exact hf _ (hL q h)⟩ T' rfl X'
  exact ⟨t2, stp t2 a1, b1⟩
theorem j_callF (S : gSt l R cc own nm nL ret G L o ad vv K mc ms J) {x y : MethodName} {C : String} {b : Nat} {bytes : ByteArray} {maxL mc' ms' index count : Nat} {ret' : Option FieldType} {rm' : Room} {As rest : List Value} {vv' : β → Option Value} {K' : β → gY → gH → Prop} (n : Nat)
    (hM : gMet l y (ws_ y bytes maxL ret') rm' G L o ad (.ref b :: As) vv' K' mc' ms' Y h) (hw : GoodIn lw_all (va_wsF own index C x y (ws_ y bytes maxL ret'))) (hrc : rm'.cells = mc') (hrs : rm'.slots = ms') (hF : ∀ U, G.2.2.1 U → va_Fw C x y U) (hd : x.cls ≠ "java/lang/invoke/MethodHandle" ∧ x.cls ≠ "java/lang/invoke/VarHandle" ∧ (parseMethodDescriptor x.desc).map (fun d => d.parameters.length) = some n)
    (hR1 : Nat.ble (rm'.frames + 1) R.frames = true) (hR2 : Nat.ble (8 + (maxL + 11) + rm'.locals) R.locals = true) (hrv : ∀ H, gV G L o ad Y h H → ∃ (ci : Nat) (q : vw_C) (fs : List Value), gcl[ci]? = some q ∧ q.1 = C ∧ va_at G.1 gcl (b, .inr (ci, fs)) H) (hn : As.length = n) (hst : st = As.reverse ++ .ref b :: rest) (hsum : Nat.ble (rest.map fun v => v.category).sum 8 = true)
    (d : decode cc pc = .ok (.invokeinterface index count, 5)) (hcs : cs + mc' ≤ R.cells) (hss : ss + ms' ≤ R.slots)
    (kk : ∀ (r : β) (Y' : gY) (h' : gH), K' r Y' h' → J Y' h' (cs + mc') (ss + ms') (pc + 5) lv ((vv' r).toList ++ rest)) : J Y h cs ss pc lv st := by
  obtain ⟨p, e, s, m, args, below, meth, c, A, Qf, hQf, rfl, hx, hb, hml, hr, hlk, hown, hts, hK, hnm, hG⟩ := S
  intro H locs ls w f hl
  subst hst
  obtain ⟨ci, q, fs, hq1, hq2, hat⟩ := hrv H w.1
  have hrecv := va_recv (q0 := 0) (ws := [(b, .inr (ci, fs))]) hK.1 (gP1 hat) hq1 rfl
  have hcat := (hK.1.1 ci q hq1).2
  rw [hq2] at hrecv hcat
  refine g_call5 (va_runF (As := As) (rest := rest) hcat ⟨hx, hb, hml, hown, hts⟩ (hM hG H.size) (va_cwF n hts hw rfl hrc hrs (hF s hK.2) hd ⟨Nat.le_of_ble_eq_true hR1, Nat.le_of_ble_eq_true hR2⟩) ⟨gPre_blind hG, hrecv, fun U hU hW => g_pre hG hK w f hU hW⟩ rfl hn hl.1 rfl (lv_room (Nat.le_of_ble_eq_true hsum)) d ⟨hcs, hss⟩) w.2.2.2 w.sub w.sub (fun r Y' h' H1 locs1 hk hV hX hdm hkp hS => ?_)
  exact kk r Y' h' hk H1 locs1 ls (w.after hV hX hdm hS) (hG.2.2.2.1 A s H H1 (fun q h1 h2 => hkp q h1 (fun z => h2 (w.sub q z))) f) hl
theorem bW_ok : bW.cls ≠ "java/lang/invoke/MethodHandle" ∧ bW.cls ≠ "java/lang/invoke/VarHandle" ∧ (parseMethodDescriptor bW.desc).map (fun d => d.parameters.length) = some 0 := by decide +kernel
end IF

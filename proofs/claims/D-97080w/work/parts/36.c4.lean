set_option maxRecDepth 100000
variable {l : Launch} {G : gG} {L : gL} {o : Nat} {ad : Nat → Nat} {J : gJt} {kS vS : Nat → Nat} {fZ : Nat}
theorem jiH_worth {α : Type} {R : Room} {cc : ByteArray} {own nm : String} {nL index count cs ss pc : Nat} {ret : Option FieldType} {vv : α → Option Value} {K : α → gY → gH → Prop} {mc ms : Nat} {Y : gY} {h : gH} {lv : List (Option Value)} {st rest : List Value} {K' : Int32 → gY → gH → Prop} {a0 : Nat} (S : gSt l R cc own nm nL ret G L o ad vv K mc ms J) (hC : cOK G) (hFW : xFW G) (hw : wvH_worth K' Y h a0) (q : Cond.methodLink own index bW ∈ lw_all) (hR1 : Nat.ble 3 R.frames = true) (hR2 : Nat.ble 60 R.locals = true) (hst : st = .ref a0 :: rest) (hsum : Nat.ble (rest.map fun v => v.category).sum 8 = true) (d : decode cc pc = .ok (.invokeinterface index count, 5)) (hcs : cs ≤ R.cells) (hss : ss ≤ R.slots)
    (kk : ∀ (r : Int32) (Y' : gY) (h' : gH), K' r Y' h' → J Y' h' cs ss (pc + 5) lv (.int r :: rest)) : J Y h cs ss pc lv st := by
  obtain ⟨ci, fs, hci, ha, hw⟩ := hw
  rcases (show ci = 0 ∨ ci = 1 ∨ ci = 2 ∨ ci = 3 ∨ ci = 4 ∨ ci = 5 by omega) with rfl | rfl | rfl | rfl | rfl | rfl
  · exact j_callF (C := RX6) (x := bW) (mc' := 0) (ms' := 0) (As := []) (vv' := fun r => some (.int r)) S 0 (wkX6_worth hC (hw.1 rfl)) (lw_F q q1149 q743 q88 q765) rfl rfl (fun U hU => (hFW U hU).1) bW_ok (ble_tr rfl hR1) (ble_tr rfl hR2) (h_recv ha rfl rfl) rfl hst hsum d hcs hss (fun r Y' h' q => kk r Y' h' q)
  · exact j_callF (C := RX7) (x := bW) (mc' := 0) (ms' := 0) (As := []) (vv' := fun r => some (.int r)) S 0 (wkX7_worth hC (hw.2.1 rfl)) (lw_F q q1153 q758 q89 q759) rfl rfl (fun U hU => (hFW U hU).2.1) bW_ok (ble_tr rfl hR1) (ble_tr rfl hR2) (h_recv ha rfl rfl) rfl hst hsum d hcs hss (fun r Y' h' q => kk r Y' h' q)
  · exact j_callF (C := RX8) (x := bW) (mc' := 0) (ms' := 0) (As := []) (vv' := fun r => some (.int r)) S 0 (wkX8_worth hC (hw.2.2.1 rfl)) (lw_F q q1133 q747 q90 q748) rfl rfl (fun U hU => (hFW U hU).2.2.1) bW_ok (ble_tr rfl hR1) (ble_tr rfl hR2) (h_recv ha rfl rfl) rfl hst hsum d hcs hss (fun r Y' h' q => kk r Y' h' q)
  · exact j_callF (C := RX9) (x := bW) (mc' := 0) (ms' := 0) (As := []) (vv' := fun r => some (.int r)) S 0 (wkX9_worth hC (hw.2.2.2.1 rfl)) (lw_F q q1141 q755 q91 q756) rfl rfl (fun U hU => (hFW U hU).2.2.2.1) bW_ok (ble_tr rfl hR1) (ble_tr rfl hR2) (h_recv ha rfl rfl) rfl hst hsum d hcs hss (fun r Y' h' q => kk r Y' h' q)
  · exact j_callF (C := RX10) (x := bW) (mc' := 0) (ms' := 0) (As := []) (vv' := fun r => some (.int r)) S 0 (wkX10_worth hC (hw.2.2.2.2.1 rfl)) (lw_F q q1137 q751 q92 q752) rfl rfl (fun U hU => (hFW U hU).2.2.2.2.1) bW_ok (ble_tr rfl hR1) (ble_tr rfl hR2) (h_recv ha rfl rfl) rfl hst hsum d hcs hss (fun r Y' h' q => kk r Y' h' q)
  · exact j_callF (C := RX11) (x := bW) (mc' := 0) (ms' := 0) (As := []) (vv' := fun r => some (.int r)) S 0 (wkX11_worth hC (hw.2.2.2.2.2 rfl)) (lw_F q q1145 q762 q93 q763) rfl rfl (fun U hU => (hFW U hU).2.2.2.2.2) bW_ok (ble_tr rfl hR1) (ble_tr rfl hR2) (h_recv ha rfl rfl) rfl hst hsum d hcs hss (fun r Y' h' q => kk r Y' h' q)
/-! java/lang/String.coder()B -/
abbrev rJ5_coder : Room := { frames := 0, cells := 0, slots := 0, locals := 0 }
theorem ydJ5_coder : yJ5_coder.cls = RJ5 ∧ yJ5_coder.cls ≠ "java/lang/invoke/MethodHandle" ∧ yJ5_coder.cls ≠ "java/lang/invoke/VarHandle" ∧ (parseMethodDescriptor yJ5_coder.desc).map (fun d => d.parameters.length) = some 0 := by decide +kernel
def wpJ5_coder (K : Int32 → gY → gH → Prop) (Y : gY) (h : gH) (a0 : Nat) : Prop := (((1 : Int32) = 0 → (K 1 Y h)) ∧ (¬ (1 : Int32) = 0 → (a0 < 3 ∧ (K 0 Y h))))
theorem wkJ5_coder (hC : cOK G) (hS : sFO G kS vS fZ) {K : Int32 → gY → gH → Prop} {Y : gY} {h : gH} {a0 : Nat} (hw : wpJ5_coder K Y h a0) : gMet l yJ5_coder (ws_ yJ5_coder cJ5_coder 1 (some .byte)) rJ5_coder G L o ad [.ref (kS a0)] (fun r => some (.int r)) K 0 0 Y h := by
  refine gMet.in (lv := [some (.ref (kS a0))]) (by decide) rfl rfl (fun J S => ?_)
  have S : gSt l rJ5_coder cJ5_coder RJ5 "coder" 1 (some .byte) G L o ad (fun r => some (.int r)) K 0 0 J := S
  unfold wpJ5_coder at hw
  refine s_compact (pc := 0) S hS q383 dJ5_coder_0 ?_
  refine j_if_eq (pc := 3) (tgt := 13) S dJ5_coder_3 rfl (fun c_1 => ?_) (fun c_1 => ?_)
  · have hw := hw.1 c_1
    refine j_iconst (pc := 13) (v := 1) S dJ5_coder_13 rfl ?_
    exact j_nret (pc := 14) S (Nat.le_refl _) (Nat.le_refl _) dJ5_coder_14 rfl hw
  · have hw := hw.2 c_1
    refine j_ald0 (pc := 6) S dJ5_coder_6 ?_
    obtain ⟨hi, hw⟩ := hw
    refine s_coder (pc := 7) S hS hi q1697 dJ5_coder_7 ?_
    refine j_goto (pc := 10) (tgt := 14) S dJ5_coder_10 rfl ?_
    exact j_nret (pc := 14) S (Nat.le_refl _) (Nat.le_refl _) dJ5_coder_14 rfl hw
/-! java/lang/String.length()I -/
abbrev rJ5_length : Room := { frames := 1, cells := 0, slots := 0, locals := 20 }
theorem ydJ5_length : yJ5_length.cls = RJ5 ∧ yJ5_length.cls ≠ "java/lang/invoke/MethodHandle" ∧ yJ5_length.cls ≠ "java/lang/invoke/VarHandle" ∧ (parseMethodDescriptor yJ5_length.desc).map (fun d => d.parameters.length) = some 0 := by decide +kernel
def wpJ5_length (K : Int32 → gY → gH → Prop) (Y : gY) (h : gH) (a0 : Nat) : Prop := a0 < 3 ∧ (a0 < 3 ∧ (a0 < 3 ∧ wpJ5_coder (fun r_1 Y_2 h_3 => (K ((Int32.ofNat (sLen.getD a0 0)) >>> (r_1 &&& 31)) Y_2 h_3)) Y h a0))
theorem wkJ5_length (hC : cOK G) (hS : sFO G kS vS fZ) {K : Int32 → gY → gH → Prop} {Y : gY} {h : gH} {a0 : Nat} (hw : wpJ5_length K Y h a0) : gMet l yJ5_length (ws_ yJ5_length cJ5_length 1 (some .int)) rJ5_length G L o ad [.ref (kS a0)] (fun r => some (.int r)) K 0 0 Y h := by
  refine gMet.in (lv := [some (.ref (kS a0))]) (by decide) rfl rfl (fun J S => ?_)
  have S : gSt l rJ5_length cJ5_length RJ5 "length" 1 (some .int) G L o ad (fun r => some (.int r)) K 0 0 J := S
  unfold wpJ5_length at hw
  refine j_ald0 (pc := 0) S dJ5_length_0 ?_
  obtain ⟨hi, hw⟩ := hw
  refine s_val (pc := 1) S hS hi q1696 dJ5_length_1 ?_
  obtain ⟨hi, hw⟩ := hw
  refine s_len (pc := 4) S hS hi dJ5_length_4 ?_
  refine j_ald0 (pc := 5) S dJ5_length_5 ?_
  obtain ⟨hi, hw⟩ := hw
  refine s_callV (pc := 6) S hS 0 hi (wkJ5_coder hC hS hw) (lw_V q379 q380 q381 q96 q382) rfl rfl ydJ5_coder rfl rfl rfl rfl rfl dJ5_length_6 (Nat.le_refl _) (Nat.le_refl _) (fun r_1 Y_2 h_3 hw => ?_)
  refine j_ishr (pc := 9) S dJ5_length_9 ?_
  exact j_iret (pc := 10) S (Nat.le_refl _) (Nat.le_refl _) dJ5_length_10 hw
/-! java/lang/String.isLatin1()Z -/
abbrev rJ5_isLatin1 : Room := { frames := 0, cells := 0, slots := 0, locals := 0 }
theorem ydJ5_isLatin1 : yJ5_isLatin1.cls = RJ5 ∧ yJ5_isLatin1.cls ≠ "java/lang/invoke/MethodHandle" ∧ yJ5_isLatin1.cls ≠ "java/lang/invoke/VarHandle" ∧ (parseMethodDescriptor yJ5_isLatin1.desc).map (fun d => d.parameters.length) = some 0 := by decide +kernel
def wpJ5_isLatin1 (K : Int32 → gY → gH → Prop) (Y : gY) (h : gH) (a0 : Nat) : Prop := (((1 : Int32) = 0 → (K 0 Y h)) ∧ (¬ (1 : Int32) = 0 → (a0 < 3 ∧ (((¬ (0 : Int32) = 0 → (K 0 Y h)) ∧ ((0 : Int32) = 0 → (K 1 Y h)))))))
theorem wkJ5_isLatin1 (hC : cOK G) (hS : sFO G kS vS fZ) {K : Int32 → gY → gH → Prop} {Y : gY} {h : gH} {a0 : Nat} (hw : wpJ5_isLatin1 K Y h a0) : gMet l yJ5_isLatin1 (ws_ yJ5_isLatin1 cJ5_isLatin1 1 (some .boolean)) rJ5_isLatin1 G L o ad [.ref (kS a0)] (fun r => some (.int r)) K 0 0 Y h := by
  refine gMet.in (lv := [some (.ref (kS a0))]) (by decide) rfl rfl (fun J S => ?_)
  have S : gSt l rJ5_isLatin1 cJ5_isLatin1 RJ5 "isLatin1" 1 (some .boolean) G L o ad (fun r => some (.int r)) K 0 0 J := S
  unfold wpJ5_isLatin1 at hw
  refine s_compact (pc := 0) S hS q383 dJ5_isLatin1_0 ?_
  refine j_if_eq (pc := 3) (tgt := 17) S dJ5_isLatin1_3 rfl (fun c_1 => ?_) (fun c_1 => ?_)
  · have hw := hw.1 c_1
    refine j_iconst (pc := 17) (v := 0) S dJ5_isLatin1_17 rfl ?_
    exact j_zret (pc := 18) S (Nat.le_refl _) (Nat.le_refl _) dJ5_isLatin1_18 rfl hw
  · have hw := hw.2 c_1
    refine j_ald0 (pc := 6) S dJ5_isLatin1_6 ?_
    obtain ⟨hi, hw⟩ := hw
    refine s_coder (pc := 7) S hS hi q1697 dJ5_isLatin1_7 ?_
    refine j_if_ne (pc := 10) (tgt := 17) S dJ5_isLatin1_10 rfl (fun c_2 => ?_) (fun c_2 => ?_)
    · have hw := hw.1 c_2
      refine j_iconst (pc := 17) (v := 0) S dJ5_isLatin1_17 rfl ?_
      exact j_zret (pc := 18) S (Nat.le_refl _) (Nat.le_refl _) dJ5_isLatin1_18 rfl hw
    · have hw := hw.2 c_2
      refine j_iconst (pc := 13) (v := 1) S dJ5_isLatin1_13 rfl ?_
      refine j_goto (pc := 14) (tgt := 18) S dJ5_isLatin1_14 rfl ?_
      exact j_zret (pc := 18) S (Nat.le_refl _) (Nat.le_refl _) dJ5_isLatin1_18 rfl hw
/-! jdk/internal/util/Preconditions.checkIndex(IILjava/util/function/BiFunction;)I -/
abbrev rJ8_checkIndex : Room := { frames := 0, cells := 0, slots := 0, locals := 0 }
theorem ydJ8_checkIndex : yJ8_checkIndex.cls ≠ "java/lang/invoke/MethodHandle" ∧ yJ8_checkIndex.cls ≠ "java/lang/invoke/VarHandle" ∧ (parseMethodDescriptor yJ8_checkIndex.desc).map (fun d => d.parameters.length) = some 3 := by decide +kernel
def wpJ8_checkIndex (K : Int32 → gY → gH → Prop) (Y : gY) (h : gH) (a1 : Int32) (a2 : Int32) : Prop := ((a1 < 0 → (False)) ∧ (¬ a1 < 0 → (((a1 < a2 → (K a1 Y h)) ∧ (¬ a1 < a2 → (False))))))
theorem wkJ8_checkIndex (hC : cOK G) (hS : sFO G kS vS fZ) {K : Int32 → gY → gH → Prop} {Y : gY} {h : gH} {a1 : Int32} {a2 : Int32} (hw : wpJ8_checkIndex K Y h a1 a2) : gMet l yJ8_checkIndex (ws_ yJ8_checkIndex cJ8_checkIndex 3 (some .int)) rJ8_checkIndex G L o ad [.int a1, .int a2, .ref fZ] (fun r => some (.int r)) K 0 0 Y h := by
  refine gMet.in (lv := [some (.int a1), some (.int a2), some (.ref fZ)]) (by decide) rfl rfl (fun J S => ?_)
  have S : gSt l rJ8_checkIndex cJ8_checkIndex RJ8 "checkIndex" 3 (some .int) G L o ad (fun r => some (.int r)) K 0 0 J := S
  unfold wpJ8_checkIndex at hw
  refine j_ild0 (pc := 0) S dJ8_checkIndex_0 ?_
  refine j_if_lt (pc := 1) (tgt := 9) S dJ8_checkIndex_1 rfl (fun c_1 => ?_) (fun c_1 => ?_)
  · have hw := hw.1 c_1
    exact hw.elim
  · have hw := hw.2 c_1
    refine j_ild0 (pc := 4) S dJ8_checkIndex_4 ?_
    refine j_ild1 (pc := 5) S dJ8_checkIndex_5 ?_
    refine j_icmp_lt (pc := 6) (tgt := 16) S dJ8_checkIndex_6 rfl (fun c_2 => ?_) (fun c_2 => ?_)
    · have hw := hw.1 c_2
      refine j_ild0 (pc := 16) S dJ8_checkIndex_16 ?_
      exact j_iret (pc := 17) S (Nat.le_refl _) (Nat.le_refl _) dJ8_checkIndex_17 hw
    · have hw := hw.2 c_2
      exact hw.elim
/-! java/lang/String.checkIndex(II)V -/
abbrev rJ5_checkIndex : Room := { frames := 1, cells := 0, slots := 0, locals := 22 }
theorem ydJ5_checkIndex : yJ5_checkIndex.cls ≠ "java/lang/invoke/MethodHandle" ∧ yJ5_checkIndex.cls ≠ "java/lang/invoke/VarHandle" ∧ (parseMethodDescriptor yJ5_checkIndex.desc).map (fun d => d.parameters.length) = some 2 := by decide +kernel
def wpJ5_checkIndex (K : gY → gH → Prop) (Y : gY) (h : gH) (a1 : Int32) (a2 : Int32) : Prop := wpJ8_checkIndex (fun r_1 Y_2 h_3 => (K Y_2 h_3)) Y h a1 a2
theorem wkJ5_checkIndex (hC : cOK G) (hS : sFO G kS vS fZ) {K : gY → gH → Prop} {Y : gY} {h : gH} {a1 : Int32} {a2 : Int32} (hw : wpJ5_checkIndex K Y h a1 a2) : gMet l yJ5_checkIndex (ws_ yJ5_checkIndex cJ5_checkIndex 2 none) rJ5_checkIndex G L o ad [.int a1, .int a2] (fun _ => none) (fun (_ : Unit) Y h => K Y h) 0 0 Y h := by
  refine gMet.in (lv := [some (.int a1), some (.int a2)]) (by decide) rfl rfl (fun J S => ?_)
  have S : gSt l rJ5_checkIndex cJ5_checkIndex RJ5 "checkIndex" 2 none G L o ad (fun _ => none) (fun (_ : Unit) Y h => K Y h) 0 0 J := S
  unfold wpJ5_checkIndex at hw
  refine j_ild0 (pc := 0) S dJ5_checkIndex_0 ?_
  refine j_ild1 (pc := 1) S dJ5_checkIndex_1 ?_
  refine s_fmt (pc := 2) S hS q399 dJ5_checkIndex_2 ?_
  refine x_callSi (pc := 5) S 3 (wkJ8_checkIndex hC hS hw) (lw_S q401 q402 q100 q403) rfl rfl ydJ8_checkIndex rfl rfl rfl rfl rfl dJ5_checkIndex_5 (Nat.le_refl _) (Nat.le_refl _) (fun r_1 Y_2 h_3 hw => ?_)
  refine j_pop (pc := 8) S dJ5_checkIndex_8 rfl ?_
  exact j_vret (pc := 9) S (Nat.le_refl _) (Nat.le_refl _) dJ5_checkIndex_9 hw
/-! java/lang/StringLatin1.charAt([BI)C -/
abbrev rJ7_charAt : Room := { frames := 2, cells := 0, slots := 0, locals := 43 }
theorem ydJ7_charAt : yJ7_charAt.cls ≠ "java/lang/invoke/MethodHandle" ∧ yJ7_charAt.cls ≠ "java/lang/invoke/VarHandle" ∧ (parseMethodDescriptor yJ7_charAt.desc).map (fun d => d.parameters.length) = some 2 := by decide +kernel
def wpJ7_charAt (K : Int32 → gY → gH → Prop) (Y : gY) (h : gH) (a1 : Nat) (a2 : Int32) : Prop := a1 < 3 ∧ (wpJ5_checkIndex (fun Y_2 h_3 => (a1 < 3 ∧ vp_in a2 (sLen.getD a1 0) ∧ (narrow .char (.int (((((sByt.getD a1 []).getD a2.toNatClampNeg 0) &&& 255).toUInt32 % 65536).toInt32)) = .int (((((sByt.getD a1 []).getD a2.toNatClampNeg 0) &&& 255).toUInt32 % 65536).toInt32) ∧ K (((((sByt.getD a1 []).getD a2.toNatClampNeg 0) &&& 255).toUInt32 % 65536).toInt32) Y_2 h_3))) Y h a2 (Int32.ofNat (sLen.getD a1 0)))
theorem wkJ7_charAt (hC : cOK G) (hS : sFO G kS vS fZ) {K : Int32 → gY → gH → Prop} {Y : gY} {h : gH} {a1 : Nat} {a2 : Int32} (hw : wpJ7_charAt K Y h a1 a2) : gMet l yJ7_charAt (ws_ yJ7_charAt cJ7_charAt 2 (some .char)) rJ7_charAt G L o ad [.ref (vS a1), .int a2] (fun r => some (.int r)) K 0 0 Y h := by
  refine gMet.in (lv := [some (.ref (vS a1)), some (.int a2)]) (by decide) rfl rfl (fun J S => ?_)
  have S : gSt l rJ7_charAt cJ7_charAt RJ7 "charAt" 2 (some .char) G L o ad (fun r => some (.int r)) K 0 0 J := S
  unfold wpJ7_charAt at hw
  refine j_ild1 (pc := 0) S dJ7_charAt_0 ?_
  refine j_ald0 (pc := 1) S dJ7_charAt_1 ?_
  obtain ⟨hi, hw⟩ := hw
  refine s_len (pc := 2) S hS hi dJ7_charAt_2 ?_
  refine x_callSv (pc := 3) S 2 (wkJ5_checkIndex hC hS hw) (lw_S q396 q397 q96 q398) rfl rfl ydJ5_checkIndex rfl rfl rfl rfl rfl dJ7_charAt_3 (Nat.le_refl _) (Nat.le_refl _) (fun Y_2 h_3 hw => ?_)
  refine j_ald0 (pc := 6) S dJ7_charAt_6 ?_
  refine j_ild1 (pc := 7) S dJ7_charAt_7 ?_
  obtain ⟨hi, hin, hw⟩ := hw
  refine s_bald (pc := 8) S hS hi hin dJ7_charAt_8 ?_
  refine j_sipush (pc := 9) (v := 255) S dJ7_charAt_9 rfl ?_
  refine j_iand (pc := 12) S dJ7_charAt_12 ?_
  refine j_i2c (pc := 13) S dJ7_charAt_13 ?_
  exact j_nret (pc := 14) S (Nat.le_refl _) (Nat.le_refl _) dJ7_charAt_14 hw.1 hw.2
/-! java/lang/String.charAt(I)C -/
abbrev rJ5_charAt : Room := { frames := 3, cells := 0, slots := 0, locals := 64 }
theorem ydJ5_charAt : yJ5_charAt.cls = RJ5 ∧ yJ5_charAt.cls ≠ "java/lang/invoke/MethodHandle" ∧ yJ5_charAt.cls ≠ "java/lang/invoke/VarHandle" ∧ (parseMethodDescriptor yJ5_charAt.desc).map (fun d => d.parameters.length) = some 1 := by decide +kernel
def wpJ5_charAt (K : Int32 → gY → gH → Prop) (Y : gY) (h : gH) (a0 : Nat) (a1 : Int32) : Prop := a0 < 3 ∧ wpJ5_isLatin1 (fun r_1 Y_2 h_3 => (((r_1 = 0 → (False)) ∧ (¬ r_1 = 0 → (a0 < 3 ∧ (wpJ7_charAt (fun r_5 Y_6 h_7 => (narrow .char (.int r_5) = .int r_5 ∧ K r_5 Y_6 h_7)) Y_2 h_3 a0 a1)))))) Y h a0
theorem wkJ5_charAt (hC : cOK G) (hS : sFO G kS vS fZ) {K : Int32 → gY → gH → Prop} {Y : gY} {h : gH} {a0 : Nat} {a1 : Int32} (hw : wpJ5_charAt K Y h a0 a1) : gMet l yJ5_charAt (ws_ yJ5_charAt cJ5_charAt 2 (some .char)) rJ5_charAt G L o ad [.ref (kS a0), .int a1] (fun r => some (.int r)) K 0 0 Y h := by
  refine gMet.in (lv := [some (.ref (kS a0)), some (.int a1)]) (by decide) rfl rfl (fun J S => ?_)
  have S : gSt l rJ5_charAt cJ5_charAt RJ5 "charAt" 2 (some .char) G L o ad (fun r => some (.int r)) K 0 0 J := S
  unfold wpJ5_charAt at hw
  refine j_ald0 (pc := 0) S dJ5_charAt_0 ?_
  obtain ⟨hi, hw⟩ := hw
  refine s_callV (pc := 1) S hS 0 hi (wkJ5_isLatin1 hC hS hw) (lw_V q389 q390 q391 q96 q392) rfl rfl ydJ5_isLatin1 rfl rfl rfl rfl rfl dJ5_charAt_1 (Nat.le_refl _) (Nat.le_refl _) (fun r_1 Y_2 h_3 hw => ?_)
  refine j_if_eq (pc := 4) (tgt := 16) S dJ5_charAt_4 rfl (fun c_4 => ?_) (fun c_4 => ?_)
  · have hw := hw.1 c_4
    exact hw.elim
  · have hw := hw.2 c_4
    refine j_ald0 (pc := 7) S dJ5_charAt_7 ?_
    obtain ⟨hi, hw⟩ := hw
    refine s_val (pc := 8) S hS hi q1696 dJ5_charAt_8 ?_
    refine j_ild1 (pc := 11) S dJ5_charAt_11 ?_
    refine x_callSi (pc := 12) S 2 (wkJ7_charAt hC hS hw) (lw_S q393 q394 q99 q395) rfl rfl ydJ7_charAt rfl rfl rfl rfl rfl dJ5_charAt_12 (Nat.le_refl _) (Nat.le_refl _) (fun r_5 Y_6 h_7 hw => ?_)
    exact j_nret (pc := 15) S (Nat.le_refl _) (Nat.le_refl _) dJ5_charAt_15 hw.1 hw.2
/-! LeaningStreet.isWord(Ljava/lang/String;)Z -/
abbrev rX0_isWord : Room := { frames := 4, cells := 0, slots := 0, locals := 85 }
theorem ydX0_isWord : yX0_isWord.cls = RX0 ∧ yX0_isWord.cls ≠ "java/lang/invoke/MethodHandle" ∧ yX0_isWord.cls ≠ "java/lang/invoke/VarHandle" ∧ (parseMethodDescriptor yX0_isWord.desc).map (fun d => d.parameters.length) = some 1 := by decide +kernel
def wX0_isWord_60 (ad : Nat → Nat) (K : Int32 → gY → gH → Prop) (J24 : gY → gH → Nat → Int32 → Int32 → Prop) (Y : gY) (h : gH) (x1 : Nat) (x3 : Int32) (s0 : Int32) : Prop := ∀ x3_1 : Int32, x3_1 = x3 + 1 → (J24 Y h x1 s0 x3_1)
def wX0_isWord_24 (ad : Nat → Nat) (K : Int32 → gY → gH → Prop) : Nat → gY → gH → Nat → Int32 → Int32 → Prop
  | 0 => fun _ _ _ _ _ => False
  | n + 1 => fun Y h x1 x2 x3 => x1 < 3 ∧ wpJ5_length (fun r_3 Y_4 h_5 => (((r_3 ≤ x3 → (narrow .boolean (.int x2) = .int x2 ∧ K x2 Y_4 h_5)) ∧ (¬ r_3 ≤ x3 → (((x2 = 0 → (narrow .boolean (.int x2) = .int x2 ∧ K x2 Y_4 h_5)) ∧ (¬ x2 = 0 → (vp_in ((Y_4 9 0) + x3) 96 ∧ (x1 < 3 ∧ wpJ5_charAt (fun r_8 Y_9 h_10 => (((¬ (Y_4 6 ((Y_4 9 0) + x3).toNatClampNeg) = r_8 → (wX0_isWord_60 ad K (wX0_isWord_24 ad K n) Y_9 h_10 x1 x3 0)) ∧ ((Y_4 6 ((Y_4 9 0) + x3).toNatClampNeg) = r_8 → (wX0_isWord_60 ad K (wX0_isWord_24 ad K n) Y_9 h_10 x1 x3 1))))) Y_4 h_5 x1 x3))))))))) Y h x1
def wX0_isWord_21 (ad : Nat → Nat) (K : Int32 → gY → gH → Prop) (Y : gY) (h : gH) (x1 : Nat) (s0 : Int32) : Prop := ∃ fu_12 : Nat, wX0_isWord_24 ad K fu_12 Y h x1 s0 0
def wpX0_isWord (ad : Nat → Nat) (K : Int32 → gY → gH → Prop) (Y : gY) (h : gH) (a1 : Nat) : Prop := a1 < 3 ∧ wpJ5_length (fun r_13 Y_14 h_15 => (((¬ ((Y 10 0) - (Y 9 0)) = r_13 → (wX0_isWord_21 ad K Y_14 h_15 a1 0)) ∧ (((Y 10 0) - (Y 9 0)) = r_13 → (wX0_isWord_21 ad K Y_14 h_15 a1 1))))) Y h a1
theorem kX0_isWord_60 {K : Int32 → gY → gH → Prop} (S : gSt l rX0_isWord cX0_isWord RX0 "isWord" 4 (some .boolean) G cL o ad (fun r => some (.int r)) K 0 0 J) (hC : cOK G) (hS : sFO G kS vS fZ) {J24 : gY → gH → Nat → Int32 → Int32 → Prop} (h24 : ∀ (Y : gY) (h : gH) (x1 : Nat) (x2 : Int32) (x3 : Int32), J24 Y h x1 x2 x3 → J Y h 0 0 24 [some (.ref o), some (.ref (kS x1)), some (.int x2), some (.int x3)] []) {Y : gY} {h : gH} {x1 : Nat} {x3 : Int32} {s0 : Int32} (hw : wX0_isWord_60 ad K J24 Y h x1 x3 s0) : J Y h 0 0 60 [some (.ref o), some (.ref (kS x1)), none, some (.int x3)] [.int s0] := by
  unfold wX0_isWord_60 at hw
  refine j_ist2 (pc := 60) S dX0_isWord_60 rfl rfl ?_
  obtain ⟨x3_1, e_2⟩ : ∃ y : Int32, y = x3 + 1 := ⟨_, rfl⟩
  have hw := hw x3_1 e_2
  refine j_iinc3 (pc := 61) (v := x3_1) S dX0_isWord_61 (by rw [e_2]; rfl) rfl rfl ?_
  refine j_goto (pc := 64) (tgt := 24) S dX0_isWord_64 rfl ?_
  exact j_sub S (h24 _ _ _ _ _ hw) (gle_s (gle_s (gle_s (gle_s gle_0))))
theorem kX0_isWord_24 {K : Int32 → gY → gH → Prop} (S : gSt l rX0_isWord cX0_isWord RX0 "isWord" 4 (some .boolean) G cL o ad (fun r => some (.int r)) K 0 0 J) (hC : cOK G) (hS : sFO G kS vS fZ) : ∀ (n : Nat) (Y : gY) (h : gH) (x1 : Nat) (x2 : Int32) (x3 : Int32), wX0_isWord_24 ad K n Y h x1 x2 x3 → J Y h 0 0 24 [some (.ref o), some (.ref (kS x1)), some (.int x2), some (.int x3)] [] := by
  intro n
  induction n with
  | zero => intro Y h x1 x2 x3 hw; exact hw.elim
  | succ n ih =>
    intro Y h x1 x2 x3 hw
    unfold wX0_isWord_24 at hw
    refine j_ild3 (pc := 24) S dX0_isWord_24 ?_
    refine j_ald1 (pc := 25) S dX0_isWord_25 ?_
    obtain ⟨hi, hw⟩ := hw
    refine s_callV (pc := 26) S hS 0 hi (wkJ5_length hC hS hw) (lw_V q375 q376 q377 q96 q378) rfl rfl ydJ5_length rfl rfl rfl rfl rfl dX0_isWord_26 (Nat.le_refl _) (Nat.le_refl _) (fun r_3 Y_4 h_5 hw => ?_)
    refine j_icmp_ge (pc := 29) (tgt := 67) S dX0_isWord_29 rfl (fun c_6 => ?_) (fun c_6 => ?_)
    · have hw := hw.1 c_6
      refine j_ild2 (pc := 67) S dX0_isWord_67 ?_
      exact j_zret (pc := 68) S (Nat.le_refl _) (Nat.le_refl _) dX0_isWord_68 hw.1 hw.2
    · have hw := hw.2 c_6
      refine j_ild2 (pc := 32) S dX0_isWord_32 ?_
      refine j_if_eq (pc := 33) (tgt := 67) S dX0_isWord_33 rfl (fun c_7 => ?_) (fun c_7 => ?_)
      · have hw := hw.1 c_7
        refine j_ild2 (pc := 67) S dX0_isWord_67 ?_
        exact j_zret (pc := 68) S (Nat.le_refl _) (Nat.le_refl _) dX0_isWord_68 hw.1 hw.2
      · have hw := hw.2 c_7
        refine j_ald0 (pc := 36) S dX0_isWord_36 ?_
        refine c_getA (pc := 37) S 6 rfl rfl q256 dX0_isWord_37 ?_
        refine j_ald0 (pc := 40) S dX0_isWord_40 ?_
        refine c_getI (pc := 41) S 9 rfl rfl q259 dX0_isWord_41 ?_
        refine j_ild3 (pc := 44) S dX0_isWord_44 ?_
        refine j_iadd (pc := 45) S dX0_isWord_45 ?_
        obtain ⟨hi, hw⟩ := hw
        refine c_bald (pc := 46) S hi dX0_isWord_46 ?_
        refine j_ald1 (pc := 47) S dX0_isWord_47 ?_
        refine j_ild3 (pc := 48) S dX0_isWord_48 ?_
        obtain ⟨hi, hw⟩ := hw
        refine s_callV (pc := 49) S hS 1 hi (wkJ5_charAt hC hS hw) (lw_V q385 q386 q387 q96 q388) rfl rfl ydJ5_charAt rfl rfl rfl rfl rfl dX0_isWord_49 (Nat.le_refl _) (Nat.le_refl _) (fun r_8 Y_9 h_10 hw => ?_)
        refine j_icmp_ne (pc := 52) (tgt := 59) S dX0_isWord_52 rfl (fun c_11 => ?_) (fun c_11 => ?_)
        · have hw := hw.1 c_11
          refine j_iconst (pc := 59) (v := 0) S dX0_isWord_59 rfl ?_
          exact j_sub S (kX0_isWord_60 S hC hS ih hw) (gle_s (gle_s (gle_n (gle_s gle_0))))
        · have hw := hw.2 c_11
          refine j_iconst (pc := 55) (v := 1) S dX0_isWord_55 rfl ?_
          refine j_goto (pc := 56) (tgt := 60) S dX0_isWord_56 rfl ?_
          exact j_sub S (kX0_isWord_60 S hC hS ih hw) (gle_s (gle_s (gle_n (gle_s gle_0))))
theorem kX0_isWord_21 {K : Int32 → gY → gH → Prop} (S : gSt l rX0_isWord cX0_isWord RX0 "isWord" 4 (some .boolean) G cL o ad (fun r => some (.int r)) K 0 0 J) (hC : cOK G) (hS : sFO G kS vS fZ) {Y : gY} {h : gH} {x1 : Nat} {s0 : Int32} (hw : wX0_isWord_21 ad K Y h x1 s0) : J Y h 0 0 21 [some (.ref o), some (.ref (kS x1)), none, none] [.int s0] := by
  unfold wX0_isWord_21 at hw
  refine j_ist2 (pc := 21) S dX0_isWord_21 rfl rfl ?_
  refine j_iconst (pc := 22) (v := 0) S dX0_isWord_22 rfl ?_
  refine j_ist3 (pc := 23) S dX0_isWord_23 rfl rfl ?_
  obtain ⟨fu_12, hw⟩ := hw
  exact j_sub S (kX0_isWord_24 S hC hS fu_12 _ _ _ _ _ hw) (gle_s (gle_s (gle_s (gle_s gle_0))))
theorem wkX0_isWord (hC : cOK G) (hS : sFO G kS vS fZ) {K : Int32 → gY → gH → Prop} {Y : gY} {h : gH} {a1 : Nat} (hw : wpX0_isWord ad K Y h a1) : gMet l yX0_isWord (ws_ yX0_isWord cX0_isWord 4 (some .boolean)) rX0_isWord G cL o ad [.ref o, .ref (kS a1)] (fun r => some (.int r)) K 0 0 Y h := by
  refine gMet.in (lv := [some (.ref o), some (.ref (kS a1)), none, none]) (by decide) rfl rfl (fun J S => ?_)
  have S : gSt l rX0_isWord cX0_isWord RX0 "isWord" 4 (some .boolean) G cL o ad (fun r => some (.int r)) K 0 0 J := S
  unfold wpX0_isWord at hw
  refine j_ald0 (pc := 0) S dX0_isWord_0 ?_
  refine c_getI (pc := 1) S 10 rfl rfl q260 dX0_isWord_1 ?_
  refine j_ald0 (pc := 4) S dX0_isWord_4 ?_
  refine c_getI (pc := 5) S 9 rfl rfl q259 dX0_isWord_5 ?_
  refine j_isub (pc := 8) S dX0_isWord_8 ?_
  refine j_ald1 (pc := 9) S dX0_isWord_9 ?_
  obtain ⟨hi, hw⟩ := hw
  refine s_callV (pc := 10) S hS 0 hi (wkJ5_length hC hS hw) (lw_V q375 q376 q377 q96 q378) rfl rfl ydJ5_length rfl rfl rfl rfl rfl dX0_isWord_10 (Nat.le_refl _) (Nat.le_refl _) (fun r_13 Y_14 h_15 hw => ?_)
  refine j_icmp_ne (pc := 13) (tgt := 20) S dX0_isWord_13 rfl (fun c_16 => ?_) (fun c_16 => ?_)
  · have hw := hw.1 c_16
    refine j_iconst (pc := 20) (v := 0) S dX0_isWord_20 rfl ?_
    exact j_sub S (kX0_isWord_21 S hC hS hw) (gle_s (gle_s (gle_n (gle_n gle_0))))
  · have hw := hw.2 c_16
    refine j_iconst (pc := 16) (v := 1) S dX0_isWord_16 rfl ?_
    refine j_goto (pc := 17) (tgt := 21) S dX0_isWord_17 rfl ?_
    exact j_sub S (kX0_isWord_21 S hC hS hw) (gle_s (gle_s (gle_n (gle_n gle_0))))
/-! LeaningStreet.key()I -/
abbrev rX0_key : Room := { frames := 5, cells := 0, slots := 0, locals := 108 }
theorem ydX0_key : yX0_key.cls = RX0 ∧ yX0_key.cls ≠ "java/lang/invoke/MethodHandle" ∧ yX0_key.cls ≠ "java/lang/invoke/VarHandle" ∧ (parseMethodDescriptor yX0_key.desc).map (fun d => d.parameters.length) = some 0 := by decide +kernel
def wX0_key_50 (ad : Nat → Nat) (K : Int32 → gY → gH → Prop) (E : Nat → gY → gH → Prop) (Y : gY) (h : gH) (x1 : Int32) : Prop := wpX0_goes ad (fun Y_2 h_3 => (K x1 Y_2 h_3)) E Y h
def wX0_key_40 (ad : Nat → Nat) (K : Int32 → gY → gH → Prop) (E : Nat → gY → gH → Prop) (Y : gY) (h : gH) (s0 : Int32) : Prop := ((¬ s0 = (-1) → (wX0_key_50 ad K E Y h s0)) ∧ (s0 = (-1) → (wpX0_wrong ad (fun Y_6 h_7 => (wX0_key_50 ad K E Y_6 h_7 s0)) E Y h)))
def wpX0_key (ad : Nat → Nat) (K : Int32 → gY → gH → Prop) (E : Nat → gY → gH → Prop) (Y : gY) (h : gH) : Prop := wpX0_isWord ad (fun r_8 Y_9 h_10 => (((r_8 = 0 → (wpX0_isWord ad (fun r_12 Y_13 h_14 => (((r_12 = 0 → (wpX0_isWord ad (fun r_16 Y_17 h_18 => (((r_16 = 0 → (wX0_key_40 ad K E Y_17 h_18 (-1))) ∧ (¬ r_16 = 0 → (wX0_key_40 ad K E Y_17 h_18 2))))) Y_13 h_14 2)) ∧ (¬ r_12 = 0 → (wX0_key_40 ad K E Y_13 h_14 1))))) Y_9 h_10 1)) ∧ (¬ r_8 = 0 → (wX0_key_40 ad K E Y_9 h_10 0))))) Y h 0
theorem kX0_key_50 {K : Int32 → gY → gH → Prop} {E : Nat → gY → gH → Prop} (SX : gStX l rX0_key cX0_key RX0 "key" 2 (some .int) G cL o ad (fun r => some (.int r)) K E 0 0 J) (hC : cOK G) (hS : sFO G kS vS fZ) {Y : gY} {h : gH} {x1 : Int32} (hw : wX0_key_50 ad K E Y h x1) : J Y h 0 0 50 [some (.ref o), some (.int x1)] [] := by
  have S := SX.st
  unfold wX0_key_50 at hw
  refine j_ald0 (pc := 50) S dX0_key_50 ?_
  refine x_callXVv (pc := 51) SX rfl rfl 0 (wkX0_goes hC hw) (lw_V q352 q354 qs3 q79 q355) rfl rfl ydX0_goes rfl rfl c_recv rfl rfl rfl dX0_key_51 (Nat.le_refl _) (Nat.le_refl _) (fun Y_2 h_3 hw => ?_)
  refine j_ild1 (pc := 54) S dX0_key_54 ?_
  exact j_iret (pc := 55) S (Nat.le_refl _) (Nat.le_refl _) dX0_key_55 hw
theorem kX0_key_40 {K : Int32 → gY → gH → Prop} {E : Nat → gY → gH → Prop} (SX : gStX l rX0_key cX0_key RX0 "key" 2 (some .int) G cL o ad (fun r => some (.int r)) K E 0 0 J) (hC : cOK G) (hS : sFO G kS vS fZ) {Y : gY} {h : gH} {s0 : Int32} (hw : wX0_key_40 ad K E Y h s0) : J Y h 0 0 40 [some (.ref o), none] [.int s0] := by
  have S := SX.st
  unfold wX0_key_40 at hw
  refine j_ist1 (pc := 40) S dX0_key_40 rfl rfl ?_
  refine j_ild1 (pc := 41) S dX0_key_41 ?_
  refine j_iconst (pc := 42) (v := (-1)) S dX0_key_42 rfl ?_
  refine j_icmp_ne (pc := 43) (tgt := 50) S dX0_key_43 rfl (fun c_4 => ?_) (fun c_4 => ?_)
  · have hw := hw.1 c_4
    exact j_sub S (kX0_key_50 SX hC hS hw) (gle_s (gle_s gle_0))
  · have hw := hw.2 c_4
    refine j_ald0 (pc := 46) S dX0_key_46 ?_
    refine x_callXVv (pc := 47) SX rfl rfl 0 (wkX0_wrong hC hw) (lw_V q362 q364 qs4 q79 q365) rfl rfl ydX0_wrong rfl rfl c_recv rfl rfl rfl dX0_key_47 (Nat.le_refl _) (Nat.le_refl _) (fun Y_6 h_7 hw => ?_)
    exact j_sub S (kX0_key_50 SX hC hS hw) (gle_s (gle_s gle_0))
theorem wkX0_key (hC : cOK G) (hS : sFO G kS vS fZ) {K : Int32 → gY → gH → Prop} {E : Nat → gY → gH → Prop} {Y : gY} {h : gH} (hw : wpX0_key ad K E Y h) : gMetX l yX0_key (ws_ yX0_key cX0_key 2 (some .int)) rX0_key G cL o ad [.ref o] (fun r => some (.int r)) K E 0 0 Y h := by
  refine gMetX.in (lv := [some (.ref o), none]) (by decide) rfl rfl (fun J SX => ?_)
  have SX : gStX l rX0_key cX0_key RX0 "key" 2 (some .int) G cL o ad (fun r => some (.int r)) K E 0 0 J := SX
  have S := SX.st
  unfold wpX0_key at hw
  refine j_ald0 (pc := 0) S dX0_key_0 ?_
  refine s_ldc (pc := 1) S (fun U hU => (hS.2 U hU).1) dX0_key_1 ?_
  refine x_callVi (pc := 3) S 1 (wkX0_isWord hC hS hw) (lw_V q371 q373 qs6 q79 q374) rfl rfl ydX0_isWord rfl rfl c_recv rfl rfl rfl dX0_key_3 (Nat.le_refl _) (Nat.le_refl _) (fun r_8 Y_9 h_10 hw => ?_)
  refine j_if_eq (pc := 6) (tgt := 13) S dX0_key_6 rfl (fun c_11 => ?_) (fun c_11 => ?_)
  · have hw := hw.1 c_11
    refine j_ald0 (pc := 13) S dX0_key_13 ?_
    refine s_ldc (pc := 14) S (fun U hU => (hS.2 U hU).2.1) dX0_key_14 ?_
    refine x_callVi (pc := 16) S 1 (wkX0_isWord hC hS hw) (lw_V q371 q373 qs6 q79 q374) rfl rfl ydX0_isWord rfl rfl c_recv rfl rfl rfl dX0_key_16 (Nat.le_refl _) (Nat.le_refl _) (fun r_12 Y_13 h_14 hw => ?_)
    refine j_if_eq (pc := 19) (tgt := 26) S dX0_key_19 rfl (fun c_15 => ?_) (fun c_15 => ?_)
    · have hw := hw.1 c_15
      refine j_ald0 (pc := 26) S dX0_key_26 ?_
      refine s_ldc (pc := 27) S (fun U hU => (hS.2 U hU).2.2) dX0_key_27 ?_
      refine x_callVi (pc := 29) S 1 (wkX0_isWord hC hS hw) (lw_V q371 q373 qs6 q79 q374) rfl rfl ydX0_isWord rfl rfl c_recv rfl rfl rfl dX0_key_29 (Nat.le_refl _) (Nat.le_refl _) (fun r_16 Y_17 h_18 hw => ?_)
      refine j_if_eq (pc := 32) (tgt := 39) S dX0_key_32 rfl (fun c_19 => ?_) (fun c_19 => ?_)
      · have hw := hw.1 c_19
        refine j_iconst (pc := 39) (v := (-1)) S dX0_key_39 rfl ?_
        exact j_sub S (kX0_key_40 SX hC hS hw) (gle_s (gle_n gle_0))
      · have hw := hw.2 c_19
        refine j_iconst (pc := 35) (v := 2) S dX0_key_35 rfl ?_
        refine j_goto (pc := 36) (tgt := 40) S dX0_key_36 rfl ?_
        exact j_sub S (kX0_key_40 SX hC hS hw) (gle_s (gle_n gle_0))
    · have hw := hw.2 c_15
      refine j_iconst (pc := 22) (v := 1) S dX0_key_22 rfl ?_
      refine j_goto (pc := 23) (tgt := 40) S dX0_key_23 rfl ?_
      exact j_sub S (kX0_key_40 SX hC hS hw) (gle_s (gle_n gle_0))
  · have hw := hw.2 c_11
    refine j_iconst (pc := 9) (v := 0) S dX0_key_9 rfl ?_
    refine j_goto (pc := 10) (tgt := 40) S dX0_key_10 rfl ?_
    exact j_sub S (kX0_key_40 SX hC hS hw) (gle_s (gle_n gle_0))
/-! LeaningStreet.textRead()LLeaningStreet$Text; -/
abbrev rX0_textRead (mc ms : Nat) : Room := { frames := 80, cells := mc, slots := ms, locals := 3242 }
theorem ydX0_textRead : yX0_textRead.cls = RX0 ∧ yX0_textRead.cls ≠ "java/lang/invoke/MethodHandle" ∧ yX0_textRead.cls ≠ "java/lang/invoke/VarHandle" ∧ (parseMethodDescriptor yX0_textRead.desc).map (fun d => d.parameters.length) = some 0 := by decide +kernel
def wX0_textRead_60 (ad : Nat → Nat) (K : Nat → gY → gH → Prop) (E : Nat → gY → gH → Prop) (mc ms : Nat) (Y : gY) (h : gH) (kc : Nat) (ks : Nat) (x1 : Nat) : Prop := kc + 1 ≤ mc ∧ ks + 3 ≤ ms ∧ ∀ (q_3 : Nat) (h_4 : gH), h q_3 = none → h_4 = hup h q_3 (.inr (8, [.int 0, .null, .int 0])) → (wpX13_init (fun Y_8 h_9 => (K q_3 Y_8 h_9)) Y h_4 q_3 (Y 15 0) x1 (Y 14 0))
def wpX0_textRead (ad : Nat → Nat) (K : Nat → gY → gH → Prop) (E : Nat → gY → gH → Prop) (mc ms : Nat) (Y : gY) (h : gH) : Prop := ∀ Y_10 : gY, Y_10 = yset Y 11 (Y 7 0) → (∀ Y_12 : gY, Y_12 = yset Y_10 10 0 → (∀ Y_14 : gY, Y_14 = yset Y_12 12 0 → (∀ Y_16 : gY, Y_16 = yset Y_14 13 0 → (∀ Y_18 : gY, Y_18 = yset Y_16 14 0 → (wpX0_goes ad (fun Y_21 h_22 => (wpX0_key ad (fun r_23 Y_24 h_25 => (∀ Y_26 : gY, Y_26 = yset Y_24 15 r_23 → (∃ mc_31 ms_32 : Nat, 0 + mc_31 ≤ mc ∧ 0 + ms_32 ≤ ms ∧ wpX0_expression ad (fun r_28 Y_29 h_30 => ((((Y_29 11 0) ≤ (Y_29 9 0) → (wX0_textRead_60 ad K E mc ms Y_29 h_30 (0 + mc_31) (0 + ms_32) r_28)) ∧ (¬ (Y_29 11 0) ≤ (Y_29 9 0) → (wpX0_wrong ad (fun Y_37 h_38 => (wX0_textRead_60 ad K E mc ms Y_37 h_38 (0 + mc_31) (0 + ms_32) r_28)) E Y_29 h_30))))) E mc_31 ms_32 Y_26 h_25))) E Y_21 h_22)) E Y_18 h)))))
theorem kX0_textRead_60 {K : Nat → gY → gH → Prop} {E : Nat → gY → gH → Prop} {mc ms : Nat} (SX : gStX l (rX0_textRead mc ms) cX0_textRead RX0 "textRead" 2 (some (.object "LeaningStreet$Text")) G cL o ad (fun r => some (.ref r)) K E mc ms J) (hC : cOK G) (hS : sFO G kS vS fZ) {Y : gY} {h : gH} {kc : Nat} {ks : Nat} {x1 : Nat} (hkc : kc ≤ mc) (hks : ks ≤ ms) (hw : wX0_textRead_60 ad K E mc ms Y h kc ks x1) : J Y h kc ks 60 [some (.ref o), some (.ref x1)] [] := by
  have S := SX.st
  unfold wX0_textRead_60 at hw
  obtain ⟨hc_1, hs_2, hw⟩ := hw
  refine h_new (pc := 60) (C := RX13) (T := TX13) (N := 3) (ci := 8) (fs := [.int 0, .null, .int 0]) S rfl in_X13 tyX13 tyX13_ok q488 q489 q103 (fun j hj => by rcases (show j = 0 ∨ j = 1 ∨ j = 2 by omega) with rfl | rfl | rfl <;> rfl) hc_1 hs_2 dX0_textRead_60 (fun q_3 h_4 hq_5 e_6 => ?_)
  have hw := hw q_3 h_4 hq_5 e_6
  refine j_dup (pc := 63) S dX0_textRead_63 rfl ?_
  refine j_ald0 (pc := 64) S dX0_textRead_64 ?_
  refine c_getI (pc := 65) S 15 rfl rfl q265 dX0_textRead_65 ?_
  refine j_ald1 (pc := 68) S dX0_textRead_68 ?_
  refine j_ald0 (pc := 69) S dX0_textRead_69 ?_
  refine c_getI (pc := 70) S 14 rfl rfl q264 dX0_textRead_70 ?_
  refine x_callIv (ret' := none) (pc := 73) S 3 (wkX13_init hC hw) (lw_meth q492) rfl rfl q103 q490 q491 rfl ydX13_init rfl rfl rfl rfl rfl dX0_textRead_73 hc_1 hs_2 (fun Y_8 h_9 hw => ?_)
  exact j_aret (pc := 76) S (Or.inl ⟨_, rfl⟩) hc_1 hs_2 dX0_textRead_76 hw
theorem wkX0_textRead (hC : cOK G) (hS : sFO G kS vS fZ) {K : Nat → gY → gH → Prop} {E : Nat → gY → gH → Prop} {mc ms : Nat} {Y : gY} {h : gH} (hw : wpX0_textRead ad K E mc ms Y h) : gMetX l yX0_textRead (ws_ yX0_textRead cX0_textRead 2 (some (.object "LeaningStreet$Text"))) (rX0_textRead mc ms) G cL o ad [.ref o] (fun r => some (.ref r)) K E mc ms Y h := by
  refine gMetX.in (lv := [some (.ref o), none]) (by decide) rfl rfl (fun J SX => ?_)
  have SX : gStX l (rX0_textRead mc ms) cX0_textRead RX0 "textRead" 2 (some (.object "LeaningStreet$Text")) G cL o ad (fun r => some (.ref r)) K E mc ms J := SX
  have S := SX.st
  unfold wpX0_textRead at hw
  refine j_ald0 (pc := 0) S dX0_textRead_0 ?_
  refine j_ald0 (pc := 1) S dX0_textRead_1 ?_
  refine c_getI (pc := 2) S 7 rfl rfl q257 dX0_textRead_2 ?_
  refine c_putI (pc := 5) S 11 rfl rfl rfl rfl rfl q261 dX0_textRead_5 (fun Y_10 e_11 => ?_)
  have hw := hw Y_10 e_11
  refine j_ald0 (pc := 8) S dX0_textRead_8 ?_
  refine j_iconst (pc := 9) (v := 0) S dX0_textRead_9 rfl ?_
  refine c_putI (pc := 10) S 10 rfl rfl rfl rfl rfl q260 dX0_textRead_10 (fun Y_12 e_13 => ?_)
  have hw := hw Y_12 e_13
  refine j_ald0 (pc := 13) S dX0_textRead_13 ?_
  refine j_iconst (pc := 14) (v := 0) S dX0_textRead_14 rfl ?_
  refine c_putI (pc := 15) S 12 rfl rfl rfl rfl rfl q262 dX0_textRead_15 (fun Y_14 e_15 => ?_)
  have hw := hw Y_14 e_15
  refine j_ald0 (pc := 18) S dX0_textRead_18 ?_
  refine j_iconst (pc := 19) (v := 0) S dX0_textRead_19 rfl ?_
  refine c_putI (pc := 20) S 13 rfl rfl rfl rfl rfl q263 dX0_textRead_20 (fun Y_16 e_17 => ?_)
  have hw := hw Y_16 e_17
  refine j_ald0 (pc := 23) S dX0_textRead_23 ?_
  refine j_iconst (pc := 24) (v := 0) S dX0_textRead_24 rfl ?_
  refine c_putI (pc := 25) S 14 rfl rfl rfl rfl rfl q264 dX0_textRead_25 (fun Y_18 e_19 => ?_)
  have hw := hw Y_18 e_19
  refine j_ald0 (pc := 28) S dX0_textRead_28 ?_
  refine x_callXVv (pc := 29) SX rfl rfl 0 (wkX0_goes hC hw) (lw_V q352 q354 qs3 q79 q355) rfl rfl ydX0_goes rfl rfl c_recv rfl rfl rfl dX0_textRead_29 (Nat.zero_le _) (Nat.zero_le _) (fun Y_21 h_22 hw => ?_)
  refine j_ald0 (pc := 32) S dX0_textRead_32 ?_
  refine j_ald0 (pc := 33) S dX0_textRead_33 ?_
  refine x_callXVi (pc := 34) SX rfl rfl 0 (wkX0_key hC hS hw) (lw_V q366 q368 qs5 q79 q369) rfl rfl ydX0_key rfl rfl c_recv rfl rfl rfl dX0_textRead_34 (Nat.zero_le _) (Nat.zero_le _) (fun r_23 Y_24 h_25 hw => ?_)
  refine c_putI (pc := 37) S 15 rfl rfl rfl rfl rfl q265 dX0_textRead_37 (fun Y_26 e_27 => ?_)
  have hw := hw Y_26 e_27
  refine j_ald0 (pc := 40) S dX0_textRead_40 ?_
  obtain ⟨mc_31, ms_32, hc_33, hs_34, hw⟩ := hw
  refine y_callXVr (pc := 41) SX rfl rfl 0 (wkX0_expression hC hw) (lw_V q425 q427 qs7 q79 q428) rfl rfl ydX0_expression rfl rfl c_recv rfl rfl rfl dX0_textRead_41 hc_33 hs_34 (fun r_28 Y_29 h_30 hw => ?_)
  refine j_ast1 (pc := 44) S dX0_textRead_44 rfl rfl ?_
  refine j_ald0 (pc := 45) S dX0_textRead_45 ?_
  refine c_getI (pc := 46) S 9 rfl rfl q259 dX0_textRead_46 ?_
  refine j_ald0 (pc := 49) S dX0_textRead_49 ?_
  refine c_getI (pc := 50) S 11 rfl rfl q261 dX0_textRead_50 ?_
  refine j_icmp_ge (pc := 53) (tgt := 60) S dX0_textRead_53 rfl (fun c_35 => ?_) (fun c_35 => ?_)
  · have hw := hw.1 c_35
    exact j_sub S (kX0_textRead_60 SX hC hS hc_33 hs_34 hw) (gle_s (gle_s gle_0))
  · have hw := hw.2 c_35
    refine j_ald0 (pc := 56) S dX0_textRead_56 ?_
    refine x_callXVv (pc := 57) SX rfl rfl 0 (wkX0_wrong hC hw) (lw_V q362 q364 qs4 q79 q365) rfl rfl ydX0_wrong rfl rfl c_recv rfl rfl rfl dX0_textRead_57 hc_33 hs_34 (fun Y_37 h_38 hw => ?_)
    exact j_sub S (kX0_textRead_60 SX hC hS hc_33 hs_34 hw) (gle_s (gle_s gle_0))
/-! LeaningStreet.takenFor(Ljava/lang/Object;I)LLeaningStreet$House; -/
abbrev rX0_takenFor (mc ms : Nat) : Room := { frames := 7, cells := mc, slots := ms, locals := 10248 }
theorem ydX0_takenFor : yX0_takenFor.cls ≠ "java/lang/invoke/MethodHandle" ∧ yX0_takenFor.cls ≠ "java/lang/invoke/VarHandle" ∧ (parseMethodDescriptor yX0_takenFor.desc).map (fun d => d.parameters.length) = some 2 := by decide +kernel
def wpX0_takenFor (ad : Nat → Nat) (K : Nat → gY → gH → Prop) (E : Nat → gY → gH → Prop) (mc ms : Nat) (Y : gY) (h : gH) (a1 : Nat) (a2 : Int32) : Prop := ((a2 = 1 → (∃ (ci_4 : Nat) (fs_5 : List Value), h a1 = some (.inr (ci_4, fs_5)) ∧ (ci_4 < 6 ∨ ci_4 = 9 ∨ ci_4 = 11) ∧ ((ci_4 = 1 ∨ ci_4 = 3) → (K a1 Y h)) ∧ (¬ (ci_4 = 1 ∨ ci_4 = 3) → 0 + 3 ≤ mc ∧ 0 + 1610 ≤ ms ∧ ∀ (x_7 : Nat) (h_8 : gH), h x_7 = none → h_8 = hup h x_7 (.inr (15, [])) → E x_7 Y h_8))) ∧ (a2 = 2 → (∃ (ci_12 : Nat) (fs_13 : List Value), h a1 = some (.inr (ci_12, fs_13)) ∧ (ci_12 < 6 ∨ ci_12 = 9 ∨ ci_12 = 11) ∧ ((ci_12 = 2 ∨ ci_12 = 4) → (K a1 Y h)) ∧ (¬ (ci_12 = 2 ∨ ci_12 = 4) → 0 + 3 ≤ mc ∧ 0 + 1610 ≤ ms ∧ ∀ (x_15 : Nat) (h_16 : gH), h x_15 = none → h_16 = hup h x_15 (.inr (15, [])) → E x_15 Y h_16))) ∧ (a2 = 3 → (∃ (ci_20 : Nat) (fs_21 : List Value), h a1 = some (.inr (ci_20, fs_21)) ∧ (ci_20 < 6 ∨ ci_20 = 9 ∨ ci_20 = 11) ∧ ((ci_20 = 3) → (K a1 Y h)) ∧ (¬ (ci_20 = 3) → 0 + 3 ≤ mc ∧ 0 + 1610 ≤ ms ∧ ∀ (x_23 : Nat) (h_24 : gH), h x_23 = none → h_24 = hup h x_23 (.inr (15, [])) → E x_23 Y h_24))) ∧ (a2 = 4 → (∃ (ci_28 : Nat) (fs_29 : List Value), h a1 = some (.inr (ci_28, fs_29)) ∧ (ci_28 < 6 ∨ ci_28 = 9 ∨ ci_28 = 11) ∧ ((ci_28 = 4) → (K a1 Y h)) ∧ (¬ (ci_28 = 4) → 0 + 3 ≤ mc ∧ 0 + 1610 ≤ ms ∧ ∀ (x_31 : Nat) (h_32 : gH), h x_31 = none → h_32 = hup h x_31 (.inr (15, [])) → E x_31 Y h_32))) ∧ (a2 = 5 → (∃ (ci_36 : Nat) (fs_37 : List Value), h a1 = some (.inr (ci_36, fs_37)) ∧ (ci_36 < 6 ∨ ci_36 = 9 ∨ ci_36 = 11) ∧ ((ci_36 = 5) → (K a1 Y h)) ∧ (¬ (ci_36 = 5) → 0 + 3 ≤ mc ∧ 0 + 1610 ≤ ms ∧ ∀ (x_39 : Nat) (h_40 : gH), h x_39 = none → h_40 = hup h x_39 (.inr (15, [])) → E x_39 Y h_40))) ∧ (¬ a2 = 1 ∧ ¬ a2 = 2 ∧ ¬ a2 = 3 ∧ ¬ a2 = 4 ∧ ¬ a2 = 5 → (∃ (ci_43 : Nat) (fs_44 : List Value), h a1 = some (.inr (ci_43, fs_44)) ∧ (ci_43 < 6 ∨ ci_43 = 9 ∨ ci_43 = 11) ∧ ((ci_43 < 6) → (K a1 Y h)) ∧ (¬ (ci_43 < 6) → 0 + 3 ≤ mc ∧ 0 + 1610 ≤ ms ∧ ∀ (x_46 : Nat) (h_47 : gH), h x_46 = none → h_47 = hup h x_46 (.inr (15, [])) → E x_46 Y h_47))))
theorem wkX0_takenFor (hC : cOK G) (hTr : l.stackTraces = false) (hF : xFO G) {K : Nat → gY → gH → Prop} {E : Nat → gY → gH → Prop} {mc ms : Nat} {Y : gY} {h : gH} {a1 : Nat} {a2 : Int32} (hw : wpX0_takenFor ad K E mc ms Y h a1 a2) : gMetX l yX0_takenFor (ws_ yX0_takenFor cX0_takenFor 2 (some (.object "LeaningStreet$House"))) (rX0_takenFor mc ms) G cL o ad [.ref a1, .int a2] (fun r => some (.ref r)) K E mc ms Y h := by
  refine gMetX.in (lv := [some (.ref a1), some (.int a2)]) (by decide) rfl rfl (fun J SX => ?_)
  have SX : gStX l (rX0_takenFor mc ms) cX0_takenFor RX0 "takenFor" 2 (some (.object "LeaningStreet$House")) G cL o ad (fun r => some (.ref r)) K E mc ms J := SX
  have S := SX.st
  unfold wpX0_takenFor at hw
  refine j_ild1 (pc := 0) S dX0_takenFor_0 ?_
  by_cases c_1 : a2 = 1
  · have hw := hw.1 c_1
    refine j_tblIn (pc := 1) (off := 35) (tgt := 36) S dX0_takenFor_1 (by rw [c_1]; decide) (by rw [c_1]; decide) (by rw [c_1]; rfl) rfl ?_
    refine j_ald0 (pc := 36) S dX0_takenFor_36 ?_
    obtain ⟨ci_4, fs_5, ha, hci, hw⟩ := hw
    refine j_to1 (pc := 37) SX rfl rfl hTr hC hF ha hci q537 rfl rfl rfl dX0_takenFor_37 (fun c_6 => ?_) hw.2
    replace hw := hw.1 c_6
    exact j_aret (pc := 40) S (Or.inl ⟨_, rfl⟩) (Nat.zero_le _) (Nat.zero_le _) dX0_takenFor_40 hw
  replace hw := hw.2
  by_cases c_9 : a2 = 2
  · have hw := hw.1 c_9
    refine j_tblIn (pc := 1) (off := 40) (tgt := 41) S dX0_takenFor_1 (by rw [c_9]; decide) (by rw [c_9]; decide) (by rw [c_9]; rfl) rfl ?_
    refine j_ald0 (pc := 41) S dX0_takenFor_41 ?_
    obtain ⟨ci_12, fs_13, ha, hci, hw⟩ := hw
    refine j_to2 (pc := 42) SX rfl rfl hTr hC hF ha hci q574 rfl rfl rfl dX0_takenFor_42 (fun c_14 => ?_) hw.2
    replace hw := hw.1 c_14
    exact j_aret (pc := 45) S (Or.inl ⟨_, rfl⟩) (Nat.zero_le _) (Nat.zero_le _) dX0_takenFor_45 hw
  replace hw := hw.2
  by_cases c_17 : a2 = 3
  · have hw := hw.1 c_17
    refine j_tblIn (pc := 1) (off := 45) (tgt := 46) S dX0_takenFor_1 (by rw [c_17]; decide) (by rw [c_17]; decide) (by rw [c_17]; rfl) rfl ?_
    refine j_ald0 (pc := 46) S dX0_takenFor_46 ?_
    obtain ⟨ci_20, fs_21, ha, hci, hw⟩ := hw
    refine j_to3 (pc := 47) SX rfl rfl hTr hC hF ha hci q587 rfl rfl rfl dX0_takenFor_47 (fun c_22 => ?_) hw.2
    replace hw := hw.1 c_22
    exact j_aret (pc := 50) S (Or.inl ⟨_, rfl⟩) (Nat.zero_le _) (Nat.zero_le _) dX0_takenFor_50 hw
  replace hw := hw.2
  by_cases c_25 : a2 = 4
  · have hw := hw.1 c_25
    refine j_tblIn (pc := 1) (off := 50) (tgt := 51) S dX0_takenFor_1 (by rw [c_25]; decide) (by rw [c_25]; decide) (by rw [c_25]; rfl) rfl ?_
    refine j_ald0 (pc := 51) S dX0_takenFor_51 ?_
    obtain ⟨ci_28, fs_29, ha, hci, hw⟩ := hw
    refine j_to4 (pc := 52) SX rfl rfl hTr hC hF ha hci q600 rfl rfl rfl dX0_takenFor_52 (fun c_30 => ?_) hw.2
    replace hw := hw.1 c_30
    exact j_aret (pc := 55) S (Or.inl ⟨_, rfl⟩) (Nat.zero_le _) (Nat.zero_le _) dX0_takenFor_55 hw
  replace hw := hw.2
  by_cases c_33 : a2 = 5
  · have hw := hw.1 c_33
    refine j_tblIn (pc := 1) (off := 55) (tgt := 56) S dX0_takenFor_1 (by rw [c_33]; decide) (by rw [c_33]; decide) (by rw [c_33]; rfl) rfl ?_
    refine j_ald0 (pc := 56) S dX0_takenFor_56 ?_
    obtain ⟨ci_36, fs_37, ha, hci, hw⟩ := hw
    refine j_to5 (pc := 57) SX rfl rfl hTr hC hF ha hci q613 rfl rfl rfl dX0_takenFor_57 (fun c_38 => ?_) hw.2
    replace hw := hw.1 c_38
    exact j_aret (pc := 60) S (Or.inl ⟨_, rfl⟩) (Nat.zero_le _) (Nat.zero_le _) dX0_takenFor_60 hw
  replace hw := hw.2
  have hw := hw ⟨c_1, c_9, c_17, c_25, c_33⟩
  refine j_tblOut (pc := 1) (tgt := 61) S dX0_takenFor_1 (tbl_out (lo := 1) (hi := 5) a2 (fun k h1 h2 => ?_)) rfl ?_
  · intro e; have : k = 1 ∨ k = 2 ∨ k = 3 ∨ k = 4 ∨ k = 5 := by omega
    rcases this with rfl | rfl | rfl | rfl | rfl
    · exact c_1 (tbl_eq e rfl)
    · exact c_9 (tbl_eq e rfl)
    · exact c_17 (tbl_eq e rfl)
    · exact c_25 (tbl_eq e rfl)
    · exact c_33 (tbl_eq e rfl)
  refine j_ald0 (pc := 61) S dX0_takenFor_61 ?_
  obtain ⟨ci_43, fs_44, ha, hci, hw⟩ := hw
  refine j_to0 (pc := 62) SX rfl rfl hTr hC hF ha hci q626 rfl rfl rfl dX0_takenFor_62 (fun c_45 => ?_) hw.2
  replace hw := hw.1 c_45
  exact j_aret (pc := 65) S (Or.inl ⟨_, rfl⟩) (Nat.zero_le _) (Nat.zero_le _) dX0_takenFor_65 hw
/-! LeaningStreet.rowOf(ZI)Ljava/lang/Object; -/
abbrev rX0_rowOfT (mc ms : Nat) : Room := { frames := 7, cells := mc, slots := ms, locals := 10248 }
def wpX0_rowOfT (ad : Nat → Nat) (K : Nat → gY → gH → Prop) (E : Nat → gY → gH → Prop) (mc ms : Nat) (Y : gY) (h : gH) (a1 : Int32) (a2 : Int32) : Prop := ((a1 = 0 → (((a2 < 0 → 0 + 3 ≤ mc ∧ 0 + 1610 ≤ ms ∧ ∀ (x_2 : Nat) (h_3 : gH), h x_2 = none → h_3 = hup h x_2 (.inr (16, [])) → E x_2 Y h_3) ∧ (¬ a2 < 0 → a2.toNatClampNeg * componentBytes .short ≤ 536870912 ∧ 0 + 1 ≤ mc ∧ 0 + a2.toNatClampNeg ≤ ms ∧ ∀ (q_6 : Nat) (h_7 : gH), h q_6 = none → h_7 = hup h q_6 (.inl (2, a2.toNatClampNeg, .inl (fun _ => 0))) → (K q_6 Y h_7))))) ∧ (¬ a1 = 0 → (((a2 < 0 → 0 + 3 ≤ mc ∧ 0 + 1610 ≤ ms ∧ ∀ (x_10 : Nat) (h_11 : gH), h x_10 = none → h_11 = hup h x_10 (.inr (16, [])) → E x_10 Y h_11) ∧ (¬ a2 < 0 → a2.toNatClampNeg * componentBytes .float ≤ 536870912 ∧ 0 + 1 ≤ mc ∧ 0 + a2.toNatClampNeg ≤ ms ∧ ∀ (q_14 : Nat) (h_15 : gH), h q_14 = none → h_15 = hup h q_14 (.inl (3, a2.toNatClampNeg, .inr (.inr (.inl (fun _ => 0))))) → (K q_14 Y h_15))))))
theorem wkX0_rowOfT (hC : cOK G) (hTr : l.stackTraces = false) (hF : xFO G) {K : Nat → gY → gH → Prop} {E : Nat → gY → gH → Prop} {mc ms : Nat} {Y : gY} {h : gH} {a1 : Int32} {a2 : Int32} (hw : wpX0_rowOfT ad K E mc ms Y h a1 a2) : gMetX l yX0_rowOf (ws_ yX0_rowOf cX0_rowOf 2 (some (.object "java/lang/Object"))) (rX0_rowOfT mc ms) G cL o ad [.int a1, .int a2] (fun r => some (.ref r)) K E mc ms Y h := by
  refine gMetX.in (lv := [some (.int a1), some (.int a2)]) (by decide) rfl rfl (fun J SX => ?_)
  have SX : gStX l (rX0_rowOfT mc ms) cX0_rowOf RX0 "rowOf" 2 (some (.object "java/lang/Object")) G cL o ad (fun r => some (.ref r)) K E mc ms J := SX
  have S := SX.st
  unfold wpX0_rowOfT at hw
  refine j_ild0 (pc := 0) S dX0_rowOf_0 ?_
  refine j_if_eq (pc := 1) (tgt := 8) S dX0_rowOf_1 rfl (fun c_1 => ?_) (fun c_1 => ?_)
  · have hw := hw.1 c_1
    refine j_ild1 (pc := 8) S dX0_rowOf_8 ?_
    by_cases hn : a2 < 0
    · obtain ⟨hc, hs, hw⟩ := hw.1 hn
      exact j_newX (pc := 9) SX rfl rfl hTr hC hF hn rfl rfl rfl dX0_rowOf_9 hc hs hw
    have hw := hw.2 hn
    obtain ⟨hby, hw⟩ := hw
    obtain ⟨hc_4, hs_5, hw⟩ := hw
    refine h_newa (pc := 9) (atype := .short) (ty := .short) (a0 := (a2.toNatClampNeg, .inl (fun _ => 0))) (N' := a2.toNatClampNeg) S 2 q1014 rfl (fun _ => rfl) (fun _ _ h => h) (fun _ => rfl) hn rfl hby hc_4 hs_5 dX0_rowOf_9 (fun q_6 h_7 hq_8 e_9 => ?_)
    have hw := hw q_6 h_7 hq_8 e_9
    exact j_aret (pc := 11) S (Or.inl ⟨_, rfl⟩) hc_4 hs_5 dX0_rowOf_11 hw
  · have hw := hw.2 c_1
    refine j_ild1 (pc := 4) S dX0_rowOf_4 ?_
    by_cases hn : a2 < 0
    · obtain ⟨hc, hs, hw⟩ := hw.1 hn
      exact j_newX (pc := 5) SX rfl rfl hTr hC hF hn rfl rfl rfl dX0_rowOf_5 hc hs hw
    have hw := hw.2 hn
    obtain ⟨hby, hw⟩ := hw
    obtain ⟨hc_12, hs_13, hw⟩ := hw
    refine h_newa (pc := 5) (atype := .float) (ty := .float) (a0 := (a2.toNatClampNeg, .inr (.inr (.inl (fun _ => 0))))) (N' := a2.toNatClampNeg) S 3 q326 rfl (fun _ => rfl) (fun _ _ h => h) (fun _ => rfl) hn rfl hby hc_12 hs_13 dX0_rowOf_5 (fun q_14 h_15 hq_16 e_17 => ?_)
    have hw := hw q_14 h_15 hq_16 e_17
    exact j_aret (pc := 7) S (Or.inl ⟨_, rfl⟩) hc_12 hs_13 dX0_rowOf_7 hw
/-! LeaningStreet.as(II)I -/
abbrev rX0_as (mc ms : Nat) : Room := { frames := 8, cells := mc, slots := ms, locals := 10269 }
abbrev hhX0_as : xH := [(30, 38, 39, 338)]
theorem ydX0_as : yX0_as.cls = RX0 ∧ yX0_as.cls ≠ "java/lang/invoke/MethodHandle" ∧ yX0_as.cls ≠ "java/lang/invoke/VarHandle" ∧ (parseMethodDescriptor yX0_as.desc).map (fun d => d.parameters.length) = some 2 := by decide +kernel
def wpX0_as (ad : Nat → Nat) (K : Int32 → gY → gH → Prop) (mc ms : Nat) (Y : gY) (h : gH) (a1 : Int32) (a2 : Int32) : Prop := wpX0_isHouse ad (fun r_1 Y_2 h_3 => (((r_1 = 0 → (K (-1000000001) Y_2 h_3)) ∧ (¬ r_1 = 0 → (wpX0_isIn ad (fun r_5 Y_6 h_7 => (((¬ r_5 = 0 → (∃ (fs_9 : List Value) (f_10 : Nat), h_7 (ad 0) = some (.inr (6, fs_9)) ∧ fs_9[2]? = some (.ref f_10) ∧ (∃ (n_11 : Nat) (g_12 : Nat → Option Nat) (b_13 : Nat), h_7 f_10 = some (.inl (4, n_11, .inr (.inr (.inr (.inr g_12))))) ∧ vp_in a1 n_11 ∧ g_12 a1.toNatClampNeg = some b_13 ∧ (∃ mc_17 ms_18 : Nat, 0 + mc_17 ≤ mc ∧ 0 + ms_18 ≤ ms ∧ wpX0_takenFor ad (fun r_14 Y_15 h_16 => (∃ (ci_27 : Nat) (fs_25 : List Value) (f_26 : Int32), ci_27 < 6 ∧ h_16 r_14 = some (.inr (ci_27, fs_25)) ∧ fs_25[2]? = some (.int f_26) ∧ (K f_26 Y_15 h_16))) (fun x_21 Y_22 h_23 => (∃ fs_24 : List Value, h_23 x_21 = some (.inr (15, fs_24))) ∧ (K (-1000000012) Y_22 h_23)) mc_17 ms_18 Y_6 h_7 b_13 a2)))) ∧ (r_5 = 0 → (K (-1000000001) Y_6 h_7))))) Y_2 h_3 a2 (0 : Int32) (5 : Int32)))))) Y h a1
theorem wkX0_as (hC : cOK G) (hTr : l.stackTraces = false) (hF : xFO G) {K : Int32 → gY → gH → Prop} {mc ms : Nat} {Y : gY} {h : gH} {a1 : Int32} {a2 : Int32} (hw : wpX0_as ad K mc ms Y h a1 a2) : gMet l yX0_as (wsW_ yX0_as cX0_as 5 (some .int) hhX0_as) (rX0_as mc ms) G cL o ad [.ref o, .int a1, .int a2] (fun r => some (.int r)) K mc ms Y h := by
  refine gMet.inH (lv := [some (.ref o), some (.int a1), some (.int a2), none, none]) (by decide) rfl rfl (fun J SH => ?_)
  have SH : gStH l (rX0_as mc ms) cX0_as RX0 "as" 5 (some .int) hhX0_as G cL o ad (fun r => some (.int r)) K mc ms J := SH
  have S := SH.st
  unfold wpX0_as at hw
  refine j_ald0 (pc := 0) S dX0_as_0 ?_
  refine j_ild1 (pc := 1) S dX0_as_1 ?_
  refine x_callVi (pc := 2) S 1 (wkX0_isHouse hC hw) (lw_V q640 q642 qs19 q79 q643) rfl rfl ydX0_isHouse rfl rfl c_recv rfl rfl rfl dX0_as_2 (Nat.zero_le _) (Nat.zero_le _) (fun r_1 Y_2 h_3 hw => ?_)
  refine j_if_eq (pc := 5) (tgt := 17) S dX0_as_5 rfl (fun c_4 => ?_) (fun c_4 => ?_)
  · have hw := hw.1 c_4
    refine j_ldc (pc := 17) S q343 dX0_as_17 ?_
    exact j_iret (pc := 19) S (Nat.zero_le _) (Nat.zero_le _) dX0_as_19 hw
  · have hw := hw.2 c_4
    refine j_ild2 (pc := 8) S dX0_as_8 ?_
    refine j_iconst (pc := 9) (v := 0) S dX0_as_9 rfl ?_
    refine j_iconst (pc := 10) (v := 5) S dX0_as_10 rfl ?_
    refine x_callSi (pc := 11) S 3 (wkX0_isIn hC hw) (lw_S q340 q341 q79 q342) rfl rfl ydX0_isIn rfl rfl rfl rfl rfl dX0_as_11 (Nat.zero_le _) (Nat.zero_le _) (fun r_5 Y_6 h_7 hw => ?_)
    refine j_if_ne (pc := 14) (tgt := 20) S dX0_as_14 rfl (fun c_8 => ?_) (fun c_8 => ?_)
    · have hw := hw.1 c_8
      refine j_ald0 (pc := 20) S dX0_as_20 ?_
      refine c_getA (pc := 21) S 0 rfl rfl q250 dX0_as_21 ?_
      obtain ⟨fs_9, f_10, ha, hv, hw⟩ := hw
      refine h_getN (pc := 24) (C := RX1) (T := TX1) (N := 8) S ha 2 rfl in_X1 rfl (cn hC 3 rfl) hv dX0_as_24 ?_
      refine j_ild1 (pc := 27) S dX0_as_27 ?_
      obtain ⟨n_11, g_12, b_13, ha, hi, hb, hw⟩ := hw
      refine h_aald1 (pc := 28) S 4 (fun _ => rfl) ha hi hb dX0_as_28 ?_
      refine j_ast3 (pc := 29) S dX0_as_29 rfl rfl ?_
      refine j_ald3 (pc := 30) S dX0_as_30 ?_
      refine j_ild2 (pc := 31) S dX0_as_31 ?_
      obtain ⟨mc_17, ms_18, hc_19, hs_20, hw⟩ := hw
      refine y_callXShr (pc := 32) SH 2 (wkX0_takenFor hC hTr hF hw) (lw_S q797 q798 q79 q799) rfl rfl ydX0_takenFor rfl rfl rfl rfl rfl dX0_as_32 hc_19 hs_20 rfl (by decide) q770 rfl rfl (fun r_14 Y_15 h_16 hw => ?_) (fun x_21 Y_22 h_23 hw => ⟨hw.1, ?_⟩)
      · have hw := hw
        obtain ⟨ci_27, fs_25, f_26, hci, ha, hv, hw⟩ := hw
        refine hh_get (pc := 35) S hci ha 2 rfl q551 hv dX0_as_35 ?_
        exact j_iret (pc := 38) S hc_19 hs_20 dX0_as_38 hw
      · have hw := hw.2
        refine j_ast4 (pc := 39) S dX0_as_39 rfl rfl ?_
        refine j_ldcw (pc := 41) S q800 dX0_as_41 ?_
        exact j_iret (pc := 44) S hc_19 hs_20 dX0_as_44 hw
    · have hw := hw.2 c_8
      refine j_ldc (pc := 17) S q343 dX0_as_17 ?_
      exact j_iret (pc := 19) S (Nat.zero_le _) (Nat.zero_le _) dX0_as_19 hw
/-! LeaningStreet.ask(II)I -/
abbrev rX0_ask (mc ms : Nat) : Room := { frames := 8, cells := mc, slots := ms, locals := 10269 }
abbrev hhX0_ask : xH := [(37, 51, 52, 338)]
theorem ydX0_ask : yX0_ask.cls = RX0 ∧ yX0_ask.cls ≠ "java/lang/invoke/MethodHandle" ∧ yX0_ask.cls ≠ "java/lang/invoke/VarHandle" ∧ (parseMethodDescriptor yX0_ask.desc).map (fun d => d.parameters.length) = some 2 := by decide +kernel
def wpX0_ask (ad : Nat → Nat) (K : Int32 → gY → gH → Prop) (mc ms : Nat) (Y : gY) (h : gH) (a1 : Int32) (a2 : Int32) : Prop := wpX0_isSlot ad (fun r_1 Y_2 h_3 => (((r_1 = 0 → (K (-1000000001) Y_2 h_3)) ∧ (¬ r_1 = 0 → (wpX0_isIn ad (fun r_5 Y_6 h_7 => (((¬ r_5 = 0 → (∃ (n_9 : Nat) (g_10 : Nat → Option Nat) (b_11 : Nat), h_7 (ad 20) = some (.inl (7, n_9, .inr (.inr (.inr (.inr g_10))))) ∧ vp_in a1 n_9 ∧ g_10 a1.toNatClampNeg = some b_11 ∧ (∃ (fs_12 : List Value) (f_13 : Option Nat), h_7 b_11 = some (.inr (10, fs_12)) ∧ fs_12[0]? = some (va_rf f_13) ∧ (((f_13 = none → (K (-1000000011) Y_6 h_7)) ∧ (∀ b_15 : Nat, f_13 = some b_15 → (∃ mc_19 ms_20 : Nat, 0 + mc_19 ≤ mc ∧ 0 + ms_20 ≤ ms ∧ wpX0_takenFor ad (fun r_16 Y_17 h_18 => (wvH_worth (fun r_27 Y_28 h_29 => (K r_27 Y_28 h_29)) Y_17 h_18 r_16)) (fun x_23 Y_24 h_25 => (∃ fs_26 : List Value, h_25 x_23 = some (.inr (15, fs_26))) ∧ (K (-1000000012) Y_24 h_25)) mc_19 ms_20 Y_6 h_7 b_15 a2))))))) ∧ (r_5 = 0 → (K (-1000000001) Y_6 h_7))))) Y_2 h_3 a2 (0 : Int32) (5 : Int32)))))) Y h a1
theorem wkX0_ask (hC : cOK G) (hTr : l.stackTraces = false) (hF : xFO G) (hFW : xFW G) {K : Int32 → gY → gH → Prop} {mc ms : Nat} {Y : gY} {h : gH} {a1 : Int32} {a2 : Int32} (hw : wpX0_ask ad K mc ms Y h a1 a2) : gMet l yX0_ask (wsW_ yX0_ask cX0_ask 5 (some .int) hhX0_ask) (rX0_ask mc ms) G cL o ad [.ref o, .int a1, .int a2] (fun r => some (.int r)) K mc ms Y h := by
  refine gMet.inH (lv := [some (.ref o), some (.int a1), some (.int a2), none, none]) (by decide) rfl rfl (fun J SH => ?_)
  have SH : gStH l (rX0_ask mc ms) cX0_ask RX0 "ask" 5 (some .int) hhX0_ask G cL o ad (fun r => some (.int r)) K mc ms J := SH
  have S := SH.st
  unfold wpX0_ask at hw
  refine j_ild1 (pc := 0) S dX0_ask_0 ?_
  refine x_callSi (pc := 1) S 1 (wkX0_isSlot hC hw) (lw_S q1088 q1089 q79 q1090) rfl rfl ydX0_isSlot rfl rfl rfl rfl rfl dX0_ask_1 (Nat.zero_le _) (Nat.zero_le _) (fun r_1 Y_2 h_3 hw => ?_)
  refine j_if_eq (pc := 4) (tgt := 16) S dX0_ask_4 rfl (fun c_4 => ?_) (fun c_4 => ?_)
  · have hw := hw.1 c_4
    refine j_ldc (pc := 16) S q343 dX0_ask_16 ?_
    exact j_iret (pc := 18) S (Nat.zero_le _) (Nat.zero_le _) dX0_ask_18 hw
  · have hw := hw.2 c_4
    refine j_ild2 (pc := 7) S dX0_ask_7 ?_
    refine j_iconst (pc := 8) (v := 0) S dX0_ask_8 rfl ?_
    refine j_iconst (pc := 9) (v := 5) S dX0_ask_9 rfl ?_
    refine x_callSi (pc := 10) S 3 (wkX0_isIn hC hw) (lw_S q340 q341 q79 q342) rfl rfl ydX0_isIn rfl rfl rfl rfl rfl dX0_ask_10 (Nat.zero_le _) (Nat.zero_le _) (fun r_5 Y_6 h_7 hw => ?_)
    refine j_if_ne (pc := 13) (tgt := 19) S dX0_ask_13 rfl (fun c_8 => ?_) (fun c_8 => ?_)
    · have hw := hw.1 c_8
      refine j_ald0 (pc := 19) S dX0_ask_19 ?_
      refine c_getA (pc := 20) S 20 rfl rfl q270 dX0_ask_20 ?_
      refine j_ild1 (pc := 23) S dX0_ask_23 ?_
      obtain ⟨n_9, g_10, b_11, ha, hi, hb, hw⟩ := hw
      refine h_aald1 (pc := 24) S 7 (fun _ => rfl) ha hi hb dX0_ask_24 ?_
      obtain ⟨fs_12, f_13, ha, hv, hw⟩ := hw
      refine h_getN (pc := 25) (C := RX4) (T := TX4) (N := 1) S ha 0 rfl in_X4 rfl (cn hC 21 rfl) hv dX0_ask_25 ?_
      refine j_ost3 (pc := 28) S dX0_ask_28 rfl rfl ?_
      refine j_old3 (pc := 29) S dX0_ask_29 ?_
      refine j_ifnonnull (pc := 30) (tgt := 37) S dX0_ask_30 rfl (fun b_15 c_14 => ?_) (fun c_14 => ?_)
      · replace hw := hw.2 b_15 c_14
        subst c_14
        refine j_ald3 (pc := 37) S dX0_ask_37 ?_
        refine j_ild2 (pc := 38) S dX0_ask_38 ?_
        obtain ⟨mc_19, ms_20, hc_21, hs_22, hw⟩ := hw
        refine y_callXShr (pc := 39) SH 2 (wkX0_takenFor hC hTr hF hw) (lw_S q797 q798 q79 q799) rfl rfl ydX0_takenFor rfl rfl rfl rfl rfl dX0_ask_39 hc_21 hs_22 rfl (by decide) q770 rfl rfl (fun r_16 Y_17 h_18 hw => ?_) (fun x_23 Y_24 h_25 hw => ⟨hw.1, ?_⟩)
        · have hw := hw
          refine j_ast4 (pc := 42) S dX0_ask_42 rfl rfl ?_
          refine j_ald4 (pc := 44) S dX0_ask_44 ?_
          refine jiH_worth (pc := 46) S hC hFW hw q1129 rfl rfl rfl rfl dX0_ask_46 hc_21 hs_22 (fun r_27 Y_28 h_29 hw => ?_)
          exact j_iret (pc := 51) S hc_21 hs_22 dX0_ask_51 hw
        · have hw := hw.2
          refine j_ast4 (pc := 52) S dX0_ask_52 rfl rfl ?_
          refine j_ldcw (pc := 54) S q800 dX0_ask_54 ?_
          exact j_iret (pc := 57) S hc_21 hs_22 dX0_ask_57 hw
      · replace hw := hw.1 c_14
        refine j_ldcw (pc := 33) S q1023 dX0_ask_33 ?_
        exact j_iret (pc := 36) S (Nat.zero_le _) (Nat.zero_le _) dX0_ask_36 hw
    · have hw := hw.2 c_8
      refine j_ldc (pc := 16) S q343 dX0_ask_16 ?_
      exact j_iret (pc := 18) S (Nat.zero_le _) (Nat.zero_le _) dX0_ask_18 hw
/-! LeaningStreet.item(II)I -/
abbrev rX0_item (mc ms : Nat) : Room := { frames := 7, cells := mc, slots := ms, locals := 10248 }
abbrev hhX0_item : xH := [(28, 52, 75, 338), (53, 74, 75, 338)]
theorem ydX0_item : yX0_item.cls = RX0 ∧ yX0_item.cls ≠ "java/lang/invoke/MethodHandle" ∧ yX0_item.cls ≠ "java/lang/invoke/VarHandle" ∧ (parseMethodDescriptor yX0_item.desc).map (fun d => d.parameters.length) = some 2 := by decide +kernel
def wpX0_item (ad : Nat → Nat) (K : Int32 → gY → gH → Prop) (mc ms : Nat) (Y : gY) (h : gH) (a1 : Int32) (a2 : Int32) : Prop := wpX0_isSlot ad (fun r_1 Y_2 h_3 => (((¬ r_1 = 0 → (∃ (n_5 : Nat) (g_6 : Nat → Option Nat) (b_7 : Nat), h_3 (ad 20) = some (.inl (7, n_5, .inr (.inr (.inr (.inr g_6))))) ∧ vp_in a1 n_5 ∧ g_6 a1.toNatClampNeg = some b_7 ∧ (∃ (fs_8 : List Value) (f_9 : Option Nat), h_3 b_7 = some (.inr (10, fs_8)) ∧ fs_8[0]? = some (va_rf f_9) ∧ (((f_9 = none → (K (-1000000011) Y_2 h_3)) ∧ (∀ b_11 : Nat, f_9 = some b_11 → (∃ (ci_14 : Nat) (fs_15 : List Value), h_3 b_11 = some (.inr (ci_14, fs_15)) ∧ (ci_14 < 6 ∨ ci_14 = 9 ∨ ci_14 = 11) ∧ (ci_14 = 9 → ((∃ fs_26 : List Value, h_3 b_11 = some (.inr (9, fs_26))) ∧ wpX3_size (fun r_23 Y_24 h_25 => (wpX0_isIn ad (fun r_27 Y_28 h_29 => (((¬ r_27 = 0 → ((∃ fs_34 : List Value, h_29 b_11 = some (.inr (9, fs_34))) ∧ wpX3_isNumber (fun r_31 Y_32 h_33 => (((r_31 = 0 → (K (-1000000012) Y_32 h_33)) ∧ (¬ r_31 = 0 → ((∃ fs_39 : List Value, h_33 b_11 = some (.inr (9, fs_39))) ∧ wpX3_at (fun r_36 Y_37 h_38 => (K r_36 Y_37 h_38)) Y_32 h_33 b_11 a2))))) Y_28 h_29 b_11 a2)) ∧ (r_27 = 0 → (K (-1000000013) Y_28 h_29))))) Y_24 h_25 a2 (0 : Int32) (r_23 - 1))) Y_2 h_3 b_11)) ∧ (¬ ci_14 = 9 → 0 + 3 ≤ mc ∧ 0 + 1610 ≤ ms ∧ ∀ (x_17 : Nat) (h_18 : gH), h_3 x_17 = none → h_18 = hup h_3 x_17 (.inr (15, [])) → (K (-1000000012) Y_2 h_18))))))))) ∧ (r_1 = 0 → (K (-1000000001) Y_2 h_3))))) Y h a1
theorem wkX0_item (hC : cOK G) (hTr : l.stackTraces = false) (hF : xFO G) {K : Int32 → gY → gH → Prop} {mc ms : Nat} {Y : gY} {h : gH} {a1 : Int32} {a2 : Int32} (hw : wpX0_item ad K mc ms Y h a1 a2) : gMet l yX0_item (wsW_ yX0_item cX0_item 5 (some .int) hhX0_item) (rX0_item mc ms) G cL o ad [.ref o, .int a1, .int a2] (fun r => some (.int r)) K mc ms Y h := by
  refine gMet.inH (lv := [some (.ref o), some (.int a1), some (.int a2), none, none]) (by decide) rfl rfl (fun J SH => ?_)
  have SH : gStH l (rX0_item mc ms) cX0_item RX0 "item" 5 (some .int) hhX0_item G cL o ad (fun r => some (.int r)) K mc ms J := SH
  have S := SH.st
  unfold wpX0_item at hw
  refine j_ild1 (pc := 0) S dX0_item_0 ?_
  refine x_callSi (pc := 1) S 1 (wkX0_isSlot hC hw) (lw_S q1088 q1089 q79 q1090) rfl rfl ydX0_isSlot rfl rfl rfl rfl rfl dX0_item_1 (Nat.zero_le _) (Nat.zero_le _) (fun r_1 Y_2 h_3 hw => ?_)
  refine j_if_ne (pc := 4) (tgt := 10) S dX0_item_4 rfl (fun c_4 => ?_) (fun c_4 => ?_)
  · have hw := hw.1 c_4
    refine j_ald0 (pc := 10) S dX0_item_10 ?_
    refine c_getA (pc := 11) S 20 rfl rfl q270 dX0_item_11 ?_
    refine j_ild1 (pc := 14) S dX0_item_14 ?_
    obtain ⟨n_5, g_6, b_7, ha, hi, hb, hw⟩ := hw
    refine h_aald1 (pc := 15) S 7 (fun _ => rfl) ha hi hb dX0_item_15 ?_
    obtain ⟨fs_8, f_9, ha, hv, hw⟩ := hw
    refine h_getN (pc := 16) (C := RX4) (T := TX4) (N := 1) S ha 0 rfl in_X4 rfl (cn hC 21 rfl) hv dX0_item_16 ?_
    refine j_ost3 (pc := 19) S dX0_item_19 rfl rfl ?_
    refine j_old3 (pc := 20) S dX0_item_20 ?_
    refine j_ifnonnull (pc := 21) (tgt := 28) S dX0_item_21 rfl (fun b_11 c_10 => ?_) (fun c_10 => ?_)
    · replace hw := hw.2 b_11 c_10
      subst c_10
      refine j_ald3 (pc := 28) S dX0_item_28 ?_
      obtain ⟨ci_14, fs_15, ha, hci, hw⟩ := hw
      refine j_toSheet (pc := 29) SH hTr hC hF ha hci q226 rfl rfl rfl dX0_item_29 rfl (by decide) q770 (fun c_16 => ?_) (fun c_16 => ?_)
      · replace hw := hw.1 c_16
        refine j_ast4 (pc := 32) S dX0_item_32 rfl rfl ?_
        refine j_ild2 (pc := 34) S dX0_item_34 ?_
        refine j_iconst (pc := 35) (v := 0) S dX0_item_35 rfl ?_
        refine j_ald4 (pc := 36) S dX0_item_36 ?_
        obtain ⟨⟨fs_26, ha⟩, hw⟩ := hw
        refine x_callVi (pc := 38) S 0 (wkX3_size hC hw) (lw_V q1024 q1025 q1026 q85 q1027) rfl rfl ydX3_size rfl rfl (h_recv ha rfl rfl) rfl rfl rfl dX0_item_38 (Nat.zero_le _) (Nat.zero_le _) (fun r_23 Y_24 h_25 hw => ?_)
        refine j_iconst (pc := 41) (v := 1) S dX0_item_41 rfl ?_
        refine j_isub (pc := 42) S dX0_item_42 ?_
        refine x_callSi (pc := 43) S 3 (wkX0_isIn hC hw) (lw_S q340 q341 q79 q342) rfl rfl ydX0_isIn rfl rfl rfl rfl rfl dX0_item_43 (Nat.zero_le _) (Nat.zero_le _) (fun r_27 Y_28 h_29 hw => ?_)
        refine j_if_ne (pc := 46) (tgt := 53) S dX0_item_46 rfl (fun c_30 => ?_) (fun c_30 => ?_)
        · have hw := hw.1 c_30
          refine j_ald4 (pc := 53) S dX0_item_53 ?_
          refine j_ild2 (pc := 55) S dX0_item_55 ?_
          obtain ⟨⟨fs_34, ha⟩, hw⟩ := hw
          refine x_callVi (pc := 56) S 1 (wkX3_isNumber hC hw) (lw_V q1051 q1052 q1053 q85 q1054) rfl rfl ydX3_isNumber rfl rfl (h_recv ha rfl rfl) rfl rfl rfl dX0_item_56 (Nat.zero_le _) (Nat.zero_le _) (fun r_31 Y_32 h_33 hw => ?_)
          refine j_if_eq (pc := 59) (tgt := 71) S dX0_item_59 rfl (fun c_35 => ?_) (fun c_35 => ?_)
          · have hw := hw.1 c_35
            refine j_ldcw (pc := 71) S q800 dX0_item_71 ?_
            exact j_iret (pc := 74) S (Nat.zero_le _) (Nat.zero_le _) dX0_item_74 hw
          · have hw := hw.2 c_35
            refine j_ald4 (pc := 62) S dX0_item_62 ?_
            refine j_ild2 (pc := 64) S dX0_item_64 ?_
            obtain ⟨⟨fs_39, ha⟩, hw⟩ := hw
            refine x_callVi (pc := 65) S 1 (wkX3_at hC hw) (lw_V q1055 q1056 q1057 q85 q1058) rfl rfl ydX3_at rfl rfl (h_recv ha rfl rfl) rfl rfl rfl dX0_item_65 (Nat.zero_le _) (Nat.zero_le _) (fun r_36 Y_37 h_38 hw => ?_)
            refine j_goto (pc := 68) (tgt := 74) S dX0_item_68 rfl ?_
            exact j_iret (pc := 74) S (Nat.zero_le _) (Nat.zero_le _) dX0_item_74 hw
        · have hw := hw.2 c_30
          refine j_ldcw (pc := 49) S q1046 dX0_item_49 ?_
          exact j_iret (pc := 52) S (Nat.zero_le _) (Nat.zero_le _) dX0_item_52 hw
      · obtain ⟨hc_19, hs_20, hw⟩ := hw.2 c_16
        refine ⟨hc_19, hs_20, fun x_17 h_18 hx_21 e_22 => ?_⟩
        have hw := hw x_17 h_18 hx_21 e_22
        refine j_ast4 (pc := 75) S dX0_item_75 rfl rfl ?_
        refine j_ldcw (pc := 77) S q800 dX0_item_77 ?_
        exact j_iret (pc := 80) S hc_19 hs_20 dX0_item_80 hw
    · replace hw := hw.1 c_10
      refine j_ldcw (pc := 24) S q1023 dX0_item_24 ?_
      exact j_iret (pc := 27) S (Nat.zero_le _) (Nat.zero_le _) dX0_item_27 hw
  · have hw := hw.2 c_4
    refine j_ldc (pc := 7) S q343 dX0_item_7 ?_
    exact j_iret (pc := 9) S (Nat.zero_le _) (Nat.zero_le _) dX0_item_9 hw
/-! LeaningStreet.sheet(III)I -/
abbrev rX0_sheet (mc ms : Nat) : Room := { frames := 8, cells := mc, slots := ms, locals := 10269 }
abbrev hhX0_sheet : xH := [(45, 69, 70, 417)]
theorem ydX0_sheet : yX0_sheet.cls = RX0 ∧ yX0_sheet.cls ≠ "java/lang/invoke/MethodHandle" ∧ yX0_sheet.cls ≠ "java/lang/invoke/VarHandle" ∧ (parseMethodDescriptor yX0_sheet.desc).map (fun d => d.parameters.length) = some 3 := by decide +kernel
def wX0_sheet_61 (ad : Nat → Nat) (K : Int32 → gY → gH → Prop) (mc ms : Nat) (Y : gY) (h : gH) (kc : Nat) (ks : Nat) (x3 : Int32) (s0 : Nat) (s1 : Int32) : Prop := ∃ mc_4 ms_5 : Nat, kc + mc_4 ≤ mc ∧ ks + ms_5 ≤ ms ∧ wpX0_rowOfT ad (fun r_1 Y_2 h_3 => (∃ fs_12 : List Value, h_3 s0 = some (.inr (9, fs_12)) ∧ 0 < fs_12.length ∧ ∀ h_13 : gH, h_13 = hup h_3 s0 (.inr (9, fs_12.set 0 (.ref r_1))) → (K x3 Y_2 h_13))) (fun x_8 Y_9 h_10 => (∃ fs_11 : List Value, h_10 x_8 = some (.inr (16, fs_11))) ∧ (K (-1000000014) Y_9 h_10)) mc_4 ms_5 Y h s1 x3
def wX0_sheet_29 (ad : Nat → Nat) (K : Int32 → gY → gH → Prop) (mc ms : Nat) (Y : gY) (h : gH) (kc : Nat) (ks : Nat) (x1 : Int32) (x2 : Int32) (x3 : Int32) : Prop := ((0 ≤ x2 → (∃ (n_16 : Nat) (g_17 : Nat → Option Nat) (b_18 : Nat), h (ad 19) = some (.inl (6, n_16, .inr (.inr (.inr (.inr g_17))))) ∧ vp_in x1 n_16 ∧ g_17 x1.toNatClampNeg = some b_18 ∧ (((¬ x2 = 1 → (wX0_sheet_61 ad K mc ms Y h kc ks x3 b_18 0)) ∧ (x2 = 1 → (wX0_sheet_61 ad K mc ms Y h kc ks x3 b_18 1)))))) ∧ (¬ 0 ≤ x2 → (∃ (n_20 : Nat) (g_21 : Nat → Option Nat) (b_22 : Nat), h (ad 19) = some (.inl (6, n_20, .inr (.inr (.inr (.inr g_21))))) ∧ vp_in x1 n_20 ∧ g_21 x1.toNatClampNeg = some b_22 ∧ (∃ fs_23 : List Value, h b_22 = some (.inr (9, fs_23)) ∧ 0 < fs_23.length ∧ ∀ h_24 : gH, h_24 = hup h b_22 (.inr (9, fs_23.set 0 (va_rf none))) → (K 0 Y h_24)))))
def wpX0_sheet (ad : Nat → Nat) (K : Int32 → gY → gH → Prop) (mc ms : Nat) (Y : gY) (h : gH) (a1 : Int32) (a2 : Int32) (a3 : Int32) : Prop := wpX0_isSheet ad (fun r_26 Y_27 h_28 => (((r_26 = 0 → (K (-1000000001) Y_27 h_28)) ∧ (¬ r_26 = 0 → (wpX0_isIn ad (fun r_30 Y_31 h_32 => (((r_30 = 0 → (K (-1000000001) Y_31 h_32)) ∧ (¬ r_30 = 0 → (((a2 < 0 → (wX0_sheet_29 ad K mc ms Y_31 h_32 0 0 a1 a2 a3)) ∧ (¬ a2 < 0 → (((a3 ≤ 24 → (wX0_sheet_29 ad K mc ms Y_31 h_32 0 0 a1 a2 a3)) ∧ (¬ a3 ≤ 24 → (K (-1000000001) Y_31 h_32))))))))))) Y_27 h_28 a2 ((-1) : Int32) (1 : Int32)))))) Y h a1
theorem kX0_sheet_61 {K : Int32 → gY → gH → Prop} {mc ms : Nat} (SH : gStH l (rX0_sheet mc ms) cX0_sheet RX0 "sheet" 5 (some .int) hhX0_sheet G cL o ad (fun r => some (.int r)) K mc ms J) (hC : cOK G) (hTr : l.stackTraces = false) (hF : xFO G) {Y : gY} {h : gH} {kc : Nat} {ks : Nat} {x3 : Int32} {s0 : Nat} {s1 : Int32} (hkc : kc ≤ mc) (hks : ks ≤ ms) (hw : wX0_sheet_61 ad K mc ms Y h kc ks x3 s0 s1) : J Y h kc ks 61 [none, none, none, some (.int x3), none] [.int s1, .ref s0] := by
  have S := SH.st
  unfold wX0_sheet_61 at hw
  refine j_ild3 (pc := 61) S dX0_sheet_61 ?_
  obtain ⟨mc_4, ms_5, hc_6, hs_7, hw⟩ := hw
  refine y_callXShr (pc := 62) SH 2 (wkX0_rowOfT hC hTr hF hw) (lw_S q1010 q1011 q79 q1012) rfl rfl ydX0_rowOf rfl rfl rfl rfl rfl dX0_sheet_62 hc_6 hs_7 rfl (by decide) q993 rfl rfl (fun r_1 Y_2 h_3 hw => ?_) (fun x_8 Y_9 h_10 hw => ⟨hw.1, ?_⟩)
  · have hw := hw
    obtain ⟨fs_12, ha, hl, hw⟩ := hw
    refine h_putN (pc := 65) (C := RX3) (T := TX3) (N := 1) S ha 0 rfl in_X3 tyX3 tyX3_ok nmX3 rfl (cn hC 19 rfl) rfl rfl rfl hl dX0_sheet_65 (fun h_13 e_14 => ?_)
    have hw := hw h_13 e_14
    refine j_ild3 (pc := 68) S dX0_sheet_68 ?_
    exact j_iret (pc := 69) S hc_6 hs_7 dX0_sheet_69 hw
  · have hw := hw.2
    refine j_ast4 (pc := 70) S dX0_sheet_70 rfl rfl ?_
    refine j_ldcw (pc := 72) S q1013 dX0_sheet_72 ?_
    exact j_iret (pc := 75) S hc_6 hs_7 dX0_sheet_75 hw
theorem kX0_sheet_29 {K : Int32 → gY → gH → Prop} {mc ms : Nat} (SH : gStH l (rX0_sheet mc ms) cX0_sheet RX0 "sheet" 5 (some .int) hhX0_sheet G cL o ad (fun r => some (.int r)) K mc ms J) (hC : cOK G) (hTr : l.stackTraces = false) (hF : xFO G) {Y : gY} {h : gH} {kc : Nat} {ks : Nat} {x1 : Int32} {x2 : Int32} {x3 : Int32} (hkc : kc ≤ mc) (hks : ks ≤ ms) (hw : wX0_sheet_29 ad K mc ms Y h kc ks x1 x2 x3) : J Y h kc ks 29 [some (.ref o), some (.int x1), some (.int x2), some (.int x3), none] [] := by
  have S := SH.st
  unfold wX0_sheet_29 at hw
  refine j_ild2 (pc := 29) S dX0_sheet_29 ?_
  refine j_if_ge (pc := 30) (tgt := 45) S dX0_sheet_30 rfl (fun c_15 => ?_) (fun c_15 => ?_)
  · have hw := hw.1 c_15
    refine j_ald0 (pc := 45) S dX0_sheet_45 ?_
    refine c_getA (pc := 46) S 19 rfl rfl q269 dX0_sheet_46 ?_
    refine j_ild1 (pc := 49) S dX0_sheet_49 ?_
    obtain ⟨n_16, g_17, b_18, ha, hi, hb, hw⟩ := hw
    refine h_aald1 (pc := 50) S 6 (fun _ => rfl) ha hi hb dX0_sheet_50 ?_
    refine j_ild2 (pc := 51) S dX0_sheet_51 ?_
    refine j_iconst (pc := 52) (v := 1) S dX0_sheet_52 rfl ?_
    refine j_icmp_ne (pc := 53) (tgt := 60) S dX0_sheet_53 rfl (fun c_19 => ?_) (fun c_19 => ?_)
    · have hw := hw.1 c_19
      refine j_iconst (pc := 60) (v := 0) S dX0_sheet_60 rfl ?_
      exact j_sub S (kX0_sheet_61 SH hC hTr hF hkc hks hw) (gle_n (gle_n (gle_n (gle_s (gle_n gle_0)))))
    · have hw := hw.2 c_19
      refine j_iconst (pc := 56) (v := 1) S dX0_sheet_56 rfl ?_
      refine j_goto (pc := 57) (tgt := 61) S dX0_sheet_57 rfl ?_
      exact j_sub S (kX0_sheet_61 SH hC hTr hF hkc hks hw) (gle_n (gle_n (gle_n (gle_s (gle_n gle_0)))))
  · have hw := hw.2 c_15
    refine j_ald0 (pc := 33) S dX0_sheet_33 ?_
    refine c_getA (pc := 34) S 19 rfl rfl q269 dX0_sheet_34 ?_
    refine j_ild1 (pc := 37) S dX0_sheet_37 ?_
    obtain ⟨n_20, g_21, b_22, ha, hi, hb, hw⟩ := hw
    refine h_aald1 (pc := 38) S 6 (fun _ => rfl) ha hi hb dX0_sheet_38 ?_
    refine j_null (pc := 39) S dX0_sheet_39 ?_
    obtain ⟨fs_23, ha, hl, hw⟩ := hw
    refine h_putN (pc := 40) (C := RX3) (T := TX3) (N := 1) S ha 0 rfl in_X3 tyX3 tyX3_ok nmX3 rfl (cn hC 19 rfl) rfl rfl rfl hl dX0_sheet_40 (fun h_24 e_25 => ?_)
    have hw := hw h_24 e_25
    refine j_iconst (pc := 43) (v := 0) S dX0_sheet_43 rfl ?_
    exact j_iret (pc := 44) S hkc hks dX0_sheet_44 hw
theorem wkX0_sheet (hC : cOK G) (hTr : l.stackTraces = false) (hF : xFO G) {K : Int32 → gY → gH → Prop} {mc ms : Nat} {Y : gY} {h : gH} {a1 : Int32} {a2 : Int32} {a3 : Int32} (hw : wpX0_sheet ad K mc ms Y h a1 a2 a3) : gMet l yX0_sheet (wsW_ yX0_sheet cX0_sheet 5 (some .int) hhX0_sheet) (rX0_sheet mc ms) G cL o ad [.ref o, .int a1, .int a2, .int a3] (fun r => some (.int r)) K mc ms Y h := by
  refine gMet.inH (lv := [some (.ref o), some (.int a1), some (.int a2), some (.int a3), none]) (by decide) rfl rfl (fun J SH => ?_)
  have SH : gStH l (rX0_sheet mc ms) cX0_sheet RX0 "sheet" 5 (some .int) hhX0_sheet G cL o ad (fun r => some (.int r)) K mc ms J := SH
  have S := SH.st
  unfold wpX0_sheet at hw
  refine j_ild1 (pc := 0) S dX0_sheet_0 ?_
  refine x_callSi (pc := 1) S 1 (wkX0_isSheet hC hw) (lw_S q1007 q1008 q79 q1009) rfl rfl ydX0_isSheet rfl rfl rfl rfl rfl dX0_sheet_1 (Nat.zero_le _) (Nat.zero_le _) (fun r_26 Y_27 h_28 hw => ?_)
  refine j_if_eq (pc := 4) (tgt := 26) S dX0_sheet_4 rfl (fun c_29 => ?_) (fun c_29 => ?_)
  · have hw := hw.1 c_29
    refine j_ldc (pc := 26) S q343 dX0_sheet_26 ?_
    exact j_iret (pc := 28) S (Nat.zero_le _) (Nat.zero_le _) dX0_sheet_28 hw
  · have hw := hw.2 c_29
    refine j_ild2 (pc := 7) S dX0_sheet_7 ?_
    refine j_iconst (pc := 8) (v := (-1)) S dX0_sheet_8 rfl ?_
    refine j_iconst (pc := 9) (v := 1) S dX0_sheet_9 rfl ?_
    refine x_callSi (pc := 10) S 3 (wkX0_isIn hC hw) (lw_S q340 q341 q79 q342) rfl rfl ydX0_isIn rfl rfl rfl rfl rfl dX0_sheet_10 (Nat.zero_le _) (Nat.zero_le _) (fun r_30 Y_31 h_32 hw => ?_)
    refine j_if_eq (pc := 13) (tgt := 26) S dX0_sheet_13 rfl (fun c_33 => ?_) (fun c_33 => ?_)
    · have hw := hw.1 c_33
      refine j_ldc (pc := 26) S q343 dX0_sheet_26 ?_
      exact j_iret (pc := 28) S (Nat.zero_le _) (Nat.zero_le _) dX0_sheet_28 hw
    · have hw := hw.2 c_33
      refine j_ild2 (pc := 16) S dX0_sheet_16 ?_
      refine j_if_lt (pc := 17) (tgt := 29) S dX0_sheet_17 rfl (fun c_34 => ?_) (fun c_34 => ?_)
      · have hw := hw.1 c_34
        exact j_sub S (kX0_sheet_29 SH hC hTr hF (Nat.zero_le _) (Nat.zero_le _) hw) (gle_s (gle_s (gle_s (gle_s (gle_n gle_0)))))
      · have hw := hw.2 c_34
        refine j_ild3 (pc := 20) S dX0_sheet_20 ?_
        refine j_bipush (pc := 21) (v := 24) S dX0_sheet_21 rfl ?_
        refine j_icmp_le (pc := 23) (tgt := 29) S dX0_sheet_23 rfl (fun c_35 => ?_) (fun c_35 => ?_)
        · have hw := hw.1 c_35
          exact j_sub S (kX0_sheet_29 SH hC hTr hF (Nat.zero_le _) (Nat.zero_le _) hw) (gle_s (gle_s (gle_s (gle_s (gle_n gle_0)))))
        · have hw := hw.2 c_35
          refine j_ldc (pc := 26) S q343 dX0_sheet_26 ?_
          exact j_iret (pc := 28) S (Nat.zero_le _) (Nat.zero_le _) dX0_sheet_28 hw
/-! LeaningStreet.text()I -/
abbrev rX0_text (mc ms : Nat) : Room := { frames := 81, cells := mc, slots := ms, locals := 3263 }
abbrev hhX0_text : xH := [(0, 20, 73, 61), (27, 66, 73, 61), (0, 20, 89, 0), (27, 66, 89, 0), (73, 82, 89, 0)]
theorem ydX0_text : yX0_text.cls = RX0 ∧ yX0_text.cls ≠ "java/lang/invoke/MethodHandle" ∧ yX0_text.cls ≠ "java/lang/invoke/VarHandle" ∧ (parseMethodDescriptor yX0_text.desc).map (fun d => d.parameters.length) = some 0 := by decide +kernel
def wpX0_text (ad : Nat → Nat) (K : Int32 → gY → gH → Prop) (mc ms : Nat) (Y : gY) (h : gH) : Prop := ∃ mc_4 ms_5 : Nat, 0 + mc_4 ≤ mc ∧ 0 + ms_5 ≤ ms ∧ wpX0_textRead ad (fun r_1 Y_2 h_3 => (∃ (fs_12 : List Value) (f_13 : Int32), h_3 (ad 0) = some (.inr (6, fs_12)) ∧ fs_12[6]? = some (.int f_13) ∧ (((¬ f_13 = 14 → (∃ (fs_15 : List Value) (f_16 : Nat), h_3 (ad 0) = some (.inr (6, fs_15)) ∧ fs_15[7]? = some (.ref f_16) ∧ (∃ (fs_17 : List Value) (f_18 : Int32), h_3 (ad 0) = some (.inr (6, fs_17)) ∧ fs_17[6]? = some (.int f_18) ∧ (∃ (n_19 : Nat) (g_20 : Nat → Option Nat) (vs_21 : List Value), h_3 f_16 = some (.inl (5, n_19, .inr (.inr (.inr (.inr g_20))))) ∧ h_3 r_1 = some (.inr (8, vs_21)) ∧ vp_in f_18 n_19 ∧ ∀ h_22 : gH, h_22 = hup h_3 f_16 (.inl (5, n_19, .inr (.inr (.inr (.inr (va_up g_20 f_18.toNatClampNeg (some r_1))))))) → (∃ (fs_24 : List Value) (f_25 : Int32), h_22 (ad 0) = some (.inr (6, fs_24)) ∧ fs_24[6]? = some (.int f_25) ∧ (∃ fs_26 : List Value, h_22 (ad 0) = some (.inr (6, fs_26)) ∧ 6 < fs_26.length ∧ ∀ h_27 : gH, h_27 = hup h_22 (ad 0) (.inr (6, fs_26.set 6 (.int (f_25 + 1)))) → (∃ (fs_29 : List Value) (f_30 : Int32), h_27 (ad 0) = some (.inr (6, fs_29)) ∧ fs_29[6]? = some (.int f_30) ∧ (∀ x2_31 : Int32, x2_31 = (f_30 - 1) → (∀ Y_33 : gY, Y_33 = yset Y_2 7 0 → (K x2_31 Y_33 h_27)))))))))) ∧ (f_13 = 14 → (∀ x2_35 : Int32, x2_35 = (-1000000003) → (∀ Y_37 : gY, Y_37 = yset Y_2 7 0 → (K x2_35 Y_37 h_3)))))))) (fun x_8 Y_9 h_10 => (∃ fs_11 : List Value, h_10 x_8 = some (.inr (12, fs_11))) ∧ (∃ (fs_39 : List Value) (f_40 : Int32), h_10 x_8 = some (.inr (12, fs_39)) ∧ fs_39[6]? = some (.int f_40) ∧ (∀ x2_41 : Int32, x2_41 = ((-100) - f_40) → (∀ Y_43 : gY, Y_43 = yset Y_9 7 0 → (K x2_41 Y_43 h_10))))) mc_4 ms_5 Y h
theorem wkX0_text (hC : cOK G) (hS : sFO G kS vS fZ) {K : Int32 → gY → gH → Prop} {mc ms : Nat} {Y : gY} {h : gH} (hw : wpX0_text ad K mc ms Y h) : gMet l yX0_text (wsW_ yX0_text cX0_text 4 (some .int) hhX0_text) (rX0_text mc ms) G cL o ad [.ref o] (fun r => some (.int r)) K mc ms Y h := by
  refine gMet.inH (lv := [some (.ref o), none, none, none]) (by decide) rfl rfl (fun J SH => ?_)
  have SH : gStH l (rX0_text mc ms) cX0_text RX0 "text" 4 (some .int) hhX0_text G cL o ad (fun r => some (.int r)) K mc ms J := SH
  have S := SH.st
  unfold wpX0_text at hw
  refine j_ald0 (pc := 0) S dX0_text_0 ?_
  obtain ⟨mc_4, ms_5, hc_6, hs_7, hw⟩ := hw
  refine y_callXVhr (pc := 1) SH 0 (wkX0_textRead hC hS hw) (lw_V q348 q350 qs2 q79 q351) rfl rfl ydX0_textRead rfl rfl c_recv rfl rfl rfl dX0_text_1 hc_6 hs_7 rfl (by decide) q157 rfl rfl (fun r_1 Y_2 h_3 hw => ?_) (fun x_8 Y_9 h_10 hw => ⟨hw.1, ?_⟩)
  · have hw := hw
    refine j_ast1 (pc := 4) S dX0_text_4 rfl rfl ?_
    refine j_ald0 (pc := 5) S dX0_text_5 ?_
    refine c_getA (pc := 6) S 0 rfl rfl q250 dX0_text_6 ?_
    obtain ⟨fs_12, f_13, ha, hv, hw⟩ := hw
    refine h_getN (pc := 9) (C := RX1) (T := TX1) (N := 8) S ha 6 rfl in_X1 rfl (cn hC 7 rfl) hv dX0_text_9 ?_
    refine j_bipush (pc := 12) (v := 14) S dX0_text_12 rfl ?_
    refine j_icmp_ne (pc := 14) (tgt := 27) S dX0_text_14 rfl (fun c_14 => ?_) (fun c_14 => ?_)
    · have hw := hw.1 c_14
      refine j_ald0 (pc := 27) S dX0_text_27 ?_
      refine c_getA (pc := 28) S 0 rfl rfl q250 dX0_text_28 ?_
      obtain ⟨fs_15, f_16, ha, hv, hw⟩ := hw
      refine h_getN (pc := 31) (C := RX1) (T := TX1) (N := 8) S ha 7 rfl in_X1 rfl (cn hC 8 rfl) hv dX0_text_31 ?_
      refine j_ald0 (pc := 34) S dX0_text_34 ?_
      refine c_getA (pc := 35) S 0 rfl rfl q250 dX0_text_35 ?_
      obtain ⟨fs_17, f_18, ha, hv, hw⟩ := hw
      refine h_getN (pc := 38) (C := RX1) (T := TX1) (N := 8) S ha 6 rfl in_X1 rfl (cn hC 7 rfl) hv dX0_text_38 ?_
      refine j_ald1 (pc := 41) S dX0_text_41 ?_
      obtain ⟨n_19, g_20, vs_21, ha, hb, hi, hw⟩ := hw
      refine h_aast (pc := 42) S 5 (fun _ => rfl) ha hb rfl (Or.inl rfl) hi dX0_text_42 (fun h_22 e_23 => ?_)
      have hw := hw h_22 e_23
      refine j_ald0 (pc := 43) S dX0_text_43 ?_
      refine c_getA (pc := 44) S 0 rfl rfl q250 dX0_text_44 ?_
      refine j_dup (pc := 47) S dX0_text_47 rfl ?_
      obtain ⟨fs_24, f_25, ha, hv, hw⟩ := hw
      refine h_getN (pc := 48) (C := RX1) (T := TX1) (N := 8) S ha 6 rfl in_X1 rfl (cn hC 7 rfl) hv dX0_text_48 ?_
      refine j_iconst (pc := 51) (v := 1) S dX0_text_51 rfl ?_
      refine j_iadd (pc := 52) S dX0_text_52 ?_
      obtain ⟨fs_26, ha, hl, hw⟩ := hw
      refine h_putN (pc := 53) (C := RX1) (T := TX1) (N := 8) S ha 6 rfl in_X1 tyX1 tyX1_ok nmX1 rfl (cn hC 7 rfl) rfl rfl rfl hl dX0_text_53 (fun h_27 e_28 => ?_)
      have hw := hw h_27 e_28
      refine j_ald0 (pc := 56) S dX0_text_56 ?_
      refine c_getA (pc := 57) S 0 rfl rfl q250 dX0_text_57 ?_
      obtain ⟨fs_29, f_30, ha, hv, hw⟩ := hw
      refine h_getN (pc := 60) (C := RX1) (T := TX1) (N := 8) S ha 6 rfl in_X1 rfl (cn hC 7 rfl) hv dX0_text_60 ?_
      refine j_iconst (pc := 63) (v := 1) S dX0_text_63 rfl ?_
      refine j_isub (pc := 64) S dX0_text_64 ?_
      refine j_topi (fun x2_31 e_32 => ?_)
      have hw := hw x2_31 e_32
      refine j_ist2 (pc := 65) S dX0_text_65 rfl rfl ?_
      refine j_ald0 (pc := 66) S dX0_text_66 ?_
      refine j_iconst (pc := 67) (v := 0) S dX0_text_67 rfl ?_
      refine c_putI (pc := 68) S 7 rfl rfl rfl rfl rfl q257 dX0_text_68 (fun Y_33 e_34 => ?_)
      have hw := hw Y_33 e_34
      refine j_ild2 (pc := 71) S dX0_text_71 ?_
      exact j_iret (pc := 72) S hc_6 hs_7 dX0_text_72 hw
    · have hw := hw.2 c_14
      refine j_ldc (pc := 17) S q331 dX0_text_17 ?_
      refine j_topi (fun x2_35 e_36 => ?_)
      have hw := hw x2_35 e_36
      refine j_ist2 (pc := 19) S dX0_text_19 rfl rfl ?_
      refine j_ald0 (pc := 20) S dX0_text_20 ?_
      refine j_iconst (pc := 21) (v := 0) S dX0_text_21 rfl ?_
      refine c_putI (pc := 22) S 7 rfl rfl rfl rfl rfl q257 dX0_text_22 (fun Y_37 e_38 => ?_)
      have hw := hw Y_37 e_38
      refine j_ild2 (pc := 25) S dX0_text_25 ?_
      exact j_iret (pc := 26) S hc_6 hs_7 dX0_text_26 hw
  · have hw := hw.2
    refine j_ast1 (pc := 73) S dX0_text_73 rfl rfl ?_
    refine j_bipush (pc := 74) (v := (-100)) S dX0_text_74 rfl ?_
    refine j_ald1 (pc := 76) S dX0_text_76 ?_
    obtain ⟨fs_39, f_40, ha, hv, hw⟩ := hw
    refine h_getN (pc := 77) (C := RX2) (T := TX2) (N := 7) S ha 6 rfl in_X2 rfl (cn hC 17 rfl) hv dX0_text_77 ?_
    refine j_isub (pc := 80) S dX0_text_80 ?_
    refine j_topi (fun x2_41 e_42 => ?_)
    have hw := hw x2_41 e_42
    refine j_ist2 (pc := 81) S dX0_text_81 rfl rfl ?_
    refine j_ald0 (pc := 82) S dX0_text_82 ?_
    refine j_iconst (pc := 83) (v := 0) S dX0_text_83 rfl ?_
    refine c_putI (pc := 84) S 7 rfl rfl rfl rfl rfl q257 dX0_text_84 (fun Y_43 e_44 => ?_)
    have hw := hw Y_43 e_44
    refine j_ild2 (pc := 87) S dX0_text_87 ?_
    exact j_iret (pc := 88) S hc_6 hs_7 dX0_text_88 hw

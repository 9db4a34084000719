set_option maxRecDepth 100000
variable {l : Launch} {G : gG} {o : Nat} {ad : Nat → Nat} {J : gJt}
abbrev rgX5 (d : Nat) : Room := { frames := d + 4, cells := 0, slots := 0, locals := 40 * d + 300 }
theorem rg_fG {d : Nat} : Nat.ble ((rgX5 d).frames + 1) (rgX5 (d + 1)).frames = true := Nat.ble_eq_true_of_le (by show d + 4 + 1 ≤ d + 1 + 4; omega)
theorem rg_lG {d n : Nat} (h : Nat.ble n 20 = true) : Nat.ble (8 + (n + 11) + (rgX5 d).locals) (rgX5 (d + 1)).locals = true := Nat.ble_eq_true_of_le (by have := Nat.le_of_ble_eq_true h; show 8 + (n + 11) + (40 * d + 300) ≤ 40 * (d + 1) + 300; omega)
theorem rg_f {d n : Nat} (h : Nat.ble n 4 = true) : Nat.ble n (rgX5 (d + 1)).frames = true := Nat.ble_eq_true_of_le (by have := Nat.le_of_ble_eq_true h; show n ≤ d + 1 + 4; omega)
theorem rg_l {d n : Nat} (h : Nat.ble n 300 = true) : Nat.ble n (rgX5 (d + 1)).locals = true := Nat.ble_eq_true_of_le (by have := Nat.le_of_ble_eq_true h; show n ≤ 40 * (d + 1) + 300; omega)
theorem ydX5_either : yX5_either.cls = RX5 ∧ yX5_either.cls ≠ "java/lang/invoke/MethodHandle" ∧ yX5_either.cls ≠ "java/lang/invoke/VarHandle" ∧ (parseMethodDescriptor yX5_either.desc).map (fun d => d.parameters.length) = some 1 := by decide +kernel
theorem ydX5_both : yX5_both.cls = RX5 ∧ yX5_both.cls ≠ "java/lang/invoke/MethodHandle" ∧ yX5_both.cls ≠ "java/lang/invoke/VarHandle" ∧ (parseMethodDescriptor yX5_both.desc).map (fun d => d.parameters.length) = some 1 := by decide +kernel
theorem ydX5_test : yX5_test.cls = RX5 ∧ yX5_test.cls ≠ "java/lang/invoke/MethodHandle" ∧ yX5_test.cls ≠ "java/lang/invoke/VarHandle" ∧ (parseMethodDescriptor yX5_test.desc).map (fun d => d.parameters.length) = some 1 := by decide +kernel
theorem ydX5_sum : yX5_sum.cls = RX5 ∧ yX5_sum.cls ≠ "java/lang/invoke/MethodHandle" ∧ yX5_sum.cls ≠ "java/lang/invoke/VarHandle" ∧ (parseMethodDescriptor yX5_sum.desc).map (fun d => d.parameters.length) = some 1 := by decide +kernel
theorem ydX5_term : yX5_term.cls = RX5 ∧ yX5_term.cls ≠ "java/lang/invoke/MethodHandle" ∧ yX5_term.cls ≠ "java/lang/invoke/VarHandle" ∧ (parseMethodDescriptor yX5_term.desc).map (fun d => d.parameters.length) = some 1 := by decide +kernel
theorem ydX5_part0 : yX5_part0.cls = RX5 ∧ yX5_part0.cls ≠ "java/lang/invoke/MethodHandle" ∧ yX5_part0.cls ≠ "java/lang/invoke/VarHandle" ∧ (parseMethodDescriptor yX5_part0.desc).map (fun d => d.parameters.length) = some 1 := by decide +kernel
/-! either(I)Z -/
def wX5_either_10 (rc : Nat → (Int32 → gY → Prop) → gY → Int32 → Prop) (K : Int32 → gY → Prop) : Nat → gY → Int32 → Prop
  | 0 => fun _ _ => False
  | n + 1 => fun Y x1 => wpX5_isSign (fun r_1 Y_2 => (((r_1 = 0 → (K 1 Y_2)) ∧ (¬ r_1 = 0 → (wpX5_nextToken (fun Y_5 => (rc 1 (fun r_6 Y_7 => (((¬ r_6 = 0 → (wpX5_step (fun Y_10 => ((wX5_either_10 rc K n) Y_10 x1)) Y_7 (2 : Int32) (124 : Int32))) ∧ (r_6 = 0 → (K 0 Y_7))))) Y_5 x1)) Y_2))))) Y (124 : Int32)
def bpX5_either (rc : Nat → (Int32 → gY → Prop) → gY → Int32 → Prop) (K : Int32 → gY → Prop) (Y : gY) (a1 : Int32) : Prop := rc 1 (fun r_11 Y_12 => (((¬ r_11 = 0 → (∃ fu_14 : Nat, wX5_either_10 rc K fu_14 Y_12 a1)) ∧ (r_11 = 0 → (K 0 Y_12))))) Y a1
theorem kX5_either_10 {rc : Nat → (Int32 → gY → Prop) → gY → Int32 → Prop} {d : Nat} {K : Int32 → gY → Prop} (S : gSt l (rgX5 (d + 1)) cX5_either RX5 "either" 2 (some .boolean) G mL o ad (fun r => some (.int r)) (fun r Y h => h = hN ∧ K r Y) 0 0 J) (ih0 : ∀ (K : Int32 → gY → Prop) (Y : gY) (a1 : Int32), rc 0 K Y a1 → gMet l yX5_either (ws_ yX5_either cX5_either 2 (some .boolean)) (rgX5 d) G mL o ad [.ref o, .int a1] (fun r => some (.int r)) (fun r Y h => h = hN ∧ K r Y) 0 0 Y hN) (ih1 : ∀ (K : Int32 → gY → Prop) (Y : gY) (a1 : Int32), rc 1 K Y a1 → gMet l yX5_both (ws_ yX5_both cX5_both 2 (some .boolean)) (rgX5 d) G mL o ad [.ref o, .int a1] (fun r => some (.int r)) (fun r Y h => h = hN ∧ K r Y) 0 0 Y hN) (ih2 : ∀ (K : Int32 → gY → Prop) (Y : gY) (a1 : Int32), rc 2 K Y a1 → gMet l yX5_test (ws_ yX5_test cX5_test 3 (some .boolean)) (rgX5 d) G mL o ad [.ref o, .int a1] (fun r => some (.int r)) (fun r Y h => h = hN ∧ K r Y) 0 0 Y hN) (ih3 : ∀ (K : Int32 → gY → Prop) (Y : gY) (a1 : Int32), rc 3 K Y a1 → gMet l yX5_sum (ws_ yX5_sum cX5_sum 3 (some .boolean)) (rgX5 d) G mL o ad [.ref o, .int a1] (fun r => some (.int r)) (fun r Y h => h = hN ∧ K r Y) 0 0 Y hN) (ih4 : ∀ (K : Int32 → gY → Prop) (Y : gY) (a1 : Int32), rc 4 K Y a1 → gMet l yX5_term (ws_ yX5_term cX5_term 3 (some .boolean)) (rgX5 d) G mL o ad [.ref o, .int a1] (fun r => some (.int r)) (fun r Y h => h = hN ∧ K r Y) 0 0 Y hN) (ih5 : ∀ (K : Int32 → gY → Prop) (Y : gY) (a1 : Int32), rc 5 K Y a1 → gMet l yX5_part0 (ws_ yX5_part0 cX5_part0 2 (some .boolean)) (rgX5 d) G mL o ad [.ref o, .int a1] (fun r => some (.int r)) (fun r Y h => h = hN ∧ K r Y) 0 0 Y hN) : ∀ (n : Nat) (Y : gY) (x1 : Int32), wX5_either_10 rc K n Y x1 → J Y hN 0 0 10 [some (.ref o), some (.int x1)] [] := by
  intro n
  induction n with
  | zero => intro Y x1 hw; exact hw.elim
  | succ n ih =>
    intro Y x1 hw
    unfold wX5_either_10 at hw
    refine j_ald0 (pc := 10) S dX5_either_10 ?_
    refine j_bipush (pc := 11) (v := 124) S dX5_either_11 rfl ?_
    refine m_callVi (pc := 13) S 1 (wkX5_isSign hw) (lw_V q1586 q1588 qs75 q87 q1589) rfl rfl ydX5_isSign (rg_f rfl) (rg_l rfl) rfl rfl rfl dX5_either_13 rfl rfl (fun r_1 Y_2 hw => ?_)
    refine j_if_eq (pc := 16) (tgt := 43) S dX5_either_16 rfl (fun c_3 => ?_) (fun c_3 => ?_)
    · have hw := hw.1 c_3
      refine j_iconst (pc := 43) (v := 1) S dX5_either_43 rfl ?_
      exact j_zret (pc := 44) S (Nat.le_refl _) (Nat.le_refl _) dX5_either_44 rfl ⟨rfl, hw⟩
    · have hw := hw.2 c_3
      refine j_ald0 (pc := 19) S dX5_either_19 ?_
      refine m_callVv (pc := 20) S 0 (wkX5_nextToken hw) (lw_V q1531 q1533 qs63 q87 q1534) rfl rfl ydX5_nextToken (rg_f rfl) (rg_l rfl) rfl rfl rfl dX5_either_20 rfl rfl (fun Y_5 hw => ?_)
      refine j_ald0 (pc := 23) S dX5_either_23 ?_
      refine j_ild1 (pc := 24) S dX5_either_24 ?_
      refine m_callVi (pc := 25) S 1 (ih1 _ _ _ hw) (lw_V q1559 q1561 qs69 q87 q1562) rfl rfl ydX5_both rg_fG (rg_lG rfl) rfl rfl rfl dX5_either_25 rfl rfl (fun r_6 Y_7 hw => ?_)
      refine j_if_ne (pc := 28) (tgt := 33) S dX5_either_28 rfl (fun c_8 => ?_) (fun c_8 => ?_)
      · have hw := hw.1 c_8
        refine j_ald0 (pc := 33) S dX5_either_33 ?_
        refine j_iconst (pc := 34) (v := 2) S dX5_either_34 rfl ?_
        refine j_bipush (pc := 35) (v := 124) S dX5_either_35 rfl ?_
        refine m_callVv (pc := 37) S 2 (wkX5_step hw) (lw_V q1579 q1581 qs74 q87 q1582) rfl rfl ydX5_step (rg_f rfl) (rg_l rfl) rfl rfl rfl dX5_either_37 rfl rfl (fun Y_10 hw => ?_)
        refine j_goto (pc := 40) (tgt := 10) S dX5_either_40 rfl ?_
        exact j_sub S (ih _ _ hw) (gle_s (gle_s gle_0))
      · have hw := hw.2 c_8
        refine j_iconst (pc := 31) (v := 0) S dX5_either_31 rfl ?_
        exact j_zret (pc := 32) S (Nat.le_refl _) (Nat.le_refl _) dX5_either_32 rfl ⟨rfl, hw⟩
theorem bkX5_either {rc : Nat → (Int32 → gY → Prop) → gY → Int32 → Prop} {d : Nat} {K : Int32 → gY → Prop} {Y : gY} {a1 : Int32} (ih0 : ∀ (K : Int32 → gY → Prop) (Y : gY) (a1 : Int32), rc 0 K Y a1 → gMet l yX5_either (ws_ yX5_either cX5_either 2 (some .boolean)) (rgX5 d) G mL o ad [.ref o, .int a1] (fun r => some (.int r)) (fun r Y h => h = hN ∧ K r Y) 0 0 Y hN) (ih1 : ∀ (K : Int32 → gY → Prop) (Y : gY) (a1 : Int32), rc 1 K Y a1 → gMet l yX5_both (ws_ yX5_both cX5_both 2 (some .boolean)) (rgX5 d) G mL o ad [.ref o, .int a1] (fun r => some (.int r)) (fun r Y h => h = hN ∧ K r Y) 0 0 Y hN) (ih2 : ∀ (K : Int32 → gY → Prop) (Y : gY) (a1 : Int32), rc 2 K Y a1 → gMet l yX5_test (ws_ yX5_test cX5_test 3 (some .boolean)) (rgX5 d) G mL o ad [.ref o, .int a1] (fun r => some (.int r)) (fun r Y h => h = hN ∧ K r Y) 0 0 Y hN) (ih3 : ∀ (K : Int32 → gY → Prop) (Y : gY) (a1 : Int32), rc 3 K Y a1 → gMet l yX5_sum (ws_ yX5_sum cX5_sum 3 (some .boolean)) (rgX5 d) G mL o ad [.ref o, .int a1] (fun r => some (.int r)) (fun r Y h => h = hN ∧ K r Y) 0 0 Y hN) (ih4 : ∀ (K : Int32 → gY → Prop) (Y : gY) (a1 : Int32), rc 4 K Y a1 → gMet l yX5_term (ws_ yX5_term cX5_term 3 (some .boolean)) (rgX5 d) G mL o ad [.ref o, .int a1] (fun r => some (.int r)) (fun r Y h => h = hN ∧ K r Y) 0 0 Y hN) (ih5 : ∀ (K : Int32 → gY → Prop) (Y : gY) (a1 : Int32), rc 5 K Y a1 → gMet l yX5_part0 (ws_ yX5_part0 cX5_part0 2 (some .boolean)) (rgX5 d) G mL o ad [.ref o, .int a1] (fun r => some (.int r)) (fun r Y h => h = hN ∧ K r Y) 0 0 Y hN) (hw : bpX5_either rc K Y a1) : gMet l yX5_either (ws_ yX5_either cX5_either 2 (some .boolean)) (rgX5 (d + 1)) G mL o ad [.ref o, .int a1] (fun r => some (.int r)) (fun r Y h => h = hN ∧ K r Y) 0 0 Y hN := by
  refine gMet.in (lv := [some (.ref o), some (.int a1)]) (by decide) rfl rfl (fun J S => ?_)
  have S : gSt l (rgX5 (d + 1)) cX5_either RX5 "either" 2 (some .boolean) G mL o ad (fun r => some (.int r)) (fun r Y h => h = hN ∧ K r Y) 0 0 J := S
  unfold bpX5_either at hw
  refine j_ald0 (pc := 0) S dX5_either_0 ?_
  refine j_ild1 (pc := 1) S dX5_either_1 ?_
  refine m_callVi (pc := 2) S 1 (ih1 _ _ _ hw) (lw_V q1559 q1561 qs69 q87 q1562) rfl rfl ydX5_both rg_fG (rg_lG rfl) rfl rfl rfl dX5_either_2 rfl rfl (fun r_11 Y_12 hw => ?_)
  refine j_if_ne (pc := 5) (tgt := 10) S dX5_either_5 rfl (fun c_13 => ?_) (fun c_13 => ?_)
  · have hw := hw.1 c_13
    obtain ⟨fu_14, hw⟩ := hw
    exact j_sub S (kX5_either_10 S ih0 ih1 ih2 ih3 ih4 ih5 fu_14 _ _ hw) (gle_s (gle_s gle_0))
  · have hw := hw.2 c_13
    refine j_iconst (pc := 8) (v := 0) S dX5_either_8 rfl ?_
    exact j_zret (pc := 9) S (Nat.le_refl _) (Nat.le_refl _) dX5_either_9 rfl ⟨rfl, hw⟩
/-! both(I)Z -/
def wX5_both_10 (rc : Nat → (Int32 → gY → Prop) → gY → Int32 → Prop) (K : Int32 → gY → Prop) : Nat → gY → Int32 → Prop
  | 0 => fun _ _ => False
  | n + 1 => fun Y x1 => wpX5_isSign (fun r_1 Y_2 => (((r_1 = 0 → (K 1 Y_2)) ∧ (¬ r_1 = 0 → (wpX5_nextToken (fun Y_5 => (rc 2 (fun r_6 Y_7 => (((¬ r_6 = 0 → (wpX5_step (fun Y_10 => ((wX5_both_10 rc K n) Y_10 x1)) Y_7 (2 : Int32) (38 : Int32))) ∧ (r_6 = 0 → (K 0 Y_7))))) Y_5 x1)) Y_2))))) Y (38 : Int32)
def bpX5_both (rc : Nat → (Int32 → gY → Prop) → gY → Int32 → Prop) (K : Int32 → gY → Prop) (Y : gY) (a1 : Int32) : Prop := rc 2 (fun r_11 Y_12 => (((¬ r_11 = 0 → (∃ fu_14 : Nat, wX5_both_10 rc K fu_14 Y_12 a1)) ∧ (r_11 = 0 → (K 0 Y_12))))) Y a1
theorem kX5_both_10 {rc : Nat → (Int32 → gY → Prop) → gY → Int32 → Prop} {d : Nat} {K : Int32 → gY → Prop} (S : gSt l (rgX5 (d + 1)) cX5_both RX5 "both" 2 (some .boolean) G mL o ad (fun r => some (.int r)) (fun r Y h => h = hN ∧ K r Y) 0 0 J) (ih0 : ∀ (K : Int32 → gY → Prop) (Y : gY) (a1 : Int32), rc 0 K Y a1 → gMet l yX5_either (ws_ yX5_either cX5_either 2 (some .boolean)) (rgX5 d) G mL o ad [.ref o, .int a1] (fun r => some (.int r)) (fun r Y h => h = hN ∧ K r Y) 0 0 Y hN) (ih1 : ∀ (K : Int32 → gY → Prop) (Y : gY) (a1 : Int32), rc 1 K Y a1 → gMet l yX5_both (ws_ yX5_both cX5_both 2 (some .boolean)) (rgX5 d) G mL o ad [.ref o, .int a1] (fun r => some (.int r)) (fun r Y h => h = hN ∧ K r Y) 0 0 Y hN) (ih2 : ∀ (K : Int32 → gY → Prop) (Y : gY) (a1 : Int32), rc 2 K Y a1 → gMet l yX5_test (ws_ yX5_test cX5_test 3 (some .boolean)) (rgX5 d) G mL o ad [.ref o, .int a1] (fun r => some (.int r)) (fun r Y h => h = hN ∧ K r Y) 0 0 Y hN) (ih3 : ∀ (K : Int32 → gY → Prop) (Y : gY) (a1 : Int32), rc 3 K Y a1 → gMet l yX5_sum (ws_ yX5_sum cX5_sum 3 (some .boolean)) (rgX5 d) G mL o ad [.ref o, .int a1] (fun r => some (.int r)) (fun r Y h => h = hN ∧ K r Y) 0 0 Y hN) (ih4 : ∀ (K : Int32 → gY → Prop) (Y : gY) (a1 : Int32), rc 4 K Y a1 → gMet l yX5_term (ws_ yX5_term cX5_term 3 (some .boolean)) (rgX5 d) G mL o ad [.ref o, .int a1] (fun r => some (.int r)) (fun r Y h => h = hN ∧ K r Y) 0 0 Y hN) (ih5 : ∀ (K : Int32 → gY → Prop) (Y : gY) (a1 : Int32), rc 5 K Y a1 → gMet l yX5_part0 (ws_ yX5_part0 cX5_part0 2 (some .boolean)) (rgX5 d) G mL o ad [.ref o, .int a1] (fun r => some (.int r)) (fun r Y h => h = hN ∧ K r Y) 0 0 Y hN) : ∀ (n : Nat) (Y : gY) (x1 : Int32), wX5_both_10 rc K n Y x1 → J Y hN 0 0 10 [some (.ref o), some (.int x1)] [] := by
  intro n
  induction n with
  | zero => intro Y x1 hw; exact hw.elim
  | succ n ih =>
    intro Y x1 hw
    unfold wX5_both_10 at hw
    refine j_ald0 (pc := 10) S dX5_both_10 ?_
    refine j_bipush (pc := 11) (v := 38) S dX5_both_11 rfl ?_
    refine m_callVi (pc := 13) S 1 (wkX5_isSign hw) (lw_V q1586 q1588 qs75 q87 q1589) rfl rfl ydX5_isSign (rg_f rfl) (rg_l rfl) rfl rfl rfl dX5_both_13 rfl rfl (fun r_1 Y_2 hw => ?_)
    refine j_if_eq (pc := 16) (tgt := 43) S dX5_both_16 rfl (fun c_3 => ?_) (fun c_3 => ?_)
    · have hw := hw.1 c_3
      refine j_iconst (pc := 43) (v := 1) S dX5_both_43 rfl ?_
      exact j_zret (pc := 44) S (Nat.le_refl _) (Nat.le_refl _) dX5_both_44 rfl ⟨rfl, hw⟩
    · have hw := hw.2 c_3
      refine j_ald0 (pc := 19) S dX5_both_19 ?_
      refine m_callVv (pc := 20) S 0 (wkX5_nextToken hw) (lw_V q1531 q1533 qs63 q87 q1534) rfl rfl ydX5_nextToken (rg_f rfl) (rg_l rfl) rfl rfl rfl dX5_both_20 rfl rfl (fun Y_5 hw => ?_)
      refine j_ald0 (pc := 23) S dX5_both_23 ?_
      refine j_ild1 (pc := 24) S dX5_both_24 ?_
      refine m_callVi (pc := 25) S 1 (ih2 _ _ _ hw) (lw_V q1563 q1565 qs70 q87 q1566) rfl rfl ydX5_test rg_fG (rg_lG rfl) rfl rfl rfl dX5_both_25 rfl rfl (fun r_6 Y_7 hw => ?_)
      refine j_if_ne (pc := 28) (tgt := 33) S dX5_both_28 rfl (fun c_8 => ?_) (fun c_8 => ?_)
      · have hw := hw.1 c_8
        refine j_ald0 (pc := 33) S dX5_both_33 ?_
        refine j_iconst (pc := 34) (v := 2) S dX5_both_34 rfl ?_
        refine j_bipush (pc := 35) (v := 38) S dX5_both_35 rfl ?_
        refine m_callVv (pc := 37) S 2 (wkX5_step hw) (lw_V q1579 q1581 qs74 q87 q1582) rfl rfl ydX5_step (rg_f rfl) (rg_l rfl) rfl rfl rfl dX5_both_37 rfl rfl (fun Y_10 hw => ?_)
        refine j_goto (pc := 40) (tgt := 10) S dX5_both_40 rfl ?_
        exact j_sub S (ih _ _ hw) (gle_s (gle_s gle_0))
      · have hw := hw.2 c_8
        refine j_iconst (pc := 31) (v := 0) S dX5_both_31 rfl ?_
        exact j_zret (pc := 32) S (Nat.le_refl _) (Nat.le_refl _) dX5_both_32 rfl ⟨rfl, hw⟩
theorem bkX5_both {rc : Nat → (Int32 → gY → Prop) → gY → Int32 → Prop} {d : Nat} {K : Int32 → gY → Prop} {Y : gY} {a1 : Int32} (ih0 : ∀ (K : Int32 → gY → Prop) (Y : gY) (a1 : Int32), rc 0 K Y a1 → gMet l yX5_either (ws_ yX5_either cX5_either 2 (some .boolean)) (rgX5 d) G mL o ad [.ref o, .int a1] (fun r => some (.int r)) (fun r Y h => h = hN ∧ K r Y) 0 0 Y hN) (ih1 : ∀ (K : Int32 → gY → Prop) (Y : gY) (a1 : Int32), rc 1 K Y a1 → gMet l yX5_both (ws_ yX5_both cX5_both 2 (some .boolean)) (rgX5 d) G mL o ad [.ref o, .int a1] (fun r => some (.int r)) (fun r Y h => h = hN ∧ K r Y) 0 0 Y hN) (ih2 : ∀ (K : Int32 → gY → Prop) (Y : gY) (a1 : Int32), rc 2 K Y a1 → gMet l yX5_test (ws_ yX5_test cX5_test 3 (some .boolean)) (rgX5 d) G mL o ad [.ref o, .int a1] (fun r => some (.int r)) (fun r Y h => h = hN ∧ K r Y) 0 0 Y hN) (ih3 : ∀ (K : Int32 → gY → Prop) (Y : gY) (a1 : Int32), rc 3 K Y a1 → gMet l yX5_sum (ws_ yX5_sum cX5_sum 3 (some .boolean)) (rgX5 d) G mL o ad [.ref o, .int a1] (fun r => some (.int r)) (fun r Y h => h = hN ∧ K r Y) 0 0 Y hN) (ih4 : ∀ (K : Int32 → gY → Prop) (Y : gY) (a1 : Int32), rc 4 K Y a1 → gMet l yX5_term (ws_ yX5_term cX5_term 3 (some .boolean)) (rgX5 d) G mL o ad [.ref o, .int a1] (fun r => some (.int r)) (fun r Y h => h = hN ∧ K r Y) 0 0 Y hN) (ih5 : ∀ (K : Int32 → gY → Prop) (Y : gY) (a1 : Int32), rc 5 K Y a1 → gMet l yX5_part0 (ws_ yX5_part0 cX5_part0 2 (some .boolean)) (rgX5 d) G mL o ad [.ref o, .int a1] (fun r => some (.int r)) (fun r Y h => h = hN ∧ K r Y) 0 0 Y hN) (hw : bpX5_both rc K Y a1) : gMet l yX5_both (ws_ yX5_both cX5_both 2 (some .boolean)) (rgX5 (d + 1)) G mL o ad [.ref o, .int a1] (fun r => some (.int r)) (fun r Y h => h = hN ∧ K r Y) 0 0 Y hN := by
  refine gMet.in (lv := [some (.ref o), some (.int a1)]) (by decide) rfl rfl (fun J S => ?_)
  have S : gSt l (rgX5 (d + 1)) cX5_both RX5 "both" 2 (some .boolean) G mL o ad (fun r => some (.int r)) (fun r Y h => h = hN ∧ K r Y) 0 0 J := S
  unfold bpX5_both at hw
  refine j_ald0 (pc := 0) S dX5_both_0 ?_
  refine j_ild1 (pc := 1) S dX5_both_1 ?_
  refine m_callVi (pc := 2) S 1 (ih2 _ _ _ hw) (lw_V q1563 q1565 qs70 q87 q1566) rfl rfl ydX5_test rg_fG (rg_lG rfl) rfl rfl rfl dX5_both_2 rfl rfl (fun r_11 Y_12 hw => ?_)
  refine j_if_ne (pc := 5) (tgt := 10) S dX5_both_5 rfl (fun c_13 => ?_) (fun c_13 => ?_)
  · have hw := hw.1 c_13
    obtain ⟨fu_14, hw⟩ := hw
    exact j_sub S (kX5_both_10 S ih0 ih1 ih2 ih3 ih4 ih5 fu_14 _ _ hw) (gle_s (gle_s gle_0))
  · have hw := hw.2 c_13
    refine j_iconst (pc := 8) (v := 0) S dX5_both_8 rfl ?_
    exact j_zret (pc := 9) S (Nat.le_refl _) (Nat.le_refl _) dX5_both_9 rfl ⟨rfl, hw⟩
/-! test(I)Z -/
def wX5_test_37 (rc : Nat → (Int32 → gY → Prop) → gY → Int32 → Prop) (K : Int32 → gY → Prop) (Y : gY) (x1 : Int32) : Prop := ∀ x2_1 : Int32, x2_1 = Y 21 0 → (wpX5_nextToken (fun Y_4 => (rc 3 (fun r_5 Y_6 => (((¬ r_5 = 0 → (wpX5_step (fun Y_9 => (K 1 Y_9)) Y_6 (2 : Int32) x2_1)) ∧ (r_5 = 0 → (K 0 Y_6))))) Y_4 x1)) Y)
def bpX5_test (rc : Nat → (Int32 → gY → Prop) → gY → Int32 → Prop) (K : Int32 → gY → Prop) (Y : gY) (a1 : Int32) : Prop := rc 3 (fun r_10 Y_11 => (((¬ r_10 = 0 → (wpX5_isSign (fun r_13 Y_14 => (((¬ r_13 = 0 → (wX5_test_37 rc K Y_14 a1)) ∧ (r_13 = 0 → (wpX5_isSign (fun r_16 Y_17 => (((¬ r_16 = 0 → (wX5_test_37 rc K Y_17 a1)) ∧ (r_16 = 0 → (wpX5_isSign (fun r_19 Y_20 => (((r_19 = 0 → (K 1 Y_20)) ∧ (¬ r_19 = 0 → (wX5_test_37 rc K Y_20 a1))))) Y_17 (62 : Int32)))))) Y_14 (61 : Int32)))))) Y_11 (60 : Int32))) ∧ (r_10 = 0 → (K 0 Y_11))))) Y a1
theorem kX5_test_37 {rc : Nat → (Int32 → gY → Prop) → gY → Int32 → Prop} {d : Nat} {K : Int32 → gY → Prop} (S : gSt l (rgX5 (d + 1)) cX5_test RX5 "test" 3 (some .boolean) G mL o ad (fun r => some (.int r)) (fun r Y h => h = hN ∧ K r Y) 0 0 J) (ih0 : ∀ (K : Int32 → gY → Prop) (Y : gY) (a1 : Int32), rc 0 K Y a1 → gMet l yX5_either (ws_ yX5_either cX5_either 2 (some .boolean)) (rgX5 d) G mL o ad [.ref o, .int a1] (fun r => some (.int r)) (fun r Y h => h = hN ∧ K r Y) 0 0 Y hN) (ih1 : ∀ (K : Int32 → gY → Prop) (Y : gY) (a1 : Int32), rc 1 K Y a1 → gMet l yX5_both (ws_ yX5_both cX5_both 2 (some .boolean)) (rgX5 d) G mL o ad [.ref o, .int a1] (fun r => some (.int r)) (fun r Y h => h = hN ∧ K r Y) 0 0 Y hN) (ih2 : ∀ (K : Int32 → gY → Prop) (Y : gY) (a1 : Int32), rc 2 K Y a1 → gMet l yX5_test (ws_ yX5_test cX5_test 3 (some .boolean)) (rgX5 d) G mL o ad [.ref o, .int a1] (fun r => some (.int r)) (fun r Y h => h = hN ∧ K r Y) 0 0 Y hN) (ih3 : ∀ (K : Int32 → gY → Prop) (Y : gY) (a1 : Int32), rc 3 K Y a1 → gMet l yX5_sum (ws_ yX5_sum cX5_sum 3 (some .boolean)) (rgX5 d) G mL o ad [.ref o, .int a1] (fun r => some (.int r)) (fun r Y h => h = hN ∧ K r Y) 0 0 Y hN) (ih4 : ∀ (K : Int32 → gY → Prop) (Y : gY) (a1 : Int32), rc 4 K Y a1 → gMet l yX5_term (ws_ yX5_term cX5_term 3 (some .boolean)) (rgX5 d) G mL o ad [.ref o, .int a1] (fun r => some (.int r)) (fun r Y h => h = hN ∧ K r Y) 0 0 Y hN) (ih5 : ∀ (K : Int32 → gY → Prop) (Y : gY) (a1 : Int32), rc 5 K Y a1 → gMet l yX5_part0 (ws_ yX5_part0 cX5_part0 2 (some .boolean)) (rgX5 d) G mL o ad [.ref o, .int a1] (fun r => some (.int r)) (fun r Y h => h = hN ∧ K r Y) 0 0 Y hN) {Y : gY} {x1 : Int32} (hw : wX5_test_37 rc K Y x1) : J Y hN 0 0 37 [some (.ref o), some (.int x1), none] [] := by
  unfold wX5_test_37 at hw
  refine j_ald0 (pc := 37) S dX5_test_37 ?_
  refine m_getI (pc := 38) S 21 rfl rfl q1215 dX5_test_38 ?_
  refine j_topi (fun x2_1 e_2 => ?_)
  have hw := hw x2_1 e_2
  refine j_ist2 (pc := 41) S dX5_test_41 rfl rfl ?_
  refine j_ald0 (pc := 42) S dX5_test_42 ?_
  refine m_callVv (pc := 43) S 0 (wkX5_nextToken hw) (lw_V q1531 q1533 qs63 q87 q1534) rfl rfl ydX5_nextToken (rg_f rfl) (rg_l rfl) rfl rfl rfl dX5_test_43 rfl rfl (fun Y_4 hw => ?_)
  refine j_ald0 (pc := 46) S dX5_test_46 ?_
  refine j_ild1 (pc := 47) S dX5_test_47 ?_
  refine m_callVi (pc := 48) S 1 (ih3 _ _ _ hw) (lw_V q1567 q1569 qs71 q87 q1570) rfl rfl ydX5_sum rg_fG (rg_lG rfl) rfl rfl rfl dX5_test_48 rfl rfl (fun r_5 Y_6 hw => ?_)
  refine j_if_ne (pc := 51) (tgt := 56) S dX5_test_51 rfl (fun c_7 => ?_) (fun c_7 => ?_)
  · have hw := hw.1 c_7
    refine j_ald0 (pc := 56) S dX5_test_56 ?_
    refine j_iconst (pc := 57) (v := 2) S dX5_test_57 rfl ?_
    refine j_ild2 (pc := 58) S dX5_test_58 ?_
    refine m_callVv (pc := 59) S 2 (wkX5_step hw) (lw_V q1579 q1581 qs74 q87 q1582) rfl rfl ydX5_step (rg_f rfl) (rg_l rfl) rfl rfl rfl dX5_test_59 rfl rfl (fun Y_9 hw => ?_)
    refine j_iconst (pc := 62) (v := 1) S dX5_test_62 rfl ?_
    exact j_zret (pc := 63) S (Nat.le_refl _) (Nat.le_refl _) dX5_test_63 rfl ⟨rfl, hw⟩
  · have hw := hw.2 c_7
    refine j_iconst (pc := 54) (v := 0) S dX5_test_54 rfl ?_
    exact j_zret (pc := 55) S (Nat.le_refl _) (Nat.le_refl _) dX5_test_55 rfl ⟨rfl, hw⟩
theorem bkX5_test {rc : Nat → (Int32 → gY → Prop) → gY → Int32 → Prop} {d : Nat} {K : Int32 → gY → Prop} {Y : gY} {a1 : Int32} (ih0 : ∀ (K : Int32 → gY → Prop) (Y : gY) (a1 : Int32), rc 0 K Y a1 → gMet l yX5_either (ws_ yX5_either cX5_either 2 (some .boolean)) (rgX5 d) G mL o ad [.ref o, .int a1] (fun r => some (.int r)) (fun r Y h => h = hN ∧ K r Y) 0 0 Y hN) (ih1 : ∀ (K : Int32 → gY → Prop) (Y : gY) (a1 : Int32), rc 1 K Y a1 → gMet l yX5_both (ws_ yX5_both cX5_both 2 (some .boolean)) (rgX5 d) G mL o ad [.ref o, .int a1] (fun r => some (.int r)) (fun r Y h => h = hN ∧ K r Y) 0 0 Y hN) (ih2 : ∀ (K : Int32 → gY → Prop) (Y : gY) (a1 : Int32), rc 2 K Y a1 → gMet l yX5_test (ws_ yX5_test cX5_test 3 (some .boolean)) (rgX5 d) G mL o ad [.ref o, .int a1] (fun r => some (.int r)) (fun r Y h => h = hN ∧ K r Y) 0 0 Y hN) (ih3 : ∀ (K : Int32 → gY → Prop) (Y : gY) (a1 : Int32), rc 3 K Y a1 → gMet l yX5_sum (ws_ yX5_sum cX5_sum 3 (some .boolean)) (rgX5 d) G mL o ad [.ref o, .int a1] (fun r => some (.int r)) (fun r Y h => h = hN ∧ K r Y) 0 0 Y hN) (ih4 : ∀ (K : Int32 → gY → Prop) (Y : gY) (a1 : Int32), rc 4 K Y a1 → gMet l yX5_term (ws_ yX5_term cX5_term 3 (some .boolean)) (rgX5 d) G mL o ad [.ref o, .int a1] (fun r => some (.int r)) (fun r Y h => h = hN ∧ K r Y) 0 0 Y hN) (ih5 : ∀ (K : Int32 → gY → Prop) (Y : gY) (a1 : Int32), rc 5 K Y a1 → gMet l yX5_part0 (ws_ yX5_part0 cX5_part0 2 (some .boolean)) (rgX5 d) G mL o ad [.ref o, .int a1] (fun r => some (.int r)) (fun r Y h => h = hN ∧ K r Y) 0 0 Y hN) (hw : bpX5_test rc K Y a1) : gMet l yX5_test (ws_ yX5_test cX5_test 3 (some .boolean)) (rgX5 (d + 1)) G mL o ad [.ref o, .int a1] (fun r => some (.int r)) (fun r Y h => h = hN ∧ K r Y) 0 0 Y hN := by
  refine gMet.in (lv := [some (.ref o), some (.int a1), none]) (by decide) rfl rfl (fun J S => ?_)
  have S : gSt l (rgX5 (d + 1)) cX5_test RX5 "test" 3 (some .boolean) G mL o ad (fun r => some (.int r)) (fun r Y h => h = hN ∧ K r Y) 0 0 J := S
  unfold bpX5_test at hw
  refine j_ald0 (pc := 0) S dX5_test_0 ?_
  refine j_ild1 (pc := 1) S dX5_test_1 ?_
  refine m_callVi (pc := 2) S 1 (ih3 _ _ _ hw) (lw_V q1567 q1569 qs71 q87 q1570) rfl rfl ydX5_sum rg_fG (rg_lG rfl) rfl rfl rfl dX5_test_2 rfl rfl (fun r_10 Y_11 hw => ?_)
  refine j_if_ne (pc := 5) (tgt := 10) S dX5_test_5 rfl (fun c_12 => ?_) (fun c_12 => ?_)
  · have hw := hw.1 c_12
    refine j_ald0 (pc := 10) S dX5_test_10 ?_
    refine j_bipush (pc := 11) (v := 60) S dX5_test_11 rfl ?_
    refine m_callVi (pc := 13) S 1 (wkX5_isSign hw) (lw_V q1586 q1588 qs75 q87 q1589) rfl rfl ydX5_isSign (rg_f rfl) (rg_l rfl) rfl rfl rfl dX5_test_13 rfl rfl (fun r_13 Y_14 hw => ?_)
    refine j_if_ne (pc := 16) (tgt := 37) S dX5_test_16 rfl (fun c_15 => ?_) (fun c_15 => ?_)
    · have hw := hw.1 c_15
      exact j_sub S (kX5_test_37 S ih0 ih1 ih2 ih3 ih4 ih5 hw) (gle_s (gle_s (gle_n gle_0)))
    · have hw := hw.2 c_15
      refine j_ald0 (pc := 19) S dX5_test_19 ?_
      refine j_bipush (pc := 20) (v := 61) S dX5_test_20 rfl ?_
      refine m_callVi (pc := 22) S 1 (wkX5_isSign hw) (lw_V q1586 q1588 qs75 q87 q1589) rfl rfl ydX5_isSign (rg_f rfl) (rg_l rfl) rfl rfl rfl dX5_test_22 rfl rfl (fun r_16 Y_17 hw => ?_)
      refine j_if_ne (pc := 25) (tgt := 37) S dX5_test_25 rfl (fun c_18 => ?_) (fun c_18 => ?_)
      · have hw := hw.1 c_18
        exact j_sub S (kX5_test_37 S ih0 ih1 ih2 ih3 ih4 ih5 hw) (gle_s (gle_s (gle_n gle_0)))
      · have hw := hw.2 c_18
        refine j_ald0 (pc := 28) S dX5_test_28 ?_
        refine j_bipush (pc := 29) (v := 62) S dX5_test_29 rfl ?_
        refine m_callVi (pc := 31) S 1 (wkX5_isSign hw) (lw_V q1586 q1588 qs75 q87 q1589) rfl rfl ydX5_isSign (rg_f rfl) (rg_l rfl) rfl rfl rfl dX5_test_31 rfl rfl (fun r_19 Y_20 hw => ?_)
        refine j_if_eq (pc := 34) (tgt := 62) S dX5_test_34 rfl (fun c_21 => ?_) (fun c_21 => ?_)
        · have hw := hw.1 c_21
          refine j_iconst (pc := 62) (v := 1) S dX5_test_62 rfl ?_
          exact j_zret (pc := 63) S (Nat.le_refl _) (Nat.le_refl _) dX5_test_63 rfl ⟨rfl, hw⟩
        · have hw := hw.2 c_21
          exact j_sub S (kX5_test_37 S ih0 ih1 ih2 ih3 ih4 ih5 hw) (gle_s (gle_s (gle_n gle_0)))
  · have hw := hw.2 c_12
    refine j_iconst (pc := 8) (v := 0) S dX5_test_8 rfl ?_
    exact j_zret (pc := 9) S (Nat.le_refl _) (Nat.le_refl _) dX5_test_9 rfl ⟨rfl, hw⟩
/-! sum(I)Z -/
def wX5_sum_28 (rc : Nat → (Int32 → gY → Prop) → gY → Int32 → Prop) (K : Int32 → gY → Prop) (J10 : gY → Int32 → Prop) (Y : gY) (x1 : Int32) : Prop := ∀ x2_1 : Int32, x2_1 = Y 21 0 → (wpX5_nextToken (fun Y_4 => (rc 4 (fun r_5 Y_6 => (((¬ r_5 = 0 → (wpX5_step (fun Y_9 => (J10 Y_9 x1)) Y_6 (2 : Int32) x2_1)) ∧ (r_5 = 0 → (K 0 Y_6))))) Y_4 x1)) Y)
def wX5_sum_10 (rc : Nat → (Int32 → gY → Prop) → gY → Int32 → Prop) (K : Int32 → gY → Prop) : Nat → gY → Int32 → Prop
  | 0 => fun _ _ => False
  | n + 1 => fun Y x1 => wpX5_isSign (fun r_10 Y_11 => (((¬ r_10 = 0 → (wX5_sum_28 rc K (wX5_sum_10 rc K n) Y_11 x1)) ∧ (r_10 = 0 → (wpX5_isSign (fun r_13 Y_14 => (((r_13 = 0 → (K 1 Y_14)) ∧ (¬ r_13 = 0 → (wX5_sum_28 rc K (wX5_sum_10 rc K n) Y_14 x1))))) Y_11 (45 : Int32)))))) Y (43 : Int32)
def bpX5_sum (rc : Nat → (Int32 → gY → Prop) → gY → Int32 → Prop) (K : Int32 → gY → Prop) (Y : gY) (a1 : Int32) : Prop := rc 4 (fun r_16 Y_17 => (((¬ r_16 = 0 → (∃ fu_19 : Nat, wX5_sum_10 rc K fu_19 Y_17 a1)) ∧ (r_16 = 0 → (K 0 Y_17))))) Y a1
theorem kX5_sum_28 {rc : Nat → (Int32 → gY → Prop) → gY → Int32 → Prop} {d : Nat} {K : Int32 → gY → Prop} (S : gSt l (rgX5 (d + 1)) cX5_sum RX5 "sum" 3 (some .boolean) G mL o ad (fun r => some (.int r)) (fun r Y h => h = hN ∧ K r Y) 0 0 J) (ih0 : ∀ (K : Int32 → gY → Prop) (Y : gY) (a1 : Int32), rc 0 K Y a1 → gMet l yX5_either (ws_ yX5_either cX5_either 2 (some .boolean)) (rgX5 d) G mL o ad [.ref o, .int a1] (fun r => some (.int r)) (fun r Y h => h = hN ∧ K r Y) 0 0 Y hN) (ih1 : ∀ (K : Int32 → gY → Prop) (Y : gY) (a1 : Int32), rc 1 K Y a1 → gMet l yX5_both (ws_ yX5_both cX5_both 2 (some .boolean)) (rgX5 d) G mL o ad [.ref o, .int a1] (fun r => some (.int r)) (fun r Y h => h = hN ∧ K r Y) 0 0 Y hN) (ih2 : ∀ (K : Int32 → gY → Prop) (Y : gY) (a1 : Int32), rc 2 K Y a1 → gMet l yX5_test (ws_ yX5_test cX5_test 3 (some .boolean)) (rgX5 d) G mL o ad [.ref o, .int a1] (fun r => some (.int r)) (fun r Y h => h = hN ∧ K r Y) 0 0 Y hN) (ih3 : ∀ (K : Int32 → gY → Prop) (Y : gY) (a1 : Int32), rc 3 K Y a1 → gMet l yX5_sum (ws_ yX5_sum cX5_sum 3 (some .boolean)) (rgX5 d) G mL o ad [.ref o, .int a1] (fun r => some (.int r)) (fun r Y h => h = hN ∧ K r Y) 0 0 Y hN) (ih4 : ∀ (K : Int32 → gY → Prop) (Y : gY) (a1 : Int32), rc 4 K Y a1 → gMet l yX5_term (ws_ yX5_term cX5_term 3 (some .boolean)) (rgX5 d) G mL o ad [.ref o, .int a1] (fun r => some (.int r)) (fun r Y h => h = hN ∧ K r Y) 0 0 Y hN) (ih5 : ∀ (K : Int32 → gY → Prop) (Y : gY) (a1 : Int32), rc 5 K Y a1 → gMet l yX5_part0 (ws_ yX5_part0 cX5_part0 2 (some .boolean)) (rgX5 d) G mL o ad [.ref o, .int a1] (fun r => some (.int r)) (fun r Y h => h = hN ∧ K r Y) 0 0 Y hN) {J10 : gY → Int32 → Prop} (h10 : ∀ (Y : gY) (x1 : Int32), J10 Y x1 → J Y hN 0 0 10 [some (.ref o), some (.int x1), none] []) {Y : gY} {x1 : Int32} (hw : wX5_sum_28 rc K J10 Y x1) : J Y hN 0 0 28 [some (.ref o), some (.int x1), none] [] := by
  unfold wX5_sum_28 at hw
  refine j_ald0 (pc := 28) S dX5_sum_28 ?_
  refine m_getI (pc := 29) S 21 rfl rfl q1215 dX5_sum_29 ?_
  refine j_topi (fun x2_1 e_2 => ?_)
  have hw := hw x2_1 e_2
  refine j_ist2 (pc := 32) S dX5_sum_32 rfl rfl ?_
  refine j_ald0 (pc := 33) S dX5_sum_33 ?_
  refine m_callVv (pc := 34) S 0 (wkX5_nextToken hw) (lw_V q1531 q1533 qs63 q87 q1534) rfl rfl ydX5_nextToken (rg_f rfl) (rg_l rfl) rfl rfl rfl dX5_sum_34 rfl rfl (fun Y_4 hw => ?_)
  refine j_ald0 (pc := 37) S dX5_sum_37 ?_
  refine j_ild1 (pc := 38) S dX5_sum_38 ?_
  refine m_callVi (pc := 39) S 1 (ih4 _ _ _ hw) (lw_V q1571 q1573 qs72 q87 q1574) rfl rfl ydX5_term rg_fG (rg_lG rfl) rfl rfl rfl dX5_sum_39 rfl rfl (fun r_5 Y_6 hw => ?_)
  refine j_if_ne (pc := 42) (tgt := 47) S dX5_sum_42 rfl (fun c_7 => ?_) (fun c_7 => ?_)
  · have hw := hw.1 c_7
    refine j_ald0 (pc := 47) S dX5_sum_47 ?_
    refine j_iconst (pc := 48) (v := 2) S dX5_sum_48 rfl ?_
    refine j_ild2 (pc := 49) S dX5_sum_49 ?_
    refine m_callVv (pc := 50) S 2 (wkX5_step hw) (lw_V q1579 q1581 qs74 q87 q1582) rfl rfl ydX5_step (rg_f rfl) (rg_l rfl) rfl rfl rfl dX5_sum_50 rfl rfl (fun Y_9 hw => ?_)
    refine j_goto (pc := 53) (tgt := 10) S dX5_sum_53 rfl ?_
    exact j_sub S (h10 _ _ hw) (gle_s (gle_s (gle_n gle_0)))
  · have hw := hw.2 c_7
    refine j_iconst (pc := 45) (v := 0) S dX5_sum_45 rfl ?_
    exact j_zret (pc := 46) S (Nat.le_refl _) (Nat.le_refl _) dX5_sum_46 rfl ⟨rfl, hw⟩
theorem kX5_sum_10 {rc : Nat → (Int32 → gY → Prop) → gY → Int32 → Prop} {d : Nat} {K : Int32 → gY → Prop} (S : gSt l (rgX5 (d + 1)) cX5_sum RX5 "sum" 3 (some .boolean) G mL o ad (fun r => some (.int r)) (fun r Y h => h = hN ∧ K r Y) 0 0 J) (ih0 : ∀ (K : Int32 → gY → Prop) (Y : gY) (a1 : Int32), rc 0 K Y a1 → gMet l yX5_either (ws_ yX5_either cX5_either 2 (some .boolean)) (rgX5 d) G mL o ad [.ref o, .int a1] (fun r => some (.int r)) (fun r Y h => h = hN ∧ K r Y) 0 0 Y hN) (ih1 : ∀ (K : Int32 → gY → Prop) (Y : gY) (a1 : Int32), rc 1 K Y a1 → gMet l yX5_both (ws_ yX5_both cX5_both 2 (some .boolean)) (rgX5 d) G mL o ad [.ref o, .int a1] (fun r => some (.int r)) (fun r Y h => h = hN ∧ K r Y) 0 0 Y hN) (ih2 : ∀ (K : Int32 → gY → Prop) (Y : gY) (a1 : Int32), rc 2 K Y a1 → gMet l yX5_test (ws_ yX5_test cX5_test 3 (some .boolean)) (rgX5 d) G mL o ad [.ref o, .int a1] (fun r => some (.int r)) (fun r Y h => h = hN ∧ K r Y) 0 0 Y hN) (ih3 : ∀ (K : Int32 → gY → Prop) (Y : gY) (a1 : Int32), rc 3 K Y a1 → gMet l yX5_sum (ws_ yX5_sum cX5_sum 3 (some .boolean)) (rgX5 d) G mL o ad [.ref o, .int a1] (fun r => some (.int r)) (fun r Y h => h = hN ∧ K r Y) 0 0 Y hN) (ih4 : ∀ (K : Int32 → gY → Prop) (Y : gY) (a1 : Int32), rc 4 K Y a1 → gMet l yX5_term (ws_ yX5_term cX5_term 3 (some .boolean)) (rgX5 d) G mL o ad [.ref o, .int a1] (fun r => some (.int r)) (fun r Y h => h = hN ∧ K r Y) 0 0 Y hN) (ih5 : ∀ (K : Int32 → gY → Prop) (Y : gY) (a1 : Int32), rc 5 K Y a1 → gMet l yX5_part0 (ws_ yX5_part0 cX5_part0 2 (some .boolean)) (rgX5 d) G mL o ad [.ref o, .int a1] (fun r => some (.int r)) (fun r Y h => h = hN ∧ K r Y) 0 0 Y hN) : ∀ (n : Nat) (Y : gY) (x1 : Int32), wX5_sum_10 rc K n Y x1 → J Y hN 0 0 10 [some (.ref o), some (.int x1), none] [] := by
  intro n
  induction n with
  | zero => intro Y x1 hw; exact hw.elim
  | succ n ih =>
    intro Y x1 hw
    unfold wX5_sum_10 at hw
    refine j_ald0 (pc := 10) S dX5_sum_10 ?_
    refine j_bipush (pc := 11) (v := 43) S dX5_sum_11 rfl ?_
    refine m_callVi (pc := 13) S 1 (wkX5_isSign hw) (lw_V q1586 q1588 qs75 q87 q1589) rfl rfl ydX5_isSign (rg_f rfl) (rg_l rfl) rfl rfl rfl dX5_sum_13 rfl rfl (fun r_10 Y_11 hw => ?_)
    refine j_if_ne (pc := 16) (tgt := 28) S dX5_sum_16 rfl (fun c_12 => ?_) (fun c_12 => ?_)
    · have hw := hw.1 c_12
      exact j_sub S (kX5_sum_28 S ih0 ih1 ih2 ih3 ih4 ih5 ih hw) (gle_s (gle_s (gle_n gle_0)))
    · have hw := hw.2 c_12
      refine j_ald0 (pc := 19) S dX5_sum_19 ?_
      refine j_bipush (pc := 20) (v := 45) S dX5_sum_20 rfl ?_
      refine m_callVi (pc := 22) S 1 (wkX5_isSign hw) (lw_V q1586 q1588 qs75 q87 q1589) rfl rfl ydX5_isSign (rg_f rfl) (rg_l rfl) rfl rfl rfl dX5_sum_22 rfl rfl (fun r_13 Y_14 hw => ?_)
      refine j_if_eq (pc := 25) (tgt := 56) S dX5_sum_25 rfl (fun c_15 => ?_) (fun c_15 => ?_)
      · have hw := hw.1 c_15
        refine j_iconst (pc := 56) (v := 1) S dX5_sum_56 rfl ?_
        exact j_zret (pc := 57) S (Nat.le_refl _) (Nat.le_refl _) dX5_sum_57 rfl ⟨rfl, hw⟩
      · have hw := hw.2 c_15
        exact j_sub S (kX5_sum_28 S ih0 ih1 ih2 ih3 ih4 ih5 ih hw) (gle_s (gle_s (gle_n gle_0)))
theorem bkX5_sum {rc : Nat → (Int32 → gY → Prop) → gY → Int32 → Prop} {d : Nat} {K : Int32 → gY → Prop} {Y : gY} {a1 : Int32} (ih0 : ∀ (K : Int32 → gY → Prop) (Y : gY) (a1 : Int32), rc 0 K Y a1 → gMet l yX5_either (ws_ yX5_either cX5_either 2 (some .boolean)) (rgX5 d) G mL o ad [.ref o, .int a1] (fun r => some (.int r)) (fun r Y h => h = hN ∧ K r Y) 0 0 Y hN) (ih1 : ∀ (K : Int32 → gY → Prop) (Y : gY) (a1 : Int32), rc 1 K Y a1 → gMet l yX5_both (ws_ yX5_both cX5_both 2 (some .boolean)) (rgX5 d) G mL o ad [.ref o, .int a1] (fun r => some (.int r)) (fun r Y h => h = hN ∧ K r Y) 0 0 Y hN) (ih2 : ∀ (K : Int32 → gY → Prop) (Y : gY) (a1 : Int32), rc 2 K Y a1 → gMet l yX5_test (ws_ yX5_test cX5_test 3 (some .boolean)) (rgX5 d) G mL o ad [.ref o, .int a1] (fun r => some (.int r)) (fun r Y h => h = hN ∧ K r Y) 0 0 Y hN) (ih3 : ∀ (K : Int32 → gY → Prop) (Y : gY) (a1 : Int32), rc 3 K Y a1 → gMet l yX5_sum (ws_ yX5_sum cX5_sum 3 (some .boolean)) (rgX5 d) G mL o ad [.ref o, .int a1] (fun r => some (.int r)) (fun r Y h => h = hN ∧ K r Y) 0 0 Y hN) (ih4 : ∀ (K : Int32 → gY → Prop) (Y : gY) (a1 : Int32), rc 4 K Y a1 → gMet l yX5_term (ws_ yX5_term cX5_term 3 (some .boolean)) (rgX5 d) G mL o ad [.ref o, .int a1] (fun r => some (.int r)) (fun r Y h => h = hN ∧ K r Y) 0 0 Y hN) (ih5 : ∀ (K : Int32 → gY → Prop) (Y : gY) (a1 : Int32), rc 5 K Y a1 → gMet l yX5_part0 (ws_ yX5_part0 cX5_part0 2 (some .boolean)) (rgX5 d) G mL o ad [.ref o, .int a1] (fun r => some (.int r)) (fun r Y h => h = hN ∧ K r Y) 0 0 Y hN) (hw : bpX5_sum rc K Y a1) : gMet l yX5_sum (ws_ yX5_sum cX5_sum 3 (some .boolean)) (rgX5 (d + 1)) G mL o ad [.ref o, .int a1] (fun r => some (.int r)) (fun r Y h => h = hN ∧ K r Y) 0 0 Y hN := by
  refine gMet.in (lv := [some (.ref o), some (.int a1), none]) (by decide) rfl rfl (fun J S => ?_)
  have S : gSt l (rgX5 (d + 1)) cX5_sum RX5 "sum" 3 (some .boolean) G mL o ad (fun r => some (.int r)) (fun r Y h => h = hN ∧ K r Y) 0 0 J := S
  unfold bpX5_sum at hw
  refine j_ald0 (pc := 0) S dX5_sum_0 ?_
  refine j_ild1 (pc := 1) S dX5_sum_1 ?_
  refine m_callVi (pc := 2) S 1 (ih4 _ _ _ hw) (lw_V q1571 q1573 qs72 q87 q1574) rfl rfl ydX5_term rg_fG (rg_lG rfl) rfl rfl rfl dX5_sum_2 rfl rfl (fun r_16 Y_17 hw => ?_)
  refine j_if_ne (pc := 5) (tgt := 10) S dX5_sum_5 rfl (fun c_18 => ?_) (fun c_18 => ?_)
  · have hw := hw.1 c_18
    obtain ⟨fu_19, hw⟩ := hw
    exact j_sub S (kX5_sum_10 S ih0 ih1 ih2 ih3 ih4 ih5 fu_19 _ _ hw) (gle_s (gle_s (gle_n gle_0)))
  · have hw := hw.2 c_18
    refine j_iconst (pc := 8) (v := 0) S dX5_sum_8 rfl ?_
    exact j_zret (pc := 9) S (Nat.le_refl _) (Nat.le_refl _) dX5_sum_9 rfl ⟨rfl, hw⟩
/-! term(I)Z -/
def wX5_term_28 (rc : Nat → (Int32 → gY → Prop) → gY → Int32 → Prop) (K : Int32 → gY → Prop) (J10 : gY → Int32 → Prop) (Y : gY) (x1 : Int32) : Prop := ∀ x2_1 : Int32, x2_1 = Y 21 0 → (wpX5_nextToken (fun Y_4 => (rc 5 (fun r_5 Y_6 => (((¬ r_5 = 0 → (wpX5_step (fun Y_9 => (J10 Y_9 x1)) Y_6 (2 : Int32) x2_1)) ∧ (r_5 = 0 → (K 0 Y_6))))) Y_4 x1)) Y)
def wX5_term_10 (rc : Nat → (Int32 → gY → Prop) → gY → Int32 → Prop) (K : Int32 → gY → Prop) : Nat → gY → Int32 → Prop
  | 0 => fun _ _ => False
  | n + 1 => fun Y x1 => wpX5_isSign (fun r_10 Y_11 => (((¬ r_10 = 0 → (wX5_term_28 rc K (wX5_term_10 rc K n) Y_11 x1)) ∧ (r_10 = 0 → (wpX5_isSign (fun r_13 Y_14 => (((r_13 = 0 → (K 1 Y_14)) ∧ (¬ r_13 = 0 → (wX5_term_28 rc K (wX5_term_10 rc K n) Y_14 x1))))) Y_11 (47 : Int32)))))) Y (42 : Int32)
def bpX5_term (rc : Nat → (Int32 → gY → Prop) → gY → Int32 → Prop) (K : Int32 → gY → Prop) (Y : gY) (a1 : Int32) : Prop := rc 5 (fun r_16 Y_17 => (((¬ r_16 = 0 → (∃ fu_19 : Nat, wX5_term_10 rc K fu_19 Y_17 a1)) ∧ (r_16 = 0 → (K 0 Y_17))))) Y a1
theorem kX5_term_28 {rc : Nat → (Int32 → gY → Prop) → gY → Int32 → Prop} {d : Nat} {K : Int32 → gY → Prop} (S : gSt l (rgX5 (d + 1)) cX5_term RX5 "term" 3 (some .boolean) G mL o ad (fun r => some (.int r)) (fun r Y h => h = hN ∧ K r Y) 0 0 J) (ih0 : ∀ (K : Int32 → gY → Prop) (Y : gY) (a1 : Int32), rc 0 K Y a1 → gMet l yX5_either (ws_ yX5_either cX5_either 2 (some .boolean)) (rgX5 d) G mL o ad [.ref o, .int a1] (fun r => some (.int r)) (fun r Y h => h = hN ∧ K r Y) 0 0 Y hN) (ih1 : ∀ (K : Int32 → gY → Prop) (Y : gY) (a1 : Int32), rc 1 K Y a1 → gMet l yX5_both (ws_ yX5_both cX5_both 2 (some .boolean)) (rgX5 d) G mL o ad [.ref o, .int a1] (fun r => some (.int r)) (fun r Y h => h = hN ∧ K r Y) 0 0 Y hN) (ih2 : ∀ (K : Int32 → gY → Prop) (Y : gY) (a1 : Int32), rc 2 K Y a1 → gMet l yX5_test (ws_ yX5_test cX5_test 3 (some .boolean)) (rgX5 d) G mL o ad [.ref o, .int a1] (fun r => some (.int r)) (fun r Y h => h = hN ∧ K r Y) 0 0 Y hN) (ih3 : ∀ (K : Int32 → gY → Prop) (Y : gY) (a1 : Int32), rc 3 K Y a1 → gMet l yX5_sum (ws_ yX5_sum cX5_sum 3 (some .boolean)) (rgX5 d) G mL o ad [.ref o, .int a1] (fun r => some (.int r)) (fun r Y h => h = hN ∧ K r Y) 0 0 Y hN) (ih4 : ∀ (K : Int32 → gY → Prop) (Y : gY) (a1 : Int32), rc 4 K Y a1 → gMet l yX5_term (ws_ yX5_term cX5_term 3 (some .boolean)) (rgX5 d) G mL o ad [.ref o, .int a1] (fun r => some (.int r)) (fun r Y h => h = hN ∧ K r Y) 0 0 Y hN) (ih5 : ∀ (K : Int32 → gY → Prop) (Y : gY) (a1 : Int32), rc 5 K Y a1 → gMet l yX5_part0 (ws_ yX5_part0 cX5_part0 2 (some .boolean)) (rgX5 d) G mL o ad [.ref o, .int a1] (fun r => some (.int r)) (fun r Y h => h = hN ∧ K r Y) 0 0 Y hN) {J10 : gY → Int32 → Prop} (h10 : ∀ (Y : gY) (x1 : Int32), J10 Y x1 → J Y hN 0 0 10 [some (.ref o), some (.int x1), none] []) {Y : gY} {x1 : Int32} (hw : wX5_term_28 rc K J10 Y x1) : J Y hN 0 0 28 [some (.ref o), some (.int x1), none] [] := by
  unfold wX5_term_28 at hw
  refine j_ald0 (pc := 28) S dX5_term_28 ?_
  refine m_getI (pc := 29) S 21 rfl rfl q1215 dX5_term_29 ?_
  refine j_topi (fun x2_1 e_2 => ?_)
  have hw := hw x2_1 e_2
  refine j_ist2 (pc := 32) S dX5_term_32 rfl rfl ?_
  refine j_ald0 (pc := 33) S dX5_term_33 ?_
  refine m_callVv (pc := 34) S 0 (wkX5_nextToken hw) (lw_V q1531 q1533 qs63 q87 q1534) rfl rfl ydX5_nextToken (rg_f rfl) (rg_l rfl) rfl rfl rfl dX5_term_34 rfl rfl (fun Y_4 hw => ?_)
  refine j_ald0 (pc := 37) S dX5_term_37 ?_
  refine j_ild1 (pc := 38) S dX5_term_38 ?_
  refine m_callVi (pc := 39) S 1 (ih5 _ _ _ hw) (lw_V q1575 q1577 qs73 q87 q1578) rfl rfl ydX5_part0 rg_fG (rg_lG rfl) rfl rfl rfl dX5_term_39 rfl rfl (fun r_5 Y_6 hw => ?_)
  refine j_if_ne (pc := 42) (tgt := 47) S dX5_term_42 rfl (fun c_7 => ?_) (fun c_7 => ?_)
  · have hw := hw.1 c_7
    refine j_ald0 (pc := 47) S dX5_term_47 ?_
    refine j_iconst (pc := 48) (v := 2) S dX5_term_48 rfl ?_
    refine j_ild2 (pc := 49) S dX5_term_49 ?_
    refine m_callVv (pc := 50) S 2 (wkX5_step hw) (lw_V q1579 q1581 qs74 q87 q1582) rfl rfl ydX5_step (rg_f rfl) (rg_l rfl) rfl rfl rfl dX5_term_50 rfl rfl (fun Y_9 hw => ?_)
    refine j_goto (pc := 53) (tgt := 10) S dX5_term_53 rfl ?_
    exact j_sub S (h10 _ _ hw) (gle_s (gle_s (gle_n gle_0)))
  · have hw := hw.2 c_7
    refine j_iconst (pc := 45) (v := 0) S dX5_term_45 rfl ?_
    exact j_zret (pc := 46) S (Nat.le_refl _) (Nat.le_refl _) dX5_term_46 rfl ⟨rfl, hw⟩
theorem kX5_term_10 {rc : Nat → (Int32 → gY → Prop) → gY → Int32 → Prop} {d : Nat} {K : Int32 → gY → Prop} (S : gSt l (rgX5 (d + 1)) cX5_term RX5 "term" 3 (some .boolean) G mL o ad (fun r => some (.int r)) (fun r Y h => h = hN ∧ K r Y) 0 0 J) (ih0 : ∀ (K : Int32 → gY → Prop) (Y : gY) (a1 : Int32), rc 0 K Y a1 → gMet l yX5_either (ws_ yX5_either cX5_either 2 (some .boolean)) (rgX5 d) G mL o ad [.ref o, .int a1] (fun r => some (.int r)) (fun r Y h => h = hN ∧ K r Y) 0 0 Y hN) (ih1 : ∀ (K : Int32 → gY → Prop) (Y : gY) (a1 : Int32), rc 1 K Y a1 → gMet l yX5_both (ws_ yX5_both cX5_both 2 (some .boolean)) (rgX5 d) G mL o ad [.ref o, .int a1] (fun r => some (.int r)) (fun r Y h => h = hN ∧ K r Y) 0 0 Y hN) (ih2 : ∀ (K : Int32 → gY → Prop) (Y : gY) (a1 : Int32), rc 2 K Y a1 → gMet l yX5_test (ws_ yX5_test cX5_test 3 (some .boolean)) (rgX5 d) G mL o ad [.ref o, .int a1] (fun r => some (.int r)) (fun r Y h => h = hN ∧ K r Y) 0 0 Y hN) (ih3 : ∀ (K : Int32 → gY → Prop) (Y : gY) (a1 : Int32), rc 3 K Y a1 → gMet l yX5_sum (ws_ yX5_sum cX5_sum 3 (some .boolean)) (rgX5 d) G mL o ad [.ref o, .int a1] (fun r => some (.int r)) (fun r Y h => h = hN ∧ K r Y) 0 0 Y hN) (ih4 : ∀ (K : Int32 → gY → Prop) (Y : gY) (a1 : Int32), rc 4 K Y a1 → gMet l yX5_term (ws_ yX5_term cX5_term 3 (some .boolean)) (rgX5 d) G mL o ad [.ref o, .int a1] (fun r => some (.int r)) (fun r Y h => h = hN ∧ K r Y) 0 0 Y hN) (ih5 : ∀ (K : Int32 → gY → Prop) (Y : gY) (a1 : Int32), rc 5 K Y a1 → gMet l yX5_part0 (ws_ yX5_part0 cX5_part0 2 (some .boolean)) (rgX5 d) G mL o ad [.ref o, .int a1] (fun r => some (.int r)) (fun r Y h => h = hN ∧ K r Y) 0 0 Y hN) : ∀ (n : Nat) (Y : gY) (x1 : Int32), wX5_term_10 rc K n Y x1 → J Y hN 0 0 10 [some (.ref o), some (.int x1), none] [] := by
  intro n
  induction n with
  | zero => intro Y x1 hw; exact hw.elim
  | succ n ih =>
    intro Y x1 hw
    unfold wX5_term_10 at hw
    refine j_ald0 (pc := 10) S dX5_term_10 ?_
    refine j_bipush (pc := 11) (v := 42) S dX5_term_11 rfl ?_
    refine m_callVi (pc := 13) S 1 (wkX5_isSign hw) (lw_V q1586 q1588 qs75 q87 q1589) rfl rfl ydX5_isSign (rg_f rfl) (rg_l rfl) rfl rfl rfl dX5_term_13 rfl rfl (fun r_10 Y_11 hw => ?_)
    refine j_if_ne (pc := 16) (tgt := 28) S dX5_term_16 rfl (fun c_12 => ?_) (fun c_12 => ?_)
    · have hw := hw.1 c_12
      exact j_sub S (kX5_term_28 S ih0 ih1 ih2 ih3 ih4 ih5 ih hw) (gle_s (gle_s (gle_n gle_0)))
    · have hw := hw.2 c_12
      refine j_ald0 (pc := 19) S dX5_term_19 ?_
      refine j_bipush (pc := 20) (v := 47) S dX5_term_20 rfl ?_
      refine m_callVi (pc := 22) S 1 (wkX5_isSign hw) (lw_V q1586 q1588 qs75 q87 q1589) rfl rfl ydX5_isSign (rg_f rfl) (rg_l rfl) rfl rfl rfl dX5_term_22 rfl rfl (fun r_13 Y_14 hw => ?_)
      refine j_if_eq (pc := 25) (tgt := 56) S dX5_term_25 rfl (fun c_15 => ?_) (fun c_15 => ?_)
      · have hw := hw.1 c_15
        refine j_iconst (pc := 56) (v := 1) S dX5_term_56 rfl ?_
        exact j_zret (pc := 57) S (Nat.le_refl _) (Nat.le_refl _) dX5_term_57 rfl ⟨rfl, hw⟩
      · have hw := hw.2 c_15
        exact j_sub S (kX5_term_28 S ih0 ih1 ih2 ih3 ih4 ih5 ih hw) (gle_s (gle_s (gle_n gle_0)))
theorem bkX5_term {rc : Nat → (Int32 → gY → Prop) → gY → Int32 → Prop} {d : Nat} {K : Int32 → gY → Prop} {Y : gY} {a1 : Int32} (ih0 : ∀ (K : Int32 → gY → Prop) (Y : gY) (a1 : Int32), rc 0 K Y a1 → gMet l yX5_either (ws_ yX5_either cX5_either 2 (some .boolean)) (rgX5 d) G mL o ad [.ref o, .int a1] (fun r => some (.int r)) (fun r Y h => h = hN ∧ K r Y) 0 0 Y hN) (ih1 : ∀ (K : Int32 → gY → Prop) (Y : gY) (a1 : Int32), rc 1 K Y a1 → gMet l yX5_both (ws_ yX5_both cX5_both 2 (some .boolean)) (rgX5 d) G mL o ad [.ref o, .int a1] (fun r => some (.int r)) (fun r Y h => h = hN ∧ K r Y) 0 0 Y hN) (ih2 : ∀ (K : Int32 → gY → Prop) (Y : gY) (a1 : Int32), rc 2 K Y a1 → gMet l yX5_test (ws_ yX5_test cX5_test 3 (some .boolean)) (rgX5 d) G mL o ad [.ref o, .int a1] (fun r => some (.int r)) (fun r Y h => h = hN ∧ K r Y) 0 0 Y hN) (ih3 : ∀ (K : Int32 → gY → Prop) (Y : gY) (a1 : Int32), rc 3 K Y a1 → gMet l yX5_sum (ws_ yX5_sum cX5_sum 3 (some .boolean)) (rgX5 d) G mL o ad [.ref o, .int a1] (fun r => some (.int r)) (fun r Y h => h = hN ∧ K r Y) 0 0 Y hN) (ih4 : ∀ (K : Int32 → gY → Prop) (Y : gY) (a1 : Int32), rc 4 K Y a1 → gMet l yX5_term (ws_ yX5_term cX5_term 3 (some .boolean)) (rgX5 d) G mL o ad [.ref o, .int a1] (fun r => some (.int r)) (fun r Y h => h = hN ∧ K r Y) 0 0 Y hN) (ih5 : ∀ (K : Int32 → gY → Prop) (Y : gY) (a1 : Int32), rc 5 K Y a1 → gMet l yX5_part0 (ws_ yX5_part0 cX5_part0 2 (some .boolean)) (rgX5 d) G mL o ad [.ref o, .int a1] (fun r => some (.int r)) (fun r Y h => h = hN ∧ K r Y) 0 0 Y hN) (hw : bpX5_term rc K Y a1) : gMet l yX5_term (ws_ yX5_term cX5_term 3 (some .boolean)) (rgX5 (d + 1)) G mL o ad [.ref o, .int a1] (fun r => some (.int r)) (fun r Y h => h = hN ∧ K r Y) 0 0 Y hN := by
  refine gMet.in (lv := [some (.ref o), some (.int a1), none]) (by decide) rfl rfl (fun J S => ?_)
  have S : gSt l (rgX5 (d + 1)) cX5_term RX5 "term" 3 (some .boolean) G mL o ad (fun r => some (.int r)) (fun r Y h => h = hN ∧ K r Y) 0 0 J := S
  unfold bpX5_term at hw
  refine j_ald0 (pc := 0) S dX5_term_0 ?_
  refine j_ild1 (pc := 1) S dX5_term_1 ?_
  refine m_callVi (pc := 2) S 1 (ih5 _ _ _ hw) (lw_V q1575 q1577 qs73 q87 q1578) rfl rfl ydX5_part0 rg_fG (rg_lG rfl) rfl rfl rfl dX5_term_2 rfl rfl (fun r_16 Y_17 hw => ?_)
  refine j_if_ne (pc := 5) (tgt := 10) S dX5_term_5 rfl (fun c_18 => ?_) (fun c_18 => ?_)
  · have hw := hw.1 c_18
    obtain ⟨fu_19, hw⟩ := hw
    exact j_sub S (kX5_term_10 S ih0 ih1 ih2 ih3 ih4 ih5 fu_19 _ _ hw) (gle_s (gle_s (gle_n gle_0)))
  · have hw := hw.2 c_18
    refine j_iconst (pc := 8) (v := 0) S dX5_term_8 rfl ?_
    exact j_zret (pc := 9) S (Nat.le_refl _) (Nat.le_refl _) dX5_term_9 rfl ⟨rfl, hw⟩
/-! part0(I)Z -/
def wX5_part0_145 (rc : Nat → (Int32 → gY → Prop) → gY → Int32 → Prop) (K : Int32 → gY → Prop) (Y : gY) (x1 : Int32) : Prop := wpX5_isSign (fun r_1 Y_2 => (((r_1 = 0 → (K 0 Y_2)) ∧ (¬ r_1 = 0 → (((¬ (Y_2 22 0) = 8 → (∀ Y_5 : gY, Y_5 = yset Y_2 22 ((Y_2 22 0) + 1) → (wpX5_nextToken (fun Y_8 => (rc 0 (fun r_9 Y_10 => (((r_9 = 0 → (K 0 Y_10)) ∧ (¬ r_9 = 0 → (wpX5_isSign (fun r_12 Y_13 => (((¬ r_12 = 0 → (∀ Y_15 : gY, Y_15 = yset Y_13 22 ((Y_13 22 0) - 1) → (wpX5_nextToken (fun Y_18 => (K 1 Y_18)) Y_15))) ∧ (r_12 = 0 → (K 0 Y_13))))) Y_10 (41 : Int32)))))) Y_8 x1)) Y_5))) ∧ ((Y_2 22 0) = 8 → (K 0 Y_2)))))))) Y (40 : Int32)
def wX5_part0_84 (rc : Nat → (Int32 → gY → Prop) → gY → Int32 → Prop) (K : Int32 → gY → Prop) (Y : gY) (x1 : Int32) : Prop := wpX5_isSign (fun r_19 Y_20 => (((r_19 = 0 → (wX5_part0_145 rc K Y_20 x1)) ∧ (¬ r_19 = 0 → (((8 ≤ (Y_20 23 0) → (wX5_part0_145 rc K Y_20 x1)) ∧ (¬ 8 ≤ (Y_20 23 0) → (∀ Y_23 : gY, Y_23 = yset Y_20 23 ((Y_20 23 0) + 1) → (wpX5_nextToken (fun Y_26 => (rc 5 (fun r_27 Y_28 => (((¬ r_27 = 0 → (∀ Y_30 : gY, Y_30 = yset Y_28 23 ((Y_28 23 0) - 1) → (wpX5_step (fun Y_33 => (K 1 Y_33)) Y_30 (2 : Int32) (33 : Int32)))) ∧ (r_27 = 0 → (K 0 Y_28))))) Y_26 x1)) Y_23))))))))) Y (33 : Int32)
def bpX5_part0 (rc : Nat → (Int32 → gY → Prop) → gY → Int32 → Prop) (K : Int32 → gY → Prop) (Y : gY) (a1 : Int32) : Prop := ((¬ (Y 19 0) = 2 → (((¬ (Y 19 0) = 1 → (wX5_part0_84 rc K Y a1)) ∧ ((Y 19 0) = 1 → ((((Y 21 0) = 0 → (wX5_part0_84 rc K Y a1)) ∧ (¬ (Y 21 0) = 0 → (wpX5_isName (fun r_37 Y_38 => (((r_37 = 0 → (wX5_part0_84 rc K Y_38 a1)) ∧ (¬ r_37 = 0 → (wpX5_step (fun Y_41 => (∀ Y_42 : gY, Y_42 = yset Y_41 26 ((Y_41 26 0) + 1) → (wpX5_nextToken (fun Y_45 => (K 1 Y_45)) Y_42))) Y_38 (1 : Int32) (Y_38 21 0)))))) Y a1 (Y 21 0))))))))) ∧ ((Y 19 0) = 2 → (wpX5_step (fun Y_47 => (∀ Y_48 : gY, Y_48 = yset Y_47 26 ((Y_47 26 0) + 1) → (wpX5_nextToken (fun Y_51 => (K 1 Y_51)) Y_48))) Y (0 : Int32) (Y 20 0))))
theorem kX5_part0_145 {rc : Nat → (Int32 → gY → Prop) → gY → Int32 → Prop} {d : Nat} {K : Int32 → gY → Prop} (S : gSt l (rgX5 (d + 1)) cX5_part0 RX5 "part0" 2 (some .boolean) G mL o ad (fun r => some (.int r)) (fun r Y h => h = hN ∧ K r Y) 0 0 J) (ih0 : ∀ (K : Int32 → gY → Prop) (Y : gY) (a1 : Int32), rc 0 K Y a1 → gMet l yX5_either (ws_ yX5_either cX5_either 2 (some .boolean)) (rgX5 d) G mL o ad [.ref o, .int a1] (fun r => some (.int r)) (fun r Y h => h = hN ∧ K r Y) 0 0 Y hN) (ih1 : ∀ (K : Int32 → gY → Prop) (Y : gY) (a1 : Int32), rc 1 K Y a1 → gMet l yX5_both (ws_ yX5_both cX5_both 2 (some .boolean)) (rgX5 d) G mL o ad [.ref o, .int a1] (fun r => some (.int r)) (fun r Y h => h = hN ∧ K r Y) 0 0 Y hN) (ih2 : ∀ (K : Int32 → gY → Prop) (Y : gY) (a1 : Int32), rc 2 K Y a1 → gMet l yX5_test (ws_ yX5_test cX5_test 3 (some .boolean)) (rgX5 d) G mL o ad [.ref o, .int a1] (fun r => some (.int r)) (fun r Y h => h = hN ∧ K r Y) 0 0 Y hN) (ih3 : ∀ (K : Int32 → gY → Prop) (Y : gY) (a1 : Int32), rc 3 K Y a1 → gMet l yX5_sum (ws_ yX5_sum cX5_sum 3 (some .boolean)) (rgX5 d) G mL o ad [.ref o, .int a1] (fun r => some (.int r)) (fun r Y h => h = hN ∧ K r Y) 0 0 Y hN) (ih4 : ∀ (K : Int32 → gY → Prop) (Y : gY) (a1 : Int32), rc 4 K Y a1 → gMet l yX5_term (ws_ yX5_term cX5_term 3 (some .boolean)) (rgX5 d) G mL o ad [.ref o, .int a1] (fun r => some (.int r)) (fun r Y h => h = hN ∧ K r Y) 0 0 Y hN) (ih5 : ∀ (K : Int32 → gY → Prop) (Y : gY) (a1 : Int32), rc 5 K Y a1 → gMet l yX5_part0 (ws_ yX5_part0 cX5_part0 2 (some .boolean)) (rgX5 d) G mL o ad [.ref o, .int a1] (fun r => some (.int r)) (fun r Y h => h = hN ∧ K r Y) 0 0 Y hN) {Y : gY} {x1 : Int32} (hw : wX5_part0_145 rc K Y x1) : J Y hN 0 0 145 [some (.ref o), some (.int x1)] [] := by
  unfold wX5_part0_145 at hw
  refine j_ald0 (pc := 145) S dX5_part0_145 ?_
  refine j_bipush (pc := 146) (v := 40) S dX5_part0_146 rfl ?_
  refine m_callVi (pc := 148) S 1 (wkX5_isSign hw) (lw_V q1586 q1588 qs75 q87 q1589) rfl rfl ydX5_isSign (rg_f rfl) (rg_l rfl) rfl rfl rfl dX5_part0_148 rfl rfl (fun r_1 Y_2 hw => ?_)
  refine j_if_eq (pc := 151) (tgt := 163) S dX5_part0_151 rfl (fun c_3 => ?_) (fun c_3 => ?_)
  · have hw := hw.1 c_3
    refine j_iconst (pc := 163) (v := 0) S dX5_part0_163 rfl ?_
    exact j_zret (pc := 164) S (Nat.le_refl _) (Nat.le_refl _) dX5_part0_164 rfl ⟨rfl, hw⟩
  · have hw := hw.2 c_3
    refine j_ald0 (pc := 154) S dX5_part0_154 ?_
    refine m_getI (pc := 155) S 22 rfl rfl q1216 dX5_part0_155 ?_
    refine j_bipush (pc := 158) (v := 8) S dX5_part0_158 rfl ?_
    refine j_icmp_ne (pc := 160) (tgt := 165) S dX5_part0_160 rfl (fun c_4 => ?_) (fun c_4 => ?_)
    · have hw := hw.1 c_4
      refine j_ald0 (pc := 165) S dX5_part0_165 ?_
      refine j_dup (pc := 166) S dX5_part0_166 rfl ?_
      refine m_getI (pc := 167) S 22 rfl rfl q1216 dX5_part0_167 ?_
      refine j_iconst (pc := 170) (v := 1) S dX5_part0_170 rfl ?_
      refine j_iadd (pc := 171) S dX5_part0_171 ?_
      refine m_putI (pc := 172) S 22 rfl rfl rfl rfl rfl q1216 dX5_part0_172 (fun Y_5 e_6 => ?_)
      have hw := hw Y_5 e_6
      refine j_ald0 (pc := 175) S dX5_part0_175 ?_
      refine m_callVv (pc := 176) S 0 (wkX5_nextToken hw) (lw_V q1531 q1533 qs63 q87 q1534) rfl rfl ydX5_nextToken (rg_f rfl) (rg_l rfl) rfl rfl rfl dX5_part0_176 rfl rfl (fun Y_8 hw => ?_)
      refine j_ald0 (pc := 179) S dX5_part0_179 ?_
      refine j_ild1 (pc := 180) S dX5_part0_180 ?_
      refine m_callVi (pc := 181) S 1 (ih0 _ _ _ hw) (lw_V q1555 q1557 qs68 q87 q1558) rfl rfl ydX5_either rg_fG (rg_lG rfl) rfl rfl rfl dX5_part0_181 rfl rfl (fun r_9 Y_10 hw => ?_)
      refine j_if_eq (pc := 184) (tgt := 196) S dX5_part0_184 rfl (fun c_11 => ?_) (fun c_11 => ?_)
      · have hw := hw.1 c_11
        refine j_iconst (pc := 196) (v := 0) S dX5_part0_196 rfl ?_
        exact j_zret (pc := 197) S (Nat.le_refl _) (Nat.le_refl _) dX5_part0_197 rfl ⟨rfl, hw⟩
      · have hw := hw.2 c_11
        refine j_ald0 (pc := 187) S dX5_part0_187 ?_
        refine j_bipush (pc := 188) (v := 41) S dX5_part0_188 rfl ?_
        refine m_callVi (pc := 190) S 1 (wkX5_isSign hw) (lw_V q1586 q1588 qs75 q87 q1589) rfl rfl ydX5_isSign (rg_f rfl) (rg_l rfl) rfl rfl rfl dX5_part0_190 rfl rfl (fun r_12 Y_13 hw => ?_)
        refine j_if_ne (pc := 193) (tgt := 198) S dX5_part0_193 rfl (fun c_14 => ?_) (fun c_14 => ?_)
        · have hw := hw.1 c_14
          refine j_ald0 (pc := 198) S dX5_part0_198 ?_
          refine j_dup (pc := 199) S dX5_part0_199 rfl ?_
          refine m_getI (pc := 200) S 22 rfl rfl q1216 dX5_part0_200 ?_
          refine j_iconst (pc := 203) (v := 1) S dX5_part0_203 rfl ?_
          refine j_isub (pc := 204) S dX5_part0_204 ?_
          refine m_putI (pc := 205) S 22 rfl rfl rfl rfl rfl q1216 dX5_part0_205 (fun Y_15 e_16 => ?_)
          have hw := hw Y_15 e_16
          refine j_ald0 (pc := 208) S dX5_part0_208 ?_
          refine m_callVv (pc := 209) S 0 (wkX5_nextToken hw) (lw_V q1531 q1533 qs63 q87 q1534) rfl rfl ydX5_nextToken (rg_f rfl) (rg_l rfl) rfl rfl rfl dX5_part0_209 rfl rfl (fun Y_18 hw => ?_)
          refine j_iconst (pc := 212) (v := 1) S dX5_part0_212 rfl ?_
          exact j_zret (pc := 213) S (Nat.le_refl _) (Nat.le_refl _) dX5_part0_213 rfl ⟨rfl, hw⟩
        · have hw := hw.2 c_14
          refine j_iconst (pc := 196) (v := 0) S dX5_part0_196 rfl ?_
          exact j_zret (pc := 197) S (Nat.le_refl _) (Nat.le_refl _) dX5_part0_197 rfl ⟨rfl, hw⟩
    · have hw := hw.2 c_4
      refine j_iconst (pc := 163) (v := 0) S dX5_part0_163 rfl ?_
      exact j_zret (pc := 164) S (Nat.le_refl _) (Nat.le_refl _) dX5_part0_164 rfl ⟨rfl, hw⟩
theorem kX5_part0_84 {rc : Nat → (Int32 → gY → Prop) → gY → Int32 → Prop} {d : Nat} {K : Int32 → gY → Prop} (S : gSt l (rgX5 (d + 1)) cX5_part0 RX5 "part0" 2 (some .boolean) G mL o ad (fun r => some (.int r)) (fun r Y h => h = hN ∧ K r Y) 0 0 J) (ih0 : ∀ (K : Int32 → gY → Prop) (Y : gY) (a1 : Int32), rc 0 K Y a1 → gMet l yX5_either (ws_ yX5_either cX5_either 2 (some .boolean)) (rgX5 d) G mL o ad [.ref o, .int a1] (fun r => some (.int r)) (fun r Y h => h = hN ∧ K r Y) 0 0 Y hN) (ih1 : ∀ (K : Int32 → gY → Prop) (Y : gY) (a1 : Int32), rc 1 K Y a1 → gMet l yX5_both (ws_ yX5_both cX5_both 2 (some .boolean)) (rgX5 d) G mL o ad [.ref o, .int a1] (fun r => some (.int r)) (fun r Y h => h = hN ∧ K r Y) 0 0 Y hN) (ih2 : ∀ (K : Int32 → gY → Prop) (Y : gY) (a1 : Int32), rc 2 K Y a1 → gMet l yX5_test (ws_ yX5_test cX5_test 3 (some .boolean)) (rgX5 d) G mL o ad [.ref o, .int a1] (fun r => some (.int r)) (fun r Y h => h = hN ∧ K r Y) 0 0 Y hN) (ih3 : ∀ (K : Int32 → gY → Prop) (Y : gY) (a1 : Int32), rc 3 K Y a1 → gMet l yX5_sum (ws_ yX5_sum cX5_sum 3 (some .boolean)) (rgX5 d) G mL o ad [.ref o, .int a1] (fun r => some (.int r)) (fun r Y h => h = hN ∧ K r Y) 0 0 Y hN) (ih4 : ∀ (K : Int32 → gY → Prop) (Y : gY) (a1 : Int32), rc 4 K Y a1 → gMet l yX5_term (ws_ yX5_term cX5_term 3 (some .boolean)) (rgX5 d) G mL o ad [.ref o, .int a1] (fun r => some (.int r)) (fun r Y h => h = hN ∧ K r Y) 0 0 Y hN) (ih5 : ∀ (K : Int32 → gY → Prop) (Y : gY) (a1 : Int32), rc 5 K Y a1 → gMet l yX5_part0 (ws_ yX5_part0 cX5_part0 2 (some .boolean)) (rgX5 d) G mL o ad [.ref o, .int a1] (fun r => some (.int r)) (fun r Y h => h = hN ∧ K r Y) 0 0 Y hN) {Y : gY} {x1 : Int32} (hw : wX5_part0_84 rc K Y x1) : J Y hN 0 0 84 [some (.ref o), some (.int x1)] [] := by
  unfold wX5_part0_84 at hw
  refine j_ald0 (pc := 84) S dX5_part0_84 ?_
  refine j_bipush (pc := 85) (v := 33) S dX5_part0_85 rfl ?_
  refine m_callVi (pc := 87) S 1 (wkX5_isSign hw) (lw_V q1586 q1588 qs75 q87 q1589) rfl rfl ydX5_isSign (rg_f rfl) (rg_l rfl) rfl rfl rfl dX5_part0_87 rfl rfl (fun r_19 Y_20 hw => ?_)
  refine j_if_eq (pc := 90) (tgt := 145) S dX5_part0_90 rfl (fun c_21 => ?_) (fun c_21 => ?_)
  · have hw := hw.1 c_21
    exact j_sub S (kX5_part0_145 S ih0 ih1 ih2 ih3 ih4 ih5 hw) (gle_s (gle_s gle_0))
  · have hw := hw.2 c_21
    refine j_ald0 (pc := 93) S dX5_part0_93 ?_
    refine m_getI (pc := 94) S 23 rfl rfl q1217 dX5_part0_94 ?_
    refine j_bipush (pc := 97) (v := 8) S dX5_part0_97 rfl ?_
    refine j_icmp_ge (pc := 99) (tgt := 145) S dX5_part0_99 rfl (fun c_22 => ?_) (fun c_22 => ?_)
    · have hw := hw.1 c_22
      exact j_sub S (kX5_part0_145 S ih0 ih1 ih2 ih3 ih4 ih5 hw) (gle_s (gle_s gle_0))
    · have hw := hw.2 c_22
      refine j_ald0 (pc := 102) S dX5_part0_102 ?_
      refine j_dup (pc := 103) S dX5_part0_103 rfl ?_
      refine m_getI (pc := 104) S 23 rfl rfl q1217 dX5_part0_104 ?_
      refine j_iconst (pc := 107) (v := 1) S dX5_part0_107 rfl ?_
      refine j_iadd (pc := 108) S dX5_part0_108 ?_
      refine m_putI (pc := 109) S 23 rfl rfl rfl rfl rfl q1217 dX5_part0_109 (fun Y_23 e_24 => ?_)
      have hw := hw Y_23 e_24
      refine j_ald0 (pc := 112) S dX5_part0_112 ?_
      refine m_callVv (pc := 113) S 0 (wkX5_nextToken hw) (lw_V q1531 q1533 qs63 q87 q1534) rfl rfl ydX5_nextToken (rg_f rfl) (rg_l rfl) rfl rfl rfl dX5_part0_113 rfl rfl (fun Y_26 hw => ?_)
      refine j_ald0 (pc := 116) S dX5_part0_116 ?_
      refine j_ild1 (pc := 117) S dX5_part0_117 ?_
      refine m_callVi (pc := 118) S 1 (ih5 _ _ _ hw) (lw_V q1575 q1577 qs73 q87 q1578) rfl rfl ydX5_part0 rg_fG (rg_lG rfl) rfl rfl rfl dX5_part0_118 rfl rfl (fun r_27 Y_28 hw => ?_)
      refine j_if_ne (pc := 121) (tgt := 126) S dX5_part0_121 rfl (fun c_29 => ?_) (fun c_29 => ?_)
      · have hw := hw.1 c_29
        refine j_ald0 (pc := 126) S dX5_part0_126 ?_
        refine j_dup (pc := 127) S dX5_part0_127 rfl ?_
        refine m_getI (pc := 128) S 23 rfl rfl q1217 dX5_part0_128 ?_
        refine j_iconst (pc := 131) (v := 1) S dX5_part0_131 rfl ?_
        refine j_isub (pc := 132) S dX5_part0_132 ?_
        refine m_putI (pc := 133) S 23 rfl rfl rfl rfl rfl q1217 dX5_part0_133 (fun Y_30 e_31 => ?_)
        have hw := hw Y_30 e_31
        refine j_ald0 (pc := 136) S dX5_part0_136 ?_
        refine j_iconst (pc := 137) (v := 2) S dX5_part0_137 rfl ?_
        refine j_bipush (pc := 138) (v := 33) S dX5_part0_138 rfl ?_
        refine m_callVv (pc := 140) S 2 (wkX5_step hw) (lw_V q1579 q1581 qs74 q87 q1582) rfl rfl ydX5_step (rg_f rfl) (rg_l rfl) rfl rfl rfl dX5_part0_140 rfl rfl (fun Y_33 hw => ?_)
        refine j_iconst (pc := 143) (v := 1) S dX5_part0_143 rfl ?_
        exact j_zret (pc := 144) S (Nat.le_refl _) (Nat.le_refl _) dX5_part0_144 rfl ⟨rfl, hw⟩
      · have hw := hw.2 c_29
        refine j_iconst (pc := 124) (v := 0) S dX5_part0_124 rfl ?_
        exact j_zret (pc := 125) S (Nat.le_refl _) (Nat.le_refl _) dX5_part0_125 rfl ⟨rfl, hw⟩
theorem bkX5_part0 {rc : Nat → (Int32 → gY → Prop) → gY → Int32 → Prop} {d : Nat} {K : Int32 → gY → Prop} {Y : gY} {a1 : Int32} (ih0 : ∀ (K : Int32 → gY → Prop) (Y : gY) (a1 : Int32), rc 0 K Y a1 → gMet l yX5_either (ws_ yX5_either cX5_either 2 (some .boolean)) (rgX5 d) G mL o ad [.ref o, .int a1] (fun r => some (.int r)) (fun r Y h => h = hN ∧ K r Y) 0 0 Y hN) (ih1 : ∀ (K : Int32 → gY → Prop) (Y : gY) (a1 : Int32), rc 1 K Y a1 → gMet l yX5_both (ws_ yX5_both cX5_both 2 (some .boolean)) (rgX5 d) G mL o ad [.ref o, .int a1] (fun r => some (.int r)) (fun r Y h => h = hN ∧ K r Y) 0 0 Y hN) (ih2 : ∀ (K : Int32 → gY → Prop) (Y : gY) (a1 : Int32), rc 2 K Y a1 → gMet l yX5_test (ws_ yX5_test cX5_test 3 (some .boolean)) (rgX5 d) G mL o ad [.ref o, .int a1] (fun r => some (.int r)) (fun r Y h => h = hN ∧ K r Y) 0 0 Y hN) (ih3 : ∀ (K : Int32 → gY → Prop) (Y : gY) (a1 : Int32), rc 3 K Y a1 → gMet l yX5_sum (ws_ yX5_sum cX5_sum 3 (some .boolean)) (rgX5 d) G mL o ad [.ref o, .int a1] (fun r => some (.int r)) (fun r Y h => h = hN ∧ K r Y) 0 0 Y hN) (ih4 : ∀ (K : Int32 → gY → Prop) (Y : gY) (a1 : Int32), rc 4 K Y a1 → gMet l yX5_term (ws_ yX5_term cX5_term 3 (some .boolean)) (rgX5 d) G mL o ad [.ref o, .int a1] (fun r => some (.int r)) (fun r Y h => h = hN ∧ K r Y) 0 0 Y hN) (ih5 : ∀ (K : Int32 → gY → Prop) (Y : gY) (a1 : Int32), rc 5 K Y a1 → gMet l yX5_part0 (ws_ yX5_part0 cX5_part0 2 (some .boolean)) (rgX5 d) G mL o ad [.ref o, .int a1] (fun r => some (.int r)) (fun r Y h => h = hN ∧ K r Y) 0 0 Y hN) (hw : bpX5_part0 rc K Y a1) : gMet l yX5_part0 (ws_ yX5_part0 cX5_part0 2 (some .boolean)) (rgX5 (d + 1)) G mL o ad [.ref o, .int a1] (fun r => some (.int r)) (fun r Y h => h = hN ∧ K r Y) 0 0 Y hN := by
  refine gMet.in (lv := [some (.ref o), some (.int a1)]) (by decide) rfl rfl (fun J S => ?_)
  have S : gSt l (rgX5 (d + 1)) cX5_part0 RX5 "part0" 2 (some .boolean) G mL o ad (fun r => some (.int r)) (fun r Y h => h = hN ∧ K r Y) 0 0 J := S
  unfold bpX5_part0 at hw
  refine j_ald0 (pc := 0) S dX5_part0_0 ?_
  refine m_getI (pc := 1) S 19 rfl rfl q1213 dX5_part0_1 ?_
  refine j_iconst (pc := 4) (v := 2) S dX5_part0_4 rfl ?_
  refine j_icmp_ne (pc := 5) (tgt := 33) S dX5_part0_5 rfl (fun c_34 => ?_) (fun c_34 => ?_)
  · have hw := hw.1 c_34
    refine j_ald0 (pc := 33) S dX5_part0_33 ?_
    refine m_getI (pc := 34) S 19 rfl rfl q1213 dX5_part0_34 ?_
    refine j_iconst (pc := 37) (v := 1) S dX5_part0_37 rfl ?_
    refine j_icmp_ne (pc := 38) (tgt := 84) S dX5_part0_38 rfl (fun c_35 => ?_) (fun c_35 => ?_)
    · have hw := hw.1 c_35
      exact j_sub S (kX5_part0_84 S ih0 ih1 ih2 ih3 ih4 ih5 hw) (gle_s (gle_s gle_0))
    · have hw := hw.2 c_35
      refine j_ald0 (pc := 41) S dX5_part0_41 ?_
      refine m_getI (pc := 42) S 21 rfl rfl q1215 dX5_part0_42 ?_
      refine j_if_eq (pc := 45) (tgt := 84) S dX5_part0_45 rfl (fun c_36 => ?_) (fun c_36 => ?_)
      · have hw := hw.1 c_36
        exact j_sub S (kX5_part0_84 S ih0 ih1 ih2 ih3 ih4 ih5 hw) (gle_s (gle_s gle_0))
      · have hw := hw.2 c_36
        refine j_ild1 (pc := 48) S dX5_part0_48 ?_
        refine j_ald0 (pc := 49) S dX5_part0_49 ?_
        refine m_getI (pc := 50) S 21 rfl rfl q1215 dX5_part0_50 ?_
        refine m_callSi (pc := 53) S 2 (wkX5_isName hw) (lw_S q1583 q1584 q87 q1585) rfl rfl ydX5_isName (rg_f rfl) (rg_l rfl) rfl rfl rfl dX5_part0_53 rfl rfl (fun r_37 Y_38 hw => ?_)
        refine j_if_eq (pc := 56) (tgt := 84) S dX5_part0_56 rfl (fun c_39 => ?_) (fun c_39 => ?_)
        · have hw := hw.1 c_39
          exact j_sub S (kX5_part0_84 S ih0 ih1 ih2 ih3 ih4 ih5 hw) (gle_s (gle_s gle_0))
        · have hw := hw.2 c_39
          refine j_ald0 (pc := 59) S dX5_part0_59 ?_
          refine j_iconst (pc := 60) (v := 1) S dX5_part0_60 rfl ?_
          refine j_ald0 (pc := 61) S dX5_part0_61 ?_
          refine m_getI (pc := 62) S 21 rfl rfl q1215 dX5_part0_62 ?_
          refine m_callVv (pc := 65) S 2 (wkX5_step hw) (lw_V q1579 q1581 qs74 q87 q1582) rfl rfl ydX5_step (rg_f rfl) (rg_l rfl) rfl rfl rfl dX5_part0_65 rfl rfl (fun Y_41 hw => ?_)
          refine j_ald0 (pc := 68) S dX5_part0_68 ?_
          refine j_dup (pc := 69) S dX5_part0_69 rfl ?_
          refine m_getI (pc := 70) S 26 rfl rfl q1220 dX5_part0_70 ?_
          refine j_iconst (pc := 73) (v := 1) S dX5_part0_73 rfl ?_
          refine j_iadd (pc := 74) S dX5_part0_74 ?_
          refine m_putI (pc := 75) S 26 rfl rfl rfl rfl rfl q1220 dX5_part0_75 (fun Y_42 e_43 => ?_)
          have hw := hw Y_42 e_43
          refine j_ald0 (pc := 78) S dX5_part0_78 ?_
          refine m_callVv (pc := 79) S 0 (wkX5_nextToken hw) (lw_V q1531 q1533 qs63 q87 q1534) rfl rfl ydX5_nextToken (rg_f rfl) (rg_l rfl) rfl rfl rfl dX5_part0_79 rfl rfl (fun Y_45 hw => ?_)
          refine j_iconst (pc := 82) (v := 1) S dX5_part0_82 rfl ?_
          exact j_zret (pc := 83) S (Nat.le_refl _) (Nat.le_refl _) dX5_part0_83 rfl ⟨rfl, hw⟩
  · have hw := hw.2 c_34
    refine j_ald0 (pc := 8) S dX5_part0_8 ?_
    refine j_iconst (pc := 9) (v := 0) S dX5_part0_9 rfl ?_
    refine j_ald0 (pc := 10) S dX5_part0_10 ?_
    refine m_getI (pc := 11) S 20 rfl rfl q1214 dX5_part0_11 ?_
    refine m_callVv (pc := 14) S 2 (wkX5_step hw) (lw_V q1579 q1581 qs74 q87 q1582) rfl rfl ydX5_step (rg_f rfl) (rg_l rfl) rfl rfl rfl dX5_part0_14 rfl rfl (fun Y_47 hw => ?_)
    refine j_ald0 (pc := 17) S dX5_part0_17 ?_
    refine j_dup (pc := 18) S dX5_part0_18 rfl ?_
    refine m_getI (pc := 19) S 26 rfl rfl q1220 dX5_part0_19 ?_
    refine j_iconst (pc := 22) (v := 1) S dX5_part0_22 rfl ?_
    refine j_iadd (pc := 23) S dX5_part0_23 ?_
    refine m_putI (pc := 24) S 26 rfl rfl rfl rfl rfl q1220 dX5_part0_24 (fun Y_48 e_49 => ?_)
    have hw := hw Y_48 e_49
    refine j_ald0 (pc := 27) S dX5_part0_27 ?_
    refine m_callVv (pc := 28) S 0 (wkX5_nextToken hw) (lw_V q1531 q1533 qs63 q87 q1534) rfl rfl ydX5_nextToken (rg_f rfl) (rg_l rfl) rfl rfl rfl dX5_part0_28 rfl rfl (fun Y_51 hw => ?_)
    refine j_iconst (pc := 31) (v := 1) S dX5_part0_31 rfl ?_
    exact j_zret (pc := 32) S (Nat.le_refl _) (Nat.le_refl _) dX5_part0_32 rfl ⟨rfl, hw⟩
/-- the six methods of the expression, by number; the depth falls at each call -/
def wgX5 : Nat → Nat → (Int32 → gY → Prop) → gY → Int32 → Prop
  | 0 => fun _ _ _ _ => False
  | d + 1 => fun i => match i with
    | 0 => bpX5_either (wgX5 d)
    | 1 => bpX5_both (wgX5 d)
    | 2 => bpX5_test (wgX5 d)
    | 3 => bpX5_sum (wgX5 d)
    | 4 => bpX5_term (wgX5 d)
    | _ => bpX5_part0 (wgX5 d)
theorem wgX5_ok : ∀ d : Nat, (∀ (K : Int32 → gY → Prop) (Y : gY) (a1 : Int32), wgX5 d 0 K Y a1 → gMet l yX5_either (ws_ yX5_either cX5_either 2 (some .boolean)) (rgX5 d) G mL o ad [.ref o, .int a1] (fun r => some (.int r)) (fun r Y h => h = hN ∧ K r Y) 0 0 Y hN) ∧ (∀ (K : Int32 → gY → Prop) (Y : gY) (a1 : Int32), wgX5 d 1 K Y a1 → gMet l yX5_both (ws_ yX5_both cX5_both 2 (some .boolean)) (rgX5 d) G mL o ad [.ref o, .int a1] (fun r => some (.int r)) (fun r Y h => h = hN ∧ K r Y) 0 0 Y hN) ∧ (∀ (K : Int32 → gY → Prop) (Y : gY) (a1 : Int32), wgX5 d 2 K Y a1 → gMet l yX5_test (ws_ yX5_test cX5_test 3 (some .boolean)) (rgX5 d) G mL o ad [.ref o, .int a1] (fun r => some (.int r)) (fun r Y h => h = hN ∧ K r Y) 0 0 Y hN) ∧ (∀ (K : Int32 → gY → Prop) (Y : gY) (a1 : Int32), wgX5 d 3 K Y a1 → gMet l yX5_sum (ws_ yX5_sum cX5_sum 3 (some .boolean)) (rgX5 d) G mL o ad [.ref o, .int a1] (fun r => some (.int r)) (fun r Y h => h = hN ∧ K r Y) 0 0 Y hN) ∧ (∀ (K : Int32 → gY → Prop) (Y : gY) (a1 : Int32), wgX5 d 4 K Y a1 → gMet l yX5_term (ws_ yX5_term cX5_term 3 (some .boolean)) (rgX5 d) G mL o ad [.ref o, .int a1] (fun r => some (.int r)) (fun r Y h => h = hN ∧ K r Y) 0 0 Y hN) ∧ (∀ (K : Int32 → gY → Prop) (Y : gY) (a1 : Int32), wgX5 d 5 K Y a1 → gMet l yX5_part0 (ws_ yX5_part0 cX5_part0 2 (some .boolean)) (rgX5 d) G mL o ad [.ref o, .int a1] (fun r => some (.int r)) (fun r Y h => h = hN ∧ K r Y) 0 0 Y hN) := by
  intro d
  induction d with
  | zero => exact ⟨fun K Y a1 hw => hw.elim, fun K Y a1 hw => hw.elim, fun K Y a1 hw => hw.elim, fun K Y a1 hw => hw.elim, fun K Y a1 hw => hw.elim, fun K Y a1 hw => hw.elim⟩
  | succ d ih =>
    obtain ⟨i0, i1, i2, i3, i4, i5⟩ := ih
    exact ⟨fun K Y a1 hw => bkX5_either i0 i1 i2 i3 i4 i5 hw, fun K Y a1 hw => bkX5_both i0 i1 i2 i3 i4 i5 hw, fun K Y a1 hw => bkX5_test i0 i1 i2 i3 i4 i5 hw, fun K Y a1 hw => bkX5_sum i0 i1 i2 i3 i4 i5 hw, fun K Y a1 hw => bkX5_term i0 i1 i2 i3 i4 i5 hw, fun K Y a1 hw => bkX5_part0 i0 i1 i2 i3 i4 i5 hw⟩
abbrev rX5_either : Room := rgX5 70
def wpX5_either (K : Int32 → gY → Prop) (Y : gY) (a1 : Int32) : Prop := wgX5 70 0 K Y a1
theorem wkX5_either {K : Int32 → gY → Prop} {Y : gY} {a1 : Int32} (hw : wpX5_either K Y a1) : gMet l yX5_either (ws_ yX5_either cX5_either 2 (some .boolean)) rX5_either G mL o ad [.ref o, .int a1] (fun r => some (.int r)) (fun r Y h => h = hN ∧ K r Y) 0 0 Y hN := (wgX5_ok 70).1 K Y a1 hw
/-! parse()I -/
abbrev rX5_parse : Room := { frames := 75, cells := 0, slots := 0, locals := 3121 }
theorem ydX5_parse : yX5_parse.cls = RX5 ∧ yX5_parse.cls ≠ "java/lang/invoke/MethodHandle" ∧ yX5_parse.cls ≠ "java/lang/invoke/VarHandle" ∧ (parseMethodDescriptor yX5_parse.desc).map (fun d => d.parameters.length) = some 0 := by decide +kernel
def wX5_parse_111 (K : Int32 → gY → Prop) (Y : gY) (x1 : Int32) (x2 : Int32) : Prop := ∀ Y_1 : gY, Y_1 = yset Y 16 0 → (((x2 = 0 → (K (-1) Y_1)) ∧ (¬ x2 = 0 → (K x1 Y_1))))
def wX5_parse_110 (K : Int32 → gY → Prop) (Y : gY) (x1 : Int32) (s0 : Int32) : Prop := wX5_parse_111 K Y x1 s0
def wX5_parse_109 (K : Int32 → gY → Prop) (Y : gY) (x1 : Int32) : Prop := wX5_parse_110 K Y x1 0
def wX5_parse_81 (K : Int32 → gY → Prop) (Y : gY) (x1 : Int32) (s0 : Int32) : Prop := ((s0 = 0 → (wX5_parse_111 K Y x1 s0)) ∧ (¬ s0 = 0 → (wpX5_nextToken (fun Y_6 => (wpX5_either (fun r_7 Y_8 => (((r_7 = 0 → (wX5_parse_109 K Y_8 x1)) ∧ (¬ r_7 = 0 → (((¬ (Y_8 19 0) = 0 → (wX5_parse_109 K Y_8 x1)) ∧ ((Y_8 19 0) = 0 → (wX5_parse_110 K Y_8 x1 1)))))))) Y_6 x1)) Y)))
def wX5_parse_60 (K : Int32 → gY → Prop) (Y : gY) (s1 : Int32) : Prop := ∀ Y_11 : gY, Y_11 = yset Y 25 s1 → (wpX5_nextToken (fun Y_14 => (wpX5_key (fun r_15 Y_16 => (((r_15 < 0 → (wX5_parse_81 K Y_16 r_15 0)) ∧ (¬ r_15 < 0 → (wX5_parse_81 K Y_16 r_15 1))))) Y_14)) Y_11)
def wpX5_parse (K : Int32 → gY → Prop) (Y : gY) : Prop := ∀ Y_18 : gY, Y_18 = yset Y 18 0 → (∀ Y_20 : gY, Y_20 = yset Y_18 19 3 → (∀ Y_22 : gY, Y_22 = yset Y_20 22 0 → (∀ Y_24 : gY, Y_24 = yset Y_22 23 0 → (∀ Y_26 : gY, Y_26 = yset Y_24 24 0 → (∀ Y_28 : gY, Y_28 = yset Y_26 26 0 → (vp_in 1 3069 ∧ (((14 ≤ (Y_28 0 (1 : Int32).toNatClampNeg) → (wX5_parse_60 K Y_28 2869)) ∧ (¬ 14 ≤ (Y_28 0 (1 : Int32).toNatClampNeg) → (vp_in 1 3069 ∧ (wpX5_textAt (fun r_31 Y_32 => (wX5_parse_60 K Y_32 (r_31 + 4))) Y_28 (Y_28 0 (1 : Int32).toNatClampNeg))))))))))))
theorem kX5_parse_111 {K : Int32 → gY → Prop} (S : gSt l rX5_parse cX5_parse RX5 "parse" 3 (some .int) G mL o ad (fun r => some (.int r)) (fun r Y h => h = hN ∧ K r Y) 0 0 J) {Y : gY} {x1 : Int32} {x2 : Int32} (hw : wX5_parse_111 K Y x1 x2) : J Y hN 0 0 111 [some (.ref o), some (.int x1), some (.int x2)] [] := by
  unfold wX5_parse_111 at hw
  refine j_ald0 (pc := 111) S dX5_parse_111 ?_
  refine j_iconst (pc := 112) (v := 0) S dX5_parse_112 rfl ?_
  refine m_putI (pc := 113) S 16 rfl rfl rfl rfl rfl q1210 dX5_parse_113 (fun Y_1 e_2 => ?_)
  have hw := hw Y_1 e_2
  refine j_ild2 (pc := 116) S dX5_parse_116 ?_
  refine j_if_eq (pc := 117) (tgt := 124) S dX5_parse_117 rfl (fun c_3 => ?_) (fun c_3 => ?_)
  · have hw := hw.1 c_3
    refine j_iconst (pc := 124) (v := (-1)) S dX5_parse_124 rfl ?_
    exact j_iret (pc := 125) S (Nat.le_refl _) (Nat.le_refl _) dX5_parse_125 ⟨rfl, hw⟩
  · have hw := hw.2 c_3
    refine j_ild1 (pc := 120) S dX5_parse_120 ?_
    refine j_goto (pc := 121) (tgt := 125) S dX5_parse_121 rfl ?_
    exact j_iret (pc := 125) S (Nat.le_refl _) (Nat.le_refl _) dX5_parse_125 ⟨rfl, hw⟩
theorem kX5_parse_110 {K : Int32 → gY → Prop} (S : gSt l rX5_parse cX5_parse RX5 "parse" 3 (some .int) G mL o ad (fun r => some (.int r)) (fun r Y h => h = hN ∧ K r Y) 0 0 J) {Y : gY} {x1 : Int32} {s0 : Int32} (hw : wX5_parse_110 K Y x1 s0) : J Y hN 0 0 110 [some (.ref o), some (.int x1), none] [.int s0] := by
  unfold wX5_parse_110 at hw
  refine j_ist2 (pc := 110) S dX5_parse_110 rfl rfl ?_
  exact j_sub S (kX5_parse_111 S hw) (gle_s (gle_s (gle_s gle_0)))
theorem kX5_parse_109 {K : Int32 → gY → Prop} (S : gSt l rX5_parse cX5_parse RX5 "parse" 3 (some .int) G mL o ad (fun r => some (.int r)) (fun r Y h => h = hN ∧ K r Y) 0 0 J) {Y : gY} {x1 : Int32} (hw : wX5_parse_109 K Y x1) : J Y hN 0 0 109 [some (.ref o), some (.int x1), none] [] := by
  unfold wX5_parse_109 at hw
  refine j_iconst (pc := 109) (v := 0) S dX5_parse_109 rfl ?_
  exact j_sub S (kX5_parse_110 S hw) (gle_s (gle_s (gle_n gle_0)))
theorem kX5_parse_81 {K : Int32 → gY → Prop} (S : gSt l rX5_parse cX5_parse RX5 "parse" 3 (some .int) G mL o ad (fun r => some (.int r)) (fun r Y h => h = hN ∧ K r Y) 0 0 J) {Y : gY} {x1 : Int32} {s0 : Int32} (hw : wX5_parse_81 K Y x1 s0) : J Y hN 0 0 81 [some (.ref o), some (.int x1), none] [.int s0] := by
  unfold wX5_parse_81 at hw
  refine j_ist2 (pc := 81) S dX5_parse_81 rfl rfl ?_
  refine j_ild2 (pc := 82) S dX5_parse_82 ?_
  refine j_if_eq (pc := 83) (tgt := 111) S dX5_parse_83 rfl (fun c_4 => ?_) (fun c_4 => ?_)
  · have hw := hw.1 c_4
    exact j_sub S (kX5_parse_111 S hw) (gle_s (gle_s (gle_s gle_0)))
  · have hw := hw.2 c_4
    refine j_ald0 (pc := 86) S dX5_parse_86 ?_
    refine m_callVv (pc := 87) S 0 (wkX5_nextToken hw) (lw_V q1531 q1533 qs63 q87 q1534) rfl rfl ydX5_nextToken rfl rfl rfl rfl rfl dX5_parse_87 rfl rfl (fun Y_6 hw => ?_)
    refine j_ald0 (pc := 90) S dX5_parse_90 ?_
    refine j_ild1 (pc := 91) S dX5_parse_91 ?_
    refine m_callVi (pc := 92) S 1 (wkX5_either hw) (lw_V q1555 q1557 qs68 q87 q1558) rfl rfl ydX5_either rfl rfl rfl rfl rfl dX5_parse_92 rfl rfl (fun r_7 Y_8 hw => ?_)
    refine j_if_eq (pc := 95) (tgt := 109) S dX5_parse_95 rfl (fun c_9 => ?_) (fun c_9 => ?_)
    · have hw := hw.1 c_9
      exact j_sub S (kX5_parse_109 S hw) (gle_s (gle_s (gle_n gle_0)))
    · have hw := hw.2 c_9
      refine j_ald0 (pc := 98) S dX5_parse_98 ?_
      refine m_getI (pc := 99) S 19 rfl rfl q1213 dX5_parse_99 ?_
      refine j_if_ne (pc := 102) (tgt := 109) S dX5_parse_102 rfl (fun c_10 => ?_) (fun c_10 => ?_)
      · have hw := hw.1 c_10
        exact j_sub S (kX5_parse_109 S hw) (gle_s (gle_s (gle_n gle_0)))
      · have hw := hw.2 c_10
        refine j_iconst (pc := 105) (v := 1) S dX5_parse_105 rfl ?_
        refine j_goto (pc := 106) (tgt := 110) S dX5_parse_106 rfl ?_
        exact j_sub S (kX5_parse_110 S hw) (gle_s (gle_s (gle_n gle_0)))
theorem kX5_parse_60 {K : Int32 → gY → Prop} (S : gSt l rX5_parse cX5_parse RX5 "parse" 3 (some .int) G mL o ad (fun r => some (.int r)) (fun r Y h => h = hN ∧ K r Y) 0 0 J) {Y : gY} {s1 : Int32} (hw : wX5_parse_60 K Y s1) : J Y hN 0 0 60 [some (.ref o), none, none] [.int s1, .ref o] := by
  unfold wX5_parse_60 at hw
  refine m_putI (pc := 60) S 25 rfl rfl rfl rfl rfl q1219 dX5_parse_60 (fun Y_11 e_12 => ?_)
  have hw := hw Y_11 e_12
  refine j_ald0 (pc := 63) S dX5_parse_63 ?_
  refine m_callVv (pc := 64) S 0 (wkX5_nextToken hw) (lw_V q1531 q1533 qs63 q87 q1534) rfl rfl ydX5_nextToken rfl rfl rfl rfl rfl dX5_parse_64 rfl rfl (fun Y_14 hw => ?_)
  refine j_ald0 (pc := 67) S dX5_parse_67 ?_
  refine m_callVi (pc := 68) S 0 (wkX5_key hw) (lw_V q1547 q1549 qs66 q87 q1550) rfl rfl ydX5_key rfl rfl rfl rfl rfl dX5_parse_68 rfl rfl (fun r_15 Y_16 hw => ?_)
  refine j_ist1 (pc := 71) S dX5_parse_71 rfl rfl ?_
  refine j_ild1 (pc := 72) S dX5_parse_72 ?_
  refine j_if_lt (pc := 73) (tgt := 80) S dX5_parse_73 rfl (fun c_17 => ?_) (fun c_17 => ?_)
  · have hw := hw.1 c_17
    refine j_iconst (pc := 80) (v := 0) S dX5_parse_80 rfl ?_
    exact j_sub S (kX5_parse_81 S hw) (gle_s (gle_s (gle_n gle_0)))
  · have hw := hw.2 c_17
    refine j_iconst (pc := 76) (v := 1) S dX5_parse_76 rfl ?_
    refine j_goto (pc := 77) (tgt := 81) S dX5_parse_77 rfl ?_
    exact j_sub S (kX5_parse_81 S hw) (gle_s (gle_s (gle_n gle_0)))
theorem wkX5_parse {K : Int32 → gY → Prop} {Y : gY} (hw : wpX5_parse K Y) : gMet l yX5_parse (ws_ yX5_parse cX5_parse 3 (some .int)) rX5_parse G mL o ad [.ref o] (fun r => some (.int r)) (fun r Y h => h = hN ∧ K r Y) 0 0 Y hN := by
  refine gMet.in (lv := [some (.ref o), none, none]) (by decide) rfl rfl (fun J S => ?_)
  have S : gSt l rX5_parse cX5_parse RX5 "parse" 3 (some .int) G mL o ad (fun r => some (.int r)) (fun r Y h => h = hN ∧ K r Y) 0 0 J := S
  unfold wpX5_parse at hw
  refine j_ald0 (pc := 0) S dX5_parse_0 ?_
  refine j_iconst (pc := 1) (v := 0) S dX5_parse_1 rfl ?_
  refine m_putI (pc := 2) S 18 rfl rfl rfl rfl rfl q1212 dX5_parse_2 (fun Y_18 e_19 => ?_)
  have hw := hw Y_18 e_19
  refine j_ald0 (pc := 5) S dX5_parse_5 ?_
  refine j_iconst (pc := 6) (v := 3) S dX5_parse_6 rfl ?_
  refine m_putI (pc := 7) S 19 rfl rfl rfl rfl rfl q1213 dX5_parse_7 (fun Y_20 e_21 => ?_)
  have hw := hw Y_20 e_21
  refine j_ald0 (pc := 10) S dX5_parse_10 ?_
  refine j_iconst (pc := 11) (v := 0) S dX5_parse_11 rfl ?_
  refine m_putI (pc := 12) S 22 rfl rfl rfl rfl rfl q1216 dX5_parse_12 (fun Y_22 e_23 => ?_)
  have hw := hw Y_22 e_23
  refine j_ald0 (pc := 15) S dX5_parse_15 ?_
  refine j_iconst (pc := 16) (v := 0) S dX5_parse_16 rfl ?_
  refine m_putI (pc := 17) S 23 rfl rfl rfl rfl rfl q1217 dX5_parse_17 (fun Y_24 e_25 => ?_)
  have hw := hw Y_24 e_25
  refine j_ald0 (pc := 20) S dX5_parse_20 ?_
  refine j_iconst (pc := 21) (v := 0) S dX5_parse_21 rfl ?_
  refine m_putI (pc := 22) S 24 rfl rfl rfl rfl rfl q1218 dX5_parse_22 (fun Y_26 e_27 => ?_)
  have hw := hw Y_26 e_27
  refine j_ald0 (pc := 25) S dX5_parse_25 ?_
  refine j_iconst (pc := 26) (v := 0) S dX5_parse_26 rfl ?_
  refine m_putI (pc := 27) S 26 rfl rfl rfl rfl rfl q1220 dX5_parse_27 (fun Y_28 e_29 => ?_)
  have hw := hw Y_28 e_29
  refine j_ald0 (pc := 30) S dX5_parse_30 ?_
  refine j_ald0 (pc := 31) S dX5_parse_31 ?_
  refine m_getA (pc := 32) S 0 rfl rfl q1194 dX5_parse_32 ?_
  refine j_iconst (pc := 35) (v := 1) S dX5_parse_35 rfl ?_
  obtain ⟨hi, hw⟩ := hw
  refine m_ald (pc := 36) S 0 rfl hi dX5_parse_36 ?_
  refine j_bipush (pc := 37) (v := 14) S dX5_parse_37 rfl ?_
  refine j_icmp_ge (pc := 39) (tgt := 57) S dX5_parse_39 rfl (fun c_30 => ?_) (fun c_30 => ?_)
  · have hw := hw.1 c_30
    refine j_sipush (pc := 57) (v := 2869) S dX5_parse_57 rfl ?_
    exact j_sub S (kX5_parse_60 S hw) (gle_s (gle_n (gle_n gle_0)))
  · have hw := hw.2 c_30
    refine j_ald0 (pc := 42) S dX5_parse_42 ?_
    refine j_ald0 (pc := 43) S dX5_parse_43 ?_
    refine m_getA (pc := 44) S 0 rfl rfl q1194 dX5_parse_44 ?_
    refine j_iconst (pc := 47) (v := 1) S dX5_parse_47 rfl ?_
    obtain ⟨hi, hw⟩ := hw
    refine m_ald (pc := 48) S 0 rfl hi dX5_parse_48 ?_
    refine m_callVi (pc := 49) S 1 (wkX5_textAt hw) (lw_V q1343 q1345 qs43 q87 q1346) rfl rfl ydX5_textAt rfl rfl rfl rfl rfl dX5_parse_49 rfl rfl (fun r_31 Y_32 hw => ?_)
    refine j_iconst (pc := 52) (v := 4) S dX5_parse_52 rfl ?_
    refine j_iadd (pc := 53) S dX5_parse_53 ?_
    refine j_goto (pc := 54) (tgt := 60) S dX5_parse_54 rfl ?_
    exact j_sub S (kX5_parse_60 S hw) (gle_s (gle_n (gle_n gle_0)))
/-! text()I -/
abbrev rX5_text : Room := { frames := 76, cells := 0, slots := 0, locals := 3143 }
theorem ydX5_text : yX5_text.cls = RX5 ∧ yX5_text.cls ≠ "java/lang/invoke/MethodHandle" ∧ yX5_text.cls ≠ "java/lang/invoke/VarHandle" ∧ (parseMethodDescriptor yX5_text.desc).map (fun d => d.parameters.length) = some 0 := by decide +kernel
def wpX5_text (K : Int32 → gY → Prop) (Y : gY) : Prop := wpX5_parse (fun r_1 Y_2 => (((0 ≤ r_1 → (vp_in 1 3069 ∧ (((¬ (Y_2 0 (1 : Int32).toNatClampNeg) = 14 → (vp_in 1 3069 ∧ (wpX5_textAt (fun r_5 Y_6 => (vp_in (r_5 + 0) 3069 ∧ ∀ Y_7 : gY, Y_7 = yupd Y_6 0 (r_5 + 0).toNatClampNeg r_1 → (vp_in (r_5 + 1) 3069 ∧ ∀ Y_9 : gY, Y_9 = yupd Y_7 0 (r_5 + 1).toNatClampNeg (Y_7 26 0) → (vp_in (r_5 + 2) 3069 ∧ ∀ Y_11 : gY, Y_11 = yupd Y_9 0 (r_5 + 2).toNatClampNeg (Y_9 24 0) → (vp_in 1 3069 ∧ (vp_in 1 3069 ∧ ∀ Y_13 : gY, Y_13 = yupd Y_11 0 (1 : Int32).toNatClampNeg ((Y_11 0 (1 : Int32).toNatClampNeg) + 1) → (vp_in 1 3069 ∧ (K ((Y_13 0 (1 : Int32).toNatClampNeg) - 1) Y_13)))))))) Y_2 (Y_2 0 (1 : Int32).toNatClampNeg)))) ∧ ((Y_2 0 (1 : Int32).toNatClampNeg) = 14 → (K (-1000000003) Y_2)))))) ∧ (¬ 0 ≤ r_1 → (K ((-100) - (Y_2 17 0)) Y_2))))) Y
theorem wkX5_text {K : Int32 → gY → Prop} {Y : gY} (hw : wpX5_text K Y) : gMet l yX5_text (ws_ yX5_text cX5_text 3 (some .int)) rX5_text G mL o ad [.ref o] (fun r => some (.int r)) (fun r Y h => h = hN ∧ K r Y) 0 0 Y hN := by
  refine gMet.in (lv := [some (.ref o), none, none]) (by decide) rfl rfl (fun J S => ?_)
  have S : gSt l rX5_text cX5_text RX5 "text" 3 (some .int) G mL o ad (fun r => some (.int r)) (fun r Y h => h = hN ∧ K r Y) 0 0 J := S
  unfold wpX5_text at hw
  refine j_ald0 (pc := 0) S dX5_text_0 ?_
  refine m_callVi (pc := 1) S 0 (wkX5_parse hw) (lw_V q1527 q1529 qs62 q87 q1530) rfl rfl ydX5_parse rfl rfl rfl rfl rfl dX5_text_1 rfl rfl (fun r_1 Y_2 hw => ?_)
  refine j_ist1 (pc := 4) S dX5_text_4 rfl rfl ?_
  refine j_ild1 (pc := 5) S dX5_text_5 ?_
  refine j_if_ge (pc := 6) (tgt := 17) S dX5_text_6 rfl (fun c_3 => ?_) (fun c_3 => ?_)
  · have hw := hw.1 c_3
    refine j_ald0 (pc := 17) S dX5_text_17 ?_
    refine m_getA (pc := 18) S 0 rfl rfl q1194 dX5_text_18 ?_
    refine j_iconst (pc := 21) (v := 1) S dX5_text_21 rfl ?_
    obtain ⟨hi, hw⟩ := hw
    refine m_ald (pc := 22) S 0 rfl hi dX5_text_22 ?_
    refine j_bipush (pc := 23) (v := 14) S dX5_text_23 rfl ?_
    refine j_icmp_ne (pc := 25) (tgt := 31) S dX5_text_25 rfl (fun c_4 => ?_) (fun c_4 => ?_)
    · have hw := hw.1 c_4
      refine j_ald0 (pc := 31) S dX5_text_31 ?_
      refine j_ald0 (pc := 32) S dX5_text_32 ?_
      refine m_getA (pc := 33) S 0 rfl rfl q1194 dX5_text_33 ?_
      refine j_iconst (pc := 36) (v := 1) S dX5_text_36 rfl ?_
      obtain ⟨hi, hw⟩ := hw
      refine m_ald (pc := 37) S 0 rfl hi dX5_text_37 ?_
      refine m_callVi (pc := 38) S 1 (wkX5_textAt hw) (lw_V q1343 q1345 qs43 q87 q1346) rfl rfl ydX5_textAt rfl rfl rfl rfl rfl dX5_text_38 rfl rfl (fun r_5 Y_6 hw => ?_)
      refine j_ist2 (pc := 41) S dX5_text_41 rfl rfl ?_
      refine j_ald0 (pc := 42) S dX5_text_42 ?_
      refine m_getA (pc := 43) S 0 rfl rfl q1194 dX5_text_43 ?_
      refine j_ild2 (pc := 46) S dX5_text_46 ?_
      refine j_iconst (pc := 47) (v := 0) S dX5_text_47 rfl ?_
      refine j_iadd (pc := 48) S dX5_text_48 ?_
      refine j_ild1 (pc := 49) S dX5_text_49 ?_
      obtain ⟨hi, hw⟩ := hw
      refine m_ast (pc := 50) S 0 rfl hi dX5_text_50 (fun Y_7 e_8 => ?_)
      have hw := hw Y_7 e_8
      refine j_ald0 (pc := 51) S dX5_text_51 ?_
      refine m_getA (pc := 52) S 0 rfl rfl q1194 dX5_text_52 ?_
      refine j_ild2 (pc := 55) S dX5_text_55 ?_
      refine j_iconst (pc := 56) (v := 1) S dX5_text_56 rfl ?_
      refine j_iadd (pc := 57) S dX5_text_57 ?_
      refine j_ald0 (pc := 58) S dX5_text_58 ?_
      refine m_getI (pc := 59) S 26 rfl rfl q1220 dX5_text_59 ?_
      obtain ⟨hi, hw⟩ := hw
      refine m_ast (pc := 62) S 0 rfl hi dX5_text_62 (fun Y_9 e_10 => ?_)
      have hw := hw Y_9 e_10
      refine j_ald0 (pc := 63) S dX5_text_63 ?_
      refine m_getA (pc := 64) S 0 rfl rfl q1194 dX5_text_64 ?_
      refine j_ild2 (pc := 67) S dX5_text_67 ?_
      refine j_iconst (pc := 68) (v := 2) S dX5_text_68 rfl ?_
      refine j_iadd (pc := 69) S dX5_text_69 ?_
      refine j_ald0 (pc := 70) S dX5_text_70 ?_
      refine m_getI (pc := 71) S 24 rfl rfl q1218 dX5_text_71 ?_
      obtain ⟨hi, hw⟩ := hw
      refine m_ast (pc := 74) S 0 rfl hi dX5_text_74 (fun Y_11 e_12 => ?_)
      have hw := hw Y_11 e_12
      refine j_ald0 (pc := 75) S dX5_text_75 ?_
      refine m_getA (pc := 76) S 0 rfl rfl q1194 dX5_text_76 ?_
      refine j_iconst (pc := 79) (v := 1) S dX5_text_79 rfl ?_
      refine j_dup2 (pc := 80) S dX5_text_80 rfl rfl ?_
      obtain ⟨hi, hw⟩ := hw
      refine m_ald (pc := 81) S 0 rfl hi dX5_text_81 ?_
      refine j_iconst (pc := 82) (v := 1) S dX5_text_82 rfl ?_
      refine j_iadd (pc := 83) S dX5_text_83 ?_
      obtain ⟨hi, hw⟩ := hw
      refine m_ast (pc := 84) S 0 rfl hi dX5_text_84 (fun Y_13 e_14 => ?_)
      have hw := hw Y_13 e_14
      refine j_ald0 (pc := 85) S dX5_text_85 ?_
      refine m_getA (pc := 86) S 0 rfl rfl q1194 dX5_text_86 ?_
      refine j_iconst (pc := 89) (v := 1) S dX5_text_89 rfl ?_
      obtain ⟨hi, hw⟩ := hw
      refine m_ald (pc := 90) S 0 rfl hi dX5_text_90 ?_
      refine j_iconst (pc := 91) (v := 1) S dX5_text_91 rfl ?_
      refine j_isub (pc := 92) S dX5_text_92 ?_
      exact j_iret (pc := 93) S (Nat.le_refl _) (Nat.le_refl _) dX5_text_93 ⟨rfl, hw⟩
    · have hw := hw.2 c_4
      refine j_ldc (pc := 28) S q1311 dX5_text_28 ?_
      exact j_iret (pc := 30) S (Nat.le_refl _) (Nat.le_refl _) dX5_text_30 ⟨rfl, hw⟩
  · have hw := hw.2 c_3
    refine j_bipush (pc := 9) (v := (-100)) S dX5_text_9 rfl ?_
    refine j_ald0 (pc := 11) S dX5_text_11 ?_
    refine m_getI (pc := 12) S 17 rfl rfl q1211 dX5_text_12 ?_
    refine j_isub (pc := 15) S dX5_text_15 ?_
    exact j_iret (pc := 16) S (Nat.le_refl _) (Nat.le_refl _) dX5_text_16 ⟨rfl, hw⟩

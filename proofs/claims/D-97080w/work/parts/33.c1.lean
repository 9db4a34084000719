set_option maxRecDepth 100000
variable {l : Launch} {G : gG} {L : gL} {o : Nat} {ad : Nat → Nat} {J : gJt} {kS vS : Nat → Nat} {fZ : Nat}
/-! LeaningStreet$State.<init>()V -/
abbrev rX1_init (mc ms : Nat) : Room := { frames := 1, cells := mc, slots := ms, locals := 20 }
theorem ydX1_init : yX1_init.cls ≠ "java/lang/invoke/MethodHandle" ∧ yX1_init.cls ≠ "java/lang/invoke/VarHandle" ∧ (parseMethodDescriptor yX1_init.desc).map (fun d => d.parameters.length) = some 0 := by decide +kernel
def wpX1_init (K : gY → gH → Prop) (mc ms : Nat) (Y : gY) (h : gH) (a0 : Nat) : Prop := ∃ fs_1 : List Value, h a0 = some (.inr (6, fs_1)) ∧ 0 < fs_1.length ∧ ∀ h_2 : gH, h_2 = hup h a0 (.inr (6, fs_1.set 0 (.int 1))) → (0 + 1 ≤ mc ∧ 0 + 9 ≤ ms ∧ ∀ (q_6 : Nat) (h_7 : gH), h_2 q_6 = none → h_7 = hup h_2 q_6 (.inl (4, 9, .inr (.inr (.inr (.inr (fun _ => none)))))) → (∃ fs_10 : List Value, h_7 a0 = some (.inr (6, fs_10)) ∧ 2 < fs_10.length ∧ ∀ h_11 : gH, h_11 = hup h_7 a0 (.inr (6, fs_10.set 2 (.ref q_6))) → ((0 + 1) + 1 ≤ mc ∧ (0 + 9) + 14 ≤ ms ∧ ∀ (q_15 : Nat) (h_16 : gH), h_11 q_15 = none → h_16 = hup h_11 q_15 (.inl (5, 14, .inr (.inr (.inr (.inr (fun _ => none)))))) → (∃ fs_19 : List Value, h_16 a0 = some (.inr (6, fs_19)) ∧ 7 < fs_19.length ∧ ∀ h_20 : gH, h_20 = hup h_16 a0 (.inr (6, fs_19.set 7 (.ref q_15))) → (K Y h_20)))))
theorem wkX1_init (hC : cOK G) {K : gY → gH → Prop} {mc ms : Nat} {Y : gY} {h : gH} {a0 : Nat} (hw : wpX1_init K mc ms Y h a0) : gMet l yX1_init (ws_ yX1_init cX1_init 1 none) (rX1_init mc ms) G L o ad [.ref a0] (fun _ => none) (fun (_ : Unit) Y h => K Y h) mc ms Y h := by
  refine gMet.in (lv := [some (.ref a0)]) (by decide) rfl rfl (fun J S => ?_)
  have S : gSt l (rX1_init mc ms) cX1_init RX1 "<init>" 1 none G L o ad (fun _ => none) (fun (_ : Unit) Y h => K Y h) mc ms J := S
  unfold wpX1_init at hw
  refine j_ald0 (pc := 0) S dX1_init_0 ?_
  refine j_objInit (pc := 1) S q119 q112 q113 dX1_init_1 rfl rfl ?_
  refine j_ald0 (pc := 4) S dX1_init_4 ?_
  refine j_iconst (pc := 5) (v := 1) S dX1_init_5 rfl ?_
  obtain ⟨fs_1, ha, hl, hw⟩ := hw
  refine h_put (pc := 6) (C := RX1) (T := TX1) (N := 8) S ha 0 rfl in_X1 tyX1 tyX1_ok nmX1 rfl q124 rfl rfl rfl hl dX1_init_6 (fun h_2 e_3 => ?_)
  have hw := hw h_2 e_3
  refine j_ald0 (pc := 9) S dX1_init_9 ?_
  refine j_bipush (pc := 10) (v := 9) S dX1_init_10 rfl ?_
  obtain ⟨hc_4, hs_5, hw⟩ := hw
  refine h_newq (pc := 12) (C := RX6) (N' := 9) S 4 q120 (fun U hU => (hC U hU).2.2.1) (fun _ => rfl) (by decide) rfl (by decide) hc_4 hs_5 dX1_init_12 (fun q_6 h_7 hq_8 e_9 => ?_)
  have hw := hw q_6 h_7 hq_8 e_9
  obtain ⟨fs_10, ha, hl, hw⟩ := hw
  refine h_putF (pc := 15) (C := RX1) (T := TX1) (N := 8) S ha 2 rfl in_X1 tyX1 tyX1_ok nmX1 rfl q128 rfl rfl rfl rfl hl dX1_init_15 (fun h_11 e_12 => ?_)
  have hw := hw h_11 e_12
  refine j_ald0 (pc := 18) S dX1_init_18 ?_
  refine j_bipush (pc := 19) (v := 14) S dX1_init_19 rfl ?_
  obtain ⟨hc_13, hs_14, hw⟩ := hw
  refine h_newq (pc := 21) (C := RX13) (N' := 14) S 5 q122 (fun U hU => (hC U hU).2.2.2.1) (fun _ => rfl) (by decide) rfl (by decide) hc_13 hs_14 dX1_init_21 (fun q_15 h_16 hq_17 e_18 => ?_)
  have hw := hw q_15 h_16 hq_17 e_18
  obtain ⟨fs_19, ha, hl, hw⟩ := hw
  refine h_putF (pc := 24) (C := RX1) (T := TX1) (N := 8) S ha 7 rfl in_X1 tyX1 tyX1_ok nmX1 rfl q138 rfl rfl rfl rfl hl dX1_init_24 (fun h_20 e_21 => ?_)
  have hw := hw h_20 e_21
  exact j_vret (pc := 27) S hc_13 hs_14 dX1_init_27 hw
/-! LeaningStreet$State.standing()I -/
abbrev rX1_standing : Room := { frames := 0, cells := 0, slots := 0, locals := 0 }
theorem ydX1_standing : yX1_standing.cls = RX1 ∧ yX1_standing.cls ≠ "java/lang/invoke/MethodHandle" ∧ yX1_standing.cls ≠ "java/lang/invoke/VarHandle" ∧ (parseMethodDescriptor yX1_standing.desc).map (fun d => d.parameters.length) = some 0 := by decide +kernel
def wX1_standing_32 (K : Int32 → gY → gH → Prop) (J4 : gY → gH → Nat → Int32 → Int32 → Prop) (Y : gY) (h : gH) (x0 : Nat) (x2 : Int32) (s0 : Int32) (s1 : Int32) : Prop := ∀ x1_1 : Int32, x1_1 = (s0 ||| s1) → (∀ x2_3 : Int32, x2_3 = x2 + 1 → (J4 Y h x0 x1_1 x2_3))
def wX1_standing_4 (K : Int32 → gY → gH → Prop) : Nat → gY → gH → Nat → Int32 → Int32 → Prop
  | 0 => fun _ _ _ _ _ => False
  | n + 1 => fun Y h x0 x1 x2 => ∃ (fs_5 : List Value) (f_6 : Int32), h x0 = some (.inr (6, fs_5)) ∧ fs_5[1]? = some (.int f_6) ∧ (((f_6 ≤ x2 → (K x1 Y h)) ∧ (¬ f_6 ≤ x2 → (∃ (fs_8 : List Value) (f_9 : Nat), h x0 = some (.inr (6, fs_8)) ∧ fs_8[2]? = some (.ref f_9) ∧ (∃ (n_10 : Nat) (g_11 : Nat → Option Nat) (b_12 : Nat), h f_9 = some (.inl (4, n_10, .inr (.inr (.inr (.inr g_11))))) ∧ vp_in x2 n_10 ∧ g_11 x2.toNatClampNeg = some b_12 ∧ (∃ (ci_15 : Nat) (fs_13 : List Value) (f_14 : Int32), ci_15 < 6 ∧ h b_12 = some (.inr (ci_15, fs_13)) ∧ fs_13[5]? = some (.int f_14) ∧ (((f_14 = 0 → (wX1_standing_32 K (wX1_standing_4 K n) Y h x0 x2 x1 0)) ∧ (¬ f_14 = 0 → (wX1_standing_32 K (wX1_standing_4 K n) Y h x0 x2 x1 ((1 : Int32) <<< (x2 &&& 31))))))))))))
def wpX1_standing (K : Int32 → gY → gH → Prop) (Y : gY) (h : gH) (a0 : Nat) : Prop := ∃ fu_17 : Nat, wX1_standing_4 K fu_17 Y h a0 0 0
theorem kX1_standing_32 {K : Int32 → gY → gH → Prop} (S : gSt l rX1_standing cX1_standing RX1 "standing" 3 (some .int) G L o ad (fun r => some (.int r)) K 0 0 J) (hC : cOK G) {J4 : gY → gH → Nat → Int32 → Int32 → Prop} (h4 : ∀ (Y : gY) (h : gH) (x0 : Nat) (x1 : Int32) (x2 : Int32), J4 Y h x0 x1 x2 → J Y h 0 0 4 [some (.ref x0), some (.int x1), some (.int x2)] []) {Y : gY} {h : gH} {x0 : Nat} {x2 : Int32} {s0 : Int32} {s1 : Int32} (hw : wX1_standing_32 K J4 Y h x0 x2 s0 s1) : J Y h 0 0 32 [some (.ref x0), none, some (.int x2)] [.int s1, .int s0] := by
  unfold wX1_standing_32 at hw
  refine j_ior (pc := 32) S dX1_standing_32 ?_
  refine j_topi (fun x1_1 e_2 => ?_)
  have hw := hw x1_1 e_2
  refine j_ist1 (pc := 33) S dX1_standing_33 rfl rfl ?_
  obtain ⟨x2_3, e_4⟩ : ∃ y : Int32, y = x2 + 1 := ⟨_, rfl⟩
  have hw := hw x2_3 e_4
  refine j_iinc2 (pc := 34) (v := x2_3) S dX1_standing_34 (by rw [e_4]; rfl) rfl rfl ?_
  refine j_goto (pc := 37) (tgt := 4) S dX1_standing_37 rfl ?_
  exact j_sub S (h4 _ _ _ _ _ hw) (gle_s (gle_s (gle_s gle_0)))
theorem kX1_standing_4 {K : Int32 → gY → gH → Prop} (S : gSt l rX1_standing cX1_standing RX1 "standing" 3 (some .int) G L o ad (fun r => some (.int r)) K 0 0 J) (hC : cOK G) : ∀ (n : Nat) (Y : gY) (h : gH) (x0 : Nat) (x1 : Int32) (x2 : Int32), wX1_standing_4 K n Y h x0 x1 x2 → J Y h 0 0 4 [some (.ref x0), some (.int x1), some (.int x2)] [] := by
  intro n
  induction n with
  | zero => intro Y h x0 x1 x2 hw; exact hw.elim
  | succ n ih =>
    intro Y h x0 x1 x2 hw
    unfold wX1_standing_4 at hw
    refine j_ild2 (pc := 4) S dX1_standing_4 ?_
    refine j_ald0 (pc := 5) S dX1_standing_5 ?_
    obtain ⟨fs_5, f_6, ha, hv, hw⟩ := hw
    refine h_get (pc := 6) (C := RX1) (T := TX1) (N := 8) S ha 1 rfl in_X1 rfl q126 hv dX1_standing_6 ?_
    refine j_icmp_ge (pc := 9) (tgt := 40) S dX1_standing_9 rfl (fun c_7 => ?_) (fun c_7 => ?_)
    · have hw := hw.1 c_7
      refine j_ild1 (pc := 40) S dX1_standing_40 ?_
      exact j_iret (pc := 41) S (Nat.le_refl _) (Nat.le_refl _) dX1_standing_41 hw
    · have hw := hw.2 c_7
      refine j_ild1 (pc := 12) S dX1_standing_12 ?_
      refine j_ald0 (pc := 13) S dX1_standing_13 ?_
      obtain ⟨fs_8, f_9, ha, hv, hw⟩ := hw
      refine h_get (pc := 14) (C := RX1) (T := TX1) (N := 8) S ha 2 rfl in_X1 rfl q128 hv dX1_standing_14 ?_
      refine j_ild2 (pc := 17) S dX1_standing_17 ?_
      obtain ⟨n_10, g_11, b_12, ha, hi, hb, hw⟩ := hw
      refine h_aald1 (pc := 18) S 4 (fun _ => rfl) ha hi hb dX1_standing_18 ?_
      obtain ⟨ci_15, fs_13, f_14, hci, ha, hv, hw⟩ := hw
      refine hh_get (pc := 19) S hci ha 5 rfl q559 hv dX1_standing_19 ?_
      refine j_if_eq (pc := 22) (tgt := 31) S dX1_standing_22 rfl (fun c_16 => ?_) (fun c_16 => ?_)
      · have hw := hw.1 c_16
        refine j_iconst (pc := 31) (v := 0) S dX1_standing_31 rfl ?_
        exact j_sub S (kX1_standing_32 S hC ih hw) (gle_s (gle_n (gle_s gle_0)))
      · have hw := hw.2 c_16
        refine j_iconst (pc := 25) (v := 1) S dX1_standing_25 rfl ?_
        refine j_ild2 (pc := 26) S dX1_standing_26 ?_
        refine j_ishl (pc := 27) S dX1_standing_27 ?_
        refine j_goto (pc := 28) (tgt := 32) S dX1_standing_28 rfl ?_
        exact j_sub S (kX1_standing_32 S hC ih hw) (gle_s (gle_n (gle_s gle_0)))
theorem wkX1_standing (hC : cOK G) {K : Int32 → gY → gH → Prop} {Y : gY} {h : gH} {a0 : Nat} (hw : wpX1_standing K Y h a0) : gMet l yX1_standing (ws_ yX1_standing cX1_standing 3 (some .int)) rX1_standing G L o ad [.ref a0] (fun r => some (.int r)) K 0 0 Y h := by
  refine gMet.in (lv := [some (.ref a0), none, none]) (by decide) rfl rfl (fun J S => ?_)
  have S : gSt l rX1_standing cX1_standing RX1 "standing" 3 (some .int) G L o ad (fun r => some (.int r)) K 0 0 J := S
  unfold wpX1_standing at hw
  refine j_iconst (pc := 0) (v := 0) S dX1_standing_0 rfl ?_
  refine j_ist1 (pc := 1) S dX1_standing_1 rfl rfl ?_
  refine j_iconst (pc := 2) (v := 0) S dX1_standing_2 rfl ?_
  refine j_ist2 (pc := 3) S dX1_standing_3 rfl rfl ?_
  obtain ⟨fu_17, hw⟩ := hw
  exact j_sub S (kX1_standing_4 S hC fu_17 _ _ _ _ _ hw) (gle_s (gle_s (gle_s gle_0)))
/-! LeaningStreet$State.draw()I -/
abbrev rX1_draw : Room := { frames := 0, cells := 0, slots := 0, locals := 0 }
theorem ydX1_draw : yX1_draw.cls = RX1 ∧ yX1_draw.cls ≠ "java/lang/invoke/MethodHandle" ∧ yX1_draw.cls ≠ "java/lang/invoke/VarHandle" ∧ (parseMethodDescriptor yX1_draw.desc).map (fun d => d.parameters.length) = some 0 := by decide +kernel
def wpX1_draw (K : Int32 → gY → gH → Prop) (Y : gY) (h : gH) (a0 : Nat) : Prop := ∃ (fs_1 : List Value) (f_2 : Int32), h a0 = some (.inr (6, fs_1)) ∧ fs_1[0]? = some (.int f_2) ∧ (∃ fs_3 : List Value, h a0 = some (.inr (6, fs_3)) ∧ 0 < fs_3.length ∧ ∀ h_4 : gH, h_4 = hup h a0 (.inr (6, fs_3.set 0 (.int ((f_2 * 1103515245) + 12345)))) → (∃ (fs_6 : List Value) (f_7 : Int32), h_4 a0 = some (.inr (6, fs_6)) ∧ fs_6[0]? = some (.int f_7) ∧ (K ((f_7.toUInt32 >>> ((8 : Int32).toUInt32 &&& Int32.toUInt32 31)).toInt32) Y h_4)))
theorem wkX1_draw (hC : cOK G) {K : Int32 → gY → gH → Prop} {Y : gY} {h : gH} {a0 : Nat} (hw : wpX1_draw K Y h a0) : gMet l yX1_draw (ws_ yX1_draw cX1_draw 1 (some .int)) rX1_draw G L o ad [.ref a0] (fun r => some (.int r)) K 0 0 Y h := by
  refine gMet.in (lv := [some (.ref a0)]) (by decide) rfl rfl (fun J S => ?_)
  have S : gSt l rX1_draw cX1_draw RX1 "draw" 1 (some .int) G L o ad (fun r => some (.int r)) K 0 0 J := S
  unfold wpX1_draw at hw
  refine j_ald0 (pc := 0) S dX1_draw_0 ?_
  refine j_ald0 (pc := 1) S dX1_draw_1 ?_
  obtain ⟨fs_1, f_2, ha, hv, hw⟩ := hw
  refine h_get (pc := 2) (C := RX1) (T := TX1) (N := 8) S ha 0 rfl in_X1 rfl q124 hv dX1_draw_2 ?_
  refine j_ldc (pc := 5) S q859 dX1_draw_5 ?_
  refine j_imul (pc := 7) S dX1_draw_7 ?_
  refine j_sipush (pc := 8) (v := 12345) S dX1_draw_8 rfl ?_
  refine j_iadd (pc := 11) S dX1_draw_11 ?_
  obtain ⟨fs_3, ha, hl, hw⟩ := hw
  refine h_put (pc := 12) (C := RX1) (T := TX1) (N := 8) S ha 0 rfl in_X1 tyX1 tyX1_ok nmX1 rfl q124 rfl rfl rfl hl dX1_draw_12 (fun h_4 e_5 => ?_)
  have hw := hw h_4 e_5
  refine j_ald0 (pc := 15) S dX1_draw_15 ?_
  obtain ⟨fs_6, f_7, ha, hv, hw⟩ := hw
  refine h_get (pc := 16) (C := RX1) (T := TX1) (N := 8) S ha 0 rfl in_X1 rfl q124 hv dX1_draw_16 ?_
  refine j_bipush (pc := 19) (v := 8) S dX1_draw_19 rfl ?_
  refine j_iushr (pc := 21) S dX1_draw_21 ?_
  exact j_iret (pc := 22) S (Nat.le_refl _) (Nat.le_refl _) dX1_draw_22 hw
/-! LeaningStreet$State.props()I -/
abbrev rX1_props : Room := { frames := 0, cells := 0, slots := 0, locals := 0 }
theorem ydX1_props : yX1_props.cls = RX1 ∧ yX1_props.cls ≠ "java/lang/invoke/MethodHandle" ∧ yX1_props.cls ≠ "java/lang/invoke/VarHandle" ∧ (parseMethodDescriptor yX1_props.desc).map (fun d => d.parameters.length) = some 0 := by decide +kernel
def wX1_props_4 (K : Int32 → gY → gH → Prop) : Nat → gY → gH → Nat → Int32 → Int32 → Prop
  | 0 => fun _ _ _ _ _ => False
  | n + 1 => fun Y h x0 x1 x2 => ∃ (fs_1 : List Value) (f_2 : Int32), h x0 = some (.inr (6, fs_1)) ∧ fs_1[1]? = some (.int f_2) ∧ (((f_2 ≤ x2 → (K x1 Y h)) ∧ (¬ f_2 ≤ x2 → (∃ (fs_4 : List Value) (f_5 : Nat), h x0 = some (.inr (6, fs_4)) ∧ fs_4[2]? = some (.ref f_5) ∧ (∃ (n_6 : Nat) (g_7 : Nat → Option Nat) (b_8 : Nat), h f_5 = some (.inl (4, n_6, .inr (.inr (.inr (.inr g_7))))) ∧ vp_in x2 n_6 ∧ g_7 x2.toNatClampNeg = some b_8 ∧ (∃ (ci_11 : Nat) (fs_9 : List Value) (f_10 : Int32), ci_11 < 6 ∧ h b_8 = some (.inr (ci_11, fs_9)) ∧ fs_9[4]? = some (.int f_10) ∧ (∀ x1_12 : Int32, x1_12 = (x1 + f_10) → (∀ x2_14 : Int32, x2_14 = x2 + 1 → ((wX1_props_4 K n) Y h x0 x1_12 x2_14)))))))))
def wpX1_props (K : Int32 → gY → gH → Prop) (Y : gY) (h : gH) (a0 : Nat) : Prop := ∃ fu_16 : Nat, wX1_props_4 K fu_16 Y h a0 0 0
theorem kX1_props_4 {K : Int32 → gY → gH → Prop} (S : gSt l rX1_props cX1_props RX1 "props" 3 (some .int) G L o ad (fun r => some (.int r)) K 0 0 J) (hC : cOK G) : ∀ (n : Nat) (Y : gY) (h : gH) (x0 : Nat) (x1 : Int32) (x2 : Int32), wX1_props_4 K n Y h x0 x1 x2 → J Y h 0 0 4 [some (.ref x0), some (.int x1), some (.int x2)] [] := by
  intro n
  induction n with
  | zero => intro Y h x0 x1 x2 hw; exact hw.elim
  | succ n ih =>
    intro Y h x0 x1 x2 hw
    unfold wX1_props_4 at hw
    refine j_ild2 (pc := 4) S dX1_props_4 ?_
    refine j_ald0 (pc := 5) S dX1_props_5 ?_
    obtain ⟨fs_1, f_2, ha, hv, hw⟩ := hw
    refine h_get (pc := 6) (C := RX1) (T := TX1) (N := 8) S ha 1 rfl in_X1 rfl q126 hv dX1_props_6 ?_
    refine j_icmp_ge (pc := 9) (tgt := 30) S dX1_props_9 rfl (fun c_3 => ?_) (fun c_3 => ?_)
    · have hw := hw.1 c_3
      refine j_ild1 (pc := 30) S dX1_props_30 ?_
      exact j_iret (pc := 31) S (Nat.le_refl _) (Nat.le_refl _) dX1_props_31 hw
    · have hw := hw.2 c_3
      refine j_ild1 (pc := 12) S dX1_props_12 ?_
      refine j_ald0 (pc := 13) S dX1_props_13 ?_
      obtain ⟨fs_4, f_5, ha, hv, hw⟩ := hw
      refine h_get (pc := 14) (C := RX1) (T := TX1) (N := 8) S ha 2 rfl in_X1 rfl q128 hv dX1_props_14 ?_
      refine j_ild2 (pc := 17) S dX1_props_17 ?_
      obtain ⟨n_6, g_7, b_8, ha, hi, hb, hw⟩ := hw
      refine h_aald1 (pc := 18) S 4 (fun _ => rfl) ha hi hb dX1_props_18 ?_
      obtain ⟨ci_11, fs_9, f_10, hci, ha, hv, hw⟩ := hw
      refine hh_get (pc := 19) S hci ha 4 rfl q556 hv dX1_props_19 ?_
      refine j_iadd (pc := 22) S dX1_props_22 ?_
      refine j_topi (fun x1_12 e_13 => ?_)
      have hw := hw x1_12 e_13
      refine j_ist1 (pc := 23) S dX1_props_23 rfl rfl ?_
      obtain ⟨x2_14, e_15⟩ : ∃ y : Int32, y = x2 + 1 := ⟨_, rfl⟩
      have hw := hw x2_14 e_15
      refine j_iinc2 (pc := 24) (v := x2_14) S dX1_props_24 (by rw [e_15]; rfl) rfl rfl ?_
      refine j_goto (pc := 27) (tgt := 4) S dX1_props_27 rfl ?_
      exact j_sub S (ih _ _ _ _ _ hw) (gle_s (gle_s (gle_s gle_0)))
theorem wkX1_props (hC : cOK G) {K : Int32 → gY → gH → Prop} {Y : gY} {h : gH} {a0 : Nat} (hw : wpX1_props K Y h a0) : gMet l yX1_props (ws_ yX1_props cX1_props 3 (some .int)) rX1_props G L o ad [.ref a0] (fun r => some (.int r)) K 0 0 Y h := by
  refine gMet.in (lv := [some (.ref a0), none, none]) (by decide) rfl rfl (fun J S => ?_)
  have S : gSt l rX1_props cX1_props RX1 "props" 3 (some .int) G L o ad (fun r => some (.int r)) K 0 0 J := S
  unfold wpX1_props at hw
  refine j_iconst (pc := 0) (v := 0) S dX1_props_0 rfl ?_
  refine j_ist1 (pc := 1) S dX1_props_1 rfl rfl ?_
  refine j_iconst (pc := 2) (v := 0) S dX1_props_2 rfl ?_
  refine j_ist2 (pc := 3) S dX1_props_3 rfl rfl ?_
  obtain ⟨fu_16, hw⟩ := hw
  exact j_sub S (kX1_props_4 S hC fu_16 _ _ _ _ _ hw) (gle_s (gle_s (gle_s gle_0)))
/-! LeaningStreet$State.cracks()I -/
abbrev rX1_cracks : Room := { frames := 0, cells := 0, slots := 0, locals := 0 }
theorem ydX1_cracks : yX1_cracks.cls = RX1 ∧ yX1_cracks.cls ≠ "java/lang/invoke/MethodHandle" ∧ yX1_cracks.cls ≠ "java/lang/invoke/VarHandle" ∧ (parseMethodDescriptor yX1_cracks.desc).map (fun d => d.parameters.length) = some 0 := by decide +kernel
def wX1_cracks_4 (K : Int32 → gY → gH → Prop) : Nat → gY → gH → Nat → Int32 → Int32 → Prop
  | 0 => fun _ _ _ _ _ => False
  | n + 1 => fun Y h x0 x1 x2 => ∃ (fs_1 : List Value) (f_2 : Int32), h x0 = some (.inr (6, fs_1)) ∧ fs_1[1]? = some (.int f_2) ∧ (((f_2 ≤ x2 → (K x1 Y h)) ∧ (¬ f_2 ≤ x2 → (∃ (fs_4 : List Value) (f_5 : Nat), h x0 = some (.inr (6, fs_4)) ∧ fs_4[2]? = some (.ref f_5) ∧ (∃ (n_6 : Nat) (g_7 : Nat → Option Nat) (b_8 : Nat), h f_5 = some (.inl (4, n_6, .inr (.inr (.inr (.inr g_7))))) ∧ vp_in x2 n_6 ∧ g_7 x2.toNatClampNeg = some b_8 ∧ (∃ (ci_11 : Nat) (fs_9 : List Value) (f_10 : Int32), ci_11 < 6 ∧ h b_8 = some (.inr (ci_11, fs_9)) ∧ fs_9[3]? = some (.int f_10) ∧ (∀ x1_12 : Int32, x1_12 = (x1 + f_10) → (∀ x2_14 : Int32, x2_14 = x2 + 1 → ((wX1_cracks_4 K n) Y h x0 x1_12 x2_14)))))))))
def wpX1_cracks (K : Int32 → gY → gH → Prop) (Y : gY) (h : gH) (a0 : Nat) : Prop := ∃ fu_16 : Nat, wX1_cracks_4 K fu_16 Y h a0 0 0
theorem kX1_cracks_4 {K : Int32 → gY → gH → Prop} (S : gSt l rX1_cracks cX1_cracks RX1 "cracks" 3 (some .int) G L o ad (fun r => some (.int r)) K 0 0 J) (hC : cOK G) : ∀ (n : Nat) (Y : gY) (h : gH) (x0 : Nat) (x1 : Int32) (x2 : Int32), wX1_cracks_4 K n Y h x0 x1 x2 → J Y h 0 0 4 [some (.ref x0), some (.int x1), some (.int x2)] [] := by
  intro n
  induction n with
  | zero => intro Y h x0 x1 x2 hw; exact hw.elim
  | succ n ih =>
    intro Y h x0 x1 x2 hw
    unfold wX1_cracks_4 at hw
    refine j_ild2 (pc := 4) S dX1_cracks_4 ?_
    refine j_ald0 (pc := 5) S dX1_cracks_5 ?_
    obtain ⟨fs_1, f_2, ha, hv, hw⟩ := hw
    refine h_get (pc := 6) (C := RX1) (T := TX1) (N := 8) S ha 1 rfl in_X1 rfl q126 hv dX1_cracks_6 ?_
    refine j_icmp_ge (pc := 9) (tgt := 30) S dX1_cracks_9 rfl (fun c_3 => ?_) (fun c_3 => ?_)
    · have hw := hw.1 c_3
      refine j_ild1 (pc := 30) S dX1_cracks_30 ?_
      exact j_iret (pc := 31) S (Nat.le_refl _) (Nat.le_refl _) dX1_cracks_31 hw
    · have hw := hw.2 c_3
      refine j_ild1 (pc := 12) S dX1_cracks_12 ?_
      refine j_ald0 (pc := 13) S dX1_cracks_13 ?_
      obtain ⟨fs_4, f_5, ha, hv, hw⟩ := hw
      refine h_get (pc := 14) (C := RX1) (T := TX1) (N := 8) S ha 2 rfl in_X1 rfl q128 hv dX1_cracks_14 ?_
      refine j_ild2 (pc := 17) S dX1_cracks_17 ?_
      obtain ⟨n_6, g_7, b_8, ha, hi, hb, hw⟩ := hw
      refine h_aald1 (pc := 18) S 4 (fun _ => rfl) ha hi hb dX1_cracks_18 ?_
      obtain ⟨ci_11, fs_9, f_10, hci, ha, hv, hw⟩ := hw
      refine hh_get (pc := 19) S hci ha 3 rfl q552 hv dX1_cracks_19 ?_
      refine j_iadd (pc := 22) S dX1_cracks_22 ?_
      refine j_topi (fun x1_12 e_13 => ?_)
      have hw := hw x1_12 e_13
      refine j_ist1 (pc := 23) S dX1_cracks_23 rfl rfl ?_
      obtain ⟨x2_14, e_15⟩ : ∃ y : Int32, y = x2 + 1 := ⟨_, rfl⟩
      have hw := hw x2_14 e_15
      refine j_iinc2 (pc := 24) (v := x2_14) S dX1_cracks_24 (by rw [e_15]; rfl) rfl rfl ?_
      refine j_goto (pc := 27) (tgt := 4) S dX1_cracks_27 rfl ?_
      exact j_sub S (ih _ _ _ _ _ hw) (gle_s (gle_s (gle_s gle_0)))
theorem wkX1_cracks (hC : cOK G) {K : Int32 → gY → gH → Prop} {Y : gY} {h : gH} {a0 : Nat} (hw : wpX1_cracks K Y h a0) : gMet l yX1_cracks (ws_ yX1_cracks cX1_cracks 3 (some .int)) rX1_cracks G L o ad [.ref a0] (fun r => some (.int r)) K 0 0 Y h := by
  refine gMet.in (lv := [some (.ref a0), none, none]) (by decide) rfl rfl (fun J S => ?_)
  have S : gSt l rX1_cracks cX1_cracks RX1 "cracks" 3 (some .int) G L o ad (fun r => some (.int r)) K 0 0 J := S
  unfold wpX1_cracks at hw
  refine j_iconst (pc := 0) (v := 0) S dX1_cracks_0 rfl ?_
  refine j_ist1 (pc := 1) S dX1_cracks_1 rfl rfl ?_
  refine j_iconst (pc := 2) (v := 0) S dX1_cracks_2 rfl ?_
  refine j_ist2 (pc := 3) S dX1_cracks_3 rfl rfl ?_
  obtain ⟨fu_16, hw⟩ := hw
  exact j_sub S (kX1_cracks_4 S hC fu_16 _ _ _ _ _ hw) (gle_s (gle_s (gle_s gle_0)))
/-! LeaningStreet$House.kind()I -/
abbrev rX6_kind : Room := { frames := 0, cells := 0, slots := 0, locals := 0 }
theorem ydX6_kind : yX6_kind.cls = RX6 ∧ yX6_kind.cls ≠ "java/lang/invoke/MethodHandle" ∧ yX6_kind.cls ≠ "java/lang/invoke/VarHandle" ∧ (parseMethodDescriptor yX6_kind.desc).map (fun d => d.parameters.length) = some 0 := by decide +kernel
theorem ysX6_kind : yX6_kind.name ≠ "<init>" ∧ (parseMethodDescriptor yX6_kind.desc).map (fun d => d.parameters.length) = some 0 := by decide +kernel
def wpX6_kind (K : Int32 → gY → gH → Prop) (Y : gY) (h : gH) (a0 : Nat) : Prop := K 0 Y h
theorem wkX6_kind (hC : cOK G) {K : Int32 → gY → gH → Prop} {Y : gY} {h : gH} {a0 : Nat} (hw : wpX6_kind K Y h a0) : gMet l yX6_kind (ws_ yX6_kind cX6_kind 1 (some .int)) rX6_kind G L o ad [.ref a0] (fun r => some (.int r)) K 0 0 Y h := by
  refine gMet.in (lv := [some (.ref a0)]) (by decide) rfl rfl (fun J S => ?_)
  have S : gSt l rX6_kind cX6_kind RX6 "kind" 1 (some .int) G L o ad (fun r => some (.int r)) K 0 0 J := S
  unfold wpX6_kind at hw
  refine j_iconst (pc := 0) (v := 0) S dX6_kind_0 rfl ?_
  exact j_iret (pc := 1) S (Nat.le_refl _) (Nat.le_refl _) dX6_kind_1 hw
/-! LeaningStreet$TimberHouse.kind()I -/
abbrev rX7_kind : Room := { frames := 0, cells := 0, slots := 0, locals := 0 }
theorem ydX7_kind : yX7_kind.cls = RX7 ∧ yX7_kind.cls ≠ "java/lang/invoke/MethodHandle" ∧ yX7_kind.cls ≠ "java/lang/invoke/VarHandle" ∧ (parseMethodDescriptor yX7_kind.desc).map (fun d => d.parameters.length) = some 0 := by decide +kernel
theorem ysX7_kind : yX7_kind.name ≠ "<init>" ∧ (parseMethodDescriptor yX7_kind.desc).map (fun d => d.parameters.length) = some 0 := by decide +kernel
def wpX7_kind (K : Int32 → gY → gH → Prop) (Y : gY) (h : gH) (a0 : Nat) : Prop := K 1 Y h
theorem wkX7_kind (hC : cOK G) {K : Int32 → gY → gH → Prop} {Y : gY} {h : gH} {a0 : Nat} (hw : wpX7_kind K Y h a0) : gMet l yX7_kind (ws_ yX7_kind cX7_kind 1 (some .int)) rX7_kind G L o ad [.ref a0] (fun r => some (.int r)) K 0 0 Y h := by
  refine gMet.in (lv := [some (.ref a0)]) (by decide) rfl rfl (fun J S => ?_)
  have S : gSt l rX7_kind cX7_kind RX7 "kind" 1 (some .int) G L o ad (fun r => some (.int r)) K 0 0 J := S
  unfold wpX7_kind at hw
  refine j_iconst (pc := 0) (v := 1) S dX7_kind_0 rfl ?_
  exact j_iret (pc := 1) S (Nat.le_refl _) (Nat.le_refl _) dX7_kind_1 hw
/-! LeaningStreet$BrickHouse.kind()I -/
abbrev rX8_kind : Room := { frames := 0, cells := 0, slots := 0, locals := 0 }
theorem ydX8_kind : yX8_kind.cls = RX8 ∧ yX8_kind.cls ≠ "java/lang/invoke/MethodHandle" ∧ yX8_kind.cls ≠ "java/lang/invoke/VarHandle" ∧ (parseMethodDescriptor yX8_kind.desc).map (fun d => d.parameters.length) = some 0 := by decide +kernel
theorem ysX8_kind : yX8_kind.name ≠ "<init>" ∧ (parseMethodDescriptor yX8_kind.desc).map (fun d => d.parameters.length) = some 0 := by decide +kernel
def wpX8_kind (K : Int32 → gY → gH → Prop) (Y : gY) (h : gH) (a0 : Nat) : Prop := K 2 Y h
theorem wkX8_kind (hC : cOK G) {K : Int32 → gY → gH → Prop} {Y : gY} {h : gH} {a0 : Nat} (hw : wpX8_kind K Y h a0) : gMet l yX8_kind (ws_ yX8_kind cX8_kind 1 (some .int)) rX8_kind G L o ad [.ref a0] (fun r => some (.int r)) K 0 0 Y h := by
  refine gMet.in (lv := [some (.ref a0)]) (by decide) rfl rfl (fun J S => ?_)
  have S : gSt l rX8_kind cX8_kind RX8 "kind" 1 (some .int) G L o ad (fun r => some (.int r)) K 0 0 J := S
  unfold wpX8_kind at hw
  refine j_iconst (pc := 0) (v := 2) S dX8_kind_0 rfl ?_
  exact j_iret (pc := 1) S (Nat.le_refl _) (Nat.le_refl _) dX8_kind_1 hw
/-! LeaningStreet$EmptyHouse.kind()I -/
abbrev rX9_kind : Room := { frames := 1, cells := 0, slots := 0, locals := 20 }
theorem ydX9_kind : yX9_kind.cls = RX9 ∧ yX9_kind.cls ≠ "java/lang/invoke/MethodHandle" ∧ yX9_kind.cls ≠ "java/lang/invoke/VarHandle" ∧ (parseMethodDescriptor yX9_kind.desc).map (fun d => d.parameters.length) = some 0 := by decide +kernel
def wpX9_kind (K : Int32 → gY → gH → Prop) (Y : gY) (h : gH) (a0 : Nat) : Prop := ∃ (ci_4 : Nat) (fs_5 : List Value), ci_4 < 6 ∧ h a0 = some (.inr (ci_4, fs_5)) ∧ wpX7_kind (fun r_1 Y_2 h_3 => (K (r_1 + 2) Y_2 h_3)) Y h a0
theorem wkX9_kind (hC : cOK G) {K : Int32 → gY → gH → Prop} {Y : gY} {h : gH} {a0 : Nat} (hw : wpX9_kind K Y h a0) : gMet l yX9_kind (ws_ yX9_kind cX9_kind 1 (some .int)) rX9_kind G L o ad [.ref a0] (fun r => some (.int r)) K 0 0 Y h := by
  refine gMet.in (lv := [some (.ref a0)]) (by decide) rfl rfl (fun J S => ?_)
  have S : gSt l rX9_kind cX9_kind RX9 "kind" 1 (some .int) G L o ad (fun r => some (.int r)) K 0 0 J := S
  unfold wpX9_kind at hw
  refine j_ald0 (pc := 0) S dX9_kind_0 ?_
  obtain ⟨ci_4, fs_5, hci, ha, hw⟩ := hw
  obtain ⟨qc, hqc⟩ := hc_of hci
  refine x_callSUi (pc := 1) S 0 (wkX7_kind hC hw) (lw_SU q658 q1684 q599 q659 q89 q660) rfl rfl ysX7_kind rfl rfl (h_recv ha hqc rfl) rfl rfl rfl dX9_kind_1 (Nat.le_refl _) (Nat.le_refl _) (fun r_1 Y_2 h_3 hw => ?_)
  refine j_iconst (pc := 4) (v := 2) S dX9_kind_4 rfl ?_
  refine j_iadd (pc := 5) S dX9_kind_5 ?_
  exact j_iret (pc := 6) S (Nat.le_refl _) (Nat.le_refl _) dX9_kind_6 hw
/-! LeaningStreet$DoubleHouse.kind()I -/
abbrev rX10_kind : Room := { frames := 1, cells := 0, slots := 0, locals := 20 }
theorem ydX10_kind : yX10_kind.cls = RX10 ∧ yX10_kind.cls ≠ "java/lang/invoke/MethodHandle" ∧ yX10_kind.cls ≠ "java/lang/invoke/VarHandle" ∧ (parseMethodDescriptor yX10_kind.desc).map (fun d => d.parameters.length) = some 0 := by decide +kernel
def wpX10_kind (K : Int32 → gY → gH → Prop) (Y : gY) (h : gH) (a0 : Nat) : Prop := ∃ (ci_4 : Nat) (fs_5 : List Value), ci_4 < 6 ∧ h a0 = some (.inr (ci_4, fs_5)) ∧ wpX8_kind (fun r_1 Y_2 h_3 => (K (r_1 + 2) Y_2 h_3)) Y h a0
theorem wkX10_kind (hC : cOK G) {K : Int32 → gY → gH → Prop} {Y : gY} {h : gH} {a0 : Nat} (hw : wpX10_kind K Y h a0) : gMet l yX10_kind (ws_ yX10_kind cX10_kind 1 (some .int)) rX10_kind G L o ad [.ref a0] (fun r => some (.int r)) K 0 0 Y h := by
  refine gMet.in (lv := [some (.ref a0)]) (by decide) rfl rfl (fun J S => ?_)
  have S : gSt l rX10_kind cX10_kind RX10 "kind" 1 (some .int) G L o ad (fun r => some (.int r)) K 0 0 J := S
  unfold wpX10_kind at hw
  refine j_ald0 (pc := 0) S dX10_kind_0 ?_
  obtain ⟨ci_4, fs_5, hci, ha, hw⟩ := hw
  obtain ⟨qc, hqc⟩ := hc_of hci
  refine x_callSUi (pc := 1) S 0 (wkX8_kind hC hw) (lw_SU q654 q1683 q612 q649 q90 q650) rfl rfl ysX8_kind rfl rfl (h_recv ha hqc rfl) rfl rfl rfl dX10_kind_1 (Nat.le_refl _) (Nat.le_refl _) (fun r_1 Y_2 h_3 hw => ?_)
  refine j_iconst (pc := 4) (v := 2) S dX10_kind_4 rfl ?_
  refine j_iadd (pc := 5) S dX10_kind_5 ?_
  exact j_iret (pc := 6) S (Nat.le_refl _) (Nat.le_refl _) dX10_kind_6 hw
/-! LeaningStreet$FloatingHouse.kind()I -/
abbrev rX11_kind : Room := { frames := 0, cells := 0, slots := 0, locals := 0 }
theorem ydX11_kind : yX11_kind.cls = RX11 ∧ yX11_kind.cls ≠ "java/lang/invoke/MethodHandle" ∧ yX11_kind.cls ≠ "java/lang/invoke/VarHandle" ∧ (parseMethodDescriptor yX11_kind.desc).map (fun d => d.parameters.length) = some 0 := by decide +kernel
def wpX11_kind (K : Int32 → gY → gH → Prop) (Y : gY) (h : gH) (a0 : Nat) : Prop := K 5 Y h
theorem wkX11_kind (hC : cOK G) {K : Int32 → gY → gH → Prop} {Y : gY} {h : gH} {a0 : Nat} (hw : wpX11_kind K Y h a0) : gMet l yX11_kind (ws_ yX11_kind cX11_kind 1 (some .int)) rX11_kind G L o ad [.ref a0] (fun r => some (.int r)) K 0 0 Y h := by
  refine gMet.in (lv := [some (.ref a0)]) (by decide) rfl rfl (fun J S => ?_)
  have S : gSt l rX11_kind cX11_kind RX11 "kind" 1 (some .int) G L o ad (fun r => some (.int r)) K 0 0 J := S
  unfold wpX11_kind at hw
  refine j_iconst (pc := 0) (v := 5) S dX11_kind_0 rfl ?_
  exact j_iret (pc := 1) S (Nat.le_refl _) (Nat.le_refl _) dX11_kind_1 hw
/-! a House's kind -/
theorem yoH_kind : RX6 ≠ "java/lang/invoke/MethodHandle" ∧ RX6 ≠ "java/lang/invoke/VarHandle" ∧ (parseMethodDescriptor yX6_kind.desc).map (fun d => d.parameters.length) = some 0 := by decide +kernel
def wvH_kind (K : Int32 → gY → gH → Prop) (Y : gY) (h : gH) (a0 : Nat) : Prop := ∃ (ci : Nat) (fs : List Value), ci < 6 ∧ h a0 = some (.inr (ci, fs)) ∧ ((ci = 0 → wpX6_kind K Y h a0) ∧ (ci = 1 → wpX7_kind K Y h a0) ∧ (ci = 2 → wpX8_kind K Y h a0) ∧ (ci = 3 → wpX9_kind K Y h a0) ∧ (ci = 4 → wpX10_kind K Y h a0) ∧ (ci = 5 → wpX11_kind K Y h a0))
theorem jvH_kind {α : Type} {R : Room} {cc : ByteArray} {own nm : String} {nL index cs ss pc : Nat} {ret : Option FieldType} {vv : α → Option Value} {K : α → gY → gH → Prop} {mc ms : Nat} {Y : gY} {h : gH} {lv : List (Option Value)} {st rest : List Value} {K' : Int32 → gY → gH → Prop} {a0 : Nat} (S : gSt l R cc own nm nL ret G L o ad vv K mc ms J) (hC : cOK G) (hw : wvH_kind K' Y h a0) (q : Cond.methodLink own index ⟨"LeaningStreet$House", "kind", "()I"⟩ ∈ lw_all) (hR1 : Nat.ble 2 R.frames = true) (hR2 : Nat.ble 40 R.locals = true) (hst : st = .ref a0 :: rest) (hsum : Nat.ble (rest.map fun v => v.category).sum 8 = true) (d : decode cc pc = .ok (.invokevirtual index, 3)) (hcs : cs ≤ R.cells) (hss : ss ≤ R.slots)
    (kk : ∀ (r : Int32) (Y' : gY) (h' : gH), K' r Y' h' → J Y' h' cs ss (pc + 3) lv (.int r :: rest)) : J Y h cs ss pc lv st := by
  obtain ⟨ci, fs, hci, ha, hw⟩ := hw
  rcases (show ci = 0 ∨ ci = 1 ∨ ci = 2 ∨ ci = 3 ∨ ci = 4 ∨ ci = 5 by omega) with rfl | rfl | rfl | rfl | rfl | rfl
  · exact x_callUi (C := RX6) (owner := RX6) (x := yX6_kind) (As := []) S 0 (wkX6_kind hC (hw.1 rfl)) (lw_U q q647 q646 q645 q88 q665) rfl rfl rfl yoH_kind (ble_tr rfl hR1) (ble_tr rfl hR2) (h_recv ha rfl rfl) rfl hst hsum d hcs hss kk
  · exact x_callOi (C := RX7) (owner := RX6) (x := yX6_kind) (As := []) S 0 (wkX7_kind hC (hw.2.1 rfl)) (lw_O q q647 q645 q664 q659 q89 q660) rfl rfl q665 yoH_kind (ble_tr rfl hR1) (ble_tr rfl hR2) (h_recv ha rfl rfl) rfl hst hsum d hcs hss kk
  · exact x_callOi (C := RX8) (owner := RX6) (x := yX6_kind) (As := []) S 0 (wkX8_kind hC (hw.2.2.1 rfl)) (lw_O q q647 q645 q648 q649 q90 q650) rfl rfl q665 yoH_kind (ble_tr rfl hR1) (ble_tr rfl hR2) (h_recv ha rfl rfl) rfl hst hsum d hcs hss kk
  · exact x_callOi (C := RX9) (owner := RX6) (x := yX6_kind) (As := []) S 0 (wkX9_kind hC (hw.2.2.2.1 rfl)) (lw_O q q647 q645 q655 q656 q91 q657) rfl rfl q665 yoH_kind (ble_tr rfl hR1) (ble_tr rfl hR2) (h_recv ha rfl rfl) rfl hst hsum d hcs hss kk
  · exact x_callOi (C := RX10) (owner := RX6) (x := yX6_kind) (As := []) S 0 (wkX10_kind hC (hw.2.2.2.2.1 rfl)) (lw_O q q647 q645 q651 q652 q92 q653) rfl rfl q665 yoH_kind (ble_tr rfl hR1) (ble_tr rfl hR2) (h_recv ha rfl rfl) rfl hst hsum d hcs hss kk
  · exact x_callOi (C := RX11) (owner := RX6) (x := yX6_kind) (As := []) S 0 (wkX11_kind hC (hw.2.2.2.2.2 rfl)) (lw_O q q647 q645 q661 q662 q93 q663) rfl rfl q665 yoH_kind (ble_tr rfl hR1) (ble_tr rfl hR2) (h_recv ha rfl rfl) rfl hst hsum d hcs hss kk
/-! LeaningStreet$House.<init>()V -/
abbrev rX6_init : Room := { frames := 1, cells := 0, slots := 0, locals := 20 }
theorem ydX6_init : yX6_init.cls ≠ "java/lang/invoke/MethodHandle" ∧ yX6_init.cls ≠ "java/lang/invoke/VarHandle" ∧ (parseMethodDescriptor yX6_init.desc).map (fun d => d.parameters.length) = some 0 := by decide +kernel
def wpX6_init (K : gY → gH → Prop) (Y : gY) (h : gH) (a0 : Nat) : Prop := ∃ (ci_4 : Nat) (fs_1 : List Value), ci_4 < 6 ∧ h a0 = some (.inr (ci_4, fs_1)) ∧ 5 < fs_1.length ∧ ∀ h_2 : gH, h_2 = hup h a0 (.inr (ci_4, fs_1.set 5 (.int 1))) → (K Y h_2)
theorem wkX6_init (hC : cOK G) {K : gY → gH → Prop} {Y : gY} {h : gH} {a0 : Nat} (hw : wpX6_init K Y h a0) : gMet l yX6_init (ws_ yX6_init cX6_init 1 none) rX6_init G L o ad [.ref a0] (fun _ => none) (fun (_ : Unit) Y h => K Y h) 0 0 Y h := by
  refine gMet.in (lv := [some (.ref a0)]) (by decide) rfl rfl (fun J S => ?_)
  have S : gSt l rX6_init cX6_init RX6 "<init>" 1 none G L o ad (fun _ => none) (fun (_ : Unit) Y h => K Y h) 0 0 J := S
  unfold wpX6_init at hw
  refine j_ald0 (pc := 0) S dX6_init_0 ?_
  refine j_objInit (pc := 1) S q545 q112 q113 dX6_init_1 rfl rfl ?_
  refine j_ald0 (pc := 4) S dX6_init_4 ?_
  refine j_iconst (pc := 5) (v := 1) S dX6_init_5 rfl ?_
  obtain ⟨ci_4, fs_1, hci, ha, hl, hw⟩ := hw
  refine hh_put (pc := 6) S hci ha 5 rfl q558 rfl rfl rfl hl dX6_init_6 (fun h_2 e_3 => ?_)
  have hw := hw h_2 e_3
  exact j_vret (pc := 9) S (Nat.le_refl _) (Nat.le_refl _) dX6_init_9 hw
/-! LeaningStreet$House.another()LLeaningStreet$House; -/
abbrev rX6_another (mc ms : Nat) : Room := { frames := 2, cells := mc, slots := ms, locals := 40 }
theorem ydX6_another : yX6_another.cls = RX6 ∧ yX6_another.cls ≠ "java/lang/invoke/MethodHandle" ∧ yX6_another.cls ≠ "java/lang/invoke/VarHandle" ∧ (parseMethodDescriptor yX6_another.desc).map (fun d => d.parameters.length) = some 0 := by decide +kernel
theorem ysX6_another : yX6_another.name ≠ "<init>" ∧ (parseMethodDescriptor yX6_another.desc).map (fun d => d.parameters.length) = some 0 := by decide +kernel
def wpX6_another (K : Nat → gY → gH → Prop) (mc ms : Nat) (Y : gY) (h : gH) (a0 : Nat) : Prop := 0 + 1 ≤ mc ∧ 0 + 6 ≤ ms ∧ ∀ (q_3 : Nat) (h_4 : gH), h q_3 = none → h_4 = hup h q_3 (.inr (0, [.int 0, .int 0, .int 0, .int 0, .int 0, .int 0])) → (wpX6_init (fun Y_8 h_9 => (K q_3 Y_8 h_9)) Y h_4 q_3)
theorem wkX6_another (hC : cOK G) {K : Nat → gY → gH → Prop} {mc ms : Nat} {Y : gY} {h : gH} {a0 : Nat} (hw : wpX6_another K mc ms Y h a0) : gMet l yX6_another (ws_ yX6_another cX6_another 1 (some (.object "LeaningStreet$House"))) (rX6_another mc ms) G L o ad [.ref a0] (fun r => some (.ref r)) K mc ms Y h := by
  refine gMet.in (lv := [some (.ref a0)]) (by decide) rfl rfl (fun J S => ?_)
  have S : gSt l (rX6_another mc ms) cX6_another RX6 "another" 1 (some (.object "LeaningStreet$House")) G L o ad (fun r => some (.ref r)) K mc ms J := S
  unfold wpX6_another at hw
  obtain ⟨hc_1, hs_2, hw⟩ := hw
  refine h_new (pc := 0) (C := RX6) (T := TX6) (N := 6) (ci := 0) (fs := [.int 0, .int 0, .int 0, .int 0, .int 0, .int 0]) S rfl in_X6 tyX6 tyX6_ok q947 q627 q88 (fun j hj => by rcases (show j = 0 ∨ j = 1 ∨ j = 2 ∨ j = 3 ∨ j = 4 ∨ j = 5 by omega) with rfl | rfl | rfl | rfl | rfl | rfl <;> rfl) hc_1 hs_2 dX6_another_0 (fun q_3 h_4 hq_5 e_6 => ?_)
  have hw := hw q_3 h_4 hq_5 e_6
  refine j_dup (pc := 3) S dX6_another_3 rfl ?_
  refine x_callIv (ret' := none) (pc := 4) S 0 (wkX6_init hC hw) (lw_meth q544) rfl rfl q88 q948 q543 rfl ydX6_init rfl rfl rfl rfl rfl dX6_another_4 hc_1 hs_2 (fun Y_8 h_9 hw => ?_)
  exact j_aret (pc := 7) S (Or.inl ⟨_, rfl⟩) hc_1 hs_2 dX6_another_7 hw
/-! LeaningStreet$TimberHouse.<init>()V -/
abbrev rX7_init : Room := { frames := 2, cells := 0, slots := 0, locals := 40 }
theorem ydX7_init : yX7_init.cls ≠ "java/lang/invoke/MethodHandle" ∧ yX7_init.cls ≠ "java/lang/invoke/VarHandle" ∧ (parseMethodDescriptor yX7_init.desc).map (fun d => d.parameters.length) = some 0 := by decide +kernel
def wpX7_init (K : gY → gH → Prop) (Y : gY) (h : gH) (a0 : Nat) : Prop := wpX6_init (fun Y_2 h_3 => (K Y_2 h_3)) Y h a0
theorem wkX7_init (hC : cOK G) {K : gY → gH → Prop} {Y : gY} {h : gH} {a0 : Nat} (hw : wpX7_init K Y h a0) : gMet l yX7_init (ws_ yX7_init cX7_init 1 none) rX7_init G L o ad [.ref a0] (fun _ => none) (fun (_ : Unit) Y h => K Y h) 0 0 Y h := by
  refine gMet.in (lv := [some (.ref a0)]) (by decide) rfl rfl (fun J S => ?_)
  have S : gSt l rX7_init cX7_init RX7 "<init>" 1 none G L o ad (fun _ => none) (fun (_ : Unit) Y h => K Y h) 0 0 J := S
  unfold wpX7_init at hw
  refine j_ald0 (pc := 0) S dX7_init_0 ?_
  refine x_callINv (ret' := none) (pc := 1) S 0 (wkX6_init hC hw) (lw_meth q544) rfl rfl q88 (cn hC 30 rfl) q543 rfl ydX6_init rfl rfl rfl rfl rfl dX7_init_1 (Nat.le_refl _) (Nat.le_refl _) (fun Y_2 h_3 hw => ?_)
  exact j_vret (pc := 4) S (Nat.le_refl _) (Nat.le_refl _) dX7_init_4 hw
/-! LeaningStreet$TimberHouse.another()LLeaningStreet$House; -/
abbrev rX7_another (mc ms : Nat) : Room := { frames := 3, cells := mc, slots := ms, locals := 60 }
theorem ydX7_another : yX7_another.cls = RX7 ∧ yX7_another.cls ≠ "java/lang/invoke/MethodHandle" ∧ yX7_another.cls ≠ "java/lang/invoke/VarHandle" ∧ (parseMethodDescriptor yX7_another.desc).map (fun d => d.parameters.length) = some 0 := by decide +kernel
theorem ysX7_another : yX7_another.name ≠ "<init>" ∧ (parseMethodDescriptor yX7_another.desc).map (fun d => d.parameters.length) = some 0 := by decide +kernel
def wpX7_another (K : Nat → gY → gH → Prop) (mc ms : Nat) (Y : gY) (h : gH) (a0 : Nat) : Prop := 0 + 1 ≤ mc ∧ 0 + 6 ≤ ms ∧ ∀ (q_3 : Nat) (h_4 : gH), h q_3 = none → h_4 = hup h q_3 (.inr (1, [.int 0, .int 0, .int 0, .int 0, .int 0, .int 0])) → (wpX7_init (fun Y_8 h_9 => (K q_3 Y_8 h_9)) Y h_4 q_3)
theorem wkX7_another (hC : cOK G) {K : Nat → gY → gH → Prop} {mc ms : Nat} {Y : gY} {h : gH} {a0 : Nat} (hw : wpX7_another K mc ms Y h a0) : gMet l yX7_another (ws_ yX7_another cX7_another 1 (some (.object "LeaningStreet$House"))) (rX7_another mc ms) G L o ad [.ref a0] (fun r => some (.ref r)) K mc ms Y h := by
  refine gMet.in (lv := [some (.ref a0)]) (by decide) rfl rfl (fun J S => ?_)
  have S : gSt l (rX7_another mc ms) cX7_another RX7 "another" 1 (some (.object "LeaningStreet$House")) G L o ad (fun r => some (.ref r)) K mc ms J := S
  unfold wpX7_another at hw
  obtain ⟨hc_1, hs_2, hw⟩ := hw
  refine h_new (pc := 0) (C := RX7) (T := TX7) (N := 6) (ci := 1) (fs := [.int 0, .int 0, .int 0, .int 0, .int 0, .int 0]) S rfl in_X7 tyX7 tyX7_ok q944 q538 q89 (fun j hj => by rcases (show j = 0 ∨ j = 1 ∨ j = 2 ∨ j = 3 ∨ j = 4 ∨ j = 5 by omega) with rfl | rfl | rfl | rfl | rfl | rfl <;> rfl) hc_1 hs_2 dX7_another_0 (fun q_3 h_4 hq_5 e_6 => ?_)
  have hw := hw q_3 h_4 hq_5 e_6
  refine j_dup (pc := 3) S dX7_another_3 rfl ?_
  refine x_callIv (ret' := none) (pc := 4) S 0 (wkX7_init hC hw) (lw_meth q541) rfl rfl q89 q945 q540 rfl ydX7_init rfl rfl rfl rfl rfl dX7_another_4 hc_1 hs_2 (fun Y_8 h_9 hw => ?_)
  exact j_aret (pc := 7) S (Or.inl ⟨_, rfl⟩) hc_1 hs_2 dX7_another_7 hw
/-! LeaningStreet$BrickHouse.<init>()V -/
abbrev rX8_init : Room := { frames := 2, cells := 0, slots := 0, locals := 40 }
theorem ydX8_init : yX8_init.cls ≠ "java/lang/invoke/MethodHandle" ∧ yX8_init.cls ≠ "java/lang/invoke/VarHandle" ∧ (parseMethodDescriptor yX8_init.desc).map (fun d => d.parameters.length) = some 0 := by decide +kernel
def wpX8_init (K : gY → gH → Prop) (Y : gY) (h : gH) (a0 : Nat) : Prop := wpX6_init (fun Y_2 h_3 => (K Y_2 h_3)) Y h a0
theorem wkX8_init (hC : cOK G) {K : gY → gH → Prop} {Y : gY} {h : gH} {a0 : Nat} (hw : wpX8_init K Y h a0) : gMet l yX8_init (ws_ yX8_init cX8_init 1 none) rX8_init G L o ad [.ref a0] (fun _ => none) (fun (_ : Unit) Y h => K Y h) 0 0 Y h := by
  refine gMet.in (lv := [some (.ref a0)]) (by decide) rfl rfl (fun J S => ?_)
  have S : gSt l rX8_init cX8_init RX8 "<init>" 1 none G L o ad (fun _ => none) (fun (_ : Unit) Y h => K Y h) 0 0 J := S
  unfold wpX8_init at hw
  refine j_ald0 (pc := 0) S dX8_init_0 ?_
  refine x_callINv (ret' := none) (pc := 1) S 0 (wkX6_init hC hw) (lw_meth q544) rfl rfl q88 (cn hC 32 rfl) q543 rfl ydX6_init rfl rfl rfl rfl rfl dX8_init_1 (Nat.le_refl _) (Nat.le_refl _) (fun Y_2 h_3 hw => ?_)
  exact j_vret (pc := 4) S (Nat.le_refl _) (Nat.le_refl _) dX8_init_4 hw
/-! LeaningStreet$BrickHouse.another()LLeaningStreet$House; -/
abbrev rX8_another (mc ms : Nat) : Room := { frames := 3, cells := mc, slots := ms, locals := 60 }
theorem ydX8_another : yX8_another.cls = RX8 ∧ yX8_another.cls ≠ "java/lang/invoke/MethodHandle" ∧ yX8_another.cls ≠ "java/lang/invoke/VarHandle" ∧ (parseMethodDescriptor yX8_another.desc).map (fun d => d.parameters.length) = some 0 := by decide +kernel
theorem ysX8_another : yX8_another.name ≠ "<init>" ∧ (parseMethodDescriptor yX8_another.desc).map (fun d => d.parameters.length) = some 0 := by decide +kernel
def wpX8_another (K : Nat → gY → gH → Prop) (mc ms : Nat) (Y : gY) (h : gH) (a0 : Nat) : Prop := 0 + 1 ≤ mc ∧ 0 + 6 ≤ ms ∧ ∀ (q_3 : Nat) (h_4 : gH), h q_3 = none → h_4 = hup h q_3 (.inr (2, [.int 0, .int 0, .int 0, .int 0, .int 0, .int 0])) → (wpX8_init (fun Y_8 h_9 => (K q_3 Y_8 h_9)) Y h_4 q_3)
theorem wkX8_another (hC : cOK G) {K : Nat → gY → gH → Prop} {mc ms : Nat} {Y : gY} {h : gH} {a0 : Nat} (hw : wpX8_another K mc ms Y h a0) : gMet l yX8_another (ws_ yX8_another cX8_another 1 (some (.object "LeaningStreet$House"))) (rX8_another mc ms) G L o ad [.ref a0] (fun r => some (.ref r)) K mc ms Y h := by
  refine gMet.in (lv := [some (.ref a0)]) (by decide) rfl rfl (fun J S => ?_)
  have S : gSt l (rX8_another mc ms) cX8_another RX8 "another" 1 (some (.object "LeaningStreet$House")) G L o ad (fun r => some (.ref r)) K mc ms J := S
  unfold wpX8_another at hw
  obtain ⟨hc_1, hs_2, hw⟩ := hw
  refine h_new (pc := 0) (C := RX8) (T := TX8) (N := 6) (ci := 2) (fs := [.int 0, .int 0, .int 0, .int 0, .int 0, .int 0]) S rfl in_X8 tyX8 tyX8_ok q924 q575 q90 (fun j hj => by rcases (show j = 0 ∨ j = 1 ∨ j = 2 ∨ j = 3 ∨ j = 4 ∨ j = 5 by omega) with rfl | rfl | rfl | rfl | rfl | rfl <;> rfl) hc_1 hs_2 dX8_another_0 (fun q_3 h_4 hq_5 e_6 => ?_)
  have hw := hw q_3 h_4 hq_5 e_6
  refine j_dup (pc := 3) S dX8_another_3 rfl ?_
  refine x_callIv (ret' := none) (pc := 4) S 0 (wkX8_init hC hw) (lw_meth q578) rfl rfl q90 q925 q577 rfl ydX8_init rfl rfl rfl rfl rfl dX8_another_4 hc_1 hs_2 (fun Y_8 h_9 hw => ?_)
  exact j_aret (pc := 7) S (Or.inl ⟨_, rfl⟩) hc_1 hs_2 dX8_another_7 hw
/-! LeaningStreet$EmptyHouse.<init>()V -/
abbrev rX9_init : Room := { frames := 3, cells := 0, slots := 0, locals := 60 }
theorem ydX9_init : yX9_init.cls ≠ "java/lang/invoke/MethodHandle" ∧ yX9_init.cls ≠ "java/lang/invoke/VarHandle" ∧ (parseMethodDescriptor yX9_init.desc).map (fun d => d.parameters.length) = some 0 := by decide +kernel
def wpX9_init (K : gY → gH → Prop) (Y : gY) (h : gH) (a0 : Nat) : Prop := wpX7_init (fun Y_2 h_3 => (K Y_2 h_3)) Y h a0
theorem wkX9_init (hC : cOK G) {K : gY → gH → Prop} {Y : gY} {h : gH} {a0 : Nat} (hw : wpX9_init K Y h a0) : gMet l yX9_init (ws_ yX9_init cX9_init 1 none) rX9_init G L o ad [.ref a0] (fun _ => none) (fun (_ : Unit) Y h => K Y h) 0 0 Y h := by
  refine gMet.in (lv := [some (.ref a0)]) (by decide) rfl rfl (fun J S => ?_)
  have S : gSt l rX9_init cX9_init RX9 "<init>" 1 none G L o ad (fun _ => none) (fun (_ : Unit) Y h => K Y h) 0 0 J := S
  unfold wpX9_init at hw
  refine j_ald0 (pc := 0) S dX9_init_0 ?_
  refine x_callINv (ret' := none) (pc := 1) S 0 (wkX7_init hC hw) (lw_meth q541) rfl rfl q89 (cn hC 34 rfl) q540 rfl ydX7_init rfl rfl rfl rfl rfl dX9_init_1 (Nat.le_refl _) (Nat.le_refl _) (fun Y_2 h_3 hw => ?_)
  exact j_vret (pc := 4) S (Nat.le_refl _) (Nat.le_refl _) dX9_init_4 hw
/-! LeaningStreet$EmptyHouse.another()LLeaningStreet$House; -/
abbrev rX9_another (mc ms : Nat) : Room := { frames := 4, cells := mc, slots := ms, locals := 80 }
theorem ydX9_another : yX9_another.cls = RX9 ∧ yX9_another.cls ≠ "java/lang/invoke/MethodHandle" ∧ yX9_another.cls ≠ "java/lang/invoke/VarHandle" ∧ (parseMethodDescriptor yX9_another.desc).map (fun d => d.parameters.length) = some 0 := by decide +kernel
def wpX9_another (K : Nat → gY → gH → Prop) (mc ms : Nat) (Y : gY) (h : gH) (a0 : Nat) : Prop := 0 + 1 ≤ mc ∧ 0 + 6 ≤ ms ∧ ∀ (q_3 : Nat) (h_4 : gH), h q_3 = none → h_4 = hup h q_3 (.inr (3, [.int 0, .int 0, .int 0, .int 0, .int 0, .int 0])) → (wpX9_init (fun Y_8 h_9 => (K q_3 Y_8 h_9)) Y h_4 q_3)
theorem wkX9_another (hC : cOK G) {K : Nat → gY → gH → Prop} {mc ms : Nat} {Y : gY} {h : gH} {a0 : Nat} (hw : wpX9_another K mc ms Y h a0) : gMet l yX9_another (ws_ yX9_another cX9_another 1 (some (.object "LeaningStreet$House"))) (rX9_another mc ms) G L o ad [.ref a0] (fun r => some (.ref r)) K mc ms Y h := by
  refine gMet.in (lv := [some (.ref a0)]) (by decide) rfl rfl (fun J S => ?_)
  have S : gSt l (rX9_another mc ms) cX9_another RX9 "another" 1 (some (.object "LeaningStreet$House")) G L o ad (fun r => some (.ref r)) K mc ms J := S
  unfold wpX9_another at hw
  obtain ⟨hc_1, hs_2, hw⟩ := hw
  refine h_new (pc := 0) (C := RX9) (T := TX9) (N := 6) (ci := 3) (fs := [.int 0, .int 0, .int 0, .int 0, .int 0, .int 0]) S rfl in_X9 tyX9 tyX9_ok q934 q588 q91 (fun j hj => by rcases (show j = 0 ∨ j = 1 ∨ j = 2 ∨ j = 3 ∨ j = 4 ∨ j = 5 by omega) with rfl | rfl | rfl | rfl | rfl | rfl <;> rfl) hc_1 hs_2 dX9_another_0 (fun q_3 h_4 hq_5 e_6 => ?_)
  have hw := hw q_3 h_4 hq_5 e_6
  refine j_dup (pc := 3) S dX9_another_3 rfl ?_
  refine x_callIv (ret' := none) (pc := 4) S 0 (wkX9_init hC hw) (lw_meth q591) rfl rfl q91 q935 q590 rfl ydX9_init rfl rfl rfl rfl rfl dX9_another_4 hc_1 hs_2 (fun Y_8 h_9 hw => ?_)
  exact j_aret (pc := 7) S (Or.inl ⟨_, rfl⟩) hc_1 hs_2 dX9_another_7 hw
/-! LeaningStreet$DoubleHouse.<init>()V -/
abbrev rX10_init : Room := { frames := 3, cells := 0, slots := 0, locals := 60 }
theorem ydX10_init : yX10_init.cls ≠ "java/lang/invoke/MethodHandle" ∧ yX10_init.cls ≠ "java/lang/invoke/VarHandle" ∧ (parseMethodDescriptor yX10_init.desc).map (fun d => d.parameters.length) = some 0 := by decide +kernel
def wpX10_init (K : gY → gH → Prop) (Y : gY) (h : gH) (a0 : Nat) : Prop := wpX8_init (fun Y_2 h_3 => (K Y_2 h_3)) Y h a0
theorem wkX10_init (hC : cOK G) {K : gY → gH → Prop} {Y : gY} {h : gH} {a0 : Nat} (hw : wpX10_init K Y h a0) : gMet l yX10_init (ws_ yX10_init cX10_init 1 none) rX10_init G L o ad [.ref a0] (fun _ => none) (fun (_ : Unit) Y h => K Y h) 0 0 Y h := by
  refine gMet.in (lv := [some (.ref a0)]) (by decide) rfl rfl (fun J S => ?_)
  have S : gSt l rX10_init cX10_init RX10 "<init>" 1 none G L o ad (fun _ => none) (fun (_ : Unit) Y h => K Y h) 0 0 J := S
  unfold wpX10_init at hw
  refine j_ald0 (pc := 0) S dX10_init_0 ?_
  refine x_callINv (ret' := none) (pc := 1) S 0 (wkX8_init hC hw) (lw_meth q578) rfl rfl q90 (cn hC 36 rfl) q577 rfl ydX8_init rfl rfl rfl rfl rfl dX10_init_1 (Nat.le_refl _) (Nat.le_refl _) (fun Y_2 h_3 hw => ?_)
  exact j_vret (pc := 4) S (Nat.le_refl _) (Nat.le_refl _) dX10_init_4 hw
/-! LeaningStreet$DoubleHouse.another()LLeaningStreet$House; -/
abbrev rX10_another (mc ms : Nat) : Room := { frames := 4, cells := mc, slots := ms, locals := 80 }
theorem ydX10_another : yX10_another.cls = RX10 ∧ yX10_another.cls ≠ "java/lang/invoke/MethodHandle" ∧ yX10_another.cls ≠ "java/lang/invoke/VarHandle" ∧ (parseMethodDescriptor yX10_another.desc).map (fun d => d.parameters.length) = some 0 := by decide +kernel
def wpX10_another (K : Nat → gY → gH → Prop) (mc ms : Nat) (Y : gY) (h : gH) (a0 : Nat) : Prop := 0 + 1 ≤ mc ∧ 0 + 6 ≤ ms ∧ ∀ (q_3 : Nat) (h_4 : gH), h q_3 = none → h_4 = hup h q_3 (.inr (4, [.int 0, .int 0, .int 0, .int 0, .int 0, .int 0])) → (wpX10_init (fun Y_8 h_9 => (K q_3 Y_8 h_9)) Y h_4 q_3)
theorem wkX10_another (hC : cOK G) {K : Nat → gY → gH → Prop} {mc ms : Nat} {Y : gY} {h : gH} {a0 : Nat} (hw : wpX10_another K mc ms Y h a0) : gMet l yX10_another (ws_ yX10_another cX10_another 1 (some (.object "LeaningStreet$House"))) (rX10_another mc ms) G L o ad [.ref a0] (fun r => some (.ref r)) K mc ms Y h := by
  refine gMet.in (lv := [some (.ref a0)]) (by decide) rfl rfl (fun J S => ?_)
  have S : gSt l (rX10_another mc ms) cX10_another RX10 "another" 1 (some (.object "LeaningStreet$House")) G L o ad (fun r => some (.ref r)) K mc ms J := S
  unfold wpX10_another at hw
  obtain ⟨hc_1, hs_2, hw⟩ := hw
  refine h_new (pc := 0) (C := RX10) (T := TX10) (N := 6) (ci := 4) (fs := [.int 0, .int 0, .int 0, .int 0, .int 0, .int 0]) S rfl in_X10 tyX10 tyX10_ok q929 q601 q92 (fun j hj => by rcases (show j = 0 ∨ j = 1 ∨ j = 2 ∨ j = 3 ∨ j = 4 ∨ j = 5 by omega) with rfl | rfl | rfl | rfl | rfl | rfl <;> rfl) hc_1 hs_2 dX10_another_0 (fun q_3 h_4 hq_5 e_6 => ?_)
  have hw := hw q_3 h_4 hq_5 e_6
  refine j_dup (pc := 3) S dX10_another_3 rfl ?_
  refine x_callIv (ret' := none) (pc := 4) S 0 (wkX10_init hC hw) (lw_meth q604) rfl rfl q92 q930 q603 rfl ydX10_init rfl rfl rfl rfl rfl dX10_another_4 hc_1 hs_2 (fun Y_8 h_9 hw => ?_)
  exact j_aret (pc := 7) S (Or.inl ⟨_, rfl⟩) hc_1 hs_2 dX10_another_7 hw
/-! LeaningStreet$FloatingHouse.<init>()V -/
abbrev rX11_init : Room := { frames := 2, cells := 0, slots := 0, locals := 40 }
theorem ydX11_init : yX11_init.cls ≠ "java/lang/invoke/MethodHandle" ∧ yX11_init.cls ≠ "java/lang/invoke/VarHandle" ∧ (parseMethodDescriptor yX11_init.desc).map (fun d => d.parameters.length) = some 0 := by decide +kernel
def wpX11_init (K : gY → gH → Prop) (Y : gY) (h : gH) (a0 : Nat) : Prop := wpX6_init (fun Y_2 h_3 => (K Y_2 h_3)) Y h a0
theorem wkX11_init (hC : cOK G) {K : gY → gH → Prop} {Y : gY} {h : gH} {a0 : Nat} (hw : wpX11_init K Y h a0) : gMet l yX11_init (ws_ yX11_init cX11_init 1 none) rX11_init G L o ad [.ref a0] (fun _ => none) (fun (_ : Unit) Y h => K Y h) 0 0 Y h := by
  refine gMet.in (lv := [some (.ref a0)]) (by decide) rfl rfl (fun J S => ?_)
  have S : gSt l rX11_init cX11_init RX11 "<init>" 1 none G L o ad (fun _ => none) (fun (_ : Unit) Y h => K Y h) 0 0 J := S
  unfold wpX11_init at hw
  refine j_ald0 (pc := 0) S dX11_init_0 ?_
  refine x_callINv (ret' := none) (pc := 1) S 0 (wkX6_init hC hw) (lw_meth q544) rfl rfl q88 (cn hC 38 rfl) q543 rfl ydX6_init rfl rfl rfl rfl rfl dX11_init_1 (Nat.le_refl _) (Nat.le_refl _) (fun Y_2 h_3 hw => ?_)
  exact j_vret (pc := 4) S (Nat.le_refl _) (Nat.le_refl _) dX11_init_4 hw
/-! LeaningStreet$FloatingHouse.another()LLeaningStreet$House; -/
abbrev rX11_another (mc ms : Nat) : Room := { frames := 3, cells := mc, slots := ms, locals := 60 }
theorem ydX11_another : yX11_another.cls = RX11 ∧ yX11_another.cls ≠ "java/lang/invoke/MethodHandle" ∧ yX11_another.cls ≠ "java/lang/invoke/VarHandle" ∧ (parseMethodDescriptor yX11_another.desc).map (fun d => d.parameters.length) = some 0 := by decide +kernel
def wpX11_another (K : Nat → gY → gH → Prop) (mc ms : Nat) (Y : gY) (h : gH) (a0 : Nat) : Prop := 0 + 1 ≤ mc ∧ 0 + 6 ≤ ms ∧ ∀ (q_3 : Nat) (h_4 : gH), h q_3 = none → h_4 = hup h q_3 (.inr (5, [.int 0, .int 0, .int 0, .int 0, .int 0, .int 0])) → (wpX11_init (fun Y_8 h_9 => (K q_3 Y_8 h_9)) Y h_4 q_3)
theorem wkX11_another (hC : cOK G) {K : Nat → gY → gH → Prop} {mc ms : Nat} {Y : gY} {h : gH} {a0 : Nat} (hw : wpX11_another K mc ms Y h a0) : gMet l yX11_another (ws_ yX11_another cX11_another 1 (some (.object "LeaningStreet$House"))) (rX11_another mc ms) G L o ad [.ref a0] (fun r => some (.ref r)) K mc ms Y h := by
  refine gMet.in (lv := [some (.ref a0)]) (by decide) rfl rfl (fun J S => ?_)
  have S : gSt l (rX11_another mc ms) cX11_another RX11 "another" 1 (some (.object "LeaningStreet$House")) G L o ad (fun r => some (.ref r)) K mc ms J := S
  unfold wpX11_another at hw
  obtain ⟨hc_1, hs_2, hw⟩ := hw
  refine h_new (pc := 0) (C := RX11) (T := TX11) (N := 6) (ci := 5) (fs := [.int 0, .int 0, .int 0, .int 0, .int 0, .int 0]) S rfl in_X11 tyX11 tyX11_ok q939 q614 q93 (fun j hj => by rcases (show j = 0 ∨ j = 1 ∨ j = 2 ∨ j = 3 ∨ j = 4 ∨ j = 5 by omega) with rfl | rfl | rfl | rfl | rfl | rfl <;> rfl) hc_1 hs_2 dX11_another_0 (fun q_3 h_4 hq_5 e_6 => ?_)
  have hw := hw q_3 h_4 hq_5 e_6
  refine j_dup (pc := 3) S dX11_another_3 rfl ?_
  refine x_callIv (ret' := none) (pc := 4) S 0 (wkX11_init hC hw) (lw_meth q617) rfl rfl q93 q940 q616 rfl ydX11_init rfl rfl rfl rfl rfl dX11_another_4 hc_1 hs_2 (fun Y_8 h_9 hw => ?_)
  exact j_aret (pc := 7) S (Or.inl ⟨_, rfl⟩) hc_1 hs_2 dX11_another_7 hw
/-! a House's another -/
theorem yoH_another : RX6 ≠ "java/lang/invoke/MethodHandle" ∧ RX6 ≠ "java/lang/invoke/VarHandle" ∧ (parseMethodDescriptor yX6_another.desc).map (fun d => d.parameters.length) = some 0 := by decide +kernel
def wvH_another (K : Nat → gY → gH → Prop) (mc ms : Nat) (Y : gY) (h : gH) (a0 : Nat) : Prop := ∃ (ci : Nat) (fs : List Value), ci < 6 ∧ h a0 = some (.inr (ci, fs)) ∧ ((ci = 0 → wpX6_another K mc ms Y h a0) ∧ (ci = 1 → wpX7_another K mc ms Y h a0) ∧ (ci = 2 → wpX8_another K mc ms Y h a0) ∧ (ci = 3 → wpX9_another K mc ms Y h a0) ∧ (ci = 4 → wpX10_another K mc ms Y h a0) ∧ (ci = 5 → wpX11_another K mc ms Y h a0))
theorem jvH_another {α : Type} {R : Room} {cc : ByteArray} {own nm : String} {nL index cs ss pc mc' ms' : Nat} {ret : Option FieldType} {vv : α → Option Value} {K : α → gY → gH → Prop} {mc ms : Nat} {Y : gY} {h : gH} {lv : List (Option Value)} {st rest : List Value} {K' : Nat → gY → gH → Prop} {a0 : Nat} (S : gSt l R cc own nm nL ret G L o ad vv K mc ms J) (hC : cOK G) (hw : wvH_another K' mc' ms' Y h a0) (q : Cond.methodLink own index ⟨"LeaningStreet$House", "another", "()LLeaningStreet$House;"⟩ ∈ lw_all) (hR1 : Nat.ble 5 R.frames = true) (hR2 : Nat.ble 100 R.locals = true) (hst : st = .ref a0 :: rest) (hsum : Nat.ble (rest.map fun v => v.category).sum 8 = true) (d : decode cc pc = .ok (.invokevirtual index, 3)) (hcs : cs + mc' ≤ R.cells) (hss : ss + ms' ≤ R.slots)
    (kk : ∀ (r : Nat) (Y' : gY) (h' : gH), K' r Y' h' → J Y' h' (cs + mc') (ss + ms') (pc + 3) lv (.ref r :: rest)) : J Y h cs ss pc lv st := by
  obtain ⟨ci, fs, hci, ha, hw⟩ := hw
  rcases (show ci = 0 ∨ ci = 1 ∨ ci = 2 ∨ ci = 3 ∨ ci = 4 ∨ ci = 5 by omega) with rfl | rfl | rfl | rfl | rfl | rfl
  · exact y_callUr (C := RX6) (owner := RX6) (x := yX6_another) (As := []) S 0 (wkX6_another hC (hw.1 rfl)) (lw_U q q920 q919 q918 q88 q946) rfl rfl rfl yoH_another (ble_tr rfl hR1) (ble_tr rfl hR2) (h_recv ha rfl rfl) rfl hst hsum d hcs hss kk
  · exact y_callOr (C := RX7) (owner := RX6) (x := yX6_another) (As := []) S 0 (wkX7_another hC (hw.2.1 rfl)) (lw_O q q920 q918 q941 q942 q89 q943) rfl rfl q946 yoH_another (ble_tr rfl hR1) (ble_tr rfl hR2) (h_recv ha rfl rfl) rfl hst hsum d hcs hss kk
  · exact y_callOr (C := RX8) (owner := RX6) (x := yX6_another) (As := []) S 0 (wkX8_another hC (hw.2.2.1 rfl)) (lw_O q q920 q918 q921 q922 q90 q923) rfl rfl q946 yoH_another (ble_tr rfl hR1) (ble_tr rfl hR2) (h_recv ha rfl rfl) rfl hst hsum d hcs hss kk
  · exact y_callOr (C := RX9) (owner := RX6) (x := yX6_another) (As := []) S 0 (wkX9_another hC (hw.2.2.2.1 rfl)) (lw_O q q920 q918 q931 q932 q91 q933) rfl rfl q946 yoH_another (ble_tr rfl hR1) (ble_tr rfl hR2) (h_recv ha rfl rfl) rfl hst hsum d hcs hss kk
  · exact y_callOr (C := RX10) (owner := RX6) (x := yX6_another) (As := []) S 0 (wkX10_another hC (hw.2.2.2.2.1 rfl)) (lw_O q q920 q918 q926 q927 q92 q928) rfl rfl q946 yoH_another (ble_tr rfl hR1) (ble_tr rfl hR2) (h_recv ha rfl rfl) rfl hst hsum d hcs hss kk
  · exact y_callOr (C := RX11) (owner := RX6) (x := yX6_another) (As := []) S 0 (wkX11_another hC (hw.2.2.2.2.2 rfl)) (lw_O q q920 q918 q936 q937 q93 q938) rfl rfl q946 yoH_another (ble_tr rfl hR1) (ble_tr rfl hR2) (h_recv ha rfl rfl) rfl hst hsum d hcs hss kk
/-! LeaningStreet$House.takes(LLeaningStreet$House;)V -/
abbrev rX6_takes : Room := { frames := 0, cells := 0, slots := 0, locals := 0 }
theorem ydX6_takes : yX6_takes.cls = RX6 ∧ yX6_takes.cls ≠ "java/lang/invoke/MethodHandle" ∧ yX6_takes.cls ≠ "java/lang/invoke/VarHandle" ∧ (parseMethodDescriptor yX6_takes.desc).map (fun d => d.parameters.length) = some 1 := by decide +kernel
theorem ysX6_takes : yX6_takes.name ≠ "<init>" ∧ (parseMethodDescriptor yX6_takes.desc).map (fun d => d.parameters.length) = some 1 := by decide +kernel
def wpX6_takes (K : gY → gH → Prop) (Y : gY) (h : gH) (a0 : Nat) (a1 : Nat) : Prop := ∃ (ci_3 : Nat) (fs_1 : List Value) (f_2 : Int32), ci_3 < 6 ∧ h a1 = some (.inr (ci_3, fs_1)) ∧ fs_1[0]? = some (.int f_2) ∧ (∃ (ci_7 : Nat) (fs_4 : List Value), ci_7 < 6 ∧ h a0 = some (.inr (ci_7, fs_4)) ∧ 0 < fs_4.length ∧ ∀ h_5 : gH, h_5 = hup h a0 (.inr (ci_7, fs_4.set 0 (.int f_2))) → (∃ (ci_10 : Nat) (fs_8 : List Value) (f_9 : Int32), ci_10 < 6 ∧ h_5 a1 = some (.inr (ci_10, fs_8)) ∧ fs_8[1]? = some (.int f_9) ∧ (∃ (ci_14 : Nat) (fs_11 : List Value), ci_14 < 6 ∧ h_5 a0 = some (.inr (ci_14, fs_11)) ∧ 1 < fs_11.length ∧ ∀ h_12 : gH, h_12 = hup h_5 a0 (.inr (ci_14, fs_11.set 1 (.int f_9))) → (∃ (ci_17 : Nat) (fs_15 : List Value) (f_16 : Int32), ci_17 < 6 ∧ h_12 a1 = some (.inr (ci_17, fs_15)) ∧ fs_15[2]? = some (.int f_16) ∧ (∃ (ci_21 : Nat) (fs_18 : List Value), ci_21 < 6 ∧ h_12 a0 = some (.inr (ci_21, fs_18)) ∧ 2 < fs_18.length ∧ ∀ h_19 : gH, h_19 = hup h_12 a0 (.inr (ci_21, fs_18.set 2 (.int f_16))) → (∃ (ci_24 : Nat) (fs_22 : List Value) (f_23 : Int32), ci_24 < 6 ∧ h_19 a1 = some (.inr (ci_24, fs_22)) ∧ fs_22[3]? = some (.int f_23) ∧ (∃ (ci_28 : Nat) (fs_25 : List Value), ci_28 < 6 ∧ h_19 a0 = some (.inr (ci_28, fs_25)) ∧ 3 < fs_25.length ∧ ∀ h_26 : gH, h_26 = hup h_19 a0 (.inr (ci_28, fs_25.set 3 (.int f_23))) → (∃ (ci_31 : Nat) (fs_29 : List Value) (f_30 : Int32), ci_31 < 6 ∧ h_26 a1 = some (.inr (ci_31, fs_29)) ∧ fs_29[4]? = some (.int f_30) ∧ (∃ (ci_35 : Nat) (fs_32 : List Value), ci_35 < 6 ∧ h_26 a0 = some (.inr (ci_35, fs_32)) ∧ 4 < fs_32.length ∧ ∀ h_33 : gH, h_33 = hup h_26 a0 (.inr (ci_35, fs_32.set 4 (.int f_30))) → (∃ (ci_38 : Nat) (fs_36 : List Value) (f_37 : Int32), ci_38 < 6 ∧ h_33 a1 = some (.inr (ci_38, fs_36)) ∧ fs_36[5]? = some (.int f_37) ∧ (narrow .boolean (.int f_37) = .int f_37 ∧ fits .boolean (.int f_37) = true ∧ ∃ (ci_42 : Nat) (fs_39 : List Value), ci_42 < 6 ∧ h_33 a0 = some (.inr (ci_42, fs_39)) ∧ 5 < fs_39.length ∧ ∀ h_40 : gH, h_40 = hup h_33 a0 (.inr (ci_42, fs_39.set 5 (.int f_37))) → (K Y h_40))))))))))))
theorem wkX6_takes (hC : cOK G) {K : gY → gH → Prop} {Y : gY} {h : gH} {a0 : Nat} {a1 : Nat} (hw : wpX6_takes K Y h a0 a1) : gMet l yX6_takes (ws_ yX6_takes cX6_takes 2 none) rX6_takes G L o ad [.ref a0, .ref a1] (fun _ => none) (fun (_ : Unit) Y h => K Y h) 0 0 Y h := by
  refine gMet.in (lv := [some (.ref a0), some (.ref a1)]) (by decide) rfl rfl (fun J S => ?_)
  have S : gSt l rX6_takes cX6_takes RX6 "takes" 2 none G L o ad (fun _ => none) (fun (_ : Unit) Y h => K Y h) 0 0 J := S
  unfold wpX6_takes at hw
  refine j_ald0 (pc := 0) S dX6_takes_0 ?_
  refine j_ald1 (pc := 1) S dX6_takes_1 ?_
  obtain ⟨ci_3, fs_1, f_2, hci, ha, hv, hw⟩ := hw
  refine hh_get (pc := 2) S hci ha 0 rfl q546 hv dX6_takes_2 ?_
  obtain ⟨ci_7, fs_4, hci, ha, hl, hw⟩ := hw
  refine hh_put (pc := 5) S hci ha 0 rfl q546 rfl rfl rfl hl dX6_takes_5 (fun h_5 e_6 => ?_)
  have hw := hw h_5 e_6
  refine j_ald0 (pc := 8) S dX6_takes_8 ?_
  refine j_ald1 (pc := 9) S dX6_takes_9 ?_
  obtain ⟨ci_10, fs_8, f_9, hci, ha, hv, hw⟩ := hw
  refine hh_get (pc := 10) S hci ha 1 rfl q548 hv dX6_takes_10 ?_
  obtain ⟨ci_14, fs_11, hci, ha, hl, hw⟩ := hw
  refine hh_put (pc := 13) S hci ha 1 rfl q548 rfl rfl rfl hl dX6_takes_13 (fun h_12 e_13 => ?_)
  have hw := hw h_12 e_13
  refine j_ald0 (pc := 16) S dX6_takes_16 ?_
  refine j_ald1 (pc := 17) S dX6_takes_17 ?_
  obtain ⟨ci_17, fs_15, f_16, hci, ha, hv, hw⟩ := hw
  refine hh_get (pc := 18) S hci ha 2 rfl q550 hv dX6_takes_18 ?_
  obtain ⟨ci_21, fs_18, hci, ha, hl, hw⟩ := hw
  refine hh_put (pc := 21) S hci ha 2 rfl q550 rfl rfl rfl hl dX6_takes_21 (fun h_19 e_20 => ?_)
  have hw := hw h_19 e_20
  refine j_ald0 (pc := 24) S dX6_takes_24 ?_
  refine j_ald1 (pc := 25) S dX6_takes_25 ?_
  obtain ⟨ci_24, fs_22, f_23, hci, ha, hv, hw⟩ := hw
  refine hh_get (pc := 26) S hci ha 3 rfl q553 hv dX6_takes_26 ?_
  obtain ⟨ci_28, fs_25, hci, ha, hl, hw⟩ := hw
  refine hh_put (pc := 29) S hci ha 3 rfl q553 rfl rfl rfl hl dX6_takes_29 (fun h_26 e_27 => ?_)
  have hw := hw h_26 e_27
  refine j_ald0 (pc := 32) S dX6_takes_32 ?_
  refine j_ald1 (pc := 33) S dX6_takes_33 ?_
  obtain ⟨ci_31, fs_29, f_30, hci, ha, hv, hw⟩ := hw
  refine hh_get (pc := 34) S hci ha 4 rfl q555 hv dX6_takes_34 ?_
  obtain ⟨ci_35, fs_32, hci, ha, hl, hw⟩ := hw
  refine hh_put (pc := 37) S hci ha 4 rfl q555 rfl rfl rfl hl dX6_takes_37 (fun h_33 e_34 => ?_)
  have hw := hw h_33 e_34
  refine j_ald0 (pc := 40) S dX6_takes_40 ?_
  refine j_ald1 (pc := 41) S dX6_takes_41 ?_
  obtain ⟨ci_38, fs_36, f_37, hci, ha, hv, hw⟩ := hw
  refine hh_get (pc := 42) S hci ha 5 rfl q558 hv dX6_takes_42 ?_
  obtain ⟨hnw, hft, hw⟩ := hw
  obtain ⟨ci_42, fs_39, hci, ha, hl, hw⟩ := hw
  refine hh_put (pc := 45) S hci ha 5 rfl q558 rfl hnw hft hl dX6_takes_45 (fun h_40 e_41 => ?_)
  have hw := hw h_40 e_41
  exact j_vret (pc := 48) S (Nat.le_refl _) (Nat.le_refl _) dX6_takes_48 hw
/-! a House's takes -/
theorem yoH_takes : RX6 ≠ "java/lang/invoke/MethodHandle" ∧ RX6 ≠ "java/lang/invoke/VarHandle" ∧ (parseMethodDescriptor yX6_takes.desc).map (fun d => d.parameters.length) = some 1 := by decide +kernel
def wvH_takes (K : gY → gH → Prop) (Y : gY) (h : gH) (a0 : Nat) (a1 : Nat) : Prop := ∃ (ci : Nat) (fs : List Value), ci < 6 ∧ h a0 = some (.inr (ci, fs)) ∧ (wpX6_takes K Y h a0 a1)
theorem jvH_takes {α : Type} {R : Room} {cc : ByteArray} {own nm : String} {nL index cs ss pc : Nat} {ret : Option FieldType} {vv : α → Option Value} {K : α → gY → gH → Prop} {mc ms : Nat} {Y : gY} {h : gH} {lv : List (Option Value)} {st rest : List Value} {K' : gY → gH → Prop} {a0 : Nat} {a1 : Nat} (S : gSt l R cc own nm nL ret G L o ad vv K mc ms J) (hC : cOK G) (hw : wvH_takes K' Y h a0 a1) (q : Cond.methodLink own index ⟨"LeaningStreet$House", "takes", "(LLeaningStreet$House;)V"⟩ ∈ lw_all) (hR1 : Nat.ble 1 R.frames = true) (hR2 : Nat.ble 21 R.locals = true) (hst : st = [.ref a1] ++ .ref a0 :: rest) (hsum : Nat.ble (rest.map fun v => v.category).sum 8 = true) (d : decode cc pc = .ok (.invokevirtual index, 3)) (hcs : cs ≤ R.cells) (hss : ss ≤ R.slots)
    (kk : ∀ (Y' : gY) (h' : gH), K' Y' h' → J Y' h' cs ss (pc + 3) lv (rest)) : J Y h cs ss pc lv st := by
  obtain ⟨ci, fs, hci, ha, hw⟩ := hw
  rcases (show ci = 0 ∨ ci = 1 ∨ ci = 2 ∨ ci = 3 ∨ ci = 4 ∨ ci = 5 by omega) with rfl | rfl | rfl | rfl | rfl | rfl
  · exact x_callUv (C := RX6) (owner := RX6) (x := yX6_takes) (As := [.ref a1]) S 1 (wkX6_takes hC hw) (lw_U q q808 q807 q806 q88 q814) rfl rfl rfl yoH_takes (ble_tr rfl hR1) (ble_tr rfl hR2) (h_recv ha rfl rfl) rfl hst hsum d hcs hss kk
  · exact x_callUv (C := RX7) (owner := RX6) (x := yX6_takes) (As := [.ref a1]) S 1 (wkX6_takes hC hw) (lw_U q q808 q813 q806 q88 q814) rfl rfl rfl yoH_takes (ble_tr rfl hR1) (ble_tr rfl hR2) (h_recv ha rfl rfl) rfl hst hsum d hcs hss kk
  · exact x_callUv (C := RX8) (owner := RX6) (x := yX6_takes) (As := [.ref a1]) S 1 (wkX6_takes hC hw) (lw_U q q808 q809 q806 q88 q814) rfl rfl rfl yoH_takes (ble_tr rfl hR1) (ble_tr rfl hR2) (h_recv ha rfl rfl) rfl hst hsum d hcs hss kk
  · exact x_callUv (C := RX9) (owner := RX6) (x := yX6_takes) (As := [.ref a1]) S 1 (wkX6_takes hC hw) (lw_U q q808 q811 q806 q88 q814) rfl rfl rfl yoH_takes (ble_tr rfl hR1) (ble_tr rfl hR2) (h_recv ha rfl rfl) rfl hst hsum d hcs hss kk
  · exact x_callUv (C := RX10) (owner := RX6) (x := yX6_takes) (As := [.ref a1]) S 1 (wkX6_takes hC hw) (lw_U q q808 q810 q806 q88 q814) rfl rfl rfl yoH_takes (ble_tr rfl hR1) (ble_tr rfl hR2) (h_recv ha rfl rfl) rfl hst hsum d hcs hss kk
  · exact x_callUv (C := RX11) (owner := RX6) (x := yX6_takes) (As := [.ref a1]) S 1 (wkX6_takes hC hw) (lw_U q q808 q812 q806 q88 q814) rfl rfl rfl yoH_takes (ble_tr rfl hR1) (ble_tr rfl hR2) (h_recv ha rfl rfl) rfl hst hsum d hcs hss kk
/-! LeaningStreet$State.copyOf(LLeaningStreet$State;)V -/
abbrev rX1_copyOf (mc ms : Nat) : Room := { frames := 5, cells := mc, slots := ms, locals := 100 }
theorem ydX1_copyOf : yX1_copyOf.cls = RX1 ∧ yX1_copyOf.cls ≠ "java/lang/invoke/MethodHandle" ∧ yX1_copyOf.cls ≠ "java/lang/invoke/VarHandle" ∧ (parseMethodDescriptor yX1_copyOf.desc).map (fun d => d.parameters.length) = some 1 := by decide +kernel
def wX1_copyOf_71 (K : gY → gH → Prop) (mc ms : Nat) (J18 : gY → gH → Nat → Nat → Nat → Nat → Int32 → Prop) (Y : gY) (h : gH) (kc : Nat) (ks : Nat) (x0 : Nat) (x1 : Nat) (x2 : Int32) : Prop := ∃ (fs_1 : List Value) (f_2 : Nat), h x0 = some (.inr (6, fs_1)) ∧ fs_1[2]? = some (.ref f_2) ∧ (∃ (n_3 : Nat) (g_4 : Nat → Option Nat) (b_5 : Nat), h f_2 = some (.inl (4, n_3, .inr (.inr (.inr (.inr g_4))))) ∧ vp_in x2 n_3 ∧ g_4 x2.toNatClampNeg = some b_5 ∧ (∃ (fs_6 : List Value) (f_7 : Nat), h x1 = some (.inr (6, fs_6)) ∧ fs_6[2]? = some (.ref f_7) ∧ (∃ (n_8 : Nat) (g_9 : Nat → Option Nat) (b_10 : Nat), h f_7 = some (.inl (4, n_8, .inr (.inr (.inr (.inr g_9))))) ∧ vp_in x2 n_8 ∧ g_9 x2.toNatClampNeg = some b_10 ∧ (wvH_takes (fun Y_12 h_13 => (∀ x2_14 : Int32, x2_14 = x2 + 1 → (J18 Y_12 h_13 kc ks x0 x1 x2_14))) Y h b_5 b_10))))
def wX1_copyOf_56 (K : gY → gH → Prop) (mc ms : Nat) (J18 : gY → gH → Nat → Nat → Nat → Nat → Int32 → Prop) (Y : gY) (h : gH) (kc : Nat) (ks : Nat) (x0 : Nat) (x1 : Nat) (x2 : Int32) : Prop := ∃ (fs_16 : List Value) (f_17 : Nat), h x0 = some (.inr (6, fs_16)) ∧ fs_16[2]? = some (.ref f_17) ∧ (∃ (fs_18 : List Value) (f_19 : Nat), h x1 = some (.inr (6, fs_18)) ∧ fs_18[2]? = some (.ref f_19) ∧ (∃ (n_20 : Nat) (g_21 : Nat → Option Nat) (b_22 : Nat), h f_19 = some (.inl (4, n_20, .inr (.inr (.inr (.inr g_21))))) ∧ vp_in x2 n_20 ∧ g_21 x2.toNatClampNeg = some b_22 ∧ (∃ mc_26 ms_27 : Nat, kc + mc_26 ≤ mc ∧ ks + ms_27 ≤ ms ∧ wvH_another (fun r_23 Y_24 h_25 => (∃ (n_30 : Nat) (g_31 : Nat → Option Nat) (ci_35 : Nat) (vs_32 : List Value), h_25 f_17 = some (.inl (4, n_30, .inr (.inr (.inr (.inr g_31))))) ∧ ci_35 < 6 ∧ h_25 r_23 = some (.inr (ci_35, vs_32)) ∧ vp_in x2 n_30 ∧ ∀ h_33 : gH, h_33 = hup h_25 f_17 (.inl (4, n_30, .inr (.inr (.inr (.inr (va_up g_31 x2.toNatClampNeg (some r_23))))))) → (wX1_copyOf_71 K mc ms J18 Y_24 h_33 (kc + mc_26) (ks + ms_27) x0 x1 x2))) mc_26 ms_27 Y h b_22)))
def wX1_copyOf_18 (K : gY → gH → Prop) (mc ms : Nat) : Nat → gY → gH → Nat → Nat → Nat → Nat → Int32 → Prop
  | 0 => fun _ _ _ _ _ _ _ => False
  | n + 1 => fun Y h kc ks x0 x1 x2 => ∃ (fs_36 : List Value) (f_37 : Int32), h x0 = some (.inr (6, fs_36)) ∧ fs_36[1]? = some (.int f_37) ∧ (((f_37 ≤ x2 → (∃ (fs_39 : List Value) (f_40 : Int32), h x1 = some (.inr (6, fs_39)) ∧ fs_39[3]? = some (.int f_40) ∧ (∃ fs_41 : List Value, h x0 = some (.inr (6, fs_41)) ∧ 3 < fs_41.length ∧ ∀ h_42 : gH, h_42 = hup h x0 (.inr (6, fs_41.set 3 (.int f_40))) → (∃ (fs_44 : List Value) (f_45 : Int32), h_42 x1 = some (.inr (6, fs_44)) ∧ fs_44[4]? = some (.int f_45) ∧ (∃ fs_46 : List Value, h_42 x0 = some (.inr (6, fs_46)) ∧ 4 < fs_46.length ∧ ∀ h_47 : gH, h_47 = hup h_42 x0 (.inr (6, fs_46.set 4 (.int f_45))) → (∃ (fs_49 : List Value) (f_50 : Int32), h_47 x1 = some (.inr (6, fs_49)) ∧ fs_49[5]? = some (.int f_50) ∧ (∃ fs_51 : List Value, h_47 x0 = some (.inr (6, fs_51)) ∧ 5 < fs_51.length ∧ ∀ h_52 : gH, h_52 = hup h_47 x0 (.inr (6, fs_51.set 5 (.int f_50))) → (∃ (fs_54 : List Value) (f_55 : Int32), h_52 x1 = some (.inr (6, fs_54)) ∧ fs_54[6]? = some (.int f_55) ∧ (∃ fs_56 : List Value, h_52 x0 = some (.inr (6, fs_56)) ∧ 6 < fs_56.length ∧ ∀ h_57 : gH, h_57 = hup h_52 x0 (.inr (6, fs_56.set 6 (.int f_55))) → (∃ (fs_59 : List Value) (f_60 : Nat), h_57 x1 = some (.inr (6, fs_59)) ∧ fs_59[7]? = some (.ref f_60) ∧ (∃ (fs_61 : List Value) (f_62 : Nat), h_57 x0 = some (.inr (6, fs_61)) ∧ fs_61[7]? = some (.ref f_62) ∧ (∃ (n_63 n_64 : Nat) (f_65 g_66 : Nat → Option Nat), h_57 f_60 = some (.inl (5, n_63, .inr (.inr (.inr (.inr f_65))))) ∧ h_57 f_62 = some (.inl (5, n_64, .inr (.inr (.inr (.inr g_66))))) ∧ ¬ (0 : Int32) < 0 ∧ ¬ (0 : Int32) < 0 ∧ ¬ (14 : Int32) < 0 ∧ (0 : Int32).toNatClampNeg + (14 : Int32).toNatClampNeg ≤ n_63 ∧ (0 : Int32).toNatClampNeg + (14 : Int32).toNatClampNeg ≤ n_64 ∧ (∀ i, i < (14 : Int32).toNatClampNeg → ∀ y, f_65 ((0 : Int32).toNatClampNeg + i) = some y → ∃ vs, h_57 y = some (.inr (8, vs))) ∧ ∀ h_67 : gH, h_67 = hup h_57 f_62 (.inl (5, n_64, .inr (.inr (.inr (.inr (va_cpy f_65 g_66 (0 : Int32).toNatClampNeg (0 : Int32).toNatClampNeg (14 : Int32).toNatClampNeg)))))) → (K Y h_67))))))))))))) ∧ (¬ f_37 ≤ x2 → (∃ (fs_69 : List Value) (f_70 : Nat), h x0 = some (.inr (6, fs_69)) ∧ fs_69[2]? = some (.ref f_70) ∧ (∃ (n_71 : Nat) (g_72 : Nat → Option Nat), h f_70 = some (.inl (4, n_71, .inr (.inr (.inr (.inr g_72))))) ∧ vp_in x2 n_71 ∧ ((((g_72 x2.toNatClampNeg) = none → (wX1_copyOf_56 K mc ms (wX1_copyOf_18 K mc ms n) Y h kc ks x0 x1 x2)) ∧ (∀ b_74 : Nat, (g_72 x2.toNatClampNeg) = some b_74 → (∃ (fs_75 : List Value) (f_76 : Nat), h x0 = some (.inr (6, fs_75)) ∧ fs_75[2]? = some (.ref f_76) ∧ (∃ (n_77 : Nat) (g_78 : Nat → Option Nat) (b_79 : Nat), h f_76 = some (.inl (4, n_77, .inr (.inr (.inr (.inr g_78))))) ∧ vp_in x2 n_77 ∧ g_78 x2.toNatClampNeg = some b_79 ∧ (wvH_kind (fun r_80 Y_81 h_82 => (∃ (fs_83 : List Value) (f_84 : Nat), h_82 x1 = some (.inr (6, fs_83)) ∧ fs_83[2]? = some (.ref f_84) ∧ (∃ (n_85 : Nat) (g_86 : Nat → Option Nat) (b_87 : Nat), h_82 f_84 = some (.inl (4, n_85, .inr (.inr (.inr (.inr g_86))))) ∧ vp_in x2 n_85 ∧ g_86 x2.toNatClampNeg = some b_87 ∧ (wvH_kind (fun r_88 Y_89 h_90 => (((r_80 = r_88 → (wX1_copyOf_71 K mc ms (wX1_copyOf_18 K mc ms n) Y_89 h_90 kc ks x0 x1 x2)) ∧ (¬ r_80 = r_88 → (wX1_copyOf_56 K mc ms (wX1_copyOf_18 K mc ms n) Y_89 h_90 kc ks x0 x1 x2))))) Y_81 h_82 b_87)))) Y h b_79)))))))))))
def wpX1_copyOf (K : gY → gH → Prop) (mc ms : Nat) (Y : gY) (h : gH) (a0 : Nat) (a1 : Nat) : Prop := ∃ (fs_92 : List Value) (f_93 : Int32), h a1 = some (.inr (6, fs_92)) ∧ fs_92[0]? = some (.int f_93) ∧ (∃ fs_94 : List Value, h a0 = some (.inr (6, fs_94)) ∧ 0 < fs_94.length ∧ ∀ h_95 : gH, h_95 = hup h a0 (.inr (6, fs_94.set 0 (.int f_93))) → (∃ (fs_97 : List Value) (f_98 : Int32), h_95 a1 = some (.inr (6, fs_97)) ∧ fs_97[1]? = some (.int f_98) ∧ (∃ fs_99 : List Value, h_95 a0 = some (.inr (6, fs_99)) ∧ 1 < fs_99.length ∧ ∀ h_100 : gH, h_100 = hup h_95 a0 (.inr (6, fs_99.set 1 (.int f_98))) → (∃ fu_102 : Nat, wX1_copyOf_18 K mc ms fu_102 Y h_100 0 0 a0 a1 0))))
theorem kX1_copyOf_71 {K : gY → gH → Prop} {mc ms : Nat} (S : gSt l (rX1_copyOf mc ms) cX1_copyOf RX1 "copyOf" 3 none G L o ad (fun _ => none) (fun (_ : Unit) Y h => K Y h) mc ms J) (hC : cOK G) {J18 : gY → gH → Nat → Nat → Nat → Nat → Int32 → Prop} (h18 : ∀ (Y : gY) (h : gH) (kc : Nat) (ks : Nat) (x0 : Nat) (x1 : Nat) (x2 : Int32), kc ≤ mc → ks ≤ ms → J18 Y h kc ks x0 x1 x2 → J Y h kc ks 18 [some (.ref x0), some (.ref x1), some (.int x2)] []) {Y : gY} {h : gH} {kc : Nat} {ks : Nat} {x0 : Nat} {x1 : Nat} {x2 : Int32} (hkc : kc ≤ mc) (hks : ks ≤ ms) (hw : wX1_copyOf_71 K mc ms J18 Y h kc ks x0 x1 x2) : J Y h kc ks 71 [some (.ref x0), some (.ref x1), some (.int x2)] [] := by
  unfold wX1_copyOf_71 at hw
  refine j_ald0 (pc := 71) S dX1_copyOf_71 ?_
  obtain ⟨fs_1, f_2, ha, hv, hw⟩ := hw
  refine h_get (pc := 72) (C := RX1) (T := TX1) (N := 8) S ha 2 rfl in_X1 rfl q128 hv dX1_copyOf_72 ?_
  refine j_ild2 (pc := 75) S dX1_copyOf_75 ?_
  obtain ⟨n_3, g_4, b_5, ha, hi, hb, hw⟩ := hw
  refine h_aald1 (pc := 76) S 4 (fun _ => rfl) ha hi hb dX1_copyOf_76 ?_
  refine j_ald1 (pc := 77) S dX1_copyOf_77 ?_
  obtain ⟨fs_6, f_7, ha, hv, hw⟩ := hw
  refine h_get (pc := 78) (C := RX1) (T := TX1) (N := 8) S ha 2 rfl in_X1 rfl q128 hv dX1_copyOf_78 ?_
  refine j_ild2 (pc := 81) S dX1_copyOf_81 ?_
  obtain ⟨n_8, g_9, b_10, ha, hi, hb, hw⟩ := hw
  refine h_aald1 (pc := 82) S 4 (fun _ => rfl) ha hi hb dX1_copyOf_82 ?_
  refine jvH_takes (pc := 83) S hC hw q949 rfl rfl rfl rfl dX1_copyOf_83 hkc hks (fun Y_12 h_13 hw => ?_)
  obtain ⟨x2_14, e_15⟩ : ∃ y : Int32, y = x2 + 1 := ⟨_, rfl⟩
  have hw := hw x2_14 e_15
  refine j_iinc2 (pc := 86) (v := x2_14) S dX1_copyOf_86 (by rw [e_15]; rfl) rfl rfl ?_
  refine j_goto (pc := 89) (tgt := 18) S dX1_copyOf_89 rfl ?_
  exact j_sub S (h18 _ _ _ _ _ _ _ hkc hks hw) (gle_s (gle_s (gle_s gle_0)))
theorem kX1_copyOf_56 {K : gY → gH → Prop} {mc ms : Nat} (S : gSt l (rX1_copyOf mc ms) cX1_copyOf RX1 "copyOf" 3 none G L o ad (fun _ => none) (fun (_ : Unit) Y h => K Y h) mc ms J) (hC : cOK G) {J18 : gY → gH → Nat → Nat → Nat → Nat → Int32 → Prop} (h18 : ∀ (Y : gY) (h : gH) (kc : Nat) (ks : Nat) (x0 : Nat) (x1 : Nat) (x2 : Int32), kc ≤ mc → ks ≤ ms → J18 Y h kc ks x0 x1 x2 → J Y h kc ks 18 [some (.ref x0), some (.ref x1), some (.int x2)] []) {Y : gY} {h : gH} {kc : Nat} {ks : Nat} {x0 : Nat} {x1 : Nat} {x2 : Int32} (hkc : kc ≤ mc) (hks : ks ≤ ms) (hw : wX1_copyOf_56 K mc ms J18 Y h kc ks x0 x1 x2) : J Y h kc ks 56 [some (.ref x0), some (.ref x1), some (.int x2)] [] := by
  unfold wX1_copyOf_56 at hw
  refine j_ald0 (pc := 56) S dX1_copyOf_56 ?_
  obtain ⟨fs_16, f_17, ha, hv, hw⟩ := hw
  refine h_get (pc := 57) (C := RX1) (T := TX1) (N := 8) S ha 2 rfl in_X1 rfl q128 hv dX1_copyOf_57 ?_
  refine j_ild2 (pc := 60) S dX1_copyOf_60 ?_
  refine j_ald1 (pc := 61) S dX1_copyOf_61 ?_
  obtain ⟨fs_18, f_19, ha, hv, hw⟩ := hw
  refine h_get (pc := 62) (C := RX1) (T := TX1) (N := 8) S ha 2 rfl in_X1 rfl q128 hv dX1_copyOf_62 ?_
  refine j_ild2 (pc := 65) S dX1_copyOf_65 ?_
  obtain ⟨n_20, g_21, b_22, ha, hi, hb, hw⟩ := hw
  refine h_aald1 (pc := 66) S 4 (fun _ => rfl) ha hi hb dX1_copyOf_66 ?_
  obtain ⟨mc_26, ms_27, hc_28, hs_29, hw⟩ := hw
  refine jvH_another (pc := 67) S hC hw q917 rfl rfl rfl rfl dX1_copyOf_67 hc_28 hs_29 (fun r_23 Y_24 h_25 hw => ?_)
  obtain ⟨n_30, g_31, ci_35, vs_32, ha, hci, hb, hi, hw⟩ := hw
  refine hh_aast (pc := 70) S hC ha hci hb hi dX1_copyOf_70 (fun h_33 e_34 => ?_)
  have hw := hw h_33 e_34
  exact j_sub S (kX1_copyOf_71 S hC h18 hc_28 hs_29 hw) (gle_s (gle_s (gle_s gle_0)))
theorem kX1_copyOf_18 {K : gY → gH → Prop} {mc ms : Nat} (S : gSt l (rX1_copyOf mc ms) cX1_copyOf RX1 "copyOf" 3 none G L o ad (fun _ => none) (fun (_ : Unit) Y h => K Y h) mc ms J) (hC : cOK G) : ∀ (n : Nat) (Y : gY) (h : gH) (kc : Nat) (ks : Nat) (x0 : Nat) (x1 : Nat) (x2 : Int32), kc ≤ mc → ks ≤ ms → wX1_copyOf_18 K mc ms n Y h kc ks x0 x1 x2 → J Y h kc ks 18 [some (.ref x0), some (.ref x1), some (.int x2)] [] := by
  intro n
  induction n with
  | zero => intro Y h kc ks x0 x1 x2 hkc hks hw; exact hw.elim
  | succ n ih =>
    intro Y h kc ks x0 x1 x2 hkc hks hw
    unfold wX1_copyOf_18 at hw
    refine j_ild2 (pc := 18) S dX1_copyOf_18 ?_
    refine j_ald0 (pc := 19) S dX1_copyOf_19 ?_
    obtain ⟨fs_36, f_37, ha, hv, hw⟩ := hw
    refine h_get (pc := 20) (C := RX1) (T := TX1) (N := 8) S ha 1 rfl in_X1 rfl q126 hv dX1_copyOf_20 ?_
    refine j_icmp_ge (pc := 23) (tgt := 92) S dX1_copyOf_23 rfl (fun c_38 => ?_) (fun c_38 => ?_)
    · have hw := hw.1 c_38
      refine j_ald0 (pc := 92) S dX1_copyOf_92 ?_
      refine j_ald1 (pc := 93) S dX1_copyOf_93 ?_
      obtain ⟨fs_39, f_40, ha, hv, hw⟩ := hw
      refine h_get (pc := 94) (C := RX1) (T := TX1) (N := 8) S ha 3 rfl in_X1 rfl q130 hv dX1_copyOf_94 ?_
      obtain ⟨fs_41, ha, hl, hw⟩ := hw
      refine h_put (pc := 97) (C := RX1) (T := TX1) (N := 8) S ha 3 rfl in_X1 tyX1 tyX1_ok nmX1 rfl q130 rfl rfl rfl hl dX1_copyOf_97 (fun h_42 e_43 => ?_)
      have hw := hw h_42 e_43
      refine j_ald0 (pc := 100) S dX1_copyOf_100 ?_
      refine j_ald1 (pc := 101) S dX1_copyOf_101 ?_
      obtain ⟨fs_44, f_45, ha, hv, hw⟩ := hw
      refine h_get (pc := 102) (C := RX1) (T := TX1) (N := 8) S ha 4 rfl in_X1 rfl q132 hv dX1_copyOf_102 ?_
      obtain ⟨fs_46, ha, hl, hw⟩ := hw
      refine h_put (pc := 105) (C := RX1) (T := TX1) (N := 8) S ha 4 rfl in_X1 tyX1 tyX1_ok nmX1 rfl q132 rfl rfl rfl hl dX1_copyOf_105 (fun h_47 e_48 => ?_)
      have hw := hw h_47 e_48
      refine j_ald0 (pc := 108) S dX1_copyOf_108 ?_
      refine j_ald1 (pc := 109) S dX1_copyOf_109 ?_
      obtain ⟨fs_49, f_50, ha, hv, hw⟩ := hw
      refine h_get (pc := 110) (C := RX1) (T := TX1) (N := 8) S ha 5 rfl in_X1 rfl q134 hv dX1_copyOf_110 ?_
      obtain ⟨fs_51, ha, hl, hw⟩ := hw
      refine h_put (pc := 113) (C := RX1) (T := TX1) (N := 8) S ha 5 rfl in_X1 tyX1 tyX1_ok nmX1 rfl q134 rfl rfl rfl hl dX1_copyOf_113 (fun h_52 e_53 => ?_)
      have hw := hw h_52 e_53
      refine j_ald0 (pc := 116) S dX1_copyOf_116 ?_
      refine j_ald1 (pc := 117) S dX1_copyOf_117 ?_
      obtain ⟨fs_54, f_55, ha, hv, hw⟩ := hw
      refine h_get (pc := 118) (C := RX1) (T := TX1) (N := 8) S ha 6 rfl in_X1 rfl q136 hv dX1_copyOf_118 ?_
      obtain ⟨fs_56, ha, hl, hw⟩ := hw
      refine h_put (pc := 121) (C := RX1) (T := TX1) (N := 8) S ha 6 rfl in_X1 tyX1 tyX1_ok nmX1 rfl q136 rfl rfl rfl hl dX1_copyOf_121 (fun h_57 e_58 => ?_)
      have hw := hw h_57 e_58
      refine j_ald1 (pc := 124) S dX1_copyOf_124 ?_
      obtain ⟨fs_59, f_60, ha, hv, hw⟩ := hw
      refine h_get (pc := 125) (C := RX1) (T := TX1) (N := 8) S ha 7 rfl in_X1 rfl q138 hv dX1_copyOf_125 ?_
      refine j_iconst (pc := 128) (v := 0) S dX1_copyOf_128 rfl ?_
      refine j_ald0 (pc := 129) S dX1_copyOf_129 ?_
      obtain ⟨fs_61, f_62, ha, hv, hw⟩ := hw
      refine h_get (pc := 130) (C := RX1) (T := TX1) (N := 8) S ha 7 rfl in_X1 rfl q138 hv dX1_copyOf_130 ?_
      refine j_iconst (pc := 133) (v := 0) S dX1_copyOf_133 rfl ?_
      refine j_bipush (pc := 134) (v := 14) S dX1_copyOf_134 rfl ?_
      obtain ⟨n_63, n_64, f_65, g_66, ha0, ha1, hp1, hp2, hp3, hp4, hp5, hp6, hw⟩ := hw
      refine h_copyT (pc := 136) S q950 q952 q951 q98 ha0 ha1 hp1 hp2 hp3 hp4 hp5 hp6 rfl rfl dX1_copyOf_136 (fun h_67 e_68 => ?_)
      have hw := hw h_67 e_68
      exact j_vret (pc := 139) S hkc hks dX1_copyOf_139 hw
    · have hw := hw.2 c_38
      refine j_ald0 (pc := 26) S dX1_copyOf_26 ?_
      obtain ⟨fs_69, f_70, ha, hv, hw⟩ := hw
      refine h_get (pc := 27) (C := RX1) (T := TX1) (N := 8) S ha 2 rfl in_X1 rfl q128 hv dX1_copyOf_27 ?_
      refine j_ild2 (pc := 30) S dX1_copyOf_30 ?_
      obtain ⟨n_71, g_72, ha, hi, hw⟩ := hw
      refine h_aald (pc := 31) S 4 (fun _ => rfl) ha hi dX1_copyOf_31 ?_
      refine j_ifnull (pc := 32) (tgt := 56) S dX1_copyOf_32 rfl (fun c_73 => ?_) (fun b_74 c_73 => ?_)
      · replace hw := hw.1 c_73
        exact j_sub S (kX1_copyOf_56 S hC ih hkc hks hw) (gle_s (gle_s (gle_s gle_0)))
      · replace hw := hw.2 b_74 c_73
        refine j_ald0 (pc := 35) S dX1_copyOf_35 ?_
        obtain ⟨fs_75, f_76, ha, hv, hw⟩ := hw
        refine h_get (pc := 36) (C := RX1) (T := TX1) (N := 8) S ha 2 rfl in_X1 rfl q128 hv dX1_copyOf_36 ?_
        refine j_ild2 (pc := 39) S dX1_copyOf_39 ?_
        obtain ⟨n_77, g_78, b_79, ha, hi, hb, hw⟩ := hw
        refine h_aald1 (pc := 40) S 4 (fun _ => rfl) ha hi hb dX1_copyOf_40 ?_
        refine jvH_kind (pc := 41) S hC hw q916 rfl rfl rfl rfl dX1_copyOf_41 hkc hks (fun r_80 Y_81 h_82 hw => ?_)
        refine j_ald1 (pc := 44) S dX1_copyOf_44 ?_
        obtain ⟨fs_83, f_84, ha, hv, hw⟩ := hw
        refine h_get (pc := 45) (C := RX1) (T := TX1) (N := 8) S ha 2 rfl in_X1 rfl q128 hv dX1_copyOf_45 ?_
        refine j_ild2 (pc := 48) S dX1_copyOf_48 ?_
        obtain ⟨n_85, g_86, b_87, ha, hi, hb, hw⟩ := hw
        refine h_aald1 (pc := 49) S 4 (fun _ => rfl) ha hi hb dX1_copyOf_49 ?_
        refine jvH_kind (pc := 50) S hC hw q916 rfl rfl rfl rfl dX1_copyOf_50 hkc hks (fun r_88 Y_89 h_90 hw => ?_)
        refine j_icmp_eq (pc := 53) (tgt := 71) S dX1_copyOf_53 rfl (fun c_91 => ?_) (fun c_91 => ?_)
        · have hw := hw.1 c_91
          exact j_sub S (kX1_copyOf_71 S hC ih hkc hks hw) (gle_s (gle_s (gle_s gle_0)))
        · have hw := hw.2 c_91
          exact j_sub S (kX1_copyOf_56 S hC ih hkc hks hw) (gle_s (gle_s (gle_s gle_0)))
theorem wkX1_copyOf (hC : cOK G) {K : gY → gH → Prop} {mc ms : Nat} {Y : gY} {h : gH} {a0 : Nat} {a1 : Nat} (hw : wpX1_copyOf K mc ms Y h a0 a1) : gMet l yX1_copyOf (ws_ yX1_copyOf cX1_copyOf 3 none) (rX1_copyOf mc ms) G L o ad [.ref a0, .ref a1] (fun _ => none) (fun (_ : Unit) Y h => K Y h) mc ms Y h := by
  refine gMet.in (lv := [some (.ref a0), some (.ref a1), none]) (by decide) rfl rfl (fun J S => ?_)
  have S : gSt l (rX1_copyOf mc ms) cX1_copyOf RX1 "copyOf" 3 none G L o ad (fun _ => none) (fun (_ : Unit) Y h => K Y h) mc ms J := S
  unfold wpX1_copyOf at hw
  refine j_ald0 (pc := 0) S dX1_copyOf_0 ?_
  refine j_ald1 (pc := 1) S dX1_copyOf_1 ?_
  obtain ⟨fs_92, f_93, ha, hv, hw⟩ := hw
  refine h_get (pc := 2) (C := RX1) (T := TX1) (N := 8) S ha 0 rfl in_X1 rfl q124 hv dX1_copyOf_2 ?_
  obtain ⟨fs_94, ha, hl, hw⟩ := hw
  refine h_put (pc := 5) (C := RX1) (T := TX1) (N := 8) S ha 0 rfl in_X1 tyX1 tyX1_ok nmX1 rfl q124 rfl rfl rfl hl dX1_copyOf_5 (fun h_95 e_96 => ?_)
  have hw := hw h_95 e_96
  refine j_ald0 (pc := 8) S dX1_copyOf_8 ?_
  refine j_ald1 (pc := 9) S dX1_copyOf_9 ?_
  obtain ⟨fs_97, f_98, ha, hv, hw⟩ := hw
  refine h_get (pc := 10) (C := RX1) (T := TX1) (N := 8) S ha 1 rfl in_X1 rfl q126 hv dX1_copyOf_10 ?_
  obtain ⟨fs_99, ha, hl, hw⟩ := hw
  refine h_put (pc := 13) (C := RX1) (T := TX1) (N := 8) S ha 1 rfl in_X1 tyX1 tyX1_ok nmX1 rfl q126 rfl rfl rfl hl dX1_copyOf_13 (fun h_100 e_101 => ?_)
  have hw := hw h_100 e_101
  refine j_iconst (pc := 16) (v := 0) S dX1_copyOf_16 rfl ?_
  refine j_ist2 (pc := 17) S dX1_copyOf_17 rfl rfl ?_
  obtain ⟨fu_102, hw⟩ := hw
  exact j_sub S (kX1_copyOf_18 S hC fu_102 _ _ _ _ _ _ _ (Nat.zero_le _) (Nat.zero_le _) hw) (gle_s (gle_s (gle_s gle_0)))
/-! LeaningStreet$Sheet.<init>()V -/
abbrev rX3_init : Room := { frames := 1, cells := 0, slots := 0, locals := 20 }
theorem ydX3_init : yX3_init.cls ≠ "java/lang/invoke/MethodHandle" ∧ yX3_init.cls ≠ "java/lang/invoke/VarHandle" ∧ (parseMethodDescriptor yX3_init.desc).map (fun d => d.parameters.length) = some 0 := by decide +kernel
def wpX3_init (K : gY → gH → Prop) (Y : gY) (h : gH) (a0 : Nat) : Prop := K Y h
theorem wkX3_init (hC : cOK G) {K : gY → gH → Prop} {Y : gY} {h : gH} {a0 : Nat} (hw : wpX3_init K Y h a0) : gMet l yX3_init (ws_ yX3_init cX3_init 1 none) rX3_init G L o ad [.ref a0] (fun _ => none) (fun (_ : Unit) Y h => K Y h) 0 0 Y h := by
  refine gMet.in (lv := [some (.ref a0)]) (by decide) rfl rfl (fun J S => ?_)
  have S : gSt l rX3_init cX3_init RX3 "<init>" 1 none G L o ad (fun _ => none) (fun (_ : Unit) Y h => K Y h) 0 0 J := S
  unfold wpX3_init at hw
  refine j_ald0 (pc := 0) S dX3_init_0 ?_
  refine j_objInit (pc := 1) S q232 q112 q113 dX3_init_1 rfl rfl ?_
  exact j_vret (pc := 4) S (Nat.le_refl _) (Nat.le_refl _) dX3_init_4 hw
/-! LeaningStreet$Sheet.isThere()Z -/
abbrev rX3_isThere : Room := { frames := 0, cells := 0, slots := 0, locals := 0 }
theorem ydX3_isThere : yX3_isThere.cls = RX3 ∧ yX3_isThere.cls ≠ "java/lang/invoke/MethodHandle" ∧ yX3_isThere.cls ≠ "java/lang/invoke/VarHandle" ∧ (parseMethodDescriptor yX3_isThere.desc).map (fun d => d.parameters.length) = some 0 := by decide +kernel
def wpX3_isThere (K : Int32 → gY → gH → Prop) (Y : gY) (h : gH) (a0 : Nat) : Prop := ∃ (fs_1 : List Value) (f_2 : Option Nat), h a0 = some (.inr (9, fs_1)) ∧ fs_1[0]? = some (va_rf f_2) ∧ (((f_2 = none → (K 0 Y h)) ∧ (∀ b_4 : Nat, f_2 = some b_4 → (K 1 Y h))))
theorem wkX3_isThere (hC : cOK G) {K : Int32 → gY → gH → Prop} {Y : gY} {h : gH} {a0 : Nat} (hw : wpX3_isThere K Y h a0) : gMet l yX3_isThere (ws_ yX3_isThere cX3_isThere 1 (some .boolean)) rX3_isThere G L o ad [.ref a0] (fun r => some (.int r)) K 0 0 Y h := by
  refine gMet.in (lv := [some (.ref a0)]) (by decide) rfl rfl (fun J S => ?_)
  have S : gSt l rX3_isThere cX3_isThere RX3 "isThere" 1 (some .boolean) G L o ad (fun r => some (.int r)) K 0 0 J := S
  unfold wpX3_isThere at hw
  refine j_ald0 (pc := 0) S dX3_isThere_0 ?_
  obtain ⟨fs_1, f_2, ha, hv, hw⟩ := hw
  refine h_get (pc := 1) (C := RX3) (T := TX3) (N := 1) S ha 0 rfl in_X3 rfl q233 hv dX3_isThere_1 ?_
  refine j_ifnull (pc := 4) (tgt := 11) S dX3_isThere_4 rfl (fun c_3 => ?_) (fun b_4 c_3 => ?_)
  · replace hw := hw.1 c_3
    refine j_iconst (pc := 11) (v := 0) S dX3_isThere_11 rfl ?_
    exact j_zret (pc := 12) S (Nat.le_refl _) (Nat.le_refl _) dX3_isThere_12 rfl hw
  · replace hw := hw.2 b_4 c_3
    subst c_3
    refine j_iconst (pc := 7) (v := 1) S dX3_isThere_7 rfl ?_
    refine j_goto (pc := 8) (tgt := 12) S dX3_isThere_8 rfl ?_
    exact j_zret (pc := 12) S (Nat.le_refl _) (Nat.le_refl _) dX3_isThere_12 rfl hw
/-! LeaningStreet$Sheet.isFloats()Z -/
abbrev rX3_isFloats : Room := { frames := 0, cells := 0, slots := 0, locals := 0 }
theorem ydX3_isFloats : yX3_isFloats.cls = RX3 ∧ yX3_isFloats.cls ≠ "java/lang/invoke/MethodHandle" ∧ yX3_isFloats.cls ≠ "java/lang/invoke/VarHandle" ∧ (parseMethodDescriptor yX3_isFloats.desc).map (fun d => d.parameters.length) = some 0 := by decide +kernel
def wpX3_isFloats (K : Int32 → gY → gH → Prop) (Y : gY) (h : gH) (a0 : Nat) : Prop := ∃ (fs_1 : List Value) (f_2 : Option Nat), h a0 = some (.inr (9, fs_1)) ∧ fs_1[0]? = some (va_rf f_2) ∧ (∃ b_3 : Nat, f_2 = some b_3 ∧ ∃ (t_6 : Nat) (x_5 : vp_A), h b_3 = some (.inl (t_6, x_5)) ∧ (t_6 = 2 ∨ t_6 = 3) ∧ (narrow .boolean (.int (if t_6 = 3 then (1 : Int32) else 0)) = .int (if t_6 = 3 then (1 : Int32) else 0) ∧ K (if t_6 = 3 then (1 : Int32) else 0) Y h))
theorem wkX3_isFloats (hC : cOK G) {K : Int32 → gY → gH → Prop} {Y : gY} {h : gH} {a0 : Nat} (hw : wpX3_isFloats K Y h a0) : gMet l yX3_isFloats (ws_ yX3_isFloats cX3_isFloats 1 (some .boolean)) rX3_isFloats G L o ad [.ref a0] (fun r => some (.int r)) K 0 0 Y h := by
  refine gMet.in (lv := [some (.ref a0)]) (by decide) rfl rfl (fun J S => ?_)
  have S : gSt l rX3_isFloats cX3_isFloats RX3 "isFloats" 1 (some .boolean) G L o ad (fun r => some (.int r)) K 0 0 J := S
  unfold wpX3_isFloats at hw
  refine j_ald0 (pc := 0) S dX3_isFloats_0 ?_
  obtain ⟨fs_1, f_2, ha, hv, hw⟩ := hw
  refine h_get (pc := 1) (C := RX3) (T := TX3) (N := 1) S ha 0 rfl in_X3 rfl q233 hv dX3_isFloats_1 ?_
  obtain ⟨b_3, hb_4, hw⟩ := hw
  subst hb_4
  obtain ⟨t_6, x_5, ha, ht, hw⟩ := hw
  refine h_isF (pc := 4) S hC ha ht q1032 dX3_isFloats_4 ?_
  exact j_zret (pc := 7) S (Nat.le_refl _) (Nat.le_refl _) dX3_isFloats_7 hw.1 hw.2
/-! LeaningStreet$Sheet.size()I -/
abbrev rX3_size : Room := { frames := 1, cells := 0, slots := 0, locals := 20 }
theorem ydX3_size : yX3_size.cls = RX3 ∧ yX3_size.cls ≠ "java/lang/invoke/MethodHandle" ∧ yX3_size.cls ≠ "java/lang/invoke/VarHandle" ∧ (parseMethodDescriptor yX3_size.desc).map (fun d => d.parameters.length) = some 0 := by decide +kernel
def wpX3_size (K : Int32 → gY → gH → Prop) (Y : gY) (h : gH) (a0 : Nat) : Prop := (∃ fs_4 : List Value, h a0 = some (.inr (9, fs_4))) ∧ wpX3_isFloats (fun r_1 Y_2 h_3 => (((r_1 = 0 → (∃ (fs_6 : List Value) (f_7 : Option Nat), h_3 a0 = some (.inr (9, fs_6)) ∧ fs_6[0]? = some (va_rf f_7) ∧ (∃ b_8 : Nat, f_7 = some b_8 ∧ ∃ x_10 : vp_A, h_3 b_8 = some (.inl (2, x_10)) ∧ (∃ x_14 : vp_A, h_3 b_8 = some (.inl (2, x_14)) ∧ (K (Int32.ofNat x_14.1) Y_2 h_3))))) ∧ (¬ r_1 = 0 → (∃ (fs_15 : List Value) (f_16 : Option Nat), h_3 a0 = some (.inr (9, fs_15)) ∧ fs_15[0]? = some (va_rf f_16) ∧ (∃ b_17 : Nat, f_16 = some b_17 ∧ ∃ x_19 : vp_A, h_3 b_17 = some (.inl (3, x_19)) ∧ (∃ x_23 : vp_A, h_3 b_17 = some (.inl (3, x_23)) ∧ (K (Int32.ofNat x_23.1) Y_2 h_3)))))))) Y h a0
theorem wkX3_size (hC : cOK G) {K : Int32 → gY → gH → Prop} {Y : gY} {h : gH} {a0 : Nat} (hw : wpX3_size K Y h a0) : gMet l yX3_size (ws_ yX3_size cX3_size 1 (some .int)) rX3_size G L o ad [.ref a0] (fun r => some (.int r)) K 0 0 Y h := by
  refine gMet.in (lv := [some (.ref a0)]) (by decide) rfl rfl (fun J S => ?_)
  have S : gSt l rX3_size cX3_size RX3 "size" 1 (some .int) G L o ad (fun r => some (.int r)) K 0 0 J := S
  unfold wpX3_size at hw
  refine j_ald0 (pc := 0) S dX3_size_0 ?_
  obtain ⟨⟨fs_4, ha⟩, hw⟩ := hw
  refine x_callVi (pc := 1) S 0 (wkX3_isFloats hC hw) (lw_V q1028 q1029 q1030 q85 q1031) rfl rfl ydX3_isFloats rfl rfl (h_recv ha rfl rfl) rfl rfl rfl dX3_size_1 (Nat.le_refl _) (Nat.le_refl _) (fun r_1 Y_2 h_3 hw => ?_)
  refine j_if_eq (pc := 4) (tgt := 18) S dX3_size_4 rfl (fun c_5 => ?_) (fun c_5 => ?_)
  · have hw := hw.1 c_5
    refine j_ald0 (pc := 18) S dX3_size_18 ?_
    obtain ⟨fs_6, f_7, ha, hv, hw⟩ := hw
    refine h_get (pc := 19) (C := RX3) (T := TX3) (N := 1) S ha 0 rfl in_X3 rfl q233 hv dX3_size_19 ?_
    obtain ⟨b_8, hb_9, hw⟩ := hw
    subst hb_9
    obtain ⟨x_10, ha, hw⟩ := hw
    refine h_toS (pc := 22) S ha q1033 dX3_size_22 ?_
    obtain ⟨x_14, ha, hw⟩ := hw
    refine h_alen (pc := 25) S 2 (fun _ => rfl) ha dX3_size_25 ?_
    exact j_iret (pc := 26) S (Nat.le_refl _) (Nat.le_refl _) dX3_size_26 hw
  · have hw := hw.2 c_5
    refine j_ald0 (pc := 7) S dX3_size_7 ?_
    obtain ⟨fs_15, f_16, ha, hv, hw⟩ := hw
    refine h_get (pc := 8) (C := RX3) (T := TX3) (N := 1) S ha 0 rfl in_X3 rfl q233 hv dX3_size_8 ?_
    obtain ⟨b_17, hb_18, hw⟩ := hw
    subst hb_18
    obtain ⟨x_19, ha, hw⟩ := hw
    refine h_toF (pc := 11) S ha q1032 dX3_size_11 ?_
    obtain ⟨x_23, ha, hw⟩ := hw
    refine h_alen (pc := 14) S 3 (fun _ => rfl) ha dX3_size_14 ?_
    refine j_goto (pc := 15) (tgt := 26) S dX3_size_15 rfl ?_
    exact j_iret (pc := 26) S (Nat.le_refl _) (Nat.le_refl _) dX3_size_26 hw
/-! LeaningStreet$Sheet.put(II)V -/
abbrev rX3_put : Room := { frames := 1, cells := 0, slots := 0, locals := 20 }
theorem ydX3_put : yX3_put.cls = RX3 ∧ yX3_put.cls ≠ "java/lang/invoke/MethodHandle" ∧ yX3_put.cls ≠ "java/lang/invoke/VarHandle" ∧ (parseMethodDescriptor yX3_put.desc).map (fun d => d.parameters.length) = some 2 := by decide +kernel
def wpX3_put (K : gY → gH → Prop) (Y : gY) (h : gH) (a0 : Nat) (a1 : Int32) (a2 : Int32) : Prop := (∃ fs_4 : List Value, h a0 = some (.inr (9, fs_4))) ∧ wpX3_isFloats (fun r_1 Y_2 h_3 => (((r_1 = 0 → (∃ (fs_6 : List Value) (f_7 : Option Nat), h_3 a0 = some (.inr (9, fs_6)) ∧ fs_6[0]? = some (va_rf f_7) ∧ (∃ b_8 : Nat, f_7 = some b_8 ∧ ∃ x_10 : vp_A, h_3 b_8 = some (.inl (2, x_10)) ∧ (∃ (n_14 : Nat) (g_15 : Nat → Int32), h_3 b_8 = some (.inl (2, n_14, .inl g_15)) ∧ vp_in a1 n_14 ∧ ∀ h_16 : gH, h_16 = hup h_3 b_8 (.inl (2, n_14, .inl (upd g_15 a1.toNatClampNeg (vp_nar .short a2.toInt16.toInt32)))) → (K Y_2 h_16))))) ∧ (¬ r_1 = 0 → (∃ (fs_18 : List Value) (f_19 : Option Nat), h_3 a0 = some (.inr (9, fs_18)) ∧ fs_18[0]? = some (va_rf f_19) ∧ (∃ b_20 : Nat, f_19 = some b_20 ∧ ∃ x_22 : vp_A, h_3 b_20 = some (.inl (3, x_22)) ∧ (∃ (n_26 : Nat) (g_27 : Nat → UInt32), h_3 b_20 = some (.inl (3, n_26, .inr (.inr (.inl g_27)))) ∧ vp_in a1 n_26 ∧ ∀ h_28 : gH, h_28 = hup h_3 b_20 (.inl (3, n_26, .inr (.inr (.inl (vf_upd g_27 a1.toNatClampNeg (FP.i2f a2)))))) → (K Y_2 h_28)))))))) Y h a0
theorem wkX3_put (hC : cOK G) {K : gY → gH → Prop} {Y : gY} {h : gH} {a0 : Nat} {a1 : Int32} {a2 : Int32} (hw : wpX3_put K Y h a0 a1 a2) : gMet l yX3_put (ws_ yX3_put cX3_put 3 none) rX3_put G L o ad [.ref a0, .int a1, .int a2] (fun _ => none) (fun (_ : Unit) Y h => K Y h) 0 0 Y h := by
  refine gMet.in (lv := [some (.ref a0), some (.int a1), some (.int a2)]) (by decide) rfl rfl (fun J S => ?_)
  have S : gSt l rX3_put cX3_put RX3 "put" 3 none G L o ad (fun _ => none) (fun (_ : Unit) Y h => K Y h) 0 0 J := S
  unfold wpX3_put at hw
  refine j_ald0 (pc := 0) S dX3_put_0 ?_
  obtain ⟨⟨fs_4, ha⟩, hw⟩ := hw
  refine x_callVi (pc := 1) S 0 (wkX3_isFloats hC hw) (lw_V q1028 q1029 q1030 q85 q1031) rfl rfl ydX3_isFloats rfl rfl (h_recv ha rfl rfl) rfl rfl rfl dX3_put_1 (Nat.le_refl _) (Nat.le_refl _) (fun r_1 Y_2 h_3 hw => ?_)
  refine j_if_eq (pc := 4) (tgt := 21) S dX3_put_4 rfl (fun c_5 => ?_) (fun c_5 => ?_)
  · have hw := hw.1 c_5
    refine j_ald0 (pc := 21) S dX3_put_21 ?_
    obtain ⟨fs_6, f_7, ha, hv, hw⟩ := hw
    refine h_get (pc := 22) (C := RX3) (T := TX3) (N := 1) S ha 0 rfl in_X3 rfl q233 hv dX3_put_22 ?_
    obtain ⟨b_8, hb_9, hw⟩ := hw
    subst hb_9
    obtain ⟨x_10, ha, hw⟩ := hw
    refine h_toS (pc := 25) S ha q1033 dX3_put_25 ?_
    refine j_ild1 (pc := 28) S dX3_put_28 ?_
    refine j_ild2 (pc := 29) S dX3_put_29 ?_
    refine j_i2s (pc := 30) S dX3_put_30 ?_
    obtain ⟨n_14, g_15, ha, hi, hw⟩ := hw
    refine h_sast (pc := 31) S ha hi dX3_put_31 (fun h_16 e_17 => ?_)
    have hw := hw h_16 e_17
    exact j_vret (pc := 32) S (Nat.le_refl _) (Nat.le_refl _) dX3_put_32 hw
  · have hw := hw.2 c_5
    refine j_ald0 (pc := 7) S dX3_put_7 ?_
    obtain ⟨fs_18, f_19, ha, hv, hw⟩ := hw
    refine h_get (pc := 8) (C := RX3) (T := TX3) (N := 1) S ha 0 rfl in_X3 rfl q233 hv dX3_put_8 ?_
    obtain ⟨b_20, hb_21, hw⟩ := hw
    subst hb_21
    obtain ⟨x_22, ha, hw⟩ := hw
    refine h_toF (pc := 11) S ha q1032 dX3_put_11 ?_
    refine j_ild1 (pc := 14) S dX3_put_14 ?_
    refine j_ild2 (pc := 15) S dX3_put_15 ?_
    refine j_i2f (pc := 16) S dX3_put_16 ?_
    obtain ⟨n_26, g_27, ha, hi, hw⟩ := hw
    refine h_fast (pc := 17) S ha hi dX3_put_17 (fun h_28 e_29 => ?_)
    have hw := hw h_28 e_29
    refine j_goto (pc := 18) (tgt := 32) S dX3_put_18 rfl ?_
    exact j_vret (pc := 32) S (Nat.le_refl _) (Nat.le_refl _) dX3_put_32 hw
/-! LeaningStreet$Sheet.isNumber(I)Z -/
abbrev rX3_isNumber : Room := { frames := 1, cells := 0, slots := 0, locals := 20 }
theorem ydX3_isNumber : yX3_isNumber.cls = RX3 ∧ yX3_isNumber.cls ≠ "java/lang/invoke/MethodHandle" ∧ yX3_isNumber.cls ≠ "java/lang/invoke/VarHandle" ∧ (parseMethodDescriptor yX3_isNumber.desc).map (fun d => d.parameters.length) = some 1 := by decide +kernel
def wX3_isNumber_29 (K : Int32 → gY → gH → Prop) (Y : gY) (h : gH) : Prop := K 1 Y h
def wpX3_isNumber (K : Int32 → gY → gH → Prop) (Y : gY) (h : gH) (a0 : Nat) (a1 : Int32) : Prop := (∃ fs_4 : List Value, h a0 = some (.inr (9, fs_4))) ∧ wpX3_isFloats (fun r_1 Y_2 h_3 => (((r_1 = 0 → (wX3_isNumber_29 K Y_2 h_3)) ∧ (¬ r_1 = 0 → (∃ (fs_6 : List Value) (f_7 : Option Nat), h_3 a0 = some (.inr (9, fs_6)) ∧ fs_6[0]? = some (va_rf f_7) ∧ (∃ b_8 : Nat, f_7 = some b_8 ∧ ∃ x_10 : vp_A, h_3 b_8 = some (.inl (3, x_10)) ∧ (∃ (n_14 : Nat) (g_15 : Nat → UInt32), h_3 b_8 = some (.inl (3, n_14, .inr (.inr (.inl g_15)))) ∧ vp_in a1 n_14 ∧ (∃ (fs_16 : List Value) (f_17 : Option Nat), h_3 a0 = some (.inr (9, fs_16)) ∧ fs_16[0]? = some (va_rf f_17) ∧ (∃ b_18 : Nat, f_17 = some b_18 ∧ ∃ x_20 : vp_A, h_3 b_18 = some (.inl (3, x_20)) ∧ (∃ (n_24 : Nat) (g_25 : Nat → UInt32), h_3 b_18 = some (.inl (3, n_24, .inr (.inr (.inl g_25)))) ∧ vp_in a1 n_24 ∧ (((¬ (Op.cmpValue (FP.fcmp (g_15 a1.toNatClampNeg) (g_25 a1.toNatClampNeg)) .l) = 0 → (K 0 Y_2 h_3)) ∧ ((Op.cmpValue (FP.fcmp (g_15 a1.toNatClampNeg) (g_25 a1.toNatClampNeg)) .l) = 0 → (wX3_isNumber_29 K Y_2 h_3)))))))))))))) Y h a0
theorem kX3_isNumber_29 {K : Int32 → gY → gH → Prop} (S : gSt l rX3_isNumber cX3_isNumber RX3 "isNumber" 2 (some .boolean) G L o ad (fun r => some (.int r)) K 0 0 J) (hC : cOK G) {Y : gY} {h : gH} (hw : wX3_isNumber_29 K Y h) : J Y h 0 0 29 [none, none] [] := by
  unfold wX3_isNumber_29 at hw
  refine j_iconst (pc := 29) (v := 1) S dX3_isNumber_29 rfl ?_
  refine j_goto (pc := 30) (tgt := 34) S dX3_isNumber_30 rfl ?_
  exact j_zret (pc := 34) S (Nat.le_refl _) (Nat.le_refl _) dX3_isNumber_34 rfl hw
theorem wkX3_isNumber (hC : cOK G) {K : Int32 → gY → gH → Prop} {Y : gY} {h : gH} {a0 : Nat} {a1 : Int32} (hw : wpX3_isNumber K Y h a0 a1) : gMet l yX3_isNumber (ws_ yX3_isNumber cX3_isNumber 2 (some .boolean)) rX3_isNumber G L o ad [.ref a0, .int a1] (fun r => some (.int r)) K 0 0 Y h := by
  refine gMet.in (lv := [some (.ref a0), some (.int a1)]) (by decide) rfl rfl (fun J S => ?_)
  have S : gSt l rX3_isNumber cX3_isNumber RX3 "isNumber" 2 (some .boolean) G L o ad (fun r => some (.int r)) K 0 0 J := S
  unfold wpX3_isNumber at hw
  refine j_ald0 (pc := 0) S dX3_isNumber_0 ?_
  obtain ⟨⟨fs_4, ha⟩, hw⟩ := hw
  refine x_callVi (pc := 1) S 0 (wkX3_isFloats hC hw) (lw_V q1028 q1029 q1030 q85 q1031) rfl rfl ydX3_isFloats rfl rfl (h_recv ha rfl rfl) rfl rfl rfl dX3_isNumber_1 (Nat.le_refl _) (Nat.le_refl _) (fun r_1 Y_2 h_3 hw => ?_)
  refine j_if_eq (pc := 4) (tgt := 29) S dX3_isNumber_4 rfl (fun c_5 => ?_) (fun c_5 => ?_)
  · have hw := hw.1 c_5
    exact j_sub S (kX3_isNumber_29 S hC hw) (gle_n (gle_n gle_0))
  · have hw := hw.2 c_5
    refine j_ald0 (pc := 7) S dX3_isNumber_7 ?_
    obtain ⟨fs_6, f_7, ha, hv, hw⟩ := hw
    refine h_get (pc := 8) (C := RX3) (T := TX3) (N := 1) S ha 0 rfl in_X3 rfl q233 hv dX3_isNumber_8 ?_
    obtain ⟨b_8, hb_9, hw⟩ := hw
    subst hb_9
    obtain ⟨x_10, ha, hw⟩ := hw
    refine h_toF (pc := 11) S ha q1032 dX3_isNumber_11 ?_
    refine j_ild1 (pc := 14) S dX3_isNumber_14 ?_
    obtain ⟨n_14, g_15, ha, hi, hw⟩ := hw
    refine h_fald (pc := 15) S ha hi dX3_isNumber_15 ?_
    refine j_ald0 (pc := 16) S dX3_isNumber_16 ?_
    obtain ⟨fs_16, f_17, ha, hv, hw⟩ := hw
    refine h_get (pc := 17) (C := RX3) (T := TX3) (N := 1) S ha 0 rfl in_X3 rfl q233 hv dX3_isNumber_17 ?_
    obtain ⟨b_18, hb_19, hw⟩ := hw
    subst hb_19
    obtain ⟨x_20, ha, hw⟩ := hw
    refine h_toF (pc := 20) S ha q1032 dX3_isNumber_20 ?_
    refine j_ild1 (pc := 23) S dX3_isNumber_23 ?_
    obtain ⟨n_24, g_25, ha, hi, hw⟩ := hw
    refine h_fald (pc := 24) S ha hi dX3_isNumber_24 ?_
    refine j_fcmp (pc := 25) S dX3_isNumber_25 ?_
    refine j_if_ne (pc := 26) (tgt := 33) S dX3_isNumber_26 rfl (fun c_26 => ?_) (fun c_26 => ?_)
    · have hw := hw.1 c_26
      refine j_iconst (pc := 33) (v := 0) S dX3_isNumber_33 rfl ?_
      exact j_zret (pc := 34) S (Nat.le_refl _) (Nat.le_refl _) dX3_isNumber_34 rfl hw
    · have hw := hw.2 c_26
      exact j_sub S (kX3_isNumber_29 S hC hw) (gle_n (gle_n gle_0))
/-! LeaningStreet$Sheet.at(I)I -/
abbrev rX3_at : Room := { frames := 1, cells := 0, slots := 0, locals := 20 }
theorem ydX3_at : yX3_at.cls = RX3 ∧ yX3_at.cls ≠ "java/lang/invoke/MethodHandle" ∧ yX3_at.cls ≠ "java/lang/invoke/VarHandle" ∧ (parseMethodDescriptor yX3_at.desc).map (fun d => d.parameters.length) = some 1 := by decide +kernel
def wpX3_at (K : Int32 → gY → gH → Prop) (Y : gY) (h : gH) (a0 : Nat) (a1 : Int32) : Prop := (∃ fs_4 : List Value, h a0 = some (.inr (9, fs_4))) ∧ wpX3_isFloats (fun r_1 Y_2 h_3 => (((r_1 = 0 → (∃ (fs_6 : List Value) (f_7 : Option Nat), h_3 a0 = some (.inr (9, fs_6)) ∧ fs_6[0]? = some (va_rf f_7) ∧ (∃ b_8 : Nat, f_7 = some b_8 ∧ ∃ x_10 : vp_A, h_3 b_8 = some (.inl (2, x_10)) ∧ (∃ (n_14 : Nat) (g_15 : Nat → Int32), h_3 b_8 = some (.inl (2, n_14, .inl g_15)) ∧ vp_in a1 n_14 ∧ (K (g_15 a1.toNatClampNeg) Y_2 h_3))))) ∧ (¬ r_1 = 0 → (∃ (fs_16 : List Value) (f_17 : Option Nat), h_3 a0 = some (.inr (9, fs_16)) ∧ fs_16[0]? = some (va_rf f_17) ∧ (∃ b_18 : Nat, f_17 = some b_18 ∧ ∃ x_20 : vp_A, h_3 b_18 = some (.inl (3, x_20)) ∧ (∃ (n_24 : Nat) (g_25 : Nat → UInt32), h_3 b_18 = some (.inl (3, n_24, .inr (.inr (.inl g_25)))) ∧ vp_in a1 n_24 ∧ (K (FP.f2i (g_25 a1.toNatClampNeg)) Y_2 h_3)))))))) Y h a0
theorem wkX3_at (hC : cOK G) {K : Int32 → gY → gH → Prop} {Y : gY} {h : gH} {a0 : Nat} {a1 : Int32} (hw : wpX3_at K Y h a0 a1) : gMet l yX3_at (ws_ yX3_at cX3_at 2 (some .int)) rX3_at G L o ad [.ref a0, .int a1] (fun r => some (.int r)) K 0 0 Y h := by
  refine gMet.in (lv := [some (.ref a0), some (.int a1)]) (by decide) rfl rfl (fun J S => ?_)
  have S : gSt l rX3_at cX3_at RX3 "at" 2 (some .int) G L o ad (fun r => some (.int r)) K 0 0 J := S
  unfold wpX3_at at hw
  refine j_ald0 (pc := 0) S dX3_at_0 ?_
  obtain ⟨⟨fs_4, ha⟩, hw⟩ := hw
  refine x_callVi (pc := 1) S 0 (wkX3_isFloats hC hw) (lw_V q1028 q1029 q1030 q85 q1031) rfl rfl ydX3_isFloats rfl rfl (h_recv ha rfl rfl) rfl rfl rfl dX3_at_1 (Nat.le_refl _) (Nat.le_refl _) (fun r_1 Y_2 h_3 hw => ?_)
  refine j_if_eq (pc := 4) (tgt := 20) S dX3_at_4 rfl (fun c_5 => ?_) (fun c_5 => ?_)
  · have hw := hw.1 c_5
    refine j_ald0 (pc := 20) S dX3_at_20 ?_
    obtain ⟨fs_6, f_7, ha, hv, hw⟩ := hw
    refine h_get (pc := 21) (C := RX3) (T := TX3) (N := 1) S ha 0 rfl in_X3 rfl q233 hv dX3_at_21 ?_
    obtain ⟨b_8, hb_9, hw⟩ := hw
    subst hb_9
    obtain ⟨x_10, ha, hw⟩ := hw
    refine h_toS (pc := 24) S ha q1033 dX3_at_24 ?_
    refine j_ild1 (pc := 27) S dX3_at_27 ?_
    obtain ⟨n_14, g_15, ha, hi, hw⟩ := hw
    refine h_sald (pc := 28) S ha hi dX3_at_28 ?_
    exact j_iret (pc := 29) S (Nat.le_refl _) (Nat.le_refl _) dX3_at_29 hw
  · have hw := hw.2 c_5
    refine j_ald0 (pc := 7) S dX3_at_7 ?_
    obtain ⟨fs_16, f_17, ha, hv, hw⟩ := hw
    refine h_get (pc := 8) (C := RX3) (T := TX3) (N := 1) S ha 0 rfl in_X3 rfl q233 hv dX3_at_8 ?_
    obtain ⟨b_18, hb_19, hw⟩ := hw
    subst hb_19
    obtain ⟨x_20, ha, hw⟩ := hw
    refine h_toF (pc := 11) S ha q1032 dX3_at_11 ?_
    refine j_ild1 (pc := 14) S dX3_at_14 ?_
    obtain ⟨n_24, g_25, ha, hi, hw⟩ := hw
    refine h_fald (pc := 15) S ha hi dX3_at_15 ?_
    refine j_f2i (pc := 16) S dX3_at_16 ?_
    refine j_goto (pc := 17) (tgt := 29) S dX3_at_17 rfl ?_
    exact j_iret (pc := 29) S (Nat.le_refl _) (Nat.le_refl _) dX3_at_29 hw
/-! LeaningStreet$Slot.<init>()V -/
abbrev rX4_init : Room := { frames := 1, cells := 0, slots := 0, locals := 20 }
theorem ydX4_init : yX4_init.cls ≠ "java/lang/invoke/MethodHandle" ∧ yX4_init.cls ≠ "java/lang/invoke/VarHandle" ∧ (parseMethodDescriptor yX4_init.desc).map (fun d => d.parameters.length) = some 0 := by decide +kernel
def wpX4_init (K : gY → gH → Prop) (Y : gY) (h : gH) (a0 : Nat) : Prop := K Y h
theorem wkX4_init (hC : cOK G) {K : gY → gH → Prop} {Y : gY} {h : gH} {a0 : Nat} (hw : wpX4_init K Y h a0) : gMet l yX4_init (ws_ yX4_init cX4_init 1 none) rX4_init G L o ad [.ref a0] (fun _ => none) (fun (_ : Unit) Y h => K Y h) 0 0 Y h := by
  refine gMet.in (lv := [some (.ref a0)]) (by decide) rfl rfl (fun J S => ?_)
  have S : gSt l rX4_init cX4_init RX4 "<init>" 1 none G L o ad (fun _ => none) (fun (_ : Unit) Y h => K Y h) 0 0 J := S
  unfold wpX4_init at hw
  refine j_ald0 (pc := 0) S dX4_init_0 ?_
  refine j_objInit (pc := 1) S q244 q112 q113 dX4_init_1 rfl rfl ?_
  exact j_vret (pc := 4) S (Nat.le_refl _) (Nat.le_refl _) dX4_init_4 hw
/-! LeaningStreet$Slot.thing()I -/
abbrev rX4_thing : Room := { frames := 0, cells := 0, slots := 0, locals := 0 }
theorem ydX4_thing : yX4_thing.cls = RX4 ∧ yX4_thing.cls ≠ "java/lang/invoke/MethodHandle" ∧ yX4_thing.cls ≠ "java/lang/invoke/VarHandle" ∧ (parseMethodDescriptor yX4_thing.desc).map (fun d => d.parameters.length) = some 0 := by decide +kernel
def wpX4_thing (K : Int32 → gY → gH → Prop) (Y : gY) (h : gH) (a0 : Nat) : Prop := ∃ (fs_1 : List Value) (f_2 : Option Nat), h a0 = some (.inr (10, fs_1)) ∧ fs_1[0]? = some (va_rf f_2) ∧ (((f_2 = none → (K 0 Y h)) ∧ (∀ b_4 : Nat, f_2 = some b_4 → (∃ (fs_5 : List Value) (f_6 : Option Nat), h a0 = some (.inr (10, fs_5)) ∧ fs_5[0]? = some (va_rf f_6) ∧ (∃ b_7 : Nat, f_6 = some b_7 ∧ ∃ (ci_11 : Nat) (fs_12 : List Value), h b_7 = some (.inr (ci_11, fs_12)) ∧ (ci_11 < 6 ∨ ci_11 = 9 ∨ ci_11 = 11) ∧ ((((if ci_11 < 6 then (1 : Int32) else 0) = 0 → (∃ (fs_14 : List Value) (f_15 : Option Nat), h a0 = some (.inr (10, fs_14)) ∧ fs_14[0]? = some (va_rf f_15) ∧ (∃ b_16 : Nat, f_15 = some b_16 ∧ ∃ (ci_20 : Nat) (fs_21 : List Value), h b_16 = some (.inr (ci_20, fs_21)) ∧ (ci_20 < 6 ∨ ci_20 = 9 ∨ ci_20 = 11) ∧ ((((if ci_20 = 9 then (1 : Int32) else 0) = 0 → (K 3 Y h)) ∧ (¬ (if ci_20 = 9 then (1 : Int32) else 0) = 0 → (K 2 Y h))))))) ∧ (¬ (if ci_11 < 6 then (1 : Int32) else 0) = 0 → (K 1 Y h)))))))))
theorem wkX4_thing (hC : cOK G) {K : Int32 → gY → gH → Prop} {Y : gY} {h : gH} {a0 : Nat} (hw : wpX4_thing K Y h a0) : gMet l yX4_thing (ws_ yX4_thing cX4_thing 1 (some .int)) rX4_thing G L o ad [.ref a0] (fun r => some (.int r)) K 0 0 Y h := by
  refine gMet.in (lv := [some (.ref a0)]) (by decide) rfl rfl (fun J S => ?_)
  have S : gSt l rX4_thing cX4_thing RX4 "thing" 1 (some .int) G L o ad (fun r => some (.int r)) K 0 0 J := S
  unfold wpX4_thing at hw
  refine j_ald0 (pc := 0) S dX4_thing_0 ?_
  obtain ⟨fs_1, f_2, ha, hv, hw⟩ := hw
  refine h_get (pc := 1) (C := RX4) (T := TX4) (N := 1) S ha 0 rfl in_X4 rfl q245 hv dX4_thing_1 ?_
  refine j_ifnonnull (pc := 4) (tgt := 11) S dX4_thing_4 rfl (fun b_4 c_3 => ?_) (fun c_3 => ?_)
  · replace hw := hw.2 b_4 c_3
    subst c_3
    refine j_ald0 (pc := 11) S dX4_thing_11 ?_
    obtain ⟨fs_5, f_6, ha, hv, hw⟩ := hw
    refine h_get (pc := 12) (C := RX4) (T := TX4) (N := 1) S ha 0 rfl in_X4 rfl q245 hv dX4_thing_12 ?_
    obtain ⟨b_7, hb_8, hw⟩ := hw
    subst hb_8
    obtain ⟨ci_11, fs_12, ha, hci, hw⟩ := hw
    refine h_isHouse (pc := 15) S hC ha hci q1095 dX4_thing_15 ?_
    refine j_if_eq (pc := 18) (tgt := 25) S dX4_thing_18 rfl (fun c_13 => ?_) (fun c_13 => ?_)
    · have hw := hw.1 c_13
      refine j_ald0 (pc := 25) S dX4_thing_25 ?_
      obtain ⟨fs_14, f_15, ha, hv, hw⟩ := hw
      refine h_get (pc := 26) (C := RX4) (T := TX4) (N := 1) S ha 0 rfl in_X4 rfl q245 hv dX4_thing_26 ?_
      obtain ⟨b_16, hb_17, hw⟩ := hw
      subst hb_17
      obtain ⟨ci_20, fs_21, ha, hci, hw⟩ := hw
      refine h_isSheet (pc := 29) S hC ha hci q1096 dX4_thing_29 ?_
      refine j_if_eq (pc := 32) (tgt := 39) S dX4_thing_32 rfl (fun c_22 => ?_) (fun c_22 => ?_)
      · have hw := hw.1 c_22
        refine j_iconst (pc := 39) (v := 3) S dX4_thing_39 rfl ?_
        exact j_iret (pc := 40) S (Nat.le_refl _) (Nat.le_refl _) dX4_thing_40 hw
      · have hw := hw.2 c_22
        refine j_iconst (pc := 35) (v := 2) S dX4_thing_35 rfl ?_
        refine j_goto (pc := 36) (tgt := 40) S dX4_thing_36 rfl ?_
        exact j_iret (pc := 40) S (Nat.le_refl _) (Nat.le_refl _) dX4_thing_40 hw
    · have hw := hw.2 c_13
      refine j_iconst (pc := 21) (v := 1) S dX4_thing_21 rfl ?_
      refine j_goto (pc := 22) (tgt := 40) S dX4_thing_22 rfl ?_
      exact j_iret (pc := 40) S (Nat.le_refl _) (Nat.le_refl _) dX4_thing_40 hw
  · replace hw := hw.1 c_3
    refine j_iconst (pc := 7) (v := 0) S dX4_thing_7 rfl ?_
    refine j_goto (pc := 8) (tgt := 40) S dX4_thing_8 rfl ?_
    exact j_iret (pc := 40) S (Nat.le_refl _) (Nat.le_refl _) dX4_thing_40 hw
/-! LeaningStreet$House.bears()I -/
abbrev rX6_bears : Room := { frames := 0, cells := 0, slots := 0, locals := 0 }
theorem ydX6_bears : yX6_bears.cls = RX6 ∧ yX6_bears.cls ≠ "java/lang/invoke/MethodHandle" ∧ yX6_bears.cls ≠ "java/lang/invoke/VarHandle" ∧ (parseMethodDescriptor yX6_bears.desc).map (fun d => d.parameters.length) = some 0 := by decide +kernel
theorem ysX6_bears : yX6_bears.name ≠ "<init>" ∧ (parseMethodDescriptor yX6_bears.desc).map (fun d => d.parameters.length) = some 0 := by decide +kernel
def wpX6_bears (K : Int32 → gY → gH → Prop) (Y : gY) (h : gH) (a0 : Nat) : Prop := ∃ (ci_3 : Nat) (fs_1 : List Value) (f_2 : Int32), ci_3 < 6 ∧ h a0 = some (.inr (ci_3, fs_1)) ∧ fs_1[2]? = some (.int f_2) ∧ (∃ (ci_6 : Nat) (fs_4 : List Value) (f_5 : Int32), ci_6 < 6 ∧ h a0 = some (.inr (ci_6, fs_4)) ∧ fs_4[4]? = some (.int f_5) ∧ (K (f_2 + (10 * f_5)) Y h))
theorem wkX6_bears (hC : cOK G) {K : Int32 → gY → gH → Prop} {Y : gY} {h : gH} {a0 : Nat} (hw : wpX6_bears K Y h a0) : gMet l yX6_bears (ws_ yX6_bears cX6_bears 1 (some .int)) rX6_bears G L o ad [.ref a0] (fun r => some (.int r)) K 0 0 Y h := by
  refine gMet.in (lv := [some (.ref a0)]) (by decide) rfl rfl (fun J S => ?_)
  have S : gSt l rX6_bears cX6_bears RX6 "bears" 1 (some .int) G L o ad (fun r => some (.int r)) K 0 0 J := S
  unfold wpX6_bears at hw
  refine j_ald0 (pc := 0) S dX6_bears_0 ?_
  obtain ⟨ci_3, fs_1, f_2, hci, ha, hv, hw⟩ := hw
  refine hh_get (pc := 1) S hci ha 2 rfl q550 hv dX6_bears_1 ?_
  refine j_bipush (pc := 4) (v := 10) S dX6_bears_4 rfl ?_
  refine j_ald0 (pc := 6) S dX6_bears_6 ?_
  obtain ⟨ci_6, fs_4, f_5, hci, ha, hv, hw⟩ := hw
  refine hh_get (pc := 7) S hci ha 4 rfl q555 hv dX6_bears_7 ?_
  refine j_imul (pc := 10) S dX6_bears_10 ?_
  refine j_iadd (pc := 11) S dX6_bears_11 ?_
  exact j_iret (pc := 12) S (Nat.le_refl _) (Nat.le_refl _) dX6_bears_12 hw
/-! LeaningStreet$House.worth()I -/
abbrev rX6_worth : Room := { frames := 0, cells := 0, slots := 0, locals := 0 }
theorem ydX6_worth : yX6_worth.cls = RX6 ∧ yX6_worth.cls ≠ "java/lang/invoke/MethodHandle" ∧ yX6_worth.cls ≠ "java/lang/invoke/VarHandle" ∧ (parseMethodDescriptor yX6_worth.desc).map (fun d => d.parameters.length) = some 0 := by decide +kernel
theorem ysX6_worth : yX6_worth.name ≠ "<init>" ∧ (parseMethodDescriptor yX6_worth.desc).map (fun d => d.parameters.length) = some 0 := by decide +kernel
def wpX6_worth (K : Int32 → gY → gH → Prop) (Y : gY) (h : gH) (a0 : Nat) : Prop := ∃ (ci_3 : Nat) (fs_1 : List Value) (f_2 : Int32), ci_3 < 6 ∧ h a0 = some (.inr (ci_3, fs_1)) ∧ fs_1[2]? = some (.int f_2) ∧ (K f_2 Y h)
theorem wkX6_worth (hC : cOK G) {K : Int32 → gY → gH → Prop} {Y : gY} {h : gH} {a0 : Nat} (hw : wpX6_worth K Y h a0) : gMet l yX6_worth (ws_ yX6_worth cX6_worth 1 (some .int)) rX6_worth G L o ad [.ref a0] (fun r => some (.int r)) K 0 0 Y h := by
  refine gMet.in (lv := [some (.ref a0)]) (by decide) rfl rfl (fun J S => ?_)
  have S : gSt l rX6_worth cX6_worth RX6 "worth" 1 (some .int) G L o ad (fun r => some (.int r)) K 0 0 J := S
  unfold wpX6_worth at hw
  refine j_ald0 (pc := 0) S dX6_worth_0 ?_
  obtain ⟨ci_3, fs_1, f_2, hci, ha, hv, hw⟩ := hw
  refine hh_get (pc := 1) S hci ha 2 rfl q550 hv dX6_worth_1 ?_
  exact j_iret (pc := 4) S (Nat.le_refl _) (Nat.le_refl _) dX6_worth_4 hw
/-! LeaningStreet$House.falls()V -/
abbrev rX6_falls : Room := { frames := 0, cells := 0, slots := 0, locals := 0 }
theorem ydX6_falls : yX6_falls.cls = RX6 ∧ yX6_falls.cls ≠ "java/lang/invoke/MethodHandle" ∧ yX6_falls.cls ≠ "java/lang/invoke/VarHandle" ∧ (parseMethodDescriptor yX6_falls.desc).map (fun d => d.parameters.length) = some 0 := by decide +kernel
theorem ysX6_falls : yX6_falls.name ≠ "<init>" ∧ (parseMethodDescriptor yX6_falls.desc).map (fun d => d.parameters.length) = some 0 := by decide +kernel
def wpX6_falls (K : gY → gH → Prop) (Y : gY) (h : gH) (a0 : Nat) : Prop := ∃ (ci_4 : Nat) (fs_1 : List Value), ci_4 < 6 ∧ h a0 = some (.inr (ci_4, fs_1)) ∧ 5 < fs_1.length ∧ ∀ h_2 : gH, h_2 = hup h a0 (.inr (ci_4, fs_1.set 5 (.int 0))) → (∃ (ci_8 : Nat) (fs_5 : List Value), ci_8 < 6 ∧ h_2 a0 = some (.inr (ci_8, fs_5)) ∧ 4 < fs_5.length ∧ ∀ h_6 : gH, h_6 = hup h_2 a0 (.inr (ci_8, fs_5.set 4 (.int 0))) → (K Y h_6))
theorem wkX6_falls (hC : cOK G) {K : gY → gH → Prop} {Y : gY} {h : gH} {a0 : Nat} (hw : wpX6_falls K Y h a0) : gMet l yX6_falls (ws_ yX6_falls cX6_falls 1 none) rX6_falls G L o ad [.ref a0] (fun _ => none) (fun (_ : Unit) Y h => K Y h) 0 0 Y h := by
  refine gMet.in (lv := [some (.ref a0)]) (by decide) rfl rfl (fun J S => ?_)
  have S : gSt l rX6_falls cX6_falls RX6 "falls" 1 none G L o ad (fun _ => none) (fun (_ : Unit) Y h => K Y h) 0 0 J := S
  unfold wpX6_falls at hw
  refine j_ald0 (pc := 0) S dX6_falls_0 ?_
  refine j_iconst (pc := 1) (v := 0) S dX6_falls_1 rfl ?_
  obtain ⟨ci_4, fs_1, hci, ha, hl, hw⟩ := hw
  refine hh_put (pc := 2) S hci ha 5 rfl q558 rfl rfl rfl hl dX6_falls_2 (fun h_2 e_3 => ?_)
  have hw := hw h_2 e_3
  refine j_ald0 (pc := 5) S dX6_falls_5 ?_
  refine j_iconst (pc := 6) (v := 0) S dX6_falls_6 rfl ?_
  obtain ⟨ci_8, fs_5, hci, ha, hl, hw⟩ := hw
  refine hh_put (pc := 7) S hci ha 4 rfl q555 rfl rfl rfl hl dX6_falls_7 (fun h_6 e_7 => ?_)
  have hw := hw h_6 e_7
  exact j_vret (pc := 10) S (Nat.le_refl _) (Nat.le_refl _) dX6_falls_10 hw
/-! LeaningStreet$House.copy()LLeaningStreet$House; -/
abbrev rX6_copy (mc ms : Nat) : Room := { frames := 5, cells := mc, slots := ms, locals := 100 }
theorem ydX6_copy : yX6_copy.cls = RX6 ∧ yX6_copy.cls ≠ "java/lang/invoke/MethodHandle" ∧ yX6_copy.cls ≠ "java/lang/invoke/VarHandle" ∧ (parseMethodDescriptor yX6_copy.desc).map (fun d => d.parameters.length) = some 0 := by decide +kernel
theorem ysX6_copy : yX6_copy.name ≠ "<init>" ∧ (parseMethodDescriptor yX6_copy.desc).map (fun d => d.parameters.length) = some 0 := by decide +kernel
def wpX6_copy (K : Nat → gY → gH → Prop) (mc ms : Nat) (Y : gY) (h : gH) (a0 : Nat) : Prop := ∃ mc_4 ms_5 : Nat, 0 + mc_4 ≤ mc ∧ 0 + ms_5 ≤ ms ∧ wvH_another (fun r_1 Y_2 h_3 => (wvH_takes (fun Y_9 h_10 => (K r_1 Y_9 h_10)) Y_2 h_3 r_1 a0)) mc_4 ms_5 Y h a0
theorem wkX6_copy (hC : cOK G) {K : Nat → gY → gH → Prop} {mc ms : Nat} {Y : gY} {h : gH} {a0 : Nat} (hw : wpX6_copy K mc ms Y h a0) : gMet l yX6_copy (ws_ yX6_copy cX6_copy 2 (some (.object "LeaningStreet$House"))) (rX6_copy mc ms) G L o ad [.ref a0] (fun r => some (.ref r)) K mc ms Y h := by
  refine gMet.in (lv := [some (.ref a0), none]) (by decide) rfl rfl (fun J S => ?_)
  have S : gSt l (rX6_copy mc ms) cX6_copy RX6 "copy" 2 (some (.object "LeaningStreet$House")) G L o ad (fun r => some (.ref r)) K mc ms J := S
  unfold wpX6_copy at hw
  refine j_ald0 (pc := 0) S dX6_copy_0 ?_
  obtain ⟨mc_4, ms_5, hc_6, hs_7, hw⟩ := hw
  refine jvH_another (pc := 1) S hC hw q1107 rfl rfl rfl rfl dX6_copy_1 hc_6 hs_7 (fun r_1 Y_2 h_3 hw => ?_)
  refine j_ast1 (pc := 4) S dX6_copy_4 rfl rfl ?_
  refine j_ald1 (pc := 5) S dX6_copy_5 ?_
  refine j_ald0 (pc := 6) S dX6_copy_6 ?_
  refine jvH_takes (pc := 7) S hC hw q1108 rfl rfl rfl rfl dX6_copy_7 hc_6 hs_7 (fun Y_9 h_10 hw => ?_)
  refine j_ald1 (pc := 10) S dX6_copy_10 ?_
  exact j_aret (pc := 11) S (Or.inl ⟨_, rfl⟩) hc_6 hs_7 dX6_copy_11 hw
/-! LeaningStreet$TimberHouse.pushes(I)I -/
abbrev rX7_pushes : Room := { frames := 1, cells := 0, slots := 0, locals := 21 }
theorem ydX7_pushes : yX7_pushes.cls = RX7 ∧ yX7_pushes.cls ≠ "java/lang/invoke/MethodHandle" ∧ yX7_pushes.cls ≠ "java/lang/invoke/VarHandle" ∧ (parseMethodDescriptor yX7_pushes.desc).map (fun d => d.parameters.length) = some 1 := by decide +kernel
theorem ysX7_pushes : yX7_pushes.name ≠ "<init>" ∧ (parseMethodDescriptor yX7_pushes.desc).map (fun d => d.parameters.length) = some 1 := by decide +kernel
def wpX7_pushes (K : Int32 → gY → gH → Prop) (Y : gY) (h : gH) (a0 : Nat) (a1 : Int32) : Prop := ∃ (ci_1 : Nat) (fs_2 : List Value), ci_1 < 6 ∧ h a0 = some (.inr (ci_1, fs_2)) ∧ (K (a1 / 2) Y h)
theorem wkX7_pushes (hC : cOK G) {K : Int32 → gY → gH → Prop} {Y : gY} {h : gH} {a0 : Nat} {a1 : Int32} (hw : wpX7_pushes K Y h a0 a1) : gMet l yX7_pushes (ws_ yX7_pushes cX7_pushes 2 (some .int)) rX7_pushes G L o ad [.ref a0, .int a1] (fun r => some (.int r)) K 0 0 Y h := by
  refine gMet.in (lv := [some (.ref a0), some (.int a1)]) (by decide) rfl rfl (fun J S => ?_)
  have S : gSt l rX7_pushes cX7_pushes RX7 "pushes" 2 (some .int) G L o ad (fun r => some (.int r)) K 0 0 J := S
  unfold wpX7_pushes at hw
  refine j_ald0 (pc := 0) S dX7_pushes_0 ?_
  refine j_ild1 (pc := 1) S dX7_pushes_1 ?_
  obtain ⟨ci_1, fs_2, hci, ha, hw⟩ := hw
  refine j_dS (pc := 2) S hC (fun U hU => (hC U hU).2.2.2.2.2.2.2.1) q573 hci ha rfl rfl rfl dX7_pushes_2 ?_
  refine j_iconst (pc := 5) (v := 2) S dX7_pushes_5 rfl ?_
  refine j_idiv (pc := 6) S (by decide) dX7_pushes_6 ?_
  exact j_iret (pc := 7) S (Nat.le_refl _) (Nat.le_refl _) dX7_pushes_7 hw
/-! LeaningStreet$TimberHouse.bears()I -/
abbrev rX7_bears : Room := { frames := 1, cells := 0, slots := 0, locals := 20 }
theorem ydX7_bears : yX7_bears.cls = RX7 ∧ yX7_bears.cls ≠ "java/lang/invoke/MethodHandle" ∧ yX7_bears.cls ≠ "java/lang/invoke/VarHandle" ∧ (parseMethodDescriptor yX7_bears.desc).map (fun d => d.parameters.length) = some 0 := by decide +kernel
theorem ysX7_bears : yX7_bears.name ≠ "<init>" ∧ (parseMethodDescriptor yX7_bears.desc).map (fun d => d.parameters.length) = some 0 := by decide +kernel
def wpX7_bears (K : Int32 → gY → gH → Prop) (Y : gY) (h : gH) (a0 : Nat) : Prop := ∃ (ci_4 : Nat) (fs_5 : List Value), ci_4 < 6 ∧ h a0 = some (.inr (ci_4, fs_5)) ∧ wpX6_bears (fun r_1 Y_2 h_3 => (K (r_1 + 5) Y_2 h_3)) Y h a0
theorem wkX7_bears (hC : cOK G) {K : Int32 → gY → gH → Prop} {Y : gY} {h : gH} {a0 : Nat} (hw : wpX7_bears K Y h a0) : gMet l yX7_bears (ws_ yX7_bears cX7_bears 1 (some .int)) rX7_bears G L o ad [.ref a0] (fun r => some (.int r)) K 0 0 Y h := by
  refine gMet.in (lv := [some (.ref a0)]) (by decide) rfl rfl (fun J S => ?_)
  have S : gSt l rX7_bears cX7_bears RX7 "bears" 1 (some .int) G L o ad (fun r => some (.int r)) K 0 0 J := S
  unfold wpX7_bears at hw
  refine j_ald0 (pc := 0) S dX7_bears_0 ?_
  obtain ⟨ci_4, fs_5, hci, ha, hw⟩ := hw
  obtain ⟨qc, hqc⟩ := hc_of hci
  refine x_callSUi (pc := 1) S 0 (wkX6_bears hC hw) (lw_SU q724 q715 q573 q713 q88 q729) rfl rfl ysX6_bears rfl rfl (h_recv ha hqc rfl) rfl rfl rfl dX7_bears_1 (Nat.le_refl _) (Nat.le_refl _) (fun r_1 Y_2 h_3 hw => ?_)
  refine j_iconst (pc := 4) (v := 5) S dX7_bears_4 rfl ?_
  refine j_iadd (pc := 5) S dX7_bears_5 ?_
  exact j_iret (pc := 6) S (Nat.le_refl _) (Nat.le_refl _) dX7_bears_6 hw
/-! LeaningStreet$TimberHouse.worth()I -/
abbrev rX7_worth : Room := { frames := 1, cells := 0, slots := 0, locals := 20 }
theorem ydX7_worth : yX7_worth.cls = RX7 ∧ yX7_worth.cls ≠ "java/lang/invoke/MethodHandle" ∧ yX7_worth.cls ≠ "java/lang/invoke/VarHandle" ∧ (parseMethodDescriptor yX7_worth.desc).map (fun d => d.parameters.length) = some 0 := by decide +kernel
theorem ysX7_worth : yX7_worth.name ≠ "<init>" ∧ (parseMethodDescriptor yX7_worth.desc).map (fun d => d.parameters.length) = some 0 := by decide +kernel
def wpX7_worth (K : Int32 → gY → gH → Prop) (Y : gY) (h : gH) (a0 : Nat) : Prop := ∃ (ci_4 : Nat) (fs_5 : List Value), ci_4 < 6 ∧ h a0 = some (.inr (ci_4, fs_5)) ∧ wpX6_worth (fun r_1 Y_2 h_3 => (K (r_1 + 7) Y_2 h_3)) Y h a0
theorem wkX7_worth (hC : cOK G) {K : Int32 → gY → gH → Prop} {Y : gY} {h : gH} {a0 : Nat} (hw : wpX7_worth K Y h a0) : gMet l yX7_worth (ws_ yX7_worth cX7_worth 1 (some .int)) rX7_worth G L o ad [.ref a0] (fun r => some (.int r)) K 0 0 Y h := by
  refine gMet.in (lv := [some (.ref a0)]) (by decide) rfl rfl (fun J S => ?_)
  have S : gSt l rX7_worth cX7_worth RX7 "worth" 1 (some .int) G L o ad (fun r => some (.int r)) K 0 0 J := S
  unfold wpX7_worth at hw
  refine j_ald0 (pc := 0) S dX7_worth_0 ?_
  obtain ⟨ci_4, fs_5, hci, ha, hw⟩ := hw
  obtain ⟨qc, hqc⟩ := hc_of hci
  refine x_callSUi (pc := 1) S 0 (wkX6_worth hC hw) (lw_SU q760 q745 q573 q743 q88 q765) rfl rfl ysX6_worth rfl rfl (h_recv ha hqc rfl) rfl rfl rfl dX7_worth_1 (Nat.le_refl _) (Nat.le_refl _) (fun r_1 Y_2 h_3 hw => ?_)
  refine j_bipush (pc := 4) (v := 7) S dX7_worth_4 rfl ?_
  refine j_iadd (pc := 6) S dX7_worth_6 ?_
  exact j_iret (pc := 7) S (Nat.le_refl _) (Nat.le_refl _) dX7_worth_7 hw
/-! LeaningStreet$BrickHouse.pushes(I)I -/
abbrev rX8_pushes : Room := { frames := 1, cells := 0, slots := 0, locals := 21 }
theorem ydX8_pushes : yX8_pushes.cls = RX8 ∧ yX8_pushes.cls ≠ "java/lang/invoke/MethodHandle" ∧ yX8_pushes.cls ≠ "java/lang/invoke/VarHandle" ∧ (parseMethodDescriptor yX8_pushes.desc).map (fun d => d.parameters.length) = some 1 := by decide +kernel
theorem ysX8_pushes : yX8_pushes.name ≠ "<init>" ∧ (parseMethodDescriptor yX8_pushes.desc).map (fun d => d.parameters.length) = some 1 := by decide +kernel
def wpX8_pushes (K : Int32 → gY → gH → Prop) (Y : gY) (h : gH) (a0 : Nat) (a1 : Int32) : Prop := ∃ (ci_1 : Nat) (fs_2 : List Value), ci_1 < 6 ∧ h a0 = some (.inr (ci_1, fs_2)) ∧ (K (a1 + 4) Y h)
theorem wkX8_pushes (hC : cOK G) {K : Int32 → gY → gH → Prop} {Y : gY} {h : gH} {a0 : Nat} {a1 : Int32} (hw : wpX8_pushes K Y h a0 a1) : gMet l yX8_pushes (ws_ yX8_pushes cX8_pushes 2 (some .int)) rX8_pushes G L o ad [.ref a0, .int a1] (fun r => some (.int r)) K 0 0 Y h := by
  refine gMet.in (lv := [some (.ref a0), some (.int a1)]) (by decide) rfl rfl (fun J S => ?_)
  have S : gSt l rX8_pushes cX8_pushes RX8 "pushes" 2 (some .int) G L o ad (fun r => some (.int r)) K 0 0 J := S
  unfold wpX8_pushes at hw
  refine j_ald0 (pc := 0) S dX8_pushes_0 ?_
  refine j_ild1 (pc := 1) S dX8_pushes_1 ?_
  obtain ⟨ci_1, fs_2, hci, ha, hw⟩ := hw
  refine j_dS (pc := 2) S hC (fun U hU => (hC U hU).2.2.2.2.2.2.2.2.1) q586 hci ha rfl rfl rfl dX8_pushes_2 ?_
  refine j_iconst (pc := 5) (v := 4) S dX8_pushes_5 rfl ?_
  refine j_iadd (pc := 6) S dX8_pushes_6 ?_
  exact j_iret (pc := 7) S (Nat.le_refl _) (Nat.le_refl _) dX8_pushes_7 hw
/-! LeaningStreet$BrickHouse.bears()I -/
abbrev rX8_bears : Room := { frames := 1, cells := 0, slots := 0, locals := 20 }
theorem ydX8_bears : yX8_bears.cls = RX8 ∧ yX8_bears.cls ≠ "java/lang/invoke/MethodHandle" ∧ yX8_bears.cls ≠ "java/lang/invoke/VarHandle" ∧ (parseMethodDescriptor yX8_bears.desc).map (fun d => d.parameters.length) = some 0 := by decide +kernel
theorem ysX8_bears : yX8_bears.name ≠ "<init>" ∧ (parseMethodDescriptor yX8_bears.desc).map (fun d => d.parameters.length) = some 0 := by decide +kernel
def wpX8_bears (K : Int32 → gY → gH → Prop) (Y : gY) (h : gH) (a0 : Nat) : Prop := ∃ (ci_4 : Nat) (fs_5 : List Value), ci_4 < 6 ∧ h a0 = some (.inr (ci_4, fs_5)) ∧ wpX6_bears (fun r_1 Y_2 h_3 => (K (2 * r_1) Y_2 h_3)) Y h a0
theorem wkX8_bears (hC : cOK G) {K : Int32 → gY → gH → Prop} {Y : gY} {h : gH} {a0 : Nat} (hw : wpX8_bears K Y h a0) : gMet l yX8_bears (ws_ yX8_bears cX8_bears 1 (some .int)) rX8_bears G L o ad [.ref a0] (fun r => some (.int r)) K 0 0 Y h := by
  refine gMet.in (lv := [some (.ref a0)]) (by decide) rfl rfl (fun J S => ?_)
  have S : gSt l rX8_bears cX8_bears RX8 "bears" 1 (some .int) G L o ad (fun r => some (.int r)) K 0 0 J := S
  unfold wpX8_bears at hw
  refine j_iconst (pc := 0) (v := 2) S dX8_bears_0 rfl ?_
  refine j_ald0 (pc := 1) S dX8_bears_1 ?_
  obtain ⟨ci_4, fs_5, hci, ha, hw⟩ := hw
  obtain ⟨qc, hqc⟩ := hc_of hci
  refine x_callSUi (pc := 2) S 0 (wkX6_bears hC hw) (lw_SU q719 q715 q586 q713 q88 q729) rfl rfl ysX6_bears rfl rfl (h_recv ha hqc rfl) rfl rfl rfl dX8_bears_2 (Nat.le_refl _) (Nat.le_refl _) (fun r_1 Y_2 h_3 hw => ?_)
  refine j_imul (pc := 5) S dX8_bears_5 ?_
  exact j_iret (pc := 6) S (Nat.le_refl _) (Nat.le_refl _) dX8_bears_6 hw
/-! LeaningStreet$BrickHouse.worth()I -/
abbrev rX8_worth : Room := { frames := 1, cells := 0, slots := 0, locals := 20 }
theorem ydX8_worth : yX8_worth.cls = RX8 ∧ yX8_worth.cls ≠ "java/lang/invoke/MethodHandle" ∧ yX8_worth.cls ≠ "java/lang/invoke/VarHandle" ∧ (parseMethodDescriptor yX8_worth.desc).map (fun d => d.parameters.length) = some 0 := by decide +kernel
theorem ysX8_worth : yX8_worth.name ≠ "<init>" ∧ (parseMethodDescriptor yX8_worth.desc).map (fun d => d.parameters.length) = some 0 := by decide +kernel
def wpX8_worth (K : Int32 → gY → gH → Prop) (Y : gY) (h : gH) (a0 : Nat) : Prop := ∃ (ci_4 : Nat) (fs_5 : List Value), ci_4 < 6 ∧ h a0 = some (.inr (ci_4, fs_5)) ∧ wpX6_worth (fun r_1 Y_2 h_3 => (K (99 - r_1) Y_2 h_3)) Y h a0
theorem wkX8_worth (hC : cOK G) {K : Int32 → gY → gH → Prop} {Y : gY} {h : gH} {a0 : Nat} (hw : wpX8_worth K Y h a0) : gMet l yX8_worth (ws_ yX8_worth cX8_worth 1 (some .int)) rX8_worth G L o ad [.ref a0] (fun r => some (.int r)) K 0 0 Y h := by
  refine gMet.in (lv := [some (.ref a0)]) (by decide) rfl rfl (fun J S => ?_)
  have S : gSt l rX8_worth cX8_worth RX8 "worth" 1 (some .int) G L o ad (fun r => some (.int r)) K 0 0 J := S
  unfold wpX8_worth at hw
  refine j_bipush (pc := 0) (v := 99) S dX8_worth_0 rfl ?_
  refine j_ald0 (pc := 2) S dX8_worth_2 ?_
  obtain ⟨ci_4, fs_5, hci, ha, hw⟩ := hw
  obtain ⟨qc, hqc⟩ := hc_of hci
  refine x_callSUi (pc := 3) S 0 (wkX6_worth hC hw) (lw_SU q749 q745 q586 q743 q88 q765) rfl rfl ysX6_worth rfl rfl (h_recv ha hqc rfl) rfl rfl rfl dX8_worth_3 (Nat.le_refl _) (Nat.le_refl _) (fun r_1 Y_2 h_3 hw => ?_)
  refine j_isub (pc := 6) S dX8_worth_6 ?_
  exact j_iret (pc := 7) S (Nat.le_refl _) (Nat.le_refl _) dX8_worth_7 hw
/-! LeaningStreet$EmptyHouse.pushes(I)I -/
abbrev rX9_pushes : Room := { frames := 2, cells := 0, slots := 0, locals := 42 }
theorem ydX9_pushes : yX9_pushes.cls = RX9 ∧ yX9_pushes.cls ≠ "java/lang/invoke/MethodHandle" ∧ yX9_pushes.cls ≠ "java/lang/invoke/VarHandle" ∧ (parseMethodDescriptor yX9_pushes.desc).map (fun d => d.parameters.length) = some 1 := by decide +kernel
def wpX9_pushes (K : Int32 → gY → gH → Prop) (Y : gY) (h : gH) (a0 : Nat) (a1 : Int32) : Prop := ∃ (ci_4 : Nat) (fs_5 : List Value), ci_4 < 6 ∧ h a0 = some (.inr (ci_4, fs_5)) ∧ wpX7_pushes (fun r_1 Y_2 h_3 => (K (if (0 : Int32) < (r_1 - 5) then (r_1 - 5) else (0 : Int32)) Y_2 h_3)) Y h a0 a1
theorem wkX9_pushes (hC : cOK G) {K : Int32 → gY → gH → Prop} {Y : gY} {h : gH} {a0 : Nat} {a1 : Int32} (hw : wpX9_pushes K Y h a0 a1) : gMet l yX9_pushes (ws_ yX9_pushes cX9_pushes 2 (some .int)) rX9_pushes G L o ad [.ref a0, .int a1] (fun r => some (.int r)) K 0 0 Y h := by
  refine gMet.in (lv := [some (.ref a0), some (.int a1)]) (by decide) rfl rfl (fun J S => ?_)
  have S : gSt l rX9_pushes cX9_pushes RX9 "pushes" 2 (some .int) G L o ad (fun r => some (.int r)) K 0 0 J := S
  unfold wpX9_pushes at hw
  refine j_iconst (pc := 0) (v := 0) S dX9_pushes_0 rfl ?_
  refine j_ald0 (pc := 1) S dX9_pushes_1 ?_
  refine j_ild1 (pc := 2) S dX9_pushes_2 ?_
  obtain ⟨ci_4, fs_5, hci, ha, hw⟩ := hw
  obtain ⟨qc, hqc⟩ := hc_of hci
  refine x_callSUi (pc := 3) S 1 (wkX7_pushes hC hw) (lw_SU q695 q1686 q599 q696 q89 q697) rfl rfl ysX7_pushes rfl rfl (h_recv ha hqc rfl) rfl rfl rfl dX9_pushes_3 (Nat.le_refl _) (Nat.le_refl _) (fun r_1 Y_2 h_3 hw => ?_)
  refine j_iconst (pc := 6) (v := 5) S dX9_pushes_6 rfl ?_
  refine j_isub (pc := 7) S dX9_pushes_7 ?_
  refine j_mmax (pc := 8) S q698 rfl rfl dX9_pushes_8 (Nat.le_refl _) (Nat.le_refl _) ?_
  exact j_iret (pc := 11) S (Nat.le_refl _) (Nat.le_refl _) dX9_pushes_11 hw
/-! LeaningStreet$EmptyHouse.worth()I -/
abbrev rX9_worth : Room := { frames := 2, cells := 0, slots := 0, locals := 40 }
theorem ydX9_worth : yX9_worth.cls = RX9 ∧ yX9_worth.cls ≠ "java/lang/invoke/MethodHandle" ∧ yX9_worth.cls ≠ "java/lang/invoke/VarHandle" ∧ (parseMethodDescriptor yX9_worth.desc).map (fun d => d.parameters.length) = some 0 := by decide +kernel
def wpX9_worth (K : Int32 → gY → gH → Prop) (Y : gY) (h : gH) (a0 : Nat) : Prop := ∃ (ci_4 : Nat) (fs_5 : List Value), ci_4 < 6 ∧ h a0 = some (.inr (ci_4, fs_5)) ∧ wpX7_worth (fun r_1 Y_2 h_3 => (K (2 * r_1) Y_2 h_3)) Y h a0
theorem wkX9_worth (hC : cOK G) {K : Int32 → gY → gH → Prop} {Y : gY} {h : gH} {a0 : Nat} (hw : wpX9_worth K Y h a0) : gMet l yX9_worth (ws_ yX9_worth cX9_worth 1 (some .int)) rX9_worth G L o ad [.ref a0] (fun r => some (.int r)) K 0 0 Y h := by
  refine gMet.in (lv := [some (.ref a0)]) (by decide) rfl rfl (fun J S => ?_)
  have S : gSt l rX9_worth cX9_worth RX9 "worth" 1 (some .int) G L o ad (fun r => some (.int r)) K 0 0 J := S
  unfold wpX9_worth at hw
  refine j_iconst (pc := 0) (v := 2) S dX9_worth_0 rfl ?_
  refine j_ald0 (pc := 1) S dX9_worth_1 ?_
  obtain ⟨ci_4, fs_5, hci, ha, hw⟩ := hw
  obtain ⟨qc, hqc⟩ := hc_of hci
  refine x_callSUi (pc := 2) S 0 (wkX7_worth hC hw) (lw_SU q757 q1688 q599 q758 q89 q759) rfl rfl ysX7_worth rfl rfl (h_recv ha hqc rfl) rfl rfl rfl dX9_worth_2 (Nat.le_refl _) (Nat.le_refl _) (fun r_1 Y_2 h_3 hw => ?_)
  refine j_imul (pc := 5) S dX9_worth_5 ?_
  exact j_iret (pc := 6) S (Nat.le_refl _) (Nat.le_refl _) dX9_worth_6 hw
/-! LeaningStreet$DoubleHouse.pushes(I)I -/
abbrev rX10_pushes : Room := { frames := 2, cells := 0, slots := 0, locals := 42 }
theorem ydX10_pushes : yX10_pushes.cls = RX10 ∧ yX10_pushes.cls ≠ "java/lang/invoke/MethodHandle" ∧ yX10_pushes.cls ≠ "java/lang/invoke/VarHandle" ∧ (parseMethodDescriptor yX10_pushes.desc).map (fun d => d.parameters.length) = some 1 := by decide +kernel
def wpX10_pushes (K : Int32 → gY → gH → Prop) (Y : gY) (h : gH) (a0 : Nat) (a1 : Int32) : Prop := ∃ (ci_4 : Nat) (fs_5 : List Value), ci_4 < 6 ∧ h a0 = some (.inr (ci_4, fs_5)) ∧ wpX8_pushes (fun r_1 Y_2 h_3 => (K (2 * r_1) Y_2 h_3)) Y h a0 a1
theorem wkX10_pushes (hC : cOK G) {K : Int32 → gY → gH → Prop} {Y : gY} {h : gH} {a0 : Nat} {a1 : Int32} (hw : wpX10_pushes K Y h a0 a1) : gMet l yX10_pushes (ws_ yX10_pushes cX10_pushes 2 (some .int)) rX10_pushes G L o ad [.ref a0, .int a1] (fun r => some (.int r)) K 0 0 Y h := by
  refine gMet.in (lv := [some (.ref a0), some (.int a1)]) (by decide) rfl rfl (fun J S => ?_)
  have S : gSt l rX10_pushes cX10_pushes RX10 "pushes" 2 (some .int) G L o ad (fun r => some (.int r)) K 0 0 J := S
  unfold wpX10_pushes at hw
  refine j_iconst (pc := 0) (v := 2) S dX10_pushes_0 rfl ?_
  refine j_ald0 (pc := 1) S dX10_pushes_1 ?_
  refine j_ild1 (pc := 2) S dX10_pushes_2 ?_
  obtain ⟨ci_4, fs_5, hci, ha, hw⟩ := hw
  obtain ⟨qc, hqc⟩ := hc_of hci
  refine x_callSUi (pc := 3) S 1 (wkX8_pushes hC hw) (lw_SU q691 q1685 q612 q684 q90 q685) rfl rfl ysX8_pushes rfl rfl (h_recv ha hqc rfl) rfl rfl rfl dX10_pushes_3 (Nat.le_refl _) (Nat.le_refl _) (fun r_1 Y_2 h_3 hw => ?_)
  refine j_imul (pc := 6) S dX10_pushes_6 ?_
  exact j_iret (pc := 7) S (Nat.le_refl _) (Nat.le_refl _) dX10_pushes_7 hw
/-! LeaningStreet$DoubleHouse.worth()I -/
abbrev rX10_worth : Room := { frames := 2, cells := 0, slots := 0, locals := 40 }
theorem ydX10_worth : yX10_worth.cls = RX10 ∧ yX10_worth.cls ≠ "java/lang/invoke/MethodHandle" ∧ yX10_worth.cls ≠ "java/lang/invoke/VarHandle" ∧ (parseMethodDescriptor yX10_worth.desc).map (fun d => d.parameters.length) = some 0 := by decide +kernel
def wpX10_worth (K : Int32 → gY → gH → Prop) (Y : gY) (h : gH) (a0 : Nat) : Prop := ∃ (ci_4 : Nat) (fs_5 : List Value), ci_4 < 6 ∧ h a0 = some (.inr (ci_4, fs_5)) ∧ wpX8_worth (fun r_1 Y_2 h_3 => (K (r_1 - 5) Y_2 h_3)) Y h a0
theorem wkX10_worth (hC : cOK G) {K : Int32 → gY → gH → Prop} {Y : gY} {h : gH} {a0 : Nat} (hw : wpX10_worth K Y h a0) : gMet l yX10_worth (ws_ yX10_worth cX10_worth 1 (some .int)) rX10_worth G L o ad [.ref a0] (fun r => some (.int r)) K 0 0 Y h := by
  refine gMet.in (lv := [some (.ref a0)]) (by decide) rfl rfl (fun J S => ?_)
  have S : gSt l rX10_worth cX10_worth RX10 "worth" 1 (some .int) G L o ad (fun r => some (.int r)) K 0 0 J := S
  unfold wpX10_worth at hw
  refine j_ald0 (pc := 0) S dX10_worth_0 ?_
  obtain ⟨ci_4, fs_5, hci, ha, hw⟩ := hw
  obtain ⟨qc, hqc⟩ := hc_of hci
  refine x_callSUi (pc := 1) S 0 (wkX8_worth hC hw) (lw_SU q753 q1687 q612 q747 q90 q748) rfl rfl ysX8_worth rfl rfl (h_recv ha hqc rfl) rfl rfl rfl dX10_worth_1 (Nat.le_refl _) (Nat.le_refl _) (fun r_1 Y_2 h_3 hw => ?_)
  refine j_iconst (pc := 4) (v := 5) S dX10_worth_4 rfl ?_
  refine j_isub (pc := 5) S dX10_worth_5 ?_
  exact j_iret (pc := 6) S (Nat.le_refl _) (Nat.le_refl _) dX10_worth_6 hw
/-! LeaningStreet$FloatingHouse.pushes(I)I -/
abbrev rX11_pushes : Room := { frames := 0, cells := 0, slots := 0, locals := 0 }
theorem ydX11_pushes : yX11_pushes.cls = RX11 ∧ yX11_pushes.cls ≠ "java/lang/invoke/MethodHandle" ∧ yX11_pushes.cls ≠ "java/lang/invoke/VarHandle" ∧ (parseMethodDescriptor yX11_pushes.desc).map (fun d => d.parameters.length) = some 1 := by decide +kernel
def wpX11_pushes (K : Int32 → gY → gH → Prop) (Y : gY) (h : gH) (a0 : Nat) (a1 : Int32) : Prop := K 0 Y h
theorem wkX11_pushes (hC : cOK G) {K : Int32 → gY → gH → Prop} {Y : gY} {h : gH} {a0 : Nat} {a1 : Int32} (hw : wpX11_pushes K Y h a0 a1) : gMet l yX11_pushes (ws_ yX11_pushes cX11_pushes 2 (some .int)) rX11_pushes G L o ad [.ref a0, .int a1] (fun r => some (.int r)) K 0 0 Y h := by
  refine gMet.in (lv := [some (.ref a0), some (.int a1)]) (by decide) rfl rfl (fun J S => ?_)
  have S : gSt l rX11_pushes cX11_pushes RX11 "pushes" 2 (some .int) G L o ad (fun r => some (.int r)) K 0 0 J := S
  unfold wpX11_pushes at hw
  refine j_iconst (pc := 0) (v := 0) S dX11_pushes_0 rfl ?_
  exact j_iret (pc := 1) S (Nat.le_refl _) (Nat.le_refl _) dX11_pushes_1 hw
/-! LeaningStreet$FloatingHouse.bears()I -/
abbrev rX11_bears : Room := { frames := 0, cells := 0, slots := 0, locals := 0 }
theorem ydX11_bears : yX11_bears.cls = RX11 ∧ yX11_bears.cls ≠ "java/lang/invoke/MethodHandle" ∧ yX11_bears.cls ≠ "java/lang/invoke/VarHandle" ∧ (parseMethodDescriptor yX11_bears.desc).map (fun d => d.parameters.length) = some 0 := by decide +kernel
def wpX11_bears (K : Int32 → gY → gH → Prop) (Y : gY) (h : gH) (a0 : Nat) : Prop := K 999 Y h
theorem wkX11_bears (hC : cOK G) {K : Int32 → gY → gH → Prop} {Y : gY} {h : gH} {a0 : Nat} (hw : wpX11_bears K Y h a0) : gMet l yX11_bears (ws_ yX11_bears cX11_bears 1 (some .int)) rX11_bears G L o ad [.ref a0] (fun r => some (.int r)) K 0 0 Y h := by
  refine gMet.in (lv := [some (.ref a0)]) (by decide) rfl rfl (fun J S => ?_)
  have S : gSt l rX11_bears cX11_bears RX11 "bears" 1 (some .int) G L o ad (fun r => some (.int r)) K 0 0 J := S
  unfold wpX11_bears at hw
  refine j_sipush (pc := 0) (v := 999) S dX11_bears_0 rfl ?_
  exact j_iret (pc := 3) S (Nat.le_refl _) (Nat.le_refl _) dX11_bears_3 hw
/-! LeaningStreet$FloatingHouse.worth()I -/
abbrev rX11_worth : Room := { frames := 0, cells := 0, slots := 0, locals := 0 }
theorem ydX11_worth : yX11_worth.cls = RX11 ∧ yX11_worth.cls ≠ "java/lang/invoke/MethodHandle" ∧ yX11_worth.cls ≠ "java/lang/invoke/VarHandle" ∧ (parseMethodDescriptor yX11_worth.desc).map (fun d => d.parameters.length) = some 0 := by decide +kernel
def wpX11_worth (K : Int32 → gY → gH → Prop) (Y : gY) (h : gH) (a0 : Nat) : Prop := K 6 Y h
theorem wkX11_worth (hC : cOK G) {K : Int32 → gY → gH → Prop} {Y : gY} {h : gH} {a0 : Nat} (hw : wpX11_worth K Y h a0) : gMet l yX11_worth (ws_ yX11_worth cX11_worth 1 (some .int)) rX11_worth G L o ad [.ref a0] (fun r => some (.int r)) K 0 0 Y h := by
  refine gMet.in (lv := [some (.ref a0)]) (by decide) rfl rfl (fun J S => ?_)
  have S : gSt l rX11_worth cX11_worth RX11 "worth" 1 (some .int) G L o ad (fun r => some (.int r)) K 0 0 J := S
  unfold wpX11_worth at hw
  refine j_bipush (pc := 0) (v := 6) S dX11_worth_0 rfl ?_
  exact j_iret (pc := 2) S (Nat.le_refl _) (Nat.le_refl _) dX11_worth_2 hw
/-! LeaningStreet$Words.<init>()V -/
abbrev rX12_init (mc ms : Nat) : Room := { frames := 1, cells := mc, slots := ms, locals := 20 }
theorem ydX12_init : yX12_init.cls ≠ "java/lang/invoke/MethodHandle" ∧ yX12_init.cls ≠ "java/lang/invoke/VarHandle" ∧ (parseMethodDescriptor yX12_init.desc).map (fun d => d.parameters.length) = some 0 := by decide +kernel
def wpX12_init (K : gY → gH → Prop) (mc ms : Nat) (Y : gY) (h : gH) (a0 : Nat) : Prop := 0 + 1 ≤ mc ∧ 0 + 96 ≤ ms ∧ ∀ (q_3 : Nat) (h_4 : gH), h q_3 = none → h_4 = hup h q_3 (.inl (0, 96, .inl (fun _ => 0))) → (∃ fs_7 : List Value, h_4 a0 = some (.inr (7, fs_7)) ∧ 0 < fs_7.length ∧ ∀ h_8 : gH, h_8 = hup h_4 a0 (.inr (7, fs_7.set 0 (.ref q_3))) → ((0 + 1) + 1 ≤ mc ∧ (0 + 96) + 96 ≤ ms ∧ ∀ (q_12 : Nat) (h_13 : gH), h_8 q_12 = none → h_13 = hup h_8 q_12 (.inl (0, 96, .inl (fun _ => 0))) → (∃ fs_16 : List Value, h_13 a0 = some (.inr (7, fs_16)) ∧ 1 < fs_16.length ∧ ∀ h_17 : gH, h_17 = hup h_13 a0 (.inr (7, fs_16.set 1 (.ref q_12))) → (K Y h_17))))
theorem wkX12_init (hC : cOK G) {K : gY → gH → Prop} {mc ms : Nat} {Y : gY} {h : gH} {a0 : Nat} (hw : wpX12_init K mc ms Y h a0) : gMet l yX12_init (ws_ yX12_init cX12_init 1 none) (rX12_init mc ms) G L o ad [.ref a0] (fun _ => none) (fun (_ : Unit) Y h => K Y h) mc ms Y h := by
  refine gMet.in (lv := [some (.ref a0)]) (by decide) rfl rfl (fun J S => ?_)
  have S : gSt l (rX12_init mc ms) cX12_init RX12 "<init>" 1 none G L o ad (fun _ => none) (fun (_ : Unit) Y h => K Y h) mc ms J := S
  unfold wpX12_init at hw
  refine j_ald0 (pc := 0) S dX12_init_0 ?_
  refine j_objInit (pc := 1) S q434 q112 q113 dX12_init_1 rfl rfl ?_
  refine j_ald0 (pc := 4) S dX12_init_4 ?_
  refine j_bipush (pc := 5) (v := 96) S dX12_init_5 rfl ?_
  obtain ⟨hc_1, hs_2, hw⟩ := hw
  refine h_newa (pc := 7) (atype := .int) (ty := .int) (a0 := (96, .inl (fun _ => 0))) (N' := 96) S 0 q224 rfl (fun _ => rfl) (fun _ _ h => h) (fun _ => rfl) (by decide) rfl (by decide) hc_1 hs_2 dX12_init_7 (fun q_3 h_4 hq_5 e_6 => ?_)
  have hw := hw q_3 h_4 hq_5 e_6
  obtain ⟨fs_7, ha, hl, hw⟩ := hw
  refine h_putF (pc := 9) (C := RX12) (T := TX12) (N := 3) S ha 0 rfl in_X12 tyX12 tyX12_ok nmX12 rfl q435 rfl rfl rfl rfl hl dX12_init_9 (fun h_8 e_9 => ?_)
  have hw := hw h_8 e_9
  refine j_ald0 (pc := 12) S dX12_init_12 ?_
  refine j_bipush (pc := 13) (v := 96) S dX12_init_13 rfl ?_
  obtain ⟨hc_10, hs_11, hw⟩ := hw
  refine h_newa (pc := 15) (atype := .int) (ty := .int) (a0 := (96, .inl (fun _ => 0))) (N' := 96) S 0 q224 rfl (fun _ => rfl) (fun _ _ h => h) (fun _ => rfl) (by decide) rfl (by decide) hc_10 hs_11 dX12_init_15 (fun q_12 h_13 hq_14 e_15 => ?_)
  have hw := hw q_12 h_13 hq_14 e_15
  obtain ⟨fs_16, ha, hl, hw⟩ := hw
  refine h_putF (pc := 17) (C := RX12) (T := TX12) (N := 3) S ha 1 rfl in_X12 tyX12 tyX12_ok nmX12 rfl q437 rfl rfl rfl rfl hl dX12_init_17 (fun h_17 e_18 => ?_)
  have hw := hw h_17 e_18
  exact j_vret (pc := 20) S hc_10 hs_11 dX12_init_20 hw
/-! LeaningStreet$Words.add(II)V -/
abbrev rX12_add : Room := { frames := 0, cells := 0, slots := 0, locals := 0 }
theorem ydX12_add : yX12_add.cls = RX12 ∧ yX12_add.cls ≠ "java/lang/invoke/MethodHandle" ∧ yX12_add.cls ≠ "java/lang/invoke/VarHandle" ∧ (parseMethodDescriptor yX12_add.desc).map (fun d => d.parameters.length) = some 2 := by decide +kernel
def wpX12_add (K : gY → gH → Prop) (Y : gY) (h : gH) (a0 : Nat) (a1 : Int32) (a2 : Int32) : Prop := ∃ (fs_1 : List Value) (f_2 : Nat), h a0 = some (.inr (7, fs_1)) ∧ fs_1[0]? = some (.ref f_2) ∧ (∃ (fs_3 : List Value) (f_4 : Int32), h a0 = some (.inr (7, fs_3)) ∧ fs_3[2]? = some (.int f_4) ∧ (∃ (n_5 : Nat) (g_6 : Nat → Int32), h f_2 = some (.inl (0, n_5, .inl g_6)) ∧ vp_in f_4 n_5 ∧ ∀ h_7 : gH, h_7 = hup h f_2 (.inl (0, n_5, .inl (upd g_6 f_4.toNatClampNeg a1))) → (∃ (fs_9 : List Value) (f_10 : Nat), h_7 a0 = some (.inr (7, fs_9)) ∧ fs_9[1]? = some (.ref f_10) ∧ (∃ (fs_11 : List Value) (f_12 : Int32), h_7 a0 = some (.inr (7, fs_11)) ∧ fs_11[2]? = some (.int f_12) ∧ (∃ (n_13 : Nat) (g_14 : Nat → Int32), h_7 f_10 = some (.inl (0, n_13, .inl g_14)) ∧ vp_in f_12 n_13 ∧ ∀ h_15 : gH, h_15 = hup h_7 f_10 (.inl (0, n_13, .inl (upd g_14 f_12.toNatClampNeg a2))) → (∃ (fs_17 : List Value) (f_18 : Int32), h_15 a0 = some (.inr (7, fs_17)) ∧ fs_17[2]? = some (.int f_18) ∧ (∃ fs_19 : List Value, h_15 a0 = some (.inr (7, fs_19)) ∧ 2 < fs_19.length ∧ ∀ h_20 : gH, h_20 = hup h_15 a0 (.inr (7, fs_19.set 2 (.int (f_18 + 1)))) → (K Y h_20))))))))
theorem wkX12_add (hC : cOK G) {K : gY → gH → Prop} {Y : gY} {h : gH} {a0 : Nat} {a1 : Int32} {a2 : Int32} (hw : wpX12_add K Y h a0 a1 a2) : gMet l yX12_add (ws_ yX12_add cX12_add 3 none) rX12_add G L o ad [.ref a0, .int a1, .int a2] (fun _ => none) (fun (_ : Unit) Y h => K Y h) 0 0 Y h := by
  refine gMet.in (lv := [some (.ref a0), some (.int a1), some (.int a2)]) (by decide) rfl rfl (fun J S => ?_)
  have S : gSt l rX12_add cX12_add RX12 "add" 3 none G L o ad (fun _ => none) (fun (_ : Unit) Y h => K Y h) 0 0 J := S
  unfold wpX12_add at hw
  refine j_ald0 (pc := 0) S dX12_add_0 ?_
  obtain ⟨fs_1, f_2, ha, hv, hw⟩ := hw
  refine h_get (pc := 1) (C := RX12) (T := TX12) (N := 3) S ha 0 rfl in_X12 rfl q435 hv dX12_add_1 ?_
  refine j_ald0 (pc := 4) S dX12_add_4 ?_
  obtain ⟨fs_3, f_4, ha, hv, hw⟩ := hw
  refine h_get (pc := 5) (C := RX12) (T := TX12) (N := 3) S ha 2 rfl in_X12 rfl q439 hv dX12_add_5 ?_
  refine j_ild1 (pc := 8) S dX12_add_8 ?_
  obtain ⟨n_5, g_6, ha, hi, hw⟩ := hw
  refine h_iast (pc := 9) S ha hi dX12_add_9 (fun h_7 e_8 => ?_)
  have hw := hw h_7 e_8
  refine j_ald0 (pc := 10) S dX12_add_10 ?_
  obtain ⟨fs_9, f_10, ha, hv, hw⟩ := hw
  refine h_get (pc := 11) (C := RX12) (T := TX12) (N := 3) S ha 1 rfl in_X12 rfl q437 hv dX12_add_11 ?_
  refine j_ald0 (pc := 14) S dX12_add_14 ?_
  obtain ⟨fs_11, f_12, ha, hv, hw⟩ := hw
  refine h_get (pc := 15) (C := RX12) (T := TX12) (N := 3) S ha 2 rfl in_X12 rfl q439 hv dX12_add_15 ?_
  refine j_ild2 (pc := 18) S dX12_add_18 ?_
  obtain ⟨n_13, g_14, ha, hi, hw⟩ := hw
  refine h_iast (pc := 19) S ha hi dX12_add_19 (fun h_15 e_16 => ?_)
  have hw := hw h_15 e_16
  refine j_ald0 (pc := 20) S dX12_add_20 ?_
  refine j_dup (pc := 21) S dX12_add_21 rfl ?_
  obtain ⟨fs_17, f_18, ha, hv, hw⟩ := hw
  refine h_get (pc := 22) (C := RX12) (T := TX12) (N := 3) S ha 2 rfl in_X12 rfl q439 hv dX12_add_22 ?_
  refine j_iconst (pc := 25) (v := 1) S dX12_add_25 rfl ?_
  refine j_iadd (pc := 26) S dX12_add_26 ?_
  obtain ⟨fs_19, ha, hl, hw⟩ := hw
  refine h_put (pc := 27) (C := RX12) (T := TX12) (N := 3) S ha 2 rfl in_X12 tyX12 tyX12_ok nmX12 rfl q439 rfl rfl rfl hl dX12_add_27 (fun h_20 e_21 => ?_)
  have hw := hw h_20 e_21
  exact j_vret (pc := 30) S (Nat.le_refl _) (Nat.le_refl _) dX12_add_30 hw
/-! LeaningStreet$Text.<init>(ILLeaningStreet$Words;I)V -/
abbrev rX13_init : Room := { frames := 1, cells := 0, slots := 0, locals := 20 }
theorem ydX13_init : yX13_init.cls ≠ "java/lang/invoke/MethodHandle" ∧ yX13_init.cls ≠ "java/lang/invoke/VarHandle" ∧ (parseMethodDescriptor yX13_init.desc).map (fun d => d.parameters.length) = some 3 := by decide +kernel
def wpX13_init (K : gY → gH → Prop) (Y : gY) (h : gH) (a0 : Nat) (a1 : Int32) (a2 : Nat) (a3 : Int32) : Prop := ∃ fs_1 : List Value, h a0 = some (.inr (8, fs_1)) ∧ 0 < fs_1.length ∧ ∀ h_2 : gH, h_2 = hup h a0 (.inr (8, fs_1.set 0 (.int a1))) → (∃ fs_4 : List Value, h_2 a0 = some (.inr (8, fs_4)) ∧ 1 < fs_4.length ∧ ∀ h_5 : gH, h_5 = hup h_2 a0 (.inr (8, fs_4.set 1 (.ref a2))) → (∃ fs_7 : List Value, h_5 a0 = some (.inr (8, fs_7)) ∧ 2 < fs_7.length ∧ ∀ h_8 : gH, h_8 = hup h_5 a0 (.inr (8, fs_7.set 2 (.int a3))) → (K Y h_8)))
theorem wkX13_init (hC : cOK G) {K : gY → gH → Prop} {Y : gY} {h : gH} {a0 : Nat} {a1 : Int32} {a2 : Nat} {a3 : Int32} (hw : wpX13_init K Y h a0 a1 a2 a3) : gMet l yX13_init (ws_ yX13_init cX13_init 4 none) rX13_init G L o ad [.ref a0, .int a1, .ref a2, .int a3] (fun _ => none) (fun (_ : Unit) Y h => K Y h) 0 0 Y h := by
  refine gMet.in (lv := [some (.ref a0), some (.int a1), some (.ref a2), some (.int a3)]) (by decide) rfl rfl (fun J S => ?_)
  have S : gSt l rX13_init cX13_init RX13 "<init>" 4 none G L o ad (fun _ => none) (fun (_ : Unit) Y h => K Y h) 0 0 J := S
  unfold wpX13_init at hw
  refine j_ald0 (pc := 0) S dX13_init_0 ?_
  refine j_objInit (pc := 1) S q493 q112 q113 dX13_init_1 rfl rfl ?_
  refine j_ald0 (pc := 4) S dX13_init_4 ?_
  refine j_ild1 (pc := 5) S dX13_init_5 ?_
  obtain ⟨fs_1, ha, hl, hw⟩ := hw
  refine h_putF (pc := 6) (C := RX13) (T := TX13) (N := 3) S ha 0 rfl in_X13 tyX13 tyX13_ok nmX13 rfl q494 rfl rfl rfl rfl hl dX13_init_6 (fun h_2 e_3 => ?_)
  have hw := hw h_2 e_3
  refine j_ald0 (pc := 9) S dX13_init_9 ?_
  refine j_ald2 (pc := 10) S dX13_init_10 ?_
  obtain ⟨fs_4, ha, hl, hw⟩ := hw
  refine h_putF (pc := 11) (C := RX13) (T := TX13) (N := 3) S ha 1 rfl in_X13 tyX13 tyX13_ok nmX13 rfl q496 rfl rfl rfl rfl hl dX13_init_11 (fun h_5 e_6 => ?_)
  have hw := hw h_5 e_6
  refine j_ald0 (pc := 14) S dX13_init_14 ?_
  refine j_ild3 (pc := 15) S dX13_init_15 ?_
  obtain ⟨fs_7, ha, hl, hw⟩ := hw
  refine h_putF (pc := 16) (C := RX13) (T := TX13) (N := 3) S ha 2 rfl in_X13 tyX13 tyX13_ok nmX13 rfl q498 rfl rfl rfl rfl hl dX13_init_16 (fun h_8 e_9 => ?_)
  have hw := hw h_8 e_9
  exact j_vret (pc := 19) S (Nat.le_refl _) (Nat.le_refl _) dX13_init_19 hw
/-! LeaningStreet$Figure.<init>(I)V -/
abbrev rX14_init : Room := { frames := 1, cells := 0, slots := 0, locals := 20 }
theorem ydX14_init : yX14_init.cls ≠ "java/lang/invoke/MethodHandle" ∧ yX14_init.cls ≠ "java/lang/invoke/VarHandle" ∧ (parseMethodDescriptor yX14_init.desc).map (fun d => d.parameters.length) = some 1 := by decide +kernel
def wpX14_init (K : gY → gH → Prop) (Y : gY) (h : gH) (a0 : Nat) (a1 : Int32) : Prop := ∃ fs_1 : List Value, h a0 = some (.inr (11, fs_1)) ∧ 0 < fs_1.length ∧ ∀ h_2 : gH, h_2 = hup h a0 (.inr (11, fs_1.set 0 (.int a1))) → (K Y h_2)
theorem wkX14_init (hC : cOK G) {K : gY → gH → Prop} {Y : gY} {h : gH} {a0 : Nat} {a1 : Int32} (hw : wpX14_init K Y h a0 a1) : gMet l yX14_init (ws_ yX14_init cX14_init 2 none) rX14_init G L o ad [.ref a0, .int a1] (fun _ => none) (fun (_ : Unit) Y h => K Y h) 0 0 Y h := by
  refine gMet.in (lv := [some (.ref a0), some (.int a1)]) (by decide) rfl rfl (fun J S => ?_)
  have S : gSt l rX14_init cX14_init RX14 "<init>" 2 none G L o ad (fun _ => none) (fun (_ : Unit) Y h => K Y h) 0 0 J := S
  unfold wpX14_init at hw
  refine j_ald0 (pc := 0) S dX14_init_0 ?_
  refine j_objInit (pc := 1) S q1118 q112 q113 dX14_init_1 rfl rfl ?_
  refine j_ald0 (pc := 4) S dX14_init_4 ?_
  refine j_ild1 (pc := 5) S dX14_init_5 ?_
  obtain ⟨fs_1, ha, hl, hw⟩ := hw
  refine h_putF (pc := 6) (C := RX14) (T := TX14) (N := 1) S ha 0 rfl in_X14 tyX14 tyX14_ok nmX14 rfl q1119 rfl rfl rfl rfl hl dX14_init_6 (fun h_2 e_3 => ?_)
  have hw := hw h_2 e_3
  exact j_vret (pc := 9) S (Nat.le_refl _) (Nat.le_refl _) dX14_init_9 hw
/-! java/lang/Integer.bitCount(I)I -/
abbrev rJ6_bitCount : Room := { frames := 0, cells := 0, slots := 0, locals := 0 }
theorem ydJ6_bitCount : yJ6_bitCount.cls ≠ "java/lang/invoke/MethodHandle" ∧ yJ6_bitCount.cls ≠ "java/lang/invoke/VarHandle" ∧ (parseMethodDescriptor yJ6_bitCount.desc).map (fun d => d.parameters.length) = some 1 := by decide +kernel
def wpJ6_bitCount (K : Int32 → gY → gH → Prop) (Y : gY) (h : gH) (a1 : Int32) : Prop := ∀ x0_1 : Int32, x0_1 = (a1 - (((a1.toUInt32 >>> ((1 : Int32).toUInt32 &&& Int32.toUInt32 31)).toInt32) &&& 1431655765)) → (∀ x0_3 : Int32, x0_3 = ((x0_1 &&& 858993459) + (((x0_1.toUInt32 >>> ((2 : Int32).toUInt32 &&& Int32.toUInt32 31)).toInt32) &&& 858993459)) → (∀ x0_5 : Int32, x0_5 = ((x0_3 + ((x0_3.toUInt32 >>> ((4 : Int32).toUInt32 &&& Int32.toUInt32 31)).toInt32)) &&& 252645135) → (∀ x0_7 : Int32, x0_7 = (x0_5 + ((x0_5.toUInt32 >>> ((8 : Int32).toUInt32 &&& Int32.toUInt32 31)).toInt32)) → (∀ x0_9 : Int32, x0_9 = (x0_7 + ((x0_7.toUInt32 >>> ((16 : Int32).toUInt32 &&& Int32.toUInt32 31)).toInt32)) → (K (x0_9 &&& 63) Y h)))))
theorem wkJ6_bitCount (hC : cOK G) {K : Int32 → gY → gH → Prop} {Y : gY} {h : gH} {a1 : Int32} (hw : wpJ6_bitCount K Y h a1) : gMet l yJ6_bitCount (ws_ yJ6_bitCount cJ6_bitCount 1 (some .int)) rJ6_bitCount G L o ad [.int a1] (fun r => some (.int r)) K 0 0 Y h := by
  refine gMet.in (lv := [some (.int a1)]) (by decide) rfl rfl (fun J S => ?_)
  have S : gSt l rJ6_bitCount cJ6_bitCount RJ6 "bitCount" 1 (some .int) G L o ad (fun r => some (.int r)) K 0 0 J := S
  unfold wpJ6_bitCount at hw
  refine j_ild0 (pc := 0) S dJ6_bitCount_0 ?_
  refine j_ild0 (pc := 1) S dJ6_bitCount_1 ?_
  refine j_iconst (pc := 2) (v := 1) S dJ6_bitCount_2 rfl ?_
  refine j_iushr (pc := 3) S dJ6_bitCount_3 ?_
  refine j_ldcw (pc := 4) S q840 dJ6_bitCount_4 ?_
  refine j_iand (pc := 7) S dJ6_bitCount_7 ?_
  refine j_isub (pc := 8) S dJ6_bitCount_8 ?_
  refine j_topi (fun x0_1 e_2 => ?_)
  have hw := hw x0_1 e_2
  refine j_ist0 (pc := 9) S dJ6_bitCount_9 rfl rfl ?_
  refine j_ild0 (pc := 10) S dJ6_bitCount_10 ?_
  refine j_ldcw (pc := 11) S q841 dJ6_bitCount_11 ?_
  refine j_iand (pc := 14) S dJ6_bitCount_14 ?_
  refine j_ild0 (pc := 15) S dJ6_bitCount_15 ?_
  refine j_iconst (pc := 16) (v := 2) S dJ6_bitCount_16 rfl ?_
  refine j_iushr (pc := 17) S dJ6_bitCount_17 ?_
  refine j_ldcw (pc := 18) S q841 dJ6_bitCount_18 ?_
  refine j_iand (pc := 21) S dJ6_bitCount_21 ?_
  refine j_iadd (pc := 22) S dJ6_bitCount_22 ?_
  refine j_topi (fun x0_3 e_4 => ?_)
  have hw := hw x0_3 e_4
  refine j_ist0 (pc := 23) S dJ6_bitCount_23 rfl rfl ?_
  refine j_ild0 (pc := 24) S dJ6_bitCount_24 ?_
  refine j_ild0 (pc := 25) S dJ6_bitCount_25 ?_
  refine j_iconst (pc := 26) (v := 4) S dJ6_bitCount_26 rfl ?_
  refine j_iushr (pc := 27) S dJ6_bitCount_27 ?_
  refine j_iadd (pc := 28) S dJ6_bitCount_28 ?_
  refine j_ldcw (pc := 29) S q842 dJ6_bitCount_29 ?_
  refine j_iand (pc := 32) S dJ6_bitCount_32 ?_
  refine j_topi (fun x0_5 e_6 => ?_)
  have hw := hw x0_5 e_6
  refine j_ist0 (pc := 33) S dJ6_bitCount_33 rfl rfl ?_
  refine j_ild0 (pc := 34) S dJ6_bitCount_34 ?_
  refine j_ild0 (pc := 35) S dJ6_bitCount_35 ?_
  refine j_bipush (pc := 36) (v := 8) S dJ6_bitCount_36 rfl ?_
  refine j_iushr (pc := 38) S dJ6_bitCount_38 ?_
  refine j_iadd (pc := 39) S dJ6_bitCount_39 ?_
  refine j_topi (fun x0_7 e_8 => ?_)
  have hw := hw x0_7 e_8
  refine j_ist0 (pc := 40) S dJ6_bitCount_40 rfl rfl ?_
  refine j_ild0 (pc := 41) S dJ6_bitCount_41 ?_
  refine j_ild0 (pc := 42) S dJ6_bitCount_42 ?_
  refine j_bipush (pc := 43) (v := 16) S dJ6_bitCount_43 rfl ?_
  refine j_iushr (pc := 45) S dJ6_bitCount_45 ?_
  refine j_iadd (pc := 46) S dJ6_bitCount_46 ?_
  refine j_topi (fun x0_9 e_10 => ?_)
  have hw := hw x0_9 e_10
  refine j_ist0 (pc := 47) S dJ6_bitCount_47 rfl rfl ?_
  refine j_ild0 (pc := 48) S dJ6_bitCount_48 ?_
  refine j_bipush (pc := 49) (v := 63) S dJ6_bitCount_49 rfl ?_
  refine j_iand (pc := 51) S dJ6_bitCount_51 ?_
  exact j_iret (pc := 52) S (Nat.le_refl _) (Nat.le_refl _) dJ6_bitCount_52 hw

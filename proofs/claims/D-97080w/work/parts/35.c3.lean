set_option maxRecDepth 100000
variable {l : Launch} {G : gG} {L : gL} {o : Nat} {ad : Nat → Nat} {J : gJt} {kS vS : Nat → Nat} {fZ : Nat}
/-! LeaningStreet.wrong()V -/
abbrev rX0_wrong : Room := { frames := 0, cells := 0, slots := 0, locals := 0 }
theorem ydX0_wrong : yX0_wrong.cls = RX0 ∧ yX0_wrong.cls ≠ "java/lang/invoke/MethodHandle" ∧ yX0_wrong.cls ≠ "java/lang/invoke/VarHandle" ∧ (parseMethodDescriptor yX0_wrong.desc).map (fun d => d.parameters.length) = some 0 := by decide +kernel
def wpX0_wrong (ad : Nat → Nat) (K : gY → gH → Prop) (E : Nat → gY → gH → Prop) (Y : gY) (h : gH) : Prop := ∃ fs_1 : List Value, h (ad 8) = some (.inr (12, fs_1)) ∧ 6 < fs_1.length ∧ ∀ h_2 : gH, h_2 = hup h (ad 8) (.inr (12, fs_1.set 6 (.int (Y 9 0)))) → (E (ad 8) Y h_2)
theorem wkX0_wrong (hC : cOK G) {K : gY → gH → Prop} {E : Nat → gY → gH → Prop} {Y : gY} {h : gH} (hw : wpX0_wrong ad K E Y h) : gMetX l yX0_wrong (ws_ yX0_wrong cX0_wrong 1 none) rX0_wrong G cL o ad [.ref o] (fun _ => none) (fun (_ : Unit) Y h => K Y h) E 0 0 Y h := by
  refine gMetX.in (lv := [some (.ref o)]) (by decide) rfl rfl (fun J SX => ?_)
  have SX : gStX l rX0_wrong cX0_wrong RX0 "wrong" 1 none G cL o ad (fun _ => none) (fun (_ : Unit) Y h => K Y h) E 0 0 J := SX
  have S := SX.st
  unfold wpX0_wrong at hw
  refine j_ald0 (pc := 0) S dX0_wrong_0 ?_
  refine c_getA (pc := 1) S 8 rfl rfl q258 dX0_wrong_1 ?_
  refine j_ald0 (pc := 4) S dX0_wrong_4 ?_
  refine c_getI (pc := 5) S 9 rfl rfl q259 dX0_wrong_5 ?_
  obtain ⟨fs_1, ha, hl, hw⟩ := hw
  refine h_putN (pc := 8) (C := RX2) (T := TX2) (N := 7) S ha 6 rfl in_X2 tyX2 tyX2_ok nmX2 rfl (cn hC 17 rfl) rfl rfl rfl hl dX0_wrong_8 (fun h_2 e_3 => ?_)
  have hw := hw h_2 e_3
  refine j_ald0 (pc := 11) S dX0_wrong_11 ?_
  refine c_getA (pc := 12) S 8 rfl rfl q258 dX0_wrong_12 ?_
  exact j_athrow (pc := 15) SX (Nat.le_refl _) (Nat.le_refl _) dX0_wrong_15 hw
/-! LeaningStreet.goes()V -/
abbrev rX0_goes : Room := { frames := 2, cells := 0, slots := 0, locals := 42 }
theorem ydX0_goes : yX0_goes.cls = RX0 ∧ yX0_goes.cls ≠ "java/lang/invoke/MethodHandle" ∧ yX0_goes.cls ≠ "java/lang/invoke/VarHandle" ∧ (parseMethodDescriptor yX0_goes.desc).map (fun d => d.parameters.length) = some 0 := by decide +kernel
def wX0_goes_290 (ad : Nat → Nat) (K : gY → gH → Prop) (E : Nat → gY → gH → Prop) (Y : gY) (h : gH) : Prop := wpX0_wrong ad (fun Y_2 h_3 => (K Y_2 h_3)) E Y h
def wX0_goes_275 (ad : Nat → Nat) (K : gY → gH → Prop) (E : Nat → gY → gH → Prop) (Y : gY) (h : gH) (x2 : Int32) (x3 : Int32) (s0 : Int32) : Prop := ((s0 = 0 → (K Y h)) ∧ (¬ s0 = 0 → (((¬ x2 = 0 → (wX0_goes_290 ad K E Y h)) ∧ (x2 = 0 → (((x3 = 0 → (K Y h)) ∧ (¬ x3 = 0 → (wX0_goes_290 ad K E Y h)))))))))
def wX0_goes_274 (ad : Nat → Nat) (K : gY → gH → Prop) (E : Nat → gY → gH → Prop) (Y : gY) (h : gH) (x2 : Int32) (x3 : Int32) : Prop := wX0_goes_275 ad K E Y h x2 x3 0
def wX0_goes_270 (ad : Nat → Nat) (K : gY → gH → Prop) (E : Nat → gY → gH → Prop) (Y : gY) (h : gH) (x2 : Int32) (x3 : Int32) : Prop := wX0_goes_275 ad K E Y h x2 x3 1
def wX0_goes_230 (ad : Nat → Nat) (K : gY → gH → Prop) (E : Nat → gY → gH → Prop) (Y : gY) (h : gH) (x1 : Int32) (x2 : Int32) (x3 : Int32) : Prop := ((¬ (Y 9 0) = x1 → (wX0_goes_274 ad K E Y h x2 x3)) ∧ ((Y 9 0) = x1 → (((x1 ≤ 0 → (wX0_goes_274 ad K E Y h x2 x3)) ∧ (¬ x1 ≤ 0 → (vp_in (x1 - 1) 96 ∧ (wpX0_isLetter ad (fun r_9 Y_10 h_11 => (((¬ r_9 = 0 → (wX0_goes_270 ad K E Y_10 h_11 x2 x3)) ∧ (r_9 = 0 → (vp_in (x1 - 1) 96 ∧ (wpX0_isDigit ad (fun r_13 Y_14 h_15 => (((r_13 = 0 → (wX0_goes_274 ad K E Y_14 h_15 x2 x3)) ∧ (¬ r_13 = 0 → (wX0_goes_270 ad K E Y_14 h_15 x2 x3))))) Y_10 h_11 (Y_10 6 (x1 - 1).toNatClampNeg))))))) Y h (Y 6 (x1 - 1).toNatClampNeg))))))))
def wX0_goes_170 (ad : Nat → Nat) (K : gY → gH → Prop) (E : Nat → gY → gH → Prop) : Nat → gY → gH → Int32 → Int32 → Int32 → Prop
  | 0 => fun _ _ _ _ _ => False
  | n + 1 => fun Y h x1 x2 x3 => (((Y 11 0) ≤ (Y 10 0) → (wX0_goes_230 ad K E Y h x1 x2 x3)) ∧ (¬ (Y 11 0) ≤ (Y 10 0) → (vp_in (Y 10 0) 96 ∧ (wpX0_isDigit ad (fun r_18 Y_19 h_20 => (((r_18 = 0 → (wX0_goes_230 ad K E Y_19 h_20 x1 x2 x3)) ∧ (¬ r_18 = 0 → (∀ Y_22 : gY, Y_22 = yset Y_19 10 ((Y_19 10 0) + 1) → ((wX0_goes_170 ad K E n) Y_22 h_20 x1 x2 x3)))))) Y h (Y 6 (Y 10 0).toNatClampNeg)))))
def wX0_goes_127 (ad : Nat → Nat) (K : gY → gH → Prop) (E : Nat → gY → gH → Prop) : Nat → gY → gH → Int32 → Int32 → Int32 → Prop
  | 0 => fun _ _ _ _ _ => False
  | n + 1 => fun Y h x1 x2 x3 => (((Y 11 0) ≤ (Y 10 0) → (wX0_goes_230 ad K E Y h x1 x2 x3)) ∧ (¬ (Y 11 0) ≤ (Y 10 0) → (vp_in (Y 10 0) 96 ∧ (wpX0_isLetter ad (fun r_25 Y_26 h_27 => (((r_25 = 0 → (wX0_goes_230 ad K E Y_26 h_27 x1 x2 x3)) ∧ (¬ r_25 = 0 → (∀ Y_29 : gY, Y_29 = yset Y_26 10 ((Y_26 10 0) + 1) → ((wX0_goes_127 ad K E n) Y_29 h_27 x1 x2 x3)))))) Y h (Y 6 (Y 10 0).toNatClampNeg)))))
def wX0_goes_122 (ad : Nat → Nat) (K : gY → gH → Prop) (E : Nat → gY → gH → Prop) (Y : gY) (h : gH) (x1 : Int32) (x2 : Int32) (s0 : Int32) : Prop := ((x2 = 0 → (((s0 = 0 → ((((Y 11 0) ≤ (Y 9 0) → (wX0_goes_230 ad K E Y h x1 x2 s0)) ∧ (¬ (Y 11 0) ≤ (Y 9 0) → (∀ Y_34 : gY, Y_34 = yset Y 10 ((Y 10 0) + 1) → (wX0_goes_230 ad K E Y_34 h x1 x2 s0)))))) ∧ (¬ s0 = 0 → (∃ fu_36 : Nat, wX0_goes_170 ad K E fu_36 Y h x1 x2 s0))))) ∧ (¬ x2 = 0 → (∃ fu_37 : Nat, wX0_goes_127 ad K E fu_37 Y h x1 x2 s0)))
def wX0_goes_121 (ad : Nat → Nat) (K : gY → gH → Prop) (E : Nat → gY → gH → Prop) (Y : gY) (h : gH) (x1 : Int32) (x2 : Int32) : Prop := wX0_goes_122 ad K E Y h x1 x2 0
def wX0_goes_90 (ad : Nat → Nat) (K : gY → gH → Prop) (E : Nat → gY → gH → Prop) (Y : gY) (h : gH) (x1 : Int32) (s0 : Int32) : Prop := (((Y 11 0) ≤ (Y 9 0) → (wX0_goes_121 ad K E Y h x1 s0)) ∧ (¬ (Y 11 0) ≤ (Y 9 0) → (vp_in (Y 9 0) 96 ∧ (wpX0_isDigit ad (fun r_39 Y_40 h_41 => (((r_39 = 0 → (wX0_goes_121 ad K E Y_40 h_41 x1 s0)) ∧ (¬ r_39 = 0 → (wX0_goes_122 ad K E Y_40 h_41 x1 s0 1))))) Y h (Y 6 (Y 9 0).toNatClampNeg)))))
def wX0_goes_89 (ad : Nat → Nat) (K : gY → gH → Prop) (E : Nat → gY → gH → Prop) (Y : gY) (h : gH) (x1 : Int32) : Prop := wX0_goes_90 ad K E Y h x1 0
def wX0_goes_51 (ad : Nat → Nat) (K : gY → gH → Prop) (E : Nat → gY → gH → Prop) (Y : gY) (h : gH) (x1 : Int32) : Prop := ∀ Y_43 : gY, Y_43 = yset Y 10 (Y 9 0) → ((((Y_43 11 0) ≤ (Y_43 9 0) → (wX0_goes_89 ad K E Y_43 h x1)) ∧ (¬ (Y_43 11 0) ≤ (Y_43 9 0) → (vp_in (Y_43 9 0) 96 ∧ (wpX0_isLetter ad (fun r_46 Y_47 h_48 => (((r_46 = 0 → (wX0_goes_89 ad K E Y_47 h_48 x1)) ∧ (¬ r_46 = 0 → (wX0_goes_90 ad K E Y_47 h_48 x1 1))))) Y_43 h (Y_43 6 (Y_43 9 0).toNatClampNeg))))))
def wX0_goes_13 (ad : Nat → Nat) (K : gY → gH → Prop) (E : Nat → gY → gH → Prop) : Nat → gY → gH → Int32 → Prop
  | 0 => fun _ _ _ => False
  | n + 1 => fun Y h x1 => (((Y 11 0) ≤ (Y 9 0) → (wX0_goes_51 ad K E Y h x1)) ∧ (¬ (Y 11 0) ≤ (Y 9 0) → (vp_in (Y 9 0) 96 ∧ (((¬ (Y 6 (Y 9 0).toNatClampNeg) = 32 → (wX0_goes_51 ad K E Y h x1)) ∧ ((Y 6 (Y 9 0).toNatClampNeg) = 32 → (∀ Y_52 : gY, Y_52 = yset Y 9 ((Y 9 0) + 1) → ((wX0_goes_13 ad K E n) Y_52 h x1))))))))
def wpX0_goes (ad : Nat → Nat) (K : gY → gH → Prop) (E : Nat → gY → gH → Prop) (Y : gY) (h : gH) : Prop := ∀ x1_54 : Int32, x1_54 = (Y 10 0) → (∀ Y_56 : gY, Y_56 = yset Y 9 (Y 10 0) → (∃ fu_58 : Nat, wX0_goes_13 ad K E fu_58 Y_56 h x1_54))
theorem kX0_goes_290 {K : gY → gH → Prop} {E : Nat → gY → gH → Prop} (SX : gStX l rX0_goes cX0_goes RX0 "goes" 5 none G cL o ad (fun _ => none) (fun (_ : Unit) Y h => K Y h) E 0 0 J) (hC : cOK G) {Y : gY} {h : gH} (hw : wX0_goes_290 ad K E Y h) : J Y h 0 0 290 [some (.ref o), none, none, none, none] [] := by
  have S := SX.st
  unfold wX0_goes_290 at hw
  refine j_ald0 (pc := 290) S dX0_goes_290 ?_
  refine x_callXVv (pc := 291) SX rfl rfl 0 (wkX0_wrong hC hw) (lw_V q362 q364 qs4 q79 q365) rfl rfl ydX0_wrong rfl rfl c_recv rfl rfl rfl dX0_goes_291 (Nat.le_refl _) (Nat.le_refl _) (fun Y_2 h_3 hw => ?_)
  exact j_vret (pc := 294) S (Nat.le_refl _) (Nat.le_refl _) dX0_goes_294 hw
theorem kX0_goes_275 {K : gY → gH → Prop} {E : Nat → gY → gH → Prop} (SX : gStX l rX0_goes cX0_goes RX0 "goes" 5 none G cL o ad (fun _ => none) (fun (_ : Unit) Y h => K Y h) E 0 0 J) (hC : cOK G) {Y : gY} {h : gH} {x2 : Int32} {x3 : Int32} {s0 : Int32} (hw : wX0_goes_275 ad K E Y h x2 x3 s0) : J Y h 0 0 275 [some (.ref o), none, some (.int x2), some (.int x3), none] [.int s0] := by
  have S := SX.st
  unfold wX0_goes_275 at hw
  refine j_ist4 (pc := 275) S dX0_goes_275 rfl rfl ?_
  refine j_ild4 (pc := 277) S dX0_goes_277 ?_
  refine j_if_eq (pc := 279) (tgt := 294) S dX0_goes_279 rfl (fun c_4 => ?_) (fun c_4 => ?_)
  · have hw := hw.1 c_4
    exact j_vret (pc := 294) S (Nat.le_refl _) (Nat.le_refl _) dX0_goes_294 hw
  · have hw := hw.2 c_4
    refine j_ild2 (pc := 282) S dX0_goes_282 ?_
    refine j_if_ne (pc := 283) (tgt := 290) S dX0_goes_283 rfl (fun c_5 => ?_) (fun c_5 => ?_)
    · have hw := hw.1 c_5
      exact j_sub S (kX0_goes_290 SX hC hw) (gle_s (gle_n (gle_n (gle_n (gle_n gle_0)))))
    · have hw := hw.2 c_5
      refine j_ild3 (pc := 286) S dX0_goes_286 ?_
      refine j_if_eq (pc := 287) (tgt := 294) S dX0_goes_287 rfl (fun c_6 => ?_) (fun c_6 => ?_)
      · have hw := hw.1 c_6
        exact j_vret (pc := 294) S (Nat.le_refl _) (Nat.le_refl _) dX0_goes_294 hw
      · have hw := hw.2 c_6
        exact j_sub S (kX0_goes_290 SX hC hw) (gle_s (gle_n (gle_n (gle_n (gle_n gle_0)))))
theorem kX0_goes_274 {K : gY → gH → Prop} {E : Nat → gY → gH → Prop} (SX : gStX l rX0_goes cX0_goes RX0 "goes" 5 none G cL o ad (fun _ => none) (fun (_ : Unit) Y h => K Y h) E 0 0 J) (hC : cOK G) {Y : gY} {h : gH} {x2 : Int32} {x3 : Int32} (hw : wX0_goes_274 ad K E Y h x2 x3) : J Y h 0 0 274 [some (.ref o), none, some (.int x2), some (.int x3), none] [] := by
  have S := SX.st
  unfold wX0_goes_274 at hw
  refine j_iconst (pc := 274) (v := 0) S dX0_goes_274 rfl ?_
  exact j_sub S (kX0_goes_275 SX hC hw) (gle_s (gle_n (gle_s (gle_s (gle_n gle_0)))))
theorem kX0_goes_270 {K : gY → gH → Prop} {E : Nat → gY → gH → Prop} (SX : gStX l rX0_goes cX0_goes RX0 "goes" 5 none G cL o ad (fun _ => none) (fun (_ : Unit) Y h => K Y h) E 0 0 J) (hC : cOK G) {Y : gY} {h : gH} {x2 : Int32} {x3 : Int32} (hw : wX0_goes_270 ad K E Y h x2 x3) : J Y h 0 0 270 [some (.ref o), none, some (.int x2), some (.int x3), none] [] := by
  have S := SX.st
  unfold wX0_goes_270 at hw
  refine j_iconst (pc := 270) (v := 1) S dX0_goes_270 rfl ?_
  refine j_goto (pc := 271) (tgt := 275) S dX0_goes_271 rfl ?_
  exact j_sub S (kX0_goes_275 SX hC hw) (gle_s (gle_n (gle_s (gle_s (gle_n gle_0)))))
theorem kX0_goes_230 {K : gY → gH → Prop} {E : Nat → gY → gH → Prop} (SX : gStX l rX0_goes cX0_goes RX0 "goes" 5 none G cL o ad (fun _ => none) (fun (_ : Unit) Y h => K Y h) E 0 0 J) (hC : cOK G) {Y : gY} {h : gH} {x1 : Int32} {x2 : Int32} {x3 : Int32} (hw : wX0_goes_230 ad K E Y h x1 x2 x3) : J Y h 0 0 230 [some (.ref o), some (.int x1), some (.int x2), some (.int x3), none] [] := by
  have S := SX.st
  unfold wX0_goes_230 at hw
  refine j_ald0 (pc := 230) S dX0_goes_230 ?_
  refine c_getI (pc := 231) S 9 rfl rfl q259 dX0_goes_231 ?_
  refine j_ild1 (pc := 234) S dX0_goes_234 ?_
  refine j_icmp_ne (pc := 235) (tgt := 274) S dX0_goes_235 rfl (fun c_7 => ?_) (fun c_7 => ?_)
  · have hw := hw.1 c_7
    exact j_sub S (kX0_goes_274 SX hC hw) (gle_s (gle_n (gle_s (gle_s (gle_n gle_0)))))
  · have hw := hw.2 c_7
    refine j_ild1 (pc := 238) S dX0_goes_238 ?_
    refine j_if_le (pc := 239) (tgt := 274) S dX0_goes_239 rfl (fun c_8 => ?_) (fun c_8 => ?_)
    · have hw := hw.1 c_8
      exact j_sub S (kX0_goes_274 SX hC hw) (gle_s (gle_n (gle_s (gle_s (gle_n gle_0)))))
    · have hw := hw.2 c_8
      refine j_ald0 (pc := 242) S dX0_goes_242 ?_
      refine c_getA (pc := 243) S 6 rfl rfl q256 dX0_goes_243 ?_
      refine j_ild1 (pc := 246) S dX0_goes_246 ?_
      refine j_iconst (pc := 247) (v := 1) S dX0_goes_247 rfl ?_
      refine j_isub (pc := 248) S dX0_goes_248 ?_
      obtain ⟨hi, hw⟩ := hw
      refine c_bald (pc := 249) S hi dX0_goes_249 ?_
      refine x_callSi (pc := 250) S 1 (wkX0_isLetter hC hw) (lw_S q356 q357 q79 q358) rfl rfl ydX0_isLetter rfl rfl rfl rfl rfl dX0_goes_250 (Nat.le_refl _) (Nat.le_refl _) (fun r_9 Y_10 h_11 hw => ?_)
      refine j_if_ne (pc := 253) (tgt := 270) S dX0_goes_253 rfl (fun c_12 => ?_) (fun c_12 => ?_)
      · have hw := hw.1 c_12
        exact j_sub S (kX0_goes_270 SX hC hw) (gle_s (gle_n (gle_s (gle_s (gle_n gle_0)))))
      · have hw := hw.2 c_12
        refine j_ald0 (pc := 256) S dX0_goes_256 ?_
        refine c_getA (pc := 257) S 6 rfl rfl q256 dX0_goes_257 ?_
        refine j_ild1 (pc := 260) S dX0_goes_260 ?_
        refine j_iconst (pc := 261) (v := 1) S dX0_goes_261 rfl ?_
        refine j_isub (pc := 262) S dX0_goes_262 ?_
        obtain ⟨hi, hw⟩ := hw
        refine c_bald (pc := 263) S hi dX0_goes_263 ?_
        refine x_callSi (pc := 264) S 1 (wkX0_isDigit hC hw) (lw_S q359 q360 q79 q361) rfl rfl ydX0_isDigit rfl rfl rfl rfl rfl dX0_goes_264 (Nat.le_refl _) (Nat.le_refl _) (fun r_13 Y_14 h_15 hw => ?_)
        refine j_if_eq (pc := 267) (tgt := 274) S dX0_goes_267 rfl (fun c_16 => ?_) (fun c_16 => ?_)
        · have hw := hw.1 c_16
          exact j_sub S (kX0_goes_274 SX hC hw) (gle_s (gle_n (gle_s (gle_s (gle_n gle_0)))))
        · have hw := hw.2 c_16
          exact j_sub S (kX0_goes_270 SX hC hw) (gle_s (gle_n (gle_s (gle_s (gle_n gle_0)))))
theorem kX0_goes_170 {K : gY → gH → Prop} {E : Nat → gY → gH → Prop} (SX : gStX l rX0_goes cX0_goes RX0 "goes" 5 none G cL o ad (fun _ => none) (fun (_ : Unit) Y h => K Y h) E 0 0 J) (hC : cOK G) : ∀ (n : Nat) (Y : gY) (h : gH) (x1 : Int32) (x2 : Int32) (x3 : Int32), wX0_goes_170 ad K E n Y h x1 x2 x3 → J Y h 0 0 170 [some (.ref o), some (.int x1), some (.int x2), some (.int x3), none] [] := by
  intro n
  induction n with
  | zero => intro Y h x1 x2 x3 hw; exact hw.elim
  | succ n ih =>
    intro Y h x1 x2 x3 hw
    have S := SX.st
    unfold wX0_goes_170 at hw
    refine j_ald0 (pc := 170) S dX0_goes_170 ?_
    refine c_getI (pc := 171) S 10 rfl rfl q260 dX0_goes_171 ?_
    refine j_ald0 (pc := 174) S dX0_goes_174 ?_
    refine c_getI (pc := 175) S 11 rfl rfl q261 dX0_goes_175 ?_
    refine j_icmp_ge (pc := 178) (tgt := 230) S dX0_goes_178 rfl (fun c_17 => ?_) (fun c_17 => ?_)
    · have hw := hw.1 c_17
      exact j_sub S (kX0_goes_230 SX hC hw) (gle_s (gle_s (gle_s (gle_s (gle_n gle_0)))))
    · have hw := hw.2 c_17
      refine j_ald0 (pc := 181) S dX0_goes_181 ?_
      refine c_getA (pc := 182) S 6 rfl rfl q256 dX0_goes_182 ?_
      refine j_ald0 (pc := 185) S dX0_goes_185 ?_
      refine c_getI (pc := 186) S 10 rfl rfl q260 dX0_goes_186 ?_
      obtain ⟨hi, hw⟩ := hw
      refine c_bald (pc := 189) S hi dX0_goes_189 ?_
      refine x_callSi (pc := 190) S 1 (wkX0_isDigit hC hw) (lw_S q359 q360 q79 q361) rfl rfl ydX0_isDigit rfl rfl rfl rfl rfl dX0_goes_190 (Nat.le_refl _) (Nat.le_refl _) (fun r_18 Y_19 h_20 hw => ?_)
      refine j_if_eq (pc := 193) (tgt := 230) S dX0_goes_193 rfl (fun c_21 => ?_) (fun c_21 => ?_)
      · have hw := hw.1 c_21
        exact j_sub S (kX0_goes_230 SX hC hw) (gle_s (gle_s (gle_s (gle_s (gle_n gle_0)))))
      · have hw := hw.2 c_21
        refine j_ald0 (pc := 196) S dX0_goes_196 ?_
        refine j_dup (pc := 197) S dX0_goes_197 rfl ?_
        refine c_getI (pc := 198) S 10 rfl rfl q260 dX0_goes_198 ?_
        refine j_iconst (pc := 201) (v := 1) S dX0_goes_201 rfl ?_
        refine j_iadd (pc := 202) S dX0_goes_202 ?_
        refine c_putI (pc := 203) S 10 rfl rfl rfl rfl rfl q260 dX0_goes_203 (fun Y_22 e_23 => ?_)
        have hw := hw Y_22 e_23
        refine j_goto (pc := 206) (tgt := 170) S dX0_goes_206 rfl ?_
        exact j_sub S (ih _ _ _ _ _ hw) (gle_s (gle_s (gle_s (gle_s (gle_n gle_0)))))
theorem kX0_goes_127 {K : gY → gH → Prop} {E : Nat → gY → gH → Prop} (SX : gStX l rX0_goes cX0_goes RX0 "goes" 5 none G cL o ad (fun _ => none) (fun (_ : Unit) Y h => K Y h) E 0 0 J) (hC : cOK G) : ∀ (n : Nat) (Y : gY) (h : gH) (x1 : Int32) (x2 : Int32) (x3 : Int32), wX0_goes_127 ad K E n Y h x1 x2 x3 → J Y h 0 0 127 [some (.ref o), some (.int x1), some (.int x2), some (.int x3), none] [] := by
  intro n
  induction n with
  | zero => intro Y h x1 x2 x3 hw; exact hw.elim
  | succ n ih =>
    intro Y h x1 x2 x3 hw
    have S := SX.st
    unfold wX0_goes_127 at hw
    refine j_ald0 (pc := 127) S dX0_goes_127 ?_
    refine c_getI (pc := 128) S 10 rfl rfl q260 dX0_goes_128 ?_
    refine j_ald0 (pc := 131) S dX0_goes_131 ?_
    refine c_getI (pc := 132) S 11 rfl rfl q261 dX0_goes_132 ?_
    refine j_icmp_ge (pc := 135) (tgt := 230) S dX0_goes_135 rfl (fun c_24 => ?_) (fun c_24 => ?_)
    · have hw := hw.1 c_24
      exact j_sub S (kX0_goes_230 SX hC hw) (gle_s (gle_s (gle_s (gle_s (gle_n gle_0)))))
    · have hw := hw.2 c_24
      refine j_ald0 (pc := 138) S dX0_goes_138 ?_
      refine c_getA (pc := 139) S 6 rfl rfl q256 dX0_goes_139 ?_
      refine j_ald0 (pc := 142) S dX0_goes_142 ?_
      refine c_getI (pc := 143) S 10 rfl rfl q260 dX0_goes_143 ?_
      obtain ⟨hi, hw⟩ := hw
      refine c_bald (pc := 146) S hi dX0_goes_146 ?_
      refine x_callSi (pc := 147) S 1 (wkX0_isLetter hC hw) (lw_S q356 q357 q79 q358) rfl rfl ydX0_isLetter rfl rfl rfl rfl rfl dX0_goes_147 (Nat.le_refl _) (Nat.le_refl _) (fun r_25 Y_26 h_27 hw => ?_)
      refine j_if_eq (pc := 150) (tgt := 230) S dX0_goes_150 rfl (fun c_28 => ?_) (fun c_28 => ?_)
      · have hw := hw.1 c_28
        exact j_sub S (kX0_goes_230 SX hC hw) (gle_s (gle_s (gle_s (gle_s (gle_n gle_0)))))
      · have hw := hw.2 c_28
        refine j_ald0 (pc := 153) S dX0_goes_153 ?_
        refine j_dup (pc := 154) S dX0_goes_154 rfl ?_
        refine c_getI (pc := 155) S 10 rfl rfl q260 dX0_goes_155 ?_
        refine j_iconst (pc := 158) (v := 1) S dX0_goes_158 rfl ?_
        refine j_iadd (pc := 159) S dX0_goes_159 ?_
        refine c_putI (pc := 160) S 10 rfl rfl rfl rfl rfl q260 dX0_goes_160 (fun Y_29 e_30 => ?_)
        have hw := hw Y_29 e_30
        refine j_goto (pc := 163) (tgt := 127) S dX0_goes_163 rfl ?_
        exact j_sub S (ih _ _ _ _ _ hw) (gle_s (gle_s (gle_s (gle_s (gle_n gle_0)))))
theorem kX0_goes_122 {K : gY → gH → Prop} {E : Nat → gY → gH → Prop} (SX : gStX l rX0_goes cX0_goes RX0 "goes" 5 none G cL o ad (fun _ => none) (fun (_ : Unit) Y h => K Y h) E 0 0 J) (hC : cOK G) {Y : gY} {h : gH} {x1 : Int32} {x2 : Int32} {s0 : Int32} (hw : wX0_goes_122 ad K E Y h x1 x2 s0) : J Y h 0 0 122 [some (.ref o), some (.int x1), some (.int x2), none, none] [.int s0] := by
  have S := SX.st
  unfold wX0_goes_122 at hw
  refine j_ist3 (pc := 122) S dX0_goes_122 rfl rfl ?_
  refine j_ild2 (pc := 123) S dX0_goes_123 ?_
  refine j_if_eq (pc := 124) (tgt := 166) S dX0_goes_124 rfl (fun c_31 => ?_) (fun c_31 => ?_)
  · have hw := hw.1 c_31
    refine j_ild3 (pc := 166) S dX0_goes_166 ?_
    refine j_if_eq (pc := 167) (tgt := 209) S dX0_goes_167 rfl (fun c_32 => ?_) (fun c_32 => ?_)
    · have hw := hw.1 c_32
      refine j_ald0 (pc := 209) S dX0_goes_209 ?_
      refine c_getI (pc := 210) S 9 rfl rfl q259 dX0_goes_210 ?_
      refine j_ald0 (pc := 213) S dX0_goes_213 ?_
      refine c_getI (pc := 214) S 11 rfl rfl q261 dX0_goes_214 ?_
      refine j_icmp_ge (pc := 217) (tgt := 230) S dX0_goes_217 rfl (fun c_33 => ?_) (fun c_33 => ?_)
      · have hw := hw.1 c_33
        exact j_sub S (kX0_goes_230 SX hC hw) (gle_s (gle_s (gle_s (gle_s (gle_n gle_0)))))
      · have hw := hw.2 c_33
        refine j_ald0 (pc := 220) S dX0_goes_220 ?_
        refine j_dup (pc := 221) S dX0_goes_221 rfl ?_
        refine c_getI (pc := 222) S 10 rfl rfl q260 dX0_goes_222 ?_
        refine j_iconst (pc := 225) (v := 1) S dX0_goes_225 rfl ?_
        refine j_iadd (pc := 226) S dX0_goes_226 ?_
        refine c_putI (pc := 227) S 10 rfl rfl rfl rfl rfl q260 dX0_goes_227 (fun Y_34 e_35 => ?_)
        have hw := hw Y_34 e_35
        exact j_sub S (kX0_goes_230 SX hC hw) (gle_s (gle_s (gle_s (gle_s (gle_n gle_0)))))
    · have hw := hw.2 c_32
      obtain ⟨fu_36, hw⟩ := hw
      exact j_sub S (kX0_goes_170 SX hC fu_36 _ _ _ _ _ hw) (gle_s (gle_s (gle_s (gle_s (gle_n gle_0)))))
  · have hw := hw.2 c_31
    obtain ⟨fu_37, hw⟩ := hw
    exact j_sub S (kX0_goes_127 SX hC fu_37 _ _ _ _ _ hw) (gle_s (gle_s (gle_s (gle_s (gle_n gle_0)))))
theorem kX0_goes_121 {K : gY → gH → Prop} {E : Nat → gY → gH → Prop} (SX : gStX l rX0_goes cX0_goes RX0 "goes" 5 none G cL o ad (fun _ => none) (fun (_ : Unit) Y h => K Y h) E 0 0 J) (hC : cOK G) {Y : gY} {h : gH} {x1 : Int32} {x2 : Int32} (hw : wX0_goes_121 ad K E Y h x1 x2) : J Y h 0 0 121 [some (.ref o), some (.int x1), some (.int x2), none, none] [] := by
  have S := SX.st
  unfold wX0_goes_121 at hw
  refine j_iconst (pc := 121) (v := 0) S dX0_goes_121 rfl ?_
  exact j_sub S (kX0_goes_122 SX hC hw) (gle_s (gle_s (gle_s (gle_n (gle_n gle_0)))))
theorem kX0_goes_90 {K : gY → gH → Prop} {E : Nat → gY → gH → Prop} (SX : gStX l rX0_goes cX0_goes RX0 "goes" 5 none G cL o ad (fun _ => none) (fun (_ : Unit) Y h => K Y h) E 0 0 J) (hC : cOK G) {Y : gY} {h : gH} {x1 : Int32} {s0 : Int32} (hw : wX0_goes_90 ad K E Y h x1 s0) : J Y h 0 0 90 [some (.ref o), some (.int x1), none, none, none] [.int s0] := by
  have S := SX.st
  unfold wX0_goes_90 at hw
  refine j_ist2 (pc := 90) S dX0_goes_90 rfl rfl ?_
  refine j_ald0 (pc := 91) S dX0_goes_91 ?_
  refine c_getI (pc := 92) S 9 rfl rfl q259 dX0_goes_92 ?_
  refine j_ald0 (pc := 95) S dX0_goes_95 ?_
  refine c_getI (pc := 96) S 11 rfl rfl q261 dX0_goes_96 ?_
  refine j_icmp_ge (pc := 99) (tgt := 121) S dX0_goes_99 rfl (fun c_38 => ?_) (fun c_38 => ?_)
  · have hw := hw.1 c_38
    exact j_sub S (kX0_goes_121 SX hC hw) (gle_s (gle_s (gle_s (gle_n (gle_n gle_0)))))
  · have hw := hw.2 c_38
    refine j_ald0 (pc := 102) S dX0_goes_102 ?_
    refine c_getA (pc := 103) S 6 rfl rfl q256 dX0_goes_103 ?_
    refine j_ald0 (pc := 106) S dX0_goes_106 ?_
    refine c_getI (pc := 107) S 9 rfl rfl q259 dX0_goes_107 ?_
    obtain ⟨hi, hw⟩ := hw
    refine c_bald (pc := 110) S hi dX0_goes_110 ?_
    refine x_callSi (pc := 111) S 1 (wkX0_isDigit hC hw) (lw_S q359 q360 q79 q361) rfl rfl ydX0_isDigit rfl rfl rfl rfl rfl dX0_goes_111 (Nat.le_refl _) (Nat.le_refl _) (fun r_39 Y_40 h_41 hw => ?_)
    refine j_if_eq (pc := 114) (tgt := 121) S dX0_goes_114 rfl (fun c_42 => ?_) (fun c_42 => ?_)
    · have hw := hw.1 c_42
      exact j_sub S (kX0_goes_121 SX hC hw) (gle_s (gle_s (gle_s (gle_n (gle_n gle_0)))))
    · have hw := hw.2 c_42
      refine j_iconst (pc := 117) (v := 1) S dX0_goes_117 rfl ?_
      refine j_goto (pc := 118) (tgt := 122) S dX0_goes_118 rfl ?_
      exact j_sub S (kX0_goes_122 SX hC hw) (gle_s (gle_s (gle_s (gle_n (gle_n gle_0)))))
theorem kX0_goes_89 {K : gY → gH → Prop} {E : Nat → gY → gH → Prop} (SX : gStX l rX0_goes cX0_goes RX0 "goes" 5 none G cL o ad (fun _ => none) (fun (_ : Unit) Y h => K Y h) E 0 0 J) (hC : cOK G) {Y : gY} {h : gH} {x1 : Int32} (hw : wX0_goes_89 ad K E Y h x1) : J Y h 0 0 89 [some (.ref o), some (.int x1), none, none, none] [] := by
  have S := SX.st
  unfold wX0_goes_89 at hw
  refine j_iconst (pc := 89) (v := 0) S dX0_goes_89 rfl ?_
  exact j_sub S (kX0_goes_90 SX hC hw) (gle_s (gle_s (gle_n (gle_n (gle_n gle_0)))))
theorem kX0_goes_51 {K : gY → gH → Prop} {E : Nat → gY → gH → Prop} (SX : gStX l rX0_goes cX0_goes RX0 "goes" 5 none G cL o ad (fun _ => none) (fun (_ : Unit) Y h => K Y h) E 0 0 J) (hC : cOK G) {Y : gY} {h : gH} {x1 : Int32} (hw : wX0_goes_51 ad K E Y h x1) : J Y h 0 0 51 [some (.ref o), some (.int x1), none, none, none] [] := by
  have S := SX.st
  unfold wX0_goes_51 at hw
  refine j_ald0 (pc := 51) S dX0_goes_51 ?_
  refine j_ald0 (pc := 52) S dX0_goes_52 ?_
  refine c_getI (pc := 53) S 9 rfl rfl q259 dX0_goes_53 ?_
  refine c_putI (pc := 56) S 10 rfl rfl rfl rfl rfl q260 dX0_goes_56 (fun Y_43 e_44 => ?_)
  have hw := hw Y_43 e_44
  refine j_ald0 (pc := 59) S dX0_goes_59 ?_
  refine c_getI (pc := 60) S 9 rfl rfl q259 dX0_goes_60 ?_
  refine j_ald0 (pc := 63) S dX0_goes_63 ?_
  refine c_getI (pc := 64) S 11 rfl rfl q261 dX0_goes_64 ?_
  refine j_icmp_ge (pc := 67) (tgt := 89) S dX0_goes_67 rfl (fun c_45 => ?_) (fun c_45 => ?_)
  · have hw := hw.1 c_45
    exact j_sub S (kX0_goes_89 SX hC hw) (gle_s (gle_s (gle_n (gle_n (gle_n gle_0)))))
  · have hw := hw.2 c_45
    refine j_ald0 (pc := 70) S dX0_goes_70 ?_
    refine c_getA (pc := 71) S 6 rfl rfl q256 dX0_goes_71 ?_
    refine j_ald0 (pc := 74) S dX0_goes_74 ?_
    refine c_getI (pc := 75) S 9 rfl rfl q259 dX0_goes_75 ?_
    obtain ⟨hi, hw⟩ := hw
    refine c_bald (pc := 78) S hi dX0_goes_78 ?_
    refine x_callSi (pc := 79) S 1 (wkX0_isLetter hC hw) (lw_S q356 q357 q79 q358) rfl rfl ydX0_isLetter rfl rfl rfl rfl rfl dX0_goes_79 (Nat.le_refl _) (Nat.le_refl _) (fun r_46 Y_47 h_48 hw => ?_)
    refine j_if_eq (pc := 82) (tgt := 89) S dX0_goes_82 rfl (fun c_49 => ?_) (fun c_49 => ?_)
    · have hw := hw.1 c_49
      exact j_sub S (kX0_goes_89 SX hC hw) (gle_s (gle_s (gle_n (gle_n (gle_n gle_0)))))
    · have hw := hw.2 c_49
      refine j_iconst (pc := 85) (v := 1) S dX0_goes_85 rfl ?_
      refine j_goto (pc := 86) (tgt := 90) S dX0_goes_86 rfl ?_
      exact j_sub S (kX0_goes_90 SX hC hw) (gle_s (gle_s (gle_n (gle_n (gle_n gle_0)))))
theorem kX0_goes_13 {K : gY → gH → Prop} {E : Nat → gY → gH → Prop} (SX : gStX l rX0_goes cX0_goes RX0 "goes" 5 none G cL o ad (fun _ => none) (fun (_ : Unit) Y h => K Y h) E 0 0 J) (hC : cOK G) : ∀ (n : Nat) (Y : gY) (h : gH) (x1 : Int32), wX0_goes_13 ad K E n Y h x1 → J Y h 0 0 13 [some (.ref o), some (.int x1), none, none, none] [] := by
  intro n
  induction n with
  | zero => intro Y h x1 hw; exact hw.elim
  | succ n ih =>
    intro Y h x1 hw
    have S := SX.st
    unfold wX0_goes_13 at hw
    refine j_ald0 (pc := 13) S dX0_goes_13 ?_
    refine c_getI (pc := 14) S 9 rfl rfl q259 dX0_goes_14 ?_
    refine j_ald0 (pc := 17) S dX0_goes_17 ?_
    refine c_getI (pc := 18) S 11 rfl rfl q261 dX0_goes_18 ?_
    refine j_icmp_ge (pc := 21) (tgt := 51) S dX0_goes_21 rfl (fun c_50 => ?_) (fun c_50 => ?_)
    · have hw := hw.1 c_50
      exact j_sub S (kX0_goes_51 SX hC hw) (gle_s (gle_s (gle_n (gle_n (gle_n gle_0)))))
    · have hw := hw.2 c_50
      refine j_ald0 (pc := 24) S dX0_goes_24 ?_
      refine c_getA (pc := 25) S 6 rfl rfl q256 dX0_goes_25 ?_
      refine j_ald0 (pc := 28) S dX0_goes_28 ?_
      refine c_getI (pc := 29) S 9 rfl rfl q259 dX0_goes_29 ?_
      obtain ⟨hi, hw⟩ := hw
      refine c_bald (pc := 32) S hi dX0_goes_32 ?_
      refine j_bipush (pc := 33) (v := 32) S dX0_goes_33 rfl ?_
      refine j_icmp_ne (pc := 35) (tgt := 51) S dX0_goes_35 rfl (fun c_51 => ?_) (fun c_51 => ?_)
      · have hw := hw.1 c_51
        exact j_sub S (kX0_goes_51 SX hC hw) (gle_s (gle_s (gle_n (gle_n (gle_n gle_0)))))
      · have hw := hw.2 c_51
        refine j_ald0 (pc := 38) S dX0_goes_38 ?_
        refine j_dup (pc := 39) S dX0_goes_39 rfl ?_
        refine c_getI (pc := 40) S 9 rfl rfl q259 dX0_goes_40 ?_
        refine j_iconst (pc := 43) (v := 1) S dX0_goes_43 rfl ?_
        refine j_iadd (pc := 44) S dX0_goes_44 ?_
        refine c_putI (pc := 45) S 9 rfl rfl rfl rfl rfl q259 dX0_goes_45 (fun Y_52 e_53 => ?_)
        have hw := hw Y_52 e_53
        refine j_goto (pc := 48) (tgt := 13) S dX0_goes_48 rfl ?_
        exact j_sub S (ih _ _ _ hw) (gle_s (gle_s (gle_n (gle_n (gle_n gle_0)))))
theorem wkX0_goes (hC : cOK G) {K : gY → gH → Prop} {E : Nat → gY → gH → Prop} {Y : gY} {h : gH} (hw : wpX0_goes ad K E Y h) : gMetX l yX0_goes (ws_ yX0_goes cX0_goes 5 none) rX0_goes G cL o ad [.ref o] (fun _ => none) (fun (_ : Unit) Y h => K Y h) E 0 0 Y h := by
  refine gMetX.in (lv := [some (.ref o), none, none, none, none]) (by decide) rfl rfl (fun J SX => ?_)
  have SX : gStX l rX0_goes cX0_goes RX0 "goes" 5 none G cL o ad (fun _ => none) (fun (_ : Unit) Y h => K Y h) E 0 0 J := SX
  have S := SX.st
  unfold wpX0_goes at hw
  refine j_ald0 (pc := 0) S dX0_goes_0 ?_
  refine c_getI (pc := 1) S 10 rfl rfl q260 dX0_goes_1 ?_
  refine j_topi (fun x1_54 e_55 => ?_)
  have hw := hw x1_54 e_55
  refine j_ist1 (pc := 4) S dX0_goes_4 rfl rfl ?_
  refine j_ald0 (pc := 5) S dX0_goes_5 ?_
  refine j_ald0 (pc := 6) S dX0_goes_6 ?_
  refine c_getI (pc := 7) S 10 rfl rfl q260 dX0_goes_7 ?_
  refine c_putI (pc := 10) S 9 rfl rfl rfl rfl rfl q259 dX0_goes_10 (fun Y_56 e_57 => ?_)
  have hw := hw Y_56 e_57
  obtain ⟨fu_58, hw⟩ := hw
  exact j_sub S (kX0_goes_13 SX hC fu_58 _ _ _ hw) (gle_s (gle_s (gle_n (gle_n (gle_n gle_0)))))
/-! LeaningStreet.number()I -/
abbrev rX0_number : Room := { frames := 3, cells := 0, slots := 0, locals := 66 }
theorem ydX0_number : yX0_number.cls = RX0 ∧ yX0_number.cls ≠ "java/lang/invoke/MethodHandle" ∧ yX0_number.cls ≠ "java/lang/invoke/VarHandle" ∧ (parseMethodDescriptor yX0_number.desc).map (fun d => d.parameters.length) = some 0 := by decide +kernel
def wX0_number_50 (ad : Nat → Nat) (K : Int32 → gY → gH → Prop) (E : Nat → gY → gH → Prop) : Nat → gY → gH → Int32 → Int32 → Prop
  | 0 => fun _ _ _ _ => False
  | n + 1 => fun Y h x1 x2 => (((Y 10 0) ≤ x2 → (wpX0_goes ad (fun Y_3 h_4 => (K x1 Y_3 h_4)) E Y h)) ∧ (¬ (Y 10 0) ≤ x2 → (vp_in x2 96 ∧ (∀ x1_5 : Int32, x1_5 = (((10 * x1) + (Y 6 x2.toNatClampNeg)) - 48) → (∀ x2_7 : Int32, x2_7 = x2 + 1 → ((wX0_number_50 ad K E n) Y h x1_5 x2_7))))))
def wX0_number_43 (ad : Nat → Nat) (K : Int32 → gY → gH → Prop) (E : Nat → gY → gH → Prop) (Y : gY) (h : gH) : Prop := ∀ x2_9 : Int32, x2_9 = (Y 9 0) → (∃ fu_11 : Nat, wX0_number_50 ad K E fu_11 Y h 0 x2_9)
def wX0_number_39 (ad : Nat → Nat) (K : Int32 → gY → gH → Prop) (E : Nat → gY → gH → Prop) (Y : gY) (h : gH) : Prop := wpX0_wrong ad (fun Y_13 h_14 => (wX0_number_43 ad K E Y_13 h_14)) E Y h
def wpX0_number (ad : Nat → Nat) (K : Int32 → gY → gH → Prop) (E : Nat → gY → gH → Prop) (Y : gY) (h : gH) : Prop := (((Y 9 0) = (Y 11 0) → (wX0_number_39 ad K E Y h)) ∧ (¬ (Y 9 0) = (Y 11 0) → (vp_in (Y 9 0) 96 ∧ (wpX0_isDigit ad (fun r_16 Y_17 h_18 => (((r_16 = 0 → (wX0_number_39 ad K E Y_17 h_18)) ∧ (¬ r_16 = 0 → (((((Y_17 10 0) - (Y_17 9 0)) ≤ 4 → (wX0_number_43 ad K E Y_17 h_18)) ∧ (¬ ((Y_17 10 0) - (Y_17 9 0)) ≤ 4 → (wX0_number_39 ad K E Y_17 h_18)))))))) Y h (Y 6 (Y 9 0).toNatClampNeg)))))
theorem kX0_number_50 {K : Int32 → gY → gH → Prop} {E : Nat → gY → gH → Prop} (SX : gStX l rX0_number cX0_number RX0 "number" 3 (some .int) G cL o ad (fun r => some (.int r)) K E 0 0 J) (hC : cOK G) : ∀ (n : Nat) (Y : gY) (h : gH) (x1 : Int32) (x2 : Int32), wX0_number_50 ad K E n Y h x1 x2 → J Y h 0 0 50 [some (.ref o), some (.int x1), some (.int x2)] [] := by
  intro n
  induction n with
  | zero => intro Y h x1 x2 hw; exact hw.elim
  | succ n ih =>
    intro Y h x1 x2 hw
    have S := SX.st
    unfold wX0_number_50 at hw
    refine j_ild2 (pc := 50) S dX0_number_50 ?_
    refine j_ald0 (pc := 51) S dX0_number_51 ?_
    refine c_getI (pc := 52) S 10 rfl rfl q260 dX0_number_52 ?_
    refine j_icmp_ge (pc := 55) (tgt := 79) S dX0_number_55 rfl (fun c_1 => ?_) (fun c_1 => ?_)
    · have hw := hw.1 c_1
      refine j_ald0 (pc := 79) S dX0_number_79 ?_
      refine x_callXVv (pc := 80) SX rfl rfl 0 (wkX0_goes hC hw) (lw_V q352 q354 qs3 q79 q355) rfl rfl ydX0_goes rfl rfl c_recv rfl rfl rfl dX0_number_80 (Nat.le_refl _) (Nat.le_refl _) (fun Y_3 h_4 hw => ?_)
      refine j_ild1 (pc := 83) S dX0_number_83 ?_
      exact j_iret (pc := 84) S (Nat.le_refl _) (Nat.le_refl _) dX0_number_84 hw
    · have hw := hw.2 c_1
      refine j_bipush (pc := 58) (v := 10) S dX0_number_58 rfl ?_
      refine j_ild1 (pc := 60) S dX0_number_60 ?_
      refine j_imul (pc := 61) S dX0_number_61 ?_
      refine j_ald0 (pc := 62) S dX0_number_62 ?_
      refine c_getA (pc := 63) S 6 rfl rfl q256 dX0_number_63 ?_
      refine j_ild2 (pc := 66) S dX0_number_66 ?_
      obtain ⟨hi, hw⟩ := hw
      refine c_bald (pc := 67) S hi dX0_number_67 ?_
      refine j_iadd (pc := 68) S dX0_number_68 ?_
      refine j_bipush (pc := 69) (v := 48) S dX0_number_69 rfl ?_
      refine j_isub (pc := 71) S dX0_number_71 ?_
      refine j_topi (fun x1_5 e_6 => ?_)
      have hw := hw x1_5 e_6
      refine j_ist1 (pc := 72) S dX0_number_72 rfl rfl ?_
      obtain ⟨x2_7, e_8⟩ : ∃ y : Int32, y = x2 + 1 := ⟨_, rfl⟩
      have hw := hw x2_7 e_8
      refine j_iinc2 (pc := 73) (v := x2_7) S dX0_number_73 (by rw [e_8]; rfl) rfl rfl ?_
      refine j_goto (pc := 76) (tgt := 50) S dX0_number_76 rfl ?_
      exact j_sub S (ih _ _ _ _ hw) (gle_s (gle_s (gle_s gle_0)))
theorem kX0_number_43 {K : Int32 → gY → gH → Prop} {E : Nat → gY → gH → Prop} (SX : gStX l rX0_number cX0_number RX0 "number" 3 (some .int) G cL o ad (fun r => some (.int r)) K E 0 0 J) (hC : cOK G) {Y : gY} {h : gH} (hw : wX0_number_43 ad K E Y h) : J Y h 0 0 43 [some (.ref o), none, none] [] := by
  have S := SX.st
  unfold wX0_number_43 at hw
  refine j_iconst (pc := 43) (v := 0) S dX0_number_43 rfl ?_
  refine j_ist1 (pc := 44) S dX0_number_44 rfl rfl ?_
  refine j_ald0 (pc := 45) S dX0_number_45 ?_
  refine c_getI (pc := 46) S 9 rfl rfl q259 dX0_number_46 ?_
  refine j_topi (fun x2_9 e_10 => ?_)
  have hw := hw x2_9 e_10
  refine j_ist2 (pc := 49) S dX0_number_49 rfl rfl ?_
  obtain ⟨fu_11, hw⟩ := hw
  exact j_sub S (kX0_number_50 SX hC fu_11 _ _ _ _ hw) (gle_s (gle_s (gle_s gle_0)))
theorem kX0_number_39 {K : Int32 → gY → gH → Prop} {E : Nat → gY → gH → Prop} (SX : gStX l rX0_number cX0_number RX0 "number" 3 (some .int) G cL o ad (fun r => some (.int r)) K E 0 0 J) (hC : cOK G) {Y : gY} {h : gH} (hw : wX0_number_39 ad K E Y h) : J Y h 0 0 39 [some (.ref o), none, none] [] := by
  have S := SX.st
  unfold wX0_number_39 at hw
  refine j_ald0 (pc := 39) S dX0_number_39 ?_
  refine x_callXVv (pc := 40) SX rfl rfl 0 (wkX0_wrong hC hw) (lw_V q362 q364 qs4 q79 q365) rfl rfl ydX0_wrong rfl rfl c_recv rfl rfl rfl dX0_number_40 (Nat.le_refl _) (Nat.le_refl _) (fun Y_13 h_14 hw => ?_)
  exact j_sub S (kX0_number_43 SX hC hw) (gle_s (gle_n (gle_n gle_0)))
theorem wkX0_number (hC : cOK G) {K : Int32 → gY → gH → Prop} {E : Nat → gY → gH → Prop} {Y : gY} {h : gH} (hw : wpX0_number ad K E Y h) : gMetX l yX0_number (ws_ yX0_number cX0_number 3 (some .int)) rX0_number G cL o ad [.ref o] (fun r => some (.int r)) K E 0 0 Y h := by
  refine gMetX.in (lv := [some (.ref o), none, none]) (by decide) rfl rfl (fun J SX => ?_)
  have SX : gStX l rX0_number cX0_number RX0 "number" 3 (some .int) G cL o ad (fun r => some (.int r)) K E 0 0 J := SX
  have S := SX.st
  unfold wpX0_number at hw
  refine j_ald0 (pc := 0) S dX0_number_0 ?_
  refine c_getI (pc := 1) S 9 rfl rfl q259 dX0_number_1 ?_
  refine j_ald0 (pc := 4) S dX0_number_4 ?_
  refine c_getI (pc := 5) S 11 rfl rfl q261 dX0_number_5 ?_
  refine j_icmp_eq (pc := 8) (tgt := 39) S dX0_number_8 rfl (fun c_15 => ?_) (fun c_15 => ?_)
  · have hw := hw.1 c_15
    exact j_sub S (kX0_number_39 SX hC hw) (gle_s (gle_n (gle_n gle_0)))
  · have hw := hw.2 c_15
    refine j_ald0 (pc := 11) S dX0_number_11 ?_
    refine c_getA (pc := 12) S 6 rfl rfl q256 dX0_number_12 ?_
    refine j_ald0 (pc := 15) S dX0_number_15 ?_
    refine c_getI (pc := 16) S 9 rfl rfl q259 dX0_number_16 ?_
    obtain ⟨hi, hw⟩ := hw
    refine c_bald (pc := 19) S hi dX0_number_19 ?_
    refine x_callSi (pc := 20) S 1 (wkX0_isDigit hC hw) (lw_S q359 q360 q79 q361) rfl rfl ydX0_isDigit rfl rfl rfl rfl rfl dX0_number_20 (Nat.le_refl _) (Nat.le_refl _) (fun r_16 Y_17 h_18 hw => ?_)
    refine j_if_eq (pc := 23) (tgt := 39) S dX0_number_23 rfl (fun c_19 => ?_) (fun c_19 => ?_)
    · have hw := hw.1 c_19
      exact j_sub S (kX0_number_39 SX hC hw) (gle_s (gle_n (gle_n gle_0)))
    · have hw := hw.2 c_19
      refine j_ald0 (pc := 26) S dX0_number_26 ?_
      refine c_getI (pc := 27) S 10 rfl rfl q260 dX0_number_27 ?_
      refine j_ald0 (pc := 30) S dX0_number_30 ?_
      refine c_getI (pc := 31) S 9 rfl rfl q259 dX0_number_31 ?_
      refine j_isub (pc := 34) S dX0_number_34 ?_
      refine j_iconst (pc := 35) (v := 4) S dX0_number_35 rfl ?_
      refine j_icmp_le (pc := 36) (tgt := 43) S dX0_number_36 rfl (fun c_20 => ?_) (fun c_20 => ?_)
      · have hw := hw.1 c_20
        exact j_sub S (kX0_number_43 SX hC hw) (gle_s (gle_n (gle_n gle_0)))
      · have hw := hw.2 c_20
        exact j_sub S (kX0_number_39 SX hC hw) (gle_s (gle_n (gle_n gle_0)))
abbrev rgX0 (d : Nat) : Room := { frames := d + 8, cells := 0, slots := 0, locals := 40 * d + 400 }
theorem rg0_fG {d : Nat} : Nat.ble ((rgX0 d).frames + 1) (rgX0 (d + 1)).frames = true := Nat.ble_eq_true_of_le (by show d + 8 + 1 ≤ d + 1 + 8; omega)
theorem rg0_lG {d n : Nat} (h : Nat.ble n 20 = true) : Nat.ble (8 + (n + 11) + (rgX0 d).locals) (rgX0 (d + 1)).locals = true := Nat.ble_eq_true_of_le (by have := Nat.le_of_ble_eq_true h; show 8 + (n + 11) + (40 * d + 400) ≤ 40 * (d + 1) + 400; omega)
theorem rg0_f {d n : Nat} (h : Nat.ble n 8 = true) : Nat.ble n (rgX0 (d + 1)).frames = true := Nat.ble_eq_true_of_le (by have := Nat.le_of_ble_eq_true h; show n ≤ d + 1 + 8; omega)
theorem rg0_l {d n : Nat} (h : Nat.ble n 400 = true) : Nat.ble n (rgX0 (d + 1)).locals = true := Nat.ble_eq_true_of_le (by have := Nat.le_of_ble_eq_true h; show n ≤ 40 * (d + 1) + 400; omega)
theorem ydX0_or : yX0_or.cls = RX0 ∧ yX0_or.cls ≠ "java/lang/invoke/MethodHandle" ∧ yX0_or.cls ≠ "java/lang/invoke/VarHandle" ∧ (parseMethodDescriptor yX0_or.desc).map (fun d => d.parameters.length) = some 1 := by decide +kernel
theorem ydX0_and : yX0_and.cls = RX0 ∧ yX0_and.cls ≠ "java/lang/invoke/MethodHandle" ∧ yX0_and.cls ≠ "java/lang/invoke/VarHandle" ∧ (parseMethodDescriptor yX0_and.desc).map (fun d => d.parameters.length) = some 1 := by decide +kernel
theorem ydX0_test : yX0_test.cls = RX0 ∧ yX0_test.cls ≠ "java/lang/invoke/MethodHandle" ∧ yX0_test.cls ≠ "java/lang/invoke/VarHandle" ∧ (parseMethodDescriptor yX0_test.desc).map (fun d => d.parameters.length) = some 1 := by decide +kernel
theorem ydX0_sum : yX0_sum.cls = RX0 ∧ yX0_sum.cls ≠ "java/lang/invoke/MethodHandle" ∧ yX0_sum.cls ≠ "java/lang/invoke/VarHandle" ∧ (parseMethodDescriptor yX0_sum.desc).map (fun d => d.parameters.length) = some 1 := by decide +kernel
theorem ydX0_term : yX0_term.cls = RX0 ∧ yX0_term.cls ≠ "java/lang/invoke/MethodHandle" ∧ yX0_term.cls ≠ "java/lang/invoke/VarHandle" ∧ (parseMethodDescriptor yX0_term.desc).map (fun d => d.parameters.length) = some 1 := by decide +kernel
theorem ydX0_piece : yX0_piece.cls = RX0 ∧ yX0_piece.cls ≠ "java/lang/invoke/MethodHandle" ∧ yX0_piece.cls ≠ "java/lang/invoke/VarHandle" ∧ (parseMethodDescriptor yX0_piece.desc).map (fun d => d.parameters.length) = some 1 := by decide +kernel
/-! LeaningStreet.or(LLeaningStreet$Words;)V -/
def wX0_or_5 (rc : Nat → (gY → gH → Prop) → (Nat → gY → gH → Prop) → gY → gH → Nat → Prop) (ad : Nat → Nat) (K : gY → gH → Prop) (E : Nat → gY → gH → Prop) : Nat → gY → gH → Nat → Prop
  | 0 => fun _ _ _ => False
  | n + 1 => fun Y h x1 => wpX0_isSign ad (fun r_1 Y_2 h_3 => (((r_1 = 0 → (K Y_2 h_3)) ∧ (¬ r_1 = 0 → (wpX0_goes ad (fun Y_6 h_7 => (rc 1 (fun Y_9 h_10 => ((∃ fs_14 : List Value, h_10 x1 = some (.inr (7, fs_14))) ∧ wpX12_add (fun Y_12 h_13 => ((wX0_or_5 rc ad K E n) Y_12 h_13 x1)) Y_9 h_10 x1 (11 : Int32) (0 : Int32))) E Y_6 h_7 x1)) E Y_2 h_3))))) Y h (124 : Int32)
def bpX0_or (rc : Nat → (gY → gH → Prop) → (Nat → gY → gH → Prop) → gY → gH → Nat → Prop) (ad : Nat → Nat) (K : gY → gH → Prop) (E : Nat → gY → gH → Prop) (Y : gY) (h : gH) (a1 : Nat) : Prop := rc 1 (fun Y_16 h_17 => (∃ fu_18 : Nat, wX0_or_5 rc ad K E fu_18 Y_16 h_17 a1)) E Y h a1
theorem kX0_or_5 {rc : Nat → (gY → gH → Prop) → (Nat → gY → gH → Prop) → gY → gH → Nat → Prop} {d : Nat} {K : gY → gH → Prop} {E : Nat → gY → gH → Prop} (SX : gStX l (rgX0 (d + 1)) cX0_or RX0 "or" 2 none G cL o ad (fun _ => none) (fun (_ : Unit) Y h => K Y h) E 0 0 J) (hC : cOK G) (ih0 : ∀ (K : gY → gH → Prop) (E : Nat → gY → gH → Prop) (Y : gY) (h : gH) (a1 : Nat), rc 0 K E Y h a1 → gMetX l yX0_or (ws_ yX0_or cX0_or 2 none) (rgX0 d) G cL o ad [.ref o, .ref a1] (fun _ => none) (fun (_ : Unit) Y h => K Y h) E 0 0 Y h) (ih1 : ∀ (K : gY → gH → Prop) (E : Nat → gY → gH → Prop) (Y : gY) (h : gH) (a1 : Nat), rc 1 K E Y h a1 → gMetX l yX0_and (ws_ yX0_and cX0_and 2 none) (rgX0 d) G cL o ad [.ref o, .ref a1] (fun _ => none) (fun (_ : Unit) Y h => K Y h) E 0 0 Y h) (ih2 : ∀ (K : gY → gH → Prop) (E : Nat → gY → gH → Prop) (Y : gY) (h : gH) (a1 : Nat), rc 2 K E Y h a1 → gMetX l yX0_test (ws_ yX0_test cX0_test 3 none) (rgX0 d) G cL o ad [.ref o, .ref a1] (fun _ => none) (fun (_ : Unit) Y h => K Y h) E 0 0 Y h) (ih3 : ∀ (K : gY → gH → Prop) (E : Nat → gY → gH → Prop) (Y : gY) (h : gH) (a1 : Nat), rc 3 K E Y h a1 → gMetX l yX0_sum (ws_ yX0_sum cX0_sum 3 none) (rgX0 d) G cL o ad [.ref o, .ref a1] (fun _ => none) (fun (_ : Unit) Y h => K Y h) E 0 0 Y h) (ih4 : ∀ (K : gY → gH → Prop) (E : Nat → gY → gH → Prop) (Y : gY) (h : gH) (a1 : Nat), rc 4 K E Y h a1 → gMetX l yX0_term (ws_ yX0_term cX0_term 3 none) (rgX0 d) G cL o ad [.ref o, .ref a1] (fun _ => none) (fun (_ : Unit) Y h => K Y h) E 0 0 Y h) (ih5 : ∀ (K : gY → gH → Prop) (E : Nat → gY → gH → Prop) (Y : gY) (h : gH) (a1 : Nat), rc 5 K E Y h a1 → gMetX l yX0_piece (ws_ yX0_piece cX0_piece 2 none) (rgX0 d) G cL o ad [.ref o, .ref a1] (fun _ => none) (fun (_ : Unit) Y h => K Y h) E 0 0 Y h) : ∀ (n : Nat) (Y : gY) (h : gH) (x1 : Nat), wX0_or_5 rc ad K E n Y h x1 → J Y h 0 0 5 [some (.ref o), some (.ref x1)] [] := by
  intro n
  induction n with
  | zero => intro Y h x1 hw; exact hw.elim
  | succ n ih =>
    intro Y h x1 hw
    have S := SX.st
    unfold wX0_or_5 at hw
    refine j_ald0 (pc := 5) S dX0_or_5 ?_
    refine j_bipush (pc := 6) (v := 124) S dX0_or_6 rfl ?_
    refine x_callVi (pc := 8) S 1 (wkX0_isSign hC hw) (lw_V q472 q474 qs14 q79 q475) rfl rfl ydX0_isSign (rg0_f rfl) (rg0_l rfl) c_recv rfl rfl rfl dX0_or_8 (Nat.le_refl _) (Nat.le_refl _) (fun r_1 Y_2 h_3 hw => ?_)
    refine j_if_eq (pc := 11) (tgt := 33) S dX0_or_11 rfl (fun c_4 => ?_) (fun c_4 => ?_)
    · have hw := hw.1 c_4
      exact j_vret (pc := 33) S (Nat.le_refl _) (Nat.le_refl _) dX0_or_33 hw
    · have hw := hw.2 c_4
      refine j_ald0 (pc := 14) S dX0_or_14 ?_
      refine x_callXVv (pc := 15) SX rfl rfl 0 (wkX0_goes hC hw) (lw_V q352 q354 qs3 q79 q355) rfl rfl ydX0_goes (rg0_f rfl) (rg0_l rfl) c_recv rfl rfl rfl dX0_or_15 (Nat.le_refl _) (Nat.le_refl _) (fun Y_6 h_7 hw => ?_)
      refine j_ald0 (pc := 18) S dX0_or_18 ?_
      refine j_ald1 (pc := 19) S dX0_or_19 ?_
      refine x_callXVv (pc := 20) SX rfl rfl 1 (ih1 _ _ _ _ _ hw) (lw_V q452 q454 qs9 q79 q455) rfl rfl ydX0_and rg0_fG (rg0_lG rfl) c_recv rfl rfl rfl dX0_or_20 (Nat.le_refl _) (Nat.le_refl _) (fun Y_9 h_10 hw => ?_)
      refine j_ald1 (pc := 23) S dX0_or_23 ?_
      refine j_bipush (pc := 24) (v := 11) S dX0_or_24 rfl ?_
      refine j_iconst (pc := 26) (v := 0) S dX0_or_26 rfl ?_
      obtain ⟨⟨fs_14, ha⟩, hw⟩ := hw
      refine x_callVv (pc := 27) S 2 (wkX12_add hC hw) (lw_V q476 q477 q478 q102 q479) rfl rfl ydX12_add (rg0_f rfl) (rg0_l rfl) (h_recv ha rfl rfl) rfl rfl rfl dX0_or_27 (Nat.le_refl _) (Nat.le_refl _) (fun Y_12 h_13 hw => ?_)
      refine j_goto (pc := 30) (tgt := 5) S dX0_or_30 rfl ?_
      exact j_sub S (ih _ _ _ hw) (gle_s (gle_s gle_0))
theorem bkX0_or {rc : Nat → (gY → gH → Prop) → (Nat → gY → gH → Prop) → gY → gH → Nat → Prop} {d : Nat} (hC : cOK G) {K : gY → gH → Prop} {E : Nat → gY → gH → Prop} {Y : gY} {h : gH} {a1 : Nat} (ih0 : ∀ (K : gY → gH → Prop) (E : Nat → gY → gH → Prop) (Y : gY) (h : gH) (a1 : Nat), rc 0 K E Y h a1 → gMetX l yX0_or (ws_ yX0_or cX0_or 2 none) (rgX0 d) G cL o ad [.ref o, .ref a1] (fun _ => none) (fun (_ : Unit) Y h => K Y h) E 0 0 Y h) (ih1 : ∀ (K : gY → gH → Prop) (E : Nat → gY → gH → Prop) (Y : gY) (h : gH) (a1 : Nat), rc 1 K E Y h a1 → gMetX l yX0_and (ws_ yX0_and cX0_and 2 none) (rgX0 d) G cL o ad [.ref o, .ref a1] (fun _ => none) (fun (_ : Unit) Y h => K Y h) E 0 0 Y h) (ih2 : ∀ (K : gY → gH → Prop) (E : Nat → gY → gH → Prop) (Y : gY) (h : gH) (a1 : Nat), rc 2 K E Y h a1 → gMetX l yX0_test (ws_ yX0_test cX0_test 3 none) (rgX0 d) G cL o ad [.ref o, .ref a1] (fun _ => none) (fun (_ : Unit) Y h => K Y h) E 0 0 Y h) (ih3 : ∀ (K : gY → gH → Prop) (E : Nat → gY → gH → Prop) (Y : gY) (h : gH) (a1 : Nat), rc 3 K E Y h a1 → gMetX l yX0_sum (ws_ yX0_sum cX0_sum 3 none) (rgX0 d) G cL o ad [.ref o, .ref a1] (fun _ => none) (fun (_ : Unit) Y h => K Y h) E 0 0 Y h) (ih4 : ∀ (K : gY → gH → Prop) (E : Nat → gY → gH → Prop) (Y : gY) (h : gH) (a1 : Nat), rc 4 K E Y h a1 → gMetX l yX0_term (ws_ yX0_term cX0_term 3 none) (rgX0 d) G cL o ad [.ref o, .ref a1] (fun _ => none) (fun (_ : Unit) Y h => K Y h) E 0 0 Y h) (ih5 : ∀ (K : gY → gH → Prop) (E : Nat → gY → gH → Prop) (Y : gY) (h : gH) (a1 : Nat), rc 5 K E Y h a1 → gMetX l yX0_piece (ws_ yX0_piece cX0_piece 2 none) (rgX0 d) G cL o ad [.ref o, .ref a1] (fun _ => none) (fun (_ : Unit) Y h => K Y h) E 0 0 Y h) (hw : bpX0_or rc ad K E Y h a1) : gMetX l yX0_or (ws_ yX0_or cX0_or 2 none) (rgX0 (d + 1)) G cL o ad [.ref o, .ref a1] (fun _ => none) (fun (_ : Unit) Y h => K Y h) E 0 0 Y h := by
  refine gMetX.in (lv := [some (.ref o), some (.ref a1)]) (by decide) rfl rfl (fun J SX => ?_)
  have SX : gStX l (rgX0 (d + 1)) cX0_or RX0 "or" 2 none G cL o ad (fun _ => none) (fun (_ : Unit) Y h => K Y h) E 0 0 J := SX
  have S := SX.st
  unfold bpX0_or at hw
  refine j_ald0 (pc := 0) S dX0_or_0 ?_
  refine j_ald1 (pc := 1) S dX0_or_1 ?_
  refine x_callXVv (pc := 2) SX rfl rfl 1 (ih1 _ _ _ _ _ hw) (lw_V q452 q454 qs9 q79 q455) rfl rfl ydX0_and rg0_fG (rg0_lG rfl) c_recv rfl rfl rfl dX0_or_2 (Nat.le_refl _) (Nat.le_refl _) (fun Y_16 h_17 hw => ?_)
  obtain ⟨fu_18, hw⟩ := hw
  exact j_sub S (kX0_or_5 SX hC ih0 ih1 ih2 ih3 ih4 ih5 fu_18 _ _ _ hw) (gle_s (gle_s gle_0))
/-! LeaningStreet.and(LLeaningStreet$Words;)V -/
def wX0_and_5 (rc : Nat → (gY → gH → Prop) → (Nat → gY → gH → Prop) → gY → gH → Nat → Prop) (ad : Nat → Nat) (K : gY → gH → Prop) (E : Nat → gY → gH → Prop) : Nat → gY → gH → Nat → Prop
  | 0 => fun _ _ _ => False
  | n + 1 => fun Y h x1 => wpX0_isSign ad (fun r_1 Y_2 h_3 => (((r_1 = 0 → (K Y_2 h_3)) ∧ (¬ r_1 = 0 → (wpX0_goes ad (fun Y_6 h_7 => (rc 2 (fun Y_9 h_10 => ((∃ fs_14 : List Value, h_10 x1 = some (.inr (7, fs_14))) ∧ wpX12_add (fun Y_12 h_13 => ((wX0_and_5 rc ad K E n) Y_12 h_13 x1)) Y_9 h_10 x1 (10 : Int32) (0 : Int32))) E Y_6 h_7 x1)) E Y_2 h_3))))) Y h (38 : Int32)
def bpX0_and (rc : Nat → (gY → gH → Prop) → (Nat → gY → gH → Prop) → gY → gH → Nat → Prop) (ad : Nat → Nat) (K : gY → gH → Prop) (E : Nat → gY → gH → Prop) (Y : gY) (h : gH) (a1 : Nat) : Prop := rc 2 (fun Y_16 h_17 => (∃ fu_18 : Nat, wX0_and_5 rc ad K E fu_18 Y_16 h_17 a1)) E Y h a1
theorem kX0_and_5 {rc : Nat → (gY → gH → Prop) → (Nat → gY → gH → Prop) → gY → gH → Nat → Prop} {d : Nat} {K : gY → gH → Prop} {E : Nat → gY → gH → Prop} (SX : gStX l (rgX0 (d + 1)) cX0_and RX0 "and" 2 none G cL o ad (fun _ => none) (fun (_ : Unit) Y h => K Y h) E 0 0 J) (hC : cOK G) (ih0 : ∀ (K : gY → gH → Prop) (E : Nat → gY → gH → Prop) (Y : gY) (h : gH) (a1 : Nat), rc 0 K E Y h a1 → gMetX l yX0_or (ws_ yX0_or cX0_or 2 none) (rgX0 d) G cL o ad [.ref o, .ref a1] (fun _ => none) (fun (_ : Unit) Y h => K Y h) E 0 0 Y h) (ih1 : ∀ (K : gY → gH → Prop) (E : Nat → gY → gH → Prop) (Y : gY) (h : gH) (a1 : Nat), rc 1 K E Y h a1 → gMetX l yX0_and (ws_ yX0_and cX0_and 2 none) (rgX0 d) G cL o ad [.ref o, .ref a1] (fun _ => none) (fun (_ : Unit) Y h => K Y h) E 0 0 Y h) (ih2 : ∀ (K : gY → gH → Prop) (E : Nat → gY → gH → Prop) (Y : gY) (h : gH) (a1 : Nat), rc 2 K E Y h a1 → gMetX l yX0_test (ws_ yX0_test cX0_test 3 none) (rgX0 d) G cL o ad [.ref o, .ref a1] (fun _ => none) (fun (_ : Unit) Y h => K Y h) E 0 0 Y h) (ih3 : ∀ (K : gY → gH → Prop) (E : Nat → gY → gH → Prop) (Y : gY) (h : gH) (a1 : Nat), rc 3 K E Y h a1 → gMetX l yX0_sum (ws_ yX0_sum cX0_sum 3 none) (rgX0 d) G cL o ad [.ref o, .ref a1] (fun _ => none) (fun (_ : Unit) Y h => K Y h) E 0 0 Y h) (ih4 : ∀ (K : gY → gH → Prop) (E : Nat → gY → gH → Prop) (Y : gY) (h : gH) (a1 : Nat), rc 4 K E Y h a1 → gMetX l yX0_term (ws_ yX0_term cX0_term 3 none) (rgX0 d) G cL o ad [.ref o, .ref a1] (fun _ => none) (fun (_ : Unit) Y h => K Y h) E 0 0 Y h) (ih5 : ∀ (K : gY → gH → Prop) (E : Nat → gY → gH → Prop) (Y : gY) (h : gH) (a1 : Nat), rc 5 K E Y h a1 → gMetX l yX0_piece (ws_ yX0_piece cX0_piece 2 none) (rgX0 d) G cL o ad [.ref o, .ref a1] (fun _ => none) (fun (_ : Unit) Y h => K Y h) E 0 0 Y h) : ∀ (n : Nat) (Y : gY) (h : gH) (x1 : Nat), wX0_and_5 rc ad K E n Y h x1 → J Y h 0 0 5 [some (.ref o), some (.ref x1)] [] := by
  intro n
  induction n with
  | zero => intro Y h x1 hw; exact hw.elim
  | succ n ih =>
    intro Y h x1 hw
    have S := SX.st
    unfold wX0_and_5 at hw
    refine j_ald0 (pc := 5) S dX0_and_5 ?_
    refine j_bipush (pc := 6) (v := 38) S dX0_and_6 rfl ?_
    refine x_callVi (pc := 8) S 1 (wkX0_isSign hC hw) (lw_V q472 q474 qs14 q79 q475) rfl rfl ydX0_isSign (rg0_f rfl) (rg0_l rfl) c_recv rfl rfl rfl dX0_and_8 (Nat.le_refl _) (Nat.le_refl _) (fun r_1 Y_2 h_3 hw => ?_)
    refine j_if_eq (pc := 11) (tgt := 33) S dX0_and_11 rfl (fun c_4 => ?_) (fun c_4 => ?_)
    · have hw := hw.1 c_4
      exact j_vret (pc := 33) S (Nat.le_refl _) (Nat.le_refl _) dX0_and_33 hw
    · have hw := hw.2 c_4
      refine j_ald0 (pc := 14) S dX0_and_14 ?_
      refine x_callXVv (pc := 15) SX rfl rfl 0 (wkX0_goes hC hw) (lw_V q352 q354 qs3 q79 q355) rfl rfl ydX0_goes (rg0_f rfl) (rg0_l rfl) c_recv rfl rfl rfl dX0_and_15 (Nat.le_refl _) (Nat.le_refl _) (fun Y_6 h_7 hw => ?_)
      refine j_ald0 (pc := 18) S dX0_and_18 ?_
      refine j_ald1 (pc := 19) S dX0_and_19 ?_
      refine x_callXVv (pc := 20) SX rfl rfl 1 (ih2 _ _ _ _ _ hw) (lw_V q456 q458 qs10 q79 q459) rfl rfl ydX0_test rg0_fG (rg0_lG rfl) c_recv rfl rfl rfl dX0_and_20 (Nat.le_refl _) (Nat.le_refl _) (fun Y_9 h_10 hw => ?_)
      refine j_ald1 (pc := 23) S dX0_and_23 ?_
      refine j_bipush (pc := 24) (v := 10) S dX0_and_24 rfl ?_
      refine j_iconst (pc := 26) (v := 0) S dX0_and_26 rfl ?_
      obtain ⟨⟨fs_14, ha⟩, hw⟩ := hw
      refine x_callVv (pc := 27) S 2 (wkX12_add hC hw) (lw_V q476 q477 q478 q102 q479) rfl rfl ydX12_add (rg0_f rfl) (rg0_l rfl) (h_recv ha rfl rfl) rfl rfl rfl dX0_and_27 (Nat.le_refl _) (Nat.le_refl _) (fun Y_12 h_13 hw => ?_)
      refine j_goto (pc := 30) (tgt := 5) S dX0_and_30 rfl ?_
      exact j_sub S (ih _ _ _ hw) (gle_s (gle_s gle_0))
theorem bkX0_and {rc : Nat → (gY → gH → Prop) → (Nat → gY → gH → Prop) → gY → gH → Nat → Prop} {d : Nat} (hC : cOK G) {K : gY → gH → Prop} {E : Nat → gY → gH → Prop} {Y : gY} {h : gH} {a1 : Nat} (ih0 : ∀ (K : gY → gH → Prop) (E : Nat → gY → gH → Prop) (Y : gY) (h : gH) (a1 : Nat), rc 0 K E Y h a1 → gMetX l yX0_or (ws_ yX0_or cX0_or 2 none) (rgX0 d) G cL o ad [.ref o, .ref a1] (fun _ => none) (fun (_ : Unit) Y h => K Y h) E 0 0 Y h) (ih1 : ∀ (K : gY → gH → Prop) (E : Nat → gY → gH → Prop) (Y : gY) (h : gH) (a1 : Nat), rc 1 K E Y h a1 → gMetX l yX0_and (ws_ yX0_and cX0_and 2 none) (rgX0 d) G cL o ad [.ref o, .ref a1] (fun _ => none) (fun (_ : Unit) Y h => K Y h) E 0 0 Y h) (ih2 : ∀ (K : gY → gH → Prop) (E : Nat → gY → gH → Prop) (Y : gY) (h : gH) (a1 : Nat), rc 2 K E Y h a1 → gMetX l yX0_test (ws_ yX0_test cX0_test 3 none) (rgX0 d) G cL o ad [.ref o, .ref a1] (fun _ => none) (fun (_ : Unit) Y h => K Y h) E 0 0 Y h) (ih3 : ∀ (K : gY → gH → Prop) (E : Nat → gY → gH → Prop) (Y : gY) (h : gH) (a1 : Nat), rc 3 K E Y h a1 → gMetX l yX0_sum (ws_ yX0_sum cX0_sum 3 none) (rgX0 d) G cL o ad [.ref o, .ref a1] (fun _ => none) (fun (_ : Unit) Y h => K Y h) E 0 0 Y h) (ih4 : ∀ (K : gY → gH → Prop) (E : Nat → gY → gH → Prop) (Y : gY) (h : gH) (a1 : Nat), rc 4 K E Y h a1 → gMetX l yX0_term (ws_ yX0_term cX0_term 3 none) (rgX0 d) G cL o ad [.ref o, .ref a1] (fun _ => none) (fun (_ : Unit) Y h => K Y h) E 0 0 Y h) (ih5 : ∀ (K : gY → gH → Prop) (E : Nat → gY → gH → Prop) (Y : gY) (h : gH) (a1 : Nat), rc 5 K E Y h a1 → gMetX l yX0_piece (ws_ yX0_piece cX0_piece 2 none) (rgX0 d) G cL o ad [.ref o, .ref a1] (fun _ => none) (fun (_ : Unit) Y h => K Y h) E 0 0 Y h) (hw : bpX0_and rc ad K E Y h a1) : gMetX l yX0_and (ws_ yX0_and cX0_and 2 none) (rgX0 (d + 1)) G cL o ad [.ref o, .ref a1] (fun _ => none) (fun (_ : Unit) Y h => K Y h) E 0 0 Y h := by
  refine gMetX.in (lv := [some (.ref o), some (.ref a1)]) (by decide) rfl rfl (fun J SX => ?_)
  have SX : gStX l (rgX0 (d + 1)) cX0_and RX0 "and" 2 none G cL o ad (fun _ => none) (fun (_ : Unit) Y h => K Y h) E 0 0 J := SX
  have S := SX.st
  unfold bpX0_and at hw
  refine j_ald0 (pc := 0) S dX0_and_0 ?_
  refine j_ald1 (pc := 1) S dX0_and_1 ?_
  refine x_callXVv (pc := 2) SX rfl rfl 1 (ih2 _ _ _ _ _ hw) (lw_V q456 q458 qs10 q79 q459) rfl rfl ydX0_test rg0_fG (rg0_lG rfl) c_recv rfl rfl rfl dX0_and_2 (Nat.le_refl _) (Nat.le_refl _) (fun Y_16 h_17 hw => ?_)
  obtain ⟨fu_18, hw⟩ := hw
  exact j_sub S (kX0_and_5 SX hC ih0 ih1 ih2 ih3 ih4 ih5 fu_18 _ _ _ hw) (gle_s (gle_s gle_0))
/-! LeaningStreet.test(LLeaningStreet$Words;)V -/
def wX0_test_48 (rc : Nat → (gY → gH → Prop) → (Nat → gY → gH → Prop) → gY → gH → Nat → Prop) (ad : Nat → Nat) (K : gY → gH → Prop) (E : Nat → gY → gH → Prop) (Y : gY) (h : gH) (x1 : Nat) (s0 : Int32) : Prop := ((s0 = 0 → (K Y h)) ∧ (¬ s0 = 0 → (wpX0_goes ad (fun Y_3 h_4 => (rc 3 (fun Y_6 h_7 => ((∃ fs_11 : List Value, h_7 x1 = some (.inr (7, fs_11))) ∧ wpX12_add (fun Y_9 h_10 => (K Y_9 h_10)) Y_6 h_7 x1 s0 (0 : Int32))) E Y_3 h_4 x1)) E Y h)))
def bpX0_test (rc : Nat → (gY → gH → Prop) → (Nat → gY → gH → Prop) → gY → gH → Nat → Prop) (ad : Nat → Nat) (K : gY → gH → Prop) (E : Nat → gY → gH → Prop) (Y : gY) (h : gH) (a1 : Nat) : Prop := rc 3 (fun Y_13 h_14 => (wpX0_isSign ad (fun r_15 Y_16 h_17 => (((r_15 = 0 → (wpX0_isSign ad (fun r_19 Y_20 h_21 => (((r_19 = 0 → (wpX0_isSign ad (fun r_23 Y_24 h_25 => (((r_23 = 0 → (wX0_test_48 rc ad K E Y_24 h_25 a1 0)) ∧ (¬ r_23 = 0 → (wX0_test_48 rc ad K E Y_24 h_25 a1 9))))) Y_20 h_21 (62 : Int32))) ∧ (¬ r_19 = 0 → (wX0_test_48 rc ad K E Y_20 h_21 a1 8))))) Y_16 h_17 (61 : Int32))) ∧ (¬ r_15 = 0 → (wX0_test_48 rc ad K E Y_16 h_17 a1 7))))) Y_13 h_14 (60 : Int32))) E Y h a1
theorem kX0_test_48 {rc : Nat → (gY → gH → Prop) → (Nat → gY → gH → Prop) → gY → gH → Nat → Prop} {d : Nat} {K : gY → gH → Prop} {E : Nat → gY → gH → Prop} (SX : gStX l (rgX0 (d + 1)) cX0_test RX0 "test" 3 none G cL o ad (fun _ => none) (fun (_ : Unit) Y h => K Y h) E 0 0 J) (hC : cOK G) (ih0 : ∀ (K : gY → gH → Prop) (E : Nat → gY → gH → Prop) (Y : gY) (h : gH) (a1 : Nat), rc 0 K E Y h a1 → gMetX l yX0_or (ws_ yX0_or cX0_or 2 none) (rgX0 d) G cL o ad [.ref o, .ref a1] (fun _ => none) (fun (_ : Unit) Y h => K Y h) E 0 0 Y h) (ih1 : ∀ (K : gY → gH → Prop) (E : Nat → gY → gH → Prop) (Y : gY) (h : gH) (a1 : Nat), rc 1 K E Y h a1 → gMetX l yX0_and (ws_ yX0_and cX0_and 2 none) (rgX0 d) G cL o ad [.ref o, .ref a1] (fun _ => none) (fun (_ : Unit) Y h => K Y h) E 0 0 Y h) (ih2 : ∀ (K : gY → gH → Prop) (E : Nat → gY → gH → Prop) (Y : gY) (h : gH) (a1 : Nat), rc 2 K E Y h a1 → gMetX l yX0_test (ws_ yX0_test cX0_test 3 none) (rgX0 d) G cL o ad [.ref o, .ref a1] (fun _ => none) (fun (_ : Unit) Y h => K Y h) E 0 0 Y h) (ih3 : ∀ (K : gY → gH → Prop) (E : Nat → gY → gH → Prop) (Y : gY) (h : gH) (a1 : Nat), rc 3 K E Y h a1 → gMetX l yX0_sum (ws_ yX0_sum cX0_sum 3 none) (rgX0 d) G cL o ad [.ref o, .ref a1] (fun _ => none) (fun (_ : Unit) Y h => K Y h) E 0 0 Y h) (ih4 : ∀ (K : gY → gH → Prop) (E : Nat → gY → gH → Prop) (Y : gY) (h : gH) (a1 : Nat), rc 4 K E Y h a1 → gMetX l yX0_term (ws_ yX0_term cX0_term 3 none) (rgX0 d) G cL o ad [.ref o, .ref a1] (fun _ => none) (fun (_ : Unit) Y h => K Y h) E 0 0 Y h) (ih5 : ∀ (K : gY → gH → Prop) (E : Nat → gY → gH → Prop) (Y : gY) (h : gH) (a1 : Nat), rc 5 K E Y h a1 → gMetX l yX0_piece (ws_ yX0_piece cX0_piece 2 none) (rgX0 d) G cL o ad [.ref o, .ref a1] (fun _ => none) (fun (_ : Unit) Y h => K Y h) E 0 0 Y h) {Y : gY} {h : gH} {x1 : Nat} {s0 : Int32} (hw : wX0_test_48 rc ad K E Y h x1 s0) : J Y h 0 0 48 [some (.ref o), some (.ref x1), none] [.int s0] := by
  have S := SX.st
  unfold wX0_test_48 at hw
  refine j_ist2 (pc := 48) S dX0_test_48 rfl rfl ?_
  refine j_ild2 (pc := 49) S dX0_test_49 ?_
  refine j_if_eq (pc := 50) (tgt := 68) S dX0_test_50 rfl (fun c_1 => ?_) (fun c_1 => ?_)
  · have hw := hw.1 c_1
    exact j_vret (pc := 68) S (Nat.le_refl _) (Nat.le_refl _) dX0_test_68 hw
  · have hw := hw.2 c_1
    refine j_ald0 (pc := 53) S dX0_test_53 ?_
    refine x_callXVv (pc := 54) SX rfl rfl 0 (wkX0_goes hC hw) (lw_V q352 q354 qs3 q79 q355) rfl rfl ydX0_goes (rg0_f rfl) (rg0_l rfl) c_recv rfl rfl rfl dX0_test_54 (Nat.le_refl _) (Nat.le_refl _) (fun Y_3 h_4 hw => ?_)
    refine j_ald0 (pc := 57) S dX0_test_57 ?_
    refine j_ald1 (pc := 58) S dX0_test_58 ?_
    refine x_callXVv (pc := 59) SX rfl rfl 1 (ih3 _ _ _ _ _ hw) (lw_V q460 q462 qs11 q79 q463) rfl rfl ydX0_sum rg0_fG (rg0_lG rfl) c_recv rfl rfl rfl dX0_test_59 (Nat.le_refl _) (Nat.le_refl _) (fun Y_6 h_7 hw => ?_)
    refine j_ald1 (pc := 62) S dX0_test_62 ?_
    refine j_ild2 (pc := 63) S dX0_test_63 ?_
    refine j_iconst (pc := 64) (v := 0) S dX0_test_64 rfl ?_
    obtain ⟨⟨fs_11, ha⟩, hw⟩ := hw
    refine x_callVv (pc := 65) S 2 (wkX12_add hC hw) (lw_V q476 q477 q478 q102 q479) rfl rfl ydX12_add (rg0_f rfl) (rg0_l rfl) (h_recv ha rfl rfl) rfl rfl rfl dX0_test_65 (Nat.le_refl _) (Nat.le_refl _) (fun Y_9 h_10 hw => ?_)
    exact j_vret (pc := 68) S (Nat.le_refl _) (Nat.le_refl _) dX0_test_68 hw
theorem bkX0_test {rc : Nat → (gY → gH → Prop) → (Nat → gY → gH → Prop) → gY → gH → Nat → Prop} {d : Nat} (hC : cOK G) {K : gY → gH → Prop} {E : Nat → gY → gH → Prop} {Y : gY} {h : gH} {a1 : Nat} (ih0 : ∀ (K : gY → gH → Prop) (E : Nat → gY → gH → Prop) (Y : gY) (h : gH) (a1 : Nat), rc 0 K E Y h a1 → gMetX l yX0_or (ws_ yX0_or cX0_or 2 none) (rgX0 d) G cL o ad [.ref o, .ref a1] (fun _ => none) (fun (_ : Unit) Y h => K Y h) E 0 0 Y h) (ih1 : ∀ (K : gY → gH → Prop) (E : Nat → gY → gH → Prop) (Y : gY) (h : gH) (a1 : Nat), rc 1 K E Y h a1 → gMetX l yX0_and (ws_ yX0_and cX0_and 2 none) (rgX0 d) G cL o ad [.ref o, .ref a1] (fun _ => none) (fun (_ : Unit) Y h => K Y h) E 0 0 Y h) (ih2 : ∀ (K : gY → gH → Prop) (E : Nat → gY → gH → Prop) (Y : gY) (h : gH) (a1 : Nat), rc 2 K E Y h a1 → gMetX l yX0_test (ws_ yX0_test cX0_test 3 none) (rgX0 d) G cL o ad [.ref o, .ref a1] (fun _ => none) (fun (_ : Unit) Y h => K Y h) E 0 0 Y h) (ih3 : ∀ (K : gY → gH → Prop) (E : Nat → gY → gH → Prop) (Y : gY) (h : gH) (a1 : Nat), rc 3 K E Y h a1 → gMetX l yX0_sum (ws_ yX0_sum cX0_sum 3 none) (rgX0 d) G cL o ad [.ref o, .ref a1] (fun _ => none) (fun (_ : Unit) Y h => K Y h) E 0 0 Y h) (ih4 : ∀ (K : gY → gH → Prop) (E : Nat → gY → gH → Prop) (Y : gY) (h : gH) (a1 : Nat), rc 4 K E Y h a1 → gMetX l yX0_term (ws_ yX0_term cX0_term 3 none) (rgX0 d) G cL o ad [.ref o, .ref a1] (fun _ => none) (fun (_ : Unit) Y h => K Y h) E 0 0 Y h) (ih5 : ∀ (K : gY → gH → Prop) (E : Nat → gY → gH → Prop) (Y : gY) (h : gH) (a1 : Nat), rc 5 K E Y h a1 → gMetX l yX0_piece (ws_ yX0_piece cX0_piece 2 none) (rgX0 d) G cL o ad [.ref o, .ref a1] (fun _ => none) (fun (_ : Unit) Y h => K Y h) E 0 0 Y h) (hw : bpX0_test rc ad K E Y h a1) : gMetX l yX0_test (ws_ yX0_test cX0_test 3 none) (rgX0 (d + 1)) G cL o ad [.ref o, .ref a1] (fun _ => none) (fun (_ : Unit) Y h => K Y h) E 0 0 Y h := by
  refine gMetX.in (lv := [some (.ref o), some (.ref a1), none]) (by decide) rfl rfl (fun J SX => ?_)
  have SX : gStX l (rgX0 (d + 1)) cX0_test RX0 "test" 3 none G cL o ad (fun _ => none) (fun (_ : Unit) Y h => K Y h) E 0 0 J := SX
  have S := SX.st
  unfold bpX0_test at hw
  refine j_ald0 (pc := 0) S dX0_test_0 ?_
  refine j_ald1 (pc := 1) S dX0_test_1 ?_
  refine x_callXVv (pc := 2) SX rfl rfl 1 (ih3 _ _ _ _ _ hw) (lw_V q460 q462 qs11 q79 q463) rfl rfl ydX0_sum rg0_fG (rg0_lG rfl) c_recv rfl rfl rfl dX0_test_2 (Nat.le_refl _) (Nat.le_refl _) (fun Y_13 h_14 hw => ?_)
  refine j_ald0 (pc := 5) S dX0_test_5 ?_
  refine j_bipush (pc := 6) (v := 60) S dX0_test_6 rfl ?_
  refine x_callVi (pc := 8) S 1 (wkX0_isSign hC hw) (lw_V q472 q474 qs14 q79 q475) rfl rfl ydX0_isSign (rg0_f rfl) (rg0_l rfl) c_recv rfl rfl rfl dX0_test_8 (Nat.le_refl _) (Nat.le_refl _) (fun r_15 Y_16 h_17 hw => ?_)
  refine j_if_eq (pc := 11) (tgt := 19) S dX0_test_11 rfl (fun c_18 => ?_) (fun c_18 => ?_)
  · have hw := hw.1 c_18
    refine j_ald0 (pc := 19) S dX0_test_19 ?_
    refine j_bipush (pc := 20) (v := 61) S dX0_test_20 rfl ?_
    refine x_callVi (pc := 22) S 1 (wkX0_isSign hC hw) (lw_V q472 q474 qs14 q79 q475) rfl rfl ydX0_isSign (rg0_f rfl) (rg0_l rfl) c_recv rfl rfl rfl dX0_test_22 (Nat.le_refl _) (Nat.le_refl _) (fun r_19 Y_20 h_21 hw => ?_)
    refine j_if_eq (pc := 25) (tgt := 33) S dX0_test_25 rfl (fun c_22 => ?_) (fun c_22 => ?_)
    · have hw := hw.1 c_22
      refine j_ald0 (pc := 33) S dX0_test_33 ?_
      refine j_bipush (pc := 34) (v := 62) S dX0_test_34 rfl ?_
      refine x_callVi (pc := 36) S 1 (wkX0_isSign hC hw) (lw_V q472 q474 qs14 q79 q475) rfl rfl ydX0_isSign (rg0_f rfl) (rg0_l rfl) c_recv rfl rfl rfl dX0_test_36 (Nat.le_refl _) (Nat.le_refl _) (fun r_23 Y_24 h_25 hw => ?_)
      refine j_if_eq (pc := 39) (tgt := 47) S dX0_test_39 rfl (fun c_26 => ?_) (fun c_26 => ?_)
      · have hw := hw.1 c_26
        refine j_iconst (pc := 47) (v := 0) S dX0_test_47 rfl ?_
        exact j_sub S (kX0_test_48 SX hC ih0 ih1 ih2 ih3 ih4 ih5 hw) (gle_s (gle_s (gle_n gle_0)))
      · have hw := hw.2 c_26
        refine j_bipush (pc := 42) (v := 9) S dX0_test_42 rfl ?_
        refine j_goto (pc := 44) (tgt := 48) S dX0_test_44 rfl ?_
        exact j_sub S (kX0_test_48 SX hC ih0 ih1 ih2 ih3 ih4 ih5 hw) (gle_s (gle_s (gle_n gle_0)))
    · have hw := hw.2 c_22
      refine j_bipush (pc := 28) (v := 8) S dX0_test_28 rfl ?_
      refine j_goto (pc := 30) (tgt := 48) S dX0_test_30 rfl ?_
      exact j_sub S (kX0_test_48 SX hC ih0 ih1 ih2 ih3 ih4 ih5 hw) (gle_s (gle_s (gle_n gle_0)))
  · have hw := hw.2 c_18
    refine j_bipush (pc := 14) (v := 7) S dX0_test_14 rfl ?_
    refine j_goto (pc := 16) (tgt := 48) S dX0_test_16 rfl ?_
    exact j_sub S (kX0_test_48 SX hC ih0 ih1 ih2 ih3 ih4 ih5 hw) (gle_s (gle_s (gle_n gle_0)))
/-! LeaningStreet.sum(LLeaningStreet$Words;)V -/
def wX0_sum_38 (rc : Nat → (gY → gH → Prop) → (Nat → gY → gH → Prop) → gY → gH → Nat → Prop) (ad : Nat → Nat) (K : gY → gH → Prop) (E : Nat → gY → gH → Prop) (J5 : gY → gH → Nat → Prop) (Y : gY) (h : gH) (x1 : Nat) (s0 : Int32) : Prop := wpX0_goes ad (fun Y_2 h_3 => (rc 4 (fun Y_5 h_6 => ((∃ fs_10 : List Value, h_6 x1 = some (.inr (7, fs_10))) ∧ wpX12_add (fun Y_8 h_9 => (J5 Y_8 h_9 x1)) Y_5 h_6 x1 s0 (0 : Int32))) E Y_2 h_3 x1)) E Y h
def wX0_sum_23 (rc : Nat → (gY → gH → Prop) → (Nat → gY → gH → Prop) → gY → gH → Nat → Prop) (ad : Nat → Nat) (K : gY → gH → Prop) (E : Nat → gY → gH → Prop) (J5 : gY → gH → Nat → Prop) (Y : gY) (h : gH) (x1 : Nat) : Prop := wpX0_isSign ad (fun r_11 Y_12 h_13 => (((r_11 = 0 → (wX0_sum_38 rc ad K E J5 Y_12 h_13 x1 6)) ∧ (¬ r_11 = 0 → (wX0_sum_38 rc ad K E J5 Y_12 h_13 x1 5))))) Y h (43 : Int32)
def wX0_sum_5 (rc : Nat → (gY → gH → Prop) → (Nat → gY → gH → Prop) → gY → gH → Nat → Prop) (ad : Nat → Nat) (K : gY → gH → Prop) (E : Nat → gY → gH → Prop) : Nat → gY → gH → Nat → Prop
  | 0 => fun _ _ _ => False
  | n + 1 => fun Y h x1 => wpX0_isSign ad (fun r_15 Y_16 h_17 => (((¬ r_15 = 0 → (wX0_sum_23 rc ad K E (wX0_sum_5 rc ad K E n) Y_16 h_17 x1)) ∧ (r_15 = 0 → (wpX0_isSign ad (fun r_19 Y_20 h_21 => (((r_19 = 0 → (K Y_20 h_21)) ∧ (¬ r_19 = 0 → (wX0_sum_23 rc ad K E (wX0_sum_5 rc ad K E n) Y_20 h_21 x1))))) Y_16 h_17 (45 : Int32)))))) Y h (43 : Int32)
def bpX0_sum (rc : Nat → (gY → gH → Prop) → (Nat → gY → gH → Prop) → gY → gH → Nat → Prop) (ad : Nat → Nat) (K : gY → gH → Prop) (E : Nat → gY → gH → Prop) (Y : gY) (h : gH) (a1 : Nat) : Prop := rc 4 (fun Y_24 h_25 => (∃ fu_26 : Nat, wX0_sum_5 rc ad K E fu_26 Y_24 h_25 a1)) E Y h a1
theorem kX0_sum_38 {rc : Nat → (gY → gH → Prop) → (Nat → gY → gH → Prop) → gY → gH → Nat → Prop} {d : Nat} {K : gY → gH → Prop} {E : Nat → gY → gH → Prop} (SX : gStX l (rgX0 (d + 1)) cX0_sum RX0 "sum" 3 none G cL o ad (fun _ => none) (fun (_ : Unit) Y h => K Y h) E 0 0 J) (hC : cOK G) {J5 : gY → gH → Nat → Prop} (h5 : ∀ (Y : gY) (h : gH) (x1 : Nat), J5 Y h x1 → J Y h 0 0 5 [some (.ref o), some (.ref x1), none] []) (ih0 : ∀ (K : gY → gH → Prop) (E : Nat → gY → gH → Prop) (Y : gY) (h : gH) (a1 : Nat), rc 0 K E Y h a1 → gMetX l yX0_or (ws_ yX0_or cX0_or 2 none) (rgX0 d) G cL o ad [.ref o, .ref a1] (fun _ => none) (fun (_ : Unit) Y h => K Y h) E 0 0 Y h) (ih1 : ∀ (K : gY → gH → Prop) (E : Nat → gY → gH → Prop) (Y : gY) (h : gH) (a1 : Nat), rc 1 K E Y h a1 → gMetX l yX0_and (ws_ yX0_and cX0_and 2 none) (rgX0 d) G cL o ad [.ref o, .ref a1] (fun _ => none) (fun (_ : Unit) Y h => K Y h) E 0 0 Y h) (ih2 : ∀ (K : gY → gH → Prop) (E : Nat → gY → gH → Prop) (Y : gY) (h : gH) (a1 : Nat), rc 2 K E Y h a1 → gMetX l yX0_test (ws_ yX0_test cX0_test 3 none) (rgX0 d) G cL o ad [.ref o, .ref a1] (fun _ => none) (fun (_ : Unit) Y h => K Y h) E 0 0 Y h) (ih3 : ∀ (K : gY → gH → Prop) (E : Nat → gY → gH → Prop) (Y : gY) (h : gH) (a1 : Nat), rc 3 K E Y h a1 → gMetX l yX0_sum (ws_ yX0_sum cX0_sum 3 none) (rgX0 d) G cL o ad [.ref o, .ref a1] (fun _ => none) (fun (_ : Unit) Y h => K Y h) E 0 0 Y h) (ih4 : ∀ (K : gY → gH → Prop) (E : Nat → gY → gH → Prop) (Y : gY) (h : gH) (a1 : Nat), rc 4 K E Y h a1 → gMetX l yX0_term (ws_ yX0_term cX0_term 3 none) (rgX0 d) G cL o ad [.ref o, .ref a1] (fun _ => none) (fun (_ : Unit) Y h => K Y h) E 0 0 Y h) (ih5 : ∀ (K : gY → gH → Prop) (E : Nat → gY → gH → Prop) (Y : gY) (h : gH) (a1 : Nat), rc 5 K E Y h a1 → gMetX l yX0_piece (ws_ yX0_piece cX0_piece 2 none) (rgX0 d) G cL o ad [.ref o, .ref a1] (fun _ => none) (fun (_ : Unit) Y h => K Y h) E 0 0 Y h) {Y : gY} {h : gH} {x1 : Nat} {s0 : Int32} (hw : wX0_sum_38 rc ad K E J5 Y h x1 s0) : J Y h 0 0 38 [some (.ref o), some (.ref x1), none] [.int s0] := by
  have S := SX.st
  unfold wX0_sum_38 at hw
  refine j_ist2 (pc := 38) S dX0_sum_38 rfl rfl ?_
  refine j_ald0 (pc := 39) S dX0_sum_39 ?_
  refine x_callXVv (pc := 40) SX rfl rfl 0 (wkX0_goes hC hw) (lw_V q352 q354 qs3 q79 q355) rfl rfl ydX0_goes (rg0_f rfl) (rg0_l rfl) c_recv rfl rfl rfl dX0_sum_40 (Nat.le_refl _) (Nat.le_refl _) (fun Y_2 h_3 hw => ?_)
  refine j_ald0 (pc := 43) S dX0_sum_43 ?_
  refine j_ald1 (pc := 44) S dX0_sum_44 ?_
  refine x_callXVv (pc := 45) SX rfl rfl 1 (ih4 _ _ _ _ _ hw) (lw_V q464 q466 qs12 q79 q467) rfl rfl ydX0_term rg0_fG (rg0_lG rfl) c_recv rfl rfl rfl dX0_sum_45 (Nat.le_refl _) (Nat.le_refl _) (fun Y_5 h_6 hw => ?_)
  refine j_ald1 (pc := 48) S dX0_sum_48 ?_
  refine j_ild2 (pc := 49) S dX0_sum_49 ?_
  refine j_iconst (pc := 50) (v := 0) S dX0_sum_50 rfl ?_
  obtain ⟨⟨fs_10, ha⟩, hw⟩ := hw
  refine x_callVv (pc := 51) S 2 (wkX12_add hC hw) (lw_V q476 q477 q478 q102 q479) rfl rfl ydX12_add (rg0_f rfl) (rg0_l rfl) (h_recv ha rfl rfl) rfl rfl rfl dX0_sum_51 (Nat.le_refl _) (Nat.le_refl _) (fun Y_8 h_9 hw => ?_)
  refine j_goto (pc := 54) (tgt := 5) S dX0_sum_54 rfl ?_
  exact j_sub S (h5 _ _ _ hw) (gle_s (gle_s (gle_n gle_0)))
theorem kX0_sum_23 {rc : Nat → (gY → gH → Prop) → (Nat → gY → gH → Prop) → gY → gH → Nat → Prop} {d : Nat} {K : gY → gH → Prop} {E : Nat → gY → gH → Prop} (SX : gStX l (rgX0 (d + 1)) cX0_sum RX0 "sum" 3 none G cL o ad (fun _ => none) (fun (_ : Unit) Y h => K Y h) E 0 0 J) (hC : cOK G) {J5 : gY → gH → Nat → Prop} (h5 : ∀ (Y : gY) (h : gH) (x1 : Nat), J5 Y h x1 → J Y h 0 0 5 [some (.ref o), some (.ref x1), none] []) (ih0 : ∀ (K : gY → gH → Prop) (E : Nat → gY → gH → Prop) (Y : gY) (h : gH) (a1 : Nat), rc 0 K E Y h a1 → gMetX l yX0_or (ws_ yX0_or cX0_or 2 none) (rgX0 d) G cL o ad [.ref o, .ref a1] (fun _ => none) (fun (_ : Unit) Y h => K Y h) E 0 0 Y h) (ih1 : ∀ (K : gY → gH → Prop) (E : Nat → gY → gH → Prop) (Y : gY) (h : gH) (a1 : Nat), rc 1 K E Y h a1 → gMetX l yX0_and (ws_ yX0_and cX0_and 2 none) (rgX0 d) G cL o ad [.ref o, .ref a1] (fun _ => none) (fun (_ : Unit) Y h => K Y h) E 0 0 Y h) (ih2 : ∀ (K : gY → gH → Prop) (E : Nat → gY → gH → Prop) (Y : gY) (h : gH) (a1 : Nat), rc 2 K E Y h a1 → gMetX l yX0_test (ws_ yX0_test cX0_test 3 none) (rgX0 d) G cL o ad [.ref o, .ref a1] (fun _ => none) (fun (_ : Unit) Y h => K Y h) E 0 0 Y h) (ih3 : ∀ (K : gY → gH → Prop) (E : Nat → gY → gH → Prop) (Y : gY) (h : gH) (a1 : Nat), rc 3 K E Y h a1 → gMetX l yX0_sum (ws_ yX0_sum cX0_sum 3 none) (rgX0 d) G cL o ad [.ref o, .ref a1] (fun _ => none) (fun (_ : Unit) Y h => K Y h) E 0 0 Y h) (ih4 : ∀ (K : gY → gH → Prop) (E : Nat → gY → gH → Prop) (Y : gY) (h : gH) (a1 : Nat), rc 4 K E Y h a1 → gMetX l yX0_term (ws_ yX0_term cX0_term 3 none) (rgX0 d) G cL o ad [.ref o, .ref a1] (fun _ => none) (fun (_ : Unit) Y h => K Y h) E 0 0 Y h) (ih5 : ∀ (K : gY → gH → Prop) (E : Nat → gY → gH → Prop) (Y : gY) (h : gH) (a1 : Nat), rc 5 K E Y h a1 → gMetX l yX0_piece (ws_ yX0_piece cX0_piece 2 none) (rgX0 d) G cL o ad [.ref o, .ref a1] (fun _ => none) (fun (_ : Unit) Y h => K Y h) E 0 0 Y h) {Y : gY} {h : gH} {x1 : Nat} (hw : wX0_sum_23 rc ad K E J5 Y h x1) : J Y h 0 0 23 [some (.ref o), some (.ref x1), none] [] := by
  have S := SX.st
  unfold wX0_sum_23 at hw
  refine j_ald0 (pc := 23) S dX0_sum_23 ?_
  refine j_bipush (pc := 24) (v := 43) S dX0_sum_24 rfl ?_
  refine x_callVi (pc := 26) S 1 (wkX0_isSign hC hw) (lw_V q472 q474 qs14 q79 q475) rfl rfl ydX0_isSign (rg0_f rfl) (rg0_l rfl) c_recv rfl rfl rfl dX0_sum_26 (Nat.le_refl _) (Nat.le_refl _) (fun r_11 Y_12 h_13 hw => ?_)
  refine j_if_eq (pc := 29) (tgt := 36) S dX0_sum_29 rfl (fun c_14 => ?_) (fun c_14 => ?_)
  · have hw := hw.1 c_14
    refine j_bipush (pc := 36) (v := 6) S dX0_sum_36 rfl ?_
    exact j_sub S (kX0_sum_38 SX hC h5 ih0 ih1 ih2 ih3 ih4 ih5 hw) (gle_s (gle_s (gle_n gle_0)))
  · have hw := hw.2 c_14
    refine j_iconst (pc := 32) (v := 5) S dX0_sum_32 rfl ?_
    refine j_goto (pc := 33) (tgt := 38) S dX0_sum_33 rfl ?_
    exact j_sub S (kX0_sum_38 SX hC h5 ih0 ih1 ih2 ih3 ih4 ih5 hw) (gle_s (gle_s (gle_n gle_0)))
theorem kX0_sum_5 {rc : Nat → (gY → gH → Prop) → (Nat → gY → gH → Prop) → gY → gH → Nat → Prop} {d : Nat} {K : gY → gH → Prop} {E : Nat → gY → gH → Prop} (SX : gStX l (rgX0 (d + 1)) cX0_sum RX0 "sum" 3 none G cL o ad (fun _ => none) (fun (_ : Unit) Y h => K Y h) E 0 0 J) (hC : cOK G) (ih0 : ∀ (K : gY → gH → Prop) (E : Nat → gY → gH → Prop) (Y : gY) (h : gH) (a1 : Nat), rc 0 K E Y h a1 → gMetX l yX0_or (ws_ yX0_or cX0_or 2 none) (rgX0 d) G cL o ad [.ref o, .ref a1] (fun _ => none) (fun (_ : Unit) Y h => K Y h) E 0 0 Y h) (ih1 : ∀ (K : gY → gH → Prop) (E : Nat → gY → gH → Prop) (Y : gY) (h : gH) (a1 : Nat), rc 1 K E Y h a1 → gMetX l yX0_and (ws_ yX0_and cX0_and 2 none) (rgX0 d) G cL o ad [.ref o, .ref a1] (fun _ => none) (fun (_ : Unit) Y h => K Y h) E 0 0 Y h) (ih2 : ∀ (K : gY → gH → Prop) (E : Nat → gY → gH → Prop) (Y : gY) (h : gH) (a1 : Nat), rc 2 K E Y h a1 → gMetX l yX0_test (ws_ yX0_test cX0_test 3 none) (rgX0 d) G cL o ad [.ref o, .ref a1] (fun _ => none) (fun (_ : Unit) Y h => K Y h) E 0 0 Y h) (ih3 : ∀ (K : gY → gH → Prop) (E : Nat → gY → gH → Prop) (Y : gY) (h : gH) (a1 : Nat), rc 3 K E Y h a1 → gMetX l yX0_sum (ws_ yX0_sum cX0_sum 3 none) (rgX0 d) G cL o ad [.ref o, .ref a1] (fun _ => none) (fun (_ : Unit) Y h => K Y h) E 0 0 Y h) (ih4 : ∀ (K : gY → gH → Prop) (E : Nat → gY → gH → Prop) (Y : gY) (h : gH) (a1 : Nat), rc 4 K E Y h a1 → gMetX l yX0_term (ws_ yX0_term cX0_term 3 none) (rgX0 d) G cL o ad [.ref o, .ref a1] (fun _ => none) (fun (_ : Unit) Y h => K Y h) E 0 0 Y h) (ih5 : ∀ (K : gY → gH → Prop) (E : Nat → gY → gH → Prop) (Y : gY) (h : gH) (a1 : Nat), rc 5 K E Y h a1 → gMetX l yX0_piece (ws_ yX0_piece cX0_piece 2 none) (rgX0 d) G cL o ad [.ref o, .ref a1] (fun _ => none) (fun (_ : Unit) Y h => K Y h) E 0 0 Y h) : ∀ (n : Nat) (Y : gY) (h : gH) (x1 : Nat), wX0_sum_5 rc ad K E n Y h x1 → J Y h 0 0 5 [some (.ref o), some (.ref x1), none] [] := by
  intro n
  induction n with
  | zero => intro Y h x1 hw; exact hw.elim
  | succ n ih =>
    intro Y h x1 hw
    have S := SX.st
    unfold wX0_sum_5 at hw
    refine j_ald0 (pc := 5) S dX0_sum_5 ?_
    refine j_bipush (pc := 6) (v := 43) S dX0_sum_6 rfl ?_
    refine x_callVi (pc := 8) S 1 (wkX0_isSign hC hw) (lw_V q472 q474 qs14 q79 q475) rfl rfl ydX0_isSign (rg0_f rfl) (rg0_l rfl) c_recv rfl rfl rfl dX0_sum_8 (Nat.le_refl _) (Nat.le_refl _) (fun r_15 Y_16 h_17 hw => ?_)
    refine j_if_ne (pc := 11) (tgt := 23) S dX0_sum_11 rfl (fun c_18 => ?_) (fun c_18 => ?_)
    · have hw := hw.1 c_18
      exact j_sub S (kX0_sum_23 SX hC ih ih0 ih1 ih2 ih3 ih4 ih5 hw) (gle_s (gle_s (gle_n gle_0)))
    · have hw := hw.2 c_18
      refine j_ald0 (pc := 14) S dX0_sum_14 ?_
      refine j_bipush (pc := 15) (v := 45) S dX0_sum_15 rfl ?_
      refine x_callVi (pc := 17) S 1 (wkX0_isSign hC hw) (lw_V q472 q474 qs14 q79 q475) rfl rfl ydX0_isSign (rg0_f rfl) (rg0_l rfl) c_recv rfl rfl rfl dX0_sum_17 (Nat.le_refl _) (Nat.le_refl _) (fun r_19 Y_20 h_21 hw => ?_)
      refine j_if_eq (pc := 20) (tgt := 57) S dX0_sum_20 rfl (fun c_22 => ?_) (fun c_22 => ?_)
      · have hw := hw.1 c_22
        exact j_vret (pc := 57) S (Nat.le_refl _) (Nat.le_refl _) dX0_sum_57 hw
      · have hw := hw.2 c_22
        exact j_sub S (kX0_sum_23 SX hC ih ih0 ih1 ih2 ih3 ih4 ih5 hw) (gle_s (gle_s (gle_n gle_0)))
theorem bkX0_sum {rc : Nat → (gY → gH → Prop) → (Nat → gY → gH → Prop) → gY → gH → Nat → Prop} {d : Nat} (hC : cOK G) {K : gY → gH → Prop} {E : Nat → gY → gH → Prop} {Y : gY} {h : gH} {a1 : Nat} (ih0 : ∀ (K : gY → gH → Prop) (E : Nat → gY → gH → Prop) (Y : gY) (h : gH) (a1 : Nat), rc 0 K E Y h a1 → gMetX l yX0_or (ws_ yX0_or cX0_or 2 none) (rgX0 d) G cL o ad [.ref o, .ref a1] (fun _ => none) (fun (_ : Unit) Y h => K Y h) E 0 0 Y h) (ih1 : ∀ (K : gY → gH → Prop) (E : Nat → gY → gH → Prop) (Y : gY) (h : gH) (a1 : Nat), rc 1 K E Y h a1 → gMetX l yX0_and (ws_ yX0_and cX0_and 2 none) (rgX0 d) G cL o ad [.ref o, .ref a1] (fun _ => none) (fun (_ : Unit) Y h => K Y h) E 0 0 Y h) (ih2 : ∀ (K : gY → gH → Prop) (E : Nat → gY → gH → Prop) (Y : gY) (h : gH) (a1 : Nat), rc 2 K E Y h a1 → gMetX l yX0_test (ws_ yX0_test cX0_test 3 none) (rgX0 d) G cL o ad [.ref o, .ref a1] (fun _ => none) (fun (_ : Unit) Y h => K Y h) E 0 0 Y h) (ih3 : ∀ (K : gY → gH → Prop) (E : Nat → gY → gH → Prop) (Y : gY) (h : gH) (a1 : Nat), rc 3 K E Y h a1 → gMetX l yX0_sum (ws_ yX0_sum cX0_sum 3 none) (rgX0 d) G cL o ad [.ref o, .ref a1] (fun _ => none) (fun (_ : Unit) Y h => K Y h) E 0 0 Y h) (ih4 : ∀ (K : gY → gH → Prop) (E : Nat → gY → gH → Prop) (Y : gY) (h : gH) (a1 : Nat), rc 4 K E Y h a1 → gMetX l yX0_term (ws_ yX0_term cX0_term 3 none) (rgX0 d) G cL o ad [.ref o, .ref a1] (fun _ => none) (fun (_ : Unit) Y h => K Y h) E 0 0 Y h) (ih5 : ∀ (K : gY → gH → Prop) (E : Nat → gY → gH → Prop) (Y : gY) (h : gH) (a1 : Nat), rc 5 K E Y h a1 → gMetX l yX0_piece (ws_ yX0_piece cX0_piece 2 none) (rgX0 d) G cL o ad [.ref o, .ref a1] (fun _ => none) (fun (_ : Unit) Y h => K Y h) E 0 0 Y h) (hw : bpX0_sum rc ad K E Y h a1) : gMetX l yX0_sum (ws_ yX0_sum cX0_sum 3 none) (rgX0 (d + 1)) G cL o ad [.ref o, .ref a1] (fun _ => none) (fun (_ : Unit) Y h => K Y h) E 0 0 Y h := by
  refine gMetX.in (lv := [some (.ref o), some (.ref a1), none]) (by decide) rfl rfl (fun J SX => ?_)
  have SX : gStX l (rgX0 (d + 1)) cX0_sum RX0 "sum" 3 none G cL o ad (fun _ => none) (fun (_ : Unit) Y h => K Y h) E 0 0 J := SX
  have S := SX.st
  unfold bpX0_sum at hw
  refine j_ald0 (pc := 0) S dX0_sum_0 ?_
  refine j_ald1 (pc := 1) S dX0_sum_1 ?_
  refine x_callXVv (pc := 2) SX rfl rfl 1 (ih4 _ _ _ _ _ hw) (lw_V q464 q466 qs12 q79 q467) rfl rfl ydX0_term rg0_fG (rg0_lG rfl) c_recv rfl rfl rfl dX0_sum_2 (Nat.le_refl _) (Nat.le_refl _) (fun Y_24 h_25 hw => ?_)
  obtain ⟨fu_26, hw⟩ := hw
  exact j_sub S (kX0_sum_5 SX hC ih0 ih1 ih2 ih3 ih4 ih5 fu_26 _ _ _ hw) (gle_s (gle_s (gle_n gle_0)))
/-! LeaningStreet.term(LLeaningStreet$Words;)V -/
def wX0_term_38 (rc : Nat → (gY → gH → Prop) → (Nat → gY → gH → Prop) → gY → gH → Nat → Prop) (ad : Nat → Nat) (K : gY → gH → Prop) (E : Nat → gY → gH → Prop) (J5 : gY → gH → Nat → Prop) (Y : gY) (h : gH) (x1 : Nat) (s0 : Int32) : Prop := wpX0_goes ad (fun Y_2 h_3 => (rc 5 (fun Y_5 h_6 => ((∃ fs_10 : List Value, h_6 x1 = some (.inr (7, fs_10))) ∧ wpX12_add (fun Y_8 h_9 => (J5 Y_8 h_9 x1)) Y_5 h_6 x1 s0 (0 : Int32))) E Y_2 h_3 x1)) E Y h
def wX0_term_23 (rc : Nat → (gY → gH → Prop) → (Nat → gY → gH → Prop) → gY → gH → Nat → Prop) (ad : Nat → Nat) (K : gY → gH → Prop) (E : Nat → gY → gH → Prop) (J5 : gY → gH → Nat → Prop) (Y : gY) (h : gH) (x1 : Nat) : Prop := wpX0_isSign ad (fun r_11 Y_12 h_13 => (((r_11 = 0 → (wX0_term_38 rc ad K E J5 Y_12 h_13 x1 12)) ∧ (¬ r_11 = 0 → (wX0_term_38 rc ad K E J5 Y_12 h_13 x1 4))))) Y h (42 : Int32)
def wX0_term_5 (rc : Nat → (gY → gH → Prop) → (Nat → gY → gH → Prop) → gY → gH → Nat → Prop) (ad : Nat → Nat) (K : gY → gH → Prop) (E : Nat → gY → gH → Prop) : Nat → gY → gH → Nat → Prop
  | 0 => fun _ _ _ => False
  | n + 1 => fun Y h x1 => wpX0_isSign ad (fun r_15 Y_16 h_17 => (((¬ r_15 = 0 → (wX0_term_23 rc ad K E (wX0_term_5 rc ad K E n) Y_16 h_17 x1)) ∧ (r_15 = 0 → (wpX0_isSign ad (fun r_19 Y_20 h_21 => (((r_19 = 0 → (K Y_20 h_21)) ∧ (¬ r_19 = 0 → (wX0_term_23 rc ad K E (wX0_term_5 rc ad K E n) Y_20 h_21 x1))))) Y_16 h_17 (47 : Int32)))))) Y h (42 : Int32)
def bpX0_term (rc : Nat → (gY → gH → Prop) → (Nat → gY → gH → Prop) → gY → gH → Nat → Prop) (ad : Nat → Nat) (K : gY → gH → Prop) (E : Nat → gY → gH → Prop) (Y : gY) (h : gH) (a1 : Nat) : Prop := rc 5 (fun Y_24 h_25 => (∃ fu_26 : Nat, wX0_term_5 rc ad K E fu_26 Y_24 h_25 a1)) E Y h a1
theorem kX0_term_38 {rc : Nat → (gY → gH → Prop) → (Nat → gY → gH → Prop) → gY → gH → Nat → Prop} {d : Nat} {K : gY → gH → Prop} {E : Nat → gY → gH → Prop} (SX : gStX l (rgX0 (d + 1)) cX0_term RX0 "term" 3 none G cL o ad (fun _ => none) (fun (_ : Unit) Y h => K Y h) E 0 0 J) (hC : cOK G) {J5 : gY → gH → Nat → Prop} (h5 : ∀ (Y : gY) (h : gH) (x1 : Nat), J5 Y h x1 → J Y h 0 0 5 [some (.ref o), some (.ref x1), none] []) (ih0 : ∀ (K : gY → gH → Prop) (E : Nat → gY → gH → Prop) (Y : gY) (h : gH) (a1 : Nat), rc 0 K E Y h a1 → gMetX l yX0_or (ws_ yX0_or cX0_or 2 none) (rgX0 d) G cL o ad [.ref o, .ref a1] (fun _ => none) (fun (_ : Unit) Y h => K Y h) E 0 0 Y h) (ih1 : ∀ (K : gY → gH → Prop) (E : Nat → gY → gH → Prop) (Y : gY) (h : gH) (a1 : Nat), rc 1 K E Y h a1 → gMetX l yX0_and (ws_ yX0_and cX0_and 2 none) (rgX0 d) G cL o ad [.ref o, .ref a1] (fun _ => none) (fun (_ : Unit) Y h => K Y h) E 0 0 Y h) (ih2 : ∀ (K : gY → gH → Prop) (E : Nat → gY → gH → Prop) (Y : gY) (h : gH) (a1 : Nat), rc 2 K E Y h a1 → gMetX l yX0_test (ws_ yX0_test cX0_test 3 none) (rgX0 d) G cL o ad [.ref o, .ref a1] (fun _ => none) (fun (_ : Unit) Y h => K Y h) E 0 0 Y h) (ih3 : ∀ (K : gY → gH → Prop) (E : Nat → gY → gH → Prop) (Y : gY) (h : gH) (a1 : Nat), rc 3 K E Y h a1 → gMetX l yX0_sum (ws_ yX0_sum cX0_sum 3 none) (rgX0 d) G cL o ad [.ref o, .ref a1] (fun _ => none) (fun (_ : Unit) Y h => K Y h) E 0 0 Y h) (ih4 : ∀ (K : gY → gH → Prop) (E : Nat → gY → gH → Prop) (Y : gY) (h : gH) (a1 : Nat), rc 4 K E Y h a1 → gMetX l yX0_term (ws_ yX0_term cX0_term 3 none) (rgX0 d) G cL o ad [.ref o, .ref a1] (fun _ => none) (fun (_ : Unit) Y h => K Y h) E 0 0 Y h) (ih5 : ∀ (K : gY → gH → Prop) (E : Nat → gY → gH → Prop) (Y : gY) (h : gH) (a1 : Nat), rc 5 K E Y h a1 → gMetX l yX0_piece (ws_ yX0_piece cX0_piece 2 none) (rgX0 d) G cL o ad [.ref o, .ref a1] (fun _ => none) (fun (_ : Unit) Y h => K Y h) E 0 0 Y h) {Y : gY} {h : gH} {x1 : Nat} {s0 : Int32} (hw : wX0_term_38 rc ad K E J5 Y h x1 s0) : J Y h 0 0 38 [some (.ref o), some (.ref x1), none] [.int s0] := by
  have S := SX.st
  unfold wX0_term_38 at hw
  refine j_ist2 (pc := 38) S dX0_term_38 rfl rfl ?_
  refine j_ald0 (pc := 39) S dX0_term_39 ?_
  refine x_callXVv (pc := 40) SX rfl rfl 0 (wkX0_goes hC hw) (lw_V q352 q354 qs3 q79 q355) rfl rfl ydX0_goes (rg0_f rfl) (rg0_l rfl) c_recv rfl rfl rfl dX0_term_40 (Nat.le_refl _) (Nat.le_refl _) (fun Y_2 h_3 hw => ?_)
  refine j_ald0 (pc := 43) S dX0_term_43 ?_
  refine j_ald1 (pc := 44) S dX0_term_44 ?_
  refine x_callXVv (pc := 45) SX rfl rfl 1 (ih5 _ _ _ _ _ hw) (lw_V q468 q470 qs13 q79 q471) rfl rfl ydX0_piece rg0_fG (rg0_lG rfl) c_recv rfl rfl rfl dX0_term_45 (Nat.le_refl _) (Nat.le_refl _) (fun Y_5 h_6 hw => ?_)
  refine j_ald1 (pc := 48) S dX0_term_48 ?_
  refine j_ild2 (pc := 49) S dX0_term_49 ?_
  refine j_iconst (pc := 50) (v := 0) S dX0_term_50 rfl ?_
  obtain ⟨⟨fs_10, ha⟩, hw⟩ := hw
  refine x_callVv (pc := 51) S 2 (wkX12_add hC hw) (lw_V q476 q477 q478 q102 q479) rfl rfl ydX12_add (rg0_f rfl) (rg0_l rfl) (h_recv ha rfl rfl) rfl rfl rfl dX0_term_51 (Nat.le_refl _) (Nat.le_refl _) (fun Y_8 h_9 hw => ?_)
  refine j_goto (pc := 54) (tgt := 5) S dX0_term_54 rfl ?_
  exact j_sub S (h5 _ _ _ hw) (gle_s (gle_s (gle_n gle_0)))
theorem kX0_term_23 {rc : Nat → (gY → gH → Prop) → (Nat → gY → gH → Prop) → gY → gH → Nat → Prop} {d : Nat} {K : gY → gH → Prop} {E : Nat → gY → gH → Prop} (SX : gStX l (rgX0 (d + 1)) cX0_term RX0 "term" 3 none G cL o ad (fun _ => none) (fun (_ : Unit) Y h => K Y h) E 0 0 J) (hC : cOK G) {J5 : gY → gH → Nat → Prop} (h5 : ∀ (Y : gY) (h : gH) (x1 : Nat), J5 Y h x1 → J Y h 0 0 5 [some (.ref o), some (.ref x1), none] []) (ih0 : ∀ (K : gY → gH → Prop) (E : Nat → gY → gH → Prop) (Y : gY) (h : gH) (a1 : Nat), rc 0 K E Y h a1 → gMetX l yX0_or (ws_ yX0_or cX0_or 2 none) (rgX0 d) G cL o ad [.ref o, .ref a1] (fun _ => none) (fun (_ : Unit) Y h => K Y h) E 0 0 Y h) (ih1 : ∀ (K : gY → gH → Prop) (E : Nat → gY → gH → Prop) (Y : gY) (h : gH) (a1 : Nat), rc 1 K E Y h a1 → gMetX l yX0_and (ws_ yX0_and cX0_and 2 none) (rgX0 d) G cL o ad [.ref o, .ref a1] (fun _ => none) (fun (_ : Unit) Y h => K Y h) E 0 0 Y h) (ih2 : ∀ (K : gY → gH → Prop) (E : Nat → gY → gH → Prop) (Y : gY) (h : gH) (a1 : Nat), rc 2 K E Y h a1 → gMetX l yX0_test (ws_ yX0_test cX0_test 3 none) (rgX0 d) G cL o ad [.ref o, .ref a1] (fun _ => none) (fun (_ : Unit) Y h => K Y h) E 0 0 Y h) (ih3 : ∀ (K : gY → gH → Prop) (E : Nat → gY → gH → Prop) (Y : gY) (h : gH) (a1 : Nat), rc 3 K E Y h a1 → gMetX l yX0_sum (ws_ yX0_sum cX0_sum 3 none) (rgX0 d) G cL o ad [.ref o, .ref a1] (fun _ => none) (fun (_ : Unit) Y h => K Y h) E 0 0 Y h) (ih4 : ∀ (K : gY → gH → Prop) (E : Nat → gY → gH → Prop) (Y : gY) (h : gH) (a1 : Nat), rc 4 K E Y h a1 → gMetX l yX0_term (ws_ yX0_term cX0_term 3 none) (rgX0 d) G cL o ad [.ref o, .ref a1] (fun _ => none) (fun (_ : Unit) Y h => K Y h) E 0 0 Y h) (ih5 : ∀ (K : gY → gH → Prop) (E : Nat → gY → gH → Prop) (Y : gY) (h : gH) (a1 : Nat), rc 5 K E Y h a1 → gMetX l yX0_piece (ws_ yX0_piece cX0_piece 2 none) (rgX0 d) G cL o ad [.ref o, .ref a1] (fun _ => none) (fun (_ : Unit) Y h => K Y h) E 0 0 Y h) {Y : gY} {h : gH} {x1 : Nat} (hw : wX0_term_23 rc ad K E J5 Y h x1) : J Y h 0 0 23 [some (.ref o), some (.ref x1), none] [] := by
  have S := SX.st
  unfold wX0_term_23 at hw
  refine j_ald0 (pc := 23) S dX0_term_23 ?_
  refine j_bipush (pc := 24) (v := 42) S dX0_term_24 rfl ?_
  refine x_callVi (pc := 26) S 1 (wkX0_isSign hC hw) (lw_V q472 q474 qs14 q79 q475) rfl rfl ydX0_isSign (rg0_f rfl) (rg0_l rfl) c_recv rfl rfl rfl dX0_term_26 (Nat.le_refl _) (Nat.le_refl _) (fun r_11 Y_12 h_13 hw => ?_)
  refine j_if_eq (pc := 29) (tgt := 36) S dX0_term_29 rfl (fun c_14 => ?_) (fun c_14 => ?_)
  · have hw := hw.1 c_14
    refine j_bipush (pc := 36) (v := 12) S dX0_term_36 rfl ?_
    exact j_sub S (kX0_term_38 SX hC h5 ih0 ih1 ih2 ih3 ih4 ih5 hw) (gle_s (gle_s (gle_n gle_0)))
  · have hw := hw.2 c_14
    refine j_iconst (pc := 32) (v := 4) S dX0_term_32 rfl ?_
    refine j_goto (pc := 33) (tgt := 38) S dX0_term_33 rfl ?_
    exact j_sub S (kX0_term_38 SX hC h5 ih0 ih1 ih2 ih3 ih4 ih5 hw) (gle_s (gle_s (gle_n gle_0)))
theorem kX0_term_5 {rc : Nat → (gY → gH → Prop) → (Nat → gY → gH → Prop) → gY → gH → Nat → Prop} {d : Nat} {K : gY → gH → Prop} {E : Nat → gY → gH → Prop} (SX : gStX l (rgX0 (d + 1)) cX0_term RX0 "term" 3 none G cL o ad (fun _ => none) (fun (_ : Unit) Y h => K Y h) E 0 0 J) (hC : cOK G) (ih0 : ∀ (K : gY → gH → Prop) (E : Nat → gY → gH → Prop) (Y : gY) (h : gH) (a1 : Nat), rc 0 K E Y h a1 → gMetX l yX0_or (ws_ yX0_or cX0_or 2 none) (rgX0 d) G cL o ad [.ref o, .ref a1] (fun _ => none) (fun (_ : Unit) Y h => K Y h) E 0 0 Y h) (ih1 : ∀ (K : gY → gH → Prop) (E : Nat → gY → gH → Prop) (Y : gY) (h : gH) (a1 : Nat), rc 1 K E Y h a1 → gMetX l yX0_and (ws_ yX0_and cX0_and 2 none) (rgX0 d) G cL o ad [.ref o, .ref a1] (fun _ => none) (fun (_ : Unit) Y h => K Y h) E 0 0 Y h) (ih2 : ∀ (K : gY → gH → Prop) (E : Nat → gY → gH → Prop) (Y : gY) (h : gH) (a1 : Nat), rc 2 K E Y h a1 → gMetX l yX0_test (ws_ yX0_test cX0_test 3 none) (rgX0 d) G cL o ad [.ref o, .ref a1] (fun _ => none) (fun (_ : Unit) Y h => K Y h) E 0 0 Y h) (ih3 : ∀ (K : gY → gH → Prop) (E : Nat → gY → gH → Prop) (Y : gY) (h : gH) (a1 : Nat), rc 3 K E Y h a1 → gMetX l yX0_sum (ws_ yX0_sum cX0_sum 3 none) (rgX0 d) G cL o ad [.ref o, .ref a1] (fun _ => none) (fun (_ : Unit) Y h => K Y h) E 0 0 Y h) (ih4 : ∀ (K : gY → gH → Prop) (E : Nat → gY → gH → Prop) (Y : gY) (h : gH) (a1 : Nat), rc 4 K E Y h a1 → gMetX l yX0_term (ws_ yX0_term cX0_term 3 none) (rgX0 d) G cL o ad [.ref o, .ref a1] (fun _ => none) (fun (_ : Unit) Y h => K Y h) E 0 0 Y h) (ih5 : ∀ (K : gY → gH → Prop) (E : Nat → gY → gH → Prop) (Y : gY) (h : gH) (a1 : Nat), rc 5 K E Y h a1 → gMetX l yX0_piece (ws_ yX0_piece cX0_piece 2 none) (rgX0 d) G cL o ad [.ref o, .ref a1] (fun _ => none) (fun (_ : Unit) Y h => K Y h) E 0 0 Y h) : ∀ (n : Nat) (Y : gY) (h : gH) (x1 : Nat), wX0_term_5 rc ad K E n Y h x1 → J Y h 0 0 5 [some (.ref o), some (.ref x1), none] [] := by
  intro n
  induction n with
  | zero => intro Y h x1 hw; exact hw.elim
  | succ n ih =>
    intro Y h x1 hw
    have S := SX.st
    unfold wX0_term_5 at hw
    refine j_ald0 (pc := 5) S dX0_term_5 ?_
    refine j_bipush (pc := 6) (v := 42) S dX0_term_6 rfl ?_
    refine x_callVi (pc := 8) S 1 (wkX0_isSign hC hw) (lw_V q472 q474 qs14 q79 q475) rfl rfl ydX0_isSign (rg0_f rfl) (rg0_l rfl) c_recv rfl rfl rfl dX0_term_8 (Nat.le_refl _) (Nat.le_refl _) (fun r_15 Y_16 h_17 hw => ?_)
    refine j_if_ne (pc := 11) (tgt := 23) S dX0_term_11 rfl (fun c_18 => ?_) (fun c_18 => ?_)
    · have hw := hw.1 c_18
      exact j_sub S (kX0_term_23 SX hC ih ih0 ih1 ih2 ih3 ih4 ih5 hw) (gle_s (gle_s (gle_n gle_0)))
    · have hw := hw.2 c_18
      refine j_ald0 (pc := 14) S dX0_term_14 ?_
      refine j_bipush (pc := 15) (v := 47) S dX0_term_15 rfl ?_
      refine x_callVi (pc := 17) S 1 (wkX0_isSign hC hw) (lw_V q472 q474 qs14 q79 q475) rfl rfl ydX0_isSign (rg0_f rfl) (rg0_l rfl) c_recv rfl rfl rfl dX0_term_17 (Nat.le_refl _) (Nat.le_refl _) (fun r_19 Y_20 h_21 hw => ?_)
      refine j_if_eq (pc := 20) (tgt := 57) S dX0_term_20 rfl (fun c_22 => ?_) (fun c_22 => ?_)
      · have hw := hw.1 c_22
        exact j_vret (pc := 57) S (Nat.le_refl _) (Nat.le_refl _) dX0_term_57 hw
      · have hw := hw.2 c_22
        exact j_sub S (kX0_term_23 SX hC ih ih0 ih1 ih2 ih3 ih4 ih5 hw) (gle_s (gle_s (gle_n gle_0)))
theorem bkX0_term {rc : Nat → (gY → gH → Prop) → (Nat → gY → gH → Prop) → gY → gH → Nat → Prop} {d : Nat} (hC : cOK G) {K : gY → gH → Prop} {E : Nat → gY → gH → Prop} {Y : gY} {h : gH} {a1 : Nat} (ih0 : ∀ (K : gY → gH → Prop) (E : Nat → gY → gH → Prop) (Y : gY) (h : gH) (a1 : Nat), rc 0 K E Y h a1 → gMetX l yX0_or (ws_ yX0_or cX0_or 2 none) (rgX0 d) G cL o ad [.ref o, .ref a1] (fun _ => none) (fun (_ : Unit) Y h => K Y h) E 0 0 Y h) (ih1 : ∀ (K : gY → gH → Prop) (E : Nat → gY → gH → Prop) (Y : gY) (h : gH) (a1 : Nat), rc 1 K E Y h a1 → gMetX l yX0_and (ws_ yX0_and cX0_and 2 none) (rgX0 d) G cL o ad [.ref o, .ref a1] (fun _ => none) (fun (_ : Unit) Y h => K Y h) E 0 0 Y h) (ih2 : ∀ (K : gY → gH → Prop) (E : Nat → gY → gH → Prop) (Y : gY) (h : gH) (a1 : Nat), rc 2 K E Y h a1 → gMetX l yX0_test (ws_ yX0_test cX0_test 3 none) (rgX0 d) G cL o ad [.ref o, .ref a1] (fun _ => none) (fun (_ : Unit) Y h => K Y h) E 0 0 Y h) (ih3 : ∀ (K : gY → gH → Prop) (E : Nat → gY → gH → Prop) (Y : gY) (h : gH) (a1 : Nat), rc 3 K E Y h a1 → gMetX l yX0_sum (ws_ yX0_sum cX0_sum 3 none) (rgX0 d) G cL o ad [.ref o, .ref a1] (fun _ => none) (fun (_ : Unit) Y h => K Y h) E 0 0 Y h) (ih4 : ∀ (K : gY → gH → Prop) (E : Nat → gY → gH → Prop) (Y : gY) (h : gH) (a1 : Nat), rc 4 K E Y h a1 → gMetX l yX0_term (ws_ yX0_term cX0_term 3 none) (rgX0 d) G cL o ad [.ref o, .ref a1] (fun _ => none) (fun (_ : Unit) Y h => K Y h) E 0 0 Y h) (ih5 : ∀ (K : gY → gH → Prop) (E : Nat → gY → gH → Prop) (Y : gY) (h : gH) (a1 : Nat), rc 5 K E Y h a1 → gMetX l yX0_piece (ws_ yX0_piece cX0_piece 2 none) (rgX0 d) G cL o ad [.ref o, .ref a1] (fun _ => none) (fun (_ : Unit) Y h => K Y h) E 0 0 Y h) (hw : bpX0_term rc ad K E Y h a1) : gMetX l yX0_term (ws_ yX0_term cX0_term 3 none) (rgX0 (d + 1)) G cL o ad [.ref o, .ref a1] (fun _ => none) (fun (_ : Unit) Y h => K Y h) E 0 0 Y h := by
  refine gMetX.in (lv := [some (.ref o), some (.ref a1), none]) (by decide) rfl rfl (fun J SX => ?_)
  have SX : gStX l (rgX0 (d + 1)) cX0_term RX0 "term" 3 none G cL o ad (fun _ => none) (fun (_ : Unit) Y h => K Y h) E 0 0 J := SX
  have S := SX.st
  unfold bpX0_term at hw
  refine j_ald0 (pc := 0) S dX0_term_0 ?_
  refine j_ald1 (pc := 1) S dX0_term_1 ?_
  refine x_callXVv (pc := 2) SX rfl rfl 1 (ih5 _ _ _ _ _ hw) (lw_V q468 q470 qs13 q79 q471) rfl rfl ydX0_piece rg0_fG (rg0_lG rfl) c_recv rfl rfl rfl dX0_term_2 (Nat.le_refl _) (Nat.le_refl _) (fun Y_24 h_25 hw => ?_)
  obtain ⟨fu_26, hw⟩ := hw
  exact j_sub S (kX0_term_5 SX hC ih0 ih1 ih2 ih3 ih4 ih5 fu_26 _ _ _ hw) (gle_s (gle_s (gle_n gle_0)))
/-! LeaningStreet.piece(LLeaningStreet$Words;)V -/
def wX0_piece_223 (rc : Nat → (gY → gH → Prop) → (Nat → gY → gH → Prop) → gY → gH → Nat → Prop) (ad : Nat → Nat) (K : gY → gH → Prop) (E : Nat → gY → gH → Prop) (Y : gY) (h : gH) (x1 : Nat) : Prop := ∀ Y_1 : gY, Y_1 = yset Y 14 ((Y 14 0) + 1) → (vp_in (Y_1 9 0) 96 ∧ ((∃ fs_6 : List Value, h x1 = some (.inr (7, fs_6))) ∧ wpX12_add (fun Y_4 h_5 => (wpX0_goes ad (fun Y_8 h_9 => (K Y_8 h_9)) E Y_4 h_5)) Y_1 h x1 (2 : Int32) (Y_1 6 (Y_1 9 0).toNatClampNeg)))
def wX0_piece_219 (rc : Nat → (gY → gH → Prop) → (Nat → gY → gH → Prop) → gY → gH → Nat → Prop) (ad : Nat → Nat) (K : gY → gH → Prop) (E : Nat → gY → gH → Prop) (Y : gY) (h : gH) (x1 : Nat) : Prop := wpX0_wrong ad (fun Y_11 h_12 => (wX0_piece_223 rc ad K E Y_11 h_12 x1)) E Y h
def wX0_piece_179 (rc : Nat → (gY → gH → Prop) → (Nat → gY → gH → Prop) → gY → gH → Nat → Prop) (ad : Nat → Nat) (K : gY → gH → Prop) (E : Nat → gY → gH → Prop) (Y : gY) (h : gH) (x1 : Nat) : Prop := (((Y 9 0) = (Y 11 0) → (wX0_piece_219 rc ad K E Y h x1)) ∧ (¬ (Y 9 0) = (Y 11 0) → (((¬ ((Y 10 0) - (Y 9 0)) = 1 → (wX0_piece_219 rc ad K E Y h x1)) ∧ (((Y 10 0) - (Y 9 0)) = 1 → (vp_in (Y 9 0) 96 ∧ (wpX0_isName ad (fun r_15 Y_16 h_17 => (((¬ r_15 = 0 → (wX0_piece_223 rc ad K E Y_16 h_17 x1)) ∧ (r_15 = 0 → (wX0_piece_219 rc ad K E Y_16 h_17 x1))))) Y h (Y 6 (Y 9 0).toNatClampNeg))))))))
def wX0_piece_114 (rc : Nat → (gY → gH → Prop) → (Nat → gY → gH → Prop) → gY → gH → Nat → Prop) (ad : Nat → Nat) (K : gY → gH → Prop) (E : Nat → gY → gH → Prop) (Y : gY) (h : gH) : Prop := wpX0_goes ad (fun Y_20 h_21 => (∀ Y_22 : gY, Y_22 = yset Y_20 12 ((Y_20 12 0) - 1) → (K Y_22 h_21))) E Y h
def wX0_piece_82 (rc : Nat → (gY → gH → Prop) → (Nat → gY → gH → Prop) → gY → gH → Nat → Prop) (ad : Nat → Nat) (K : gY → gH → Prop) (E : Nat → gY → gH → Prop) (Y : gY) (h : gH) (x1 : Nat) : Prop := ∀ Y_24 : gY, Y_24 = yset Y 12 ((Y 12 0) + 1) → (wpX0_goes ad (fun Y_27 h_28 => (rc 0 (fun Y_30 h_31 => (wpX0_isSign ad (fun r_32 Y_33 h_34 => (((¬ r_32 = 0 → (wX0_piece_114 rc ad K E Y_33 h_34)) ∧ (r_32 = 0 → (wpX0_wrong ad (fun Y_37 h_38 => (wX0_piece_114 rc ad K E Y_37 h_38)) E Y_33 h_34))))) Y_30 h_31 (41 : Int32))) E Y_27 h_28 x1)) E Y_24 h)
def wX0_piece_22 (rc : Nat → (gY → gH → Prop) → (Nat → gY → gH → Prop) → gY → gH → Nat → Prop) (ad : Nat → Nat) (K : gY → gH → Prop) (E : Nat → gY → gH → Prop) (Y : gY) (h : gH) (x1 : Nat) : Prop := ∀ Y_39 : gY, Y_39 = yset Y 13 ((Y 13 0) + 1) → (wpX0_goes ad (fun Y_42 h_43 => (rc 5 (fun Y_45 h_46 => ((∃ fs_50 : List Value, h_46 x1 = some (.inr (7, fs_50))) ∧ wpX12_add (fun Y_48 h_49 => (∀ Y_51 : gY, Y_51 = yset Y_48 13 ((Y_48 13 0) - 1) → (K Y_51 h_49))) Y_45 h_46 x1 (3 : Int32) (0 : Int32))) E Y_42 h_43 x1)) E Y_39 h)
def bpX0_piece (rc : Nat → (gY → gH → Prop) → (Nat → gY → gH → Prop) → gY → gH → Nat → Prop) (ad : Nat → Nat) (K : gY → gH → Prop) (E : Nat → gY → gH → Prop) (Y : gY) (h : gH) (a1 : Nat) : Prop := wpX0_isSign ad (fun r_53 Y_54 h_55 => (((r_53 = 0 → (wpX0_isSign ad (fun r_57 Y_58 h_59 => (((r_57 = 0 → ((((Y_58 11 0) ≤ (Y_58 9 0) → (wX0_piece_179 rc ad K E Y_58 h_59 a1)) ∧ (¬ (Y_58 11 0) ≤ (Y_58 9 0) → (vp_in (Y_58 9 0) 96 ∧ (wpX0_isDigit ad (fun r_62 Y_63 h_64 => (((r_62 = 0 → (wX0_piece_179 rc ad K E Y_63 h_64 a1)) ∧ (¬ r_62 = 0 → (∀ Y_66 : gY, Y_66 = yset Y_63 14 ((Y_63 14 0) + 1) → (wpX0_number ad (fun r_68 Y_69 h_70 => ((∃ fs_74 : List Value, h_70 a1 = some (.inr (7, fs_74))) ∧ wpX12_add (fun Y_72 h_73 => (K Y_72 h_73)) Y_69 h_70 a1 (1 : Int32) r_68)) E Y_66 h_64)))))) Y_58 h_59 (Y_58 6 (Y_58 9 0).toNatClampNeg))))))) ∧ (¬ r_57 = 0 → (((¬ (Y_58 12 0) = 8 → (wX0_piece_82 rc ad K E Y_58 h_59 a1)) ∧ ((Y_58 12 0) = 8 → (wpX0_wrong ad (fun Y_77 h_78 => (wX0_piece_82 rc ad K E Y_77 h_78 a1)) E Y_58 h_59)))))))) Y_54 h_55 (40 : Int32))) ∧ (¬ r_53 = 0 → (((¬ (Y_54 13 0) = 8 → (wX0_piece_22 rc ad K E Y_54 h_55 a1)) ∧ ((Y_54 13 0) = 8 → (wpX0_wrong ad (fun Y_81 h_82 => (wX0_piece_22 rc ad K E Y_81 h_82 a1)) E Y_54 h_55)))))))) Y h (33 : Int32)
theorem kX0_piece_223 {rc : Nat → (gY → gH → Prop) → (Nat → gY → gH → Prop) → gY → gH → Nat → Prop} {d : Nat} {K : gY → gH → Prop} {E : Nat → gY → gH → Prop} (SX : gStX l (rgX0 (d + 1)) cX0_piece RX0 "piece" 2 none G cL o ad (fun _ => none) (fun (_ : Unit) Y h => K Y h) E 0 0 J) (hC : cOK G) (ih0 : ∀ (K : gY → gH → Prop) (E : Nat → gY → gH → Prop) (Y : gY) (h : gH) (a1 : Nat), rc 0 K E Y h a1 → gMetX l yX0_or (ws_ yX0_or cX0_or 2 none) (rgX0 d) G cL o ad [.ref o, .ref a1] (fun _ => none) (fun (_ : Unit) Y h => K Y h) E 0 0 Y h) (ih1 : ∀ (K : gY → gH → Prop) (E : Nat → gY → gH → Prop) (Y : gY) (h : gH) (a1 : Nat), rc 1 K E Y h a1 → gMetX l yX0_and (ws_ yX0_and cX0_and 2 none) (rgX0 d) G cL o ad [.ref o, .ref a1] (fun _ => none) (fun (_ : Unit) Y h => K Y h) E 0 0 Y h) (ih2 : ∀ (K : gY → gH → Prop) (E : Nat → gY → gH → Prop) (Y : gY) (h : gH) (a1 : Nat), rc 2 K E Y h a1 → gMetX l yX0_test (ws_ yX0_test cX0_test 3 none) (rgX0 d) G cL o ad [.ref o, .ref a1] (fun _ => none) (fun (_ : Unit) Y h => K Y h) E 0 0 Y h) (ih3 : ∀ (K : gY → gH → Prop) (E : Nat → gY → gH → Prop) (Y : gY) (h : gH) (a1 : Nat), rc 3 K E Y h a1 → gMetX l yX0_sum (ws_ yX0_sum cX0_sum 3 none) (rgX0 d) G cL o ad [.ref o, .ref a1] (fun _ => none) (fun (_ : Unit) Y h => K Y h) E 0 0 Y h) (ih4 : ∀ (K : gY → gH → Prop) (E : Nat → gY → gH → Prop) (Y : gY) (h : gH) (a1 : Nat), rc 4 K E Y h a1 → gMetX l yX0_term (ws_ yX0_term cX0_term 3 none) (rgX0 d) G cL o ad [.ref o, .ref a1] (fun _ => none) (fun (_ : Unit) Y h => K Y h) E 0 0 Y h) (ih5 : ∀ (K : gY → gH → Prop) (E : Nat → gY → gH → Prop) (Y : gY) (h : gH) (a1 : Nat), rc 5 K E Y h a1 → gMetX l yX0_piece (ws_ yX0_piece cX0_piece 2 none) (rgX0 d) G cL o ad [.ref o, .ref a1] (fun _ => none) (fun (_ : Unit) Y h => K Y h) E 0 0 Y h) {Y : gY} {h : gH} {x1 : Nat} (hw : wX0_piece_223 rc ad K E Y h x1) : J Y h 0 0 223 [some (.ref o), some (.ref x1)] [] := by
  have S := SX.st
  unfold wX0_piece_223 at hw
  refine j_ald0 (pc := 223) S dX0_piece_223 ?_
  refine j_dup (pc := 224) S dX0_piece_224 rfl ?_
  refine c_getI (pc := 225) S 14 rfl rfl q264 dX0_piece_225 ?_
  refine j_iconst (pc := 228) (v := 1) S dX0_piece_228 rfl ?_
  refine j_iadd (pc := 229) S dX0_piece_229 ?_
  refine c_putI (pc := 230) S 14 rfl rfl rfl rfl rfl q264 dX0_piece_230 (fun Y_1 e_2 => ?_)
  have hw := hw Y_1 e_2
  refine j_ald1 (pc := 233) S dX0_piece_233 ?_
  refine j_iconst (pc := 234) (v := 2) S dX0_piece_234 rfl ?_
  refine j_ald0 (pc := 235) S dX0_piece_235 ?_
  refine c_getA (pc := 236) S 6 rfl rfl q256 dX0_piece_236 ?_
  refine j_ald0 (pc := 239) S dX0_piece_239 ?_
  refine c_getI (pc := 240) S 9 rfl rfl q259 dX0_piece_240 ?_
  obtain ⟨hi, hw⟩ := hw
  refine c_bald (pc := 243) S hi dX0_piece_243 ?_
  obtain ⟨⟨fs_6, ha⟩, hw⟩ := hw
  refine x_callVv (pc := 244) S 2 (wkX12_add hC hw) (lw_V q476 q477 q478 q102 q479) rfl rfl ydX12_add (rg0_f rfl) (rg0_l rfl) (h_recv ha rfl rfl) rfl rfl rfl dX0_piece_244 (Nat.le_refl _) (Nat.le_refl _) (fun Y_4 h_5 hw => ?_)
  refine j_ald0 (pc := 247) S dX0_piece_247 ?_
  refine x_callXVv (pc := 248) SX rfl rfl 0 (wkX0_goes hC hw) (lw_V q352 q354 qs3 q79 q355) rfl rfl ydX0_goes (rg0_f rfl) (rg0_l rfl) c_recv rfl rfl rfl dX0_piece_248 (Nat.le_refl _) (Nat.le_refl _) (fun Y_8 h_9 hw => ?_)
  exact j_vret (pc := 251) S (Nat.le_refl _) (Nat.le_refl _) dX0_piece_251 hw
theorem kX0_piece_219 {rc : Nat → (gY → gH → Prop) → (Nat → gY → gH → Prop) → gY → gH → Nat → Prop} {d : Nat} {K : gY → gH → Prop} {E : Nat → gY → gH → Prop} (SX : gStX l (rgX0 (d + 1)) cX0_piece RX0 "piece" 2 none G cL o ad (fun _ => none) (fun (_ : Unit) Y h => K Y h) E 0 0 J) (hC : cOK G) (ih0 : ∀ (K : gY → gH → Prop) (E : Nat → gY → gH → Prop) (Y : gY) (h : gH) (a1 : Nat), rc 0 K E Y h a1 → gMetX l yX0_or (ws_ yX0_or cX0_or 2 none) (rgX0 d) G cL o ad [.ref o, .ref a1] (fun _ => none) (fun (_ : Unit) Y h => K Y h) E 0 0 Y h) (ih1 : ∀ (K : gY → gH → Prop) (E : Nat → gY → gH → Prop) (Y : gY) (h : gH) (a1 : Nat), rc 1 K E Y h a1 → gMetX l yX0_and (ws_ yX0_and cX0_and 2 none) (rgX0 d) G cL o ad [.ref o, .ref a1] (fun _ => none) (fun (_ : Unit) Y h => K Y h) E 0 0 Y h) (ih2 : ∀ (K : gY → gH → Prop) (E : Nat → gY → gH → Prop) (Y : gY) (h : gH) (a1 : Nat), rc 2 K E Y h a1 → gMetX l yX0_test (ws_ yX0_test cX0_test 3 none) (rgX0 d) G cL o ad [.ref o, .ref a1] (fun _ => none) (fun (_ : Unit) Y h => K Y h) E 0 0 Y h) (ih3 : ∀ (K : gY → gH → Prop) (E : Nat → gY → gH → Prop) (Y : gY) (h : gH) (a1 : Nat), rc 3 K E Y h a1 → gMetX l yX0_sum (ws_ yX0_sum cX0_sum 3 none) (rgX0 d) G cL o ad [.ref o, .ref a1] (fun _ => none) (fun (_ : Unit) Y h => K Y h) E 0 0 Y h) (ih4 : ∀ (K : gY → gH → Prop) (E : Nat → gY → gH → Prop) (Y : gY) (h : gH) (a1 : Nat), rc 4 K E Y h a1 → gMetX l yX0_term (ws_ yX0_term cX0_term 3 none) (rgX0 d) G cL o ad [.ref o, .ref a1] (fun _ => none) (fun (_ : Unit) Y h => K Y h) E 0 0 Y h) (ih5 : ∀ (K : gY → gH → Prop) (E : Nat → gY → gH → Prop) (Y : gY) (h : gH) (a1 : Nat), rc 5 K E Y h a1 → gMetX l yX0_piece (ws_ yX0_piece cX0_piece 2 none) (rgX0 d) G cL o ad [.ref o, .ref a1] (fun _ => none) (fun (_ : Unit) Y h => K Y h) E 0 0 Y h) {Y : gY} {h : gH} {x1 : Nat} (hw : wX0_piece_219 rc ad K E Y h x1) : J Y h 0 0 219 [some (.ref o), some (.ref x1)] [] := by
  have S := SX.st
  unfold wX0_piece_219 at hw
  refine j_ald0 (pc := 219) S dX0_piece_219 ?_
  refine x_callXVv (pc := 220) SX rfl rfl 0 (wkX0_wrong hC hw) (lw_V q362 q364 qs4 q79 q365) rfl rfl ydX0_wrong (rg0_f rfl) (rg0_l rfl) c_recv rfl rfl rfl dX0_piece_220 (Nat.le_refl _) (Nat.le_refl _) (fun Y_11 h_12 hw => ?_)
  exact j_sub S (kX0_piece_223 SX hC ih0 ih1 ih2 ih3 ih4 ih5 hw) (gle_s (gle_s gle_0))
theorem kX0_piece_179 {rc : Nat → (gY → gH → Prop) → (Nat → gY → gH → Prop) → gY → gH → Nat → Prop} {d : Nat} {K : gY → gH → Prop} {E : Nat → gY → gH → Prop} (SX : gStX l (rgX0 (d + 1)) cX0_piece RX0 "piece" 2 none G cL o ad (fun _ => none) (fun (_ : Unit) Y h => K Y h) E 0 0 J) (hC : cOK G) (ih0 : ∀ (K : gY → gH → Prop) (E : Nat → gY → gH → Prop) (Y : gY) (h : gH) (a1 : Nat), rc 0 K E Y h a1 → gMetX l yX0_or (ws_ yX0_or cX0_or 2 none) (rgX0 d) G cL o ad [.ref o, .ref a1] (fun _ => none) (fun (_ : Unit) Y h => K Y h) E 0 0 Y h) (ih1 : ∀ (K : gY → gH → Prop) (E : Nat → gY → gH → Prop) (Y : gY) (h : gH) (a1 : Nat), rc 1 K E Y h a1 → gMetX l yX0_and (ws_ yX0_and cX0_and 2 none) (rgX0 d) G cL o ad [.ref o, .ref a1] (fun _ => none) (fun (_ : Unit) Y h => K Y h) E 0 0 Y h) (ih2 : ∀ (K : gY → gH → Prop) (E : Nat → gY → gH → Prop) (Y : gY) (h : gH) (a1 : Nat), rc 2 K E Y h a1 → gMetX l yX0_test (ws_ yX0_test cX0_test 3 none) (rgX0 d) G cL o ad [.ref o, .ref a1] (fun _ => none) (fun (_ : Unit) Y h => K Y h) E 0 0 Y h) (ih3 : ∀ (K : gY → gH → Prop) (E : Nat → gY → gH → Prop) (Y : gY) (h : gH) (a1 : Nat), rc 3 K E Y h a1 → gMetX l yX0_sum (ws_ yX0_sum cX0_sum 3 none) (rgX0 d) G cL o ad [.ref o, .ref a1] (fun _ => none) (fun (_ : Unit) Y h => K Y h) E 0 0 Y h) (ih4 : ∀ (K : gY → gH → Prop) (E : Nat → gY → gH → Prop) (Y : gY) (h : gH) (a1 : Nat), rc 4 K E Y h a1 → gMetX l yX0_term (ws_ yX0_term cX0_term 3 none) (rgX0 d) G cL o ad [.ref o, .ref a1] (fun _ => none) (fun (_ : Unit) Y h => K Y h) E 0 0 Y h) (ih5 : ∀ (K : gY → gH → Prop) (E : Nat → gY → gH → Prop) (Y : gY) (h : gH) (a1 : Nat), rc 5 K E Y h a1 → gMetX l yX0_piece (ws_ yX0_piece cX0_piece 2 none) (rgX0 d) G cL o ad [.ref o, .ref a1] (fun _ => none) (fun (_ : Unit) Y h => K Y h) E 0 0 Y h) {Y : gY} {h : gH} {x1 : Nat} (hw : wX0_piece_179 rc ad K E Y h x1) : J Y h 0 0 179 [some (.ref o), some (.ref x1)] [] := by
  have S := SX.st
  unfold wX0_piece_179 at hw
  refine j_ald0 (pc := 179) S dX0_piece_179 ?_
  refine c_getI (pc := 180) S 9 rfl rfl q259 dX0_piece_180 ?_
  refine j_ald0 (pc := 183) S dX0_piece_183 ?_
  refine c_getI (pc := 184) S 11 rfl rfl q261 dX0_piece_184 ?_
  refine j_icmp_eq (pc := 187) (tgt := 219) S dX0_piece_187 rfl (fun c_13 => ?_) (fun c_13 => ?_)
  · have hw := hw.1 c_13
    exact j_sub S (kX0_piece_219 SX hC ih0 ih1 ih2 ih3 ih4 ih5 hw) (gle_s (gle_s gle_0))
  · have hw := hw.2 c_13
    refine j_ald0 (pc := 190) S dX0_piece_190 ?_
    refine c_getI (pc := 191) S 10 rfl rfl q260 dX0_piece_191 ?_
    refine j_ald0 (pc := 194) S dX0_piece_194 ?_
    refine c_getI (pc := 195) S 9 rfl rfl q259 dX0_piece_195 ?_
    refine j_isub (pc := 198) S dX0_piece_198 ?_
    refine j_iconst (pc := 199) (v := 1) S dX0_piece_199 rfl ?_
    refine j_icmp_ne (pc := 200) (tgt := 219) S dX0_piece_200 rfl (fun c_14 => ?_) (fun c_14 => ?_)
    · have hw := hw.1 c_14
      exact j_sub S (kX0_piece_219 SX hC ih0 ih1 ih2 ih3 ih4 ih5 hw) (gle_s (gle_s gle_0))
    · have hw := hw.2 c_14
      refine j_ald0 (pc := 203) S dX0_piece_203 ?_
      refine j_ald0 (pc := 204) S dX0_piece_204 ?_
      refine c_getA (pc := 205) S 6 rfl rfl q256 dX0_piece_205 ?_
      refine j_ald0 (pc := 208) S dX0_piece_208 ?_
      refine c_getI (pc := 209) S 9 rfl rfl q259 dX0_piece_209 ?_
      obtain ⟨hi, hw⟩ := hw
      refine c_bald (pc := 212) S hi dX0_piece_212 ?_
      refine x_callVi (pc := 213) S 1 (wkX0_isName hC hw) (lw_V q484 q486 qs16 q79 q487) rfl rfl ydX0_isName (rg0_f rfl) (rg0_l rfl) c_recv rfl rfl rfl dX0_piece_213 (Nat.le_refl _) (Nat.le_refl _) (fun r_15 Y_16 h_17 hw => ?_)
      refine j_if_ne (pc := 216) (tgt := 223) S dX0_piece_216 rfl (fun c_18 => ?_) (fun c_18 => ?_)
      · have hw := hw.1 c_18
        exact j_sub S (kX0_piece_223 SX hC ih0 ih1 ih2 ih3 ih4 ih5 hw) (gle_s (gle_s gle_0))
      · have hw := hw.2 c_18
        exact j_sub S (kX0_piece_219 SX hC ih0 ih1 ih2 ih3 ih4 ih5 hw) (gle_s (gle_s gle_0))
theorem kX0_piece_114 {rc : Nat → (gY → gH → Prop) → (Nat → gY → gH → Prop) → gY → gH → Nat → Prop} {d : Nat} {K : gY → gH → Prop} {E : Nat → gY → gH → Prop} (SX : gStX l (rgX0 (d + 1)) cX0_piece RX0 "piece" 2 none G cL o ad (fun _ => none) (fun (_ : Unit) Y h => K Y h) E 0 0 J) (hC : cOK G) (ih0 : ∀ (K : gY → gH → Prop) (E : Nat → gY → gH → Prop) (Y : gY) (h : gH) (a1 : Nat), rc 0 K E Y h a1 → gMetX l yX0_or (ws_ yX0_or cX0_or 2 none) (rgX0 d) G cL o ad [.ref o, .ref a1] (fun _ => none) (fun (_ : Unit) Y h => K Y h) E 0 0 Y h) (ih1 : ∀ (K : gY → gH → Prop) (E : Nat → gY → gH → Prop) (Y : gY) (h : gH) (a1 : Nat), rc 1 K E Y h a1 → gMetX l yX0_and (ws_ yX0_and cX0_and 2 none) (rgX0 d) G cL o ad [.ref o, .ref a1] (fun _ => none) (fun (_ : Unit) Y h => K Y h) E 0 0 Y h) (ih2 : ∀ (K : gY → gH → Prop) (E : Nat → gY → gH → Prop) (Y : gY) (h : gH) (a1 : Nat), rc 2 K E Y h a1 → gMetX l yX0_test (ws_ yX0_test cX0_test 3 none) (rgX0 d) G cL o ad [.ref o, .ref a1] (fun _ => none) (fun (_ : Unit) Y h => K Y h) E 0 0 Y h) (ih3 : ∀ (K : gY → gH → Prop) (E : Nat → gY → gH → Prop) (Y : gY) (h : gH) (a1 : Nat), rc 3 K E Y h a1 → gMetX l yX0_sum (ws_ yX0_sum cX0_sum 3 none) (rgX0 d) G cL o ad [.ref o, .ref a1] (fun _ => none) (fun (_ : Unit) Y h => K Y h) E 0 0 Y h) (ih4 : ∀ (K : gY → gH → Prop) (E : Nat → gY → gH → Prop) (Y : gY) (h : gH) (a1 : Nat), rc 4 K E Y h a1 → gMetX l yX0_term (ws_ yX0_term cX0_term 3 none) (rgX0 d) G cL o ad [.ref o, .ref a1] (fun _ => none) (fun (_ : Unit) Y h => K Y h) E 0 0 Y h) (ih5 : ∀ (K : gY → gH → Prop) (E : Nat → gY → gH → Prop) (Y : gY) (h : gH) (a1 : Nat), rc 5 K E Y h a1 → gMetX l yX0_piece (ws_ yX0_piece cX0_piece 2 none) (rgX0 d) G cL o ad [.ref o, .ref a1] (fun _ => none) (fun (_ : Unit) Y h => K Y h) E 0 0 Y h) {Y : gY} {h : gH} (hw : wX0_piece_114 rc ad K E Y h) : J Y h 0 0 114 [some (.ref o), none] [] := by
  have S := SX.st
  unfold wX0_piece_114 at hw
  refine j_ald0 (pc := 114) S dX0_piece_114 ?_
  refine x_callXVv (pc := 115) SX rfl rfl 0 (wkX0_goes hC hw) (lw_V q352 q354 qs3 q79 q355) rfl rfl ydX0_goes (rg0_f rfl) (rg0_l rfl) c_recv rfl rfl rfl dX0_piece_115 (Nat.le_refl _) (Nat.le_refl _) (fun Y_20 h_21 hw => ?_)
  refine j_ald0 (pc := 118) S dX0_piece_118 ?_
  refine j_dup (pc := 119) S dX0_piece_119 rfl ?_
  refine c_getI (pc := 120) S 12 rfl rfl q262 dX0_piece_120 ?_
  refine j_iconst (pc := 123) (v := 1) S dX0_piece_123 rfl ?_
  refine j_isub (pc := 124) S dX0_piece_124 ?_
  refine c_putI (pc := 125) S 12 rfl rfl rfl rfl rfl q262 dX0_piece_125 (fun Y_22 e_23 => ?_)
  have hw := hw Y_22 e_23
  refine j_goto (pc := 128) (tgt := 251) S dX0_piece_128 rfl ?_
  exact j_vret (pc := 251) S (Nat.le_refl _) (Nat.le_refl _) dX0_piece_251 hw
theorem kX0_piece_82 {rc : Nat → (gY → gH → Prop) → (Nat → gY → gH → Prop) → gY → gH → Nat → Prop} {d : Nat} {K : gY → gH → Prop} {E : Nat → gY → gH → Prop} (SX : gStX l (rgX0 (d + 1)) cX0_piece RX0 "piece" 2 none G cL o ad (fun _ => none) (fun (_ : Unit) Y h => K Y h) E 0 0 J) (hC : cOK G) (ih0 : ∀ (K : gY → gH → Prop) (E : Nat → gY → gH → Prop) (Y : gY) (h : gH) (a1 : Nat), rc 0 K E Y h a1 → gMetX l yX0_or (ws_ yX0_or cX0_or 2 none) (rgX0 d) G cL o ad [.ref o, .ref a1] (fun _ => none) (fun (_ : Unit) Y h => K Y h) E 0 0 Y h) (ih1 : ∀ (K : gY → gH → Prop) (E : Nat → gY → gH → Prop) (Y : gY) (h : gH) (a1 : Nat), rc 1 K E Y h a1 → gMetX l yX0_and (ws_ yX0_and cX0_and 2 none) (rgX0 d) G cL o ad [.ref o, .ref a1] (fun _ => none) (fun (_ : Unit) Y h => K Y h) E 0 0 Y h) (ih2 : ∀ (K : gY → gH → Prop) (E : Nat → gY → gH → Prop) (Y : gY) (h : gH) (a1 : Nat), rc 2 K E Y h a1 → gMetX l yX0_test (ws_ yX0_test cX0_test 3 none) (rgX0 d) G cL o ad [.ref o, .ref a1] (fun _ => none) (fun (_ : Unit) Y h => K Y h) E 0 0 Y h) (ih3 : ∀ (K : gY → gH → Prop) (E : Nat → gY → gH → Prop) (Y : gY) (h : gH) (a1 : Nat), rc 3 K E Y h a1 → gMetX l yX0_sum (ws_ yX0_sum cX0_sum 3 none) (rgX0 d) G cL o ad [.ref o, .ref a1] (fun _ => none) (fun (_ : Unit) Y h => K Y h) E 0 0 Y h) (ih4 : ∀ (K : gY → gH → Prop) (E : Nat → gY → gH → Prop) (Y : gY) (h : gH) (a1 : Nat), rc 4 K E Y h a1 → gMetX l yX0_term (ws_ yX0_term cX0_term 3 none) (rgX0 d) G cL o ad [.ref o, .ref a1] (fun _ => none) (fun (_ : Unit) Y h => K Y h) E 0 0 Y h) (ih5 : ∀ (K : gY → gH → Prop) (E : Nat → gY → gH → Prop) (Y : gY) (h : gH) (a1 : Nat), rc 5 K E Y h a1 → gMetX l yX0_piece (ws_ yX0_piece cX0_piece 2 none) (rgX0 d) G cL o ad [.ref o, .ref a1] (fun _ => none) (fun (_ : Unit) Y h => K Y h) E 0 0 Y h) {Y : gY} {h : gH} {x1 : Nat} (hw : wX0_piece_82 rc ad K E Y h x1) : J Y h 0 0 82 [some (.ref o), some (.ref x1)] [] := by
  have S := SX.st
  unfold wX0_piece_82 at hw
  refine j_ald0 (pc := 82) S dX0_piece_82 ?_
  refine j_dup (pc := 83) S dX0_piece_83 rfl ?_
  refine c_getI (pc := 84) S 12 rfl rfl q262 dX0_piece_84 ?_
  refine j_iconst (pc := 87) (v := 1) S dX0_piece_87 rfl ?_
  refine j_iadd (pc := 88) S dX0_piece_88 ?_
  refine c_putI (pc := 89) S 12 rfl rfl rfl rfl rfl q262 dX0_piece_89 (fun Y_24 e_25 => ?_)
  have hw := hw Y_24 e_25
  refine j_ald0 (pc := 92) S dX0_piece_92 ?_
  refine x_callXVv (pc := 93) SX rfl rfl 0 (wkX0_goes hC hw) (lw_V q352 q354 qs3 q79 q355) rfl rfl ydX0_goes (rg0_f rfl) (rg0_l rfl) c_recv rfl rfl rfl dX0_piece_93 (Nat.le_refl _) (Nat.le_refl _) (fun Y_27 h_28 hw => ?_)
  refine j_ald0 (pc := 96) S dX0_piece_96 ?_
  refine j_ald1 (pc := 97) S dX0_piece_97 ?_
  refine x_callXVv (pc := 98) SX rfl rfl 1 (ih0 _ _ _ _ _ hw) (lw_V q448 q450 qs8 q79 q451) rfl rfl ydX0_or rg0_fG (rg0_lG rfl) c_recv rfl rfl rfl dX0_piece_98 (Nat.le_refl _) (Nat.le_refl _) (fun Y_30 h_31 hw => ?_)
  refine j_ald0 (pc := 101) S dX0_piece_101 ?_
  refine j_bipush (pc := 102) (v := 41) S dX0_piece_102 rfl ?_
  refine x_callVi (pc := 104) S 1 (wkX0_isSign hC hw) (lw_V q472 q474 qs14 q79 q475) rfl rfl ydX0_isSign (rg0_f rfl) (rg0_l rfl) c_recv rfl rfl rfl dX0_piece_104 (Nat.le_refl _) (Nat.le_refl _) (fun r_32 Y_33 h_34 hw => ?_)
  refine j_if_ne (pc := 107) (tgt := 114) S dX0_piece_107 rfl (fun c_35 => ?_) (fun c_35 => ?_)
  · have hw := hw.1 c_35
    exact j_sub S (kX0_piece_114 SX hC ih0 ih1 ih2 ih3 ih4 ih5 hw) (gle_s (gle_n gle_0))
  · have hw := hw.2 c_35
    refine j_ald0 (pc := 110) S dX0_piece_110 ?_
    refine x_callXVv (pc := 111) SX rfl rfl 0 (wkX0_wrong hC hw) (lw_V q362 q364 qs4 q79 q365) rfl rfl ydX0_wrong (rg0_f rfl) (rg0_l rfl) c_recv rfl rfl rfl dX0_piece_111 (Nat.le_refl _) (Nat.le_refl _) (fun Y_37 h_38 hw => ?_)
    exact j_sub S (kX0_piece_114 SX hC ih0 ih1 ih2 ih3 ih4 ih5 hw) (gle_s (gle_n gle_0))
theorem kX0_piece_22 {rc : Nat → (gY → gH → Prop) → (Nat → gY → gH → Prop) → gY → gH → Nat → Prop} {d : Nat} {K : gY → gH → Prop} {E : Nat → gY → gH → Prop} (SX : gStX l (rgX0 (d + 1)) cX0_piece RX0 "piece" 2 none G cL o ad (fun _ => none) (fun (_ : Unit) Y h => K Y h) E 0 0 J) (hC : cOK G) (ih0 : ∀ (K : gY → gH → Prop) (E : Nat → gY → gH → Prop) (Y : gY) (h : gH) (a1 : Nat), rc 0 K E Y h a1 → gMetX l yX0_or (ws_ yX0_or cX0_or 2 none) (rgX0 d) G cL o ad [.ref o, .ref a1] (fun _ => none) (fun (_ : Unit) Y h => K Y h) E 0 0 Y h) (ih1 : ∀ (K : gY → gH → Prop) (E : Nat → gY → gH → Prop) (Y : gY) (h : gH) (a1 : Nat), rc 1 K E Y h a1 → gMetX l yX0_and (ws_ yX0_and cX0_and 2 none) (rgX0 d) G cL o ad [.ref o, .ref a1] (fun _ => none) (fun (_ : Unit) Y h => K Y h) E 0 0 Y h) (ih2 : ∀ (K : gY → gH → Prop) (E : Nat → gY → gH → Prop) (Y : gY) (h : gH) (a1 : Nat), rc 2 K E Y h a1 → gMetX l yX0_test (ws_ yX0_test cX0_test 3 none) (rgX0 d) G cL o ad [.ref o, .ref a1] (fun _ => none) (fun (_ : Unit) Y h => K Y h) E 0 0 Y h) (ih3 : ∀ (K : gY → gH → Prop) (E : Nat → gY → gH → Prop) (Y : gY) (h : gH) (a1 : Nat), rc 3 K E Y h a1 → gMetX l yX0_sum (ws_ yX0_sum cX0_sum 3 none) (rgX0 d) G cL o ad [.ref o, .ref a1] (fun _ => none) (fun (_ : Unit) Y h => K Y h) E 0 0 Y h) (ih4 : ∀ (K : gY → gH → Prop) (E : Nat → gY → gH → Prop) (Y : gY) (h : gH) (a1 : Nat), rc 4 K E Y h a1 → gMetX l yX0_term (ws_ yX0_term cX0_term 3 none) (rgX0 d) G cL o ad [.ref o, .ref a1] (fun _ => none) (fun (_ : Unit) Y h => K Y h) E 0 0 Y h) (ih5 : ∀ (K : gY → gH → Prop) (E : Nat → gY → gH → Prop) (Y : gY) (h : gH) (a1 : Nat), rc 5 K E Y h a1 → gMetX l yX0_piece (ws_ yX0_piece cX0_piece 2 none) (rgX0 d) G cL o ad [.ref o, .ref a1] (fun _ => none) (fun (_ : Unit) Y h => K Y h) E 0 0 Y h) {Y : gY} {h : gH} {x1 : Nat} (hw : wX0_piece_22 rc ad K E Y h x1) : J Y h 0 0 22 [some (.ref o), some (.ref x1)] [] := by
  have S := SX.st
  unfold wX0_piece_22 at hw
  refine j_ald0 (pc := 22) S dX0_piece_22 ?_
  refine j_dup (pc := 23) S dX0_piece_23 rfl ?_
  refine c_getI (pc := 24) S 13 rfl rfl q263 dX0_piece_24 ?_
  refine j_iconst (pc := 27) (v := 1) S dX0_piece_27 rfl ?_
  refine j_iadd (pc := 28) S dX0_piece_28 ?_
  refine c_putI (pc := 29) S 13 rfl rfl rfl rfl rfl q263 dX0_piece_29 (fun Y_39 e_40 => ?_)
  have hw := hw Y_39 e_40
  refine j_ald0 (pc := 32) S dX0_piece_32 ?_
  refine x_callXVv (pc := 33) SX rfl rfl 0 (wkX0_goes hC hw) (lw_V q352 q354 qs3 q79 q355) rfl rfl ydX0_goes (rg0_f rfl) (rg0_l rfl) c_recv rfl rfl rfl dX0_piece_33 (Nat.le_refl _) (Nat.le_refl _) (fun Y_42 h_43 hw => ?_)
  refine j_ald0 (pc := 36) S dX0_piece_36 ?_
  refine j_ald1 (pc := 37) S dX0_piece_37 ?_
  refine x_callXVv (pc := 38) SX rfl rfl 1 (ih5 _ _ _ _ _ hw) (lw_V q468 q470 qs13 q79 q471) rfl rfl ydX0_piece rg0_fG (rg0_lG rfl) c_recv rfl rfl rfl dX0_piece_38 (Nat.le_refl _) (Nat.le_refl _) (fun Y_45 h_46 hw => ?_)
  refine j_ald1 (pc := 41) S dX0_piece_41 ?_
  refine j_iconst (pc := 42) (v := 3) S dX0_piece_42 rfl ?_
  refine j_iconst (pc := 43) (v := 0) S dX0_piece_43 rfl ?_
  obtain ⟨⟨fs_50, ha⟩, hw⟩ := hw
  refine x_callVv (pc := 44) S 2 (wkX12_add hC hw) (lw_V q476 q477 q478 q102 q479) rfl rfl ydX12_add (rg0_f rfl) (rg0_l rfl) (h_recv ha rfl rfl) rfl rfl rfl dX0_piece_44 (Nat.le_refl _) (Nat.le_refl _) (fun Y_48 h_49 hw => ?_)
  refine j_ald0 (pc := 47) S dX0_piece_47 ?_
  refine j_dup (pc := 48) S dX0_piece_48 rfl ?_
  refine c_getI (pc := 49) S 13 rfl rfl q263 dX0_piece_49 ?_
  refine j_iconst (pc := 52) (v := 1) S dX0_piece_52 rfl ?_
  refine j_isub (pc := 53) S dX0_piece_53 ?_
  refine c_putI (pc := 54) S 13 rfl rfl rfl rfl rfl q263 dX0_piece_54 (fun Y_51 e_52 => ?_)
  have hw := hw Y_51 e_52
  refine j_goto (pc := 57) (tgt := 251) S dX0_piece_57 rfl ?_
  exact j_vret (pc := 251) S (Nat.le_refl _) (Nat.le_refl _) dX0_piece_251 hw
theorem bkX0_piece {rc : Nat → (gY → gH → Prop) → (Nat → gY → gH → Prop) → gY → gH → Nat → Prop} {d : Nat} (hC : cOK G) {K : gY → gH → Prop} {E : Nat → gY → gH → Prop} {Y : gY} {h : gH} {a1 : Nat} (ih0 : ∀ (K : gY → gH → Prop) (E : Nat → gY → gH → Prop) (Y : gY) (h : gH) (a1 : Nat), rc 0 K E Y h a1 → gMetX l yX0_or (ws_ yX0_or cX0_or 2 none) (rgX0 d) G cL o ad [.ref o, .ref a1] (fun _ => none) (fun (_ : Unit) Y h => K Y h) E 0 0 Y h) (ih1 : ∀ (K : gY → gH → Prop) (E : Nat → gY → gH → Prop) (Y : gY) (h : gH) (a1 : Nat), rc 1 K E Y h a1 → gMetX l yX0_and (ws_ yX0_and cX0_and 2 none) (rgX0 d) G cL o ad [.ref o, .ref a1] (fun _ => none) (fun (_ : Unit) Y h => K Y h) E 0 0 Y h) (ih2 : ∀ (K : gY → gH → Prop) (E : Nat → gY → gH → Prop) (Y : gY) (h : gH) (a1 : Nat), rc 2 K E Y h a1 → gMetX l yX0_test (ws_ yX0_test cX0_test 3 none) (rgX0 d) G cL o ad [.ref o, .ref a1] (fun _ => none) (fun (_ : Unit) Y h => K Y h) E 0 0 Y h) (ih3 : ∀ (K : gY → gH → Prop) (E : Nat → gY → gH → Prop) (Y : gY) (h : gH) (a1 : Nat), rc 3 K E Y h a1 → gMetX l yX0_sum (ws_ yX0_sum cX0_sum 3 none) (rgX0 d) G cL o ad [.ref o, .ref a1] (fun _ => none) (fun (_ : Unit) Y h => K Y h) E 0 0 Y h) (ih4 : ∀ (K : gY → gH → Prop) (E : Nat → gY → gH → Prop) (Y : gY) (h : gH) (a1 : Nat), rc 4 K E Y h a1 → gMetX l yX0_term (ws_ yX0_term cX0_term 3 none) (rgX0 d) G cL o ad [.ref o, .ref a1] (fun _ => none) (fun (_ : Unit) Y h => K Y h) E 0 0 Y h) (ih5 : ∀ (K : gY → gH → Prop) (E : Nat → gY → gH → Prop) (Y : gY) (h : gH) (a1 : Nat), rc 5 K E Y h a1 → gMetX l yX0_piece (ws_ yX0_piece cX0_piece 2 none) (rgX0 d) G cL o ad [.ref o, .ref a1] (fun _ => none) (fun (_ : Unit) Y h => K Y h) E 0 0 Y h) (hw : bpX0_piece rc ad K E Y h a1) : gMetX l yX0_piece (ws_ yX0_piece cX0_piece 2 none) (rgX0 (d + 1)) G cL o ad [.ref o, .ref a1] (fun _ => none) (fun (_ : Unit) Y h => K Y h) E 0 0 Y h := by
  refine gMetX.in (lv := [some (.ref o), some (.ref a1)]) (by decide) rfl rfl (fun J SX => ?_)
  have SX : gStX l (rgX0 (d + 1)) cX0_piece RX0 "piece" 2 none G cL o ad (fun _ => none) (fun (_ : Unit) Y h => K Y h) E 0 0 J := SX
  have S := SX.st
  unfold bpX0_piece at hw
  refine j_ald0 (pc := 0) S dX0_piece_0 ?_
  refine j_bipush (pc := 1) (v := 33) S dX0_piece_1 rfl ?_
  refine x_callVi (pc := 3) S 1 (wkX0_isSign hC hw) (lw_V q472 q474 qs14 q79 q475) rfl rfl ydX0_isSign (rg0_f rfl) (rg0_l rfl) c_recv rfl rfl rfl dX0_piece_3 (Nat.le_refl _) (Nat.le_refl _) (fun r_53 Y_54 h_55 hw => ?_)
  refine j_if_eq (pc := 6) (tgt := 60) S dX0_piece_6 rfl (fun c_56 => ?_) (fun c_56 => ?_)
  · have hw := hw.1 c_56
    refine j_ald0 (pc := 60) S dX0_piece_60 ?_
    refine j_bipush (pc := 61) (v := 40) S dX0_piece_61 rfl ?_
    refine x_callVi (pc := 63) S 1 (wkX0_isSign hC hw) (lw_V q472 q474 qs14 q79 q475) rfl rfl ydX0_isSign (rg0_f rfl) (rg0_l rfl) c_recv rfl rfl rfl dX0_piece_63 (Nat.le_refl _) (Nat.le_refl _) (fun r_57 Y_58 h_59 hw => ?_)
    refine j_if_eq (pc := 66) (tgt := 131) S dX0_piece_66 rfl (fun c_60 => ?_) (fun c_60 => ?_)
    · have hw := hw.1 c_60
      refine j_ald0 (pc := 131) S dX0_piece_131 ?_
      refine c_getI (pc := 132) S 9 rfl rfl q259 dX0_piece_132 ?_
      refine j_ald0 (pc := 135) S dX0_piece_135 ?_
      refine c_getI (pc := 136) S 11 rfl rfl q261 dX0_piece_136 ?_
      refine j_icmp_ge (pc := 139) (tgt := 179) S dX0_piece_139 rfl (fun c_61 => ?_) (fun c_61 => ?_)
      · have hw := hw.1 c_61
        exact j_sub S (kX0_piece_179 SX hC ih0 ih1 ih2 ih3 ih4 ih5 hw) (gle_s (gle_s gle_0))
      · have hw := hw.2 c_61
        refine j_ald0 (pc := 142) S dX0_piece_142 ?_
        refine c_getA (pc := 143) S 6 rfl rfl q256 dX0_piece_143 ?_
        refine j_ald0 (pc := 146) S dX0_piece_146 ?_
        refine c_getI (pc := 147) S 9 rfl rfl q259 dX0_piece_147 ?_
        obtain ⟨hi, hw⟩ := hw
        refine c_bald (pc := 150) S hi dX0_piece_150 ?_
        refine x_callSi (pc := 151) S 1 (wkX0_isDigit hC hw) (lw_S q359 q360 q79 q361) rfl rfl ydX0_isDigit (rg0_f rfl) (rg0_l rfl) rfl rfl rfl dX0_piece_151 (Nat.le_refl _) (Nat.le_refl _) (fun r_62 Y_63 h_64 hw => ?_)
        refine j_if_eq (pc := 154) (tgt := 179) S dX0_piece_154 rfl (fun c_65 => ?_) (fun c_65 => ?_)
        · have hw := hw.1 c_65
          exact j_sub S (kX0_piece_179 SX hC ih0 ih1 ih2 ih3 ih4 ih5 hw) (gle_s (gle_s gle_0))
        · have hw := hw.2 c_65
          refine j_ald0 (pc := 157) S dX0_piece_157 ?_
          refine j_dup (pc := 158) S dX0_piece_158 rfl ?_
          refine c_getI (pc := 159) S 14 rfl rfl q264 dX0_piece_159 ?_
          refine j_iconst (pc := 162) (v := 1) S dX0_piece_162 rfl ?_
          refine j_iadd (pc := 163) S dX0_piece_163 ?_
          refine c_putI (pc := 164) S 14 rfl rfl rfl rfl rfl q264 dX0_piece_164 (fun Y_66 e_67 => ?_)
          have hw := hw Y_66 e_67
          refine j_ald1 (pc := 167) S dX0_piece_167 ?_
          refine j_iconst (pc := 168) (v := 1) S dX0_piece_168 rfl ?_
          refine j_ald0 (pc := 169) S dX0_piece_169 ?_
          refine x_callXVi (pc := 170) SX rfl rfl 0 (wkX0_number hC hw) (lw_V q480 q482 qs15 q79 q483) rfl rfl ydX0_number (rg0_f rfl) (rg0_l rfl) c_recv rfl rfl rfl dX0_piece_170 (Nat.le_refl _) (Nat.le_refl _) (fun r_68 Y_69 h_70 hw => ?_)
          obtain ⟨⟨fs_74, ha⟩, hw⟩ := hw
          refine x_callVv (pc := 173) S 2 (wkX12_add hC hw) (lw_V q476 q477 q478 q102 q479) rfl rfl ydX12_add (rg0_f rfl) (rg0_l rfl) (h_recv ha rfl rfl) rfl rfl rfl dX0_piece_173 (Nat.le_refl _) (Nat.le_refl _) (fun Y_72 h_73 hw => ?_)
          refine j_goto (pc := 176) (tgt := 251) S dX0_piece_176 rfl ?_
          exact j_vret (pc := 251) S (Nat.le_refl _) (Nat.le_refl _) dX0_piece_251 hw
    · have hw := hw.2 c_60
      refine j_ald0 (pc := 69) S dX0_piece_69 ?_
      refine c_getI (pc := 70) S 12 rfl rfl q262 dX0_piece_70 ?_
      refine j_bipush (pc := 73) (v := 8) S dX0_piece_73 rfl ?_
      refine j_icmp_ne (pc := 75) (tgt := 82) S dX0_piece_75 rfl (fun c_75 => ?_) (fun c_75 => ?_)
      · have hw := hw.1 c_75
        exact j_sub S (kX0_piece_82 SX hC ih0 ih1 ih2 ih3 ih4 ih5 hw) (gle_s (gle_s gle_0))
      · have hw := hw.2 c_75
        refine j_ald0 (pc := 78) S dX0_piece_78 ?_
        refine x_callXVv (pc := 79) SX rfl rfl 0 (wkX0_wrong hC hw) (lw_V q362 q364 qs4 q79 q365) rfl rfl ydX0_wrong (rg0_f rfl) (rg0_l rfl) c_recv rfl rfl rfl dX0_piece_79 (Nat.le_refl _) (Nat.le_refl _) (fun Y_77 h_78 hw => ?_)
        exact j_sub S (kX0_piece_82 SX hC ih0 ih1 ih2 ih3 ih4 ih5 hw) (gle_s (gle_s gle_0))
  · have hw := hw.2 c_56
    refine j_ald0 (pc := 9) S dX0_piece_9 ?_
    refine c_getI (pc := 10) S 13 rfl rfl q263 dX0_piece_10 ?_
    refine j_bipush (pc := 13) (v := 8) S dX0_piece_13 rfl ?_
    refine j_icmp_ne (pc := 15) (tgt := 22) S dX0_piece_15 rfl (fun c_79 => ?_) (fun c_79 => ?_)
    · have hw := hw.1 c_79
      exact j_sub S (kX0_piece_22 SX hC ih0 ih1 ih2 ih3 ih4 ih5 hw) (gle_s (gle_s gle_0))
    · have hw := hw.2 c_79
      refine j_ald0 (pc := 18) S dX0_piece_18 ?_
      refine x_callXVv (pc := 19) SX rfl rfl 0 (wkX0_wrong hC hw) (lw_V q362 q364 qs4 q79 q365) rfl rfl ydX0_wrong (rg0_f rfl) (rg0_l rfl) c_recv rfl rfl rfl dX0_piece_19 (Nat.le_refl _) (Nat.le_refl _) (fun Y_81 h_82 hw => ?_)
      exact j_sub S (kX0_piece_22 SX hC ih0 ih1 ih2 ih3 ih4 ih5 hw) (gle_s (gle_s gle_0))
/-- the six methods of the expression, by number; the depth falls at each call -/
def wgX0 (ad : Nat → Nat) : Nat → Nat → (gY → gH → Prop) → (Nat → gY → gH → Prop) → gY → gH → Nat → Prop
  | 0 => fun _ _ _ _ _ _ => False
  | d + 1 => fun i => match i with
    | 0 => bpX0_or (wgX0 ad d) ad
    | 1 => bpX0_and (wgX0 ad d) ad
    | 2 => bpX0_test (wgX0 ad d) ad
    | 3 => bpX0_sum (wgX0 ad d) ad
    | 4 => bpX0_term (wgX0 ad d) ad
    | _ => bpX0_piece (wgX0 ad d) ad
theorem wgX0_ok (hC : cOK G) : ∀ d : Nat, (∀ (K : gY → gH → Prop) (E : Nat → gY → gH → Prop) (Y : gY) (h : gH) (a1 : Nat), wgX0 ad d 0 K E Y h a1 → gMetX l yX0_or (ws_ yX0_or cX0_or 2 none) (rgX0 d) G cL o ad [.ref o, .ref a1] (fun _ => none) (fun (_ : Unit) Y h => K Y h) E 0 0 Y h) ∧ (∀ (K : gY → gH → Prop) (E : Nat → gY → gH → Prop) (Y : gY) (h : gH) (a1 : Nat), wgX0 ad d 1 K E Y h a1 → gMetX l yX0_and (ws_ yX0_and cX0_and 2 none) (rgX0 d) G cL o ad [.ref o, .ref a1] (fun _ => none) (fun (_ : Unit) Y h => K Y h) E 0 0 Y h) ∧ (∀ (K : gY → gH → Prop) (E : Nat → gY → gH → Prop) (Y : gY) (h : gH) (a1 : Nat), wgX0 ad d 2 K E Y h a1 → gMetX l yX0_test (ws_ yX0_test cX0_test 3 none) (rgX0 d) G cL o ad [.ref o, .ref a1] (fun _ => none) (fun (_ : Unit) Y h => K Y h) E 0 0 Y h) ∧ (∀ (K : gY → gH → Prop) (E : Nat → gY → gH → Prop) (Y : gY) (h : gH) (a1 : Nat), wgX0 ad d 3 K E Y h a1 → gMetX l yX0_sum (ws_ yX0_sum cX0_sum 3 none) (rgX0 d) G cL o ad [.ref o, .ref a1] (fun _ => none) (fun (_ : Unit) Y h => K Y h) E 0 0 Y h) ∧ (∀ (K : gY → gH → Prop) (E : Nat → gY → gH → Prop) (Y : gY) (h : gH) (a1 : Nat), wgX0 ad d 4 K E Y h a1 → gMetX l yX0_term (ws_ yX0_term cX0_term 3 none) (rgX0 d) G cL o ad [.ref o, .ref a1] (fun _ => none) (fun (_ : Unit) Y h => K Y h) E 0 0 Y h) ∧ (∀ (K : gY → gH → Prop) (E : Nat → gY → gH → Prop) (Y : gY) (h : gH) (a1 : Nat), wgX0 ad d 5 K E Y h a1 → gMetX l yX0_piece (ws_ yX0_piece cX0_piece 2 none) (rgX0 d) G cL o ad [.ref o, .ref a1] (fun _ => none) (fun (_ : Unit) Y h => K Y h) E 0 0 Y h) := by
  intro d
  induction d with
  | zero => exact ⟨fun K E Y h a1 hw => hw.elim, fun K E Y h a1 hw => hw.elim, fun K E Y h a1 hw => hw.elim, fun K E Y h a1 hw => hw.elim, fun K E Y h a1 hw => hw.elim, fun K E Y h a1 hw => hw.elim⟩
  | succ d ih =>
    obtain ⟨i0, i1, i2, i3, i4, i5⟩ := ih
    exact ⟨fun K E Y h a1 hw => bkX0_or hC i0 i1 i2 i3 i4 i5 hw, fun K E Y h a1 hw => bkX0_and hC i0 i1 i2 i3 i4 i5 hw, fun K E Y h a1 hw => bkX0_test hC i0 i1 i2 i3 i4 i5 hw, fun K E Y h a1 hw => bkX0_sum hC i0 i1 i2 i3 i4 i5 hw, fun K E Y h a1 hw => bkX0_term hC i0 i1 i2 i3 i4 i5 hw, fun K E Y h a1 hw => bkX0_piece hC i0 i1 i2 i3 i4 i5 hw⟩
abbrev rX0_or : Room := rgX0 70
def wpX0_or (ad : Nat → Nat) (K : gY → gH → Prop) (E : Nat → gY → gH → Prop) (Y : gY) (h : gH) (a1 : Nat) : Prop := wgX0 ad 70 0 K E Y h a1
theorem wkX0_or (hC : cOK G) {K : gY → gH → Prop} {E : Nat → gY → gH → Prop} {Y : gY} {h : gH} {a1 : Nat} (hw : wpX0_or ad K E Y h a1) : gMetX l yX0_or (ws_ yX0_or cX0_or 2 none) rX0_or G cL o ad [.ref o, .ref a1] (fun _ => none) (fun (_ : Unit) Y h => K Y h) E 0 0 Y h := (wgX0_ok hC 70).1 K E Y h a1 hw
/-! LeaningStreet.expression()LLeaningStreet$Words; -/
abbrev rX0_expression (mc ms : Nat) : Room := { frames := 79, cells := mc, slots := ms, locals := 3221 }
theorem ydX0_expression : yX0_expression.cls = RX0 ∧ yX0_expression.cls ≠ "java/lang/invoke/MethodHandle" ∧ yX0_expression.cls ≠ "java/lang/invoke/VarHandle" ∧ (parseMethodDescriptor yX0_expression.desc).map (fun d => d.parameters.length) = some 0 := by decide +kernel
def wpX0_expression (ad : Nat → Nat) (K : Nat → gY → gH → Prop) (E : Nat → gY → gH → Prop) (mc ms : Nat) (Y : gY) (h : gH) : Prop := 0 + 1 ≤ mc ∧ 0 + 3 ≤ ms ∧ ∀ (q_3 : Nat) (h_4 : gH), h q_3 = none → h_4 = hup h q_3 (.inr (7, [.null, .null, .int 0])) → (∃ mc_10 ms_11 : Nat, (0 + 1) + mc_10 ≤ mc ∧ (0 + 3) + ms_11 ≤ ms ∧ wpX12_init (fun Y_8 h_9 => (wpX0_or ad (fun Y_15 h_16 => (K q_3 Y_15 h_16)) E Y_8 h_9 q_3)) mc_10 ms_11 Y h_4 q_3)
theorem wkX0_expression (hC : cOK G) {K : Nat → gY → gH → Prop} {E : Nat → gY → gH → Prop} {mc ms : Nat} {Y : gY} {h : gH} (hw : wpX0_expression ad K E mc ms Y h) : gMetX l yX0_expression (ws_ yX0_expression cX0_expression 2 (some (.object "LeaningStreet$Words"))) (rX0_expression mc ms) G cL o ad [.ref o] (fun r => some (.ref r)) K E mc ms Y h := by
  refine gMetX.in (lv := [some (.ref o), none]) (by decide) rfl rfl (fun J SX => ?_)
  have SX : gStX l (rX0_expression mc ms) cX0_expression RX0 "expression" 2 (some (.object "LeaningStreet$Words")) G cL o ad (fun r => some (.ref r)) K E mc ms J := SX
  have S := SX.st
  unfold wpX0_expression at hw
  obtain ⟨hc_1, hs_2, hw⟩ := hw
  refine h_new (pc := 0) (C := RX12) (T := TX12) (N := 3) (ci := 7) (fs := [.null, .null, .int 0]) S rfl in_X12 tyX12 tyX12_ok q429 q430 q102 (fun j hj => by rcases (show j = 0 ∨ j = 1 ∨ j = 2 by omega) with rfl | rfl | rfl <;> rfl) hc_1 hs_2 dX0_expression_0 (fun q_3 h_4 hq_5 e_6 => ?_)
  have hw := hw q_3 h_4 hq_5 e_6
  refine j_dup (pc := 3) S dX0_expression_3 rfl ?_
  obtain ⟨mc_10, ms_11, hc_12, hs_13, hw⟩ := hw
  refine y_callINv (ret' := none) (pc := 4) S 0 (wkX12_init hC hw) (lw_meth q433) rfl rfl q102 (cn hC 22 rfl) q432 rfl ydX12_init rfl rfl rfl rfl rfl dX0_expression_4 hc_12 hs_13 (fun Y_8 h_9 hw => ?_)
  refine j_ast1 (pc := 7) S dX0_expression_7 rfl rfl ?_
  refine j_ald0 (pc := 8) S dX0_expression_8 ?_
  refine j_ald1 (pc := 9) S dX0_expression_9 ?_
  refine x_callXVv (pc := 10) SX rfl rfl 1 (wkX0_or hC hw) (lw_V q448 q450 qs8 q79 q451) rfl rfl ydX0_or rfl rfl c_recv rfl rfl rfl dX0_expression_10 hc_12 hs_13 (fun Y_15 h_16 hw => ?_)
  refine j_ald1 (pc := 13) S dX0_expression_13 ?_
  exact j_aret (pc := 14) S (Or.inl ⟨_, rfl⟩) hc_12 hs_13 dX0_expression_14 hw

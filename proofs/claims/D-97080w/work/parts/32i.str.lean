set_option maxRecDepth 100000
/-! ===== the three String constants: frozen cells ===== -/
def sLen : List Nat := [4, 3, 4]
def sByt : List (List Int32) := [[112, 117, 115, 104], [102, 101, 101], [102, 105, 110, 101]]
def sFO (G : gG) (kS vS : Nat → Nat) (fZ : Nat) : Prop :=
  (∀ (A : Nat → Prop) (U : State) (H : Heap), G.2.2.2 A U H → vk_S 3 sLen sByt kS vS A U H ∧ va_Z "java/lang/String" "COMPACT_STRINGS" "Z" (.int 1) A U H ∧ va_Z "jdk/internal/util/Preconditions" "SIOOBE_FORMATTER" "Ljava/util/function/BiFunction;" (.ref fZ) A U H) ∧
  ∀ U : State, G.2.2.1 U → vk_R RX0 211 "push" (kS 0) U ∧ vk_R RX0 217 "fee" (kS 1) U ∧ vk_R RX0 219 "fine" (kS 2) U
section ST
variable {α β : Type} {l : Launch} {R : Room} {cc : ByteArray} {own nm : String} {nL : Nat} {ret : Option FieldType} {G : gG} {L : gL} {o : Nat} {ad : Nat → Nat} {vv : α → Option Value} {K : α → gY → gH → Prop} {mc ms : Nat} {J : gJt}
variable {Y : gY} {h : gH} {cs ss pc : Nat} {lv : List (Option Value)} {st : List Value} {kS vS : Nat → Nat} {fZ : Nat}
theorem s_getf (S : gSt l R cc own nm nL ret G L o ad vv K mc ms J) {o' n d' : String} {v : Value} {q index : Nat} (hE : ∀ (A : Nat → Prop) (U : State) (H : Heap), G.2.2.2 A U H → va_OF o' n d' v q A U H) (q1 : Cond.fieldLink own index o' n d' ∈ lw_all) (d : decode cc pc = .ok (.getfield index, 3)) (kk : J Y h cs ss (pc + 3) lv (v :: st)) : J Y h cs ss pc lv (.ref q :: st) := by
  obtain ⟨p, e, s, m, args, below, meth, c, A, Qf, hQf, rfl, hx, hb, hml, hr, hlk, hown, hts, hK, hnm, hG⟩ := S
  intro H locs ls w f hl
  obtain ⟨cf, k, fi, f', cell, h1, h2, h3, h4, h5, h6⟩ := hE A s H f
  exact W.getf hx hb hown (hts _ q1) h1 h2 h3 h4 (v := v) h5 rfl rfl d (kk H locs ls w f hl)
theorem s_gets (S : gSt l R cc own nm nL ret G L o ad vv K mc ms J) {C n d' : String} {v : Value} {index : Nat} (hE : ∀ (A : Nat → Prop) (U : State) (H : Heap), G.2.2.2 A U H → va_Z C n d' v A U H) (q1 : Cond.fieldLink own index C n d' ∈ lw_all) (d : decode cc pc = .ok (.getstatic index, 3)) (kk : J Y h cs ss (pc + 3) lv (v :: st)) : J Y h cs ss pc lv st := by
  obtain ⟨p, e, s, m, args, below, meth, c, A, Qf, hQf, rfl, hx, hb, hml, hr, hlk, hown, hts, hK, hnm, hG⟩ := S
  intro H locs ls w f hl
  obtain ⟨cf, kf, fi, f', a, cell, h1, h2, h3, h4, h5, h6, h7, h8⟩ := hE A s H f
  exact W.gets hx hb hown (hts _ q1) h1 h2 h3 h4 h5 (fun e => by rw [e] at h6; cases h6) h7 rfl d (kk H locs ls w f hl)
theorem s_val (S : gSt l R cc own nm nL ret G L o ad vv K mc ms J) (hS : sFO G kS vS fZ) {i index : Nat} (hi : i < 3) (q1 : Cond.fieldLink own index "java/lang/String" "value" "[B" ∈ lw_all) (d : decode cc pc = .ok (.getfield index, 3)) (kk : J Y h cs ss (pc + 3) lv (.ref (vS i) :: st)) : J Y h cs ss pc lv (.ref (kS i) :: st) :=
  s_getf S (fun A U H f => ((hS.1 A U H f).1.1 i hi).2.2.1) q1 d kk
theorem s_coder (S : gSt l R cc own nm nL ret G L o ad vv K mc ms J) (hS : sFO G kS vS fZ) {i index : Nat} (hi : i < 3) (q1 : Cond.fieldLink own index "java/lang/String" "coder" "B" ∈ lw_all) (d : decode cc pc = .ok (.getfield index, 3)) (kk : J Y h cs ss (pc + 3) lv (.int 0 :: st)) : J Y h cs ss pc lv (.ref (kS i) :: st) :=
  s_getf S (fun A U H f => ((hS.1 A U H f).1.1 i hi).2.1) q1 d kk
theorem s_compact (S : gSt l R cc own nm nL ret G L o ad vv K mc ms J) (hS : sFO G kS vS fZ) {index : Nat} (q1 : Cond.fieldLink own index "java/lang/String" "COMPACT_STRINGS" "Z" ∈ lw_all) (d : decode cc pc = .ok (.getstatic index, 3)) (kk : J Y h cs ss (pc + 3) lv (.int 1 :: st)) : J Y h cs ss pc lv st :=
  s_gets S (fun A U H f => (hS.1 A U H f).2.1) q1 d kk
theorem s_fmt (S : gSt l R cc own nm nL ret G L o ad vv K mc ms J) (hS : sFO G kS vS fZ) {index : Nat} (q1 : Cond.fieldLink own index "jdk/internal/util/Preconditions" "SIOOBE_FORMATTER" "Ljava/util/function/BiFunction;" ∈ lw_all) (d : decode cc pc = .ok (.getstatic index, 3)) (kk : J Y h cs ss (pc + 3) lv (.ref fZ :: st)) : J Y h cs ss pc lv st :=
  s_gets S (fun A U H f => (hS.1 A U H f).2.2) q1 d kk
theorem s_len (S : gSt l R cc own nm nL ret G L o ad vv K mc ms J) (hS : sFO G kS vS fZ) {i : Nat} (hi : i < 3) (d : decode cc pc = .ok (.arraylength, 1)) (kk : J Y h cs ss (pc + 1) lv (.int (Int32.ofNat (sLen.getD i 0)) :: st)) : J Y h cs ss pc lv (.ref (vS i) :: st) := by
  obtain ⟨p, e, s, m, args, below, meth, c, A, Qf, hQf, rfl, hx, hb, hml, hr, hlk, hown, hts, hK, hnm, hG⟩ := S
  intro H locs ls w f hl
  obtain ⟨cell, h1, h2, h3, h4, h5, h6, h7⟩ := ((hS.1 A s H f).1.1 i hi).2.2.2
  exact W.alen (n := Int32.ofNat (sLen.getD i 0)) hx hb h1 h2 h5 rfl rfl d (kk H locs ls w f hl)
theorem s_bald (S : gSt l R cc own nm nL ret G L o ad vv K mc ms J) (hS : sFO G kS vS fZ) {i : Nat} (hi : i < 3) {j : Int32} (hin : vp_in j (sLen.getD i 0)) (d : decode cc pc = .ok (.baload, 1)) (kk : J Y h cs ss (pc + 1) lv (.int ((sByt.getD i []).getD j.toNatClampNeg 0) :: st)) : J Y h cs ss pc lv (.int j :: .ref (vS i) :: st) := by
  obtain ⟨p, e, s, m, args, below, meth, c, A, Qf, hQf, rfl, hx, hb, hml, hr, hlk, hown, hts, hK, hnm, hG⟩ := S
  intro H locs ls w f hl
  obtain ⟨cell, h1, h2, h3, h4, h5, h6, h7⟩ := ((hS.1 A s H f).1.1 i hi).2.2.2
  have hlt : j.toNatClampNeg < sLen.getD i 0 := Nat.not_le.mp fun q => hin (Or.inr q)
  have hin' : ¬ (j < 0 ∨ cell.slots.size ≤ j.toNatClampNeg) := by
    intro q
    rcases q with q | q
    · exact hin (Or.inl q)
    · omega
  exact W.bald (v := .int ((sByt.getD i []).getD j.toNatClampNeg 0)) hx hb h1 h2 h3 hin' (h6 _ hlt) rfl rfl d (kk H locs ls w f hl)
theorem s_ldc (S : gSt l R cc own nm nL ret G L o ad vv K mc ms J) {tx : String} {q index : Nat} (hR : ∀ U : State, G.2.2.1 U → vk_R own index tx q U) (d : decode cc pc = .ok (.ldc index, 2)) (kk : J Y h cs ss (pc + 2) lv (.ref q :: st)) : J Y h cs ss pc lv st := by
  obtain ⟨p, e, s, m, args, below, meth, c, A, Qf, hQf, rfl, hx, hb, hml, hr, hlk, hown, hts, hK, hnm, hG⟩ := S
  intro H locs ls w f hl
  exact va_ldcS hx hb hown (hR s hK.2) d (kk H locs ls w f hl)
theorem j_i2c (S : gSt l R cc own nm nL ret G L o ad vv K mc ms J) {x : Int32} (d : decode cc pc = .ok (.i2c, 1)) (k : J Y h cs ss (pc + 1) lv (.int (x.toUInt32 % 65536).toInt32 :: st)) : J Y h cs ss pc lv (.int x :: st) := by
  obtain ⟨p, e, s, m, args, below, meth, c, A, Qf, hQf, rfl, hx, hb, hml, hr, hlk, hown, hts, hK, hnm, hG⟩ := S
  exact fun H locs ls w f hl => lv_i2c hx hb d rfl (k H locs ls w f hl)
theorem j_nret {K : Int32 → gY → gH → Prop} {ty : FieldType} (S : gSt l R cc own nm nL (some ty) G L o ad (fun r => some (.int r)) K mc ms J) {r : Int32} (h1 : cs ≤ mc) (h2 : ss ≤ ms) (d : decode cc pc = .ok (.ireturn, 1)) (hn : narrow ty (.int r) = .int r) (hk : K r Y h) : J Y h cs ss pc lv [.int r] := by
  obtain ⟨p, e, s, m, args, below, meth, c, A, Qf, hQf, rfl, hx, hb, hml, hr, hlk, hown, hts, hK, hnm, hG⟩ := S
  exact fun H locs ls w f hl => gmono hQf.1 (W.widen h1 h2 (W.zret (v := r) hx hb hr hn (fun t ht hW => ⟨⟨r, Y, h, rfl, hk, by rw [ht]; exact w.1, w.2.1, fun q e hq => w.2.2.1 q (Or.inr (Or.inr (Or.inl ⟨e, hq⟩)))⟩, w.2.2.2.F ht⟩) w.2.2.2.2.2 d hlk))
/-- a call on a String -/
theorem s_callV (S : gSt l R cc own nm nL ret G L o ad vv K mc ms J) (hS : sFO G kS vS fZ) {y : MethodName} {bytes : ByteArray} {maxL index i : Nat} {ret' : Option FieldType} {rm' : Room} {As rest : List Value} {K' : Int32 → gY → gH → Prop} (n : Nat) (hi : i < 3)
    (hM : gMet l y (ws_ y bytes maxL ret') rm' G L o ad (.ref (kS i) :: As) (fun r => some (.int r)) K' 0 0 Y h) (hw : GoodIn lw_all (wsV own index "java/lang/String" y (ws_ y bytes maxL ret'))) (hrc : rm'.cells = 0) (hrs : rm'.slots = 0)
    (hd : y.cls = "java/lang/String" ∧ y.cls ≠ "java/lang/invoke/MethodHandle" ∧ y.cls ≠ "java/lang/invoke/VarHandle" ∧ (parseMethodDescriptor y.desc).map (fun d => d.parameters.length) = some n) (hR1 : Nat.ble (rm'.frames + 1) R.frames = true) (hR2 : Nat.ble (8 + (maxL + 11) + rm'.locals) R.locals = true)
    (hn : As.length = n) (hst : st = As.reverse ++ .ref (kS i) :: rest) (hsum : Nat.ble (rest.map fun v => v.category).sum 8 = true)
    (d : decode cc pc = .ok (.invokevirtual index, 3)) (hcs : cs ≤ R.cells) (hss : ss ≤ R.slots)
    (kk : ∀ (r : Int32) (Y' : gY) (h' : gH), K' r Y' h' → J Y' h' cs ss (pc + 3) lv (.int r :: rest)) : J Y h cs ss pc lv st := by
  obtain ⟨p, e, s, m, args, below, meth, c, A, Qf, hQf, rfl, hx, hb, hml, hr, hlk, hown, hts, hK, hnm, hG⟩ := S
  intro H locs ls w f hl
  subst hst
  obtain ⟨cell, g1, g2, g3, -⟩ := ((hS.1 A s H f).1.1 i hi).1
  refine g_call (mc' := 0) (ms' := 0) (va_runV (As := As) (rest := rest) ⟨hx, hb, hml, hown, hts⟩ (hM hG H.size) (cwV n hts hw rfl hrc hrs hd ⟨Nat.le_of_ble_eq_true hR1, Nat.le_of_ble_eq_true hR2⟩) ⟨gPre_blind hG, ⟨cell, g1, g2, g3⟩, fun U hU hW => g_pre hG hK w f hU hW⟩ rfl hn hl.1 rfl (lv_room (Nat.le_of_ble_eq_true hsum)) d ⟨hcs, hss⟩) w.2.2.2 w.sub w.sub (fun r Y' h' H1 locs1 hk hV hX hdm hkp hS => ?_)
  exact kk r Y' h' hk H1 locs1 ls (w.after hV hX hdm hS) (hG.2.2.2.1 A s H H1 (fun q h1 h2 => hkp q h1 (fun z => h2 (w.sub q z))) f) hl
end ST

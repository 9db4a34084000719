set_option maxRecDepth 100000
section XY
variable {α : Type} {l : Launch} {R : Room} {cc : ByteArray} {own nm : String} {nL : Nat} {ret : Option FieldType} {hh : xH} {G : gG} {L : gL} {o : Nat} {ad : Nat → Nat} {vv : α → Option Value} {K : α → gY → gH → Prop} {E : Nat → gY → gH → Prop} {mc ms : Nat} {J : gJt}
variable {Y : gY} {h : gH} {cs ss pc : Nat} {lv : List (Option Value)} {st : List Value}
theorem t_pk0 : packageOf "LeaningStreet$House" = "" ∧ Nat.ble (dotted "LeaningStreet$House").length 40 = true := by decide +kernel
theorem t_pk1 : packageOf "LeaningStreet$TimberHouse" = "" ∧ Nat.ble (dotted "LeaningStreet$TimberHouse").length 40 = true := by decide +kernel
theorem t_pk2 : packageOf "LeaningStreet$BrickHouse" = "" ∧ Nat.ble (dotted "LeaningStreet$BrickHouse").length 40 = true := by decide +kernel
theorem t_pk3 : packageOf "LeaningStreet$EmptyHouse" = "" ∧ Nat.ble (dotted "LeaningStreet$EmptyHouse").length 40 = true := by decide +kernel
theorem t_pk4 : packageOf "LeaningStreet$DoubleHouse" = "" ∧ Nat.ble (dotted "LeaningStreet$DoubleHouse").length 40 = true := by decide +kernel
theorem t_pk5 : packageOf "LeaningStreet$FloatingHouse" = "" ∧ Nat.ble (dotted "LeaningStreet$FloatingHouse").length 40 = true := by decide +kernel
theorem t_pk9 : packageOf "LeaningStreet$Sheet" = "" ∧ Nat.ble (dotted "LeaningStreet$Sheet").length 40 = true := by decide +kernel
theorem t_pk11 : packageOf "LeaningStreet$Figure" = "" ∧ Nat.ble (dotted "LeaningStreet$Figure").length 40 = true := by decide +kernel
theorem j_to0 (S : gStX l R cc own nm nL ret G L o ad vv K E mc ms J) (hRc : R.cells = mc) (hRs : R.slots = ms) (hTr : l.stackTraces = false) (hC : cOK G) (hF : xFO G) {index b ci : Nat} {fs : List Value} (hbb : h b = some (.inr (ci, fs))) (hci : ci < 6 ∨ ci = 9 ∨ ci = 11) (q1 : Cond.classLink own index "LeaningStreet$House" ∈ lw_all) (hR1 : Nat.ble 7 R.frames = true) (hR2 : Nat.ble 10248 R.locals = true) (hsum : Nat.ble (st.map fun v => v.category).sum 7 = true) (d : decode cc pc = .ok (.checkcast index, 3))
    (kk : ci < 6 → J Y h cs ss (pc + 3) lv (.ref b :: st)) (tt : ¬ (ci < 6) → cs + 3 ≤ mc ∧ ss + 1610 ≤ ms ∧ ∀ (x : Nat) (h' : gH), h x = none → h' = hup h x (.inr (15, [])) → E x Y h') : J Y h cs ss pc lv (.ref b :: st) := by
  rcases hci with hci | rfl | rfl
  · rcases (show ci = 0 ∨ ci = 1 ∨ ci = 2 ∨ ci = 3 ∨ ci = 4 ∨ ci = 5 by omega) with rfl | rfl | rfl | rfl | rfl | rfl
    · exact h_to0 S.st hC hbb (by omega) q1 d (kk (by omega))
    · exact h_to0 S.st hC hbb (by omega) q1 d (kk (by omega))
    · exact h_to0 S.st hC hbb (by omega) q1 d (kk (by omega))
    · exact h_to0 S.st hC hbb (by omega) q1 d (kk (by omega))
    · exact h_to0 S.st hC hbb (by omega) q1 d (kk (by omega))
    · exact h_to0 S.st hC hbb (by omega) q1 d (kk (by omega))
  · obtain ⟨t1, t2, t3⟩ := tt (by omega)
    exact j_castX (cj := 0) S hRc hRs hTr hC hF hbb rfl rfl q1 (cnc hC 51 rfl) t_pk9 t_pk0 hR1 hR2 hsum d t1 t2 t3
  · obtain ⟨t1, t2, t3⟩ := tt (by omega)
    exact j_castX (cj := 0) S hRc hRs hTr hC hF hbb rfl rfl q1 (cnc hC 58 rfl) t_pk11 t_pk0 hR1 hR2 hsum d t1 t2 t3
theorem j_to1 (S : gStX l R cc own nm nL ret G L o ad vv K E mc ms J) (hRc : R.cells = mc) (hRs : R.slots = ms) (hTr : l.stackTraces = false) (hC : cOK G) (hF : xFO G) {index b ci : Nat} {fs : List Value} (hbb : h b = some (.inr (ci, fs))) (hci : ci < 6 ∨ ci = 9 ∨ ci = 11) (q1 : Cond.classLink own index "LeaningStreet$TimberHouse" ∈ lw_all) (hR1 : Nat.ble 7 R.frames = true) (hR2 : Nat.ble 10248 R.locals = true) (hsum : Nat.ble (st.map fun v => v.category).sum 7 = true) (d : decode cc pc = .ok (.checkcast index, 3))
    (kk : ci = 1 ∨ ci = 3 → J Y h cs ss (pc + 3) lv (.ref b :: st)) (tt : ¬ (ci = 1 ∨ ci = 3) → cs + 3 ≤ mc ∧ ss + 1610 ≤ ms ∧ ∀ (x : Nat) (h' : gH), h x = none → h' = hup h x (.inr (15, [])) → E x Y h') : J Y h cs ss pc lv (.ref b :: st) := by
  rcases hci with hci | rfl | rfl
  · rcases (show ci = 0 ∨ ci = 1 ∨ ci = 2 ∨ ci = 3 ∨ ci = 4 ∨ ci = 5 by omega) with rfl | rfl | rfl | rfl | rfl | rfl
    · obtain ⟨t1, t2, t3⟩ := tt (by omega)
      exact j_castX (cj := 1) S hRc hRs hTr hC hF hbb rfl rfl q1 (cnc hC 100 rfl) t_pk0 t_pk1 hR1 hR2 hsum d t1 t2 t3
    · exact h_to1 S.st hC hbb (by omega) q1 d (kk (by omega))
    · obtain ⟨t1, t2, t3⟩ := tt (by omega)
      exact j_castX (cj := 1) S hRc hRs hTr hC hF hbb rfl rfl q1 (cnc hC 97 rfl) t_pk2 t_pk1 hR1 hR2 hsum d t1 t2 t3
    · exact h_to1 S.st hC hbb (by omega) q1 d (kk (by omega))
    · obtain ⟨t1, t2, t3⟩ := tt (by omega)
      exact j_castX (cj := 1) S hRc hRs hTr hC hF hbb rfl rfl q1 (cnc hC 98 rfl) t_pk4 t_pk1 hR1 hR2 hsum d t1 t2 t3
    · obtain ⟨t1, t2, t3⟩ := tt (by omega)
      exact j_castX (cj := 1) S hRc hRs hTr hC hF hbb rfl rfl q1 (cnc hC 99 rfl) t_pk5 t_pk1 hR1 hR2 hsum d t1 t2 t3
  · obtain ⟨t1, t2, t3⟩ := tt (by omega)
    exact j_castX (cj := 1) S hRc hRs hTr hC hF hbb rfl rfl q1 (cnc hC 94 rfl) t_pk9 t_pk1 hR1 hR2 hsum d t1 t2 t3
  · obtain ⟨t1, t2, t3⟩ := tt (by omega)
    exact j_castX (cj := 1) S hRc hRs hTr hC hF hbb rfl rfl q1 (cnc hC 105 rfl) t_pk11 t_pk1 hR1 hR2 hsum d t1 t2 t3
theorem j_to2 (S : gStX l R cc own nm nL ret G L o ad vv K E mc ms J) (hRc : R.cells = mc) (hRs : R.slots = ms) (hTr : l.stackTraces = false) (hC : cOK G) (hF : xFO G) {index b ci : Nat} {fs : List Value} (hbb : h b = some (.inr (ci, fs))) (hci : ci < 6 ∨ ci = 9 ∨ ci = 11) (q1 : Cond.classLink own index "LeaningStreet$BrickHouse" ∈ lw_all) (hR1 : Nat.ble 7 R.frames = true) (hR2 : Nat.ble 10248 R.locals = true) (hsum : Nat.ble (st.map fun v => v.category).sum 7 = true) (d : decode cc pc = .ok (.checkcast index, 3))
    (kk : ci = 2 ∨ ci = 4 → J Y h cs ss (pc + 3) lv (.ref b :: st)) (tt : ¬ (ci = 2 ∨ ci = 4) → cs + 3 ≤ mc ∧ ss + 1610 ≤ ms ∧ ∀ (x : Nat) (h' : gH), h x = none → h' = hup h x (.inr (15, [])) → E x Y h') : J Y h cs ss pc lv (.ref b :: st) := by
  rcases hci with hci | rfl | rfl
  · rcases (show ci = 0 ∨ ci = 1 ∨ ci = 2 ∨ ci = 3 ∨ ci = 4 ∨ ci = 5 by omega) with rfl | rfl | rfl | rfl | rfl | rfl
    · obtain ⟨t1, t2, t3⟩ := tt (by omega)
      exact j_castX (cj := 2) S hRc hRs hTr hC hF hbb rfl rfl q1 (cnc hC 115 rfl) t_pk0 t_pk2 hR1 hR2 hsum d t1 t2 t3
    · obtain ⟨t1, t2, t3⟩ := tt (by omega)
      exact j_castX (cj := 2) S hRc hRs hTr hC hF hbb rfl rfl q1 (cnc hC 112 rfl) t_pk1 t_pk2 hR1 hR2 hsum d t1 t2 t3
    · exact h_to2 S.st hC hbb (by omega) q1 d (kk (by omega))
    · obtain ⟨t1, t2, t3⟩ := tt (by omega)
      exact j_castX (cj := 2) S hRc hRs hTr hC hF hbb rfl rfl q1 (cnc hC 113 rfl) t_pk3 t_pk2 hR1 hR2 hsum d t1 t2 t3
    · exact h_to2 S.st hC hbb (by omega) q1 d (kk (by omega))
    · obtain ⟨t1, t2, t3⟩ := tt (by omega)
      exact j_castX (cj := 2) S hRc hRs hTr hC hF hbb rfl rfl q1 (cnc hC 114 rfl) t_pk5 t_pk2 hR1 hR2 hsum d t1 t2 t3
  · obtain ⟨t1, t2, t3⟩ := tt (by omega)
    exact j_castX (cj := 2) S hRc hRs hTr hC hF hbb rfl rfl q1 (cnc hC 109 rfl) t_pk9 t_pk2 hR1 hR2 hsum d t1 t2 t3
  · obtain ⟨t1, t2, t3⟩ := tt (by omega)
    exact j_castX (cj := 2) S hRc hRs hTr hC hF hbb rfl rfl q1 (cnc hC 120 rfl) t_pk11 t_pk2 hR1 hR2 hsum d t1 t2 t3
theorem j_to3 (S : gStX l R cc own nm nL ret G L o ad vv K E mc ms J) (hRc : R.cells = mc) (hRs : R.slots = ms) (hTr : l.stackTraces = false) (hC : cOK G) (hF : xFO G) {index b ci : Nat} {fs : List Value} (hbb : h b = some (.inr (ci, fs))) (hci : ci < 6 ∨ ci = 9 ∨ ci = 11) (q1 : Cond.classLink own index "LeaningStreet$EmptyHouse" ∈ lw_all) (hR1 : Nat.ble 7 R.frames = true) (hR2 : Nat.ble 10248 R.locals = true) (hsum : Nat.ble (st.map fun v => v.category).sum 7 = true) (d : decode cc pc = .ok (.checkcast index, 3))
    (kk : ci = 3 → J Y h cs ss (pc + 3) lv (.ref b :: st)) (tt : ¬ (ci = 3) → cs + 3 ≤ mc ∧ ss + 1610 ≤ ms ∧ ∀ (x : Nat) (h' : gH), h x = none → h' = hup h x (.inr (15, [])) → E x Y h') : J Y h cs ss pc lv (.ref b :: st) := by
  rcases hci with hci | rfl | rfl
  · rcases (show ci = 0 ∨ ci = 1 ∨ ci = 2 ∨ ci = 3 ∨ ci = 4 ∨ ci = 5 by omega) with rfl | rfl | rfl | rfl | rfl | rfl
    · obtain ⟨t1, t2, t3⟩ := tt (by omega)
      exact j_castX (cj := 3) S hRc hRs hTr hC hF hbb rfl rfl q1 (cnc hC 131 rfl) t_pk0 t_pk3 hR1 hR2 hsum d t1 t2 t3
    · obtain ⟨t1, t2, t3⟩ := tt (by omega)
      exact j_castX (cj := 3) S hRc hRs hTr hC hF hbb rfl rfl q1 (cnc hC 127 rfl) t_pk1 t_pk3 hR1 hR2 hsum d t1 t2 t3
    · obtain ⟨t1, t2, t3⟩ := tt (by omega)
      exact j_castX (cj := 3) S hRc hRs hTr hC hF hbb rfl rfl q1 (cnc hC 128 rfl) t_pk2 t_pk3 hR1 hR2 hsum d t1 t2 t3
    · exact h_to3 S.st hC hbb (by omega) q1 d (kk (by omega))
    · obtain ⟨t1, t2, t3⟩ := tt (by omega)
      exact j_castX (cj := 3) S hRc hRs hTr hC hF hbb rfl rfl q1 (cnc hC 129 rfl) t_pk4 t_pk3 hR1 hR2 hsum d t1 t2 t3
    · obtain ⟨t1, t2, t3⟩ := tt (by omega)
      exact j_castX (cj := 3) S hRc hRs hTr hC hF hbb rfl rfl q1 (cnc hC 130 rfl) t_pk5 t_pk3 hR1 hR2 hsum d t1 t2 t3
  · obtain ⟨t1, t2, t3⟩ := tt (by omega)
    exact j_castX (cj := 3) S hRc hRs hTr hC hF hbb rfl rfl q1 (cnc hC 124 rfl) t_pk9 t_pk3 hR1 hR2 hsum d t1 t2 t3
  · obtain ⟨t1, t2, t3⟩ := tt (by omega)
    exact j_castX (cj := 3) S hRc hRs hTr hC hF hbb rfl rfl q1 (cnc hC 136 rfl) t_pk11 t_pk3 hR1 hR2 hsum d t1 t2 t3
theorem j_to4 (S : gStX l R cc own nm nL ret G L o ad vv K E mc ms J) (hRc : R.cells = mc) (hRs : R.slots = ms) (hTr : l.stackTraces = false) (hC : cOK G) (hF : xFO G) {index b ci : Nat} {fs : List Value} (hbb : h b = some (.inr (ci, fs))) (hci : ci < 6 ∨ ci = 9 ∨ ci = 11) (q1 : Cond.classLink own index "LeaningStreet$DoubleHouse" ∈ lw_all) (hR1 : Nat.ble 7 R.frames = true) (hR2 : Nat.ble 10248 R.locals = true) (hsum : Nat.ble (st.map fun v => v.category).sum 7 = true) (d : decode cc pc = .ok (.checkcast index, 3))
    (kk : ci = 4 → J Y h cs ss (pc + 3) lv (.ref b :: st)) (tt : ¬ (ci = 4) → cs + 3 ≤ mc ∧ ss + 1610 ≤ ms ∧ ∀ (x : Nat) (h' : gH), h x = none → h' = hup h x (.inr (15, [])) → E x Y h') : J Y h cs ss pc lv (.ref b :: st) := by
  rcases hci with hci | rfl | rfl
  · rcases (show ci = 0 ∨ ci = 1 ∨ ci = 2 ∨ ci = 3 ∨ ci = 4 ∨ ci = 5 by omega) with rfl | rfl | rfl | rfl | rfl | rfl
    · obtain ⟨t1, t2, t3⟩ := tt (by omega)
      exact j_castX (cj := 4) S hRc hRs hTr hC hF hbb rfl rfl q1 (cnc hC 147 rfl) t_pk0 t_pk4 hR1 hR2 hsum d t1 t2 t3
    · obtain ⟨t1, t2, t3⟩ := tt (by omega)
      exact j_castX (cj := 4) S hRc hRs hTr hC hF hbb rfl rfl q1 (cnc hC 143 rfl) t_pk1 t_pk4 hR1 hR2 hsum d t1 t2 t3
    · obtain ⟨t1, t2, t3⟩ := tt (by omega)
      exact j_castX (cj := 4) S hRc hRs hTr hC hF hbb rfl rfl q1 (cnc hC 144 rfl) t_pk2 t_pk4 hR1 hR2 hsum d t1 t2 t3
    · obtain ⟨t1, t2, t3⟩ := tt (by omega)
      exact j_castX (cj := 4) S hRc hRs hTr hC hF hbb rfl rfl q1 (cnc hC 145 rfl) t_pk3 t_pk4 hR1 hR2 hsum d t1 t2 t3
    · exact h_to4 S.st hC hbb (by omega) q1 d (kk (by omega))
    · obtain ⟨t1, t2, t3⟩ := tt (by omega)
      exact j_castX (cj := 4) S hRc hRs hTr hC hF hbb rfl rfl q1 (cnc hC 146 rfl) t_pk5 t_pk4 hR1 hR2 hsum d t1 t2 t3
  · obtain ⟨t1, t2, t3⟩ := tt (by omega)
    exact j_castX (cj := 4) S hRc hRs hTr hC hF hbb rfl rfl q1 (cnc hC 140 rfl) t_pk9 t_pk4 hR1 hR2 hsum d t1 t2 t3
  · obtain ⟨t1, t2, t3⟩ := tt (by omega)
    exact j_castX (cj := 4) S hRc hRs hTr hC hF hbb rfl rfl q1 (cnc hC 152 rfl) t_pk11 t_pk4 hR1 hR2 hsum d t1 t2 t3
theorem j_to5 (S : gStX l R cc own nm nL ret G L o ad vv K E mc ms J) (hRc : R.cells = mc) (hRs : R.slots = ms) (hTr : l.stackTraces = false) (hC : cOK G) (hF : xFO G) {index b ci : Nat} {fs : List Value} (hbb : h b = some (.inr (ci, fs))) (hci : ci < 6 ∨ ci = 9 ∨ ci = 11) (q1 : Cond.classLink own index "LeaningStreet$FloatingHouse" ∈ lw_all) (hR1 : Nat.ble 7 R.frames = true) (hR2 : Nat.ble 10248 R.locals = true) (hsum : Nat.ble (st.map fun v => v.category).sum 7 = true) (d : decode cc pc = .ok (.checkcast index, 3))
    (kk : ci = 5 → J Y h cs ss (pc + 3) lv (.ref b :: st)) (tt : ¬ (ci = 5) → cs + 3 ≤ mc ∧ ss + 1610 ≤ ms ∧ ∀ (x : Nat) (h' : gH), h x = none → h' = hup h x (.inr (15, [])) → E x Y h') : J Y h cs ss pc lv (.ref b :: st) := by
  rcases hci with hci | rfl | rfl
  · rcases (show ci = 0 ∨ ci = 1 ∨ ci = 2 ∨ ci = 3 ∨ ci = 4 ∨ ci = 5 by omega) with rfl | rfl | rfl | rfl | rfl | rfl
    · obtain ⟨t1, t2, t3⟩ := tt (by omega)
      exact j_castX (cj := 5) S hRc hRs hTr hC hF hbb rfl rfl q1 (cnc hC 163 rfl) t_pk0 t_pk5 hR1 hR2 hsum d t1 t2 t3
    · obtain ⟨t1, t2, t3⟩ := tt (by omega)
      exact j_castX (cj := 5) S hRc hRs hTr hC hF hbb rfl rfl q1 (cnc hC 159 rfl) t_pk1 t_pk5 hR1 hR2 hsum d t1 t2 t3
    · obtain ⟨t1, t2, t3⟩ := tt (by omega)
      exact j_castX (cj := 5) S hRc hRs hTr hC hF hbb rfl rfl q1 (cnc hC 160 rfl) t_pk2 t_pk5 hR1 hR2 hsum d t1 t2 t3
    · obtain ⟨t1, t2, t3⟩ := tt (by omega)
      exact j_castX (cj := 5) S hRc hRs hTr hC hF hbb rfl rfl q1 (cnc hC 161 rfl) t_pk3 t_pk5 hR1 hR2 hsum d t1 t2 t3
    · obtain ⟨t1, t2, t3⟩ := tt (by omega)
      exact j_castX (cj := 5) S hRc hRs hTr hC hF hbb rfl rfl q1 (cnc hC 162 rfl) t_pk4 t_pk5 hR1 hR2 hsum d t1 t2 t3
    · exact h_to5 S.st hC hbb (by omega) q1 d (kk (by omega))
  · obtain ⟨t1, t2, t3⟩ := tt (by omega)
    exact j_castX (cj := 5) S hRc hRs hTr hC hF hbb rfl rfl q1 (cnc hC 156 rfl) t_pk9 t_pk5 hR1 hR2 hsum d t1 t2 t3
  · obtain ⟨t1, t2, t3⟩ := tt (by omega)
    exact j_castX (cj := 5) S hRc hRs hTr hC hF hbb rfl rfl q1 (cnc hC 168 rfl) t_pk11 t_pk5 hR1 hR2 hsum d t1 t2 t3
theorem j_toSheet (S : gStH l R cc own nm nL ret hh G L o ad vv K mc ms J) (hTr : l.stackTraces = false) (hC : cOK G) (hF : xFO G) {index b ci : Nat} {fs : List Value} (hbb : h b = some (.inr (ci, fs))) (hci : ci < 6 ∨ ci = 9 ∨ ci = 11) {s0 e0 hp t : Nat} (q1 : Cond.classLink own index "LeaningStreet$Sheet" ∈ lw_all) (hR1 : Nat.ble 7 R.frames = true) (hR2 : Nat.ble 10248 R.locals = true) (hsum : Nat.ble (st.map fun v => v.category).sum 7 = true) (d : decode cc pc = .ok (.checkcast index, 3)) (htb : xhd hh pc = some (s0, e0, hp, t)) (h0 : t ≠ 0) (q2 : Cond.classLink own t "java/lang/ClassCastException" ∈ lw_all)
    (kk : ci = 9 → J Y h cs ss (pc + 3) lv (.ref b :: st)) (tt : ¬ ci = 9 → cs + 3 ≤ R.cells ∧ ss + 1610 ≤ R.slots ∧ ∀ (x : Nat) (h' : gH), h x = none → h' = hup h x (.inr (15, [])) → J Y h' (cs + 3) (ss + 1610) hp lv [.ref x]) : J Y h cs ss pc lv (.ref b :: st) := by
  rcases hci with hci | rfl | rfl
  · rcases (show ci = 0 ∨ ci = 1 ∨ ci = 2 ∨ ci = 3 ∨ ci = 4 ∨ ci = 5 by omega) with rfl | rfl | rfl | rfl | rfl | rfl
    · obtain ⟨t1, t2, t3⟩ := tt (by omega)
      exact j_castH (cj := 9) S hTr hC hF hbb rfl rfl q1 (cnc hC 69 rfl) t_pk0 t_pk9 hR1 hR2 hsum d t1 t2 htb h0 q2 t3
    · obtain ⟨t1, t2, t3⟩ := tt (by omega)
      exact j_castH (cj := 9) S hTr hC hF hbb rfl rfl q1 (cnc hC 64 rfl) t_pk1 t_pk9 hR1 hR2 hsum d t1 t2 htb h0 q2 t3
    · obtain ⟨t1, t2, t3⟩ := tt (by omega)
      exact j_castH (cj := 9) S hTr hC hF hbb rfl rfl q1 (cnc hC 65 rfl) t_pk2 t_pk9 hR1 hR2 hsum d t1 t2 htb h0 q2 t3
    · obtain ⟨t1, t2, t3⟩ := tt (by omega)
      exact j_castH (cj := 9) S hTr hC hF hbb rfl rfl q1 (cnc hC 66 rfl) t_pk3 t_pk9 hR1 hR2 hsum d t1 t2 htb h0 q2 t3
    · obtain ⟨t1, t2, t3⟩ := tt (by omega)
      exact j_castH (cj := 9) S hTr hC hF hbb rfl rfl q1 (cnc hC 67 rfl) t_pk4 t_pk9 hR1 hR2 hsum d t1 t2 htb h0 q2 t3
    · obtain ⟨t1, t2, t3⟩ := tt (by omega)
      exact j_castH (cj := 9) S hTr hC hF hbb rfl rfl q1 (cnc hC 68 rfl) t_pk5 t_pk9 hR1 hR2 hsum d t1 t2 htb h0 q2 t3
  · exact h_castS S.st hbb rfl rfl q1 d (kk rfl)
  · obtain ⟨t1, t2, t3⟩ := tt (by omega)
    exact j_castH (cj := 9) S hTr hC hF hbb rfl rfl q1 (cnc hC 74 rfl) t_pk11 t_pk9 hR1 hR2 hsum d t1 t2 htb h0 q2 t3
end XY

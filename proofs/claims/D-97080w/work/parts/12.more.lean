set_option maxRecDepth 100000
/-- the locals at a method's entry -/
def gin : List Value → Nat → List (Option Value)
  | [], n => List.replicate n none
  | v :: t, n => if v.category = 2 then some v :: none :: gin t (n - 2) else some v :: gin t (n - 1)
theorem gin_ok : ∀ (av : List Value) (n b i : Nat) (v : Value), (gin av n)[i]? = some (some v) → (b + i, v) ∈ lv_args b av
  | [], n, b, i, v, h => by
    unfold gin at h
    rw [List.getElem?_replicate] at h
    split at h <;> simp at h
  | w :: t, n, b, i, v, h => by
    unfold gin at h
    unfold lv_args
    by_cases hc : w.category = 2
    · rw [if_pos hc] at h
      rw [if_pos hc]
      match i, h with
      | 0, h =>
        simp only [List.getElem?_cons_zero, Option.some.injEq] at h
        rw [h]
        exact List.mem_cons_self
      | 1, h => simp at h
      | i + 2, h =>
        rw [List.getElem?_cons_succ, List.getElem?_cons_succ] at h
        have := gin_ok t (n - 2) (b + 2) i v h
        exact List.mem_cons_of_mem _ (by rw [show b + (i + 2) = b + 2 + i by omega]; exact this)
    · rw [if_neg hc] at h
      rw [if_neg hc]
      match i, h with
      | 0, h =>
        simp only [List.getElem?_cons_zero, Option.some.injEq] at h
        rw [h]
        exact List.mem_cons_self
      | i + 1, h =>
        rw [List.getElem?_cons_succ] at h
        have := gin_ok t (n - 1) (b + 1) i v h
        exact List.mem_cons_of_mem _ (by rw [show b + (i + 1) = b + 1 + i by omega]; exact this)
theorem gMet.in {α : Type} {l : Launch} {y : MethodName} {cc : ByteArray} {nL : Nat} {ret : Option FieldType} {rm : Room} {G : gG} {L : gL} {o : Nat} {ad : Nat → Nat} {av : List Value} {vv : α → Option Value} {K : α → gY → gH → Prop} {mc ms : Nat} {Y : gY} {h : gH} {lv : List (Option Value)}
    (hy : plainName y.cls = true) (hla : Nat.ble (lg_sl av).length nL = true) (hlv : lv = gin av nL) (body : ∀ J : gJt, gSt l rm cc y.cls y.name nL ret G L o ad vv K mc ms J → J Y h 0 0 0 lv []) : gMet l y (ws_ y cc nL ret) rm G L o ad av vv K mc ms Y h :=
  gMet.of (ws' := []) hy (Nat.le_of_ble_eq_true hla) (fun i v hi => by rw [hlv] at hi; have := gin_ok av nL 0 i v hi; rwa [Nat.zero_add] at this) body
theorem tbl_out {lo hi : Int} (x : Int32) (h : ∀ k : Int, lo ≤ k → k ≤ hi → ¬ x.toInt = k) : x.toInt < lo ∨ hi < x.toInt := by
  by_cases h1 : x.toInt < lo
  · exact Or.inl h1
  · by_cases h2 : hi < x.toInt
    · exact Or.inr h2
    · exact absurd rfl (h x.toInt (by omega) (by omega))
theorem tbl_eq {x c : Int32} {k : Int} (e : x.toInt = k) (hc : c.toInt = k) : x = c := Int32.toInt_inj.mp (e.trans hc.symm)
theorem lk_cons {a o d k : Int} {r : List (Int × Int)} (h : ¬ k = a) : Op.lookupswitch.offset ((a, o) :: r) d k = Op.lookupswitch.offset r d k := if_neg (fun e => h e.symm)
section RM
variable {α β : Type} {l : Launch} {R : Room} {cc : ByteArray} {own nm : String} {nL : Nat} {ret : Option FieldType} {G : gG} {o : Nat} {ad : Nat → Nat} {vv : α → Option Value} {K : α → gY → gH → Prop} {mc ms : Nat} {J : gJt}
variable {Y : gY} {h : gH} {cs ss pc : Nat} {lv : List (Option Value)} {st : List Value}
theorem m_callVi (S : gSt l R cc RX5 nm nL ret G mL o ad vv K mc ms J) {y : MethodName} {bytes : ByteArray} {maxL index : Nat} {ret' : Option FieldType} {rm' : Room} {As rest : List Value} {K' : Int32 → gY → Prop} (n : Nat)
    (hM : gMet l y (ws_ y bytes maxL ret') rm' G mL o ad (.ref o :: As) (fun r => some (.int r)) (fun r Y h => h = hN ∧ K' r Y) 0 0 Y hN) (hw : GoodIn lw_all (wsV RX5 index RX5 y (ws_ y bytes maxL ret'))) (hrc : rm'.cells = 0) (hrs : rm'.slots = 0)
    (hd : y.cls = RX5 ∧ y.cls ≠ "java/lang/invoke/MethodHandle" ∧ y.cls ≠ "java/lang/invoke/VarHandle" ∧ (parseMethodDescriptor y.desc).map (fun d => d.parameters.length) = some n) (hR1 : Nat.ble (rm'.frames + 1) R.frames = true) (hR2 : Nat.ble (8 + (maxL + 11) + rm'.locals) R.locals = true)
    (hn : As.length = n) (hst : st = As.reverse ++ .ref o :: rest) (hsum : Nat.ble (rest.map fun v => v.category).sum 8 = true) (d : decode cc pc = .ok (.invokevirtual index, 3)) (hcs : Nat.ble cs R.cells = true) (hss : Nat.ble ss R.slots = true)
    (kk : ∀ (r : Int32) (Y' : gY), K' r Y' → J Y' hN cs ss (pc + 3) lv (.int r :: rest)) : J Y hN cs ss pc lv st :=
  m_callV (β := Int32) (K' := K') S n hM hw hrc hrs hd hR1 hR2 hn hst hsum d hcs hss (fun r Y' q => kk r Y' q)
theorem m_callVv (S : gSt l R cc RX5 nm nL ret G mL o ad vv K mc ms J) {y : MethodName} {bytes : ByteArray} {maxL index : Nat} {ret' : Option FieldType} {rm' : Room} {As rest : List Value} {K' : gY → Prop} (n : Nat)
    (hM : gMet l y (ws_ y bytes maxL ret') rm' G mL o ad (.ref o :: As) (fun _ => none) (fun (_ : Unit) Y h => h = hN ∧ K' Y) 0 0 Y hN) (hw : GoodIn lw_all (wsV RX5 index RX5 y (ws_ y bytes maxL ret'))) (hrc : rm'.cells = 0) (hrs : rm'.slots = 0)
    (hd : y.cls = RX5 ∧ y.cls ≠ "java/lang/invoke/MethodHandle" ∧ y.cls ≠ "java/lang/invoke/VarHandle" ∧ (parseMethodDescriptor y.desc).map (fun d => d.parameters.length) = some n) (hR1 : Nat.ble (rm'.frames + 1) R.frames = true) (hR2 : Nat.ble (8 + (maxL + 11) + rm'.locals) R.locals = true)
    (hn : As.length = n) (hst : st = As.reverse ++ .ref o :: rest) (hsum : Nat.ble (rest.map fun v => v.category).sum 8 = true) (d : decode cc pc = .ok (.invokevirtual index, 3)) (hcs : Nat.ble cs R.cells = true) (hss : Nat.ble ss R.slots = true)
    (kk : ∀ Y' : gY, K' Y' → J Y' hN cs ss (pc + 3) lv rest) : J Y hN cs ss pc lv st :=
  m_callV (β := Unit) (K' := fun (_ : Unit) Y => K' Y) S n hM hw hrc hrs hd hR1 hR2 hn hst hsum d hcs hss (fun _ Y' q => kk Y' q)
theorem m_callSi (S : gSt l R cc RX5 nm nL ret G mL o ad vv K mc ms J) {y : MethodName} {bytes : ByteArray} {maxL index : Nat} {ret' : Option FieldType} {rm' : Room} {As rest : List Value} {K' : Int32 → gY → Prop} (n : Nat)
    (hM : gMet l y (ws_ y bytes maxL ret') rm' G mL o ad (As) (fun r => some (.int r)) (fun r Y h => h = hN ∧ K' r Y) 0 0 Y hN) (hw : GoodIn lw_all (va_wsS RX5 index y (ws_ y bytes maxL ret'))) (hrc : rm'.cells = 0) (hrs : rm'.slots = 0)
    (hd : y.cls ≠ "java/lang/invoke/MethodHandle" ∧ y.cls ≠ "java/lang/invoke/VarHandle" ∧ (parseMethodDescriptor y.desc).map (fun d => d.parameters.length) = some n) (hR1 : Nat.ble (rm'.frames + 1) R.frames = true) (hR2 : Nat.ble (8 + (maxL + 11) + rm'.locals) R.locals = true)
    (hn : As.length = n) (hst : st = As.reverse ++ rest) (hsum : Nat.ble (rest.map fun v => v.category).sum 8 = true) (d : decode cc pc = .ok (.invokestatic index, 3)) (hcs : Nat.ble cs R.cells = true) (hss : Nat.ble ss R.slots = true)
    (kk : ∀ (r : Int32) (Y' : gY), K' r Y' → J Y' hN cs ss (pc + 3) lv (.int r :: rest)) : J Y hN cs ss pc lv st :=
  m_callS (β := Int32) (K' := K') S n hM hw hrc hrs hd hR1 hR2 hn hst hsum d hcs hss (fun r Y' q => kk r Y' q)
theorem m_callSv (S : gSt l R cc RX5 nm nL ret G mL o ad vv K mc ms J) {y : MethodName} {bytes : ByteArray} {maxL index : Nat} {ret' : Option FieldType} {rm' : Room} {As rest : List Value} {K' : gY → Prop} (n : Nat)
    (hM : gMet l y (ws_ y bytes maxL ret') rm' G mL o ad (As) (fun _ => none) (fun (_ : Unit) Y h => h = hN ∧ K' Y) 0 0 Y hN) (hw : GoodIn lw_all (va_wsS RX5 index y (ws_ y bytes maxL ret'))) (hrc : rm'.cells = 0) (hrs : rm'.slots = 0)
    (hd : y.cls ≠ "java/lang/invoke/MethodHandle" ∧ y.cls ≠ "java/lang/invoke/VarHandle" ∧ (parseMethodDescriptor y.desc).map (fun d => d.parameters.length) = some n) (hR1 : Nat.ble (rm'.frames + 1) R.frames = true) (hR2 : Nat.ble (8 + (maxL + 11) + rm'.locals) R.locals = true)
    (hn : As.length = n) (hst : st = As.reverse ++ rest) (hsum : Nat.ble (rest.map fun v => v.category).sum 8 = true) (d : decode cc pc = .ok (.invokestatic index, 3)) (hcs : Nat.ble cs R.cells = true) (hss : Nat.ble ss R.slots = true)
    (kk : ∀ Y' : gY, K' Y' → J Y' hN cs ss (pc + 3) lv rest) : J Y hN cs ss pc lv st :=
  m_callS (β := Unit) (K' := fun (_ : Unit) Y => K' Y) S n hM hw hrc hrs hd hR1 hR2 hn hst hsum d hcs hss (fun _ Y' q => kk Y' q)
end RM

set_option maxRecDepth 100000
/-! ===== the abstract state: an owner's own ints and int arrays (Y), other cells by address (h) ===== -/
abbrev gY : Type := Nat → Nat → Int32
/-- a cell: an array (its type's number, length, contents), or an object (its class's number, its fields) -/
abbrev gE : Type := (Nat × vp_A) ⊕ (Nat × List Value)
def gtr (dA : Nat → ClassId) (e : gE) : va_E := match e with
  | .inl x => .inl (dA x.1, x.2)
  | .inr x => .inr x
abbrev gH : Type := Nat → Option gE
/-- number of the owner's class, of its fields; which are ints; which are int or byte arrays of its own; their sizes; their array types' numbers -/
abbrev gL : Type := Nat × Nat × (Nat → Bool) × List Nat × (Nat → Nat) × (Nat → Nat)
/-- class numbers and slots; array classes; what else is carried of the tables, of the frozen heap -/
abbrev gG : Type := va_G × (Nat → ClassId) × (State → Prop) × ((Nat → Prop) → State → Heap → Prop)
def gcl : List vw_C := [(RX6, TX6, 6), (RX7, TX7, 6), (RX8, TX8, 6), (RX9, TX9, 6), (RX10, TX10, 6), (RX11, TX11, 6), (RX1, TX1, 8), (RX12, TX12, 3), (RX13, TX13, 3), (RX3, TX3, 1), (RX4, TX4, 1), (RX14, TX14, 1), (RX2, TX2, 7), (RX0, TX0, 25), (RX5, TX5, 33), ("java/lang/ClassCastException", fun _ => ("", "", "", false), 0), ("java/lang/NegativeArraySizeException", fun _ => ("", "", "", false), 0)]
def gty (dA : Nat → ClassId) : List (ClassId × FieldType) := [(dA 0, .int), (dA 1, .byte), (dA 2, .short), (dA 3, .float), (dA 4, .object RX6), (dA 5, .object RX13), (dA 6, .object RX3), (dA 7, .object RX4)]
def yset (Y : gY) (k : Nat) (v : Int32) : gY := va_up Y k (fun _ => v)
def yupd (Y : gY) (k i : Nat) (v : Int32) : gY := va_up Y k (upd (Y k) i v)
def hup (h : gH) (a : Nat) (e : gE) : gH := va_up h a (some e)
def hN : gH := fun _ => none
theorem hup_self (h : gH) (a : Nat) (e : gE) : hup h a e a = some e := va_up_self _ _ _
theorem hup_ne (h : gH) {a b : Nat} (e : gE) (hb : b ≠ a) : hup h a e b = h b := va_up_ne _ _ hb
def gO (L : gL) (ad : Nat → Nat) (Y : gY) : List Value := (List.range L.2.1).map (fun k => if L.2.2.1 k then Value.int (Y k 0) else Value.ref (ad k))
theorem gO_len (L : gL) (ad : Nat → Nat) (Y : gY) : (gO L ad Y).length = L.2.1 := by simp [gO]
theorem gO_get {L : gL} {ad : Nat → Nat} {Y : gY} {k : Nat} (hk : k < L.2.1) : (gO L ad Y)[k]? = some (if L.2.2.1 k then Value.int (Y k 0) else Value.ref (ad k)) := by
  simp [gO, hk]
theorem gO_set {L : gL} {ad : Nat → Nat} {Y : gY} {k : Nat} {v : Int32} (hk : k < L.2.1) (hi : L.2.2.1 k = true) : (gO L ad Y).set k (.int v) = gO L ad (yset Y k v) := by
  apply List.ext_getElem?
  intro j
  by_cases hj : j = k
  · subst hj
    rw [List.getElem?_set_self (by rw [gO_len]; exact hk), gO_get hk, if_pos hi]
    simp [yset, va_up]
  · rw [List.getElem?_set_ne (Ne.symm hj)]
    by_cases hl : j < L.2.1
    · rw [gO_get hl, gO_get hl]
      simp [yset, va_up, hj]
    · rw [List.getElem?_eq_none (by rw [gO_len]; omega), List.getElem?_eq_none (by rw [gO_len]; omega)]
theorem gO_cong {L : gL} {ad : Nat → Nat} {Y Y' : gY} (h : ∀ k, L.2.2.1 k = true → Y' k = Y k) : gO L ad Y' = gO L ad Y := by
  unfold gO
  apply List.map_congr_left
  intro k _
  by_cases hk : L.2.2.1 k = true
  · rw [h k hk]
  · simp [hk]
def gV (G : gG) (L : gL) (o : Nat) (ad : Nat → Nat) (Y : gY) (h : gH) (H : Heap) : Prop :=
  (L.2.1 ≠ 0 → va_at G.1 gcl (o, .inr (L.1, gO L ad Y)) H) ∧ (∀ k ∈ L.2.2.2.1, va_at G.1 gcl (ad k, .inl (G.2.1 (L.2.2.2.2.2 k), L.2.2.2.2.1 k, .inl (Y k))) H) ∧ ∀ a e, h a = some e → va_at G.1 gcl (a, gtr G.2.1 e) H
theorem ga_ns {D : va_G} {a : Nat} {e : va_E} {H : Heap} (h : va_at D gcl (a, e) H) {cell : Cell} (hc : H[a]? = some cell) : cell.vm.isStatics = false := by
  cases e with
  | inl x =>
    have h : H[a]? = some (vp_cell x.1 x.2) := h
    cases h.symm.trans hc
    obtain ⟨c, n, g | g | g | g | g⟩ := x <;> rfl
  | inr x =>
    obtain ⟨r, h1, cl, q1, q2, q3, q4⟩ := h
    cases q1.symm.trans hc
    rw [q3]
    rfl
def gX (L : gL) (o : Nat) (ad : Nat → Nat) (h : gH) : Prop :=
  (∀ k ∈ L.2.2.2.1, L.2.2.1 k = false) ∧ (L.2.1 ≠ 0 → ∀ k ∈ L.2.2.2.1, ad k ≠ o) ∧ (∀ j ∈ L.2.2.2.1, ∀ k ∈ L.2.2.2.1, ad j = ad k → j = k) ∧ ∀ a e, h a = some e → (L.2.1 ≠ 0 → a ≠ o) ∧ ∀ k ∈ L.2.2.2.1, a ≠ ad k
def gA (L : gL) (o : Nat) (ad : Nat → Nat) (h : gH) (sz : Nat) : Nat → Prop := fun q => (L.2.1 ≠ 0 ∧ q = o) ∨ (∃ k ∈ L.2.2.2.1, q = ad k) ∨ (∃ e, h q = some e) ∨ sz ≤ q
theorem gA_ns {G : gG} {L : gL} {o : Nat} {ad : Nat → Nat} {Y : gY} {h : gH} {H : Heap} (hV : gV G L o ad Y h H) : ∀ q, gA L o ad h H.size q → ∀ cell : Cell, H[q]? = some cell → cell.vm.isStatics = false := by
  intro q hq cell hc
  rcases hq with ⟨h1, rfl⟩ | ⟨k, hk, rfl⟩ | ⟨e, he⟩ | hq
  · exact ga_ns (hV.1 h1) hc
  · exact ga_ns (hV.2.1 k hk) hc
  · exact ga_ns (hV.2.2 q e he) hc
  · exact absurd (Array.getElem?_eq_some_iff.mp hc).1 (Nat.not_lt.mpr hq)
def gW (G : gG) (L : gL) (o : Nat) (ad : Nat → Nat) (Y : gY) (h : gH) (A : Nat → Prop) (H0 H : Heap) (locs : List Loc) : Prop :=
  gV G L o ad Y h H ∧ gX L o ad h ∧ (∀ q, gA L o ad h H0.size q → A q) ∧ va_S A H0 H locs
def gK (G : gG) (U : State) : Prop := va_K G.1 gcl (gty G.2.1) U ∧ G.2.2.1 U
def gOK (G : gG) : Prop := (∀ u U : State, u.WarmedH U.vm → G.2.2.1 u → G.2.2.1 U) ∧ (∀ u U : State, u.vm = U.vm → G.2.2.1 u → G.2.2.1 U) ∧
  (∀ (A : Nat → Prop) (u U : State) (H : Heap), u.vm.Alike U.vm → G.2.2.2 A u H → G.2.2.2 A U H) ∧
  (∀ (A : Nat → Prop) (U : State) (H H1 : Heap), (∀ q : Nat, q < H.size → ¬ A q → H1[q]? = H[q]?) → G.2.2.2 A U H → G.2.2.2 A U H1) ∧
  ∀ (A B : Nat → Prop) (U : State) (H : Heap), (∀ q, B q → A q) → G.2.2.2 A U H → G.2.2.2 B U H
section GW
variable {G : gG} {L : gL} {o : Nat} {ad : Nat → Nat} {Y Y' : gY} {h : gH} {A : Nat → Prop} {H0 H H1 : Heap} {locs : List Loc} {i k a : Nat} {e e0 : gE}
theorem gW.setO (w : gW G L o ad Y h A H0 H locs) (hL : L.2.1 ≠ 0) (he : va_at G.1 gcl (o, .inr (L.1, gO L ad Y')) H1) (hY : ∀ k ∈ L.2.2.2.1, Y' k = Y k) (z : H1.size = H.size) (oq : ∀ q : Nat, q ≠ o → H1[q]? = H[q]?) : gW G L o ad Y' h A H0 H1 (locs ++ [⟨o, i⟩]) := by
  obtain ⟨⟨v1, v2, v3⟩, x, a, s⟩ := w
  refine ⟨⟨fun _ => he, fun k hk => ?_, fun q e hq => ?_⟩, x, a, s.put z oq (a o (Or.inl ⟨hL, rfl⟩))⟩
  · rw [hY k hk]
    exact (v2 k hk).kept (oq _ (x.2.1 hL k hk))
  · exact (v3 q e hq).kept (oq _ ((x.2.2.2 q e hq).1 hL))
theorem gW.setA (w : gW G L o ad Y h A H0 H locs) (hk : k ∈ L.2.2.2.1) (he : va_at G.1 gcl (ad k, .inl (G.2.1 (L.2.2.2.2.2 k), L.2.2.2.2.1 k, .inl (Y' k))) H1) (hY : ∀ j, j ≠ k → Y' j = Y j) (z : H1.size = H.size) (oq : ∀ q : Nat, q ≠ ad k → H1[q]? = H[q]?) : gW G L o ad Y' h A H0 H1 (locs ++ [⟨ad k, i⟩]) := by
  obtain ⟨⟨v1, v2, v3⟩, x, a, s⟩ := w
  have hO : gO L ad Y' = gO L ad Y := gO_cong (fun j hj => hY j (fun q => by rw [q, x.1 k hk] at hj; cases hj))
  refine ⟨⟨fun hL => ?_, fun j hj => ?_, fun q e hq => ?_⟩, x, a, s.put z oq (a (ad k) (Or.inr (Or.inl ⟨k, hk, rfl⟩)))⟩
  · rw [hO]
    exact (v1 hL).kept (oq _ (fun q => x.2.1 hL k hk q.symm))
  · by_cases hjk : j = k
    · subst hjk
      exact he
    · rw [hY j hjk]
      exact (v2 j hj).kept (oq _ (fun q => hjk (x.2.2.1 j hj k hk q)))
  · exact (v3 q e hq).kept (oq _ ((x.2.2.2 q e hq).2 k hk))
theorem gW.setH (w : gW G L o ad Y h A H0 H locs) (ha : h a = some e0) (he : va_at G.1 gcl (a, gtr G.2.1 e) H1) (z : H1.size = H.size) (oq : ∀ q : Nat, q ≠ a → H1[q]? = H[q]?) : gW G L o ad Y (hup h a e) A H0 H1 (locs ++ [⟨a, i⟩]) := by
  obtain ⟨⟨v1, v2, v3⟩, x, aa, s⟩ := w
  have hx := x.2.2.2 a e0 ha
  refine ⟨⟨fun hL => (v1 hL).kept (oq _ (fun q => hx.1 hL q.symm)), fun k hk => (v2 k hk).kept (oq _ (fun q => hx.2 k hk q.symm)), fun q e' hq => ?_⟩, ⟨x.1, x.2.1, x.2.2.1, fun q e' hq => ?_⟩, fun q hq => ?_, s.put z oq (aa a (Or.inr (Or.inr (Or.inl ⟨_, ha⟩))))⟩
  · by_cases hqa : q = a
    · subst hqa
      rw [hup_self] at hq
      cases hq
      exact he
    · rw [hup_ne _ _ hqa] at hq
      exact (v3 q e' hq).kept (oq _ hqa)
  · by_cases hqa : q = a
    · subst hqa
      exact hx
    · rw [hup_ne _ _ hqa] at hq
      exact x.2.2.2 q e' hq
  · rcases hq with hq | hq | ⟨e', hq⟩ | hq
    · exact aa q (Or.inl hq)
    · exact aa q (Or.inr (Or.inl hq))
    · by_cases hqa : q = a
      · subst hqa
        exact aa q (Or.inr (Or.inr (Or.inl ⟨_, ha⟩)))
      · rw [hup_ne _ _ hqa] at hq
        exact aa q (Or.inr (Or.inr (Or.inl ⟨_, hq⟩)))
    · exact aa q (Or.inr (Or.inr (Or.inr hq)))
theorem gW.setS {locs1 : List Loc} (w : gW G L o ad Y h A H0 H locs) (ha : h a = some e0) (he : va_at G.1 gcl (a, gtr G.2.1 e) H1) (oq : ∀ q : Nat, q ≠ a → H1[q]? = H[q]?) (hS : va_S A H0 H1 locs1) : gW G L o ad Y (hup h a e) A H0 H1 locs1 := by
  obtain ⟨⟨v1, v2, v3⟩, x, aa, s⟩ := w
  have hx := x.2.2.2 a e0 ha
  refine ⟨⟨fun hL => (v1 hL).kept (oq _ (fun q => hx.1 hL q.symm)), fun k hk => (v2 k hk).kept (oq _ (fun q => hx.2 k hk q.symm)), fun q e' hq => ?_⟩, ⟨x.1, x.2.1, x.2.2.1, fun q e' hq => ?_⟩, fun q hq => ?_, hS⟩
  · by_cases hqa : q = a
    · subst hqa
      rw [hup_self] at hq
      cases hq
      exact he
    · rw [hup_ne _ _ hqa] at hq
      exact (v3 q e' hq).kept (oq _ hqa)
  · by_cases hqa : q = a
    · subst hqa
      exact hx
    · rw [hup_ne _ _ hqa] at hq
      exact x.2.2.2 q e' hq
  · rcases hq with hq | hq | ⟨e', hq⟩ | hq
    · exact aa q (Or.inl hq)
    · exact aa q (Or.inr (Or.inl hq))
    · by_cases hqa : q = a
      · subst hqa
        exact aa q (Or.inr (Or.inr (Or.inl ⟨_, ha⟩)))
      · rw [hup_ne _ _ hqa] at hq
        exact aa q (Or.inr (Or.inr (Or.inl ⟨_, hq⟩)))
    · exact aa q (Or.inr (Or.inr (Or.inr hq)))
theorem gW.fresh (w : gW G L o ad Y h A H0 H locs) : h H.size = none := by
  cases he : h H.size with
  | none => rfl
  | some e => exact absurd (w.1.2.2 _ _ he).lt (Nat.lt_irrefl _)
theorem gW.new (w : gW G L o ad Y h A H0 H locs) (he : va_at G.1 gcl (H.size, gtr G.2.1 e) H1) (z : H1.size = H.size + 1) (o1 : ∀ q : Nat, q < H.size → H1[q]? = H[q]?) : gW G L o ad Y (hup h H.size e) A H0 H1 locs := by
  obtain ⟨⟨v1, v2, v3⟩, x, aa, s⟩ := w
  refine ⟨⟨fun hL => (v1 hL).kept (o1 _ (v1 hL).lt), fun k hk => (v2 k hk).kept (o1 _ (v2 k hk).lt), fun q e' hq => ?_⟩, ⟨x.1, x.2.1, x.2.2.1, fun q e' hq => ?_⟩, fun q hq => ?_, ⟨Nat.le_trans s.1 (by omega), fun q h1 h2 => (o1 q (Nat.lt_of_lt_of_le h1 s.1)).trans (s.2.1 q h1 h2), s.2.2⟩⟩
  · by_cases hqa : q = H.size
    · subst hqa
      rw [hup_self] at hq
      cases hq
      exact he
    · rw [hup_ne _ _ hqa] at hq
      exact (v3 q e' hq).kept (o1 _ (v3 q e' hq).lt)
  · by_cases hqa : q = H.size
    · subst hqa
      exact ⟨fun hL q => absurd (v1 hL).lt (by rw [← q]; exact Nat.lt_irrefl _), fun k hk q => absurd (v2 k hk).lt (by rw [← q]; exact Nat.lt_irrefl _)⟩
    · rw [hup_ne _ _ hqa] at hq
      exact x.2.2.2 q e' hq
  · rcases hq with hq | hq | ⟨e', hq⟩ | hq
    · exact aa q (Or.inl hq)
    · exact aa q (Or.inr (Or.inl hq))
    · by_cases hqa : q = H.size
      · subst hqa
        exact aa _ (Or.inr (Or.inr (Or.inr s.1)))
      · rw [hup_ne _ _ hqa] at hq
        exact aa q (Or.inr (Or.inr (Or.inl ⟨_, hq⟩)))
    · exact aa q (Or.inr (Or.inr (Or.inr hq)))
end GW
/-! ===== locals, by place ===== -/
def glv (ls : Array Slot) (nL : Nat) (lv : List (Option Value)) : Prop := ls.size = nL ∧ lv_wf ls ∧ ∀ (i : Nat) (v : Value), lv[i]? = some (some v) → ls[i]? = some (.val v)
def gtp (lv : List (Option Value)) : List (Nat × Value) := (List.range lv.length).filterMap (fun i => (lv[i]?.join).map (fun v => (i, v)))
theorem gtp_mem {lv : List (Option Value)} {i : Nat} {v : Value} : (i, v) ∈ gtp lv ↔ lv[i]? = some (some v) := by
  unfold gtp
  rw [List.mem_filterMap]
  constructor
  · rintro ⟨j, -, hj⟩
    cases hl : lv[j]? with
    | none => rw [hl] at hj; cases hj
    | some x =>
      cases x with
      | none => rw [hl] at hj; cases hj
      | some w =>
        rw [hl] at hj
        simp only [Option.join, Option.bind, Option.map, Option.some.injEq, Prod.mk.injEq, id] at hj
        rw [← hj.1, ← hj.2, hl]
  · intro hl
    refine ⟨i, List.mem_range.mpr (List.getElem?_eq_some_iff.mp hl).1, ?_⟩
    rw [hl]
    rfl
theorem glv.has {ls : Array Slot} {nL : Nat} {lv : List (Option Value)} (h : glv ls nL lv) : lv_has ls nL (gtp lv) := ⟨h.1, h.2.1, fun q hq => h.2.2 q.1 q.2 (gtp_mem.mp hq)⟩
/-- nothing of two words lies just ahead of place i -/
def gok (lv : List (Option Value)) (i : Nat) : Bool := match i with
  | 0 => true
  | k + 1 => match lv[k]? with
    | some (some w) => w.category == 1
    | _ => true
theorem glv.put {ls : Array Slot} {nL : Nat} {lv : List (Option Value)} {i : Nat} {v : Value} (hg : gok lv i = true) (h : lv_has ls nL ((i, v) :: (gtp lv).filter (fun q => !(q.1 == i) && !(q.1 + 1 == i && q.2.category == 2)))) : glv ls nL (lv.set i (some v)) := by
  refine ⟨h.1, h.2.1, fun j w hj => ?_⟩
  by_cases hji : j = i
  · subst hji
    have hl : j < lv.length := by
      have := (List.getElem?_eq_some_iff.mp hj).1
      simpa using this
    rw [List.getElem?_set_self hl] at hj
    cases hj
    exact h.2.2 (j, v) List.mem_cons_self
  · rw [List.getElem?_set_ne (Ne.symm hji)] at hj
    refine h.2.2 (j, w) (List.mem_cons_of_mem _ (List.mem_filter.mpr ⟨gtp_mem.mpr hj, ?_⟩))
    have h1 : (j == i) = false := by simp [hji]
    by_cases h2 : j + 1 = i
    · subst h2
      have hg : (match lv[j]? with
        | some (some w) => w.category == 1
        | _ => true) = true := hg
      rw [hj] at hg
      have hc : w.category = 1 := by simpa using hg
      simp [hc]
    · simp [h1, h2]
theorem glv.put2 {ls : Array Slot} {nL : Nat} {lv : List (Option Value)} {i : Nat} {v : Value} (hg : gok lv i = true) (h : lv_has ls nL ((i, v) :: (gtp lv).filter (fun q => !(q.1 == i) && (!(q.1 == i + 1) && !(q.1 + 1 == i && q.2.category == 2))))) : glv ls nL ((lv.set i (some v)).set (i + 1) none) := by
  refine ⟨h.1, h.2.1, fun j w hj => ?_⟩
  by_cases hj1 : j = i + 1
  · subst hj1
    by_cases hl : i + 1 < (lv.set i (some v)).length
    · rw [List.getElem?_set_self hl] at hj
      cases hj
    · rw [List.getElem?_eq_none (by simp at hl ⊢; omega)] at hj
      cases hj
  rw [List.getElem?_set_ne (Ne.symm hj1)] at hj
  by_cases hji : j = i
  · subst hji
    have hl : j < lv.length := by
      have := (List.getElem?_eq_some_iff.mp hj).1
      simpa using this
    rw [List.getElem?_set_self hl] at hj
    cases hj
    exact h.2.2 (j, v) List.mem_cons_self
  · rw [List.getElem?_set_ne (Ne.symm hji)] at hj
    refine h.2.2 (j, w) (List.mem_cons_of_mem _ (List.mem_filter.mpr ⟨gtp_mem.mpr hj, ?_⟩))
    by_cases h2 : j + 1 = i
    · subst h2
      have hg : (match lv[j]? with
        | some (some w) => w.category == 1
        | _ => true) = true := hg
      rw [hj] at hg
      have hc : w.category = 1 := by simpa using hg
      simp [hc]
      omega
    · simp [hji, hj1, h2]
/-- fewer locals are asked -/
def gle : List (Option Value) → List (Option Value) → Prop
  | [], _ => True
  | none :: t, _ :: t' => gle t t'
  | some v :: t, w :: t' => w = some v ∧ gle t t'
  | none :: t, [] => gle t []
  | some _ :: _, [] => False
theorem gle_at : ∀ (t t' : List (Option Value)), gle t t' → ∀ (i : Nat) (v : Value), t[i]? = some (some v) → t'[i]? = some (some v)
  | [], _, _, i, v, hi => by simp at hi
  | none :: t, w :: t', h, i, v, hi => by
    cases i with
    | zero => simp at hi
    | succ i =>
      rw [List.getElem?_cons_succ] at hi ⊢
      exact gle_at t t' h i v hi
  | some x :: t, w :: t', h, i, v, hi => by
    cases i with
    | zero =>
      simp only [List.getElem?_cons_zero, Option.some.injEq] at hi ⊢
      rw [h.1, hi]
    | succ i =>
      rw [List.getElem?_cons_succ] at hi ⊢
      exact gle_at t t' h.2 i v hi
  | none :: t, [], h, i, v, hi => by
    cases i with
    | zero => simp at hi
    | succ i =>
      rw [List.getElem?_cons_succ] at hi
      have := gle_at t [] h i v hi
      simp at this
  | some x :: t, [], h, i, v, hi => h.elim
theorem glv.sub {ls : Array Slot} {nL : Nat} {lv lv' : List (Option Value)} (h : glv ls nL lv) (hs : gle lv' lv) : glv ls nL lv' := ⟨h.1, h.2.1, fun i v hi => h.2.2 i v (gle_at _ _ hs i v hi)⟩
theorem gle_0 {t : List (Option Value)} : gle [] t := trivial
theorem gle_n {t t' : List (Option Value)} {w : Option Value} (h : gle t t') : gle (none :: t) (w :: t') := h
theorem gle_s {t t' : List (Option Value)} {v : Value} (h : gle t t') : gle (some v :: t) (some v :: t') := ⟨rfl, h⟩

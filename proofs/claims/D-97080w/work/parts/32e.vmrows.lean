set_option maxRecDepth 100000
/-- Throwable's statics: their cell is frozen, what is asked of them holds wherever tables and that cell are the same -/
def xZ (A : Nat → Prop) (U : State) (H : Heap) : Prop := ∃ (a : Nat) (cell : Cell), ¬ A a ∧ H[a]? = some cell ∧ ∀ V : State, U.vm.Alike V.vm → V.heap[a]? = some cell → ∀ (args : Array Value), ∀ w ∈ xST, w.before args V = true
theorem xZ.moved {A : Nat → Prop} {u U : State} {H : Heap} (hvm : u.vm.Alike U.vm) (h : xZ A u H) : xZ A U H := by
  obtain ⟨a, cell, h1, h2, h3⟩ := h
  exact ⟨a, cell, h1, h2, fun V hV hc => h3 V (hvm.trans hV) hc⟩
theorem xZ.kept {A : Nat → Prop} {U : State} {H H1 : Heap} (h : xZ A U H) (hq : ∀ a : Nat, a < H.size → ¬ A a → H1[a]? = H[a]?) : xZ A U H1 := by
  obtain ⟨a, cell, h1, h2, h3⟩ := h
  exact ⟨a, cell, h1, by rw [hq a (Array.getElem?_eq_some_iff.mp h2).1 h1]; exact h2, h3⟩
theorem xZ.narrow {A B : Nat → Prop} {U : State} {H : Heap} (h : xZ A U H) (hAB : ∀ q, B q → A q) : xZ B U H := by
  obtain ⟨a, cell, h1, h2, h3⟩ := h
  exact ⟨a, cell, fun z => h1 (hAB a z), h2, h3⟩
/-- what is carried for the machine's own exceptions -/
def xFO (G : gG) : Prop := (∀ (A : Nat → Prop) (U : State) (H : Heap), G.2.2.2 A U H → xZ A U H) ∧ ∀ U : State, G.2.2.1 U → tMod U.vm
theorem cNW_on : cNW.all (fun w => w.onTables) = true := by decide +kernel
section XV
variable {α : Type} {l : Launch} {R : Room} {cc : ByteArray} {own nm : String} {nL : Nat} {ret : Option FieldType} {hh : xH} {G : gG} {L : gL} {o : Nat} {ad : Nat → Nat} {vv : α → Option Value} {K : α → gY → gH → Prop} {E : Nat → gY → gH → Prop} {mc ms : Nat} {J : gJt}
variable {Y : gY} {h : gH} {cs ss pc : Nat} {lv : List (Option Value)} {st : List Value}
theorem x_atoms {s : State} {args : Array Value} {A : Nat → Prop} {H : Heap} {locs : List Loc} {xs : List Cond} (hin : xs.all (fun x => decide (x ∈ lw_all) || decide (x ∈ cNW) || decide (x ∈ xST)) = true) (hts : ∀ w ∈ lw_all, w.before args s = true) (hK : gK G s) (hC : cOK G) (hF : xFO G) (w : gW G L o ad Y h A s.heap H locs) (f : G.2.2.2 A s H) : ∀ x ∈ xs, x.before args s = true := by
  intro x hx
  have h1 := List.all_eq_true.mp hin x hx
  simp only [Bool.or_eq_true, decide_eq_true_eq] at h1
  rcases h1 with (h1 | h1) | h1
  · exact hts x h1
  · exact va_Nw.use (List.all_eq_true.mp cNW_on x h1) ((hC s hK.2).1 x h1)
  · obtain ⟨a, cell, g1, g2, g3⟩ := hF.1 A s H f
    have hlt : a < s.heap.size := Nat.not_le.mp fun z => g1 (w.2.2.1 a (Or.inr (Or.inr (Or.inr z))))
    exact g3 s (Vm.Alike.refl _) (by rw [← w.2.2.2.2.1 a hlt g1]; exact g2) args x h1
theorem gW.new3 {A : Nat → Prop} {H0 H H1 : Heap} {locs locs1 : List Loc} {e : gE} (w : gW G L o ad Y h A H0 H locs) (he : va_at G.1 gcl (H.size + 2, gtr G.2.1 e) H1) (z : H1.size = H.size + 3) (o1 : ∀ q : Nat, q < H.size → H1[q]? = H[q]?) (hl : ∀ y ∈ locs1, y ∈ locs ∨ y.base = H.size + 2) : gW G L o ad Y (hup h (H.size + 2) e) A H0 H1 locs1 ∧ h (H.size + 2) = none := by
  obtain ⟨⟨v1, v2, v3⟩, x, aa, s⟩ := w
  have hAn : A (H.size + 2) := aa _ (Or.inr (Or.inr (Or.inr (Nat.le_trans s.1 (Nat.le_add_right _ _)))))
  refine ⟨⟨⟨fun hL => (v1 hL).kept (o1 _ (v1 hL).lt), fun k hk => (v2 k hk).kept (o1 _ (v2 k hk).lt), fun q e' hq => ?_⟩, ⟨x.1, x.2.1, x.2.2.1, fun q e' hq => ?_⟩, fun q hq => ?_, ⟨Nat.le_trans s.1 (by omega), fun q h1 h2 => (o1 q (Nat.lt_of_lt_of_le h1 s.1)).trans (s.2.1 q h1 h2), fun y hy => ?_⟩⟩, ?_⟩
  · by_cases hqa : q = H.size + 2
    · subst hqa
      rw [hup_self] at hq
      cases hq
      exact he
    · rw [hup_ne _ _ hqa] at hq
      exact (v3 q e' hq).kept (o1 _ (v3 q e' hq).lt)
  · by_cases hqa : q = H.size + 2
    · subst hqa
      exact ⟨fun hL q => absurd (v1 hL).lt (by rw [← q]; omega), fun k hk q => absurd (v2 k hk).lt (by rw [← q]; omega)⟩
    · rw [hup_ne _ _ hqa] at hq
      exact x.2.2.2 q e' hq
  · rcases hq with hq | hq | ⟨e', hq⟩ | hq
    · exact aa q (Or.inl hq)
    · exact aa q (Or.inr (Or.inl hq))
    · by_cases hqa : q = H.size + 2
      · rw [hqa]; exact hAn
      · rw [hup_ne _ _ hqa] at hq
        exact aa q (Or.inr (Or.inr (Or.inl ⟨_, hq⟩)))
    · exact aa q (Or.inr (Or.inr (Or.inr hq)))
  · rcases hl y hy with h1 | h1
    · exact s.2.2 y h1
    · rw [h1]; exact hAn
  · cases hn : h (H.size + 2) with
    | none => rfl
    | some e' => exact absurd (v3 _ _ hn).lt (by omega)
/-- the machine throws: the world behind it -/
theorem w_thrown {p : Program} {e : Env} {s : State} {m : MethodId} {args : Array Value} {below : List Frame} {meth : Method} {c : Code} {A : Nat → Prop} {H : Heap} {locs : List Loc} {T₁ : State} {g : JFrame} {cls text : String} {ci : Nat} {T0 : u_T} {xs : List String} (hx : p.tables.exec = Jvm.exec) (hTr : l.stackTraces = false) (hK : gK G s) (hG : gOK G) (hAs : ∀ q, A q → ∀ cell : Cell, s.heap[q]? = some cell → cell.vm.isStatics = false) (w : gW G L o ad Y h A s.heap H locs) (f : G.2.2.2 A s H) (X : Stand p l e R s m args below meth c T₁ locs cs ss) (hT : T₁.heap = H)
    (hcls : Bundle.fit cls = true) (hnames : ∀ n ∈ xs, Bundle.fit n = true) (hsoe : (cls == "java/lang/StackOverflowError") = false) (hoom : (cls == "java/lang/OutOfMemoryError") = false) (hxs : xs.length = 2) (hat : ∀ a ∈ Bundle.messageArmAtoms cls xs, a.before args s = true) (htext : (text == notModelled) = false) (hlen : text.length ≤ 400) (hci : gcl[ci]? = some (cls, T0, 0)) (hg : g.method = m) (hsize : g.locals.size = c.maxLocals) (hmr : g.monitorRoom = 0) (hst : (g.stack.map fun v => v.category).sum ≤ 8) (hR1 : 6 < R.frames) (hR2 : 10248 ≤ R.locals) (hcs : cs + 3 ≤ R.cells) (hss : ss + 1610 ≤ R.slots) :
    ∃ (U : State) (locs' : List Loc), Stand p l e R s m args below meth c U locs' (cs + 3) (ss + 1610) ∧ gW G L o ad Y (hup h (H.size + 2) (.inr (ci, []))) A s.heap U.heap locs' ∧ h (H.size + 2) = none ∧ G.2.2.2 A s U.heap ∧ ∀ target, Steps p.tables e below ((U.setTop g).pushFrame (.throwing (H.size + 2))) target → Steps p.tables e below ((T₁.setTop g).pushFrame (.throwNew cls (some text) none)) target := by
  have hby := t_bytes text hlen
  have htr : e.platform.stackTraces = false := by rw [X.admits.platform]; exact hTr
  obtain ⟨U, locs', ce, X2, hl2, hz, ho, hce, hfc, hvm, hstp⟩ := x_note X hx htr hcls hnames hsoe hoom hat (fun x hx' cell hc => hAs _ (w.2.2.2.2.2 x hx') cell hc) htext (by rw [X.admits.platform]; show ¬ _ > 2147483645; omega) (by rw [X.admits.platform]; show ¬ _ * 1 > 536870912; omega) hg hsize (by rw [hxs]; exact hR1) (by rw [hmr]; omega) (by rw [hxs]; decide) hcs (by omega)
  rw [hT] at hl2 hz ho hce hstp
  have hcl := (hK.1.1 ci _ hci).2
  have hat2 : va_at G.1 gcl (H.size + 2, gtr G.2.1 (.inr (ci, []))) U.heap := ⟨_, hci, ce, hce, (Option.some.inj (hcl.1.symm.trans hfc)).symm, hvm, fun k hk => absurd hk (Nat.not_lt_zero _)⟩
  obtain ⟨w2, hn⟩ := w.new3 hat2 hz ho hl2
  exact ⟨U, locs', stand_widen X2 (Nat.le_refl _) (by omega), w2, hn, hG.2.2.2.1 A s H U.heap (fun q h1 _ => ho q h1) f, hstp⟩
end XV

set_option maxRecDepth 100000
/-! ===== how long the machine's own sentences can be ===== -/
theorem t_utf (s : String) : (stringToUtf16 s).size ≤ 2 * s.length := by
  have key : ∀ (l : List Char) (acc : Array UInt16), (l.foldl (init := acc) fun acc c =>
    if c.toNat < 0x10000 then acc.push c.toNat.toUInt16
    else if 0x100000 ≤ c.toNat && c.toNat ≤ 0x1007FF then acc.push (0xD800 + (c.toNat - 0x100000)).toUInt16
    else (acc.push (0xD800 + (c.toNat - 0x10000) / 0x400).toUInt16).push (0xDC00 + (c.toNat - 0x10000) % 0x400).toUInt16).size ≤ acc.size + 2 * l.length := by
    intro l
    induction l with
    | nil => intro acc; simp
    | cons c l ih =>
      intro acc
      rw [List.foldl_cons]
      refine Nat.le_trans (ih _) ?_
      rw [List.length_cons]
      split
      · rw [Array.size_push]; omega
      · split
        · rw [Array.size_push]; omega
        · rw [Array.size_push, Array.size_push]; omega
  have := key s.toList #[]
  rw [← String.length_toList]
  simpa [stringToUtf16] using this
theorem t_flat : ∀ (l : List UInt16) (f : UInt16 → Value) (g : UInt16 → Value), (l.flatMap fun u => [f u, g u]).length = 2 * l.length := by
  intro l f g
  induction l with
  | nil => rfl
  | cons a l ih => rw [List.flatMap_cons, List.length_append, ih, List.length_cons]; simp; omega
theorem t_bytes (s : String) {n : Nat} (h : s.length ≤ n) : (stringBytes (stringToUtf16 s)).size ≤ 4 * n := by
  have h1 := t_utf s
  have h2 : ∀ u : Array UInt16, (stringBytes u).size ≤ 2 * u.size := by
    intro u
    unfold stringBytes
    split
    · rw [Array.size_map]; omega
    · rw [← Array.length_toList, Array.toList_flatMap]
      have := t_flat u.toList (fun u => byteValue u.toUInt8) (fun u => byteValue (u >>> 8).toUInt8)
      rw [this]
      simp
  have := h2 (stringToUtf16 s)
  omega
/-- the modules that hold a package of this name, of the bootstrap loader: java.base -/
def tMod (vm : Vm) : Prop := ∀ m ∈ vm.modules, m.loader = none → m.packages.contains "" = true ∨ m.packages.contains "java/lang" = true → m.name = "java.base"
theorem tMod.alike {vm vm' : Vm} (h : vm.Alike vm') (hm : tMod vm) : tMod vm' := by
  unfold tMod
  rw [h.1]
  exact hm
theorem t_home {vm : Vm} {k : Class} (hl : k.loader = none) (hp : packageOf k.name = "" ∨ packageOf k.name = "java/lang") (ho : k.ofPrimitives = false) (hm : tMod vm) : (vm.home k).length ≤ 60 := by
  unfold Vm.home
  rw [hl]
  have h1 : (vm.loaderName none).length = 11 := by show "'bootstrap'".length = 11; decide
  rw [String.length_append, String.length_append, h1]
  have h3 : " of loader ".length = 11 := by decide
  rw [h3]
  cases hk : vm.moduleOf k with
  | none =>
    show "unnamed module".length + 11 + 11 ≤ 60
    decide
  | some m =>
    unfold Vm.moduleOf at hk
    rw [ho] at hk
    simp only [Bool.false_eq_true, if_false] at hk
    have g1 := List.mem_of_find?_eq_some hk
    have g2 := List.find?_some hk
    simp only [Bool.and_eq_true, beq_iff_eq, hl] at g2
    have : m.name = "java.base" := by
      refine hm m g1 g2.1 ?_
      rcases hp with e | e
      · rw [e] at g2; exact Or.inl g2.2
      · rw [e] at g2; exact Or.inr g2.2
    show ("module " ++ m.name).length + 11 + 11 ≤ 60
    rw [this]
    decide
theorem t_cast {vm : Vm} {a b : Class} (ha : a.hidden = none) (hb : b.hidden = none) (hla : a.loader = none) (hlb : b.loader = none) (hpa : packageOf a.name = "" ∨ packageOf a.name = "java/lang") (hpb : packageOf b.name = "" ∨ packageOf b.name = "java/lang") (hoa : a.ofPrimitives = false) (hob : b.ofPrimitives = false) (hm : tMod vm) (hna : (dotted a.name).length ≤ 40) (hnb : (dotted b.name).length ≤ 40) :
    (Op.checkcast.message vm a b).length ≤ 400 ∧ (Op.checkcast.message vm a b == notModelled) = false := by
  have h1 := t_home hla hpa hoa hm
  have h2 := t_home hlb hpb hob hm
  have sa : a.shown = dotted a.name := by unfold Class.shown; rw [ha]
  have sb : b.shown = dotted b.name := by unfold Class.shown; rw [hb]
  have hh : (vm.homes a b).length ≤ 240 := by
    unfold Vm.homes
    rw [sa, sb]
    have c1 : " and ".length = 5 := by decide
    have c2 : " are in ".length = 8 := by decide
    have c3 : " is in ".length = 7 := by decide
    have c4 : "; ".length = 2 := by decide
    split
    · simp only [toString, String.length_append]; omega
    · simp only [toString, String.length_append]; omega
  have c1 : "class ".length = 6 := by decide
  have c2 : " cannot be cast to class ".length = 25 := by decide
  have c3 : " (".length = 2 := by decide
  have c4 : ")".length = 1 := by decide
  refine ⟨?_, ?_⟩
  · unfold Op.checkcast.message
    rw [sa, sb]
    simp only [toString, String.length_append]
    omega
  · rw [beq_eq_false_iff_ne]
    intro e
    have e2 := congrArg String.toList e
    unfold Op.checkcast.message notModelled at e2
    simp only [toString, String.toList_append] at e2
    have e3 := congrArg List.head? e2
    simp at e3

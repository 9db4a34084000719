set_option maxRecDepth 100000
/-! ===== the component's cells and the street in numbers ===== -/
abbrev qA (t n : Nat) (g : Nat → Option Nat) : gE := .inl (t, n, .inr (.inr (.inr (.inr g))))
abbrev iA (t n : Nat) (g : Nat → Int32) : gE := .inl (t, n, .inl g)
def kindN (Z : pZ) (k : Nat) : Nat := (hz Z k 0).toNatClampNeg
def HF (Z : pZ) (k : Nat) : List Value := [.int (hz Z k 1), .int (hz Z k 2), .int (hz Z k 3), .int (hz Z k 4), .int (hz Z k 5), .int (1 - hz Z k 6)]
def SF (Z : pZ) (ar at_ : Nat) : List Value := [.int (Z 5), .int (Z 0), .ref ar, .int (Z 4), .int (Z 3), .int (Z 2), .int (Z 1), .ref at_]
/-- a word of the model as the component's -/
def cwZ (q : Int32 × Int32) : Int32 × Int32 :=
  if q.1 = 0 then (1, q.2) else if q.1 = 1 then (2, q.2) else if q.2 = 33 then (3, 0) else if q.2 = 42 then (4, 0) else if q.2 = 43 then (5, 0) else if q.2 = 45 then (6, 0) else if q.2 = 60 then (7, 0) else if q.2 = 61 then (8, 0) else if q.2 = 62 then (9, 0) else if q.2 = 38 then (10, 0) else if q.2 = 47 then (12, 0) else (11, 0)
/-- the words of a text -/
def RW (h : gH) (wa : Nat) (w : Nat → Int32 × Int32) (m : Nat) : Prop := ∃ (pw pv : Nat) (fw fv : Nat → Int32), h wa = some (.inr (7, [.ref pw, .ref pv, .int (nI m)])) ∧ h pw = some (iA 0 96 fw) ∧ h pv = some (iA 0 96 fv) ∧ m ≤ 92 ∧ ∀ i, i < m → (fw i, fv i) = cwZ (w i)
def RT (h : gH) (b : Nat) (Z : pZ) (t : Nat) : Prop := ∃ (wa m : Nat), h b = some (.inr (8, [.int (Z (69 + 200 * t)), .ref wa, .int (Z (69 + 200 * t + 1))])) ∧ Z (69 + 200 * t + 2) = nI m ∧ RW h wa (wdF Z t) m
def RS (h : gH) (a ar at_ : Nat) (G T : Nat → Option Nat) (Z : pZ) (n nt : Nat) : Prop :=
  h a = some (.inr (6, SF Z ar at_)) ∧ h ar = some (qA 4 9 G) ∧ h at_ = some (qA 5 14 T) ∧ (∀ k, k < n → ∃ b, G k = some b ∧ h b = some (.inr (kindN Z k, HF Z k))) ∧
  (∀ k, k < 9 → ∀ b, G k = some b → ∃ ci fs, ci < 6 ∧ h b = some (.inr (ci, fs)) ∧ fs.length = 6) ∧ (∀ t, t < nt → ∃ b, T t = some b ∧ RT h b Z t) ∧ ∀ t, t < 14 → ∀ b, T t = some b → ∃ vs, h b = some (.inr (8, vs))
def injG (G : Nat → Option Nat) : Prop := ∀ i j b, i < 9 → j < 9 → G i = some b → G j = some b → i = j
/-- cells of texts: what keeps them -/
def tce (e : gE) : Bool := match e with
  | .inl x => x.1 == 0
  | .inr x => x.1 == 7 || x.1 == 8
def keepT (h h' : gH) : Prop := ∀ x e, h x = some e → tce e = true → h' x = some e
theorem keepT.rf {h : gH} : keepT h h := fun _ _ h1 _ => h1
theorem keepT.tr {h h1 h2 : gH} (a : keepT h h1) (b : keepT h1 h2) : keepT h h2 := fun x e e1 e2 => b x e (a x e e1 e2) e2
theorem hup_keep {h : gH} {x b : Nat} {e e0 e1 : gE} (hx : h x = some e) (hb : h b = some e0) (hne : e ≠ e0) : hup h b e1 x = some e := by
  rw [hup_ne h e1 (fun q => hne (by rw [q, hb] at hx; exact (Option.some.inj hx).symm))]
  exact hx
theorem hup_fresh {h : gH} {x b : Nat} {e e1 : gE} (hx : h x = some e) (hb : h b = none) : hup h b e1 x = some e := by
  rw [hup_ne h e1 (fun q => by rw [q, hb] at hx; cases hx)]
  exact hx
theorem keepT.up {h h1 : gH} {b : Nat} {e0 e1 : gE} (a : keepT h h1) (hb : h1 b = some e0) (ht : tce e0 = false) : keepT h (hup h1 b e1) := fun x e h2 h3 => hup_keep (a x e h2 h3) hb (fun q => by rw [q, ht] at h3; cases h3)
theorem keepT.new {h h1 : gH} {b : Nat} {e1 : gE} (a : keepT h h1) (hb : h1 b = none) : keepT h (hup h1 b e1) := fun x e h2 h3 => hup_fresh (a x e h2 h3) hb
theorem RW.keep {h h' : gH} {wa m : Nat} {w : Nat → Int32 × Int32} (k : keepT h h') (r : RW h wa w m) : RW h' wa w m := by
  obtain ⟨pw, pv, fw, fv, r1, r2, r3, r4⟩ := r
  exact ⟨pw, pv, fw, fv, k _ _ r1 rfl, k _ _ r2 rfl, k _ _ r3 rfl, r4⟩
theorem RT.keep {h h' : gH} {b t : Nat} {Z Z' : pZ} (k : keepT h h') (hz : ∀ i, 69 ≤ i → Z' i = Z i) (r : RT h b Z t) : RT h' b Z' t := by
  obtain ⟨wa, m, r1, r2, r3⟩ := r
  refine ⟨wa, m, ?_, (hz _ (by omega)).trans r2, ?_⟩
  · rw [hz _ (by omega), hz _ (by omega)]; exact k _ _ r1 rfl
  · rw [show wdF Z' t = wdF Z t by funext i; unfold wdF; rw [hz _ (by omega), hz _ (by omega)]]; exact r3.keep k
theorem kindN_lt {Z : pZ} {k : Nat} (o : okH Z k) : kindN Z k < 6 := by
  have := o.1
  unfold kindN
  show (hz Z k 0).toInt.toNat < 6
  omega
theorem kindN_eq {Z : pZ} {k : Nat} (o : okH Z k) : hz Z k 0 = nI (kindN Z k) := by
  have h := o.1
  have h2 : ¬ hz Z k 0 < 0 := fun q => by rw [fa_lt] at q; have : (0 : Int32).toInt = 0 := by decide
                                          omega
  obtain ⟨j, hj, e⟩ := nI_of h2
  unfold kindN
  rw [e, nI_clamp hj]
theorem HF_cong {Z Z' : pZ} {k : Nat} (h : ∀ j, j < 7 → hz Z' k j = hz Z k j) : HF Z' k = HF Z k ∧ kindN Z' k = kindN Z k := by
  unfold HF kindN
  rw [h 0 (by omega), h 1 (by omega), h 2 (by omega), h 3 (by omega), h 4 (by omega), h 5 (by omega), h 6 (by omega)]
  exact ⟨rfl, rfl⟩
theorem SF_cong {Z Z' : pZ} {ar at_ : Nat} (h : ∀ i, i < 6 → Z' i = Z i) : SF Z' ar at_ = SF Z ar at_ := by
  unfold SF
  rw [h 0 (by omega), h 1 (by omega), h 2 (by omega), h 3 (by omega), h 4 (by omega), h 5 (by omega)]
/-- a house of the state is written -/
theorem RS.put {h : gH} {a ar at_ n nt k b : Nat} {G T : Nat → Option Nat} {Z Z' : pZ} (R : RS h a ar at_ G T Z n nt) (o : okS Z n nt) (hi : injG G) (hk : k < n) (hb : G k = some b) (hl : loZ Z Z') (ho : ∀ k', k' < n → k' ≠ k → ∀ j, j < 7 → hz Z' k' j = hz Z k' j) (hc : kindN Z' k < 6) : RS (hup h b (.inr (kindN Z' k, HF Z' k))) a ar at_ G T Z' n nt := by
  obtain ⟨r1, r2, r3, r4, r5, r6, r7⟩ := R
  have h9 := o.2.1
  obtain ⟨b0, g0, e0⟩ := r4 k hk
  cases hb.symm.trans g0
  have hk6 := kindN_lt (o.2.2.2.2.1 k hk)
  have kt : keepT h (hup h b (.inr (kindN Z' k, HF Z' k))) := keepT.rf.up e0 (by
    show (kindN Z k == 7 || kindN Z k == 8) = false
    rw [show (kindN Z k == 7) = false by simp; omega, show (kindN Z k == 8) = false by simp; omega]; rfl)
  refine ⟨?_, hup_keep r2 e0 (fun q => by cases q), hup_keep r3 e0 (fun q => by cases q), fun k' hk' => ?_, fun k' hk' b' hb' => ?_, fun t ht => ?_, fun t ht b' hb' => ?_⟩
  · rw [SF_cong hl.1]
    exact hup_keep r1 e0 (fun q => by injection q with q; injection q with q1 q2; omega)
  · by_cases e : k' = k
    · subst e
      exact ⟨b, hb, hup_self _ _ _⟩
    · obtain ⟨b', g1, e1⟩ := r4 k' hk'
      obtain ⟨c1, c2⟩ := HF_cong (ho k' hk' e)
      refine ⟨b', g1, ?_⟩
      rw [c1, c2, hup_ne _ _ (fun q => e (hi k' k b (by omega) (by omega) (by rw [← q]; exact g1) hb))]
      exact e1
  · by_cases e : b' = b
    · subst e
      exact ⟨_, _, hc, hup_self _ _ _, rfl⟩
    · rw [hup_ne _ _ e]
      exact r5 k' hk' b' hb'
  · obtain ⟨b', g1, e1⟩ := r6 t ht
    exact ⟨b', g1, e1.keep kt hl.2⟩
  · obtain ⟨vs, e1⟩ := r7 t ht b' hb'
    exact ⟨vs, kt _ _ e1 rfl⟩
/-- the state's own cell is written -/
theorem RS.low {h : gH} {a ar at_ n nt : Nat} {G T : Nat → Option Nat} {Z Z' : pZ} (R : RS h a ar at_ G T Z n nt) (hh : ∀ i, 6 ≤ i → Z' i = Z i) (hne : ∀ k, k < n → kindN Z k < 6) : RS (hup h a (.inr (6, SF Z' ar at_))) a ar at_ G T Z' n nt := by
  obtain ⟨r1, r2, r3, r4, r5, r6, r7⟩ := R
  have kt : keepT h (hup h a (.inr (6, SF Z' ar at_))) := keepT.rf.up r1 rfl
  refine ⟨hup_self _ _ _, hup_keep r2 r1 (fun q => by cases q), hup_keep r3 r1 (fun q => by cases q), fun k' hk' => ?_, fun k' hk' b' hb' => ?_, fun t ht => ?_, fun t ht b' hb' => ?_⟩
  · obtain ⟨b', g1, e1⟩ := r4 k' hk'
    obtain ⟨c1, c2⟩ := HF_cong (Z := Z) (Z' := Z') (k := k') (fun j hj => hh _ (by omega))
    refine ⟨b', g1, ?_⟩
    rw [c1, c2]
    exact hup_keep e1 r1 (fun q => by injection q with q; injection q with q1 q2; have := hne k' hk'; omega)
  · obtain ⟨ci, fs, f1, f2, f3⟩ := r5 k' hk' b' hb'
    exact ⟨ci, fs, f1, hup_keep f2 r1 (fun q => by injection q with q; injection q with q1 q2; omega), f3⟩
  · obtain ⟨b', g1, e1⟩ := r6 t ht
    exact ⟨b', g1, e1.keep kt (fun i hi => hh i (by omega))⟩
  · obtain ⟨vs, e1⟩ := r7 t ht b' hb'
    exact ⟨vs, kt _ _ e1 rfl⟩
def frH (h h' : gH) (a : Nat) (G : Nat → Option Nat) : Prop := ∀ x, x ≠ a → (∀ k, k < 9 → G k ≠ some x) → h' x = h x
theorem frH.rf {h : gH} {a : Nat} {G : Nat → Option Nat} : frH h h a G := fun _ _ _ => rfl
theorem frH.tr {h h1 h2 : gH} {a : Nat} {G : Nat → Option Nat} (x : frH h h1 a G) (y : frH h1 h2 a G) : frH h h2 a G := fun q h3 h4 => (y q h3 h4).trans (x q h3 h4)
theorem frH.put {h h1 : gH} {a b k : Nat} {G : Nat → Option Nat} {e : gE} (x : frH h h1 a G) (hk : k < 9) (hb : G k = some b) : frH h (hup h1 b e) a G := fun q h3 h4 => (hup_ne h1 e (fun z => h4 k hk (by rw [hb, z]))).trans (x q h3 h4)
theorem frH.low {h h1 : gH} {a : Nat} {G : Nat → Option Nat} {e : gE} (x : frH h h1 a G) : frH h (hup h1 a e) a G := fun q h3 h4 => (hup_ne h1 e h3).trans (x q h3 h4)
/-! ===== reading ===== -/
section CZ
variable {ad : Nat → Nat} {Y : gY} {h : gH} {a ar at_ n nt : Nat} {G T : Nat → Option Nat} {Z : pZ}
theorem st_c {x : Int32} (hx : x = 0 ∨ x = 1) {A B : Prop} (f : ¬ x = 0 → A) (g : x = 0 → B) : ((1 - x = 0 → A) ∧ (¬ 1 - x = 0 → B)) := by
  rcases hx with rfl | rfl
  · exact br_f (by decide) (g rfl)
  · exact br_t (by decide) (f (by decide))
theorem st_d {x : Int32} (hx : x = 0 ∨ x = 1) {A B : Prop} (f : ¬ x = 0 → A) (g : x = 0 → B) : ((¬ 1 - x = 0 → B) ∧ (1 - x = 0 → A)) := ⟨(st_c hx f g).2, (st_c hx f g).1⟩
theorem c_isIn {K : Int32 → gY → gH → Prop} {x lo hi : Int32} (hK : K (inZ x lo hi) Y h) : wpX0_isIn ad K Y h x lo hi := by
  unfold inZ at hK
  refine ⟨fun z => ?_, fun z => ⟨fun y => ?_, fun y => ?_⟩⟩
  · rw [if_neg (fun w => (fa_of_lt z).2.1 w.1)] at hK; exact hK
  · rw [if_neg (fun w => (fa_of_lt y).2.1 w.2)] at hK; exact hK
  · rw [if_pos ⟨fa_of_nlt z, fa_of_nlt y⟩] at hK; exact hK
theorem c_isHouse {K : Int32 → gY → gH → Prop} {x : Int32} (R : RS h (ad 0) ar at_ G T Z n nt) (hK : K (inZ x 0 (Z 0 - 1)) Y h) : wpX0_isHouse ad K Y h x :=
  ⟨_, _, R.1, rfl, c_isIn ⟨in_n _ _ _, hK⟩⟩
theorem within_held {v lo hi : Int32} (h : lo.toInt ≤ hi.toInt) : (if lo < (if v < hi then v else hi) then (if v < hi then v else hi) else lo) = heldZ v lo hi := by
  have a1 := fa_lt; have a2 := fa_le
  unfold heldZ
  by_cases h1 : v < hi
  · rw [if_pos h1]
    have h1' := (fa_lt _ _).mp h1
    by_cases h2 : lo < v
    · have h2' := (fa_lt _ _).mp h2
      rw [if_pos h2, if_pos ((fa_le _ _).mpr (by omega)), if_pos ((fa_le _ _).mpr (by omega))]
    · rw [if_neg h2]
      by_cases h3 : lo ≤ v
      · rw [if_pos h3, if_pos ((fa_le _ _).mpr (by omega))]
        rw [fa_lt] at h2; rw [fa_le] at h3
        exact (fa_eq _ _).mpr (by omega)
      · rw [if_neg h3]
  · rw [if_neg h1]
    rw [fa_lt] at h1
    by_cases h2 : lo < hi
    · have h2' := (fa_lt _ _).mp h2
      rw [if_pos h2, if_pos ((fa_le _ _).mpr (by omega))]
      by_cases h4 : v ≤ hi
      · rw [if_pos h4]; rw [fa_le] at h4; exact (fa_eq _ _).mpr (by omega)
      · rw [if_neg h4]
    · rw [if_neg h2]
      rw [fa_lt] at h2
      have : lo = hi := (fa_eq _ _).mpr (by omega)
      subst this
      rw [if_pos ((fa_le _ _).mpr (by omega))]
      by_cases h4 : v ≤ lo
      · rw [if_pos h4]; rw [fa_le] at h4; exact (fa_eq _ _).mpr (by omega)
      · rw [if_neg h4]
theorem c_within {K : Int32 → gY → gH → Prop} {v lo hi : Int32} (hl : lo.toInt ≤ hi.toInt) (hK : K (heldZ v lo hi) Y h) : wpX0_within ad K Y h v lo hi := by
  unfold wpX0_within
  rw [within_held hl]
  exact hK
theorem c_standing {K : Int32 → gY → gH → Prop} (R : RS h a ar at_ G T Z n nt) (o : okS Z n nt) (hK : K (stZ Z n) Y h) : wpX1_standing K Y h a := by
  have h9 := o.2.1
  refine pk_loop (fun f i (x : Int32) => wX1_standing_4 K f Y h a x (nI i)) (fun i x => x = stZ Z i) n 0 0 (Nat.zero_le _) rfl (fun f s hs => ?_) (fun f i s hi hs kk => ?_)
  · subst hs
    exact ⟨_, _, R.1, rfl, br_t (by rw [o.1]; exact nI_le (Nat.le_refl _) (by omega)) hK⟩
  · subst hs
    obtain ⟨b, g1, g2⟩ := R.2.2.2.1 i hi
    have ho := o.2.2.2.2.1 i hi
    refine ⟨_, _, R.1, rfl, br_f (by rw [o.1]; exact nI_ge hi (by omega)) ⟨_, _, R.1, rfl, 9, G, b, R.2.1, vp_in_nI (by omega) (by omega), by rw [nI_clamp (by omega)]; exact g1, _, _, _, kindN_lt ho, g2, rfl, st_c ho.2.2.2.2.2.2 (fun z => ?_) (fun z => ?_)⟩⟩
    · exact nm_r rfl (nm_r (nI_1 i) (kk _ (by rw [stZ, if_neg z])))
    · exact nm_r rfl (nm_r (nI_1 i) (kk _ (by rw [stZ, if_pos z])))
end CZ

set_option maxRecDepth 100000
section CZ
variable {ad : Nat → Nat} {Y : gY} {h : gH} {a ar at_ n nt : Nat} {G T : Nat → Option Nat} {Z : pZ}
theorem hs_in {n i : Nat} (hn : n ≤ 9) (hi : i < 100) : inZ (nI i) 0 (nI n - 1) = if i < n then 1 else 0 := by
  unfold inZ
  have h0 : 0 ≤ nI i := nI_pos' (by omega)
  cases n with
  | zero =>
    rw [show nI 0 - 1 = -1 by decide, if_neg (fun w => ?_), if_neg (Nat.not_lt_zero _)]
    have h1 := (fa_le _ _).mp w.2
    rw [nI_toInt (by omega), show (-1 : Int32).toInt = -1 by decide] at h1
    omega
  | succ n =>
    rw [nI_pred]
    by_cases h : i < n + 1
    · rw [if_pos h, if_pos ⟨h0, nI_le (by omega) (by omega)⟩]
    · rw [if_neg h, if_neg (fun w => nI_ge (a := n) (b := i) (by omega) (by omega) w.2)]
theorem hs_m1 (x : Int32) : inZ (-1) 0 x = 0 := if_neg (fun w => absurd w.1 (by decide))
theorem c_nextU {K : Int32 → gY → gH → Prop} {set : Int32} (R : RS h (ad 0) ar at_ G T Z n nt) (o : okS Z n nt) : ∀ (f i : Nat), i ≤ n → n < i + f → K (nxZ n set 1 f (nI i)) Y h → wX0_nextOf_5 ad K f Y h 1 set (nI i) := by
  have h9 := o.2.1
  intro f
  induction f with
  | zero => intro i h1 h2; omega
  | succ f ih =>
    intro i h1 h2 hK
    rw [nxZ, if_neg (nI_pos (by omega))] at hK
    refine c_isHouse R ?_
    rw [o.1, hs_in h9 (by omega)]
    refine st_br (fun hi => ?_) (fun hi => ?_)
    · rw [if_pos (nI_le (by omega) (by omega))] at hK
      refine c_isHouse R ?_
      rw [o.1, hs_in h9 (by omega), if_neg hi]
      exact br_t rfl hK
    · rw [if_neg (nI_ge (by omega) (by omega))] at hK
      refine rb_c (fun z => ?_) (fun z => ?_)
      · rw [if_pos z] at hK
        refine nm_r (nI_1 i) (ih (i + 1) (by omega) (by omega) ?_)
        rw [← nI_1]; exact hK
      · rw [if_neg z] at hK
        refine c_isHouse R ?_
        rw [o.1, hs_in h9 (by omega), if_pos hi]
        exact br_f (by decide) hK
theorem c_nextD {K : Int32 → gY → gH → Prop} {set : Int32} (R : RS h (ad 0) ar at_ G T Z n nt) (o : okS Z n nt) : ∀ (f i : Nat), i ≤ n → i < f → K (nxZ n set (-1) f (nI i + (-1))) Y h → wX0_nextOf_5 ad K f Y h (-1) set (nI i + (-1)) := by
  have h9 := o.2.1
  intro f
  induction f with
  | zero => intro i h1 h2; omega
  | succ f ih =>
    intro i h1 h2 hK
    cases i with
    | zero =>
      rw [nxZ, if_pos (by decide)] at hK
      rw [show nI 0 + (-1) = -1 by decide]
      refine c_isHouse R ?_
      rw [hs_m1]
      refine br_t rfl (c_isHouse R ?_)
      rw [hs_m1]
      exact br_t rfl hK
    | succ i =>
      rw [pk_m1] at hK ⊢
      rw [nxZ, if_neg (nI_pos (by omega)), if_neg (nI_ge (by omega) (by omega))] at hK
      refine c_isHouse R ?_
      rw [o.1, hs_in h9 (by omega), if_pos (by omega)]
      refine br_f (by decide) (rb_c (fun z => ?_) (fun z => ?_))
      · rw [if_pos z] at hK
        exact nm_r rfl (ih i (by omega) (by omega) hK)
      · rw [if_neg z] at hK
        refine c_isHouse R ?_
        rw [o.1, hs_in h9 (by omega), if_pos (by omega)]
        exact br_f (by decide) hK
theorem c_next1 {K : Int32 → gY → gH → Prop} {k : Nat} {set : Int32} (R : RS h (ad 0) ar at_ G T Z n nt) (o : okS Z n nt) (hk : k < n) (hK : K (nextZ n k 1 set) Y h) : wpX0_nextOf ad K Y h (nI k) 1 set := by
  have h9 := o.2.1
  refine nm_r (nI_1 k) ⟨11, c_nextU R o 11 (k + 1) (by omega) (by omega) ?_⟩
  rw [← nI_1]; exact hK
theorem c_nextm {K : Int32 → gY → gH → Prop} {k : Nat} {set : Int32} (R : RS h (ad 0) ar at_ G T Z n nt) (o : okS Z n nt) (hk : k < n) (hK : K (nextZ n k (-1) set) Y h) : wpX0_nextOf ad K Y h (nI k) (-1) set := by
  have h9 := o.2.1
  exact nm_r rfl ⟨11, c_nextD R o 11 k (by omega) (by omega) hK⟩
theorem c_counts {K : Int32 → gY → gH → Prop} {key : Int32} (R : RS h (ad 0) ar at_ G T Z n nt) (o : okS Z n nt) (hK : K (cntZ Z key nt) Y h) : wpX0_counts ad K Y h key := by
  have h14 := o.2.2.2.1
  refine nm_r rfl ?_
  refine pk_loop (fun f i (x : Int32) => wX0_counts_4 ad K f Y h key x (nI i)) (fun i x => x = cntZ Z key i) nt 0 (-1) (Nat.zero_le _) rfl (fun f s hs => ?_) (fun f i s hi hs kk => ?_)
  · subst hs
    exact ⟨_, _, R.1, rfl, br_t (by rw [o.2.2.1]; exact nI_le (Nat.le_refl _) (by omega)) hK⟩
  · subst hs
    obtain ⟨b, g1, wa, m, g2, -⟩ := R.2.2.2.2.2.1 i hi
    refine ⟨_, _, R.1, rfl, br_f (by rw [o.2.2.1]; exact nI_ge hi (by omega)) ⟨_, _, R.1, rfl, 14, T, b, R.2.2.1, vp_in_nI (by omega) (by omega), by rw [nI_clamp (by omega)]; exact g1, _, _, g2, rfl, rb_c (fun z => ?_) (fun z => ?_)⟩⟩
    · exact nm_r (nI_1 i) (kk _ (by rw [cntZ, if_pos z]))
    · exact nm_r (nI_1 i) (kk _ (by rw [cntZ, if_neg z]))
theorem div_m1 (x : Int32) : x / (-1) = -x := by
  apply Int32.toInt_inj.mp
  rw [Int32.toInt_div, show (-1 : Int32).toInt = -1 by decide, Int32.toInt_neg, Int.tdiv_neg, Int.tdiv_one]
theorem c_both {K : Int32 → gY → gH → Prop} {q : Int32 × Int32} {x y : Int32} (h2 : q.1 = 2) (h3 : q.2 ≠ 33) (hK : K (joinZ q.2 x y) Y h) : wpX0_both ad K Y h (cwZ q).1 x y := by
  have e : (cwZ q).1 = if q.2 = 42 then 4 else if q.2 = 43 then 5 else if q.2 = 45 then 6 else if q.2 = 60 then 7 else if q.2 = 61 then 8 else if q.2 = 62 then 9 else if q.2 = 38 then 10 else if q.2 = 47 then 12 else 11 := by
    unfold cwZ
    rw [if_neg (by rw [h2]; decide), if_neg (by rw [h2]; decide), if_neg h3]
    split
    · rfl
    split
    · rfl
    split
    · rfl
    split
    · rfl
    split
    · rfl
    split
    · rfl
    split
    · rfl
    split
    · rfl
    · rfl
  rw [e]
  unfold joinZ at hK
  generalize q.2 = c at *
  by_cases c1 : c = 42
  · subst c1
    rw [if_neg (by decide), if_pos rfl] at hK
    rw [if_pos rfl]
    exact ⟨fun _ => hK, fun z => absurd z (by decide), fun z => absurd z (by decide), fun z => absurd z (by decide), fun z => absurd z (by decide), fun z => absurd z (by decide), fun z => absurd z (by decide), fun z => absurd z (by decide), fun z => absurd rfl z.1⟩
  rw [if_neg c1] at hK ⊢
  by_cases c2 : c = 43
  · subst c2
    rw [if_neg (by decide), if_pos rfl] at hK
    rw [if_pos rfl]
    exact ⟨fun z => absurd z (by decide), fun _ => hK, fun z => absurd z (by decide), fun z => absurd z (by decide), fun z => absurd z (by decide), fun z => absurd z (by decide), fun z => absurd z (by decide), fun z => absurd z (by decide), fun z => absurd rfl z.2.1⟩
  rw [if_neg c2] at hK ⊢
  by_cases c3 : c = 45
  · subst c3
    rw [if_neg (by decide), if_pos rfl] at hK
    rw [if_pos rfl]
    exact ⟨fun z => absurd z (by decide), fun z => absurd z (by decide), fun _ => hK, fun z => absurd z (by decide), fun z => absurd z (by decide), fun z => absurd z (by decide), fun z => absurd z (by decide), fun z => absurd z (by decide), fun z => absurd rfl z.2.2.1⟩
  rw [if_neg c3] at hK ⊢
  by_cases c4 : c = 60
  · subst c4
    rw [if_neg (by decide), if_neg (by decide), if_pos rfl] at hK
    rw [if_pos rfl]
    refine ⟨fun z => absurd z (by decide), fun z => absurd z (by decide), fun z => absurd z (by decide), fun _ => br_c (fun z => ?_) (fun z => ?_), fun z => absurd z (by decide), fun z => absurd z (by decide), fun z => absurd z (by decide), fun z => absurd z (by decide), fun z => absurd rfl z.2.2.2.1⟩
    · rw [if_pos z] at hK; exact hK
    · rw [if_neg z] at hK; exact hK
  rw [if_neg c4] at hK ⊢
  by_cases c5 : c = 61
  · subst c5
    rw [if_neg (by decide), if_neg (by decide), if_pos rfl] at hK
    rw [if_pos rfl]
    refine ⟨fun z => absurd z (by decide), fun z => absurd z (by decide), fun z => absurd z (by decide), fun z => absurd z (by decide), fun _ => rb_c (fun z => ?_) (fun z => ?_), fun z => absurd z (by decide), fun z => absurd z (by decide), fun z => absurd z (by decide), fun z => absurd rfl z.2.2.2.2.1⟩
    · rw [if_pos z] at hK; exact hK
    · rw [if_neg z] at hK; exact hK
  rw [if_neg c5] at hK ⊢
  by_cases c6 : c = 62
  · subst c6
    rw [if_neg (by decide), if_neg (by decide), if_pos rfl] at hK
    rw [if_pos rfl]
    refine ⟨fun z => absurd z (by decide), fun z => absurd z (by decide), fun z => absurd z (by decide), fun z => absurd z (by decide), fun z => absurd z (by decide), fun _ => br_c (fun z => ?_) (fun z => ?_), fun z => absurd z (by decide), fun z => absurd z (by decide), fun z => absurd rfl z.2.2.2.2.2.1⟩
    · rw [if_pos z] at hK; exact hK
    · rw [if_neg z] at hK; exact hK
  rw [if_neg c6] at hK ⊢
  by_cases c7 : c = 38
  · subst c7
    rw [if_pos rfl] at hK
    rw [if_pos rfl]
    refine ⟨fun z => absurd z (by decide), fun z => absurd z (by decide), fun z => absurd z (by decide), fun z => absurd z (by decide), fun z => absurd z (by decide), fun z => absurd z (by decide), fun _ => br_c (fun z => ?_) (fun z => br_c (fun w => ?_) (fun w => ?_)), fun z => absurd z (by decide), fun z => absurd rfl z.2.2.2.2.2.2.1⟩
    · rw [if_pos z] at hK; exact hK
    · rw [if_neg z, if_pos w] at hK; exact hK
    · rw [if_neg z, if_neg w] at hK; exact hK
  rw [if_neg c7] at hK ⊢
  by_cases c8 : c = 47
  · subst c8
    rw [if_pos rfl] at hK
    rw [if_pos rfl]
    refine ⟨fun z => absurd z (by decide), fun z => absurd z (by decide), fun z => absurd z (by decide), fun z => absurd z (by decide), fun z => absurd z (by decide), fun z => absurd z (by decide), fun z => absurd z (by decide), fun _ => rb_c (fun z => ?_) (fun z => ⟨z, ?_⟩), fun z => absurd rfl z.2.2.2.2.2.2.2⟩
    · rw [if_pos z] at hK; exact hK
    · rw [if_neg z] at hK
      by_cases w : y = -1
      · rw [if_pos w] at hK; rw [w, div_m1]; exact hK
      · rw [if_neg w] at hK; exact hK
  rw [if_neg c8] at hK ⊢
  refine ⟨fun z => absurd z (by decide), fun z => absurd z (by decide), fun z => absurd z (by decide), fun z => absurd z (by decide), fun z => absurd z (by decide), fun z => absurd z (by decide), fun z => absurd z (by decide), fun z => absurd z (by decide), fun _ => rb_c (fun z => br_c (fun w => ?_) (fun w => ?_)) (fun z => ?_)⟩
  · rw [if_pos z, if_pos w] at hK; exact hK
  · rw [if_pos z, if_neg w] at hK; exact hK
  · rw [if_neg z] at hK; exact hK
theorem cw_bin {q : Int32 × Int32} (h2 : q.1 = 2) (h3 : q.2 ≠ 33) : (cwZ q).1 ≠ 1 ∧ (cwZ q).1 ≠ 2 ∧ (cwZ q).1 ≠ 3 := by
  unfold cwZ
  rw [if_neg (by rw [h2]; decide), if_neg (by rw [h2]; decide), if_neg h3]
  split
  · decide
  split
  · decide
  split
  · decide
  split
  · decide
  split
  · decide
  split
  · decide
  split
  · decide
  split
  · decide
  · decide
theorem c_reckL {K : Int32 → gY → gH → Prop} {t m wa : Nat} (hW : RW h wa (wdF Z t) m) : ∀ (r i : Nat) (s : List Int32) (Y' : gY), r + i = m → pR (Y' 5) s → okW (fun v => ∃ j, j < 128 ∧ v = nI j) (wdL Z t r i) s.length → s.length ≤ i → fr [5] Y Y' →
    (∀ Y'', fr [5] Y Y'' → K (botZ (runZ (fun v => Y 16 v.toNatClampNeg) (wdL Z t r i) s)) Y'' h) → wX0_reckon_4 ad K (r + 1) Y' h wa (nI s.length) (nI i) := by
  obtain ⟨pw, pv, fw, fv, w1, w2, w3, w4, w5⟩ := hW
  intro r
  induction r with
  | zero =>
    intro i s Y' hri hp hok hs hf hK
    have hi : i = m := by omega
    subst hi
    refine ⟨_, _, w1, rfl, br_t (nI_le (Nat.le_refl _) (by omega)) ⟨pk_in 0 96 (by omega), ?_⟩⟩
    have hne : s ≠ [] := by intro e; rw [e] at hok; cases hok
    have := hK Y' hf
    rw [show runZ (fun v => Y 16 v.toNatClampNeg) (wdL Z t 0 i) s = s from rfl, ← hp.bot hne] at this
    exact this
  | succ r ih =>
    intro i s Y' hri hp hok hs hf hK
    have f16 : Y' 16 = Y 16 := hf 16 rfl
    refine ⟨_, _, w1, rfl, br_f (nI_ge (by omega) (by omega)) ⟨_, _, w1, rfl, 96, fw, w2, vp_in_nI (by omega) (by omega), ?_⟩⟩
    rw [nI_clamp (n := i) (by omega)]
    have hok' := hok
    rw [wdL, okW] at hok'
    have h' : ∀ Y'', fr [5] Y Y'' → K (botZ (runZ (fun v => Y 16 v.toNatClampNeg) (wdL Z t r (i + 1)) (stepZ (fun v => Y 16 v.toNatClampNeg) (wdF Z t i) s))) Y'' h := hK
    have hw := w5 i (by omega)
    generalize wdF Z t i = q at *
    have hw1 : fw i = (cwZ q).1 := congrArg Prod.fst hw
    have hw2 : fv i = (cwZ q).2 := congrArg Prod.snd hw
    refine nm_r hw1 ?_
    unfold stepZ at h'
    rcases hok' with ⟨a1, a2, a3, a4⟩ | ⟨a1, a2, a3, a4⟩ | ⟨a1, ⟨j, hj, a2⟩, a4⟩ | ⟨a1, a4⟩
    · rw [if_pos a1, if_pos a2] at h'
      have e3 : (cwZ q).1 = 3 := by unfold cwZ; rw [if_neg (by rw [a1]; decide), if_neg (by rw [a1]; decide), if_pos a2]
      rw [e3]
      obtain ⟨x, s', rfl⟩ : ∃ x s', s = x :: s' := by
        cases s with
        | nil => simp at a3
        | cons x s' => exact ⟨x, s', rfl⟩
      dsimp only at h'
      have hl : (x :: s').length = s'.length + 1 := rfl
      rw [hl] at hs a4 ⊢
      refine br_f (by decide) (rb_f (by decide) (rb_t rfl ?_))
      rw [nI_pred, nI_clamp (n := s'.length) (by omega)]
      have hx : Y' 5 s'.length = x := hp.1
      rw [hx]
      refine ⟨vp_in_nI (by omega) (by omega), rb_c (fun z => ?_) (fun z => ?_)⟩
      · rw [if_pos z] at h'
        unfold wX0_reckon_99
        rw [nI_clamp (n := s'.length) (by omega)]
        refine ⟨vp_in_nI (by omega) (by omega), nm_r rfl (nm_r (nI_1 i) ?_)⟩
        refine ih (i + 1) (1 :: s') _ (by omega) ?_ a4 (by simp; omega) (hf.up rfl) h'
        rw [yupd_self]
        exact ⟨pk_us, hp.2.up (Nat.le_refl _)⟩
      · rw [if_neg z] at h'
        unfold wX0_reckon_99
        rw [nI_clamp (n := s'.length) (by omega)]
        refine ⟨vp_in_nI (by omega) (by omega), nm_r rfl (nm_r (nI_1 i) ?_)⟩
        refine ih (i + 1) (0 :: s') _ (by omega) ?_ a4 (by simp; omega) (hf.up rfl) h'
        rw [yupd_self]
        exact ⟨pk_us, hp.2.up (Nat.le_refl _)⟩
    · rw [if_pos a1, if_neg a2] at h'
      obtain ⟨b1, b2, b3⟩ := cw_bin a1 a2
      obtain ⟨y, x, s', rfl⟩ : ∃ y x s', s = y :: x :: s' := by
        cases s with
        | nil => simp at a3
        | cons y s' =>
          cases s' with
          | nil => simp at a3
          | cons x s'' => exact ⟨y, x, s'', rfl⟩
      dsimp only at h'
      have hl : (y :: x :: s').length = s'.length + 1 + 1 := rfl
      rw [hl] at hs a4 ⊢
      refine br_f b1 (rb_f b2 (rb_f b3 (nm_r (pk_m1 (s'.length + 1)) ?_)))
      rw [nI_pred, nI_clamp (n := s'.length) (by omega), nI_clamp (n := s'.length + 1) (by omega)]
      have hy : Y' 5 (s'.length + 1) = y := hp.1
      have hx : Y' 5 s'.length = x := hp.2.1
      rw [hx, hy]
      refine ⟨vp_in_nI (by omega) (by omega), vp_in_nI (by omega) (by omega), c_both a1 a2 ⟨vp_in_nI (by omega) (by omega), nm_r rfl (nm_r (nI_1 i) ?_)⟩⟩
      refine ih (i + 1) (joinZ q.2 x y :: s') _ (by omega) ?_ a4 (by simp; omega) (hf.up rfl) h'
      rw [yupd_self]
      exact ⟨pk_us, hp.2.2.up (Nat.le_refl _)⟩
    · have n2 : ¬ q.1 = 2 := by rw [a1]; decide
      have n0 : ¬ q.1 = 0 := by rw [a1]; decide
      rw [if_neg n2, if_neg n0] at h'
      have e3 : cwZ q = (2, q.2) := by unfold cwZ; rw [if_neg n0, if_pos a1]
      rw [e3] at hw2 ⊢
      have n1 : ¬ ((2 : Int32), q.2).1 = 1 := fun z => absurd (show (2 : Int32) = 1 from z) (by decide)
      refine br_f n1 (rb_t rfl (rb_f n1 ⟨_, _, w1, rfl, 96, fv, w3, vp_in_nI (by omega) (by omega), ?_⟩))
      rw [nI_clamp (n := i) (by omega), hw2]
      refine ⟨by show vp_in q.2 128; rw [a2]; exact vp_in_nI hj (by omega), ?_⟩
      unfold wX0_reckon_63
      rw [nI_clamp (n := s.length) (by omega), f16]
      refine ⟨vp_in_nI (by omega) (by omega), nm_r rfl (nm_r (nI_1 s.length) (nm_r (nI_1 i) ?_))⟩
      refine ih (i + 1) (Y 16 q.2.toNatClampNeg :: s) _ (by omega) ?_ a4 (by simp; omega) (hf.up rfl) h'
      rw [yupd_self]
      exact ⟨pk_us, hp.up (Nat.le_refl _)⟩
    · have n2 : ¬ q.1 = 2 := by rw [a1]; decide
      rw [if_neg n2, if_pos a1] at h'
      have e3 : cwZ q = (1, q.2) := by unfold cwZ; rw [if_pos a1]
      rw [e3] at hw2 ⊢
      refine br_t rfl (rb_t rfl ⟨_, _, w1, rfl, 96, fv, w3, vp_in_nI (by omega) (by omega), ?_⟩)
      rw [nI_clamp (n := i) (by omega), hw2]
      unfold wX0_reckon_63
      rw [nI_clamp (n := s.length) (by omega)]
      refine ⟨vp_in_nI (by omega) (by omega), nm_r rfl (nm_r (nI_1 s.length) (nm_r (nI_1 i) ?_))⟩
      refine ih (i + 1) (q.2 :: s) _ (by omega) ?_ a4 (by simp; omega) (hf.up rfl) h'
      rw [yupd_self]
      exact ⟨pk_us, hp.up (Nat.le_refl _)⟩
theorem c_reckon {K : Int32 → gY → gH → Prop} {t m wa : Nat} (hW : RW h wa (wdF Z t) m) (hok : okW (fun v => ∃ j, j < 128 ∧ v = nI j) (wdL Z t m 0) 0) (hK : ∀ Y', fr [5] Y Y' → K (botZ (runZ (fun v => Y 16 v.toNatClampNeg) (wdL Z t m 0) [])) Y' h) : wpX0_reckon ad K Y h wa :=
  ⟨m + 1, c_reckL hW m 0 [] Y (by omega) trivial hok (Nat.le_refl _) fr.rf hK⟩
end CZ

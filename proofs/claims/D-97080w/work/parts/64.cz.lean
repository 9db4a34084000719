set_option maxRecDepth 100000
theorem abs20 {L : Int32} (h : -50 ≤ L.toInt ∧ L.toInt ≤ 50) : ((20 : Int32) ≤ absZ L) ↔ (¬ L < 20 ∨ ¬ (-20 : Int32) < L) := by
  rw [fa_le, fa_lt, fa_lt, absZ_ti (by omega), show (20 : Int32).toInt = 20 by decide, show (-20 : Int32).toInt = -20 by decide]
  split <;> omega
section CZ
variable {ad : Nat → Nat} {Y : gY} {h : gH} {a ar at_ n nt : Nat} {G T : Nat → Option Nat} {Z : pZ}
theorem c_sweep {K : gY → gH → Prop} {J : gY → gH → Int32 → Int32 → Prop} {stood : Int32} (R : RS h (ad 0) ar at_ G T Z n nt) (o : okS Z n nt) (hi : injG G) (hK : ∀ h', RS h' (ad 0) ar at_ G T (swZ stood n Z n).1 n nt → frH h h' (ad 0) G → J Y h' stood (swZ stood n Z n).2) : ∃ fu, wX0_fall_81 ad K J fu Y h stood 0 0 := by
  have h9 := o.2.1
  refine pk_loop (fun f i (s : gH × Int32) => wX0_fall_81 ad K J f Y s.1 stood s.2 (nI i)) (fun i s => RS s.1 (ad 0) ar at_ G T (swZ stood n Z i).1 n nt ∧ s.2 = (swZ stood n Z i).2 ∧ frH h s.1 (ad 0) G) n 0 (h, 0) (Nat.zero_le _) ⟨R, rfl, frH.rf⟩ (fun f s hs => ?_) (fun f i s hin hs kk => ?_)
  · obtain ⟨h', m⟩ := s
    obtain ⟨R', s2, fh⟩ := hs
    dsimp only at R' s2 fh ⊢
    have e0 : (swZ stood n Z n).1 0 = nI n := ((swZ_lo n h9).1 0 (by omega)).trans o.1
    subst s2
    exact ⟨_, _, R'.1, rfl, br_t (by rw [e0]; exact nI_le (Nat.le_refl _) (by omega)) (hK h' R' fh)⟩
  · obtain ⟨h', m⟩ := s
    obtain ⟨R', s2, fh⟩ := hs
    dsimp only at R' s2 fh ⊢
    have hl := swZ_lo (stood := stood) (n := n) (Z0 := Z) i (by omega)
    have e0 : (swZ stood n Z i).1 0 = nI n := (hl.1 0 (by omega)).trans o.1
    have oi : okS (swZ stood n Z i).1 n nt := o.hs hl (fun k hk => swZ_ok (o.2.2.2.2.1 k hk) i)
    have sw := swZ.eq_2 stood n Z i
    obtain ⟨b, g1, g2⟩ := R'.2.2.2.1 i hin
    have ho := oi.2.2.2.2.1 i hin
    have hc := kindN_lt ho
    have gr : G (nI i).toNatClampNeg = some b := by rw [nI_clamp (by omega)]; exact g1
    refine ⟨_, _, R'.1, rfl, br_f (by rw [e0]; exact nI_ge hin (by omega)) ⟨_, _, R'.1, rfl, 9, G, b, R'.2.1, vp_in_nI (by omega) (by omega), gr, _, _, _, hc, g2, rfl, st_c ho.2.2.2.2.2.2 (fun z => ?_) (fun z => ?_)⟩⟩
    · rw [if_neg z] at sw
      exact br_t rfl (nm_r (nI_1 i) (kk (h', m) ⟨by rw [sw]; exact R', by rw [sw]; exact s2, fh⟩))
    · rw [if_pos z] at sw
      have no : fwZ (swZ stood n Z i).1 n i stood = 0 → wX0_fall_163 ad K J (wX0_fall_81 ad K J f) Y h' stood m (nI i) b := by
        intro q
        rw [if_pos q] at sw
        exact br_t rfl (nm_r (nI_1 i) (kk (h', m) ⟨by rw [sw]; exact R', by rw [sw]; exact s2, fh⟩))
      have yes : ¬ fwZ (swZ stood n Z i).1 n i stood = 0 → wX0_fall_159 ad K J (wX0_fall_81 ad K J f) Y h' stood m (nI i) b := by
        intro q
        rw [if_neg q] at sw
        exact br_f (by decide) (c_falls R' oi hi hin g1 (fun h2 q1 q2 => nm_r (nI_1 i) (kk (h2, 1) ⟨by rw [sw]; exact q1, by rw [sw], fh.tr q2⟩)))
      generalize hZ : (swZ stood n Z i).1 = Zi at *
      have a20 := abs20 ho.2.2.1
      have hN : ∀ side, nextZ n i side stood = -1 ∨ ∃ j, j < n ∧ nextZ n i side stood = nI j := fun side => nextZ_in _ _ _ _ _
      have low : (¬ (20 : Int32) ≤ absZ (hz Zi i 2) ∨ ¬ hz Zi i 2 < 20 ∧ fwZ Zi n i stood = 0 ∨ hz Zi i 2 < 20) → wX0_fall_135 ad K J (wX0_fall_81 ad K J f) Y h' stood m (nI i) b := by
        intro hq
        refine ⟨_, _, _, hc, g2, rfl, br_c (fun w => no ?_) (fun w => ?_)⟩
        · rcases hq with q | ⟨q1, q2⟩ | q
          · unfold fwZ; rw [if_neg q]
          · exact q2
          · unfold fwZ; rw [if_neg (fun q3 => by rcases a20.mp q3 with q4 | q4; exact q4 q; exact q4 w)]
        · have w' : hz Zi i 2 ≤ 0 := by
            rw [fa_lt, show (-20 : Int32).toInt = -20 by decide] at w
            rw [fa_le, show (0 : Int32).toInt = 0 by decide]; omega
          have ef : fwZ Zi n i stood = if nextZ n i (-1) stood < 0 then 0 else if hz Zi (nextZ n i (-1) stood).toNatClampNeg 6 = 0 then 0 else 1 := by
            unfold fwZ; rw [if_pos (a20.mpr (Or.inr w)), if_pos w']
          refine c_nextm R' oi hin (c_isDown R' oi (hN (-1)) ?_)
          rw [← ef]
          exact br_c (fun q => no q) (fun q => yes q)
      refine ⟨_, _, _, hc, g2, rfl, br_c (fun w => low (Or.inr (Or.inr w))) (fun w => ?_)⟩
      have w' : ¬ hz Zi i 2 ≤ 0 := by
        rw [fa_lt, show (20 : Int32).toInt = 20 by decide] at w
        rw [fa_le, show (0 : Int32).toInt = 0 by decide]; omega
      have ef : fwZ Zi n i stood = if nextZ n i 1 stood < 0 then 0 else if hz Zi (nextZ n i 1 stood).toNatClampNeg 6 = 0 then 0 else 1 := by
        unfold fwZ; rw [if_pos (a20.mpr (Or.inl w)), if_neg w']
      refine c_next1 R' oi hin (c_isDown R' oi (hN 1) ?_)
      rw [← ef]
      exact rb_c (fun q => low (Or.inr (Or.inl ⟨w, q⟩))) (fun q => yes q)
theorem c_sweeps {K : gY → gH → Prop} {stood : Int32} (hi : injG G) : ∀ (c : Nat) (h : gH) (Z : pZ), RS h (ad 0) ar at_ G T Z n nt → okS Z n nt → cntS Z n ≤ c → (∀ h', RS h' (ad 0) ar at_ G T (lpZ stood n (c + 1) Z) n nt → frH h h' (ad 0) G → K Y h') → wX0_fall_73 ad K (c + 2) Y h stood 1 := by
  intro c
  induction c with
  | zero =>
    intro h Z R o hc hK
    refine br_f (by decide) (c_sweep R o hi (fun h' g1 g2 => ?_))
    obtain ⟨a, b, d⟩ := swZ_cnt (stood := stood) (n := n) (Z0 := Z) n (Nat.le_refl _)
    have m0 : (swZ stood n Z n).2 = 0 := by
      rcases a with a | a
      · exact a
      · have := d a; omega
    rw [m0]
    exact br_t rfl (hK h' (by rw [lpZ, if_pos m0]; exact g1) g2)
  | succ c ih =>
    intro h Z R o hc hK
    have h9 := o.2.1
    refine br_f (by decide) (c_sweep R o hi (fun h' g1 g2 => ?_))
    obtain ⟨a, b, d⟩ := swZ_cnt (stood := stood) (n := n) (Z0 := Z) n (Nat.le_refl _)
    rcases a with a | a
    · rw [a]
      exact br_t rfl (hK h' (by rw [lpZ, if_pos a]; exact g1) g2)
    · rw [a]
      have hd := d a
      refine ih h' _ g1 (o.hs (swZ_lo n h9) (fun k hk => swZ_ok (o.2.2.2.2.1 k hk) n)) (by omega) (fun h2 q1 q2 => hK h2 ?_ (g2.tr q2))
      rw [show lpZ stood n (c + 1 + 1) Z = _ from if_neg (by rw [a]; decide)]
      exact q1
theorem c_fall {K : gY → gH → Prop} (R : RS h (ad 0) ar at_ G T Z n nt) (o : okS Z n nt) (hi : injG G) (hK : ∀ h', RS h' (ad 0) ar at_ G T (fallZ Z n (stZ Z n)) n nt → frH h h' (ad 0) G → K Y h') : wpX0_fall ad K Y h := by
  have h9 := o.2.1
  refine ⟨⟨_, R.1⟩, c_standing R o ?_⟩
  refine pk_loop (fun f i (s : gH) => wX0_fall_10 ad K f Y s (stZ Z n) (nI i)) (fun i s => RS s (ad 0) ar at_ G T (fcZ Z i) n nt ∧ frH h s (ad 0) G) n 0 h (Nat.zero_le _) ⟨R, frH.rf⟩ (fun f h' hs => ?_) (fun f i h' hin hs kk => ?_)
  · obtain ⟨R', fh⟩ := hs
    have hl := fcZ_lo (Z0 := Z) n h9
    have e0 : fcZ Z n 0 = nI n := (hl.1 0 (by omega)).trans o.1
    have oi : okS (fcZ Z n) n nt := o.hs hl (fun k hk => fcZ_ok (o.2.2.2.2.1 k hk) n)
    exact ⟨_, _, R'.1, rfl, br_t (by rw [e0]; exact nI_le (Nat.le_refl _) (by omega)) ⟨9 + 2, c_sweeps hi 9 h' _ R' oi (Nat.le_trans (cntS_le _ _) h9) (fun h2 q1 q2 => hK h2 q1 (fh.tr q2))⟩⟩
  · obtain ⟨R', fh⟩ := hs
    have hl := fcZ_lo (Z0 := Z) i (by omega)
    have e0 : fcZ Z i 0 = nI n := (hl.1 0 (by omega)).trans o.1
    have oi : okS (fcZ Z i) n nt := o.hs hl (fun k hk => fcZ_ok (o.2.2.2.2.1 k hk) i)
    have sw := fcZ.eq_2 Z i
    obtain ⟨b, g1, g2⟩ := R'.2.2.2.1 i hin
    have ho := oi.2.2.2.2.1 i hin
    have hc := kindN_lt ho
    have gr : G (nI i).toNatClampNeg = some b := by rw [nI_clamp (by omega)]; exact g1
    refine ⟨_, _, R'.1, rfl, br_f (by rw [e0]; exact nI_ge hin (by omega)) ⟨_, _, R'.1, rfl, 9, G, b, R'.2.1, vp_in_nI (by omega) (by omega), gr, _, _, _, hc, g2, rfl, st_c ho.2.2.2.2.2.2 (fun z => ?_) (fun z => ?_)⟩⟩
    · rw [if_neg z] at sw
      exact nm_r (nI_1 i) (kk h' ⟨by rw [sw]; exact R', fh⟩)
    · rw [if_pos z] at sw
      refine ⟨_, _, R'.1, rfl, 9, G, b, R'.2.1, vp_in_nI (by omega) (by omega), gr, _, _, _, hc, g2, rfl, br_c (fun w => ?_) (fun w => ?_)⟩
      · rw [if_pos w] at sw
        exact nm_r (nI_1 i) (kk h' ⟨by rw [sw]; exact R', fh⟩)
      · rw [if_neg w] at sw
        exact ⟨_, _, R'.1, rfl, 9, G, b, R'.2.1, vp_in_nI (by omega) (by omega), gr, c_falls R' oi hi hin g1 (fun h2 q1 q2 => nm_r (nI_1 i) (kk h2 ⟨by rw [sw]; exact q1, fh.tr q2⟩))⟩
theorem c_props {K : Int32 → gY → gH → Prop} (R : RS h a ar at_ G T Z n nt) (o : okS Z n nt) (hK : K (sumZ Z 5 n) Y h) : wpX1_props K Y h a := by
  have h9 := o.2.1
  refine pk_loop (fun f i (x : Int32) => wX1_props_4 K f Y h a x (nI i)) (fun i x => x = sumZ Z 5 i) n 0 0 (Nat.zero_le _) rfl (fun f s hs => ?_) (fun f i s hi hs kk => ?_)
  · subst hs
    exact ⟨_, _, R.1, rfl, br_t (by rw [o.1]; exact nI_le (Nat.le_refl _) (by omega)) hK⟩
  · subst hs
    obtain ⟨b, g1, g2⟩ := R.2.2.2.1 i hi
    exact ⟨_, _, R.1, rfl, br_f (by rw [o.1]; exact nI_ge hi (by omega)) ⟨_, _, R.1, rfl, 9, G, b, R.2.1, vp_in_nI (by omega) (by omega), by rw [nI_clamp (by omega)]; exact g1, _, _, _, kindN_lt (o.2.2.2.2.1 i hi), g2, rfl, nm_r rfl (nm_r (nI_1 i) (kk _ rfl))⟩⟩
theorem c_sumc {K : Int32 → gY → gH → Prop} (R : RS h a ar at_ G T Z n nt) (o : okS Z n nt) (hK : K (sumZ Z 4 n) Y h) : wpX1_cracks K Y h a := by
  have h9 := o.2.1
  refine pk_loop (fun f i (x : Int32) => wX1_cracks_4 K f Y h a x (nI i)) (fun i x => x = sumZ Z 4 i) n 0 0 (Nat.zero_le _) rfl (fun f s hs => ?_) (fun f i s hi hs kk => ?_)
  · subst hs
    exact ⟨_, _, R.1, rfl, br_t (by rw [o.1]; exact nI_le (Nat.le_refl _) (by omega)) hK⟩
  · subst hs
    obtain ⟨b, g1, g2⟩ := R.2.2.2.1 i hi
    exact ⟨_, _, R.1, rfl, br_f (by rw [o.1]; exact nI_ge hi (by omega)) ⟨_, _, R.1, rfl, 9, G, b, R.2.1, vp_in_nI (by omega) (by omega), by rw [nI_clamp (by omega)]; exact g1, _, _, _, kindN_lt (o.2.2.2.2.1 i hi), g2, rfl, nm_r rfl (nm_r (nI_1 i) (kk _ rfl))⟩⟩
theorem okS.kinds {Z : pZ} {n nt : Nat} (o : okS Z n nt) : ∀ k, k < n → kindN Z k < 6 := fun k hk => kindN_lt (o.2.2.2.2.1 k hk)
/-- a day, in the component -/
theorem c_aDay {K : gY → gH → Prop} (R : RS h (ad 0) ar at_ G T Z n nt) (o : okS Z n nt) (hs : okN Z) (hi : injG G) (hK : ∀ Y' h', RS h' (ad 0) ar at_ G T (dayZ Z n nt) n nt → fr [5, 16, 17, 18] Y Y' → frH h h' (ad 0) G → K Y' h') : wpX0_aDay ad K Y h := by
  have h9 := o.2.1
  refine c_findThrusts R o (fun Y1 q1 q2 q3 => c_cracksL hi o hs R q2 q3 (fun h1 R1 f1 => ?_))
  have l1 := crZ_lo (th := fun k => thrZ Z n nt k) (br := fun k => bearZ Z k) (Z0 := Z) n h9
  have o1 : okS (crZ (fun k => thrZ Z n nt k) (fun k => bearZ Z k) Z n) n nt := o.hs l1 (fun k hk => crZ_ok (o.2.2.2.2.1 k hk) n)
  refine c_fall R1 o1 hi (fun h2 R2 f2 => ?_)
  rw [stZ_cong (fun k => crZ_6 n)] at R2
  have l2 : loZ Z (fallZ (crZ (fun k => thrZ Z n nt k) (fun k => bearZ Z k) Z n) n (stZ Z n)) := (l1.tr (fcZ_lo n h9)).tr (lpZ_lo h9 10 _)
  have o2 := o.hs l2 (fun k hk => lpZ_ok 10 _ (fcZ_ok (crZ_ok (o.2.2.2.2.1 k hk) n) n))
  have hd : dayZ Z n nt = endZ (fallZ (crZ (fun k => thrZ Z n nt k) (fun k => bearZ Z k) Z n) n (stZ Z n)) n := rfl
  generalize fallZ (crZ (fun k => thrZ Z n nt k) (fun k => bearZ Z k) Z n) n (stZ Z n) = Z3 at *
  refine ⟨_, _, R2.1, rfl, ⟨_, R2.1⟩, c_props R2 o2 ⟨_, R2.1, by show 4 < 8; omega, fun h3 e3 => ?_⟩⟩
  subst e3
  refine ⟨_, _, hup_self _ _ _, rfl, _, hup_self _ _ _, by show 5 < 8; omega, fun h4 e4 => hK Y1 h4 ?_ q1 ?_⟩
  · rw [e4, hup_hup, hd]
    exact R2.low (Z' := endZ Z3 n) (fun i hi' => (pk_un (by omega)).trans (pk_un (by omega))) o2.kinds
  · rw [e4]
    exact ((f1.tr f2).low).low
end CZ
/-! ===== many days ===== -/
def daysZ (n nt : Nat) : Nat → pZ → pZ
  | 0, Z => Z
  | m + 1, Z => daysZ n nt m (dayZ Z n nt)
theorem okS.days {n nt : Nat} : ∀ (m : Nat) {Z : pZ}, okS Z n nt → okS (daysZ n nt m Z) n nt
  | 0, _, o => o
  | m + 1, _, o => okS.days m o.day
theorem dayZ_lo {Z : pZ} {n nt : Nat} (h9 : n ≤ 9) : (∀ i, i < 6 → i ≠ 2 → i ≠ 3 → dayZ Z n nt i = Z i) ∧ (∀ i, 69 ≤ i → dayZ Z n nt i = Z i) ∧ dayZ Z n nt 2 = Z 2 + 1 := by
  have l2 : loZ Z (fallZ (crZ (fun k => thrZ Z n nt k) (fun k => bearZ Z k) Z n) n (stZ Z n)) := ((crZ_lo n h9).tr (fcZ_lo n h9)).tr (lpZ_lo h9 10 _)
  unfold dayZ endZ
  generalize fallZ (crZ (fun k => thrZ Z n nt k) (fun k => bearZ Z k) Z n) n (stZ Z n) = Z3 at *
  exact ⟨fun i h1 h2 h3 => ((pk_un h2).trans (pk_un h3)).trans (l2.1 i h1), fun i h1 => ((pk_un (by omega)).trans (pk_un (by omega))).trans (l2.2 i h1), by rw [pk_us, l2.1 2 (by omega)]⟩
theorem okN.day {Z : pZ} {n nt : Nat} (h9 : n ≤ 9) (o : okN Z) : okN (dayZ Z n nt) := by
  unfold okN
  rw [(dayZ_lo h9).1 4 (by omega) (by omega) (by omega)]
  exact o
theorem m_goesOnMany {K : gY → Prop} {Y : gY} {n nt : Nat} {x : Int32} (m : Nat) (hm : m < 1000) (hx : x = nI m) (o : okS (Y 0) n nt) (h : ∀ Y', Y' 0 = daysZ n nt m (Y 0) → fr [0, 12, 13, 27, 28] Y Y' → K Y') : wpX5_goesOnMany K Y x := by
  subst hx
  have key : ∀ (r i : Nat) (Y' : gY), r + i = m → okS (Y' 0) n nt → (∀ Y'', Y'' 0 = daysZ n nt r (Y' 0) → fr [0, 12, 13, 27, 28] Y' Y'' → K Y'') → wX5_goesOnMany_2 K (r + 1) Y' (nI m) (nI i) := by
    intro r
    induction r with
    | zero =>
      intro i Y' hri o' hk
      exact br_t (nI_le (by omega) (by omega)) (hk Y' rfl fr.rf)
    | succ r ih =>
      intro i Y' hri o' hk
      refine br_f (nI_ge (by omega) (by omega)) (m_goesOn o' (fun Y1 q1 q2 => nm_r (nI_1 i) (ih (i + 1) Y1 (by omega) (by rw [q1]; exact o'.day) (fun Y2 q3 q4 => hk Y2 ?_ (q2.tr q4)))))
      rw [q3, q1]; rfl
  exact ⟨m + 1, key m 0 Y (by omega) o h⟩
theorem c_goesOn {ad : Nat → Nat} {Y : gY} {h : gH} {ar at_ n nt : Nat} {G T : Nat → Option Nat} {Z : pZ} {K : gY → gH → Prop} {x : Int32} (m : Nat) (hm : m < 1000) (hx : x = nI m ∨ (m = 0 ∧ x ≤ 0)) (R : RS h (ad 0) ar at_ G T Z n nt) (o : okS Z n nt) (hs : okN Z) (hi : injG G) (hK : ∀ Y' h', RS h' (ad 0) ar at_ G T (daysZ n nt m Z) n nt → fr [5, 16, 17, 18] Y Y' → frH h h' (ad 0) G → K Y' h') : wpX0_goesOn ad K Y h x := by
  have h9 := o.2.1
  rcases hx with rfl | ⟨rfl, hx⟩
  · have key : ∀ (r i : Nat) (Y' : gY) (h' : gH) (Z' : pZ), r + i = m → RS h' (ad 0) ar at_ G T Z' n nt → okS Z' n nt → okN Z' → (∀ Y'' h'', RS h'' (ad 0) ar at_ G T (daysZ n nt r Z') n nt → fr [5, 16, 17, 18] Y' Y'' → frH h' h'' (ad 0) G → K Y'' h'') → wX0_goesOn_2 ad K (r + 1) Y' h' (nI m) (nI i) := by
      intro r
      induction r with
      | zero =>
        intro i Y' h' Z' hri R' o' s' hk
        exact br_t (nI_le (by omega) (by omega)) (hk Y' h' R' fr.rf frH.rf)
      | succ r ih =>
        intro i Y' h' Z' hri R' o' s' hk
        exact br_f (nI_ge (by omega) (by omega)) (c_aDay R' o' s' hi (fun Y1 h1 q1 q2 q3 => nm_r (nI_1 i) (ih (i + 1) Y1 h1 _ (by omega) q1 o'.day (s'.day h9) (fun Y2 h2 q4 q5 q6 => hk Y2 h2 q4 (q2.tr q5) (q3.tr q6)))))
    exact ⟨m + 1, key m 0 Y h Z (by omega) R o hs hK⟩
  · exact ⟨1, br_t hx (hK Y h R fr.rf frH.rf)⟩

set_option maxRecDepth 100000
/-! ===== the model's day ===== -/
def cntS (Z : pZ) : Nat → Nat
  | 0 => 0
  | i + 1 => cntS Z i + if hz Z i 6 = 0 then 1 else 0
theorem cntS_le (Z : pZ) : ∀ n, cntS Z n ≤ n
  | 0 => Nat.le_refl _
  | n + 1 => by
    have := cntS_le Z n
    rw [cntS]
    split <;> omega
theorem flZ_6 (Z : pZ) (i k : Nat) : hz (flZ Z i) k 6 = if k = i then 1 else hz Z k 6 := by
  unfold flZ
  by_cases e : k = i
  · subst e
    rw [if_pos rfl, hz_ne _ _ (Or.inr (by omega)) (by omega) (by omega), hz_self]
  · rw [if_neg e, hz_ne _ _ (Or.inl e) (by omega) (by omega), hz_ne _ _ (Or.inl e) (by omega) (by omega)]
theorem cntS_fl {Z : pZ} {i : Nat} (h : hz Z i 6 = 0) : ∀ n, cntS (flZ Z i) n ≤ cntS Z n ∧ (i < n → cntS (flZ Z i) n < cntS Z n)
  | 0 => ⟨Nat.le_refl _, fun q => absurd q (Nat.not_lt_zero _)⟩
  | n + 1 => by
    obtain ⟨a, b⟩ := cntS_fl h n
    rw [cntS, cntS, flZ_6]
    by_cases e : n = i
    · subst e
      rw [if_pos rfl, if_pos h, if_neg (by decide)]
      omega
    · rw [if_neg e]
      refine ⟨by omega, fun q => ?_⟩
      have := b (by omega)
      omega
theorem swZ_cnt {stood : Int32} {n : Nat} {Z0 : pZ} : ∀ i, i ≤ n → ((swZ stood n Z0 i).2 = 0 ∨ (swZ stood n Z0 i).2 = 1) ∧ cntS (swZ stood n Z0 i).1 n ≤ cntS Z0 n ∧ ((swZ stood n Z0 i).2 = 1 → cntS (swZ stood n Z0 i).1 n < cntS Z0 n)
  | 0, _ => ⟨Or.inl rfl, Nat.le_refl _, fun e => absurd (show (0 : Int32) = 1 from e) (by decide)⟩
  | i + 1, h => by
    obtain ⟨a, b, c⟩ := swZ_cnt (stood := stood) (n := n) (Z0 := Z0) i (by omega)
    rw [swZ]
    by_cases h1 : hz (swZ stood n Z0 i).1 i 6 = 0
    · rw [if_pos h1]
      by_cases h2 : fwZ (swZ stood n Z0 i).1 n i stood = 0
      · rw [if_pos h2]; exact ⟨a, b, c⟩
      · rw [if_neg h2]
        have := (cntS_fl h1 n).2 (by omega)
        exact ⟨Or.inr rfl, by show cntS (flZ _ i) n ≤ _; omega, fun _ => by show cntS (flZ _ i) n < _; omega⟩
    · rw [if_neg h1]; exact ⟨a, b, c⟩
theorem m_falls {K : gY → Prop} {Y : gY} {k : Nat} (hk : k < 9) (h : ∀ Y', Y' 0 = flZ (Y 0) k → fr [0] Y Y' → K Y') : wpX5_falls K Y (nI k) :=
  m_sets k 6 hk (m_sets k 5 hk (h _ (by rw [yupd_self, yupd_self]; rfl) ((fr.rf.up rfl).up rfl)))
theorem m_fallsWith {K : Int32 → gY → Prop} {Y : gY} {n k : Nat} {stood : Int32} (hn : Y 0 0 = nI n) (h9 : n ≤ 9) (hk : k < n) (h : K (fwZ (Y 0) n k stood) Y) : wpX5_fallsWith K Y (nI k) stood := by
  refine m_of k 2 (by omega) (m_off0 ?_)
  unfold fwZ at h
  refine br_c (fun z => ?_) (fun z => ?_)
  · rw [if_pos z] at h
    have hA : ∀ side, nextZ n k side stood = -1 ∨ ∃ j, j < n ∧ nextZ n k side stood = nI j := fun side => nextZ_in _ _ _ _ _
    have fin : ∀ side, K (if nextZ n k side stood < 0 then 0 else if hz (Y 0) (nextZ n k side stood).toNatClampNeg 6 = 0 then 0 else 1) Y → ((nextZ n k side stood < 0 → K 0 Y) ∧ (¬ nextZ n k side stood < 0 → wpX5_stands (fun r_4 Y_5 => (((¬ r_4 = 0 → (K 0 Y_5)) ∧ (r_4 = 0 → (K 1 Y_5))))) Y (nextZ n k side stood))) := by
      intro side hh
      rcases hA side with e | ⟨j, hj, e⟩
      · rw [e] at hh ⊢
        rw [if_pos (by decide)] at hh
        exact br_t (by decide) hh
      · rw [e] at hh ⊢
        rw [if_neg (nI_pos (by omega)), nI_clamp (by omega)] at hh
        refine br_f (nI_pos (by omega)) (m_stands j (by omega) (st_rb (fun y => ?_) (fun y => ?_)))
        · rw [if_neg y] at hh; exact hh
        · rw [if_pos y] at hh; exact hh
    refine br_c (fun y => ?_) (fun y => ?_)
    · rw [if_pos y] at h
      exact m_nextm hn h9 hk (fin (-1) h)
    · rw [if_neg y] at h
      exact m_next1 hn h9 hk (fin 1 h)
  · rw [if_neg z] at h; exact h
theorem m_sweep {K : gY → Prop} {J : gY → Int32 → Int32 → Int32 → Prop} {Y : gY} {n : Nat} {stood x2 : Int32} (hn : Y 0 0 = nI n) (h9 : n ≤ 9) (h : ∀ Y', Y' 0 = (swZ stood n (Y 0) n).1 → fr [0] Y Y' → J Y' stood x2 (swZ stood n (Y 0) n).2) : ∃ fu, wX5_goesOn_206 K J fu Y stood x2 0 0 := by
  refine pk_loop (fun f i (s : gY × Int32) => wX5_goesOn_206 K J f s.1 stood x2 s.2 (nI i)) (fun i s => s.1 0 = (swZ stood n (Y 0) i).1 ∧ s.2 = (swZ stood n (Y 0) i).2 ∧ fr [0] Y s.1) n 0 (Y, 0) (Nat.zero_le _) ⟨rfl, rfl, fr.rf⟩ (fun f s hs => ?_) (fun f i s hi hs kk => ?_)
  · obtain ⟨Y', m⟩ := s
    obtain ⟨s1, s2, s3⟩ := hs
    dsimp only at s1 s2 s3 ⊢
    have e0 : Y' 0 (0 : Int32).toNatClampNeg = nI n := by
      show Y' 0 0 = _
      rw [s1]; exact ((swZ_lo n h9).1 0 (by omega)).trans hn
    subst s2
    exact ⟨pk_in 0 3069 (by omega), br_t (by rw [e0]; exact nI_le (Nat.le_refl _) (by omega)) (h Y' s1 s3)⟩
  · obtain ⟨Y', m⟩ := s
    obtain ⟨s1, s2, s3⟩ := hs
    dsimp only at s1 s2 s3 ⊢
    have e1 : Y' 0 0 = nI n := by rw [s1]; exact ((swZ_lo i (by omega)).1 0 (by omega)).trans hn
    have e0 : Y' 0 (0 : Int32).toNatClampNeg = nI n := e1
    have sw := swZ.eq_2 stood n (Y 0) i
    rw [← s1] at sw
    refine ⟨pk_in 0 3069 (by omega), br_f (by rw [e0]; exact nI_ge hi (by omega)) (m_stands i (by omega) (st_br (fun z => ?_) (fun z => ?_)))⟩
    · rw [if_neg z] at sw
      exact nm_r (nI_1 i) (kk (Y', m) ⟨by rw [sw]; exact s1, by rw [sw]; exact s2, s3⟩)
    · rw [if_pos z] at sw
      refine m_fallsWith e1 h9 (by omega) (br_c (fun y => ?_) (fun y => ?_))
      · rw [if_pos y] at sw
        exact nm_r (nI_1 i) (kk (Y', m) ⟨by rw [sw]; exact s1, by rw [sw]; exact s2, s3⟩)
      · rw [if_neg y] at sw
        refine m_falls (by omega) (fun Y2 g1 g2 => nm_r (nI_1 i) (kk (Y2, 1) ⟨by rw [sw]; exact g1, by rw [sw], s3.tr g2⟩))
theorem m_sweeps {K : gY → Prop} {n : Nat} {stood x2 : Int32} (h9 : n ≤ 9) : ∀ (c : Nat) (Y : gY), Y 0 0 = nI n → cntS (Y 0) n ≤ c → (∀ Y', Y' 0 = lpZ stood n (c + 1) (Y 0) → fr [0] Y Y' → ∃ fu, wX5_goesOn_256 K fu Y' x2 0) → wX5_goesOn_197 K (c + 2) Y stood x2 1 := by
  intro c
  induction c with
  | zero =>
    intro Y hn hc h
    refine br_f (by decide) (m_sweep hn h9 (fun Y' g1 g2 => ?_))
    obtain ⟨a, b, d⟩ := swZ_cnt (stood := stood) (n := n) (Z0 := Y 0) n (Nat.le_refl _)
    have m0 : (swZ stood n (Y 0) n).2 = 0 := by
      rcases a with a | a
      · exact a
      · have := d a; omega
    rw [m0]
    exact br_t rfl (h Y' (by rw [lpZ, if_pos m0]; exact g1) g2)
  | succ c ih =>
    intro Y hn hc h
    refine br_f (by decide) (m_sweep hn h9 (fun Y' g1 g2 => ?_))
    obtain ⟨a, b, d⟩ := swZ_cnt (stood := stood) (n := n) (Z0 := Y 0) n (Nat.le_refl _)
    rcases a with a | a
    · rw [a]
      exact br_t rfl (h Y' (by rw [lpZ, if_pos a]; exact g1) g2)
    · rw [a]
      have hd := d a
      refine ih Y' (by rw [g1]; exact ((swZ_lo n h9).1 0 (by omega)).trans hn) (by rw [g1]; omega) (fun Y2 q1 q2 => h Y2 ?_ (g2.tr q2))
      rw [q1, g1]
      exact (show lpZ stood n (c + 1 + 1) (Y 0) = _ from if_neg (by rw [a]; decide)).symm
theorem m_props {K : gY → Prop} {Y : gY} {n : Nat} (hn : Y 0 0 = nI n) (h9 : n ≤ 9) (h : ∀ Y', Y' 0 = endZ (Y 0) n → fr [0] Y Y' → K Y') : ∃ fu, wX5_goesOn_256 K fu Y 0 0 := by
  have hn' : Y 0 (0 : Int32).toNatClampNeg = nI n := hn
  refine pk_loop (fun f i (x : Int32) => wX5_goesOn_256 K f Y x (nI i)) (fun i x => x = sumZ (Y 0) 5 i) n 0 0 (Nat.zero_le _) rfl (fun f s hs => ?_) (fun f i s hi hs kk => ?_)
  · subst hs
    refine ⟨pk_in 0 3069 (by omega), br_t (by rw [hn']; exact nI_le (Nat.le_refl _) (by omega)) ⟨pk_in 3 3069 (by omega), pk_in 3 3069 (by omega), nm_r rfl ⟨pk_in 2 3069 (by omega), pk_in 2 3069 (by omega), nm_r rfl (h _ ?_ ((fr.rf.up rfl).up rfl))⟩⟩⟩
    rw [yupd_self, yupd_self]
    rfl
  · subst hs
    exact ⟨pk_in 0 3069 (by omega), br_f (by rw [hn']; exact nI_ge hi (by omega)) (m_of i 5 (by omega) (nm_r rfl (nm_r (nI_1 i) (kk _ rfl))))⟩
theorem m_cracked {K : gY → Prop} {Y : gY} {n : Nat} {stood x2 : Int32} (hn : Y 0 0 = nI n) (h9 : n ≤ 9) (h : ∀ Y', Y' 0 = fcZ (Y 0) n → fr [0] Y Y' → ∃ fu, wX5_goesOn_197 K fu Y' stood x2 1) : ∃ fu, wX5_goesOn_155 K fu Y stood x2 0 := by
  refine pk_loop (fun f i (s : gY) => wX5_goesOn_155 K f s stood x2 (nI i)) (fun i s => s 0 = fcZ (Y 0) i ∧ fr [0] Y s) n 0 Y (Nat.zero_le _) ⟨rfl, fr.rf⟩ (fun f Y' hs => ?_) (fun f i Y' hi hs kk => ?_)
  · obtain ⟨s1, s3⟩ := hs
    have e0 : Y' 0 (0 : Int32).toNatClampNeg = nI n := by
      show Y' 0 0 = _
      rw [s1]; exact ((fcZ_lo n h9).1 0 (by omega)).trans hn
    exact ⟨pk_in 0 3069 (by omega), br_t (by rw [e0]; exact nI_le (Nat.le_refl _) (by omega)) (h Y' s1 s3)⟩
  · obtain ⟨s1, s3⟩ := hs
    have e0 : Y' 0 (0 : Int32).toNatClampNeg = nI n := by
      show Y' 0 0 = _
      rw [s1]; exact ((fcZ_lo i (by omega)).1 0 (by omega)).trans hn
    have sw := fcZ.eq_2 (Y 0) i
    rw [← s1] at sw
    refine ⟨pk_in 0 3069 (by omega), br_f (by rw [e0]; exact nI_ge hi (by omega)) (m_stands i (by omega) (st_br (fun z => ?_) (fun z => ?_)))⟩
    · rw [if_neg z] at sw
      exact nm_r (nI_1 i) (kk Y' ⟨sw.symm, s3⟩)
    · rw [if_pos z] at sw
      refine m_of i 4 (by omega) (br_c (fun y => ?_) (fun y => ?_))
      · rw [if_pos y] at sw
        exact nm_r (nI_1 i) (kk Y' ⟨sw.symm, s3⟩)
      · rw [if_neg y] at sw
        exact m_falls (by omega) (fun Y2 g1 g2 => nm_r (nI_1 i) (kk Y2 ⟨g1.trans sw.symm, s3.tr g2⟩))
theorem m_cracks {K : gY → Prop} {Y : gY} {n : Nat} {stood x2 : Int32} {th br : Nat → Int32} (hn : Y 0 0 = nI n) (h9 : n ≤ 9) (ht : ∀ k, k < n → Y 12 k = th k) (hb : ∀ k, k < n → Y 13 k = br k) (h : ∀ Y', Y' 0 = crZ th br (Y 0) n → fr [0] Y Y' → ∃ fu, wX5_goesOn_155 K fu Y' stood x2 0) : ∃ fu, wX5_goesOn_49 K fu Y stood x2 0 := by
  refine pk_loop (fun f i (s : gY) => wX5_goesOn_49 K f s stood x2 (nI i)) (fun i s => s 0 = crZ th br (Y 0) i ∧ fr [0] Y s) n 0 Y (Nat.zero_le _) ⟨rfl, fr.rf⟩ (fun f Y' hs => ?_) (fun f i Y' hi hs kk => ?_)
  · obtain ⟨s1, s3⟩ := hs
    have e0 : Y' 0 (0 : Int32).toNatClampNeg = nI n := by
      show Y' 0 0 = _
      rw [s1]; exact ((crZ_lo n h9).1 0 (by omega)).trans hn
    exact ⟨pk_in 0 3069 (by omega), br_t (by rw [e0]; exact nI_le (Nat.le_refl _) (by omega)) (h Y' s1 s3)⟩
  · obtain ⟨s1, s3⟩ := hs
    have e0 : Y' 0 (0 : Int32).toNatClampNeg = nI n := by
      show Y' 0 0 = _
      rw [s1]; exact ((crZ_lo i (by omega)).1 0 (by omega)).trans hn
    have t1 : Y' 12 (nI i).toNatClampNeg = th i := by rw [nI_clamp (by omega), s3 12 rfl]; exact ht i hi
    have t2 : Y' 13 (nI i).toNatClampNeg = br i := by rw [nI_clamp (by omega), s3 13 rfl]; exact hb i hi
    have sw := crZ.eq_2 th br (Y 0) i
    rw [← s1] at sw
    refine ⟨pk_in 0 3069 (by omega), br_f (by rw [e0]; exact nI_ge hi (by omega)) ⟨vp_in_nI (by omega) (by omega), ?_⟩⟩
    rw [t1]
    refine m_off0 ⟨vp_in_nI (by omega) (by omega), ?_⟩
    rw [t2]
    refine nm_r rfl (m_stands i (by omega) (st_br (fun z => ?_) (fun z => ?_)))
    · rw [if_neg z] at sw
      exact nm_r (nI_1 i) (kk Y' ⟨sw.symm, s3⟩)
    · rw [if_pos z] at sw
      refine br_c (fun y => ?_) (fun y => ?_)
      · rw [if_pos y] at sw
        exact nm_r (nI_1 i) (kk Y' ⟨sw.symm, s3⟩)
      · rw [if_neg y] at sw
        refine m_of i 4 (by omega) (m_held (m_sets i 4 (by omega) (m_of i 2 (by omega) ⟨vp_in_nI (by omega) (by omega), ?_⟩)))
        rw [yupd_self, show upd (Y' 0) (6 + 7 * i + 4) (heldZ (hz (Y' 0) i 4 + (absZ (th i) - br i)) 0 999) = hset (Y' 0) i 4 (heldZ (hz (Y' 0) i 4 + (absZ (th i) - br i)) 0 999) from rfl, hz_ne _ _ (Or.inr (by omega)) (by omega) (by omega), yupd_ne _ (by decide), t1]
        have fin : ∀ u, (if th i ≤ 0 then (-1 : Int32) else 1) = u → wX5_goesOn_136 K (wX5_goesOn_49 K f) (yupd Y' 0 (6 + 7 * i + 4) (heldZ (hz (Y' 0) i 4 + (absZ (th i) - br i)) 0 999)) stood x2 (nI i) (nI i) 2 (hz (Y' 0) i 2) u := by
          intro u hu
          rw [hu] at sw
          refine m_held (m_sets i 2 (by omega) (nm_r (nI_1 i) (kk _ ⟨?_, (s3.up rfl).up rfl⟩)))
          rw [yupd_self, yupd_self, sw]
          rfl
        exact br_c (fun w => fin (-1) (if_pos w)) (fun w => fin 1 (if_neg w))
theorem m_thrusts {K : gY → Prop} {Y : gY} {n nt : Nat} {stood x2 : Int32} (hok : okS (Y 0) n nt) (h : ∀ Y', Y' 0 = Y 0 → (∀ k, k < n → Y' 12 k = thrZ (Y 0) n nt k) → (∀ k, k < n → Y' 13 k = bearZ (Y 0) k) → fr [12, 13, 27, 28] Y Y' → ∃ fu, wX5_goesOn_49 K fu Y' stood x2 0) : ∃ fu, wX5_goesOn_9 K fu Y stood x2 0 := by
  have h9 := hok.2.1
  refine pk_loop (fun f i (s : gY) => wX5_goesOn_9 K f s stood x2 (nI i)) (fun i s => fr [12, 13, 27, 28] Y s ∧ (∀ k, k < i → s 12 k = thrZ (Y 0) n nt k) ∧ ∀ k, k < i → s 13 k = bearZ (Y 0) k) n 0 Y (Nat.zero_le _) ⟨fr.rf, fun k hk => absurd hk (Nat.not_lt_zero _), fun k hk => absurd hk (Nat.not_lt_zero _)⟩ (fun f Y' hs => ?_) (fun f i Y' hi hs kk => ?_)
  · obtain ⟨s3, s4, s5⟩ := hs
    have e0 : Y' 0 (0 : Int32).toNatClampNeg = nI n := by
      show Y' 0 0 = _
      rw [s3 0 rfl]; exact hok.1
    exact ⟨pk_in 0 3069 (by omega), br_t (by rw [e0]; exact nI_le (Nat.le_refl _) (by omega)) (h Y' (s3 0 rfl) s4 s5 s3)⟩
  · obtain ⟨s3, s4, s5⟩ := hs
    have z0 : Y' 0 = Y 0 := s3 0 rfl
    have e0 : Y' 0 (0 : Int32).toNatClampNeg = nI n := by
      show Y' 0 0 = _
      rw [z0]; exact hok.1
    refine ⟨pk_in 0 3069 (by omega), br_f (by rw [e0]; exact nI_ge hi (by omega)) (m_thrust (by rw [z0]; exact hok) hi (fun Y1 g1 => ⟨vp_in_nI (by omega) (by omega), nm_r rfl ?_⟩))⟩
    have z1 : Y1 0 = Y 0 := (g1 0 rfl).trans z0
    rw [nI_clamp (by omega)]
    refine m_bears (by omega) ⟨vp_in_nI (by omega) (by omega), nm_r rfl (nm_r (nI_1 i) (kk _ ⟨?_, fun k hk => ?_, fun k hk => ?_⟩))⟩
    · exact ((s3.tr (g1.mono rfl)).up rfl).up rfl
    · rw [yupd_ne _ (by decide), yupd_self, z0]
      by_cases e : k = i
      · subst e; exact pk_us
      · rw [pk_un e, g1 12 rfl]; exact s4 k (by omega)
    · rw [yupd_self, yupd_ne _ (by decide), yupd_ne _ (by decide), z1]
      by_cases e : k = i
      · subst e; exact pk_us
      · rw [pk_un e, g1 13 rfl]; exact s5 k (by omega)
/-- a day, in the model -/
theorem m_goesOn {K : gY → Prop} {Y : gY} {n nt : Nat} (hok : okS (Y 0) n nt) (h : ∀ Y', Y' 0 = dayZ (Y 0) n nt → fr [0, 12, 13, 27, 28] Y Y' → K Y') : wpX5_goesOn K Y := by
  have h9 := hok.2.1
  refine m_allSt hok.1 h9 (m_thrusts hok (fun Y1 a1 a2 a3 a4 => m_cracks (th := fun k => thrZ (Y 0) n nt k) (br := fun k => bearZ (Y 0) k) (by rw [a1]; exact hok.1) h9 a2 a3 (fun Y2 b1 b2 => m_cracked ?_ h9 (fun Y3 c1 c2 => ⟨9 + 2, m_sweeps h9 9 Y3 ?_ ?_ (fun Y4 d1 d2 => m_props ?_ h9 (fun Y5 e1 e2 => h Y5 ?_ ?_))⟩))))
  · rw [b1, a1]; exact ((crZ_lo n h9).1 0 (by omega)).trans hok.1
  · rw [c1, b1, a1]; exact (((crZ_lo n h9).tr (fcZ_lo n h9)).1 0 (by omega)).trans hok.1
  · exact Nat.le_trans (cntS_le _ _) h9
  · rw [d1, c1, b1, a1]; exact ((((crZ_lo n h9).tr (fcZ_lo n h9)).tr (lpZ_lo h9 10 _)).1 0 (by omega)).trans hok.1
  · rw [e1, d1, c1, b1, a1]; rfl
  · exact (a4.mono rfl).tr ((b2.mono rfl).tr ((c2.mono rfl).tr ((d2.mono rfl).tr (e2.mono rfl))))

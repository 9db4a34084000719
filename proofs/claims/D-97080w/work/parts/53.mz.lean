set_option maxRecDepth 100000
/-! ===== what holds of a street ===== -/
def nmOk (key v : Int32) : Prop := (key = 0 ∧ (v = 119 ∨ v = 108 ∨ v = 99)) ∨ (key = 1 ∧ (v = 114 ∨ v = 100)) ∨ (key = 2 ∧ (v = 99 ∨ v = 112))
theorem nmOk_in {key v : Int32} (h : nmOk key v) : ∃ j, j < 128 ∧ v = nI j := by
  rcases h with ⟨-, rfl | rfl | rfl⟩ | ⟨-, rfl | rfl⟩ | ⟨-, rfl | rfl⟩
  · exact ⟨119, by omega, rfl⟩
  · exact ⟨108, by omega, rfl⟩
  · exact ⟨99, by omega, rfl⟩
  · exact ⟨114, by omega, rfl⟩
  · exact ⟨100, by omega, rfl⟩
  · exact ⟨99, by omega, rfl⟩
  · exact ⟨112, by omega, rfl⟩
def okT (Z : pZ) (t : Nat) : Prop := ∃ m, m ≤ 92 ∧ Z (69 + 200 * t + 2) = nI m ∧ (Z (69 + 200 * t) = 0 ∨ Z (69 + 200 * t) = 1 ∨ Z (69 + 200 * t) = 2) ∧ okW (nmOk (Z (69 + 200 * t))) (wdL Z t m 0) 0
def okH (Z : pZ) (k : Nat) : Prop := (0 ≤ (hz Z k 0).toInt ∧ (hz Z k 0).toInt ≤ 5) ∧ (1 ≤ (hz Z k 1).toInt ∧ (hz Z k 1).toInt ≤ 99) ∧ (-50 ≤ (hz Z k 2).toInt ∧ (hz Z k 2).toInt ≤ 50) ∧ (0 ≤ (hz Z k 3).toInt ∧ (hz Z k 3).toInt ≤ 99) ∧ (0 ≤ (hz Z k 4).toInt ∧ (hz Z k 4).toInt ≤ 999) ∧ (0 ≤ (hz Z k 5).toInt ∧ (hz Z k 5).toInt ≤ 9) ∧ (hz Z k 6 = 0 ∨ hz Z k 6 = 1)
def okS (Z : pZ) (n nt : Nat) : Prop := Z 0 = nI n ∧ n ≤ 9 ∧ Z 1 = nI nt ∧ nt ≤ 14 ∧ (∀ k, k < n → okH Z k) ∧ ∀ t, t < nt → okT Z t
/-! ===== pushes, bears, worth, thrusts ===== -/
def nmP (w l c v : Int32) : Int32 := if v = 119 then w else if v = 108 then l else if v = 99 then c else 0
def valZ (Z : pZ) (t : Nat) (nm : Int32 → Int32) : Int32 := botZ (runZ nm (wdL Z t (Z (69 + 200 * t + 2)).toNatClampNeg 0) [])
def pkZ (kind v : Int32) : Int32 := if kind = 1 then v / 2 else if kind = 2 then v + 4 else if kind = 3 then (if v / 2 ≤ 5 then 0 else v / 2 - 5) else if kind = 4 then 2 * (v + 4) else if kind = 5 then 0 else v
def plainZ (Z : pZ) (nt k : Nat) : Int32 := if cntZ Z 0 nt < 0 then (hz Z k 1 * absZ (hz Z k 2)) / 10 else heldZ (valZ Z (cntZ Z 0 nt).toNatClampNeg (nmP (hz Z k 1) (absZ (hz Z k 2)) (hz Z k 4))) 0 999
def pushZ (Z : pZ) (nt k : Nat) : Int32 := pkZ (hz Z k 0) (plainZ Z nt k)
theorem m_push83 {K : Int32 → gY → Prop} {Y : gY} {k : Nat} {v : Int32} (hk : k < 9) (h : K (pkZ (hz (Y 0) k 0) v) Y) : wX5_pushes_83 K Y (nI k) v := by
  refine m_of k 0 hk ?_
  unfold pkZ at h
  refine ⟨fun e => ?_, fun e => ?_, fun e => ?_, fun e => ?_, fun e => ?_, fun e => ?_⟩
  · rw [if_pos e] at h; exact h
  · rw [if_neg (by rw [e]; decide), if_pos e] at h; exact h
  · rw [if_neg (by rw [e]; decide), if_neg (by rw [e]; decide), if_pos e] at h
    refine br_c (fun z => ?_) (fun z => ?_)
    · rw [if_pos z] at h; exact h
    · rw [if_neg z] at h; exact h
  · rw [if_neg (by rw [e]; decide), if_neg (by rw [e]; decide), if_neg (by rw [e]; decide), if_pos e] at h; exact h
  · rw [if_neg (by rw [e]; decide), if_neg (by rw [e]; decide), if_neg (by rw [e]; decide), if_neg (by rw [e]; decide), if_pos e] at h; exact h
  · obtain ⟨e1, e2, e3, e4, e5⟩ := e
    rw [if_neg e1, if_neg e2, if_neg e3, if_neg e4, if_neg e5] at h; exact h
theorem m_pushes {K : Int32 → gY → Prop} {Y : gY} {n nt k : Nat} (hok : okS (Y 0) n nt) (hk : k < n) (h : ∀ Y', fr [27, 28] Y Y' → K (pushZ (Y 0) nt k) Y') : wpX5_pushes K Y (nI k) := by
  obtain ⟨o1, o2, o3, o4, o5, o6⟩ := hok
  have hk9 : k < 9 := by omega
  refine m_of k 2 hk9 (m_off0 (m_of k 1 hk9 (nm_r rfl (m_counts o3 o4 ?_))))
  unfold pushZ plainZ at h
  refine br_c (fun z => ?_) (fun z => ?_)
  · rw [if_pos z] at h
    exact m_push83 hk9 (h Y fr.rf)
  · rw [if_neg z] at h
    rcases cntZ_in (Y 0) 0 nt with e | ⟨t, ht, e, hkey⟩
    · rw [e] at z; exact absurd (by decide) z
    · rw [e] at h ⊢
      rw [nI_clamp (by omega)] at h
      obtain ⟨m, t1, t2, t3, t4⟩ := o6 t ht
      rw [hkey] at t4
      refine m_of k 1 hk9 ⟨pk_in 119 128 (by omega), nm_r rfl ⟨pk_in 108 128 (by omega), nm_r rfl ?_⟩⟩
      have y0 : ∀ (Y1 : gY) (i : Nat) (v : Int32), yupd Y1 27 i v 0 = Y1 0 := fun Y1 i v => yupd_ne Y1 (by decide)
      refine m_of k 4 hk9 ⟨pk_in 99 128 (by omega), nm_r rfl ?_⟩
      rw [y0, y0]
      refine m_worked (t := t) (m := m) (by omega) (by rw [y0, y0, y0]; exact t2) (by omega) (by rw [y0, y0, y0]; exact okW_imp (fun v => nmOk_in) _ _ t4) (fun Y' hf => m_held ?_)
      have f0 : Y' 0 = Y 0 := (hf 0 rfl).trans (by rw [y0, y0, y0])
      have hfr : fr [27, 28] Y Y' := (((fr.rf.up rfl).up rfl).up rfl).tr (hf.mono rfl)
      refine m_push83 hk9 ?_
      rw [f0]
      have := h Y' hfr
      unfold valZ at this
      rw [t2, nI_clamp (by omega)] at this
      rw [y0, y0, y0]
      refine (congrArg (fun u => K (pkZ (hz (Y 0) k 0) (heldZ (botZ u) 0 999)) Y') (runZ_cong (ok := nmOk 0) (fun v hv => ?_) _ _ _ t4)).mpr this
      rw [yupd_self]
      rcases hv with ⟨-, rfl | rfl | rfl⟩ | ⟨hv, -⟩ | ⟨hv, -⟩
      · show upd (upd (upd (Y 27) 119 _) 108 _) 99 _ 119 = _
        rfl
      · rfl
      · rfl
      · exact absurd hv (by decide)
      · exact absurd hv (by decide)
def bearZ (Z : pZ) (k : Nat) : Int32 :=
  if hz Z k 0 = 1 then hz Z k 3 + 10 * hz Z k 5 + 5 else if hz Z k 0 = 2 then 2 * (hz Z k 3 + 10 * hz Z k 5) else if hz Z k 0 = 3 then hz Z k 3 + 10 * hz Z k 5 + 5 else if hz Z k 0 = 4 then 2 * (hz Z k 3 + 10 * hz Z k 5) else if hz Z k 0 = 5 then 999 else hz Z k 3 + 10 * hz Z k 5
theorem m_bears {K : Int32 → gY → Prop} {Y : gY} {k : Nat} (hk : k < 9) (h : K (bearZ (Y 0) k) Y) : wpX5_bears K Y (nI k) := by
  refine m_of k 3 hk (m_of k 5 hk (nm_r rfl (m_of k 0 hk ?_)))
  unfold bearZ at h
  refine ⟨fun e => ?_, fun e => ?_, fun e => ?_, fun e => ?_, fun e => ?_, fun e => ?_⟩
  · rw [if_pos e] at h; exact h
  · rw [if_neg (by rw [e]; decide), if_pos e] at h; exact h
  · rw [if_neg (by rw [e]; decide), if_neg (by rw [e]; decide), if_pos e] at h; exact h
  · rw [if_neg (by rw [e]; decide), if_neg (by rw [e]; decide), if_neg (by rw [e]; decide), if_pos e] at h; exact h
  · rw [if_neg (by rw [e]; decide), if_neg (by rw [e]; decide), if_neg (by rw [e]; decide), if_neg (by rw [e]; decide), if_pos e] at h; exact h
  · obtain ⟨e1, e2, e3, e4, e5⟩ := e
    rw [if_neg e1, if_neg e2, if_neg e3, if_neg e4, if_neg e5] at h; exact h
def worthZ (Z : pZ) (k : Nat) : Int32 :=
  if hz Z k 0 = 1 then hz Z k 3 + 7 else if hz Z k 0 = 2 then 99 - hz Z k 3 else if hz Z k 0 = 3 then 2 * (hz Z k 3 + 7) else if hz Z k 0 = 4 then 94 - hz Z k 3 else if hz Z k 0 = 5 then 6 else hz Z k 3
theorem m_worth {K : Int32 → gY → Prop} {Y : gY} {k : Nat} (hk : k < 9) (h : K (worthZ (Y 0) k) Y) : wpX5_worth K Y (nI k) := by
  refine m_of k 3 hk (m_of k 0 hk ?_)
  unfold worthZ at h
  refine ⟨fun e => ?_, fun e => ?_, fun e => ?_, fun e => ?_, fun e => ?_, fun e => ?_⟩
  · rw [if_pos e] at h; exact h
  · rw [if_neg (by rw [e]; decide), if_pos e] at h; exact h
  · rw [if_neg (by rw [e]; decide), if_neg (by rw [e]; decide), if_pos e] at h; exact h
  · rw [if_neg (by rw [e]; decide), if_neg (by rw [e]; decide), if_neg (by rw [e]; decide), if_pos e] at h; exact h
  · rw [if_neg (by rw [e]; decide), if_neg (by rw [e]; decide), if_neg (by rw [e]; decide), if_neg (by rw [e]; decide), if_pos e] at h; exact h
  · obtain ⟨e1, e2, e3, e4, e5⟩ := e
    rw [if_neg e1, if_neg e2, if_neg e3, if_neg e4, if_neg e5] at h; exact h
def thA (Z : pZ) (nt : Nat) (a : Int32) : Int32 := if a < 0 then 0 else if hz Z a.toNatClampNeg 2 ≤ 0 then 0 else pushZ Z nt a.toNatClampNeg
def thB (Z : pZ) (nt : Nat) (b : Int32) : Int32 := if b < 0 then 0 else if 0 ≤ hz Z b.toNatClampNeg 2 then 0 else pushZ Z nt b.toNatClampNeg
def thrZ (Z : pZ) (n nt k : Nat) : Int32 := if hz Z k 6 = 0 then (Z 4 + thA Z nt (nextZ n k (-1) (stZ Z n))) - thB Z nt (nextZ n k 1 (stZ Z n)) else 0
theorem m_thr64 {K : Int32 → gY → Prop} {Y : gY} {n nt : Nat} {b u v : Int32} (hok : okS (Y 0) n nt) (hb : b = -1 ∨ ∃ j, j < n ∧ b = nI j) (h : ∀ Y', fr [27, 28] Y Y' → K ((u + v) - thB (Y 0) nt b) Y') : wX5_thrust_64 K Y b u v := by
  refine nm_r rfl ?_
  unfold thB at h
  rcases hb with rfl | ⟨j, hj, rfl⟩
  · rw [if_pos (by decide)] at h
    exact br_t (by decide) (nm_r rfl (h Y fr.rf))
  · have o2 := hok.2.1
    rw [if_neg (nI_pos (by omega)), nI_clamp (by omega)] at h
    refine br_f (nI_pos (by omega)) (m_of j 2 (by omega) (br_c (fun z => ?_) (fun z => ?_)))
    · rw [if_pos z] at h
      exact nm_r rfl (h Y fr.rf)
    · rw [if_neg z] at h
      exact m_pushes hok hj (fun Y' hf => nm_r rfl (h Y' hf))
theorem m_thrust {K : Int32 → gY → Prop} {Y : gY} {n nt k : Nat} (hok : okS (Y 0) n nt) (hk : k < n) (h : ∀ Y', fr [27, 28] Y Y' → K (thrZ (Y 0) n nt k) Y') : wpX5_thrust K Y (nI k) := by
  obtain ⟨o1, o2, o3, o4, o5, o6⟩ := id hok
  refine m_stands k (by omega) ?_
  unfold thrZ at h
  refine st_rb (fun z => ?_) (fun z => ?_)
  · rw [if_neg z] at h; exact h Y fr.rf
  · rw [if_pos z] at h
    refine m_allSt o1 o2 (m_nextm o1 o2 hk (m_next1 o1 o2 hk ⟨pk_in 4 3069 (by omega), nm_r rfl ?_⟩))
    have hA : nextZ n k (-1) (stZ (Y 0) n) = -1 ∨ ∃ j, j < n ∧ nextZ n k (-1) (stZ (Y 0) n) = nI j := nextZ_in _ _ _ _ _
    have hB : nextZ n k 1 (stZ (Y 0) n) = -1 ∨ ∃ j, j < n ∧ nextZ n k 1 (stZ (Y 0) n) = nI j := nextZ_in _ _ _ _ _
    generalize nextZ n k (-1) (stZ (Y 0) n) = a at *
    generalize nextZ n k 1 (stZ (Y 0) n) = b at *
    unfold thA at h
    rcases hA with rfl | ⟨j, hj, rfl⟩
    · rw [if_pos (by decide)] at h
      exact br_t (by decide) (m_thr64 hok hB h)
    · rw [if_neg (nI_pos (by omega)), nI_clamp (by omega)] at h
      refine br_f (nI_pos (by omega)) (m_of j 2 (by omega) (br_c (fun z => ?_) (fun z => ?_)))
      · rw [if_pos z] at h
        exact m_thr64 hok hB h
      · rw [if_neg z] at h
        refine m_pushes hok hj (fun Y' hf => ?_)
        have f0 : Y' 0 = Y 0 := hf 0 rfl
        exact m_thr64 (by rw [f0]; exact hok) hB (by rw [f0]; exact fun Y2 h2 => h Y2 (hf.tr h2))

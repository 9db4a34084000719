set_option maxRecDepth 100000
def okN (Z : pZ) : Prop := -20 ≤ (Z 4).toInt ∧ (Z 4).toInt ≤ 20
theorem hup_hup (h : gH) (b : Nat) (e1 e2 : gE) : hup (hup h b e1) b e2 = hup h b e2 := by
  funext x
  by_cases q : x = b
  · subst q; rw [hup_self, hup_self]
  · rw [hup_ne _ _ q, hup_ne _ _ q, hup_ne _ _ q]
def overZ (Z : pZ) (n nt k : Nat) : Int32 := if hz Z k 6 = 0 then (if 0 < absZ (thrZ Z n nt k) - bearZ Z k then absZ (thrZ Z n nt k) - bearZ Z k else 0) else 0
theorem thA_in {Z : pZ} {n nt : Nat} {x : Int32} (o : okS Z n nt) (hx : x = -1 ∨ ∃ j, j < n ∧ x = nI j) : ∃ j : Nat, j ≤ 2006 ∧ thA Z nt x = nI j := by
  have h9 := o.2.1
  unfold thA
  rcases hx with rfl | ⟨j, hj, rfl⟩
  · exact ⟨0, by omega, rfl⟩
  · rw [if_neg (nI_pos (by omega)), nI_clamp (by omega)]
    split
    · exact ⟨0, by omega, rfl⟩
    · exact pushZ_in (o.2.2.2.2.1 j hj)
theorem thB_in {Z : pZ} {n nt : Nat} {x : Int32} (o : okS Z n nt) (hx : x = -1 ∨ ∃ j, j < n ∧ x = nI j) : ∃ j : Nat, j ≤ 2006 ∧ thB Z nt x = nI j := by
  have h9 := o.2.1
  unfold thB
  rcases hx with rfl | ⟨j, hj, rfl⟩
  · exact ⟨0, by omega, rfl⟩
  · rw [if_neg (nI_pos (by omega)), nI_clamp (by omega)]
    split
    · exact ⟨0, by omega, rfl⟩
    · exact pushZ_in (o.2.2.2.2.1 j hj)
theorem thrZ_ti {Z : pZ} {n nt k : Nat} (o : okS Z n nt) (hs : okN Z) : -2026 ≤ (thrZ Z n nt k).toInt ∧ (thrZ Z n nt k).toInt ≤ 2026 := by
  unfold thrZ
  split
  · obtain ⟨i, hi, e1⟩ := thA_in (x := nextZ n k (-1) (stZ Z n)) o (nextZ_in _ _ _ _ _)
    obtain ⟨j, hj, e2⟩ := thB_in (x := nextZ n k 1 (stZ Z n)) o (nextZ_in _ _ _ _ _)
    rw [e1, e2]
    have t1 : (nI i).toInt = (i : Int) := nI_toInt (by omega)
    have t2 : (nI j).toInt = (j : Int) := nI_toInt (by omega)
    obtain ⟨s1, s2⟩ := hs
    have t3 : (Z 4 + nI i).toInt = (Z 4).toInt + i := by rw [ti_add (by omega) (by omega), t1]
    rw [ti_sub (by omega) (by omega), t3, t2]
    omega
  · exact ⟨by decide, by decide⟩
theorem bearZ_in {Z : pZ} {k : Nat} (o : okH Z k) : ∃ j : Nat, j ≤ 999 ∧ bearZ Z k = nI j := by
  obtain ⟨-, -, -, o3, -, o5, -⟩ := o
  obtain ⟨x, hx, e1⟩ := ti_nI (x := hz Z k 3) (m := 99) (by omega) (by omega)
  obtain ⟨y, hy, e2⟩ := ti_nI (x := hz Z k 5) (m := 9) (by omega) (by omega)
  have e : hz Z k 3 + 10 * hz Z k 5 = nI (x + 10 * y) := by rw [e1, e2, show (10 : Int32) = nI 10 from rfl, pk_mul, nI_add]
  unfold bearZ
  rw [e]
  have e5 : nI (x + 10 * y) + 5 = nI (x + 10 * y + 5) := nI_add _ 5
  have e6 : 2 * nI (x + 10 * y) = nI (2 * (x + 10 * y)) := pk_mul 2 _
  split
  · exact ⟨_, by omega, e5⟩
  split
  · exact ⟨_, by omega, e6⟩
  split
  · exact ⟨_, by omega, e5⟩
  split
  · exact ⟨_, by omega, e6⟩
  split
  · exact ⟨999, by omega, rfl⟩
  · exact ⟨_, by omega, rfl⟩
theorem over_ti {Z : pZ} {n nt k : Nat} (o : okS Z n nt) (hs : okN Z) (hk : k < n) : -999 ≤ (absZ (thrZ Z n nt k) - bearZ Z k).toInt ∧ (absZ (thrZ Z n nt k) - bearZ Z k).toInt ≤ 2026 := by
  obtain ⟨t1, t2⟩ := thrZ_ti (k := k) o hs
  obtain ⟨j, hj, e⟩ := bearZ_in (o.2.2.2.2.1 k hk)
  have ha := absZ_ti (x := thrZ Z n nt k) (by omega)
  have hb : 0 ≤ (absZ (thrZ Z n nt k)).toInt ∧ (absZ (thrZ Z n nt k)).toInt ≤ 2026 := by rw [ha]; split <;> omega
  have tj : (nI j).toInt = (j : Int) := nI_toInt (by omega)
  rw [e, ti_sub (by omega) (by omega), tj]
  omega
theorem min_held {v : Int32} (h : 0 ≤ v.toInt) : (if v < (999 : Int32) then v else (999 : Int32)) = heldZ v 0 999 := by
  unfold heldZ
  rw [if_pos (show (0 : Int32) ≤ v from (fa_le 0 v).mpr h)]
  by_cases h1 : v < 999
  · rw [if_pos h1, if_pos (fa_of_lt h1).1]
  · rw [if_neg h1]
    by_cases h2 : v ≤ 999
    · rw [if_pos h2]
      rw [fa_lt] at h1; rw [fa_le] at h2
      exact (fa_eq _ _).mpr (by omega)
    · rw [if_neg h2]
theorem crZ_6 {th br : Nat → Int32} {Z0 : pZ} {k : Nat} : ∀ i, hz (crZ th br Z0 i) k 6 = hz Z0 k 6
  | 0 => rfl
  | i + 1 => by
    have ih := crZ_6 (th := th) (br := br) (Z0 := Z0) (k := k) i
    rw [crZ]
    split
    · split
      · exact ih
      · rw [hz_ne _ _ (Or.inr (by omega)) (by omega) (by omega), hz_ne _ _ (Or.inr (by omega)) (by omega) (by omega)]; exact ih
    · exact ih
theorem stZ_cong {Z Z' : pZ} (h : ∀ k, hz Z' k 6 = hz Z k 6) : ∀ n, stZ Z' n = stZ Z n
  | 0 => rfl
  | n + 1 => by rw [stZ, stZ, stZ_cong h n, h]
theorem HF_cr (Z : pZ) (k : Nat) (c l : Int32) : ((HF Z k).set 3 (.int c)).set 1 (.int l) = HF (hset (hset Z k 4 c) k 2 l) k := by
  unfold HF
  rw [hz_self, hz_ne (j' := 1) _ _ (Or.inr (by omega)) (by omega) (by omega), hz_ne (j' := 3) _ _ (Or.inr (by omega)) (by omega) (by omega), hz_ne (j' := 4) _ _ (Or.inr (by omega)) (by omega) (by omega), hz_ne (j' := 5) _ _ (Or.inr (by omega)) (by omega) (by omega), hz_ne (j' := 6) _ _ (Or.inr (by omega)) (by omega) (by omega),
    hz_self, hz_ne (j' := 1) _ _ (Or.inr (by omega)) (by omega) (by omega), hz_ne (j' := 3) _ _ (Or.inr (by omega)) (by omega) (by omega), hz_ne (j' := 5) _ _ (Or.inr (by omega)) (by omega) (by omega), hz_ne (j' := 6) _ _ (Or.inr (by omega)) (by omega) (by omega)]
  rfl
theorem HF_fl (Z : pZ) (k : Nat) : ((HF Z k).set 5 (.int 0)).set 4 (.int 0) = HF (flZ Z k) k := by
  unfold HF flZ
  rw [hz_self, hz_ne (j' := 1) _ _ (Or.inr (by omega)) (by omega) (by omega), hz_ne (j' := 2) _ _ (Or.inr (by omega)) (by omega) (by omega), hz_ne (j' := 3) _ _ (Or.inr (by omega)) (by omega) (by omega), hz_ne (j' := 4) _ _ (Or.inr (by omega)) (by omega) (by omega), hz_ne (j' := 6) _ _ (Or.inr (by omega)) (by omega) (by omega),
    hz_self, hz_ne (j' := 1) _ _ (Or.inr (by omega)) (by omega) (by omega), hz_ne (j' := 2) _ _ (Or.inr (by omega)) (by omega) (by omega), hz_ne (j' := 3) _ _ (Or.inr (by omega)) (by omega) (by omega), hz_ne (j' := 4) _ _ (Or.inr (by omega)) (by omega) (by omega)]
  rfl
theorem kind_set (Z : pZ) (k j : Nat) (v : Int32) (hj : j < 7) (h0 : j ≠ 0) : kindN (hset Z k j v) k = kindN Z k := by
  unfold kindN
  rw [hz_ne _ _ (Or.inr (Ne.symm h0)) hj (by omega)]
section CZ
variable {ad : Nat → Nat} {Y : gY} {h : gH} {a ar at_ n nt : Nat} {G T : Nat → Option Nat} {Z : pZ}
theorem c_findThrusts {K : gY → gH → Prop} (R : RS h (ad 0) ar at_ G T Z n nt) (o : okS Z n nt) (hK : ∀ Y', fr [5, 16, 17, 18] Y Y' → (∀ k, k < n → Y' 17 k = thrZ Z n nt k) → (∀ k, k < n → Y' 18 k = overZ Z n nt k) → K Y' h) : wpX0_findThrusts ad K Y h := by
  have h9 := o.2.1
  refine pk_loop (fun f i (s : gY) => wX0_findThrusts_2 ad K f s h (nI i)) (fun i s => fr [5, 16, 17, 18] Y s ∧ (∀ k, k < i → s 17 k = thrZ Z n nt k) ∧ ∀ k, k < i → s 18 k = overZ Z n nt k) n 0 Y (Nat.zero_le _) ⟨fr.rf, fun k hk => absurd hk (Nat.not_lt_zero _), fun k hk => absurd hk (Nat.not_lt_zero _)⟩ (fun f Y' hs => ?_) (fun f i Y' hi hs kk => ?_)
  · obtain ⟨s3, s4, s5⟩ := hs
    exact ⟨_, _, R.1, rfl, br_t (by rw [o.1]; exact nI_le (Nat.le_refl _) (by omega)) (hK Y' s3 s4 s5)⟩
  · obtain ⟨s3, s4, s5⟩ := hs
    obtain ⟨b, g1, g2⟩ := R.2.2.2.1 i hi
    have ho := o.2.2.2.2.1 i hi
    have gr : G (nI i).toNatClampNeg = some b := by rw [nI_clamp (by omega)]; exact g1
    refine ⟨_, _, R.1, rfl, br_f (by rw [o.1]; exact nI_ge hi (by omega)) (c_thrustOn R o hi (fun Y1 q1 => ⟨vp_in_nI (by omega) (by omega), nm_r rfl ⟨_, _, R.1, rfl, 9, G, b, R.2.1, vp_in_nI (by omega) (by omega), gr, _, _, _, kindN_lt ho, g2, rfl, ?_⟩⟩))⟩
    have fin : ∀ v, v = overZ Z n nt i → wX0_findThrusts_74 ad K (wX0_findThrusts_2 ad K f) (yupd Y1 17 (nI i).toNatClampNeg (thrZ Z n nt i)) h (nI i) (nI i) v := by
      intro v hv
      subst hv
      refine ⟨vp_in_nI (by omega) (by omega), nm_r rfl (nm_r (nI_1 i) (kk _ ⟨?_, fun k hk => ?_, fun k hk => ?_⟩))⟩
      · exact ((s3.tr (q1.mono rfl)).up rfl).up rfl
      · rw [nI_clamp (by omega), yupd_ne _ (by decide), yupd_self]
        by_cases e : k = i
        · subst e; exact pk_us
        · rw [pk_un e, q1 17 rfl]; exact s4 k (by omega)
      · rw [nI_clamp (by omega), yupd_self, yupd_ne _ (by decide)]
        by_cases e : k = i
        · subst e; exact pk_us
        · rw [pk_un e, q1 18 rfl]; exact s5 k (by omega)
    refine st_c ho.2.2.2.2.2.2 (fun z => fin 0 (if_neg z).symm) (fun z => ⟨vp_in_nI (by omega) (by omega), _, _, R.1, rfl, 9, G, b, R.2.1, vp_in_nI (by omega) (by omega), gr, c_bears g2 (kindN_lt ho) rfl rfl ?_⟩)
    refine fin _ ?_
    rw [yupd_self, nI_clamp (by omega), pk_us, ← kindN_eq ho]
    exact (if_pos z).symm
theorem c_cracksL {K : gY → gH → Prop} {Z0 : pZ} (hi : injG G) (o : okS Z0 n nt) (hs : okN Z0) (R : RS h (ad 0) ar at_ G T Z0 n nt) (h17 : ∀ k, k < n → Y 17 k = thrZ Z0 n nt k) (h18 : ∀ k, k < n → Y 18 k = overZ Z0 n nt k) (hK : ∀ h', RS h' (ad 0) ar at_ G T (crZ (fun k => thrZ Z0 n nt k) (fun k => bearZ Z0 k) Z0 n) n nt → frH h h' (ad 0) G → K Y h') : wpX0_cracks ad K Y h := by
  have h9 := o.2.1
  refine pk_loop (fun f i (s : gH) => wX0_cracks_2 ad K f Y s (nI i)) (fun i s => RS s (ad 0) ar at_ G T (crZ (fun k => thrZ Z0 n nt k) (fun k => bearZ Z0 k) Z0 i) n nt ∧ frH h s (ad 0) G) n 0 h (Nat.zero_le _) ⟨R, frH.rf⟩ (fun f h' hI => ?_) (fun f i h' hin hI kk => ?_)
  · obtain ⟨R', fh⟩ := hI
    have e0 : crZ (fun k => thrZ Z0 n nt k) (fun k => bearZ Z0 k) Z0 n 0 = nI n := ((crZ_lo n h9).1 0 (by omega)).trans o.1
    exact ⟨_, _, R'.1, rfl, br_t (by rw [e0]; exact nI_le (Nat.le_refl _) (by omega)) (hK h' R' fh)⟩
  · obtain ⟨R', fh⟩ := hI
    have hl := crZ_lo (th := fun k => thrZ Z0 n nt k) (br := fun k => bearZ Z0 k) (Z0 := Z0) i (by omega)
    have e0 : crZ (fun k => thrZ Z0 n nt k) (fun k => bearZ Z0 k) Z0 i 0 = nI n := (hl.1 0 (by omega)).trans o.1
    have oi : okS (crZ (fun k => thrZ Z0 n nt k) (fun k => bearZ Z0 k) Z0 i) n nt := o.hs hl (fun k hk => crZ_ok (o.2.2.2.2.1 k hk) i)
    have sw := crZ.eq_2 (fun k => thrZ Z0 n nt k) (fun k => bearZ Z0 k) Z0 i
    rw [crZ_6] at sw
    have y17 : Y 17 (nI i).toNatClampNeg = thrZ Z0 n nt i := by rw [nI_clamp (by omega)]; exact h17 i hin
    have y18 : Y 18 (nI i).toNatClampNeg = overZ Z0 n nt i := by rw [nI_clamp (by omega)]; exact h18 i hin
    refine ⟨_, _, R'.1, rfl, br_f (by rw [e0]; exact nI_ge hin (by omega)) ⟨vp_in_nI (by omega) (by omega), ?_⟩⟩
    rw [y17, y18]
    unfold overZ
    by_cases z : hz Z0 i 6 = 0
    · rw [if_pos z] at sw ⊢
      by_cases z2 : 0 < absZ (thrZ Z0 n nt i) - bearZ Z0 i
      · rw [if_pos z2]
        rw [if_neg (fun q => (fa_of_lt z2).2.1 q)] at sw
        obtain ⟨b, g1, g2⟩ := R'.2.2.2.1 i hin
        have ho := oi.2.2.2.2.1 i hin
        have hc := kindN_lt ho
        have gr : G (nI i).toNatClampNeg = some b := by rw [nI_clamp (by omega)]; exact g1
        generalize crZ (fun k => thrZ Z0 n nt k) (fun k => bearZ Z0 k) Z0 i = Zi at *
        have ob := over_ti o hs hin
        have oc := ho.2.2.2.2.1
        have hpos : 0 ≤ (hz Zi i 4 + (absZ (thrZ Z0 n nt i) - bearZ Z0 i)).toInt := by
          have zz := (fa_lt _ _).mp z2
          rw [show (0 : Int32).toInt = 0 by decide] at zz
          rw [ti_add (by omega) (by omega)]; omega
        refine rb_f (fun q => (fa_of_lt z2).2.2.2.2 q) ⟨_, _, R'.1, rfl, 9, G, b, R'.2.1, vp_in_nI (by omega) (by omega), gr, _, _, _, hc, g2, rfl, vp_in_nI (by omega) (by omega), _, _, hc, g2, by show 3 < 6; omega, fun h1 e1 => ?_⟩
        subst e1
        refine ⟨_, _, _, hc, hup_self _ _ _, rfl, vp_in_nI (by omega) (by omega), ?_⟩
        have fin : ∀ u, (if thrZ Z0 n nt i ≤ 0 then (-1 : Int32) else 1) = u → wX0_cracks_75 ad K (wX0_cracks_2 ad K f) Y (hup h' b (.inr (kindN Zi i, (HF Zi i).set 3 (.int (if (hz Zi i 4 + (absZ (thrZ Z0 n nt i) - bearZ Z0 i)) < (999 : Int32) then (hz Zi i 4 + (absZ (thrZ Z0 n nt i) - bearZ Z0 i)) else (999 : Int32)))))) (nI i) b (hz Zi i 2) u := by
          intro u hu
          rw [hu] at sw
          refine c_within (by decide) ⟨_, _, hc, hup_self _ _ _, by show 1 < 6; omega, fun h2 e2 => nm_r (nI_1 i) (kk h2 ⟨?_, ?_⟩)⟩
          · rw [e2, hup_hup, min_held hpos, HF_cr, sw]
            have := R'.put (Z' := hset (hset Zi i 4 (heldZ (hz Zi i 4 + (absZ (thrZ Z0 n nt i) - bearZ Z0 i)) 0 999)) i 2 (heldZ (hz Zi i 2 + u) (-50) 50)) oi hi hin g1 ((loZ.rf.hs (by omega) (by omega)).hs (by omega) (by omega)) (fun k' _ hne j hj => by rw [hz_ne _ _ (Or.inl hne) (by omega) hj, hz_ne _ _ (Or.inl hne) (by omega) hj]) (by rw [kind_set _ _ _ _ (by omega) (by omega), kind_set _ _ _ _ (by omega) (by omega)]; exact hc)
            rw [kind_set _ _ _ _ (by omega) (by omega), kind_set _ _ _ _ (by omega) (by omega)] at this
            exact this
          · rw [e2]
            exact (fh.put (by omega) g1).put (by omega) g1
        exact br_c (fun w => fin (-1) (if_pos w)) (fun w => fin 1 (if_neg w))
      · rw [if_neg z2]
        rw [if_pos (fa_of_nlt z2)] at sw
        exact rb_t rfl (nm_r (nI_1 i) (kk h' ⟨by rw [sw]; exact R', fh⟩))
    · rw [if_neg z] at sw ⊢
      exact rb_t rfl (nm_r (nI_1 i) (kk h' ⟨by rw [sw]; exact R', fh⟩))
theorem c_falls {K : gY → gH → Prop} {k b : Nat} (R : RS h a ar at_ G T Z n nt) (o : okS Z n nt) (hi : injG G) (hk : k < n) (hb : G k = some b) (hK : ∀ h', RS h' a ar at_ G T (flZ Z k) n nt → frH h h' a G → K Y h') : wvH_falls K Y h b := by
  have h9 := o.2.1
  obtain ⟨b', g1, g2⟩ := R.2.2.2.1 k hk
  cases hb.symm.trans g1
  have hc := kindN_lt (o.2.2.2.2.1 k hk)
  refine ⟨_, _, hc, g2, _, _, hc, g2, by show 5 < 6; omega, fun h1 e1 => ?_⟩
  subst e1
  refine ⟨_, _, hc, hup_self _ _ _, by show 4 < 6; omega, fun h2 e2 => hK h2 ?_ ?_⟩
  · rw [e2, hup_hup, HF_fl]
    have kf : kindN (flZ Z k) k = kindN Z k := by unfold flZ; rw [kind_set _ _ _ _ (by omega) (by omega), kind_set _ _ _ _ (by omega) (by omega)]
    have := R.put (Z' := flZ Z k) o hi hk hb (loZ.rf.fl (by omega)) (fun k' _ hne j hj => by unfold flZ; rw [hz_ne _ _ (Or.inl hne) (by omega) hj, hz_ne _ _ (Or.inl hne) (by omega) hj]) (by rw [kf]; exact hc)
    rw [kf] at this
    exact this
  · rw [e2]
    exact (frH.rf.put (by omega) hb).put (by omega) hb
theorem c_isDown {K : Int32 → gY → gH → Prop} {x : Int32} (R : RS h (ad 0) ar at_ G T Z n nt) (o : okS Z n nt) (hx : x = -1 ∨ ∃ j, j < n ∧ x = nI j) (hK : K (if x < 0 then 0 else if hz Z x.toNatClampNeg 6 = 0 then 0 else 1) Y h) : wpX0_isDown ad K Y h x := by
  have h9 := o.2.1
  rcases hx with rfl | ⟨j, hj, rfl⟩
  · rw [if_pos (by decide)] at hK
    exact br_t rfl hK
  · rw [if_neg (nI_pos (by omega)), nI_clamp (by omega)] at hK
    obtain ⟨b', g1, g2⟩ := R.2.2.2.1 j hj
    have ho := o.2.2.2.2.1 j hj
    have gr : G (nI j).toNatClampNeg = some b' := by rw [nI_clamp (by omega)]; exact g1
    refine br_f (fun e => absurd (show nI j < 0 by rw [e]; decide) (nI_pos (by omega))) ⟨_, _, R.1, rfl, 9, G, b', R.2.1, vp_in_nI (by omega) (by omega), gr, _, _, _, kindN_lt ho, g2, rfl, st_d ho.2.2.2.2.2.2 (fun z => ?_) (fun z => ?_)⟩
    · rw [if_neg z] at hK; exact hK
    · rw [if_pos z] at hK; exact hK
end CZ

set_option maxRecDepth 100000
theorem ti_add {a b : Int32} (h1 : -2147483648 ≤ a.toInt + b.toInt) (h2 : a.toInt + b.toInt < 2147483648) : (a + b).toInt = a.toInt + b.toInt := by
  rw [Int32.toInt_add]
  exact Int.bmod_eq_of_le (by omega) (by omega)
theorem ti_sub {a b : Int32} (h1 : -2147483648 ≤ a.toInt - b.toInt) (h2 : a.toInt - b.toInt < 2147483648) : (a - b).toInt = a.toInt - b.toInt := by
  rw [Int32.toInt_sub]
  exact Int.bmod_eq_of_le (by omega) (by omega)
theorem ti_mul {a b : Int32} (h1 : -2147483648 ≤ a.toInt * b.toInt) (h2 : a.toInt * b.toInt < 2147483648) : (a * b).toInt = a.toInt * b.toInt := by
  rw [Int32.toInt_mul]
  exact Int.bmod_eq_of_le (by omega) (by omega)
theorem ti_nI {x : Int32} {m : Nat} (h : 0 ≤ x.toInt) (h2 : x.toInt ≤ m) : ∃ j : Nat, j ≤ m ∧ x = nI j := by
  obtain ⟨j, hj, e⟩ := nI_of (x := x) (fun q => by rw [fa_lt, show (0 : Int32).toInt = 0 by decide] at q; omega)
  refine ⟨j, ?_, e⟩
  rw [e, nI_toInt hj] at h2
  omega
theorem absZ_ti {x : Int32} (h : -2147483648 < x.toInt) : (absZ x).toInt = if 0 ≤ x.toInt then x.toInt else - x.toInt := by
  unfold absZ
  have e : (0 ≤ x) ↔ 0 ≤ x.toInt := by rw [fa_le]; exact Iff.rfl
  by_cases h0 : 0 ≤ x
  · rw [if_pos h0, if_pos (e.mp h0)]
  · have h1 : ¬ 0 ≤ x.toInt := fun q => h0 (e.mpr q)
    have h3 := Int32.toInt_lt x
    rw [if_neg h0, if_neg h1, ti_sub (by show _ ≤ (0 : Int) - x.toInt; omega) (by show (0 : Int) - x.toInt < _; omega)]
    show (0 : Int) - x.toInt = _
    omega
/-! ===== houses by their class ===== -/
def bearK (kind wall prop : Int32) : Int32 := if kind = 1 then wall + 10 * prop + 5 else if kind = 2 then 2 * (wall + 10 * prop) else if kind = 3 then wall + 10 * prop + 5 else if kind = 4 then 2 * (wall + 10 * prop) else if kind = 5 then 999 else wall + 10 * prop
def worthK (kind wall : Int32) : Int32 := if kind = 1 then wall + 7 else if kind = 2 then 99 - wall else if kind = 3 then 2 * (wall + 7) else if kind = 4 then 94 - wall else if kind = 5 then 6 else wall
theorem w94 (w : Int32) : (99 - w) - 5 = 94 - w := by
  apply Int32.toBitVec_inj.mp
  show (99#32 - w.toBitVec) - 5#32 = 94#32 - w.toBitVec
  bv_omega
section CZ
variable {ad : Nat → Nat} {Y : gY} {h : gH} {a ar at_ n nt : Nat} {G T : Nat → Option Nat} {Z : pZ}
theorem c_bears {K : Int32 → gY → gH → Prop} {b c : Nat} {fs : List Value} {w p : Int32} (hb : h b = some (.inr (c, fs))) (hc : c < 6) (hw : fs[2]? = some (.int w)) (hp : fs[4]? = some (.int p)) (hK : K (bearK (nI c) w p) Y h) : wvH_bears K Y h b := by
  unfold bearK at hK
  rcases (show c = 0 ∨ c = 1 ∨ c = 2 ∨ c = 3 ∨ c = 4 ∨ c = 5 by omega) with rfl | rfl | rfl | rfl | rfl | rfl
  · rw [if_neg (by decide), if_neg (by decide), if_neg (by decide), if_neg (by decide), if_neg (by decide)] at hK
    exact ⟨_, _, by omega, hb, fun _ => ⟨_, _, _, by omega, hb, hw, _, _, _, by omega, hb, hp, hK⟩, fun z => absurd z (by decide), fun z => absurd z (by decide), fun z => absurd z (by decide), fun z => absurd z (by decide), fun z => absurd z (by decide)⟩
  · rw [if_pos (by decide)] at hK
    exact ⟨_, _, by omega, hb, fun z => absurd z (by decide), fun _ => ⟨_, _, by omega, hb, ⟨_, _, _, by omega, hb, hw, _, _, _, by omega, hb, hp, hK⟩⟩, fun z => absurd z (by decide), fun z => absurd z (by decide), fun z => absurd z (by decide), fun z => absurd z (by decide)⟩
  · rw [if_neg (by decide), if_pos (by decide)] at hK
    exact ⟨_, _, by omega, hb, fun z => absurd z (by decide), fun z => absurd z (by decide), fun _ => ⟨_, _, by omega, hb, ⟨_, _, _, by omega, hb, hw, _, _, _, by omega, hb, hp, hK⟩⟩, fun z => absurd z (by decide), fun z => absurd z (by decide), fun z => absurd z (by decide)⟩
  · rw [if_neg (by decide), if_neg (by decide), if_pos (by decide)] at hK
    exact ⟨_, _, by omega, hb, fun z => absurd z (by decide), fun z => absurd z (by decide), fun z => absurd z (by decide), fun _ => ⟨_, _, by omega, hb, ⟨_, _, _, by omega, hb, hw, _, _, _, by omega, hb, hp, hK⟩⟩, fun z => absurd z (by decide), fun z => absurd z (by decide)⟩
  · rw [if_neg (by decide), if_neg (by decide), if_neg (by decide), if_pos (by decide)] at hK
    exact ⟨_, _, by omega, hb, fun z => absurd z (by decide), fun z => absurd z (by decide), fun z => absurd z (by decide), fun z => absurd z (by decide), fun _ => ⟨_, _, by omega, hb, ⟨_, _, _, by omega, hb, hw, _, _, _, by omega, hb, hp, hK⟩⟩, fun z => absurd z (by decide)⟩
  · rw [if_neg (by decide), if_neg (by decide), if_neg (by decide), if_neg (by decide), if_pos (by decide)] at hK
    exact ⟨_, _, by omega, hb, fun z => absurd z (by decide), fun z => absurd z (by decide), fun z => absurd z (by decide), fun z => absurd z (by decide), fun z => absurd z (by decide), fun _ => hK⟩
theorem c_worth {K : Int32 → gY → gH → Prop} {b c : Nat} {fs : List Value} {w : Int32} (hb : h b = some (.inr (c, fs))) (hc : c < 6) (hw : fs[2]? = some (.int w)) (hK : K (worthK (nI c) w) Y h) : wvH_worth K Y h b := by
  unfold worthK at hK
  rcases (show c = 0 ∨ c = 1 ∨ c = 2 ∨ c = 3 ∨ c = 4 ∨ c = 5 by omega) with rfl | rfl | rfl | rfl | rfl | rfl
  · rw [if_neg (by decide), if_neg (by decide), if_neg (by decide), if_neg (by decide), if_neg (by decide)] at hK
    exact ⟨_, _, by omega, hb, fun _ => ⟨_, _, _, by omega, hb, hw, hK⟩, fun z => absurd z (by decide), fun z => absurd z (by decide), fun z => absurd z (by decide), fun z => absurd z (by decide), fun z => absurd z (by decide)⟩
  · rw [if_pos (by decide)] at hK
    exact ⟨_, _, by omega, hb, fun z => absurd z (by decide), fun _ => ⟨_, _, by omega, hb, ⟨_, _, _, by omega, hb, hw, hK⟩⟩, fun z => absurd z (by decide), fun z => absurd z (by decide), fun z => absurd z (by decide), fun z => absurd z (by decide)⟩
  · rw [if_neg (by decide), if_pos (by decide)] at hK
    exact ⟨_, _, by omega, hb, fun z => absurd z (by decide), fun z => absurd z (by decide), fun _ => ⟨_, _, by omega, hb, ⟨_, _, _, by omega, hb, hw, hK⟩⟩, fun z => absurd z (by decide), fun z => absurd z (by decide), fun z => absurd z (by decide)⟩
  · rw [if_neg (by decide), if_neg (by decide), if_pos (by decide)] at hK
    exact ⟨_, _, by omega, hb, fun z => absurd z (by decide), fun z => absurd z (by decide), fun z => absurd z (by decide), fun _ => ⟨_, _, by omega, hb, ⟨_, _, by omega, hb, ⟨_, _, _, by omega, hb, hw, hK⟩⟩⟩, fun z => absurd z (by decide), fun z => absurd z (by decide)⟩
  · rw [if_neg (by decide), if_neg (by decide), if_neg (by decide), if_pos (by decide)] at hK
    exact ⟨_, _, by omega, hb, fun z => absurd z (by decide), fun z => absurd z (by decide), fun z => absurd z (by decide), fun z => absurd z (by decide), fun _ => ⟨_, _, by omega, hb, ⟨_, _, by omega, hb, ⟨_, _, _, by omega, hb, hw, (by dsimp only; rw [w94]; exact hK)⟩⟩⟩, fun z => absurd z (by decide)⟩
  · rw [if_neg (by decide), if_neg (by decide), if_neg (by decide), if_neg (by decide), if_pos (by decide)] at hK
    exact ⟨_, _, by omega, hb, fun z => absurd z (by decide), fun z => absurd z (by decide), fun z => absurd z (by decide), fun z => absurd z (by decide), fun z => absurd z (by decide), fun _ => hK⟩
theorem c_kind {K : Int32 → gY → gH → Prop} {b c : Nat} {fs : List Value} (hb : h b = some (.inr (c, fs))) (hc : c < 6) (hK : K (nI c) Y h) : wvH_kind K Y h b := by
  rcases (show c = 0 ∨ c = 1 ∨ c = 2 ∨ c = 3 ∨ c = 4 ∨ c = 5 by omega) with rfl | rfl | rfl | rfl | rfl | rfl
  · exact ⟨_, _, by omega, hb, fun _ => hK, fun z => absurd z (by decide), fun z => absurd z (by decide), fun z => absurd z (by decide), fun z => absurd z (by decide), fun z => absurd z (by decide)⟩
  · exact ⟨_, _, by omega, hb, fun z => absurd z (by decide), fun _ => hK, fun z => absurd z (by decide), fun z => absurd z (by decide), fun z => absurd z (by decide), fun z => absurd z (by decide)⟩
  · exact ⟨_, _, by omega, hb, fun z => absurd z (by decide), fun z => absurd z (by decide), fun _ => hK, fun z => absurd z (by decide), fun z => absurd z (by decide), fun z => absurd z (by decide)⟩
  · exact ⟨_, _, by omega, hb, fun z => absurd z (by decide), fun z => absurd z (by decide), fun z => absurd z (by decide), fun _ => ⟨_, _, by omega, hb, hK⟩, fun z => absurd z (by decide), fun z => absurd z (by decide)⟩
  · exact ⟨_, _, by omega, hb, fun z => absurd z (by decide), fun z => absurd z (by decide), fun z => absurd z (by decide), fun z => absurd z (by decide), fun _ => ⟨_, _, by omega, hb, hK⟩, fun z => absurd z (by decide)⟩
  · exact ⟨_, _, by omega, hb, fun z => absurd z (by decide), fun z => absurd z (by decide), fun z => absurd z (by decide), fun z => absurd z (by decide), fun z => absurd z (by decide), fun _ => hK⟩
theorem half5 {j : Nat} (hj : j ≤ 999) : (if (0 : Int32) < nI j / 2 - 5 then nI j / 2 - 5 else 0) = if nI j / 2 ≤ 5 then 0 else nI j / 2 - 5 := by
  rw [show (2 : Int32) = nI 2 from rfl, show (5 : Int32) = nI 5 from rfl, pk_div (by omega) (by omega) (by omega)]
  by_cases h : j / 2 ≤ 5
  · rw [if_pos (nI_le h (by omega)), if_neg]
    intro z
    rcases Nat.lt_or_ge (j / 2) 5 with q | q
    · exact (fa_of_lt (pk_sneg (a := j / 2) (b := 5) (by omega) q)).2.2.1 z
    · rw [pk_sub q, show j / 2 - 5 = 0 by omega] at z
      exact absurd z (by decide)
  · rw [if_neg (nI_ge (by omega) (by omega)), pk_sub (by omega)]
    exact if_pos (nI_lt (a := 0) (by omega) (by omega))
theorem c_pushes {K : Int32 → gY → gH → Prop} {b c j : Nat} {fs : List Value} (hb : h b = some (.inr (c, fs))) (hc : c < 6) (hj : j ≤ 999) (hK : K (pkZ (nI c) (nI j)) Y h) : wvH_pushes K Y h b (nI j) := by
  unfold pkZ at hK
  rcases (show c = 0 ∨ c = 1 ∨ c = 2 ∨ c = 3 ∨ c = 4 ∨ c = 5 by omega) with rfl | rfl | rfl | rfl | rfl | rfl
  · rw [if_neg (by decide), if_neg (by decide), if_neg (by decide), if_neg (by decide), if_neg (by decide)] at hK
    exact ⟨_, _, by omega, hb, fun _ => hK, fun z => absurd z (by decide), fun z => absurd z (by decide), fun z => absurd z (by decide), fun z => absurd z (by decide), fun z => absurd z (by decide)⟩
  · rw [if_pos (by decide)] at hK
    exact ⟨_, _, by omega, hb, fun z => absurd z (by decide), fun _ => ⟨_, _, by omega, hb, hK⟩, fun z => absurd z (by decide), fun z => absurd z (by decide), fun z => absurd z (by decide), fun z => absurd z (by decide)⟩
  · rw [if_neg (by decide), if_pos (by decide)] at hK
    exact ⟨_, _, by omega, hb, fun z => absurd z (by decide), fun z => absurd z (by decide), fun _ => ⟨_, _, by omega, hb, hK⟩, fun z => absurd z (by decide), fun z => absurd z (by decide), fun z => absurd z (by decide)⟩
  · rw [if_neg (by decide), if_neg (by decide), if_pos (by decide)] at hK
    exact ⟨_, _, by omega, hb, fun z => absurd z (by decide), fun z => absurd z (by decide), fun z => absurd z (by decide), fun _ => ⟨_, _, by omega, hb, ⟨_, _, by omega, hb, (by dsimp only; rw [half5 hj]; exact hK)⟩⟩, fun z => absurd z (by decide), fun z => absurd z (by decide)⟩
  · rw [if_neg (by decide), if_neg (by decide), if_neg (by decide), if_pos (by decide)] at hK
    exact ⟨_, _, by omega, hb, fun z => absurd z (by decide), fun z => absurd z (by decide), fun z => absurd z (by decide), fun z => absurd z (by decide), fun _ => ⟨_, _, by omega, hb, ⟨_, _, by omega, hb, hK⟩⟩, fun z => absurd z (by decide)⟩
  · rw [if_neg (by decide), if_neg (by decide), if_neg (by decide), if_neg (by decide), if_pos (by decide)] at hK
    exact ⟨_, _, by omega, hb, fun z => absurd z (by decide), fun z => absurd z (by decide), fun z => absurd z (by decide), fun z => absurd z (by decide), fun z => absurd z (by decide), fun _ => hK⟩
theorem plain_in {k : Nat} (o : okH Z k) : ∃ j : Nat, j ≤ 999 ∧ (hz Z k 1 * absZ (hz Z k 2)) / 10 = nI j := by
  obtain ⟨-, o1, o2, -⟩ := o
  obtain ⟨x, hx, e1⟩ := ti_nI (x := hz Z k 1) (m := 99) (by omega) (by omega)
  have ha := absZ_ti (x := hz Z k 2) (by omega)
  obtain ⟨y, hy, e2⟩ := ti_nI (x := absZ (hz Z k 2)) (m := 50) (by rw [ha]; split <;> omega) (by rw [ha]; split <;> omega)
  have hxy : x * y ≤ 99 * 50 := Nat.mul_le_mul hx hy
  refine ⟨x * y / 10, by omega, ?_⟩
  rw [e1, e2, pk_mul, show (10 : Int32) = nI 10 from rfl, pk_div (by omega) (by omega) (by omega)]
theorem held_nI {v : Int32} : ∃ j : Nat, j ≤ 999 ∧ heldZ v 0 999 = nI j := by
  obtain ⟨h1, h2⟩ := heldZ_in (v := v) (lo := 0) (hi := 999) (by decide)
  exact ti_nI (m := 999) h1 h2
theorem held_same {j : Nat} (hj : j ≤ 999) : heldZ (nI j) 0 999 = nI j := by
  unfold heldZ
  rw [if_pos (nI_pos' (by omega))]
  exact if_pos (nI_le (b := 999) hj (by omega))
theorem plainZ_in {k : Nat} (o : okH Z k) : ∃ j : Nat, j ≤ 999 ∧ plainZ Z nt k = nI j := by
  unfold plainZ
  split
  · exact plain_in o
  · exact held_nI
theorem pushZ_in {k : Nat} (o : okH Z k) : ∃ j : Nat, j ≤ 2006 ∧ pushZ Z nt k = nI j := by
  obtain ⟨j, hj, e⟩ := plainZ_in (nt := nt) o
  unfold pushZ pkZ
  rw [e]
  have e2 : nI j / 2 = nI (j / 2) := pk_div (d := 2) (by omega) (by omega) (by omega)
  have e4 : nI j + 4 = nI (j + 4) := nI_add j 4
  split
  · exact ⟨_, by omega, e2⟩
  split
  · exact ⟨_, by omega, e4⟩
  split
  · split
    · exact ⟨0, by omega, rfl⟩
    · rename_i h5
      rw [e2] at h5 ⊢
      have : 5 ≤ j / 2 := by
        rcases Nat.lt_or_ge (j / 2) 5 with q | q
        · exact absurd (nI_le (b := 5) (by omega) (by omega)) h5
        · exact q
      exact ⟨_, by omega, pk_sub (b := 5) this⟩
  split
  · exact ⟨2 * (j + 4), by omega, by rw [e4]; exact pk_mul 2 _⟩
  split
  · exact ⟨0, by omega, rfl⟩
  · exact ⟨j, by omega, rfl⟩
theorem c_pushOf {K : Int32 → gY → gH → Prop} {k b : Nat} (R : RS h (ad 0) ar at_ G T Z n nt) (o : okS Z n nt) (hk : k < n) (hb : h b = some (.inr (kindN Z k, HF Z k))) (hK : ∀ Y', fr [5, 16] Y Y' → K (pushZ Z nt k) Y' h) : wpX0_pushOf ad K Y h b := by
  have ho := o.2.2.2.2.1 k hk
  have hc := kindN_lt ho
  have hkd := kindN_eq ho
  unfold pushZ plainZ at hK
  refine ⟨_, _, _, hc, hb, rfl, nm_r (show _ = absZ (hz Z k 2) from rfl) (c_counts R o (rb_c (fun z => ?_) (fun z => ?_)))⟩
  · rw [if_pos (by rw [z]; decide), hkd] at hK
    obtain ⟨j, hj, e⟩ := plain_in ho
    refine ⟨_, _, _, hc, hb, rfl, c_within (by decide) ?_⟩
    rw [e] at hK ⊢
    rw [held_same hj]
    exact c_pushes hb hc hj (hK Y fr.rf)
  · rcases cntZ_in Z 0 nt with e | ⟨t, ht, e, hkey⟩
    · exact absurd e z
    · have h14 := o.2.2.2.1
      rw [e, if_neg (nI_pos (by omega)), nI_clamp (by omega), hkd] at hK
      rw [e]
      obtain ⟨b', g1, wa, m, g2, g3, g4⟩ := R.2.2.2.2.2.1 t ht
      obtain ⟨m', t1, t2, t3, t4⟩ := o.2.2.2.2.2 t ht
      have hm : m' = m := (nI_eq (by omega) (by obtain ⟨_, _, _, _, _, _, _, q, _⟩ := g4; omega)).mp (t2.symm.trans g3)
      subst hm
      rw [hkey] at t4
      refine ⟨_, _, _, hc, hb, rfl, pk_in 119 128 (by omega), nm_r rfl ⟨pk_in 108 128 (by omega), nm_r rfl ⟨_, _, _, hc, hb, rfl, pk_in 99 128 (by omega), nm_r rfl ⟨_, _, R.1, rfl, 14, T, b', R.2.2.1, vp_in_nI (by omega) (by omega), by rw [nI_clamp (by omega)]; exact g1, _, _, g2, rfl, ?_⟩⟩⟩⟩
      refine c_reckon g4 (okW_imp (fun v => nmOk_in) _ _ t4) (fun Y' hf => c_within (by decide) ?_)
      have hfr : fr [5, 16] Y Y' := (((fr.rf.up rfl).up rfl).up rfl).tr (hf.mono rfl)
      have := hK Y' hfr
      unfold valZ at this
      rw [t2, nI_clamp (by omega)] at this
      have e9 : runZ (fun v => yupd (yupd (yupd Y 16 (119 : Int32).toNatClampNeg (hz Z k 1)) 16 (108 : Int32).toNatClampNeg (absZ (hz Z k 2))) 16 (99 : Int32).toNatClampNeg (hz Z k 4) 16 v.toNatClampNeg) (wdL Z t m' 0) [] = runZ (nmP (hz Z k 1) (absZ (hz Z k 2)) (hz Z k 4)) (wdL Z t m' 0) [] := by
        refine runZ_cong (ok := nmOk 0) (fun v hv => ?_) _ _ _ t4
        rw [yupd_self, yupd_self, yupd_self]
        rcases hv with ⟨-, rfl | rfl | rfl⟩ | ⟨hv, -⟩ | ⟨hv, -⟩
        · rfl
        · rfl
        · rfl
        · exact absurd hv (by decide)
        · exact absurd hv (by decide)
      rw [e9]
      generalize botZ (runZ (nmP (hz Z k 1) (absZ (hz Z k 2)) (hz Z k 4)) (wdL Z t m' 0) []) = u at *
      obtain ⟨j, hj, ej⟩ := held_nI (v := u)
      rw [ej] at this ⊢
      exact c_pushes hb hc hj this
theorem c_thr90 {K : Int32 → gY → gH → Prop} {b u v : Int32} (R : RS h (ad 0) ar at_ G T Z n nt) (o : okS Z n nt) (hb : b = -1 ∨ ∃ j, j < n ∧ b = nI j) (hK : ∀ Y', fr [5, 16] Y Y' → K ((u + v) - thB Z nt b) Y' h) : wX0_thrustOn_90 ad K Y h b u v := by
  refine nm_r rfl ?_
  have h9 := o.2.1
  unfold thB at hK
  rcases hb with rfl | ⟨j, hj, rfl⟩
  · rw [if_pos (by decide)] at hK
    exact br_t rfl (nm_r rfl (hK Y fr.rf))
  · rw [if_neg (nI_pos (by omega)), nI_clamp (by omega)] at hK
    obtain ⟨b', g1, g2⟩ := R.2.2.2.1 j hj
    have hc := kindN_lt (o.2.2.2.2.1 j hj)
    have gr : G (nI j).toNatClampNeg = some b' := by rw [nI_clamp (by omega)]; exact g1
    refine br_f (fun e => absurd (show nI j < 0 by rw [e]; decide) (nI_pos (by omega))) ⟨_, _, R.1, rfl, 9, G, b', R.2.1, vp_in_nI (by omega) (by omega), gr, _, _, _, hc, g2, rfl, br_c (fun z => ?_) (fun z => ?_)⟩
    · rw [if_pos z] at hK
      exact nm_r rfl (hK Y fr.rf)
    · rw [if_neg z] at hK
      exact ⟨_, _, R.1, rfl, 9, G, b', R.2.1, vp_in_nI (by omega) (by omega), gr, c_pushOf R o hj g2 (fun Y' hf => nm_r rfl (hK Y' hf))⟩
theorem c_thrustOn {K : Int32 → gY → gH → Prop} {k : Nat} (R : RS h (ad 0) ar at_ G T Z n nt) (o : okS Z n nt) (hk : k < n) (hK : ∀ Y', fr [5, 16] Y Y' → K (thrZ Z n nt k) Y' h) : wpX0_thrustOn ad K Y h (nI k) := by
  have h9 := o.2.1
  obtain ⟨b, g1, g2⟩ := R.2.2.2.1 k hk
  have ho := o.2.2.2.2.1 k hk
  unfold thrZ at hK
  refine ⟨_, _, R.1, rfl, 9, G, b, R.2.1, vp_in_nI (by omega) (by omega), by rw [nI_clamp (by omega)]; exact g1, _, _, _, kindN_lt ho, g2, rfl, st_d ho.2.2.2.2.2.2 (fun z => ?_) (fun z => ?_)⟩
  · rw [if_neg z] at hK; exact hK Y fr.rf
  · rw [if_pos z] at hK
    refine ⟨⟨_, R.1⟩, c_standing R o (c_nextm R o hk (c_next1 R o hk ⟨_, _, R.1, rfl, ?_⟩))⟩
    have hA : nextZ n k (-1) (stZ Z n) = -1 ∨ ∃ j, j < n ∧ nextZ n k (-1) (stZ Z n) = nI j := nextZ_in _ _ _ _ _
    have hB : nextZ n k 1 (stZ Z n) = -1 ∨ ∃ j, j < n ∧ nextZ n k 1 (stZ Z n) = nI j := nextZ_in _ _ _ _ _
    generalize nextZ n k (-1) (stZ Z n) = a at *
    generalize nextZ n k 1 (stZ Z n) = b at *
    unfold thA at hK
    rcases hA with rfl | ⟨j, hj, rfl⟩
    · rw [if_pos (by decide)] at hK
      exact br_t rfl (c_thr90 R o hB hK)
    · rw [if_neg (nI_pos (by omega)), nI_clamp (by omega)] at hK
      obtain ⟨b', g1, g2⟩ := R.2.2.2.1 j hj
      have hc := kindN_lt (o.2.2.2.2.1 j hj)
      have gr : G (nI j).toNatClampNeg = some b' := by rw [nI_clamp (by omega)]; exact g1
      refine br_f (fun e => absurd (show nI j < 0 by rw [e]; decide) (nI_pos (by omega))) ⟨_, _, R.1, rfl, 9, G, b', R.2.1, vp_in_nI (by omega) (by omega), gr, _, _, _, hc, g2, rfl, br_c (fun z => ?_) (fun z => ?_)⟩
      · rw [if_pos z] at hK
        exact c_thr90 R o hB hK
      · rw [if_neg z] at hK
        exact ⟨_, _, R.1, rfl, 9, G, b', R.2.1, vp_in_nI (by omega) (by omega), gr, c_pushOf R o hj g2 (fun Y' hf => c_thr90 R o hB (fun Y2 h2 => hK Y2 (hf.tr h2)))⟩
end CZ

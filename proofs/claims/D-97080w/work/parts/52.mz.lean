set_option maxRecDepth 100000
/-! ===== a text is worked out ===== -/
def stepZ (nm : Int32 → Int32) (q : Int32 × Int32) (s : List Int32) : List Int32 :=
  if q.1 = 2 then (if q.2 = 33 then (match s with
    | [] => []
    | x :: s => (if x = 0 then 1 else 0) :: s) else (match s with
    | y :: x :: s => joinZ q.2 x y :: s
    | s => s)) else (if q.1 = 0 then q.2 else nm q.2) :: s
def runZ (nm : Int32 → Int32) : List (Int32 × Int32) → List Int32 → List Int32
  | [], s => s
  | q :: w, s => runZ nm w (stepZ nm q s)
def botZ : List Int32 → Int32
  | [] => 0
  | [x] => x
  | _ :: y :: s => botZ (y :: s)
/-- a row of words that can be worked out: names as told, depth d at its head, one number at its end -/
def okW (nmok : Int32 → Prop) : List (Int32 × Int32) → Nat → Prop
  | [], d => d = 1
  | q :: w, d => (q.1 = 2 ∧ q.2 = 33 ∧ 1 ≤ d ∧ okW nmok w d) ∨ (q.1 = 2 ∧ q.2 ≠ 33 ∧ 2 ≤ d ∧ okW nmok w (d - 1)) ∨ (q.1 = 1 ∧ nmok q.2 ∧ okW nmok w (d + 1)) ∨ (q.1 = 0 ∧ okW nmok w (d + 1))
def pR (P : Nat → Int32) : List Int32 → Prop
  | [] => True
  | x :: s => P s.length = x ∧ pR P s
theorem pR.up {P : Nat → Int32} {i : Nat} {x : Int32} : ∀ {s : List Int32}, pR P s → s.length ≤ i → pR (upd P i x) s
  | [], _, _ => trivial
  | y :: s, h, hi => ⟨(pk_un (by simp at hi; omega)).trans h.1, pR.up h.2 (by simp at hi; omega)⟩
theorem pR.bot {P : Nat → Int32} : ∀ {s : List Int32}, pR P s → s ≠ [] → P 0 = botZ s
  | [], _, h => absurd rfl h
  | [x], h, _ => h.1
  | _ :: y :: s, h, _ => pR.bot (s := y :: s) h.2 (by simp)
def wdF (Z : pZ) (t i : Nat) : Int32 × Int32 := (Z (69 + 200 * t + 4 + 2 * i), Z (69 + 200 * t + 4 + 2 * i + 1))
def wdL (Z : pZ) (t : Nat) : Nat → Nat → List (Int32 × Int32)
  | 0, _ => []
  | m + 1, i => wdF Z t i :: wdL Z t m (i + 1)
theorem m_workL {K : Int32 → gY → Prop} {Y : gY} {t m : Nat} (ht : t < 14) (hm : Y 0 (69 + 200 * t + 2) = nI m) (hm9 : m ≤ 96) : ∀ (r i : Nat) (s : List Int32) (Y' : gY), r + i = m → pR (Y' 28) s → okW (fun v => ∃ j, j < 128 ∧ v = nI j) (wdL (Y 0) t r i) s.length → s.length ≤ i → fr [28] Y Y' →
    (∀ Y'', fr [28] Y Y'' → K (botZ (runZ (fun v => Y 27 v.toNatClampNeg) (wdL (Y 0) t r i) s)) Y'') → wX5_worked_4 K (r + 1) Y' (nI t) (nI s.length) (nI i) := by
  intro r
  induction r with
  | zero =>
    intro i s Y' hri hp hok hs hf h
    have f0 : Y' 0 = Y 0 := hf 0 rfl
    have hi : i = m := by omega
    subst hi
    unfold wX5_worked_4 wpX5_textAt
    rw [(tx_ix t 0).1]
    dsimp only
    rw [show nI (69 + 200 * t) + 2 = nI (69 + 200 * t + 2) from nI_add _ 2, nI_clamp (by omega), f0, hm]
    refine ⟨vp_in_nI (by omega) (by omega), br_t (nI_le (Nat.le_refl _) (by omega)) ⟨pk_in 0 100 (by omega), ?_⟩⟩
    have hne : s ≠ [] := by intro e; rw [e] at hok; cases hok
    have := h Y' hf
    rw [show runZ (fun v => Y 27 v.toNatClampNeg) (wdL (Y 0) t 0 i) s = s from rfl, ← hp.bot hne] at this
    exact this
  | succ r ih =>
    intro i s Y' hri hp hok hs hf h
    have f0 : Y' 0 = Y 0 := hf 0 rfl
    have f27 : Y' 27 = Y 27 := hf 27 rfl
    have e4 : (nI (69 + 200 * t) + 4) + 2 * nI i = nI (69 + 200 * t + 4 + 2 * i) := by
      rw [show (4 : Int32) = nI 4 from rfl, show (2 : Int32) = nI 2 from rfl, pk_mul, nI_add, nI_add]
    unfold wX5_worked_4 wpX5_textAt
    rw [(tx_ix t 0).1]
    dsimp only
    rw [show nI (69 + 200 * t) + 2 = nI (69 + 200 * t + 2) from nI_add _ 2, e4, nI_1 (69 + 200 * t + 4 + 2 * i), nI_clamp (n := 69 + 200 * t + 2) (by omega), nI_clamp (n := 69 + 200 * t + 4 + 2 * i) (by omega), nI_clamp (n := 69 + 200 * t + 4 + 2 * i + 1) (by omega), f0, hm]
    refine ⟨vp_in_nI (by omega) (by omega), br_f (nI_ge (by omega) (by omega)) ⟨vp_in_nI (by omega) (by omega), nm_r rfl ⟨vp_in_nI (by omega) (by omega), nm_r rfl ?_⟩⟩⟩
    have hok' := hok
    rw [wdL, okW] at hok'
    have h' : ∀ Y'', fr [28] Y Y'' → K (botZ (runZ (fun v => Y 27 v.toNatClampNeg) (wdL (Y 0) t r (i + 1)) (stepZ (fun v => Y 27 v.toNatClampNeg) (wdF (Y 0) t i) s))) Y'' := h
    have q1 : (wdF (Y 0) t i).1 = Y 0 (69 + 200 * t + 4 + 2 * i) := rfl
    have q2 : (wdF (Y 0) t i).2 = Y 0 (69 + 200 * t + 4 + 2 * i + 1) := rfl
    generalize hA : Y 0 (69 + 200 * t + 4 + 2 * i) = A at *
    generalize hB : Y 0 (69 + 200 * t + 4 + 2 * i + 1) = B at *
    rw [q1, q2] at hok'
    unfold stepZ at h'
    rw [q1, q2] at h'
    rcases hok' with ⟨a1, a2, a3, a4⟩ | ⟨a1, a2, a3, a4⟩ | ⟨a1, ⟨j, hj, a2⟩, a4⟩ | ⟨a1, a4⟩
    · rw [if_pos a1, if_pos a2] at h'
      obtain ⟨x, s', rfl⟩ : ∃ x s', s = x :: s' := by
        cases s with
        | nil => simp at a3
        | cons x s' => exact ⟨x, s', rfl⟩
      dsimp only at h'
      have hl : (x :: s').length = s'.length + 1 := rfl
      rw [hl] at hs a4 ⊢
      refine br_t a1 (rb_t a2 ?_)
      rw [nI_pred, nI_clamp (n := s'.length) (by omega)]
      have hx : Y' 28 s'.length = x := hp.1
      rw [hx]
      refine ⟨vp_in_nI (by omega) (by omega), rb_c (fun z => ?_) (fun z => ?_)⟩
      · rw [if_pos z] at h'
        unfold wX5_worked_123
        rw [nI_clamp (n := s'.length) (by omega)]
        refine ⟨vp_in_nI (by omega) (by omega), nm_r rfl (nm_r (nI_1 i) ?_)⟩
        refine ih (i + 1) (1 :: s') _ (by omega) ?_ a4 (by simp; omega) (hf.up rfl) h'
        rw [yupd_self]
        exact ⟨pk_us, hp.2.up (Nat.le_refl _)⟩
      · rw [if_neg z] at h'
        unfold wX5_worked_123
        rw [nI_clamp (n := s'.length) (by omega)]
        refine ⟨vp_in_nI (by omega) (by omega), nm_r rfl (nm_r (nI_1 i) ?_)⟩
        refine ih (i + 1) (0 :: s') _ (by omega) ?_ a4 (by simp; omega) (hf.up rfl) h'
        rw [yupd_self]
        exact ⟨pk_us, hp.2.up (Nat.le_refl _)⟩
    · rw [if_pos a1, if_neg a2] at h'
      obtain ⟨y, x, s', rfl⟩ : ∃ y x s', s = y :: x :: s' := by
        cases s with
        | nil => simp at a3
        | cons y s' =>
          cases s' with
          | nil => simp at a3
          | cons x s'' => exact ⟨y, x, s'', rfl⟩
      dsimp only at h'
      have hl : (y :: x :: s').length = s'.length + 1 + 1 := rfl
      rw [hl] at hs a4 ⊢
      refine br_t a1 (rb_f a2 (nm_r (pk_m1 (s'.length + 1)) ?_))
      rw [nI_pred, nI_clamp (n := s'.length) (by omega), nI_clamp (n := s'.length + 1) (by omega)]
      have hy : Y' 28 (s'.length + 1) = y := hp.1
      have hx : Y' 28 s'.length = x := hp.2.1
      rw [hx, hy]
      refine ⟨vp_in_nI (by omega) (by omega), vp_in_nI (by omega) (by omega), m_joined ⟨vp_in_nI (by omega) (by omega), nm_r rfl (nm_r (nI_1 i) ?_)⟩⟩
      refine ih (i + 1) (joinZ B x y :: s') _ (by omega) ?_ a4 (by simp; omega) (hf.up rfl) h'
      rw [yupd_self]
      exact ⟨pk_us, hp.2.2.up (Nat.le_refl _)⟩
    · have n2 : ¬ A = 2 := by rw [a1]; decide
      have n0 : ¬ A = 0 := by rw [a1]; decide
      rw [if_neg n2, if_neg n0] at h'
      refine br_f n2 (rb_f n0 ⟨?_, ?_⟩)
      · rw [a2]; exact vp_in_nI hj (by omega)
      · unfold wX5_worked_86
        rw [nI_clamp (n := s.length) (by omega), f27]
        refine ⟨vp_in_nI (by omega) (by omega), nm_r rfl (nm_r (nI_1 s.length) (nm_r (nI_1 i) ?_))⟩
        refine ih (i + 1) (Y 27 B.toNatClampNeg :: s) _ (by omega) ?_ a4 (by simp; omega) (hf.up rfl) h'
        rw [yupd_self]
        exact ⟨pk_us, hp.up (Nat.le_refl _)⟩
    · have n2 : ¬ A = 2 := by rw [a1]; decide
      rw [if_neg n2, if_pos a1] at h'
      refine br_f n2 (rb_t a1 ?_)
      unfold wX5_worked_86
      rw [nI_clamp (n := s.length) (by omega)]
      refine ⟨vp_in_nI (by omega) (by omega), nm_r rfl (nm_r (nI_1 s.length) (nm_r (nI_1 i) ?_))⟩
      refine ih (i + 1) (B :: s) _ (by omega) ?_ a4 (by simp; omega) (hf.up rfl) h'
      rw [yupd_self]
      exact ⟨pk_us, hp.up (Nat.le_refl _)⟩
theorem m_worked {K : Int32 → gY → Prop} {Y : gY} {t m : Nat} (ht : t < 14) (hm : Y 0 (69 + 200 * t + 2) = nI m) (hm9 : m ≤ 96) (hok : okW (fun v => ∃ j, j < 128 ∧ v = nI j) (wdL (Y 0) t m 0) 0) (h : ∀ Y', fr [28] Y Y' → K (botZ (runZ (fun v => Y 27 v.toNatClampNeg) (wdL (Y 0) t m 0) [])) Y') : wpX5_worked K Y (nI t) :=
  ⟨m + 1, m_workL ht hm hm9 m 0 [] Y (by omega) trivial hok (Nat.le_refl _) fr.rf h⟩
/-- the names that matter -/
theorem runZ_cong {nm nm' : Int32 → Int32} {ok : Int32 → Prop} (hn : ∀ v, ok v → nm v = nm' v) : ∀ (w : List (Int32 × Int32)) (d : Nat) (s : List Int32), okW ok w d → runZ nm w s = runZ nm' w s
  | [], _, _, _ => rfl
  | q :: w, d, s, h => by
    rw [runZ, runZ]
    rcases h with ⟨a1, a2, a3, a4⟩ | ⟨a1, a2, a3, a4⟩ | ⟨a1, a2, a4⟩ | ⟨a1, a4⟩
    · rw [show stepZ nm q s = stepZ nm' q s by unfold stepZ; rw [if_pos a1, if_pos a1]]
      exact runZ_cong hn w _ _ a4
    · rw [show stepZ nm q s = stepZ nm' q s by unfold stepZ; rw [if_pos a1, if_pos a1]]
      exact runZ_cong hn w _ _ a4
    · rw [show stepZ nm q s = stepZ nm' q s by unfold stepZ; rw [hn _ a2]]
      exact runZ_cong hn w _ _ a4
    · rw [show stepZ nm q s = stepZ nm' q s by unfold stepZ; rw [if_pos a1, if_pos a1]]
      exact runZ_cong hn w _ _ a4
theorem okW_imp {ok ok' : Int32 → Prop} (hn : ∀ v, ok v → ok' v) : ∀ (w : List (Int32 × Int32)) (d : Nat), okW ok w d → okW ok' w d
  | [], _, h => h
  | q :: w, d, h => by
    rcases h with ⟨a1, a2, a3, a4⟩ | ⟨a1, a2, a3, a4⟩ | ⟨a1, a2, a4⟩ | ⟨a1, a4⟩
    · exact Or.inl ⟨a1, a2, a3, okW_imp hn w _ a4⟩
    · exact Or.inr (Or.inl ⟨a1, a2, a3, okW_imp hn w _ a4⟩)
    · exact Or.inr (Or.inr (Or.inl ⟨a1, hn _ a2, okW_imp hn w _ a4⟩))
    · exact Or.inr (Or.inr (Or.inr ⟨a1, okW_imp hn w _ a4⟩))

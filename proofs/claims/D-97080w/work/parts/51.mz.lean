set_option maxRecDepth 100000
/-! ===== the next one to a side ===== -/
def nxZ (n : Nat) (set side : Int32) : Nat → Int32 → Int32
  | 0, _ => -1
  | f + 1, o => if o < 0 then -1 else if nI n ≤ o then -1 else if (set >>> (o &&& 31)) &&& 1 = 0 then nxZ n set side f (o + side) else o
def nextZ (n k : Nat) (side set : Int32) : Int32 := nxZ n set side 11 (nI k + side)
theorem m_nextU {K : Int32 → gY → Prop} {Y : gY} {n : Nat} {set : Int32} (hn : Y 0 0 = nI n) (h9 : n ≤ 9) : ∀ (f i : Nat), i ≤ n → n < i + f → K (nxZ n set 1 f (nI i)) Y → wX5_nextOf_5 K f Y 1 set (nI i) := by
  have hn' : Y 0 (0 : Int32).toNatClampNeg = nI n := hn
  intro f
  induction f with
  | zero => intro i h1 h2; omega
  | succ f ih =>
    intro i h1 h2 h
    rw [nxZ, if_neg (nI_pos (by omega))] at h
    refine br_f (nI_pos (by omega)) ⟨pk_in 0 3069 (by omega), ?_⟩
    rw [hn']
    by_cases hi : n ≤ i
    · rw [if_pos (nI_le hi (by omega))] at h
      refine br_t (nI_le hi (by omega)) (br_f (nI_pos (by omega)) ⟨pk_in 0 3069 (by omega), ?_⟩)
      rw [hn']
      exact br_t (nI_le hi (by omega)) h
    · rw [if_neg (nI_ge (by omega) (by omega))] at h
      refine br_f (nI_ge (by omega) (by omega)) (rb_c (fun z => ?_) (fun z => ?_))
      · rw [if_pos z] at h
        refine nm_r (nI_1 i) (ih (i + 1) (by omega) (by omega) ?_)
        rw [← nI_1]; exact h
      · rw [if_neg z] at h
        refine br_f (nI_pos (by omega)) ⟨pk_in 0 3069 (by omega), ?_⟩
        rw [hn']
        exact br_f (nI_ge (by omega) (by omega)) h
theorem m_nextD {K : Int32 → gY → Prop} {Y : gY} {n : Nat} {set : Int32} (hn : Y 0 0 = nI n) (h9 : n ≤ 9) : ∀ (f i : Nat), i ≤ n → i < f → K (nxZ n set (-1) f (nI i + (-1))) Y → wX5_nextOf_5 K f Y (-1) set (nI i + (-1)) := by
  have hn' : Y 0 (0 : Int32).toNatClampNeg = nI n := hn
  intro f
  induction f with
  | zero => intro i h1 h2; omega
  | succ f ih =>
    intro i h1 h2 h
    cases i with
    | zero =>
      rw [nxZ, if_pos (by decide)] at h
      exact br_t (by decide) (br_t (by decide) h)
    | succ i =>
      rw [pk_m1] at h ⊢
      rw [nxZ, if_neg (nI_pos (by omega)), if_neg (nI_ge (by omega) (by omega))] at h
      refine br_f (nI_pos (by omega)) ⟨pk_in 0 3069 (by omega), ?_⟩
      rw [hn']
      refine br_f (nI_ge (by omega) (by omega)) (rb_c (fun z => ?_) (fun z => ?_))
      · rw [if_pos z] at h
        exact nm_r rfl (ih i (by omega) (by omega) h)
      · rw [if_neg z] at h
        refine br_f (nI_pos (by omega)) ⟨pk_in 0 3069 (by omega), ?_⟩
        rw [hn']
        exact br_f (nI_ge (by omega) (by omega)) h
theorem m_next1 {K : Int32 → gY → Prop} {Y : gY} {n k : Nat} {set : Int32} (hn : Y 0 0 = nI n) (h9 : n ≤ 9) (hk : k < n) (h : K (nextZ n k 1 set) Y) : wpX5_nextOf K Y (nI k) 1 set := by
  refine nm_r (nI_1 k) ⟨11, m_nextU hn h9 11 (k + 1) (by omega) (by omega) ?_⟩
  rw [← nI_1]; exact h
theorem m_nextm {K : Int32 → gY → Prop} {Y : gY} {n k : Nat} {set : Int32} (hn : Y 0 0 = nI n) (h9 : n ≤ 9) (hk : k < n) (h : K (nextZ n k (-1) set) Y) : wpX5_nextOf K Y (nI k) (-1) set :=
  nm_r rfl ⟨11, m_nextD hn h9 11 k (by omega) (by omega) h⟩
/-- what nextOf answers: nobody, or a house -/
theorem nextZ_in (n : Nat) (set side : Int32) : ∀ (f : Nat) (o : Int32), nxZ n set side f o = -1 ∨ ∃ j, j < n ∧ nxZ n set side f o = nI j := by
  intro f
  induction f with
  | zero => intro o; exact Or.inl rfl
  | succ f ih =>
    intro o
    rw [nxZ]
    by_cases h1 : o < 0
    · rw [if_pos h1]; exact Or.inl rfl
    · rw [if_neg h1]
      by_cases h2 : nI n ≤ o
      · rw [if_pos h2]; exact Or.inl rfl
      · rw [if_neg h2]
        by_cases h3 : (set >>> (o &&& 31)) &&& 1 = 0
        · rw [if_pos h3]; exact ih _
        · rw [if_neg h3]
          obtain ⟨j, hj, rfl⟩ := nI_of h1
          refine Or.inr ⟨j, ?_, rfl⟩
          rcases Nat.lt_or_ge j n with q | q
          · exact q
          · exact absurd (nI_le q hj) h2
/-! ===== texts: which one counts ===== -/
def cntZ (Z : pZ) (key : Int32) : Nat → Int32
  | 0 => -1
  | t + 1 => if Z (69 + 200 * t) = key then nI t else cntZ Z key t
theorem tx_ix (t j : Nat) : (69 : Int32) + (200 * nI t) = nI (69 + 200 * t) ∧ ((69 : Int32) + (200 * nI t)) + nI j = nI (69 + 200 * t + j) := by
  rw [show (200 : Int32) = nI 200 from rfl, show (69 : Int32) = nI 69 from rfl, pk_mul, nI_add, nI_add]
  exact ⟨rfl, rfl⟩
theorem m_counts {K : Int32 → gY → Prop} {Y : gY} {nt : Nat} {key : Int32} (hn : Y 0 1 = nI nt) (h14 : nt ≤ 14) (h : K (cntZ (Y 0) key nt) Y) : wpX5_counts K Y key := by
  have hn' : Y 0 (1 : Int32).toNatClampNeg = nI nt := hn
  refine nm_r rfl ?_
  refine pk_loop (fun f i (x : Int32) => wX5_counts_4 K f Y key x (nI i)) (fun i x => x = cntZ (Y 0) key i) nt 0 (-1) (Nat.zero_le _) rfl (fun f s hs => ?_) (fun f i s hi hs kk => ?_)
  · subst hs
    exact ⟨pk_in 1 3069 (by omega), br_t (by rw [hn']; exact nI_le (Nat.le_refl _) (by omega)) h⟩
  · subst hs
    refine ⟨pk_in 1 3069 (by omega), br_f (by rw [hn']; exact nI_ge hi (by omega)) ?_⟩
    unfold wpX5_textAt
    rw [(tx_ix i 0).1]
    dsimp only
    rw [nI_clamp (by omega)]
    refine ⟨vp_in_nI (by omega) (by omega), rb_c (fun z => ?_) (fun z => ?_)⟩
    · exact nm_r (nI_1 i) (kk _ (by rw [cntZ, if_pos z]))
    · exact nm_r (nI_1 i) (kk _ (by rw [cntZ, if_neg z]))
theorem cntZ_in (Z : pZ) (key : Int32) : ∀ nt, cntZ Z key nt = -1 ∨ ∃ t, t < nt ∧ cntZ Z key nt = nI t ∧ Z (69 + 200 * t) = key := by
  intro nt
  induction nt with
  | zero => exact Or.inl rfl
  | succ t ih =>
    rw [cntZ]
    by_cases h : Z (69 + 200 * t) = key
    · rw [if_pos h]; exact Or.inr ⟨t, by omega, rfl, h⟩
    · rw [if_neg h]
      rcases ih with h1 | ⟨j, h1, h2, h3⟩
      · exact Or.inl h1
      · exact Or.inr ⟨j, by omega, h2, h3⟩
/-! ===== two numbers and a sign ===== -/
def joinZ (c x y : Int32) : Int32 :=
  if c = 38 then (if x = 0 then 0 else if y = 0 then 0 else 1) else if c = 42 then x * y else if c = 43 then x + y else if c = 45 then x - y else if c = 47 then (if y = 0 then 0 else if y = -1 then -x else x / y)
  else if c = 60 then (if y ≤ x then 0 else 1) else if c = 61 then (if x = y then 1 else 0) else if c = 62 then (if x ≤ y then 0 else 1) else (if x = 0 then (if y = 0 then 0 else 1) else 1)
theorem m_joined {K : Int32 → gY → Prop} {Y : gY} {c x y : Int32} (h : K (joinZ c x y) Y) : wpX5_joined K Y c x y := by
  unfold joinZ at h
  refine ⟨fun e => ?_, fun e => ?_, fun e => ?_, fun e => ?_, fun e => ?_, fun e => ?_, fun e => ?_, fun e => ?_, fun e => ?_⟩
  · subst e
    rw [if_pos rfl] at h
    refine br_c (fun z => ?_) (fun z => br_c (fun y' => ?_) (fun y' => ?_))
    · rw [if_pos z] at h; exact h
    · rw [if_neg z, if_pos y'] at h; exact h
    · rw [if_neg z, if_neg y'] at h; exact h
  · subst e; rw [if_neg (by decide), if_pos rfl] at h; exact h
  · subst e; rw [if_neg (by decide), if_neg (by decide), if_pos rfl] at h; exact h
  · subst e; rw [if_neg (by decide), if_neg (by decide), if_neg (by decide), if_pos rfl] at h; exact h
  · subst e
    rw [if_neg (by decide), if_neg (by decide), if_neg (by decide), if_neg (by decide), if_pos rfl] at h
    refine rb_c (fun z => ?_) (fun z => rb_c (fun y' => ?_) (fun y' => ?_))
    · rw [if_pos z] at h; exact h
    · rw [if_neg z, if_pos y'] at h; exact h
    · rw [if_neg z, if_neg y'] at h; exact ⟨z, h⟩
  · subst e
    rw [if_neg (by decide), if_neg (by decide), if_neg (by decide), if_neg (by decide), if_neg (by decide), if_pos rfl] at h
    refine br_c (fun z => ?_) (fun z => ?_)
    · rw [if_pos z] at h; exact h
    · rw [if_neg z] at h; exact h
  · subst e
    rw [if_neg (by decide), if_neg (by decide), if_neg (by decide), if_neg (by decide), if_neg (by decide), if_neg (by decide), if_pos rfl] at h
    refine rb_c (fun z => ?_) (fun z => ?_)
    · rw [if_pos z] at h; exact h
    · rw [if_neg z] at h; exact h
  · subst e
    rw [if_neg (by decide), if_neg (by decide), if_neg (by decide), if_neg (by decide), if_neg (by decide), if_neg (by decide), if_neg (by decide), if_pos rfl] at h
    refine br_c (fun z => ?_) (fun z => ?_)
    · rw [if_pos z] at h; exact h
    · rw [if_neg z] at h; exact h
  · obtain ⟨e1, e2, e3, e4, e5, e6, e7, e8⟩ := e
    rw [if_neg e1, if_neg e2, if_neg e3, if_neg e4, if_neg e5, if_neg e6, if_neg e7, if_neg e8] at h
    refine rb_c (fun z => br_c (fun y' => ?_) (fun y' => ?_)) (fun z => ?_)
    · rw [if_pos z, if_pos y'] at h; exact h
    · rw [if_pos z, if_neg y'] at h; exact h
    · rw [if_neg z] at h; exact h

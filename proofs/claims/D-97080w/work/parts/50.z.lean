set_option maxRecDepth 100000
/-! ===== plain: frames, ranges, the street in numbers ===== -/
abbrev pZ : Type := Nat → Int32
def fr (L : List Nat) (Y Y' : gY) : Prop := ∀ i, L.elem i = false → Y' i = Y i
theorem fr.rf {L : List Nat} {Y : gY} : fr L Y Y := fun _ _ => rfl
theorem fr.tr {L : List Nat} {Y Y1 Y2 : gY} (a : fr L Y Y1) (b : fr L Y1 Y2) : fr L Y Y2 := fun i h => (b i h).trans (a i h)
theorem fr.mono {L M : List Nat} {Y Y' : gY} (a : fr L Y Y') (h : L.all (fun i => M.elem i) = true) : fr M Y Y' := fun i hi => a i (by
  cases hl : L.elem i with
  | false => rfl
  | true =>
    have := List.all_eq_true.mp h i (List.elem_iff.mp hl)
    rw [hi] at this
    cases this)
theorem yupd_self (Y : gY) (k i : Nat) (v : Int32) : yupd Y k i v k = upd (Y k) i v := va_up_self _ _ _
theorem yupd_ne (Y : gY) {k i j : Nat} {v : Int32} (h : j ≠ k) : yupd Y k i v j = Y j := va_up_ne _ _ h
theorem yset_self (Y : gY) (k : Nat) (v : Int32) (j : Nat) : yset Y k v k j = v := by unfold yset; rw [va_up_self]
theorem yset_ne (Y : gY) {k j : Nat} {v : Int32} (h : j ≠ k) : yset Y k v j = Y j := va_up_ne _ _ h
theorem fr.up {L : List Nat} {Y Y1 : gY} {k i : Nat} {v : Int32} (a : fr L Y Y1) (h : L.elem k = true) : fr L Y (yupd Y1 k i v) := fun j hj => (yupd_ne Y1 (fun e => by rw [e, h] at hj; cases hj)).trans (a j hj)
theorem fr.set {L : List Nat} {Y Y1 : gY} {k : Nat} {v : Int32} (a : fr L Y Y1) (h : L.elem k = true) : fr L Y (yset Y1 k v) := fun j hj => (yset_ne Y1 (fun e => by rw [e, h] at hj; cases hj)).trans (a j hj)
/-- a branch with the second case first -/
theorem rb_t {c A B : Prop} (h : c) (a : A) : (¬ c → B) ∧ (c → A) := ⟨fun z => absurd h z, fun _ => a⟩
theorem rb_f {c A B : Prop} (h : ¬ c) (b : B) : (¬ c → B) ∧ (c → A) := ⟨fun _ => b, fun z => absurd z h⟩
theorem rb_c {c A B : Prop} (a : c → A) (b : ¬ c → B) : (¬ c → B) ∧ (c → A) := ⟨b, a⟩
def inZ (x lo hi : Int32) : Int32 := if lo ≤ x ∧ x ≤ hi then 1 else 0
theorem in_n (x lo hi : Int32) : narrow .boolean (.int (inZ x lo hi)) = .int (inZ x lo hi) := by unfold inZ; split <;> rfl
theorem in_f {x lo hi : Int32} {A B : Prop} (f : ¬ (lo ≤ x ∧ x ≤ hi) → A) (g : lo ≤ x ∧ x ≤ hi → B) : (inZ x lo hi = 0 → A) ∧ (¬ inZ x lo hi = 0 → B) := by
  unfold inZ
  by_cases h : lo ≤ x ∧ x ≤ hi
  · rw [if_pos h]; exact br_f (by decide) (g h)
  · rw [if_neg h]; exact br_t rfl (f h)
theorem in_t {x lo hi : Int32} {A B : Prop} (f : ¬ (lo ≤ x ∧ x ≤ hi) → A) (g : lo ≤ x ∧ x ≤ hi → B) : (¬ inZ x lo hi = 0 → B) ∧ (inZ x lo hi = 0 → A) := ⟨(in_f f g).2, (in_f f g).1⟩
theorem m_isIn {K : Int32 → gY → Prop} {Y : gY} {x : Int32} {A B C : Int64} (lo hi : Int32) (h : K (inZ x lo hi) Y) (hA : A = x.toInt64 := by rfl) (hB : B = lo.toInt64 := by decide) (hC : C = hi.toInt64 := by first | rfl | decide) : wpX5_isIn K Y A B C := by
  subst hA hB hC
  unfold inZ at h
  refine ⟨fun z => ?_, fun z => ⟨fun y => ?_, fun y => ?_⟩⟩
  · rw [lg_cmp_lt, fa_wide_lt] at z
    rw [if_neg (fun w => (fa_of_lt z).2.1 w.1)] at h; exact h
  · rw [lg_cmp_gt, fa_wide_lt] at y
    rw [if_neg (fun w => (fa_of_lt y).2.1 w.2)] at h; exact h
  · rw [lg_cmp_lt, fa_wide_lt] at z
    rw [lg_cmp_gt, fa_wide_lt] at y
    rw [if_pos ⟨fa_of_nlt z, fa_of_nlt y⟩] at h; exact h
/-- a value of a house: 0 kind, 1 weight, 2 lean, 3 wall, 4 crack, 5 prop, 6 fallen -/
def hz (Z : pZ) (k j : Nat) : Int32 := Z (6 + 7 * k + j)
def hset (Z : pZ) (k j : Nat) (v : Int32) : pZ := upd Z (6 + 7 * k + j) v
theorem hz_self (Z : pZ) (k j : Nat) (v : Int32) : hz (hset Z k j v) k j = v := pk_us
theorem hz_ne (Z : pZ) {k j k' j' : Nat} (v : Int32) (h : k' ≠ k ∨ j' ≠ j) (hj : j < 7) (hj' : j' < 7) : hz (hset Z k j v) k' j' = hz Z k' j' := pk_un (by omega)
theorem hset_lo (Z : pZ) (k j : Nat) (v : Int32) {i : Nat} (h : i < 6) : hset Z k j v i = Z i := pk_un (by omega)
theorem hset_hi (Z : pZ) {k j : Nat} (v : Int32) (hk : k < 9) (hj : j < 7) {i : Nat} (h : 69 ≤ i) : hset Z k j v i = Z i := pk_un (by omega)
theorem hz_ix (k j : Nat) : ((6 : Int32) + (7 * nI k)) + nI j = nI (6 + 7 * k + j) := by
  rw [show (7 : Int32) = nI 7 from rfl, show (6 : Int32) = nI 6 from rfl, pk_mul, nI_add, nI_add]
theorem m_of {K : Int32 → gY → Prop} {Y : gY} {a b : Int32} (k j : Nat) (hk : k < 9) (h : K (hz (Y 0) k j) Y) (hj : j < 7 := by omega) (ha : a = nI k := by rfl) (hb : b = nI j := by rfl) : wpX5_of K Y a b := by
  subst ha hb
  unfold wpX5_of
  rw [hz_ix, nI_clamp (by omega)]
  exact ⟨vp_in_nI (by omega) (by omega), h⟩
theorem m_sets {K : gY → Prop} {Y : gY} {a b v : Int32} (k j : Nat) (hk : k < 9) (h : K (yupd Y 0 (6 + 7 * k + j) v)) (hj : j < 7 := by omega) (ha : a = nI k := by rfl) (hb : b = nI j := by rfl) : wpX5_sets K Y a b v := by
  subst ha hb
  unfold wpX5_sets
  rw [hz_ix, nI_clamp (by omega)]
  exact ⟨vp_in_nI (by omega) (by omega), fun _ e => by rw [e]; exact h⟩
theorem m_off {K : Int32 → gY → Prop} {Y : gY} {a b : Int32} (h : K (if b ≤ a then a - b else b - a) Y) : wpX5_off K Y a b := by
  refine br_c (fun z => ?_) (fun z => ?_)
  · rw [if_pos z] at h; exact h
  · rw [if_neg z] at h; exact h
def absZ (a : Int32) : Int32 := if 0 ≤ a then a else 0 - a
theorem m_off0 {K : Int32 → gY → Prop} {Y : gY} {a : Int32} (h : K (absZ a) Y) : wpX5_off K Y a 0 := by
  refine m_off ?_
  rw [Int32.sub_zero]
  exact h
def heldZ (v lo hi : Int32) : Int32 := if lo ≤ v then (if v ≤ hi then v else hi) else lo
theorem m_held {K : Int32 → gY → Prop} {Y : gY} {v lo hi : Int32} (h : K (heldZ v lo hi) Y) : wpX5_held K Y v lo hi := by
  unfold heldZ at h
  refine br_c (fun z => ?_) (fun z => ?_)
  · rw [if_pos z] at h
    refine br_c (fun y => ?_) (fun y => ?_)
    · rw [if_pos y] at h; exact h
    · rw [if_neg y] at h; exact h
  · rw [if_neg z] at h; exact h
theorem m_stands {K : Int32 → gY → Prop} {Y : gY} {a : Int32} (k : Nat) (hk : k < 9) (h : K (if hz (Y 0) k 6 = 0 then 1 else 0) Y) (ha : a = nI k := by rfl) : wpX5_stands K Y a := by
  refine m_of k 6 hk ?_ (ha := ha)
  refine rb_c (fun z => ?_) (fun z => ?_)
  · rw [if_pos z] at h; exact h
  · rw [if_neg z] at h; exact h
/-- the set of those that stand, among the first -/
def stZ (Z : pZ) : Nat → Int32
  | 0 => 0
  | i + 1 => stZ Z i ||| (if hz Z i 6 = 0 then (1 : Int32) <<< (nI i &&& 31) else 0)
theorem st_br {c : Prop} [Decidable c] {A B : Prop} (f : ¬ c → A) (g : c → B) : ((if c then (1 : Int32) else 0) = 0 → A) ∧ (¬ (if c then (1 : Int32) else 0) = 0 → B) := by
  by_cases h : c
  · rw [if_pos h]; exact br_f (by decide) (g h)
  · rw [if_neg h]; exact br_t rfl (f h)
theorem st_rb {c : Prop} [Decidable c] {A B : Prop} (f : ¬ c → A) (g : c → B) : (¬ (if c then (1 : Int32) else 0) = 0 → B) ∧ ((if c then (1 : Int32) else 0) = 0 → A) := ⟨(st_br f g).2, (st_br f g).1⟩
theorem m_allSt {K : Int32 → gY → Prop} {Y : gY} {n : Nat} (hn : Y 0 0 = nI n) (h9 : n ≤ 9) (h : K (stZ (Y 0) n) Y) : wpX5_allStanding K Y := by
  refine pk_loop (fun f i (x : Int32) => wX5_allStanding_4 K f Y x (nI i)) (fun i x => x = stZ (Y 0) i) n 0 0 (Nat.zero_le _) rfl (fun f s hs => ?_) (fun f i s hi hs kk => ?_)
  · subst hs
    exact ⟨pk_in 0 3069 (by omega), br_t (by rw [show Y 0 (0 : Int32).toNatClampNeg = nI n from hn]; exact nI_le (Nat.le_refl _) (by omega)) h⟩
  · subst hs
    refine ⟨pk_in 0 3069 (by omega), br_f (by rw [show Y 0 (0 : Int32).toNatClampNeg = nI n from hn]; exact nI_ge hi (by omega)) (m_stands i (by omega) (st_br (fun z => ?_) (fun z => ?_)))⟩
    · exact nm_r rfl (nm_r (nI_succ i).symm (kk _ (by rw [stZ, if_neg z])))
    · exact nm_r rfl (nm_r (nI_succ i).symm (kk _ (by rw [stZ, if_pos z])))

set_option maxRecDepth 100000
/-! ===== a day ===== -/
def crZ (th br : Nat → Int32) (Z0 : pZ) : Nat → pZ
  | 0 => Z0
  | i + 1 => if hz (crZ th br Z0 i) i 6 = 0 then (if absZ (th i) - br i ≤ 0 then crZ th br Z0 i else hset (hset (crZ th br Z0 i) i 4 (heldZ (hz (crZ th br Z0 i) i 4 + (absZ (th i) - br i)) 0 999)) i 2 (heldZ (hz (crZ th br Z0 i) i 2 + (if th i ≤ 0 then -1 else 1)) (-50) 50)) else crZ th br Z0 i
def flZ (Z : pZ) (i : Nat) : pZ := hset (hset Z i 6 1) i 5 0
def fcZ (Z0 : pZ) : Nat → pZ
  | 0 => Z0
  | i + 1 => if hz (fcZ Z0 i) i 6 = 0 then (if hz (fcZ Z0 i) i 4 < 100 then fcZ Z0 i else flZ (fcZ Z0 i) i) else fcZ Z0 i
/-- whether one falls with the next one to which it leans -/
def fwZ (Z : pZ) (n i : Nat) (stood : Int32) : Int32 :=
  if 20 ≤ absZ (hz Z i 2) then (if nextZ n i (if hz Z i 2 ≤ 0 then -1 else 1) stood < 0 then 0 else if hz Z (nextZ n i (if hz Z i 2 ≤ 0 then -1 else 1) stood).toNatClampNeg 6 = 0 then 0 else 1) else 0
def swZ (stood : Int32) (n : Nat) (Z0 : pZ) : Nat → pZ × Int32
  | 0 => (Z0, 0)
  | i + 1 => if hz (swZ stood n Z0 i).1 i 6 = 0 then (if fwZ (swZ stood n Z0 i).1 n i stood = 0 then swZ stood n Z0 i else (flZ (swZ stood n Z0 i).1 i, 1)) else swZ stood n Z0 i
def lpZ (stood : Int32) (n : Nat) : Nat → pZ → pZ
  | 0, Z => Z
  | f + 1, Z => if (swZ stood n Z n).2 = 0 then (swZ stood n Z n).1 else lpZ stood n f (swZ stood n Z n).1
def sumZ (Z : pZ) (j : Nat) : Nat → Int32
  | 0 => 0
  | i + 1 => sumZ Z j i + hz Z i j
def endZ (Z : pZ) (n : Nat) : pZ := upd (upd Z 3 (Z 3 + sumZ Z 5 n)) 2 (Z 2 + 1)
def fallZ (Z : pZ) (n : Nat) (stood : Int32) : pZ := lpZ stood n 10 (fcZ Z n)
def dayZ (Z : pZ) (n nt : Nat) : pZ := endZ (fallZ (crZ (fun k => thrZ Z n nt k) (fun k => bearZ Z k) Z n) n (stZ Z n)) n
/-! what stays: the low cells, the texts -/
def loZ (Z Z' : pZ) : Prop := (∀ i, i < 6 → Z' i = Z i) ∧ ∀ i, 69 ≤ i → Z' i = Z i
theorem loZ.rf {Z : pZ} : loZ Z Z := ⟨fun _ _ => rfl, fun _ _ => rfl⟩
theorem loZ.tr {Z Z1 Z2 : pZ} (a : loZ Z Z1) (b : loZ Z1 Z2) : loZ Z Z2 := ⟨fun i h => (b.1 i h).trans (a.1 i h), fun i h => (b.2 i h).trans (a.2 i h)⟩
theorem loZ.hs {Z Z1 : pZ} {k j : Nat} {v : Int32} (a : loZ Z Z1) (hk : k < 9) (hj : j < 7) : loZ Z (hset Z1 k j v) := ⟨fun i h => (hset_lo Z1 k j v h).trans (a.1 i h), fun i h => (hset_hi Z1 v hk hj h).trans (a.2 i h)⟩
theorem loZ.fl {Z Z1 : pZ} {k : Nat} (a : loZ Z Z1) (hk : k < 9) : loZ Z (flZ Z1 k) := (a.hs hk (by omega)).hs hk (by omega)
theorem crZ_lo {th br : Nat → Int32} {Z0 : pZ} : ∀ i, i ≤ 9 → loZ Z0 (crZ th br Z0 i)
  | 0, _ => loZ.rf
  | i + 1, h => by
    have ih := crZ_lo (th := th) (br := br) (Z0 := Z0) i (by omega)
    rw [crZ]
    split
    · split
      · exact ih
      · exact (ih.hs (by omega) (by omega)).hs (by omega) (by omega)
    · exact ih
theorem fcZ_lo {Z0 : pZ} : ∀ i, i ≤ 9 → loZ Z0 (fcZ Z0 i)
  | 0, _ => loZ.rf
  | i + 1, h => by
    have ih := fcZ_lo (Z0 := Z0) i (by omega)
    rw [fcZ]
    split
    · split
      · exact ih
      · exact ih.fl (by omega)
    · exact ih
theorem swZ_lo {stood : Int32} {n : Nat} {Z0 : pZ} : ∀ i, i ≤ 9 → loZ Z0 (swZ stood n Z0 i).1
  | 0, _ => loZ.rf
  | i + 1, h => by
    have ih := swZ_lo (stood := stood) (n := n) (Z0 := Z0) i (by omega)
    rw [swZ]
    split
    · split
      · exact ih
      · exact ih.fl (by omega)
    · exact ih
theorem lpZ_lo {stood : Int32} {n : Nat} (h9 : n ≤ 9) : ∀ (f : Nat) (Z : pZ), loZ Z (lpZ stood n f Z)
  | 0, _ => loZ.rf
  | f + 1, Z => by
    rw [lpZ]
    split
    · exact swZ_lo n h9
    · exact (swZ_lo n h9).tr (lpZ_lo h9 f _)
/-! what holds goes on to hold -/
theorem okH_cong {Z Z' : pZ} {k : Nat} (h : ∀ j, j < 7 → hz Z' k j = hz Z k j) (o : okH Z k) : okH Z' k := by
  unfold okH at o ⊢
  rw [h 0 (by omega), h 1 (by omega), h 2 (by omega), h 3 (by omega), h 4 (by omega), h 5 (by omega), h 6 (by omega)]
  exact o
theorem wdL_cong {Z Z' : pZ} {t : Nat} (h : ∀ i, 69 ≤ i → Z' i = Z i) : ∀ m i, wdL Z' t m i = wdL Z t m i
  | 0, _ => rfl
  | m + 1, i => by
    rw [wdL, wdL, wdL_cong h m (i + 1), show wdF Z' t i = wdF Z t i by unfold wdF; rw [h _ (by omega), h _ (by omega)]]
theorem okT_cong {Z Z' : pZ} {t : Nat} (h : ∀ i, 69 ≤ i → Z' i = Z i) (o : okT Z t) : okT Z' t := by
  obtain ⟨m, o1, o2, o3, o4⟩ := o
  refine ⟨m, o1, (h _ (by omega)).trans o2, ?_, ?_⟩
  · rw [h _ (by omega)]; exact o3
  · rw [h _ (by omega), wdL_cong h]; exact o4
theorem okS.hs {Z Z' : pZ} {n nt : Nat} (o : okS Z n nt) (hl : loZ Z Z') (hh : ∀ k, k < n → okH Z' k) : okS Z' n nt :=
  ⟨(hl.1 0 (by omega)).trans o.1, o.2.1, (hl.1 1 (by omega)).trans o.2.2.1, o.2.2.2.1, hh, fun t ht => okT_cong hl.2 (o.2.2.2.2.2 t ht)⟩
theorem heldZ_in {v lo hi : Int32} (h : lo.toInt ≤ hi.toInt) : lo.toInt ≤ (heldZ v lo hi).toInt ∧ (heldZ v lo hi).toInt ≤ hi.toInt := by
  unfold heldZ
  split
  · rename_i h1
    split
    · rename_i h2
      exact ⟨(fa_le _ _).mp h1, (fa_le _ _).mp h2⟩
    · exact ⟨h, Int.le_refl _⟩
  · exact ⟨Int.le_refl _, h⟩
theorem okH.cr {Z : pZ} {k i : Nat} {a b : Int32} (o : okH Z k) : okH (hset (hset Z i 4 (heldZ a 0 999)) i 2 (heldZ b (-50) 50)) k := by
  by_cases e : k = i
  · subst e
    obtain ⟨o0, o1, o2, o3, o4, o5, o6⟩ := o
    unfold okH
    rw [hz_self, hz_ne (j' := 0) _ _ (Or.inr (by omega)) (by omega) (by omega), hz_ne (j' := 1) _ _ (Or.inr (by omega)) (by omega) (by omega), hz_ne (j' := 3) _ _ (Or.inr (by omega)) (by omega) (by omega), hz_ne (j' := 4) _ _ (Or.inr (by omega)) (by omega) (by omega), hz_ne (j' := 5) _ _ (Or.inr (by omega)) (by omega) (by omega), hz_ne (j' := 6) _ _ (Or.inr (by omega)) (by omega) (by omega),
      hz_self, hz_ne (j' := 0) _ _ (Or.inr (by omega)) (by omega) (by omega), hz_ne (j' := 1) _ _ (Or.inr (by omega)) (by omega) (by omega), hz_ne (j' := 3) _ _ (Or.inr (by omega)) (by omega) (by omega), hz_ne (j' := 5) _ _ (Or.inr (by omega)) (by omega) (by omega), hz_ne (j' := 6) _ _ (Or.inr (by omega)) (by omega) (by omega)]
    exact ⟨o0, o1, heldZ_in (lo := -50) (hi := 50) (by decide), o3, heldZ_in (lo := 0) (hi := 999) (by decide), o5, o6⟩
  · exact okH_cong (fun j hj => by rw [hz_ne _ _ (Or.inl e) (by omega) hj, hz_ne _ _ (Or.inl e) (by omega) hj]) o
theorem okH.fl {Z : pZ} {k i : Nat} (o : okH Z k) : okH (flZ Z i) k := by
  unfold flZ
  by_cases e : k = i
  · subst e
    obtain ⟨o0, o1, o2, o3, o4, o5, o6⟩ := o
    unfold okH
    rw [hz_self, hz_ne (j' := 0) _ _ (Or.inr (by omega)) (by omega) (by omega), hz_ne (j' := 1) _ _ (Or.inr (by omega)) (by omega) (by omega), hz_ne (j' := 2) _ _ (Or.inr (by omega)) (by omega) (by omega), hz_ne (j' := 3) _ _ (Or.inr (by omega)) (by omega) (by omega), hz_ne (j' := 4) _ _ (Or.inr (by omega)) (by omega) (by omega), hz_ne (j' := 6) _ _ (Or.inr (by omega)) (by omega) (by omega),
      hz_self, hz_ne (j' := 0) _ _ (Or.inr (by omega)) (by omega) (by omega), hz_ne (j' := 1) _ _ (Or.inr (by omega)) (by omega) (by omega), hz_ne (j' := 2) _ _ (Or.inr (by omega)) (by omega) (by omega), hz_ne (j' := 3) _ _ (Or.inr (by omega)) (by omega) (by omega), hz_ne (j' := 4) _ _ (Or.inr (by omega)) (by omega) (by omega)]
    exact ⟨o0, o1, o2, o3, o4, ⟨by decide, by decide⟩, Or.inr rfl⟩
  · exact okH_cong (fun j hj => by rw [hz_ne _ _ (Or.inl e) (by omega) hj, hz_ne _ _ (Or.inl e) (by omega) hj]) o
theorem crZ_ok {th br : Nat → Int32} {Z0 : pZ} {k : Nat} (o : okH Z0 k) : ∀ i, okH (crZ th br Z0 i) k
  | 0 => o
  | i + 1 => by
    have ih := crZ_ok (th := th) (br := br) o i
    rw [crZ]
    split
    · split
      · exact ih
      · exact ih.cr
    · exact ih
theorem fcZ_ok {Z0 : pZ} {k : Nat} (o : okH Z0 k) : ∀ i, okH (fcZ Z0 i) k
  | 0 => o
  | i + 1 => by
    have ih := fcZ_ok o i
    rw [fcZ]
    split
    · split
      · exact ih
      · exact ih.fl
    · exact ih
theorem swZ_ok {stood : Int32} {n : Nat} {Z0 : pZ} {k : Nat} (o : okH Z0 k) : ∀ i, okH (swZ stood n Z0 i).1 k
  | 0 => o
  | i + 1 => by
    have ih := swZ_ok (stood := stood) (n := n) o i
    rw [swZ]
    split
    · split
      · exact ih
      · exact ih.fl
    · exact ih
theorem lpZ_ok {stood : Int32} {n k : Nat} : ∀ (f : Nat) (Z : pZ), okH Z k → okH (lpZ stood n f Z) k
  | 0, _, o => o
  | f + 1, Z, o => by
    rw [lpZ]
    split
    · exact swZ_ok o n
    · exact lpZ_ok f _ (swZ_ok o n)
theorem okS.day {Z : pZ} {n nt : Nat} (o : okS Z n nt) : okS (dayZ Z n nt) n nt := by
  have h9 := o.2.1
  have hl : loZ Z (fallZ (crZ (fun k => thrZ Z n nt k) (fun k => bearZ Z k) Z n) n (stZ Z n)) := ((crZ_lo n h9).tr (fcZ_lo n h9)).tr (lpZ_lo h9 10 _)
  have h1 := o.hs hl (fun k hk => lpZ_ok 10 _ (fcZ_ok (crZ_ok (o.2.2.2.2.1 k hk) n) n))
  unfold dayZ endZ
  generalize fallZ (crZ (fun k => thrZ Z n nt k) (fun k => bearZ Z k) Z n) n (stZ Z n) = Z3 at *
  have g : ∀ i, i ≠ 2 → i ≠ 3 → upd (upd Z3 3 (Z3 3 + sumZ Z3 5 n)) 2 (Z3 2 + 1) i = Z3 i := fun i a b => (pk_un a).trans (pk_un b)
  exact ⟨(g 0 (by omega) (by omega)).trans h1.1, h9, (g 1 (by omega) (by omega)).trans h1.2.2.1, h1.2.2.2.1, fun k hk => okH_cong (fun j hj => g _ (by omega) (by omega)) (h1.2.2.2.2.1 k hk), fun t ht => okT_cong (fun i hi => g i (by omega) (by omega)) (h1.2.2.2.2.2 t ht)⟩

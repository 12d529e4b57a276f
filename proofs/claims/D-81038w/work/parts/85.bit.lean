/-! bits of machine ints -/
theorem i32_nat (n : Nat) : i32 (n : Int) = nI n := by
  unfold i32 nI
  rw [Int32.ofInt_eq_ofNat]
theorem i32_shr (a s : Int) : i32 (bShr a s) = i32 a >>> (i32 s &&& 31) := i32_t _
theorem i32_bAnd (a b : Int) : i32 (bAnd a b) = i32 a &&& i32 b := i32_t _
theorem i32_bOr (a b : Int) : i32 (bOr a b) = i32 a ||| i32 b := i32_t _
theorem i32_bXor (a b : Int) : i32 (bXor a b) = i32 a ^^^ i32 b := i32_t _
theorem i32_shl (a s : Int) : i32 (bShl a s) = i32 a <<< (i32 s &&& 31) := i32_t _
theorem can_bAnd (a b : Int) : can (bAnd a b) := can_t _
/-- bit k of a number -/
def btI (a : Int) (k : Nat) : Bool := bt (i32 a) k
theorem btI_shr (a : Int) {n : Nat} (h : n < 32) : btI (bShr a n) 0 = btI a n := by
  unfold btI
  rw [i32_shr, i32_nat, b_sshr n h _ (by omega)]
  simp [h]
theorem b_1 : ∀ i, i < 32 → bt (i32 1) i = decide (i = 0) := by decide +kernel
theorem and1 (a : Int) : bAnd a 1 = 1 ↔ btI a 0 = true := by
  have e : bAnd a 1 = 1 ↔ i32 a &&& i32 1 = i32 1 := by
    rw [← i32_bAnd, i32_eq (can_bAnd _ _) (by decide)]
  rw [e]
  unfold btI
  constructor
  · intro h
    have := congrArg (fun x => bt x 0) h
    simp only [b_and, b_1 0 (by omega)] at this
    simpa using this
  · intro h
    apply b_ext
    intro i hi
    rw [b_and, b_1 i hi]
    by_cases h0 : i = 0
    · rw [h0, h]; simp
    · simp [h0]
theorem blw_bit {M : Mo} {s t : Int} (h0 : 0 ≤ t) (h1 : t < 32) : blw M s t ↔ btI (mAb M s) t.toNat = true := by
  unfold blw
  have e := btI_shr (mAb M s) (n := t.toNat) (by omega)
  rw [show ((t.toNat : Nat) : Int) = t by omega] at e
  rw [and1, e]
theorem bit_in {set m : Int} (h : bAnd set (bXor m (-1)) = 0) {k : Nat} (hk : k < 32) (hb : btI set k = true) : btI m k = true := by
  have e : i32 set &&& (i32 m ^^^ i32 (-1)) = i32 0 := by
    rw [← i32_bXor, ← i32_bAnd, h]
  have := congrArg (fun x => bt x k) e
  simp only [b_and, b_xor] at this
  unfold btI at hb ⊢
  rw [hb, show i32 (-1) = (-1 : Int32) from by decide, b_m1 k hk, show i32 0 = (0 : Int32) from by decide, b_0] at this
  simpa using this
theorem lo_uniq {M : Mo} (hM : WM M) {set s t : Int} (s0 : 0 ≤ s) (s1 : s < mSorts M) (t0 : 0 ≤ t) (t1 : t < mSorts M) (hs : isLo M set s) (ht : isLo M set t) : s = t := by
  have b1 := hM.1
  have one : ∀ s t, 0 ≤ s → s < mSorts M → 0 ≤ t → t < mSorts M → isLo M set s → isLo M set t → blw M t s := by
    intro s t s0 s1 t0 t1 hs ht
    rw [blw_bit s0 (by omega)]
    refine bit_in ht.2 (by omega) ?_
    have := hs.1
    have e := btI_shr set (n := s.toNat) (by omega)
    rw [show ((s.toNat : Nat) : Int) = s by omega] at e
    rw [and1, e] at this
    exact this
  exact hM.anti s0 s1 t0 t1 (one t s t0 t1 s0 s1 ht hs) (one s t s0 s1 t0 t1 hs ht)
theorem loS_v (M : Mo) (set : Int) (n : Nat) : (loS M set n = -2 ∧ ∀ s : Int, 0 ≤ s → s < n → ¬ isLo M set s) ∨ (0 ≤ loS M set n ∧ loS M set n < n ∧ isLo M set (loS M set n)) := by
  induction n with
  | zero => left; exact ⟨rfl, fun s h0 h1 => by omega⟩
  | succ n ih =>
    simp only [loS]
    by_cases hc : bAnd (bShr set n) 1 = 1 ∧ bAnd set (bXor (mAb M n) (-1)) = 0
    · rw [if_pos hc]
      right
      exact ⟨by omega, by omega, hc⟩
    · rw [if_neg hc]
      rcases ih with h | h
      · left
        refine ⟨h.1, fun s s0 s1 => ?_⟩
        by_cases e : s = n
        · rw [e]; exact hc
        · exact h.2 s s0 (by omega)
      · right
        exact ⟨h.1, by omega, h.2.2⟩

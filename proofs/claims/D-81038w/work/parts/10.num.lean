/-! ints of the machine as Ints: canonical ones are those in range -/
def i32 (v : Int) : Int32 := Int32.ofInt v
def i64 (v : Int) : Int64 := Int64.ofInt v
abbrev can (v : Int) : Prop := -2147483648 ≤ v ∧ v < 2147483648
abbrev can8 (v : Int) : Prop := -9223372036854775808 ≤ v ∧ v < 9223372036854775808
abbrev isB (v : Int) : Prop := v = 0 ∨ v = 1
def w32 (v : Int) : Int := (i32 v).toInt
def w64 (v : Int) : Int := (i64 v).toInt
theorem can_t (x : Int32) : can x.toInt := ⟨x.le_toInt, x.toInt_lt⟩
theorem can8_t (x : Int64) : can8 x.toInt := ⟨x.le_toInt, x.toInt_lt⟩
theorem can_w32 (v : Int) : can (w32 v) := can_t _
theorem can8_w64 (v : Int) : can8 (w64 v) := can8_t _
theorem can_8 {v : Int} (h : can v) : can8 v := by unfold can at h; unfold can8; omega
theorem can_B {v : Int} (h : isB v) : can v := by unfold isB at h; unfold can; omega
theorem can_ite {c : Prop} [Decidable c] {a b : Int} (ha : can a) (hb : can b) : can (if c then a else b) := by split <;> assumption
theorem can8_ite {c : Prop} [Decidable c] {a b : Int} (ha : can8 a) (hb : can8 b) : can8 (if c then a else b) := by split <;> assumption
theorem isB_ite {c : Prop} [Decidable c] {a b : Int} (ha : isB a) (hb : isB b) : isB (if c then a else b) := by split <;> assumption
theorem w32_id {v : Int} (h1 : -2147483648 ≤ v) (h2 : v < 2147483648) : w32 v = v := Int32.toInt_ofInt_of_le h1 h2
theorem w64_id {v : Int} (h1 : -9223372036854775808 ≤ v) (h2 : v < 9223372036854775808) : w64 v = v := Int64.toInt_ofInt_of_le h1 h2
theorem i32_w32 (v : Int) : i32 (w32 v) = i32 v := Int32.ofInt_toInt _
theorem i64_w64 (v : Int) : i64 (w64 v) = i64 v := Int64.ofInt_toInt _
theorem i32_t (x : Int32) : i32 x.toInt = x := Int32.ofInt_toInt _
theorem i64_t (x : Int64) : i64 x.toInt = x := Int64.ofInt_toInt _
theorem t_i32 {v : Int} (h : can v) : (i32 v).toInt = v := w32_id h.1 h.2
theorem t_i64 {v : Int} (h : can8 v) : (i64 v).toInt = v := w64_id h.1 h.2
theorem w32_w32 (v : Int) : w32 (w32 v) = w32 v := t_i32 (can_w32 v)
theorem i32_lt {a b : Int} (ha : can a) (hb : can b) : i32 a < i32 b ↔ a < b := by rw [Int32.lt_iff_toInt_lt, t_i32 ha, t_i32 hb]
theorem i32_le {a b : Int} (ha : can a) (hb : can b) : i32 a ≤ i32 b ↔ a ≤ b := by rw [Int32.le_iff_toInt_le, t_i32 ha, t_i32 hb]
theorem i32_eq {a b : Int} (ha : can a) (hb : can b) : i32 a = i32 b ↔ a = b := by rw [← Int32.toInt_inj, t_i32 ha, t_i32 hb]
theorem i64_lt {a b : Int} (ha : can8 a) (hb : can8 b) : i64 a < i64 b ↔ a < b := by rw [Int64.lt_iff_toInt_lt, t_i64 ha, t_i64 hb]
theorem i64_eq {a b : Int} (ha : can8 a) (hb : can8 b) : i64 a = i64 b ↔ a = b := by rw [← Int64.toInt_inj, t_i64 ha, t_i64 hb]
theorem i32_add (a b : Int) : i32 a + i32 b = i32 (w32 (a + b)) := by rw [i32_w32]; exact (Int32.ofInt_add a b).symm
theorem i32_sub (a b : Int) : i32 a - i32 b = i32 (w32 (a - b)) := by rw [i32_w32]; exact (Int32.ofInt_sub a b).symm
theorem i32_mul (a b : Int) : i32 a * i32 b = i32 (w32 (a * b)) := by rw [i32_w32]; exact (Int32.ofInt_mul a b).symm
theorem i32_neg (a : Int) : - i32 a = i32 (w32 (-a)) := by rw [i32_w32]; exact (Int32.ofInt_neg a).symm
theorem i64_add (a b : Int) : i64 a + i64 b = i64 (w64 (a + b)) := by rw [i64_w64]; exact (Int64.ofInt_add a b).symm
theorem i64_mul (a b : Int) : i64 a * i64 b = i64 (w64 (a * b)) := by rw [i64_w64]; exact (Int64.ofInt_mul a b).symm
/-- bits -/
def bAnd (a b : Int) : Int := (i32 a &&& i32 b).toInt
def bOr (a b : Int) : Int := (i32 a ||| i32 b).toInt
def bXor (a b : Int) : Int := (i32 a ^^^ i32 b).toInt
def bShl (a b : Int) : Int := (i32 a <<< (i32 b &&& 31)).toInt
def bShr (a b : Int) : Int := (i32 a >>> (i32 b &&& 31)).toInt
def bUsh (a b : Int) : Int := (((i32 a).toUInt32 >>> ((i32 b).toUInt32 &&& Int32.toUInt32 31)).toInt32).toInt
def b8 (a : Int) : Int := ((i32 a).toInt8.toInt32).toInt
def lAnd (a b : Int) : Int := (i64 a &&& i64 b).toInt
def lOr (a b : Int) : Int := (i64 a ||| i64 b).toInt
def lXor (a b : Int) : Int := (i64 a ^^^ i64 b).toInt
def lShl (a b : Int) : Int := (i64 a <<< ((i32 b).toInt64 &&& 63)).toInt
def lShr (a b : Int) : Int := (i64 a >>> ((i32 b).toInt64 &&& 63)).toInt
def cmpI (a b : Int) : Int := if a < b then -1 else if a = b then 0 else 1
theorem can_cmp (a b : Int) : can (cmpI a b) := by unfold cmpI can; split <;> (try split) <;> decide
theorem isB_and {a b : Int} (ha : isB a) (hb : isB b) : isB (bAnd a b) := by
  rcases ha with rfl | rfl <;> rcases hb with rfl | rfl <;> decide
theorem isB_or {a b : Int} (ha : isB a) (hb : isB b) : isB (bOr a b) := by
  rcases ha with rfl | rfl <;> rcases hb with rfl | rfl <;> decide
/-- a byte, by its value -/
abbrev isb8 (v : Int) : Prop := -128 ≤ v ∧ v < 128
theorem b8_in (a : Int) : isb8 (b8 a) := by
  unfold b8
  rw [Int8.toInt_toInt32]
  exact ⟨Int8.le_toInt _, Int8.toInt_lt _⟩
theorem can_b8 {a : Int} (h : isb8 a) : can a := by unfold isb8 at h; unfold can; omega
theorem i32_i8 {v : Int} (h : isb8 v) : (i32 v).toInt8.toInt32 = i32 v := by
  rw [← Int32.toInt_inj, Int8.toInt_toInt32, Int32.toInt_toInt8, t_i32 (can_b8 h)]
  exact Int.bmod_eq_of_le (by have := h.1; omega) (by have := h.2; omega)
theorem i32_tmod {a b : Int} (ha : can a) (hb : can b) (h0 : b ≠ 0) : i32 a - i32 a / i32 b * i32 b = i32 (a.tmod b) := by
  have e : i32 a / i32 b = i32 (a.tdiv b) := by
    rw [← Int32.toInt_inj, Int32.toInt_div, t_i32 ha, t_i32 hb]
    show _ = w32 _
    unfold w32 i32
    rw [Int32.toInt_ofInt]
  rw [e]
  unfold i32
  rw [← Int32.ofInt_mul, ← Int32.ofInt_sub]
  congr 1
  have := Int.tdiv_mul_add_tmod a b
  omega
theorem i32_tdiv {a b : Int} (ha : can a) (hb : can b) : i32 a / i32 b = i32 (w32 (a.tdiv b)) := by
  rw [← Int32.toInt_inj, Int32.toInt_div, t_i32 ha, t_i32 hb, i32_w32]
  unfold i32
  rw [Int32.toInt_ofInt]
theorem i64_tdiv {a b : Int} (ha : can8 a) (hb : can8 b) : i64 a / i64 b = i64 (w64 (a.tdiv b)) := by
  rw [← Int64.toInt_inj, Int64.toInt_div, t_i64 ha, t_i64 hb, i64_w64]
  unfold i64
  rw [Int64.toInt_ofInt]
theorem can_tmod {a b : Int} (ha : can a) (hb : can b) : can (a.tmod b) := by
  unfold can at *
  have h1 := Int.natAbs_tmod a b
  have h2 : a.natAbs % b.natAbs ≤ a.natAbs := Nat.mod_le _ _
  by_cases h : 0 ≤ a
  · have h3 := Int.tmod_nonneg b h
    omega
  · have h3 : a.tmod b ≤ 0 := by
      have := Int.tmod_nonneg b (a := -a) (by omega)
      rw [Int.neg_tmod] at this
      omega
    omega
theorem i32_i64 {a : Int} (h : can a) : (i32 a).toInt64 = i64 a := by
  rw [← Int64.toInt_inj, Int32.toInt_toInt64, t_i32 h, t_i64 (can_8 h)]

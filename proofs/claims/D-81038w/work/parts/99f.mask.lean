/-! some of a row's elements, by the bits of a number -/
def pk {α : Type} : Nat → List α → List α
  | _, [] => []
  | m, e :: es => if m % 2 = 1 then e :: pk (m / 2) es else pk (m / 2) es
def pc : Nat → Nat → Nat
  | 0, _ => 0
  | k + 1, m => m % 2 + pc k (m / 2)
theorem pk_len {α : Type} (m : Nat) (E : List α) : (pk m E).length = pc E.length m := by
  induction E generalizing m with
  | nil => rfl
  | cons e es ih =>
    simp only [pk, List.length_cons, pc]
    split
    · rw [List.length_cons, ih]; omega
    · rw [ih]; omega
theorem pk_map {α β : Type} (f : α → β) (m : Nat) (E : List α) : pk m (E.map f) = (pk m E).map f := by
  induction E generalizing m with
  | nil => rfl
  | cons e es ih =>
    simp only [List.map_cons, pk]
    split
    · rw [ih, List.map_cons]
    · rw [ih]
theorem pk_mem {α : Type} {m : Nat} {E : List α} {x : α} (h : x ∈ pk m E) : x ∈ E := by
  induction E generalizing m with
  | nil => cases h
  | cons e es ih =>
    simp only [pk] at h
    split at h
    · rcases List.mem_cons.mp h with rfl | h
      · exact List.mem_cons_self ..
      · exact List.mem_cons_of_mem _ (ih h)
    · exact List.mem_cons_of_mem _ (ih h)
theorem bt_step : ∀ m : Fin 64, ∀ s : Fin 64, s.val &&& m.val = s.val → (m.val ^^^ s.val) % 2 = (m.val % 2 + s.val % 2) % 2 ∧ (m.val ^^^ s.val) / 2 = (m.val / 2) ^^^ (s.val / 2) ∧ (s.val % 2 = 1 → m.val % 2 = 1) ∧ (s.val / 2) &&& (m.val / 2) = s.val / 2 ∧ m.val ^^^ s.val < 64 := by decide +kernel
theorem bt_join : ∀ m : Fin 64, ∀ s : Fin 32, s.val &&& (m.val / 2) = s.val → (2 * s.val) &&& m.val = 2 * s.val ∧ (m.val % 2 = 1 → (2 * s.val + 1) &&& m.val = 2 * s.val + 1) := by decide +kernel
theorem pk_spl {E : List Tr} : ∀ {m s : Nat}, m < 64 → s &&& m = s → spl (pk m E) (pk s E) (pk (m ^^^ s) E) := by
  induction E with
  | nil => intro m s _ _; exact ⟨rfl, rfl⟩
  | cons e es ih =>
    intro m s hm hs
    have hsm : s ≤ m := by rw [← hs]; exact Nat.and_le_right
    obtain ⟨b1, b2, b3, b4, b5⟩ := bt_step ⟨m, hm⟩ ⟨s, by omega⟩ hs
    simp only at b1 b2 b3 b4
    have := ih (m := m / 2) (s := s / 2) (by omega) b4
    simp only [pk]
    rw [b2]
    by_cases h1 : m % 2 = 1
    · rw [if_pos h1]
      by_cases h2 : s % 2 = 1
      · rw [if_pos h2, if_neg (by omega)]
        exact Or.inl ⟨_, rfl, this⟩
      · rw [if_neg h2, if_pos (by omega)]
        exact Or.inr ⟨_, rfl, this⟩
    · have h2 : ¬ s % 2 = 1 := fun z => h1 (b3 z)
      rw [if_neg h1, if_neg h2, if_neg (by omega)]
      exact this
theorem spl_pk {E : List Tr} : ∀ {m : Nat} {S R : List Tr}, m < 64 → spl (pk m E) S R → ∃ s, s &&& m = s ∧ S = pk s E ∧ R = pk (m ^^^ s) E := by
  induction E with
  | nil => intro m S R hm h; exact ⟨0, by simp, h.1, h.2⟩
  | cons e es ih =>
    intro m S R hm h
    simp only [pk] at h
    by_cases h1 : m % 2 = 1
    · rw [if_pos h1] at h
      rcases h with ⟨S', rfl, h⟩ | ⟨R', rfl, h⟩
      · obtain ⟨s, hs, e1, e2⟩ := ih (m := m / 2) (by omega) h
        have hsm : s ≤ m / 2 := by rw [← hs]; exact Nat.and_le_right
        have hj := (bt_join ⟨m, hm⟩ ⟨s, by omega⟩ hs).2 h1
        simp only at hj
        obtain ⟨b1, b2, b3, b4, b5⟩ := bt_step ⟨m, hm⟩ ⟨2 * s + 1, by omega⟩ hj
        simp only at b1 b2
        refine ⟨2 * s + 1, hj, ?_, ?_⟩
        · simp only [pk]
          rw [if_pos (by omega), show (2 * s + 1) / 2 = s by omega, ← e1]
        · simp only [pk]
          rw [if_neg (by omega), b2, show (2 * s + 1) / 2 = s by omega, ← e2]
      · obtain ⟨s, hs, e1, e2⟩ := ih (m := m / 2) (by omega) h
        have hsm : s ≤ m / 2 := by rw [← hs]; exact Nat.and_le_right
        have hj := (bt_join ⟨m, hm⟩ ⟨s, by omega⟩ hs).1
        simp only at hj
        obtain ⟨b1, b2, b3, b4, b5⟩ := bt_step ⟨m, hm⟩ ⟨2 * s, by omega⟩ hj
        simp only at b1 b2
        refine ⟨2 * s, hj, ?_, ?_⟩
        · simp only [pk]
          rw [if_neg (by omega), show (2 * s) / 2 = s by omega, ← e1]
        · simp only [pk]
          rw [if_pos (by omega), b2, show (2 * s) / 2 = s by omega, ← e2]
    · rw [if_neg h1] at h
      obtain ⟨s, hs, e1, e2⟩ := ih (m := m / 2) (by omega) h
      have hsm : s ≤ m / 2 := by rw [← hs]; exact Nat.and_le_right
      have hj := (bt_join ⟨m, hm⟩ ⟨s, by omega⟩ hs).1
      simp only at hj
      obtain ⟨b1, b2, b3, b4, b5⟩ := bt_step ⟨m, hm⟩ ⟨2 * s, by omega⟩ hj
      simp only at b1 b2
      refine ⟨2 * s, hj, ?_, ?_⟩
      · simp only [pk]
        rw [if_neg (by omega), show (2 * s) / 2 = s by omega, ← e1]
      · simp only [pk]
        rw [if_neg (by omega), b2, show (2 * s) / 2 = s by omega, ← e2]
/-- the machine's ways to go through masks -/
theorem mk_bit : ∀ m : Fin 64, ∀ j : Fin 7, (bAnd (bShr ((m.val : Nat) : Int) ((j.val : Nat) : Int)) 1 = 1 ↔ (m.val / 2 ^ j.val) % 2 = 1) ∧ (bShr ((m.val : Nat) : Int) ((j.val : Nat) : Int) = 0 ↔ m.val / 2 ^ j.val = 0) := by decide +kernel
theorem mk_xor : ∀ m : Fin 64, ∀ s : Fin 64, bXor ((m.val : Nat) : Int) ((s.val : Nat) : Int) = ((m.val ^^^ s.val : Nat) : Int) := by decide +kernel
theorem mk_next : ∀ m : Fin 64, ∀ s : Fin 64, 0 < s.val → bAnd (w32 (((s.val : Nat) : Int) - 1)) ((m.val : Nat) : Int) = (((s.val - 1) &&& m.val : Nat) : Int) := by decide +kernel
theorem mk_cnt : ∀ m : Fin 64, bCnt ((m.val : Nat) : Int) = ((pc 6 m.val : Nat) : Int) := by decide +kernel
/-- no submask is passed over -/
theorem mk_gap : ∀ m : Fin 64, ∀ s : Fin 64, 0 < s.val → s.val &&& m.val = s.val → ∀ u : Fin 64, u.val &&& m.val = u.val → u.val < s.val → u.val ≤ (s.val - 1) &&& m.val := by decide +kernel
theorem mk_sub : ∀ m : Fin 64, ∀ s : Fin 64, ((s.val - 1) &&& m.val) &&& m.val = (s.val - 1) &&& m.val := by decide +kernel
/-- side by side: the first ones of those that are left -/
theorem mk_may : ∀ n : Fin 7, ∀ a : Fin 7, a.val ≤ n.val → ∀ s : Fin 64, s.val &&& (2 ^ n.val - 2 ^ a.val) = s.val →
    ((bAnd ((2 ^ n.val - 2 ^ a.val : Nat) : Int) (w32 (-((2 ^ n.val - 2 ^ a.val : Nat) : Int))) = 0) ∨ (((((s.val : Nat) : Int) = 0) ∧ (bAnd ((s.val : Nat) : Int) (w32 (((s.val : Nat) : Int) + (bAnd ((2 ^ n.val - 2 ^ a.val : Nat) : Int) (w32 (-((2 ^ n.val - 2 ^ a.val : Nat) : Int)))))) = 0)) ∨ (¬ (((s.val : Nat) : Int) = 0) ∧ ((bAnd ((s.val : Nat) : Int) (w32 (-((s.val : Nat) : Int))) = bAnd ((2 ^ n.val - 2 ^ a.val : Nat) : Int) (w32 (-((2 ^ n.val - 2 ^ a.val : Nat) : Int)))) ∧ (bAnd ((s.val : Nat) : Int) (w32 (((s.val : Nat) : Int) + (bAnd ((2 ^ n.val - 2 ^ a.val : Nat) : Int) (w32 (-((2 ^ n.val - 2 ^ a.val : Nat) : Int)))))) = 0))))
      ↔ ∃ c : Fin 7, a.val ≤ c.val ∧ c.val ≤ n.val ∧ s.val = 2 ^ c.val - 2 ^ a.val) := by decide +kernel
theorem run_sub : ∀ n : Fin 7, ∀ a : Fin 7, ∀ c : Fin 7, a.val ≤ c.val → c.val ≤ n.val → (2 ^ c.val - 2 ^ a.val) &&& (2 ^ n.val - 2 ^ a.val) = 2 ^ c.val - 2 ^ a.val ∧ (2 ^ n.val - 2 ^ a.val) ^^^ (2 ^ c.val - 2 ^ a.val) = 2 ^ n.val - 2 ^ c.val ∧ 2 ^ n.val - 2 ^ a.val < 64 := by decide +kernel
theorem pk_run {α : Type} : ∀ (E : List α) (n a : Nat), a ≤ n → n ≤ E.length → pk (2 ^ n - 2 ^ a) E = (E.drop a).take (n - a) := by
  intro E
  induction E with
  | nil => intro n a _ _; simp [pk]
  | cons e es ih =>
    intro n a h1 h2
    cases n with
    | zero =>
      have : a = 0 := by omega
      subst this
      have z : ∀ l : List α, pk 0 l = [] := by
        intro l
        induction l with
        | nil => rfl
        | cons x l ih2 => simp [pk, ih2]
      simp [z]
    | succ n =>
      simp only [List.length_cons] at h2
      cases a with
      | zero =>
        have e1 : (2 ^ (n + 1) - 2 ^ 0) % 2 = 1 := by
          have : 1 ≤ 2 ^ n := Nat.one_le_two_pow
          rw [Nat.pow_succ]
          omega
        have e2 : (2 ^ (n + 1) - 2 ^ 0) / 2 = 2 ^ n - 2 ^ 0 := by
          have : 1 ≤ 2 ^ n := Nat.one_le_two_pow
          rw [Nat.pow_succ]
          omega
        simp only [pk]
        rw [if_pos e1, e2, ih n 0 (by omega) (by omega)]
        simp
      | succ a =>
        have p : 2 ^ a ≤ 2 ^ n := Nat.pow_le_pow_right (by omega) (by omega)
        have e1 : ¬ (2 ^ (n + 1) - 2 ^ (a + 1)) % 2 = 1 := by
          rw [Nat.pow_succ, Nat.pow_succ]
          omega
        have e2 : (2 ^ (n + 1) - 2 ^ (a + 1)) / 2 = 2 ^ n - 2 ^ a := by
          rw [Nat.pow_succ, Nat.pow_succ]
          omega
        simp only [pk]
        rw [if_neg e1, e2, ih n a (by omega) (by omega)]
        simp

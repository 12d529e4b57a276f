/-! room: all that can be made -/
section
variable {M : Mo} {R : Ru}
def yOf (M : Mo) (st : ST) (x : Tr) : Tr := mk M (lab x) ((kids x).map (came st))
def parL (r : Tr) : List Tr := if (kids r).length ≤ 6 then (subl (kids r)).map (fun S => trN (lab r) S) else []
def unL (M : Mo) : List Tr := (List.range 50).map (fun o => unT M ((o : Nat) : Int))
def covA (M : Mo) (st : ST) (x : Tr) : List Tr := x :: (if kids x = [] then [] else yOf M st x :: if 2 ≤ (kids x).length then parL (yOf M st x) else [])
def cov (M : Mo) (st : ST) : List Tr := unL M ++ (stA st).flatMap (covA M st)
def CV (M : Mo) (st : ST) (u : Tr) : Prop := (∃ o, 0 ≤ o ∧ o < mOps M ∧ mUn M o ≠ -2 ∧ u = unT M o) ∨ u ∈ stA st ∨ gP M st u
def wt (u : Tr) : Nat := min 39 (kids u).length
theorem CV_cov (hM : WM M) {st : ST} (hA : ∀ x ∈ stA st, NF M x) {u : Tr} (h : CV M st u) : u ∈ cov M st := by
  unfold cov
  have inA : ∀ x ∈ stA st, u ∈ covA M st x → u ∈ unL M ++ (stA st).flatMap (covA M st) := fun x hx h => List.mem_append_right _ (List.mem_flatMap.mpr ⟨x, hx, h⟩)
  have y1 : ∀ x ∈ stA st, kids x ≠ [] → yOf M st x ∈ covA M st x := by
    intro x hx hk
    unfold covA
    rw [if_neg hk]
    exact List.mem_cons_of_mem _ (List.mem_cons_self ..)
  rcases h with ⟨o, o0, o1, o2, e⟩ | h | ⟨x, hx, x0, hk, hc, e⟩ | ⟨r, ⟨x, hx, x0, hk, hc, er⟩, hl, S, Q, hs, h2, e⟩
  · refine List.mem_append_left _ (List.mem_map.mpr ⟨o.toNat, List.mem_range.mpr ?_, ?_⟩)
    · have := hM.2.2.1; omega
    · rw [e, Int.toNat_of_nonneg o0]
  · exact inA u h (by unfold covA; exact List.mem_cons_self ..)
  · exact inA x hx (by rw [e]; exact y1 x hx hk)
  · refine inA x hx ?_
    have l2 : 2 ≤ (kids x).length := by
      have n0 : (kids x).length ≠ 0 := fun z => hk (List.length_eq_zero_iff.mp z)
      rcases Classical.em ((kids x).length = 1) with z | z
      · exfalso
        cases q : kids x with
        | nil => exact hk q
        | cons a b =>
          rw [q] at z
          simp only [List.length_cons] at z
          have : b = [] := List.length_eq_zero_iff.mp (by omega)
          subst this
          have m := mk_one hM (hA x hx) x0 (by rw [q]; rfl) (came st a)
          rw [er, q] at hs
          simp only [List.map_cons, List.map_nil] at hs
          have := (spl_mem hs).2.2
          omega
      · omega
    have er2 : r = yOf M st x := er
    unfold covA
    rw [if_neg hk, if_pos l2, ← er2]
    refine List.mem_cons_of_mem _ (List.mem_cons_of_mem _ ?_)
    unfold parL
    rw [if_pos hl]
    exact List.mem_map.mpr ⟨S, subl_spl hs, e.symm⟩
theorem subl_sum (es : List Tr) : 2 * ((subl es).map List.length).sum = es.length * 2 ^ es.length := by
  induction es with
  | nil => rfl
  | cons e es ih =>
    simp only [subl, List.map_append, List.sum_append, List.map_map, List.length_cons]
    have : (List.map (List.length ∘ fun x => e :: x) (subl es)).sum = ((subl es).map List.length).sum + (subl es).length := by
      generalize subl es = l
      induction l with
      | nil => rfl
      | cons a b ih => simp only [List.map_cons, List.sum_cons, Function.comp, List.length_cons] at ih ⊢; omega
    rw [this, subl_len]
    rw [Nat.pow_succ, Nat.add_mul, ← Nat.mul_assoc]
    omega
theorem pow_6 {n : Nat} (h : n ≤ 6) : 2 ^ n ≤ 64 ∧ n * 2 ^ n ≤ 384 := by
  rcases n with _ | _ | _ | _ | _ | _ | _ | n
  all_goals first | exact ⟨by decide, by decide⟩ | omega
theorem parL_len (r : Tr) : (parL r).length ≤ 64 ∧ wt r + ((parL r).map wt).sum ≤ 198 := by
  unfold parL
  split
  · rename_i h
    refine ⟨by rw [List.length_map, subl_len]; exact (pow_6 h).1, ?_⟩
    have h1 := subl_sum (kids r)
    have h2 := (pow_6 h).2
    have h3 : (((subl (kids r)).map (fun S => trN (lab r) S)).map wt).sum ≤ ((subl (kids r)).map List.length).sum := by
      rw [List.map_map]
      generalize subl (kids r) = l
      induction l with
      | nil => simp
      | cons a b ih =>
        simp only [List.map_cons, List.sum_cons, Function.comp] at ih ⊢
        have : wt (trN (lab r) a) ≤ a.length := by unfold wt; rw [kids_N]; exact Nat.min_le_right ..
        omega
    have h4 : wt r ≤ 6 := by unfold wt; omega
    omega
  · refine ⟨by simp, ?_⟩
    have h4 : wt r ≤ 39 := by unfold wt; omega
    simp
    omega
theorem covA_len (hM : WM M) {st : ST} {x : Tr} (h : NF M x) (h0 : 0 ≤ lab x ∨ kids x = []) : (covA M st x).length ≤ 2 + 64 * (if 2 ≤ (kids x).length then 1 else 0) ∧ ((covA M st x).map wt).sum ≤ 2 + 235 * (if 2 ≤ (kids x).length then 1 else 0) := by
  unfold covA
  have wx : wt x ≤ (kids x).length ∧ wt x ≤ 39 := by unfold wt; omega
  by_cases hk : kids x = []
  · rw [if_pos hk]
    rw [hk] at wx ⊢
    simp at wx ⊢
    omega
  · rw [if_neg hk]
    have x0 := h0.resolve_right hk
    by_cases h2 : 2 ≤ (kids x).length
    · rw [if_pos h2, if_pos h2]
      have p := parL_len (yOf M st x)
      simp only [List.length_cons, List.map_cons, List.sum_cons]
      omega
    · rw [if_neg h2, if_neg h2]
      have n0 : (kids x).length ≠ 0 := fun z => hk (List.length_eq_zero_iff.mp z)
      have wy : wt (yOf M st x) ≤ 1 := by
        unfold wt yOf
        cases q : kids x with
        | nil => exact absurd q hk
        | cons a b =>
          rw [q] at h2
          simp only [List.length_cons] at h2
          have : b = [] := List.length_eq_zero_iff.mp (by omega)
          subst this
          simp only [List.map_cons, List.map_nil]
          have m := mk_one hM h x0 (by rw [q]; rfl) (came st a)
          omega
      simp only [List.length_cons, List.map_cons, List.sum_cons, List.length_nil, List.map_nil, List.sum_nil]
      omega
theorem cov_len (hM : WM M) {st : ST} (hA : ∀ x ∈ stA st, NF M x) : (cov M st).length ≤ 50 + 2 * (stA st).length + 64 * rowsN (stA st) ∧ ((cov M st).map wt).sum ≤ 2 * (stA st).length + 235 * rowsN (stA st) := by
  unfold cov
  rw [List.length_append, List.map_append, List.sum_append]
  have u1 : (unL M).length = 50 := by unfold unL; rw [List.length_map, List.length_range]
  have u2 : ((unL M).map wt).sum = 0 := by
    unfold unL
    rw [List.map_map]
    have : ∀ l : List Nat, (l.map (wt ∘ fun o => unT M ((o : Nat) : Int))).sum = 0 := by
      intro l
      induction l with
      | nil => rfl
      | cons a b ih =>
        simp only [List.map_cons, List.sum_cons, Function.comp] at ih ⊢
        have : wt (unT M ((a : Nat) : Int)) = 0 := by unfold wt unT; rw [kids_N]; rfl
        omega
    exact this _
  have key : ∀ l : List Tr, (∀ x ∈ l, NF M x) → (l.flatMap (covA M st)).length ≤ 2 * l.length + 64 * rowsN l ∧ ((l.flatMap (covA M st)).map wt).sum ≤ 2 * l.length + 235 * rowsN l := by
    intro l
    induction l with
    | nil => intro _; simp
    | cons x l ih =>
      intro hl
      have r := ih (fun y hy => hl y (List.mem_cons_of_mem _ hy))
      have nx := hl x (List.mem_cons_self ..)
      have c := covA_len (st := st) hM nx (by
        rcases Classical.em (0 ≤ lab x) with z | z
        · exact Or.inl z
        · exact Or.inr (kids_var nx (by omega)))
      rw [List.flatMap_cons, List.length_append, List.map_append, List.sum_append, show x :: l = [x] ++ l from rfl, rowsN_app, List.length_append]
      have e : rowsN [x] = if 2 ≤ (kids x).length then 1 else 0 := by
        unfold rowsN
        rw [List.filter_cons]
        by_cases z : 2 ≤ (kids x).length
        · rw [if_pos (decide_eq_true z), if_pos z]; rfl
        · rw [if_neg (by simpa using z), if_neg z]; rfl
      rw [e]
      simp only [List.length_singleton]
      omega
  have k := key (stA st) hA
  omega
/-- so much, and no more -/
theorem WI_len (hM : WM M) {a0 r0 : Int} {st : ST} (h : WI M R a0 r0 1 1 st) : ((cov M st).length : Int) ≤ 50 + 2 * a0 + 9202 + 32 * (r0 + 4601) ∧ (2 * ((cov M st).map wt).sum : Int) ≤ 4 * a0 + 18404 + 235 * (r0 + 4601) := by
  obtain ⟨-, -, w3, w4, w5, w6, w7⟩ := h
  have c := cov_len (st := st) hM w7
  omega
theorem nodup_sum {α : Type} (f : α → Nat) : ∀ {l m : List α}, l.Nodup → (∀ x ∈ l, x ∈ m) → (l.map f).sum ≤ (m.map f).sum := by
  intro l
  induction l with
  | nil => intro m _ _; simp
  | cons a l ih =>
    intro m hn hm
    rw [List.nodup_cons] at hn
    obtain ⟨m1, m2, e⟩ := List.append_of_mem (hm a (List.mem_cons_self ..))
    have r := ih (m := m1 ++ m2) hn.2 (fun x hx => by
      have z := hm x (List.mem_cons_of_mem _ hx)
      rw [e] at z
      rcases List.mem_append.mp z with w | w
      · exact List.mem_append_left _ w
      · rcases List.mem_cons.mp w with w | w
        · rw [w] at hx; exact absurd hx hn.1
        · exact List.mem_append_right _ w)
    rw [e]
    simp only [List.map_append, List.sum_append, List.map_cons, List.sum_cons] at r ⊢
    omega
end

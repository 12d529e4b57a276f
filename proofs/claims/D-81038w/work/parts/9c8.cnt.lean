/-! how many are made -/
section
variable {M : Mo} {R : Ru} {mo : Int}
def rowsN (l : List Tr) : Nat := (l.filter (fun u => decide (2 ≤ (kids u).length))).length
theorem rowsN_app (a b : List Tr) : rowsN (a ++ b) = rowsN a + rowsN b := by
  unfold rowsN
  rw [List.filter_append, List.length_append]
theorem subs_rows {t : Tr} (h : isT t) : 2 * rowsN (subs t) + 1 ≤ trS t := by
  have key : ∀ t, isT t → 2 * rowsN (subs t) + 1 ≤ trS t := by
    refine tr_ind ?_
    intro c ts hc hT ih
    rw [subs_N, trS_N]
    have sum : 2 * rowsN (ts.flatMap subs) + ts.length ≤ (ts.map trS).sum := by
      clear hT
      induction ts with
      | nil => simp [rowsN]
      | cons a l ih2 =>
        have h1 := ih a (List.mem_cons_self ..)
        have h2 := ih2 (fun t ht => ih t (List.mem_cons_of_mem _ ht))
        rw [List.flatMap_cons, rowsN_app, List.map_cons, List.sum_cons, List.length_cons]
        omega
    have hd : rowsN (trN c ts :: ts.flatMap subs) = (if 2 ≤ ts.length then 1 else 0) + rowsN (ts.flatMap subs) := by
      unfold rowsN
      rw [List.filter_cons, kids_N]
      by_cases z : 2 ≤ ts.length
      · rw [if_pos (decide_eq_true z), if_pos z, List.length_cons]; omega
      · rw [if_neg (by simpa using z), if_neg z]; omega
    rw [hd]
    split
    · omega
    · omega
  exact key t h
theorem filA_len {ρ : Env} {t : Tr} (h : isT t) : (filA M ρ t).length ≤ trS t := by
  unfold filA
  rw [List.length_map, ← subs_len h]
  exact List.length_filter_le _ _
theorem isort_one (u : Tr) : isort [u] = [u] := by
  have h := isort_len [u]
  have m : u ∈ isort [u] := isort_mem.mpr (List.mem_cons_self ..)
  cases q : isort [u] with
  | nil => rw [q] at m; cases m
  | cons a l =>
    rw [q] at h m
    simp only [List.length_cons, List.length_nil] at h
    have : l = [] := List.length_eq_zero_iff.mp (by omega)
    subst this
    simp only [List.mem_singleton] at m
    rw [m]
theorem mk_one (hM : WM M) {t : Tr} (h : NF M t) (h0 : 0 ≤ lab t) (hl : (kids t).length = 1) (u : Tr) : (kids (mk M (lab t) [u])).length = 1 := by
  rcases h.ok with ok | ok
  · omega
  obtain ⟨-, o1, o2, -, -⟩ := ok
  have ha : ¬ mAs M (lab t) ≠ 0 := by
    intro ha
    rw [if_pos ha] at o2
    omega
  have hu : mUn M (lab t) = -2 := by
    rcases Classical.em (mUn M (lab t) = -2) with z | z
    · exact z
    · have := unit2 hM h h0 (by omega) z
      omega
  rw [mk_eq]
  unfold fltR mk2
  rw [if_neg ha, if_pos hu]
  unfold mk3
  rw [kids_N]
  split
  · rw [isort_one]; rfl
  · rfl
theorem filA_rows (hM : WM M) {ρ : Env} {t : Tr} (ht : okT M t) : 2 * rowsN (filA M ρ t) + 1 ≤ trS t := by
  have h1 := subs_rows ht.1.1
  have h2 : rowsN (filA M ρ t) ≤ rowsN (subs t) := by
    have key : ∀ l : List Tr, (∀ q ∈ l, okT M q) → rowsN ((l.filter (fun q => decide (0 ≤ lab q) && !(kids q).isEmpty)).map (fil M ρ)) ≤ rowsN l := by
      intro l
      induction l with
      | nil => intro _; exact Nat.le_refl _
      | cons q l ih =>
        intro hl
        have r := ih (fun x hx => hl x (List.mem_cons_of_mem _ hx))
        have oq := hl q (List.mem_cons_self ..)
        have e1 : rowsN (q :: l) = (if 2 ≤ (kids q).length then 1 else 0) + rowsN l := by
          unfold rowsN
          rw [List.filter_cons]
          by_cases z : 2 ≤ (kids q).length
          · rw [if_pos (decide_eq_true z), if_pos z, List.length_cons]; omega
          · rw [if_neg (by simpa using z), if_neg z]; omega
        rw [e1, List.filter_cons]
        by_cases z : (decide (0 ≤ lab q) && !(kids q).isEmpty) = true
        · rw [if_pos z, List.map_cons]
          simp only [Bool.and_eq_true, decide_eq_true_eq, Bool.not_eq_true', List.isEmpty_eq_false_iff] at z
          have e2 : ∀ (a : Tr) (b : List Tr), rowsN (a :: b) = (if 2 ≤ (kids a).length then 1 else 0) + rowsN b := by
            intro a b
            unfold rowsN
            rw [List.filter_cons]
            by_cases z : 2 ≤ (kids a).length
            · rw [if_pos (decide_eq_true z), if_pos z, List.length_cons]; omega
            · rw [if_neg (by simpa using z), if_neg z]; omega
          rw [e2]
          by_cases w : 2 ≤ (kids q).length
          · rw [if_pos w]
            split
            · omega
            · omega
          · have l1 : (kids q).length = 1 := by
              have : (kids q).length ≠ 0 := fun e => z.2 (List.length_eq_zero_iff.mp e)
              omega
            have : (kids (fil M ρ q)).length = 1 := by
              rw [fil_mk oq.1.1 z.1 z.2]
              cases e : kids q with
              | nil => rw [e] at l1; simp at l1
              | cons a b =>
                rw [e] at l1
                simp only [List.length_cons] at l1
                have : b = [] := List.length_eq_zero_iff.mp (by omega)
                subst this
                simp only [List.map_cons, List.map_nil]
                exact mk_one hM oq.1 z.1 (by rw [e]; rfl) _
            rw [this, if_neg (by omega)]
            omega
        · rw [if_neg z]
          omega
    exact key (subs t) (fun q hq => subs_NF ht hq)
  omega
/-- what holds of what is known: the memo, what is at rest, how many -/
def WI (M : Mo) (R : Ru) (a0 r0 ka kr : Int) (st : ST) : Prop :=
  Ms M R st ∧ (∀ t, 0 ≤ lab t → stM st t ≠ .nil → DR M st (stM st t) ∧ okT M (stM st t)) ∧ ((stA st).length : Int) ≤ a0 + stF st + stS st + ka ∧ 2 * (rowsN (stA st) : Int) ≤ r0 + stF st + stS st + kr ∧ stF st ≤ 4000 ∧ stS st ≤ 600 ∧ ∀ x ∈ stA st, NF M x
theorem leS_same {st st' : ST} (e1 : stM st' = stM st) (e2 : ∀ u ∈ stA st, u ∈ stA st') : leS st st' := ⟨fun t _ _ => by rw [e1], e2⟩
theorem WI.to {a0 r0 ka kr ka' kr' : Int} {st st' : ST} (h : WI M R a0 r0 ka kr st) (e1 : stM st' = stM st) (e2 : ∀ u ∈ stA st, u ∈ stA st') (h1 : ((stA st').length : Int) ≤ a0 + stF st' + stS st' + ka') (h2 : 2 * (rowsN (stA st') : Int) ≤ r0 + stF st' + stS st' + kr') (h3 : stF st' ≤ 4000) (h4 : stS st' ≤ 600) (h5 : ∀ x ∈ stA st', NF M x) : WI M R a0 r0 ka' kr' st' := by
  refine ⟨?_, fun t t0 ht => ?_, h1, h2, h3, h4, h5⟩
  · have := h.1
    unfold Ms at this ⊢
    rw [e1]
    exact this
  · rw [e1] at ht ⊢
    have a := h.2.1 t t0 ht
    exact ⟨a.1.le (leS_same e1 e2) a.2.1.1, a.2⟩
theorem WI.weak {a0 r0 ka kr ka' kr' : Int} {st : ST} (h : WI M R a0 r0 ka kr st) (h1 : ka ≤ ka') (h2 : kr ≤ kr') : WI M R a0 r0 ka' kr' st :=
  ⟨h.1, h.2.1, by have := h.2.2.1; omega, by have := h.2.2.2.1; omega, h.2.2.2.2⟩
theorem occ_sub {v : Int} {t q : Tr} (ht : isT t) (hq : q ∈ subs t) (h : occ v q) : occ v t := by
  have key : ∀ t, isT t → ∀ q ∈ subs t, occ v q → occ v t := by
    refine tr_ind ?_
    intro c ts hc hT ih q hq h
    have it : isT (trN c ts) := isT_N.mpr ⟨hc, hT⟩
    rcases subs_top it hq with e | ⟨k, hk, z⟩
    · rw [e] at h; exact h
    · have hk2 := hk
      rw [kids_N] at hk2
      exact occ_kid it hk (ih k hk2 q z h)
  exact key t ht q hq h
/-- counted, and filled: whatever its size -/
theorem cp_wi0 (hM : WM M) {a0 r0 n : Int} {t : Tr} {ρ : Env} {st st1 : ST} {u : Unit} (ht : okT M t) (hn : (trS t : Int) ≤ n) (hρ : ∀ v : Int, 0 ≤ v → occ v t → okT M (ρ v)) (h : WI M R a0 r0 0 0 st) (h1 : cntE n st (.inr (u, st1))) : WI M R a0 r0 0 (-1) (addA st1 (filA M ρ t)) ∧ leS st (addA st1 (filA M ρ t)) ∧ WI M R a0 r0 0 0 st1 ∧ leS st st1 := by
  obtain ⟨hf, e1⟩ := cntE_ok h1
  have eM : stM (addA st1 (filA M ρ t)) = stM st := by rw [e1]; rfl
  have eA : stA (addA st1 (filA M ρ t)) = filA M ρ t ++ stA st := by rw [e1]; rfl
  have eF : stF (addA st1 (filA M ρ t)) = stF st + n := by rw [e1]; rfl
  have eS : stS (addA st1 (filA M ρ t)) = stS st := by rw [e1]; rfl
  have sub : ∀ u ∈ stA st, u ∈ stA (addA st1 (filA M ρ t)) := fun u hu => by rw [eA]; exact List.mem_append_right _ hu
  have le := leS_same eM sub
  have l1 := filA_len (M := M) (ρ := ρ) ht.1.1
  have l2 := filA_rows hM (ρ := ρ) ht
  have hw := h
  obtain ⟨-, -, w3, w4, w5, w6, w7⟩ := hw
  refine ⟨h.to eM sub ?_ ?_ (by rw [eF]; omega) (by rw [eS]; omega) ?_, le, h.to (by rw [e1]) (fun u hu => by rw [e1]; exact hu) ?_ ?_ ?_ ?_ ?_, leS_same (by rw [e1]) (fun u hu => by rw [e1]; exact hu)⟩
  · rw [eA, eF, eS, List.length_append]; omega
  · rw [eA, eF, eS, rowsN_app]; omega
  · intro x hx
    rw [eA] at hx
    rcases List.mem_append.mp hx with hx | hx
    · unfold filA at hx
      obtain ⟨q, hq, rfl⟩ := List.mem_map.mp hx
      have hq1 := (List.mem_filter.mp hq).1
      have oq := subs_NF ht hq1
      exact (fil_all hM q oq.1.1 oq.1 (fun v v0 ho => hρ v v0 (occ_sub ht.1.1 hq1 ho))).1
    · exact w7 x hx
  · rw [e1]; simp only [stA, stF, stS] at w3 ⊢; omega
  · rw [e1]; simp only [stA, stF, stS] at w4 ⊢; omega
  · rw [e1]; exact hf
  · rw [e1]; exact w6
  · rw [e1]; exact w7
/-- counting and filling -/
theorem cp_wi (hM : WM M) {a0 r0 n : Int} {t v : Tr} {ρ : Env} {st st1 st2 : ST} {u : Unit} (ht : okT M t) (hn : (trS t : Int) ≤ n) (hρ : ∀ v : Int, 0 ≤ v → occ v t → okT M (ρ v) ∧ KH M st (ρ v)) (h : WI M R a0 r0 0 0 st) (h1 : cntE n st (.inr (u, st1))) (h2 : putE M t ρ st1 (.inr (v, st2))) : WI M R a0 r0 0 (-1) st2 ∧ leS st st2 ∧ KH M st2 v ∧ okT M v ∧ putB M ρ t = some v ∧ stM st2 = stM st := by
  obtain ⟨ev, hs, e2, eb⟩ := putE_ok h2
  obtain ⟨w, le, -, -⟩ := cp_wi0 hM ht hn (fun v v0 ho => (hρ v v0 ho).1) h h1
  obtain ⟨-, e1⟩ := cntE_ok h1
  have nf := (fil_all hM t ht.1.1 ht.1 (fun v v0 ho => (hρ v v0 ho).1)).1
  rw [← e2] at w le
  have eA : stA st2 = filA M ρ t ++ stA st := by rw [e2, e1]; rfl
  refine ⟨w, le, ?_, by rw [ev]; exact ⟨nf, hs⟩, eb, by rw [e2, e1]; rfl⟩
  rw [ev]
  intro q hq
  rcases fil_KH ht hM hρ q hq with z | (z | z) | z
  · exact Or.inl z
  · exact Or.inr (Or.inl (by rw [eA]; exact List.mem_append_left _ z))
  · exact Or.inr (Or.inl (le.2 q z))
  · exact Or.inr (Or.inr ⟨z.1.le le, z.2.le le (subs_isT nf.1 hq)⟩)
end

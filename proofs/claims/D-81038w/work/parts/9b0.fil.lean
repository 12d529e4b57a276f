/-! a term with what is bound in it -/
def filL (M : Mo) (ρ : Env) : Tr → List Tr
  | .nest c l => [if c < 0 then ρ (-1 - c) else match filL M ρ l with
    | [] => .nest c l
    | a :: r => mk M c (a :: r)]
  | .append a l => filL M ρ a ++ filL M ρ l
  | _ => []
def fil (M : Mo) (ρ : Env) (t : Tr) : Tr := (filL M ρ t).headD .nil
theorem filL_1 (M : Mo) (ρ : Env) {t : Tr} (h : isT t) : filL M ρ t = [fil M ρ t] := by
  obtain ⟨c, ts, rfl, -, -⟩ := isT_ex h
  rfl
theorem filL_L (M : Mo) (ρ : Env) {ts : List Tr} (h : ∀ t ∈ ts, isT t) : filL M ρ (trL ts) = ts.map (fil M ρ) := by
  induction ts with
  | nil => rfl
  | cons t r ih =>
    simp only [trL, filL, List.map_cons]
    rw [filL_1 M ρ (h t (List.mem_cons_self ..)), ih (fun u hu => h u (List.mem_cons_of_mem _ hu))]
    rfl
theorem fil_N (M : Mo) (ρ : Env) (c : Int) {ts : List Tr} (h : ∀ t ∈ ts, isT t) : fil M ρ (trN c ts) = if c < 0 then ρ (-1 - c) else if ts = [] then trN c ts else mk M c (ts.map (fil M ρ)) := by
  unfold fil
  simp only [trN, filL, List.headD_cons]
  rw [filL_L M ρ h]
  by_cases hc : c < 0
  · rw [if_pos hc, if_pos hc]
  · rw [if_neg hc, if_neg hc]
    match ts with
    | [] => rfl
    | a :: r => rfl
theorem fil_var {M : Mo} {ρ : Env} {t : Tr} (h : isT t) (hv : lab t < 0) : fil M ρ t = ρ (-1 - lab t) := by
  obtain ⟨c, ts, rfl, -, hk⟩ := isT_ex h
  rw [lab_N] at hv ⊢
  rw [fil_N M ρ c hk, if_pos hv]
theorem fil_con {M : Mo} {ρ : Env} {t : Tr} (h : isT t) (hv : 0 ≤ lab t) (hk : kids t = []) : fil M ρ t = t := by
  obtain ⟨c, ts, rfl, -, hT⟩ := isT_ex h
  rw [lab_N] at hv
  rw [kids_N] at hk
  rw [fil_N M ρ c hT, if_neg (by omega), if_pos hk]
theorem fil_mk {M : Mo} {ρ : Env} {t : Tr} (h : isT t) (hv : 0 ≤ lab t) (hk : kids t ≠ []) : fil M ρ t = mk M (lab t) ((kids t).map (fil M ρ)) := by
  obtain ⟨c, ts, rfl, -, hT⟩ := isT_ex h
  rw [lab_N] at hv
  rw [kids_N] at hk
  rw [fil_N M ρ c hT, if_neg (by omega), if_neg hk, lab_N, kids_N]
/-! sizes and depths of what is made -/
theorem flat_sum (o : Int) (ts : List Tr) (h : ∀ t ∈ ts, isT t) : ((flat o ts).map trS).sum ≤ (ts.map trS).sum := by
  induction ts with
  | nil => simp [flat]
  | cons t r ih =>
    have := ih (fun u hu => h u (List.mem_cons_of_mem _ hu))
    rw [flat_cons, List.map_append, List.sum_append, List.map_cons, List.sum_cons]
    obtain ⟨c, us, rfl, -, -⟩ := isT_ex (h t (List.mem_cons_self ..))
    rw [lab_N, kids_N, trS_N]
    split
    · omega
    · simp only [List.map_cons, List.map_nil, List.sum_cons, List.sum_nil, trS_N]; omega
theorem insR_sum (t : Tr) (l : List Tr) : ((insR t l).map trS).sum = trS t + (l.map trS).sum := by
  induction l with
  | nil => simp [insR]
  | cons e r ih =>
    simp only [insR]
    split
    · simp only [List.map_cons, List.sum_cons, ih]; omega
    · simp only [List.map_cons, List.sum_cons]
theorem foldI_sum (ts acc : List Tr) : ((ts.foldl (fun acc t => insR t acc) acc).map trS).sum = (ts.map trS).sum + (acc.map trS).sum := by
  induction ts generalizing acc with
  | nil => simp
  | cons t r ih =>
    simp only [List.foldl_cons]
    rw [ih, insR_sum]
    simp only [List.map_cons, List.sum_cons]; omega
theorem rev_sum (l : List Tr) : (l.reverse.map trS).sum = (l.map trS).sum := by
  induction l with
  | nil => rfl
  | cons a l ih => simp only [List.reverse_cons, List.map_append, List.sum_append, ih, List.map_cons, List.map_nil, List.sum_cons, List.sum_nil]; omega
theorem isort_sum (ts : List Tr) : ((isort ts).map trS).sum = (ts.map trS).sum := by
  unfold isort
  rw [rev_sum, foldI_sum]
  simp
theorem filter_sum (p : Tr → Bool) (l : List Tr) : ((l.filter p).map trS).sum ≤ (l.map trS).sum := by
  induction l with
  | nil => simp
  | cons a l ih =>
    rw [List.filter_cons]
    split
    · simp only [List.map_cons, List.sum_cons]; omega
    · simp only [List.map_cons, List.sum_cons]; omega
theorem mk3_S (M : Mo) (o : Int) (ts : List Tr) : trS (mk3 M o ts) = 1 + (ts.map trS).sum := by
  unfold mk3
  rw [trS_N]
  split
  · rw [isort_sum]
  · rfl
theorem mk_le {M : Mo} {o : Int} {ts : List Tr} (h : ∀ t ∈ ts, isT t) : trS (mk M o ts) ≤ 1 + (ts.map trS).sum := by
  rw [mk_eq]
  have hf : ((fltR M o ts).map trS).sum ≤ (ts.map trS).sum := by
    unfold fltR
    split
    · exact flat_sum o ts h
    · exact Nat.le_refl _
  unfold mk2
  split
  · rw [mk3_S]; omega
  · have := filter_sum (fun t => decide (lab t ≠ mUn M o)) (fltR M o ts)
    split
    · unfold unT; rw [trS_N]; simp
    · rename_i t e
      rw [e] at this
      simp only [List.map_cons, List.map_nil, List.sum_cons, List.sum_nil] at this
      omega
    · rename_i a b r e
      rw [e] at this
      rw [mk3_S]; omega
theorem flat_ge {M : Mo} {o : Int} {ts : List Tr} {t : Tr} (ht : t ∈ ts) (hT : isT t) : trS t ≤ 1 + ((flat o ts).map trS).sum := by
  obtain ⟨c, us, e, -, -⟩ := isT_ex hT
  have key : ((if lab t = o then kids t else [t]).map trS).sum ≤ ((flat o ts).map trS).sum := by
    obtain ⟨a, b, rfl⟩ := List.append_of_mem ht
    rw [flat_app, flat_cons, List.map_append, List.sum_append, List.map_append, List.sum_append]
    omega
  by_cases h : lab t = o
  · rw [if_pos h] at key
    rw [e, kids_N] at key
    rw [e, trS_N]; omega
  · rw [if_neg h] at key
    simp only [List.map_cons, List.map_nil, List.sum_cons, List.sum_nil] at key
    omega
theorem mk_ge {M : Mo} (hM : WM M) {o : Int} {ts : List Tr} (h : mkOk M o ts) {t : Tr} (ht : t ∈ ts) : trS t ≤ trS (mk M o ts) := by
  have nf := NF_mk hM h
  have pos := trS_pos nf.1
  have hT := (h.2.2.2 t ht)
  have hflt := fltR_ok h
  rw [mk_eq] at pos ⊢
  have ge : trS t ≤ 1 + ((fltR M o ts).map trS).sum := by
    unfold fltR
    split
    · exact flat_ge (M := M) ht hT.1
    · have := trS_mem ht; omega
  unfold mk2 at pos ⊢
  by_cases hu : mUn M o = -2
  · rw [if_pos hu, mk3_S]; exact ge
  · rw [if_neg hu] at pos ⊢
    -- those that go are units
    have units : ∀ l : List Tr, (∀ u ∈ l, NF M u) → ((l.filter fun t => decide (lab t ≠ mUn M o)).map trS).sum + (l.length - (l.filter fun t => decide (lab t ≠ mUn M o)).length) = (l.map trS).sum := by
      intro l
      induction l with
      | nil => intro _; rfl
      | cons a l ih =>
        intro hl
        have i1 := ih (fun u hu => hl u (List.mem_cons_of_mem _ hu))
        have hlen := List.length_filter_le (fun t => decide (lab t ≠ mUn M o)) l
        rw [List.filter_cons]
        by_cases e : lab a = mUn M o
        · have : trS a = 1 := by
            rw [(unit_is hM h.1 h.2.1 hu (hl a (List.mem_cons_self ..))).mp e]
            unfold unT; rw [trS_N]; rfl
          rw [if_neg (by simpa using e)]
          simp only [List.map_cons, List.sum_cons, List.length_cons]
          omega
        · rw [if_pos (by simpa using e)]
          simp only [List.map_cons, List.sum_cons, List.length_cons]
          omega
    have un := units (fltR M o ts) hflt.1
    -- t itself
    by_cases e : lab t = mUn M o
    · have : trS t = 1 := by
        rw [(unit_is hM h.1 h.2.1 hu hT).mp e]
        unfold unT; rw [trS_N]; rfl
      omega
    · have core : (if lab t = o then kids t else [t]) = (if lab t = o then kids t else [t]).filter fun t => decide (lab t ≠ mUn M o) := by
        symm
        rw [List.filter_eq_self]
        intro u hu'
        by_cases z : lab t = o
        · rw [if_pos z] at hu'
          have := kids_nu hu h.1 hT z u hu'
          simpa using this
        · rw [if_neg z] at hu'
          simp only [List.mem_singleton] at hu'
          rw [hu']
          simpa using e
      have sub : ((if mAs M o ≠ 0 ∧ lab t = o then kids t else [t]).map trS).sum ≤ (((fltR M o ts).filter fun t => decide (lab t ≠ mUn M o)).map trS).sum := by
        unfold fltR
        by_cases has : mAs M o ≠ 0
        · rw [if_pos has]
          have e1 : (if mAs M o ≠ 0 ∧ lab t = o then kids t else [t]) = (if lab t = o then kids t else [t]) := by
            by_cases z : lab t = o
            · rw [if_pos ⟨has, z⟩, if_pos z]
            · rw [if_neg (fun y => z y.2), if_neg z]
          rw [e1, core]
          obtain ⟨a, b, rfl⟩ := List.append_of_mem ht
          rw [flat_app, flat_cons, List.filter_append, List.filter_append, List.map_append, List.sum_append, List.map_append, List.sum_append]
          omega
        · rw [if_neg has, if_neg (fun y => has y.1)]
          have : t ∈ ts.filter fun t => decide (lab t ≠ mUn M o) := List.mem_filter.mpr ⟨ht, by simpa using e⟩
          have := trS_mem this
          simp only [List.map_cons, List.map_nil, List.sum_cons, List.sum_nil]
          omega
      have bound : trS t ≤ 1 + (((fltR M o ts).filter fun t => decide (lab t ≠ mUn M o)).map trS).sum := by
        by_cases z : mAs M o ≠ 0 ∧ lab t = o
        · rw [if_pos z] at sub
          have := trS_eta hT
          omega
        · rw [if_neg z] at sub
          simp only [List.map_cons, List.map_nil, List.sum_cons, List.sum_nil] at sub
          omega
      match hfl : (fltR M o ts).filter fun t => decide (lab t ≠ mUn M o) with
      | [] =>
        rw [hfl] at sub bound
        simp only [List.map_nil, List.sum_nil] at sub bound
        rw [hfl] at pos
        dsimp only at pos ⊢
        omega
      | [a] =>
        rw [hfl] at sub
        dsimp only
        by_cases z : mAs M o ≠ 0 ∧ lab t = o
        · -- a row of two and more would be left
          exfalso
          rcases hT.ok with y | y
          · have := h.1; omega
          · have y3 := y.2.2.1
            rw [z.2, if_pos z.1] at y3
            have ck := core
            rw [if_pos z.2] at ck
            have le2 : (kids t).length ≤ ((fltR M o ts).filter fun t => decide (lab t ≠ mUn M o)).length := by
              unfold fltR
              rw [if_pos z.1]
              obtain ⟨a, b, rfl⟩ := List.append_of_mem ht
              rw [flat_app, flat_cons, if_pos z.2, List.filter_append, List.filter_append, List.length_append, List.length_append, ← ck]
              omega
            rw [hfl] at le2
            simp only [List.length_cons, List.length_nil] at le2
            omega
        · rw [if_neg z] at sub
          simp only [List.map_cons, List.map_nil, List.sum_cons, List.sum_nil] at sub
          omega
      | a :: b :: r =>
        rw [hfl] at bound
        dsimp only
        rw [mk3_S]
        exact bound
theorem mk_deep {M : Mo} {o : Int} {ts : List Tr} {n : Nat} (hn : 1 ≤ n) (h : ∀ t ∈ ts, isT t ∧ trD t ≤ n) : trD (mk M o ts) ≤ n + 1 := by
  have el : ∀ t ∈ fltR M o ts, trD t ≤ n := by
    intro t ht
    unfold fltR at ht
    split at ht
    · obtain ⟨u, hu, z | z⟩ := flat_mem.mp ht
      · obtain ⟨c, us, e, -, -⟩ := isT_ex (h u hu).1
        have h1 := (h u hu).2
        rw [e] at z h1
        rw [kids_N] at z
        obtain ⟨m, rfl⟩ : ∃ m, n = m + 1 := ⟨n - 1, by omega⟩
        have := (trD_N c us m).mp h1 t z.2
        omega
      · rw [z.2]; exact (h u hu).2
    · exact (h t ht).2
  have m3 : ∀ l : List Tr, (∀ t ∈ l, trD t ≤ n) → trD (mk3 M o l) ≤ n + 1 := by
    intro l hl
    unfold mk3
    rw [trD_N]
    intro t ht
    split at ht
    · exact hl t (isort_mem.mp ht)
    · exact hl t ht
  rw [mk_eq]
  unfold mk2
  split
  · exact m3 _ el
  · have fl : ∀ t ∈ (fltR M o ts).filter (fun t => decide (lab t ≠ mUn M o)), trD t ≤ n := fun t ht => el t (List.mem_filter.mp ht).1
    split
    · unfold unT
      rw [trD_N]
      intro t ht; cases ht
    · rename_i t e
      have := fl t (by rw [e]; simp)
      omega
    · rename_i a b r e
      refine m3 _ (fun t ht => fl t (by rw [e]; exact ht))
/-- what a term becomes: its form, its size, its depth -/
theorem mkOk_map {M : Mo} {t : Tr} {g : Tr → Tr} (ht : NF M t) (h0 : 0 ≤ lab t) (h : ∀ u ∈ kids t, NF M (g u)) : mkOk M (lab t) ((kids t).map g) := by
  refine ⟨h0, ht.op h0, ?_, fun u hu => ?_⟩
  · rw [List.length_map]
    rcases ht.ok with z | z
    · omega
    · have z3 := z.2.2.1
      split at z3
      · rename_i ha; rw [if_pos ha]; exact z3.1
      · rename_i ha; rw [if_neg ha]; exact z3
  · obtain ⟨v, hv, rfl⟩ := List.mem_map.mp hu
    exact h v hv
theorem fil_all {M : Mo} (hM : WM M) {ρ : Env} : ∀ t, isT t → NF M t → (∀ v : Int, 0 ≤ v → occ v t → NF M (ρ v) ∧ trS (ρ v) ≤ 40) → NF M (fil M ρ t) ∧ trS (fil M ρ t) ≤ 40 * trS t ∧ trD (fil M ρ t) ≤ trD t + 39 := by
  refine tr_ind ?_
  intro c ts hc hT ih nf hρ
  have hk := (NF_N.mp nf).2.2
  by_cases h0 : c < 0
  · rw [fil_var nf.1 (by rw [lab_N]; exact h0), lab_N]
    have := hρ (-1 - c) (by omega) ((occ_var nf (by rw [lab_N]; exact h0)).mpr (by rw [lab_N]))
    have h1 := trS_pos nf.1
    have h2 := trD_S this.1.1
    have h3 : 1 ≤ trD (trN c ts) := by simp [trN, trD]
    exact ⟨this.1, by omega, by omega⟩
  · by_cases hn : ts = []
    · rw [fil_con nf.1 (by rw [lab_N]; omega) (by rw [kids_N]; exact hn)]
      exact ⟨nf, by omega, by omega⟩
    · rw [fil_mk nf.1 (by rw [lab_N]; omega) (by rw [kids_N]; exact hn), lab_N, kids_N]
      have sub : ∀ u ∈ ts, NF M (fil M ρ u) ∧ trS (fil M ρ u) ≤ 40 * trS u ∧ trD (fil M ρ u) ≤ trD u + 39 := by
        intro u hu
        refine ih u hu (hk u hu) (fun v v0 hv => hρ v v0 ?_)
        unfold occ at hv ⊢
        rw [tAny_N, Bool.or_eq_true]
        exact Or.inr (List.any_eq_true.mpr ⟨u, hu, hv⟩)
      have ok := mkOk_map (g := fil M ρ) nf (by rw [lab_N]; omega) (by rw [kids_N]; exact fun u hu => (sub u hu).1)
      rw [lab_N, kids_N] at ok
      refine ⟨NF_mk hM ok, ?_, ?_⟩
      · have h1 := mk_le (M := M) (o := c) (ts := ts.map (fil M ρ)) (fun u hu => (ok.2.2.2 u hu).1)
        have h2 : ((ts.map (fil M ρ)).map trS).sum ≤ 40 * (ts.map trS).sum := by
          clear h1 ok ih hρ nf hk hT hn
          induction ts with
          | nil => simp
          | cons u r ih2 =>
            have a := (sub u (List.mem_cons_self ..)).2.1
            have b := ih2 (fun x hx => sub x (List.mem_cons_of_mem _ hx))
            simp only [List.map_cons, List.sum_cons]
            omega
        rw [trS_N]
        omega
      · have hd : ∀ u ∈ ts, trD u + 1 ≤ trD (trN c ts) := by
          intro u hu
          have := (trD_N c ts (trD (trN c ts) - 1)).mp (by
            have : 1 ≤ trD (trN c ts) := by simp [trN, trD]
            omega) u hu
          have h1 : 1 ≤ trD (trN c ts) := by simp [trN, trD]
          omega
        obtain ⟨u0, hu0⟩ : ∃ u, u ∈ ts := List.exists_mem_of_ne_nil _ hn
        have h1 := hd u0 hu0
        have hpos : 1 ≤ trD u0 := by
          obtain ⟨d, us, e, -, -⟩ := isT_ex (hT u0 hu0)
          rw [e]; simp [trN, trD]
        have := mk_deep (M := M) (o := c) (ts := ts.map (fil M ρ)) (n := trD (trN c ts) - 1 + 39) (by omega) (fun x hx => by
          obtain ⟨u, hu, rfl⟩ := List.mem_map.mp hx
          have a := (sub u hu).2.2
          have b := hd u hu
          exact ⟨(sub u hu).1.1, by omega⟩)
        omega

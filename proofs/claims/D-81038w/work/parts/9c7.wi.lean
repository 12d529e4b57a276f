/-! where terms come from: made by filling and beside (A), at rest, parts of rows at rest -/
section
variable {M : Mo} {R : Ru} {mo : Int}
theorem mk_self (hM : WM M) {t : Tr} (h : NF M t) (h0 : 0 ≤ lab t) (hk : kids t ≠ []) : mk M (lab t) (kids t) = t := by
  have ok := h.ok
  rcases ok with ok | ok
  · omega
  obtain ⟨-, o1, o2, o3, o4⟩ := ok
  have ef : fltR M (lab t) (kids t) = kids t := by
    unfold fltR
    by_cases ha : mAs M (lab t) ≠ 0
    · rw [if_pos ha] at o2 ⊢
      unfold flat
      have key : ∀ l : List Tr, (∀ u ∈ l, lab u ≠ lab t) → l.flatMap (fun u => if lab u = lab t then kids u else [u]) = l := by
        intro l
        induction l with
        | nil => intro _; rfl
        | cons a l ih =>
          intro hl
          rw [List.flatMap_cons, if_neg (hl a (List.mem_cons_self ..)), ih (fun u hu => hl u (List.mem_cons_of_mem _ hu))]
          rfl
      exact key _ o2.2
    · rw [if_neg ha]
  have e3 : mk3 M (lab t) (kids t) = t := by
    unfold mk3
    by_cases hc : mCo M (lab t) ≠ 0
    · rw [if_pos hc, isort_id (o4 hc)]; exact h.eta.symm
    · rw [if_neg hc]; exact h.eta.symm
  rw [mk_eq, ef]
  unfold mk2
  by_cases hu : mUn M (lab t) = -2
  · rw [if_pos hu]; exact e3
  · rw [if_neg hu]
    have e : (kids t).filter (fun u => decide (lab u ≠ mUn M (lab t))) = kids t := by
      rw [List.filter_eq_self]
      intro u hm
      exact decide_eq_true (o3 hu u hm)
    rw [e]
    have l2 : 2 ≤ (kids t).length := by
      by_cases ha : mAs M (lab t) ≠ 0
      · rw [if_pos ha] at o2; exact o2.1
      · have := unit2 hM h h0 (by omega) hu
        omega
    cases q : kids t with
    | nil => exact absurd q hk
    | cons a l =>
      cases l with
      | nil => rw [q] at l2; simp at l2
      | cons b r => rw [q] at e3; exact e3
def kR (st : ST) (q : Tr) : Prop := ∀ k ∈ kids q, came st k = k
def gY (M : Mo) (st : ST) (u : Tr) : Prop := ∃ x ∈ stA st, 0 ≤ lab x ∧ kids x ≠ [] ∧ (∀ k ∈ kids x, came st k ≠ .nil) ∧ u = mk M (lab x) ((kids x).map (came st))
def gP (M : Mo) (st : ST) (u : Tr) : Prop := gY M st u ∨ ∃ r, gY M st r ∧ (kids r).length ≤ 6 ∧ ∃ S R, spl (kids r) S R ∧ 2 ≤ S.length ∧ u = trN (lab r) S
def PH (M : Mo) (st : ST) (t : Tr) : Prop := ∀ q ∈ subs t, kids q = [] ∨ (gP M st q ∧ kR st q)
def KH (M : Mo) (st : ST) (t : Tr) : Prop := ∀ q ∈ subs t, kids q = [] ∨ q ∈ stA st ∨ (gP M st q ∧ kR st q)
def aR (st : ST) (t : Tr) : Prop := ∀ q ∈ subs t, came st q = q
def DR (M : Mo) (st : ST) (t : Tr) : Prop := PH M st t ∧ aR st t
def leS (st st' : ST) : Prop := leM st st' ∧ ∀ u ∈ stA st, u ∈ stA st'
theorem leS.rf (st : ST) : leS st st := ⟨fun _ _ _ => rfl, fun _ h => h⟩
theorem leS.trans {a b c : ST} (h : leS a b) (k : leS b c) : leS a c := by
  refine ⟨fun t h0 ht => ?_, fun u hu => k.2 u (h.2 u hu)⟩
  have e := h.1 t h0 ht
  rw [k.1 t h0 (by rw [e]; exact ht), e]
theorem came_le {st st' : ST} (h : leS st st') {t : Tr} (k : came st t ≠ .nil) : came st' t = came st t := by
  unfold came at k ⊢
  by_cases hv : lab t < 0
  · rw [if_pos hv, if_pos hv]
  · rw [if_neg hv] at k
    rw [if_neg hv, if_neg hv]
    exact h.1 t (by omega) k
theorem kR.le {st st' : ST} (h : leS st st') {q : Tr} (hq : isT q) (k : kR st q) : kR st' q := fun u hu => by
  have e := k u hu
  rw [came_le h (by rw [e]; exact isT_nn (isT_kid hq hu)), e]
theorem gY.le {st st' : ST} (h : leS st st') {u : Tr} (k : gY M st u) : gY M st' u := by
  obtain ⟨x, hx, x0, xk, hc, e⟩ := k
  refine ⟨x, h.2 x hx, x0, xk, fun k hk => by rw [came_le h (hc k hk)]; exact hc k hk, ?_⟩
  rw [e]
  congr 1
  exact List.map_congr_left (fun k hk => (came_le h (hc k hk)).symm)
theorem gP.le {st st' : ST} (h : leS st st') {u : Tr} (k : gP M st u) : gP M st' u := by
  rcases k with k | ⟨r, a, b⟩
  · exact Or.inl (k.le h)
  · exact Or.inr ⟨r, a.le h, b⟩
theorem subs_isT {t q : Tr} (h : isT t) (hq : q ∈ subs t) : isT q := by
  have key : ∀ t, isT t → ∀ q ∈ subs t, isT q := by
    refine tr_ind ?_
    intro c ts hc hT ih q hq
    rcases subs_top (isT_N.mpr ⟨hc, hT⟩) hq with e | ⟨u, hu, z⟩
    · rw [e]; exact isT_N.mpr ⟨hc, hT⟩
    · rw [kids_N] at hu
      exact ih u hu q z
  exact key t h q hq
theorem PH.le {st st' : ST} (h : leS st st') {t : Tr} (ht : isT t) (k : PH M st t) : PH M st' t := fun q hq => (k q hq).imp id (fun z => ⟨z.1.le h, z.2.le h (subs_isT ht hq)⟩)
theorem KH.le {st st' : ST} (h : leS st st') {t : Tr} (ht : isT t) (k : KH M st t) : KH M st' t := fun q hq => by
  rcases k q hq with z | z | z
  · exact Or.inl z
  · exact Or.inr (Or.inl (h.2 q z))
  · exact Or.inr (Or.inr ⟨z.1.le h, z.2.le h (subs_isT ht hq)⟩)
theorem aR.le {st st' : ST} (h : leS st st') {t : Tr} (ht : isT t) (k : aR st t) : aR st' t := fun q hq => by
  have e := k q hq
  rw [came_le h (by rw [e]; exact isT_nn (subs_isT ht hq)), e]
theorem DR.le {st st' : ST} (h : leS st st') {t : Tr} (ht : isT t) (k : DR M st t) : DR M st' t := ⟨k.1.le h ht, k.2.le h ht⟩
theorem PH.sub {st : ST} {t q : Tr} (ht : isT t) (h : PH M st t) (hq : q ∈ subs t) : PH M st q := fun u hu => h u (subs_trans ht hq hu)
theorem KH.sub {st : ST} {t q : Tr} (ht : isT t) (h : KH M st t) (hq : q ∈ subs t) : KH M st q := fun u hu => h u (subs_trans ht hq hu)
theorem PH.KH {st : ST} {t : Tr} (h : PH M st t) : KH M st t := fun q hq => (h q hq).imp id Or.inr
theorem PH_nil {st : ST} {t : Tr} (ht : isT t) (hk : kids t = []) : PH M st t := fun q hq => by
  rcases subs_top ht hq with e | ⟨k, h, -⟩
  · rw [e]; exact Or.inl hk
  · rw [hk] at h; cases h
/-- what matching makes of a term at rest -/
theorem inU_PH {st : ST} {y u : Tr} {A : Int → Bool} (hy : isT y) (h : PH M st y) (hw : tWide A y = false) (hu : inU M A y u) : PH M st u := by
  rcases hu with hu | ⟨r, hr, hA, S, Q, hs, h2, rfl⟩ | ⟨o, o0, o1, o2, rfl⟩
  · exact h.sub hy hu
  · have ir := subs_isT hy hr
    have mem := (spl_mem hs).1
    have iS : ∀ s ∈ S, isT s := fun s hm => isT_kid ir (mem s hm)
    have il : -1000 ≤ lab r := by
      obtain ⟨c, ts, rfl, hc, -⟩ := isT_ex ir
      rw [lab_N]; exact hc
    have iu : isT (trN (lab r) S) := isT_N.mpr ⟨il, iS⟩
    have nr := subs_narrow hy hw r hr hA
    have rk : kids r ≠ [] := by
      intro z
      rw [z] at hs
      obtain ⟨rfl, -⟩ := hs
      simp at h2
    obtain ⟨gr, kr⟩ := (h r hr).resolve_left rk
    intro q hq
    rcases subs_top iu hq with e | ⟨k, hk, z⟩
    · rw [e]
      refine Or.inr ⟨?_, fun k hk => ?_⟩
      · rcases gr with gr | ⟨r', g', l', S', Q', s', -, e'⟩
        · exact Or.inr ⟨r, gr, nr, S, Q, hs, h2, rfl⟩
        · rw [e', kids_N] at hs
          obtain ⟨W, hW⟩ := spl_trans s' hs
          exact Or.inr ⟨r', g', l', S, W, hW, h2, by rw [e', lab_N]⟩
      · rw [kids_N] at hk
        exact kr k (mem k hk)
    · rw [kids_N] at hk
      exact h q (subs_trans hy hr (subs_down ir (mem k hk) z))
  · have iu : isT (unT M o) ∨ ¬ isT (unT M o) := Classical.em _
    intro q hq
    unfold unT at hq
    rw [subs_N] at hq
    simp only [List.flatMap_nil, List.mem_singleton] at hq
    rw [hq, kids_N]
    exact Or.inl rfl
/-- what filling makes -/
theorem fil_KH {st : ST} {ρ : Env} {t : Tr} (ht : okT M t) (hM : WM M) (hρ : ∀ v : Int, 0 ≤ v → occ v t → okT M (ρ v) ∧ KH M st (ρ v)) : ∀ q ∈ subs (fil M ρ t), kids q = [] ∨ (q ∈ filA M ρ t ∨ q ∈ stA st) ∨ (gP M st q ∧ kR st q) := by
  have key : ∀ t, isT t → okT M t → (∀ v : Int, 0 ≤ v → occ v t → okT M (ρ v) ∧ KH M st (ρ v)) → ∀ q ∈ subs (fil M ρ t), kids q = [] ∨ (q ∈ filA M ρ t ∨ q ∈ stA st) ∨ (gP M st q ∧ kR st q) := by
    refine tr_ind ?_
    intro c ts hc hT ih ht hρ q hq
    by_cases hv : lab (trN c ts) < 0
    · rw [fil_var ht.1.1 hv] at hq
      have a := hρ (-1 - lab (trN c ts)) (by omega) ((occ_var ht.1 hv).mpr rfl)
      rcases a.2 q hq with z | z | z
      · exact Or.inl z
      · exact Or.inr (Or.inl (Or.inr z))
      · exact Or.inr (Or.inr z)
    · by_cases hk : kids (trN c ts) = []
      · rw [fil_con ht.1.1 (by omega) hk] at hq
        rcases subs_top ht.1.1 hq with e | ⟨k, h, -⟩
        · rw [e]; exact Or.inl hk
        · rw [hk] at h; cases h
      · have sub : ∀ k ∈ kids (trN c ts), ∀ v : Int, 0 ≤ v → occ v k → okT M (ρ v) ∧ KH M st (ρ v) := fun k hm v v0 ho => hρ v v0 (occ_kid ht.1.1 hm ho)
        have iF : ∀ u ∈ (kids (trN c ts)).map (fil M ρ), isT u := by
          intro u hu
          obtain ⟨k, hm, rfl⟩ := List.mem_map.mp hu
          exact (fil_all hM k (ht.kid hm).1.1 (ht.kid hm).1 (fun v v0 ho => (sub k hm v v0 ho).1)).1.1
        have inA : fil M ρ (trN c ts) ∈ filA M ρ (trN c ts) := by
          unfold filA
          refine List.mem_map.mpr ⟨trN c ts, List.mem_filter.mpr ⟨subs_self ht.1.1, ?_⟩, rfl⟩
          simp only [Bool.and_eq_true, decide_eq_true_eq, Bool.not_eq_true', List.isEmpty_eq_false_iff]
          exact ⟨by omega, hk⟩
        have all := (fil_all hM (trN c ts) ht.1.1 ht.1 (fun v v0 ho => (hρ v v0 ho).1)).1
        have ef := fil_mk (M := M) (ρ := ρ) ht.1.1 (by omega) hk
        rw [ef] at hq
        rcases mk_subs iF (by rw [← ef]; exact all.1) hq with e | ⟨u, hu, z⟩
        · rw [e, ← ef]; exact Or.inr (Or.inl (Or.inl inA))
        · obtain ⟨k, hm, rfl⟩ := List.mem_map.mp hu
          have hm2 := hm
          rw [kids_N] at hm2
          rcases ih k hm2 (ht.kid hm) (sub k hm) q z with w | (w | w) | w
          · exact Or.inl w
          · refine Or.inr (Or.inl (Or.inl ?_))
            unfold filA at w ⊢
            obtain ⟨p, hp, e⟩ := List.mem_map.mp w
            have hp2 := List.mem_filter.mp hp
            exact List.mem_map.mpr ⟨p, List.mem_filter.mpr ⟨subs_down ht.1.1 hm hp2.1, hp2.2⟩, e⟩
          · exact Or.inr (Or.inl (Or.inr w))
          · exact Or.inr (Or.inr w)
  exact key t ht.1.1 ht hρ
end

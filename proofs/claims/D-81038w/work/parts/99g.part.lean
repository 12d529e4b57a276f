/-! parts of a row -/
theorem sorted_cons {a : Tr} {l : List Tr} (h : sorted (a :: l)) : sorted l ∧ ∀ b ∈ l, cmT a b ≤ 0 := by
  induction l generalizing a with
  | nil => exact ⟨trivial, fun b hb => by cases hb⟩
  | cons c r ih =>
    have := ih h.2
    refine ⟨h.2, fun b hb => ?_⟩
    rcases List.mem_cons.mp hb with rfl | hb
    · exact h.1
    · exact cmT_tr h.1 (this.2 b hb)
theorem sorted_of {a : Tr} {l : List Tr} (h : sorted l) (k : ∀ b ∈ l, cmT a b ≤ 0) : sorted (a :: l) := by
  cases l with
  | nil => trivial
  | cons b r => exact ⟨k b (List.mem_cons_self ..), h⟩
theorem spl_sorted {es S R : List Tr} (h : spl es S R) (hs : sorted es) : sorted S ∧ sorted R := by
  induction es generalizing S R with
  | nil => obtain ⟨rfl, rfl⟩ := h; exact ⟨trivial, trivial⟩
  | cons e es ih =>
    obtain ⟨h1, h2⟩ := sorted_cons hs
    rcases h with ⟨S', rfl, h⟩ | ⟨R', rfl, h⟩
    · have := ih h h1
      exact ⟨sorted_of this.1 (fun b hb => h2 b ((spl_mem h).1 b hb)), this.2⟩
    · have := ih h h1
      exact ⟨this.1, sorted_of this.2 (fun b hb => h2 b ((spl_mem h).2.1 b hb))⟩
theorem app_spl (S R : List Tr) : spl (S ++ R) S R := by
  induction S with
  | nil =>
    induction R with
    | nil => exact ⟨rfl, rfl⟩
    | cons r R ih => exact Or.inr ⟨R, rfl, ih⟩
  | cons s S ih => exact Or.inl ⟨_, rfl, ih⟩
theorem Sp_spl {M : Mo} {o : Int} {es S R : List Tr} (h : Sp M o es S R) : spl es S R := by
  unfold Sp at h
  split at h
  · exact h
  · rw [h]; exact app_spl S R
theorem spl_sum {es S R : List Tr} (h : spl es S R) : (S.map trS).sum + (R.map trS).sum = (es.map trS).sum := by
  induction es generalizing S R with
  | nil => obtain ⟨rfl, rfl⟩ := h; rfl
  | cons e es ih =>
    rcases h with ⟨S', rfl, h⟩ | ⟨R', rfl, h⟩
    · have := ih h; simp only [List.map_cons, List.sum_cons]; omega
    · have := ih h; simp only [List.map_cons, List.sum_cons]; omega
/-- elements as they are dealt: forms, no row nor unit of the operator among them, in order, short -/
def elm (M : Mo) (o : Int) (A : Int → Bool) (es : List Tr) : Prop :=
  (∀ e ∈ es, NF M e ∧ lab e ≠ o ∧ (mUn M o ≠ -2 → lab e ≠ mUn M o) ∧ trS e ≤ 40 ∧ tWide A e = false) ∧ (mCo M o ≠ 0 → sorted es) ∧ es.length ≤ 6 ∧ (2 ≤ es.length → 1 + (es.map trS).sum ≤ 40)
theorem elm.sub {M : Mo} {o : Int} {A : Int → Bool} {es S R : List Tr} (h : elm M o A es) (hs : spl es S R) : elm M o A S ∧ elm M o A R := by
  obtain ⟨h1, h2, h3, h4⟩ := h
  have hm := spl_mem hs
  have hsum := spl_sum hs
  refine ⟨⟨fun e he => h1 e (hm.1 e he), fun z => (spl_sorted hs (h2 z)).1, by omega, fun z => ?_⟩, fun e he => h1 e (hm.2.1 e he), fun z => (spl_sorted hs (h2 z)).2, by omega, fun z => ?_⟩
  · have := h4 (by omega); omega
  · have := h4 (by omega); omega
theorem flat_id {o : Int} {es : List Tr} (h : ∀ e ∈ es, lab e ≠ o) : flat o es = es := by
  induction es with
  | nil => rfl
  | cons e es ih =>
    rw [flat_cons, if_neg (h e (List.mem_cons_self ..)), ih (fun x hx => h x (List.mem_cons_of_mem _ hx))]
    rfl
/-- a part of a row, as a term -/
theorem mkS_elm {M : Mo} {o : Int} {A : Int → Bool} {es : List Tr} (has : mAs M o ≠ 0) (h : elm M o A es) (h2 : 2 ≤ es.length) : mkS M o es = trN o es := by
  match es, h2 with
  | a :: b :: r, _ =>
    simp only [mkS]
    have hfl : fltR M o (a :: b :: r) = a :: b :: r := by
      unfold fltR
      rw [if_pos has, flat_id (fun e he => (h.1 e he).2.1)]
    rw [mk_eq, hfl]
    have m3 : mk3 M o (a :: b :: r) = trN o (a :: b :: r) := by
      unfold mk3
      by_cases hc : mCo M o ≠ 0
      · rw [if_pos hc, isort_id (h.2.1 hc)]
      · rw [if_neg hc]
    unfold mk2
    by_cases hu : mUn M o = -2
    · rw [if_pos hu, m3]
    · rw [if_neg hu]
      have hf : (a :: b :: r).filter (fun t => decide (lab t ≠ mUn M o)) = a :: b :: r := by
        rw [List.filter_eq_self]
        intro t ht
        simpa using (h.1 t ht).2.2.1 hu
      rw [hf]
      exact m3
theorem elO_elm {M : Mo} (hM : WM M) {o : Int} {A : Int → Bool} (h0 : 0 ≤ o) (ha : mAs M o ≠ 0) (hA : A o = true) {t : Tr} (ht : NF M t) (hs : trS t ≤ 40) (hw : tWide A t = false) : elm M o A (elO M o t) := by
  obtain ⟨c, us, rfl, hok, hk⟩ := ht.ex
  rw [tWide_N] at hw
  simp only [Bool.or_eq_false_iff, List.any_eq_false] at hw
  rw [trS_N] at hs
  unfold elO
  rw [lab_N, kids_N]
  by_cases hl : c = o
  · rw [if_pos hl]
    subst hl
    rcases hok with q | q
    · omega
    · have q1 := q.2.2.1
      rw [if_pos ha] at q1
      refine ⟨fun e he => ⟨hk e he, q1.2 e he, fun z => q.2.2.2.1 z e he, by have := trS_mem he; omega, by simpa using hw.2 e he⟩, q.2.2.2.2, ?_, fun _ => hs⟩
      have := hw.1
      rw [hA, Bool.true_and, decide_eq_false_iff_not] at this
      omega
  · rw [if_neg hl]
    by_cases hu : mUn M o ≠ -2 ∧ c = mUn M o
    · rw [if_pos hu]
      exact ⟨fun e he => (by cases he), fun _ => trivial, by simp, fun z => by simp at z⟩
    · rw [if_neg hu]
      refine ⟨fun e he => ?_, fun _ => trivial, by simp, fun z => by simp at z⟩
      simp only [List.mem_singleton] at he
      subst he
      refine ⟨ht, by rw [lab_N]; exact hl, fun z => by rw [lab_N]; exact fun y => hu ⟨z, y⟩, by rw [trS_N]; exact hs, ?_⟩
      rw [tWide_N]
      simp only [Bool.or_eq_false_iff, List.any_eq_false]
      exact hw
/-- what parts are: sizes, rows -/
theorem mkS_small {M : Mo} (hM : WM M) {o : Int} {A : Int → Bool} (h0 : 0 ≤ o) (h1 : o < mOps M) (has : mAs M o ≠ 0) {es : List Tr} (h : elm M o A es) : trS (mkS M o es) ≤ 40 ∧ (mkS M o es ≠ .nil → NF M (mkS M o es) ∧ tWide A (mkS M o es) = false) := by
  match es with
  | [] =>
    simp only [mkS]
    by_cases hu : mUn M o = -2
    · rw [if_pos hu]
      exact ⟨by simp [trS], fun z => absurd rfl z⟩
    · rw [if_neg hu]
      refine ⟨by unfold unT; rw [trS_N]; simp, fun _ => ⟨NF_unT hM h0 h1 hu, ?_⟩⟩
      unfold unT
      rw [tWide_N]
      simp
  | [t] => exact ⟨(h.1 t (by simp)).2.2.2.1, fun _ => ⟨(h.1 t (by simp)).1, (h.1 t (by simp)).2.2.2.2⟩⟩
  | a :: b :: r =>
    have e := mkS_elm has h (by simp)
    refine ⟨by rw [e, trS_N]; exact h.2.2.2 (by simp), fun z => ⟨mkS_NF hM h0 h1 has (fun x hx => ⟨(h.1 x hx).1, (h.1 x hx).2.1⟩) z, ?_⟩⟩
    rw [e, tWide_N]
    have hl := h.2.2.1
    simp only [Bool.or_eq_false_iff, List.any_eq_false, Bool.and_eq_false_iff, decide_eq_false_iff_not]
    exact ⟨Or.inr (by omega), fun x hx => by simpa using (h.1 x hx).2.2.2.2⟩

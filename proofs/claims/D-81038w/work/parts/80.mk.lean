/-! laws of making -/
theorem insR_len (t : Tr) (l : List Tr) : (insR t l).length = l.length + 1 := by
  induction l with
  | nil => rfl
  | cons e r ih => simp only [insR]; split <;> simp [ih]
theorem insR_mem {t u : Tr} {l : List Tr} : u ∈ insR t l ↔ u = t ∨ u ∈ l := by
  induction l with
  | nil => simp [insR]
  | cons e r ih =>
    simp only [insR]
    split
    · simp only [List.mem_cons, ih]
      constructor
      · rintro (h | h | h) <;> simp [h]
      · rintro (h | h | h) <;> simp [h]
    · simp only [List.mem_cons]
theorem foldI_len (ts acc : List Tr) : (ts.foldl (fun acc t => insR t acc) acc).length = ts.length + acc.length := by
  induction ts generalizing acc with
  | nil => simp
  | cons t r ih => simp only [List.foldl_cons]; rw [ih, insR_len]; simp; omega
theorem foldI_mem {u : Tr} (ts acc : List Tr) : u ∈ ts.foldl (fun acc t => insR t acc) acc ↔ u ∈ ts ∨ u ∈ acc := by
  induction ts generalizing acc with
  | nil => simp
  | cons t r ih =>
    simp only [List.foldl_cons]
    rw [ih, insR_mem, List.mem_cons]
    constructor
    · rintro (h | h | h) <;> simp [h]
    · rintro ((h | h) | h) <;> simp [h]
theorem isort_len (ts : List Tr) : (isort ts).length = ts.length := by
  unfold isort; rw [List.length_reverse, foldI_len]; simp
theorem isort_mem {u : Tr} {ts : List Tr} : u ∈ isort ts ↔ u ∈ ts := by
  unfold isort; rw [List.mem_reverse, foldI_mem]; simp
/-- sorted, the other way round -/
def rsorted : List Tr → Prop
  | [] => True
  | [_] => True
  | a :: b :: r => cmT b a ≤ 0 ∧ rsorted (b :: r)
theorem insR_rs {t : Tr} {l : List Tr} (h : rsorted l) : rsorted (insR t l) := by
  induction l with
  | nil => trivial
  | cons e r ih =>
    simp only [insR]
    split
    · rename_i hlt
      cases r with
      | nil => simp only [insR]; exact ⟨by omega, trivial⟩
      | cons f r =>
        have := ih h.2
        simp only [insR] at this ⊢
        split
        · rename_i h2; rw [if_pos h2] at this; exact ⟨h.1, this⟩
        · rename_i h2; rw [if_neg h2] at this; exact ⟨by omega, this⟩
    · rename_i hlt
      have := cmT_neg t e
      exact ⟨by omega, h⟩
theorem foldI_rs (ts : List Tr) {acc : List Tr} (h : rsorted acc) : rsorted (ts.foldl (fun acc t => insR t acc) acc) := by
  induction ts generalizing acc with
  | nil => exact h
  | cons t r ih => exact ih (insR_rs h)
theorem sorted_app {l : List Tr} {a : Tr} (h : sorted l) (k : ∀ b, l.getLast? = some b → cmT b a ≤ 0) : sorted (l ++ [a]) := by
  induction l with
  | nil => trivial
  | cons x r ih => cases r with
    | nil => exact ⟨k x rfl, trivial⟩
    | cons y r => exact ⟨h.1, ih h.2 (fun b hb => k b (by simpa [List.getLast?_cons_cons] using hb))⟩
theorem rs_rev {l : List Tr} (h : rsorted l) : sorted l.reverse := by
  induction l with
  | nil => trivial
  | cons a r ih =>
    rw [List.reverse_cons]
    cases r with
    | nil => trivial
    | cons b r =>
      refine sorted_app (ih h.2) (fun c hc => ?_)
      rw [List.getLast?_reverse] at hc
      simp only [List.head?_cons, Option.some.injEq] at hc
      rw [← hc]; exact h.1
theorem isort_sorted (ts : List Tr) : sorted (isort ts) := rs_rev (foldI_rs ts (acc := []) trivial)
/-- a sorted row stays -/
theorem isort_id {ts : List Tr} (h : sorted ts) : isort ts = ts := by
  have key : ∀ (ts acc : List Tr), sorted ts → (∀ a b, acc.head? = some a → ts.head? = some b → cmT a b ≤ 0) → ts.foldl (fun acc t => insR t acc) acc = ts.reverse ++ acc := by
    intro ts
    induction ts with
    | nil => intro acc _ _; rfl
    | cons t r ih =>
      intro acc hs hh
      simp only [List.foldl_cons, List.reverse_cons, List.append_assoc, List.singleton_append]
      have e : insR t acc = t :: acc := by
        cases acc with
        | nil => rfl
        | cons a q =>
          have := hh a t rfl rfl
          have h2 := cmT_neg a t
          simp only [insR]
          rw [if_neg (by omega)]
      rw [e]
      refine ih (t :: acc) ?_ (fun a b ha hb => ?_)
      · cases r with
        | nil => trivial
        | cons _ _ => exact hs.2
      · simp only [List.head?_cons, Option.some.injEq] at ha
        subst ha
        cases r with
        | nil => simp at hb
        | cons c r =>
          simp only [List.head?_cons, Option.some.injEq] at hb
          rw [← hb]; exact hs.1
  unfold isort
  rw [key ts [] h (fun a b ha => by simp at ha)]
  simp
/-- rows that may be made a term -/
def mkOk (M : Mo) (o : Int) (ts : List Tr) : Prop := 0 ≤ o ∧ o < mOps M ∧ (if mAs M o ≠ 0 then 2 ≤ ts.length else (ts.length : Int) = mHo M o) ∧ ∀ t ∈ ts, NF M t
theorem unit_is {M : Mo} (hM : WM M) {o : Int} (h0 : 0 ≤ o) (h1 : o < mOps M) (hu : mUn M o ≠ -2) {t : Tr} (ht : NF M t) : lab t = mUn M o ↔ t = unT M o := by
  obtain ⟨c, ts, rfl, hok, -⟩ := ht.ex
  have a := (hM.op h0 h1).2.2.2.2.2.2.1
  rcases a with a | a
  · exact absurd a hu
  · rw [lab_N]
    constructor
    · intro e
      subst e
      rcases hok with q | q
      · omega
      · have b := hM.op a.1 a.2.1
        have hna : mAs M (mUn M o) = 0 := by
          apply Classical.byContradiction
          intro hz
          have := b.2.2.2.2.1 hz
          omega
        have := q.2.2.1
        rw [if_neg (by simp [hna])] at this
        have : ts = [] := List.length_eq_zero_iff.mp (by omega)
        unfold unT
        rw [this]
    · intro e
      exact (trN_inj e).1
theorem NF_unT {M : Mo} (hM : WM M) {o : Int} (h0 : 0 ≤ o) (h1 : o < mOps M) (hu : mUn M o ≠ -2) : NF M (unT M o) := by
  have a := (hM.op h0 h1).2.2.2.2.2.2.1
  rcases a with a | a
  · exact absurd a hu
  · have b := hM.op a.1 a.2.1
    refine NF.mk (Or.inr ⟨a.1, a.2.1, ?_, ?_, ?_⟩) (fun t ht => by cases ht)
    · rw [if_neg]
      · simp; omega
      · intro hz
        have := b.2.2.2.2.1 hz
        omega
    · intro _ t ht; cases ht
    · intro _; trivial
theorem okN_unT {M : Mo} (hM : WM M) {o : Int} (h0 : 0 ≤ o) (h1 : o < mOps M) (hu : mUn M o ≠ -2) : okN M (mUn M o) [] := (NF_N.mp (NF_unT hM h0 h1 hu)).1
/-- the row as it is after flattening -/
def fltR (M : Mo) (o : Int) (ts : List Tr) : List Tr := if mAs M o ≠ 0 then flat o ts else ts
theorem flat_mem {o : Int} {ts : List Tr} {u : Tr} : u ∈ flat o ts ↔ ∃ t ∈ ts, (lab t = o ∧ u ∈ kids t) ∨ (lab t ≠ o ∧ u = t) := by
  unfold flat
  rw [List.mem_flatMap]
  constructor
  · rintro ⟨t, ht, hu⟩
    refine ⟨t, ht, ?_⟩
    split at hu
    · exact Or.inl ⟨by assumption, hu⟩
    · exact Or.inr ⟨by assumption, by simpa using hu⟩
  · rintro ⟨t, ht, hu⟩
    refine ⟨t, ht, ?_⟩
    rcases hu with hu | hu
    · rw [if_pos hu.1]; exact hu.2
    · rw [if_neg hu.1, hu.2]; simp
theorem fltR_ok {M : Mo} {o : Int} {ts : List Tr} (h : mkOk M o ts) : (∀ t ∈ fltR M o ts, NF M t) ∧ (if mAs M o ≠ 0 then 2 ≤ (fltR M o ts).length ∧ ∀ t ∈ fltR M o ts, lab t ≠ o else ((fltR M o ts).length : Int) = mHo M o) := by
  obtain ⟨h0, h1, h2, h3⟩ := h
  unfold fltR
  by_cases ha : mAs M o ≠ 0
  · rw [if_pos ha] at h2 ⊢
    rw [if_pos ha]
    have one : ∀ t, NF M t → lab t = o → 2 ≤ (kids t).length ∧ ∀ u ∈ kids t, NF M u ∧ lab u ≠ o := by
      intro t ht hl
      obtain ⟨c, us, rfl, hok, hk⟩ := ht.ex
      rw [kids_N]
      rw [lab_N] at hl
      subst hl
      rcases hok with q | q
      · omega
      · have := q.2.2.1
        rw [if_pos ha] at this
        exact ⟨this.1, fun u hu => ⟨hk u hu, this.2 u hu⟩⟩
    refine ⟨fun u hu => ?_, ?_, fun u hu => ?_⟩
    · obtain ⟨t, ht, hu⟩ := flat_mem.mp hu
      rcases hu with hu | hu
      · exact ((one t (h3 t ht) hu.1).2 u hu.2).1
      · rw [hu.2]; exact h3 t ht
    · have : ∀ l : List Tr, (∀ t ∈ l, NF M t) → l.length ≤ (flat o l).length := by
        intro l
        induction l with
        | nil => intro _; simp
        | cons t r ih =>
          intro hl
          have h4 := ih (fun u hu => hl u (List.mem_cons_of_mem _ hu))
          have e : flat o (t :: r) = (if lab t = o then kids t else [t]) ++ flat o r := by unfold flat; rw [List.flatMap_cons]
          rw [e, List.length_append, List.length_cons]
          split
          · have := (one t (hl t (List.mem_cons_self ..)) (by assumption)).1
            omega
          · simp; omega
      have := this ts h3
      omega
    · obtain ⟨t, ht, hu⟩ := flat_mem.mp hu
      rcases hu with hu | hu
      · exact ((one t (h3 t ht) hu.1).2 u hu.2).2
      · rw [hu.2]; exact hu.1
  · rw [if_neg ha] at h2 ⊢
    rw [if_neg ha]
    exact ⟨h3, h2⟩
theorem okN_mk3 {M : Mo} {o : Int} {ts : List Tr} (h0 : 0 ≤ o) (h1 : o < mOps M) (h2 : if mAs M o ≠ 0 then 2 ≤ ts.length ∧ ∀ t ∈ ts, lab t ≠ o else (ts.length : Int) = mHo M o) (hu : mUn M o ≠ -2 → ∀ t ∈ ts, lab t ≠ mUn M o) : okN M o (if mCo M o ≠ 0 then isort ts else ts) := by
  by_cases hc : mCo M o ≠ 0
  · rw [if_pos hc]
    refine Or.inr ⟨h0, h1, ?_, fun q t ht => hu q t (isort_mem.mp ht), fun _ => isort_sorted ts⟩
    by_cases ha : mAs M o ≠ 0
    · rw [if_pos ha] at h2 ⊢
      exact ⟨by rw [isort_len]; exact h2.1, fun t ht => h2.2 t (isort_mem.mp ht)⟩
    · rw [if_neg ha] at h2 ⊢
      rw [isort_len]; exact h2
  · rw [if_neg hc]
    exact Or.inr ⟨h0, h1, h2, hu, fun q => absurd q hc⟩
/-- what is left of a row without the unit, when more than one is -/
theorem okN_flt {M : Mo} (hM : WM M) {o : Int} {ts : List Tr} (h : mkOk M o ts) (hu : mUn M o ≠ -2) (h2 : 2 ≤ ((fltR M o ts).filter fun t => decide (lab t ≠ mUn M o)).length) :
    okN M o (if mCo M o ≠ 0 then isort ((fltR M o ts).filter fun t => decide (lab t ≠ mUn M o)) else (fltR M o ts).filter fun t => decide (lab t ≠ mUn M o)) := by
  have hf := fltR_ok h
  refine okN_mk3 h.1 h.2.1 ?_ (fun _ t ht => by simpa using (List.mem_filter.mp ht).2)
  have := hf.2
  by_cases ha : mAs M o ≠ 0
  · rw [if_pos ha] at this ⊢
    exact ⟨h2, fun t ht => this.2 t (List.mem_filter.mp ht).1⟩
  · rw [if_neg ha] at this ⊢
    have ho := (hM.op h.1 h.2.1).2.2.2.2.2.2.1
    have hl : ((fltR M o ts).filter fun t => decide (lab t ≠ mUn M o)).length ≤ (fltR M o ts).length := List.length_filter_le _ _
    rcases ho with q | q
    · exact absurd q hu
    · omega
theorem mk_eq (M : Mo) (o : Int) (ts : List Tr) : mk M o ts = mk2 M o (fltR M o ts) := rfl
theorem NF_mk {M : Mo} (hM : WM M) {o : Int} {ts : List Tr} (h : mkOk M o ts) : NF M (mk M o ts) := by
  have hf := fltR_ok h
  rw [mk_eq]
  unfold mk2
  by_cases hu : mUn M o = -2
  · rw [if_pos hu]
    unfold mk3
    refine NF.mk (okN_mk3 h.1 h.2.1 hf.2 (fun q => absurd hu q)) (fun t ht => ?_)
    split at ht
    · exact hf.1 t (isort_mem.mp ht)
    · exact hf.1 t ht
  · rw [if_neg hu]
    have hm : ∀ t ∈ (fltR M o ts).filter (fun t => decide (lab t ≠ mUn M o)), NF M t := fun t ht => hf.1 t (List.mem_filter.mp ht).1
    have h3 := okN_flt hM h hu
    split
    · exact NF_unT hM h.1 h.2.1 hu
    · rename_i t e; exact hm t (by rw [e]; simp)
    · rename_i a b r e
      rw [e] at h3 hm
      unfold mk3
      refine NF.mk (h3 (by simp)) (fun t ht => ?_)
      split at ht
      · exact hm t (isort_mem.mp ht)
      · exact hm t ht

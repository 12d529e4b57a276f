/-! matching: goals, what solves them -/
abbrev Env : Type := Int → Tr
def upE (ρ : Env) (v : Int) (t : Tr) : Env := fun w => if w = v then t else ρ w
/-- a pair, or parts of a row from one on against elements -/
abbrev Goal : Type := (Tr × Tr) ⊕ (Tr × Nat × List Tr)
/-- elements in order, dealt to two rows -/
def spl : List Tr → List Tr → List Tr → Prop
  | [], S, R => S = [] ∧ R = []
  | e :: es, S, R => (∃ S', S = e :: S' ∧ spl es S' R) ∨ ∃ R', R = e :: R' ∧ spl es S R'
def Sp (M : Mo) (o : Int) (es S R : List Tr) : Prop := if mCo M o ≠ 0 then spl es S R else es = S ++ R
/-- the elements of a term for an assoc operator -/
def elO (M : Mo) (o : Int) (t : Tr) : List Tr := if lab t = o then kids t else if mUn M o ≠ -2 ∧ lab t = mUn M o then [] else [t]
def pairG (ps ts : List Tr) : List Goal := List.zipWith (fun p t => Sum.inl (p, t)) ps ts
abbrev vrS (M : Mo) (v : Int) : Int := mVs M (Int.tmod v 30)
/-- one step of solving -/
def FS (M : Mo) (R : List Goal → Env → Env → Prop) : List Goal → Env → Env → Prop
  | [], ρ, ρ' => ρ' = ρ
  | .inl (p, t) :: gs, ρ, ρ' =>
    (lab p < 0 ∧ ((ρ (-1 - lab p) ≠ .nil ∧ ρ (-1 - lab p) = t ∧ R gs ρ ρ') ∨ (ρ (-1 - lab p) = .nil ∧ srt M t ≠ -2 ∧ blw M (srt M t) (vrS M (-1 - lab p)) ∧ R gs (upE ρ (-1 - lab p) t) ρ'))) ∨
    (0 ≤ lab p ∧ mAs M (lab p) ≠ 0 ∧ R (.inr (p, 0, elO M (lab p) t) :: gs) ρ ρ') ∨
    (0 ≤ lab p ∧ mAs M (lab p) = 0 ∧ lab t = lab p ∧ R (pairG (kids p) (kids t) ++ gs) ρ ρ') ∨
    (0 ≤ lab p ∧ mAs M (lab p) = 0 ∧ lab t = lab p ∧ mCo M (lab p) ≠ 0 ∧ R (pairG (kids p) (kids t).reverse ++ gs) ρ ρ') ∨
    (0 ≤ lab p ∧ mAs M (lab p) = 0 ∧ mUn M (lab p) ≠ -2 ∧ (R (pairG (kids p) [t, unT M (lab p)] ++ gs) ρ ρ' ∨ R (pairG (kids p) [unT M (lab p), t] ++ gs) ρ ρ'))
  | .inr (p, s, es) :: gs, ρ, ρ' =>
    (s = (kids p).length ∧ es = [] ∧ R gs ρ ρ') ∨
    ∃ q S T, (kids p)[s]? = some q ∧ Sp M (lab p) es S T ∧ mkS M (lab p) S ≠ .nil ∧ R (.inl (q, mkS M (lab p) S) :: .inr (p, s + 1, T) :: gs) ρ ρ'
def Solv (M : Mo) (gs : List Goal) (ρ ρ' : Env) : Prop := ∀ R : List Goal → Env → Env → Prop, (∀ gs ρ ρ', FS M R gs ρ ρ' → R gs ρ ρ') → R gs ρ ρ'
theorem FS_mono {M : Mo} {R R' : List Goal → Env → Env → Prop} (h : ∀ gs ρ ρ', R gs ρ ρ' → R' gs ρ ρ') : ∀ gs ρ ρ', FS M R gs ρ ρ' → FS M R' gs ρ ρ' := by
  intro gs ρ ρ' hF
  match gs with
  | [] => exact hF
  | .inl (p, t) :: gs =>
    simp only [FS] at hF ⊢
    rcases hF with ⟨a, b | b⟩ | ⟨a, b, c⟩ | ⟨a, b, c, d⟩ | ⟨a, b, c, d, e⟩ | ⟨a, b, c, d | d⟩
    · exact Or.inl ⟨a, Or.inl ⟨b.1, b.2.1, h _ _ _ b.2.2⟩⟩
    · exact Or.inl ⟨a, Or.inr ⟨b.1, b.2.1, b.2.2.1, h _ _ _ b.2.2.2⟩⟩
    · exact Or.inr (Or.inl ⟨a, b, h _ _ _ c⟩)
    · exact Or.inr (Or.inr (Or.inl ⟨a, b, c, h _ _ _ d⟩))
    · exact Or.inr (Or.inr (Or.inr (Or.inl ⟨a, b, c, d, h _ _ _ e⟩)))
    · exact Or.inr (Or.inr (Or.inr (Or.inr ⟨a, b, c, Or.inl (h _ _ _ d)⟩)))
    · exact Or.inr (Or.inr (Or.inr (Or.inr ⟨a, b, c, Or.inr (h _ _ _ d)⟩)))
  | .inr (p, s, es) :: gs =>
    simp only [FS] at hF ⊢
    rcases hF with ⟨a, b, c⟩ | ⟨q, S, T, a, b, c, d⟩
    · exact Or.inl ⟨a, b, h _ _ _ c⟩
    · exact Or.inr ⟨q, S, T, a, b, c, h _ _ _ d⟩
theorem Solv_in {M : Mo} {gs : List Goal} {ρ ρ' : Env} (h : FS M (Solv M) gs ρ ρ') : Solv M gs ρ ρ' := by
  intro R hR
  exact hR gs ρ ρ' (FS_mono (fun gs ρ ρ' hs => hs R hR) gs ρ ρ' h)
theorem Solv_iff {M : Mo} {gs : List Goal} {ρ ρ' : Env} : Solv M gs ρ ρ' ↔ FS M (Solv M) gs ρ ρ' :=
  ⟨fun h => h (FS M (Solv M)) (fun gs ρ ρ' hF => FS_mono (fun gs ρ ρ' k => Solv_in k) gs ρ ρ' hF), Solv_in⟩
theorem Solv_nil {M : Mo} {ρ ρ' : Env} : Solv M [] ρ ρ' ↔ ρ' = ρ := Solv_iff
theorem Solv_var {M : Mo} {p t : Tr} {gs : List Goal} {ρ ρ' : Env} (hp : lab p < 0) : Solv M (.inl (p, t) :: gs) ρ ρ' ↔ (ρ (-1 - lab p) ≠ .nil ∧ ρ (-1 - lab p) = t ∧ Solv M gs ρ ρ') ∨ (ρ (-1 - lab p) = .nil ∧ srt M t ≠ -2 ∧ blw M (srt M t) (vrS M (-1 - lab p)) ∧ Solv M gs (upE ρ (-1 - lab p) t) ρ') := by
  rw [Solv_iff]
  simp only [FS]
  constructor
  · rintro (⟨-, b⟩ | ⟨a, -⟩ | ⟨a, -⟩ | ⟨a, -⟩ | ⟨a, -⟩)
    · exact b
    all_goals omega
  · intro h
    exact Or.inl ⟨hp, h⟩
theorem Solv_assoc {M : Mo} {p t : Tr} {gs : List Goal} {ρ ρ' : Env} (hp : 0 ≤ lab p) (ha : mAs M (lab p) ≠ 0) : Solv M (.inl (p, t) :: gs) ρ ρ' ↔ Solv M (.inr (p, 0, elO M (lab p) t) :: gs) ρ ρ' := by
  rw [Solv_iff]
  simp only [FS]
  constructor
  · rintro (⟨a, -⟩ | ⟨-, -, c⟩ | ⟨-, b, -⟩ | ⟨-, b, -⟩ | ⟨-, b, -⟩)
    · omega
    · exact c
    all_goals exact absurd b ha
  · intro h
    exact Or.inr (Or.inl ⟨hp, ha, h⟩)
theorem Solv_plain {M : Mo} {p t : Tr} {gs : List Goal} {ρ ρ' : Env} (hp : 0 ≤ lab p) (ha : mAs M (lab p) = 0) : Solv M (.inl (p, t) :: gs) ρ ρ' ↔
    (lab t = lab p ∧ Solv M (pairG (kids p) (kids t) ++ gs) ρ ρ') ∨ (lab t = lab p ∧ mCo M (lab p) ≠ 0 ∧ Solv M (pairG (kids p) (kids t).reverse ++ gs) ρ ρ') ∨
    (mUn M (lab p) ≠ -2 ∧ (Solv M (pairG (kids p) [t, unT M (lab p)] ++ gs) ρ ρ' ∨ Solv M (pairG (kids p) [unT M (lab p), t] ++ gs) ρ ρ')) := by
  rw [Solv_iff]
  simp only [FS]
  constructor
  · rintro (⟨a, -⟩ | ⟨-, b, -⟩ | ⟨-, -, c⟩ | ⟨-, -, c⟩ | ⟨-, -, c⟩)
    · omega
    · exact absurd ha b
    · exact Or.inl c
    · exact Or.inr (Or.inl c)
    · exact Or.inr (Or.inr c)
  · rintro (h | h | h)
    · exact Or.inr (Or.inr (Or.inl ⟨hp, ha, h⟩))
    · exact Or.inr (Or.inr (Or.inr (Or.inl ⟨hp, ha, h⟩)))
    · exact Or.inr (Or.inr (Or.inr (Or.inr ⟨hp, ha, h⟩)))
theorem Solv_row {M : Mo} {p : Tr} {s : Nat} {es : List Tr} {gs : List Goal} {ρ ρ' : Env} : Solv M (.inr (p, s, es) :: gs) ρ ρ' ↔ (s = (kids p).length ∧ es = [] ∧ Solv M gs ρ ρ') ∨ ∃ q S T, (kids p)[s]? = some q ∧ Sp M (lab p) es S T ∧ mkS M (lab p) S ≠ .nil ∧ Solv M (.inl (q, mkS M (lab p) S) :: .inr (p, s + 1, T) :: gs) ρ ρ' := by
  rw [Solv_iff]
  exact Iff.rfl
/-- nothing is left behind the last part -/
theorem Solv_end {M : Mo} {p : Tr} {s : Nat} {es : List Tr} {gs : List Goal} {ρ ρ' : Env} (hs : s = (kids p).length) : Solv M (.inr (p, s, es) :: gs) ρ ρ' ↔ es = [] ∧ Solv M gs ρ ρ' := by
  rw [Solv_row]
  constructor
  · rintro (⟨-, b⟩ | ⟨q, S, T, a, -⟩)
    · exact b
    · rw [List.getElem?_eq_none (by omega)] at a
      cases a
  · intro h
    exact Or.inl ⟨hs, h⟩
/-! deals -/
theorem spl_nil {S R : List Tr} : spl [] S R ↔ S = [] ∧ R = [] := Iff.rfl
theorem spl_all (es : List Tr) : spl es es [] := by
  induction es with
  | nil => exact ⟨rfl, rfl⟩
  | cons e es ih => exact Or.inl ⟨es, rfl, ih⟩
theorem spl_mem {es S R : List Tr} (h : spl es S R) : (∀ t ∈ S, t ∈ es) ∧ (∀ t ∈ R, t ∈ es) ∧ S.length + R.length = es.length := by
  induction es generalizing S R with
  | nil => obtain ⟨rfl, rfl⟩ := h; simp
  | cons e es ih =>
    rcases h with ⟨S', rfl, h⟩ | ⟨R', rfl, h⟩
    · have := ih h
      refine ⟨fun t ht => ?_, fun t ht => List.mem_cons_of_mem _ (this.2.1 t ht), by simp only [List.length_cons]; omega⟩
      rcases List.mem_cons.mp ht with rfl | ht
      · exact List.mem_cons_self ..
      · exact List.mem_cons_of_mem _ (this.1 t ht)
    · have := ih h
      refine ⟨fun t ht => List.mem_cons_of_mem _ (this.1 t ht), fun t ht => ?_, by simp only [List.length_cons]; omega⟩
      rcases List.mem_cons.mp ht with rfl | ht
      · exact List.mem_cons_self ..
      · exact List.mem_cons_of_mem _ (this.2.1 t ht)
theorem spl_rnil {es S : List Tr} (h : spl es S []) : S = es := by
  induction es generalizing S with
  | nil => exact h.1
  | cons e es ih =>
    rcases h with ⟨S', rfl, h⟩ | ⟨R', e2, -⟩
    · rw [ih h]
    · cases e2
theorem Sp_all (M : Mo) (o : Int) (es : List Tr) : Sp M o es es [] := by
  unfold Sp
  split
  · exact spl_all es
  · simp
theorem Sp_rnil {M : Mo} {o : Int} {es S : List Tr} (h : Sp M o es S []) : S = es := by
  unfold Sp at h
  split at h
  · exact spl_rnil h
  · simpa using h.symm
theorem Sp_mem {M : Mo} {o : Int} {es S R : List Tr} (h : Sp M o es S R) : (∀ t ∈ S, t ∈ es) ∧ (∀ t ∈ R, t ∈ es) ∧ S.length + R.length = es.length := by
  unfold Sp at h
  split at h
  · exact spl_mem h
  · subst h
    exact ⟨fun t ht => List.mem_append_left _ ht, fun t ht => List.mem_append_right _ ht, by simp⟩
/-! goals one behind another -/
theorem Solv_split {M : Mo} {gs : List Goal} {ρ ρ' : Env} (h : Solv M gs ρ ρ') : ∀ gs1 gs2, gs = gs1 ++ gs2 → ∃ ρ1, Solv M gs1 ρ ρ1 ∧ Solv M gs2 ρ1 ρ' := by
  refine h (fun gs ρ ρ' => ∀ gs1 gs2, gs = gs1 ++ gs2 → ∃ ρ1, Solv M gs1 ρ ρ1 ∧ Solv M gs2 ρ1 ρ') ?_
  intro gs ρ ρ' hF gs1 gs2 e
  have weak : ∀ gs ρ ρ', (∀ gs1 gs2, gs = gs1 ++ gs2 → ∃ ρ1, Solv M gs1 ρ ρ1 ∧ Solv M gs2 ρ1 ρ') → Solv M gs ρ ρ' := by
    intro gs ρ ρ' k
    obtain ⟨ρ1, a, b⟩ := k [] gs rfl
    rw [Solv_nil] at a
    rw [← a]; exact b
  match gs1 with
  | [] =>
    refine ⟨ρ, Solv_nil.mpr rfl, ?_⟩
    rw [List.nil_append] at e
    rw [← e]
    exact Solv_in (FS_mono weak _ _ _ hF)
  | .inl (p, t) :: g1 =>
    rw [e, List.cons_append] at hF
    simp only [FS] at hF
    rcases hF with ⟨a, b | b⟩ | ⟨a, b, c⟩ | ⟨a, b, c, d⟩ | ⟨a, b, c, d, e⟩ | ⟨a, b, c, d | d⟩
    · obtain ⟨ρ1, x, y⟩ := b.2.2 g1 gs2 rfl
      exact ⟨ρ1, Solv_in (Or.inl ⟨a, Or.inl ⟨b.1, b.2.1, x⟩⟩), y⟩
    · obtain ⟨ρ1, x, y⟩ := b.2.2.2 g1 gs2 rfl
      exact ⟨ρ1, Solv_in (Or.inl ⟨a, Or.inr ⟨b.1, b.2.1, b.2.2.1, x⟩⟩), y⟩
    · obtain ⟨ρ1, x, y⟩ := c (.inr (p, 0, elO M (lab p) t) :: g1) gs2 rfl
      exact ⟨ρ1, Solv_in (Or.inr (Or.inl ⟨a, b, x⟩)), y⟩
    · obtain ⟨ρ1, x, y⟩ := d (pairG (kids p) (kids t) ++ g1) gs2 (by rw [List.append_assoc])
      exact ⟨ρ1, Solv_in (Or.inr (Or.inr (Or.inl ⟨a, b, c, x⟩))), y⟩
    · obtain ⟨ρ1, x, y⟩ := e (pairG (kids p) (kids t).reverse ++ g1) gs2 (by rw [List.append_assoc])
      exact ⟨ρ1, Solv_in (Or.inr (Or.inr (Or.inr (Or.inl ⟨a, b, c, d, x⟩)))), y⟩
    · obtain ⟨ρ1, x, y⟩ := d (pairG (kids p) [t, unT M (lab p)] ++ g1) gs2 (by rw [List.append_assoc])
      exact ⟨ρ1, Solv_in (Or.inr (Or.inr (Or.inr (Or.inr ⟨a, b, c, Or.inl x⟩)))), y⟩
    · obtain ⟨ρ1, x, y⟩ := d (pairG (kids p) [unT M (lab p), t] ++ g1) gs2 (by rw [List.append_assoc])
      exact ⟨ρ1, Solv_in (Or.inr (Or.inr (Or.inr (Or.inr ⟨a, b, c, Or.inr x⟩)))), y⟩
  | .inr (p, s, es) :: g1 =>
    rw [e, List.cons_append] at hF
    simp only [FS] at hF
    rcases hF with ⟨a, b, c⟩ | ⟨q, S, T, a, b, c, d⟩
    · obtain ⟨ρ1, x, y⟩ := c g1 gs2 rfl
      exact ⟨ρ1, Solv_in (Or.inl ⟨a, b, x⟩), y⟩
    · obtain ⟨ρ1, x, y⟩ := d (.inl (q, mkS M (lab p) S) :: .inr (p, s + 1, T) :: g1) gs2 rfl
      exact ⟨ρ1, Solv_in (Or.inr ⟨q, S, T, a, b, c, x⟩), y⟩
theorem Solv_join {M : Mo} {gs1 : List Goal} {ρ ρ1 : Env} (h : Solv M gs1 ρ ρ1) : ∀ gs2 ρ', Solv M gs2 ρ1 ρ' → Solv M (gs1 ++ gs2) ρ ρ' := by
  refine h (fun gs1 ρ ρ1 => ∀ gs2 ρ', Solv M gs2 ρ1 ρ' → Solv M (gs1 ++ gs2) ρ ρ') ?_
  intro gs ρ ρ1 hF gs2 ρ' h2
  match gs with
  | [] =>
    rw [show ρ1 = ρ from hF] at h2
    exact h2
  | .inl (p, t) :: g1 =>
    simp only [FS] at hF
    refine Solv_in ?_
    rw [List.cons_append]
    simp only [FS]
    rcases hF with ⟨a, b | b⟩ | ⟨a, b, c⟩ | ⟨a, b, c, d⟩ | ⟨a, b, c, d, e⟩ | ⟨a, b, c, d | d⟩
    · exact Or.inl ⟨a, Or.inl ⟨b.1, b.2.1, b.2.2 _ _ h2⟩⟩
    · exact Or.inl ⟨a, Or.inr ⟨b.1, b.2.1, b.2.2.1, b.2.2.2 _ _ h2⟩⟩
    · exact Or.inr (Or.inl ⟨a, b, c _ _ h2⟩)
    · exact Or.inr (Or.inr (Or.inl ⟨a, b, c, by rw [← List.append_assoc]; exact d _ _ h2⟩))
    · exact Or.inr (Or.inr (Or.inr (Or.inl ⟨a, b, c, d, by rw [← List.append_assoc]; exact e _ _ h2⟩)))
    · exact Or.inr (Or.inr (Or.inr (Or.inr ⟨a, b, c, Or.inl (by rw [← List.append_assoc]; exact d _ _ h2)⟩)))
    · exact Or.inr (Or.inr (Or.inr (Or.inr ⟨a, b, c, Or.inr (by rw [← List.append_assoc]; exact d _ _ h2)⟩)))
  | .inr (p, s, es) :: g1 =>
    simp only [FS] at hF
    refine Solv_in ?_
    rw [List.cons_append]
    simp only [FS]
    rcases hF with ⟨a, b, c⟩ | ⟨q, S, T, a, b, c, d⟩
    · exact Or.inl ⟨a, b, c _ _ h2⟩
    · exact Or.inr ⟨q, S, T, a, b, c, d _ _ h2⟩
theorem Solv_app {M : Mo} {gs1 gs2 : List Goal} {ρ ρ' : Env} : Solv M (gs1 ++ gs2) ρ ρ' ↔ ∃ ρ1, Solv M gs1 ρ ρ1 ∧ Solv M gs2 ρ1 ρ' :=
  ⟨fun h => Solv_split h gs1 gs2 rfl, fun ⟨_, a, b⟩ => Solv_join a _ _ b⟩
theorem Solv_cons {M : Mo} {g : Goal} {gs : List Goal} {ρ ρ' : Env} : Solv M (g :: gs) ρ ρ' ↔ ∃ ρ1, Solv M [g] ρ ρ1 ∧ Solv M gs ρ1 ρ' := Solv_app (gs1 := [g])
/-- the last part takes all -/
theorem Solv_last {M : Mo} {p q : Tr} {s : Nat} {es : List Tr} {gs : List Goal} {ρ ρ' : Env} (hs : s + 1 = (kids p).length) (hq : (kids p)[s]? = some q) : Solv M (.inr (p, s, es) :: gs) ρ ρ' ↔ mkS M (lab p) es ≠ .nil ∧ Solv M (.inl (q, mkS M (lab p) es) :: gs) ρ ρ' := by
  rw [Solv_row]
  constructor
  · rintro (⟨a, -⟩ | ⟨q', S, T, a, b, c, d⟩)
    · omega
    · rw [hq] at a
      simp only [Option.some.injEq] at a
      subst a
      rw [Solv_cons] at d
      obtain ⟨ρ1, d1, d2⟩ := d
      rw [Solv_end hs] at d2
      rw [d2.1] at b
      rw [Sp_rnil b] at c d1
      exact ⟨c, Solv_cons.mpr ⟨ρ1, d1, d2.2⟩⟩
  · rintro ⟨c, d⟩
    obtain ⟨ρ1, d1, d2⟩ := Solv_cons.mp d
    exact Or.inr ⟨q, es, [], hq, Sp_all M _ es, c, Solv_cons.mpr ⟨ρ1, d1, (Solv_end hs).mpr ⟨rfl, d2⟩⟩⟩
/-! what is bound stays, all variables of the patterns get bound -/
def ble (ρ ρ' : Env) : Prop := ∀ v, ρ v ≠ .nil → ρ' v = ρ v
theorem Solv_ble {M : Mo} {gs : List Goal} {ρ ρ' : Env} (h : Solv M gs ρ ρ') : ble ρ ρ' := by
  refine h (fun _ ρ ρ' => ble ρ ρ') ?_
  intro gs ρ ρ' hF
  match gs with
  | [] => rw [show ρ' = ρ from hF]; exact fun _ _ => rfl
  | .inl (p, t) :: g1 =>
    simp only [FS] at hF
    rcases hF with ⟨a, b | b⟩ | ⟨a, b, c⟩ | ⟨a, b, c, d⟩ | ⟨a, b, c, d, e⟩ | ⟨a, b, c, d | d⟩
    · exact b.2.2
    · intro v hv
      have hne : v ≠ -1 - lab p := fun z => hv (by rw [z]; exact b.1)
      have := b.2.2.2 v (by unfold upE; rw [if_neg hne]; exact hv)
      rw [this]
      unfold upE
      rw [if_neg hne]
    · exact c
    · exact d
    · exact e
    · exact d
    · exact d
  | .inr (p, s, es) :: g1 =>
    simp only [FS] at hF
    rcases hF with ⟨a, b, c⟩ | ⟨q, S, T, a, b, c, d⟩
    · exact c
    · exact d

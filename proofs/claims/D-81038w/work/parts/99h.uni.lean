/-! all that a matching can make -/
theorem nodup_le {α : Type} : ∀ {l m : List α}, l.Nodup → (∀ x ∈ l, x ∈ m) → l.length ≤ m.length := by
  intro l
  induction l with
  | nil => intro m _ _; simp
  | cons x l ih =>
    intro m hn hs
    rw [List.nodup_cons] at hn
    obtain ⟨m1, m2, rfl⟩ := List.append_of_mem (hs x (List.mem_cons_self ..))
    have := ih (m := m1 ++ m2) hn.2 (fun y hy => by
      have h1 := hs y (List.mem_cons_of_mem _ hy)
      rcases List.mem_append.mp h1 with z | z
      · exact List.mem_append_left _ z
      · rcases List.mem_cons.mp z with z | z
        · subst z; exact absurd hy hn.1
        · exact List.mem_append_right _ z)
    simp only [List.length_append, List.length_cons] at this ⊢
    omega
theorem ExX.count {M : Mo} {σ s : S} {U : List Tr} {N : Tr → Prop} (h : XP M σ) (k : XP M s) (e : ExX σ s N) (hU : ∀ t, N t → t ∈ U) : gI s 93 ≤ gI σ 93 + U.length := by
  have rg := h.rg
  have hn : ((rowI (fun x => x) (gI σ 93) (gI s 93 - gI σ 93).toNat).map (tX s)).Nodup := by
    rw [List.nodup_iff_pairwise_ne, List.pairwise_map]
    have key : ∀ (n : Nat) (a : Int), 1 ≤ a → a + n ≤ gI s 93 → (rowI (fun x => x) a n).Pairwise fun x y => tX s x ≠ tX s y := by
      intro n
      induction n with
      | zero => intro a _ _; exact List.Pairwise.nil
      | succ n ih =>
        intro a h1 h2
        simp only [rowI]
        rw [List.pairwise_cons]
        refine ⟨fun y hy z => ?_, ih (a + 1) (by omega) (by omega)⟩
        obtain ⟨j, j0, j1, rfl⟩ := rowI_mem.mp hy
        have := k.inj (x := a) (y := a + 1 + j) ⟨h1, by omega⟩ ⟨by omega, by omega⟩ z
        omega
    exact key _ _ rg.1 (by have := e.1; omega)
  have := nodup_le hn (m := U) (fun t ht => by
    obtain ⟨x, hx, rfl⟩ := List.mem_map.mp ht
    obtain ⟨j, j0, j1, rfl⟩ := rowI_mem.mp hx
    exact hU _ (e.2.2 _ (by omega) (by omega)).2)
  rw [List.length_map, rowI_len] at this
  omega
theorem ExT.count {M : Mo} {σ s : S} {U : List Tr} {N : Tr → Prop} (h : TP M σ) (k : TP M s) (e : ExT σ s N) (hU : ∀ t, N t → t ∈ U) : gI s 80 ≤ gI σ 80 + U.length := by
  have rg := h.rg
  have hn : ((rowI (fun x => x) (gI σ 80) (gI s 80 - gI σ 80).toNat).map (tT s)).Nodup := by
    rw [List.nodup_iff_pairwise_ne, List.pairwise_map]
    have key : ∀ (n : Nat) (a : Int), 0 ≤ a → a + n ≤ gI s 80 → (rowI (fun x => x) a n).Pairwise fun x y => tT s x ≠ tT s y := by
      intro n
      induction n with
      | zero => intro a _ _; exact List.Pairwise.nil
      | succ n ih =>
        intro a h1 h2
        simp only [rowI]
        rw [List.pairwise_cons]
        refine ⟨fun y hy z => ?_, ih (a + 1) (by omega) (by omega)⟩
        obtain ⟨j, j0, j1, rfl⟩ := rowI_mem.mp hy
        have := k.inj (x := a) (y := a + 1 + j) ⟨h1, by omega⟩ ⟨by omega, by omega⟩ z
        omega
    exact key _ _ rg.1 (by have := e.1; omega)
  have := nodup_le hn (m := U) (fun t ht => by
    obtain ⟨x, hx, rfl⟩ := List.mem_map.mp ht
    obtain ⟨j, j0, j1, rfl⟩ := rowI_mem.mp hx
    exact hU _ (e.2.2 _ (by omega) (by omega)).2)
  rw [List.length_map, rowI_len] at this
  omega
/-- all terms in a term -/
def subs : Tr → List Tr
  | .nest c l => .nest c l :: subs l
  | .append a l => subs a ++ subs l
  | _ => []
theorem subs_N (c : Int) (ts : List Tr) : subs (trN c ts) = trN c ts :: ts.flatMap subs := by
  have : ∀ ts : List Tr, subs (trL ts) = ts.flatMap subs := by
    intro ts
    induction ts with
    | nil => rfl
    | cons t r ih => simp only [trL, subs, ih, List.flatMap_cons]
  simp only [trN, subs, this]
theorem subs_self {t : Tr} (h : isT t) : t ∈ subs t := by
  obtain ⟨c, ts, rfl, -, -⟩ := isT_ex h
  rw [subs_N]; exact List.mem_cons_self ..
theorem subs_len {t : Tr} (h : isT t) : (subs t).length = trS t := by
  have key : ∀ t, isT t → (subs t).length = trS t := by
    refine tr_ind ?_
    intro c ts hc hk ih
    rw [subs_N, trS_N, List.length_cons, List.length_flatMap]
    have : ts.map (fun a => (subs a).length) = ts.map trS := List.map_congr_left ih
    rw [this]; omega
  exact key t h
theorem subs_kid {t r u : Tr} (h : isT t) (hr : r ∈ subs t) (hu : u ∈ kids r) : u ∈ subs t ∧ isT u ∧ isT r := by
  have key : ∀ t, isT t → ∀ r ∈ subs t, isT r ∧ ∀ u ∈ kids r, u ∈ subs t ∧ isT u := by
    refine tr_ind ?_
    intro c ts hc hk ih r hr
    rw [subs_N] at hr ⊢
    rcases List.mem_cons.mp hr with rfl | hr
    · refine ⟨isT_N.mpr ⟨hc, hk⟩, fun u hu => ?_⟩
      rw [kids_N] at hu
      exact ⟨List.mem_cons_of_mem _ (List.mem_flatMap.mpr ⟨u, hu, subs_self (hk u hu)⟩), hk u hu⟩
    · obtain ⟨t, ht, hr⟩ := List.mem_flatMap.mp hr
      have := ih t ht r hr
      exact ⟨this.1, fun u hu => ⟨List.mem_cons_of_mem _ (List.mem_flatMap.mpr ⟨t, ht, (this.2 u hu).1⟩), (this.2 u hu).2⟩⟩
  have := key t h r hr
  exact ⟨(this.2 u hu).1, (this.2 u hu).2, this.1⟩
theorem spl_trans {es S R T Q : List Tr} (h : spl es S R) (k : spl S T Q) : ∃ W, spl es T W := by
  induction es generalizing S R T Q with
  | nil =>
    obtain ⟨rfl, rfl⟩ := h
    obtain ⟨rfl, rfl⟩ := k
    exact ⟨[], rfl, rfl⟩
  | cons e es ih =>
    rcases h with ⟨S', rfl, h⟩ | ⟨R', rfl, h⟩
    · rcases k with ⟨T', rfl, k⟩ | ⟨Q', rfl, k⟩
      · obtain ⟨W, hW⟩ := ih h k
        exact ⟨W, Or.inl ⟨T', rfl, hW⟩⟩
      · obtain ⟨W, hW⟩ := ih h k
        exact ⟨e :: W, Or.inr ⟨W, rfl, hW⟩⟩
    · obtain ⟨W, hW⟩ := ih h k
      exact ⟨e :: W, Or.inr ⟨W, rfl, hW⟩⟩
/-- what a matching against t0 sees -/
def inU (M : Mo) (A : Int → Bool) (t0 t : Tr) : Prop :=
  t ∈ subs t0 ∨ (∃ r ∈ subs t0, A (lab r) = true ∧ ∃ S R, spl (kids r) S R ∧ 2 ≤ S.length ∧ t = trN (lab r) S) ∨ ∃ o, 0 ≤ o ∧ o < mOps M ∧ mUn M o ≠ -2 ∧ t = unT M o
def rowU (M : Mo) (A : Int → Bool) (t0 : Tr) (o : Int) (es : List Tr) : Prop :=
  (es.length ≤ 1 ∧ ∀ e ∈ es, inU M A t0 e) ∨ ∃ r ∈ subs t0, lab r = o ∧ ∃ R, spl (kids r) es R
theorem inU_kid {M : Mo} {A : Int → Bool} {t0 t u : Tr} (h0 : isT t0) (h : inU M A t0 t) (hu : u ∈ kids t) : inU M A t0 u := by
  rcases h with h | ⟨r, hr, hA, S, R, hs, h2, rfl⟩ | ⟨o, -, -, -, rfl⟩
  · exact Or.inl (subs_kid h0 h hu).1
  · rw [kids_N] at hu
    exact Or.inl (subs_kid h0 hr ((spl_mem hs).1 u hu)).1
  · unfold unT at hu
    rw [kids_N] at hu
    cases hu
theorem rowU_el {M : Mo} {A : Int → Bool} {t0 t : Tr} {o : Int} (h : inU M A t0 t) (ht : isT t) : rowU M A t0 o (elO M o t) := by
  unfold elO
  by_cases hl : lab t = o
  · rw [if_pos hl]
    rcases h with h | ⟨r, hr, hA, S, R, hs, h2, rfl⟩ | ⟨q, -, -, -, rfl⟩
    · exact Or.inr ⟨t, h, hl, [], spl_all _⟩
    · rw [lab_N] at hl
      rw [kids_N]
      exact Or.inr ⟨r, hr, hl, R, hs⟩
    · left
      unfold unT
      rw [kids_N]
      exact ⟨by simp, fun e he => by cases he⟩
  · rw [if_neg hl]
    left
    split
    · exact ⟨by simp, fun e he => by cases he⟩
    · exact ⟨by simp, fun e he => by simp only [List.mem_singleton] at he; rw [he]; exact h⟩
theorem rowU_sub {M : Mo} {A : Int → Bool} {t0 : Tr} {o : Int} {es S R : List Tr} (h : rowU M A t0 o es) (hs : spl es S R) : rowU M A t0 o S ∧ rowU M A t0 o R := by
  have hm := spl_mem hs
  rcases h with ⟨h1, h2⟩ | ⟨r, hr, hl, Q, hq⟩
  · exact ⟨Or.inl ⟨by omega, fun e he => h2 e (hm.1 e he)⟩, Or.inl ⟨by omega, fun e he => h2 e (hm.2.1 e he)⟩⟩
  · have sw : ∀ {a b c : List Tr}, spl a b c → spl a c b := by
      intro a
      induction a with
      | nil => rintro b c ⟨rfl, rfl⟩; exact ⟨rfl, rfl⟩
      | cons e es ih =>
        rintro b c (⟨S', rfl, z⟩ | ⟨R', rfl, z⟩)
        · exact Or.inr ⟨S', rfl, ih z⟩
        · exact Or.inl ⟨R', rfl, ih z⟩
    obtain ⟨W1, hW1⟩ := spl_trans hq hs
    obtain ⟨W2, hW2⟩ := spl_trans hq (sw hs)
    exact ⟨Or.inr ⟨r, hr, hl, W1, hW1⟩, Or.inr ⟨r, hr, hl, W2, hW2⟩⟩
theorem rowU_mk {M : Mo} {A B : Int → Bool} {t0 : Tr} {o : Int} (h00 : isT t0) (h0 : 0 ≤ o) (h1 : o < mOps M) (has : mAs M o ≠ 0) (hA : A o = true) {es : List Tr} (h : rowU M A t0 o es) (he : elm M o B es) (hn : mkS M o es ≠ .nil) : inU M A t0 (mkS M o es) := by
  match es, h, he with
  | [], _, _ =>
    simp only [mkS] at hn ⊢
    by_cases hu : mUn M o = -2
    · rw [if_pos hu] at hn; exact absurd rfl hn
    · rw [if_neg hu]; exact Or.inr (Or.inr ⟨o, h0, h1, hu, rfl⟩)
  | [t], h, _ =>
    simp only [mkS]
    rcases h with ⟨-, z⟩ | ⟨r, hr, hl, R, hs⟩
    · exact z t (by simp)
    · exact Or.inl (subs_kid h00 hr ((spl_mem hs).1 t (by simp))).1
  | a :: b :: r, h, he =>
    rw [mkS_elm has he (by simp)]
    rcases h with ⟨z, -⟩ | ⟨q, hq, hl, R, hs⟩
    · simp at z
    · exact Or.inr (Or.inl ⟨q, hq, by rw [hl]; exact hA, _, R, hs, by simp, by rw [hl]⟩)
/-! how many -/
def subl : List Tr → List (List Tr)
  | [] => [[]]
  | e :: es => (subl es).map (e :: ·) ++ subl es
theorem subl_len (es : List Tr) : (subl es).length = 2 ^ es.length := by
  induction es with
  | nil => rfl
  | cons e es ih => simp only [subl, List.length_append, List.length_map, ih, List.length_cons, Nat.pow_succ]; omega
theorem subl_spl {es S R : List Tr} (h : spl es S R) : S ∈ subl es := by
  induction es generalizing S R with
  | nil => obtain ⟨rfl, rfl⟩ := h; simp [subl]
  | cons e es ih =>
    simp only [subl, List.mem_append, List.mem_map]
    rcases h with ⟨S', rfl, h⟩ | ⟨R', rfl, h⟩
    · exact Or.inl ⟨S', ih h, rfl⟩
    · exact Or.inr (ih h)
def uniL (M : Mo) (A : Int → Bool) (t0 : Tr) : List Tr :=
  subs t0 ++ ((subs t0).flatMap (fun r => if A (lab r) = true ∧ (kids r).length ≤ 6 then (subl (kids r)).map (fun S => trN (lab r) S) else []) ++ (List.range 50).map (fun o => unT M ((o : Nat) : Int)))
theorem subs_narrow {A : Int → Bool} {t0 : Tr} (h : isT t0) (hw : tWide A t0 = false) : ∀ r ∈ subs t0, A (lab r) = true → (kids r).length ≤ 6 := by
  have key : ∀ t, isT t → tWide A t = false → ∀ r ∈ subs t, A (lab r) = true → (kids r).length ≤ 6 := by
    refine tr_ind ?_
    intro c ts hc hk ih hw r hr hA
    rw [tWide_N] at hw
    simp only [Bool.or_eq_false_iff, List.any_eq_false] at hw
    rw [subs_N] at hr
    rcases List.mem_cons.mp hr with rfl | hr
    · rw [lab_N] at hA
      rw [kids_N]
      have := hw.1
      rw [hA, Bool.true_and, decide_eq_false_iff_not] at this
      omega
    · obtain ⟨t, ht, hr⟩ := List.mem_flatMap.mp hr
      exact ih t ht (by simpa using hw.2 t ht) r hr hA
  exact key t0 h hw
theorem uni_mem {M : Mo} (hM : WM M) {A : Int → Bool} {t0 t : Tr} (h0 : isT t0) (hw : tWide A t0 = false) (h : inU M A t0 t) : t ∈ uniL M A t0 := by
  unfold uniL
  rcases h with h | ⟨r, hr, hA, S, R, hs, h2, rfl⟩ | ⟨o, o0, o1, -, rfl⟩
  · exact List.mem_append_left _ h
  · refine List.mem_append_right _ (List.mem_append_left _ (List.mem_flatMap.mpr ⟨r, hr, ?_⟩))
    rw [if_pos ⟨hA, subs_narrow h0 hw r hr hA⟩]
    exact List.mem_map.mpr ⟨S, subl_spl hs, rfl⟩
  · refine List.mem_append_right _ (List.mem_append_right _ (List.mem_map.mpr ⟨o.toNat, List.mem_range.mpr (by have := hM.2.2.1; omega), ?_⟩))
    rw [show ((o.toNat : Nat) : Int) = o by omega]
theorem uni_len {M : Mo} {A : Int → Bool} {t0 : Tr} (h0 : isT t0) (hs : trS t0 ≤ 40) : (uniL M A t0).length ≤ 2650 := by
  unfold uniL
  have hl := subs_len h0
  have key : ∀ l : List Tr, (l.flatMap (fun r => if A (lab r) = true ∧ (kids r).length ≤ 6 then (subl (kids r)).map (fun S => trN (lab r) S) else [])).length ≤ 64 * l.length := by
    intro l
    induction l with
    | nil => simp
    | cons r l ih =>
      rw [List.flatMap_cons, List.length_append, List.length_cons]
      split
      · rename_i h
        rw [List.length_map, subl_len]
        have : 2 ^ (kids r).length ≤ 2 ^ 6 := Nat.pow_le_pow_right (by omega) h.2
        omega
      · rw [List.length_nil]; omega
  have := key (subs t0)
  simp only [List.length_append, List.length_map, List.length_range]
  omega

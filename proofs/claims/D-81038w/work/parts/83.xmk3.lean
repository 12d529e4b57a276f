/-! RewriteHouse: making -/
/-- what make makes -/
def mkQ (M : Mo) (σ : S) (o a : Int) (t : Tr) (r : Int) (s : S) : Prop := XP M s ∧ lvX s r ∧ tX s r = t ∧ ExX σ s (fun u => u = t ∨ mUn M o ≠ -2 ∧ u = unT M o) ∧ gI s 93 ≤ gI σ 93 + 2 ∧ trS t ≤ 40 ∧ gI s 106 = a ∧ ∀ j, j < a → gA s 74 j = gA σ 74 j
def mkE (M : Mo) (σ : S) (o : Int) (t : Tr) (s : S) : Prop := 40 < trS t ∧ gI s 1006 = 6 ∧ XP M s ∧ ExX σ s (fun u => mUn M o ≠ -2 ∧ u = unT M o)
theorem ExX.places {M : Mo} {σ s : S} {N : Tr → Prop} (h : XP M σ) (k : XP M s) (e : ExX σ s N) {m c : Int} (hm : gI s 93 ≤ gI σ 93 + m) (hm0 : 0 ≤ m) (hc : 0 ≤ c) (hN : ∀ t, N t → isT t → ((kids t).length : Int) ≤ c) : gI s 102 ≤ gI σ 102 + m * c := by
  rw [h.pl, k.pl]
  have rg := h.rg
  have eo : rowI (gA s 68) 1 (gI σ 93 - 1).toNat = rowI (gA σ 68) 1 (gI σ 93 - 1).toNat := by
    apply rowI_congr
    intro j j0 j1
    have lj : lvX σ (1 + j) := ⟨by omega, by omega⟩
    have e1 := e.t lj
    rw [tX_row h lj, tX_row k (e.lv lj)] at e1
    have := congrArg List.length (trN_inj e1).2
    rw [List.length_map, rowI_len, List.length_map, rowI_len] at this
    have a1 := (h.at lj).1
    have a2 := (k.at (e.lv lj)).1
    omega
  have hn : (gI s 93 - 1).toNat = (gI σ 93 - 1).toNat + (gI s 93 - gI σ 93).toNat := by have := e.1; omega
  rw [hn, rowI_app, List.sum_append, eo]
  have key : ∀ (l : Nat) (a : Int), (∀ j : Int, 0 ≤ j → j < l → gA s 68 (a + j) ≤ c) → (rowI (gA s 68) a l).sum ≤ l * c := by
    intro l
    induction l with
    | zero => intro a _; simp [rowI]
    | succ l ih =>
      intro a hj
      simp only [rowI, List.sum_cons]
      have h1 := hj 0 (by omega) (by omega)
      rw [Int.add_zero] at h1
      have h2 := ih (a + 1) (fun j j0 j1 => by rw [show a + 1 + j = a + (j + 1) by omega]; exact hj (j + 1) (by omega) (by omega))
      rw [show ((l + 1 : Nat) : Int) * c = (l : Int) * c + c by rw [Int.natCast_add, Int.add_mul]; simp]
      omega
  have h3 := key (gI s 93 - gI σ 93).toNat (1 + ((gI σ 93 - 1).toNat : Int)) (fun j j0 j1 => by
    have lj : lvX s (1 + ((gI σ 93 - 1).toNat : Int) + j) := ⟨by omega, by omega⟩
    have h4 := hN _ (e.2.2 _ (by omega) lj.2).2 (k.T lj)
    rw [tX_row k lj, kids_N, List.length_map, rowI_len] at h4
    have := (k.at lj).1
    omega)
  have h5 : ((gI s 93 - gI σ 93).toNat : Int) * c ≤ m * c := Int.mul_le_mul_of_nonneg_right (by omega) hc
  omega
theorem xs_unitNode {M : Mo} {σ : S} (h : XP M σ) {o : Int} (h0 : 0 ≤ o) (h1 : o < mOps M) (hu : mUn M o ≠ -2) (ht : 0 ≤ gI σ 106) (ht1 : gI σ 106 ≤ 20000) (hr1 : gI σ 93 < 200000) (hr2 : gI σ 102 + 39 ≤ 600000) :
    x_unitNode o σ (ndQ M σ (unT M o)) (fun _ => False) := by
  have hM := h.wm
  have e : gA σ 54 o = mUn M o := by rw [← h.mo]; rfl
  unfold x_unitNode
  rw [e]
  refine ⟨by have := hM.2.2.1; omega, ?_⟩
  have := xs_nodeOf h hM (op := mUn M o) (n := 0) (ts := []) ht (by omega) (by omega) rfl (fun k k0 k1 => by omega) (okN_unT hM h0 h1 hu) hr1 hr2
  refine fm_x_nodeOf this (fun r s f q => q) (fun s f q => ?_)
  have := q.1
  rw [trS_N] at this
  simp at this
theorem rowH.ex {M : Mo} {σ s : S} {N : Tr → Prop} {a : Int} {n : Nat} {ts : List Tr} (h : rowH σ a n ts) (e : ExX σ s N) (hh : ∀ k : Int, 0 ≤ k → k < n → gA s 74 (a + k) = gA σ 74 (a + k)) : rowH s a n ts :=
  h.same hh (fun _ hx => ⟨e.lv hx, e.t hx⟩)
theorem xs_make_j138 {M : Mo} {σ : S} (h : XP M σ) {o a : Int} {n : Nat} {ts : List Tr} (ha : 0 ≤ a) (han : a + n ≤ 20000) (hr : rowH σ a n ts) (hok : okN M o ts) (hr1 : gI σ 93 < 200000) (hr2 : gI σ 102 + 39 ≤ 600000) :
    x_make_j138 o a n σ (fun r s => ndQ M σ (trN o ts) r s ∧ gI s 106 = a ∧ gA s 74 = gA σ 74) (ndE M σ (trN o ts)) := by
  unfold x_make_j138
  rintro s1 hs1
  have f1 : Fr ([106], [], []) σ s1 := Fr.rf.putI hs1 rfl
  have x1 : XP M s1 := h.fr f1 rfl
  have e1 : ∀ N, ExX σ s1 N := fun N => ExX.of_fr f1 rfl
  have r1 : rowH s1 a n ts := hr.ex (M := M) (e1 (fun _ => False)) (fun k _ _ => by rw [f1.a _ rfl])
  have i1 : gI s1 93 = gI σ 93 := f1.i _ rfl
  have rg := h.rg
  have := xs_nodeOf x1 x1.wm (op := o) (a := a) (n := n) (ts := ts) ha (by omega) han (by rw [show ((n : Int)).toNat = n by omega]; exact r1.2) (fun k k0 k1 => r1.1 k k0 k1) hok (by rw [i1]; exact hr1) (by rw [f1.i _ rfl]; exact hr2)
  refine fm_x_nodeOf this (fun r s f q => ⟨⟨q.1, q.2.1, q.2.2.1, (e1 _).trans q.2.2.2.1 rg.1, by have := q.2.2.2.2.1; omega, q.2.2.2.2.2⟩, ?_, ?_⟩) (fun s f q => ⟨q.1, q.2.1, q.2.2.1, (e1 _).trans q.2.2.2 rg.1⟩)
  · rw [f.i 106 rfl, hs1]; rfl
  · rw [f.a 74 rfl, f1.a _ rfl]
theorem xs_make_j123 {M : Mo} {σ : S} (h : XP M σ) {o a : Int} {n : Nat} {ts : List Tr} (ha : 0 ≤ a) (han : a + n ≤ 20000) (hr : rowH σ a n ts) (h0 : 0 ≤ o) (h1 : o < mOps M) (hok : okN M o (if mCo M o ≠ 0 then isort ts else ts)) (hr1 : gI σ 93 < 200000) (hr2 : gI σ 102 + 39 ≤ 600000) :
    x_make_j123 o a n σ (fun r s => ndQ M σ (mk3 M o ts) r s ∧ gI s 106 = a ∧ ∀ j, j < a → gA s 74 j = gA σ 74 j) (ndE M σ (mk3 M o ts)) := by
  have e : gA σ 53 o = mCo M o := by rw [← h.mo]; rfl
  have rg := h.rg
  unfold x_make_j123 mk3
  rw [e]
  refine ⟨by have := h.wm.2.2.1; omega, ?_⟩
  by_cases hc : mCo M o = 0
  · rw [if_pos hc]
    rw [if_neg (by simp [hc])] at hok
    rw [if_neg (by simp [hc])]
    refine fx_make_j138 Fr.rf (xs_make_j138 h ha han hr hok hr1 hr2) (fun r s f q => ⟨q.1, q.2.1, fun j _ => by rw [q.2.2]⟩) (fun s f q => q)
  · rw [if_neg hc]
    rw [if_pos hc] at hok
    rw [if_pos hc]
    refine fm_x_arrange (xs_arrange h ha han hr) (fun _ s f q => ?_)
    have xs := h.fr f rfl
    have ex : ∀ N, ExX σ s N := fun N => ExX.of_fr f rfl
    have i1 : gI s 93 = gI σ 93 := f.i _ rfl
    refine fx_make_j138 Fr.rf (xs_make_j138 xs ha han q.1 hok (by rw [i1]; exact hr1) (by rw [f.i _ rfl]; exact hr2)) (fun r s2 f2 q2 => ?_) (fun s2 f2 q2 => ⟨q2.1, q2.2.1, q2.2.2.1, (ex _).trans q2.2.2.2 rg.1⟩)
    exact ⟨⟨q2.1.1, q2.1.2.1, q2.1.2.2.1, (ex _).trans q2.1.2.2.2.1 rg.1, by have := q2.1.2.2.2.2.1; omega, q2.1.2.2.2.2.2⟩, q2.2.1, fun j hj => by rw [q2.2.2]; exact q.2 j (Or.inl hj)⟩

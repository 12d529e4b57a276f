/-! RewriteHouse: rows at hand -/
theorem xs_push {σ : S} {x : Int} {Q : Int → S → Prop} (h0 : 0 ≤ gI σ 106) (h1 : gI σ 106 < 20000) (hQ : Q 0 (pA (pI σ 106 (gI σ 106 + 1)) 74 (gI σ 106) x)) : x_push x σ Q := by
  unfold x_push
  rintro s1 hs1
  rw [w32_id (by omega) (by omega)] at hs1
  refine ⟨⟨h0, h1⟩, ?_⟩
  rintro s2 hs2
  rw [hs2, hs1]
  exact hQ
/-- a row at hand: all live, these terms -/
def rowH (σ : S) (a : Int) (n : Nat) (ts : List Tr) : Prop := (∀ k : Int, 0 ≤ k → k < n → lvX σ (gA σ 74 (a + k))) ∧ (rowI (gA σ 74) a n).map (tX σ) = ts
theorem rowH.len {σ : S} {a : Int} {n : Nat} {ts : List Tr} (h : rowH σ a n ts) : ts.length = n := by rw [← h.2, List.length_map, rowI_len]
theorem rowH.same {σ s : S} {a b : Int} {n : Nat} {ts : List Tr} (h : rowH σ a n ts) (hv : ∀ k : Int, 0 ≤ k → k < n → gA s 74 (b + k) = gA σ 74 (a + k)) (hl : ∀ x, lvX σ x → lvX s x ∧ tX s x = tX σ x) : rowH s b n ts := by
  refine ⟨fun k k0 k1 => by rw [hv k k0 k1]; exact (hl _ (h.1 k k0 k1)).1, ?_⟩
  rw [← h.2, rowI_congr (f := gA s 74) (g := gA σ 74) (a := b) (b := a) hv]
  apply List.map_congr_left
  intro y hy
  obtain ⟨k, k0, k1, rfl⟩ := rowI_mem.mp hy
  exact (hl _ (h.1 k k0 k1)).2
theorem rowH.app {σ : S} {a : Int} {n m : Nat} {ts us : List Tr} (h : rowH σ a n ts) (k : rowH σ (a + n) m us) : rowH σ a (n + m) (ts ++ us) := by
  refine ⟨fun j j0 j1 => ?_, ?_⟩
  · by_cases hj : j < n
    · exact h.1 j j0 hj
    · have := k.1 (j - n) (by omega) (by omega)
      rw [show a + (n : Int) + (j - n) = a + j by omega] at this
      exact this
  · rw [rowI_app, List.map_append, h.2, k.2]
theorem rowH.one {σ : S} {a : Int} (h : lvX σ (gA σ 74 a)) : rowH σ a 1 [tX σ (gA σ 74 a)] := by
  refine ⟨fun k k0 k1 => by rw [show a + k = a by omega]; exact h, rfl⟩
theorem rowH.nil {σ : S} {a : Int} : rowH σ a 0 [] := ⟨fun k k0 k1 => by omega, rfl⟩
theorem rowH.split {σ : S} {a : Int} {n m : Nat} {ts : List Tr} (h : rowH σ a (n + m) ts) : rowH σ a n (ts.take n) ∧ rowH σ (a + n) m (ts.drop n) := by
  have e := h.2
  rw [rowI_app, List.map_append] at e
  have hl : ((rowI (gA σ 74) a n).map (tX σ)).length = n := by rw [List.length_map, rowI_len]
  refine ⟨⟨fun k k0 k1 => h.1 k k0 (by omega), ?_⟩, fun k k0 k1 => ?_, ?_⟩
  · rw [← e, List.take_left' hl]
  · have := h.1 (n + k) (by omega) (by omega)
    rw [show a + (n : Int) + k = a + (n + k) by omega]
    exact this
  · rw [← e, List.drop_left' hl]
theorem rowH.at {σ : S} {a : Int} {n : Nat} {ts : List Tr} (h : rowH σ a n ts) {k : Nat} (hk : k < n) : ts[k]? = some (tX σ (gA σ 74 (a + k))) := by
  rw [← h.2, List.getElem?_map, rowI_get _ _ hk]; rfl
abbrev poolX : List Nat := [66, 67, 68, 73, 75]
/-- hands and the top alone have changed -/
theorem lv_fr {σ s : S} {w : List Nat × List Nat × List Nat} (f : Fr w σ s) (hw : apt w [93] poolX = true) : ∀ x, lvX σ x → lvX s x ∧ tX s x = tX σ x := by
  intro x hx
  have e := apt_i hw f
  simp only [List.forall_mem_cons] at e
  refine ⟨⟨hx.1, by rw [e.1]; exact hx.2⟩, ?_⟩
  have ha := apt_a hw f
  simp only [List.forall_mem_cons] at ha
  unfold tX
  simp only [ha]
theorem flat_cons (o : Int) (t : Tr) (r : List Tr) : flat o (t :: r) = (if lab t = o then kids t else [t]) ++ flat o r := by unfold flat; rw [List.flatMap_cons]
theorem flat_app (o : Int) (a b : List Tr) : flat o (a ++ b) = flat o a ++ flat o b := by unfold flat; rw [List.flatMap_append]
theorem flat_len {M : Mo} {o : Int} {ts : List Tr} (h : ∀ t ∈ ts, trS t ≤ 40 ∧ isT t) : (flat o ts).length ≤ 39 * ts.length := by
  induction ts with
  | nil => simp [flat]
  | cons t r ih =>
    have h1 := ih (fun u hu => h u (List.mem_cons_of_mem _ hu))
    have h2 := h t (List.mem_cons_self ..)
    rw [flat_cons, List.length_append, List.length_cons]
    split
    · obtain ⟨c, us, rfl, -, hk⟩ := isT_ex h2.2
      have h3 := h2.1
      rw [trS_N] at h3
      have := trS_len hk
      rw [kids_N]
      omega
    · simp; omega
theorem xs_flatten {M : Mo} {σ : S} (h : XP M σ) {o a : Int} {n : Nat} {ts : List Tr} (ha : 0 ≤ a) (htop : gI σ 106 = a + n) (hn : n ≤ 60) (ht : a + n ≤ 15000) (hr : rowH σ a n ts) :
    x_flatten o a σ (fun r s => r = ((flat o ts).length : Int) ∧ gI s 106 = a + (flat o ts).length ∧ rowH s a (flat o ts).length (flat o ts) ∧ ∀ j, j < a → gA s 74 j = gA σ 74 j) := by
  have rg := h.rg
  have hsz : ∀ t ∈ ts, trS t ≤ 40 ∧ isT t := by
    intro t ht
    rw [← hr.2] at ht
    obtain ⟨y, hy, rfl⟩ := List.mem_map.mp ht
    obtain ⟨k, k0, k1, rfl⟩ := rowI_mem.mp hy
    exact ⟨(h.nd (hr.1 k k0 k1)).2.2.2, h.T (hr.1 k k0 k1)⟩
  have hlen := hr.len
  have hfl := flat_len (M := M) (o := o) hsz
  unfold x_flatten
  rw [htop]
  refine lx_flatten_L8 (fun i s => a ≤ i ∧ i ≤ a + n ∧ gI s 106 = a + n + ((flat o (ts.take (i - a).toNat)).length : Int) ∧ rowH s (a + n) (flat o (ts.take (i - a).toNat)).length (flat o (ts.take (i - a).toNat)) ∧ ∀ j, j < a + n → gA s 74 j = gA σ 74 j) (fun i _ => (a + n - i).toNat) ⟨by omega, by omega, by simp [htop, flat], by simp [flat]; exact rowH.nil, fun _ _ => rfl⟩ ?_
  rintro i s fr ⟨i0, i1, e1, e2, e3⟩
  try dsimp only
  have hs : XP M s := h.fr fr rfl
  have lf := lv_fr fr rfl
  by_cases hi : i < a + n
  · rw [if_pos hi]
    have hk : (i - a).toNat < n := by omega
    have hx0 := hr.1 (i - a) (by omega) (by omega)
    rw [show a + (i - a) = i by omega] at hx0
    rw [e3 i hi]
    have hx := (lf _ hx0).1
    have hat := hr.at hk
    rw [show a + (((i - a).toNat : Nat) : Int) = i by omega] at hat
    have htk : ts.take ((i + 1) - a).toNat = ts.take (i - a).toNat ++ [tX σ (gA σ 74 i)] := by
      rw [show ((i + 1) - a).toNat = (i - a).toNat + 1 by omega, List.take_add_one, hat]; rfl
    have hlt : (flat o (ts.take (i - a).toNat)).length ≤ 39 * (i - a).toNat := by
      have := flat_len (M := M) (o := o) (ts := ts.take (i - a).toNat) (fun t ht => hsz t (List.mem_of_mem_take ht))
      rw [List.length_take] at this
      omega
    have hlab : lab (tX σ (gA σ 74 i)) = gA s 66 (gA σ 74 i) := by
      rw [← (lf _ hx0).2]; exact den_lab hs.pv hx.1 hx.2
    refine ⟨⟨by omega, by omega⟩, ⟨by have := hx.1; omega, by have := hx.2; have := hs.rg; omega⟩, ?_⟩
    by_cases ho : gA s 66 (gA σ 74 i) = o
    · rw [if_pos ho]
      obtain ⟨b1, b2, b3, b4, b5⟩ := hs.at hx
      have hkid : kids (tX σ (gA σ 74 i)) = (rowI (gA s 73) (gA s 67 (gA σ 74 i)) (gA s 68 (gA σ 74 i)).toNat).map (tX s) := by
        rw [← (lf _ hx0).2, tX_row hs hx, kids_N]
      have hflat : flat o (ts.take ((i + 1) - a).toNat) = flat o (ts.take (i - a).toNat) ++ kids (tX σ (gA σ 74 i)) := by
        rw [htk, flat_app, flat_cons, if_pos (by rw [hlab]; exact ho)]; simp [flat]
      refine lx_flatten_L37 (fun k q => 0 ≤ k ∧ k ≤ gA s 68 (gA σ 74 i) ∧ Fr ([106], [], [74]) s q ∧ gI q 106 = gI s 106 + k ∧ (∀ j, j < gI s 106 → gA q 74 j = gA s 74 j) ∧ ∀ j, 0 ≤ j → j < k → gA q 74 (gI s 106 + j) = gA s 73 (gA s 67 (gA σ 74 i) + j)) (fun k _ => (gA s 68 (gA σ 74 i) - k).toNat) ⟨by omega, b1, Fr.rf, by omega, fun _ _ => rfl, fun j j0 j1 => by omega⟩ ?_
      rintro k q fr2 ⟨k0, k1, f, g1, g2, g3⟩
      try dsimp only
      have hq : XP M q := hs.fr f rfl
      have lq := lv_fr f rfl
      have hxq := (lq _ hx).1
      rw [f.a 68 rfl]
      refine ⟨⟨by have := hx.1; omega, by have := hx.2; have := hs.rg; omega⟩, ?_⟩
      by_cases hkn : k < gA s 68 (gA σ 74 i)
      · rw [if_pos hkn]
        refine xs_at hq hxq k0 (by rw [f.a _ rfl]; exact hkn) ?_
        refine xs_push (by omega) (by omega) ?_
        rw [w32_id (by omega) (by omega)]
        refine ⟨⟨by omega, by omega, (f.putI rfl rfl).putA rfl rfl, ?_, fun j hj => ?_, fun j j0 j1 => ?_⟩, by omega⟩
        · simp only [gI_pI, gI_pL, gI_pA, gL_pI, gL_pL, gL_pA, gA_pI, gA_pL, gA_pA]; simp; omega
        · simp only [gI_pI, gI_pL, gI_pA, gL_pI, gL_pL, gL_pA, gA_pI, gA_pL, gA_pA]
          rw [if_neg (by omega)]
          exact g2 j hj
        · simp only [gI_pI, gI_pL, gI_pA, gL_pI, gL_pL, gL_pA, gA_pI, gA_pL, gA_pA]
          rw [f.a 73 rfl, f.a 67 rfl]
          by_cases hj : j = k
          · rw [if_pos ⟨trivial, by omega⟩, hj]
          · rw [if_neg (by omega)]
            exact g3 j j0 (by omega)
      · rw [if_neg hkn]
        have ek : k = gA s 68 (gA σ 74 i) := by omega
        unfold x_flatten_j67 x_flatten_j76
        rw [w32_id (by omega) (by omega)]
        have hlk : (kids (tX σ (gA σ 74 i))).length = (gA s 68 (gA σ 74 i)).toNat := by rw [hkid, List.length_map, rowI_len]
        refine ⟨⟨by omega, by omega, ?_, ?_, fun j hj => ?_⟩, by omega⟩
        · rw [hflat, List.length_append, hlk, g1, e1]; omega
        · rw [hflat, List.length_append]
          refine rowH.app (e2.same (fun j j0 j1 => g2 _ (by omega)) lq) ⟨fun j j0 j1 => ?_, ?_⟩
          · rw [show a + (n : Int) + ((flat o (ts.take (i - a).toNat)).length : Int) + j = gI s 106 + j by omega, g3 j j0 (by omega)]
            exact (lq _ (b5 j j0 (by omega)).1).1
          · rw [hkid, List.length_map, rowI_len]
            rw [rowI_congr (f := gA q 74) (g := gA s 73) (b := gA s 67 (gA σ 74 i)) (fun j j0 j1 => by rw [show a + (n : Int) + ((flat o (ts.take (i - a).toNat)).length : Int) + j = gI s 106 + j by omega]; exact g3 j j0 (by omega))]
            apply List.map_congr_left
            intro y hy
            obtain ⟨j, j0, j1, rfl⟩ := rowI_mem.mp hy
            exact (lq _ (b5 j j0 (by omega)).1).2
        · rw [g2 j (by omega)]; exact e3 j hj
    · rw [if_neg ho]
      refine xs_push (by omega) (by omega) ?_
      unfold x_flatten_j76
      rw [w32_id (by omega) (by omega)]
      have hflat : flat o (ts.take ((i + 1) - a).toNat) = flat o (ts.take (i - a).toNat) ++ [tX σ (gA σ 74 i)] := by
        rw [htk, flat_app, flat_cons, if_neg (by rw [hlab]; exact ho)]; simp [flat]
      have f : Fr ([106], [], [74]) s (pA (pI s 106 (gI s 106 + 1)) 74 (gI s 106) (gA σ 74 i)) := (Fr.rf.putI rfl rfl).putA rfl rfl
      have lq := lv_fr f rfl
      have hv : gA (pA (pI s 106 (gI s 106 + 1)) 74 (gI s 106) (gA σ 74 i)) 74 (gI s 106) = gA σ 74 i := by simp [gI_pI, gI_pL, gI_pA, gL_pI, gL_pL, gL_pA, gA_pI, gA_pL, gA_pA]
      refine ⟨⟨by omega, by omega, ?_, ?_, fun j hj => ?_⟩, by omega⟩
      · rw [hflat, List.length_append]; simp only [gI_pI, gI_pL, gI_pA, gL_pI, gL_pL, gL_pA, gA_pI, gA_pL, gA_pA]; simp; omega
      · rw [hflat, List.length_append]
        refine rowH.app (e2.same (fun j j0 j1 => ?_) lq) ?_
        · simp only [gI_pI, gI_pL, gI_pA, gL_pI, gL_pL, gL_pA, gA_pI, gA_pL, gA_pA]; rw [if_neg (by omega)]
        · have := rowH.one (σ := pA (pI s 106 (gI s 106 + 1)) 74 (gI s 106) (gA σ 74 i)) (a := gI s 106) (by rw [hv]; exact (lq _ hx).1)
          rw [hv, (lq _ hx).2, (lf _ hx0).2] at this
          rw [← e1]
          exact this
      · simp only [gI_pI, gI_pL, gI_pA, gL_pI, gL_pL, gL_pA, gA_pI, gA_pL, gA_pA]
        rw [if_neg (by omega)]
        exact e3 j hj
  · rw [if_neg hi]
    have ei : i = a + n := by omega
    have etk : ts.take (i - a).toNat = ts := List.take_of_length_le (by omega)
    rw [etk] at e1 e2
    unfold x_flatten_j82
    have em : w32 (gI s 106 - (a + n)) = ((flat o ts).length : Int) := by rw [e1, w32_id (by omega) (by omega)]; omega
    rw [em]
    refine lx_flatten_L93 (fun k q => 0 ≤ k ∧ k ≤ ((flat o ts).length : Int) ∧ Fr ([], [], [74]) s q ∧ (∀ j, j < a ∨ a + k ≤ j ∧ a + n ≤ j → gA q 74 j = gA s 74 j) ∧ ∀ j, 0 ≤ j → j < k → gA q 74 (a + j) = gA s 74 (a + n + j)) (fun k _ => ((flat o ts).length - k).toNat) ⟨by omega, by omega, Fr.rf, fun _ _ => rfl, fun j j0 j1 => by omega⟩ ?_
    rintro k q fr2 ⟨k0, k1, f, g2, g3⟩
    try dsimp only
    by_cases hkn : k < ((flat o ts).length : Int)
    · rw [if_pos hkn]
      have w1 : w32 (a + n + k) = a + n + k := w32_id (by omega) (by omega)
      have w2 : w32 (a + k) = a + k := w32_id (by omega) (by omega)
      rw [w1, w2]
      refine ⟨⟨by omega, by omega⟩, ⟨by omega, by omega⟩, ?_⟩
      rintro q1 hq1
      rw [w32_id (by omega) (by omega)]
      refine ⟨⟨by omega, by omega, f.putA hq1 rfl, fun j hj => ?_, fun j j0 j1 => ?_⟩, by omega⟩
      · rw [hq1]; simp only [gI_pI, gI_pL, gI_pA, gL_pI, gL_pL, gL_pA, gA_pI, gA_pL, gA_pA]
        rw [if_neg (by omega)]
        exact g2 j (by omega)
      · rw [hq1]; simp only [gI_pI, gI_pL, gI_pA, gL_pI, gL_pL, gL_pA, gA_pI, gA_pL, gA_pA]
        by_cases hj : j = k
        · rw [if_pos ⟨trivial, by omega⟩, hj]
          by_cases hnk : (n : Int) = 0
          · rw [show a + (n : Int) + k = a + k by omega]
            exact g2 _ (Or.inr (by omega))
          · exact g2 _ (Or.inr (by omega))
        · rw [if_neg (by omega)]
          exact g3 j j0 (by omega)
    · rw [if_neg hkn]
      have ek : k = ((flat o ts).length : Int) := by omega
      unfold x_flatten_j124
      rintro q1 hq1
      rw [w32_id (by omega) (by omega)] at hq1
      have f1 : Fr ([106], [], [74]) s q1 := (f.weak rfl).putI hq1 rfl
      have lq := lv_fr f1 rfl
      refine ⟨rfl, by rw [hq1]; simp [gI_pI, gI_pL, gI_pA, gL_pI, gL_pL, gL_pA, gA_pI, gA_pL, gA_pA], e2.same (fun j j0 j1 => ?_) lq, fun j hj => ?_⟩
      · rw [hq1]; simp only [gI_pI, gI_pL, gI_pA, gL_pI, gL_pL, gL_pA, gA_pI, gA_pL, gA_pA]; exact g3 j j0 (by omega)
      · rw [hq1]; simp only [gI_pI, gI_pL, gI_pA, gL_pI, gL_pL, gL_pA, gA_pI, gA_pL, gA_pA]; rw [g2 j (Or.inl hj)]; exact e3 j (by omega)

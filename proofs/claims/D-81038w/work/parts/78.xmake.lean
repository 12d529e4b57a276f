theorem xs_nodeOf {M : Mo} {σ : S} (h : XP M σ) (hM : WM M) {op a n : Int} {ts : List Tr} (ha : 0 ≤ a) (hn : 0 ≤ n) (han : a + n ≤ 20000) (hts : (rowI (gA σ 74) a n.toNat).map (tX σ) = ts) (hl : ∀ k, 0 ≤ k → k < n → lvX σ (gA σ 74 (a + k))) (hok : okN M op ts)
    (hr1 : gI σ 93 < 200000) (hr2 : gI σ 102 + 39 ≤ 600000) :
    x_nodeOf op a n σ (ndQ M σ (trN op ts)) (ndE M σ (trN op ts)) := by
  have rg := h.rg
  have sr := sltX_rg op (rowI (gA σ 74) a n.toNat)
  unfold x_nodeOf
  refine xs_slotOf hn ha han ?_
  refine ⟨sr, ?_⟩
  have hd := h.ch.head (by omega) sr.1 sr.2
  have nosame : ∀ y, lvX σ y → kyX σ y ≠ sltX op (rowI (gA σ 74) a n.toNat) → tX σ y ≠ trN op ts := by
    intro y hy hk e
    rw [tX_row h hy] at e
    obtain ⟨e1, e2⟩ := trN_inj e
    apply hk
    unfold kyX
    rw [e1]
    congr 1
    rw [← hts] at e2
    have inj : ∀ (l m : List Int), (∀ x ∈ l, lvX σ x) → (∀ x ∈ m, lvX σ x) → l.map (tX σ) = m.map (tX σ) → l = m := by
      intro l
      induction l with
      | nil => intro m _ _ e; cases m with
        | nil => rfl
        | cons _ _ => simp at e
      | cons x l ih => intro m hx hm e; cases m with
        | nil => simp at e
        | cons y m =>
          simp only [List.map_cons, List.cons.injEq] at e
          rw [h.inj (hx x (List.mem_cons_self ..)) (hm y (List.mem_cons_self ..)) e.1, ih m (fun z hz => hx z (List.mem_cons_of_mem _ hz)) (fun z hz => hm z (List.mem_cons_of_mem _ hz)) e.2]
    refine inj _ _ (fun x hx => ?_) (fun x hx => ?_) e2
    · obtain ⟨k, k0, k1, rfl⟩ := rowI_mem.mp hx
      exact ((h.at hy).2.2.2.2 k k0 (by have := (h.at hy).1; omega)).1
    · obtain ⟨k, k0, k1, rfl⟩ := rowI_mem.mp hx
      exact hl k k0 (by omega)
  refine lx_nodeOf_L18 (fun x s => s = σ ∧ 0 ≤ x ∧ x < gI σ 93 ∧ (1 ≤ x → kyX σ x = sltX op (rowI (gA σ 74) a n.toNat)) ∧ ∀ y, lvX σ y → x < y → tX σ y ≠ trN op ts) (fun x _ => x.toNat) ⟨rfl, by omega, by omega, hd.2.2.1, fun y hy hxy => nosame y hy (hd.2.2.2 y hxy hy.2 hy.1)⟩ ?_
  rintro x q fr ⟨rfl, x0, x1, hky, hno⟩
  try dsimp only
  by_cases hx : x = 0
  · rw [if_pos hx]
    exact xs_nodeOf_new h hM ha hn han hts.symm hl hok (fun y hy => hno y hy (by have := hy.1; omega)) hr1 hr2
  · rw [if_neg hx]
    have lx : lvX q x := ⟨by omega, x1⟩
    obtain ⟨a1, a2, a3, a4, a5⟩ := h.at lx
    have nx := h.ch.next (by omega) x1
    refine ⟨by omega, fun _ => by omega, ?_⟩
    -- behind the comparison
    have behind : ∀ v, isB v → (v = 1 ↔ (gA q 66 x = op ∧ gA q 68 x = n) ∧ ∀ k, 0 ≤ k → k < n → gA q 73 (gA q 67 x + k) = gA q 74 (a + k)) →
        x_nodeOf_j106 op a n (sltX op (rowI (gA q 74) a n.toNat)) x v q (ndQ M q (trN op ts)) (ndE M q (trN op ts)) (fun x' s' => (s' = q ∧ 0 ≤ x' ∧ x' < gI q 93 ∧ (1 ≤ x' → kyX q x' = sltX op (rowI (gA q 74) a n.toNat)) ∧ ∀ y, lvX q y → x' < y → tX q y ≠ trN op ts) ∧ x'.toNat < x.toNat) := by
      intro v hv hiff
      unfold x_nodeOf_j106
      by_cases hv0 : v = 0
      · rw [if_pos hv0]
        refine ⟨by omega, ⟨rfl, by omega, by omega, fun q1 => ?_, fun y hy hxy => ?_⟩, by omega⟩
        · rw [nx.2.2.1 q1]; exact hky (by omega)
        · by_cases hyx : y = x
          · rw [hyx]
            intro e
            rw [tX_row h lx] at e
            obtain ⟨e1, e2⟩ := trN_inj e
            have hlen := congrArg List.length e2
            rw [List.length_map, rowI_len, ← hts, List.length_map, rowI_len] at hlen
            have : v = 1 := hiff.mpr ⟨⟨e1, by omega⟩, fun k k0 k1 => by
              rw [← hts] at e2
              have e3 := congrArg (fun l : List Tr => l[k.toNat]?) e2
              simp only [List.getElem?_map] at e3
              rw [rowI_get _ _ (by omega), rowI_get _ _ (by omega)] at e3
              simp only [Option.map_some, Option.some.injEq] at e3
              rw [show ((k.toNat : Nat) : Int) = k by omega] at e3
              exact h.inj (a5 k k0 (by omega)).1 (hl k k0 k1) e3⟩
            omega
          · by_cases hyx2 : x < y
            · exact hno y hy hyx2
            · refine nosame y hy ?_
              rw [← hky (by omega)]
              exact nx.2.2.2 y hxy (by omega) hy.1
      · rw [if_neg hv0]
        have hv1 : v = 1 := by rcases hv with e | e <;> omega
        obtain ⟨⟨e1, e2⟩, e3⟩ := hiff.mp hv1
        have ht : tX q x = trN op ts := by
          rw [tX_row h lx, e1, e2, ← hts]
          congr 2
          exact rowI_congr (fun k k0 k1 => e3 k k0 (by omega))
        exact ⟨h, lx, ht, ExX.rf _ _, by omega, by rw [← ht]; exact (h.nd lx).2.2.2⟩
    refine lx_nodeOf_L55 (fun v k s => s = q ∧ 0 ≤ k ∧ k ≤ max n 0 ∧ isB v ∧ (v = 1 ↔ (gA q 66 x = op ∧ gA q 68 x = n) ∧ ∀ j, 0 ≤ j → j < k → gA q 73 (gA q 67 x + j) = gA q 74 (a + j))) (fun _ k _ => (n - k).toNat) ⟨rfl, by omega, by omega, isB_bi _, by
      constructor
      · intro e
        by_cases hc : gA q 66 x = op ∧ gA q 68 x = n
        · exact ⟨hc, fun j j0 j1 => by omega⟩
        · rw [bi_f hc] at e; omega
      · intro e; exact bi_t e.1⟩ ?_
    rintro v k s fr2 ⟨rfl, k0, k1, hv, hiff⟩
    try dsimp only
    by_cases hk : k < n
    · rw [if_pos hk]
      by_cases hv0 : v = 0
      · rw [if_pos hv0]
        refine fx_nodeOf_j106 fr2 (behind v hv ?_) (fun _ _ _ h => h) (fun _ _ h => h) (fun _ _ _ h => h)
        constructor
        · intro e; omega
        · intro e; exact hiff.mpr ⟨e.1, fun j j0 j1 => e.2 j j0 (by omega)⟩
      · rw [if_neg hv0]
        have hv1 : v = 1 := by rcases hv with e | e <;> omega
        have hc := hiff.mp hv1
        have e1 : w32 (a + k) = a + k := w32_id (by omega) (by omega)
        have e2 : w32 (k + 1) = k + 1 := w32_id (by omega) (by omega)
        have e3 : w32 (gA s 67 x + k) = gA s 67 x + k := w32_id (by omega) (by omega)
        rw [e1, e2, e3]
        refine ⟨by omega, by omega, by omega, ⟨rfl, by omega, by omega, isB_bi _, ?_⟩, by omega⟩
        constructor
        · intro e
          by_cases hq : gA s 73 (gA s 67 x + k) = gA s 74 (a + k)
          · refine ⟨hc.1, fun j j0 j1 => ?_⟩
            by_cases hj : j = k
            · rw [hj]; exact hq
            · exact hc.2 j j0 (by omega)
          · rw [bi_f hq] at e; omega
        · intro e
          exact bi_t (e.2 k k0 (by omega))
    · rw [if_neg hk]
      refine behind v hv ?_
      rw [hiff]
      constructor
      · intro e; exact ⟨e.1, fun j j0 j1 => e.2 j j0 (by omega)⟩
      · intro e; exact ⟨e.1, fun j j0 j1 => e.2 j j0 (by omega)⟩

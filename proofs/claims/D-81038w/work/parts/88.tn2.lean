theorem lstB_rg2 (M : Mo) (o : Int) (ss : List Int) (hM : WM M) : lstB M o ss = -2 ∨ 0 ≤ lstB M o ss ∧ lstB M o ss < mSorts M := by
  have b1 := hM.1
  unfold lstB
  rcases loS_v M (lbS M o ss (mRows M).toNat) (mSorts M).toNat with h | h
  · exact Or.inl h.1
  · exact Or.inr ⟨h.1, by omega⟩
theorem lst_rg2 {M : Mo} (hM : WM M) {c : Int} {ts : List Tr} (h : okN M c ts) {ss : List Int} (hs : ∀ s ∈ ss, s = -2 ∨ 0 ≤ s ∧ s < mSorts M) : lst M c ss = -2 ∨ 0 ≤ lst M c ss ∧ lst M c ss < mSorts M := by
  unfold lst
  rcases h with h | h
  · rw [if_pos h.1]
    have hb := Int.tmod_nonneg 30 (a := -1 - c) (by omega)
    have := hM.var hb h.2.2.1
    right; omega
  · rw [if_neg (by omega)]
    split
    · cases ss with
      | nil => exact Or.inl rfl
      | cons s r =>
        have key : ∀ (r : List Int) (s : Int), (s = -2 ∨ 0 ≤ s ∧ s < mSorts M) → (r.foldl (fun a b => lstB M c [a, b]) s = -2 ∨ 0 ≤ r.foldl (fun a b => lstB M c [a, b]) s ∧ r.foldl (fun a b => lstB M c [a, b]) s < mSorts M) := by
          intro r
          induction r with
          | nil => intro s h; exact h
          | cons b r ih => intro s _; exact ih _ (lstB_rg2 M c _ hM)
        exact key r s (hs s (List.mem_cons_self ..))
    · exact lstB_rg2 M c _ hM
theorem srt_rg2 {M : Mo} (hM : WM M) {t : Tr} (h : NF M t) : srt M t = -2 ∨ 0 ≤ srt M t ∧ srt M t < mSorts M := by
  have key : ∀ (n : Nat) (t : Tr), trS t < n → NF M t → srt M t = -2 ∨ 0 ≤ srt M t ∧ srt M t < mSorts M := by
    intro n
    induction n with
    | zero => intro t h; omega
    | succ n ih =>
      intro t ht h
      obtain ⟨c, ts, rfl, hok, hk⟩ := h.ex
      rw [srt_N M c (fun u hu => (hk u hu).1)]
      refine lst_rg2 hM hok (fun s hs => ?_)
      obtain ⟨u, hu, rfl⟩ := List.mem_map.mp hs
      exact ih u (by have := trS_kid (c := c) hu; omega) (hk u hu)
  exact key _ t (Nat.lt_succ_self _) h
theorem ts_sortOfVar {M : Mo} {σ : S} {v : Int} {Q : Int → S → Prop} (hm : TMo M σ) (hM : WM M) (h0 : 0 ≤ v) (h1 : v < 60) (h2 : Int.tmod v 30 < mVars M) (hQ : Q (mVs M (Int.tmod v 30)) σ) : t_sortOfVar v σ Q := by
  have e : (if v < 30 then v else w32 (v - 30)) = Int.tmod v 30 := by
    rw [Int.tmod_eq_emod_of_nonneg h0]
    split
    · omega
    · rw [w32_id (by omega) (by omega)]; omega
  have hb := Int.tmod_nonneg 30 h0
  have hv := hM.2.2.2.1
  unfold t_sortOfVar
  rw [e, hm.2.2.2.2 _ hb h2]
  exact ⟨by omega, hQ⟩
theorem ts_leastSort {M : Mo} {σ : S} {x op n : Int} {ts : List Tr} {Q : Int → S → Prop} (hm : TMo M σ) (hM : WM M) (hx : 0 ≤ x) (hx1 : x < 200000) (hop : gA σ 48 x = op) (hn : gA σ 50 x = n) (hok : okN M op ts) (hlen : (ts.length : Int) = n)
    (hst : 0 ≤ gA σ 49 x) (hst1 : gA σ 49 x + n ≤ 800000)
    (hk : ∀ k, 0 ≤ k → k < n → (0 ≤ gA σ 56 (gA σ 49 x + k) ∧ gA σ 56 (gA σ 49 x + k) < 200000) ∧ (gA σ 52 (gA σ 56 (gA σ 49 x + k)) = -2 ∨ 0 ≤ gA σ 52 (gA σ 56 (gA σ 49 x + k)) ∧ gA σ 52 (gA σ 56 (gA σ 49 x + k)) < mSorts M))
    (hQ : Q (lst M op ((rowI (gA σ 56) (gA σ 49 x) n.toNat).map (gA σ 52))) σ) : t_leastSort x σ Q := by
  have b2 := hM.2.1
  have b3 := hM.2.2.1
  have arg' : ∀ (k : Int) (Q : Int → S → Prop), 0 ≤ k → k < n → Q (gA σ 56 (gA σ 49 x + k)) σ → t_arg x k σ Q := by
    intro k Q k0 k1 hQ
    unfold t_arg
    rw [w32_id (by omega) (by omega)]
    exact ⟨⟨by omega, by omega⟩, ⟨by omega, by omega⟩, hQ⟩
  unfold t_leastSort
  rw [hop, hn]
  refine ⟨by omega, ?_⟩
  rcases hok with hok | hok
  · rw [if_pos hok.1, w32_id (by omega) (by omega)]
    refine ts_sortOfVar hm hM (by omega) (by omega) hok.2.2.1 ?_
    unfold lst at hQ
    rw [if_pos hok.1] at hQ
    exact hQ
  · rw [if_neg (by omega)]
    have ho := hm.2.2.2.1 op hok.1 hok.2.1
    have hw := hM.op hok.1 hok.2.1
    rw [ho.1]
    refine ⟨by omega, fun _ => by omega, ?_⟩
    by_cases hc : n = 2 ∨ ¬ mAs M op = 0
    · rw [if_pos hc]
      have h2 : mHo M op = 2 := by
        by_cases ha : mAs M op = 0
        · have := hok.2.2.1
          rw [if_neg (by simp [ha])] at this
          omega
        · exact hw.2.2.2.2.1 ha
      have hn1 : 1 ≤ n := by
        by_cases ha : mAs M op = 0
        · omega
        · have := hok.2.2.1
          rw [if_pos ha] at this
          omega
      refine arg' 0 _ (by omega) (by omega) ?_
      have hk0 := hk 0 (by omega) (by omega)
      refine ⟨by omega, ?_⟩
      have hlst : lst M op ((rowI (gA σ 56) (gA σ 49 x) n.toNat).map (gA σ 52)) = ((rowI (gA σ 56) (gA σ 49 x + 1) (n - 1).toNat).map (gA σ 52)).foldl (fun a b => lstB M op [a, b]) (gA σ 52 (gA σ 56 (gA σ 49 x + 0))) := by
        unfold lst
        rw [if_neg (by omega)]
        by_cases ha : mAs M op = 0
        · rw [if_neg (by simp [ha])]
          have e2 : n = 2 := by omega
          rw [e2]
          simp only [show (2 : Int).toNat = 2 from rfl, show (2 - 1 : Int).toNat = 1 from rfl, rowI, List.map_cons, List.map_nil, List.foldl_cons, List.foldl_nil, Int.add_zero]
        · rw [if_pos ha, show n.toNat = (n - 1).toNat + 1 by omega]
          simp only [rowI, List.map_cons, Int.add_zero]
      rw [hlst] at hQ
      refine lt_leastSort_L56 (fun v k s => s = σ ∧ 1 ≤ k ∧ k ≤ n ∧ (v = -2 ∨ 0 ≤ v ∧ v < mSorts M) ∧ ((rowI (gA σ 56) (gA σ 49 x + k) (n - k).toNat).map (gA σ 52)).foldl (fun a b => lstB M op [a, b]) v = ((rowI (gA σ 56) (gA σ 49 x + 1) (n - 1).toNat).map (gA σ 52)).foldl (fun a b => lstB M op [a, b]) (gA σ 52 (gA σ 56 (gA σ 49 x + 0)))) (fun _ k _ => (n - k).toNat) ⟨rfl, by omega, hn1, hk0.2, rfl⟩ ?_
      rintro v k s fr ⟨rfl, h0, h1, h3, hf⟩
      try dsimp only
      by_cases hkn : k < n
      · rw [if_pos hkn]
        refine arg' k _ (by omega) hkn ?_
        have hk1 := hk k (by omega) hkn
        refine ⟨by omega, ts_sortOfTwo hm hM hok.1 hok.2.1 h2 h3 hk1.2 ?_⟩
        rw [w32_id (by omega) (by omega)]
        refine ⟨⟨rfl, by omega, by omega, lstB_rg2 M op _ hM, ?_⟩, by omega⟩
        rw [show (n - k).toNat = (n - (k + 1)).toNat + 1 by omega] at hf
        simp only [rowI, List.map_cons, List.foldl_cons] at hf
        rw [show gA s 49 x + (k + 1) = gA s 49 x + k + 1 by omega]
        exact hf
      · rw [if_neg hkn]
        rw [show (n - k).toNat = 0 by omega] at hf
        simp only [rowI, List.map_nil, List.foldl_nil] at hf
        rw [hf]
        exact hQ
    · rw [if_neg hc]
      have ha : mAs M op = 0 := by
        apply Classical.byContradiction
        intro z; exact hc (Or.inr z)
      have hh := hok.2.2.1
      rw [if_neg (by simp [ha])] at hh
      have hn3 : n ≤ 3 := by omega
      have hco : mCo M op = 0 := by
        apply Classical.byContradiction
        intro z
        have := hw.2.2.2.2.2.1 z
        omega
      unfold lst at hQ
      rw [if_neg (by omega), if_neg (by simp [ha])] at hQ
      refine lt_leastSort_L98 (fun set r s => s = σ ∧ 0 ≤ r ∧ r ≤ mRows M ∧ set = lbS M op ((rowI (gA σ 56) (gA σ 49 x) n.toNat).map (gA σ 52)) r.toNat) (fun _ r _ => (mRows M - r).toNat) ⟨rfl, by omega, b2.1, rfl⟩ ?_
      rintro set r s fr ⟨rfl, r0, r1, hset⟩
      try dsimp only
      rw [hm.1.2.1]
      by_cases hr : r < mRows M
      · rw [if_pos hr]
        have hrow := hm.2.2.1 r r0 hr
        have hrw : rwO M op r ((rowI (gA s 56) (gA s 49 x) n.toNat).map (gA s 52)) = (decide (mRo M r = op) && rwA M r 0 ((rowI (gA s 56) (gA s 49 x) n.toNat).map (gA s 52))) := by
          unfold rwO
          simp [hco]
        refine ⟨by omega, ?_⟩
        rw [hrow.1]
        refine lt_leastSort_L128 (fun v k q => q = s ∧ 0 ≤ k ∧ k ≤ n ∧ isB v ∧ (v = 1 → mRo M r = op) ∧ rwO M op r ((rowI (gA s 56) (gA s 49 x) n.toNat).map (gA s 52)) = (decide (v = 1) && rwA M r k ((rowI (gA s 56) (gA s 49 x + k) (n - k).toNat).map (gA s 52)))) (fun _ k _ => (n - k).toNat) ⟨rfl, by omega, by omega, isB_bi _, fun e => ?_, ?_⟩ ?_
        · apply Classical.byContradiction
          intro z
          rw [bi_f z] at e
          omega
        · rw [hrw]
          by_cases z : mRo M r = op
          · rw [bi_t z]; simp [z]
          · rw [bi_f z]; simp [z]
        rintro v k q fr2 ⟨rfl, k0, k1, hv, hvo, hc2⟩
        try dsimp only
        have fin : ∀ w, isB w → rwO M op r ((rowI (gA q 56) (gA q 49 x) n.toNat).map (gA q 52)) = decide (w = 1) → t_leastSort_j198 x op n set r w q Q (fun v4' v5' s' => (s' = q ∧ 0 ≤ v5' ∧ v5' ≤ mRows M ∧ v4' = lbS M op ((rowI (gA q 56) (gA q 49 x) n.toNat).map (gA q 52)) v5'.toNat) ∧ (mRows M - v5').toNat < (mRows M - r).toNat) := by
          intro w hw2 hw3
          unfold t_leastSort_j198
          refine ⟨fun _ => by omega, ?_⟩
          rw [w32_id (by omega) (by omega)]
          refine ⟨⟨rfl, by omega, by omega, ?_⟩, by omega⟩
          rw [show (r + 1).toNat = r.toNat + 1 by omega]
          simp only [lbS]
          rw [show ((r.toNat : Nat) : Int) = r by omega, hw3, ← hset, hrow.2.1]
          rcases hw2 with e | e
          · rw [if_pos e, e]; simp
          · rw [if_neg (by omega), e]; simp
        by_cases hcond : k < n ∧ ¬ v = 0
        · rw [if_pos hcond]
          have hv1 : v = 1 := by rcases hv with e | e <;> omega
          have hro := hvo hv1
          have hk1 := hk k k0 hcond.1
          refine arg' k _ k0 hcond.1 ⟨by omega, ?_⟩
          rw [show (n - k).toNat = (n - (k + 1)).toNat + 1 by omega, hv1] at hc2
          simp only [rowI, List.map_cons, rwA, decide_true, Bool.true_and] at hc2
          have e2 : w32 (k + 1) = k + 1 := w32_id (by omega) (by omega)
          have no : rwO M op r ((rowI (gA q 56) (gA q 49 x) n.toNat).map (gA q 52)) = false → t_leastSort_j189 x op n set r k q Q (fun v4' v5' s' => (s' = q ∧ 0 ≤ v5' ∧ v5' ≤ mRows M ∧ v4' = lbS M op ((rowI (gA q 56) (gA q 49 x) n.toNat).map (gA q 52)) v5'.toNat) ∧ (mRows M - v5').toNat < (mRows M - r).toNat) (fun v6' v7' s' => (s' = q ∧ 0 ≤ v7' ∧ v7' ≤ n ∧ isB v6' ∧ (v6' = 1 → mRo M r = op) ∧ rwO M op r ((rowI (gA q 56) (gA q 49 x) n.toNat).map (gA q 52)) = (decide (v6' = 1) && rwA M r v7' ((rowI (gA q 56) (gA q 49 x + v7') (n - v7').toNat).map (gA q 52)))) ∧ (n - v7').toNat < (n - k).toNat) := by
            intro hz
            unfold t_leastSort_j189 t_leastSort_j190
            rw [e2]
            exact ⟨⟨rfl, by omega, by omega, Or.inl rfl, fun e => by omega, by rw [hz]; simp⟩, by omega⟩
          by_cases hneg : gA q 52 (gA q 56 (gA q 49 x + k)) < 0
          · rw [if_pos hneg]
            refine no ?_
            rw [hc2, show gA q 52 (gA q 56 (gA q 49 x + k)) = -2 by omega]
            simp
          · rw [if_neg hneg]
            refine arg' k _ k0 hcond.1 ⟨by omega, ?_⟩
            rw [w32_id (v := 5 * r) (by omega) (by omega), w32_id (by omega) (by omega), hrow.2.2 k k0 (by rw [hro]; omega)]
            refine ⟨by omega, ts_isBelow hm hM (by omega) (by omega) ?_⟩
            by_cases hb : blw M (gA q 52 (gA q 56 (gA q 49 x + k))) (mRs M r k)
            · rw [bi_t hb, if_neg (by decide)]
              unfold t_leastSort_j190
              rw [e2]
              refine ⟨⟨rfl, by omega, by omega, Or.inr rfl, fun _ => hro, ?_⟩, by omega⟩
              rw [hc2, decide_eq_true (p := blw M _ _) hb, decide_eq_true (p := _ ≠ _) (show gA q 52 (gA q 56 (gA q 49 x + k)) ≠ -2 by omega)]
              rw [show gA q 49 x + (k + 1) = gA q 49 x + k + 1 by omega]
              simp
            · rw [bi_f hb, if_pos rfl]
              refine no ?_
              rw [hc2, decide_eq_false (p := blw M _ _) hb]
              simp
        · rw [if_neg hcond]
          refine fin v hv ?_
          rw [hc2]
          by_cases hkn : k < n
          · have : v = 0 := by
              apply Classical.byContradiction
              intro z; exact hcond ⟨hkn, z⟩
            rw [this]; simp
          · rw [show (n - k).toNat = 0 by omega]
            simp [rowI, rwA]
      · rw [if_neg hr]
        unfold t_leastSort_j228
        refine ts_lowest hm hM ?_
        rw [hset, show r = mRows M by omega]
        exact hQ

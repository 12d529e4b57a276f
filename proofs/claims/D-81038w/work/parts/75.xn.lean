/-! RewriteHouse: the least sort of a node, nodes -/
theorem lstB_rg (M : Mo) (hM : WM M) (o : Int) (ss : List Int) : lstB M o ss = -2 ∨ 0 ≤ lstB M o ss ∧ lstB M o ss < 20 := by
  have b1 := hM.1
  unfold lstB
  have key : ∀ (set : Int) (n : Nat), (n : Int) ≤ 20 → loS M set n = -2 ∨ 0 ≤ loS M set n ∧ loS M set n < 20 := by
    intro set n
    induction n with
    | zero => intro _; exact Or.inl rfl
    | succ n ih =>
      intro hn
      simp only [loS]
      split
      · right; omega
      · exact ih (by omega)
  exact key _ _ (by omega)
theorem xs_leastOf {M : Mo} {σ : S} {o x n : Int} (hm : moX σ = M) (hM : WM M) (ho : 0 ≤ o) (ho1 : o < mOps M) (hx : 0 ≤ x) (hx1 : x < 200000) (hn : 0 ≤ n) (hn3 : mAs M o = 0 → n ≤ 3) (hn2 : mAs M o ≠ 0 → 1 ≤ n)
    (hst : 0 ≤ gA σ 67 x) (hst1 : gA σ 67 x + n ≤ 600000)
    (hk : ∀ k, 0 ≤ k → k < n → (0 ≤ gA σ 73 (gA σ 67 x + k) ∧ gA σ 73 (gA σ 67 x + k) < 200000) ∧ (gA σ 69 (gA σ 73 (gA σ 67 x + k)) = -2 ∨ 0 ≤ gA σ 69 (gA σ 73 (gA σ 67 x + k)) ∧ gA σ 69 (gA σ 73 (gA σ 67 x + k)) < 20)) :
    x_leastOf o x n σ (fun r _ => r = lst M o ((rowI (gA σ 73) (gA σ 67 x) n.toNat).map (gA σ 69))) := by
  have b3 := hM.2.2.1
  have has : gA σ 52 o = mAs M o := by subst hm; rfl
  unfold x_leastOf
  rw [has]
  refine ⟨by omega, ?_⟩
  have at' : ∀ (s : S) (k : Int) (Q : Int → S → Prop), gA s 67 = gA σ 67 → gA s 73 = gA σ 73 → 0 ≤ k → k < n → Q (gA σ 73 (gA σ 67 x + k)) s → x_at x k s Q := by
    intro s k Q e1 e2 k0 k1 hQ
    unfold x_at
    rw [e1, e2]
    have e : w32 (gA σ 67 x + k) = gA σ 67 x + k := w32_id (by omega) (by omega)
    rw [e]
    exact ⟨⟨by omega, by omega⟩, ⟨by omega, by omega⟩, hQ⟩
  by_cases ha : mAs M o = 0
  · rw [if_pos ha]
    have hn3 := hn3 ha
    refine lx_leastOf_L81 (fun k s => 0 ≤ k ∧ k ≤ n ∧ ∀ j, 0 ≤ j → j < k → gA s 76 j = gA σ 69 (gA σ 73 (gA σ 67 x + j))) (fun k _ => (n - k).toNat) ⟨by omega, hn, fun j h1 h2 => by omega⟩ ?_
    rintro k s fr ⟨h0, h1, h2⟩
    try dsimp only
    by_cases hkn : k < n
    · rw [if_pos hkn]
      refine at' s k _ (fr.a _ rfl) (fr.a _ rfl) h0 hkn ?_
      have hk1 := hk k h0 hkn
      rw [fr.a 69 rfl]
      refine ⟨by omega, by omega, ?_⟩
      rintro s1 rfl
      rw [w32_id (by omega) (by omega)]
      refine ⟨⟨by omega, by omega, fun j j0 j1 => ?_⟩, by omega⟩
      simp only [gI_pI, gI_pL, gI_pA, gL_pI, gL_pL, gL_pA, gA_pI, gA_pL, gA_pA]
      by_cases hj : j = k
      · simp [hj]
      · simp only [hj, and_false, if_false]
        exact h2 j j0 (by omega)
    · rw [if_neg hkn]
      have ekn : k = n := by omega
      subst ekn
      unfold x_leastOf_j112
      have hm' : moX s = M := by rw [← hm]; exact moX_same (apt_i (A := XPm) (by decide) fr) (apt_a (I := XPi) (by decide) fr)
      refine xs_leastBy hm' hM ho (by omega) hn hn3 (fun j j0 j1 => ?_) ?_
      · rw [h2 j j0 j1]; exact (hk j j0 j1).2
      · unfold lst
        rw [if_neg (by omega), if_neg (by simp [ha])]
        congr 1
        rw [rowI_range, rowI_range, List.map_map]
        apply List.map_congr_left
        intro j hj
        have := List.mem_range.mp hj
        simp only [Function.comp_def, Int.zero_add]
        exact h2 j (by omega) (by omega)
  · rw [if_neg ha]
    have hn2 := hn2 ha
    refine at' σ 0 _ rfl rfl (by omega) (by omega) ?_
    have hk0 := hk 0 (by omega) (by omega)
    refine ⟨by omega, ?_⟩
    have hlst : lst M o ((rowI (gA σ 73) (gA σ 67 x) n.toNat).map (gA σ 69)) = ((rowI (gA σ 73) (gA σ 67 x + 1) (n - 1).toNat).map (gA σ 69)).foldl (fun a b => lstB M o [a, b]) (gA σ 69 (gA σ 73 (gA σ 67 x + 0))) := by
      unfold lst
      rw [if_neg (by omega), if_pos ha, show n.toNat = (n - 1).toNat + 1 by omega]
      simp only [rowI, List.map_cons, Int.add_zero]
    rw [hlst]
    refine lx_leastOf_L25 (fun v k s => 1 ≤ k ∧ k ≤ n ∧ (v = -2 ∨ 0 ≤ v ∧ v < 20) ∧ ((rowI (gA σ 73) (gA σ 67 x + k) (n - k).toNat).map (gA σ 69)).foldl (fun a b => lstB M o [a, b]) v = ((rowI (gA σ 73) (gA σ 67 x + 1) (n - 1).toNat).map (gA σ 69)).foldl (fun a b => lstB M o [a, b]) (gA σ 69 (gA σ 73 (gA σ 67 x + 0)))) (fun _ k _ => (n - k).toNat) ⟨by omega, hn2, hk0.2, rfl⟩ ?_
    rintro v k s fr ⟨h0, h1, h3, h2⟩
    try dsimp only
    by_cases hkn : k < n
    · rw [if_pos hkn]
      refine ⟨by omega, ?_⟩
      rintro s1 rfl
      refine at' _ k _ (by rw [gA_pA_o _ _ _ (by decide)]; exact fr.a _ rfl) (by rw [gA_pA_o _ _ _ (by decide)]; exact fr.a _ rfl) (by omega) hkn ?_
      have hk1 := hk k (by omega) hkn
      refine ⟨by omega, by omega, ?_⟩
      rintro s2 rfl
      rw [gA_pA_o _ _ _ (show 69 ≠ 76 by decide), fr.a 69 rfl]
      have hm' : moX (pA (pA s 76 0 v) 76 1 (gA σ 69 (gA σ 73 (gA σ 67 x + k)))) = M := by
        have fr2 : Fr wX_leastOf σ (pA (pA s 76 0 v) 76 1 (gA σ 69 (gA σ 73 (gA σ 67 x + k)))) := (fr.putA (c := pA s 76 0 v) rfl rfl).putA rfl rfl
        rw [← hm]; exact moX_same (apt_i (A := XPm) (by decide) fr2) (apt_a (I := XPi) (by decide) fr2)
      have r0 : gA (pA (pA s 76 0 v) 76 1 (gA σ 69 (gA σ 73 (gA σ 67 x + k)))) 76 0 = v := by simp [gI_pI, gI_pL, gI_pA, gL_pI, gL_pL, gL_pA, gA_pI, gA_pL, gA_pA]
      have r1 : gA (pA (pA s 76 0 v) 76 1 (gA σ 69 (gA σ 73 (gA σ 67 x + k)))) 76 1 = gA σ 69 (gA σ 73 (gA σ 67 x + k)) := by simp [gI_pI, gI_pL, gI_pA, gL_pI, gL_pL, gL_pA, gA_pI, gA_pL, gA_pA]
      refine xs_leastBy hm' hM ho (by omega) (by omega) (by omega) (fun j j0 j1 => ?_) ?_
      · have : j = 0 ∨ j = 1 := by omega
        rcases this with rfl | rfl
        · rw [r0]; exact h3
        · rw [r1]; exact hk1.2
      · have er : rowI (gA (pA (pA s 76 0 v) 76 1 (gA σ 69 (gA σ 73 (gA σ 67 x + k)))) 76) 0 (2 : Int).toNat = [v, gA σ 69 (gA σ 73 (gA σ 67 x + k))] := by
          show [_, _] = _
          rw [r0]
          congr 2
        rw [er, w32_id (by omega) (by omega)]
        refine ⟨⟨by omega, by omega, lstB_rg M hM o _, ?_⟩, by omega⟩
        rw [show (n - k).toNat = (n - (k + 1)).toNat + 1 by omega] at h2
        simp only [rowI, List.map_cons, List.foldl_cons] at h2
        rw [show gA σ 67 x + (k + 1) = gA σ 67 x + k + 1 by omega]
        exact h2
    · rw [if_neg hkn]
      rw [show (n - k).toNat = 0 by omega] at h2
      exact h2

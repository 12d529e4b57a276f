theorem ts_isVarInS {M : Mo} {σ : S} (h : TP M σ) {u : Int} (hu : 0 ≤ u) : ∀ (n : Nat) (x : Int) (Q : Int → S → Prop) (E : S → Prop), trD (tT σ x) ≤ n → lvT σ x → Q (bi (tAny (fun c => decide (c = -1 - u)) (tT σ x) = true)) σ → t_S_isVarIn n 0 [u, x] σ Q E := by
  intro n
  induction n with
  | zero =>
    intro x Q E hn hx
    exfalso
    rw [tT_row h hx] at hn
    simp only [trN, trD] at hn
    omega
  | succ n ih =>
    intro x Q E hn hx hQ
    have rg := h.rg
    have ax := h.at hx
    have ox := h.opr hx
    have om := h.wm.2.2.1
    have bx : 0 ≤ x ∧ x < 200000 := by have := hx.1; have := hx.2; omega
    have row := tAny_N (fun c => decide (c = -1 - u)) (gA σ 48 x) ((rowI (gA σ 56) (gA σ 49 x) (gA σ 50 x).toNat).map (tT σ))
    try dsimp only at row
    rw [← tT_row h hx] at row
    have dk : ∀ k, 0 ≤ k → k < gA σ 50 x → trD (tT σ (gA σ 56 (gA σ 49 x + k))) ≤ n := by
      intro k k0 k1
      rw [tT_row h hx, trD_N] at hn
      exact hn _ (List.mem_map_of_mem (rowI_mem.mpr ⟨k, k0, by omega, rfl⟩))
    show t_isVarIn_F (t_S_isVarIn n) u x σ Q
    unfold t_isVarIn_F
    refine ts_isVar h hx ?_
    by_cases hv0 : gA σ 48 x < 0
    · rw [bi_t hv0, if_neg (by decide)]
      have hnil : (gA σ 50 x).toNat = 0 := by
        have nx := (h.nd hx).2.2.1
        rw [tT_row h hx] at nx
        rcases (NF_N.mp nx).1 with q | q
        · have := congrArg List.length q.2.2.2
          rw [List.length_map, rowI_len] at this
          simpa using this
        · omega
      rw [hnil] at row
      simp only [rowI, List.map_nil, List.any_nil, Bool.or_false] at row
      rw [row] at hQ
      refine ts_varOf h hx ?_
      by_cases z : gA σ 48 x = -1 - u
      · rw [bi_t (by omega)]; rw [bi_t (by simp [z])] at hQ; exact hQ
      · rw [bi_f (by omega)]; rw [bi_f (by simp [z])] at hQ; exact hQ
    · rw [bi_f hv0, if_pos rfl]
      refine lt_isVarIn_L25 (fo_t_S_isVarIn n) (fun k s => s = σ ∧ 0 ≤ k ∧ k ≤ gA σ 50 x ∧ tAny (fun c => decide (c = -1 - u)) (tT σ x) = ((rowI (gA σ 56) (gA σ 49 x + k) (gA σ 50 x - k).toNat).map (tT σ)).any (tAny (fun c => decide (c = -1 - u)))) (fun k _ => (gA σ 50 x - k).toNat) ⟨rfl, by omega, ax.1, by rw [row, decide_eq_false (by omega)]; simp⟩ ?_
      rintro k q fr ⟨rfl, k0, k1, hc⟩
      try dsimp only
      refine ⟨bx, ?_⟩
      by_cases hk : k < gA q 50 x
      · rw [if_pos hk]
        refine ts_arg h hx k0 hk ?_
        have lk := (ax.2.2.2 k k0 hk).1
        rw [show (gA q 50 x - k).toNat = (gA q 50 x - (k + 1)).toNat + 1 by omega] at hc
        simp only [rowI, List.map_cons, List.any_cons] at hc
        refine ih _ _ _ (dk k k0 hk) lk ?_
        cases hz : tAny (fun c => decide (c = -1 - u)) (tT q (gA q 56 (gA q 49 x + k))) with
        | false =>
          rw [bi_f (by simp), if_pos rfl, w32_id (by have := h.at hx; omega) (by have := h.at hx; omega)]
          refine ⟨⟨rfl, by omega, by omega, ?_⟩, by omega⟩
          rw [hc, hz, show gA q 49 x + (k + 1) = gA q 49 x + k + 1 by omega]
          simp
        | true =>
          rw [bi_t rfl, if_neg (by decide)]
          rw [hc, hz, Bool.true_or, bi_t rfl] at hQ
          exact hQ
      · rw [if_neg hk]
        rw [show (gA q 50 x - k).toNat = 0 by omega] at hc
        simp only [rowI, List.map_nil, List.any_nil] at hc
        rw [hc, bi_f (by simp)] at hQ
        exact hQ
theorem ts_isVarIn {M : Mo} {σ : S} (h : TP M σ) {u : Int} (hu : 0 ≤ u) {x : Int} {Q : Int → S → Prop} (hx : lvT σ x) (hd : trS (tT σ x) ≤ 40) (hQ : Q (bi (tAny (fun c => decide (c = -1 - u)) (tT σ x) = true)) σ) : t_isVarIn u x σ Q :=
  ts_isVarInS h hu 44 x Q _ (by have := trD_S (h.T hx); omega) hx hQ
theorem ts_isPlainTermS {M : Mo} {σ : S} (h : TP M σ) : ∀ (n : Nat) (x : Int) (Q : Int → S → Prop) (E : S → Prop), trD (tT σ x) ≤ n → lvT σ x → Q (bi (tAny (fun c => decide (0 ≤ c ∧ (mAs M c ≠ 0 ∨ mUn M c ≠ -2))) (tT σ x) = false)) σ → t_S_isPlainTerm n 0 [x] σ Q E := by
  intro n
  induction n with
  | zero =>
    intro x Q E hn hx
    exfalso
    rw [tT_row h hx] at hn
    simp only [trN, trD] at hn
    omega
  | succ n ih =>
    intro x Q E hn hx hQ
    have rg := h.rg
    have ax := h.at hx
    have ox := h.opr hx
    have om := h.wm.2.2.1
    have bx : 0 ≤ x ∧ x < 200000 := by have := hx.1; have := hx.2; omega
    have row := tAny_N (fun c => decide (0 ≤ c ∧ (mAs M c ≠ 0 ∨ mUn M c ≠ -2))) (gA σ 48 x) ((rowI (gA σ 56) (gA σ 49 x) (gA σ 50 x).toNat).map (tT σ))
    try dsimp only at row
    rw [← tT_row h hx] at row
    have dk : ∀ k, 0 ≤ k → k < gA σ 50 x → trD (tT σ (gA σ 56 (gA σ 49 x + k))) ≤ n := by
      intro k k0 k1
      rw [tT_row h hx, trD_N] at hn
      exact hn _ (List.mem_map_of_mem (rowI_mem.mpr ⟨k, k0, by omega, rfl⟩))
    show t_isPlainTerm_F (t_S_isPlainTerm n) x σ Q
    unfold t_isPlainTerm_F
    refine ts_isVar h hx ?_
    by_cases hv0 : gA σ 48 x < 0
    · rw [bi_t hv0, if_neg (by decide)]
      have hnil : (gA σ 50 x).toNat = 0 := by
        have nx := (h.nd hx).2.2.1
        rw [tT_row h hx] at nx
        rcases (NF_N.mp nx).1 with q | q
        · have := congrArg List.length q.2.2.2
          rw [List.length_map, rowI_len] at this
          simpa using this
        · omega
      rw [hnil] at row
      simp only [rowI, List.map_nil, List.any_nil, Bool.or_false] at row
      rw [row] at hQ
      rw [decide_eq_false (by omega), bi_t rfl] at hQ
      exact hQ
    · rw [bi_f hv0, if_pos rfl]
      refine ⟨bx, by omega, fun _ => bx, fun _ => by omega, ?_⟩
      have hop := h.mo.2.2.2.1 _ (show 0 ≤ gA σ 48 x by omega) ox.2
      have hun := (h.wm.op (show 0 ≤ gA σ 48 x by omega) ox.2).2.2.2.2.2.2.1
      have e0 : decide (0 ≤ gA σ 48 x ∧ (mAs M (gA σ 48 x) ≠ 0 ∨ mUn M (gA σ 48 x) ≠ -2)) = decide (bi ((gA σ 44 (gA σ 48 x) = 0) ∧ (gA σ 46 (gA σ 48 x) < 0)) = 0) := by
        rw [hop.1, hop.2.2.1]
        by_cases z : mAs M (gA σ 48 x) = 0 ∧ mUn M (gA σ 48 x) < 0
        · rw [bi_t z, decide_eq_false, decide_eq_false]
          · decide
          · rintro ⟨-, q | q⟩
            · exact q z.1
            · omega
        · rw [bi_f z, decide_eq_true]
          · rfl
          · refine ⟨by omega, ?_⟩
            by_cases z2 : mAs M (gA σ 48 x) = 0
            · right; intro q; exact z ⟨z2, by omega⟩
            · left; exact z2
      rw [e0] at row
      refine lt_isPlainTerm_L46 (fo_t_S_isPlainTerm n) (fun v k s => s = σ ∧ 0 ≤ k ∧ k ≤ gA σ 50 x ∧ isB v ∧ tAny (fun c => decide (0 ≤ c ∧ (mAs M c ≠ 0 ∨ mUn M c ≠ -2))) (tT σ x) = (decide (v = 0) || ((rowI (gA σ 56) (gA σ 49 x + k) (gA σ 50 x - k).toNat).map (tT σ)).any (tAny (fun c => decide (0 ≤ c ∧ (mAs M c ≠ 0 ∨ mUn M c ≠ -2)))))) (fun _ k _ => (gA σ 50 x - k).toNat) ⟨rfl, by omega, ax.1, isB_bi _, by rw [row]; simp only [Int.add_zero, Int.sub_zero]⟩ ?_
      rintro v k q fr ⟨rfl, k0, k1, hv, hc⟩
      try dsimp only
      refine ⟨bx, ?_⟩
      by_cases hk : k < gA q 50 x ∧ ¬ v = 0
      · rw [if_pos hk]
        refine ts_arg h hx k0 hk.1 ?_
        have lk := (ax.2.2.2 k k0 hk.1).1
        refine ih _ _ _ (dk k k0 hk.1) lk ?_
        rw [w32_id (by have := h.at hx; omega) (by have := h.at hx; omega)]
        refine ⟨⟨rfl, by omega, by omega, isB_bi _, ?_⟩, by omega⟩
        have hv3 : decide (v = 0) = false := by
          rcases hv with e | e
          · have := hk.2; rw [e]; omega
          · have := hk.2; rw [e]; decide
        rw [hc, hv3, show (gA q 50 x - k).toNat = (gA q 50 x - (k + 1)).toNat + 1 by omega]
        simp only [rowI, List.map_cons, List.any_cons]
        rw [show gA q 49 x + (k + 1) = gA q 49 x + k + 1 by omega]
        cases hz : tAny (fun c => decide (0 ≤ c ∧ (mAs M c ≠ 0 ∨ mUn M c ≠ -2))) (tT q (gA q 56 (gA q 49 x + k))) <;> simp [bi]
      · rw [if_neg hk]
        have : tAny (fun c => decide (0 ≤ c ∧ (mAs M c ≠ 0 ∨ mUn M c ≠ -2))) (tT q x) = decide (v = 0) := by
          rw [hc]
          rcases hv with e | e
          · rw [e]; simp
          · have : ¬ k < gA q 50 x := fun z => hk ⟨z, by omega⟩
            rw [show (gA q 50 x - k).toNat = 0 by omega]
            simp [rowI]
        rw [this] at hQ
        rcases hv with e | e <;> rw [e] at hQ ⊢ <;> simpa [bi] using hQ
theorem ts_isPlainTerm {M : Mo} {σ : S} (h : TP M σ) {x : Int} {Q : Int → S → Prop} (hx : lvT σ x) (hd : trS (tT σ x) ≤ 40) (hQ : Q (bi (tAny (fun c => decide (0 ≤ c ∧ (mAs M c ≠ 0 ∨ mUn M c ≠ -2))) (tT σ x) = false)) σ) : t_isPlainTerm x σ Q :=
  ts_isPlainTermS h 44 x Q _ (by have := trD_S (h.T hx); omega) hx hQ
theorem ts_hasCommS {M : Mo} {σ : S} (h : TP M σ) : ∀ (n : Nat) (x : Int) (Q : Int → S → Prop) (E : S → Prop), trD (tT σ x) ≤ n → lvT σ x → Q (bi (tAny (fun c => decide (0 ≤ c ∧ mCo M c ≠ 0)) (tT σ x) = true)) σ → t_S_hasComm n 0 [x] σ Q E := by
  intro n
  induction n with
  | zero =>
    intro x Q E hn hx
    exfalso
    rw [tT_row h hx] at hn
    simp only [trN, trD] at hn
    omega
  | succ n ih =>
    intro x Q E hn hx hQ
    have rg := h.rg
    have ax := h.at hx
    have ox := h.opr hx
    have om := h.wm.2.2.1
    have bx : 0 ≤ x ∧ x < 200000 := by have := hx.1; have := hx.2; omega
    have row := tAny_N (fun c => decide (0 ≤ c ∧ mCo M c ≠ 0)) (gA σ 48 x) ((rowI (gA σ 56) (gA σ 49 x) (gA σ 50 x).toNat).map (tT σ))
    try dsimp only at row
    rw [← tT_row h hx] at row
    have dk : ∀ k, 0 ≤ k → k < gA σ 50 x → trD (tT σ (gA σ 56 (gA σ 49 x + k))) ≤ n := by
      intro k k0 k1
      rw [tT_row h hx, trD_N] at hn
      exact hn _ (List.mem_map_of_mem (rowI_mem.mpr ⟨k, k0, by omega, rfl⟩))
    show t_hasComm_F (t_S_hasComm n) x σ Q
    unfold t_hasComm_F
    refine ts_isVar h hx ?_
    by_cases hv0 : gA σ 48 x < 0
    · rw [bi_t hv0, if_neg (by decide)]
      have hnil : (gA σ 50 x).toNat = 0 := by
        have nx := (h.nd hx).2.2.1
        rw [tT_row h hx] at nx
        rcases (NF_N.mp nx).1 with q | q
        · have := congrArg List.length q.2.2.2
          rw [List.length_map, rowI_len] at this
          simpa using this
        · omega
      rw [hnil] at row
      simp only [rowI, List.map_nil, List.any_nil, Bool.or_false] at row
      rw [row] at hQ
      rw [decide_eq_false (by omega), bi_f (by simp)] at hQ
      exact hQ
    · rw [bi_f hv0, if_pos rfl]
      refine ⟨bx, by omega, ?_⟩
      have hop := h.mo.2.2.2.1 _ (show 0 ≤ gA σ 48 x by omega) ox.2
      have hco := (h.wm.op (show 0 ≤ gA σ 48 x by omega) ox.2).2.2.2.1
      have e0 : decide (0 ≤ gA σ 48 x ∧ mCo M (gA σ 48 x) ≠ 0) = decide (gA σ 45 (gA σ 48 x) = 1) := by
        rw [hop.2.1]
        rcases hco with z | z <;> rw [z] <;> simp <;> omega
      rw [e0] at row
      refine lt_hasComm_L24 (fo_t_S_hasComm n) (fun v k s => s = σ ∧ 0 ≤ k ∧ k ≤ gA σ 50 x ∧ isB v ∧ tAny (fun c => decide (0 ≤ c ∧ mCo M c ≠ 0)) (tT σ x) = (decide (v = 1) || ((rowI (gA σ 56) (gA σ 49 x + k) (gA σ 50 x - k).toNat).map (tT σ)).any (tAny (fun c => decide (0 ≤ c ∧ mCo M c ≠ 0))))) (fun _ k _ => (gA σ 50 x - k).toNat) ⟨rfl, by omega, ax.1, by rw [hop.2.1]; exact hco, by rw [row]; simp only [Int.add_zero, Int.sub_zero]⟩ ?_
      rintro v k q fr ⟨rfl, k0, k1, hv, hc⟩
      try dsimp only
      refine ⟨bx, ?_⟩
      by_cases hk : k < gA q 50 x ∧ v = 0
      · rw [if_pos hk]
        refine ts_arg h hx k0 hk.1 ?_
        have lk := (ax.2.2.2 k k0 hk.1).1
        refine ih _ _ _ (dk k k0 hk.1) lk ?_
        rw [w32_id (by have := h.at hx; omega) (by have := h.at hx; omega)]
        refine ⟨⟨rfl, by omega, by omega, isB_bi _, ?_⟩, by omega⟩
        have hv3 : decide (v = 1) = false := by
          rcases hv with e | e
          · have := hk.2; rw [e]; decide
          · have := hk.2; rw [e]; omega
        rw [hc, hv3, show (gA q 50 x - k).toNat = (gA q 50 x - (k + 1)).toNat + 1 by omega]
        simp only [rowI, List.map_cons, List.any_cons]
        rw [show gA q 49 x + (k + 1) = gA q 49 x + k + 1 by omega]
        cases hz : tAny (fun c => decide (0 ≤ c ∧ mCo M c ≠ 0)) (tT q (gA q 56 (gA q 49 x + k))) <;> simp [bi]
      · rw [if_neg hk]
        have : tAny (fun c => decide (0 ≤ c ∧ mCo M c ≠ 0)) (tT q x) = decide (v = 1) := by
          rw [hc]
          rcases hv with e | e
          · have : ¬ k < gA q 50 x := fun z => hk ⟨z, e⟩
            rw [show (gA q 50 x - k).toNat = 0 by omega]
            simp [rowI]
          · rw [e]; simp
        rw [this] at hQ
        rcases hv with e | e <;> rw [e] at hQ ⊢ <;> simpa [bi] using hQ
theorem ts_hasComm {M : Mo} {σ : S} (h : TP M σ) {x : Int} {Q : Int → S → Prop} (hx : lvT σ x) (hd : trS (tT σ x) ≤ 40) (hQ : Q (bi (tAny (fun c => decide (0 ≤ c ∧ mCo M c ≠ 0)) (tT σ x) = true)) σ) : t_hasComm x σ Q :=
  ts_hasCommS h 44 x Q _ (by have := trD_S (h.T hx); omega) hx hQ

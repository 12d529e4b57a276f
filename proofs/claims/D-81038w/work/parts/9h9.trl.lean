/-! RewriteHouseModel: what is kept gets its new numbers -/
def rlC (σ : S) (g : Int → Int) (s : S) (k c : Int) : Prop := gA s 66 (6 * k + c) = g (gA σ 66 (6 * k + c)) ∧ gA s 67 (6 * k + c) = if gA σ 67 (6 * k + c) < 0 then -2 else g (gA σ 67 (6 * k + c))
def rlA (σ : S) (g : Int → Int) (s : S) (k : Int) : Prop := gA s 64 k = g (gA σ 64 k) ∧ gA s 65 k = g (gA σ 65 k) ∧ ∀ c, 0 ≤ c → c < gA σ 29 k → rlC σ g s k c
def rlR (σ : S) (g : Int → Int) (s : S) (k : Int) : Prop := (gI σ 135 ≠ 1 → gA s 85 k = g (gA σ 85 k)) ∧ (gI σ 135 = 1 → ∀ j, 0 ≤ j → j < 62 → gA s 86 (64 * k + j) = if gA σ 86 (64 * k + j) < 0 then gA σ 86 (64 * k + j) else g (gA σ 86 (64 * k + j)))
def rlQ (σ : S) (g : Int → Int) (q s : S) : Prop := Fr ([181, 182], [], [64, 65, 66, 67, 70, 85, 86]) q s ∧
  (∀ k, 0 ≤ k → k < gI σ 45 → rlA σ g s k) ∧ (∀ k, 0 ≤ k → k < gI σ 101 → gA s 70 k = g (gA σ 70 k)) ∧ (gI σ 190 ≠ 0 → gI s 181 = g (gI σ 181) ∧ gI s 182 = g (gI σ 182)) ∧ ∀ k, 0 ≤ k → k < gI σ 134 → rlR σ g s k
theorem ts_relabel {σ q : S} {g : Int → Int} (O : rtO σ) (hn : gI σ 80 ≤ 200000) (f : Fr wT_moveNodes σ q) (hg : gA q 92 = g) : t_compact_L290 0 q (fun _ s => rlQ σ g q s) := by
  obtain ⟨ho, st, sc, hh, hs⟩ := O
  have rb : ∀ y, rtT σ y → 0 ≤ y ∧ y < 200000 := fun y hy => ⟨(ho y hy).1, by have := (ho y hy).2; omega⟩
  refine lt_compact_L290 (fun k s => 0 ≤ k ∧ k ≤ gI σ 45 ∧ Fr ([], [], [64, 65, 66, 67]) q s ∧ (∀ i, k ≤ i → gA s 64 i = gA σ 64 i ∧ gA s 65 i = gA σ 65 i) ∧ (∀ j, 6 * k ≤ j → gA s 66 j = gA σ 66 j ∧ gA s 67 j = gA σ 67 j) ∧ ∀ i, 0 ≤ i → i < k → rlA σ g s i) (fun k _ => (gI σ 45 - k).toNat) ⟨Int.le_refl _, st.1, Fr.rf, fun i _ => by rw [f.a _ rfl, f.a _ rfl]; exact ⟨rfl, rfl⟩, fun i _ => by rw [f.a _ rfl, f.a _ rfl]; exact ⟨rfl, rfl⟩, fun i i0 i1 => by omega⟩ ?_
  rintro k s fr ⟨k0, k1, e, e1, e2, e3⟩
  try dsimp only
  have en : ∀ {w : List Nat × List Nat × List Nat} {u : S}, Fr w q u → w.2.2.contains 92 = false → gA u 92 = g := fun h k => by rw [h.a _ k, hg]
  rw [e.i _ rfl, f.i _ rfl]
  by_cases hk : k < gI σ 45
  · rw [if_pos hk, (e1 k (Int.le_refl _)).1, en e rfl]
    have r1 := rb _ (Or.inl ⟨k, ⟨k0, hk⟩, Or.inl rfl⟩)
    have r2 := rb _ (Or.inl ⟨k, ⟨k0, hk⟩, Or.inr (Or.inl rfl)⟩)
    refine ⟨⟨k0, by omega⟩, ⟨r1.1, r1.2⟩, ⟨k0, by omega⟩, ?_⟩
    rintro s1 hs1
    have f1 : Fr ([], [], [64, 65, 66, 67]) q s1 := e.putA hs1 rfl
    have b1 : gA s1 65 = gA s 65 := by rw [hs1]; exact gA_pA_o _ _ _ (by decide)
    rw [b1, (e1 k (Int.le_refl _)).2, en f1 rfl]
    refine ⟨⟨k0, by omega⟩, ⟨r2.1, r2.2⟩, ⟨k0, by omega⟩, ?_⟩
    rintro s2 hs2
    have f2 : Fr ([], [], [64, 65, 66, 67]) q s2 := f1.putA hs2 rfl
    have L2 : ∀ i, gA s2 64 i = if i = k then g (gA σ 64 k) else gA s 64 i := by
      intro i
      rw [hs2, gA_pA_o _ _ _ (by decide), hs1, gA_pA]
      by_cases z : i = k
      · rw [if_pos ⟨rfl, z⟩, if_pos z]
      · rw [if_neg (fun h => z h.2), if_neg z]
    have R2 : ∀ i, gA s2 65 i = if i = k then g (gA σ 65 k) else gA s 65 i := by
      intro i
      rw [hs2, gA_pA, b1]
      by_cases z : i = k
      · rw [if_pos ⟨rfl, z⟩, if_pos z]
      · rw [if_neg (fun h => z h.2), if_neg z]
    have C2 : gA s2 66 = gA s 66 := by rw [hs2, hs1]; rfl
    have D2 : gA s2 67 = gA s 67 := by rw [hs2, hs1]; rfl
    clear hs1 hs2 b1 f1
    have hc := sc k k0 hk
    refine lt_compact_L334 (fun c u => 0 ≤ c ∧ c ≤ gA σ 29 k ∧ Fr ([], [], [66, 67]) s2 u ∧ (∀ j, j < 6 * k ∨ 6 * k + c ≤ j → gA u 66 j = gA s 66 j ∧ gA u 67 j = gA s 67 j) ∧ ∀ i, 0 ≤ i → i < c → rlC σ g u k i) (fun c _ => (gA σ 29 k - c).toNat) ⟨Int.le_refl _, hc.1, Fr.rf, fun j _ => by rw [C2, D2]; exact ⟨rfl, rfl⟩, fun i i0 i1 => by omega⟩ ?_
    rintro c u fu ⟨c0, c1, h, h1, h2⟩
    try dsimp only
    have qc : gA u 29 = gA σ 29 := by rw [h.a _ rfl, f2.a _ rfl, f.a _ rfl]
    rw [qc]
    refine ⟨⟨k0, by omega⟩, ?_⟩
    by_cases hcc : c < gA σ 29 k
    · rw [if_pos hcc]
      have w : w32 (w32 (6 * k) + c) = 6 * k + c := by simp (disch := omega) only [w32_id]
      rw [w, (h1 _ (Or.inr (Int.le_refl _))).1, (e2 _ (by omega)).1, h.a 92 rfl, en f2 rfl]
      have r3 := rb _ (Or.inl ⟨k, ⟨k0, hk⟩, Or.inr (Or.inr ⟨c, ⟨c0, hcc⟩, Or.inl rfl⟩)⟩)
      refine ⟨⟨by omega, by omega⟩, ⟨r3.1, r3.2⟩, ⟨by omega, by omega⟩, ?_⟩
      rintro u1 hu1
      have g1 : Fr ([], [], [66, 67]) s2 u1 := h.putA hu1 rfl
      have q1 : gA u1 67 = gA u 67 := by rw [hu1]; exact gA_pA_o _ _ _ (by decide)
      rw [q1, (h1 _ (Or.inr (Int.le_refl _))).2, (e2 _ (by omega)).2, g1.a 92 rfl, en f2 rfl]
      refine ⟨⟨by omega, by omega⟩, fun _ => ⟨by omega, by omega⟩, fun z => ?_, ⟨by omega, by omega⟩, ?_⟩
      · have r4 := rb _ (Or.inl ⟨k, ⟨k0, hk⟩, Or.inr (Or.inr ⟨c, ⟨c0, hcc⟩, Or.inr ⟨rfl, by omega⟩⟩)⟩)
        exact ⟨r4.1, r4.2⟩
      rintro u2 hu2
      rw [w32_id (by omega) (by omega)]
      have Cu : ∀ j, gA u2 66 j = if j = 6 * k + c then g (gA σ 66 (6 * k + c)) else gA u 66 j := by
        intro j
        rw [hu2, gA_pA_o _ _ _ (by decide), hu1, gA_pA]
        by_cases z : j = 6 * k + c
        · rw [if_pos ⟨rfl, z⟩, if_pos z]
        · rw [if_neg (fun h => z h.2), if_neg z]
      have Du : ∀ j, gA u2 67 j = if j = 6 * k + c then (if gA σ 67 (6 * k + c) < 0 then -2 else g (gA σ 67 (6 * k + c))) else gA u 67 j := by
        intro j
        rw [hu2, gA_pA, q1]
        by_cases z : j = 6 * k + c
        · rw [if_pos ⟨rfl, z⟩, if_pos z]
        · rw [if_neg (fun h => z h.2), if_neg z]
      refine ⟨⟨by omega, by omega, g1.putA hu2 rfl, fun j hj => ?_, fun i i0 i1 => ?_⟩, by omega⟩
      · rw [Cu, Du, if_neg (by omega), if_neg (by omega)]
        exact h1 j (by omega)
      · unfold rlC
        rw [Cu, Du]
        by_cases z : i = c
        · rw [z, if_pos rfl, if_pos rfl]
          exact ⟨rfl, rfl⟩
        · rw [if_neg (by omega), if_neg (by omega)]
          exact h2 i i0 (by omega)
    · rw [if_neg hcc]
      unfold t_compact_j423
      rw [w32_id (by omega) (by omega)]
      refine ⟨⟨by omega, by omega, f2.trans (h.weak rfl), fun i i0 => ?_, fun j hj => ?_, fun i i0 i1 => ?_⟩, by omega⟩
      · rw [h.a _ rfl, h.a _ rfl, L2, R2, if_neg (by omega), if_neg (by omega)]
        exact e1 i (by omega)
      · rw [(h1 j (Or.inr (by omega))).1, (h1 j (Or.inr (by omega))).2]
        exact e2 j (by omega)
      · unfold rlA
        rw [h.a 64 rfl, h.a 65 rfl, L2, R2]
        by_cases z : i = k
        · subst z
          rw [if_pos rfl, if_pos rfl]
          exact ⟨rfl, rfl, fun d d0 d1 => h2 d d0 (by omega)⟩
        · rw [if_neg z, if_neg z]
          obtain ⟨x1, x2, x3⟩ := e3 i i0 (by omega)
          refine ⟨x1, x2, fun d d0 d1 => ?_⟩
          have := sc i i0 (by omega)
          unfold rlC
          rw [(h1 (6 * i + d) (Or.inl (by omega))).1, (h1 (6 * i + d) (Or.inl (by omega))).2]
          exact x3 d d0 d1
  rw [if_neg hk]
  have e3' : ∀ i, 0 ≤ i → i < gI σ 45 → rlA σ g s i := fun i a b => e3 i a (by omega)
  clear e3 e1 e2 fr k0 k1 hk
  unfold t_compact_j429
  refine lt_compact_L431 (fun k u => 0 ≤ k ∧ k ≤ gI σ 101 ∧ Fr ([], [], [70]) s u ∧ (∀ i, k ≤ i → gA u 70 i = gA σ 70 i) ∧ ∀ i, 0 ≤ i → i < k → gA u 70 i = g (gA σ 70 i)) (fun k _ => (gI σ 101 - k).toNat) ⟨Int.le_refl _, hh.1, Fr.rf, fun i _ => by rw [e.a _ rfl, f.a _ rfl], fun i i0 i1 => by omega⟩ ?_
  rintro k u fr ⟨k0, k1, h, h1, h2⟩
  try dsimp only
  rw [h.i _ rfl, e.i _ rfl, f.i _ rfl]
  by_cases hk : k < gI σ 101
  · rw [if_pos hk, h1 k (Int.le_refl _), h.a 92 rfl, en e rfl]
    have r1 := rb _ (Or.inr (Or.inl ⟨k, ⟨k0, hk⟩, rfl⟩))
    refine ⟨⟨k0, by omega⟩, ⟨r1.1, r1.2⟩, ⟨k0, by omega⟩, ?_⟩
    rintro u1 hu1
    rw [w32_id (by omega) (by omega)]
    refine ⟨⟨by omega, by omega, h.putA hu1 rfl, fun i i0 => ?_, fun i i0 i1 => ?_⟩, by omega⟩
    · rw [hu1, gA_pA, if_neg (by omega)]; exact h1 i (by omega)
    · rw [hu1, gA_pA]
      by_cases z : i = k
      · rw [if_pos ⟨rfl, z⟩, z]
      · rw [if_neg (by omega)]; exact h2 i i0 (by omega)
  rw [if_neg hk]
  have h2' : ∀ i, 0 ≤ i → i < gI σ 101 → gA u 70 i = g (gA σ 70 i) := fun i a b => h2 i a (by omega)
  clear h1 h2 fr k0 k1 hk
  have eu : Fr ([], [], [64, 65, 66, 67, 70]) q u := (e.weak rfl).trans (h.weak rfl)
  have Au : ∀ i, 0 ≤ i → i < gI σ 45 → rlA σ g u i := by
    intro i i0 i1
    have := e3' i i0 i1
    unfold rlA rlC at this ⊢
    rw [h.a 64 rfl, h.a 65 rfl, h.a 66 rfl, h.a 67 rfl]
    exact this
  clear e3' h e
  unfold t_compact_j462
  rw [eu.i _ rfl, f.i _ rfl]
  have res : ∀ v : S, Fr ([181, 182], [], []) u v → (gI σ 190 ≠ 0 → gI v 181 = g (gI σ 181) ∧ gI v 182 = g (gI σ 182)) → t_compact_j495 v (fun _ s => rlQ σ g q s) := by
    intro v fv hp
    have ev : Fr ([181, 182], [], [64, 65, 66, 67, 70]) q v := (eu.weak rfl).trans (fv.weak rfl)
    unfold t_compact_j495
    refine lt_compact_L497 (fun k r => 0 ≤ k ∧ k ≤ gI σ 134 ∧ Fr ([], [], [85, 86]) v r ∧ (∀ i, k ≤ i → gA r 85 i = gA σ 85 i) ∧ (∀ j, 64 * k ≤ j → gA r 86 j = gA σ 86 j) ∧ ∀ i, 0 ≤ i → i < k → rlR σ g r i) (fun k _ => (gI σ 134 - k).toNat) ⟨Int.le_refl _, hs.1, Fr.rf, fun i _ => by rw [ev.a _ rfl, f.a _ rfl], fun i _ => by rw [ev.a _ rfl, f.a _ rfl], fun i i0 i1 => by omega⟩ ?_
    rintro k r fr ⟨k0, k1, h, h1, h2, h3⟩
    try dsimp only
    have er : Fr ([181, 182], [], [64, 65, 66, 67, 70, 85, 86]) q r := (ev.weak rfl).trans (h.weak rfl)
    rw [er.i _ rfl, f.i _ rfl, er.i _ rfl, f.i _ rfl]
    by_cases hk : k < gI σ 134
    · rw [if_pos hk]
      have row : ∀ r2 : S, Fr ([], [], [85]) r r2 → (∀ i, i ≠ k → gA r2 85 i = gA r 85 i) → (gI σ 135 ≠ 1 → gA r2 85 k = g (gA σ 85 k)) → t_compact_j530 k r2 (fun _ s => rlQ σ g q s) (fun k' s' => (0 ≤ k' ∧ k' ≤ gI σ 134 ∧ Fr ([], [], [85, 86]) v s' ∧ (∀ i, k' ≤ i → gA s' 85 i = gA σ 85 i) ∧ (∀ j, 64 * k' ≤ j → gA s' 86 j = gA σ 86 j) ∧ ∀ i, 0 ≤ i → i < k' → rlR σ g s' i) ∧ (gI σ 134 - k').toNat < (gI σ 134 - k).toNat) := by
        intro r2 fr2 o2 z2
        have er2 : Fr ([181, 182], [], [64, 65, 66, 67, 70, 85, 86]) q r2 := er.trans (fr2.weak rfl)
        unfold t_compact_j530
        refine lt_compact_L532 (fun j w => 0 ≤ j ∧ j ≤ 62 ∧ Fr ([], [], [86]) r2 w ∧ (∀ i, i < 64 * k ∨ 64 * k + j ≤ i → gA w 86 i = gA r 86 i) ∧ (gI σ 135 = 1 → ∀ i, 0 ≤ i → i < j → gA w 86 (64 * k + i) = if gA σ 86 (64 * k + i) < 0 then gA σ 86 (64 * k + i) else g (gA σ 86 (64 * k + i)))) (fun j _ => (62 - j).toNat) ⟨Int.le_refl _, by omega, Fr.rf, fun i _ => by rw [fr2.a _ rfl], fun _ i i0 i1 => by omega⟩ ?_
        rintro j w fw ⟨j0, j1, y, y1, y2⟩
        try dsimp only
        rw [y.i _ rfl, er2.i _ rfl, f.i _ rfl]
        by_cases hj : j < 62 ∧ gI σ 135 = 1
        · rw [if_pos hj]
          have ww : w32 (w32 (64 * k) + j) = 64 * k + j := by simp (disch := omega) only [w32_id]
          rw [ww, y1 _ (Or.inr (Int.le_refl _)), h2 _ (by omega), y.a 92 rfl, en er2 rfl]
          refine ⟨⟨by omega, by omega⟩, fun z => ?_, ⟨by omega, by omega⟩, ?_⟩
          · have r4 := rb _ (Or.inr (Or.inr (Or.inr (Or.inr ⟨hj.2, k, j, ⟨k0, hk⟩, ⟨j0, hj.1⟩, rfl, by omega⟩))))
            exact ⟨r4.1, r4.2⟩
          rintro w1 hw1
          rw [w32_id (by omega) (by omega)]
          refine ⟨⟨by omega, by omega, y.putA hw1 rfl, fun i hi => ?_, fun e i i0 i1 => ?_⟩, by omega⟩
          · rw [hw1, gA_pA, if_neg (by omega)]; exact y1 i (by omega)
          · rw [hw1, gA_pA]
            by_cases z : i = j
            · rw [if_pos ⟨rfl, by omega⟩, z]
            · rw [if_neg (by omega)]; exact y2 e i i0 (by omega)
        · rw [if_neg hj]
          unfold t_compact_j589
          rw [w32_id (by omega) (by omega)]
          refine ⟨⟨by omega, by omega, (h.trans (fr2.weak rfl)).trans (y.weak rfl), fun i hi => ?_, fun i hi => ?_, fun i i0 i1 => ?_⟩, by omega⟩
          · rw [y.a _ rfl, o2 i (by omega)]; exact h1 i (by omega)
          · rw [y1 i (by omega)]; exact h2 i (by omega)
          · unfold rlR
            rw [y.a 85 rfl]
            by_cases z : i = k
            · subst z
              exact ⟨z2, fun e d d0 d1 => y2 e d d0 (by omega)⟩
            · obtain ⟨x1, x2⟩ := h3 i i0 (by omega)
              refine ⟨fun e => by rw [o2 i z]; exact x1 e, fun e d d0 d1 => ?_⟩
              rw [y1 (64 * i + d) (Or.inl (by omega))]
              exact x2 e d d0 d1
      by_cases hk1 : gI σ 135 = 1
      · rw [if_pos hk1]
        exact row r Fr.rf (fun _ _ => rfl) (fun e => absurd hk1 e)
      · rw [if_neg hk1, h1 k (Int.le_refl _), en er rfl]
        have r1 := rb _ (Or.inr (Or.inr (Or.inr (Or.inl ⟨hk1, k, ⟨k0, hk⟩, rfl⟩))))
        refine ⟨⟨k0, by omega⟩, ⟨r1.1, r1.2⟩, ⟨k0, by omega⟩, ?_⟩
        rintro r2 hr2
        refine row r2 (Fr.rf.putA hr2 rfl) (fun i hi => ?_) (fun _ => ?_)
        · rw [hr2, gA_pA, if_neg (fun z => hi z.2)]
        · rw [hr2, gA_pA, if_pos ⟨rfl, rfl⟩]
    · rw [if_neg hk]
      refine ⟨er, fun i a b => ?_, fun i a b => ?_, fun z => ?_, fun i a b => h3 i a (by omega)⟩
      · have := Au i a b
        unfold rlA rlC at this ⊢
        rw [h.a 64 rfl, h.a 65 rfl, h.a 66 rfl, h.a 67 rfl, fv.a 64 rfl, fv.a 65 rfl, fv.a 66 rfl, fv.a 67 rfl]
        exact this
      · rw [h.a _ rfl, fv.a _ rfl]; exact h2' i a b
      · rw [h.i _ rfl, h.i _ rfl]; exact hp z
  by_cases hp : gI σ 190 = 0
  · rw [if_pos hp]
    exact res u Fr.rf (fun e => absurd hp e)
  · rw [if_neg hp, eu.i _ rfl, f.i _ rfl, en eu rfl]
    have r1 := rb _ (Or.inr (Or.inr (Or.inl ⟨hp, Or.inl rfl⟩)))
    have r2 := rb _ (Or.inr (Or.inr (Or.inl ⟨hp, Or.inr rfl⟩)))
    refine ⟨⟨r1.1, r1.2⟩, ?_⟩
    rintro u1 hu1
    have f1 : Fr ([181, 182], [], []) u u1 := Fr.rf.putI hu1 rfl
    have o1 : gI u1 182 = gI σ 182 := by rw [hu1, gI_pI, if_neg (by decide), eu.i _ rfl, f.i _ rfl]
    rw [o1, f1.a 92 rfl, en eu rfl]
    refine ⟨⟨r2.1, r2.2⟩, ?_⟩
    rintro u2 hu2
    refine res u2 (f1.putI hu2 rfl) (fun _ => ⟨?_, ?_⟩)
    · rw [hu2, gI_pI, if_neg (by decide), hu1, gI_pI, if_pos rfl]
    · rw [hu2, gI_pI, if_pos rfl]

/-! RewriteHouseModel: what is kept is marked -/
/-- the nodes that outlive a call: of the module, handles, the pair, the results -/
def rtT (σ : S) (y : Int) : Prop :=
  (∃ k, (0 ≤ k ∧ k < gI σ 45) ∧ (y = gA σ 64 k ∨ y = gA σ 65 k ∨ ∃ c, (0 ≤ c ∧ c < gA σ 29 k) ∧ (y = gA σ 66 (6 * k + c) ∨ (y = gA σ 67 (6 * k + c) ∧ 0 ≤ y)))) ∨
  (∃ k, (0 ≤ k ∧ k < gI σ 101) ∧ y = gA σ 70 k) ∨
  (gI σ 190 ≠ 0 ∧ (y = gI σ 181 ∨ y = gI σ 182)) ∨
  (gI σ 135 ≠ 1 ∧ ∃ k, (0 ≤ k ∧ k < gI σ 134) ∧ y = gA σ 85 k) ∨
  (gI σ 135 = 1 ∧ ∃ k j, (0 ≤ k ∧ k < gI σ 134) ∧ (0 ≤ j ∧ j < 62) ∧ y = gA σ 86 (64 * k + j) ∧ 0 ≤ y)
/-- the kept nodes are nodes; the counts are in their ranges -/
def rtO (σ : S) : Prop := (∀ y, rtT σ y → lvT σ y) ∧ (0 ≤ gI σ 45 ∧ gI σ 45 ≤ 70) ∧ (∀ k, 0 ≤ k → k < gI σ 45 → 0 ≤ gA σ 29 k ∧ gA σ 29 k ≤ 6) ∧ (0 ≤ gI σ 101 ∧ gI σ 101 ≤ 200) ∧ (0 ≤ gI σ 134 ∧ gI σ 134 ≤ 200)
def mkI (σ s : S) : Prop := Fr ([], [], [92]) σ s ∧ ∀ y, lvT σ y → gA s 92 y = 1 → rtT σ y
def mle (s q : S) : Prop := ∀ y, gA s 92 y = 1 → gA q 92 y = 1
def isM (s : S) (y : Int) : Prop := 0 ≤ y → gA s 92 y = 1
theorem isM.to {s q : S} {y : Int} (h : isM s y) (k : mle s q) : isM q y := fun y0 => k y (h y0)
theorem mle.trans {a b c : S} (h : mle a b) (k : mle b c) : mle a c := fun y z => k y (h y z)
theorem ts_mark {σ s : S} {v : Int} (I : mkI σ s) (hr : gI σ 80 ≤ 200000) (ho : ∀ y, rtT σ y → lvT σ y) (hv : 0 ≤ v → rtT σ v) : t_markTerm v s (fun _ q => mkI σ q ∧ mle s q ∧ isM q v) := by
  unfold t_markTerm
  by_cases v0 : v < 0
  · rw [if_pos v0]
    exact ⟨I, fun _ h => h, fun h => by omega⟩
  · rw [if_neg v0]
    have rv := hv (by omega)
    have lv := ho v rv
    refine ⟨⟨lv.1, by have := lv.2; omega⟩, ?_⟩
    rintro q hq
    refine ⟨⟨I.1.putA hq rfl, fun y ly hy => ?_⟩, fun y hy => ?_, fun _ => ?_⟩
    · rw [hq, gA_pA] at hy
      by_cases e : y = v
      · rw [e]; exact rv
      · rw [if_neg (fun z => e z.2)] at hy
        exact I.2 y ly hy
    · rw [hq, gA_pA]
      by_cases e : y = v
      · rw [if_pos ⟨rfl, e⟩]
      · rw [if_neg (fun z => e z.2)]; exact hy
    · rw [hq, gA_pA, if_pos ⟨rfl, rfl⟩]
def kC (σ s : S) (k c : Int) : Prop := isM s (gA σ 66 (6 * k + c)) ∧ isM s (gA σ 67 (6 * k + c))
def kA (σ s : S) (k : Int) : Prop := isM s (gA σ 64 k) ∧ isM s (gA σ 65 k) ∧ ∀ c, 0 ≤ c → c < gA σ 29 k → kC σ s k c
theorem kC.to {σ s q : S} {k c : Int} (h : kC σ s k c) (m : mle s q) : kC σ q k c := ⟨h.1.to m, h.2.to m⟩
theorem kA.to {σ s q : S} {k : Int} (h : kA σ s k) (m : mle s q) : kA σ q k := ⟨h.1.to m, h.2.1.to m, fun c a b => (h.2.2 c a b).to m⟩
def kRes (σ s : S) (k : Int) : Prop := (gI σ 135 ≠ 1 → isM s (gA σ 85 k)) ∧ (gI σ 135 = 1 → ∀ j, 0 ≤ j → j < 62 → isM s (gA σ 86 (64 * k + j)))
theorem kRes.to {σ s q : S} {k : Int} (h : kRes σ s k) (m : mle s q) : kRes σ q k := ⟨fun e => (h.1 e).to m, fun e j a b => (h.2 e j a b).to m⟩
def kAll (σ s : S) : Prop := (∀ k, 0 ≤ k → k < gI σ 45 → kA σ s k) ∧ (∀ k, 0 ≤ k → k < gI σ 101 → isM s (gA σ 70 k)) ∧ (gI σ 190 ≠ 0 → isM s (gI σ 181) ∧ isM s (gI σ 182)) ∧ ∀ k, 0 ≤ k → k < gI σ 134 → kRes σ s k
theorem ts_marks {σ : S} (hr : 0 ≤ gI σ 80 ∧ gI σ 80 ≤ 200000) (O : rtO σ) {Q : Int → S → Prop} (hQ : ∀ s, mkI σ s → kAll σ s → t_compact_j227 s Q) : t_compact σ Q := by
  obtain ⟨ho, st, sc, hh, hs⟩ := O
  unfold t_compact
  refine lt_compact_L2 (fun k s => 0 ≤ k ∧ k ≤ gI σ 80 ∧ Fr ([], [], [92]) σ s ∧ ∀ y, 0 ≤ y → y < k → gA s 92 y = 0) (fun k _ => (gI σ 80 - k).toNat) ⟨Int.le_refl _, by omega, Fr.rf, fun y y0 y1 => by omega⟩ ?_
  rintro k s fr ⟨k0, k1, f, hz⟩
  try dsimp only
  rw [f.i _ rfl]
  by_cases hk : k < gI σ 80
  · rw [if_pos hk]
    refine ⟨⟨k0, by omega⟩, ?_⟩
    rintro s1 hs1
    rw [w32_id (by omega) (by omega)]
    refine ⟨⟨by omega, by omega, f.putA hs1 rfl, fun y y0 y1 => ?_⟩, by omega⟩
    rw [hs1, gA_pA]
    by_cases e : y = k
    · rw [if_pos ⟨rfl, e⟩]
    · rw [if_neg (fun z => e z.2)]; exact hz y y0 (by omega)
  rw [if_neg hk]
  have I0 : mkI σ s := ⟨f, fun y ly hy => by rw [hz y ly.1 (by have := ly.2; omega)] at hy; omega⟩
  clear hz fr
  unfold t_compact_j23
  /- statements -/
  refine lt_compact_L25 (fun k s => 0 ≤ k ∧ k ≤ gI σ 45 ∧ mkI σ s ∧ ∀ i, 0 ≤ i → i < k → kA σ s i) (fun k _ => (gI σ 45 - k).toNat) ⟨Int.le_refl _, st.1, I0, fun y y0 y1 => by omega⟩ ?_
  clear f I0 k0 k1 hk
  rintro k s fr ⟨k0, k1, I, hA⟩
  try dsimp only
  rw [I.1.i _ rfl]
  by_cases hk : k < gI σ 45
  · rw [if_pos hk, I.1.a _ rfl]
    refine ⟨⟨k0, by omega⟩, ?_⟩
    refine fm_t_markTerm (ts_mark I hr.2 ho (fun _ => Or.inl ⟨k, ⟨k0, hk⟩, Or.inl rfl⟩)) ?_
    rintro r s2 - ⟨I2, m2, a2⟩
    rw [I2.1.a _ rfl]
    refine ⟨⟨k0, by omega⟩, ?_⟩
    refine fm_t_markTerm (ts_mark I2 hr.2 ho (fun _ => Or.inl ⟨k, ⟨k0, hk⟩, Or.inr (Or.inl rfl)⟩)) ?_
    rintro r3 s3 - ⟨I3, m3, a3⟩
    have hc := sc k k0 hk
    refine lt_compact_L55 (fun c q => 0 ≤ c ∧ c ≤ gA σ 29 k ∧ mkI σ q ∧ mle s3 q ∧ ∀ i, 0 ≤ i → i < c → kC σ q k i) (fun c _ => (gA σ 29 k - c).toNat) ⟨Int.le_refl _, hc.1, I3, fun _ h => h, fun y y0 y1 => by omega⟩ ?_
    rintro c q fq ⟨c0, c1, J, mj, hJ⟩
    try dsimp only
    rw [J.1.a _ rfl]
    refine ⟨⟨k0, by omega⟩, ?_⟩
    by_cases hcc : c < gA σ 29 k
    · rw [if_pos hcc]
      have w : w32 (w32 (6 * k) + c) = 6 * k + c := by simp (disch := omega) only [w32_id]
      rw [w, J.1.a _ rfl]
      refine ⟨⟨by omega, by omega⟩, ?_⟩
      refine fm_t_markTerm (ts_mark J hr.2 ho (fun _ => Or.inl ⟨k, ⟨k0, hk⟩, Or.inr (Or.inr ⟨c, ⟨c0, hcc⟩, Or.inl rfl⟩)⟩)) ?_
      rintro r4 s4 - ⟨I4, m4, a4⟩
      rw [I4.1.a _ rfl]
      refine ⟨⟨by omega, by omega⟩, ?_⟩
      refine fm_t_markTerm (ts_mark I4 hr.2 ho (fun z => Or.inl ⟨k, ⟨k0, hk⟩, Or.inr (Or.inr ⟨c, ⟨c0, hcc⟩, Or.inr ⟨rfl, z⟩⟩)⟩)) ?_
      rintro r5 s5 - ⟨I5, m5, a5⟩
      rw [w32_id (by omega) (by omega)]
      refine ⟨⟨by omega, by omega, I5, (mj.trans m4).trans m5, fun i i0 i1 => ?_⟩, by omega⟩
      by_cases e : i = c
      · rw [e]; exact ⟨a4.to m5, a5⟩
      · exact (hJ i i0 (by omega)).to (m4.trans m5)
    · rw [if_neg hcc]
      unfold t_compact_j101
      rw [w32_id (by omega) (by omega)]
      refine ⟨⟨by omega, by omega, J, fun i i0 i1 => ?_⟩, by omega⟩
      by_cases e : i = k
      · rw [e]; exact ⟨(a2.to m3).to mj, a3.to mj, fun d d0 d1 => hJ d d0 (by omega)⟩
      · exact (hA i i0 (by omega)).to ((m2.trans m3).trans mj)
  rw [if_neg hk]
  have hA' : ∀ i, 0 ≤ i → i < gI σ 45 → kA σ s i := fun i a b => hA i a (by omega)
  clear hA fr k0 k1 hk
  unfold t_compact_j107
  /- handles -/
  have s0A := hA'
  refine lt_compact_L109 (fun k q => 0 ≤ k ∧ k ≤ gI σ 101 ∧ mkI σ q ∧ mle s q ∧ ∀ i, 0 ≤ i → i < k → isM q (gA σ 70 i)) (fun k _ => (gI σ 101 - k).toNat) ⟨Int.le_refl _, hh.1, I, fun _ h => h, fun y y0 y1 => by omega⟩ ?_
  clear I
  rintro k q fr ⟨k0, k1, I, mq, hH⟩
  try dsimp only
  rw [I.1.i _ rfl]
  by_cases hk : k < gI σ 101
  · rw [if_pos hk, I.1.a _ rfl]
    refine ⟨⟨k0, by omega⟩, ?_⟩
    refine fm_t_markTerm (ts_mark I hr.2 ho (fun _ => Or.inr (Or.inl ⟨k, ⟨k0, hk⟩, rfl⟩))) ?_
    rintro r s2 - ⟨I2, m2, a2⟩
    rw [w32_id (by omega) (by omega)]
    refine ⟨⟨by omega, by omega, I2, mq.trans m2, fun i i0 i1 => ?_⟩, by omega⟩
    by_cases e : i = k
    · rw [e]; exact a2
    · exact (hH i i0 (by omega)).to m2
  rw [if_neg hk]
  have hH' : ∀ i, 0 ≤ i → i < gI σ 101 → isM q (gA σ 70 i) := fun i a b => hH i a (by omega)
  have hA2 : ∀ i, 0 ≤ i → i < gI σ 45 → kA σ q i := fun i a b => (hA' i a b).to mq
  clear hH fr k0 k1 hk hA' s0A mq
  unfold t_compact_j133
  rw [I.1.i _ rfl]
  /- results, after the pair -/
  have res : ∀ p : S, mkI σ p → mle q p → (gI σ 190 ≠ 0 → isM p (gI σ 181) ∧ isM p (gI σ 182)) → t_compact_j156 p Q := by
    intro p Ip mp hp
    unfold t_compact_j156
    refine lt_compact_L158 (fun k r => 0 ≤ k ∧ k ≤ gI σ 134 ∧ mkI σ r ∧ mle p r ∧ ∀ i, 0 ≤ i → i < k → kRes σ r i) (fun k _ => (gI σ 134 - k).toNat) ⟨Int.le_refl _, hs.1, Ip, fun _ h => h, fun y y0 y1 => by omega⟩ ?_
    rintro k r fr ⟨k0, k1, J, mr, hR⟩
    try dsimp only
    rw [J.1.i _ rfl, J.1.i _ rfl]
    by_cases hk : k < gI σ 134
    · rw [if_pos hk]
      have row : ∀ r2 : S, mkI σ r2 → mle p r2 → (gI σ 135 ≠ 1 → isM r2 (gA σ 85 k)) → (∀ i, 0 ≤ i → i < k → kRes σ r2 i) → t_compact_j184 k r2 Q (fun k' s' => (0 ≤ k' ∧ k' ≤ gI σ 134 ∧ mkI σ s' ∧ mle p s' ∧ ∀ i, 0 ≤ i → i < k' → kRes σ s' i) ∧ (gI σ 134 - k').toNat < (gI σ 134 - k).toNat) := by
        intro r2 J2 mr2 hk2 hR2
        unfold t_compact_j184
        refine lt_compact_L186 (fun j q => 0 ≤ j ∧ j ≤ 62 ∧ mkI σ q ∧ mle r2 q ∧ (gI σ 135 = 1 → ∀ i, 0 ≤ i → i < j → isM q (gA σ 86 (64 * k + i)))) (fun j _ => (62 - j).toNat) ⟨Int.le_refl _, by omega, J2, fun _ h => h, fun _ y y0 y1 => by omega⟩ ?_
        rintro j u fu ⟨j0, j1, J3, mu, hM⟩
        try dsimp only
        rw [J3.1.i _ rfl]
        by_cases hj : j < 62 ∧ gI σ 135 = 1
        · rw [if_pos hj]
          have w : w32 (w32 (64 * k) + j) = 64 * k + j := by simp (disch := omega) only [w32_id]
          rw [w, J3.1.a _ rfl]
          refine ⟨⟨by omega, by omega⟩, ?_⟩
          refine fm_t_markTerm (ts_mark J3 hr.2 ho (fun z => Or.inr (Or.inr (Or.inr (Or.inr ⟨hj.2, k, j, ⟨k0, hk⟩, ⟨j0, hj.1⟩, rfl, z⟩))))) ?_
          rintro r5 s5 - ⟨I5, m5, a5⟩
          rw [w32_id (by omega) (by omega)]
          refine ⟨⟨by omega, by omega, I5, mu.trans m5, fun e i i0 i1 => ?_⟩, by omega⟩
          by_cases z : i = j
          · rw [z]; exact a5
          · exact (hM e i i0 (by omega)).to m5
        · rw [if_neg hj]
          unfold t_compact_j221
          rw [w32_id (by omega) (by omega)]
          refine ⟨⟨by omega, by omega, J3, mr2.trans mu, fun i i0 i1 => ?_⟩, by omega⟩
          by_cases z : i = k
          · rw [z]
            exact ⟨fun e => (hk2 e).to mu, fun e i i0 i1 => hM e i i0 (by omega)⟩
          · exact (hR2 i i0 (by omega)).to mu
      by_cases hk1 : gI σ 135 = 1
      · rw [if_pos hk1]
        exact row r J mr (fun e => absurd hk1 e) hR
      · rw [if_neg hk1, J.1.a _ rfl]
        refine ⟨⟨k0, by omega⟩, ?_⟩
        refine fm_t_markTerm (ts_mark J hr.2 ho (fun _ => Or.inr (Or.inr (Or.inr (Or.inl ⟨hk1, k, ⟨k0, hk⟩, rfl⟩))))) ?_
        rintro r5 s5 - ⟨I5, m5, a5⟩
        exact row s5 I5 (mr.trans m5) (fun _ => a5) (fun i i0 i1 => (hR i i0 i1).to m5)
    · rw [if_neg hk]
      exact hQ r J ⟨fun i a b => (hA2 i a b).to (mp.trans mr), fun i a b => (hH' i a b).to (mp.trans mr), fun e => ⟨(hp e).1.to mr, (hp e).2.to mr⟩, fun i a b => hR i a (by omega)⟩
  by_cases hp : gI σ 190 = 0
  · rw [if_pos hp]
    exact res q I (fun _ h => h) (fun e => absurd hp e)
  · rw [if_neg hp, I.1.i _ rfl]
    refine fm_t_markTerm (ts_mark I hr.2 ho (fun _ => Or.inr (Or.inr (Or.inl ⟨hp, Or.inl rfl⟩)))) ?_
    rintro r2 s2 - ⟨I2, m2, a2⟩
    rw [I2.1.i _ rfl]
    refine fm_t_markTerm (ts_mark I2 hr.2 ho (fun _ => Or.inr (Or.inr (Or.inl ⟨hp, Or.inr rfl⟩)))) ?_
    rintro r3 s3 - ⟨I3, m3, a3⟩
    exact res s3 I3 (m2.trans m3) (fun _ => ⟨a2.to m3, a3⟩)

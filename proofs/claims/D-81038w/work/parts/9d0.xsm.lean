/-! RewriteHouse: reducing, small parts -/
theorem xs_unbind {σ : S} : x_unbind σ (fun _ s => Fr ([], [], [83]) σ s ∧ ∀ v, 0 ≤ v → v < 60 → gA s 83 v = 0) := by
  unfold x_unbind
  refine lx_unbind_L2 (fun k s => 0 ≤ k ∧ k ≤ 60 ∧ Fr ([], [], [83]) σ s ∧ ∀ v, 0 ≤ v → v < k → gA s 83 v = 0) (fun k _ => (60 - k).toNat) ⟨by omega, by omega, Fr.rf, fun v v0 v1 => by omega⟩ ?_
  rintro k s fr ⟨k0, k1, f, hv⟩
  try dsimp only
  by_cases hk : k < 60
  · rw [if_pos hk]
    refine ⟨⟨k0, hk⟩, ?_⟩
    rintro s1 hs1
    rw [w32_id (by omega) (by omega)]
    refine ⟨⟨by omega, by omega, f.putA hs1 rfl, fun v v0 v1 => ?_⟩, by omega⟩
    rw [hs1]; simp only [gI_pI, gI_pL, gI_pA, gL_pI, gL_pL, gL_pA, gA_pI, gA_pL, gA_pA]
    by_cases e : v = k
    · rw [if_pos ⟨trivial, e⟩]
    · rw [if_neg (by omega)]; exact hv v v0 (by omega)
  · rw [if_neg hk]
    exact ⟨f, fun v v0 v1 => hv v v0 (by omega)⟩
theorem xs_takeRow {σ : S} {r : Int} (r0 : 0 ≤ r) (r1 : r < 6600) : x_takeRow r σ (fun _ s => Fr ([], [], [83]) σ s ∧ ∀ v, 0 ≤ v → v < 60 → gA s 83 v = gA σ 86 (62 * r + v)) := by
  unfold x_takeRow
  refine lx_takeRow_L2 (fun k s => 0 ≤ k ∧ k ≤ 60 ∧ Fr ([], [], [83]) σ s ∧ ∀ v, 0 ≤ v → v < k → gA s 83 v = gA σ 86 (62 * r + v)) (fun k _ => (60 - k).toNat) ⟨by omega, by omega, Fr.rf, fun v v0 v1 => by omega⟩ ?_
  rintro k s fr ⟨k0, k1, f, hv⟩
  try dsimp only
  by_cases hk : k < 60
  · rw [if_pos hk]
    have w1 : w32 (w32 (62 * r) + k) = 62 * r + k := by simp (disch := omega) only [w32_id]
    rw [w1]
    refine ⟨⟨by omega, by omega⟩, ⟨k0, hk⟩, ?_⟩
    rintro s1 hs1
    rw [w32_id (by omega) (by omega)]
    refine ⟨⟨by omega, by omega, f.putA hs1 rfl, fun v v0 v1 => ?_⟩, by omega⟩
    rw [hs1]; simp only [gI_pI, gI_pL, gI_pA, gL_pI, gL_pL, gL_pA, gA_pI, gA_pL, gA_pA]
    by_cases e : v = k
    · rw [if_pos ⟨trivial, e⟩, e, f.a _ rfl]
    · rw [if_neg (by omega)]; exact hv v v0 (by omega)
  · rw [if_neg hk]
    exact ⟨f, fun v v0 v1 => hv v v0 (by omega)⟩
theorem xs_keepBound {σ : S} (h0 : 0 ≤ gI σ 143) (h1 : gI σ 143 + 60 ≤ 9000) : x_keepBound σ (fun _ s => Fr ([143], [], [92]) σ s ∧ gI s 143 = gI σ 143 + 60 ∧ (∀ j, j < gI σ 143 → gA s 92 j = gA σ 92 j) ∧ ∀ v, 0 ≤ v → v < 60 → gA s 92 (gI σ 143 + v) = gA σ 83 v) := by
  unfold x_keepBound
  refine lx_keepBound_L2 (fun k s => 0 ≤ k ∧ k ≤ 60 ∧ Fr ([143], [], [92]) σ s ∧ gI s 143 = gI σ 143 + k ∧ (∀ j, j < gI σ 143 → gA s 92 j = gA σ 92 j) ∧ ∀ v, 0 ≤ v → v < k → gA s 92 (gI σ 143 + v) = gA σ 83 v) (fun k _ => (60 - k).toNat) ⟨by omega, by omega, Fr.rf, by omega, fun _ _ => rfl, fun v v0 v1 => by omega⟩ ?_
  rintro k s fr ⟨k0, k1, f, ht, hj, hv⟩
  try dsimp only
  by_cases hk : k < 60
  · rw [if_pos hk]
    rintro s1 hs1
    rw [ht, w32_id (by omega) (by omega)] at hs1
    refine ⟨⟨k0, hk⟩, by rw [ht]; exact ⟨by omega, by omega⟩, ?_⟩
    rintro s2 hs2
    rw [w32_id (by omega) (by omega)]
    refine ⟨⟨by omega, by omega, (f.putI hs1 rfl).putA hs2 rfl, ?_, fun j hj' => ?_, fun v v0 v1 => ?_⟩, by omega⟩
    · rw [hs2, hs1]; simp only [gI_pI, gI_pL, gI_pA, gL_pI, gL_pL, gL_pA, gA_pI, gA_pL, gA_pA]
      rw [if_pos trivial]; omega
    · rw [hs2, hs1]; simp only [gI_pI, gI_pL, gI_pA, gL_pI, gL_pL, gL_pA, gA_pI, gA_pL, gA_pA]
      rw [if_neg (by omega)]; exact hj j hj'
    · rw [hs2, hs1]; simp only [gI_pI, gI_pL, gI_pA, gL_pI, gL_pL, gL_pA, gA_pI, gA_pL, gA_pA]
      by_cases e : v = k
      · rw [if_pos ⟨trivial, by omega⟩, e, f.a _ rfl]
      · rw [if_neg (by omega)]; exact hv v v0 (by omega)
  · rw [if_neg hk]
    exact ⟨f, by omega, hj, fun v v0 v1 => hv v v0 (by omega)⟩
theorem xs_takeBound {σ : S} (h0 : 60 ≤ gI σ 143) (h1 : gI σ 143 ≤ 9000) : x_takeBound σ (fun _ s => Fr ([143], [], [83]) σ s ∧ gI s 143 = gI σ 143 - 60 ∧ ∀ v, 0 ≤ v → v < 60 → gA s 83 v = gA σ 92 (gI σ 143 - 60 + v)) := by
  unfold x_takeBound
  rintro s0 hs0
  rw [w32_id (by omega) (by omega)] at hs0
  have f0 : Fr ([143], [], [83]) σ s0 := Fr.rf.putI hs0 rfl
  have t0 : gI s0 143 = gI σ 143 - 60 := by rw [hs0]; simp only [gI_pI, gI_pL, gI_pA, gL_pI, gL_pL, gL_pA, gA_pI, gA_pL, gA_pA]; rw [if_pos trivial]
  refine lx_takeBound_L13 (fun k s => 0 ≤ k ∧ k ≤ 60 ∧ Fr ([], [], [83]) s0 s ∧ ∀ v, 0 ≤ v → v < k → gA s 83 v = gA σ 92 (gI σ 143 - 60 + v)) (fun k _ => (60 - k).toNat) ⟨by omega, by omega, Fr.rf, fun v v0 v1 => by omega⟩ ?_
  rintro k s fr ⟨k0, k1, f, hv⟩
  try dsimp only
  have ts : gI s 143 = gI σ 143 - 60 := by rw [f.i _ rfl, t0]
  by_cases hk : k < 60
  · rw [if_pos hk, ts, w32_id (by omega) (by omega)]
    refine ⟨⟨by omega, by omega⟩, ⟨k0, hk⟩, ?_⟩
    rintro s1 hs1
    rw [w32_id (by omega) (by omega)]
    refine ⟨⟨by omega, by omega, f.putA hs1 rfl, fun v v0 v1 => ?_⟩, by omega⟩
    rw [hs1]; simp only [gI_pI, gI_pL, gI_pA, gL_pI, gL_pL, gL_pA, gA_pI, gA_pL, gA_pA]
    by_cases e : v = k
    · rw [if_pos ⟨trivial, e⟩, e, f.a _ rfl, f0.a _ rfl]
    · rw [if_neg (by omega)]; exact hv v v0 (by omega)
  · rw [if_neg hk]
    exact ⟨f0.trans (f.weak rfl), ts, fun v v0 v1 => hv v v0 (by omega)⟩
theorem xs_countStep {σ : S} (h0 : 0 ≤ gI σ 131) (h1 : gI σ 131 ≤ 600) : x_countStep σ (fun _ s => gI σ 131 + 1 ≤ 600 ∧ s = pI σ 131 (gI σ 131 + 1)) (fun s => 600 < gI σ 131 + 1 ∧ gI s 1006 = 1 ∧ gI s 131 = gI σ 131 + 1 ∧ Fr ([131, 1006], [], []) σ s) := by
  unfold x_countStep
  rintro s1 hs1
  rw [w32_id (by omega) (by omega)] at hs1
  have e1 : gI s1 131 = gI σ 131 + 1 := by rw [hs1]; simp only [gI_pI, gI_pL, gI_pA, gL_pI, gL_pL, gL_pA, gA_pI, gA_pL, gA_pA]; rw [if_pos trivial]
  rw [e1]
  split
  · exact ⟨by omega, hs1⟩
  · refine xs_stop ?_
    refine ⟨by omega, ?_, ?_, (Fr.rf.putI hs1 rfl).putI rfl rfl⟩
    · simp only [gI_pI, gI_pL, gI_pA, gL_pI, gL_pL, gL_pA, gA_pI, gA_pL, gA_pA]; rw [if_pos trivial]
    · simp only [gI_pI, gI_pL, gI_pA, gL_pI, gL_pL, gL_pA, gA_pI, gA_pL, gA_pA]; rw [if_neg (by decide)]; exact e1
theorem xs_countFilled {M : Mo} {σ : S} (xp : XP M σ) {x : Int} (hx : lvX σ x) (h0 : 0 ≤ gI σ 132) (h1 : gI σ 132 ≤ 4000) : x_countFilled x σ (fun _ s => gI σ 132 + trS (tX σ x) ≤ 4000 ∧ s = pI σ 132 (gI σ 132 + trS (tX σ x))) (fun s => 4000 < gI σ 132 + trS (tX σ x) ∧ gI s 1006 = 7 ∧ Fr ([132, 1006], [], []) σ s) := by
  unfold x_countFilled
  have nd := xp.nd hx
  have lx := hx
  have rg := xp.rg
  refine ⟨⟨by have := hx.1; omega, by have := hx.2; omega⟩, ?_⟩
  rintro s1 hs1
  have b40 := nd.2.2.2
  rw [nd.1, w32_id (by omega) (by omega)] at hs1
  have e1 : gI s1 132 = gI σ 132 + trS (tX σ x) := by rw [hs1]; simp only [gI_pI, gI_pL, gI_pA, gL_pI, gL_pL, gL_pA, gA_pI, gA_pL, gA_pA]; rw [if_pos trivial]
  rw [e1]
  split
  · exact ⟨by omega, hs1⟩
  · refine xs_stop ?_
    refine ⟨by omega, ?_, (Fr.rf.putI hs1 rfl).putI rfl rfl⟩
    simp only [gI_pI, gI_pL, gI_pA, gL_pI, gL_pL, gL_pA, gA_pI, gA_pL, gA_pA]; rw [if_pos trivial]
theorem xs_came {M : Mo} {σ : S} (xp : XP M σ) {x : Int} (hx : lvX σ x) {Q : Int → S → Prop} (hQ : Q (if lab (tX σ x) < 0 then x else gA σ 75 x) σ) : x_came x σ Q := by
  unfold x_came
  have rg := xp.rg
  have b : inb x 200000 := ⟨by have := hx.1; omega, by have := hx.2; omega⟩
  refine ⟨b, fun _ => b, ?_⟩
  have : lab (tX σ x) = gA σ 66 x := by rw [tX_row xp hx, lab_N]
  rw [← this]
  exact hQ

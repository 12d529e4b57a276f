/-! RewriteHouseModel: parts of what is kept are kept; all moves -/
def kpT (σ s : S) : Prop := ∀ y, lvT σ y → gA s 92 y = 1 → ∃ z, rtT σ z ∧ tT σ y ∈ subs (tT σ z)
theorem ts_closed {M : Mo} {σ p : S} (h : TP M σ) (O : rtO σ) (I : mkI σ p) {Q : Int → S → Prop} (hQ : ∀ s q, Fr ([], [], [92]) σ s → mle p s → kpT σ s → TP M s → mvQ M s q → t_compact_L290 0 q Q) : t_compact_j227 p Q := by
  have rg := h.rg
  unfold t_compact_j227
  rw [I.1.i _ rfl, w32_id (by omega) (by omega)]
  refine lt_compact_L234 (fun x s => -1 ≤ x ∧ x < gI σ 80 ∧ Fr ([], [], [92]) σ s ∧ mle p s ∧ kpT σ s ∧ ∀ y, x < y → lvT σ y → gA s 92 y = 1 → ∀ k, 0 ≤ k → k < gA σ 50 y → gA s 92 (gA σ 56 (gA σ 49 y + k)) = 1) (fun x _ => (x + 1).toNat) ⟨by omega, by omega, I.1, fun _ h => h, fun y ly hy => ⟨y, I.2 y ly hy, subs_self (h.T ly)⟩, fun y y0 ly => by have := ly.2; omega⟩ ?_
  rintro x s fr ⟨x0, x1, f, ml, kp, hc⟩
  try dsimp only
  by_cases hx : x < 0
  · rw [if_pos hx]
    unfold t_compact_j284
    obtain ⟨hs, hl⟩ := h.fr f rfl
    have mc : mkC s := by
      intro y ly hm k k0 k1
      rw [f.a 50 rfl] at k1
      rw [f.a 56 rfl, f.a 49 rfl]
      exact hc y (by have := ly.1; omega) ⟨ly.1, by have := ly.2; rw [f.i _ rfl] at this; exact this⟩ hm k k0 k1
    exact fm_t_moveNodes (ts_moveNodes hs mc) (fun r q _ m => hQ s q f ml kp hs m)
  · rw [if_neg hx]
    have lx : lvT σ x := ⟨by omega, x1⟩
    have at_ := h.at lx
    refine lt_compact_L240 (fun k q => 0 ≤ k ∧ k ≤ gA σ 50 x ∧ Fr ([], [], [92]) σ q ∧ mle s q ∧ kpT σ q ∧ (∀ y, x ≤ y → gA q 92 y = gA s 92 y) ∧ (gA s 92 x = 1 → ∀ i, 0 ≤ i → i < k → gA q 92 (gA σ 56 (gA σ 49 x + i)) = 1)) (fun k _ => (gA σ 50 x - k).toNat) ⟨Int.le_refl _, at_.1, f, fun _ h => h, kp, fun _ _ => rfl, fun _ i i0 i1 => by omega⟩ ?_
    rintro k q fq ⟨k0, k1, g, mq, kq, hy, hm⟩
    try dsimp only
    rw [g.a _ rfl, hy x (Int.le_refl _)]
    refine ⟨⟨by omega, by omega⟩, fun _ => ⟨by omega, by omega⟩, ?_⟩
    by_cases hk : k < gA σ 50 x ∧ gA s 92 x = 1
    · rw [if_pos hk]
      obtain ⟨hq, hl⟩ := h.fr g rfl
      have lq : lvT q x := (hl x lx).1
      refine ts_arg hq lq k0 (by rw [g.a _ rfl]; exact hk.1) ?_
      rw [g.a _ rfl, g.a _ rfl]
      obtain ⟨b1, b2⟩ := at_.2.2.2 k k0 hk.1
      refine ⟨⟨b1.1, by have := b1.2; omega⟩, ?_⟩
      rintro q1 hq1
      rw [w32_id (by omega) (by omega)]
      have m1 : mle q q1 := by
        intro y hy2
        rw [hq1, gA_pA]
        by_cases e : y = gA σ 56 (gA σ 49 x + k)
        · rw [if_pos ⟨rfl, e⟩]
        · rw [if_neg (fun z => e z.2)]; exact hy2
      refine ⟨⟨by omega, by omega, g.putA hq1 rfl, mq.trans m1, fun y ly hy2 => ?_, fun y y0 => ?_, fun hs i i0 i1 => ?_⟩, by omega⟩
      · rw [hq1, gA_pA] at hy2
        by_cases e : y = gA σ 56 (gA σ 49 x + k)
        · obtain ⟨z, rz, sz⟩ := kp x lx hk.2
          refine ⟨z, rz, subs_trans (h.T (O.1 z rz)) sz ?_⟩
          rw [e]
          refine subs_down (h.T lx) ?_ (subs_self (h.T b1))
          rw [tT_row h lx, kids_N]
          exact List.mem_map.mpr ⟨_, rowI_mem.mpr ⟨k, k0, by omega, rfl⟩, rfl⟩
        · rw [if_neg (fun z => e z.2)] at hy2
          exact kq y ly hy2
      · rw [hq1, gA_pA, if_neg (by omega)]
        exact hy y y0
      · by_cases e : i = k
        · rw [hq1, gA_pA, e, if_pos ⟨rfl, rfl⟩]
        · exact m1 _ (hm hs i i0 (by omega))
    · rw [if_neg hk]
      unfold t_compact_j278
      rw [w32_id (by omega) (by omega)]
      refine ⟨⟨by omega, by omega, g, ml.trans mq, kq, fun y y0 ly hy2 i i0 i1 => ?_⟩, by omega⟩
      rw [hy y (by omega)] at hy2
      by_cases e : y = x
      · subst e
        exact hm hy2 i i0 (by omega)
      · exact mq _ (hc y (by omega) ly hy2 i i0 i1)

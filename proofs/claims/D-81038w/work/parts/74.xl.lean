/-! RewriteHouse: least sorts -/
theorem lnX_76 : ((dAln dX 76 : Nat) : Int) = 3 := rfl
theorem rowI_rev (f : Int → Int) (n : Nat) : rowI (fun k => f ((n : Int) - 1 - k)) 0 n = (rowI f 0 n).reverse := by
  apply List.ext_getElem?
  intro i
  by_cases hi : i < n
  · rw [rowI_get _ _ hi, List.getElem?_reverse (by rw [rowI_len]; exact hi), rowI_len, rowI_get _ _ (by omega)]
    congr 2
    omega
  · rw [List.getElem?_eq_none (by rw [rowI_len]; omega), List.getElem?_eq_none (by rw [List.length_reverse, rowI_len]; omega)]
theorem xs_isBelow {M : Mo} {σ : S} {s t : Int} {Q : Int → S → Prop} (hm : moX σ = M) (h0 : 0 ≤ s) (h1 : s < 20) (hQ : Q (bi (blw M s t)) σ) : x_isBelow s t σ Q := by
  unfold x_isBelow
  subst hm
  exact ⟨⟨h0, h1⟩, hQ⟩
theorem xs_isRowAbove {M : Mo} {σ : S} {r n t : Int} {Q : Int → S → Prop} (hm : moX σ = M) (hr : 0 ≤ r) (hr1 : r < 50) (hn : 0 ≤ n) (hn1 : n ≤ 3) (ht : isB t)
    (hs : ∀ k, 0 ≤ k → k < n → gA σ 76 k = -2 ∨ 0 ≤ gA σ 76 k ∧ gA σ 76 k < 20)
    (hQ : Q (bi (rwA M r 0 (if t = 0 then rowI (gA σ 76) 0 n.toNat else (rowI (gA σ 76) 0 n.toNat).reverse) = true)) σ) : x_isRowAbove r 76 n t σ Q := by
  unfold x_isRowAbove
  have hl : (if t = 0 then rowI (gA σ 76) 0 n.toNat else (rowI (gA σ 76) 0 n.toNat).reverse) = rowI (fun k => gA σ 76 (if t = 0 then k else n - 1 - k)) 0 n.toNat := by
    by_cases h : t = 0
    · simp only [if_pos h]
    · simp only [if_neg h]
      rw [← rowI_rev]
      apply rowI_congr
      intro k _ _
      congr 1
      omega
  rw [hl] at hQ
  refine lx_isRowAbove_L3 (fun k s => s = σ ∧ 0 ≤ k ∧ k ≤ n ∧ rwA M r k (rowI (fun k => gA σ 76 (if t = 0 then k else n - 1 - k)) k (n - k).toNat) = rwA M r 0 (rowI (fun k => gA σ 76 (if t = 0 then k else n - 1 - k)) 0 n.toNat)) (fun k _ => (n - k).toNat) ⟨rfl, by omega, hn, by simp⟩ ?_
  rintro k s fr ⟨rfl, h0, h1, h2⟩
  try dsimp only
  by_cases hk : k < n
  · rw [if_pos hk]
    have e : w32 (w32 (n - 1) - k) = n - 1 - k := by simp (disch := omega) only [w32_id]
    have e2 : w32 (w32 (3 * r) + k) = 3 * r + k := by simp (disch := omega) only [w32_id]
    rw [e, e2, lnX_76, w32_id (by omega) (by omega)]
    have hb : 0 ≤ (if t = 0 then k else n - 1 - k) ∧ (if t = 0 then k else n - 1 - k) < n := by split <;> omega
    refine ⟨by omega, ?_⟩
    have hv := hs _ hb.1 hb.2
    rw [show (n - k).toNat = (n - (k + 1)).toNat + 1 by omega] at h2
    simp only [rowI, rwA] at h2
    by_cases hz : gA s 76 (if t = 0 then k else n - 1 - k) = -2
    · rw [if_pos hz]
      rw [← h2] at hQ
      simpa [hz, bi] using hQ
    · rw [if_neg hz]
      refine ⟨by omega, xs_isBelow hm (by omega) (by omega) ?_⟩
      have hm6 : gA s 42 (3 * r + k) = mRs M r k := by subst hm; rfl
      rw [hm6]
      by_cases hb2 : blw M (gA s 76 (if t = 0 then k else n - 1 - k)) (mRs M r k)
      · rw [bi_t hb2, if_neg (by decide)]
        refine ⟨⟨rfl, by omega, by omega, ?_⟩, by omega⟩
        rw [← h2]
        rw [decide_eq_true (p := blw M _ _) hb2, decide_eq_true (p := _ ≠ _) hz]
        rfl
      · rw [bi_f hb2, if_pos rfl]
        rw [← h2] at hQ
        simpa [hb2, bi] using hQ
  · rw [if_neg hk]
    rw [show (n - k).toNat = 0 by omega] at h2
    simp only [rowI, rwA] at h2
    rw [← h2] at hQ
    simpa [bi] using hQ
theorem xs_leastBy {M : Mo} {σ : S} {o n : Int} {Q : Int → S → Prop} (hm : moX σ = M) (hM : WM M) (ho : 0 ≤ o) (ho1 : o < 50) (hn : 0 ≤ n) (hn1 : n ≤ 3)
    (hs : ∀ k, 0 ≤ k → k < n → gA σ 76 k = -2 ∨ 0 ≤ gA σ 76 k ∧ gA σ 76 k < 20)
    (hQ : Q (lstB M o (rowI (gA σ 76) 0 n.toNat)) σ) : x_leastBy o 76 n σ Q := by
  have hrows : gI σ 29 = mRows M := by subst hm; rfl
  have hsorts : gI σ 22 = mSorts M := by subst hm; rfl
  have hro : ∀ r, gA σ 41 r = mRo M r := fun r => by subst hm; rfl
  have hrr : ∀ r, gA σ 44 r = mRr M r := fun r => by subst hm; rfl
  have hco : ∀ r, gA σ 53 r = mCo M r := fun r => by subst hm; rfl
  have hab : ∀ r, gA σ 39 r = mAb M r := fun r => by subst hm; rfl
  have b1 := hM.1
  have b2 := hM.2.1
  unfold x_leastBy
  have last : ∀ set, set = lbS M o (rowI (gA σ 76) 0 n.toNat) (mRows M).toNat → x_leastBy_j83 (-2) set σ Q := by
    intro set hset
    unfold x_leastBy_j83
    refine lx_leastBy_L86 (fun b s q => q = σ ∧ 0 ≤ s ∧ s ≤ mSorts M ∧ b = loS M set s.toNat) (fun _ s _ => (mSorts M - s).toNat) ⟨rfl, by omega, b1.1, rfl⟩ ?_
    rintro b s q fr ⟨rfl, h0, h1, h2⟩
    try dsimp only
    rw [hsorts, hab]
    by_cases hk : s < mSorts M
    · rw [if_pos hk]
      have e2 : w32 (s + 1) = s + 1 := w32_id (by omega) (by omega)
      refine ⟨fun _ => by omega, ?_⟩
      have en : ((s.toNat : Nat) : Int) = s := by omega
      have es : (s + 1).toNat = s.toNat + 1 := by omega
      by_cases hc : bAnd (bShr set s) 1 = 1 ∧ bAnd set (bXor (mAb M s) (-1)) = 0
      · rw [if_pos hc]
        unfold x_leastBy_j125
        rw [e2]
        refine ⟨⟨rfl, by omega, by omega, ?_⟩, by omega⟩
        rw [es]
        simp only [loS]
        rw [en, if_pos hc]
      · rw [if_neg hc]
        unfold x_leastBy_j125
        rw [e2]
        refine ⟨⟨rfl, by omega, by omega, ?_⟩, by omega⟩
        rw [es]
        simp only [loS]
        rw [en, if_neg hc, h2]
    · rw [if_neg hk]
      rw [show s = mSorts M by omega, hset] at h2
      rw [h2]
      exact hQ
  refine lx_leastBy_L10 (fun set r q => q = σ ∧ 0 ≤ r ∧ r ≤ mRows M ∧ set = lbS M o (rowI (gA σ 76) 0 n.toNat) r.toNat) (fun _ r _ => (mRows M - r).toNat) ⟨rfl, by omega, b2.1, rfl⟩ ?_
  rintro set r q fr ⟨rfl, h0, h1, h2⟩
  try dsimp only
  rw [hrows]
  by_cases hk : r < mRows M
  · rw [if_pos hk]
    have e2 : w32 (r + 1) = r + 1 := w32_id (by omega) (by omega)
    have en : ((r.toNat : Nat) : Int) = r := by omega
    have es : (r + 1).toNat = r.toNat + 1 := by omega
    refine ⟨by omega, ?_⟩
    have no : rwO M o r (rowI (gA q 76) 0 n.toNat) = false → x_leastBy_j77 o 76 n (-2) set r q Q (fun v5' v6' s' => (s' = q ∧ 0 ≤ v6' ∧ v6' ≤ mRows M ∧ v5' = lbS M o (rowI (gA q 76) 0 n.toNat) v6'.toNat) ∧ (mRows M - v6').toNat < (mRows M - r).toNat) := by
      intro hw
      unfold x_leastBy_j77
      rw [e2]
      refine ⟨⟨rfl, by omega, by omega, ?_⟩, by omega⟩
      rw [es]
      simp only [lbS]
      rw [en, hw, if_neg (by simp), h2]
    have yes : rwO M o r (rowI (gA q 76) 0 n.toNat) = true → x_leastBy_j63 o 76 n (-2) set r q Q (fun v5' v6' s' => (s' = q ∧ 0 ≤ v6' ∧ v6' ≤ mRows M ∧ v5' = lbS M o (rowI (gA q 76) 0 n.toNat) v6'.toNat) ∧ (mRows M - v6').toNat < (mRows M - r).toNat) := by
      intro hw
      unfold x_leastBy_j63 x_leastBy_j77
      rw [e2]
      refine ⟨by omega, ⟨rfl, by omega, by omega, ?_⟩, by omega⟩
      rw [es]
      simp only [lbS]
      rw [en, hw, if_pos rfl, h2, hrr]
    rw [hro]
    by_cases hro1 : mRo M r = o
    · rw [if_pos hro1]
      refine xs_isRowAbove hm h0 (by omega) hn hn1 (Or.inl rfl) hs ?_
      rw [if_pos rfl]
      by_cases ha : rwA M r 0 (rowI (gA q 76) 0 n.toNat) = true
      · rw [bi_t ha, if_neg (by decide)]
        exact yes (by simp [rwO, hro1, ha])
      · rw [bi_f ha, if_pos rfl, hco]
        refine ⟨by omega, ?_⟩
        by_cases hc : mCo M o = 0
        · rw [if_pos hc]
          exact no (by simp [rwO, hro1, ha, hc])
        · rw [if_neg hc]
          refine xs_isRowAbove hm h0 (by omega) hn hn1 (Or.inr rfl) hs ?_
          rw [if_neg (show ¬ (1 : Int) = 0 by decide)]
          by_cases ha2 : rwA M r 0 (rowI (gA q 76) 0 n.toNat).reverse = true
          · rw [bi_t ha2, if_neg (by decide)]
            exact yes (by simp [rwO, hro1, ha2, hc])
          · rw [bi_f ha2, if_pos rfl]
            exact no (by simp [rwO, hro1, ha, ha2])
    · rw [if_neg hro1]
      exact no (by simp [rwO, hro1])
  · rw [if_neg hk]
    rw [show r = mRows M by omega] at h2
    exact last set h2
theorem XP.mo {M : Mo} {σ : S} (h : XP M σ) : moX σ = M := h.1.1
theorem XP.wm {M : Mo} {σ : S} (h : XP M σ) : WM M := h.1.2
theorem XP.rg {M : Mo} {σ : S} (h : XP M σ) : 1 ≤ gI σ 93 ∧ gI σ 93 ≤ 200000 ∧ 0 ≤ gI σ 102 ∧ gI σ 102 ≤ 600000 := h.2.1
theorem XP.pv {M : Mo} {σ : S} (h : XP M σ) : Pv (gA σ 66) (gA σ 67) (gA σ 68) (gA σ 73) 1 (gI σ 93) (gI σ 102) := h.2.2.1
theorem XP.pu {M : Mo} {σ : S} (h : XP M σ) : Pu (gA σ 66) (gA σ 67) (gA σ 68) (gA σ 73) 1 (gI σ 93) := h.2.2.2.1
theorem XP.nd {M : Mo} {σ : S} (h : XP M σ) {x : Int} (hx : lvX σ x) : gA σ 70 x = trS (tX σ x) ∧ gA σ 69 x = srt M (tX σ x) ∧ NF M (tX σ x) ∧ trS (tX σ x) ≤ 40 := h.2.2.2.2.1 x hx
theorem XP.ch {M : Mo} {σ : S} (h : XP M σ) : Ch 131072 (gA σ 72) (gA σ 71) (kyX σ) 1 (gI σ 93) := h.2.2.2.2.2.1
theorem XP.st {M : Mo} {σ : S} (h : XP M σ) {x : Int} (hx : lvX σ x) : gA σ 67 x = (rowI (gA σ 68) 1 (x - 1).toNat).sum := h.2.2.2.2.2.2.1 x hx
theorem XP.pl {M : Mo} {σ : S} (h : XP M σ) : gI σ 102 = (rowI (gA σ 68) 1 (gI σ 93 - 1).toNat).sum := h.2.2.2.2.2.2.2
/-- a live node: its numbers -/
theorem XP.at {M : Mo} {σ : S} (h : XP M σ) {x : Int} (hx : lvX σ x) : 0 ≤ gA σ 68 x ∧ gA σ 68 x ≤ 39 ∧ 0 ≤ gA σ 67 x ∧ gA σ 67 x + gA σ 68 x ≤ gI σ 102 ∧ ∀ k, 0 ≤ k → k < gA σ 68 x → lvX σ (gA σ 73 (gA σ 67 x + k)) ∧ gA σ 73 (gA σ 67 x + k) < x := by
  obtain ⟨-, a1, a2, a3, a4⟩ := h.pv.2 x hx.1 hx.2
  have hn := h.nd hx
  have hlen : (gA σ 68 x).toNat ≤ 39 := by
    have e := den_row h.pv hx.1 hx.2
    have hs : trS (tX σ x) ≤ 40 := hn.2.2.2
    unfold tX at hs
    rw [e, trS_N] at hs
    have hpos : ∀ l : List Tr, (∀ t ∈ l, isT t) → l.length ≤ (l.map trS).sum := by
      intro l
      induction l with
      | nil => intro _; simp
      | cons t r ih =>
        intro hl
        have := ih (fun u hu => hl u (List.mem_cons_of_mem _ hu))
        have h1 := trS_pos (hl t (List.mem_cons_self ..))
        simp only [List.length_cons, List.map_cons, List.sum_cons]
        omega
    have := hpos ((rowI (gA σ 73) (gA σ 67 x) (gA σ 68 x).toNat).map (den (gA σ 66) (gA σ 67) (gA σ 68) (gA σ 73))) (by
      intro t ht
      obtain ⟨y, hy, rfl⟩ := List.mem_map.mp ht
      obtain ⟨k, k0, k1, rfl⟩ := rowI_mem.mp hy
      have := a4 k k0 (by omega)
      exact den_T h.pv this.1 (by have := hx.2; omega))
    rw [List.length_map, rowI_len] at this
    omega
  exact ⟨a1, by omega, a2, a3, fun k k0 k1 => by have := a4 k k0 k1; exact ⟨⟨this.1, by have := hx.2; omega⟩, this.2⟩⟩
theorem tX_row {M : Mo} {σ : S} (h : XP M σ) {x : Int} (hx : lvX σ x) : tX σ x = trN (gA σ 66 x) ((rowI (gA σ 73) (gA σ 67 x) (gA σ 68 x).toNat).map (tX σ)) := den_row h.pv hx.1 hx.2
theorem XP.inj {M : Mo} {σ : S} (h : XP M σ) {x y : Int} (hx : lvX σ x) (hy : lvX σ y) (e : tX σ x = tX σ y) : x = y := den_one h.pv h.pu hx.1 hx.2 hy.1 hy.2 e
theorem xs_at {M : Mo} {σ : S} (h : XP M σ) {x k : Int} {Q : Int → S → Prop} (hx : lvX σ x) (h0 : 0 ≤ k) (h1 : k < gA σ 68 x) (hQ : Q (gA σ 73 (gA σ 67 x + k)) σ) : x_at x k σ Q := by
  obtain ⟨a1, a2, a3, a4, a5⟩ := h.at hx
  have := h.rg
  have e : w32 (gA σ 67 x + k) = gA σ 67 x + k := w32_id (by omega) (by omega)
  unfold x_at
  rw [e]
  exact ⟨⟨by omega, by omega⟩, ⟨by omega, by omega⟩, hQ⟩

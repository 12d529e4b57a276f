/-! RewriteHouseModel: marked nodes are the pool -/
theorem cnT_onto {M : Mo} {σ : S} (h : TP M σ) {z : Int} (z0 : 0 ≤ z) (z1 : z < cnT σ (gI σ 80)) : ∃ y, lvT σ y ∧ gA σ 92 y = 1 ∧ cnT σ y = z := by
  obtain ⟨y, a, b, c⟩ := cN_onto (gA σ 92) z0 z1
  refine ⟨(y : Int), ⟨by omega, by have := h.rg.1; omega⟩, b, ?_⟩
  unfold cnT
  rw [Int.toNat_natCast]
  exact c
theorem cnT_inj {σ : S} {y z : Int} (y0 : 0 ≤ y) (z0 : 0 ≤ z) (hy : gA σ 92 y = 1) (hz : gA σ 92 z = 1) (e : cnT σ y = cnT σ z) : y = z := by
  by_cases a : y < z
  · have := cnT_lt σ y0 a hy; omega
  · by_cases b : z < y
    · have := cnT_lt σ z0 b hz; omega
    · omega
def mvQ (M : Mo) (σ s : S) : Prop := TP M s ∧ gI s 80 = cnT σ (gI σ 80) ∧ (∀ y, lvT σ y → gA σ 92 y = 1 → gA s 92 y = cnT σ y ∧ lvT s (cnT σ y) ∧ tT s (cnT σ y) = tT σ y) ∧ (∀ z, lvT s z → gA s 55 z = 0 ∧ ∃ y, lvT σ y ∧ gA σ 92 y = 1 ∧ cnT σ y = z) ∧ Fr wT_moveNodes σ s
theorem ts_moveEnd {M : Mo} {σ s : S} (h : TP M σ) (hk : mkC σ) (f : Fr wT_moveNodes σ s) (n1 : gI s 80 = cnT σ (gI σ 80)) (p1 : gI s 81 = arT σ (gI σ 80)) (hd : ∀ y, lvT σ y → gA σ 92 y = 1 → mvD σ y s) (hc : Ch 65536 (gA s 57) (gA s 53) (kyT s) 0 (gI s 80)) : mvQ M σ s := by
  have rg := h.rg
  have on : ∀ z, lvT s z → ∃ y, lvT σ y ∧ gA σ 92 y = 1 ∧ cnT σ y = z := fun z hz => cnT_onto h hz.1 (by rw [← n1]; exact hz.2)
  have lv : ∀ y, lvT σ y → gA σ 92 y = 1 → lvT s (cnT σ y) := fun y hy hm => ⟨(cnT_le σ hy.1).1, by rw [n1]; have := cnT_lt σ hy.1 hy.2 hm; omega⟩
  have kid : ∀ y, lvT σ y → gA σ 92 y = 1 → ∀ k, 0 ≤ k → k < gA σ 50 y → lvT σ (gA σ 56 (gA σ 49 y + k)) ∧ gA σ 56 (gA σ 49 y + k) < y ∧ gA σ 92 (gA σ 56 (gA σ 49 y + k)) = 1 := by
    intro y hy hm k k0 k1
    have := (h.at hy).2.2.2 k k0 k1
    exact ⟨this.1, this.2, hk y hy hm k k0 k1⟩
  have ac := arT_le h (x := gI σ 80) rg.1 (Int.le_refl _)
  have cc := cnT_le σ rg.1
  have pv : Pv (gA s 48) (gA s 49) (gA s 50) (gA s 56) 0 (gI s 80) (gI s 81) := by
    refine ⟨Int.le_refl _, fun z z0 z1 => ?_⟩
    obtain ⟨y, ly, hm, rfl⟩ := on z ⟨z0, z1⟩
    obtain ⟨w1, w2, w3, w4, w5, w6, w7, w8⟩ := hd y ly hm
    have at_ := h.at ly
    have a1 := arT_lt h ly.1 ly.2 (Int.le_refl _) hm
    have a2 := arT_le h (x := y) ly.1 (by have := ly.2; omega)
    rw [w2, w3, w4]
    refine ⟨(h.pv.2 y ly.1 ly.2).1, at_.1, a2.1, by rw [p1]; exact a1, fun k k0 k1 => ?_⟩
    obtain ⟨b1, b2, b3⟩ := kid y ly hm k k0 k1
    rw [w8 k k0 k1]
    have := cnT_lt σ b1.1 b2 b3
    exact ⟨(cnT_le σ b1.1).1, by omega⟩
  have eT : ∀ n : Nat, ∀ y : Int, y < (n : Int) → lvT σ y → gA σ 92 y = 1 → tT s (cnT σ y) = tT σ y := by
    intro n
    induction n with
    | zero => intro y hy ly; have := ly.1; omega
    | succ n ih =>
      intro y hy ly hm
      obtain ⟨w1, w2, w3, w4, w5, w6, w7, w8⟩ := hd y ly hm
      have lc := lv y ly hm
      have at_ := h.at ly
      rw [tT_row h ly]
      unfold tT
      rw [den_row pv lc.1 lc.2, w2, w3, w4]
      congr 1
      rw [rowI_range, rowI_range, List.map_map, List.map_map]
      apply List.map_congr_left
      intro k hk'
      have hk2 := List.mem_range.mp hk'
      simp only [Function.comp_def]
      obtain ⟨b1, b2, b3⟩ := kid y ly hm (k : Int) (by omega) (by omega)
      rw [w8 (k : Int) (by omega) (by omega)]
      exact ih _ (by omega) b1 b3
  have eT2 : ∀ y, lvT σ y → gA σ 92 y = 1 → tT s (cnT σ y) = tT σ y := fun y ly hm => eT (y.toNat + 1) y (by have := ly.1; omega) ly hm
  have sums : ∀ n : Nat, (n : Int) ≤ gI σ 80 → aN (gA σ 92) (gA σ 50) n = (rowI (gA s 50) 0 (cN (gA σ 92) n).toNat).sum := by
    intro n
    induction n with
    | zero => intro _; rfl
    | succ n ih =>
      intro hn
      simp only [aN, cN]
      have c1 := cN_le (gA σ 92) n
      by_cases z : gA σ 92 (n : Int) = 1
      · obtain ⟨w1, w2, w3, w4, w5, w6, w7, w8⟩ := hd (n : Int) ⟨by omega, by omega⟩ z
        rw [if_pos z, if_pos z, ih (by omega), show (cN (gA σ 92) n + 1).toNat = (cN (gA σ 92) n).toNat + 1 by omega, rowI_snoc]
        unfold cnT at w4
        rw [Int.toNat_natCast] at w4
        rw [show (((cN (gA σ 92) n).toNat : Nat) : Int) = cN (gA σ 92) n by omega, w4]
      · rw [if_neg z, if_neg z, Int.add_zero, Int.add_zero]
        exact ih (by omega)
  have mo : TMo M s := h.mo.same (fun i hi => apt_i (w := wT_moveNodes) (I := TPj) (A := []) rfl f i hi) (fun a ha => apt_a (w := wT_moveNodes) (I := []) (A := TPm) rfl f a ha)
  refine ⟨⟨⟨mo, h.wm⟩, ⟨by omega, by omega, by omega, ?_⟩, pv, ?_, fun z hz => ?_, hc, fun z hz => ?_, ?_, ?_⟩, n1, fun y ly hm => ⟨(hd y ly hm).1, lv y ly hm, eT2 y ly hm⟩, fun z hz => ?_, f⟩
  · rw [p1]
    have := h.pl
    omega
  · intro x y x0 x1 y0 y1 e1 e2 e3
    obtain ⟨a, la, ma, rfl⟩ := on x ⟨x0, x1⟩
    obtain ⟨b, lb, mb, rfl⟩ := on y ⟨y0, y1⟩
    obtain ⟨w1, w2, w3, w4, w5, w6, w7, w8⟩ := hd a la ma
    obtain ⟨u1, u2, u3, u4, u5, u6, u7, u8⟩ := hd b lb mb
    rw [w2, u2] at e1
    rw [w4, u4] at e2
    have : a = b := by
      refine h.pu a b la.1 la.2 lb.1 lb.2 e1 e2 (fun k k0 k1 => ?_)
      have e4 := e3 k k0 (by rw [w4]; exact k1)
      rw [w3, u3, w8 k k0 k1, u8 k k0 (by omega)] at e4
      obtain ⟨a1, a2, a3⟩ := kid a la ma k k0 k1
      obtain ⟨b1, b2, b3⟩ := kid b lb mb k k0 (by omega)
      exact cnT_inj a1.1 b1.1 a3 b3 e4
    rw [this]
  · obtain ⟨y, ly, hm, rfl⟩ := on z hz
    obtain ⟨w1, w2, w3, w4, w5, w6, w7, w8⟩ := hd y ly hm
    rw [w5, w6, eT2 y ly hm]
    exact h.nd ly
  · obtain ⟨y, ly, hm, rfl⟩ := on z hz
    obtain ⟨w1, w2, w3, w4, w5, w6, w7, w8⟩ := hd y ly hm
    rw [w3]
    exact sums y.toNat (by have := ly.1; have := ly.2; omega)
  · rw [p1, n1]
    exact sums (gI σ 80).toNat (by omega)
  · refine ⟨by rw [f.i _ rfl]; exact h.cn.1, fun z hz => ?_⟩
    obtain ⟨y, ly, hm, rfl⟩ := on z hz
    rw [(hd y ly hm).2.2.2.2.2.2.1, f.i _ rfl]
    exact h.cn.1
  · obtain ⟨y, ly, hm, rfl⟩ := on z hz
    exact ⟨(hd y ly hm).2.2.2.2.2.2.1, y, ly, hm, rfl⟩
theorem ts_moveNodes {M : Mo} {σ : S} (h : TP M σ) (hk : mkC σ) : t_moveNodes σ (fun _ s => mvQ M σ s) := by
  have rg := h.rg
  have cc := cnT_le σ rg.1
  have ac := arT_le h (x := gI σ 80) rg.1 (Int.le_refl _)
  have pl := h.pl
  refine ts_moveLoop h hk ?_
  rintro s ⟨-, -, -, f, -, -, hd⟩
  unfold t_moveNodes_j159
  rintro s1 hs1 s2 hs2
  have f2 : Fr ([80, 81], [], [48, 49, 50, 51, 52, 55, 56, 92]) σ s2 := ((f.weak rfl).putI hs1 rfl).putI hs2 rfl
  have n2 : gI s2 80 = cnT σ (gI σ 80) := by rw [hs2, gI_pI, if_neg (by decide), hs1, gI_pI, if_pos rfl]
  have p2 : gI s2 81 = arT σ (gI σ 80) := by rw [hs2, gI_pI, if_pos rfl]
  have ga : gA s2 = gA s := by rw [hs2, hs1]; rfl
  have hd2 : ∀ y, lvT σ y → gA σ 92 y = 1 → mvD σ y s2 := by
    intro y ly hm
    have := hd y ly.1 ly.2 hm
    unfold mvD at this ⊢
    rw [ga]
    exact this
  clear hs1 hs2 hd
  refine lt_moveNodes_L171 (fun k q => 0 ≤ k ∧ k ≤ 65536 ∧ Fr ([], [], [57]) s2 q ∧ ∀ i, 0 ≤ i → i < k → gA q 57 i = -1) (fun k _ => (65536 - k).toNat) ⟨Int.le_refl _, by omega, Fr.rf, fun i i0 i1 => by omega⟩ ?_
  rintro k q fq ⟨k0, k1, g, ht⟩
  try dsimp only
  by_cases hkk : k < 65536
  · rw [if_pos hkk]
    refine ⟨⟨k0, hkk⟩, ?_⟩
    rintro q1 hq1
    rw [w32_id (by omega) (by omega)]
    refine ⟨⟨by omega, by omega, g.putA hq1 rfl, fun i i0 i1 => ?_⟩, by omega⟩
    rw [hq1]; simp only [gI_pI, gI_pL, gI_pA, gL_pI, gL_pL, gL_pA, gA_pI, gA_pL, gA_pA]
    by_cases e : i = k
    · rw [if_pos ⟨trivial, e⟩]
    · rw [if_neg (by omega)]; exact ht i i0 (by omega)
  · rw [if_neg hkk]
    unfold t_moveNodes_j190
    have bnd_ : ∀ x, 0 ≤ x → x < gI s2 80 → 0 ≤ gA s2 50 x ∧ 0 ≤ gA s2 49 x ∧ gA s2 49 x + gA s2 50 x ≤ 800000 := by
      intro x x0 x1
      obtain ⟨y, ly, hm, rfl⟩ := cnT_onto h x0 (by rw [← n2]; exact x1)
      obtain ⟨w1, w2, w3, w4, -⟩ := hd2 y ly hm
      have a1 := arT_lt h ly.1 ly.2 (Int.le_refl _) hm
      have a2 := arT_le h (x := y) ly.1 (by have := ly.2; omega)
      rw [w3, w4]
      exact ⟨(h.at ly).1, a2.1, by omega⟩
    refine lt_moveNodes_L192 (fun x r => 0 ≤ x ∧ x ≤ gI s2 80 ∧ Fr ([], [], [57, 53]) s2 r ∧ Ch 65536 (gA r 57) (gA r 53) (kyT s2) 0 x) (fun x _ => (gI s2 80 - x).toNat) ⟨Int.le_refl _, by omega, g.weak rfl, ⟨fun i i0 i1 => ?_, fun x x0 x1 => by omega⟩⟩ ?_
    · rw [ht i i0 (by omega)]; rfl
    rintro x r fr ⟨x0, x1, g2, hc⟩
    try dsimp only
    rw [g2.i _ rfl]
    by_cases hx : x < gI s2 80
    · rw [if_pos hx, g2.a _ rfl, g2.a _ rfl, g2.a _ rfl]
      obtain ⟨b1, b2, b3⟩ := bnd_ x x0 hx
      refine ⟨⟨x0, by omega⟩, ⟨x0, by omega⟩, ⟨x0, by omega⟩, ?_⟩
      refine ts_hashOf b1 b2 b3 ?_
      rw [g2.a _ rfl]
      show inb (kyT s2 x) 65536 ∧ inb x 200000 ∧ _
      have sr : 0 ≤ kyT s2 x ∧ kyT s2 x < 65536 := sltT_rg _ _
      refine ⟨⟨sr.1, sr.2⟩, ⟨x0, by omega⟩, ?_⟩
      rintro r1 hr1
      refine ⟨⟨sr.1, sr.2⟩, ?_⟩
      rintro r2 hr2
      rw [w32_id (by omega) (by omega)]
      replace hr1 : r1 = pA r 53 x (gA r 57 (kyT s2 x)) := hr1
      replace hr2 : r2 = pA r1 57 (kyT s2 x) x := hr2
      refine ⟨⟨by omega, by omega, (g2.putA hr1 rfl).putA hr2 rfl, ?_⟩, by omega⟩
      refine hc.push x0 sr.1 sr.2 (fun _ _ _ => rfl) (fun y y0 y1 => ?_) ?_ (fun i => ?_)
      · rw [hr2, gA_pA_o _ _ _ (by decide), hr1, gA_pA, if_neg (by omega)]
      · rw [hr2, gA_pA_o _ _ _ (by decide), hr1, gA_pA, if_pos ⟨rfl, rfl⟩]
      · rw [hr2, gA_pA, hr1, gA_pA_o _ _ _ (by decide)]
        by_cases e : i = kyT s2 x
        · rw [if_pos ⟨rfl, e⟩, if_pos e]
        · rw [if_neg (fun z => e z.2), if_neg e]
    · rw [if_neg hx]
      have ex : x = gI s2 80 := by omega
      subst ex
      have fw : Fr wT_moveNodes σ r := (f2.weak rfl).trans (g2.weak rfl)
      have eo : gA r 48 = gA s2 48 := g2.a _ rfl
      have er : gA r 49 = gA s2 49 := g2.a _ rfl
      have et : gA r 50 = gA s2 50 := g2.a _ rfl
      have ea : gA r 56 = gA s2 56 := g2.a _ rfl
      refine ts_moveEnd h hk fw (by rw [g2.i _ rfl]; exact n2) (by rw [g2.i _ rfl]; exact p2) (fun y ly hm => ?_) ?_
      · have := hd2 y ly hm
        unfold mvD at this ⊢
        rw [eo, er, et, ea, g2.a 92 rfl, g2.a 51 rfl, g2.a 52 rfl, g2.a 55 rfl]
        exact this
      · have ek : kyT r = kyT s2 := by funext y; unfold kyT; rw [eo, er, et, ea]
        rw [ek, g2.i _ rfl]
        exact hc

/-! RewriteHouseModel: marked nodes move together; counting -/
def cN (m : Int → Int) : Nat → Int
  | 0 => 0
  | n + 1 => cN m n + (if m (n : Int) = 1 then 1 else 0)
def aN (m c : Int → Int) : Nat → Int
  | 0 => 0
  | n + 1 => aN m c n + (if m (n : Int) = 1 then c (n : Int) else 0)
theorem cN_le (m : Int → Int) (n : Nat) : 0 ≤ cN m n ∧ cN m n ≤ n := by
  induction n with
  | zero => exact ⟨Int.le_refl _, Int.le_refl _⟩
  | succ n ih =>
    simp only [cN]
    by_cases h : m (n : Int) = 1
    · rw [if_pos h]; omega
    · rw [if_neg h]; omega
theorem cN_mono (m : Int → Int) {a b : Nat} (h : a ≤ b) : cN m a ≤ cN m b := by
  induction b with
  | zero => rw [show a = 0 by omega]; exact Int.le_refl _
  | succ b ih =>
    by_cases e : a = b + 1
    · rw [e]; exact Int.le_refl _
    · have := ih (by omega)
      simp only [cN]
      by_cases z : m (b : Int) = 1
      · rw [if_pos z]; omega
      · rw [if_neg z]; omega
theorem cN_lt (m : Int → Int) {a b : Nat} (h : a < b) (k : m (a : Int) = 1) : cN m a + 1 ≤ cN m b := by
  have := cN_mono m (a := a + 1) (b := b) h
  simp only [cN] at this
  rw [if_pos k] at this
  exact this
theorem cN_onto (m : Int → Int) {n : Nat} {z : Int} (z0 : 0 ≤ z) (z1 : z < cN m n) : ∃ y : Nat, y < n ∧ m (y : Int) = 1 ∧ cN m y = z := by
  induction n with
  | zero => simp only [cN] at z1; omega
  | succ n ih =>
    simp only [cN] at z1
    by_cases h : m (n : Int) = 1
    · rw [if_pos h] at z1
      by_cases e : z < cN m n
      · obtain ⟨y, a, b, c⟩ := ih e
        exact ⟨y, by omega, b, c⟩
      · exact ⟨n, by omega, h, by omega⟩
    · rw [if_neg h] at z1
      obtain ⟨y, a, b, c⟩ := ih (by omega)
      exact ⟨y, by omega, b, c⟩
theorem rowI_snoc (f : Int → Int) (n : Nat) : (rowI f 0 (n + 1)).sum = (rowI f 0 n).sum + f n := by
  rw [rowI_app, List.sum_append]
  simp only [rowI, List.sum_cons, List.sum_nil]
  rw [show (0 : Int) + (n : Int) = n by omega]
  omega
theorem aN_le (m c : Int → Int) {n : Nat} (h : ∀ y : Int, 0 ≤ y → y < n → 0 ≤ c y) : 0 ≤ aN m c n ∧ aN m c n ≤ (rowI c 0 n).sum := by
  induction n with
  | zero => exact ⟨Int.le_refl _, Int.le_refl _⟩
  | succ n ih =>
    have i := ih (fun y a b => h y a (by omega))
    have hn := h n (by omega) (by omega)
    rw [rowI_snoc]
    simp only [aN]
    by_cases z : m (n : Int) = 1
    · rw [if_pos z]; omega
    · rw [if_neg z]; omega
theorem aN_mono (m c : Int → Int) {a b : Nat} (h : a ≤ b) (k : ∀ y : Int, 0 ≤ y → y < b → 0 ≤ c y) : aN m c a ≤ aN m c b := by
  induction b with
  | zero => rw [show a = 0 by omega]; exact Int.le_refl _
  | succ b ih =>
    by_cases e : a = b + 1
    · rw [e]; exact Int.le_refl _
    · have := ih (by omega) (fun y y0 y1 => k y y0 (by omega))
      have hb := k b (by omega) (by omega)
      simp only [aN]
      by_cases z : m (b : Int) = 1
      · rw [if_pos z]; omega
      · rw [if_neg z]; omega
theorem aN_lt (m c : Int → Int) {a b : Nat} (h : a < b) (z : m (a : Int) = 1) (k : ∀ y : Int, 0 ≤ y → y < b → 0 ≤ c y) : aN m c a + c a ≤ aN m c b := by
  have := aN_mono m c (a := a + 1) (b := b) h k
  simp only [aN] at this
  rw [if_pos z] at this
  exact this
/-- the number a marked node comes to, and where its row comes to -/
def cnT (σ : S) (y : Int) : Int := cN (gA σ 92) y.toNat
def arT (σ : S) (y : Int) : Int := aN (gA σ 92) (gA σ 50) y.toNat
theorem cnT_le (σ : S) {y : Int} (h : 0 ≤ y) : 0 ≤ cnT σ y ∧ cnT σ y ≤ y := by
  have := cN_le (gA σ 92) y.toNat
  unfold cnT; omega
theorem cnT_lt (σ : S) {y x : Int} (h : 0 ≤ y) (k : y < x) (m : gA σ 92 y = 1) : cnT σ y + 1 ≤ cnT σ x := by
  have ey : ((y.toNat : Nat) : Int) = y := by omega
  exact cN_lt (gA σ 92) (a := y.toNat) (b := x.toNat) (by omega) (by rw [ey]; exact m)
theorem arT_le {M : Mo} {σ : S} (h : TP M σ) {x : Int} (x0 : 0 ≤ x) (x1 : x ≤ gI σ 80) : 0 ≤ arT σ x ∧ arT σ x ≤ (rowI (gA σ 50) 0 x.toNat).sum :=
  aN_le (gA σ 92) (gA σ 50) (n := x.toNat) (fun y a b => (h.at ⟨a, by omega⟩).1)
theorem arT_lt {M : Mo} {σ : S} (h : TP M σ) {y x : Int} (y0 : 0 ≤ y) (k : y < x) (x1 : x ≤ gI σ 80) (m : gA σ 92 y = 1) : arT σ y + gA σ 50 y ≤ arT σ x := by
  have ey : ((y.toNat : Nat) : Int) = y := by omega
  have := aN_lt (gA σ 92) (gA σ 50) (a := y.toNat) (b := x.toNat) (by omega) (by rw [ey]; exact m) (fun z a b => (h.at ⟨a, by omega⟩).1)
  rw [ey] at this
  exact this
theorem cnT_next (σ : S) {x : Int} (h : 0 ≤ x) : cnT σ (x + 1) = cnT σ x + (if gA σ 92 x = 1 then 1 else 0) := by
  have ex : ((x.toNat : Nat) : Int) = x := by omega
  unfold cnT
  rw [show (x + 1).toNat = x.toNat + 1 by omega]
  simp only [cN]
  rw [ex]
theorem arT_next (σ : S) {x : Int} (h : 0 ≤ x) : arT σ (x + 1) = arT σ x + (if gA σ 92 x = 1 then gA σ 50 x else 0) := by
  have ex : ((x.toNat : Nat) : Int) = x := by omega
  unfold arT
  rw [show (x + 1).toNat = x.toNat + 1 by omega]
  simp only [aN]
  rw [ex]
abbrev wMv : List Nat × List Nat × List Nat := ([], [], [48, 49, 50, 51, 52, 55, 56, 92])
def mvD (σ : S) (y : Int) (s : S) : Prop := gA s 92 y = cnT σ y ∧ gA s 48 (cnT σ y) = gA σ 48 y ∧ gA s 49 (cnT σ y) = arT σ y ∧ gA s 50 (cnT σ y) = gA σ 50 y ∧ gA s 51 (cnT σ y) = gA σ 51 y ∧ gA s 52 (cnT σ y) = gA σ 52 y ∧ gA s 55 (cnT σ y) = 0 ∧ ∀ k, 0 ≤ k → k < gA σ 50 y → gA s 56 (arT σ y + k) = cnT σ (gA σ 56 (gA σ 49 y + k))
def mvI (σ : S) (v1 v2 x : Int) (s : S) : Prop := (0 ≤ x ∧ x ≤ gI σ 80) ∧ v1 = cnT σ x ∧ v2 = arT σ x ∧ Fr wMv σ s ∧
  (∀ y, x ≤ y → gA s 92 y = gA σ 92 y ∧ gA s 48 y = gA σ 48 y ∧ gA s 49 y = gA σ 49 y ∧ gA s 50 y = gA σ 50 y ∧ gA s 51 y = gA σ 51 y ∧ gA s 52 y = gA σ 52 y) ∧
  (∀ j, (rowI (gA σ 50) 0 x.toNat).sum ≤ j → gA s 56 j = gA σ 56 j) ∧ ∀ y, 0 ≤ y → y < x → gA σ 92 y = 1 → mvD σ y s
/-- marks stand: what is marked has its parts marked -/
def mkC (σ : S) : Prop := ∀ y, lvT σ y → gA σ 92 y = 1 → ∀ k, 0 ≤ k → k < gA σ 50 y → gA σ 92 (gA σ 56 (gA σ 49 y + k)) = 1
theorem ts_moveLoop {M : Mo} {σ : S} (h : TP M σ) (hk : mkC σ) {Q : Int → S → Prop} (hQ : ∀ s, mvI σ (cnT σ (gI σ 80)) (arT σ (gI σ 80)) (gI σ 80) s → t_moveNodes_j159 (cnT σ (gI σ 80)) (arT σ (gI σ 80)) s Q) : t_moveNodes σ Q := by
  have rg := h.rg
  have c0 : ∀ y : Int, 0 ≤ y → y < gI σ 80 → 0 ≤ gA σ 50 y := fun y a b => (h.at ⟨a, b⟩).1
  unfold t_moveNodes
  refine lt_moveNodes_L6 (mvI σ) (fun _ _ x _ => (gI σ 80 - x).toNat) ⟨⟨by omega, rg.1⟩, rfl, rfl, Fr.rf, fun y _ => ⟨rfl, rfl, rfl, rfl, rfl, rfl⟩, fun j _ => rfl, fun y y0 y1 => by omega⟩ ?_
  rintro v1 v2 x s fr ⟨⟨x0, x1⟩, e1, e2, f, hy, ha, hd⟩
  try dsimp only
  have cl := cnT_le σ x0
  have al := arT_le h x0 x1
  rw [f.i _ rfl]
  by_cases hx : x < gI σ 80
  · rw [if_pos hx]
    have lx : lvT σ x := ⟨x0, hx⟩
    have at_ := h.at lx
    have st := h.st lx
    obtain ⟨y1, y2, y3, y4, y5, y6⟩ := hy x (Int.le_refl _)
    refine ⟨⟨x0, by omega⟩, ?_⟩
    rw [y1]
    have en : x.toNat + 1 = (x + 1).toNat := by omega
    have ex : ((x.toNat : Nat) : Int) = x := by omega
    have cs := cnT_next σ x0
    have as_ := arT_next σ x0
    have rs : (rowI (gA σ 50) 0 (x + 1).toNat).sum = (rowI (gA σ 50) 0 x.toNat).sum + gA σ 50 x := by
      rw [← en, rowI_snoc, ex]
    have wx : w32 (x + 1) = x + 1 := w32_id (by omega) (by omega)
    by_cases hm : gA σ 92 x = 1
    · rw [if_pos hm, y2, y4]
      rw [if_pos hm] at cs as_
      refine ⟨⟨x0, by omega⟩, ⟨x0, by omega⟩, ⟨x0, by omega⟩, ⟨by omega, by omega⟩, ?_⟩
      rintro s1 hs1
      refine ⟨⟨by omega, by omega⟩, ?_⟩
      rintro s2 hs2
      refine ⟨⟨by omega, by omega⟩, ?_⟩
      rintro s3 hs3
      have g3a : gA s3 51 = gA s 51 := by rw [hs3, hs2, hs1]; rfl
      rw [g3a, y5]
      refine ⟨⟨x0, by omega⟩, ⟨by omega, by omega⟩, ?_⟩
      rintro s4 hs4
      have g4a : gA s4 52 = gA s 52 := by rw [hs4, hs3, hs2, hs1]; rfl
      rw [g4a, y6]
      refine ⟨⟨x0, by omega⟩, ⟨by omega, by omega⟩, ?_⟩
      rintro s5 hs5
      refine ⟨⟨by omega, by omega⟩, ?_⟩
      rintro s6 hs6
      rw [y3]
      have f6 : Fr wMv σ s6 := (((((f.putA hs1 rfl).putA hs2 rfl).putA hs3 rfl).putA hs4 rfl).putA hs5 rfl).putA hs6 rfl
      have n6 : gA s6 92 = gA s 92 := by rw [hs6, hs5, hs4, hs3, hs2, hs1]; rfl
      have a6 : gA s6 56 = gA s 56 := by rw [hs6, hs5, hs4, hs3, hs2, hs1]; rfl
      have o6 : ∀ y, gA s6 48 y = if y = v1 then gA σ 48 x else gA s 48 y := by
        intro y
        rw [hs6, hs5, hs4, hs3, hs2, hs1]; simp only [gI_pI, gI_pL, gI_pA, gL_pI, gL_pL, gL_pA, gA_pI, gA_pL, gA_pA]
        by_cases e : y = v1 <;> simp [e]
      have r6 : ∀ y, gA s6 49 y = if y = v1 then v2 else gA s 49 y := by
        intro y
        rw [hs6, hs5, hs4, hs3, hs2, hs1]; simp only [gI_pI, gI_pL, gI_pA, gL_pI, gL_pL, gL_pA, gA_pI, gA_pL, gA_pA]
        by_cases e : y = v1 <;> simp [e]
      have t6 : ∀ y, gA s6 50 y = if y = v1 then gA σ 50 x else gA s 50 y := by
        intro y
        rw [hs6, hs5, hs4, hs3, hs2, hs1]; simp only [gI_pI, gI_pL, gI_pA, gL_pI, gL_pL, gL_pA, gA_pI, gA_pL, gA_pA]
        by_cases e : y = v1 <;> simp [e]
      have z6 : ∀ y, gA s6 51 y = if y = v1 then gA σ 51 x else gA s 51 y := by
        intro y
        rw [hs6, hs5, hs4, hs3, hs2, hs1]; simp only [gI_pI, gI_pL, gI_pA, gL_pI, gL_pL, gL_pA, gA_pI, gA_pL, gA_pA]
        by_cases e : y = v1 <;> simp [e]
      have u6 : ∀ y, gA s6 52 y = if y = v1 then gA σ 52 x else gA s 52 y := by
        intro y
        rw [hs6, hs5, hs4, hs3, hs2, hs1]; simp only [gI_pI, gI_pL, gI_pA, gL_pI, gL_pL, gL_pA, gA_pI, gA_pL, gA_pA]
        by_cases e : y = v1 <;> simp [e]
      have k6 : ∀ y, gA s6 55 y = if y = v1 then 0 else gA s 55 y := by
        intro y
        rw [hs6, hs5, hs4, hs3, hs2, hs1]; simp only [gI_pI, gI_pL, gI_pA, gL_pI, gL_pL, gL_pA, gA_pI, gA_pL, gA_pA]
        by_cases e : y = v1 <;> simp [e]
      clear hs1 hs2 hs3 hs4 hs5 hs6
      refine lt_moveNodes_L101 (fun k q => 0 ≤ k ∧ k ≤ gA σ 50 x ∧ Fr ([], [], [56]) s6 q ∧ (∀ j, j < v2 ∨ v2 + k ≤ j → gA q 56 j = gA s 56 j) ∧ ∀ i, 0 ≤ i → i < k → gA q 56 (v2 + i) = cnT σ (gA σ 56 (gA σ 49 x + i))) (fun k _ => (gA σ 50 x - k).toNat) ⟨Int.le_refl _, at_.1, Fr.rf, fun j _ => by rw [a6], fun i i0 i1 => by omega⟩ ?_
      rintro k q fq ⟨k0, k1, g, hj, hi⟩
      try dsimp only
      by_cases hkk : k < gA σ 50 x
      · rw [if_pos hkk]
        have wa : w32 (gA σ 49 x + k) = gA σ 49 x + k := w32_id (by omega) (by omega)
        have wb : w32 (v2 + k) = v2 + k := w32_id (by omega) (by omega)
        have kd := at_.2.2.2 k k0 hkk
        have eq : gA q 56 (gA σ 49 x + k) = gA σ 56 (gA σ 49 x + k) := by
          rw [hj _ (by omega), ha _ (by omega)]
        rw [wa, wb, eq]
        generalize hkd : gA σ 56 (gA σ 49 x + k) = kd' at kd
        have km : gA σ 92 kd' = 1 := by rw [← hkd]; exact hk x lx hm k k0 hkk
        have kn := (hd kd' kd.1.1 kd.2 km).1
        refine ⟨⟨by omega, by omega⟩, ⟨kd.1.1, by have := kd.1.2; omega⟩, ⟨by omega, by omega⟩, ?_⟩
        rintro q1 hq1
        rw [w32_id (by omega) (by omega)]
        refine ⟨⟨by omega, by omega, g.putA hq1 rfl, fun j hj1 => ?_, fun i i0 i1 => ?_⟩, by omega⟩
        · rw [hq1]; simp only [gI_pI, gI_pL, gI_pA, gL_pI, gL_pL, gL_pA, gA_pI, gA_pL, gA_pA]
          rw [if_neg (by omega)]; exact hj j (by omega)
        · rw [hq1]; simp only [gI_pI, gI_pL, gI_pA, gL_pI, gL_pL, gL_pA, gA_pI, gA_pL, gA_pA]
          by_cases e : i = k
          · rw [if_pos ⟨trivial, by omega⟩, e, hkd, g.a _ rfl, n6, kn]
          · rw [if_neg (by omega)]; exact hi i i0 (by omega)
      · rw [if_neg hkk]
        have ek : k = gA σ 50 x := by omega
        subst ek
        unfold t_moveNodes_j138
        refine ⟨⟨x0, by omega⟩, ?_⟩
        rintro q1 hq1
        unfold t_moveNodes_j153
        rw [w32_id (by omega) (by omega), w32_id (v := v2 + gA σ 50 x) (by omega) (by omega), wx]
        have gq : ∀ a, a ≠ 92 → gA q1 a = gA q a := fun a e => by rw [hq1]; exact gA_pA_o _ _ _ e
        have nq : ∀ y, gA q1 92 y = if y = x then v1 else gA s 92 y := by
          intro y
          rw [hq1, gA_pA, g.a _ rfl, n6]
          by_cases e : y = x
          · rw [if_pos ⟨rfl, e⟩, if_pos e]
          · rw [if_neg (fun z => e z.2), if_neg e]
        have oq : gA q1 48 = gA s6 48 := by rw [gq _ (by decide), g.a _ rfl]
        have rq : gA q1 49 = gA s6 49 := by rw [gq _ (by decide), g.a _ rfl]
        have tq : gA q1 50 = gA s6 50 := by rw [gq _ (by decide), g.a _ rfl]
        have zq : gA q1 51 = gA s6 51 := by rw [gq _ (by decide), g.a _ rfl]
        have uq : gA q1 52 = gA s6 52 := by rw [gq _ (by decide), g.a _ rfl]
        have kq : gA q1 55 = gA s6 55 := by rw [gq _ (by decide), g.a _ rfl]
        have aq : gA q1 56 = gA q 56 := gq _ (by decide)
        have c1 := c0 x x0 hx
        refine ⟨⟨⟨by omega, by omega⟩, by omega, by omega, (f6.trans (g.weak rfl)).putA hq1 rfl, fun y hy1 => ?_, fun j hj1 => ?_, fun y hy0 hy1 hym => ?_⟩, by omega⟩
        · obtain ⟨w1, w2, w3, w4, w5, w6⟩ := hy y (by omega)
          rw [nq, oq, rq, tq, zq, uq, o6, r6, t6, z6, u6, if_neg (by omega), if_neg (by omega), if_neg (by omega), if_neg (by omega), if_neg (by omega), if_neg (by omega)]
          exact ⟨w1, w2, w3, w4, w5, w6⟩
        · rw [rs] at hj1
          rw [aq, hj j (by omega), ha j (by omega)]
        · by_cases e : y = x
          · subst e
            unfold mvD
            rw [nq, oq, rq, tq, zq, uq, kq, o6, r6, t6, z6, u6, k6, if_pos rfl, ← e1, if_pos rfl, if_pos rfl, if_pos rfl, if_pos rfl, if_pos rfl, if_pos rfl]
            refine ⟨rfl, rfl, e2, rfl, rfl, rfl, rfl, fun i i0 i1 => ?_⟩
            rw [aq, ← e2]
            exact hi i i0 i1
          · have hyx : y < x := by omega
            obtain ⟨w1, w2, w3, w4, w5, w6, w7, w8⟩ := hd y hy0 hyx hym
            have cl2 := cnT_lt σ hy0 hyx hym
            have al2 := arT_lt h hy0 hyx (by omega) hym
            have ne : ¬ cnT σ y = v1 := by omega
            unfold mvD
            rw [nq, oq, rq, tq, zq, uq, kq, o6, r6, t6, z6, u6, k6, if_neg e, if_neg ne, if_neg ne, if_neg ne, if_neg ne, if_neg ne, if_neg ne]
            refine ⟨w1, w2, w3, w4, w5, w6, w7, fun i i0 i1 => ?_⟩
            rw [aq, hj _ (Or.inl (by omega))]
            exact w8 i i0 i1
    · rw [if_neg hm]
      rw [if_neg hm] at cs as_
      unfold t_moveNodes_j153
      rw [wx]
      refine ⟨⟨⟨by omega, by omega⟩, by omega, by omega, f, fun y hy1 => hy y (by omega), fun j hj1 => ha j (by have := c0 x x0 hx; omega), fun y hy0 hy1 hym => hd y hy0 ?_ hym⟩, by omega⟩
      by_cases e : y = x
      · rw [e] at hym; exact absurd hym hm
      · omega
  · rw [if_neg hx]
    have ex : x = gI σ 80 := by omega
    subst ex
    subst e1 e2
    exact hQ s ⟨⟨x0, x1⟩, rfl, rfl, f, hy, ha, hd⟩

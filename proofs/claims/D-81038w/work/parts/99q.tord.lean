/-! RewriteHouseModel: matchers in order -/
def oT (τ : S) (x : Int) : Tr := if x < 0 then .nil else tT τ x
abbrev olT (τ : S) (x : Int) : Prop := x = -1 ∨ lvT τ x
theorem olT_lv {τ : S} {x : Int} (h : olT τ x) (hn : ¬ x < 0) : lvT τ x := h.resolve_left (fun z => hn (by omega))
theorem oT_0 {τ : S} {x : Int} (h : x < 0) : oT τ x = .nil := if_pos h
theorem oT_n {τ : S} {x : Int} (h : lvT τ x) : oT τ x = tT τ x := if_neg (by have := h.1; omega)
theorem lvT_b {M : Mo} {τ : S} (h : TP M τ) {x : Int} (hx : lvT τ x) : 0 ≤ x ∧ x < 200000 := by
  have := h.rg; have := hx.1; have := hx.2; omega
theorem rstL_T {M : Mo} {σ : S} (h : TP M σ) {o x : Int} (hx : lvT σ x) : rstL o (tT σ x) = if gA σ 48 x = o then (rowI (gA σ 56) (gA σ 49 x) (gA σ 50 x).toNat).map (tT σ) else [tT σ x] := by
  conv => lhs; rw [tT_row h hx]
  simp only [rstL, trN]
  split
  · rw [trK_trL]
  · rw [tT_row h hx]; rfl
theorem rstN_T {M : Mo} {σ : S} (h : TP M σ) {o x : Int} (hx : olT σ x) : (if x < 0 then 0 else if gA σ 48 x = o then gA σ 50 x else 1) = ((rstL o (oT σ x)).length : Int) := by
  rcases hx with hx | hx
  · have z' : x < 0 := by omega
    rw [if_pos z', oT_0 z']; rfl
  · have ax := (h.at hx).1
    rw [if_neg (by have := hx.1; omega), oT_n hx, rstL_T h hx]
    by_cases e : gA σ 48 x = o
    · rw [if_pos e, if_pos e, List.length_map, rowI_len]; omega
    · rw [if_neg e, if_neg e]; rfl
theorem ts_element {M : Mo} {σ : S} (h : TP M σ) {o x k : Int} {Q : Int → S → Prop} (hx : lvT σ x) (k0 : 0 ≤ k) (k1 : k < (rstL o (tT σ x)).length) (hQ : ∀ e, lvT σ e → (rstL o (tT σ x))[k.toNat]? = some (tT σ e) → Q e σ) : t_element o x k σ Q := by
  have ax := h.at hx
  unfold t_element
  rw [rstL_T h hx] at k1 hQ
  refine ⟨lvT_b h hx, ?_⟩
  by_cases e : gA σ 48 x = o
  · rw [if_pos e]
    rw [if_pos e] at k1 hQ
    rw [List.length_map, rowI_len] at k1
    refine ts_arg h hx k0 (by omega) ?_
    refine hQ _ (ax.2.2.2 k k0 (by omega)).1 ?_
    rw [List.getElem?_map, rowI_get _ _ (by omega), show ((k.toNat : Nat) : Int) = k by omega]; rfl
  · rw [if_neg e]
    rw [if_neg e] at k1 hQ
    simp only [List.length_cons, List.length_nil] at k1
    refine hQ x hx ?_
    rw [show k.toNat = 0 by omega]; rfl
theorem rstL_lenT {M : Mo} {σ : S} (h : TP M σ) {o x : Int} (hx : lvT σ x) : ((rstL o (tT σ x)).length : Int) ≤ 800000 := by
  have ax := h.at hx
  have rg := h.rg
  rw [rstL_T h hx]
  split
  · rw [List.length_map, rowI_len]; omega
  · simp
theorem ts_orderBeside {M : Mo} {σ : S} (h : TP M σ) {o x y : Int} {Q : Int → S → Prop} (ho : gI σ 116 = o) (hx : olT σ x) (hy : olT σ y) (ox : okR o (oT σ x)) (oy : okR o (oT σ y)) (hQ : Q (cmL (keyR o (oT σ x)) (keyR o (oT σ y))) σ) : t_orderBeside x y σ Q := by
  rw [keyR_cm] at hQ
  unfold t_orderBeside
  rw [ho, rstN_T h hx, rstN_T h hy]
  refine ⟨fun z => lvT_b h (olT_lv hx z), fun z _ => lvT_b h (olT_lv hx z), fun z => lvT_b h (olT_lv hy z), fun z _ => lvT_b h (olT_lv hy z), ?_⟩
  by_cases hl : ((rstL o (oT σ x)).length : Int) = ((rstL o (oT σ y)).length : Int)
  · rw [if_pos hl]
    rw [if_neg (by omega), if_neg (by omega)] at hQ
    refine lt_orderBeside_L86 (fun k s => s = σ ∧ 0 ≤ k ∧ k ≤ (rstL o (oT σ x)).length ∧ cmK ((rstL o (oT σ x)).drop k.toNat) ((rstL o (oT σ y)).drop k.toNat) = cmK (rstL o (oT σ x)) (rstL o (oT σ y))) (fun k _ => ((rstL o (oT σ x)).length - k).toNat) ⟨rfl, by omega, by omega, by simp⟩ ?_
    rintro k q fr ⟨rfl, k0, k1, hc⟩
    try dsimp only
    by_cases hk : k < ((rstL o (oT q x)).length : Int)
    · rw [if_pos hk]
      have nx : lvT q x := by
        rcases hx with z | z
        · have z' : x < 0 := by omega
          rw [oT_0 z'] at hk; simp [rstL] at hk; omega
        · exact z
      have ny : lvT q y := by
        rcases hy with z | z
        · have z' : y < 0 := by omega
          rw [hl, oT_0 z'] at hk; simp [rstL] at hk; omega
        · exact z
      rw [oT_n nx, oT_n ny] at hc hl hQ
      rw [oT_n nx] at hk
      rw [oT_n nx] at ox
      rw [oT_n ny] at oy
      have lx := rstL_lenT h (o := o) nx
      rw [ho]
      refine ts_element h nx k0 hk (fun a la ea => ?_)
      rw [ho]
      refine ts_element h ny k0 (by omega) (fun b lb eb => ts_orderOf h la lb ?_)
      rw [cmK_drop (rstL_ok ox) (rstL_ok oy) ea eb] at hc
      by_cases hz : cmT (tT q a) (tT q b) = 0
      · rw [if_pos hz, w32_id (by omega) (by omega)]
        rw [if_pos hz] at hc
        rw [oT_n nx, oT_n ny]
        refine ⟨⟨rfl, by omega, by omega, ?_⟩, by omega⟩
        rw [show (k + 1).toNat = k.toNat + 1 by omega]
        exact hc
      · rw [if_neg hz]
        rw [if_neg hz] at hc
        rw [hc]
        exact hQ
    · rw [if_neg hk]
      rw [List.drop_of_length_le (by omega), List.drop_of_length_le (by omega), cmK_nil] at hc
      rw [← hc] at hQ
      exact hQ
  · rw [if_neg hl]
    by_cases hlt : (rstL o (oT σ x)).length < (rstL o (oT σ y)).length
    · rw [if_pos hlt] at hQ
      rw [if_pos (by omega)]
      exact hQ
    · rw [if_neg hlt, if_pos (by omega)] at hQ
      rw [if_neg (by omega)]
      exact hQ
/-- the matcher that lies from a cell of the store on -/
def eT (σ : S) (a : Int) : Env := fun v => if 0 ≤ v ∧ v < 62 then oT σ (gA σ 79 (a + v)) else .nil
def rwT (o : Int) (σ : S) (a : Int) : Prop := (∀ k, 0 ≤ k → k < 62 → olT σ (gA σ 79 (a + k))) ∧ okE o (eT σ a)
theorem eT_at {σ : S} {a k : Int} (h0 : 0 ≤ k) (h1 : k < 62) : eT σ a k = oT σ (gA σ 79 (a + k)) := if_pos ⟨h0, h1⟩
def bT (σ : S) : Env := fun v => if 0 ≤ v ∧ v < 60 then oT σ (gA σ 78 v) else if v = 60 then oT σ (gI σ 117) else if v = 61 then oT σ (gI σ 118) else .nil
theorem ts_orderTo {M : Mo} {σ : S} (h : TP M σ) {o i : Int} {Q : Int → S → Prop} (ho : gI σ 116 = o) (hi : 0 ≤ i) (hi1 : i ≤ 200) (hf : 0 ≤ gI σ 114) (hf1 : gI σ 114 + 64 * i + 64 ≤ 460000) (hb : ∀ v, 0 ≤ v → v < 60 → olT σ (gA σ 78 v)) (ha : olT σ (gI σ 117)) (hh : olT σ (gI σ 118)) (hok : okE o (bT σ)) (rj : rwT o σ (gI σ 114 + 64 * i)) (sd : sdE (bT σ) (eT σ (gI σ 114 + 64 * i))) (hQ : Q (cmE o (bT σ) (eT σ (gI σ 114 + 64 * i))) σ) : t_orderTo i σ Q := by
  unfold t_orderTo
  have w0 : w32 (gI σ 114 + w32 (64 * i)) = gI σ 114 + 64 * i := by simp (disch := omega) only [w32_id]
  rw [w0]
  generalize hA : gI σ 114 + 64 * i = A at *
  have bat : ∀ v, 0 ≤ v → v < 60 → bT σ v = oT σ (gA σ 78 v) := fun v v0 v1 => if_pos ⟨v0, v1⟩
  refine lt_orderTo_L12 (fun k s => s = σ ∧ 0 ≤ k ∧ k ≤ 60 ∧ ∀ v, 0 ≤ v → v < k → bT σ v = eT σ A v) (fun k _ => (60 - k).toNat) ⟨rfl, by omega, by omega, fun v h0 h1 => by omega⟩ ?_
  rintro k q fr ⟨rfl, k0, k1, he⟩
  try dsimp only
  have next : k < 60 → bT q k = eT q A k → t_orderTo_j55 A k q Q (fun v3' s' => (s' = q ∧ 0 ≤ v3' ∧ v3' ≤ 60 ∧ ∀ v, 0 ≤ v → v < v3' → bT q v = eT q A v) ∧ (60 - v3').toNat < (60 - k).toNat) := by
    intro hk e
    unfold t_orderTo_j55
    rw [w32_id (by omega) (by omega)]
    refine ⟨⟨rfl, by omega, by omega, fun v v0 v1 => ?_⟩, by omega⟩
    by_cases z : v = k
    · rw [z]; exact e
    · exact he v v0 (by omega)
  by_cases hk : k < 60
  · rw [if_pos hk]
    refine ⟨⟨k0, hk⟩, ?_⟩
    have ex := bat k k0 hk
    have ey : eT q A k = oT q (gA q 79 (A + k)) := eT_at k0 (by omega)
    have sk := sd k k0 hk
    by_cases hneg : gA q 78 k < 0
    · rw [if_pos hneg]
      refine next hk ?_
      have e1 : bT q k = .nil := by rw [ex, oT_0 hneg]
      rw [e1, sk.mp e1]
    · rw [if_neg hneg]
      have nx : lvT q (gA q 78 k) := olT_lv (hb k k0 hk) hneg
      have ny : lvT q (gA q 79 (A + k)) := by
        rcases rj.1 k k0 (by omega) with z | z
        · exfalso
          have z' : gA q 79 (A + k) < 0 := by omega
          have e1 : eT q A k = .nil := by rw [ey, oT_0 z']
          have e2 := sk.mpr e1
          rw [ex, oT_n nx] at e2
          exact isT_ne_nil (h.T nx) e2
        · exact z
      rw [oT_n nx] at ex
      rw [oT_n ny] at ey
      have w1 : w32 (A + k) = A + k := w32_id (by omega) (by omega)
      rw [w1]
      refine ⟨⟨k0, hk⟩, ⟨by omega, by omega⟩, ?_⟩
      refine ts_orderOf h nx ny ?_
      by_cases hz : cmT (tT q (gA q 78 k)) (tT q (gA q 79 (A + k))) = 0
      · rw [if_pos hz]
        exact next hk (by rw [ex, ey]; exact cmT_eq (h.T nx) (h.T ny) hz)
      · rw [if_neg hz]
        have hzk : (((k.toNat : Nat)) : Int) = k := by omega
        have hc := cmE_at (o := o) (ρ := bT q) (ρ' := eT q A) (k := k.toNat) (by omega) (fun v v0 v1 => he v v0 (by omega)) (by rw [hzk, ex]; exact h.T nx) (by rw [hzk, ey]; exact h.T ny) (by rw [hzk, ex, ey]; intro z; rw [z, cmT_rf] at hz; exact hz rfl)
        rw [hzk, ex, ey] at hc
        rw [hc] at hQ
        exact hQ
  · rw [if_neg hk]
    have he60 : ∀ v, 0 ≤ v → v < 60 → bT q v = eT q A v := fun v v0 v1 => he v v0 (by omega)
    have hc := cmE_60 he60 hok.2.1 rj.2.2.1
    have e60 : bT q 60 = oT q (gI q 117) := rfl
    have e61 : bT q 61 = oT q (gI q 118) := rfl
    have f60 : eT q A 60 = oT q (gA q 79 (A + 60)) := eT_at (by omega) (by omega)
    have f61 : eT q A 61 = oT q (gA q 79 (A + 61)) := eT_at (by omega) (by omega)
    have o60 := hok.2.1
    have o61 := hok.2.2.1
    have p60 := rj.2.2.1
    have p61 := rj.2.2.2.1
    rw [e60, e61, f60, f61] at hc
    rw [e60] at o60
    rw [e61] at o61
    rw [f60] at p60
    rw [f61] at p61
    unfold t_orderTo_j61
    have w1 : w32 (A + 60) = A + 60 := w32_id (by omega) (by omega)
    have w2 : w32 (A + 61) = A + 61 := w32_id (by omega) (by omega)
    rw [w1, w2]
    refine ⟨⟨by omega, by omega⟩, ?_⟩
    refine ts_orderBeside h ho ha (rj.1 60 (by omega) (by omega)) o60 p60 ?_
    by_cases hz : cmL (keyR o (oT q (gI q 117))) (keyR o (oT q (gA q 79 (A + 60)))) = 0
    · rw [if_pos hz]
      rw [if_pos hz] at hc
      refine ⟨⟨by omega, by omega⟩, ?_⟩
      refine ts_orderBeside h ho hh (rj.1 61 (by omega) (by omega)) o61 p61 ?_
      rw [← hc]; exact hQ
    · rw [if_neg hz]
      rw [if_neg hz] at hc
      rw [← hc]; exact hQ

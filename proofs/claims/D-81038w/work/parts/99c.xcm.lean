/-! comparing matchers place by place -/
theorem keyV_congr {ρ ρ' : Env} : ∀ n : Nat, (∀ v : Int, 0 ≤ v → v < n → ρ v = ρ' v) → keyV ρ n = keyV ρ' n := by
  intro n
  induction n with
  | zero => intro _; rfl
  | succ n ih =>
    intro h
    simp only [keyV]
    rw [ih (fun v h0 h1 => h v h0 (by omega)), h n (by omega) (by omega)]
theorem keyV_split (ρ : Env) {k : Nat} : ∀ n : Nat, k ≤ n → ∃ X, keyV ρ n = keyV ρ k ++ X := by
  intro n
  induction n with
  | zero => intro h; exact ⟨[], by rw [show k = 0 by omega]; simp⟩
  | succ n ih =>
    intro h
    by_cases e : k = n + 1
    · exact ⟨[], by rw [e]; simp⟩
    · obtain ⟨X, hX⟩ := ih (by omega)
      exact ⟨X ++ ser (ρ n), by simp only [keyV]; rw [hX, List.append_assoc]⟩
theorem cmE_at {o : Int} {ρ ρ' : Env} {k : Nat} (hk : k < 60) (he : ∀ v : Int, 0 ≤ v → v < k → ρ v = ρ' v) (h1 : isT (ρ k)) (h2 : isT (ρ' k)) (hne : ρ k ≠ ρ' k) : cmE o ρ ρ' = cmT (ρ k) (ρ' k) := by
  obtain ⟨X, hX⟩ := keyV_split ρ (k := k + 1) 60 (by omega)
  obtain ⟨Y, hY⟩ := keyV_split ρ' (k := k + 1) 60 (by omega)
  unfold cmE keyE
  rw [hX, hY]
  simp only [keyV]
  rw [keyV_congr k he]
  simp only [List.append_assoc]
  rw [cmL_same, cmL_seq (nph_ser h1 h2)]
  rw [if_neg (fun z => hne (ser_inj h1 h2 (cmL_eq z)))]
  rfl
theorem cmE_60 {o : Int} {ρ ρ' : Env} (he : ∀ v : Int, 0 ≤ v → v < 60 → ρ v = ρ' v) (h1 : okR o (ρ 60)) (h2 : okR o (ρ' 60)) : cmE o ρ ρ' = if cmL (keyR o (ρ 60)) (keyR o (ρ' 60)) = 0 then cmL (keyR o (ρ 61)) (keyR o (ρ' 61)) else cmL (keyR o (ρ 60)) (keyR o (ρ' 60)) := by
  unfold cmE keyE
  rw [keyV_congr 60 he, cmL_same, cmL_seq (nph_keyR h1 h2)]
theorem keyR_cm {o : Int} {t u : Tr} : cmL (keyR o t) (keyR o u) = if (rstL o t).length < (rstL o u).length then -1 else if (rstL o u).length < (rstL o t).length then 1 else cmK (rstL o t) (rstL o u) := by
  unfold keyR cmK
  simp only [cmL]
  by_cases h1 : (rstL o t).length < (rstL o u).length
  · rw [if_pos (by omega), if_pos h1]
  · rw [if_neg (by omega), if_neg h1]
    by_cases h2 : (rstL o u).length < (rstL o t).length
    · rw [if_pos (by omega), if_pos h2]
    · rw [if_neg (by omega), if_neg h2]
/-- a node or none -/
def oX (σ : S) (x : Int) : Tr := if x = 0 then .nil else tX σ x
abbrev olX (σ : S) (x : Int) : Prop := x = 0 ∨ lvX σ x
theorem oX_0 (σ : S) : oX σ 0 = .nil := if_pos rfl
theorem oX_n {σ : S} {x : Int} (h : lvX σ x) : oX σ x = tX σ x := if_neg (by have := h.1; omega)
theorem oX_inj {M : Mo} {σ : S} (h : XP M σ) {x y : Int} (hx : olX σ x) (hy : olX σ y) (e : oX σ x = oX σ y) : x = y := by
  rcases hx with rfl | hx <;> rcases hy with rfl | hy
  · rfl
  · rw [oX_0, oX_n hy] at e; exact absurd e.symm (isT_ne_nil (h.T hy))
  · rw [oX_0, oX_n hx] at e; exact absurd e (isT_ne_nil (h.T hx))
  · rw [oX_n hx, oX_n hy] at e; exact h.inj hx hy e
theorem rstL_X {M : Mo} {σ : S} (h : XP M σ) {o x : Int} (hx : lvX σ x) : rstL o (tX σ x) = if gA σ 66 x = o then (rowI (gA σ 73) (gA σ 67 x) (gA σ 68 x).toNat).map (tX σ) else [tX σ x] := by
  conv => lhs; rw [tX_row h hx]
  simp only [rstL, trN]
  split
  · rw [trK_trL]
  · rw [tX_row h hx]; rfl
theorem xs_restMany {M : Mo} {σ : S} (h : XP M σ) {o x : Int} {Q : Int → S → Prop} (ho : gI σ 127 = o) (hx : olX σ x) (hQ : Q ((rstL o (oX σ x)).length : Int) σ) : x_restMany x σ Q := by
  have rg := h.rg
  unfold x_restMany
  rw [ho]
  rcases hx with rfl | hx
  · refine ⟨fun z => absurd rfl z, fun z => absurd rfl z, ?_⟩
    rw [if_pos rfl]
    rw [oX_0] at hQ
    exact hQ
  · have bx : 0 ≤ x ∧ x < 200000 := by have := hx.1; have := hx.2; omega
    refine ⟨fun _ => bx, fun _ _ => bx, ?_⟩
    rw [if_neg (by have := hx.1; omega)]
    rw [oX_n hx, rstL_X h hx] at hQ
    have ax := h.at hx
    by_cases e : gA σ 66 x = o
    · rw [if_pos e]
      rw [if_pos e, List.length_map, rowI_len, show (((gA σ 68 x).toNat : Nat) : Int) = gA σ 68 x by omega] at hQ
      exact hQ
    · rw [if_neg e]
      rw [if_neg e] at hQ
      exact hQ
theorem xs_restAt {M : Mo} {σ : S} (h : XP M σ) {o x k : Int} {Q : Int → S → Prop} (ho : gI σ 127 = o) (hx : lvX σ x) (k0 : 0 ≤ k) (k1 : k < (rstL o (tX σ x)).length) (hQ : ∀ e, lvX σ e → (rstL o (tX σ x))[k.toNat]? = some (tX σ e) → Q e σ) : x_restAt x k σ Q := by
  have rg := h.rg
  have ax := h.at hx
  unfold x_restAt
  rw [ho]
  rw [rstL_X h hx] at k1 hQ
  refine ⟨by have := hx.1; have := hx.2; omega, ?_⟩
  by_cases e : gA σ 66 x = o
  · rw [if_pos e]
    rw [if_pos e] at k1 hQ
    rw [List.length_map, rowI_len] at k1
    refine xs_at h hx k0 (by omega) ?_
    refine hQ _ (ax.2.2.2.2 k k0 (by omega)).1 ?_
    rw [List.getElem?_map, rowI_get _ _ (by omega), show ((k.toNat : Nat) : Int) = k by omega]; rfl
  · rw [if_neg e]
    rw [if_neg e] at k1 hQ
    simp only [List.length_cons, List.length_nil] at k1
    refine hQ x hx ?_
    rw [show k.toNat = 0 by omega]; rfl
theorem cmK_drop {ts us : List Tr} (ht : ∀ t ∈ ts, isT t) (hu : ∀ t ∈ us, isT t) {k : Nat} {a b : Tr} (ha : ts[k]? = some a) (hb : us[k]? = some b) : cmK (ts.drop k) (us.drop k) = if cmT a b = 0 then cmK (ts.drop (k + 1)) (us.drop (k + 1)) else cmT a b := by
  obtain ⟨h1, e1⟩ := List.getElem?_eq_some_iff.mp ha
  obtain ⟨h2, e2⟩ := List.getElem?_eq_some_iff.mp hb
  rw [List.drop_eq_getElem_cons h1, List.drop_eq_getElem_cons h2, e1, e2]
  exact cmK_cons _ _ (ht a (List.mem_of_getElem? ha)) (hu b (List.mem_of_getElem? hb))
theorem xs_compareRest {M : Mo} {σ : S} (h : XP M σ) {o x y : Int} {Q : Int → S → Prop} (ho : gI σ 127 = o) (hx : olX σ x) (hy : olX σ y) (ox : okR o (oX σ x)) (oy : okR o (oX σ y)) (hQ : Q (cmL (keyR o (oX σ x)) (keyR o (oX σ y))) σ) : x_compareRest x y σ Q := by
  rw [keyR_cm] at hQ
  unfold x_compareRest
  refine xs_restMany h ho hx (xs_restMany h ho hy ?_)
  by_cases hl : ((rstL o (oX σ x)).length : Int) = ((rstL o (oX σ y)).length : Int)
  · rw [if_pos hl]
    rw [if_neg (by omega), if_neg (by omega)] at hQ
    refine lx_compareRest_L33 (fun k s => s = σ ∧ 0 ≤ k ∧ k ≤ (rstL o (oX σ x)).length ∧ cmK ((rstL o (oX σ x)).drop k.toNat) ((rstL o (oX σ y)).drop k.toNat) = cmK (rstL o (oX σ x)) (rstL o (oX σ y))) (fun k _ => ((rstL o (oX σ x)).length - k).toNat) ⟨rfl, by omega, by omega, by simp⟩ ?_
    rintro k q fr ⟨rfl, k0, k1, hc⟩
    try dsimp only
    by_cases hk : k < ((rstL o (oX q x)).length : Int)
    · rw [if_pos hk]
      have nx : lvX q x := by
        rcases hx with rfl | hx
        · rw [oX_0] at hk; simp [rstL] at hk; omega
        · exact hx
      have ny : lvX q y := by
        rcases hy with rfl | hy
        · rw [hl, oX_0] at hk; simp [rstL] at hk; omega
        · exact hy
      rw [oX_n nx, oX_n ny] at hc hl hQ
      rw [oX_n nx] at hk
      rw [oX_n nx] at ox
      rw [oX_n ny] at oy
      refine xs_restAt h ho nx k0 hk (fun a la ea => xs_restAt h ho ny k0 (by omega) (fun b lb eb => xs_compare h la lb ?_))
      rw [cmK_drop (rstL_ok ox) (rstL_ok oy) ea eb] at hc
      by_cases hz : cmT (tX q a) (tX q b) = 0
      · rw [if_pos hz, w32_id (by have := h.at nx; have := hk; rw [rstL_X h nx] at this; split at this <;> simp [rowI_len] at this <;> omega) (by have := h.at nx; have := hk; rw [rstL_X h nx] at this; split at this <;> simp [rowI_len] at this <;> omega)]
        rw [if_pos hz] at hc
        rw [oX_n nx, oX_n ny]
        refine ⟨⟨rfl, by omega, by omega, ?_⟩, by omega⟩
        rw [show (k + 1).toNat = k.toNat + 1 by omega]
        exact hc
      · rw [if_neg hz]
        rw [if_neg hz] at hc
        rw [hc]
        exact hQ
    · rw [if_neg hk]
      rw [List.drop_of_length_le (by omega), List.drop_of_length_le (by omega), cmK_nil] at hc
      rw [← hc] at hQ
      exact hQ
  · rw [if_neg hl]
    refine xs_restMany h ho hy ?_
    by_cases hlt : (rstL o (oX σ x)).length < (rstL o (oX σ y)).length
    · rw [if_pos hlt] at hQ
      rw [if_pos (by omega)]
      exact hQ
    · rw [if_neg hlt, if_pos (by omega)] at hQ
      rw [if_neg (by omega)]
      exact hQ
/-- the matcher that lies in a row of the list -/
def eX (σ : S) (row : Int) : Env := fun v => if 0 ≤ v ∧ v < 62 then oX σ (gA σ 86 (62 * row + v)) else .nil
def rwX (o : Int) (σ : S) (row : Int) : Prop := (∀ k, 0 ≤ k → k < 62 → olX σ (gA σ 86 (62 * row + k))) ∧ okE o (eX σ row)
theorem eX_at {σ : S} {row k : Int} (h0 : 0 ≤ k) (h1 : k < 62) : eX σ row k = oX σ (gA σ 86 (62 * row + k)) := if_pos ⟨h0, h1⟩
theorem xs_compareMatchers {M : Mo} {σ : S} (h : XP M σ) {o i j : Int} {Q : Int → S → Prop} (ho : gI σ 127 = o) (hi : 0 ≤ i) (hi1 : i < 6600) (hj : 0 ≤ j) (hj1 : j < 6600) (ri : rwX o σ i) (rj : rwX o σ j) (sd : sdE (eX σ i) (eX σ j)) (hQ : Q (cmE o (eX σ i) (eX σ j)) σ) : x_compareMatchers i j σ Q := by
  unfold x_compareMatchers
  refine lx_compareMatchers_L2 (fun k s => s = σ ∧ 0 ≤ k ∧ k ≤ 62 ∧ ∀ v, 0 ≤ v → v < k → eX σ i v = eX σ j v) (fun k _ => (62 - k).toNat) ⟨rfl, by omega, by omega, fun v h0 h1 => by omega⟩ ?_
  rintro k q fr ⟨rfl, k0, k1, he⟩
  try dsimp only
  by_cases hk : k < 62
  · rw [if_pos hk]
    have w1 : w32 (w32 (62 * i) + k) = 62 * i + k := by simp (disch := omega) only [w32_id]
    have w2 : w32 (w32 (62 * j) + k) = 62 * j + k := by simp (disch := omega) only [w32_id]
    rw [w1, w2]
    refine ⟨by omega, by omega, ?_⟩
    have next : eX q i k = eX q j k → x_compareMatchers_j70 i j k 0 q Q (fun v3' s' => (s' = q ∧ 0 ≤ v3' ∧ v3' ≤ 62 ∧ ∀ v, 0 ≤ v → v < v3' → eX q i v = eX q j v) ∧ (62 - v3').toNat < (62 - k).toNat) := by
      intro e
      unfold x_compareMatchers_j70
      rw [if_pos rfl, w32_id (by omega) (by omega)]
      refine ⟨⟨rfl, by omega, by omega, fun v v0 v1 => ?_⟩, by omega⟩
      by_cases z : v = k
      · rw [z]; exact e
      · exact he v v0 (by omega)
    have lx := ri.1 k k0 hk
    have ly := rj.1 k k0 hk
    have ex : eX q i k = oX q (gA q 86 (62 * i + k)) := eX_at k0 hk
    have ey : eX q j k = oX q (gA q 86 (62 * j + k)) := eX_at k0 hk
    by_cases heq : gA q 86 (62 * i + k) = gA q 86 (62 * j + k)
    · rw [if_pos heq]
      exact next (by rw [ex, ey, heq])
    · rw [if_neg heq]
      have hne : eX q i k ≠ eX q j k := fun z => heq (oX_inj h lx ly (by rw [← ex, ← ey]; exact z))
      have hz : (((k.toNat : Nat)) : Int) = k := by omega
      by_cases h60 : k < 60
      · rw [if_pos h60]
        have sk := sd k k0 h60
        have nx : lvX q (gA q 86 (62 * i + k)) := by
          rcases lx with z | z
          · exfalso
            have e1 : eX q i k = .nil := by rw [ex, z, oX_0]
            exact hne (by rw [e1, sk.mp e1])
          · exact z
        have ny : lvX q (gA q 86 (62 * j + k)) := by
          rcases ly with z | z
          · exfalso
            have e1 : eX q j k = .nil := by rw [ey, z, oX_0]
            exact hne (by rw [e1, sk.mpr e1])
          · exact z
        rw [oX_n nx] at ex
        rw [oX_n ny] at ey
        refine xs_compare h nx ny ?_
        have hc := cmE_at (o := o) (ρ := eX q i) (ρ' := eX q j) (k := k.toNat) (by omega) (fun v v0 v1 => he v v0 (by omega)) (by rw [hz, ex]; exact h.T nx) (by rw [hz, ey]; exact h.T ny) (by rw [hz]; exact hne)
        rw [hz, ex, ey] at hc
        rw [hc] at hQ
        unfold x_compareMatchers_j70
        rw [if_neg (fun z => hne (by rw [ex, ey]; exact cmT_eq (h.T nx) (h.T ny) z))]
        exact hQ
      · rw [if_neg h60]
        have he60 : ∀ v, 0 ≤ v → v < 60 → eX q i v = eX q j v := fun v v0 v1 => he v v0 (by omega)
        have hc := cmE_60 he60 ri.2.2.1 rj.2.2.1
        have hk2 : k = 60 ∨ k = 61 := by omega
        have okx : okR o (eX q i k) := by
          rcases hk2 with e | e <;> rw [e]
          · exact ri.2.2.1
          · exact ri.2.2.2.1
        have oky : okR o (eX q j k) := by
          rcases hk2 with e | e <;> rw [e]
          · exact rj.2.2.1
          · exact rj.2.2.2.1
        rw [ex] at okx
        rw [ey] at oky
        refine xs_compareRest h ho lx ly okx oky ?_
        rw [← ex, ← ey]
        rw [← ex] at okx
        rw [← ey] at oky
        have hnz : ¬ cmL (keyR o (eX q i k)) (keyR o (eX q j k)) = 0 := fun z => hne (keyR_inj okx oky (cmL_eq z))
        unfold x_compareMatchers_j70
        rw [if_neg hnz]
        rcases hk2 with e | e
        · rw [e] at hnz ⊢
          rw [if_neg hnz] at hc
          rw [hc] at hQ
          exact hQ
        · have e60 : eX q i 60 = eX q j 60 := he 60 (by omega) (by omega)
          rw [e60, cmL_rf, if_pos rfl] at hc
          rw [e]
          rw [hc] at hQ
          exact hQ
  · rw [if_neg hk]
    have : eX q i = eX q j := by
      funext v
      by_cases hv : 0 ≤ v ∧ v < 62
      · exact he v hv.1 (by omega)
      · rw [ri.2.2.2.2 v (by omega), rj.2.2.2.2 v (by omega)]
    rw [this, cmE_rf] at hQ
    exact hQ

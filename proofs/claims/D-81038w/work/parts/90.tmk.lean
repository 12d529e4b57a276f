/-! RewriteHouseModel: ORDER, rows -/
theorem ts_orderOfS {M : Mo} {σ : S} (h : TP M σ) : ∀ (n : Nat) (x y : Int) (Q : Int → S → Prop) (E : S → Prop), trD (tT σ x) ≤ n → lvT σ x → lvT σ y → Q (cmT (tT σ x) (tT σ y)) σ → t_S_orderOf n 0 [x, y] σ Q E := by
  intro n
  induction n with
  | zero =>
    intro x y Q E hn hx
    exfalso
    rw [tT_row h hx] at hn
    simp only [trN, trD] at hn
    omega
  | succ n ih =>
    intro x y Q E hn hx hy hQ
    have rg := h.rg
    have ax := h.at hx
    have ay := h.at hy
    have nx := (h.nd hx).2.2.1
    have ny := (h.nd hy).2.2.1
    rw [tT_row h hx] at nx
    rw [tT_row h hy] at ny
    have okx := (NF_N.mp nx).1
    have oky := (NF_N.mp ny).1
    have hM := h.wm.2.2.1
    have b1 : -60 ≤ gA σ 48 x ∧ gA σ 48 x < 1000 := by rcases okx with q | q <;> omega
    have b2 : -60 ≤ gA σ 48 y ∧ gA σ 48 y < 1000 := by rcases oky with q | q <;> omega
    have bx : 0 ≤ x ∧ x < 200000 := by have := hx.1; have := hx.2; omega
    have by' : 0 ≤ y ∧ y < 200000 := by have := hy.1; have := hy.2; omega
    show t_orderOf_F (t_S_orderOf n) x y σ Q
    unfold t_orderOf_F
    by_cases hxy : x = y
    · rw [if_pos hxy]
      rw [hxy, cmT_rf] at hQ
      exact hQ
    · rw [if_neg hxy]
      refine ⟨bx, by', ?_⟩
      by_cases hk : gA σ 48 x = gA σ 48 y
      · rw [if_pos hk]
        refine ⟨bx, by', ?_⟩
        have hkk : kyc (gA σ 48 x) = kyc (gA σ 48 y) := by rw [hk]
        by_cases hm : gA σ 50 x = gA σ 50 y
        · rw [if_pos hm]
          have hQ' := hQ
          rw [tT_row h hx, tT_row h hy, cmT_kids hkk (by simp only [List.length_map, rowI_len]; omega)] at hQ'
          refine lt_orderOf_L100 (fo_t_S_orderOf n) (fun k s => s = σ ∧ 0 ≤ k ∧ k ≤ gA σ 50 x ∧ cmK ((rowI (gA σ 56) (gA σ 49 x + k) (gA σ 50 x - k).toNat).map (tT σ)) ((rowI (gA σ 56) (gA σ 49 y + k) (gA σ 50 y - k).toNat).map (tT σ)) = cmK ((rowI (gA σ 56) (gA σ 49 x) (gA σ 50 x).toNat).map (tT σ)) ((rowI (gA σ 56) (gA σ 49 y) (gA σ 50 y).toNat).map (tT σ))) (fun k _ => (gA σ 50 x - k).toNat) ⟨rfl, by omega, ax.1, by simp⟩ ?_
          rintro k q fr ⟨rfl, k0, k1', hc⟩
          try dsimp only
          refine ⟨bx, ?_⟩
          by_cases hkn : k < gA q 50 x
          · rw [if_pos hkn]
            refine ts_arg h hx k0 hkn (ts_arg h hy k0 (by omega) ?_)
            have lx := (ax.2.2.2 k k0 hkn).1
            have ly := (ay.2.2.2 k k0 (by omega)).1
            rw [show (gA q 50 x - k).toNat = (gA q 50 x - (k + 1)).toNat + 1 by omega, show (gA q 50 y - k).toNat = (gA q 50 y - (k + 1)).toNat + 1 by omega] at hc
            simp only [rowI, List.map_cons] at hc
            rw [cmK_cons _ _ (h.T lx) (h.T ly)] at hc
            refine ih _ _ _ _ ?_ lx ly ?_
            · rw [tT_row h hx, trD_N] at hn
              exact hn _ (List.mem_map_of_mem (rowI_mem.mpr ⟨k, k0, by omega, rfl⟩))
            · by_cases hz : cmT (tT q (gA q 56 (gA q 49 x + k))) (tT q (gA q 56 (gA q 49 y + k))) = 0
              · rw [if_pos hz, w32_id (by have := h.at hx; omega) (by have := h.at hx; omega)]
                rw [if_pos hz] at hc
                refine ⟨⟨rfl, by omega, by omega, ?_⟩, by omega⟩
                rw [← hc]
                congr 3 <;> omega
              · rw [if_neg hz]
                rw [if_neg hz] at hc
                rw [hc]
                exact hQ'
          · rw [if_neg hkn]
            rw [show (gA q 50 x - k).toNat = 0 by omega, show (gA q 50 y - k).toNat = 0 by omega] at hc
            simp only [rowI, List.map_nil, cmK_nil] at hc
            rw [← hc] at hQ'
            exact hQ'
        · rw [if_neg hm]
          refine ⟨bx, by', ?_⟩
          rw [tT_row h hx, tT_row h hy, cmT_len hkk (by simp only [List.length_map, rowI_len]; omega)] at hQ
          simp only [List.length_map, rowI_len] at hQ
          by_cases hlt : gA σ 50 x < gA σ 50 y
          · rw [if_pos hlt]; rw [if_pos (by omega)] at hQ; exact hQ
          · rw [if_neg hlt]; rw [if_neg (by omega)] at hQ; exact hQ
      · rw [if_neg hk]
        have hkk : kyc (gA σ 48 x) ≠ kyc (gA σ 48 y) := fun z => hk (kyc_inj (by omega) (by omega) z)
        rw [tT_row h hx, tT_row h hy, cmT_lab _ _ hkk] at hQ
        unfold kyc at hQ
        unfold t_orderOf_j49
        by_cases hx0 : gA σ 48 x < 0
        · rw [if_pos hx0]
          rw [if_pos hx0] at hQ
          by_cases hy0 : gA σ 48 y < 0
          · rw [if_pos hy0]
            rw [if_pos hy0] at hQ
            by_cases hle : gA σ 48 x ≤ gA σ 48 y
            · rw [if_pos hle]; rw [if_neg (by omega)] at hQ; exact hQ
            · rw [if_neg hle]; rw [if_pos (by omega)] at hQ; exact hQ
          · rw [if_neg hy0, if_pos (by omega)]
            rw [if_neg hy0, if_pos (by omega)] at hQ
            exact hQ
        · rw [if_neg hx0]
          rw [if_neg hx0] at hQ
          by_cases hy0 : gA σ 48 y < 0
          · rw [if_neg (by omega)]
            rw [if_pos hy0, if_neg (by omega)] at hQ
            exact hQ
          · rw [if_neg hy0] at hQ
            by_cases hle : gA σ 48 x < gA σ 48 y
            · rw [if_pos hle]; rw [if_pos (by omega)] at hQ; exact hQ
            · rw [if_neg hle]; rw [if_neg (by omega)] at hQ; exact hQ
theorem ts_orderOf {M : Mo} {σ : S} (h : TP M σ) {x y : Int} {Q : Int → S → Prop} (hx : lvT σ x) (hy : lvT σ y) (hQ : Q (cmT (tT σ x) (tT σ y)) σ) : t_orderOf x y σ Q :=
  ts_orderOfS h 90 x y Q _ (by have := (h.nd hx).2.2.2.2; omega) hx hy hQ
/-- a row of nodes: all live, these terms -/
def rowG (f : Int → Int) (σ : S) (a : Int) (n : Nat) (ts : List Tr) : Prop := (∀ k : Int, 0 ≤ k → k < n → lvT σ (f (a + k))) ∧ (rowI f a n).map (tT σ) = ts
theorem rowG.len {f : Int → Int} {σ : S} {a : Int} {n : Nat} {ts : List Tr} (h : rowG f σ a n ts) : ts.length = n := by rw [← h.2, List.length_map, rowI_len]
theorem rowG.same {f g : Int → Int} {σ s : S} {a b : Int} {n : Nat} {ts : List Tr} (h : rowG f σ a n ts) (hv : ∀ k : Int, 0 ≤ k → k < n → g (b + k) = f (a + k)) (hl : ∀ x, lvT σ x → lvT s x ∧ tT s x = tT σ x) : rowG g s b n ts := by
  refine ⟨fun k k0 k1 => by rw [hv k k0 k1]; exact (hl _ (h.1 k k0 k1)).1, ?_⟩
  rw [← h.2, rowI_congr (f := g) (g := f) (a := b) (b := a) hv]
  apply List.map_congr_left
  intro y hy
  obtain ⟨k, k0, k1, rfl⟩ := rowI_mem.mp hy
  exact (hl _ (h.1 k k0 k1)).2
theorem rowG.app {f : Int → Int} {σ : S} {a : Int} {n m : Nat} {ts us : List Tr} (h : rowG f σ a n ts) (k : rowG f σ (a + n) m us) : rowG f σ a (n + m) (ts ++ us) := by
  refine ⟨fun j j0 j1 => ?_, ?_⟩
  · by_cases hj : j < n
    · exact h.1 j j0 hj
    · have := k.1 (j - n) (by omega) (by omega)
      rw [show a + (n : Int) + (j - n) = a + j by omega] at this
      exact this
  · rw [rowI_app, List.map_append, h.2, k.2]
theorem rowG.one {f : Int → Int} {σ : S} {a : Int} (h : lvT σ (f a)) : rowG f σ a 1 [tT σ (f a)] := by
  refine ⟨fun k k0 k1 => by rw [show a + k = a by omega]; exact h, rfl⟩
theorem rowG.nil {f : Int → Int} {σ : S} {a : Int} : rowG f σ a 0 [] := ⟨fun k k0 k1 => by omega, rfl⟩
theorem rowG.split {f : Int → Int} {σ : S} {a : Int} {n m : Nat} {ts : List Tr} (h : rowG f σ a (n + m) ts) : rowG f σ a n (ts.take n) ∧ rowG f σ (a + n) m (ts.drop n) := by
  have e := h.2
  rw [rowI_app, List.map_append] at e
  have hl : ((rowI f a n).map (tT σ)).length = n := by rw [List.length_map, rowI_len]
  refine ⟨⟨fun k k0 k1 => h.1 k k0 (by omega), ?_⟩, fun k k0 k1 => ?_, ?_⟩
  · rw [← e, List.take_left' hl]
  · have := h.1 (n + k) (by omega) (by omega)
    rw [show a + (n : Int) + k = a + (n + k) by omega]
    exact this
  · rw [← e, List.drop_left' hl]
theorem rowG.at {f : Int → Int} {σ : S} {a : Int} {n : Nat} {ts : List Tr} (h : rowG f σ a n ts) {k : Nat} (hk : k < n) : ts[k]? = some (tT σ (f (a + k))) := by
  rw [← h.2, List.getElem?_map, rowI_get _ _ hk]; rfl
/-- writes behind all rows -/
theorem TP.beh {M : Mo} {σ s : S} (h : TP M σ) (f : Fr ([83], [], [56, 58]) σ s) (hb : ∀ j, j < gI σ 81 → gA s 56 j = gA σ 56 j) : TP M s ∧ ∀ x, lvT σ x → lvT s x ∧ tT s x = tT σ x :=
  h.same (apt_i (A := []) (by decide) f) (apt_a (I := []) (by decide) f) hb
/-- sorting in place, behind all rows -/
theorem ts_make_L237 {M : Mo} {σ : S} (h : TP M σ) {o : Int} {n : Nat} {ts : List Tr} (ho : 0 ≤ o) (ho1 : o < mOps M) (hn : 2 ≤ n) (hr2 : gI σ 81 + n ≤ 800000) (hr : rowG (gA σ 56) σ (gI σ 81) n ts) {Q : Int → S → Prop}
    (hQ : ∀ s, Fr ([], [], [56]) σ s → (∀ j, j < gI σ 81 → gA s 56 j = gA σ 56 j) → rowG (gA s 56) s (gI s 81) n (if mCo M o ≠ 0 then isort ts else ts) → t_make_j351 o n s Q) : t_make_L237 o n 1 σ Q := by
  have rg := h.rg
  have hlen := hr.len
  have hco := (h.mo.2.2.2.1 o ho ho1).2.1
  have hM := h.wm.2.2.1
  by_cases hc : mCo M o = 0
  · unfold t_make_L237
    intro Y hY
    refine hY 1 σ ?_
    rw [hco]
    refine ⟨fun _ => by omega, ?_⟩
    rw [if_neg (by simp [hc])]
    refine hQ σ Fr.rf (fun _ _ => rfl) ?_
    rw [if_neg (by simp [hc])]
    exact hr
  rw [if_pos hc] at hQ
  refine lt_make_L237 (fun k s => 1 ≤ k ∧ k ≤ n ∧ Fr ([], [], [56]) σ s ∧ (∀ j, j < gI σ 81 → gA s 56 j = gA σ 56 j) ∧ rowG (gA s 56) s (gI σ 81) k.toNat ((ts.take k.toNat).foldl (fun acc t => insR t acc) []).reverse ∧ rowG (gA s 56) s (gI σ 81 + k) (n - k.toNat) (ts.drop k.toNat)) (fun k _ => (n - k).toNat) ⟨by omega, by omega, Fr.rf, fun _ _ => rfl, ?_, ?_⟩ ?_
  · have := (rowG.split (n := 1) (m := n - 1) (by rw [show 1 + (n - 1) = n by omega]; exact hr)).1
    have e : ((ts.take (1 : Int).toNat).foldl (fun acc t => insR t acc) []).reverse = ts.take 1 := by
      match ts, hlen with
      | [], e => simp
      | t :: r, _ => rfl
    rw [e]
    exact this
  · exact (rowG.split (n := 1) (m := n - 1) (by rw [show 1 + (n - 1) = n by omega]; exact hr)).2
  rintro k s fr ⟨k0, k1, fs, bs, r1, r2⟩
  try dsimp only
  obtain ⟨hs, ls⟩ := h.beh (fs.weak rfl) bs
  have ic : gI s 81 = gI σ 81 := fs.i _ rfl
  rw [fs.a 45 rfl, hco, ic]
  refine ⟨fun _ => by omega, ?_⟩
  by_cases hk : k < n
  · rw [if_pos ⟨hk, hc⟩]
    have w1 : w32 (gI σ 81 + k) = gI σ 81 + k := w32_id (by omega) (by omega)
    rw [w1]
    refine ⟨⟨by omega, by omega⟩, ?_⟩
    have hkn : k.toNat < ts.length := by omega
    have hd : ts.drop k.toNat = ts[k.toNat] :: ts.drop (k.toNat + 1) := List.drop_eq_getElem_cons hkn
    have sp := rowG.split (f := gA s 56) (σ := s) (a := gI σ 81 + k) (n := 1) (m := n - (k.toNat + 1)) (ts := ts.drop k.toNat) (by rw [show 1 + (n - (k.toNat + 1)) = n - k.toNat by omega]; exact r2)
    have tk : (ts.drop k.toNat).take 1 = [ts[k.toNat]] := by rw [hd]; rfl
    have dk : (ts.drop k.toNat).drop 1 = ts.drop (k.toNat + 1) := by rw [hd]; rfl
    rw [tk, dk] at sp
    have htk : ts.take (k + 1).toNat = ts.take k.toNat ++ [ts[k.toNat]] := by rw [show (k + 1).toNat = k.toNat + 1 by omega, List.take_add_one, List.getElem?_eq_getElem hkn]; rfl
    have hfold : (ts.take (k + 1).toNat).foldl (fun acc t => insR t acc) [] = insR ts[k.toNat] ((ts.take k.toNat).foldl (fun acc t => insR t acc) []) := by rw [htk, List.foldl_append]; rfl
    have lx : lvT s (gA s 56 (gI σ 81 + k)) := by have := sp.1.1 0 (by omega) (by omega); simpa using this
    have tx : tT s (gA s 56 (gI σ 81 + k)) = ts[k.toNat] := by
      have := sp.1.2
      simp only [rowI, List.map_cons, List.map_nil, List.cons.injEq, and_true] at this
      exact this
    refine lt_make_L271 (fun i q => 0 ≤ i ∧ i ≤ k ∧ Fr ([], [], [56]) s q ∧ (∀ j, j < gI σ 81 ∨ gI σ 81 + k < j → gA q 56 j = gA s 56 j) ∧ ∃ A B, ((ts.take k.toNat).foldl (fun acc t => insR t acc) []).reverse = A ++ B ∧ rowG (gA q 56) q (gI σ 81) i.toNat A ∧ rowG (gA q 56) q (gI σ 81 + i + 1) (k - i).toNat B ∧ ∀ e ∈ B, cmT ts[k.toNat] e < 0) (fun i _ => i.toNat) ⟨by omega, by omega, Fr.rf, fun _ _ => rfl, ((ts.take k.toNat).foldl (fun acc t => insR t acc) []).reverse, [], by simp, r1, by rw [show (k - k).toNat = 0 by omega]; exact rowG.nil, by simp⟩ ?_
    rintro i q fr2 ⟨i0, i1, f, oq, A, B, hAB, rA, rB, hB⟩
    try dsimp only
    obtain ⟨hq, lq⟩ := hs.beh (f.weak rfl) (fun j hj => oq j (Or.inl (by omega)))
    have iq : gI q 81 = gI σ 81 := by rw [f.i _ rfl, ic]
    have fin : (∀ e, A.getLast? = some e → ¬ cmT ts[k.toNat] e < 0) → t_make_j331 o n k (gA s 56 (gI σ 81 + k)) i q Q (fun v7' s' => (1 ≤ v7' ∧ v7' ≤ n ∧ Fr ([], [], [56]) σ s' ∧ (∀ j, j < gI σ 81 → gA s' 56 j = gA σ 56 j) ∧ rowG (gA s' 56) s' (gI σ 81) v7'.toNat ((ts.take v7'.toNat).foldl (fun acc t => insR t acc) []).reverse ∧ rowG (gA s' 56) s' (gI σ 81 + v7') (n - v7'.toNat) (ts.drop v7'.toNat)) ∧ (n - v7').toNat < (n - k).toNat) := by
      intro hA
      unfold t_make_j331
      rw [iq, w32_id (by omega) (by omega)]
      refine ⟨⟨by omega, by omega⟩, ?_⟩
      rintro q1 hq1
      rw [w32_id (by omega) (by omega)]
      have hv : ∀ j, gA q1 56 j = if j = gI σ 81 + i then gA s 56 (gI σ 81 + k) else gA q 56 j := fun j => by rw [hq1]; simp [gI_pI, gI_pL, gI_pA, gL_pI, gL_pL, gL_pA, gA_pI, gA_pL, gA_pA]
      have f1 : Fr ([], [], [56]) s q1 := f.putA hq1 rfl
      obtain ⟨h1, l1⟩ := hs.beh (f1.weak rfl) (fun j hj => by rw [hv, if_neg (by omega)]; exact oq j (Or.inl (by omega)))
      have l2 : ∀ x, lvT q x → lvT q1 x ∧ tT q1 x = tT q x := (hq.beh (f := (Fr.rf.putA hq1 rfl)) (fun j hj => by rw [hv, if_neg (by omega)])).2
      refine ⟨⟨by omega, by omega, fs.trans f1, fun j hj => ?_, ?_, ?_⟩, by omega⟩
      · rw [hv, if_neg (by omega), oq j (Or.inl hj)]; exact bs j hj
      · rw [hfold]
        have e : ((ts.take k.toNat).foldl (fun acc t => insR t acc) []) = (A ++ B).reverse := by rw [← hAB, List.reverse_reverse]
        rw [e, ins_row hB hA]
        have one := rowG.one (f := gA q1 56) (σ := q1) (a := gI σ 81 + i) (by rw [hv, if_pos rfl]; exact (l1 _ lx).1)
        rw [hv, if_pos rfl, (l1 _ lx).2, tx] at one
        have rA1 : rowG (gA q1 56) q1 (gI σ 81) i.toNat A := rA.same (fun j j0 j1 => by rw [hv, if_neg (by omega)]) l2
        have rB1 : rowG (gA q1 56) q1 (gI σ 81 + i + 1) (k - i).toNat B := rB.same (fun j j0 j1 => by rw [hv, if_neg (by omega)]) l2
        have := rowG.app (m := 1 + (k - i).toNat) rA1 (by rw [show gI σ 81 + ((i.toNat : Nat) : Int) = gI σ 81 + i by omega]; exact one.app rB1)
        rw [show i.toNat + (1 + (k - i).toNat) = (k + 1).toNat by omega] at this
        exact this
      · rw [show (k + 1).toNat = k.toNat + 1 by omega, show gI σ 81 + (k + 1) = gI σ 81 + k + 1 by omega]
        refine sp.2.same (fun j j0 j1 => ?_) l1
        rw [hv, if_neg (by omega)]
        have := oq (gI σ 81 + k + 1 + j) (Or.inr (by omega))
        exact this
    by_cases hi : i ≤ 0
    · rw [if_pos hi]
      refine fin (fun e he => ?_)
      have : A = [] := List.length_eq_zero_iff.mp (by rw [rA.len]; omega)
      rw [this] at he
      simp at he
    · rw [if_neg hi]
      have w2 : w32 (w32 (gI q 81 + i) - 1) = gI σ 81 + i - 1 := by rw [iq]; simp (disch := omega) only [w32_id]
      have w3 : w32 (gI q 81 + i) = gI σ 81 + i := by rw [iq, w32_id (by omega) (by omega)]
      rw [w2]
      have lp : lvT q (gA q 56 (gI σ 81 + i - 1)) := by
        have := rA.1 (i - 1) (by omega) (by omega)
        rw [show gI σ 81 + (i - 1) = gI σ 81 + i - 1 by omega] at this
        exact this
      have hlA := rA.len
      have spA := rowG.split (f := gA q 56) (σ := q) (a := gI σ 81) (n := (i - 1).toNat) (m := 1) (ts := A) (by rw [show (i - 1).toNat + 1 = i.toNat by omega]; exact rA)
      rw [show gI σ 81 + (((i - 1).toNat : Nat) : Int) = gI σ 81 + i - 1 by omega] at spA
      have dA : A.drop (i - 1).toNat = [tT q (gA q 56 (gI σ 81 + i - 1))] := by
        have := spA.2.2
        simp only [rowI, List.map_cons, List.map_nil] at this
        exact this.symm
      have eA : A = A.take (i - 1).toNat ++ [tT q (gA q 56 (gI σ 81 + i - 1))] := by rw [← dA, List.take_append_drop]
      refine ⟨⟨by omega, by omega⟩, ?_⟩
      refine ts_orderOf hq lp (lq _ lx).1 ?_
      rw [(lq _ lx).2, tx]
      have hneg := cmT_neg ts[k.toNat] (tT q (gA q 56 (gI σ 81 + i - 1)))
      by_cases hcc : cmT (tT q (gA q 56 (gI σ 81 + i - 1))) ts[k.toNat] ≤ 0
      · rw [if_pos hcc]
        refine fin (fun e he => ?_)
        rw [eA, List.getLast?_append] at he
        simp at he
        rw [← he]
        omega
      · rw [if_neg hcc, w2, w3]
        refine ⟨⟨by omega, by omega⟩, ⟨by omega, by omega⟩, ?_⟩
        rintro q1 hq1
        rw [w32_id (by omega) (by omega)]
        have hv : ∀ j, gA q1 56 j = if j = gI σ 81 + i then gA q 56 (gI σ 81 + i - 1) else gA q 56 j := fun j => by rw [hq1]; simp [gI_pI, gI_pL, gI_pA, gL_pI, gL_pL, gL_pA, gA_pI, gA_pL, gA_pA]
        obtain ⟨h1, l1⟩ := hq.beh (f := (Fr.rf.putA hq1 rfl)) (fun j hj => by rw [hv, if_neg (by omega)])
        refine ⟨⟨by omega, by omega, f.putA hq1 rfl, fun j hj => ?_, A.take (i - 1).toNat, tT q (gA q 56 (gI σ 81 + i - 1)) :: B, ?_, ?_, ?_, ?_⟩, by omega⟩
        · rw [hv, if_neg (by omega)]; exact oq j hj
        · rw [hAB]
          conv => lhs; rw [eA]
          simp
        · rw [show (i + -1).toNat = (i - 1).toNat by omega]
          refine spA.1.same (fun j j0 j1 => ?_) l1
          rw [hv, if_neg (by omega)]
        · have one := rowG.one (f := gA q1 56) (σ := q1) (a := gI σ 81 + i) (by rw [hv, if_pos rfl]; exact (l1 _ lp).1)
          rw [hv, if_pos rfl, (l1 _ lp).2] at one
          have := one.app (m := (k - i).toNat) (us := B) (rB.same (fun j j0 j1 => by rw [hv, if_neg (by omega)]; rfl) l1)
          rw [show 1 + (k - i).toNat = (k - (i + -1)).toNat by omega] at this
          rw [show gI σ 81 + (i + -1) + 1 = gI σ 81 + i by omega]
          exact this
        · intro e he
          rcases List.mem_cons.mp he with rfl | he
          · omega
          · exact hB e he
  · rw [if_neg (fun z => hk z.1)]
    have ek : k.toNat = n := by omega
    rw [ek, List.take_of_length_le (by omega)] at r1
    exact hQ s fs bs (by rw [ic]; exact r1)

def tnQ (M : Mo) (σ : S) (t : Tr) (r : Int) (s : S) : Prop := TP M s ∧ lvT s r ∧ tT s r = t ∧ ExT σ s (fun u => u = t) ∧ gI s 80 ≤ gI σ 80 + 1
theorem ts_node_new {M : Mo} {σ : S} (h : TP M σ) {op n : Int} {ts : List Tr} (hn : 0 ≤ n) (hts : ts = (rowI (gA σ 56) (gI σ 81) n.toNat).map (tT σ)) (hl : ∀ k, 0 ≤ k → k < n → lvT σ (gA σ 56 (gI σ 81 + k))) (hok : okN M op ts)
    (hno : ∀ y, lvT σ y → tT σ y ≠ trN op ts) (hr1 : gI σ 80 < 200000) (hr2 : gI σ 81 + n ≤ 800000) (hbig : bigT (trN op ts)) :
    t_node_j130 op n (sltT op (rowI (gA σ 56) (gI σ 81) n.toNat)) σ (tnQ M σ (trN op ts)) := by
  have rg := h.rg
  have hM := h.wm
  have sr := sltT_rg op (rowI (gA σ 56) (gI σ 81) n.toNat)
  have hlv : ∀ x ∈ rowI (gA σ 56) (gI σ 81) n.toNat, lvT σ x := fun x hx => by
    obtain ⟨k, k0, k1, rfl⟩ := rowI_mem.mp hx
    exact hl k k0 (by omega)
  have hsumK : ∀ l : List Int, (∀ x ∈ l, lvT σ x) → (((l.map (tT σ)).map trS).sum : Int) = (l.map (gA σ 51)).sum := by
    intro l
    induction l with
    | nil => intro _; rfl
    | cons x r ih =>
      intro hr
      simp only [List.map_cons, List.sum_cons]
      rw [← ih (fun y hy => hr y (List.mem_cons_of_mem _ hy)), (h.nd (hr x (List.mem_cons_self ..))).1]
      omega
  have hsum : ((trS (trN op ts) : Nat) : Int) = 1 + ((rowI (gA σ 56) (gI σ 81) n.toNat).map (gA σ 51)).sum := by
    rw [trS_N, hts]
    have := hsumK _ hlv
    omega
  have hpos : ∀ l : List Int, (∀ x ∈ l, lvT σ x) → 0 ≤ (l.map (gA σ 51)).sum := by
    intro l hl
    rw [← hsumK l hl]
    omega
  unfold t_node_j130
  refine lt_node_L142 (fun v k s => s = σ ∧ 0 ≤ k ∧ k ≤ n ∧ 1 ≤ v ∧ v + ((rowI (gA σ 56) (gI σ 81 + k) (n - k).toNat).map (gA σ 51)).sum = 1 + ((rowI (gA σ 56) (gI σ 81) n.toNat).map (gA σ 51)).sum) (fun _ k _ => (n - k).toNat) ⟨rfl, by omega, hn, by omega, by simp⟩ ?_
  rintro v k q fr ⟨rfl, h0, h1, hv0, h2⟩
  try dsimp only
  by_cases hk : k < n
  · rw [if_pos hk]
    have e1 : w32 (gI q 81 + k) = gI q 81 + k := w32_id (by omega) (by omega)
    have e2 : w32 (k + 1) = k + 1 := w32_id (by omega) (by omega)
    have hlk := hl k h0 hk
    have hb := h.nd hlk
    rw [show (n - k).toNat = (n - (k + 1)).toNat + 1 by omega] at h2
    simp only [rowI, List.map_cons, List.sum_cons] at h2
    have hp := hpos (rowI (gA q 56) (gI q 81 + k + 1) (n - (k + 1)).toNat) (fun x hx => by
      obtain ⟨j, j0, j1, rfl⟩ := rowI_mem.mp hx
      rw [show gI q 81 + k + 1 + j = gI q 81 + (k + 1 + j) by omega]
      exact hl _ (by omega) (by omega))
    have hb2 : 0 ≤ gA q 51 (gA q 56 (gI q 81 + k)) := by rw [hb.1]; omega
    have hbb := hbig.1
    have e3 : w32 (v + gA q 51 (gA q 56 (gI q 81 + k))) = v + gA q 51 (gA q 56 (gI q 81 + k)) := w32_id (by omega) (by omega)
    rw [e1, e2, e3]
    refine ⟨⟨by omega, by omega⟩, ⟨by have := hlk.1; omega, by have := hlk.2; omega⟩, ⟨rfl, by omega, by omega, by omega, ?_⟩, by omega⟩
    rw [show gI q 81 + (k + 1) = gI q 81 + k + 1 by omega]
    omega
  · rw [if_neg hk]
    rw [show (n - k).toNat = 0 by omega] at h2
    simp only [rowI, List.map_nil, List.sum_nil, Int.add_zero] at h2
    have hv : v = ((trS (trN op ts) : Nat) : Int) := by omega
    unfold t_node_j176
    refine ⟨⟨by omega, by omega⟩, ?_⟩
    rintro s1 hs1
    refine ⟨⟨by omega, by omega⟩, ?_⟩
    rintro s2 hs2
    refine ⟨⟨by omega, by omega⟩, ?_⟩
    rintro s3 hs3
    refine ⟨⟨by omega, by omega⟩, ?_⟩
    rintro s4 hs4
    refine ⟨sr, ⟨by omega, by omega⟩, ?_⟩
    rintro s5 hs5
    refine ⟨sr, ?_⟩
    rintro s6 hs6
    refine ⟨⟨by omega, by omega⟩, ?_⟩
    rintro s7 hs7
    rintro s8 hs8
    rintro s9 hs9
    have f9 : Fr ([80, 81], [], [48, 49, 50, 51, 53, 57, 55]) q s9 :=
      ((((((((Fr.rf.putA hs1 rfl).putA hs2 rfl).putA hs3 rfl).putA hs4 rfl).putA hs5 rfl).putA hs6 rfl).putA hs7 rfl).putI hs8 rfl).putI hs9 rfl
    have i80 : gI s7 80 = gI q 80 := by rw [hs7, hs6, hs5, hs4, hs3, hs2, hs1]; rfl
    have i81 : gI s8 81 = gI q 81 := by rw [hs8, hs7, hs6, hs5, hs4, hs3, hs2, hs1]; rfl
    rw [i80, w32_id (by omega) (by omega)] at hs8
    rw [i81, w32_id (by omega) (by omega)] at hs9
    have A : ∀ (a : Nat) (x : Int), gA s9 a x = gA s7 a x := fun a x => by rw [hs9, hs8]; rfl
    have i811 : gI s1 81 = gI q 81 := by rw [hs1]; rfl
    rw [i811] at hs2
    have a48 : ∀ x, gA s9 48 x = if x = gI q 80 then op else gA q 48 x := fun x => by
      rw [A, hs7, hs6, hs5, hs4, hs3, hs2, hs1]; simp only [gI_pI, gI_pL, gI_pA, gL_pI, gL_pL, gL_pA, gA_pI, gA_pL, gA_pA]; simp
    have a49 : ∀ x, gA s9 49 x = if x = gI q 80 then gI q 81 else gA q 49 x := fun x => by
      rw [A, hs7, hs6, hs5, hs4, hs3, hs2, hs1]; simp only [gI_pI, gI_pL, gI_pA, gL_pI, gL_pL, gL_pA, gA_pI, gA_pL, gA_pA]; simp
    have a50 : ∀ x, gA s9 50 x = if x = gI q 80 then n else gA q 50 x := fun x => by
      rw [A, hs7, hs6, hs5, hs4, hs3, hs2, hs1]; simp only [gI_pI, gI_pL, gI_pA, gL_pI, gL_pL, gL_pA, gA_pI, gA_pL, gA_pA]; simp
    have a51 : ∀ x, gA s9 51 x = if x = gI q 80 then v else gA q 51 x := fun x => by
      rw [A, hs7, hs6, hs5, hs4, hs3, hs2, hs1]; simp only [gI_pI, gI_pL, gI_pA, gL_pI, gL_pL, gL_pA, gA_pI, gA_pL, gA_pA]; simp
    have a57' : gA s4 57 = gA q 57 := by
      funext x; rw [hs4, hs3, hs2, hs1]; simp only [gI_pI, gI_pL, gI_pA, gL_pI, gL_pL, gL_pA, gA_pI, gA_pL, gA_pA]; simp
    rw [a57'] at hs5
    have a53 : ∀ x, gA s9 53 x = if x = gI q 80 then gA q 57 (sltT op (rowI (gA q 56) (gI q 81) n.toNat)) else gA q 53 x := fun x => by
      rw [A, hs7, hs6, hs5, hs4, hs3, hs2, hs1]; simp only [gI_pI, gI_pL, gI_pA, gL_pI, gL_pL, gL_pA, gA_pI, gA_pL, gA_pA]; simp
    have a57 : ∀ x, gA s9 57 x = if x = sltT op (rowI (gA q 56) (gI q 81) n.toNat) then gI q 80 else gA q 57 x := fun x => by
      rw [A, hs7, hs6, hs5, hs4, hs3, hs2, hs1]; simp only [gI_pI, gI_pL, gI_pA, gL_pI, gL_pL, gL_pA, gA_pI, gA_pL, gA_pA]; simp
    have a55 : ∀ x, gA s9 55 x = if x = gI q 80 then 0 else gA q 55 x := fun x => by
      rw [A, hs7, hs6, hs5, hs4, hs3, hs2, hs1]; simp only [gI_pI, gI_pL, gI_pA, gL_pI, gL_pL, gL_pA, gA_pI, gA_pL, gA_pA]; simp
    have mo9 : TMo M s9 := h.mo.same (apt_i (A := []) (by decide) f9) (apt_a (I := []) (by decide) f9)
    have st9 : gA s9 49 (gI q 80) = gI q 81 := by rw [a49, if_pos rfl]
    have ar9 : gA s9 56 = gA q 56 := f9.a _ rfl
    have so9 : gA s9 52 = gA q 52 := f9.a _ rfl
    have kidT : ∀ t ∈ ts, isT t := by
      intro t ht
      rw [hts] at ht
      obtain ⟨y, hy, rfl⟩ := List.mem_map.mp ht
      exact h.T (hlv y hy)
    have hsrt : srt M (trN op ts) = lst M op ((rowI (gA q 56) (gI q 81) n.toNat).map (gA q 52)) := by
      rw [srt_N M op kidT, hts, List.map_map]
      congr 1
      apply List.map_congr_left
      intro y hy
      exact (h.nd (hlv y hy)).2.1.symm
    refine ts_leastSort (op := op) (n := n) (ts := ts) mo9 hM (by omega) (by omega) (by rw [a48, if_pos rfl]) (by rw [a50, if_pos rfl]) hok (by rw [hts, List.length_map, rowI_len]; omega) (by rw [st9]; omega) (by rw [st9]; omega) (fun j j0 j1 => ?_) ?_
    · rw [st9, ar9, so9]
      have hlj := hl j j0 j1
      refine ⟨⟨hlj.1, by have := hlj.2; omega⟩, ?_⟩
      rw [(h.nd hlj).2.1]
      exact srt_rg2 hM (h.nd hlj).2.2.1
    · rw [st9, ar9, so9, ← hsrt]
      refine ⟨⟨by omega, by omega⟩, ?_⟩
      rintro t1 ht1
      have f10 : Fr ([], [], [52]) s9 t1 := Fr.rf.putA ht1 rfl
      have key := TP_new (s := t1) h hn hts hl hok hno hr1 hr2 hbig (mo9.same (apt_i (A := []) (by decide) f10) (apt_a (I := []) (by decide) f10)) (by rw [ht1, hs9, hs8]; rfl) (by rw [ht1, hs9]; rfl) (by rw [f10.i _ rfl, f9.i _ rfl])
        (fun x => by rw [f10.a _ rfl, a48]) (fun x => by rw [f10.a _ rfl, a49]) (fun x => by rw [f10.a _ rfl, a50]) (by rw [f10.a _ rfl, ar9]) (fun x => by rw [f10.a _ rfl, a51, hv]) (by rw [f10.a _ rfl, f9.a _ rfl]) (fun x => by rw [f10.a _ rfl, a55])
        (fun x => by rw [ht1]; simp only [gI_pI, gI_pL, gI_pA, gL_pI, gL_pL, gL_pA, gA_pI, gA_pL, gA_pA]; rw [so9]; simp) (fun x => by rw [f10.a _ rfl, a53]) (fun x => by rw [f10.a _ rfl, a57])
      exact ⟨key.1, key.2.1, key.2.2.1, key.2.2.2, by rw [ht1, hs9, hs8]; simp [gI_pI, gI_pL, gI_pA, gL_pI, gL_pL, gL_pA, gA_pI, gA_pL, gA_pA]⟩
theorem ts_node {M : Mo} {σ : S} (h : TP M σ) {op n : Int} {ts : List Tr} (hn : 0 ≤ n) (hts : (rowI (gA σ 56) (gI σ 81) n.toNat).map (tT σ) = ts) (hl : ∀ k, 0 ≤ k → k < n → lvT σ (gA σ 56 (gI σ 81 + k))) (hok : okN M op ts)
    (hr1 : gI σ 80 < 200000) (hr2 : gI σ 81 + n ≤ 800000) (hbig : bigT (trN op ts)) :
    t_node op n σ (tnQ M σ (trN op ts)) := by
  have rg := h.rg
  have sr := sltT_rg op (rowI (gA σ 56) (gI σ 81) n.toNat)
  unfold t_node
  refine ts_hashOf hn rg.2.2.1 hr2 ?_
  refine ⟨sr, ?_⟩
  have hd := h.ch.head (by omega) sr.1 sr.2
  have nosame : ∀ y, lvT σ y → kyT σ y ≠ sltT op (rowI (gA σ 56) (gI σ 81) n.toNat) → tT σ y ≠ trN op ts := by
    intro y hy hk e
    rw [tT_row h hy] at e
    obtain ⟨e1, e2⟩ := trN_inj e
    apply hk
    unfold kyT
    rw [e1]
    congr 1
    rw [← hts] at e2
    have inj : ∀ (l m : List Int), (∀ x ∈ l, lvT σ x) → (∀ x ∈ m, lvT σ x) → l.map (tT σ) = m.map (tT σ) → l = m := by
      intro l
      induction l with
      | nil => intro m _ _ e; cases m with
        | nil => rfl
        | cons _ _ => simp at e
      | cons x l ih => intro m hx hm e; cases m with
        | nil => simp at e
        | cons y m =>
          simp only [List.map_cons, List.cons.injEq] at e
          rw [h.inj (hx x (List.mem_cons_self ..)) (hm y (List.mem_cons_self ..)) e.1, ih m (fun z hz => hx z (List.mem_cons_of_mem _ hz)) (fun z hz => hm z (List.mem_cons_of_mem _ hz)) e.2]
    refine inj _ _ (fun x hx => ?_) (fun x hx => ?_) e2
    · obtain ⟨k, k0, k1, rfl⟩ := rowI_mem.mp hx
      exact ((h.at hy).2.2.2 k k0 (by have := (h.at hy).1; omega)).1
    · obtain ⟨k, k0, k1, rfl⟩ := rowI_mem.mp hx
      exact hl k k0 (by omega)
  refine lt_node_L19 (fun x s => s = σ ∧ -1 ≤ x ∧ x < gI σ 80 ∧ (0 ≤ x → kyT σ x = sltT op (rowI (gA σ 56) (gI σ 81) n.toNat)) ∧ ∀ y, lvT σ y → x < y → tT σ y ≠ trN op ts) (fun x _ => (x + 1).toNat) ⟨rfl, by omega, by omega, hd.2.2.1, fun y hy hxy => nosame y hy (hd.2.2.2 y hxy hy.2 hy.1)⟩ ?_
  rintro x q fr ⟨rfl, x0, x1, hky, hno⟩
  try dsimp only
  by_cases hx : x < 0
  · rw [if_pos hx]
    exact ts_node_new h hn hts.symm hl hok (fun y hy => hno y hy (by have := hy.1; omega)) hr1 hr2 hbig
  · rw [if_neg hx]
    have lx : lvT q x := ⟨by omega, x1⟩
    obtain ⟨a1, a3, a4, a5⟩ := h.at lx
    have nx := h.ch.next (by omega) x1
    refine ⟨by omega, fun _ => by omega, ?_⟩
    have behind : ∀ v, isB v → (v = 1 ↔ (gA q 48 x = op ∧ gA q 50 x = n) ∧ ∀ k, 0 ≤ k → k < n → gA q 56 (gA q 49 x + k) = gA q 56 (gI q 81 + k)) →
        t_node_j110 op n (sltT op (rowI (gA q 56) (gI q 81) n.toNat)) x v q (tnQ M q (trN op ts)) (fun x' s' => (s' = q ∧ -1 ≤ x' ∧ x' < gI q 80 ∧ (0 ≤ x' → kyT q x' = sltT op (rowI (gA q 56) (gI q 81) n.toNat)) ∧ ∀ y, lvT q y → x' < y → tT q y ≠ trN op ts) ∧ (x' + 1).toNat < (x + 1).toNat) := by
      intro v hv hiff
      unfold t_node_j110
      by_cases hv0 : v = 0
      · rw [if_pos hv0]
        refine ⟨by omega, ⟨rfl, by omega, by omega, fun q1 => ?_, fun y hy hxy => ?_⟩, by omega⟩
        · rw [nx.2.2.1 q1]; exact hky (by omega)
        · by_cases hyx : y = x
          · rw [hyx]
            intro e
            rw [tT_row h lx] at e
            obtain ⟨e1, e2⟩ := trN_inj e
            have hlen := congrArg List.length e2
            rw [List.length_map, rowI_len, ← hts, List.length_map, rowI_len] at hlen
            have : v = 1 := hiff.mpr ⟨⟨e1, by omega⟩, fun k k0 k1 => by
              rw [← hts] at e2
              have e3 := congrArg (fun l : List Tr => l[k.toNat]?) e2
              simp only [List.getElem?_map] at e3
              rw [rowI_get _ _ (by omega), rowI_get _ _ (by omega)] at e3
              simp only [Option.map_some, Option.some.injEq] at e3
              rw [show ((k.toNat : Nat) : Int) = k by omega] at e3
              exact h.inj (a5 k k0 (by omega)).1 (hl k k0 k1) e3⟩
            omega
          · by_cases hyx2 : x < y
            · exact hno y hy hyx2
            · refine nosame y hy ?_
              rw [← hky (by omega)]
              exact nx.2.2.2 y hxy (by omega) hy.1
      · rw [if_neg hv0]
        have hv1 : v = 1 := by rcases hv with e | e <;> omega
        obtain ⟨⟨e1, e2⟩, e3⟩ := hiff.mp hv1
        have ht : tT q x = trN op ts := by
          rw [tT_row h lx, e1, e2, ← hts]
          congr 2
          exact rowI_congr (fun k k0 k1 => e3 k k0 (by omega))
        exact ⟨h, lx, ht, ExT.rf _ _, by omega⟩
    refine lt_node_L56 (fun v k s => s = q ∧ 0 ≤ k ∧ k ≤ n ∧ isB v ∧ (v = 1 ↔ (gA q 48 x = op ∧ gA q 50 x = n) ∧ ∀ j, 0 ≤ j → j < k → gA q 56 (gA q 49 x + j) = gA q 56 (gI q 81 + j))) (fun _ k _ => (n - k).toNat) ⟨rfl, by omega, by omega, isB_bi _, by
      constructor
      · intro e
        by_cases hc : gA q 48 x = op ∧ gA q 50 x = n
        · exact ⟨hc, fun j j0 j1 => by omega⟩
        · rw [bi_f hc] at e; omega
      · intro e; exact bi_t e.1⟩ ?_
    rintro v k s fr2 ⟨rfl, k0, k1, hv, hiff⟩
    try dsimp only
    by_cases hk : k < n
    · rw [if_pos hk]
      by_cases hv0 : v = 0
      · rw [if_pos hv0]
        refine ft_node_j110 fr2 (behind v hv ?_) (fun _ _ _ h => h) (fun _ _ _ h => h)
        constructor
        · intro e; omega
        · intro e; exact hiff.mpr ⟨e.1, fun j j0 j1 => e.2 j j0 (by omega)⟩
      · rw [if_neg hv0]
        have hv1 : v = 1 := by rcases hv with e | e <;> omega
        have hc := hiff.mp hv1
        have e1 : w32 (gI s 81 + k) = gI s 81 + k := w32_id (by omega) (by omega)
        have e2 : w32 (k + 1) = k + 1 := w32_id (by omega) (by omega)
        have e3 : w32 (gA s 49 x + k) = gA s 49 x + k := w32_id (by omega) (by omega)
        rw [e1, e2, e3]
        refine ⟨by omega, by omega, by omega, ⟨rfl, by omega, by omega, isB_bi _, ?_⟩, by omega⟩
        constructor
        · intro e
          by_cases hq : gA s 56 (gA s 49 x + k) = gA s 56 (gI s 81 + k)
          · refine ⟨hc.1, fun j j0 j1 => ?_⟩
            by_cases hj : j = k
            · rw [hj]; exact hq
            · exact hc.2 j j0 (by omega)
          · rw [bi_f hq] at e; omega
        · intro e
          exact bi_t (e.2 k k0 (by omega))
    · rw [if_neg hk]
      refine behind v hv ?_
      rw [hiff]
      constructor
      · intro e; exact ⟨e.1, fun j j0 j1 => e.2 j j0 (by omega)⟩
      · intro e; exact ⟨e.1, fun j j0 j1 => e.2 j j0 (by omega)⟩

theorem lst_rg {M : Mo} (hM : WM M) {c : Int} {ts : List Tr} (h : okN M c ts) {ss : List Int} (hs : ∀ s ∈ ss, s = -2 ∨ 0 ≤ s ∧ s < 20) : lst M c ss = -2 ∨ 0 ≤ lst M c ss ∧ lst M c ss < 20 := by
  have b1 := hM.1
  unfold lst
  rcases h with h | h
  · rw [if_pos h.1]
    have hb := Int.tmod_nonneg 30 (a := -1 - c) (by omega)
    have := hM.var hb h.2.2.1
    right; omega
  · rw [if_neg (by omega)]
    split
    · cases ss with
      | nil => exact Or.inl rfl
      | cons s r =>
        have key : ∀ (r : List Int) (s : Int), (s = -2 ∨ 0 ≤ s ∧ s < 20) → (r.foldl (fun a b => lstB M c [a, b]) s = -2 ∨ 0 ≤ r.foldl (fun a b => lstB M c [a, b]) s ∧ r.foldl (fun a b => lstB M c [a, b]) s < 20) := by
          intro r
          induction r with
          | nil => intro s h; exact h
          | cons b r ih => intro s _; exact ih _ (lstB_rg M hM c _)
        exact key r s (hs s (List.mem_cons_self ..))
    · exact lstB_rg M hM c _
theorem srt_rg {M : Mo} (hM : WM M) {t : Tr} (h : NF M t) : srt M t = -2 ∨ 0 ≤ srt M t ∧ srt M t < 20 := by
  have key : ∀ (n : Nat) (t : Tr), trS t < n → NF M t → srt M t = -2 ∨ 0 ≤ srt M t ∧ srt M t < 20 := by
    intro n
    induction n with
    | zero => intro t h; omega
    | succ n ih =>
      intro t ht h
      obtain ⟨c, ts, rfl, hok, hk⟩ := h.ex
      rw [srt_N M c (fun u hu => (hk u hu).1)]
      refine lst_rg hM hok (fun s hs => ?_)
      obtain ⟨u, hu, rfl⟩ := List.mem_map.mp hs
      exact ih u (by have := trS_kid (c := c) hu; omega) (hk u hu)
  exact key _ t (Nat.lt_succ_self _) h
/-- what nodeOf makes -/
def ndQ (M : Mo) (σ : S) (t : Tr) (r : Int) (s : S) : Prop := XP M s ∧ lvX s r ∧ tX s r = t ∧ ExX σ s (fun u => u = t) ∧ gI s 93 ≤ gI σ 93 + 1 ∧ trS t ≤ 40
def ndE (M : Mo) (σ : S) (t : Tr) (s : S) : Prop := 40 < trS t ∧ gI s 1006 = 6 ∧ XP M s ∧ ExX σ s (fun _ => False)
theorem xs_stop {v : Int} {σ : S} {Q : Int → S → Prop} (h : Q 0 (pI σ 1006 v)) : x_stop v σ Q := by
  unfold x_stop
  rintro s rfl
  exact h
theorem XP.pI {M : Mo} {σ : S} (h : XP M σ) {k : Nat} (v : Int) (hk : XPi.contains k = false) : XP M (pI σ k v) := by
  refine h.same (fun i hi => ?_) (fun a _ => rfl)
  rw [gI_pI, if_neg]
  intro e
  rw [← e] at hk
  rw [List.contains_iff_mem.mpr hi] at hk
  cases hk
theorem XP.pA {M : Mo} {σ : S} (h : XP M σ) {a : Nat} (j v : Int) (hk : (XPm ++ XPa).contains a = false) : XP M (pA σ a j v) := by
  refine h.same (fun i hi => rfl) (fun b hb => ?_)
  refine gA_pA_o _ _ _ (fun e => ?_)
  rw [← e] at hk
  rw [List.contains_iff_mem.mpr hb] at hk
  cases hk
theorem ndE.mk {M : Mo} {σ : S} {t : Tr} (h : XP M σ) (ht : 40 < trS t) : ndE M σ t (pI σ 1006 6) := by
  refine ⟨ht, rfl, h.pI _ rfl, ?_⟩
  exact ExX.of_fr (w := ([1006], [], [])) (Fr.putI Fr.rf rfl rfl) rfl
theorem xs_nodeOf_new {M : Mo} {σ : S} (h : XP M σ) (hM : WM M) {op a n : Int} {ts : List Tr} (ha : 0 ≤ a) (hn : 0 ≤ n) (han : a + n ≤ 20000) (hts : ts = (rowI (gA σ 74) a n.toNat).map (tX σ)) (hl : ∀ k, 0 ≤ k → k < n → lvX σ (gA σ 74 (a + k))) (hok : okN M op ts)
    (hno : ∀ y, lvX σ y → tX σ y ≠ trN op ts) (hr1 : gI σ 93 < 200000) (hr3 : gI σ 102 + 39 ≤ 600000) :
    x_nodeOf_j126 op a n (sltX op (rowI (gA σ 74) a n.toNat)) σ (ndQ M σ (trN op ts)) (ndE M σ (trN op ts)) := by
  have rg := h.rg
  have sr := sltX_rg op (rowI (gA σ 74) a n.toNat)
  have hsum : ((trS (trN op ts) : Nat) : Int) = 1 + ((rowI (gA σ 74) a n.toNat).map (gA σ 70)).sum := by
    rw [trS_N, hts]
    have key : ∀ l : List Int, (∀ x ∈ l, lvX σ x) → (((l.map (tX σ)).map trS).sum : Int) = (l.map (gA σ 70)).sum := by
      intro l
      induction l with
      | nil => intro _; rfl
      | cons x r ih =>
        intro hr
        simp only [List.map_cons, List.sum_cons]
        rw [← ih (fun y hy => hr y (List.mem_cons_of_mem _ hy)), (h.nd (hr x (List.mem_cons_self ..))).1]
        omega
    have := key (rowI (gA σ 74) a n.toNat) (fun x hx => by
      obtain ⟨k, k0, k1, rfl⟩ := rowI_mem.mp hx
      exact hl k k0 (by omega))
    omega
  unfold x_nodeOf_j126
  refine lx_nodeOf_L132 (fun v k s => s = σ ∧ 0 ≤ k ∧ k ≤ n ∧ 1 ≤ v ∧ v ≤ 1 + 40 * k ∧ v + ((rowI (gA σ 74) (a + k) (n - k).toNat).map (gA σ 70)).sum = 1 + ((rowI (gA σ 74) a n.toNat).map (gA σ 70)).sum) (fun _ k _ => (n - k).toNat) ⟨rfl, by omega, hn, by omega, by omega, by simp⟩ ?_
  rintro v k q fr ⟨rfl, h0, h1, hv0, hv1, h2⟩
  try dsimp only
  by_cases hk : k < n
  · rw [if_pos hk]
    have e1 : w32 (a + k) = a + k := w32_id (by omega) (by omega)
    have e2 : w32 (k + 1) = k + 1 := w32_id (by omega) (by omega)
    have hlk := hl k h0 hk
    have hb := h.nd hlk
    have hb1 : gA q 70 (gA q 74 (a + k)) ≤ 40 := by rw [hb.1]; omega
    have hb2 : 1 ≤ gA q 70 (gA q 74 (a + k)) := by rw [hb.1]; have := trS_pos hb.2.2.1.1; omega
    have e3 : w32 (v + gA q 70 (gA q 74 (a + k))) = v + gA q 70 (gA q 74 (a + k)) := w32_id (by omega) (by omega)
    rw [e1, e2, e3]
    refine ⟨⟨by omega, by omega⟩, ⟨by have := hlk.1; omega, by have := hlk.2; omega⟩, ⟨rfl, by omega, by omega, by omega, by omega, ?_⟩, by omega⟩
    rw [show (n - k).toNat = (n - (k + 1)).toNat + 1 by omega] at h2
    simp only [rowI, List.map_cons, List.sum_cons] at h2
    rw [show a + (k + 1) = a + k + 1 by omega]
    omega
  · rw [if_neg hk]
    rw [show (n - k).toNat = 0 by omega] at h2
    simp only [rowI, List.map_nil, List.sum_nil, Int.add_zero] at h2
    have hv : v = ((trS (trN op ts) : Nat) : Int) := by omega
    clear h2 hv0 hv1 h0 h1 hk
    unfold x_nodeOf_j163
    rw [w32_id (by omega) (by omega)]
    by_cases hbig : v ≤ 40
    · have hr2 : gI q 102 + n ≤ 600000 := by
        have hT : ∀ t ∈ ts, isT t := by
          intro t ht
          rw [hts] at ht
          obtain ⟨y, hy, rfl⟩ := List.mem_map.mp ht
          obtain ⟨j, j0, j1, rfl⟩ := rowI_mem.mp hy
          exact (h.nd (hl j j0 (by omega))).2.2.1.1
        have h5 := trS_len hT
        rw [trS_N] at hv
        rw [hts, List.length_map, rowI_len] at h5
        rw [← hts] at h5
        omega
      rw [if_neg (by omega)]
      rintro s1 rfl
      refine ⟨⟨by omega, by omega⟩, ?_⟩
      rintro s2 rfl
      refine ⟨⟨by omega, by omega⟩, ?_⟩
      rintro s3 rfl
      refine ⟨⟨by omega, by omega⟩, ?_⟩
      rintro s4 hs4
      have e93 : w32 (gI q 93 + 1) = gI q 93 + 1 := w32_id (by omega) (by omega)
      rw [e93] at hs4
      have i93 : gI s4 93 = gI q 93 + 1 := by rw [hs4]; rfl
      have i102 : gI s4 102 = gI q 102 := by rw [hs4]; rfl
      refine lx_nodeOf_L242 (fun k s => 0 ≤ k ∧ k ≤ n ∧ Fr ([102], [], [73]) s4 s ∧ gI s 102 = gI q 102 + k ∧ ∀ j, gA s 73 j = if gI q 102 ≤ j ∧ j < gI q 102 + k then gA q 74 (a + (j - gI q 102)) else gA q 73 j) (fun k _ => (n - k).toNat) ⟨by omega, hn, Fr.rf, by rw [i102]; omega, fun j => by rw [if_neg (by omega), hs4]; rfl⟩ ?_
      rintro k s fr2 ⟨h0, h1, hf, hp, hpl⟩
      try dsimp only
      by_cases hk : k < n
      · rw [if_pos hk]
        rintro s5 hs5
        have e1 : w32 (a + k) = a + k := w32_id (by omega) (by omega)
        have e2 : w32 (k + 1) = k + 1 := w32_id (by omega) (by omega)
        have e3 : w32 (gI s 102 + 1) = gI s 102 + 1 := w32_id (by omega) (by omega)
        rw [e1, e2]
        rw [e3] at hs5
        refine ⟨⟨by omega, by omega⟩, ⟨by omega, by omega⟩, ?_⟩
        rintro s6 hs6
        have hh : gA s5 74 = gA q 74 := by rw [hs5, gA_pI, hf.a _ rfl, hs4]; rfl
        refine ⟨⟨by omega, by omega, (hf.putI hs5 rfl).putA hs6 rfl, ?_, fun j => ?_⟩, by omega⟩
        · rw [hs6, hs5, gI_pA, gI_pI, if_pos rfl, hp]; omega
        · rw [hs6, gA_pA, hh, hs5, gA_pI, hpl]
          by_cases hj : j = gI s 102
          · rw [if_pos ⟨rfl, hj⟩, if_pos (by omega)]
            congr 1
            omega
          · rw [if_neg (fun z => hj z.2)]
            by_cases hj2 : gI q 102 ≤ j ∧ j < gI q 102 + k
            · rw [if_pos hj2, if_pos (by omega)]
            · rw [if_neg hj2, if_neg (by omega)]
      · rw [if_neg hk]
        have ek : k = n := by omega
        subst ek
        unfold x_nodeOf_j279
        refine ⟨⟨by omega, by omega⟩, ?_⟩
        rintro s7 hs7
        refine ⟨⟨by omega, by omega⟩, ?_⟩
        rintro s8 hs8
        -- what stands before the least sort
        have a66 : ∀ x, gA s8 66 x = if x = gI q 93 then op else gA q 66 x := fun x => by
          rw [hs8, hs7]; simp only [gI_pI, gI_pL, gI_pA, gL_pI, gL_pL, gL_pA, gA_pI, gA_pL, gA_pA]; rw [hf.a _ rfl, hs4]; simp only [gI_pI, gI_pL, gI_pA, gL_pI, gL_pL, gL_pA, gA_pI, gA_pL, gA_pA]; simp
        have a67 : ∀ x, gA s8 67 x = if x = gI q 93 then gI q 102 else gA q 67 x := fun x => by
          rw [hs8, hs7]; simp only [gI_pI, gI_pL, gI_pA, gL_pI, gL_pL, gL_pA, gA_pI, gA_pL, gA_pA]; rw [hf.a _ rfl, hs4]; simp only [gI_pI, gI_pL, gI_pA, gL_pI, gL_pL, gL_pA, gA_pI, gA_pL, gA_pA]; simp
        have a68 : ∀ x, gA s8 68 x = if x = gI q 93 then k else gA q 68 x := fun x => by
          rw [hs8, hs7]; simp only [gI_pI, gI_pL, gI_pA, gL_pI, gL_pL, gL_pA, gA_pI, gA_pL, gA_pA]; rw [hf.a _ rfl, hs4]; simp only [gI_pI, gI_pL, gI_pA, gL_pI, gL_pL, gL_pA, gA_pI, gA_pL, gA_pA]; simp
        have a73 : ∀ j, gA s8 73 j = if gI q 102 ≤ j ∧ j < gI q 102 + k then gA q 74 (a + (j - gI q 102)) else gA q 73 j := fun j => by
          rw [hs8, hs7]; simp only [gI_pI, gI_pL, gI_pA, gL_pI, gL_pL, gL_pA, gA_pI, gA_pL, gA_pA]; simp only [hpl]; simp
        have a70 : ∀ x, gA s8 70 x = if x = gI q 93 then v else gA q 70 x := fun x => by
          rw [hs8, hs7]; simp only [gI_pI, gI_pL, gI_pA, gL_pI, gL_pL, gL_pA, gA_pI, gA_pL, gA_pA]; rw [hf.a _ rfl, hs4]; simp only [gI_pI, gI_pL, gI_pA, gL_pI, gL_pL, gL_pA, gA_pI, gA_pL, gA_pA]; simp
        have a75 : ∀ x, gA s8 75 x = if x = gI q 93 then 0 else gA q 75 x := fun x => by
          rw [hs8, hs7]; simp only [gI_pI, gI_pL, gI_pA, gL_pI, gL_pL, gL_pA, gA_pI, gA_pL, gA_pA]; rw [hf.a _ rfl, hs4]; simp only [gI_pI, gI_pL, gI_pA, gL_pI, gL_pL, gL_pA, gA_pI, gA_pL, gA_pA]; simp
        have a69 : gA s8 69 = gA q 69 := by
          funext x; rw [hs8, hs7]; simp only [gI_pI, gI_pL, gI_pA, gL_pI, gL_pL, gL_pA, gA_pI, gA_pL, gA_pA]; rw [hf.a _ rfl, hs4]; simp only [gI_pI, gI_pL, gI_pA, gL_pI, gL_pL, gL_pA, gA_pI, gA_pL, gA_pA]; simp
        have a71 : gA s8 71 = gA q 71 := by
          funext x; rw [hs8, hs7]; simp only [gI_pI, gI_pL, gI_pA, gL_pI, gL_pL, gL_pA, gA_pI, gA_pL, gA_pA]; rw [hf.a _ rfl, hs4]; simp only [gI_pI, gI_pL, gI_pA, gL_pI, gL_pL, gL_pA, gA_pI, gA_pL, gA_pA]; simp
        have a72 : gA s8 72 = gA q 72 := by
          funext x; rw [hs8, hs7]; simp only [gI_pI, gI_pL, gI_pA, gL_pI, gL_pL, gL_pA, gA_pI, gA_pL, gA_pA]; rw [hf.a _ rfl, hs4]; simp only [gI_pI, gI_pL, gI_pA, gL_pI, gL_pL, gL_pA, gA_pI, gA_pL, gA_pA]; simp
        have i93' : gI s8 93 = gI q 93 + 1 := by rw [hs8, hs7]; simp only [gI_pI, gI_pL, gI_pA, gL_pI, gL_pL, gL_pA, gA_pI, gA_pL, gA_pA]; rw [hf.i _ rfl, i93]
        have i102' : gI s8 102 = gI q 102 + k := by rw [hs8, hs7]; simp only [gI_pI, gI_pL, gI_pA, gL_pI, gL_pL, gL_pA, gA_pI, gA_pL, gA_pA]; exact hp
        have frM : Fr ([93, 102], [], [66, 68, 67, 73, 70, 75]) q s8 := by
          have f4 : Fr ([93, 102], [], [66, 68, 67, 73, 70, 75]) q s4 := by
            rw [hs4]
            exact (((Fr.rf.putI rfl rfl).putA rfl rfl).putA rfl rfl).putA rfl rfl
          exact ((f4.trans (hf.weak rfl)).putA hs7 rfl).putA hs8 rfl
        have mo8 : moX s8 = M := by
          rw [← h.mo]
          exact moX_same (apt_i (A := []) (by decide) frM) (apt_a (I := []) (by decide) frM)
        have rws : rowI (gA s8 73) (gI q 102) k.toNat = rowI (gA q 74) a k.toNat := by
          apply rowI_congr
          intro j k0 k1
          rw [a73, if_pos (by omega), show a + (gI q 102 + j - gI q 102) = a + j by omega]
        have fin : ∀ (s9 : S), Fr ([], [], [76]) s8 s9 → x_nodeOf_j324 (sltX op (rowI (gA q 74) a k.toNat)) (gI q 93) (srt M (trN op ts)) (gI q 93) s9 (ndQ M q (trN op ts)) (ndE M q (trN op ts)) := by
          intro s9 f9
          unfold x_nodeOf_j324
          refine ⟨⟨by omega, by omega⟩, ?_⟩
          rintro t1 ht1
          refine ⟨⟨by omega, by omega⟩, ⟨by omega, by omega⟩, ?_⟩
          rintro t2 ht2
          refine ⟨⟨by omega, by omega⟩, ?_⟩
          rintro t3 ht3
          have fr3 : Fr ([], [], [76, 69, 71, 72]) s8 t3 := (((f9.weak rfl).putA ht1 rfl).putA ht2 rfl).putA ht3 rfl
          have mo3 : moX t3 = M := by
            rw [← mo8]
            exact moX_same (apt_i (A := []) (by decide) fr3) (apt_a (I := []) (by decide) fr3)
          have key := XP_new (s := t3) h hM (sz := v) hn hts hl hok hno hr1 hr2 (by omega) mo3 (by rw [fr3.i _ rfl, i93']) (by rw [fr3.i _ rfl, i102'])
            (fun x => by rw [fr3.a _ rfl, a66]) (fun x => by rw [fr3.a _ rfl, a67]) (fun x => by rw [fr3.a _ rfl, a68]) (fun x => by rw [fr3.a _ rfl, a73]) (fun x => by rw [fr3.a _ rfl, a70, hv]) (fun x => by rw [fr3.a _ rfl, a75])
            (fun x => by rw [ht3, ht2, ht1]; simp only [gI_pI, gI_pL, gI_pA, gL_pI, gL_pL, gL_pA, gA_pI, gA_pL, gA_pA]; rw [f9.a 69 rfl, a69]; simp)
            (fun x => by rw [ht3, ht2, ht1]; simp only [gI_pI, gI_pL, gI_pA, gL_pI, gL_pL, gL_pA, gA_pI, gA_pL, gA_pA]; rw [f9.a 72 rfl, f9.a 71 rfl, a71, a72]; simp)
            (fun x => by rw [ht3, ht2, ht1]; simp only [gI_pI, gI_pL, gI_pA, gL_pI, gL_pL, gL_pA, gA_pI, gA_pL, gA_pA]; rw [f9.a 72 rfl, a72]; simp)
          exact ⟨key.1, key.2.1, key.2.2.1, key.2.2.2, by rw [fr3.i _ rfl, i93']; omega, by omega⟩
        have kidT : ∀ t ∈ ts, isT t := by
          intro t ht
          rw [hts] at ht
          obtain ⟨y, hy, rfl⟩ := List.mem_map.mp ht
          obtain ⟨j, j0, j1, rfl⟩ := rowI_mem.mp hy
          exact (h.nd (hl j j0 (by omega))).2.2.1.1
        have hsrt : srt M (trN op ts) = lst M op ((rowI (gA q 74) a k.toNat).map (gA q 69)) := by
          rw [srt_N M op kidT, hts, List.map_map]
          congr 1
          apply List.map_congr_left
          intro y hy
          obtain ⟨j, j0, j1, rfl⟩ := rowI_mem.mp hy
          exact (h.nd (hl j j0 (by omega))).2.1.symm
        by_cases hop : op < 0
        · rw [if_pos hop]
          unfold x_sortOfVariable
          rcases hok with hok | hok
          · have e1 : w32 (-1 - op) = -1 - op := w32_id (by omega) (by omega)
            have hmv := hM.2.2.2.1
            rw [e1]
            have tb : 0 ≤ Int.tmod (-1 - op) 30 ∧ Int.tmod (-1 - op) 30 < 30 := ⟨Int.tmod_nonneg _ (by omega), by omega⟩
            refine ⟨tb, ?_⟩
            have ev : gA s8 58 (Int.tmod (-1 - op) 30) = srt M (trN op ts) := by
              rw [hsrt]
              unfold lst
              rw [if_pos hop, ← mo8]
              rfl
            rw [ev]
            exact fin s8 Fr.rf
          · omega
        · rw [if_neg hop]
          have hok1 := hok
          rcases hok1 with hok1 | hok1
          · omega
          · have hlen : ts.length = k.toNat := by rw [hts, List.length_map, rowI_len]
            have hop3 := hM.op hok1.1 hok1.2.1
            have st8 : gA s8 67 (gI q 93) = gI q 102 := by rw [a67, if_pos rfl]
            refine fm_x_leastOf (xs_leastOf mo8 hM hok1.1 hok1.2.1 (by omega) (by omega) hn (fun ha0 => ?_) (fun ha1 => ?_) (by rw [st8]; omega) (by rw [st8]; omega) (fun j j0 j1 => ?_)) (fun r s9 f9 hr => ?_)
            · have := hok1.2.2.1
              rw [if_neg (by simp [ha0])] at this
              omega
            · have := hok1.2.2.1
              rw [if_pos ha1] at this
              omega
            · rw [st8, a73, if_pos (by omega), show a + (gI q 102 + j - gI q 102) = a + j by omega, a69]
              have hlj := hl j j0 j1
              refine ⟨⟨by have := hlj.1; omega, by have := hlj.2; omega⟩, ?_⟩
              have := (h.nd hlj).2.2.1
              rw [(h.nd hlj).2.1]
              exact srt_rg hM this
            · rw [hr, st8, rws, a69, ← hsrt]
              exact fin s9 (f9.weak rfl)
    · rw [if_pos (Or.inl hbig)]
      exact xs_stop (ndE.mk h (by omega))

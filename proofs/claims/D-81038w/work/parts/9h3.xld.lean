/-! RewriteHouse: kept terms come back -/
def tkS (ks : List Tr) (k : Int) : Int := (((ks.take k.toNat).map trS).sum : Nat)
theorem tkS_0 (ks : List Tr) : tkS ks 0 = 0 := by simp [tkS]
theorem tkS_next {ks : List Tr} {k : Int} {t : Tr} (k0 : 0 ≤ k) (h : ks[k.toNat]? = some t) : tkS ks (k + 1) = tkS ks k + trS t := by
  unfold tkS
  have hk : k.toNat < ks.length := by
    by_cases z : k.toNat < ks.length
    · exact z
    · rw [List.getElem?_eq_none (by omega)] at h; cases h
  rw [List.getElem?_eq_getElem hk] at h
  rw [show (k + 1).toNat = k.toNat + 1 by omega, List.take_succ_eq_append_getElem hk, Option.some.inj h, List.map_append, List.sum_append, List.map_singleton, List.sum_singleton]
  omega
theorem tkS_all {ks : List Tr} {k : Int} (h : (ks.length : Int) ≤ k) : tkS ks k = ((ks.map trS).sum : Nat) := by
  unfold tkS
  rw [List.take_of_length_le (by omega)]
theorem tkS_le {ks : List Tr} {k : Int} : tkS ks k ≤ ((ks.map trS).sum : Nat) := by
  unfold tkS
  have e := congrArg (fun l : List Tr => (l.map trS).sum) (List.take_append_drop k.toNat ks)
  simp only [List.map_append, List.sum_append] at e
  omega
theorem tkS_ge {ks : List Tr} {k : Int} (k1 : k ≤ ks.length) (hT : ∀ t ∈ ks, isT t) : k ≤ tkS ks k := by
  unfold tkS
  have := trS_len (ts := ks.take k.toNat) (fun t ht => hT t (List.mem_of_mem_take ht))
  rw [List.length_take] at this
  omega
def ldQ (M : Mo) (σ : S) (t : Tr) (r : Int) (s : S) : Prop := XP M s ∧ lvX s r ∧ tX s r = t ∧ ExX σ s (fun u => u ∈ subs t) ∧ gI s 93 ≤ gI σ 93 + trS t ∧ gI s 110 = gI σ 110 + 2 * trS t ∧ gI s 106 = gI σ 106 ∧ ∀ j, j < gI σ 106 → gA s 74 j = gA σ 74 j
def ldI (M : Mo) (σ : S) (t : Tr) (ks : List Tr) (k : Int) (s : S) : Prop := 0 ≤ k ∧ k ≤ ks.length ∧ XP M s ∧ ExX σ s (fun u => u ∈ subs t) ∧ gI s 93 ≤ gI σ 93 + tkS ks k ∧ gI s 110 = gI σ 110 + 2 + 2 * tkS ks k ∧ gI s 106 = gI σ 106 + k ∧ (∀ j, j < gI σ 106 → gA s 74 j = gA σ 74 j) ∧ ∀ j, 0 ≤ j → j < k → lvX s (gA s 74 (gI σ 106 + j)) ∧ ks[j.toNat]? = some (tX s (gA s 74 (gI σ 106 + j)))
theorem atR_part {f : Int → Int} {ks : List Tr} {a k : Int} {t : Tr} (h : atR f a (ks.flatMap sv)) (k0 : 0 ≤ k) (hk : ks[k.toNat]? = some t) : atR f (a + 2 * tkS ks k) (sv t) := by
  have hl : k.toNat < ks.length := by
    by_cases z : k.toNat < ks.length
    · exact z
    · rw [List.getElem?_eq_none (by omega)] at hk; cases hk
  rw [List.getElem?_eq_getElem hl] at hk
  have e : ks = ks.take k.toNat ++ (ks[k.toNat] :: ks.drop (k.toNat + 1)) := by
    rw [← List.drop_eq_getElem_cons hl, List.take_append_drop]
  rw [e, List.flatMap_append, List.flatMap_cons, atR_app, atR_app] at h
  have h2 := h.2.1
  rw [svs_len, Option.some.inj hk] at h2
  unfold tkS
  rw [show a + 2 * (((ks.take k.toNat).map trS).sum : Int) = a + ((2 * ((ks.take k.toNat).map trS).sum : Nat) : Int) by omega]
  exact h2
theorem xs_load_at {M : Mo} {v : Nat} (hv : svA v) (L4 : ((dAln dX v : Nat) : Int) ≤ 1000000) : ∀ (n : Nat) (σ : S) (t : Tr), okT M t → trS t ≤ n → XP M σ → atR (gA σ v) (gI σ 110) (sv t) → 0 ≤ gI σ 110 → gI σ 110 + 2 * trS t ≤ ((dAln dX v : Nat) : Int) → 0 ≤ gI σ 106 → gI σ 106 + trS t ≤ 20000 → gI σ 93 + trS t ≤ 200000 → gI σ 102 + 39 * trS t ≤ 600000 →
    x_S_load n 0 [(v : Int)] σ (ldQ M σ t) (fun _ => False) := by
  obtain ⟨a1, a2, a3, a4, a5, a6⟩ := hv.ok
  have av : wX_load.2.2.contains v = false := by rcases hv with rfl | rfl | rfl | rfl <;> rfl
  intro n
  induction n with
  | zero => intro σ t ht hn; have := trS_pos ht.1.1; omega
  | succ n ih =>
    intro σ t ht hn h hr b0 b1 t0 t1 n1 p1
    have hT := ht.1.1
    obtain ⟨c, ks, et, hok, hk⟩ := ht.1.ex
    have hkT : ∀ u ∈ ks, isT u := fun u hu => (hk u hu).1
    have hkO : ∀ u ∈ ks, okT M u := fun u hu => ht.kid (by rw [et, kids_N]; exact hu)
    have hsz := trS_N c ks
    rw [← et] at hsz
    have hsub : ∀ u ∈ ks, ∀ q ∈ subs u, q ∈ subs t := fun u hu q hq => by
      rw [et, subs_N]; exact List.mem_cons_of_mem _ (List.mem_flatMap.mpr ⟨u, hu, hq⟩)
    rw [et, sv_N, atR_cons, atR_cons] at hr
    obtain ⟨r1, r2, r3⟩ := hr
    have rg := h.rg
    have s40 := ht.2
    show x_load_F (x_S_load n) (((v : Nat) : Int).toNat) σ (ldQ M σ t) (fun _ => False)
    rw [Int.toNat_natCast]
    unfold x_load_F
    rintro s1 hs1
    rw [w32_id (by omega) (by omega)] at hs1
    refine ⟨⟨b0, by omega⟩, ?_⟩
    have e1 : gI s1 110 = gI σ 110 + 1 := by rw [hs1, gI_pI, if_pos rfl]
    have v1 : gA s1 v = gA σ v := by rw [hs1]; rfl
    rw [e1, v1]
    rintro s2 hs2
    rw [w32_id (by omega) (by omega)] at hs2
    refine ⟨⟨by omega, by omega⟩, ?_⟩
    have v2 : gA s2 v = gA σ v := by rw [hs2, gA_pI, v1]
    have e2 : gI s2 110 = gI σ 110 + 2 := by rw [hs2, gI_pI, if_pos rfl]; omega
    have f2 : Fr ([110], [], []) σ s2 := (Fr.rf.putI hs1 rfl).putI hs2 rfl
    rw [v2, r1, r2, f2.i 106 rfl]
    have x2 : ExX σ s2 (fun u => u ∈ subs t) := ExX.of_fr f2 rfl
    have hG := fo_x_S_load n
    refine lx_load_L37 hG (ldI M σ t ks) (fun k _ => ((ks.length : Int) - k).toNat) ⟨by omega, by omega, h.fr f2 rfl, x2, by rw [f2.i _ rfl, tkS_0]; omega, by rw [e2, tkS_0]; omega, by rw [f2.i _ rfl]; omega, fun j _ => by rw [f2.a _ rfl], fun j j0 j1 => by omega⟩ ?_
    rintro k s fr ⟨k0, k1, hs, ex, nn, la, tp, hd, hh⟩
    try dsimp only
    have hge := tkS_ge k1 hkT
    have hle := tkS_le (ks := ks) (k := k)
    have gv : gA s v = gA σ v := by rw [fr.a _ av, v2]
    by_cases hkk : k < (ks.length : Int)
    · rw [if_pos hkk]
      have hl : k.toNat < ks.length := by omega
      have gk : ks[k.toNat]? = some ks[k.toNat] := List.getElem?_eq_getElem hl
      generalize hu : ks[k.toNat] = u at gk
      have um : u ∈ ks := by rw [← hu]; exact List.getElem_mem hl
      have nx := tkS_next k0 gk
      have le1 := tkS_le (ks := ks) (k := k + 1)
      have pls := ExX.places (N := fun u => u ∈ subs t) h hs ex (m := tkS ks k) (c := 39) nn (by omega) (by omega) (fun q hq hqT => by
        have := kids_40 hqT (subs_NF ht hq).2
        omega)
      have su := trS_pos (hkT u um)
      refine hG 0 [(v : Int)] s _ _ _ _ (ih s u (hkO u um) (by omega) hs ?_ (by omega) (by omega) (by omega) (by omega) (by omega) (by omega)) ?_ (fun _ _ h => h)
      · rw [gv, la, show gI σ 110 + 2 + 2 * tkS ks k = (gI σ 110 + 1 + 1) + 2 * tkS ks k by omega]
        exact atR_part r3 k0 gk
      · rintro r s5 f5 ⟨q1, q2, q3, q4, q5, q6, q7, q8⟩
        refine xs_push (by omega) (by omega) ?_
        rw [w32_id (by omega) (by omega)]
        have fp : Fr ([106], [], [74]) s5 (pA (pI s5 106 (gI s5 106 + 1)) 74 (gI s5 106) r) := (Fr.rf.putI rfl rfl).putA rfl rfl
        generalize hs6 : pA (pI s5 106 (gI s5 106 + 1)) 74 (gI s5 106) r = s6 at fp
        have h6 : ∀ j, gA s6 74 j = if j = gI σ 106 + k then r else gA s5 74 j := by
          intro j
          rw [← hs6, gA_pA, gA_pI, q7, tp]
          by_cases z : j = gI σ 106 + k
          · rw [if_pos ⟨rfl, z⟩, if_pos z]
          · rw [if_neg (fun e => z e.2), if_neg z]
        have e6 : ∀ x, tX s6 x = tX s5 x := fun x => tX_fr fp rfl x
        have ex5 : ExX σ s5 (fun u => u ∈ subs t) := ex.trans (q4.mono (fun q hq => hsub u um q hq)) rg.1
        refine ⟨⟨by omega, by omega, q1.fr fp rfl, ex5.fr fp rfl, by rw [fp.i _ rfl]; omega, by rw [fp.i _ rfl]; omega, ?_, fun j hj => ?_, fun j j0 j1 => ?_⟩, by omega⟩
        · rw [← hs6, gI_pA, gI_pI, if_pos rfl]; omega
        · rw [h6, if_neg (by omega), q8 j (by omega), hd j hj]
        · rw [h6]
          by_cases z : j = k
          · rw [if_pos (by omega), z, gk, e6, q3]
            exact ⟨⟨q2.1, by rw [fp.i _ rfl]; exact q2.2⟩, rfl⟩
          · obtain ⟨l1, l2⟩ := hh j j0 (by omega)
            rw [if_neg (by omega), q8 _ (by omega), e6, q4.t l1]
            exact ⟨⟨l1.1, by rw [fp.i _ rfl]; exact (q4.lv l1).2⟩, l2⟩
    · rw [if_neg hkk]
      have ek : k = (ks.length : Int) := by omega
      subst ek
      unfold x_load_j62
      rintro s7 hs7
      have f7 : Fr ([106], [], []) s s7 := Fr.rf.putI hs7 rfl
      have h7 := hs.fr f7 rfl
      have tka := tkS_all (ks := ks) (k := (ks.length : Int)) (Int.le_refl _)
      have pls := ExX.places (N := fun u => u ∈ subs t) h hs ex (m := tkS ks ks.length) (c := 39) nn (by omega) (by omega) (fun q hq hqT => by
        have := kids_40 hqT (subs_NF ht hq).2
        omega)
      have e7 : ∀ x, tX s7 x = tX s x := fun x => tX_fr f7 rfl x
      have hts : (rowI (gA s7 74) (gI σ 106) (ks.length : Int).toNat).map (tX s7) = ks := by
        apply List.ext_getElem?
        intro i
        by_cases hi : i < ks.length
        · rw [List.getElem?_map, rowI_get _ _ (by omega), f7.a _ rfl]
          have := (hh (i : Int) (by omega) (by omega)).2
          rw [Int.toNat_natCast] at this
          rw [this]
          simp only [Option.map_some, e7]
        · rw [List.getElem?_eq_none (by rw [List.length_map, rowI_len]; omega), List.getElem?_eq_none (by omega)]
      have nd := xs_nodeOf h7 h7.wm (op := c) (a := gI σ 106) (n := (ks.length : Int)) (ts := ks) t0 (by omega) (by omega) hts (fun j j0 j1 => by
        have := (hh j j0 (by omega)).1
        rw [f7.a _ rfl]
        exact ⟨this.1, by rw [f7.i _ rfl]; exact this.2⟩) hok (by rw [f7.i _ rfl]; omega) (by rw [f7.i _ rfl]; omega)
      refine fm_x_nodeOf nd ?_ ?_
      · rintro r s8 f8 ⟨w1, w2, w3, w4, w5, w6⟩
        have ex7 : ExX σ s7 (fun u => u ∈ subs t) := ex.fr f7 rfl
        refine ⟨w1, w2, by rw [w3, et], ex7.trans (w4.mono (fun q hq => by rw [hq, ← et]; exact subs_self hT)) rg.1, ?_, ?_, ?_, fun j hj => ?_⟩
        · rw [f7.i _ rfl] at w5; omega
        · rw [f8.i _ rfl, f7.i _ rfl]; omega
        · rw [f8.i _ rfl, hs7, gI_pI, if_pos rfl]
        · rw [f8.a _ rfl, f7.a _ rfl]; exact hd j hj
      · rintro s8 f8 ⟨w1, -⟩
        rw [← et] at w1
        omega
theorem xs_loadFrom {M : Mo} {v : Nat} (hv : svA v) (L4 : ((dAln dX v : Nat) : Int) ≤ 1000000) {σ : S} {t : Tr} {a : Int} (ht : okT M t) (h : XP M σ) (hr : atR (gA σ v) a (sv t)) (b0 : 0 ≤ a) (b1 : a + 80 ≤ ((dAln dX v : Nat) : Int)) (t0 : 0 ≤ gI σ 106) (t1 : gI σ 106 + 40 ≤ 20000) (n1 : gI σ 93 + 40 ≤ 200000) (p1 : gI σ 102 + 1560 ≤ 600000) :
    x_loadFrom v a σ (fun r s => Fr wX_load σ s ∧ XP M s ∧ lvX s r ∧ tX s r = t ∧ ExX σ s (fun u => u ∈ subs t) ∧ gI s 93 ≤ gI σ 93 + 40 ∧ gI s 106 = gI σ 106) (fun _ => False) := by
  unfold x_loadFrom
  rintro s1 hs1
  have f1 : Fr ([110], [], []) σ s1 := Fr.rf.putI hs1 rfl
  have g1 : gI s1 110 = a := by rw [hs1, gI_pI, if_pos rfl]
  have v1 : gA s1 v = gA σ v := by rw [hs1]; rfl
  have s40 := ht.2
  have ld := xs_load_at hv L4 44 s1 t ht (by omega) (h.fr f1 rfl) (by rw [v1, g1]; exact hr) (by omega) (by omega) (by rw [f1.i _ rfl]; exact t0) (by rw [f1.i _ rfl]; omega) (by rw [f1.i _ rfl]; omega) (by rw [f1.i _ rfl]; omega)
  refine fm_x_load (v1 := v) ld ?_ (fun _ _ h => h)
  rintro r s f ⟨q1, q2, q3, q4, q5, q6, q7, q8⟩
  have x1 : ExX σ s1 (fun u => u ∈ subs t) := ExX.of_fr f1 rfl
  refine ⟨(f1.weak rfl).trans f, q1, q2, q3, x1.trans q4 h.rg.1, ?_, ?_⟩
  · rw [f1.i _ rfl] at q5; omega
  · rw [q7, f1.i _ rfl]

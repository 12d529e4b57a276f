theorem xs_make_j23 {M : Mo} {σ : S} (h : XP M σ) {o a : Int} {n : Nat} {ts : List Tr} (ha : 0 ≤ a) (han : a + n ≤ 18000) (htop : 0 ≤ gI σ 106 ∧ gI σ 106 ≤ 20000) (hr : rowH σ a n (fltR M o ts)) (hok : mkOk M o ts) (hr1 : gI σ 93 + 2 ≤ 200000) (hr2 : gI σ 102 + 39 ≤ 600000) :
    x_make_j23 o a n σ (mkQ M σ o a (mk M o ts)) (mkE M σ o (mk M o ts)) := by
  have hM := h.wm
  have rg := h.rg
  have hf := fltR_ok hok
  have e : gA σ 54 o = mUn M o := by rw [← h.mo]; rfl
  rw [mk_eq]
  unfold x_make_j23 mk2
  rw [e]
  refine ⟨by have := hM.2.2.1; have := hok.1; have := hok.2.1; omega, ?_⟩
  by_cases hu : mUn M o = -2
  · rw [if_pos hu, if_pos hu]
    have hok3 := okN_mk3 hok.1 hok.2.1 hf.2 (fun q => absurd hu q)
    refine fx_make_j123 Fr.rf (xs_make_j123 h ha (by omega) hr hok.1 hok.2.1 hok3 (by omega) hr2) (fun r s f q => ?_) (fun s f q => ?_)
    · exact ⟨q.1.1, q.1.2.1, q.1.2.2.1, q.1.2.2.2.1.mono (fun t ht => Or.inl ht), by have := q.1.2.2.2.2.1; omega, q.1.2.2.2.2.2, q.2.1, q.2.2⟩
    · exact ⟨q.1, q.2.1, q.2.2.1, q.2.2.2.mono (fun t ht => ht.elim)⟩
  · rw [if_neg hu, if_neg hu]
    refine fm_x_unitNode (xs_unitNode h hok.1 hok.2.1 hu htop.1 htop.2 (by omega) hr2) (fun u s f q => ?_) (fun _ _ q => q.elim)
    obtain ⟨x1, lu, tu, ex, hnod, -⟩ := q
    have lq : ∀ x, lvX σ x → lvX s x ∧ tX s x = tX σ x := fun x hx => ⟨ex.lv hx, ex.t hx⟩
    have r1 : rowH s a n (fltR M o ts) := hr.same (fun k _ _ => by rw [f.a 74 rfl]) lq
    have hpl : gI s 102 ≤ gI σ 102 + 1 * 0 := ExX.places h x1 ex hnod (by omega) (by omega) (fun t ht _ => by rw [ht]; unfold unT; rw [kids_N]; simp)
    have hlen := r1.len
    refine lx_make_L47 (fun l k q => 0 ≤ l ∧ l ≤ k ∧ k ≤ n ∧ Fr ([], [], [74]) s q ∧ rowH q a l.toNat (((fltR M o ts).take k.toNat).filter fun t => decide (lab t ≠ mUn M o)) ∧ (∀ j, j < a ∨ a + k ≤ j → gA q 74 j = gA s 74 j)) (fun _ k _ => (n - k).toNat) ⟨by omega, by omega, by omega, Fr.rf, rowH.nil, fun _ _ => rfl⟩ ?_
    rintro l k q fr2 ⟨l0, l1, k1, f2, rq, oq⟩
    try dsimp only
    have xq := x1.fr f2 rfl
    have l2 := lv_fr f2 rfl
    by_cases hk : k < n
    · rw [if_pos hk]
      have w1 : w32 (a + k) = a + k := w32_id (by omega) (by omega)
      rw [w1]
      have hkl : k.toNat < n := by omega
      have lk := r1.1 k (by omega) hk
      have hv : gA q 74 (a + k) = gA s 74 (a + k) := oq _ (Or.inr (by omega))
      have hat := r1.at hkl
      rw [show a + ((k.toNat : Nat) : Int) = a + k by omega] at hat
      have htk : (fltR M o ts).take (k + 1).toNat = (fltR M o ts).take k.toNat ++ [tX s (gA s 74 (a + k))] := by
        rw [show (k + 1).toNat = k.toNat + 1 by omega, List.take_add_one, hat]; rfl
      have hnf : NF M (tX s (gA s 74 (a + k))) := (x1.nd lk).2.2.1
      have hui := unit_is hM hok.1 hok.2.1 hu hnf
      refine ⟨⟨by omega, by omega⟩, ?_⟩
      rw [hv]
      by_cases heq : gA s 74 (a + k) = u
      · rw [if_pos heq]
        unfold x_make_j88
        rw [w32_id (by omega) (by omega)]
        refine ⟨⟨by omega, by omega, by omega, f2, ?_, fun j hj => oq j (by omega)⟩, by omega⟩
        rw [htk, List.filter_append]
        have : lab (tX s (gA s 74 (a + k))) = mUn M o := hui.mpr (by rw [heq, tu])
        simp only [List.filter_cons, List.filter_nil]
        rw [if_neg (by simp [this]), List.append_nil]
        exact rq
      · rw [if_neg heq]
        have hlab : lab (tX s (gA s 74 (a + k))) ≠ mUn M o := by
          intro z
          apply heq
          exact x1.inj lk lu (by rw [hui.mp z, tu])
        have w2 : w32 (a + l) = a + l := w32_id (by omega) (by omega)
        rw [w2]
        refine ⟨⟨by omega, by omega⟩, ⟨by omega, by omega⟩, ?_⟩
        rintro q1 hq1
        unfold x_make_j88
        rw [w32_id (by omega) (by omega), w32_id (by omega) (by omega)]
        have f3 : Fr ([], [], [74]) q q1 := Fr.rf.putA hq1 rfl
        have l3 := lv_fr f3 rfl
        refine ⟨⟨by omega, by omega, by omega, f2.putA hq1 rfl, ?_, fun j hj => ?_⟩, by omega⟩
        · rw [htk, List.filter_append]
          simp only [List.filter_cons, List.filter_nil]
          rw [if_pos (by simp [hlab]), show (l + 1).toNat = l.toNat + 1 by omega]
          have hv1 : gA q1 74 (a + l) = gA s 74 (a + k) := by rw [hq1]; simp [gI_pI, gI_pL, gI_pA, gL_pI, gL_pL, gL_pA, gA_pI, gA_pL, gA_pA, hv]
          have one := rowH.one (σ := q1) (a := a + l) (by rw [hv1]; exact (l3 _ (l2 _ lk).1).1)
          rw [hv1, (l3 _ (l2 _ lk).1).2, (l2 _ lk).2] at one
          refine rowH.app (rq.same (fun j j0 j1 => ?_) l3) (by rw [show a + ((l.toNat : Nat) : Int) = a + l by omega]; exact one)
          rw [hq1]; simp only [gI_pI, gI_pL, gI_pA, gL_pI, gL_pL, gL_pA, gA_pI, gA_pL, gA_pA]; rw [if_neg (by omega)]
        · rw [hq1]; simp only [gI_pI, gI_pL, gI_pA, gL_pI, gL_pL, gL_pA, gA_pI, gA_pL, gA_pA]; rw [if_neg (by omega)]; exact oq j (by omega)
    · rw [if_neg hk]
      have ek : k.toNat = n := by omega
      rw [ek, List.take_of_length_le (by omega)] at rq
      unfold x_make_j94
      rintro q1 hq1
      have f3 : Fr ([106], [], [74]) s q1 := (f2.weak rfl).putI hq1 rfl
      have f4 : Fr ([106], [], []) q q1 := Fr.rf.putI hq1 rfl
      have xq1 := x1.fr f3 rfl
      have l4 := lv_fr f4 rfl
      have e3 : ∀ N, ExX s q1 N := fun N => ExX.of_fr f3 rfl
      have e4 : ∀ N : Tr → Prop, ExX σ q1 (fun t => N t ∨ t = unT M o) := fun N => (ex.mono (fun t ht => Or.inr ht)).trans (e3 _) rg.1
      have hh : ∀ j, j < a → gA q1 74 j = gA σ 74 j := fun j hj => by rw [hq1, gA_pI, oq j (Or.inl hj), f.a 74 rfl]
      have rq1 : rowH q1 a l.toNat ((fltR M o ts).filter fun t => decide (lab t ≠ mUn M o)) := rq.same (fun j _ _ => by rw [f4.a _ rfl]) l4
      have hl5 := rq1.len
      have i93 : gI q1 93 ≤ gI σ 93 + 1 := by rw [f3.i _ rfl]; exact hnod
      have ht1 : gI q1 106 = a := by rw [hq1]; rfl
      by_cases hl2 : l < 2
      · rw [if_pos hl2]
        refine ⟨fun _ => ⟨by omega, by omega⟩, ?_⟩
        have l01 : l = 0 ∨ l = 1 := by omega
        rcases l01 with rfl | rfl
        · have : ((fltR M o ts).filter fun t => decide (lab t ≠ mUn M o)) = [] := List.length_eq_zero_iff.mp (by omega)
          rw [this, if_pos rfl]
          have tq : tX q1 u = unT M o := by rw [(e3 (fun _ => False)).t lu, tu]
          exact ⟨xq1, (e3 (fun _ => False)).lv lu, tq, (e4 (fun _ => False)).mono (fun t ht => ht.elim False.elim (fun z => Or.inl z)), by omega, by unfold unT; rw [trS_N]; simp, ht1, hh⟩
        · match hft : (fltR M o ts).filter (fun t => decide (lab t ≠ mUn M o)), hl5 with
          | [t], _ =>
            rw [if_neg (by omega)]
            rw [hft] at rq1
            have l0 := rq1.1 0 (by omega) (by omega)
            rw [Int.add_zero] at l0
            have t0 := rq1.2
            simp only [show (1 : Int).toNat = 1 from rfl, rowI, List.map_cons, List.map_nil, List.cons.injEq, and_true] at t0
            refine ⟨xq1, l0, t0, (e4 (fun _ => False)).mono (fun u hu' => ?_), by omega, by rw [← t0]; exact (xq1.nd l0).2.2.2, ht1, hh⟩
            rcases hu' with hu' | hu'
            · exact hu'.elim
            · exact Or.inr ⟨hu, hu'⟩
          | [], e => simp at e
          | _ :: _ :: _, e => simp at e
      · rw [if_neg hl2]
        have hok3 := okN_flt hM hok hu (by omega)
        match hft : (fltR M o ts).filter (fun t => decide (lab t ≠ mUn M o)), hl5 with
        | [], e => simp at e; omega
        | [_], e => simp at e; omega
        | b :: c :: r, _ =>
          rw [hft] at hok3 rq1
          have := xs_make_j123 xq1 ha (n := l.toNat) (by omega) rq1 hok.1 hok.2.1 hok3 (by omega) (by rw [f3.i _ rfl]; omega)
          rw [show ((l.toNat : Nat) : Int) = l by omega] at this
          refine fx_make_j123 Fr.rf this (fun r s2 f5 z => ?_) (fun s2 f5 z => ?_)
          · refine ⟨z.1.1, z.1.2.1, z.1.2.2.1, ?_, by have := z.1.2.2.2.2.1; omega, z.1.2.2.2.2.2, z.2.1, fun j hj => by rw [z.2.2 j hj]; exact hh j hj⟩
            exact ((e4 (fun _ => False)).mono (fun u hu' => hu'.elim False.elim (fun y => Or.inr ⟨hu, y⟩))).trans (z.1.2.2.2.1.mono (fun u hu' => Or.inl hu')) rg.1
          · exact ⟨z.1, z.2.1, z.2.2.1, ((e4 (fun _ => False)).mono (fun u hu' => hu'.elim False.elim (fun y => ⟨hu, y⟩))).trans (z.2.2.2.mono (fun u hu' => hu'.elim)) rg.1⟩
theorem xs_make {M : Mo} {σ : S} (h : XP M σ) {o a : Int} {n : Nat} {ts : List Tr} (ha : 0 ≤ a) (htop : gI σ 106 = a + n) (hn : n ≤ 60) (ht : a + n ≤ 15000) (hr : rowH σ a n ts) (hok : mkOk M o ts) (hr1 : gI σ 93 + 2 ≤ 200000) (hr2 : gI σ 102 + 39 ≤ 600000) :
    x_make o a σ (mkQ M σ o a (mk M o ts)) (mkE M σ o (mk M o ts)) := by
  have hM := h.wm
  have rg := h.rg
  have e : gA σ 52 o = mAs M o := by rw [← h.mo]; rfl
  unfold x_make
  rw [e]
  refine ⟨by have := hM.2.2.1; have := hok.1; have := hok.2.1; omega, ?_⟩
  by_cases has : mAs M o = 0
  · rw [if_pos has, htop, w32_id (by omega) (by omega), show a + (n : Int) - a = n by omega]
    exact xs_make_j23 h ha (by omega) (by omega) (by unfold fltR; rw [if_neg (by simp [has])]; exact hr) hok hr1 hr2
  · rw [if_neg has]
    have hsz : ∀ t ∈ ts, trS t ≤ 40 ∧ isT t := by
      intro t ht
      rw [← hr.2] at ht
      obtain ⟨y, hy, rfl⟩ := List.mem_map.mp ht
      obtain ⟨k, k0, k1, rfl⟩ := rowI_mem.mp hy
      exact ⟨(h.nd (hr.1 k k0 k1)).2.2.2, h.T (hr.1 k k0 k1)⟩
    have hfl := flat_len (M := M) (o := o) hsz
    have hlen := hr.len
    refine fm_x_flatten (xs_flatten h ha htop hn ht hr) (fun r s f q => ?_)
    obtain ⟨e1, e2, e3, e4⟩ := q
    have xs := h.fr f rfl
    have ex : ∀ N, ExX σ s N := fun N => ExX.of_fr f rfl
    rw [e1]
    have hfe : fltR M o ts = flat o ts := by unfold fltR; rw [if_pos has]
    refine fx_make_j23 Fr.rf (xs_make_j23 xs ha (n := (flat o ts).length) (ts := ts) (by omega) (by omega) (by rw [hfe]; exact e3) hok (by rw [f.i _ rfl]; exact hr1) (by rw [f.i _ rfl]; exact hr2)) (fun r s2 f2 q => ?_) (fun s2 f2 q => ?_)
    · exact ⟨q.1, q.2.1, q.2.2.1, (ex _).trans q.2.2.2.1 rg.1, by have := q.2.2.2.2.1; rw [f.i _ rfl] at this; exact this, q.2.2.2.2.2.1, q.2.2.2.2.2.2.1, fun j hj => by rw [q.2.2.2.2.2.2.2 j hj]; exact e4 j hj⟩
    · exact ⟨q.1, q.2.1, q.2.2.1, (ex _).trans q.2.2.2 rg.1⟩

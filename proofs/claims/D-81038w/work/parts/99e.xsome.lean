/-! RewriteHouse: elements as a term -/
theorem xs_makeSome {M : Mo} {σ : S} (h : XP M σ) {o a : Int} {n : Nat} {ts : List Tr} (h0 : 0 ≤ o) (h1 : o < mOps M) (has : mAs M o ≠ 0) (ha : 0 ≤ a) (htop : gI σ 106 = a + n) (hn : n ≤ 60) (ht : a + n ≤ 15000) (hr : rowH σ a n ts) (hsz : trS (mkS M o ts) ≤ 40) (hr1 : gI σ 93 + 2 ≤ 200000) (hr2 : gI σ 102 + 39 ≤ 600000) :
    x_makeSome o a σ (fun r s => XP M s ∧ olX s r ∧ oX s r = mkS M o ts ∧ ExX σ s (fun u => u = mkS M o ts ∨ mUn M o ≠ -2 ∧ u = unT M o) ∧ gI s 93 ≤ gI σ 93 + 2 ∧ gI s 106 = a ∧ ∀ j, j < a → gA s 74 j = gA σ 74 j) (fun _ => False) := by
  have hM := h.wm
  have rg := h.rg
  have hb := hM.2.2.1
  have hlen := hr.len
  unfold x_makeSome
  rw [htop, w32_id (by omega) (by omega), show a + (n : Int) - a = n by omega]
  by_cases h2 : (n : Int) < 2
  · rw [if_pos h2]
    by_cases hz : (n : Int) = 0
    · rw [if_pos hz, moX_un h]
      have hnil : ts = [] := List.length_eq_zero_iff.mp (by omega)
      subst hnil
      refine ⟨by omega, ?_⟩
      by_cases hu : mUn M o = -2
      · rw [if_pos hu]
        unfold x_makeSome_j45
        rintro s1 hs1
        have f1 : Fr ([106], [], []) σ s1 := Fr.rf.putI hs1 rfl
        refine ⟨h.fr f1 rfl, Or.inl rfl, ?_, ExX.of_fr f1 rfl, by rw [f1.i _ rfl]; omega, by rw [hs1]; rfl, fun j _ => by rw [f1.a _ rfl]⟩
        rw [oX_0]
        simp only [mkS]
        rw [if_pos hu]
      · rw [if_neg hu]
        refine fm_x_unitNode (xs_unitNode h h0 h1 hu (by omega) (by omega) (by omega) hr2) (fun r s f q => ?_) (fun _ _ q => q.elim)
        obtain ⟨x1, lr, tr, ex, hnod, -⟩ := q
        unfold x_makeSome_j45
        rintro s1 hs1
        have f1 : Fr ([106], [], []) s s1 := Fr.rf.putI hs1 rfl
        have l1 := lv_fr f1 rfl
        refine ⟨x1.fr f1 rfl, Or.inr (l1 _ lr).1, ?_, (ex.mono (fun u hu' => Or.inr ⟨hu, hu'⟩)).fr f1 rfl, by rw [f1.i _ rfl]; omega, by rw [hs1]; rfl, fun j _ => by rw [f1.a _ rfl, f.a 74 rfl]⟩
        rw [oX_n (l1 _ lr).1, (l1 _ lr).2, tr]
        simp only [mkS]
        rw [if_neg hu]
    · rw [if_neg hz]
      match ts, hlen, hr with
      | [t], _, hr =>
        have l0 := hr.1 0 (by omega) (by omega)
        rw [Int.add_zero] at l0
        have hn1 : n = 1 := by omega
        subst hn1
        have t0 := hr.2
        simp only [rowI, List.map_cons, List.map_nil, List.cons.injEq, and_true] at t0
        refine ⟨by omega, ?_⟩
        unfold x_makeSome_j45
        rintro s1 hs1
        have f1 : Fr ([106], [], []) σ s1 := Fr.rf.putI hs1 rfl
        have l1 := lv_fr f1 rfl
        refine ⟨h.fr f1 rfl, Or.inr (l1 _ l0).1, ?_, ExX.of_fr f1 rfl, by rw [f1.i _ rfl]; omega, by rw [hs1]; rfl, fun j _ => by rw [f1.a _ rfl]⟩
        rw [oX_n (l1 _ l0).1, (l1 _ l0).2, t0]
        rfl
      | [], e, _ => simp at e; omega
      | _ :: _ :: _, e, _ => simp at e; omega
  · rw [if_neg h2]
    match ts, hlen, hr, hsz with
    | [], e, _, _ => simp at e; omega
    | [_], e, _, _ => simp at e; omega
    | b :: c :: r, _, hr, hsz =>
      have hok : mkOk M o (b :: c :: r) := by
        refine ⟨h0, h1, by rw [if_pos has]; simp, fun t ht' => ?_⟩
        rw [← hr.2] at ht'
        obtain ⟨y, hy, rfl⟩ := List.mem_map.mp ht'
        obtain ⟨k, k0, k1, rfl⟩ := rowI_mem.mp hy
        exact (h.nd (hr.1 k k0 k1)).2.2.1
      refine fm_x_make (xs_make h ha htop hn ht hr hok hr1 hr2) (fun r' s f q => ?_) (fun s f q => ?_)
      · obtain ⟨q1, q2, q3, q4, q5, q6, q7, q8⟩ := q
        exact ⟨q1, Or.inr q2, by rw [oX_n q2, q3]; rfl, q4, q5, q7, q8⟩
      · have := q.1
        simp only [mkS] at hsz
        omega

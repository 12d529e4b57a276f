theorem insR_skip {t : Tr} {l1 : List Tr} (l2 : List Tr) (h : ∀ e ∈ l1, cmT t e < 0) : insR t (l1 ++ l2) = l1 ++ insR t l2 := by
  induction l1 with
  | nil => rfl
  | cons e r ih =>
    simp only [List.cons_append, insR]
    rw [if_pos (h e (List.mem_cons_self ..)), ih (fun q hq => h q (List.mem_cons_of_mem _ hq))]
theorem insR_stay {t : Tr} {l : List Tr} (h : ∀ e, l.head? = some e → ¬ cmT t e < 0) : insR t l = t :: l := by
  cases l with
  | nil => rfl
  | cons e r => simp only [insR]; rw [if_neg (h e rfl)]
/-- a step of sorting, on the row as it lies -/
theorem ins_row {t : Tr} {A B : List Tr} (hB : ∀ e ∈ B, cmT t e < 0) (hA : ∀ e, A.getLast? = some e → ¬ cmT t e < 0) : (insR t (A ++ B).reverse).reverse = A ++ t :: B := by
  rw [List.reverse_append, insR_skip _ (fun e he => hB e (List.mem_reverse.mp he)), insR_stay (fun e he => hA e (by rw [← List.head?_reverse]; exact he))]
  simp
theorem xs_arrange {M : Mo} {σ : S} (h : XP M σ) {a : Int} {n : Nat} {ts : List Tr} (ha : 0 ≤ a) (han : a + n ≤ 20000) (hr : rowH σ a n ts) :
    x_arrange a n σ (fun _ s => rowH s a n (isort ts) ∧ ∀ j, j < a ∨ a + n ≤ j → gA s 74 j = gA σ 74 j) := by
  have hlen := hr.len
  unfold x_arrange
  by_cases hn : n ≤ 1
  · unfold x_arrange_L2
    intro Y hY
    refine hY 1 σ ?_
    rw [if_neg (by omega)]
    refine ⟨?_, fun _ _ => rfl⟩
    rw [isort_id]
    · exact hr
    · match ts, hlen with
      | [], _ => trivial
      | [_], _ => trivial
      | _ :: _ :: _, e => simp at e; omega
  refine lx_arrange_L2 (fun k s => 1 ≤ k ∧ k ≤ n ∧ rowH s a k.toNat ((ts.take k.toNat).foldl (fun acc t => insR t acc) []).reverse ∧ rowH s (a + k) (n - k.toNat) (ts.drop k.toNat) ∧ ∀ j, j < a ∨ a + n ≤ j → gA s 74 j = gA σ 74 j) (fun k _ => (n - k).toNat) ⟨by omega, by omega, ?_, ?_, fun _ _ => rfl⟩ ?_
  · have := (rowH.split (n := 1) (m := n - 1) (by rw [show 1 + (n - 1) = n by omega]; exact hr)).1
    have e : ((ts.take (1 : Int).toNat).foldl (fun acc t => insR t acc) []).reverse = ts.take 1 := by
      match ts, hlen with
      | [], e => simp
      | t :: r, _ => rfl
    rw [e]
    exact this
  · exact (rowH.split (n := 1) (m := n - 1) (by rw [show 1 + (n - 1) = n by omega]; exact hr)).2
  rintro k s fr ⟨k0, k1, r1, r2, out⟩
  try dsimp only
  have hs : XP M s := h.fr fr rfl
  by_cases hk : k < n
  · rw [if_pos hk, w32_id (by omega) (by omega)]
    have hkn : k.toNat < ts.length := by omega
    have hd : ts.drop k.toNat = ts[k.toNat] :: ts.drop (k.toNat + 1) := List.drop_eq_getElem_cons hkn
    have sp := rowH.split (σ := s) (a := a + k) (n := 1) (m := n - (k.toNat + 1)) (ts := ts.drop k.toNat) (by rw [show 1 + (n - (k.toNat + 1)) = n - k.toNat by omega]; exact r2)
    have tk : (ts.drop k.toNat).take 1 = [ts[k.toNat]] := by rw [hd]; rfl
    have dk : (ts.drop k.toNat).drop 1 = ts.drop (k.toNat + 1) := by rw [hd]; rfl
    rw [tk, dk] at sp
    have htk : ts.take (k + 1).toNat = ts.take k.toNat ++ [ts[k.toNat]] := by rw [show (k + 1).toNat = k.toNat + 1 by omega, List.take_add_one, List.getElem?_eq_getElem hkn]; rfl
    have hfold : (ts.take (k + 1).toNat).foldl (fun acc t => insR t acc) [] = insR ts[k.toNat] ((ts.take k.toNat).foldl (fun acc t => insR t acc) []) := by rw [htk, List.foldl_append]; rfl
    have lx : lvX s (gA s 74 (a + k)) := by have := sp.1.1 0 (by omega) (by omega); simpa using this
    have tx : tX s (gA s 74 (a + k)) = ts[k.toNat] := by
      have := sp.1.2
      simp only [rowI, List.map_cons, List.map_nil, List.cons.injEq, and_true] at this
      exact this
    refine lx_arrange_L12 (fun j q => a ≤ j ∧ j ≤ a + k ∧ Fr ([], [], [74]) s q ∧ gA q 74 j = gA s 74 (a + k) ∧ (∀ i, i < a ∨ a + k < i → gA q 74 i = gA s 74 i) ∧ ∃ A B, ((ts.take k.toNat).foldl (fun acc t => insR t acc) []).reverse = A ++ B ∧ rowH q a (j - a).toNat A ∧ rowH q (j + 1) (a + k - j).toNat B ∧ ∀ e ∈ B, cmT ts[k.toNat] e < 0) (fun j _ => (j - a).toNat) ⟨by omega, by omega, Fr.rf, rfl, fun _ _ => rfl, ((ts.take k.toNat).foldl (fun acc t => insR t acc) []).reverse, [], (by simp), by rw [show (a + k - a).toNat = k.toNat by omega]; exact r1, by rw [show (a + k - (a + k)).toNat = 0 by omega]; exact rowH.nil, by simp⟩ ?_
    rintro j q fr2 ⟨j0, j1, f, hj, oq, A, B, hAB, rA, rB, hB⟩
    try dsimp only
    have hq : XP M q := hs.fr f rfl
    have lq := lv_fr f rfl
    -- behind the step
    have fin : ∀ q', q' = q → (∀ e, A.getLast? = some e → ¬ cmT ts[k.toNat] e < 0) → x_arrange_j83 a n k q' (fun _ s => rowH s a n (isort ts) ∧ ∀ j, j < a ∨ a + n ≤ j → gA s 74 j = gA σ 74 j) (fun v3' s' => (1 ≤ v3' ∧ v3' ≤ n ∧ rowH s' a v3'.toNat ((ts.take v3'.toNat).foldl (fun acc t => insR t acc) []).reverse ∧ rowH s' (a + v3') (n - v3'.toNat) (ts.drop v3'.toNat) ∧ ∀ j, j < a ∨ a + n ≤ j → gA s' 74 j = gA σ 74 j) ∧ (n - v3').toNat < (n - k).toNat) := by
      rintro q' rfl hA
      unfold x_arrange_j83
      rw [w32_id (by omega) (by omega)]
      refine ⟨⟨by omega, by omega, ?_, ?_, fun i hi => ?_⟩, by omega⟩
      · rw [hfold]
        have e : ((ts.take k.toNat).foldl (fun acc t => insR t acc) []) = (A ++ B).reverse := by rw [← hAB, List.reverse_reverse]
        rw [e, ins_row hB hA]
        have one := rowH.one (σ := q') (a := j) (by rw [hj]; exact (lq _ lx).1)
        rw [hj, (lq _ lx).2, tx] at one
        have := (rowH.app (σ := q') (a := a) (n := (j - a).toNat) (m := 1 + (a + k - j).toNat) rA (by rw [show a + (((j - a).toNat : Nat) : Int) = j by omega]; exact one.app rB))
        rw [show (j - a).toNat + (1 + (a + k - j).toNat) = (k + 1).toNat by omega] at this
        exact this
      · rw [show (k + 1).toNat = k.toNat + 1 by omega, show a + (k + 1) = a + k + 1 by omega]
        refine sp.2.same (fun i i0 i1 => ?_) lq
        have := oq (a + k + 1 + i) (Or.inr (by omega))
        exact this
      · rw [oq i (by omega)]
        exact out i hi
    by_cases hja : j ≤ a
    · rw [if_pos hja]
      refine fin q rfl (fun e he => ?_)
      have : A = [] := List.length_eq_zero_iff.mp (by rw [rA.len]; omega)
      rw [this] at he
      simp at he
    · rw [if_neg hja]
      have w1 : w32 (j - 1) = j - 1 := w32_id (by omega) (by omega)
      rw [w1]
      have lp : lvX q (gA q 74 (j - 1)) := by
        have := rA.1 (j - 1 - a) (by omega) (by omega)
        rw [show a + (j - 1 - a) = j - 1 by omega] at this
        exact this
      have hlA := rA.len
      have spA := rowH.split (σ := q) (a := a) (n := (j - 1 - a).toNat) (m := 1) (ts := A) (by rw [show (j - 1 - a).toNat + 1 = (j - a).toNat by omega]; exact rA)
      rw [show a + (((j - 1 - a).toNat : Nat) : Int) = j - 1 by omega] at spA
      have dA : A.drop (j - 1 - a).toNat = [tX q (gA q 74 (j - 1))] := by
        have := spA.2.2
        simp only [rowI, List.map_cons, List.map_nil] at this
        exact this.symm
      have eA : A = A.take (j - 1 - a).toNat ++ [tX q (gA q 74 (j - 1))] := by rw [← dA, List.take_append_drop]
      refine ⟨⟨by omega, by omega⟩, ⟨by omega, by omega⟩, ?_⟩
      refine xs_compare hq (by rw [hj]; exact (lq _ lx).1) lp ?_
      rw [hj, (lq _ lx).2, tx]
      by_cases hc : cmT ts[k.toNat] (tX q (gA q 74 (j - 1))) < 0
      · rw [if_pos hc]
        refine ⟨⟨by omega, by omega⟩, ⟨by omega, by omega⟩, ⟨by omega, by omega⟩, ?_⟩
        rintro q1 hq1
        refine ⟨⟨by omega, by omega⟩, ?_⟩
        rintro q2 hq2
        rw [w32_id (by omega) (by omega)]
        have hv : ∀ i, gA q2 74 i = if i = j - 1 then gA s 74 (a + k) else if i = j then gA q 74 (j - 1) else gA q 74 i := by
          intro i
          rw [hq2, hq1]
          simp only [gI_pI, gI_pL, gI_pA, gL_pI, gL_pL, gL_pA, gA_pI, gA_pL, gA_pA]
          simp [hj]
        have f2 : Fr ([], [], [74]) s q2 := (f.putA hq1 rfl).putA hq2 rfl
        have f3 : Fr ([], [], [74]) q q2 := (Fr.rf.putA hq1 rfl).putA hq2 rfl
        have l3 := lv_fr f3 rfl
        refine ⟨⟨by omega, by omega, f2, ?_, fun i hi => ?_, A.take (j - 1 - a).toNat, tX q (gA q 74 (j - 1)) :: B, ?_, ?_, ?_, ?_⟩, by omega⟩
        · rw [hv, if_pos (by omega)]
        · rw [hv, if_neg (by omega), if_neg (by omega)]; exact oq i hi
        · rw [hAB]
          conv => lhs; rw [eA]
          simp
        · rw [show (j + -1 - a).toNat = (j - 1 - a).toNat by omega]
          refine spA.1.same (fun i i0 i1 => ?_) l3
          rw [hv, if_neg (by omega), if_neg (by omega)]
        · have one := rowH.one (σ := q2) (a := j) (by rw [hv, if_neg (by omega), if_pos rfl]; exact (l3 _ lp).1)
          rw [hv, if_neg (by omega), if_pos rfl, (l3 _ lp).2] at one
          have := one.app (m := (a + k - j).toNat) (us := B) (rB.same (fun i i0 i1 => by rw [hv, if_neg (by omega), if_neg (by omega)]; rfl) l3)
          rw [show 1 + (a + k - j).toNat = (a + k - (j + -1)).toNat by omega] at this
          rw [show j + -1 + 1 = j by omega]
          exact this
        · intro e he
          rcases List.mem_cons.mp he with rfl | he
          · exact hc
          · exact hB e he
      · rw [if_neg hc]
        refine fin q rfl (fun e he => ?_)
        rw [eA, List.getLast?_append] at he
        simp at he
        rw [← he]
        exact hc
  · rw [if_neg hk]
    have ek : k = n := by omega
    refine ⟨?_, out⟩
    have : k.toNat = n := by omega
    rw [this, List.take_of_length_le (by omega)] at r1
    exact r1

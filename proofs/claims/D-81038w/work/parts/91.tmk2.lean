def fltT (M : Mo) (o : Int) (ts : List Tr) : List Tr := ts.flatMap fun t => if mAs M o ≠ 0 ∧ lab t = o then kids t else if mUn M o ≠ -2 ∧ lab t = mUn M o then [] else [t]
def mkV (M : Mo) (o : Int) (ts : List Tr) : Tr :=
  if mAs M o = 0 ∧ mUn M o = -2 ∧ mCo M o = 0 then trN o ts
  else match fltT M o ts with
    | [] => if mUn M o = -2 then .nil else unT M o
    | [t] => t
    | a :: b :: r => mk3 M o (a :: b :: r)
theorem fltT_cons (M : Mo) (o : Int) (t : Tr) (r : List Tr) : fltT M o (t :: r) = (if mAs M o ≠ 0 ∧ lab t = o then kids t else if mUn M o ≠ -2 ∧ lab t = mUn M o then [] else [t]) ++ fltT M o r := by unfold fltT; rw [List.flatMap_cons]
theorem fltT_app (M : Mo) (o : Int) (a b : List Tr) : fltT M o (a ++ b) = fltT M o a ++ fltT M o b := by unfold fltT; rw [List.flatMap_append]
theorem kids_nu {M : Mo} {o : Int} (hu : mUn M o ≠ -2) (h0 : 0 ≤ o) {t : Tr} (ht : NF M t) (hl : lab t = o) : ∀ u ∈ kids t, lab u ≠ mUn M o := by
  obtain ⟨c, us, rfl, hok, -⟩ := ht.ex
  rw [lab_N] at hl
  subst hl
  rw [kids_N]
  rcases hok with q | q
  · omega
  · exact q.2.2.2.1 hu
theorem fltT_eq {M : Mo} {o : Int} (h0 : 0 ≤ o) {ts : List Tr} (h : ∀ t ∈ ts, NF M t) : fltT M o ts = if mUn M o = -2 then fltR M o ts else (fltR M o ts).filter fun t => decide (lab t ≠ mUn M o) := by
  induction ts with
  | nil => simp [fltT, fltR, flat]
  | cons t r ih =>
    have ih := ih (fun u hu => h u (List.mem_cons_of_mem _ hu))
    have ht := h t (List.mem_cons_self ..)
    rw [fltT_cons, ih]
    have e : fltR M o (t :: r) = (if mAs M o ≠ 0 ∧ lab t = o then kids t else [t]) ++ fltR M o r := by
      unfold fltR
      by_cases ha : mAs M o ≠ 0
      · rw [if_pos ha, if_pos ha, flat_cons]
        by_cases hl : lab t = o
        · rw [if_pos hl, if_pos ⟨ha, hl⟩]
        · rw [if_neg hl, if_neg (fun z => hl z.2)]
      · rw [if_neg ha, if_neg ha, if_neg (fun z => ha z.1)]; rfl
    rw [e]
    by_cases hu : mUn M o = -2
    · rw [if_pos hu, if_pos hu]
      congr 1
      by_cases hc : mAs M o ≠ 0 ∧ lab t = o
      · rw [if_pos hc, if_pos hc]
      · rw [if_neg hc, if_neg hc, if_neg (fun z => z.1 hu)]
    · rw [if_neg hu, if_neg hu, List.filter_append]
      congr 1
      by_cases hc : mAs M o ≠ 0 ∧ lab t = o
      · rw [if_pos hc, if_pos hc]
        symm
        rw [List.filter_eq_self]
        intro u hu'
        simpa using kids_nu hu h0 ht hc.2 u hu'
      · rw [if_neg hc, if_neg hc]
        by_cases hl : lab t = mUn M o
        · rw [if_pos ⟨hu, hl⟩]; simp [hl]
        · rw [if_neg (fun z => hl z.2)]; simp [hl]
theorem mkV_mk {M : Mo} (hM : WM M) {o : Int} {ts : List Tr} (h : mkOk M o ts) : mkV M o ts = mk M o ts := by
  have hf := fltR_ok h
  have hw := hM.op h.1 h.2.1
  unfold mkV
  rw [mk_eq]
  unfold mk2
  rw [fltT_eq h.1 h.2.2.2]
  by_cases hd : mAs M o = 0 ∧ mUn M o = -2 ∧ mCo M o = 0
  · rw [if_pos hd, if_pos hd.2.1]
    unfold mk3 fltR
    rw [if_neg (by simp [hd.2.2]), if_neg (by simp [hd.1])]
  · rw [if_neg hd]
    by_cases hu : mUn M o = -2
    · simp only [if_pos hu]
      have h2 : 2 ≤ (fltR M o ts).length := by
        by_cases ha : mAs M o = 0
        · have := hf.2
          rw [if_neg (by simp [ha])] at this
          have hc : mCo M o ≠ 0 := fun z => hd ⟨ha, hu, z⟩
          have := hw.2.2.2.2.2.1 hc
          omega
        · have := hf.2
          rw [if_pos ha] at this
          exact this.1
      match hl : fltR M o ts, h2 with
      | [], e => simp at e
      | [_], e => simp at e
      | a :: b :: r, _ => rfl
    · simp only [if_neg hu]
      generalize (fltR M o ts).filter (fun t => decide (lab t ≠ mUn M o)) = l
      match l with
      | [] => rfl
      | [_] => rfl
      | _ :: _ :: _ => rfl
theorem ts_idTerm {M : Mo} {σ : S} (h : TP M σ) {o : Int} (h0 : 0 ≤ o) (h1 : o < mOps M) (hr1 : gI σ 80 < 200000) {Q : Int → S → Prop}
    (hn : mUn M o = -2 → Q (-2) σ) (hy : mUn M o ≠ -2 → ∀ r s, Fr wT_node σ s → tnQ M σ (unT M o) r s → Q r s) : t_idTerm o σ Q := by
  have hM := h.wm
  have hw := hM.op h0 h1
  have hb := hM.2.2.1
  unfold t_idTerm
  rw [(h.mo.2.2.2.1 o h0 h1).2.2.1]
  refine ⟨by omega, ?_⟩
  by_cases hu : mUn M o = -2
  · rw [if_pos (by omega)]
    exact hn hu
  · rw [if_neg (by omega)]
    refine ⟨by omega, ?_⟩
    have := ts_node h (op := mUn M o) (n := 0) (ts := []) (by omega) rfl (fun k k0 k1 => by omega) (okN_unT hM h0 h1 hu) hr1 (by have := h.rg; omega) ⟨by rw [trS_N]; simp, by simp [trN, trL, trD]⟩
    exact fm_t_node this (fun r s f q => hy hu r s f q)
/-- what make makes -/
def tkQ (M : Mo) (σ : S) (o a : Int) (l : Nat) (v : Tr) (r : Int) (s : S) : Prop := TP M s ∧ (v = .nil ∧ r = -2 ∨ lvT s r ∧ tT s r = v) ∧ ExT σ s (fun u => u = v ∨ mUn M o ≠ -2 ∧ u = unT M o) ∧ gI s 80 ≤ gI σ 80 + 2 ∧ gI s 83 = a ∧ gI s 81 ≤ gI σ 81 + l
theorem ExT.args {M : Mo} {σ s : S} {N : Tr → Prop} (h : TP M σ) (k : TP M s) (e : ExT σ s N) {m c : Int} (hm : gI s 80 ≤ gI σ 80 + m) (hm0 : 0 ≤ m) (hc : 0 ≤ c) (hN : ∀ t, N t → isT t → ((kids t).length : Int) ≤ c) : gI s 81 ≤ gI σ 81 + m * c := by
  rw [h.pl, k.pl]
  have rg := h.rg
  have eo : rowI (gA s 50) 0 (gI σ 80).toNat = rowI (gA σ 50) 0 (gI σ 80).toNat := by
    apply rowI_congr
    intro j j0 j1
    have lj : lvT σ (0 + j) := ⟨by omega, by omega⟩
    have e1 := e.t lj
    rw [tT_row h lj, tT_row k (e.lv lj)] at e1
    have := congrArg List.length (trN_inj e1).2
    rw [List.length_map, rowI_len, List.length_map, rowI_len] at this
    have a1 := (h.at lj).1
    have a2 := (k.at (e.lv lj)).1
    omega
  have hn : (gI s 80).toNat = (gI σ 80).toNat + (gI s 80 - gI σ 80).toNat := by have := e.1; omega
  rw [hn, rowI_app, List.sum_append, eo]
  have key : ∀ (l : Nat) (a : Int), (∀ j : Int, 0 ≤ j → j < l → gA s 50 (a + j) ≤ c) → (rowI (gA s 50) a l).sum ≤ l * c := by
    intro l
    induction l with
    | zero => intro a _; simp [rowI]
    | succ l ih =>
      intro a hj
      simp only [rowI, List.sum_cons]
      have h1 := hj 0 (by omega) (by omega)
      rw [Int.add_zero] at h1
      have h2 := ih (a + 1) (fun j j0 j1 => by rw [show a + 1 + j = a + (j + 1) by omega]; exact hj (j + 1) (by omega) (by omega))
      rw [show ((l + 1 : Nat) : Int) * c = (l : Int) * c + c by rw [Int.natCast_add, Int.add_mul]; simp]
      omega
  have h3 := key (gI s 80 - gI σ 80).toNat (0 + ((gI σ 80).toNat : Int)) (fun j j0 j1 => by
    have lj : lvT s (0 + ((gI σ 80).toNat : Int) + j) := ⟨by omega, by omega⟩
    have h4 := hN _ (e.2.2 _ (by omega) lj.2).2 (k.T lj)
    rw [tT_row k lj, kids_N, List.length_map, rowI_len] at h4
    have := (k.at lj).1
    omega)
  have h5 : ((gI s 80 - gI σ 80).toNat : Int) * c ≤ m * c := Int.mul_le_mul_of_nonneg_right (by omega) hc
  omega
theorem ExT.args_ge {M : Mo} {σ s : S} {N : Tr → Prop} (h : TP M σ) (k : TP M s) (e : ExT σ s N) : gI σ 81 ≤ gI s 81 := by
  rw [h.pl, k.pl]
  have rg := h.rg
  have eo : rowI (gA s 50) 0 (gI σ 80).toNat = rowI (gA σ 50) 0 (gI σ 80).toNat := by
    apply rowI_congr
    intro j j0 j1
    have lj : lvT σ (0 + j) := ⟨by omega, by omega⟩
    have e1 := e.t lj
    rw [tT_row h lj, tT_row k (e.lv lj)] at e1
    have := congrArg List.length (trN_inj e1).2
    rw [List.length_map, rowI_len, List.length_map, rowI_len] at this
    have a1 := (h.at lj).1
    have a2 := (k.at (e.lv lj)).1
    omega
  have hn : (gI s 80).toNat = (gI σ 80).toNat + (gI s 80 - gI σ 80).toNat := by have := e.1; omega
  rw [hn, rowI_app, List.sum_append, eo]
  have key : ∀ (l : Nat) (a : Int), (∀ j : Int, 0 ≤ j → j < l → 0 ≤ gA s 50 (a + j)) → 0 ≤ (rowI (gA s 50) a l).sum := by
    intro l
    induction l with
    | zero => intro a _; simp [rowI]
    | succ l ih =>
      intro a hj
      simp only [rowI, List.sum_cons]
      have h1 := hj 0 (by omega) (by omega)
      rw [Int.add_zero] at h1
      have h2 := ih (a + 1) (fun j j0 j1 => by rw [show a + 1 + j = a + (j + 1) by omega]; exact hj (j + 1) (by omega) (by omega))
      omega
  have := key (gI s 80 - gI σ 80).toNat (0 + ((gI σ 80).toNat : Int)) (fun j j0 j1 => (k.at (x := 0 + ((gI σ 80).toNat : Int) + j) ⟨by omega, by omega⟩).1)
  omega
/-- the end of make: the row lies behind all rows -/
theorem ts_make_end {M : Mo} {σ s : S} (h : TP M σ) (hs : TP M s) {o a : Int} {n : Nat} {l : List Tr} {N : Tr → Prop} (hex : ExT σ s N) (hnod : gI s 80 ≤ gI σ 80 + 1) (hac : gI s 81 = gI σ 81) (hpi : gI s 83 = a) (hr : rowG (gA s 56) s (gI s 81) n l) (hok : okN M o l) (hbig : bigT (trN o l))
    (hr1 : gI σ 80 + 2 ≤ 200000) (hr2 : gI σ 81 + n ≤ 800000) {Q : Int → S → Prop}
    (hQ : ∀ r q, TP M q → lvT q r → tT q r = trN o l → ExT σ q (fun u => N u ∨ u = trN o l) → gI q 80 ≤ gI σ 80 + 2 → gI q 83 = a → gI q 81 ≤ gI σ 81 + n → Q r q) : t_node o n s Q := by
  have rg := h.rg
  have := ts_node hs (op := o) (n := n) (ts := l) (by omega) (by rw [show ((n : Int)).toNat = n by omega]; exact hr.2) (fun k k0 k1 => hr.1 k k0 k1) hok (by omega) (by omega) hbig
  refine fm_t_node this (fun r q f z => ?_)
  have hl : ((kids (trN o l)).length : Int) ≤ n := by rw [kids_N, hr.len]; omega
  have := ExT.args hs z.1 z.2.2.2.1 (m := 1) (c := n) (by have := z.2.2.2.2; omega) (by omega) (by omega) (fun t ht _ => by rw [ht]; exact hl)
  exact hQ r q z.1 z.2.1 z.2.2.1 ((hex.mono (fun t ht => Or.inl ht)).trans (z.2.2.2.1.mono (fun t ht => Or.inr ht)) rg.1) (by have := z.2.2.2.2; omega) (by rw [f.i 83 rfl]; exact hpi) (by omega)
theorem ts_make {M : Mo} {σ : S} (h : TP M σ) {o a : Int} {n : Nat} {ts : List Tr} (h0 : 0 ≤ o) (h1 : o < mOps M) (ha : 0 ≤ a) (hpi : gI σ 83 = a + n) (hpi2 : a + n ≤ 20000) (hr : rowG (gA σ 58) σ a n ts)
    (hd : mAs M o = 0 ∧ mUn M o = -2 ∧ mCo M o = 0 → okN M o ts ∧ bigT (trN o ts)) (hok : 2 ≤ (fltT M o ts).length → okN M o (if mCo M o ≠ 0 then isort (fltT M o ts) else fltT M o ts) ∧ bigT (mk3 M o (fltT M o ts)))
    (hr1 : gI σ 80 + 2 ≤ 200000) (hr2 : gI σ 81 + (fltT M o ts).length ≤ 800000) : t_make o a σ (tkQ M σ o a (fltT M o ts).length (mkV M o ts)) := by
  have hM := h.wm
  have hw := hM.op h0 h1
  have rg := h.rg
  have hb := hM.2.2.1
  have hlen := hr.len
  have hop := h.mo.2.2.2.1 o h0 h1
  have hNF : ∀ t ∈ ts, NF M t := by
    intro t ht
    rw [← hr.2] at ht
    obtain ⟨y, hy, rfl⟩ := List.mem_map.mp ht
    obtain ⟨k, k0, k1, rfl⟩ := rowI_mem.mp hy
    exact (h.nd (hr.1 k k0 k1)).2.2.1
  -- behind the unit's term
  have main : ∀ (r : Int) (s : S), TP M s → (mUn M o = -2 ∧ r = -2 ∨ mUn M o ≠ -2 ∧ lvT s r ∧ tT s r = unT M o) → ExT σ s (fun u => mUn M o ≠ -2 ∧ u = unT M o) → gI s 80 ≤ gI σ 80 + 1 → gI s 81 = gI σ 81 → gA s 58 = gA σ 58 →
      (inb o 50 ∧ ((gA s 44 o = 0) → (r < 0) → (inb o 50)) ∧ (if (gA s 44 o = 0) ∧ ((r < 0) ∧ (gA s 45 o = 0)) then t_make_L44 o a (w32 (gI σ 83 - a)) 0 s (tkQ M σ o a (fltT M o ts).length (mkV M o ts)) else t_make_L95 o a (w32 (gI σ 83 - a)) r (gA s 44 o) 0 0 s (tkQ M σ o a (fltT M o ts).length (mkV M o ts)))) := by
    intro r s hs hrr hex hnod hac hpl
    have hop' := hs.mo.2.2.2.1 o h0 h1
    rw [hop'.1, hop'.2.1, hpi, w32_id (by omega) (by omega), show a + (n : Int) - a = n by omega]
    refine ⟨by omega, fun _ _ => by omega, ?_⟩
    have lsx : ∀ x, lvT σ x → lvT s x ∧ tT s x = tT σ x := fun x hx => ⟨hex.lv hx, hex.t hx⟩
    have hrs : rowG (gA s 58) s a n ts := hr.same (fun k _ _ => by rw [hpl]) lsx
    have rgs := hs.rg
    by_cases hdir : mAs M o = 0 ∧ (r < 0 ∧ mCo M o = 0)
    · rw [if_pos hdir]
      have hun : mUn M o = -2 := by
        rcases hrr with z | z
        · exact z.1
        · have := z.2.1.1; omega
      have hdd : mAs M o = 0 ∧ mUn M o = -2 ∧ mCo M o = 0 := ⟨hdir.1, hun, hdir.2.2⟩
      have hd := hd hdd
      have ef : fltT M o ts = ts := by rw [fltT_eq h0 hNF, if_pos hun]; unfold fltR; rw [if_neg (by simp [hdir.1])]
      have ev : mkV M o ts = trN o ts := by unfold mkV; rw [if_pos hdd]
      rw [ef] at hr2
      rw [ef, ev]
      refine lt_make_L44 (fun k q => 0 ≤ k ∧ k ≤ n ∧ Fr ([], [], [56]) s q ∧ (∀ j, j < gI σ 81 → gA q 56 j = gA s 56 j) ∧ ∀ j, 0 ≤ j → j < k → gA q 56 (gI σ 81 + j) = gA σ 58 (a + j)) (fun k _ => (n - k).toNat) ⟨by omega, by omega, Fr.rf, fun _ _ => rfl, fun j j0 j1 => by omega⟩ ?_
      rintro k q fr ⟨k0, k1, f, bq, gq⟩
      try dsimp only
      have iq : gI q 81 = gI σ 81 := by rw [f.i _ rfl, hac]
      by_cases hk : k < n
      · rw [if_pos hk, iq, w32_id (v := a + k) (by omega) (by omega), w32_id (v := gI σ 81 + k) (by omega) (by omega), w32_id (by omega) (by omega)]
        refine ⟨⟨by omega, by omega⟩, ⟨by omega, by omega⟩, ?_⟩
        rintro q1 hq1
        have hv : ∀ j, gA q1 56 j = if j = gI σ 81 + k then gA q 58 (a + k) else gA q 56 j := fun j => by rw [hq1]; simp [gI_pI, gI_pL, gI_pA, gL_pI, gL_pL, gL_pA, gA_pI, gA_pL, gA_pA]
        refine ⟨⟨by omega, by omega, f.putA hq1 rfl, fun j hj => by rw [hv, if_neg (by omega)]; exact bq j hj, fun j j0 j1 => ?_⟩, by omega⟩
        rw [hv]
        by_cases hj : j = k
        · rw [if_pos (by omega), hj, f.a _ rfl, hpl]
        · rw [if_neg (by omega)]; exact gq j j0 (by omega)
      · rw [if_neg hk]
        unfold t_make_j77
        rintro q1 hq1
        have f1 : Fr ([83], [], [56]) s q1 := (f.weak rfl).putI hq1 rfl
        obtain ⟨tq, lq⟩ := hs.beh (f1.weak rfl) (fun j hj => by rw [hq1, gA_pI]; exact bq j (by omega))
        have i1 : gI q1 81 = gI σ 81 := by rw [f1.i _ rfl, hac]
        have e1 : ExT s q1 (fun u => mUn M o ≠ -2 ∧ u = unT M o) := ExT.of_same hs (f1.i _ rfl) (fun x hx => (lq x hx).2) (f1.a _ rfl) (f1.a _ rfl)
        refine ts_make_end (a := a) h tq (hex.trans e1 rg.1) (by rw [f1.i _ rfl]; exact hnod) i1 (by rw [hq1]; rfl) (hrs.same (g := gA q1 56) (b := gI q1 81) (fun j j0 j1 => ?_) lq) hd.1 hd.2 hr1 (by omega) ?_
        · rw [i1, hq1, gA_pI, gq j j0 (by omega), hpl]
        · intro r2 q2 z1 z2 z3 z4 z5 z6 z7
          exact ⟨z1, Or.inr ⟨z2, z3⟩, z4.mono (fun u hu => hu.elim Or.inr Or.inl), z5, z6, by rw [hlen]; exact z7⟩
    · rw [if_neg hdir]
      have hnd : ¬ (mAs M o = 0 ∧ mUn M o = -2 ∧ mCo M o = 0) := by
        rintro ⟨z1, z2, z3⟩
        refine hdir ⟨z1, ?_, z3⟩
        rcases hrr with z | z
        · omega
        · exact absurd z2 z.1
      have ev : mkV M o ts = (match fltT M o ts with
        | [] => if mUn M o = -2 then .nil else unT M o
        | [t] => t
        | a :: b :: r => mk3 M o (a :: b :: r)) := by unfold mkV; rw [if_neg hnd]
      refine lt_make_L95 (fun c k q => 0 ≤ k ∧ k ≤ n ∧ c = ((fltT M o (ts.take k.toNat)).length : Int) ∧ Fr ([], [], [56]) s q ∧ (∀ j, j < gI σ 81 → gA q 56 j = gA s 56 j) ∧ rowG (gA q 56) q (gI σ 81) (fltT M o (ts.take k.toNat)).length (fltT M o (ts.take k.toNat))) (fun _ k _ => (n - k).toNat) ⟨by omega, by omega, by simp [fltT], Fr.rf, fun _ _ => rfl, by simp [fltT]; exact rowG.nil⟩ ?_
      rintro c k q fr ⟨k0, k1, hc, f, bq, rq⟩
      try dsimp only
      have iq : gI q 81 = gI σ 81 := by rw [f.i _ rfl, hac]
      obtain ⟨tq, lq⟩ := hs.beh (f.weak rfl) (fun j hj => bq j (by omega))
      by_cases hk : k < n
      · rw [if_pos hk, w32_id (v := a + k) (by omega) (by omega), f.a 58 rfl]
        have lk := hrs.1 k k0 hk
        have hat := hrs.at (k := k.toNat) (by omega)
        rw [show a + ((k.toNat : Nat) : Int) = a + k by omega] at hat
        have htk : ts.take (k + 1).toNat = ts.take k.toNat ++ [tT s (gA s 58 (a + k))] := by
          rw [show (k + 1).toNat = k.toNat + 1 by omega, List.take_add_one, hat]; rfl
        have hle : (fltT M o (ts.take (k + 1).toNat)).length ≤ (fltT M o ts).length := by
          conv => rhs; rw [← List.take_append_drop (k + 1).toNat ts, fltT_app, List.length_append]
          omega
        have hf1 : fltT M o (ts.take (k + 1).toNat) = fltT M o (ts.take k.toNat) ++ (if mAs M o ≠ 0 ∧ lab (tT s (gA s 58 (a + k))) = o then kids (tT s (gA s 58 (a + k))) else if mUn M o ≠ -2 ∧ lab (tT s (gA s 58 (a + k))) = mUn M o then [] else [tT s (gA s 58 (a + k))]) := by
          rw [htk, fltT_app, fltT_cons]; simp [fltT]
        have hlab : lab (tT s (gA s 58 (a + k))) = gA q 48 (gA s 58 (a + k)) := by
          rw [f.a 48 rfl]; exact den_lab hs.pv lk.1 lk.2
        have hnf : NF M (tT s (gA s 58 (a + k))) := (hs.nd lk).2.2.1
        refine ⟨⟨by omega, by omega⟩, ?_⟩
        have one : ¬ (mAs M o ≠ 0 ∧ lab (tT s (gA s 58 (a + k))) = o) → t_make_j175 o a n r (mAs M o) c k (gA s 58 (a + k)) q (tkQ M σ o a (fltT M o ts).length (mkV M o ts)) (fun v6' v7' s' => (0 ≤ v7' ∧ v7' ≤ n ∧ v6' = ((fltT M o (ts.take v7'.toNat)).length : Int) ∧ Fr ([], [], [56]) s s' ∧ (∀ j, j < gI σ 81 → gA s' 56 j = gA s 56 j) ∧ rowG (gA s' 56) s' (gI σ 81) (fltT M o (ts.take v7'.toNat)).length (fltT M o (ts.take v7'.toNat))) ∧ (n - v7').toNat < (n - k).toNat) := by
          intro hno
          rw [if_neg hno] at hf1
          unfold t_make_j175 t_make_j199
          rw [w32_id (v := k + 1) (by omega) (by omega)]
          by_cases heq : gA s 58 (a + k) = r
          · rw [if_pos heq]
            have hu : mUn M o ≠ -2 ∧ lab (tT s (gA s 58 (a + k))) = mUn M o := by
              rcases hrr with z | z
              · have := lk.1; omega
              · exact ⟨z.1, by rw [heq, z.2.2]; rfl⟩
            rw [if_pos hu, List.append_nil] at hf1
            exact ⟨⟨by omega, by omega, by rw [hf1]; exact hc, f, bq, by rw [hf1]; exact rq⟩, by omega⟩
          · rw [if_neg heq]
            have hu : ¬ (mUn M o ≠ -2 ∧ lab (tT s (gA s 58 (a + k))) = mUn M o) := by
              rintro ⟨z1, z2⟩
              apply heq
              rcases hrr with z | z
              · exact absurd z.1 z1
              · exact hs.inj lk z.2.1 (by rw [z.2.2, (unit_is hM h0 h1 z1 hnf).mp z2])
            rw [if_neg hu] at hf1
            have hl1 : (fltT M o (ts.take (k + 1).toNat)).length = (fltT M o (ts.take k.toNat)).length + 1 := by rw [hf1, List.length_append]; rfl
            rw [iq, w32_id (v := gI σ 81 + c) (by omega) (by omega), w32_id (v := c + 1) (by omega) (by omega)]
            refine ⟨⟨by omega, by omega⟩, ?_⟩
            rintro q1 hq1
            have hv : ∀ j, gA q1 56 j = if j = gI σ 81 + c then gA s 58 (a + k) else gA q 56 j := fun j => by rw [hq1]; simp [gI_pI, gI_pL, gI_pA, gL_pI, gL_pL, gL_pA, gA_pI, gA_pL, gA_pA]
            obtain ⟨t1, l1⟩ := tq.beh (f := (Fr.rf.putA hq1 rfl)) (fun j hj => by rw [hv, if_neg (by omega)])
            refine ⟨⟨by omega, by omega, by omega, f.putA hq1 rfl, fun j hj => by rw [hv, if_neg (by omega)]; exact bq j hj, ?_⟩, by omega⟩
            rw [hl1, hf1]
            have on := rowG.one (f := gA q1 56) (σ := q1) (a := gI σ 81 + c) (by rw [hv, if_pos rfl]; exact (l1 _ (lq _ lk).1).1)
            rw [hv, if_pos rfl, (l1 _ (lq _ lk).1).2, (lq _ lk).2] at on
            exact rowG.app (rq.same (fun j j0 j1 => by rw [hv, if_neg (by omega)]) l1) (by rw [← hc]; exact on)
        by_cases has : mAs M o = 0
        · rw [if_pos has]
          have := one (fun z => z.1 has)
          exact this
        · rw [if_neg has]
          refine ⟨⟨lk.1, by have := lk.2; omega⟩, ?_⟩
          by_cases hlo : gA q 48 (gA s 58 (a + k)) = o
          · rw [if_pos hlo]
            have hcond : mAs M o ≠ 0 ∧ lab (tT s (gA s 58 (a + k))) = o := ⟨has, by rw [hlab]; exact hlo⟩
            rw [if_pos hcond] at hf1
            obtain ⟨b1, b3, b4, b5⟩ := hs.at lk
            have hkid : kids (tT s (gA s 58 (a + k))) = (rowI (gA s 56) (gA s 49 (gA s 58 (a + k))) (gA s 50 (gA s 58 (a + k))).toNat).map (tT s) := by
              rw [tT_row hs lk, kids_N]
            have hlk : (kids (tT s (gA s 58 (a + k)))).length = (gA s 50 (gA s 58 (a + k))).toNat := by rw [hkid, List.length_map, rowI_len]
            have hl1 : (fltT M o (ts.take (k + 1).toNat)).length = (fltT M o (ts.take k.toNat)).length + (gA s 50 (gA s 58 (a + k))).toNat := by rw [hf1, List.length_append, hlk]
            refine lt_make_L131 (fun d i p => 0 ≤ i ∧ i ≤ gA s 50 (gA s 58 (a + k)) ∧ d = c + i ∧ Fr ([], [], [56]) q p ∧ (∀ j, j < gI σ 81 + c → gA p 56 j = gA q 56 j) ∧ ∀ j, 0 ≤ j → j < i → gA p 56 (gI σ 81 + c + j) = gA s 56 (gA s 49 (gA s 58 (a + k)) + j)) (fun _ i _ => (gA s 50 (gA s 58 (a + k)) - i).toNat) ⟨by omega, b1, by omega, Fr.rf, fun _ _ => rfl, fun j j0 j1 => by omega⟩ ?_
            rintro d i p fr2 ⟨i0, i1, hdd, fp, bp, gp⟩
            try dsimp only
            obtain ⟨tp, lp⟩ := tq.beh (fp.weak rfl) (fun j hj => bp j (by omega))
            have ip : gI p 81 = gI σ 81 := by rw [fp.i _ rfl, iq]
            have lkp := (lp _ (lq _ lk).1).1
            have cnt : gA p 50 (gA s 58 (a + k)) = gA s 50 (gA s 58 (a + k)) := by rw [fp.a _ rfl, f.a _ rfl]
            have stt : gA p 49 (gA s 58 (a + k)) = gA s 49 (gA s 58 (a + k)) := by rw [fp.a _ rfl, f.a _ rfl]
            refine ⟨⟨lk.1, by have := lk.2; omega⟩, ?_⟩
            rw [cnt]
            by_cases hi : i < gA s 50 (gA s 58 (a + k))
            · rw [if_pos hi]
              refine ts_arg tp lkp i0 (by rw [cnt]; exact hi) ?_
              rw [ip, stt, w32_id (v := gI σ 81 + d) (by omega) (by omega), w32_id (v := d + 1) (by omega) (by omega), w32_id (v := i + 1) (by omega) (by omega)]
              refine ⟨⟨by omega, by omega⟩, ?_⟩
              rintro p1 hp1
              have hv : ∀ j, gA p1 56 j = if j = gI σ 81 + d then gA p 56 (gA s 49 (gA s 58 (a + k)) + i) else gA p 56 j := fun j => by rw [hp1]; simp [gI_pI, gI_pL, gI_pA, gL_pI, gL_pL, gL_pA, gA_pI, gA_pL, gA_pA]
              refine ⟨⟨by omega, by omega, by omega, fp.putA hp1 rfl, fun j hj => by rw [hv, if_neg (by omega)]; exact bp j hj, fun j j0 j1 => ?_⟩, by omega⟩
              rw [hv]
              by_cases hj : j = i
              · rw [if_pos (by omega), hj, bp _ (by omega), bq _ (by omega)]
              · rw [if_neg (by omega)]; exact gp j j0 (by omega)
            · rw [if_neg hi]
              unfold t_make_j172 t_make_j199
              rw [w32_id (v := k + 1) (by omega) (by omega)]
              refine ⟨⟨by omega, by omega, by omega, f.trans fp, fun j hj => by rw [bp j (by omega)]; exact bq j hj, ?_⟩, by omega⟩
              rw [hl1, hf1]
              refine rowG.app (rq.same (fun j j0 j1 => bp _ (by omega)) lp) ⟨fun j j0 j1 => ?_, ?_⟩
              · rw [← hc, gp j j0 (by omega)]
                exact (lp _ (lq _ (b5 j j0 (by omega)).1).1).1
              · rw [hkid, ← hc]
                rw [rowI_congr (f := gA p 56) (g := gA s 56) (b := gA s 49 (gA s 58 (a + k))) (fun j j0 j1 => gp j j0 (by omega))]
                apply List.map_congr_left
                intro y hy
                obtain ⟨j, j0, j1, rfl⟩ := rowI_mem.mp hy
                have lj := (b5 j j0 (by omega)).1
                rw [(lp _ (lq _ lj).1).2, (lq _ lj).2]
          · rw [if_neg hlo]
            exact one (fun z => hlo (by rw [← hlab]; exact z.2))
      · rw [if_neg hk]
        have etk : ts.take k.toNat = ts := List.take_of_length_le (by omega)
        rw [etk] at hc rq
        unfold t_make_j205
        rintro q1 hq1
        have f1 : Fr ([83], [], [56]) s q1 := (f.weak rfl).putI hq1 rfl
        obtain ⟨t1, l1⟩ := hs.beh (f1.weak rfl) (fun j hj => by rw [hq1, gA_pI]; exact bq j (by omega))
        have i1 : gI q1 81 = gI σ 81 := by rw [f1.i _ rfl, hac]
        have p1 : gI q1 83 = a := by rw [hq1]; rfl
        have e1 : ExT σ q1 (fun u => mUn M o ≠ -2 ∧ u = unT M o) := hex.trans (ExT.of_same hs (f1.i _ rfl) (fun x hx => (l1 x hx).2) (f1.a _ rfl) (f1.a _ rfl)) rg.1
        have rq1 : rowG (gA q1 56) q1 (gI q1 81) (fltT M o ts).length (fltT M o ts) := by
          rw [i1]
          refine rq.same (fun j j0 j1 => by rw [hq1, gA_pI]) (fun x hx => ?_)
          have f4 : Fr ([83], [], [56, 58]) q q1 := (Fr.rf (w := ([83], [], [56, 58]))).putI hq1 rfl
          exact (tq.beh f4 (fun j hj => by rw [hq1, gA_pI])).2 x hx
        have nn : gI q1 80 ≤ gI σ 80 + 1 := by rw [f1.i _ rfl]; exact hnod
        by_cases hc0 : c = 0
        · rw [if_pos hc0]
          have hnil : fltT M o ts = [] := List.length_eq_zero_iff.mp (by omega)
          rw [ev, hnil]
          refine ⟨t1, ?_, e1.mono (fun u hu => Or.inr hu), by omega, p1, by omega⟩
          dsimp only
          rcases hrr with z | z
          · rw [if_pos z.1]; exact Or.inl ⟨rfl, z.2⟩
          · rw [if_neg z.1]; exact Or.inr ⟨(l1 _ z.2.1).1, by rw [(l1 _ z.2.1).2]; exact z.2.2⟩
        · rw [if_neg hc0]
          by_cases hc1 : c = 1
          · rw [if_pos hc1]
            refine ⟨by omega, ?_⟩
            match hft : fltT M o ts, (show (fltT M o ts).length = 1 by omega) with
            | [t], _ =>
              rw [hft] at rq1
              have l0 := rq1.1 0 (by omega) (by simp)
              rw [Int.add_zero] at l0
              have t0 := rq1.2
              simp only [List.length_cons, List.length_nil, rowI, List.map_cons, List.map_nil, List.cons.injEq, and_true] at t0
              rw [ev, hft]
              exact ⟨t1, Or.inr ⟨l0, t0⟩, e1.mono (fun u hu => Or.inr hu), by omega, p1, by omega⟩
            | [], e => simp at e
            | _ :: _ :: _, e => simp at e
          · rw [if_neg hc1, hc]
            have h2 : 2 ≤ (fltT M o ts).length := by omega
            have hok := hok h2
            refine ts_make_L237 t1 h0 h1 h2 (by omega) rq1 (fun s2 f2 b2 r2 => ?_)
            unfold t_make_j351
            obtain ⟨t2, l2⟩ := t1.beh (f2.weak rfl) b2
            have e2 : ExT q1 s2 (fun u => mUn M o ≠ -2 ∧ u = unT M o) := ExT.of_same t1 (f2.i _ rfl) (fun x hx => (l2 x hx).2) (f2.a _ rfl) (f2.a _ rfl)
            have evv : mkV M o ts = mk3 M o (fltT M o ts) := by
              rw [ev]
              match hft : fltT M o ts, h2 with
              | [], e => simp at e
              | [_], e => simp at e
              | _ :: _ :: _, _ => rfl
            refine ts_make_end h t2 (e1.trans e2 rg.1) (by rw [f2.i _ rfl]; exact nn) (by rw [f2.i _ rfl, i1]) (by rw [f2.i _ rfl, p1]) r2 hok.1 (by have := hok.2; unfold mk3 at this; exact this) hr1 hr2 ?_
            intro r3 q3 z1 z2 z3 z4 z5 z6 z7
            rw [evv]
            exact ⟨z1, Or.inr ⟨z2, z3⟩, z4.mono (fun u hu => hu.elim Or.inr Or.inl), z5, z6, z7⟩
  unfold t_make
  refine ts_idTerm h h0 h1 (by omega) (fun hu => ?_) (fun hu r s f q => ?_)
  · exact main (-2) σ h (Or.inl ⟨hu, rfl⟩) (ExT.rf _ _) (by omega) rfl rfl
  · have := ExT.args h q.1 q.2.2.2.1 (m := 1) (c := 0) (by have := q.2.2.2.2; omega) (by omega) (by omega) (fun t ht _ => by rw [ht]; unfold unT; rw [kids_N]; simp)
    have rg2 := q.1.rg
    have hac : gI s 81 = gI σ 81 := by
      have a1 := q.1.pl
      have a2 := h.pl
      have hge := ExT.args_ge h q.1 q.2.2.2.1
      omega
    exact main r s q.1 (Or.inr ⟨hu, q.2.1, q.2.2.1⟩) (q.2.2.2.1.mono (fun u hu' => ⟨hu, hu'⟩)) q.2.2.2.2 hac (f.a _ rfl)

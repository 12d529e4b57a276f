/-! RewriteHouseModel: parts of rows as terms -/
theorem ts_push {σ : S} {x : Int} {Q : Int → S → Prop} (h0 : 0 ≤ gI σ 83) (h1 : gI σ 83 < 20000) (hQ : ∀ s, Fr ([83], [], [58]) σ s → gI s 83 = gI σ 83 + 1 → (∀ j, gA s 58 j = if j = gI σ 83 then x else gA σ 58 j) → Q 0 s) : t_push x σ Q := by
  unfold t_push
  refine ⟨⟨h0, h1⟩, ?_⟩
  rintro s1 hs1 s2 hs2
  have e : gI s1 83 = gI σ 83 := by rw [hs1, gI_pA]
  rw [e, w32_id (by omega) (by omega)] at hs2
  refine hQ s2 ((Fr.rf.putA hs1 rfl).putI hs2 rfl) (by rw [hs2]; rfl) (fun j => ?_)
  rw [hs2, gA_pI, hs1]
  simp [gA_pA]
theorem fltT_elm {M : Mo} {o : Int} {A : Int → Bool} {es : List Tr} (h : elm M o A es) : fltT M o es = es := by
  have key : ∀ l : List Tr, (∀ e ∈ l, lab e ≠ o ∧ (mUn M o ≠ -2 → lab e ≠ mUn M o)) → fltT M o l = l := by
    intro l
    induction l with
    | nil => intro _; rfl
    | cons e l ih =>
      intro hl
      have he := hl e (List.mem_cons_self ..)
      rw [fltT_cons, if_neg (fun z => he.1 z.2), if_neg (fun z => he.2 z.1 z.2), ih (fun x hx => hl x (List.mem_cons_of_mem _ hx))]
      rfl
  exact key es (fun e he => ⟨(h.1 e he).2.1, (h.1 e he).2.2.1⟩)
theorem srt_id {M : Mo} {o : Int} {A : Int → Bool} {es : List Tr} (h : elm M o A es) : (if mCo M o ≠ 0 then isort es else es) = es := by
  by_cases hc : mCo M o ≠ 0
  · rw [if_pos hc, isort_id (h.2.1 hc)]
  · rw [if_neg hc]
theorem mkV_elm {M : Mo} {o : Int} {A : Int → Bool} {es : List Tr} (has : mAs M o ≠ 0) (h : elm M o A es) : mkV M o es = mkS M o es := by
  unfold mkV
  rw [if_neg (fun z => has z.1), fltT_elm h]
  match es, h with
  | [], _ => rfl
  | [t], _ => rfl
  | a :: b :: r, h =>
    rw [mkS_elm has h (by simp)]
    show mk3 M o (a :: b :: r) = _
    unfold mk3
    rw [srt_id h]
theorem ts_makeS {M : Mo} {σ : S} (h : TP M σ) {o a : Int} {n : Nat} {es : List Tr} {A : Int → Bool} (h0 : 0 ≤ o) (h1 : o < mOps M) (has : mAs M o ≠ 0) (ha : 0 ≤ a) (hpi : gI σ 83 = a + n) (hpi2 : a + n ≤ 20000) (hr : rowG (gA σ 58) σ a n es) (hel : elm M o A es) (hr1 : gI σ 80 + 2 ≤ 200000) (hr2 : gI σ 81 + 6 ≤ 800000) : t_make o a σ (tkQ M σ o a es.length (mkS M o es)) := by
  have hM := h.wm
  have ef := fltT_elm hel
  have key : 2 ≤ (fltT M o es).length → okN M o (if mCo M o ≠ 0 then isort (fltT M o es) else fltT M o es) ∧ bigT (mk3 M o (fltT M o es)) := by
    intro h2
    rw [ef] at h2 ⊢
    have em := mkS_elm has hel h2
    have nf := mkS_NF hM h0 h1 has (es := es) (fun e he => ⟨(hel.1 e he).1, (hel.1 e he).2.1⟩) (by rw [em]; exact trN_ne_nil _ _)
    rw [em] at nf
    have hs : trS (trN o es) ≤ 40 := by rw [trS_N]; exact hel.2.2.2 h2
    unfold mk3
    rw [srt_id hel]
    refine ⟨(NF_N.mp nf).1, by omega, ?_⟩
    have := trD_S nf.1
    omega
  have hlen := hel.2.2.1
  have := ts_make h h0 h1 ha hpi hpi2 hr (fun z => absurd z.1 has) key hr1 (by rw [ef]; omega)
  rw [ef, mkV_elm has hel] at this
  exact this
/-- what a part of a row leaves -/
def sgQ (M : Mo) (σ : S) (f : Int) (es : List Tr) (r : Int) (s : S) : Prop := TP M s ∧ (mkS M f es = .nil ∧ r = -2 ∨ lvT s r ∧ tT s r = mkS M f es) ∧ ExT σ s (fun u => u = mkS M f es ∨ mUn M f ≠ -2 ∧ u = unT M f) ∧ gI s 83 = gI σ 83 ∧ gI s 80 ≤ gI σ 80 + 2 ∧ gI s 81 ≤ gI σ 81 + es.length ∧ ∀ j, j < gI σ 83 → gA s 58 j = gA σ 58 j
theorem sg_end {M : Mo} {σ s : S} (h : TP M σ) {f : Int} {n : Nat} {es : List Tr} {A : Int → Bool} (h0 : 0 ≤ f) (h1 : f < mOps M) (has : mAs M f ≠ 0) (hp : 0 ≤ gI σ 83) (hp1 : gI σ 83 + n ≤ 20000) (hr1 : gI σ 80 + 2 ≤ 200000) (hr2 : gI σ 81 + 6 ≤ 800000) (fr : Fr ([83], [], [58]) σ s) (hpi : gI s 83 = gI σ 83 + n) (hr : rowG (gA s 58) s (gI σ 83) n es) (hel : elm M f A es) (hlo : ∀ j, j < gI σ 83 → gA s 58 j = gA σ 58 j) : t_make f (gI σ 83) s (sgQ M σ f es) := by
  obtain ⟨ts, ls⟩ := h.fr fr rfl
  refine fm_t_make (ts_makeS ts h0 h1 has hp hpi hp1 hr hel (by rw [fr.i _ rfl]; exact hr1) (by rw [fr.i _ rfl]; exact hr2)) (fun r q f2 k => ?_)
  obtain ⟨k1, k2, k3, k4, k5, k6⟩ := k
  have e1 : ExT σ s (fun u => u = mkS M f es ∨ mUn M f ≠ -2 ∧ u = unT M f) := ExT.of_same h (fr.i _ rfl) (fun x hx => (ls x hx).2) (fr.a _ rfl) (fr.a _ rfl)
  refine ⟨k1, k2, e1.trans k3 h.rg.1, k5, ?_, ?_, fun j hj => ?_⟩
  · rw [fr.i 80 rfl] at k4; exact k4
  · rw [fr.i 81 rfl] at k6; exact k6
  · rw [f2.a 58 rfl]; exact hlo j hj
theorem ts_segment {M : Mo} {σ : S} (h : TP M σ) {f t : Int} {a n : Nat} {es : List Tr} {A : Int → Bool} (h0 : 0 ≤ f) (h1 : f < mOps M) (has : mAs M f ≠ 0) (ht : lvT σ t) (han : a + n ≤ (rstL f (tT σ t)).length) (hn : n ≤ 60) (hes : ((rstL f (tT σ t)).drop a).take n = es) (hel : elm M f A es) (hp : 0 ≤ gI σ 83) (hp1 : gI σ 83 + 60 ≤ 20000) (hr1 : gI σ 80 + 2 ≤ 200000) (hr2 : gI σ 81 + 6 ≤ 800000) : t_segment f t a n σ (sgQ M σ f es) := by
  have rl := rstL_lenT h (o := f) ht
  unfold t_segment
  refine lt_segment_L9 (fun k s => ∃ i : Nat, k = (i : Int) ∧ i ≤ n ∧ Fr ([83], [], [58]) σ s ∧ gI s 83 = gI σ 83 + i ∧ rowG (gA s 58) s (gI σ 83) i (((rstL f (tT σ t)).drop a).take i) ∧ ∀ j, j < gI σ 83 → gA s 58 j = gA σ 58 j) (fun k _ => ((n : Int) - k).toNat) ⟨0, rfl, by omega, Fr.rf, by simp, by simpa using rowG.nil, fun _ _ => rfl⟩ ?_
  rintro k s fr ⟨i, rfl, hi, f1, hp2, hr, hlo⟩
  try dsimp only
  obtain ⟨ts, ls⟩ := h.fr f1 rfl
  by_cases hk : (i : Int) < n
  · rw [if_pos hk]
    have w1 : w32 ((a : Int) + i) = ((a + i : Nat) : Int) := by rw [w32_id (by omega) (by omega)]; omega
    rw [w1, w32_id (by omega) (by omega)]
    refine ts_element ts (ls _ ht).1 (by omega) (by rw [(ls _ ht).2]; omega) (fun e le ee => ?_)
    rw [(ls _ ht).2, show (((a + i : Nat) : Int)).toNat = a + i by omega] at ee
    refine ts_push (by omega) (by omega) (fun s2 f2 e2 v2 => ?_)
    obtain ⟨ts2, ls2⟩ := ts.fr f2 rfl
    refine ⟨⟨i + 1, by omega, by omega, f1.trans f2, by omega, ?_, fun j hj => by rw [v2, if_neg (by omega)]; exact hlo j hj⟩, by omega⟩
    have est : ((rstL f (tT σ t)).drop a).take (i + 1) = ((rstL f (tT σ t)).drop a).take i ++ [tT s e] := by
      rw [List.take_add_one, List.getElem?_drop, ee]; rfl
    rw [est]
    refine rowG.app (hr.same (fun j j0 j1 => by rw [v2, if_neg (by omega)]) ls2) ?_
    have := rowG.one (f := gA s2 58) (σ := s2) (a := gI σ 83 + i) (by rw [v2, if_pos (by omega)]; exact (ls2 _ le).1)
    rw [v2, if_pos (by omega), (ls2 _ le).2] at this
    exact this
  · rw [if_neg hk]
    have ei : i = n := by omega
    subst ei
    unfold t_segment_j36
    rw [hes] at hr
    exact sg_end h h0 h1 has hp (by omega) hr1 hr2 f1 hp2 hr hel hlo
theorem ts_chosen {M : Mo} {σ : S} (h : TP M σ) {f t : Int} {m n : Nat} {es : List Tr} {A : Int → Bool} (h0 : 0 ≤ f) (h1 : f < mOps M) (has : mAs M f ≠ 0) (ht : lvT σ t) (hn : n ≤ 6) (hm : m < 2 ^ n) (hnl : n ≤ (rstL f (tT σ t)).length) (hes : pk m (rstL f (tT σ t)) = es) (hel : elm M f A es) (hp : 0 ≤ gI σ 83) (hp1 : gI σ 83 + 60 ≤ 20000) (hr1 : gI σ 80 + 2 ≤ 200000) (hr2 : gI σ 81 + 6 ≤ 800000) : t_chosen f t m σ (sgQ M σ f es) := by
  have h64 : (2 : Nat) ^ n ≤ 64 := Nat.le_trans (Nat.pow_le_pow_right (by omega) hn) (by decide)
  have plen : ∀ i : Nat, i ≤ n → (pk m ((rstL f (tT σ t)).take i)).length ≤ 6 := by
    intro i hi
    have := pk_sub_len ((rstL f (tT σ t)).take i) m
    rw [List.length_take] at this
    omega
  unfold t_chosen
  refine lt_chosen_L9 (fun k s => ∃ i : Nat, k = (i : Int) ∧ i ≤ n ∧ Fr ([83], [], [58]) σ s ∧ gI s 83 = gI σ 83 + (pk m ((rstL f (tT σ t)).take i)).length ∧ rowG (gA s 58) s (gI σ 83) (pk m ((rstL f (tT σ t)).take i)).length (pk m ((rstL f (tT σ t)).take i)) ∧ ∀ j, j < gI σ 83 → gA s 58 j = gA σ 58 j) (fun k _ => (6 - k).toNat) ⟨0, rfl, by omega, Fr.rf, by simp [pk], by simpa [pk] using rowG.nil, fun _ _ => rfl⟩ ?_
  rintro k s fr ⟨i, rfl, hi, f1, hp2, hr, hlo⟩
  try dsimp only
  obtain ⟨ts, ls⟩ := h.fr f1 rfl
  have mbit := mk_bit ⟨m, by omega⟩ ⟨i, by omega⟩
  simp only at mbit
  have pl := plen i hi
  by_cases hz : bShr (m : Int) (i : Int) = 0
  · rw [if_pos hz]
    have eS := pk_stop (rstL f (tT σ t)) m i (mbit.2.mp hz)
    rw [eS, hes] at hp2 hr pl
    unfold t_chosen_j44
    exact sg_end h h0 h1 has hp (by omega) hr1 hr2 f1 hp2 hr hel hlo
  · rw [if_neg hz]
    have hin : i < n := by
      rcases Nat.lt_or_ge i n with z | z
      · exact z
      · exact absurd (mbit.2.mpr (Nat.div_eq_of_lt (Nat.lt_of_lt_of_le hm (Nat.pow_le_pow_right (by omega) z)))) hz
    have hstep := pk_take (rstL f (tT σ t)) m i (by omega)
    by_cases hbit : bAnd (bShr (m : Int) (i : Int)) 1 = 1
    · rw [if_pos hbit]
      rw [if_pos (mbit.1.mp hbit)] at hstep
      refine ts_element ts (ls _ ht).1 (by omega) (by rw [(ls _ ht).2]; omega) (fun e le ee => ?_)
      rw [(ls _ ht).2, show ((i : Int)).toNat = i by omega] at ee
      have hdr : ((rstL f (tT σ t)).drop i).take 1 = [tT s e] := by
        rw [List.drop_eq_getElem_cons (by omega)]
        have := (List.getElem?_eq_some_iff.mp ee).2
        simp [this]
      rw [hdr] at hstep
      refine ts_push (by omega) (by omega) (fun s2 f2 e2 v2 => ?_)
      obtain ⟨ts2, ls2⟩ := ts.fr f2 rfl
      unfold t_chosen_j38
      rw [w32_id (by omega) (by omega)]
      refine ⟨⟨i + 1, by omega, by omega, f1.trans f2, ?_, ?_, fun j hj => by rw [v2, if_neg (by omega)]; exact hlo j hj⟩, by omega⟩
      · rw [hstep, List.length_append]
        simp only [List.length_cons, List.length_nil]
        omega
      · rw [hstep, List.length_append]
        refine rowG.app (hr.same (fun j j0 j1 => by rw [v2, if_neg (by omega)]) ls2) ?_
        have := rowG.one (f := gA s2 58) (σ := s2) (a := gI σ 83 + (pk m ((rstL f (tT σ t)).take i)).length) (by rw [v2, if_pos (by omega)]; exact (ls2 _ le).1)
        rw [v2, if_pos (by omega), (ls2 _ le).2] at this
        exact this
    · rw [if_neg hbit]
      unfold t_chosen_j38
      rw [w32_id (by omega) (by omega)]
      have hb' : ¬ (m / 2 ^ i) % 2 = 1 := fun z => hbit (mbit.1.mpr z)
      rw [if_neg hb', List.append_nil] at hstep
      refine ⟨⟨i + 1, by omega, by omega, f1, ?_, ?_, hlo⟩, by omega⟩
      · rw [hstep]; exact hp2
      · rw [hstep]; exact hr
theorem ts_rowCount {M : Mo} {σ : S} (h : TP M σ) {f t : Int} (h0 : 0 ≤ f) (h1 : f < mOps M) (ht : lvT σ t) (hr1 : gI σ 80 < 200000) {Q : Int → S → Prop} (hQ : ∀ s, Fr wT_rowCount σ s → TP M s → ExT σ s (fun u => mUn M f ≠ -2 ∧ u = unT M f) → gI s 80 ≤ gI σ 80 + 1 → Q ((elO M f (tT σ t)).length : Int) s) : t_rowCount f t σ Q := by
  have hM := h.wm
  have ax := (h.at ht).1
  have bt := lvT_b h ht
  have hlab : lab (tT σ t) = gA σ 48 t := den_lab h.pv ht.1 ht.2
  have hkid : ((kids (tT σ t)).length : Int) = gA σ 50 t := by
    rw [tT_row h ht, kids_N, List.length_map, rowI_len]; omega
  have nf := (h.nd ht).2.2.1
  unfold t_rowCount
  refine ⟨bt, ?_⟩
  unfold elO at hQ
  rw [hlab] at hQ
  by_cases e : gA σ 48 t = f
  · rw [if_pos e]
    rw [if_pos e] at hQ
    refine ⟨bt, ?_⟩
    rw [← hkid]
    exact hQ σ Fr.rf h (ExT.rf _ _) (by omega)
  · rw [if_neg e]
    rw [if_neg e] at hQ
    refine ts_idTerm h h0 h1 hr1 (fun hu => ?_) (fun hu r s f1 q => ?_)
    · have : ¬ t = -2 := by omega
      rw [bi_t this]
      rw [if_neg (fun z => z.1 hu)] at hQ
      exact hQ σ Fr.rf h (ExT.rf _ _) (by omega)
    · obtain ⟨q1, q2, q3, q4, q5⟩ := q
      have et : tT s t = tT σ t := q4.t ht
      by_cases hl : gA σ 48 t = mUn M f
      · rw [if_pos ⟨hu, hl⟩] at hQ
        have tu : tT σ t = unT M f := (unit_is hM h0 h1 hu nf).mp (by rw [hlab]; exact hl)
        have : t = r := q1.inj (q4.lv ht) q2 (by rw [et, tu, q3])
        rw [bi_f (fun z => z this)]
        exact hQ s (f1.weak rfl) q1 (q4.mono (fun u hu' => ⟨hu, hu'⟩)) q5
      · rw [if_neg (fun z => hl z.2)] at hQ
        have : ¬ t = r := fun z => hl (by
          have := q3
          rw [← z, et] at this
          rw [← hlab, this]; rfl)
        rw [bi_t this]
        exact hQ s (f1.weak rfl) q1 (q4.mono (fun u hu' => ⟨hu, hu'⟩)) q5
theorem bi_iff {p q : Prop} [Decidable p] [Decidable q] (h : p ↔ q) : bi p = bi q := by
  by_cases hp : p
  · rw [bi_t hp, bi_t (h.mp hp)]
  · rw [bi_f hp, bi_f (fun z => hp (h.mpr z))]
theorem ts_mayTake {M : Mo} {σ : S} (h : TP M σ) {f p k : Int} (h0 : 0 ≤ f) (h1 : f < mOps M) (hp : lvT σ p) {Q : Int → S → Prop} (hQ : Q (if lab (tT σ p) < 0 ∨ mUn M (lab (tT σ p)) ≠ -2 then bi (0 < k ∨ mUn M f ≠ -2) else bi (k = 1)) σ) : t_mayTake f p k σ Q := by
  have hM := h.wm
  have ob := hM.2.2.1
  have bp := lvT_b h hp
  have hlab : lab (tT σ p) = gA σ 48 p := den_lab h.pv hp.1 hp.2
  rw [hlab] at hQ
  have op := h.opr hp
  have uf := (h.mo.2.2.2.1 f h0 h1).2.2.1
  have wf := hM.op h0 h1
  unfold t_mayTake
  refine ts_isVar h hp ?_
  by_cases hv : gA σ 48 p < 0
  · rw [if_pos (Or.inl hv)] at hQ
    rw [bi_t hv]
    have e1 : bi (¬ ((1 : Int) = 0) ∨ (¬ (gA σ 46 (gA σ 48 p) < 0))) = 1 := bi_t (Or.inl (by decide))
    rw [e1]
    refine ⟨fun z => absurd z (by decide), fun z => absurd z (by decide), fun _ _ => by omega, ?_⟩
    rw [uf]
    have e2 : bi (((1 : Int) = 0 ∧ k = 1) ∨ (¬ (1 : Int) = 0 ∧ (¬ (k ≤ 0) ∨ ¬ (mUn M f < 0)))) = bi (0 < k ∨ mUn M f ≠ -2) := by
      refine bi_iff ?_
      omega
    rw [e2]; exact hQ
  · have up := (h.mo.2.2.2.1 _ (by omega) op.2).2.2.1
    have wp := hM.op (o := gA σ 48 p) (by omega) op.2
    rw [bi_f hv]
    by_cases hu : mUn M (gA σ 48 p) = -2
    · rw [if_neg (by omega)] at hQ
      have e1 : bi (¬ ((0 : Int) = 0) ∨ (¬ (gA σ 46 (gA σ 48 p) < 0))) = 0 := bi_f (by rw [up]; omega)
      rw [e1]
      refine ⟨fun _ => bp, fun _ => by omega, fun z => absurd rfl z, ?_⟩
      have e2 : bi (((0 : Int) = 0 ∧ k = 1) ∨ (¬ (0 : Int) = 0 ∧ (¬ (k ≤ 0) ∨ ¬ (gA σ 46 f < 0)))) = bi (k = 1) := by
        refine bi_iff ?_
        omega
      rw [e2]; exact hQ
    · rw [if_pos (Or.inr hu)] at hQ
      have e1 : bi (¬ ((0 : Int) = 0) ∨ (¬ (gA σ 46 (gA σ 48 p) < 0))) = 1 := bi_t (by rw [up]; omega)
      rw [e1]
      refine ⟨fun _ => bp, fun _ => by omega, fun _ _ => by omega, ?_⟩
      rw [uf]
      have e2 : bi (((1 : Int) = 0 ∧ k = 1) ∨ (¬ (1 : Int) = 0 ∧ (¬ (k ≤ 0) ∨ ¬ (mUn M f < 0)))) = bi (0 < k ∨ mUn M f ≠ -2) := by
        refine bi_iff ?_
        omega
      rw [e2]; exact hQ

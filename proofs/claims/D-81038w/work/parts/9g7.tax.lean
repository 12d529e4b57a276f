/-! RewriteHouseModel: the answers of a strategy, whole -/
section
variable {M : Mo} {R : Ru} {mo : Int} {σ0 : S} {a0 r0 : Int} {sx : Int → Int} {wl : Int → Int → Bool}
theorem ts_ends (c : cxT2 M R mo σ0 (a0 + 50) (r0 + 50)) {m n : Nat} (iad : ADT M R mo sx σ0 a0 r0 wl m n) {σ : S} {st : ST} {za x fr : Int} {Za X : Tr} (h : TR M R mo sx σ0 st σ) (wi : WI M R a0 r0 0 0 st) (lx : lvT σ x) (eX : tT σ x = X) (ox : okT M X) (dx : DR M st X) (sy : SY 0 σ) (sza : szT M sx σ m za Za) (hll : llT M sx σ wl) (ef : gI σ 129 = fr) (f0 : 0 ≤ fr) (f1 : fr + 122 * ((m : Int) + 1) + 62 ≤ 40000) :
    t_ends_F (t_S_answers n) za x fr σ (fun _ s => ∃ st' l, bnd (manyE (ansE M R mo wl m Za) 62 0 [X] [] st) (fun q st1 o => o = .inr (stay q.1 q.2, st1)) (.inr (l, st')) ∧ okY M R mo sx σ0 σ st' s ∧ anT s fr l ∧ tmF fr σ s) (fun s => bnd (manyE (ansE M R mo wl m Za) 62 0 [X] [] st) (fun q st1 o => o = .inr (stay q.1 q.2, st1)) (.inl (gI s 1006, gI s 120)) ∧ noY M σ s) := by
  have hM := c.1.wm
  have hn0 := c.2.1.1
  have rg := h.1.rg
  unfold t_ends_F
  refine fm_t_addTerm (ts_addTermA hn0 h lx (l := []) ⟨by rw [ef]; simp, by simp, alT_nil _ _⟩ f0 (by omega)) (fun _ t4 f4 q => ?_) (fun t4 f4 q => ?_)
  rotate_left
  · have e := addTE_det _ _ q.1 (Or.inr ⟨List.not_mem_nil, rfl⟩)
    rw [if_neg (by simp)] at e
    cases e
  obtain ⟨l', e0, k4, hl4, tm4⟩ := q
  have e := addTE_det _ _ e0 (Or.inr ⟨List.not_mem_nil, rfl⟩)
  rw [if_neg (by simp)] at e
  simp only [Sum.inr.injEq, Prod.mk.injEq, List.nil_append, and_true] at e
  rw [eX] at e
  subst e
  have fz : ∀ s, Fr wT_ends t4 s → gA s 102 = gA σ 102 ∧ gA s 103 = gA σ 103 ∧ gA s 104 = gA σ 104 ∧ gA s 69 = gA σ 69 := fun s f => ⟨by rw [f.a _ rfl, f4.a _ rfl], by rw [f.a _ rfl, f4.a _ rfl], by rw [f.a _ rfl, f4.a _ rfl], by rw [f.a _ rfl, f4.a _ rfl]⟩
  refine lt_ends_L13 (fo_t_S_answers n) (fun v6 s => ∃ (mc : List Tr) (cs : List Nat) (sti : ST), v6 = fr + (cs.length : Int) ∧ cs.length ≤ mc.length ∧ okY M R mo sx σ0 σ sti s ∧ anT s fr mc ∧ wiA M R a0 r0 st sti mc ∧ tmF fr σ s ∧ (∀ i : Nat, i < cs.length → cs[i]? = some (gA s 82 (fr + i)).toNat ∧ 0 ≤ gA s 82 (fr + i)) ∧ ∀ o, manyE (ansE M R mo wl m Za) (62 - cs.length) cs.length mc cs sti o → manyE (ansE M R mo wl m Za) 62 0 [X] [] st o)
    (fun v6 _ => (61 - (v6 - fr).toNat)) ⟨[X], [], st, by simp, by simp, k4, hl4, ⟨wi, leS.rf _, anK_one ⟨dx, ox⟩⟩, fun j hj => tm4 j (by omega), fun i hi => by simp at hi, fun o ho => ho⟩ ?_
  rintro v6 s fr0 ⟨mc, cs, sti, rfl, hcs, ko, hmc, ⟨wii, li, ai⟩, tms, hru, hf⟩
  try dsimp only
  have m60 := ai.1.1
  rw [hmc.1]
  by_cases yy : fr + (cs.length : Int) < fr + (mc.length : Int)
  · rw [if_pos yy]
    have wi1 : w32 (fr + (cs.length : Int) + 1) = fr + (cs.length : Int) + 1 := w32_id (by omega) (by omega)
    rw [wi1]
    refine ⟨⟨by omega, by omega⟩, ?_⟩
    obtain ⟨ly, ey⟩ := hmc.2.2 cs.length (by omega)
    have xk := ai.2 _ (List.mem_of_getElem? ey)
    have fzs := fz s fr0
    have hll' : llT M sx s wl := by unfold llT; rw [fzs.2.2.2]; exact hll
    have recur := iad s sti za _ fr Za _ mc ko.1 wii ly rfl xk.2 xk.1 (sy.next ko) (szT.fr fzs.1 fzs.2.1 fzs.2.2.1 fzs.2.2.2 _ _ _ sza) hll' hmc ai f0 (by omega)
    have fu : 62 - cs.length = (61 - cs.length) + 1 := by omega
    have go : ∀ o, bnd (ansE M R mo wl m Za (tT s (gA s 81 (fr + (cs.length : Int)))) sti) (fun l st1 o => bnd (addsE l mc st1) (fun m1 st2 o => manyE (ansE M R mo wl m Za) (61 - cs.length) (cs.length + 1) m1 (cs ++ [l.length]) st2 o) o) o → manyE (ansE M R mo wl m Za) (62 - cs.length) cs.length mc cs sti o := by
      intro o ho
      rw [fu]
      simp only [manyE]
      rw [ey]
      exact ho
    refine fo_t_S_answers n _ _ _ _ _ _ _ recur (fun r13 t12 f12 q => ?_) (fun t12 f12 q => ⟨bnd_inl (hf _ (go _ ?_)), q.2.pre rg.1 ko⟩)
    rotate_left
    · rcases q.1 with ⟨e, p1, p2⟩ | ⟨l1, s1, p1, p2⟩
      · rw [Sum.inl.inj p2]; exact bnd_inl p1
      · exact bnd_inr p1 (bnd_inl p2)
    obtain ⟨st2, l1, l2, e2, e3, rfl, k2, hl2, tm2⟩ := q
    have w2 := ansE_wi hM c.2.2.1 m Za _ sti l1 st2 xk.2 xk.1 wii e2
    obtain ⟨-, an3, tl, etl⟩ := addsE_an l1 mc st2 l2 st2 w2.2.2.2 (ai.le w2.2.1) e3
    have cl1 : (cs ++ [l1.length]).length = cs.length + 1 := by rw [List.length_append]; rfl
    refine ⟨⟨by omega, by omega⟩, ?_⟩
    rintro t25 ht25
    have f25 : Fr ([], [], [82]) t12 t25 := Fr.rf.putA ht25 rfl
    have g25 : gwT t12 t25 := EyT.of_fr f25 rfl
    have er : ∀ j : Int, gA t25 82 j = if j = fr + (cs.length : Int) then (l1.length : Int) else gA t12 82 j := fun j => by
      rw [ht25]
      simp only [gI_pI, gI_pL, gI_pA, gL_pI, gL_pL, gL_pA, gA_pI, gA_pL, gA_pA]
      by_cases z : j = fr + (cs.length : Int)
      · rw [if_pos ⟨trivial, z⟩, if_pos z]
      · rw [if_neg (fun q => z q.2), if_neg z]
    refine ⟨⟨l2, cs ++ [l1.length], st2, by rw [cl1]; omega, by rw [cl1, etl, List.length_append]; omega, (okY.trans rg.1 ko k2).fr3 hn0 rg.1 f25 rfl rfl rfl rfl rfl rfl rfl, ⟨by rw [f25.i _ rfl]; exact hl2.1, hl2.2.1, hl2.2.2.to g25 (fun j _ _ => by rw [f25.a _ rfl])⟩, ⟨w2.1, li.trans w2.2.1, an3⟩, fun j hj => ?_, fun i hi => ?_, fun o ho => hf _ (go _ (bnd_inr e2 (bnd_inr e3 ?_)))⟩, by omega⟩
    · have a := tms j hj
      have b := tm2 j (by omega)
      rw [f25.a _ rfl, er, if_neg (by omega)]
      exact ⟨b.1.trans a.1, b.2.trans a.2⟩
    · rw [cl1] at hi
      rw [er]
      by_cases z : i = cs.length
      · rw [if_pos (by omega), z, List.getElem?_append_right (Nat.le_refl _), Nat.sub_self]
        exact ⟨by simp, by omega⟩
      · rw [if_neg (by omega), List.getElem?_append_left (by omega), (tm2 _ (by omega)).2]
        exact hru i (by omega)
    · rw [cl1, show 62 - (cs.length + 1) = 61 - cs.length by omega] at ho
      exact ho
  · rw [if_neg yy]
    have ek : cs.length = mc.length := by omega
    have e1 : manyE (ansE M R mo wl m Za) 62 0 [X] [] st (.inr ((mc, cs), sti)) := by
      refine hf _ ?_
      rw [show 62 - cs.length = (61 - cs.length) + 1 by omega]
      simp only [manyE]
      rw [show mc[cs.length]? = none from List.getElem?_eq_none (by omega)]
      trivial
    unfold t_ends_j52
    have sl : ∀ j, (stay mc (cs.take j)).length ≤ j := fun j => by
      have := sofar_len (rs := true) (m := mc) (cs := cs.take j)
      unfold sofar at this
      rw [if_pos rfl, List.length_take] at this
      omega
    refine lt_ends_L55 (fo_t_S_answers n) (fun v4 v5 t => ∃ j : Nat, v5 = fr + (j : Int) ∧ j ≤ cs.length ∧ v4 = fr + ((stay mc (cs.take j)).length : Int) ∧ Fr ([], [], [81]) s t ∧ (∀ i : Nat, i < (stay mc (cs.take j)).length → lvT s (gA t 81 (fr + i)) ∧ (stay mc (cs.take j))[i]? = some (tT s (gA t 81 (fr + i)))) ∧ ∀ i, (i < fr ∨ fr + (j : Int) ≤ i) → gA t 81 i = gA s 81 i)
      (fun _ v5 _ => (cs.length + 1 - (v5 - fr).toNat)) ⟨0, by simp, by omega, by rw [List.take_zero]; unfold stay; simp, Fr.rf, fun i hi => by rw [List.take_zero] at hi; unfold stay at hi; simp at hi, fun _ _ => rfl⟩ ?_
    rintro v4 v5 t fr1 ⟨j, rfl, hj, rfl, ft, hst, hun⟩
    try dsimp only
    rw [ft.i 129 rfl, hmc.1]
    have slj := sl j
    by_cases y2 : fr + (j : Int) < fr + (mc.length : Int)
    · rw [if_pos y2]
      refine ⟨⟨by omega, by omega⟩, ?_⟩
      rw [ft.a 82 rfl]
      obtain ⟨c1, c2⟩ := hru j (by omega)
      have tk : cs.take (j + 1) = cs.take j ++ [(gA s 82 (fr + (j : Int))).toNat] := by rw [List.take_add_one, c1]; rfl
      have lj : (cs.take j).length = j := by rw [List.length_take]; omega
      obtain ⟨ly, ey⟩ := hmc.2.2 j (by omega)
      have ss := stay_snoc (m := mc) (t := []) (cs := cs.take j) (c := (gA s 82 (fr + (j : Int))).toNat) (x := tT s (gA s 81 (fr + (j : Int)))) (by rw [lj]; exact ey)
      rw [List.append_nil, ← tk] at ss
      have wi5 : w32 (fr + (j : Int) + 1) = fr + ((j + 1 : Nat) : Int) := by rw [w32_id (by omega) (by omega)]; omega
      by_cases z : gA s 82 (fr + (j : Int)) = 0
      · rw [if_pos z]
        rw [if_pos (by rw [z]; rfl)] at ss
        refine ⟨⟨by omega, by omega⟩, ⟨by omega, by omega⟩, ?_⟩
        rintro t17 ht17
        unfold t_ends_j91
        have wi4 : w32 (fr + ((stay mc (cs.take j)).length : Int) + 1) = fr + ((stay mc (cs.take j)).length : Int) + 1 := w32_id (by omega) (by omega)
        rw [wi4, wi5]
        have ej : gA t 81 (fr + (j : Int)) = gA s 81 (fr + (j : Int)) := hun _ (Or.inr (Int.le_refl _))
        rw [ej] at ht17
        have ev : ∀ i : Int, gA t17 81 i = if i = fr + ((stay mc (cs.take j)).length : Int) then gA s 81 (fr + (j : Int)) else gA t 81 i := fun i => by
          rw [ht17]
          simp only [gI_pI, gI_pL, gI_pA, gL_pI, gL_pL, gL_pA, gA_pI, gA_pL, gA_pA]
          by_cases z : i = fr + ((stay mc (cs.take j)).length : Int)
          · rw [if_pos ⟨trivial, z⟩, if_pos z]
          · rw [if_neg (fun q => z q.2), if_neg z]
        refine ⟨⟨j + 1, rfl, by omega, by rw [ss, List.length_append]; simp only [List.length_cons, List.length_nil]; omega, ft.putA ht17 rfl, fun i hi => ?_, fun i hi => ?_⟩, by omega⟩
        · rw [ss, List.length_append] at hi
          simp only [List.length_cons, List.length_nil] at hi
          rw [ss, ev]
          by_cases w : i = (stay mc (cs.take j)).length
          · rw [if_pos (by omega), w, List.getElem?_append_right (Nat.le_refl _), Nat.sub_self]
            exact ⟨ly, rfl⟩
          · rw [if_neg (by omega), List.getElem?_append_left (by omega)]
            exact hst i (by omega)
        · rw [ev, if_neg (by omega)]
          exact hun i (by omega)
      · rw [if_neg z]
        rw [if_neg (by omega), List.append_nil] at ss
        unfold t_ends_j91
        rw [wi5]
        refine ⟨⟨j + 1, rfl, by omega, by rw [ss], ft, fun i hi => by rw [ss] at hi ⊢; exact hst i hi, fun i hi => hun i (by omega)⟩, by omega⟩
    · rw [if_neg y2]
      have ej : j = cs.length := by omega
      subst ej
      rw [List.take_length] at hst slj ⊢
      unfold t_ends_j97
      rintro t9 ht9
      have f9 : Fr ([129], [], [81]) s t9 := (ft.weak rfl).putI ht9 rfl
      have g9 : gwT s t9 := EyT.of_fr f9 rfl
      have et : gA t9 81 = gA t 81 := by rw [ht9]; rfl
      refine ⟨sti, stay mc cs, bnd_inr e1 rfl, ko.fr3 hn0 rg.1 f9 rfl rfl rfl rfl rfl rfl rfl, ⟨by rw [ht9]; simp only [gI_pI, gI_pL, gI_pA, gL_pI, gL_pL, gL_pA, gA_pI, gA_pL, gA_pA]; rw [if_pos trivial], by omega, fun i hi => ?_⟩, fun i hi => ?_⟩
      · rw [et]
        obtain ⟨a1, a2⟩ := hst i hi
        exact ⟨g9.lv a1, by rw [a2, g9.2.1 _ a1]⟩
      · rw [et, f9.a 82 rfl, hun i (Or.inl hi)]
        exact tms i hi
theorem ts_answers (c : cxT2 M R mo σ0 (a0 + 50) (r0 + 50)) (hOt : isOt M) : ∀ (m n : Nat), 3 * m + 1 ≤ n → ANT M R mo sx σ0 a0 r0 wl m n := by
  have hM := c.1.wm
  have hn0 := c.2.1.1
  intro m
  induction m with
  | zero => intro n _ σ st z x fr Z X _ _ _ _ _ _ _ sz; exact sz.elim
  | succ m ih =>
    intro n hn σ st z x fr Z X h wi lx eX ox dx sy sz hll ef f0 f1
    obtain ⟨n, rfl⟩ : ∃ k, n = k + 3 := ⟨n - 3, by omega⟩
    have rg := h.1.rg
    rw [te_answers_0]
    unfold t_answers_F
    obtain ⟨z0, sz⟩ := sz
    have bz : inb z 200 := z0
    refine ⟨bz, bz, ?_⟩
    rw [ef]
    have ad2 : ADT M R mo sx σ0 a0 r0 wl m (n + 2) := ts_addAll c (ih (n + 1) (by omega))
    have ad1 : ADT M R mo sx σ0 a0 r0 wl m (n + 1) := ts_addAll c (ih n (by omega))
    have fin : ∀ (l : List Tr) (s : S), anT s fr l → w32 (gI s 129 - fr) = (l.length : Int) := fun l s a => by
      have := a.2.1
      rw [a.1, w32_id (by omega) (by omega)]; omega
    have nil0 : ∀ s, gI s 129 = fr → anT s fr [] := fun s e => ⟨by rw [e]; simp, by simp, alT_nil _ _⟩
    have one : ∀ (s : S) (st1 : ST), TR M R mo sx σ0 st1 s → lvT s x → tT s x = X → gI s 129 = fr → t_addTerm x 0 fr s (fun _ s' => okY M R mo sx σ0 s st1 s' ∧ anT s' fr [X] ∧ tmF fr s s') (fun _ => False) := by
      intro s st1 hs ls es e
      refine fm_t_addTerm (ts_addTermA hn0 hs ls (nil0 s e) f0 (by omega)) (fun _ t4 f4 q => ?_) (fun t4 f4 q => ?_)
      · obtain ⟨l', e0, k4, hl4, tm4⟩ := q
        have e' := addTE_det _ _ e0 (Or.inr ⟨List.not_mem_nil, rfl⟩)
        rw [if_neg (by simp)] at e'
        simp only [Sum.inr.injEq, Prod.mk.injEq, List.nil_append, and_true] at e'
        rw [es] at e'
        rw [e'] at hl4
        exact ⟨k4, hl4, fun j hj => tm4 j (by omega)⟩
      · have e' := addTE_det _ _ q.1 (Or.inr ⟨List.not_mem_nil, rfl⟩)
        rw [if_neg (by simp)] at e'
        cases e'
    rcases sz with ⟨lz, ez⟩ | ⟨lz, ez⟩ | ⟨lz, ez⟩ | ⟨lz, lz2, ez, el⟩ | ⟨lz, ez, s1, s2⟩ | ⟨lz, ez, s1, s2⟩ | ⟨lz, ez, s1⟩ | ⟨lz, ez, s1⟩ | ⟨lz, ez, s1⟩ | ⟨lz, ez, s1⟩
    · rw [ez, if_pos rfl]
      refine fm_t_addTerm (one σ st h lx eX ef) (fun _ s f q => ?_) (fun _ _ q => q.elim)
      obtain ⟨k, hl, tm⟩ := q
      unfold t_answers_j253
      rw [fin _ _ hl]
      exact ⟨st, [X], Or.inl ⟨lz, Or.inr ⟨List.not_mem_nil, by rw [if_neg (by simp)]; rfl⟩⟩, rfl, k, hl, tm⟩
    · rw [ez, if_neg (by decide), if_pos rfl]
      unfold t_answers_j253
      rw [fin _ _ (nil0 σ ef)]
      exact ⟨st, [], Or.inr (Or.inl ⟨lz, rfl⟩), rfl, okY.rf h, nil0 σ ef, tmF.rf _ _⟩
    · rw [ez, if_neg (by decide), if_neg (by decide), if_pos rfl]
      refine fm_t_listSteps (ts_listSteps (w := wAll) c hOt h wi ox dx lx eX sy ef f0 (by omega) (fun r _ _ => ⟨fun _ => Or.inl (by decide), fun _ => rfl⟩)) (fun r s f q => ?_) (fun s f q => ⟨Or.inr (Or.inr (Or.inl ⟨lz, bnd_inl q.1⟩)), q.2⟩)
      obtain ⟨st', fl', e, -, k, hf, tm⟩ := q
      unfold t_answers_j253
      rw [fin _ _ hf.an]
      exact ⟨st', fl'.map Prod.fst, Or.inr (Or.inr (Or.inl ⟨lz, bnd_inr e rfl⟩)), rfl, k, hf.an, tm⟩
    · rw [ez, if_neg (by decide), if_neg (by decide), if_neg (by decide), if_pos rfl, el]
      obtain ⟨l0, lq⟩ := hll (lab Z - 100) (by omega) (by omega)
      refine fm_t_listSteps (ts_listSteps (w := wl (lab Z - 100)) c hOt h wi ox dx lx eX sy ef f0 (by omega) (fun q q0 q1 => by
        rw [lq q q0 q1]
        constructor
        · exact fun k => Or.inr k
        · rintro (k | k)
          · omega
          · exact k)) (fun r s f q => ?_) (fun s f q => ⟨Or.inr (Or.inr (Or.inr (Or.inl ⟨lz, bnd_inl q.1⟩))), q.2⟩)
      obtain ⟨st', fl', e, -, k, hf, tm⟩ := q
      unfold t_answers_j253
      rw [fin _ _ hf.an]
      exact ⟨st', fl'.map Prod.fst, Or.inr (Or.inr (Or.inr (Or.inl ⟨lz, bnd_inr e rfl⟩))), rfl, k, hf.an, tm⟩
    · rw [ez, if_neg (by decide), if_neg (by decide), if_neg (by decide), if_neg (by decide), if_pos rfl]
      have to : ∀ o, bnd (ansE M R mo wl m (kid0 Z) X st) (fun l st1 o => bnd (ansE M R mo wl m (kid1 Z) X st1) (fun l2 st2 o => addsE l2 l st2 o) o) o → ansE M R mo wl (m + 1) Z X st o := fun o ho => Or.inr (Or.inr (Or.inr (Or.inr (Or.inl ⟨lz, ho⟩))))
      refine fo_t_S_answers (n + 2) _ _ _ _ _ _ _ (ih (n + 2) (by omega) σ st _ x fr (kid0 Z) X h wi lx eX ox dx sy s1 hll ef f0 (by omega)) (fun r1 t1 f1' q => ?_) (fun t1 f1' q => ⟨to _ (bnd_inl q.1), q.2⟩)
      obtain ⟨st1, l1, e1, rfl, k1, hl1, tm1⟩ := q
      have w1 := ansE_wi hM c.2.2.1 m (kid0 Z) X st l1 st1 ox dx wi e1
      refine ⟨bz, ?_⟩
      have fz : gA t1 102 = gA σ 102 ∧ gA t1 103 = gA σ 103 ∧ gA t1 104 = gA σ 104 ∧ gA t1 69 = gA σ 69 := ⟨f1'.a _ rfl, f1'.a _ rfl, f1'.a _ rfl, f1'.a _ rfl⟩
      have hll1 : llT M sx t1 wl := by unfold llT; rw [fz.2.2.2]; exact hll
      rw [fz.2.2.1]
      refine fo_t_S_answers (n + 2) _ _ _ _ _ _ _ (ad2 t1 st1 _ x fr (kid1 Z) X l1 k1.1 w1.1 (k1.2.1.lv lx) ((k1.2.1.2.1 x lx).trans eX) ox (dx.le w1.2.1 ox.1.1) (sy.next k1) (szT.fr fz.1 fz.2.1 fz.2.2.1 fz.2.2.2 _ _ _ s2) hll1 hl1 w1.2.2 f0 (by omega)) (fun r2 t2 f2 q => ?_) (fun t2 f2 q => ⟨to _ (bnd_inr e1 q.1), q.2.pre rg.1 k1⟩)
      obtain ⟨st2, la, lb', e2, e3, -, k2, hl2, tm2⟩ := q
      unfold t_answers_j253
      rw [fin _ _ hl2]
      exact ⟨st2, lb', to _ (bnd_inr e1 (bnd_inr e2 e3)), rfl, okY.trans rg.1 k1 k2, hl2, tm1.trans (tm2.weak (by omega))⟩
    · rw [ez, if_neg (by decide), if_neg (by decide), if_neg (by decide), if_neg (by decide), if_neg (by decide), if_pos rfl]
      refine ⟨bz, ?_⟩
      have g := ts_thenAll c (ih (n + 1) (by omega)) ad1 h wi lx eX ox dx sy s1 s2 hll ef f0 (by omega)
      rw [← te_answers_2] at g
      refine fo_t_S_answers (n + 2) _ _ _ _ _ _ _ g (fun r s f q => ?_) (fun s f q => ⟨Or.inr (Or.inr (Or.inr (Or.inr (Or.inr (Or.inl ⟨lz, q.1⟩))))), q.2⟩)
      obtain ⟨st', l, e, k, hl, tm⟩ := q
      unfold t_answers_j253
      rw [fin _ _ hl]
      exact ⟨st', l, Or.inr (Or.inr (Or.inr (Or.inr (Or.inr (Or.inl ⟨lz, e⟩))))), rfl, k, hl, tm⟩
    · rw [ez, if_neg (by decide), if_neg (by decide), if_neg (by decide), if_neg (by decide), if_neg (by decide), if_neg (by decide), if_pos rfl]
      refine ts_star c ad2 h wi lx eX ox dx sy s1 hll ef f0 (by omega) (fun st' mc cs s e k hl tm => ?_) (fun s e no => ⟨Or.inr (Or.inr (Or.inr (Or.inr (Or.inr (Or.inr (Or.inl ⟨lz, bnd_inl e⟩)))))), no⟩)
      rw [fin _ _ hl]
      exact ⟨st', mc, Or.inr (Or.inr (Or.inr (Or.inr (Or.inr (Or.inr (Or.inl ⟨lz, bnd_inr e rfl⟩)))))), rfl, k, hl, tm⟩
    · rw [ez, if_neg (by decide), if_neg (by decide), if_neg (by decide), if_neg (by decide), if_neg (by decide), if_neg (by decide), if_neg (by decide), if_pos rfl]
      have g := ts_ends c ad1 h wi lx eX ox dx sy s1 hll ef f0 (by omega)
      rw [← te_answers_3] at g
      have to : ∀ o, bnd (manyE (ansE M R mo wl m (kid0 Z)) 62 0 [X] [] st) (fun q st1 o => o = .inr (stay q.1 q.2, st1)) o → ansE M R mo wl (m + 1) Z X st o := fun o ho => Or.inr (Or.inr (Or.inr (Or.inr (Or.inr (Or.inr (Or.inr (Or.inl ⟨lz, ho⟩)))))))
      refine fo_t_S_answers (n + 2) _ _ _ _ _ _ _ g (fun r s f q => ?_) (fun s f q => ⟨to _ q.1, q.2⟩)
      obtain ⟨st', l, e, k, hl, tm⟩ := q
      unfold t_answers_j253
      rw [fin _ _ hl]
      exact ⟨st', l, to _ e, rfl, k, hl, tm⟩
    · rw [ez, if_neg (by decide), if_neg (by decide), if_neg (by decide), if_neg (by decide), if_neg (by decide), if_neg (by decide), if_neg (by decide), if_neg (by decide), if_pos rfl]
      have to : ∀ o, bnd (ansE M R mo wl m (kid0 Z) X st) (fun l st1 o => o = .inr (if l = [] then [X] else [], st1)) o → ansE M R mo wl (m + 1) Z X st o := fun o ho => Or.inr (Or.inr (Or.inr (Or.inr (Or.inr (Or.inr (Or.inr (Or.inr (Or.inl ⟨lz, ho⟩))))))))
      refine fo_t_S_answers (n + 2) _ _ _ _ _ _ _ (ih (n + 2) (by omega) σ st _ x fr (kid0 Z) X h wi lx eX ox dx sy s1 hll ef f0 (by omega)) (fun r1 t1 f1' q => ?_) (fun t1 f1' q => ⟨to _ (bnd_inl q.1), q.2⟩)
      obtain ⟨st1, l1, e1, rfl, k1, hl1, tm1⟩ := q
      rintro t42 ht42
      have f42 : Fr ([129], [], []) t1 t42 := Fr.rf.putI ht42 rfl
      have k42 := k1.fr3 hn0 rg.1 f42 rfl rfl rfl rfl rfl rfl rfl
      have e42 : gI t42 129 = fr := by rw [ht42]; simp only [gI_pI, gI_pL, gI_pA, gL_pI, gL_pL, gL_pA, gA_pI, gA_pL, gA_pA]; rw [if_pos trivial]
      have tm42 : tmF fr σ t42 := tm1.fr f42 rfl
      by_cases z1 : l1 = []
      · subst z1
        rw [if_pos (show (([] : List Tr).length : Int) = 0 from rfl)]
        refine fm_t_addTerm (one t42 st1 k42.1 (k42.2.1.lv lx) ((k42.2.1.2.1 x lx).trans eX) e42) (fun _ s f q => ?_) (fun _ _ q => q.elim)
        obtain ⟨k, hl, tm⟩ := q
        unfold t_answers_j253
        rw [fin _ _ hl]
        exact ⟨st1, [X], to _ (bnd_inr e1 (by rw [if_pos rfl])), rfl, okY.trans rg.1 k42 k, hl, tm42.trans tm⟩
      · rw [if_neg (by intro e; exact z1 (List.length_eq_zero_iff.mp (by omega)))]
        unfold t_answers_j253
        rw [fin _ _ (nil0 t42 e42)]
        exact ⟨st1, [], to _ (bnd_inr e1 (by rw [if_neg z1])), rfl, k42, nil0 t42 e42, tm42⟩
    · rw [ez, if_neg (by decide), if_neg (by decide), if_neg (by decide), if_neg (by decide), if_neg (by decide), if_neg (by decide), if_neg (by decide), if_neg (by decide), if_neg (by decide)]
      have to : ∀ o, bnd (ansE M R mo wl m (kid0 Z) X st) (fun l st1 o => o = .inr (l.take 1, st1)) o → ansE M R mo wl (m + 1) Z X st o := fun o ho => Or.inr (Or.inr (Or.inr (Or.inr (Or.inr (Or.inr (Or.inr (Or.inr (Or.inr ⟨lz, ho⟩))))))))
      refine fo_t_S_answers (n + 2) _ _ _ _ _ _ _ (ih (n + 2) (by omega) σ st _ x fr (kid0 Z) X h wi lx eX ox dx sy s1 hll ef f0 (by omega)) (fun r1 t1 f1' q => ?_) (fun t1 f1' q => ⟨to _ (bnd_inl q.1), q.2⟩)
      obtain ⟨st1, l1, e1, rfl, k1, hl1, tm1⟩ := q
      rintro t52 ht52
      have f52 : Fr ([129], [], []) t1 t52 := Fr.rf.putI ht52 rfl
      have k52 := k1.fr3 hn0 rg.1 f52 rfl rfl rfl rfl rfl rfl rfl
      have lt1 : (l1.take 1).length = if l1 = [] then 0 else 1 := by
        cases l1 with
        | nil => rfl
        | cons a l => rfl
      have eb : bi (¬ ((l1.length : Int) ≤ 0)) = ((l1.take 1).length : Int) := by
        rw [lt1]
        by_cases z1 : l1 = []
        · rw [if_pos z1, bi_f (by rw [z1]; simp)]
          rfl
        · have : 0 < l1.length := List.length_pos_iff.mpr z1
          rw [if_neg z1, bi_t (by omega)]
          rfl
      have len1 : (l1.take 1).length ≤ 1 := by rw [List.length_take]; omega
      have len2 : (l1.take 1).length ≤ l1.length := by rw [List.length_take]; omega
      have e52 : gI t52 129 = fr + ((l1.take 1).length : Int) := by
        rw [ht52]
        simp only [gI_pI, gI_pL, gI_pA, gL_pI, gL_pL, gL_pA, gA_pI, gA_pL, gA_pA]
        rw [if_pos trivial, eb, w32_id (by omega) (by omega)]
      have hl52 : anT t52 fr (l1.take 1) := ⟨e52, by omega, fun i hi => by
        obtain ⟨a1, a2⟩ := hl1.2.2 i (by omega)
        rw [f52.a 81 rfl]
        have g52 : gwT t1 t52 := EyT.of_fr f52 rfl
        exact ⟨g52.lv a1, by rw [List.getElem?_take_of_lt (by omega), a2, g52.2.1 _ a1]⟩⟩
      unfold t_answers_j253
      rw [fin _ _ hl52]
      exact ⟨st1, l1.take 1, to _ (bnd_inr e1 rfl), rfl, k52, hl52, tm1.fr f52 rfl⟩
end

/-! RewriteHouseModel: the answers of a strategy, one behind the other, over and over -/
section
variable {M : Mo} {R : Ru} {mo : Int} {σ0 : S} {a0 r0 : Int} {sx : Int → Int} {wl : Int → Int → Bool}
theorem addsE_len : ∀ (zs l : List Tr) (st : ST) (l' : List Tr), addsE zs l st (.inr (l', st)) → l.length ≤ l'.length := by
  intro zs
  induction zs with
  | nil =>
    intro l st l' h
    simp only [addsE, Sum.inr.injEq, Prod.mk.injEq] at h
    rw [h.1]
    exact Nat.le_refl _
  | cons z zs ih =>
    intro l st l' h
    obtain ⟨l1, st1, p1, h2⟩ := bnd_ok h
    have e : st1 = st ∧ l.length ≤ l1.length := by
      rcases p1 with ⟨-, p⟩ | ⟨-, p⟩
      · simp only [Sum.inr.injEq, Prod.mk.injEq] at p; exact ⟨p.2, by rw [p.1]; exact Nat.le_refl _⟩
      · split at p
        · cases p
        · simp only [Sum.inr.injEq, Prod.mk.injEq] at p; exact ⟨p.2, by rw [p.1, List.length_append]; omega⟩
    rw [e.1] at h2
    have := ih l1 st l' h2
    omega
theorem tmF.weak {a b : Int} {σ s : S} (h : tmF b σ s) (k : a ≤ b) : tmF a σ s := fun j hj => h j (by omega)
theorem ts_thenAll (c : cxT2 M R mo σ0 (a0 + 50) (r0 + 50)) {m n : Nat} (ih : ANT M R mo sx σ0 a0 r0 wl m n) (iad : ADT M R mo sx σ0 a0 r0 wl m n) {σ : S} {st : ST} {za zb x fr : Int} {Za Zb X : Tr} (h : TR M R mo sx σ0 st σ) (wi : WI M R a0 r0 0 0 st) (lx : lvT σ x) (eX : tT σ x = X) (ox : okT M X) (dx : DR M st X) (sy : SY 0 σ) (sza : szT M sx σ m za Za) (szb : szT M sx σ m zb Zb) (hll : llT M sx σ wl) (ef : gI σ 129 = fr) (f0 : 0 ≤ fr) (f1 : fr + 122 * ((m : Int) + 1) + 62 ≤ 40000) :
    t_thenAll_F (t_S_answers n) za zb x fr σ (fun _ s => ∃ st' l, bnd (ansE M R mo wl m Za X st) (fun l st1 o => thenE (ansE M R mo wl m Zb) l [] st1 o) (.inr (l, st')) ∧ okY M R mo sx σ0 σ st' s ∧ anT s fr l ∧ tmF fr σ s) (fun s => bnd (ansE M R mo wl m Za X st) (fun l st1 o => thenE (ansE M R mo wl m Zb) l [] st1 o) (.inl (gI s 1006, gI s 120)) ∧ noY M σ s) := by
  have hM := c.1.wm
  have hn0 := c.2.1.1
  have rg := h.1.rg
  unfold t_thenAll_F
  refine fo_t_S_answers n _ _ _ _ _ _ _ (ih σ st za x fr Za X h wi lx eX ox dx sy sza hll ef f0 (by omega)) (fun r2 t1 f1' q => ?_) (fun t1 f1' q => ⟨bnd_inl q.1, q.2⟩)
  obtain ⟨st1, zs, e1, rfl, k1, hz, tm1⟩ := q
  have w1 := ansE_wi hM c.2.2.1 m Za X st zs st1 ox dx wi e1
  have z60 := hz.2.1
  have wm : w32 (fr + (zs.length : Int)) = fr + zs.length := w32_id (by omega) (by omega)
  rw [wm]
  rintro t4 ht4
  have f4 : Fr ([129], [], []) t1 t4 := Fr.rf.putI ht4 rfl
  have e4 : t4 = t1 := by rw [ht4]; exact pI_same hz.1
  rw [e4]
  obtain ⟨mid, hmid⟩ : ∃ z, z = fr + (zs.length : Int) := ⟨_, rfl⟩
  rw [← hmid]
  have fz : ∀ s, Fr wT_thenAll t1 s → gA s 102 = gA σ 102 ∧ gA s 103 = gA σ 103 ∧ gA s 104 = gA σ 104 ∧ gA s 69 = gA σ 69 := fun s f => ⟨by rw [f.a _ rfl, f1'.a _ rfl], by rw [f.a _ rfl, f1'.a _ rfl], by rw [f.a _ rfl, f1'.a _ rfl], by rw [f.a _ rfl, f1'.a _ rfl]⟩
  refine lt_thenAll_L24 (fo_t_S_answers n) (fun k7 s => ∃ (k : Nat) (lc : List Tr) (sti : ST), k7 = (k : Int) ∧ k ≤ zs.length ∧ okY M R mo sx σ0 σ sti s ∧ anT s mid lc ∧ alT s fr zs ∧ wiA M R a0 r0 st1 sti lc ∧ tmF fr σ s ∧ ∀ o, thenE (ansE M R mo wl m Zb) (zs.drop k) lc sti o → thenE (ansE M R mo wl m Zb) zs [] st1 o)
    (fun k7 _ => (zs.length - k7.toNat)) ⟨0, [], st1, rfl, by omega, k1, ⟨by rw [hz.1, hmid]; simp, by simp, alT_nil _ _⟩, hz.2.2, ⟨w1.1, leS.rf _, anK_nil _⟩, tm1, fun o ho => ho⟩ ?_
  rintro k7 s fr0 ⟨k, lc, sti, rfl, hk, ko, hl, hz', ⟨wii, li, ai⟩, tms, hf⟩
  try dsimp only
  by_cases yy : (k : Int) < (zs.length : Int)
  · rw [if_pos yy]
    have wk : w32 (fr + (k : Int)) = fr + k := w32_id (by omega) (by omega)
    have wi1 : w32 ((k : Int) + 1) = ((k + 1 : Nat) : Int) := by rw [w32_id (by omega) (by omega)]; omega
    rw [wk, wi1]
    refine ⟨⟨by omega, by omega⟩, ?_⟩
    obtain ⟨ly, ey⟩ := hz' k (by omega)
    have xk := w1.2.2.2 _ (List.mem_of_getElem? ey)
    have fzs := fz s fr0
    have hll' : llT M sx s wl := by unfold llT; rw [fzs.2.2.2]; exact hll
    have recur := iad s sti zb _ mid Zb _ lc ko.1 wii ly rfl xk.2 (xk.1.le li xk.2.1.1) (sy.next ko) (szT.fr fzs.1 fzs.2.1 fzs.2.2.1 fzs.2.2.2 _ _ _ szb) hll' hl ai (by omega) (by omega)
    have dropk : zs.drop k = tT s (gA s 81 (fr + k)) :: zs.drop (k + 1) := by
      have e := (List.getElem?_eq_some_iff.mp ey).2
      rw [← e, ← List.drop_eq_getElem_cons (by omega)]
    refine fo_t_S_answers n _ _ _ _ _ _ _ recur (fun r13 t12 f12 q => ?_) (fun t12 f12 q => ⟨bnd_inr e1 (hf _ ?_), q.2.pre rg.1 ko⟩)
    rotate_left
    · rw [dropk]
      rcases q.1 with ⟨e, p1, p2⟩ | ⟨l1, s1, p1, p2⟩
      · rw [Sum.inl.inj p2]; exact bnd_inl p1
      · exact bnd_inr p1 (bnd_inl p2)
    obtain ⟨st2, l1, l2, e2, e3, -, k2, hl2, tm2⟩ := q
    have w2 := ansE_wi hM c.2.2.1 m Zb _ sti l1 st2 xk.2 (xk.1.le li xk.2.1.1) wii e2
    obtain ⟨-, an3, -⟩ := addsE_an l1 lc st2 l2 st2 w2.2.2.2 (ai.le w2.2.1) e3
    refine ⟨⟨k + 1, l2, st2, rfl, by omega, okY.trans rg.1 ko k2, hl2, hz'.to k2.2.1 (fun j j0 j1 => (tm2 j (by omega)).1), ⟨w2.1, li.trans w2.2.1, an3⟩, tms.trans (tm2.weak (by omega)), fun o ho => hf o ?_⟩, by omega⟩
    rw [dropk]
    exact bnd_inr e2 (bnd_inr e3 ho)
  · rw [if_neg yy]
    have ek : k = zs.length := by omega
    have e2 : thenE (ansE M R mo wl m Zb) zs [] st1 (.inr (lc, sti)) := hf _ (by rw [ek, List.drop_length]; rfl)
    unfold t_thenAll_j55
    have l60 := hl.2.1
    have wl' : w32 (gI s 129 - mid) = (lc.length : Int) := by rw [hl.1, w32_id (by omega) (by omega)]; omega
    rw [wl']
    -- copied down
    refine lt_thenAll_L67 (fo_t_S_answers n) (fun k8 t => ∃ j : Nat, k8 = (j : Int) ∧ j ≤ lc.length ∧ Fr ([], [], [81]) s t ∧ ∀ i : Int, gA t 81 i = if fr ≤ i ∧ i < fr + (j : Int) then gA s 81 (i - fr + mid) else gA s 81 i)
      (fun k8 _ => (lc.length - k8.toNat)) ⟨0, rfl, by omega, Fr.rf, fun i => by rw [if_neg (by omega)]⟩ ?_
    rintro k8 t fr1 ⟨j, rfl, hj, ft, hv⟩
    try dsimp only
    by_cases y2 : (j : Int) < (lc.length : Int)
    · rw [if_pos y2]
      have wa : w32 (mid + (j : Int)) = mid + j := w32_id (by omega) (by omega)
      have wb : w32 (fr + (j : Int)) = fr + j := w32_id (by omega) (by omega)
      have wi1 : w32 ((j : Int) + 1) = ((j + 1 : Nat) : Int) := by rw [w32_id (by omega) (by omega)]; omega
      rw [wa, wb, wi1]
      refine ⟨⟨by omega, by omega⟩, ⟨by omega, by omega⟩, ?_⟩
      rintro t15 ht15
      refine ⟨⟨j + 1, rfl, by omega, ft.putA ht15 rfl, fun i => ?_⟩, by omega⟩
      rw [ht15]
      simp only [gI_pI, gI_pL, gI_pA, gL_pI, gL_pL, gL_pA, gA_pI, gA_pL, gA_pA]
      by_cases z : i = fr + (j : Int)
      · rw [if_pos ⟨trivial, z⟩, if_pos (by omega), hv]
        by_cases z2 : fr ≤ mid + (j : Int) ∧ mid + (j : Int) < fr + (j : Int)
        · omega
        · rw [if_neg z2, z]
          congr 1
          omega
      · rw [if_neg (fun q => z q.2), hv]
        by_cases z2 : fr ≤ i ∧ i < fr + (j : Int)
        · rw [if_pos z2, if_pos (by omega)]
        · rw [if_neg z2, if_neg (by omega)]
    · rw [if_neg y2]
      have ej : j = lc.length := by omega
      subst ej
      unfold t_thenAll_j100
      have wb : w32 (fr + (lc.length : Int)) = fr + lc.length := w32_id (by omega) (by omega)
      rw [wb]
      rintro t11 ht11
      have f11 : Fr ([129], [], [81]) s t11 := (ft.weak rfl).putI ht11 rfl
      have g11 : gwT s t11 := EyT.of_fr f11 rfl
      have et : gA t11 81 = gA t 81 := by rw [ht11]; rfl
      have er : gA t11 82 = gA s 82 := f11.a _ rfl
      refine ⟨sti, lc, bnd_inr e1 e2, ko.fr3 hn0 rg.1 f11 rfl rfl rfl rfl rfl rfl rfl, ⟨by rw [ht11]; simp only [gI_pI, gI_pL, gI_pA, gL_pI, gL_pL, gL_pA, gA_pI, gA_pL, gA_pA]; rw [if_pos trivial], l60, fun i hi => ?_⟩, fun i hi => ?_⟩
      · rw [et, hv, if_pos (by omega)]
        obtain ⟨a1, a2⟩ := hl.2.2 i hi
        rw [show fr + (i : Int) - fr + mid = mid + i by omega]
        exact ⟨g11.lv a1, by rw [a2, g11.2.1 _ a1]⟩
      · rw [et, hv, if_neg (by omega), er]
        exact tms i hi
/-- over and over: the list grows -/
theorem ts_star (c : cxT2 M R mo σ0 (a0 + 50) (r0 + 50)) {m n : Nat} (iad : ADT M R mo sx σ0 a0 r0 wl m n) {σ : S} {st : ST} {za x fr : Int} {Za X : Tr} (h : TR M R mo sx σ0 st σ) (wi : WI M R a0 r0 0 0 st) (lx : lvT σ x) (eX : tT σ x = X) (ox : okT M X) (dx : DR M st X) (sy : SY 0 σ) (sza : szT M sx σ m za Za) (hll : llT M sx σ wl) (ef : gI σ 129 = fr) (f0 : 0 ≤ fr) (f1 : fr + 122 * ((m : Int) + 1) + 62 ≤ 40000)
    {Q : Int → S → Prop} {E : S → Prop} (hQ : ∀ st' mc cs s, manyE (ansE M R mo wl m Za) 62 0 [X] [] st (.inr ((mc, cs), st')) → okY M R mo sx σ0 σ st' s → anT s fr mc → tmF fr σ s → Q (w32 (gI s 129 - fr)) s) (hE : ∀ s, manyE (ansE M R mo wl m Za) 62 0 [X] [] st (.inl (gI s 1006, gI s 120)) → noY M σ s → E s) :
    t_addTerm x 0 fr σ (fun _ s => t_answers_L155 (t_S_answers n) fr za fr s Q E) E := by
  have hM := c.1.wm
  have hn0 := c.2.1.1
  have rg := h.1.rg
  refine fm_t_addTerm (ts_addTermA hn0 h lx (l := []) ⟨by rw [ef]; simp, by simp, alT_nil _ _⟩ f0 (by omega)) (fun _ t4 f4 q => ?_) (fun t4 f4 q => ?_)
  rotate_left
  · have e := addTE_det _ _ q.1 (Or.inr ⟨List.not_mem_nil, rfl⟩)
    rw [if_neg (by simp)] at e
    cases e
  obtain ⟨l', e0, k4, hl4, tm4⟩ := q
  have e := addTE_det _ _ e0 (Or.inr ⟨List.not_mem_nil, rfl⟩)
  rw [if_neg (by simp)] at e
  simp only [Sum.inr.injEq, Prod.mk.injEq, List.nil_append, and_true] at e
  rw [eX] at e
  subst e
  have fz : ∀ s, Fr wT_answers t4 s → gA s 102 = gA σ 102 ∧ gA s 103 = gA σ 103 ∧ gA s 104 = gA σ 104 ∧ gA s 69 = gA σ 69 := fun s f => ⟨by rw [f.a _ rfl, f4.a _ rfl], by rw [f.a _ rfl, f4.a _ rfl], by rw [f.a _ rfl, f4.a _ rfl], by rw [f.a _ rfl, f4.a _ rfl]⟩
  refine lt_answers_L155 (fo_t_S_answers n) (fun v6 s => ∃ (mc : List Tr) (cs : List Nat) (sti : ST), v6 = fr + (cs.length : Int) ∧ cs.length ≤ mc.length ∧ okY M R mo sx σ0 σ sti s ∧ anT s fr mc ∧ wiA M R a0 r0 st sti mc ∧ tmF fr σ s ∧ ∀ o, manyE (ansE M R mo wl m Za) (62 - cs.length) cs.length mc cs sti o → manyE (ansE M R mo wl m Za) 62 0 [X] [] st o)
    (fun v6 _ => (61 - (v6 - fr).toNat)) ⟨[X], [], st, by simp, by simp, k4, hl4, ⟨wi, leS.rf _, anK_one ⟨dx, ox⟩⟩, fun j hj => tm4 j (by omega), fun o ho => ho⟩ ?_
  rintro v6 s fr0 ⟨mc, cs, sti, rfl, hcs, ko, hmc, ⟨wii, li, ai⟩, tms, hf⟩
  try dsimp only
  have m60 := ai.1.1
  rw [hmc.1]
  by_cases yy : fr + (cs.length : Int) < fr + (mc.length : Int)
  · rw [if_pos yy]
    have wi1 : w32 (fr + (cs.length : Int) + 1) = fr + (cs.length : Int) + 1 := w32_id (by omega) (by omega)
    rw [wi1]
    refine ⟨⟨by omega, by omega⟩, ?_⟩
    obtain ⟨ly, ey⟩ := hmc.2.2 cs.length (by omega)
    have xk := ai.2 _ (List.mem_of_getElem? ey)
    have fzs := fz s fr0
    have hll' : llT M sx s wl := by unfold llT; rw [fzs.2.2.2]; exact hll
    have recur := iad s sti za _ fr Za _ mc ko.1 wii ly rfl xk.2 xk.1 (sy.next ko) (szT.fr fzs.1 fzs.2.1 fzs.2.2.1 fzs.2.2.2 _ _ _ sza) hll' hmc ai f0 (by omega)
    have fu : 62 - cs.length = (61 - cs.length) + 1 := by omega
    have go : ∀ o, bnd (ansE M R mo wl m Za (tT s (gA s 81 (fr + (cs.length : Int)))) sti) (fun l st1 o => bnd (addsE l mc st1) (fun m1 st2 o => manyE (ansE M R mo wl m Za) (61 - cs.length) (cs.length + 1) m1 (cs ++ [l.length]) st2 o) o) o → manyE (ansE M R mo wl m Za) (62 - cs.length) cs.length mc cs sti o := by
      intro o ho
      rw [fu]
      simp only [manyE]
      rw [ey]
      exact ho
    refine fo_t_S_answers n _ _ _ _ _ _ _ recur (fun r13 t12 f12 q => ?_) (fun t12 f12 q => hE _ (hf _ (go _ ?_)) (q.2.pre rg.1 ko))
    rotate_left
    · rcases q.1 with ⟨e, p1, p2⟩ | ⟨l1, s1, p1, p2⟩
      · rw [Sum.inl.inj p2]; exact bnd_inl p1
      · exact bnd_inr p1 (bnd_inl p2)
    obtain ⟨st2, l1, l2, e2, e3, -, k2, hl2, tm2⟩ := q
    have w2 := ansE_wi hM c.2.2.1 m Za _ sti l1 st2 xk.2 xk.1 wii e2
    obtain ⟨-, an3, tl, etl⟩ := addsE_an l1 mc st2 l2 st2 w2.2.2.2 (ai.le w2.2.1) e3
    have cl1 : (cs ++ [l1.length]).length = cs.length + 1 := by rw [List.length_append]; rfl
    refine ⟨⟨l2, cs ++ [l1.length], st2, by rw [cl1]; omega, by rw [cl1, etl, List.length_append]; omega, okY.trans rg.1 ko k2, hl2, ⟨w2.1, li.trans w2.2.1, an3⟩, tms.trans (tm2.weak (by omega)), fun o ho => hf _ (go _ (bnd_inr e2 (bnd_inr e3 ?_)))⟩, by omega⟩
    rw [cl1, show 62 - (cs.length + 1) = 61 - cs.length by omega] at ho
    exact ho
  · rw [if_neg yy]
    have ek : cs.length = mc.length := by omega
    unfold t_answers_j185 t_answers_j253
    refine hQ sti mc cs s (hf _ ?_) ko hmc tms
    rw [show 62 - cs.length = (61 - cs.length) + 1 by omega]
    simp only [manyE]
    rw [show mc[cs.length]? = none from List.getElem?_eq_none (by omega)]
    trivial
end

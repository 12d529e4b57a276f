/-! RewriteHouse: the answers of a strategy, whole -/
section
variable {M : Mo} {R : Ru} {mo : Int} {σ0 : S} {a0 r0 : Int} {wl : Int → Int → Bool}
theorem stay_snoc {m t : List Tr} {cs : List Nat} {c : Nat} {x : Tr} (h : m[cs.length]? = some x) : stay (m ++ t) (cs ++ [c]) = stay m cs ++ (if c = 0 then [x] else []) := by
  have lt := (List.getElem?_eq_some_iff.mp h).1
  have ex := (List.getElem?_eq_some_iff.mp h).2
  have e1 : m ++ t = m.take cs.length ++ (x :: (m.drop (cs.length + 1) ++ t)) := by
    rw [← ex, ← List.cons_append, ← List.drop_eq_getElem_cons lt, ← List.append_assoc, List.take_append_drop]
  have e2 : m.zip cs = (m.take cs.length).zip cs := by
    have := List.zip_append (l₁ := m.take cs.length) (r₁ := m.drop cs.length) (l₂ := cs) (r₂ := ([] : List Nat)) (by rw [List.length_take]; omega)
    rw [List.take_append_drop, List.append_nil, List.zip_nil_right, List.append_nil] at this
    exact this
  unfold stay
  rw [e1, e2, List.zip_append (by rw [List.length_take]; omega), List.filter_append, List.map_append]
  congr 1
  simp only [List.zip_cons_cons, List.zip_nil_right, List.filter_cons, List.filter_nil]
  by_cases z : c = 0
  · simp only [z, decide_true, if_true, List.map_cons, List.map_nil]
  · simp only [z, decide_false, if_false, Bool.false_eq_true, List.map_nil]
theorem stay_mem {m : List Tr} {cs : List Nat} {x : Tr} (h : x ∈ stay m cs) : x ∈ m.take cs.length := by
  unfold stay at h
  obtain ⟨q, hq, e⟩ := List.mem_map.mp h
  have := List.mem_map_of_mem (f := Prod.fst) (List.mem_filter.mp hq).1
  rw [zip_fst, e] at this
  exact this
theorem not_take {m : List Tr} {k : Nat} {x : Tr} (hn : m.Nodup) (h : m[k]? = some x) : x ∉ m.take k := by
  intro hx
  have lt := (List.getElem?_eq_some_iff.mp h).1
  have ex := (List.getElem?_eq_some_iff.mp h).2
  rw [← List.take_append_drop k m, List.nodup_append] at hn
  refine hn.2.2 x hx x ?_ rfl
  rw [List.drop_eq_getElem_cons lt, ex]
  exact List.mem_cons_self ..
/-- all steps as answers -/
theorem xs_ansSteps (c : cxR M R mo σ0 (a0 + 50) (r0 + 50)) (hOt : isOt M) {G : Orc} (hG : FrO wX_answers G) {w : Int → Bool} {σ : S} {st : ST} {x a lw : Int} {X : Tr} (h : XR M R mo σ0 st σ) (wi : WI M R a0 r0 0 0 st) (lx : lvX σ x) (eX : tX σ x = X) (ox : okT M X) (dx : DR M st X) (ri : RI 0 σ) (a0' : 0 ≤ a) (a1 : a + 61 ≤ 20000) (hl : ∀ r, 0 ≤ r → r < mRls M → (w (40 + r) = true ↔ (lw = -2 ∨ gA σ 27 (40 + r) = lw))) :
    x_rulesOf x lw σ (fun _ t => x_answers_L103 G a 0 0 t (fun r s => ∃ st' l, bnd (stepsE M R mo w X st) (fun fl st1 o => o = .inr (fl.map Prod.fst, st1)) (.inr (l, st')) ∧ r = (l.length : Int) ∧ okX M R mo σ0 σ st' s ∧ anX s a l ∧ ∀ j, j < a → gA s 118 j = gA σ 118 j) (fun s => bnd (stepsE M R mo w X st) (fun fl st1 o => o = .inr (fl.map Prod.fst, st1)) (.inl (gI s 1006, gI s 131)) ∧ noX M σ s)) (fun s => bnd (stepsE M R mo w X st) (fun fl st1 o => o = .inr (fl.map Prod.fst, st1)) (.inl (gI s 1006, gI s 131)) ∧ noX M σ s) := by
  have hM := c.1.wm
  have hn0 := c.2.1.1
  have rg := h.1.rg
  refine fm_x_rulesOf (xs_rulesOf c hOt h wi ox dx lx eX ri hl) (fun _ t f q => ?_) (fun t f q => ⟨bnd_inl q.1, q.2⟩)
  obtain ⟨st1, fl, e1, k1, hf⟩ := q
  have w1 := stepsE_wi hM c.2.2.1 ox dx wi e1
  have an := w1.2.2.an
  obtain ⟨zs, hzs⟩ : ∃ zs, zs = fl.map Prod.fst := ⟨_, rfl⟩
  rw [← hzs] at an
  have new : addsE zs [] st1 (.inr (zs, st1)) := addsE_new (st := st1) zs [] (by rw [List.nil_append]; exact an.1.2) (by rw [List.nil_append]; exact an.1.1)
  have lz : zs.length = fl.length := by rw [hzs, List.length_map]
  refine lx_answers_L103 hG (fun n i s => adX M R mo σ0 t st1 a zs [] n i s) (fun _ i _ => (zs.length - i.toNat)) (adX_0 k1.1 (anX_nil _ _) (by simp)) ?_
  rintro n i s fr0 I
  try dsimp only
  have I2 := I
  obtain ⟨k, lc, rfl, hk, -, -, -, -, ko, fs, fr⟩ := I2
  have em : gI s 146 = (zs.length : Int) := by rw [fs.i _ rfl, hf.1, lz]
  rw [em]
  by_cases yy : (k : Int) < (zs.length : Int)
  · rw [if_pos yy]
    have z60 := an.1.1
    have wi1 : w32 ((k : Int) + 1) = (k : Int) + 1 := w32_id (by omega) (by omega)
    rw [wi1]
    refine ⟨⟨by omega, by omega⟩, ?_⟩
    obtain ⟨la, ea⟩ := hf.2.2 k (by omega)
    rw [fs.a 93 rfl]
    refine ad_step hn0 k1.1.1.rg.1 I (ko.2.1.lv la) ?_ a0' a1 (fun r s' I' => ⟨I', by omega⟩) (fun s' e no => ?_)
    · rw [ko.2.1.2.1 _ la, Int.toNat_natCast, hzs, List.getElem?_map, ea]
      rfl
    · cases addsE_det _ _ _ _ _ new e
  · rw [if_neg yy]
    obtain ⟨lc, e, en, -, hl', ko, fs, fr⟩ := ad_end I (by omega)
    have := addsE_det _ _ _ _ _ new e
    simp only [Sum.inr.injEq, Prod.mk.injEq] at this
    rw [← this.1] at en hl'
    exact ⟨st1, zs, bnd_inr e1 (by rw [hzs]), en, okX.trans rg.1 k1 ko, hl', fun j hj => by rw [fr j (Or.inl hj), f.a _ rfl]⟩
theorem xs_answersThen (c : cxR M R mo σ0 (a0 + 50) (r0 + 50)) {m n : Nat} (ih : ANX M R mo σ0 a0 r0 wl m n) {σ : S} {st : ST} {z x a : Int} {Z X : Tr} (h : XR M R mo σ0 st σ) (wi : WI M R a0 r0 0 0 st) (lx : lvX σ x) (eX : tX σ x = X) (dx : DR M st X) (ri : RI 0 σ) (z0 : 0 ≤ z ∧ z < 200) (szl : szX M σ m (gA σ 116 z) (kid0 Z)) (szr : szX M σ m (gA σ 117 z) (kid1 Z)) (hll : llX M σ wl) (a0' : 0 ≤ a) (a1 : a + 122 * ((m : Int) + 1) + 61 ≤ 20000) :
    x_answersThen_F (x_S_answers n) z x a σ (fun r s => ∃ st' l, bnd (ansE M R mo wl m (kid0 Z) X st) (fun l st1 o => thenE (ansE M R mo wl m (kid1 Z)) l [] st1 o) (.inr (l, st')) ∧ r = (l.length : Int) ∧ okX M R mo σ0 σ st' s ∧ anX s a l ∧ ∀ j, j < a → gA s 118 j = gA σ 118 j) (fun s => bnd (ansE M R mo wl m (kid0 Z) X st) (fun l st1 o => thenE (ansE M R mo wl m (kid1 Z)) l [] st1 o) (.inl (gI s 1006, gI s 131)) ∧ noX M σ s) := by
  have hM := c.1.wm
  have hn0 := c.2.1.1
  have rg := h.1.rg
  have ox : okT M X := by rw [← eX]; exact h.1.ok lx
  unfold x_answersThen_F
  have w61 : w32 (w32 (a + 60) + 1) = a + 61 := by simp (disch := omega) only [w32_id]; omega
  have w122 : w32 (w32 (a + 61 + 60) + 1) = a + 122 := by simp (disch := omega) only [w32_id]; omega
  rw [w61]
  refine ⟨z0, ?_⟩
  refine fo_x_S_answers n _ _ _ _ _ _ _ (ih σ st _ x (a + 61) (kid0 Z) X h wi lx eX dx ri szl hll (by omega) (by omega)) (fun r4 t3 f3 q => ?_) (fun t3 f3 q => ⟨bnd_inl q.1, q.2⟩)
  obtain ⟨st1, zs, e1, rfl, k1, hz, fr1⟩ := q
  have w1 := ansE_wi hM c.2.2.1 m (kid0 Z) X st zs st1 ox dx wi e1
  have z60 := w1.2.2.1.1
  refine lx_answersThen_L29 (fo_x_S_answers n) (fun n6 k7 s => ∃ (k : Nat) (lc : List Tr) (sti : ST), k7 = (k : Int) ∧ k ≤ zs.length ∧ n6 = (lc.length : Int) ∧ okX M R mo σ0 σ sti s ∧ anX s a lc ∧ anX s (a + 61) zs ∧ wiA M R a0 r0 st1 sti lc ∧ (∀ j, j < a → gA s 118 j = gA σ 118 j) ∧ ∀ o, thenE (ansE M R mo wl m (kid1 Z)) (zs.drop k) lc sti o → thenE (ansE M R mo wl m (kid1 Z)) zs [] st1 o)
    (fun _ k7 _ => (zs.length - k7.toNat)) ⟨0, [], st1, rfl, by omega, rfl, k1, anX_nil _ _, hz, ⟨w1.1, leS.rf _, anK_nil _⟩, fun j hj => fr1 j (by omega), fun o ho => ho⟩ ?_
  rintro n6 k7 s fr0 ⟨k, lc, sti, rfl, hk, rfl, ko, hl, hz', ⟨wii, li, ai⟩, fra, hf⟩
  try dsimp only
  by_cases yy : (k : Int) < (zs.length : Int)
  · rw [if_pos yy]
    have wk : w32 (a + 61 + (k : Int)) = a + 61 + k := w32_id (by omega) (by omega)
    have wi1 : w32 ((k : Int) + 1) = (k : Int) + 1 := w32_id (by omega) (by omega)
    rw [wk, w122]
    refine ⟨z0, ⟨by omega, by omega⟩, ?_⟩
    obtain ⟨ly, ey⟩ := hz' k (by omega)
    have fz : gA s 115 = gA σ 115 ∧ gA s 116 = gA σ 116 ∧ gA s 117 = gA σ 117 ∧ gA s 27 = gA σ 27 := ⟨by rw [fr0.a _ rfl, f3.a _ rfl], by rw [fr0.a _ rfl, f3.a _ rfl], by rw [fr0.a _ rfl, f3.a _ rfl], by rw [fr0.a _ rfl, f3.a _ rfl]⟩
    have xk := w1.2.2.2 _ (List.mem_of_getElem? ey)
    rw [fz.2.2.1]
    have hll' : llX M s wl := by unfold llX; rw [fz.2.2.2]; exact hll
    have recur := ih s sti (gA σ 117 z) _ (a + 122) (kid1 Z) _ ko.1 wii ly rfl (xk.1.le li xk.2.1.1) (ri.next ko) (szX.fr fz.1 fz.2.1 fz.2.2.1 fz.2.2.2 _ _ _ szr) hll' (by omega) (by omega)
    have dropk : zs.drop k = tX s (gA s 118 (a + 61 + k)) :: zs.drop (k + 1) := by
      have e := (List.getElem?_eq_some_iff.mp ey).2
      rw [← e, ← List.drop_eq_getElem_cons (by omega)]
    refine fo_x_S_answers n _ _ _ _ _ _ _ recur (fun r13 t12 f12 q => ?_) (fun t12 f12 q => ⟨bnd_inr e1 (hf _ ?_), q.2.pre rg.1 ko⟩)
    rotate_left
    · rw [dropk]
      exact bnd_inl q.1
    obtain ⟨st2, l2, e2, rfl, k2, hl2, fr2⟩ := q
    have w2 := ansE_wi hM c.2.2.1 m (kid1 Z) _ sti l2 st2 xk.2 (xk.1.le li xk.2.1.1) wii e2
    have l260 := w2.2.2.1.1
    have ko2 := okX.trans rg.1 ko k2
    have l60 := ai.1.1
    have hl12 : anX t12 a lc := hl.to k2.2.1 (fun j j0 j1 => fr2 j (by omega))
    have hz12 : anX t12 (a + 61) zs := hz'.to k2.2.1 (fun j j0 j1 => fr2 j (by omega))
    refine lx_answersThen_L72 (fo_x_S_answers n) (fun n i s' => adX M R mo σ0 t12 st2 a l2 lc n i s') (fun _ i _ => (l2.length - i.toNat)) (adX_0 k2.1 hl12 l60) ?_
    rintro n' i' s' fr0' I
    try dsimp only
    have I2 := I
    obtain ⟨k', lc', rfl, hk', -⟩ := I2
    by_cases y2 : (k' : Int) < (l2.length : Int)
    · rw [if_pos y2]
      have wk2 : w32 (a + 122 + (k' : Int)) = a + 122 + k' := w32_id (by omega) (by omega)
      have wi2 : w32 ((k' : Int) + 1) = (k' : Int) + 1 := w32_id (by omega) (by omega)
      rw [wk2, wi2]
      refine ⟨⟨by omega, by omega⟩, ?_⟩
      obtain ⟨ly2, ey2⟩ := ad_src I hl2 (Or.inr (by omega)) y2
      refine ad_step hn0 k2.1.1.rg.1 I ly2 ey2 a0' (by omega) (fun r s' I' => ⟨I', by omega⟩) (fun s' e no => ⟨bnd_inr e1 (hf _ ?_), no.pre rg.1 ko2⟩)
      rw [dropk]
      exact bnd_inr e2 (bnd_inl e)
    · rw [if_neg y2]
      obtain ⟨lc2, e3, en, l60', hl3, ko3, fs3, fr3⟩ := ad_end I (by omega)
      unfold x_answersThen_j104
      rw [wi1]
      obtain ⟨-, an3, -⟩ := addsE_an l2 lc st2 lc2 st2 w2.2.2.2 (ai.le w2.2.1) e3
      refine ⟨⟨k + 1, lc2, st2, by omega, by omega, en, okX.trans rg.1 ko2 ko3, hl3, hz12.to ko3.2.1 (fun j j0 j1 => fr3 j (Or.inr (by omega))), ⟨w2.1, li.trans w2.2.1, an3⟩, fun j hj => by rw [fr3 j (Or.inl hj), fr2 j (by omega), fra j hj], fun o ho => hf o ?_⟩, by omega⟩
      rw [dropk]
      exact bnd_inr e2 (bnd_inr e3 ho)
  · rw [if_neg yy]
    have ek : k = zs.length := by omega
    refine ⟨sti, lc, bnd_inr e1 (hf _ ?_), rfl, ko, hl, fra⟩
    rw [ek, List.drop_length]
    rfl
end

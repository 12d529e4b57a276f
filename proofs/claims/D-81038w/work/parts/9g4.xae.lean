/-! RewriteHouse: the answers of a strategy, over and over -/
section
variable {M : Mo} {R : Ru} {mo : Int} {σ0 : S} {a0 r0 : Int} {wl : Int → Int → Bool}
/-- those that stay so far -/
def sofar (rs : Bool) (m : List Tr) (cs : List Nat) : List Tr := if rs = true then stay m cs else m.take cs.length
theorem sofar_mem {rs : Bool} {m : List Tr} {cs : List Nat} {x : Tr} (h : x ∈ sofar rs m cs) : x ∈ m.take cs.length := by
  unfold sofar at h
  split at h
  · exact stay_mem h
  · exact h
theorem sofar_len {rs : Bool} {m : List Tr} {cs : List Nat} : (sofar rs m cs).length ≤ cs.length := by
  unfold sofar stay
  split
  · rw [List.length_map]
    have h1 := List.length_filter_le (fun q : Tr × Nat => decide (q.2 = 0)) (m.zip cs)
    rw [List.length_zip] at h1
    omega
  · rw [List.length_take]; omega
theorem sofar_nodup {rs : Bool} {m : List Tr} {cs : List Nat} (h : m.Nodup) : (sofar rs m cs).Nodup := by
  unfold sofar
  split
  · exact h.sublist (stay_sub _ _)
  · exact h.sublist (List.take_sublist _ _)
theorem manyE_len {f : AT} : ∀ (n k : Nat) (m : List Tr) (cs : List Nat) (st : ST) (o : Out (List Tr × List Nat)), manyE f n k m cs st o → ∀ {mm cc st1}, o = .inr ((mm, cc), st1) → cs.length = k → mm.length ≤ cc.length := by
  intro n
  induction n with
  | zero => intro k m cs st o h; exact h.elim
  | succ n ih =>
    intro k m cs st o h mm cc st1 eo ek
    simp only [manyE] at h
    split at h
    · rename_i hx
      rw [eo] at h
      simp only [Sum.inr.injEq, Prod.mk.injEq] at h
      obtain ⟨⟨rfl, rfl⟩, -⟩ := h
      have := List.getElem?_eq_none_iff.mp hx
      omega
    · subst eo
      obtain ⟨l1, s1, p1, h⟩ := bnd_ok h
      obtain ⟨m1, s2, p2, h⟩ := bnd_ok h
      exact ih _ _ _ _ _ h rfl (by rw [List.length_append, ek]; rfl)
theorem xs_answersMany (c : cxR M R mo σ0 (a0 + 50) (r0 + 50)) {m n : Nat} (ih : ANX M R mo σ0 a0 r0 wl m n) {rs : Bool} {σ : S} {st : ST} {z x a : Int} {Z X : Tr} (hrs : bi (gA σ 115 z = 7) = if rs = true then 1 else 0) (h : XR M R mo σ0 st σ) (wi : WI M R a0 r0 0 0 st) (lx : lvX σ x) (eX : tX σ x = X) (dx : DR M st X) (ri : RI 0 σ) (z0 : 0 ≤ z ∧ z < 200) (szl : szX M σ m (gA σ 116 z) (kid0 Z)) (hll : llX M σ wl) (a0' : 0 ≤ a) (a1 : a + 122 * ((m : Int) + 1) + 61 ≤ 20000) :
    x_answersMany_F (x_S_answers n) z x a σ (fun r s => ∃ st' l, bnd (manyE (ansE M R mo wl m (kid0 Z)) 62 0 [X] [] st) (fun q st1 o => o = .inr (sofar rs q.1 q.2, st1)) (.inr (l, st')) ∧ r = (l.length : Int) ∧ okX M R mo σ0 σ st' s ∧ anX s a l ∧ ∀ j, j < a → gA s 118 j = gA σ 118 j) (fun s => bnd (manyE (ansE M R mo wl m (kid0 Z)) 62 0 [X] [] st) (fun q st1 o => o = .inr (sofar rs q.1 q.2, st1)) (.inl (gI s 1006, gI s 131)) ∧ noX M σ s) := by
  have hM := c.1.wm
  have hn0 := c.2.1.1
  have rg := h.1.rg
  have ox : okT M X := by rw [← eX]; exact h.1.ok lx
  unfold x_answersMany_F
  have w61 : w32 (w32 (a + 60) + 1) = a + 61 := by simp (disch := omega) only [w32_id]; omega
  have w122 : w32 (w32 (a + 61 + 60) + 1) = a + 122 := by simp (disch := omega) only [w32_id]; omega
  rw [w61]
  refine ⟨z0, ?_⟩
  refine fm_x_addAnswer (xs_addAnswer hn0 h lx (anX_nil σ (a + 61)) rfl (by simp) (by omega) (by omega)) (fun r5 t4 f4 q => ?_) (fun t4 f4 q => ?_)
  rotate_left
  · have e := addTE_det _ _ q.1 (Or.inr ⟨List.not_mem_nil, rfl⟩)
    rw [if_neg (by simp)] at e
    cases e
  obtain ⟨l', e0, rfl, k4, hl4, fr4, fra4⟩ := q
  have e := addTE_det _ _ e0 (Or.inr ⟨List.not_mem_nil, rfl⟩)
  rw [if_neg (by simp)] at e
  simp only [Sum.inr.injEq, Prod.mk.injEq, List.nil_append, and_true] at e
  rw [eX] at e
  subst e
  rw [hrs]
  refine lx_answersMany_L42 (fo_x_S_answers n) (fun v6 v7 v8 s => ∃ (mc : List Tr) (cs : List Nat) (sti : ST), v6 = (mc.length : Int) ∧ v7 = ((sofar rs mc cs).length : Int) ∧ v8 = (cs.length : Int) ∧ cs.length ≤ mc.length ∧ okX M R mo σ0 σ sti s ∧ anX s (a + 61) mc ∧ anX s a (sofar rs mc cs) ∧ wiA M R a0 r0 st sti mc ∧ (∀ j, j < a → gA s 118 j = gA σ 118 j) ∧ ∀ o, manyE (ansE M R mo wl m (kid0 Z)) (62 - cs.length) cs.length mc cs sti o → manyE (ansE M R mo wl m (kid0 Z)) 62 0 [X] [] st o)
    (fun _ _ v8 _ => (61 - v8.toNat)) ⟨[X], [], st, rfl, ?_, rfl, by simp, k4, hl4, ?_, ⟨wi, leS.rf _, anK_one ⟨dx, ox⟩⟩, fun j hj => fra4 j (Or.inl (by omega)), fun o ho => ho⟩ ?_
  · cases rs <;> rfl
  · cases rs <;> exact anX_nil _ _
  rintro v6 v7 v8 s fr0 ⟨mc, cs, sti, rfl, rfl, rfl, hcs, ko, hmc, hsf, ⟨wii, li, ai⟩, fra, hf⟩
  try dsimp only
  have m60 := ai.1.1
  have mnd := ai.1.2
  by_cases yy : (cs.length : Int) < (mc.length : Int)
  · rw [if_pos yy]
    have wk : w32 (a + 61 + (cs.length : Int)) = a + 61 + cs.length := w32_id (by omega) (by omega)
    have wi1 : w32 ((cs.length : Int) + 1) = (cs.length : Int) + 1 := w32_id (by omega) (by omega)
    rw [wk, w122]
    refine ⟨z0, ⟨by omega, by omega⟩, ?_⟩
    obtain ⟨ly, ey⟩ := hmc cs.length (by omega)
    obtain ⟨y, hy⟩ : ∃ y, y = gA s 118 (a + 61 + (cs.length : Int)) := ⟨_, rfl⟩
    rw [← hy] at ly ey ⊢
    obtain ⟨Y, hY⟩ : ∃ Y, Y = tX s y := ⟨_, rfl⟩
    rw [← hY] at ey
    have fz : gA s 115 = gA σ 115 ∧ gA s 116 = gA σ 116 ∧ gA s 117 = gA σ 117 ∧ gA s 27 = gA σ 27 := ⟨by rw [fr0.a _ rfl, f4.a _ rfl], by rw [fr0.a _ rfl, f4.a _ rfl], by rw [fr0.a _ rfl, f4.a _ rfl], by rw [fr0.a _ rfl, f4.a _ rfl]⟩
    have xk := ai.2 _ (List.mem_of_getElem? ey)
    rw [fz.2.1]
    have hll' : llX M s wl := by unfold llX; rw [fz.2.2.2]; exact hll
    have recur := ih s sti (gA σ 116 z) y (a + 122) (kid0 Z) Y ko.1 wii ly hY.symm xk.1 (ri.next ko) (szX.fr fz.1 fz.2.1 fz.2.2.1 fz.2.2.2 _ _ _ szl) hll' (by omega) (by omega)
    have fu : 62 - cs.length = (61 - cs.length) + 1 := by omega
    have go : ∀ o, bnd (ansE M R mo wl m (kid0 Z) Y sti) (fun l st1 o => bnd (addsE l mc st1) (fun m1 st2 o => manyE (ansE M R mo wl m (kid0 Z)) (61 - cs.length) (cs.length + 1) m1 (cs ++ [l.length]) st2 o) o) o → manyE (ansE M R mo wl m (kid0 Z)) (62 - cs.length) cs.length mc cs sti o := by
      intro o ho
      rw [fu]
      simp only [manyE]
      rw [ey]
      exact ho
    refine fo_x_S_answers n _ _ _ _ _ _ _ recur (fun r14 t13 f13 q => ?_) (fun t13 f13 q => ⟨bnd_inl (hf _ (go _ (bnd_inl q.1))), q.2.pre rg.1 ko⟩)
    obtain ⟨st2, l2, e2, rfl, k2, hl2, fr2⟩ := q
    have w2 := ansE_wi hM c.2.2.1 m (kid0 Z) Y sti l2 st2 xk.2 xk.1 wii e2
    have l260 := w2.2.2.1.1
    have ko2 := okX.trans rg.1 ko k2
    have hmc13 : anX t13 (a + 61) mc := hmc.to k2.2.1 (fun j j0 j1 => fr2 j (by omega))
    have sfl := sofar_len (rs := rs) (m := mc) (cs := cs)
    have hsf13 : anX t13 a (sofar rs mc cs) := hsf.to k2.2.1 (fun j j0 j1 => fr2 j (by omega))
    refine lx_answersMany_L85 (fo_x_S_answers n) (fun n i s' => adX M R mo σ0 t13 st2 (a + 61) l2 mc n i s') (fun _ i _ => (l2.length - i.toNat)) (adX_0 k2.1 hmc13 m60) ?_
    rintro n' i' s' fr0' I
    try dsimp only
    have I2 := I
    obtain ⟨k', lc', rfl, hk', -⟩ := I2
    by_cases y2 : (k' : Int) < (l2.length : Int)
    · rw [if_pos y2]
      have wk2 : w32 (a + 122 + (k' : Int)) = a + 122 + k' := w32_id (by omega) (by omega)
      have wi2 : w32 ((k' : Int) + 1) = (k' : Int) + 1 := w32_id (by omega) (by omega)
      rw [wk2, wi2]
      refine ⟨⟨by omega, by omega⟩, ?_⟩
      obtain ⟨ly2, ey2⟩ := ad_src I hl2 (Or.inr (by omega)) y2
      exact ad_step hn0 k2.1.1.rg.1 I ly2 ey2 (by omega) (by omega) (fun r s' I' => ⟨I', by omega⟩) (fun s' e no => ⟨bnd_inl (hf _ (go _ (bnd_inr e2 (bnd_inl e)))), no.pre rg.1 ko2⟩)
    · rw [if_neg y2]
      obtain ⟨m1, e3, en, m160, hm1, ko3, fs3, fr3⟩ := ad_end I (by omega)
      obtain ⟨-, an3, tl, etl⟩ := addsE_an l2 mc st2 m1 st2 w2.2.2.2 (ai.le w2.2.1) e3
      have ko3' := okX.trans rg.1 ko2 ko3
      have hsf3 : anX s' a (sofar rs mc cs) := hsf13.to ko3.2.1 (fun j j0 j1 => fr3 j (Or.inl (by omega)))
      have ey1 : m1[cs.length]? = some Y := by rw [etl, List.getElem?_append_left (by omega)]; exact ey
      have fra3 : ∀ j, j < a → gA s' 118 j = gA σ 118 j := fun j hj => by rw [fr3 j (Or.inl (by omega)), fr2 j (by omega), fra j hj]
      have nt := not_take mnd ey
      have nsf : Y ∉ sofar rs mc cs := fun hh => nt (sofar_mem hh)
      have go2 : ∀ o, manyE (ansE M R mo wl m (kid0 Z)) (62 - (cs ++ [l2.length]).length) (cs ++ [l2.length]).length m1 (cs ++ [l2.length]) st2 o → manyE (ansE M R mo wl m (kid0 Z)) 62 0 [X] [] st o := by
        intro o ho
        refine hf _ (go _ (bnd_inr e2 (bnd_inr e3 ?_)))
        rw [List.length_append] at ho
        simp only [List.length_cons, List.length_nil] at ho
        rw [show 62 - (cs.length + (0 + 1)) = 61 - cs.length by omega, show cs.length + (0 + 1) = cs.length + 1 by omega] at ho
        exact ho
      have cl1 : ((cs ++ [l2.length]).length : Int) = (cs.length : Int) + 1 := by rw [List.length_append]; simp
      -- what stays then
      have sf1 : sofar rs m1 (cs ++ [l2.length]) = sofar rs mc cs ++ (if rs = false ∨ l2.length = 0 then [Y] else []) := by
        unfold sofar
        cases rs with
        | true =>
          rw [if_pos rfl, if_pos rfl, etl, stay_snoc (h := ey)]
          congr 1
          by_cases z : l2.length = 0
          · rw [if_pos z, if_pos (Or.inr z)]
          · rw [if_neg z, if_neg (by rintro (w | w); cases w; exact z w)]
        | false =>
          rw [if_neg (by decide), if_neg (by decide), if_pos (Or.inl rfl), List.length_append]
          simp only [List.length_cons, List.length_nil]
          rw [show cs.length + (0 + 1) = cs.length + 1 by omega, take_one ey1, etl, List.take_append_of_le_length (by omega)]
      have post : ∀ s2 v7', gwX s' s2 → okX M R mo σ0 s' st2 s2 → v7' = ((sofar rs m1 (cs ++ [l2.length])).length : Int) → anX s2 a (sofar rs m1 (cs ++ [l2.length])) → (∀ j, j < a ∨ a + 60 ≤ j → gA s2 118 j = gA s' 118 j) →
          (∃ (mc : List Tr) (cs' : List Nat) (sti : ST), n' = (mc.length : Int) ∧ v7' = ((sofar rs mc cs').length : Int) ∧ (cs.length : Int) + 1 = (cs'.length : Int) ∧ cs'.length ≤ mc.length ∧ okX M R mo σ0 σ sti s2 ∧ anX s2 (a + 61) mc ∧ anX s2 a (sofar rs mc cs') ∧ wiA M R a0 r0 st sti mc ∧ (∀ j, j < a → gA s2 118 j = gA σ 118 j) ∧ ∀ o, manyE (ansE M R mo wl m (kid0 Z)) (62 - cs'.length) cs'.length mc cs' sti o → manyE (ansE M R mo wl m (kid0 Z)) 62 0 [X] [] st o) := by
        intro s2 v7' g2 kk ev ha hfr
        refine ⟨m1, cs ++ [l2.length], st2, en, ev, cl1.symm, ?_, okX.trans rg.1 ko3' kk, hm1.to g2 (fun j j0 j1 => hfr j (Or.inr (by omega))), ha, ⟨w2.1, li.trans w2.2.1, an3⟩, fun j hj => by rw [hfr j (Or.inl hj), fra3 j hj], go2⟩
        rw [List.length_append, etl, List.length_append]
        simp only [List.length_cons, List.length_nil]
        omega
      unfold x_answersMany_j118
      have wk3 : w32 (a + 61 + (cs.length : Int)) = a + 61 + cs.length := w32_id (by omega) (by omega)
      have cond : ((if rs = true then (1 : Int) else 0) = 0 ∨ (l2.length : Int) = 0) ↔ (rs = false ∨ l2.length = 0) := by
        cases rs <;> simp
      by_cases zc : rs = false ∨ l2.length = 0
      · rw [if_pos (cond.mpr zc), wk3]
        rw [if_pos zc] at sf1
        refine ⟨⟨by omega, by omega⟩, ?_⟩
        obtain ⟨ly3, ey3⟩ := hm1 cs.length (by rw [etl, List.length_append]; omega)
        rw [ey1] at ey3
        have eY3 := Option.some.inj ey3
        refine fm_x_addAnswer (xs_addAnswer hn0 ko3.1 ly3 hsf3 rfl (by omega) a0' (by omega)) (fun r23 t22 f22 q => ?_) (fun t22 f22 q => ?_)
        rotate_left
        · have e := addTE_det _ _ q.1 (Or.inr ⟨by rw [← eY3]; exact nsf, rfl⟩)
          rw [if_neg (by omega)] at e
          cases e
        obtain ⟨l', e4, rfl, k22, hl22, fr22, fra22⟩ := q
        have e := addTE_det _ _ e4 (Or.inr ⟨by rw [← eY3]; exact nsf, rfl⟩)
        rw [if_neg (by omega)] at e
        simp only [Sum.inr.injEq, Prod.mk.injEq, and_true] at e
        rw [← eY3, ← sf1] at e
        unfold x_answersMany_j147
        rw [wi1]
        exact ⟨post t22 _ k22.2.1 k22 (by rw [e]) (by rw [← e]; exact hl22) fra22, by omega⟩
      · rw [if_neg (fun k => zc (cond.mp k))]
        rw [if_neg zc, List.append_nil] at sf1
        unfold x_answersMany_j147
        rw [wi1]
        exact ⟨post s' _ (EyX.rf _ _) (okX.rf ko3.1) (by rw [sf1]) (by rw [sf1]; exact hsf3) (fun _ _ => rfl), by omega⟩
  · rw [if_neg yy]
    have ek : cs.length = mc.length := by omega
    refine ⟨sti, sofar rs mc cs, bnd_inr (a := (mc, cs)) (hf _ ?_) rfl, rfl, ko, hsf, fra⟩
    rw [show 62 - cs.length = (61 - cs.length) + 1 by omega]
    simp only [manyE]
    rw [show mc[cs.length]? = none from List.getElem?_eq_none (by omega)]
    trivial
theorem xs_answers (c : cxR M R mo σ0 (a0 + 50) (r0 + 50)) (hOt : isOt M) : ∀ (m n : Nat), 2 * m + 1 ≤ n → ANX M R mo σ0 a0 r0 wl m n := by
  have hM := c.1.wm
  have hn0 := c.2.1.1
  intro m
  induction m with
  | zero => intro n _ σ st z x a Z X _ _ _ _ _ _ sz; exact sz.elim
  | succ m ih =>
    intro n hn σ st z x a Z X h wi lx eX dx ri sz hll a0' a1
    obtain ⟨n, rfl⟩ : ∃ k, n = k + 2 := ⟨n - 2, by omega⟩
    have rg := h.1.rg
    have ox : okT M X := by rw [← eX]; exact h.1.ok lx
    have w61 : w32 (w32 (a + 60) + 1) = a + 61 := by simp (disch := omega) only [w32_id]; omega
    rw [xe_answers_0]
    unfold x_answers_F
    obtain ⟨z0, sz⟩ := sz
    refine ⟨z0, ?_⟩
    have one : x_addAnswer a 0 x σ (fun r s => ∃ st' l, addTE X [] st (.inr (l, st')) ∧ r = (l.length : Int) ∧ okX M R mo σ0 σ st' s ∧ anX s a l ∧ ∀ j, j < a → gA s 118 j = gA σ 118 j) (fun s => addTE X [] st (.inl (gI s 1006, gI s 131)) ∧ noX M σ s) := by
      refine fm_x_addAnswer (xs_addAnswer hn0 h lx (anX_nil σ a) rfl (by simp) a0' (by omega)) (fun r s f q => ?_) (fun s f q => by rw [← eX]; exact q)
      obtain ⟨l', e, er, k, hl, -, fr⟩ := q
      exact ⟨st, l', by rw [← eX]; exact e, er, k, hl, fun j hj => fr j (Or.inl hj)⟩
    rcases sz with ⟨lz, ez⟩ | ⟨lz, ez⟩ | ⟨lz, ez⟩ | ⟨lz, lz2, ez, el⟩ | ⟨lz, ez, s1, s2⟩ | ⟨lz, ez, s1, s2⟩ | ⟨lz, ez, s1⟩ | ⟨lz, ez, s1⟩ | ⟨lz, ez, s1⟩ | ⟨lz, ez, s1⟩
    · rw [ez, if_pos rfl]
      refine fm_x_addAnswer one (fun r s f q => ?_) (fun s f q => ⟨Or.inl ⟨lz, q.1⟩, q.2⟩)
      obtain ⟨st', l, e, q⟩ := q
      exact ⟨st', l, Or.inl ⟨lz, e⟩, q⟩
    · rw [ez, if_neg (by decide), if_pos rfl]
      exact ⟨st, [], Or.inr (Or.inl ⟨lz, rfl⟩), rfl, okX.rf h, anX_nil _ _, fun _ _ => rfl⟩
    · rw [ez, if_neg (by decide), if_neg (by decide), if_pos rfl, if_pos rfl]
      refine ⟨z0, fun k => absurd rfl k, ?_⟩
      have g := xs_ansSteps (w := wAll) (lw := -2) c hOt (fo_x_S_answers (n + 1)) h wi lx eX ox dx ri a0' (by omega) (fun r _ _ => ⟨fun _ => Or.inl rfl, fun _ => rfl⟩)
      refine fm_x_rulesOf g (fun _ t f q => ?_) (fun t f q => ⟨Or.inr (Or.inr (Or.inl ⟨lz, q.1⟩)), q.2⟩)
      refine fx_answers_L103 (fo_x_S_answers (n + 1)) Fr.rf q (fun r s _ q => ?_) (fun s _ q => ⟨Or.inr (Or.inr (Or.inl ⟨lz, q.1⟩)), q.2⟩)
      obtain ⟨st', l, e, q⟩ := q
      exact ⟨st', l, Or.inr (Or.inr (Or.inl ⟨lz, e⟩)), q⟩
    · rw [ez, if_neg (by decide), if_neg (by decide), if_neg (by decide), if_pos rfl, if_neg (by decide), el]
      refine ⟨z0, fun _ => z0, ?_⟩
      obtain ⟨l0, lq⟩ := hll (lab Z - 100) (by omega) (by omega)
      have g := xs_ansSteps (w := wl (lab Z - 100)) (lw := gA σ 27 (40 + (lab Z - 100))) c hOt (fo_x_S_answers (n + 1)) h wi lx eX ox dx ri a0' (by omega) (fun q q0 q1 => by
        rw [lq q q0 q1]
        constructor
        · exact fun k => Or.inr k
        · rintro (k | k)
          · omega
          · exact k)
      refine fm_x_rulesOf g (fun _ t f q => ?_) (fun t f q => ⟨Or.inr (Or.inr (Or.inr (Or.inl ⟨lz, q.1⟩))), q.2⟩)
      refine fx_answers_L103 (fo_x_S_answers (n + 1)) Fr.rf q (fun r s _ q => ?_) (fun s _ q => ⟨Or.inr (Or.inr (Or.inr (Or.inl ⟨lz, q.1⟩))), q.2⟩)
      obtain ⟨st', l, e, q⟩ := q
      exact ⟨st', l, Or.inr (Or.inr (Or.inr (Or.inl ⟨lz, e⟩))), q⟩
    · rw [ez, if_neg (by decide), if_neg (by decide), if_neg (by decide), if_neg (by decide), if_pos rfl]
      refine ⟨z0, ?_⟩
      have to : ∀ o, bnd (ansE M R mo wl m (kid0 Z) X st) (fun l st1 o => bnd (ansE M R mo wl m (kid1 Z) X st1) (fun l2 st2 o => addsE l2 l st2 o) o) o → ansE M R mo wl (m + 1) Z X st o := fun o ho => Or.inr (Or.inr (Or.inr (Or.inr (Or.inl ⟨lz, ho⟩))))
      refine fo_x_S_answers (n + 1) _ _ _ _ _ _ _ (ih (n + 1) (by omega) σ st _ x a (kid0 Z) X h wi lx eX dx ri s1 hll a0' (by omega)) (fun r1 t1 f1 q => ?_) (fun t1 f1 q => ⟨to _ (bnd_inl q.1), q.2⟩)
      obtain ⟨st1, l1, e1, rfl, k1, hl1, fr1⟩ := q
      have w1 := ansE_wi hM c.2.2.1 m (kid0 Z) X st l1 st1 ox dx wi e1
      refine ⟨z0, ?_⟩
      have fz : gA t1 115 = gA σ 115 ∧ gA t1 116 = gA σ 116 ∧ gA t1 117 = gA σ 117 ∧ gA t1 27 = gA σ 27 := ⟨f1.a _ rfl, f1.a _ rfl, f1.a _ rfl, f1.a _ rfl⟩
      have hll1 : llX M t1 wl := by unfold llX; rw [fz.2.2.2]; exact hll
      rw [fz.2.2.1, w61]
      refine fo_x_S_answers (n + 1) _ _ _ _ _ _ _ (ih (n + 1) (by omega) t1 st1 _ x (a + 61) (kid1 Z) X k1.1 w1.1 (k1.2.1.lv lx) ((k1.2.1.2.1 x lx).trans eX) (dx.le w1.2.1 ox.1.1) (ri.next k1) (szX.fr fz.1 fz.2.1 fz.2.2.1 fz.2.2.2 _ _ _ s2) hll1 (by omega) (by omega)) (fun r2 t2 f2 q => ?_) (fun t2 f2 q => ⟨to _ (bnd_inr e1 (bnd_inl q.1)), q.2.pre rg.1 k1⟩)
      obtain ⟨st2, l2, e2, rfl, k2, hl2, fr2⟩ := q
      have w2 := ansE_wi hM c.2.2.1 m (kid1 Z) X st1 l2 st2 ox (dx.le w1.2.1 ox.1.1) w1.1 e2
      have k12 := okX.trans rg.1 k1 k2
      refine fm_x_join (xs_join hn0 k2.1 (hl1.to k2.2.1 (fun j j0 j1 => fr2 j (by have := w1.2.2.1.1; omega))) hl2 w1.2.2.1.1 w2.2.2.1.1 a0' (by omega)) (fun r3 t3 f3 q => ?_) (fun t3 f3 q => ⟨to _ (bnd_inr e1 (bnd_inr e2 q.1)), q.2.pre rg.1 k12⟩)
      obtain ⟨lc, e3, er, k3, hl3, -, fr3⟩ := q
      exact ⟨st2, lc, to _ (bnd_inr e1 (bnd_inr e2 e3)), er, okX.trans rg.1 k12 k3, hl3, fun j hj => by rw [fr3 j (Or.inl hj), fr2 j (by omega), fr1 j hj]⟩
    · rw [ez, if_neg (by decide), if_neg (by decide), if_neg (by decide), if_neg (by decide), if_neg (by decide), if_pos rfl, xe_answers_1]
      have g := xs_answersThen c (ih n (by omega)) (Z := Z) h wi lx eX dx ri z0 s1 s2 hll a0' (by omega)
      rw [← xe_answers_1] at g ⊢
      refine fo_x_S_answers (n + 1) _ _ _ _ _ _ _ g (fun r s f q => ?_) (fun s f q => ⟨Or.inr (Or.inr (Or.inr (Or.inr (Or.inr (Or.inl ⟨lz, q.1⟩))))), q.2⟩)
      obtain ⟨st', l, e, q⟩ := q
      exact ⟨st', l, Or.inr (Or.inr (Or.inr (Or.inr (Or.inr (Or.inl ⟨lz, e⟩))))), q⟩
    · rw [ez, if_neg (by decide), if_neg (by decide), if_neg (by decide), if_neg (by decide), if_neg (by decide), if_neg (by decide), if_pos rfl]
      have g := xs_answersMany (rs := false) c (ih n (by omega)) (Z := Z) (by rw [ez]; rfl) h wi lx eX dx ri z0 s1 hll a0' (by omega)
      rw [← xe_answers_2] at g
      have to : ∀ o, bnd (manyE (ansE M R mo wl m (kid0 Z)) 62 0 [X] [] st) (fun q st1 o => o = .inr (sofar false q.1 q.2, st1)) o → ansE M R mo wl (m + 1) Z X st o := by
        intro o ho
        refine Or.inr (Or.inr (Or.inr (Or.inr (Or.inr (Or.inr (Or.inl ⟨lz, ?_⟩))))))
        rcases ho with ⟨e, p, q⟩ | ⟨⟨mm, cs⟩, s1, p, q⟩
        · exact Or.inl ⟨e, p, q⟩
        · refine Or.inr ⟨(mm, cs), s1, p, ?_⟩
          have := manyE_len _ _ _ _ _ _ p rfl (by simp)
          rw [q]
          unfold sofar
          rw [if_neg (by decide), List.take_of_length_le (by omega)]
      refine fo_x_S_answers (n + 1) _ _ _ _ _ _ _ g (fun r s f q => ?_) (fun s f q => ⟨to _ q.1, q.2⟩)
      obtain ⟨st', l, e, q⟩ := q
      exact ⟨st', l, to _ e, q⟩
    · rw [ez, if_neg (by decide), if_neg (by decide), if_neg (by decide), if_neg (by decide), if_neg (by decide), if_neg (by decide), if_neg (by decide), if_pos rfl]
      have g := xs_answersMany (rs := true) c (ih n (by omega)) (Z := Z) (by rw [ez]; rfl) h wi lx eX dx ri z0 s1 hll a0' (by omega)
      rw [← xe_answers_2] at g
      have to : ∀ o, bnd (manyE (ansE M R mo wl m (kid0 Z)) 62 0 [X] [] st) (fun q st1 o => o = .inr (sofar true q.1 q.2, st1)) o → ansE M R mo wl (m + 1) Z X st o := fun o ho => Or.inr (Or.inr (Or.inr (Or.inr (Or.inr (Or.inr (Or.inr (Or.inl ⟨lz, ho⟩)))))))
      refine fo_x_S_answers (n + 1) _ _ _ _ _ _ _ g (fun r s f q => ?_) (fun s f q => ⟨to _ q.1, q.2⟩)
      obtain ⟨st', l, e, q⟩ := q
      exact ⟨st', l, to _ e, q⟩
    · rw [ez, if_neg (by decide), if_neg (by decide), if_neg (by decide), if_neg (by decide), if_neg (by decide), if_neg (by decide), if_neg (by decide), if_neg (by decide), if_pos rfl]
      refine ⟨z0, ?_⟩
      have to : ∀ o, bnd (ansE M R mo wl m (kid0 Z) X st) (fun l st1 o => o = .inr (if l = [] then [X] else [], st1)) o → ansE M R mo wl (m + 1) Z X st o := fun o ho => Or.inr (Or.inr (Or.inr (Or.inr (Or.inr (Or.inr (Or.inr (Or.inr (Or.inl ⟨lz, ho⟩))))))))
      refine fo_x_S_answers (n + 1) _ _ _ _ _ _ _ (ih (n + 1) (by omega) σ st _ x a (kid0 Z) X h wi lx eX dx ri s1 hll a0' (by omega)) (fun r1 t1 f1 q => ?_) (fun t1 f1 q => ⟨to _ (bnd_inl q.1), q.2⟩)
      obtain ⟨st1, l1, e1, rfl, k1, hl1, fr1⟩ := q
      have w1 := ansE_wi hM c.2.2.1 m (kid0 Z) X st l1 st1 ox dx wi e1
      by_cases z1 : l1 = []
      · subst z1
        rw [if_pos (show (([] : List Tr).length : Int) = 0 from rfl)]
        refine fm_x_addAnswer (xs_addAnswer hn0 k1.1 (k1.2.1.lv lx) (anX_nil t1 a) rfl (by simp) a0' (by omega)) (fun r s f q => ?_) (fun s f q => ?_)
        · obtain ⟨l', e, er, k, hl, -, fr⟩ := q
          have e' := addTE_det _ _ e (Or.inr ⟨List.not_mem_nil, rfl⟩)
          rw [if_neg (by simp)] at e'
          simp only [Sum.inr.injEq, Prod.mk.injEq, List.nil_append, and_true] at e'
          rw [k1.2.1.2.1 x lx, eX] at e'
          refine ⟨st1, [X], to _ (bnd_inr e1 (by rw [if_pos rfl])), by rw [er, e'], okX.trans rg.1 k1 k, by rw [← e']; exact hl, fun j hj => by rw [fr j (Or.inl hj), fr1 j hj]⟩
        · have e' := addTE_det _ _ q.1 (Or.inr ⟨List.not_mem_nil, rfl⟩)
          rw [if_neg (by simp)] at e'
          cases e'
      · rw [if_neg (by intro e; exact z1 (List.length_eq_zero_iff.mp (by omega)))]
        exact ⟨st1, [], to _ (bnd_inr e1 (by rw [if_neg z1])), rfl, k1, anX_nil _ _, fr1⟩
    · rw [ez, if_neg (by decide), if_neg (by decide), if_neg (by decide), if_neg (by decide), if_neg (by decide), if_neg (by decide), if_neg (by decide), if_neg (by decide), if_neg (by decide), if_pos rfl]
      refine ⟨z0, ?_⟩
      have to : ∀ o, bnd (ansE M R mo wl m (kid0 Z) X st) (fun l st1 o => o = .inr (l.take 1, st1)) o → ansE M R mo wl (m + 1) Z X st o := fun o ho => Or.inr (Or.inr (Or.inr (Or.inr (Or.inr (Or.inr (Or.inr (Or.inr (Or.inr ⟨lz, ho⟩))))))))
      refine fo_x_S_answers (n + 1) _ _ _ _ _ _ _ (ih (n + 1) (by omega) σ st _ x a (kid0 Z) X h wi lx eX dx ri s1 hll a0' (by omega)) (fun r1 t1 f1 q => ?_) (fun t1 f1 q => ⟨to _ (bnd_inl q.1), q.2⟩)
      obtain ⟨st1, l1, e1, rfl, k1, hl1, fr1⟩ := q
      refine ⟨st1, l1.take 1, to _ (bnd_inr e1 rfl), by rw [List.length_take]; omega, k1, fun i hi => ?_, fr1⟩
      rw [List.length_take] at hi
      obtain ⟨a2, a3⟩ := hl1 i (by omega)
      exact ⟨a2, by rw [List.getElem?_take_of_lt (by omega)]; exact a3⟩
end

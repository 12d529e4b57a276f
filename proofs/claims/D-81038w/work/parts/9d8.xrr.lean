/-! RewriteHouse: reducing, a row -/
section
variable {M : Mo} {R : Ru} {mo : Int} {σ0 : S} {a0 r0 : Int}
theorem rowE_app {G : RT} : ∀ (ts ts2 : List Tr) (st : ST) (us : List Tr) (st1 : ST), rowE G ts st (.inr (us, st1)) → (∀ l s', rowE G ts2 st1 (.inr (l, s')) → rowE G (ts ++ ts2) st (.inr (us ++ l, s'))) ∧ ∀ e, rowE G ts2 st1 (.inl e) → rowE G (ts ++ ts2) st (.inl e) := by
  intro ts
  induction ts with
  | nil =>
    intro ts2 st us st1 h
    simp only [rowE, Sum.inr.injEq, Prod.mk.injEq] at h
    obtain ⟨rfl, rfl⟩ := h
    exact ⟨fun l s' k => k, fun e k => k⟩
  | cons t ts ih =>
    intro ts2 st us st1 h
    obtain ⟨u, sa, h1, h⟩ := bnd_ok h
    obtain ⟨vs, sb, h2, h⟩ := bnd_ok h
    simp only [Sum.inr.injEq, Prod.mk.injEq] at h
    obtain ⟨rfl, rfl⟩ := h
    have r := ih ts2 sa vs st1 h2
    exact ⟨fun l s' k => bnd_inr h1 (bnd_inr (r.1 l s' k) rfl), fun e k => bnd_inr h1 (bnd_inl (r.2 e k))⟩
theorem row_gY {st st1 : ST} {x : Tr} {us : List Tr} (hx : okT M x) (hk : KH M st x) (x0 : 0 ≤ lab x) (k : kids x ≠ []) (l1 : leS st st1) (c1 : us = (kids x).map (came st1)) (n1 : ∀ t ∈ kids x, came st1 t ≠ .nil) (a : us ≠ kids x) : gY M st1 (mk M (lab x) us) := by
  have hA : x ∈ stA st := by
    rcases hk x (subs_self hx.1.1) with z | z | z
    · exact absurd z k
    · exact z
    · refine absurd ?_ a
      rw [c1]
      have : ∀ u ∈ kids x, came st1 u = id u := fun u hu => by
        have e := z.2 u hu
        rw [came_le l1 (by rw [e]; exact isT_nn (isT_kid hx.1.1 hu)), e]
        rfl
      rw [List.map_congr_left this, List.map_id]
  exact ⟨x, l1.2 x hA, x0, k, n1, by rw [c1]⟩
/-- behind a run, the row laid back -/
theorem okX.backT {t s s' t2 : S} {tp : Int} {st1 st2 : ST} (hn0 : 1 ≤ gI σ0 93) (hn : 1 ≤ gI t 93) (htp : tp = gI t 106) (hs' : s' = pI s 106 tp) (ko : okX M R mo σ0 t st1 s') (k : okX M R mo σ0 s st2 t2) (hle : tp ≤ gI s 106) : okX M R mo σ0 t st2 (pI t2 106 tp) := by
  have fs' : Fr ([106], [], []) s s' := Fr.rf.putI hs' rfl
  have f2 : Fr ([106], [], []) t2 (pI t2 106 tp) := Fr.rf.putI rfl rfl
  obtain ⟨x2, g2, ⟨⟨p1, p2, p3, p4, p5, p6, p7⟩, u1, u2, u3, u4⟩, n2, m2⟩ := k
  obtain ⟨xo, go, ⟨⟨o1, o2, o3, o4, o5, o6, o7⟩, v1, v2, v3, v4⟩, no, mo'⟩ := ko
  have x3 : XR M R mo σ0 st2 (pI t2 106 tp) := x2.fr hn0 f2 rfl rfl rfl rfl rfl (leS.rf _) (by
    obtain ⟨⟨d1, d2, d3, d4, d5⟩, d⟩ := x2.2.2.2.1
    exact ⟨⟨by rw [f2.i _ rfl, d1], by rw [f2.i _ rfl, d2], by rw [f2.i _ rfl, d3], by rw [f2.l _ rfl, d4], by rw [f2.l _ rfl, d5]⟩, d⟩)
  have c1 := xo.2.2.2.1.1.1
  have c3 := xo.2.2.2.1.1.2.2.1
  rw [fs'.i _ rfl] at c1 c3
  rw [fs'.i _ rfl] at o2 o3 o4 o5 o6 o7
  have gs : gwX t s := by
    refine ⟨?_, fun x hx => ?_, fun x _ _ => trivial⟩
    · have := go.1; rw [fs'.i _ rfl] at this; exact this
    · have := go.2.1 x hx
      rw [tX_fr fs' rfl] at this
      exact this
  refine ⟨x3, (gs.trans g2 hn).trans (EyX.of_fr f2 rfl) hn, ⟨⟨?_, ?_, ?_, ?_, ?_, ?_, ?_⟩, fun j hj => ?_, fun j hj => ?_, fun j hj => ?_, fun j hj => ?_⟩, by omega, by omega⟩
  · simp only [gI_pI, gI_pL, gI_pA, gL_pI, gL_pL, gL_pA, gA_pI, gA_pL, gA_pA]; rw [if_pos trivial, htp]
  · rw [f2.i _ rfl, p2, o2]
  · rw [f2.i _ rfl, p3, o3]
  · rw [f2.i _ rfl, p4, o4]
  · rw [f2.i _ rfl, p5, o5]
  · rw [f2.i _ rfl, p6, o6]
  · rw [f2.i _ rfl, p7, o7]
  · have := v1 j hj
    rw [fs'.a _ rfl] at this
    rw [f2.a _ rfl, u1 j (by omega), this]
  · have := v2 j hj
    rw [fs'.a _ rfl] at this
    rw [f2.a _ rfl, u2 j (by omega), this]
  · have := v3 j hj
    rw [fs'.a _ rfl] at this
    rw [f2.a _ rfl, u3 j (by omega), this]
  · have := v4 j hj
    rw [fs'.a _ rfl] at this
    rw [f2.a _ rfl, u4 j (by omega), this]
def RRX (M : Mo) (R : Ru) (mo : Int) (σ0 : S) (a0 r0 D : Int) (n : Nat) : Prop :=
  ∀ (σ : S) (st : ST) (x : Int), XR M R mo σ0 st σ → WI M R a0 r0 0 0 st → lvX σ x → KH M st (tX σ x) → SI D σ → gI σ 106 + 40 ≤ 40 * D →
    x_S_toRest n 1 [x] σ (fun r s => ∃ st', redE M (RE (Wr M R mo) D) (tX σ x) st (.inr (tX s r, st')) ∧ lvX s r ∧ okX M R mo σ0 σ st' s) (fun s => redE M (RE (Wr M R mo) D) (tX σ x) st (.inl (gI s 1006, gI s 131)) ∧ noX M σ s)
theorem xs_reduceRow (c : cxR M R mo σ0 a0 r0) {D : Int} {n : Nat} (hT : TRX M R mo σ0 a0 r0 (x_S_toRest n) D) : RRX M R mo σ0 a0 r0 D (n + 1) := by
  have hM := c.1.wm
  have hE := hE_of c
  have hn0 := c.2.1.1
  intro σ st x h w lx hk si top0
  have rg := h.1.rg
  have ot := h.1.ok lx
  have nf := ot.1
  have kx := tX_kids h.1 lx
  have bx : inb x 200000 := ⟨by have := lx.1; omega, by have := lx.2; omega⟩
  rw [xe_toRest_1]
  unfold x_reduceRow_F
  refine ⟨bx, ?_⟩
  by_cases hz : gA σ 68 x = 0
  · rw [if_pos hz]
    have e0 : kids (tX σ x) = [] := List.length_eq_zero_iff.mp (by omega)
    exact ⟨st, Or.inl ⟨e0, rfl⟩, lx, okX.rf h⟩
  rw [if_neg hz]
  have kne : kids (tX σ x) ≠ [] := fun e => by rw [e] at kx; simp at kx; omega
  have x0 : 0 ≤ lab (tX σ x) := by
    rcases Classical.em (lab (tX σ x) < 0) with z | z
    · exact absurd (kids_var nf z) kne
    · omega
  have kl := trS_len (ts := kids (tX σ x)) (fun t ht => (nf.kid ht).1)
  have esz := trS_eta nf
  have s40 := ot.2
  obtain ⟨tp, htp⟩ : ∃ z, z = gI σ 106 := ⟨_, rfl⟩
  rw [← htp]
  obtain ⟨s1, s2, s3, s4, s5, s6, s7, s8⟩ := id si
  refine lx_reduceRow_L21 (fo_x_S_toRest n) (fun v3 v4 s => ∃ i : Nat, v4 = (i : Int) ∧ i ≤ (kids (tX σ x)).length ∧ gI s 106 = tp + i ∧ ∃ sti us, okX M R mo σ0 σ sti (pI s 106 tp) ∧ rowH s tp i us ∧ rowE (RE (Wr M R mo) D) ((kids (tX σ x)).take i) st (.inr (us, sti)) ∧ ((v3 = 1 ∧ us = (kids (tX σ x)).take i) ∨ (v3 = 0 ∧ us ≠ (kids (tX σ x)).take i)))
    (fun v3 v4 _ => ((kids (tX σ x)).length + 1 - v4.toNat)) ⟨0, rfl, by omega, by omega, st, [], by rw [pI_same htp.symm]; exact okX.rf h, rowH.nil, by rw [List.take_zero]; rfl, Or.inl ⟨rfl, by rw [List.take_zero]⟩⟩ ?_
  rintro v3 v4 s fr0 ⟨i, rfl, hi, htop, sti, us, ko, hrow, hru, hfl⟩
  try dsimp only
  obtain ⟨s', hs'⟩ : ∃ z, z = pI s 106 tp := ⟨_, rfl⟩
  rw [← hs'] at ko
  have fs' : Fr ([106], [], []) s s' := Fr.rf.putI hs' rfl
  have fsb : Fr ([106], [], []) s' s := by
    refine ⟨fun j hj => (fs'.1 j hj).symm, fun j hj => (fs'.2.1 j hj).symm, fun j hj => (fs'.2.2 j hj).symm⟩
  have ci := ko.1
  have xs : XR M R mo σ0 sti s := ci.fr hn0 fsb rfl rfl rfl rfl rfl (leS.rf _) (by
    obtain ⟨⟨d1, d2, d3, d4, d5⟩, d⟩ := ci.2.2.2.1
    exact ⟨⟨by rw [fsb.i _ rfl, d1], by rw [fsb.i _ rfl, d2], by rw [fsb.i _ rfl, d3], by rw [fsb.l _ rfl, d4], by rw [fsb.l _ rfl, d5]⟩, d⟩)
  have gs : gwX σ s := ko.2.1.trans (EyX.of_fr fsb rfl) rg.1
  have lxs := gs.lv lx
  have txs := gs.2.1 x lx
  have kxs := tX_kids xs.1 lxs
  rw [txs] at kxs
  have wr := rowE_wi (RE_sn (mo := mo) hM hE D) (RE_wi (mo := mo) (a0 := a0) (r0 := r0) hM hE D) _ _ _ _ (fun t ht => ⟨ot.kid (List.mem_of_mem_take ht), hk.sub nf.1 (subs_kid nf.1 (subs_self nf.1) (List.mem_of_mem_take ht)).1⟩) w hru
  have lus : us.length = i := hrow.len
  refine ⟨bx, ?_⟩
  by_cases hlt : (i : Int) < gA s 68 x
  · rw [if_pos hlt]
    have hil : i < (kids (tX σ x)).length := by omega
    obtain ⟨q, hq⟩ : ∃ q, (kids (tX σ x))[i]? = some q := ⟨_, List.getElem?_eq_getElem hil⟩
    have hqm := List.mem_of_getElem? hq
    have kq := tX_kid xs.1 lxs (k := i) (q := q) (by rw [txs]; exact hq)
    refine xs_at xs.1 lxs (by omega) kq.1 ?_
    generalize gA s 73 (gA s 67 x + i) = y at kq ⊢
    obtain ⟨-, ly, ey⟩ := kq
    obtain ⟨z1, z2, z3, z4, z5, z6, z7, z8⟩ := si.next ko
    have kq2 : KH M sti q := (hk.sub nf.1 (subs_kid nf.1 (subs_self nf.1) hqm).1).le wr.2.1 (nf.kid hqm).1
    have se : SE D s := by
      rw [fs'.i _ rfl] at z1 z4 z5 z6 z7 z8
      rw [fs'.i _ rfl] at z4 z6
      exact ⟨z1, z2, by omega, z4, by omega, z6, z7, z8⟩
    have take1 : (kids (tX σ x)).take (i + 1) = (kids (tX σ x)).take i ++ [q] := by rw [List.take_add_one, hq]; rfl
    refine fo_x_S_toRest n _ _ _ _ _ _ _ (hT s sti y xs wr.1 ly (by rw [ey]; exact kq2) se) (fun r t21 f21 q21 => ?_) (fun t21 f21 q21 => ?_)
    rotate_left
    · rw [ey] at q21
      refine ⟨Or.inr ⟨kne, bnd_inl ?_⟩, q21.2.1, gs.trans q21.2.2 rg.1⟩
      have := (rowE_app _ [q] st us sti hru).2 _ (bnd_inl q21.1)
      rw [← take1] at this
      have dr : kids (tX σ x) = (kids (tX σ x)).take i ++ (q :: (kids (tX σ x)).drop (i + 1)) := by
        have e := (List.getElem?_eq_some_iff.mp hq).2
        rw [← e, ← List.drop_eq_getElem_cons hil, List.take_append_drop]
      rw [dr]
      exact (rowE_app _ (q :: (kids (tX σ x)).drop (i + 1)) st us sti hru).2 _ (bnd_inl q21.1)
    obtain ⟨st2, e2, lr, k2⟩ := q21
    rw [ey] at e2
    have lx21 := k2.2.1.lv lxs
    have tx21 := (k2.2.1.2.1 x lxs).trans txs
    have kx21 := tX_kids k2.1.1 lx21
    rw [tx21] at kx21
    have kq21 := tX_kid k2.1.1 lx21 (k := i) (q := q) (by rw [tx21]; exact hq)
    refine xs_at k2.1.1 lx21 (by omega) kq21.1 ?_
    generalize gA t21 73 (gA t21 67 x + i) = y2 at kq21 ⊢
    obtain ⟨-, ly2, ey2⟩ := kq21
    have tp21 : gI t21 106 = tp + i := by rw [k2.2.2.1.1.1, htop]
    refine xs_push (by omega) (by omega) ?_
    obtain ⟨t27, ht27⟩ : ∃ z, z = pA (pI t21 106 (gI t21 106 + 1)) 74 (gI t21 106) r := ⟨_, rfl⟩
    rw [← ht27]
    have f27 : Fr ([106], [], [74]) t21 t27 := by rw [ht27]; exact (Fr.rf.putI rfl rfl).putA rfl rfl
    have hv27 : ∀ j, gA t27 74 j = if j = gI t21 106 then r else gA t21 74 j := fun j => by rw [ht27]; simp [gI_pI, gI_pL, gI_pA, gL_pI, gL_pL, gL_pA, gA_pI, gA_pL, gA_pA]
    have et27 : gI t27 106 = gI t21 106 + 1 := by rw [ht27]; rfl
    have wi1 : w32 ((i : Int) + 1) = ((i + 1 : Nat) : Int) := by rw [w32_id (by omega) (by omega)]; omega
    rw [wi1]
    have back := okX.backT hn0 rg.1 htp hs' ko k2 (by omega)
    have fb : Fr ([], [], [74]) (pI t21 106 tp) (pI t27 106 tp) := by
      refine ⟨fun j _ => ?_, fun j _ => ?_, fun j hj => ?_⟩
      · by_cases e : j = 106
        · subst e; simp only [gI_pI, gI_pL, gI_pA, gL_pI, gL_pL, gL_pA, gA_pI, gA_pL, gA_pA]; rw [if_pos trivial, if_pos trivial]
        · have a1 := f27.1 j (by simpa [List.contains_cons] using e)
          have b1 := (Fr.rf.putI (rfl : pI t27 106 tp = pI t27 106 tp) (rfl : ([106] : List Nat).contains 106 = true) : Fr ([106], [], []) t27 (pI t27 106 tp)).1 j (by simpa [List.contains_cons] using e)
          have b2 := (Fr.rf.putI (rfl : pI t21 106 tp = pI t21 106 tp) (rfl : ([106] : List Nat).contains 106 = true) : Fr ([106], [], []) t21 (pI t21 106 tp)).1 j (by simpa [List.contains_cons] using e)
          rw [b1, b2, a1]
      · simp only [gI_pI, gI_pL, gI_pA, gL_pI, gL_pL, gL_pA, gA_pI, gA_pL, gA_pA]; exact f27.2.1 j rfl
      · simp only [gI_pI, gI_pL, gI_pA, gL_pI, gL_pL, gL_pA, gA_pI, gA_pL, gA_pA]; exact f27.2.2 j hj
    have x27 : XR M R mo σ0 st2 (pI t27 106 tp) := back.1.fr hn0 fb rfl rfl rfl rfl rfl (leS.rf _) (by
      obtain ⟨⟨d1, d2, d3, d4, d5⟩, d⟩ := back.1.2.2.2.1
      exact ⟨⟨by rw [fb.i _ rfl, d1], by rw [fb.i _ rfl, d2], by rw [fb.i _ rfl, d3], by rw [fb.l _ rfl, d4], by rw [fb.l _ rfl, d5]⟩, d⟩)
    have k27 : okX M R mo σ0 σ st2 (pI t27 106 tp) := by
      obtain ⟨xo, go, ⟨⟨o1, o2, o3, o4, o5, o6, o7⟩, v1, v2, v3, v4⟩, no, mo'⟩ := back
      refine ⟨x27, go.trans (EyX.of_fr fb rfl) rg.1, ⟨⟨by rw [fb.i _ rfl, o1], by rw [fb.i _ rfl, o2], by rw [fb.i _ rfl, o3], by rw [fb.i _ rfl, o4], by rw [fb.i _ rfl, o5], by rw [fb.i _ rfl, o6], by rw [fb.i _ rfl, o7]⟩, fun j hj => ?_, fun j hj => by rw [fb.a _ rfl, v2 j hj], fun j hj => by rw [fb.a _ rfl, v3 j hj], fun j hj => by rw [fb.a _ rfl, v4 j hj]⟩, no, mo'⟩
      have a := v1 j hj
      simp only [gI_pI, gI_pL, gI_pA, gL_pI, gL_pL, gL_pA, gA_pI, gA_pL, gA_pA] at a ⊢
      rw [hv27, if_neg (by omega)]
      exact a
    have g27 : gwX t21 t27 := EyX.of_fr f27 rfl
    have row27 : rowH t27 tp (i + 1) (us ++ [tX t21 r]) := by
      refine rowH.app (hrow.same (fun j j0 j1 => by rw [hv27, if_neg (by omega), k2.2.2.1.2.1 _ (by omega)]) (fun z lz => ⟨g27.lv (k2.2.1.lv lz), (g27.2.1 z (k2.2.1.lv lz)).trans (k2.2.1.2.1 z lz)⟩)) ?_
      have hh : gA t27 74 (tp + i) = r := by rw [hv27, if_pos (by omega)]
      have := rowH.one (σ := t27) (a := tp + i) (by rw [hh]; exact g27.lv lr)
      rw [hh, g27.2.1 r lr] at this
      exact this
    have run27 : rowE (RE (Wr M R mo) D) ((kids (tX σ x)).take (i + 1)) st (.inr (us ++ [tX t21 r], st2)) := by
      rw [take1]
      exact (rowE_app _ [q] st us sti hru).1 _ _ (bnd_inr e2 (bnd_inr rfl rfl))
    have req : r = y2 ↔ tX t21 r = q := ⟨fun e => by rw [e]; exact ey2, fun e => k2.1.1.inj lr ly2 (by rw [e, ey2])⟩
    refine ⟨⟨i + 1, rfl, by omega, by omega, st2, us ++ [tX t21 r], k27, row27, run27, ?_⟩, by omega⟩
    rw [take1]
    by_cases hr2 : r = y2
    · rw [bi_t hr2]
      have er := req.mp hr2
      rcases hfl with ⟨rfl, z⟩ | ⟨rfl, z⟩
      · exact Or.inl ⟨by decide, by rw [z, er]⟩
      · refine Or.inr ⟨by decide, fun e => z (List.append_inj' e rfl).1⟩
    · rw [bi_f hr2]
      refine Or.inr ⟨?_, fun e => hr2 (req.mpr ?_)⟩
      · rcases hfl with ⟨rfl, z⟩ | ⟨rfl, z⟩ <;> decide
      · have := (List.append_inj' e rfl).2
        exact List.cons.inj this |>.1
  · rw [if_neg hlt]
    have ei : i = (kids (tX σ x)).length := by omega
    have tk : (kids (tX σ x)).take i = kids (tX σ x) := by rw [ei, List.take_length]
    rw [tk] at hru hfl wr
    unfold x_reduceRow_j77
    rcases hfl with ⟨rfl, z⟩ | ⟨rfl, z⟩
    · rw [if_neg (by decide)]
      rintro t17 ht17
      rw [← hs'] at ht17
      rw [ht17]
      refine ⟨sti, ?_, ko.2.1.lv lx, ko⟩
      rw [ko.2.1.2.1 x lx]
      exact Or.inr ⟨kne, bnd_inr hru (Or.inl ⟨z, rfl⟩)⟩
    · rw [if_pos rfl]
      refine ⟨bx, ?_⟩
      have eW : gA s 66 x = lab (tX σ x) := by rw [← txs, tX_row xs.1 lxs, lab_N]
      rw [eW]
      have rm := room c.1 c.2.1 xs.1 xs.2.2.1 (wr.1.weak (by omega) (by omega))
      have ok := mkOk_row nf x0 (by rw [lus, ei]) (fun u hu => (wr.2.2.1 u hu).2.1)
      have gy := row_gY ot hk x0 kne wr.2.1 wr.2.2.2.1 wr.2.2.2.2 z
      have cc := xs.2.2.2.1
      refine fm_x_make (xs_make xs.1 (by omega) htop (by omega) (by omega) hrow ok rm.1 rm.2) (fun r t2 f2 p => ?_) (fun t2 f2 p => ?_)
      · obtain ⟨p1, p2, p3, p4, p5, p6, p7, p8⟩ := p
        have ey2 : EyX σ0 t2 (CV M sti) := xs.2.2.1.trans (p4.ey.mono (fun u hu => by
          rcases hu with e | e
          · exact Or.inr (Or.inr (Or.inl (by rw [e]; exact gy)))
          · exact Or.inl ⟨_, x0, nf.op x0, e.1, e.2⟩)) hn0
        have h2 : XR M R mo σ0 sti t2 := xs.ex p1 p4 ey2 rfl (by
          obtain ⟨⟨d1, d2, d3, d4, d5⟩, d⟩ := cc
          exact ⟨⟨by rw [f2.i _ rfl, d1], by rw [f2.i _ rfl, d2], by rw [f2.i _ rfl, d3], by rw [f2.l _ rfl, d4], by rw [f2.l _ rfl, d5]⟩, d⟩) (f2.a _ rfl) (f2.a _ rfl) (f2.a _ rfl) (f2.a _ rfl)
        obtain ⟨xo, go, ⟨⟨o1, o2, o3, o4, o5, o6, o7⟩, w1, w2, w3, w4⟩, no, mo'⟩ := ko
        rw [fs'.i _ rfl] at o2 o3 o4 o5 o6 o7
        rw [fs'.a _ rfl] at w1 w2 w3 w4
        refine ⟨sti, Or.inr ⟨kne, bnd_inr hru (Or.inr ⟨z, ?_⟩)⟩, p2, ⟨h2, gs.trans p4.ey.gw rg.1, ⟨⟨by rw [p7, htp], by rw [f2.i _ rfl, o2], by rw [f2.i _ rfl, o3], by rw [f2.i _ rfl, o4], by rw [f2.i _ rfl, o5], by rw [f2.i _ rfl, o6], by rw [f2.i _ rfl, o7]⟩, fun j hj => ?_, fun j hj => by rw [f2.a _ rfl, w2 j hj], fun j hj => by rw [f2.a _ rfl, w3 j hj], fun j hj => by rw [f2.a _ rfl, w4 j hj]⟩, no, mo'⟩⟩
        · rw [if_neg (by omega), p3]
        · rw [p8 j (by omega), w1 j hj]
      · obtain ⟨p1, p2, p3, p4⟩ := p
        refine ⟨Or.inr ⟨kne, bnd_inr hru (Or.inr ⟨z, ?_⟩)⟩, p3, gs.trans p4.ey.gw rg.1⟩
        rw [if_pos p1, p2, show gI t2 131 = stS sti from (f2.i _ rfl).trans cc.1.1]
end

/-! RewriteHouse: reducing, terms of conditions -/
section
variable {M : Mo} {R : Ru} {mo : Int} {σ0 : S} {a0 r0 : Int}
theorem XM.ex {st st' : ST} {σ s : S} {N : Tr → Prop} (h : XM st σ) (xp : XP M σ) (xs : XP M s) (e : ExX σ s N) (eM : stM st' = stM st) : XM st' s := by
  refine ⟨fun x hx => ?_, fun t ht => ?_⟩
  · rw [eM]
    by_cases z : x < gI σ 93
    · have l : lvX σ x := ⟨hx.1, z⟩
      have a := h.1 x l
      have er := (e.2.1 x l).2
      have et := e.t l
      rw [er, et]
      have o := oX_ex e a.1
      exact ⟨o.1, by rw [o.2]; exact a.2⟩
    · have n := (e.2.2 x (by omega) hx.2).1
      rw [n]
      refine ⟨Or.inl rfl, ?_⟩
      rw [oX_0]
      rcases Classical.em (stM st (tX s x) = .nil) with w | w
      · exact w.symm
      · obtain ⟨y, ly, ey⟩ := h.2 _ w
        have := xs.inj (e.lv ly) hx (by rw [e.t ly, ey])
        have := ly.2
        omega
  · rw [eM] at ht
    obtain ⟨y, ly, ey⟩ := h.2 t ht
    exact ⟨y, e.lv ly, by rw [e.t ly, ey]⟩
theorem XR.ex {st st' : ST} {σ s : S} {N : Tr → Prop} (h : XR M R mo σ0 st σ) (xs : XP M s) (e : ExX σ s N) (ey : EyX σ0 s (CV M st')) (eM : stM st' = stM st) (hc : XC mo st' s) (e1 : gA s 78 = gA σ 78) (e2 : gA s 79 = gA σ 79) (e3 : gA s 80 = gA σ 80) (e4 : gA s 81 = gA σ 81) : XR M R mo σ0 st' s :=
  ⟨xs, h.2.1.ex h.1 xs e eM, ey, hc, fun k hk => (h.2.2.2.2 k hk).to e.ey.gw e1 e2 e3 e4⟩
theorem XR.fr {st st' : ST} {σ s : S} {w : List Nat × List Nat × List Nat} (hn : 1 ≤ gI σ0 93) (h : XR M R mo σ0 st σ) (f : Fr w σ s) (hw : apt w XPi (XPm ++ XPa) = true) (hw2 : apt w [93] [66, 67, 68, 73, 75] = true) (hw3 : apt w [93] [66, 67, 68, 73] = true) (hw4 : apt w [] [78, 79, 80, 81] = true) (eM : stM st' = stM st) (le : leS st st') (hc : XC mo st' s) : XR M R mo σ0 st' s := by
  have ha := apt_a hw4 f
  simp only [List.forall_mem_cons] at ha
  exact h.ex (h.1.fr f hw) (ExX.of_fr (N := fun _ => False) f hw2) ((h.2.2.1.mono (fun t => CV.le le)).trans (EyX.of_fr f hw3) hn) eM hc ha.1 ha.2.1 ha.2.2.1 ha.2.2.2.1
theorem oX_ey {N : Tr → Prop} {σ s : S} (e : EyX σ s N) {x : Int} (h : olX σ x) : olX s x ∧ oX s x = oX σ x := by
  rcases h with h | h
  · rw [h]; exact ⟨Or.inl rfl, by rw [oX_0, oX_0]⟩
  · exact ⟨Or.inr (e.lv h), by rw [oX_n (e.lv h), oX_n h, e.2.1 x h]⟩
theorem bX0_ey {N : Tr → Prop} {σ s : S} (e : EyX σ s N) (hb : ∀ v, 0 ≤ v → v < 60 → olX σ (gA σ 83 v)) (h1 : ∀ v, 0 ≤ v → v < 60 → gA s 83 v = gA σ 83 v) : bX0 s = bX0 σ ∧ ∀ v, 0 ≤ v → v < 60 → olX s (gA s 83 v) := by
  refine ⟨?_, fun v v0 v1 => by rw [h1 v v0 v1]; exact (oX_ey e (hb v v0 v1)).1⟩
  funext v
  unfold bX0
  by_cases hv : 0 ≤ v ∧ v < 60
  · rw [if_pos hv, if_pos hv, h1 v hv.1 hv.2, (oX_ey e (hb v hv.1 hv.2)).2]
  · rw [if_neg hv, if_neg hv]
/-- inside a term in process (0: ahead of all) -/
def SI (D : Int) (σ : S) : Prop := gI σ 139 = D ∧ (0 ≤ D ∧ D ≤ 61) ∧ (0 ≤ gI σ 106 ∧ gI σ 106 ≤ 40 * max 1 D) ∧ (0 ≤ gI σ 141 ∧ gI σ 141 ≤ 2 * D + 2 * gI σ 131) ∧ (0 ≤ gI σ 143 ∧ gI σ 143 ≤ 60 * max 1 D + 480) ∧ (0 ≤ gI σ 123 ∧ gI σ 123 ≤ gI σ 128) ∧ gI σ 138 = 0 ∧ gI σ 134 = 0
/-- a term comes -/
def SE (d : Int) (σ : S) : Prop := gI σ 139 = d ∧ (0 ≤ d ∧ d ≤ 61) ∧ (0 ≤ gI σ 106 ∧ gI σ 106 ≤ 40 * d) ∧ (0 ≤ gI σ 141 ∧ gI σ 141 ≤ 2 * d + 2 * gI σ 131) ∧ (0 ≤ gI σ 143 ∧ gI σ 143 ≤ 60 * (d + 1) + 480) ∧ (0 ≤ gI σ 123 ∧ gI σ 123 ≤ gI σ 128) ∧ gI σ 138 = 0 ∧ gI σ 134 = 0
def cxR (M : Mo) (R : Ru) (mo : Int) (σ0 : S) (a0 r0 : Int) : Prop := XP M σ0 ∧ roX σ0 a0 r0 ∧ (∀ s, stX M s → RuOK M R s) ∧ mo ≤ 3000000
/-- what a run leaves -/
def okX (M : Mo) (R : Ru) (mo : Int) (σ0 σ : S) (st' : ST) (s : S) : Prop := XR M R mo σ0 st' s ∧ gwX σ s ∧ FX σ s ∧ stS st' ≥ gI σ 131 ∧ stQ st' ≥ gI σ 128
def noX (M : Mo) (σ s : S) : Prop := XP M s ∧ gwX σ s
def TRX (M : Mo) (R : Ru) (mo : Int) (σ0 : S) (a0 r0 : Int) (G : Orc) (d : Int) : Prop :=
  ∀ σ st x, XR M R mo σ0 st σ → WI M R a0 r0 0 0 st → lvX σ x → KH M st (tX σ x) → SE d σ →
    G 0 [x] σ (fun r s => ∃ st', RE (Wr M R mo) d (tX σ x) st (.inr (tX s r, st')) ∧ lvX s r ∧ okX M R mo σ0 σ st' s) (fun s => RE (Wr M R mo) d (tX σ x) st (.inl (gI s 1006, gI s 131)) ∧ noX M σ s)
theorem XP.ok {σ : S} (h : XP M σ) {x : Int} (hx : lvX σ x) : okT M (tX σ x) := ⟨(h.nd hx).2.2.1, (h.nd hx).2.2.2⟩
theorem hE_of (c : cxR M R mo σ0 a0 r0) : ∀ e ∈ eqs M, RuOK M R e := by
  intro e he
  refine c.2.2.1 e (Or.inl ?_)
  have key : e ∈ allE M := by
    unfold eqs at he
    rcases List.mem_append.mp he with z | z
    · exact (List.mem_filter.mp z).1
    · exact (List.mem_filter.mp z).1
  unfold allE at key
  obtain ⟨n, hn, rfl⟩ := List.mem_map.mp key
  have := List.mem_range.mp hn
  omega
theorem xs_reduced (c : cxR M R mo σ0 a0 r0) {G : Orc} (hG : FrO wX_toRest G) {D : Int} (hT : TRX M R mo σ0 a0 r0 G (max 1 D)) {σ : S} {st : ST} {x : Int} {ρ : Env} (h : XR M R mo σ0 st σ) (w : WI M R a0 r0 0 0 st) (lx : lvX σ x) (hb : ∀ v, 0 ≤ v → v < 60 → olX σ (gA σ 83 v)) (hρ : bX0 σ = ρ) (hv : ∀ v : Int, 0 ≤ v → occ v (tX σ x) → okT M (ρ v) ∧ KH M st (ρ v)) (si : SI D σ) :
    x_reduced_F G x σ (fun r s => ∃ st', partE M (RE (Wr M R mo) (max 1 D)) (tX σ x) ρ st (.inr (tX s r, st')) ∧ lvX s r ∧ okX M R mo σ0 σ st' s ∧ ∀ v, 0 ≤ v → v < 60 → gA s 83 v = gA σ 83 v) (fun s => partE M (RE (Wr M R mo) (max 1 D)) (tX σ x) ρ st (.inl (gI s 1006, gI s 131)) ∧ noX M σ s) := by
  have hM := c.1.wm
  have hn0 := c.2.1.1
  have xp := h.1
  have ot := xp.ok lx
  obtain ⟨⟨c1, c2, c3, c4, c5⟩, cs, cf, cq, cd⟩ := h.2.2.2.1
  obtain ⟨s1, s2, s3, s4, s5, s6, s7, s8⟩ := si
  unfold x_reduced_F
  refine fm_x_countFilled (xs_countFilled xp lx (by omega) (by omega)) (fun _ t1 f1 q => ?_) (fun t1 f1 q => ?_)
  rotate_left
  · refine ⟨bnd_inl ?_, xp.fr f1 rfl, (EyX.of_fr (N := fun _ => True) f1 rfl)⟩
    rw [q.2.1, f1.i _ rfl, c1]
    unfold cntE
    rw [if_pos (by omega)]
  obtain ⟨q1, q2⟩ := q
  obtain ⟨st1, hst1⟩ : ∃ z : ST, z = (stM st, stA st, stS st, stF st + (trS (tX σ x) : Int), stQ st, stD st) := ⟨_, rfl⟩
  have hcnt : cntE (trS (tX σ x) : Int) st (.inr ((), st1)) := by
    unfold cntE
    rw [if_neg (by omega), hst1]
  obtain ⟨w2, l2, w1, l1⟩ := cp_wi0 hM ot (Int.le_refl _) (fun v v0 ho => (hv v v0 ho).1) w hcnt
  have f1' : Fr ([132], [], []) σ t1 := Fr.rf.putI q2 rfl
  have eF : gI t1 132 = stF st + (trS (tX σ x) : Int) := by rw [q2]; simp only [gI_pI, gI_pL, gI_pA, gL_pI, gL_pL, gL_pA, gA_pI, gA_pL, gA_pA]; rw [if_pos trivial, c2]
  have h1 : XR M R mo σ0 st1 t1 := h.fr hn0 f1' rfl rfl rfl rfl (by rw [hst1]) l1 ⟨⟨by rw [f1'.i _ rfl, c1, hst1], by rw [eF, hst1], by rw [f1'.i _ rfl, c3, hst1], by rw [f1'.l _ rfl, c4, hst1], by rw [f1'.l _ rfl, c5]⟩, by rw [hst1]; exact cs, by rw [hst1]; show 0 ≤ stF st + (trS (tX σ x) : Int) ∧ stF st + (trS (tX σ x) : Int) ≤ 4000; omega, by rw [hst1]; exact cq, by rw [hst1]; exact cd⟩
  have g1 : gwX σ t1 := EyX.of_fr f1' rfl
  have lx1 := g1.lv lx
  have et1 := g1.2.1 x lx
  have hb1 := bX0_ey g1 hb (fun v _ _ => by rw [f1'.a _ rfl])
  have e2A : ∀ u, flN M ρ (tX t1 x) u → CV M (addA st1 (filA M ρ (tX σ x))) u := by
    intro u hu
    rw [et1] at hu
    rcases hu with ⟨q, hq, q0, qk, e⟩ | z
    · refine Or.inr (Or.inl (List.mem_append_left _ ?_))
      unfold filA
      refine List.mem_map.mpr ⟨q, List.mem_filter.mpr ⟨hq, ?_⟩, e.symm⟩
      simp only [Bool.and_eq_true, decide_eq_true_eq, Bool.not_eq_true', List.isEmpty_eq_false_iff]
      exact ⟨q0, qk⟩
    · exact Or.inl z
  have l12 : leS st1 (addA st1 (filA M ρ (tX σ x))) := leS_same rfl (fun u hu => List.mem_append_right _ hu)
  have ey2 : ∀ s, ExX t1 s (flN M ρ (tX t1 x)) → EyX σ0 s (CV M (addA st1 (filA M ρ (tX σ x)))) := fun s es => (h1.2.2.1.mono (fun t => CV.le l12)).trans (es.ey.mono e2A) hn0
  have hr : rmX M (flN M ρ (tX t1 x)) t1 := fun s xs es => room c.1 c.2.1 xs (ey2 s es) (w2.weak (by omega) (by omega))
  have top1 : gI t1 106 = gI σ 106 := f1'.i _ rfl
  refine fm_x_filled (xs_filled hr h1.1.rg.1 h1.1 (ExX.rf _ _) lx1 hb1.2 (hb1.1.trans hρ) (fun v v0 ho => isT_nn (hv v v0 (by rw [← et1]; exact ho)).1.1.1) (fun u hu => hu) (by omega) (by omega)) (fun r t2 f2 q => ?_) (fun t2 f2 q => ?_)
  rotate_left
  · obtain ⟨p1, p2, p3, p4⟩ := q
    rw [et1] at p1
    refine ⟨bnd_inr hcnt (bnd_inl ?_), p3, g1.trans p4.ey.gw xp.rg.1⟩
    rw [p2, f2.i _ rfl, f1'.i _ rfl, c1]
    unfold putE
    rw [if_pos p1, hst1]
  obtain ⟨p1, p2, p3, p4, p5, p6, p7⟩ := q
  rw [et1] at p3 p4
  obtain ⟨st2, hst2⟩ : ∃ z, z = addA st1 (filA M ρ (tX σ x)) := ⟨_, rfl⟩
  have hput : putE M (tX σ x) ρ st1 (.inr (tX t2 r, st2)) := by
    unfold putE
    rw [if_neg (by omega), hst2, p3]
  rw [← hst2] at w2 l2
  obtain ⟨-, -, k2, o2, -, -⟩ := cp_wi hM ot (Int.le_refl _) hv w hcnt hput
  have i2 : stS st2 = stS st ∧ stF st2 = stF st + (trS (tX σ x) : Int) ∧ stQ st2 = stQ st ∧ stD st2 = stD st ∧ stM st2 = stM st1 := by
    rw [hst2, hst1]; exact ⟨rfl, rfl, rfl, rfl, rfl⟩
  have cc2 : XC mo st2 t2 := ⟨⟨by rw [f2.i _ rfl, f1'.i _ rfl, c1, i2.1], by rw [f2.i _ rfl, eF, i2.2.1], by rw [f2.i _ rfl, f1'.i _ rfl, c3, i2.2.2.1], by rw [f2.l _ rfl, f1'.l _ rfl, c4, i2.2.2.2.1], by rw [f2.l _ rfl, f1'.l _ rfl, c5]⟩, by rw [i2.1]; exact cs, by rw [i2.2.1]; omega, by rw [i2.2.2.1]; exact cq, by rw [i2.2.2.2.1]; exact cd⟩
  have h2 : XR M R mo σ0 st2 t2 := h1.ex p1 p5 (by rw [hst2]; exact ey2 t2 p5) i2.2.2.2.2 cc2 (f2.a _ rfl) (f2.a _ rfl) (f2.a _ rfl) (f2.a _ rfl)
  have g2 : gwX σ t2 := g1.trans p5.ey.gw xp.rg.1
  have sv2 : gI t2 143 = gI σ 143 := by rw [f2.i _ rfl, f1'.i _ rfl]
  refine fm_x_keepBound (xs_keepBound (by omega) (by omega)) (fun _ t3 f3 q => ?_)
  obtain ⟨f3', v1, v2, v3⟩ := q
  rintro t4 ht4
  have dp3 : gI t3 139 = D := by rw [f3'.i _ rfl, f2.i _ rfl, f1'.i _ rfl, s1]
  rw [dp3] at ht4
  have f4 : Fr ([143, 139], [], [92]) t2 t4 := (f3'.weak rfl).putI ht4 rfl
  have h4 : XR M R mo σ0 st2 t4 := h2.fr hn0 f4 rfl rfl rfl rfl rfl (leS.rf _) (by
    obtain ⟨⟨d1, d2, d3, d4, d5⟩, d⟩ := cc2
    exact ⟨⟨by rw [f4.i _ rfl, d1], by rw [f4.i _ rfl, d2], by rw [f4.i _ rfl, d3], by rw [f4.l _ rfl, d4], by rw [f4.l _ rfl, d5]⟩, d⟩)
  have g24 : gwX t2 t4 := EyX.of_fr f4 rfl
  have sv4 : gI t4 143 = gI σ 143 + 60 := by rw [ht4]; simp only [gI_pI, gI_pL, gI_pA, gL_pI, gL_pL, gL_pA, gA_pI, gA_pL, gA_pA]; rw [if_neg (by decide), v1, sv2]
  have dp4 : gI t4 139 = max 1 D := by rw [ht4]; simp only [gI_pI, gI_pL, gI_pA, gL_pI, gL_pL, gL_pA, gA_pI, gA_pL, gA_pA]; rw [if_pos trivial]
  have ln : ∀ i, i ∈ [141, 123, 138, 134, 131, 128] → gI t4 i = gI σ i := by
    intro i hi
    simp only [List.mem_cons, List.not_mem_nil, or_false] at hi
    rcases hi with rfl | rfl | rfl | rfl | rfl | rfl <;> rw [f4.i _ rfl, f2.i _ rfl, f1'.i _ rfl]
  have tp4 : gI t4 106 = gI σ 106 := by rw [f4.i _ rfl, p6, top1]
  have se : SE (max 1 D) t4 := by
    refine ⟨dp4, by omega, by rw [tp4]; omega, ?_, by rw [sv4]; omega, ?_, ?_, ?_⟩
    · rw [ln _ (by simp), ln 131 (by simp)]; omega
    · rw [ln _ (by simp), ln 128 (by simp)]; exact s6
    · rw [ln _ (by simp)]; exact s7
    · rw [ln _ (by simp)]; exact s8
  have lr4 := g24.lv p2
  have er4 := g24.2.1 r p2
  refine hG _ _ _ _ _ _ _ (hT t4 st2 r h4 (w2.weak (by omega) (by omega)) lr4 (by rw [er4]; exact k2) se) (fun r5 t5 f5 q => ?_) (fun t5 f5 q => ?_)
  rotate_left
  · obtain ⟨e5, x5, g5⟩ := q
    rw [er4] at e5
    exact ⟨bnd_inr hcnt (bnd_inr hput e5), x5, (g2.trans g24 xp.rg.1).trans g5 xp.rg.1⟩
  obtain ⟨st5, e5, l5, ⟨h5, g5, fx5, n5, m5⟩⟩ := q
  rw [er4] at e5
  rintro t6 ht6
  rw [dp3] at ht6
  obtain ⟨⟨y1, y2, y3, y4, y5, y6, y7⟩, z1, z2, z3, z4⟩ := fx5
  have f6 : Fr ([139], [], []) t5 t6 := Fr.rf.putI ht6 rfl
  have sv6 : gI t6 143 = gI σ 143 + 60 := by rw [f6.i _ rfl, y3, sv4]
  refine fm_x_takeBound (xs_takeBound (by omega) (by omega)) (fun _ t7 f7 q => ?_)
  obtain ⟨f7', u1, u2⟩ := q
  have f57 : Fr ([143, 139], [], [83]) t5 t7 := (f6.weak rfl).trans (f7'.weak rfl)
  have h7 : XR M R mo σ0 st5 t7 := h5.fr hn0 f57 rfl rfl rfl rfl rfl (leS.rf _) (by
    obtain ⟨⟨d1, d2, d3, d4, d5⟩, d⟩ := h5.2.2.2.1
    exact ⟨⟨by rw [f57.i _ rfl, d1], by rw [f57.i _ rfl, d2], by rw [f57.i _ rfl, d3], by rw [f57.l _ rfl, d4], by rw [f57.l _ rfl, d5]⟩, d⟩)
  have g57 : gwX t5 t7 := EyX.of_fr f57 rfl
  have g07 : gwX σ t7 := ((g2.trans g24 xp.rg.1).trans g5 xp.rg.1).trans g57 xp.rg.1
  refine ⟨st5, ?_, g57.lv l5, ⟨h7, g07, ⟨⟨?_, ?_, ?_, ?_, ?_, ?_, ?_⟩, fun j hj => ?_, fun j hj => ?_, fun j hj => ?_, fun j hj => ?_⟩, ?_, ?_⟩, fun v v0 v1 => ?_⟩
  · rw [g57.2.1 r5 l5]
    exact bnd_inr hcnt (bnd_inr hput e5)
  · rw [f57.i _ rfl, y1, tp4]
  · rw [f57.i _ rfl, y2, ln _ (by simp)]
  · rw [u1, sv6]; omega
  · rw [f57.i _ rfl, y4, ln _ (by simp)]
  · rw [f7'.i _ rfl, ht6]; simp only [gI_pI, gI_pL, gI_pA, gL_pI, gL_pL, gL_pA, gA_pI, gA_pL, gA_pA]; rw [if_pos trivial, s1]
  · rw [f57.i _ rfl, y6, ln _ (by simp)]
  · rw [f57.i _ rfl, y7, ln _ (by simp)]
  · rw [f57.a _ rfl, z1 j (by omega), f4.a _ rfl, p7 j (by omega), f1'.a _ rfl]
  · rw [f57.a _ rfl, z2 j (by rw [ln _ (by simp)]; exact hj), f4.a _ rfl, f2.a _ rfl, f1'.a _ rfl]
  · rw [f57.a _ rfl, z3 j (by omega), ht4]; simp only [gI_pI, gI_pL, gI_pA, gL_pI, gL_pL, gL_pA, gA_pI, gA_pL, gA_pA]; rw [v2 j (by omega), f2.a _ rfl, f1'.a _ rfl]
  · rw [f57.a _ rfl, z4 j (by rw [ln _ (by simp)]; exact hj), f4.a _ rfl, f2.a _ rfl, f1'.a _ rfl]
  · rw [← ln 131 (by simp)]; exact n5
  · rw [← ln 128 (by simp)]; exact m5
  · rw [u2 v v0 v1, f6.a _ rfl, sv6, show gI σ 143 + 60 - 60 + v = gI t2 143 + v by omega, z3 _ (by omega), ht4]
    simp only [gI_pI, gI_pL, gI_pA, gL_pI, gL_pL, gL_pA, gA_pI, gA_pL, gA_pA]
    rw [v3 v v0 v1, f2.a _ rfl, f1'.a _ rfl]
end

/-! RewriteHouse: reducing, conditions -/
section
variable {M : Mo} {R : Ru} {mo : Int} {σ0 : S} {a0 r0 : Int}
def RDX (M : Mo) (R : Ru) (mo : Int) (σ0 : S) (a0 r0 : Int) (G : Orc) (D : Int) : Prop :=
  ∀ (σ : S) (st : ST) (x : Int) (ρ : Env), XR M R mo σ0 st σ → WI M R a0 r0 0 0 st → lvX σ x → (∀ v, 0 ≤ v → v < 60 → olX σ (gA σ 83 v)) → bX0 σ = ρ → (∀ v : Int, 0 ≤ v → occ v (tX σ x) → okT M (ρ v) ∧ KH M st (ρ v)) → SI D σ →
    G 5 [x] σ (fun r s => ∃ st', partE M (RE (Wr M R mo) (max 1 D)) (tX σ x) ρ st (.inr (tX s r, st')) ∧ lvX s r ∧ okX M R mo σ0 σ st' s ∧ ∀ v, 0 ≤ v → v < 60 → gA s 83 v = gA σ 83 v) (fun s => partE M (RE (Wr M R mo) (max 1 D)) (tX σ x) ρ st (.inl (gI s 1006, gI s 131)) ∧ noX M σ s)
theorem SI.next {D : Int} {σ s : S} {st' : ST} (h : SI D σ) (k : okX M R mo σ0 σ st' s) : SI D s := by
  obtain ⟨s1, s2, s3, s4, s5, s6, s7, s8⟩ := h
  obtain ⟨⟨-, -, -, ⟨⟨c1, -, c3, -⟩, -⟩, -⟩, -, ⟨⟨y1, y2, y3, y4, y5, y6, y7⟩, -⟩, n, m⟩ := k
  exact ⟨by rw [y5, s1], s2, by rw [y1]; exact s3, by rw [y2, c1]; omega, by rw [y3]; exact s5, by rw [y4, c3]; omega, by rw [y6, s7], by rw [y7, s8]⟩
theorem okX.trans {a b s : S} {st st' : ST} (hn : 1 ≤ gI a 93) (h : okX M R mo σ0 a st b) (k : okX M R mo σ0 b st' s) : okX M R mo σ0 a st' s := by
  obtain ⟨⟨-, -, -, ⟨⟨c1, -, c3, -⟩, -⟩, -⟩, g, f, n, m⟩ := h
  obtain ⟨x2, g2, f2, n2, m2⟩ := k
  exact ⟨x2, g.trans g2 hn, f.trans f2, by omega, by omega⟩
theorem noX.pre {a b s : S} {st : ST} (hn : 1 ≤ gI a 93) (h : okX M R mo σ0 a st b) (k : noX M b s) : noX M a s := ⟨k.1, h.2.1.trans k.2 hn⟩
theorem stX_rg (hM : WM M) {s : Int} (h : stX M s) : 0 ≤ s ∧ s < 70 := by
  obtain ⟨-, -, -, -, e, r, -⟩ := hM
  rcases h with h | h <;> omega
theorem xs_isTrue (c : cxR M R mo σ0 a0 r0) {G : Orc} (hG : FrO wX_toRest G) {D : Int} (hD : RDX M R mo σ0 a0 r0 G D) {σ : S} {st : ST} {s cc : Int} {ρ : Env} (hs : stX M s) (c0 : 0 ≤ cc) (c1 : cc < mCn M s) (hm : mCs M (6 * s + cc) ≠ 1) (h : XR M R mo σ0 st σ) (w : WI M R a0 r0 0 0 st) (hb : ∀ v, 0 ≤ v → v < 60 → olX σ (gA σ 83 v)) (hρ : bX0 σ = ρ) (ei : EI M R s cc ρ) (ek : EK M st ρ) (si : SI D σ) :
    x_isTrue_F G (6 * s + cc) σ (fun r s' => ∃ st' b, isTrueE M R (RE (Wr M R mo) (max 1 D)) (6 * s + cc) ρ st (.inr (b, st')) ∧ r = (if b = true then 1 else 0) ∧ okX M R mo σ0 σ st' s' ∧ ∀ v, 0 ≤ v → v < 60 → gA s' 83 v = gA σ 83 v) (fun s' => isTrueE M R (RE (Wr M R mo) (max 1 D)) (6 * s + cc) ρ st (.inl (gI s' 1006, gI s' 131)) ∧ noX M σ s') := by
  have hM := c.1.wm
  have hE := hE_of c
  have sr := stX_rg hM hs
  have rok := c.2.2.1 s hs
  have cm := rok.2.2.2.1
  have C := rok.2.2.2.2 cc c0 c1
  obtain ⟨⟨lC, eC⟩, hO, hS⟩ := (h.2.2.2.2 s hs).2.2 cc c0 c1
  have rg := h.1.rg
  have kb : inb (6 * s + cc) 420 := ⟨by omega, by omega⟩
  unfold x_isTrue_F
  refine ⟨kb, ?_⟩
  refine hG _ _ _ _ _ _ _ (hD σ st _ ρ h w lC hb hρ (by rw [eC]; exact fun v v0 ho => EK.at ei ek (C.2.2.1 hm v v0 ho)) si) (fun r4 t3 f3 q => ?_) (fun t3 f3 q => ?_)
  rotate_left
  · rw [eC] at q
    exact ⟨bnd_inl q.1, q.2⟩
  obtain ⟨st1, e1, l1, k1, b1⟩ := q
  rw [eC] at e1
  have h1 := k1.1
  have w1 := partE_wi hM (RE_wi (mo := mo) hM hE (max 1 D)) C.1 (fun v v0 ho => EK.at ei ek (C.2.2.1 hm v v0 ho)) w e1
  have eS : gA t3 33 (6 * s + cc) = mCs M (6 * s + cc) := by rw [← h1.1.mo]; rfl
  have rg3 := h1.1.rg
  have r4b : inb r4 200000 := ⟨by have := l1.1; omega, by have := l1.2; omega⟩
  refine ⟨kb, ?_⟩
  rw [eS]
  by_cases z : mCs M (6 * s + cc) = 2
  · rw [if_pos z]
    have nd := h1.1.nd l1
    have eO : gA t3 81 (6 * s + cc) = ruS R (6 * s + cc) := by
      have := f3.a 81 rfl
      rw [this]
      exact hS z
    refine ⟨r4b, ?_⟩
    rw [nd.2.1]
    by_cases y : srt M (tX t3 r4) = -2
    · rw [if_pos y]
      unfold x_isTrue_j55
      refine ⟨st1, false, bnd_inr e1 (Or.inl ⟨z, ?_⟩), rfl, k1, b1⟩
      simp only [Sum.inr.injEq, Prod.mk.injEq, and_true]
      exact (decide_eq_false (fun k => k.1 y)).symm
    · rw [if_neg y]
      refine ⟨r4b, kb, ?_⟩
      rw [eO]
      have sg := (srt_rg hM nd.2.2.1).resolve_left y
      refine xs_isBelow h1.1.mo sg.1 sg.2 ?_
      by_cases v : blw M (srt M (tX t3 r4)) (ruS R (6 * s + cc))
      · rw [bi_t v, if_neg (by decide)]
        refine ⟨st1, true, bnd_inr e1 (Or.inl ⟨z, ?_⟩), rfl, k1, b1⟩
        simp only [Sum.inr.injEq, Prod.mk.injEq, and_true]
        exact (decide_eq_true ⟨y, v⟩).symm
      · rw [bi_f v, if_pos rfl]
        unfold x_isTrue_j55
        refine ⟨st1, false, bnd_inr e1 (Or.inl ⟨z, ?_⟩), rfl, k1, b1⟩
        simp only [Sum.inr.injEq, Prod.mk.injEq, and_true]
        exact (decide_eq_false (fun k => v k.2)).symm
  · rw [if_neg z]
    refine ⟨kb, ?_⟩
    have O := C.2.1 z
    have hO' := (h1.2.2.2.2 s hs).2.2 cc c0 c1
    obtain ⟨lO, eO⟩ := hO'.2.1 z
    have hb1 := bX0_ey k1.2.1 hb b1
    refine hG _ _ _ _ _ _ _ (hD t3 st1 _ ρ h1 w1.1 lO hb1.2 (hb1.1.trans hρ) (by rw [eO]; exact fun v v0 ho => EK.at ei (ek.le w1.2.1) (O.2 v v0 ho)) (si.next k1)) (fun r13 t12 f12 q => ?_) (fun t12 f12 q => ?_)
    rotate_left
    · rw [eO] at q
      exact ⟨bnd_inr e1 (Or.inr ⟨z, bnd_inl q.1⟩), q.2.pre rg.1 k1⟩
    obtain ⟨st2, e2, l2, k2, b2⟩ := q
    rw [eO] at e2
    have l1' := k2.2.1.lv l1
    have et := k2.2.1.2.1 r4 l1
    have kk := okX.trans rg.1 k1 k2
    have bb : ∀ v, 0 ≤ v → v < 60 → gA t12 83 v = gA σ 83 v := fun v v0 v1 => (b2 v v0 v1).trans (b1 v v0 v1)
    by_cases v : r4 = r13
    · rw [bi_t v]
      refine ⟨st2, true, bnd_inr e1 (Or.inr ⟨z, bnd_inr e2 (Or.inl ⟨?_, rfl⟩)⟩), rfl, kk, bb⟩
      rw [← v, et]
    · rw [bi_f v]
      refine ⟨st2, false, bnd_inr e1 (Or.inr ⟨z, bnd_inr e2 (Or.inr ⟨fun k => v ?_, rfl⟩)⟩), rfl, kk, bb⟩
      exact k2.1.1.inj l1' l2 (by rw [et, k])
theorem cnt_two {a b : Int} {st st1 : ST} {o : Out Unit} (h : cntE a st (.inr ((), st1))) (k : cntE b st1 o) : cntE (a + b) st o := by
  unfold cntE at h k ⊢
  split at h
  · cases h
  · simp only [Sum.inr.injEq, Prod.mk.injEq, true_and] at h
    subst h
    rw [k]
    simp only [stF, stS, stM, stA, stQ, stD]
    rw [Int.add_assoc]
theorem cnt_stop {a b : Int} {st : ST} (hb : 0 ≤ b) (h : 4000 < stF st + a) : cntE (a + b) st (.inl (7, stS st)) := by
  unfold cntE
  rw [if_pos (by omega)]
/-- a condition that matches -/
theorem xs_matchCondition (c : cxR M R mo σ0 a0 r0) {G : Orc} (hG : FrO wX_toRest G) {D : Int} (hD : RDX M R mo σ0 a0 r0 G D) {σ : S} {st : ST} {s cc : Int} {ρ : Env} (hs : stX M s) (c0 : 0 ≤ cc) (c1 : cc < mCn M s) (hm : mCs M (6 * s + cc) = 1) (h : XR M R mo σ0 st σ) (w : WI M R a0 r0 0 0 st) (hb : ∀ v, 0 ≤ v → v < 60 → olX σ (gA σ 83 v)) (hρ : bX0 σ = ρ) (ei : EI M R s cc ρ) (ek : EK M st ρ) (si : SI D σ) :
    x_matchCondition_F G (6 * s + cc) σ (fun r s' => ∃ st' L, mcE M R mo (RE (Wr M R mo) (max 1 D)) (6 * s + cc) ρ st (.inr (L, st')) ∧ r = (L.length : Int) ∧ LX (lab (ruC R (6 * s + cc))) s' L ∧ okX M R mo σ0 σ st' s' ∧ gI σ 123 + (L.length : Int) ≤ stQ st') (fun s' => mcE M R mo (RE (Wr M R mo) (max 1 D)) (6 * s + cc) ρ st (.inl (gI s' 1006, gI s' 131)) ∧ noX M σ s') := by
  have hM := c.1.wm
  have hE := hE_of c
  have hn0 := c.2.1.1
  have sr := stX_rg hM hs
  have rok := c.2.2.1 s hs
  have cm := rok.2.2.2.1
  have C := rok.2.2.2.2 cc c0 c1
  have O := C.2.1 (by omega)
  obtain ⟨⟨lC, eC⟩, hO, hS⟩ := (h.2.2.2.2 s hs).2.2 cc c0 c1
  have rg := h.1.rg
  have kb : inb (6 * s + cc) 420 := ⟨by omega, by omega⟩
  obtain ⟨⟨d1, d2, d3, d4, d5⟩, ds, df, dq, dd⟩ := h.2.2.2.1
  unfold x_matchCondition_F
  refine ⟨kb, ?_⟩
  refine fm_x_countFilled (xs_countFilled h.1 lC (by omega) (by omega)) (fun _ t1 f1 q => ?_) (fun t1 f1 q => ?_)
  rotate_left
  · rw [eC] at q
    refine ⟨bnd_inl ?_, h.1.fr f1 rfl, (EyX.of_fr (N := fun _ => True) f1 rfl)⟩
    rw [q.2.1, f1.i _ rfl, d1]
    exact cnt_stop (by omega) (by omega)
  rw [eC] at q
  obtain ⟨q1, q2⟩ := q
  obtain ⟨st1, hst1⟩ : ∃ z : ST, z = (stM st, stA st, stS st, stF st + (trS (ruC R (6 * s + cc)) : Int), stQ st, stD st) := ⟨_, rfl⟩
  have hcnt : cntE (trS (ruC R (6 * s + cc)) : Int) st (.inr ((), st1)) := by
    unfold cntE
    rw [if_neg (by omega), hst1]
  have f1' : Fr ([132], [], []) σ t1 := Fr.rf.putI q2 rfl
  have eF : gI t1 132 = stF st + (trS (ruC R (6 * s + cc)) : Int) := by rw [q2]; simp only [gI_pI, gI_pL, gI_pA, gL_pI, gL_pL, gL_pA, gA_pI, gA_pL, gA_pA]; rw [if_pos trivial, d2]
  have l1 : leS st st1 := leS_same (by rw [hst1]) (fun u hu => by rw [hst1]; exact hu)
  have w1 : WI M R a0 r0 0 0 st1 := by
    have ww := w
    obtain ⟨-, -, w3, w4, w5, w6, w7⟩ := ww
    refine w.to (by rw [hst1]) l1.2 ?_ ?_ ?_ ?_ ?_
    · rw [hst1]; show ((stA st).length : Int) ≤ a0 + (stF st + (trS (ruC R (6 * s + cc)) : Int)) + stS st + 0; omega
    · rw [hst1]; show 2 * (rowsN (stA st) : Int) ≤ r0 + (stF st + (trS (ruC R (6 * s + cc)) : Int)) + stS st + 0; omega
    · rw [hst1]; show stF st + (trS (ruC R (6 * s + cc)) : Int) ≤ 4000; omega
    · rw [hst1]; exact w6
    · rw [hst1]; exact w7
  have h1 : XR M R mo σ0 st1 t1 := h.fr hn0 f1' rfl rfl rfl rfl (by rw [hst1]) l1 ⟨⟨by rw [f1'.i _ rfl, d1, hst1], by rw [eF, hst1], by rw [f1'.i _ rfl, d3, hst1], by rw [f1'.l _ rfl, d4, hst1], by rw [f1'.l _ rfl, d5]⟩, by rw [hst1]; exact ds, by rw [hst1]; show 0 ≤ stF st + (trS (ruC R (6 * s + cc)) : Int) ∧ stF st + (trS (ruC R (6 * s + cc)) : Int) ≤ 4000; omega, by rw [hst1]; exact dq, by rw [hst1]; exact dd⟩
  have g1 : gwX σ t1 := EyX.of_fr f1' rfl
  have k1 : okX M R mo σ0 σ st1 t1 := ⟨h1, g1, ⟨⟨f1'.i _ rfl, f1'.i _ rfl, f1'.i _ rfl, f1'.i _ rfl, f1'.i _ rfl, f1'.i _ rfl, f1'.i _ rfl⟩, fun j _ => by rw [f1'.a _ rfl], fun j _ => by rw [f1'.a _ rfl], fun j _ => by rw [f1'.a _ rfl], fun j _ => by rw [f1'.a _ rfl]⟩, by rw [hst1, d1]; exact Int.le_refl _, by rw [hst1, d3]; exact Int.le_refl _⟩
  obtain ⟨lO, eO⟩ := ((h1.2.2.2.2 s hs).2.2 cc c0 c1).2.1 (by omega)
  have hb1 := bX0_ey g1 hb (fun v _ _ => by rw [f1'.a _ rfl])
  refine ⟨kb, ?_⟩
  have hv : ∀ v : Int, 0 ≤ v → occ v (ruO R (6 * s + cc)) → okT M (ρ v) ∧ KH M st1 (ρ v) := fun v v0 ho => EK.at ei (ek.le l1) (O.2 v v0 ho)
  refine hG _ _ _ _ _ _ _ (hD t1 st1 _ ρ h1 w1 lO hb1.2 (hb1.1.trans hρ) (by rw [eO]; exact hv) (si.next k1)) (fun r8 t7 f7 q => ?_) (fun t7 f7 q => ?_)
  rotate_left
  · rw [eO] at q
    refine ⟨?_, q.2.pre rg.1 k1⟩
    rcases q.1 with ⟨e, a, b⟩ | ⟨u, sa, a, b⟩
    · refine bnd_inl ?_
      have eb := Sum.inl.inj b
      rw [eb]
      exact cnt_two hcnt a
    · refine Or.inr ⟨u, sa, cnt_two hcnt a, ?_⟩
      rcases b with ⟨e, b1, b2⟩ | ⟨v, sb, b1, b2⟩
      · exact bnd_inl (by rw [b2]; exact b1)
      · exact bnd_inr b1 (bnd_inl b2)
  obtain ⟨st2, e2, l2, k2, b2⟩ := q
  rw [eO] at e2
  have w2 := partE_wi hM (RE_wi (mo := mo) hM hE (max 1 D)) O.1 hv w1 e2
  have pre : ∀ o, mtE M mo (ruC R (6 * s + cc)) (tX t7 r8) false ρ st2 o → mcE M R mo (RE (Wr M R mo) (max 1 D)) (6 * s + cc) ρ st o := by
    intro o ho
    obtain ⟨u, sa, a1, a2⟩ := bnd_ok e2
    obtain ⟨v, sb, a3, a4⟩ := bnd_ok a2
    exact bnd_inr (cnt_two hcnt a1) (bnd_inr a3 (bnd_inr a4 ho))
  refine ⟨kb, ?_⟩
  have h2 := k2.1
  obtain ⟨lC2, eC2⟩ := ((h2.2.2.2.2 s hs).2.2 cc c0 c1).1
  have si2 := (si.next k1).next k2
  obtain ⟨s1, s2, s3, s4, s5, s6, s7, s8⟩ := si2
  have hb2 := bX0_ey k2.2.1 hb1.2 b2
  have eρ : bX0 t7 = ρ := (hb2.1.trans hb1.1).trans hρ
  obtain ⟨⟨m1, m2, m3, m4, m5⟩, ms, mf, mq, md⟩ := h2.2.2.2.1
  have rm := fun hw => room_match (A := asO M (ruC R (6 * s + cc))) c.1 c.2.1 h2.1 h2.2.2.1 (w2.1.weak (by omega) (by omega)) l2 w2.2.2.1.1 hw
  have mo3 := c.2.2.2
  have rgs := xs_matchers (w := 0) h2.1 lC2 eC2 l2 rfl hb2.2 s7 s8 s3.1 (by omega) s6.1 (by omega) (fun hw => (rm hw).1) (by omega) (by omega) (by omega) (by omega)
  refine fm_x_matchers rgs (fun r13 t12 f12 q => ?_) (fun t12 f12 q => ?_)
  · obtain ⟨L, q1, q2, q3, q4, q5, q6, q7⟩ := q
    rw [eρ, m3, m4, m5] at q1
    obtain ⟨st3, hst3⟩ : ∃ z : ST, z = (stM st2, stA st2, stS st2, stF st2, stQ st2 + (L.length : Int), stD st2 + ((min 3000001 (dlN M (tX t7 r8) (ruC R (6 * s + cc))) : Nat) : Int)) := ⟨_, rfl⟩
    have hmt : mtE M mo (ruC R (6 * s + cc)) (tX t7 r8) false ρ st2 (.inr (L, st3)) := by
      unfold mtE mtO
      have q1' : mtc M (ruC R (6 * s + cc)) (tX t7 r8) false ρ (stD st2) mo (stQ st2) = .inr L := q1
      rw [q1', hst3]
    have ok := mtc_ok q1
    have hw : tWide (asO M (ruC R (6 * s + cc))) (tX t7 r8) = false := (mlB_ok (mtE_ok hmt).2.1).1
    have le3 : leS st2 st3 := leS_same (by rw [hst3]) (fun u hu => by rw [hst3]; exact hu)
    have ey3 : EyX σ0 t12 (CV M st3) := ((rm hw).2 t12 q4 q5.1).mono (fun t => CV.le le3)
    obtain ⟨p1, p2, p3, p4, p5, p6, p7, p8⟩ := q5
    have cc3 : XC mo st3 t12 := by
      refine ⟨⟨by rw [f12.i _ rfl, m1, hst3], by rw [f12.i _ rfl, m2, hst3], by rw [q7, m3, hst3], by rw [q6, m4, hst3], by rw [f12.l _ rfl, m5]⟩, by rw [hst3]; exact ms, by rw [hst3]; exact mf, ?_, ?_⟩
      · rw [hst3]; show 0 ≤ stQ st2 + (L.length : Int) ∧ stQ st2 + (L.length : Int) ≤ 6000; omega
      · rw [hst3]; show 0 ≤ stD st2 + ((min 3000001 (dlN M (tX t7 r8) (ruC R (6 * s + cc))) : Nat) : Int) ∧ stD st2 + ((min 3000001 (dlN M (tX t7 r8) (ruC R (6 * s + cc))) : Nat) : Int) ≤ 3000000; omega
    have h3 : XR M R mo σ0 st3 t12 := h2.ex q4 p1 ey3 (by rw [hst3]) cc3 (f12.a _ rfl) (f12.a _ rfl) (f12.a _ rfl) (f12.a _ rfl)
    have k3 : okX M R mo σ0 t7 st3 t12 := ⟨h3, p1.ey.gw, ⟨⟨p4, f12.i _ rfl, f12.i _ rfl, p6, f12.i _ rfl, p3, p2⟩, p8, fun j _ => by rw [f12.a _ rfl], fun j _ => by rw [f12.a _ rfl], p7⟩, by rw [hst3, m1]; exact Int.le_refl _, by rw [hst3, m3]; show stQ st2 + (L.length : Int) ≥ stQ st2; omega⟩
    refine ⟨st3, L, pre _ hmt, q2, q3, (k1.trans rg.1 k2).trans rg.1 k3, ?_⟩
    rw [hst3]
    show gI σ 123 + (L.length : Int) ≤ stQ st2 + (L.length : Int)
    have y4 := (k1.trans rg.1 k2).2.2.1.1.2.2.2.1
    omega
  · obtain ⟨q1, q2, q3⟩ := q
    rw [eρ, m3, m4, m5] at q1
    refine ⟨pre _ ?_, q2, (k1.trans rg.1 k2).2.1.trans q3.ey.gw rg.1⟩
    unfold mtE mtO
    have q1' : mtc M (ruC R (6 * s + cc)) (tX t7 r8) false ρ (stD st2) mo (stQ st2) = .inl (gI t12 1006) := q1
    rw [q1', show gI t12 131 = stS st2 from (f12.i _ rfl).trans m1]
end

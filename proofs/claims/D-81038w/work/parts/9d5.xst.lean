/-! RewriteHouse: reducing, steps of trying -/
section
variable {M : Mo} {R : Ru} {mo : Int} {σ0 : S} {a0 r0 : Int}
theorem mt_step (c : cxR M R mo σ0 a0 r0) {D : Int} {σ : S} {st : ST} {p t w : Int} {ρ : Env} {P T : Tr} (h : XR M R mo σ0 st σ) (wi : WI M R a0 r0 0 0 st) (lp : lvX σ p) (ep : tX σ p = P) (lt : lvX σ t) (et : tX σ t = T) (hp : PH M st T) (hb : ∀ v, 0 ≤ v → v < 60 → olX σ (gA σ 83 v)) (hρ : bX0 σ = ρ) (si : SI D σ) :
    x_matchers p t w σ (fun r s => ∃ L st', mtE M mo P T (decide (w ≠ 0)) ρ st (.inr (L, st')) ∧ r = (L.length : Int) ∧ LX (lab P) s L ∧ okX M R mo σ0 σ st' s ∧ gI σ 123 + (L.length : Int) ≤ stQ st') (fun s => mtE M mo P T (decide (w ≠ 0)) ρ st (.inl (gI s 1006, gI s 131)) ∧ noX M σ s) := by
  have hM := c.1.wm
  have rg := h.1.rg
  subst ep
  obtain ⟨s1, s2, s3, s4, s5, s6, s7, s8⟩ := si
  obtain ⟨⟨m1, m2, m3, m4, m5⟩, ms, mf, mq, md⟩ := h.2.2.2.1
  have rm := fun hw => room_match (A := asO M (tX σ p)) c.1 c.2.1 h.1 h.2.2.1 (wi.weak (by omega) (by omega)) lt (by rw [et]; exact hp) hw
  rw [et] at rm
  have mo3 := c.2.2.2
  have rgs := xs_matchers (w := w) h.1 lp rfl lt et hb s7 s8 s3.1 (by omega) s6.1 (by omega) (fun hw => (rm hw).1) (by omega) (by omega) (by omega) (by omega)
  refine fm_x_matchers rgs (fun r t12 f12 q => ?_) (fun t12 f12 q => ?_)
  · obtain ⟨L, q1, q2, q3, q4, q5, q6, q7⟩ := q
    rw [hρ, m3, m4, m5] at q1
    obtain ⟨st3, hst3⟩ : ∃ z : ST, z = (stM st, stA st, stS st, stF st, stQ st + (L.length : Int), stD st + ((min 3000001 (dlN M T (tX σ p)) : Nat) : Int)) := ⟨_, rfl⟩
    have hmt : mtE M mo (tX σ p) T (decide (w ≠ 0)) ρ st (.inr (L, st3)) := by
      unfold mtE mtO
      rw [q1, hst3]
    have ok := mtc_ok q1
    have hw : tWide (asO M (tX σ p)) T = false := (mlB_ok (mtE_ok hmt).2.1).1
    have le3 : leS st st3 := leS_same (by rw [hst3]) (fun u hu => by rw [hst3]; exact hu)
    have ey3 : EyX σ0 t12 (CV M st3) := ((rm hw).2 t12 q4 q5.1).mono (fun t => CV.le le3)
    obtain ⟨p1, p2, p3, p4, p5, p6, p7, p8⟩ := q5
    have cc3 : XC mo st3 t12 := by
      refine ⟨⟨by rw [f12.i _ rfl, m1, hst3], by rw [f12.i _ rfl, m2, hst3], by rw [q7, m3, hst3], by rw [q6, m4, hst3], by rw [f12.l _ rfl, m5]⟩, by rw [hst3]; exact ms, by rw [hst3]; exact mf, ?_, ?_⟩
      · rw [hst3]; show 0 ≤ stQ st + (L.length : Int) ∧ stQ st + (L.length : Int) ≤ 6000; omega
      · rw [hst3]; show 0 ≤ stD st + ((min 3000001 (dlN M T (tX σ p)) : Nat) : Int) ∧ stD st + ((min 3000001 (dlN M T (tX σ p)) : Nat) : Int) ≤ 3000000; omega
    have h3 : XR M R mo σ0 st3 t12 := h.ex q4 p1 ey3 (by rw [hst3]) cc3 (f12.a _ rfl) (f12.a _ rfl) (f12.a _ rfl) (f12.a _ rfl)
    refine ⟨L, st3, hmt, q2, q3, ⟨h3, p1.ey.gw, ⟨⟨p4, f12.i _ rfl, f12.i _ rfl, p6, f12.i _ rfl, p3, p2⟩, p8, fun j _ => by rw [f12.a _ rfl], fun j _ => by rw [f12.a _ rfl], p7⟩, by rw [hst3, m1]; exact Int.le_refl _, by rw [hst3, m3]; show stQ st + (L.length : Int) ≥ stQ st; omega⟩, ?_⟩
    rw [hst3]
    show gI σ 123 + (L.length : Int) ≤ stQ st + (L.length : Int)
    omega
  · obtain ⟨q1, q2, q3⟩ := q
    rw [hρ, m3, m4, m5] at q1
    refine ⟨?_, q2, q3.ey.gw⟩
    unfold mtE mtO
    rw [q1, show gI t12 131 = stS st from (f12.i _ rfl).trans m1]
theorem cnt_step (c : cxR M R mo σ0 a0 r0) {σ : S} {st : ST} {x : Int} {T : Tr} {ρ : Env} (h : XR M R mo σ0 st σ) (w : WI M R a0 r0 0 0 st) (lx : lvX σ x) (eT : tX σ x = T) (hv : ∀ v : Int, 0 ≤ v → occ v T → okT M (ρ v)) :
    x_countFilled x σ (fun _ s => ∃ st1, cntE (trS T : Int) st (.inr ((), st1)) ∧ okX M R mo σ0 σ st1 s ∧ WI M R a0 r0 0 0 st1 ∧ leS st st1 ∧ WI M R a0 r0 0 (-1) (addA st1 (filA M ρ T)) ∧ Fr ([132], [], []) σ s) (fun s => cntE (trS T : Int) st (.inl (gI s 1006, gI s 131)) ∧ noX M σ s) := by
  have hM := c.1.wm
  have hn0 := c.2.1.1
  subst eT
  have ot := h.1.ok lx
  obtain ⟨⟨d1, d2, d3, d4, d5⟩, ds, df, dq, dd⟩ := h.2.2.2.1
  refine fm_x_countFilled (xs_countFilled h.1 lx (by omega) (by omega)) (fun _ t1 f1 q => ?_) (fun t1 f1 q => ?_)
  · obtain ⟨q1, q2⟩ := q
    obtain ⟨st1, hst1⟩ : ∃ z : ST, z = (stM st, stA st, stS st, stF st + (trS (tX σ x) : Int), stQ st, stD st) := ⟨_, rfl⟩
    have hcnt : cntE (trS (tX σ x) : Int) st (.inr ((), st1)) := by
      unfold cntE
      rw [if_neg (by omega), hst1]
    obtain ⟨w2, l2, w1, l1⟩ := cp_wi0 hM ot (Int.le_refl _) hv w hcnt
    have f1' : Fr ([132], [], []) σ t1 := Fr.rf.putI q2 rfl
    have eF : gI t1 132 = stF st + (trS (tX σ x) : Int) := by rw [q2]; simp only [gI_pI, gI_pL, gI_pA, gL_pI, gL_pL, gL_pA, gA_pI, gA_pL, gA_pA]; rw [if_pos trivial, d2]
    have h1 : XR M R mo σ0 st1 t1 := h.fr hn0 f1' rfl rfl rfl rfl (by rw [hst1]) l1 ⟨⟨by rw [f1'.i _ rfl, d1, hst1], by rw [eF, hst1], by rw [f1'.i _ rfl, d3, hst1], by rw [f1'.l _ rfl, d4, hst1], by rw [f1'.l _ rfl, d5]⟩, by rw [hst1]; exact ds, by rw [hst1]; show 0 ≤ stF st + (trS (tX σ x) : Int) ∧ stF st + (trS (tX σ x) : Int) ≤ 4000; omega, by rw [hst1]; exact dq, by rw [hst1]; exact dd⟩
    exact ⟨st1, hcnt, ⟨h1, EyX.of_fr f1' rfl, ⟨⟨f1'.i _ rfl, f1'.i _ rfl, f1'.i _ rfl, f1'.i _ rfl, f1'.i _ rfl, f1'.i _ rfl, f1'.i _ rfl⟩, fun j _ => by rw [f1'.a _ rfl], fun j _ => by rw [f1'.a _ rfl], fun j _ => by rw [f1'.a _ rfl], fun j _ => by rw [f1'.a _ rfl]⟩, by rw [hst1, d1]; exact Int.le_refl _, by rw [hst1, d3]; exact Int.le_refl _⟩, w1, l1, w2, f1'⟩
  · refine ⟨?_, h.1.fr f1 rfl, (EyX.of_fr (N := fun _ => True) f1 rfl)⟩
    rw [q.2.1, show gI t1 131 = stS st from (f1.i _ rfl).trans d1]
    unfold cntE
    rw [if_pos (by omega)]
theorem fil_step (c : cxR M R mo σ0 a0 r0) {D : Int} {σ : S} {st : ST} {x : Int} {T : Tr} {ρ : Env} (h : XR M R mo σ0 st σ) (w : WI M R a0 r0 0 (-1) (addA st (filA M ρ T))) (lx : lvX σ x) (eT : tX σ x = T) (hb : ∀ v, 0 ≤ v → v < 60 → olX σ (gA σ 83 v)) (hρ : bX0 σ = ρ) (hv : ∀ v : Int, 0 ≤ v → occ v T → okT M (ρ v)) (si : SI D σ) :
    x_filled x σ (fun r s => putE M T ρ st (.inr (tX s r, addA st (filA M ρ T))) ∧ lvX s r ∧ okX M R mo σ0 σ (addA st (filA M ρ T)) s ∧ Fr wX_filled σ s) (fun s => putE M T ρ st (.inl (gI s 1006, gI s 131)) ∧ noX M σ s) := by
  have hn0 := c.2.1.1
  subst eT
  obtain ⟨s1, s2, s3, s4, s5, s6, s7, s8⟩ := si
  have cc := h.2.2.2.1
  have e2A : ∀ u, flN M ρ (tX σ x) u → CV M (addA st (filA M ρ (tX σ x))) u := by
    intro u hu
    rcases hu with ⟨q, hq, q0, qk, e⟩ | z
    · refine Or.inr (Or.inl (List.mem_append_left _ ?_))
      unfold filA
      refine List.mem_map.mpr ⟨q, List.mem_filter.mpr ⟨hq, ?_⟩, e.symm⟩
      simp only [Bool.and_eq_true, decide_eq_true_eq, Bool.not_eq_true', List.isEmpty_eq_false_iff]
      exact ⟨q0, qk⟩
    · exact Or.inl z
  have l12 : leS st (addA st (filA M ρ (tX σ x))) := leS_same rfl (fun u hu => List.mem_append_right _ hu)
  have ey2 : ∀ s, ExX σ s (flN M ρ (tX σ x)) → EyX σ0 s (CV M (addA st (filA M ρ (tX σ x)))) := fun s es => (h.2.2.1.mono (fun t => CV.le l12)).trans (es.ey.mono e2A) hn0
  have hr : rmX M (flN M ρ (tX σ x)) σ := fun s xs es => room c.1 c.2.1 xs (ey2 s es) (w.weak (by omega) (by omega))
  refine fm_x_filled (xs_filled hr h.1.rg.1 h.1 (ExX.rf _ _) lx hb hρ (fun v v0 ho => isT_nn (hv v v0 ho).1.1) (fun u hu => hu) s3.1 (by omega)) (fun r t2 f2 q => ?_) (fun t2 f2 q => ?_)
  · obtain ⟨p1, p2, p3, p4, p5, p6, p7⟩ := q
    refine ⟨?_, p2, ⟨h.ex p1 p5 (ey2 t2 p5) rfl ?_ (f2.a _ rfl) (f2.a _ rfl) (f2.a _ rfl) (f2.a _ rfl), p5.ey.gw, ⟨⟨p6, f2.i _ rfl, f2.i _ rfl, f2.i _ rfl, f2.i _ rfl, f2.i _ rfl, f2.i _ rfl⟩, p7, fun j _ => by rw [f2.a _ rfl], fun j _ => by rw [f2.a _ rfl], fun j _ => by rw [f2.a _ rfl]⟩, ?_, ?_⟩, f2⟩
    · unfold putE
      rw [if_neg (by omega), p3]
    · obtain ⟨⟨d1, d2, d3, d4, d5⟩, d⟩ := cc
      exact ⟨⟨by rw [f2.i _ rfl, d1]; rfl, by rw [f2.i _ rfl, d2]; rfl, by rw [f2.i _ rfl, d3]; rfl, by rw [f2.l _ rfl, d4]; rfl, by rw [f2.l _ rfl, d5]⟩, d⟩
    · rw [cc.1.1]; exact Int.le_refl _
    · rw [cc.1.2.2.1]; exact Int.le_refl _
  · obtain ⟨p1, p2, p3, p4⟩ := q
    refine ⟨?_, p3, p4.ey.gw⟩
    rw [p2, show gI t2 131 = stS st from (f2.i _ rfl).trans cc.1.1]
    unfold putE
    rw [if_pos p1]
theorem bes_step (c : cxR M R mo σ0 a0 r0) {D : Int} {σ : S} {st : ST} {o a x b : Int} {ta tx tb : Tr} (h : XR M R mo σ0 st σ) (w : WI M R a0 r0 0 (-1) st) (lx : lvX σ x) (ex : tX σ x = tx) (oa : olX σ a) (ea : oX σ a = ta) (ob : olX σ b) (eb : oX σ b = tb) (hok : ¬ (ta = .nil ∧ tb = .nil) → 0 ≤ o ∧ mAs M o ≠ 0) (o1 : o < mOps M) (ha : ta = .nil ∨ okT M ta) (hb : tb = .nil ∨ okT M tb) (si : SI D σ) :
    x_beside o a x b σ (fun r s => ∃ st', besE M o ta tx tb st (.inr (tX s r, st')) ∧ lvX s r ∧ okX M R mo σ0 σ st' s ∧ gA s 86 = gA σ 86) (fun s => besE M o ta tx tb st (.inl (gI s 1006, gI s 131)) ∧ noX M σ s) := by
  have hM := c.1.wm
  have hn0 := c.2.1.1
  obtain ⟨s1, s2, s3, s4, s5, s6, s7, s8⟩ := si
  have cc := h.2.2.2.1
  have rm := room c.1 c.2.1 h.1 h.2.2.1 (w.weak (by omega) (by omega))
  have otx : okT M tx := by rw [← ex]; exact h.1.ok lx
  subst ea eb
  refine fm_x_beside (xs_beside h.1 lx ex oa ob (fun hn => ⟨(hok hn).1, o1, (hok hn).2⟩) s3.1 (by omega) rm.1 rm.2) (fun r t2 f2 q => ?_) (fun t2 f2 q => ?_)
  · rcases q with ⟨q1, q2, q3, q4⟩ | ⟨hn, p1, p2, p3, p4, p5, p6, p7, p8⟩
    · subst q3 q4
      exact ⟨st, Or.inl ⟨q1, q2, by rw [ex]⟩, lx, okX.rf h, rfl⟩
    · obtain ⟨T, hT⟩ : ∃ z, z = mk M o (besL (oX σ a) tx (oX σ b)) := ⟨_, rfl⟩
      rw [← hT] at p3 p4 p6
      have l12 : leS st (addA st [T]) := leS_same rfl (fun u hu => List.mem_append_right _ hu)
      have ey2 : EyX σ0 t2 (CV M (addA st [T])) := (h.2.2.1.mono (fun t => CV.le l12)).trans (p4.ey.mono (fun u hu => by
        rcases hu with e | e
        · exact Or.inr (Or.inl (by rw [e]; exact List.mem_cons_self ..))
        · exact Or.inl ⟨o, (hok hn).1, o1, e.1, e.2⟩)) hn0
      refine ⟨addA st [T], Or.inr ⟨hn, ?_⟩, p2, ⟨h.ex p1 p4 ey2 rfl ?_ (f2.a _ rfl) (f2.a _ rfl) (f2.a _ rfl) (f2.a _ rfl), p4.ey.gw, ⟨⟨p7, f2.i _ rfl, f2.i _ rfl, f2.i _ rfl, f2.i _ rfl, f2.i _ rfl, f2.i _ rfl⟩, p8, fun j _ => by rw [f2.a _ rfl], fun j _ => by rw [f2.a _ rfl], fun j _ => by rw [f2.a _ rfl]⟩, ?_, ?_⟩, f2.a _ rfl⟩
      · rw [← hT, if_neg (by omega), p3]
      · obtain ⟨⟨d1, d2, d3, d4, d5⟩, d⟩ := cc
        exact ⟨⟨by rw [f2.i _ rfl, d1]; rfl, by rw [f2.i _ rfl, d2]; rfl, by rw [f2.i _ rfl, d3]; rfl, by rw [f2.l _ rfl, d4]; rfl, by rw [f2.l _ rfl, d5]⟩, d⟩
      · rw [cc.1.1]; exact Int.le_refl _
      · rw [cc.1.2.2.1]; exact Int.le_refl _
  · obtain ⟨hn, p1, p2, p3, p4⟩ := q
    refine ⟨Or.inr ⟨hn, ?_⟩, p3, p4.ey.gw⟩
    rw [p2, show gI t2 131 = stS st from (f2.i _ rfl).trans cc.1.1, if_pos p1]
end

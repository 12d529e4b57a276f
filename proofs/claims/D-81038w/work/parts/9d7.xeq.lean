/-! RewriteHouse: reducing, the first equation that goes -/
section
variable {M : Mo} {R : Ru} {mo : Int} {σ0 : S} {a0 r0 : Int}
/-- equations yet to be tried -/
def eqR (M : Mo) (late : Int) (e : Nat) : List Int :=
  if late = 0 then ((allE M).drop e).filter (fun e => decide (mOt M e = 0)) ++ (allE M).filter (fun e => decide (mOt M e ≠ 0))
  else if late = 1 then ((allE M).drop e).filter (fun e => decide (mOt M e ≠ 0)) else []
theorem eqR_0 (M : Mo) (e : Nat) : eqR M 0 e = ((allE M).drop e).filter (fun e => decide (mOt M e = 0)) ++ (allE M).filter (fun e => decide (mOt M e ≠ 0)) := by unfold eqR; rw [if_pos rfl]
theorem eqR_1 (M : Mo) (e : Nat) : eqR M 1 e = ((allE M).drop e).filter (fun e => decide (mOt M e ≠ 0)) := by unfold eqR; rw [if_neg (by decide), if_pos rfl]
theorem allE_drop {e : Nat} (h : (e : Int) < mEqs M) : (allE M).drop e = (e : Int) :: (allE M).drop (e + 1) := by
  have hl : (allE M).length = (mEqs M).toNat := by unfold allE; rw [List.length_map, List.length_range]
  rw [List.drop_eq_getElem_cons (by omega)]
  congr 1
  unfold allE
  simp
theorem allE_end {e : Nat} (h : ¬ (e : Int) < mEqs M) : (allE M).drop e = [] := by
  have hl : (allE M).length = (mEqs M).toNat := by unfold allE; rw [List.length_map, List.length_range]
  exact List.drop_eq_nil_of_le (by omega)
theorem stp_step {σ : S} {st : ST} (hn0 : 1 ≤ gI σ0 93) (h : XR M R mo σ0 st σ) : x_countStep σ (fun _ s => ∃ st', stepE st (.inr ((), st')) ∧ okX M R mo σ0 σ st' s ∧ Fr ([131], [], []) σ s) (fun s => stepE st (.inl (gI s 1006, gI s 131)) ∧ noX M σ s) := by
  obtain ⟨⟨d1, d2, d3, d4, d5⟩, ds, df, dq, dd⟩ := h.2.2.2.1
  refine fm_x_countStep (xs_countStep (by omega) (by omega)) (fun _ t f q => ?_) (fun t f q => ?_)
  · obtain ⟨q1, q2⟩ := q
    have f' : Fr ([131], [], []) σ t := Fr.rf.putI q2 rfl
    have e1 : gI t 131 = stS st + 1 := by rw [q2]; simp only [gI_pI, gI_pL, gI_pA, gL_pI, gL_pL, gL_pA, gA_pI, gA_pL, gA_pA]; rw [if_pos trivial, d1]
    obtain ⟨st', hst'⟩ : ∃ z : ST, z = (stM st, stA st, stS st + 1, stF st, stQ st, stD st) := ⟨_, rfl⟩
    have le : leS st st' := leS_same (by rw [hst']) (fun u hu => by rw [hst']; exact hu)
    refine ⟨st', ?_, ⟨h.fr hn0 f' rfl rfl rfl rfl (by rw [hst']) le ⟨⟨by rw [e1, hst'], by rw [f'.i _ rfl, d2, hst'], by rw [f'.i _ rfl, d3, hst'], by rw [f'.l _ rfl, d4, hst'], by rw [f'.l _ rfl, d5]⟩, ?_, by rw [hst']; exact df, by rw [hst']; exact dq, by rw [hst']; exact dd⟩, EyX.of_fr f' rfl, ⟨⟨f'.i _ rfl, f'.i _ rfl, f'.i _ rfl, f'.i _ rfl, f'.i _ rfl, f'.i _ rfl, f'.i _ rfl⟩, fun j _ => by rw [f'.a _ rfl], fun j _ => by rw [f'.a _ rfl], fun j _ => by rw [f'.a _ rfl], fun j _ => by rw [f'.a _ rfl]⟩, ?_, ?_⟩, f'⟩
    · unfold stepE; rw [if_neg (by omega), hst']
    · rw [hst']; show 0 ≤ stS st + 1 ∧ stS st + 1 ≤ 600; omega
    · rw [hst', d1]; show stS st + 1 ≥ stS st; omega
    · rw [hst', d3]; exact Int.le_refl _
  · obtain ⟨q1, q2, q3, q4⟩ := q
    refine ⟨?_, h.1.fr q4 rfl, (EyX.of_fr (N := fun _ => True) q4 rfl)⟩
    rw [q2, q3, d1]
    unfold stepE
    rw [if_pos (by omega)]
def TEX (M : Mo) (R : Ru) (mo : Int) (σ0 : S) (a0 r0 D : Int) (n : Nat) : Prop :=
  ∀ (σ : S) (st : ST) (y : Int), XR M R mo σ0 st σ → WI M R a0 r0 0 0 st → lvX σ y → PH M st (tX σ y) → SI D σ →
    x_S_toRest n 2 [y] σ (fun r s => ∃ st' q, tryEqE M R mo (RE (Wr M R mo) (max 1 D)) (eqs M) (tX σ y) st (.inr (q, st')) ∧ okX M R mo σ0 σ st' s ∧ ((q = none ∧ r = 0) ∨ ∃ z, q = some z ∧ lvX s r ∧ tX s r = z ∧ gI σ 131 + 1 ≤ stS st')) (fun s => tryEqE M R mo (RE (Wr M R mo) (max 1 D)) (eqs M) (tX σ y) st (.inl (gI s 1006, gI s 131)) ∧ noX M σ s)
def isOt (M : Mo) : Prop := ∀ e, 0 ≤ e → e < mEqs M → mOt M e = 0 ∨ mOt M e = 1
theorem xs_tryEq (c : cxR M R mo σ0 a0 r0) (hOt : isOt M) {D : Int} {n : Nat} (hT : ∀ sl, 0 ≤ sl → sl < mEqs M → TOX M R mo σ0 a0 r0 sl D n) : TEX M R mo σ0 a0 r0 D (n + 1) := by
  have hM := c.1.wm
  have hE := hE_of c
  have hn0 := c.2.1.1
  have me40 : mEqs M ≤ 40 ∧ 0 ≤ mEqs M := by
    obtain ⟨-, -, -, -, e, -⟩ := hM; omega
  intro σ st y h w ly hp si
  have rg := h.1.rg
  have oy := h.1.ok ly
  rw [xe_toRest_2]
  unfold x_tryEquations_F
  have start : ∀ o, tryEqE M R mo (RE (Wr M R mo) (max 1 D)) (eqR M 0 0) (tX σ y) st o → tryEqE M R mo (RE (Wr M R mo) (max 1 D)) (eqs M) (tX σ y) st o := fun o ho => by
    unfold eqR at ho
    rw [if_pos rfl, List.drop_zero] at ho
    exact ho
  refine lx_tryEquations_L2 (fo_x_S_toRest n) (fun v2 s => (v2 = 0 ∨ v2 = 1 ∨ v2 = 2) ∧ ∃ sti, okX M R mo σ0 σ sti s ∧ WI M R a0 r0 0 0 sti ∧ leS st sti ∧ ∀ o, tryEqE M R mo (RE (Wr M R mo) (max 1 D)) (eqR M v2 0) (tX σ y) sti o → tryEqE M R mo (RE (Wr M R mo) (max 1 D)) (eqs M) (tX σ y) st o)
    (fun v2 _ => (3 - v2).toNat) ⟨Or.inl rfl, st, okX.rf h, w, leS.rf _, start⟩ ?_
  rintro v2 s fr0 ⟨hv2, sti, ko, wi, li, hf⟩
  try dsimp only
  by_cases h2 : v2 < 2
  · rw [if_pos h2]
    refine lx_tryEquations_L9 (fo_x_S_toRest n) (fun v3 s => ∃ e : Nat, v3 = (e : Int) ∧ (e : Int) ≤ mEqs M ∧ ∃ sti, okX M R mo σ0 σ sti s ∧ WI M R a0 r0 0 0 sti ∧ leS st sti ∧ ∀ o, tryEqE M R mo (RE (Wr M R mo) (max 1 D)) (eqR M v2 e) (tX σ y) sti o → tryEqE M R mo (RE (Wr M R mo) (max 1 D)) (eqs M) (tX σ y) st o)
      (fun v3 _ => (mEqs M - v3).toNat) ⟨0, rfl, by omega, sti, ko, wi, li, hf⟩ ?_
    rintro v3 s fr0 ⟨e, rfl, he, sti, ko, wi, li, hf⟩
    try dsimp only
    have eE : gI s 42 = mEqs M := by rw [← ko.1.1.mo]; rfl
    rw [eE]
    by_cases h3 : (e : Int) < mEqs M
    · rw [if_pos h3]
      refine ⟨⟨by omega, by omega⟩, ?_⟩
      have eO : gA s 26 (e : Int) = mOt M e := by rw [← ko.1.1.mo]; rfl
      rw [eO]
      have ot := hOt e (by omega) h3
      have we : w32 ((e : Int) + 1) = ((e + 1 : Nat) : Int) := by rw [w32_id (by omega) (by omega)]; omega
      have ad := allE_drop h3
      have both : x_tryEquations_j33 (x_S_toRest n) y v2 (e : Int) v2 (mOt M e) s (fun r s => ∃ st' q, tryEqE M R mo (RE (Wr M R mo) (max 1 D)) (eqs M) (tX σ y) st (.inr (q, st')) ∧ okX M R mo σ0 σ st' s ∧ ((q = none ∧ r = 0) ∨ ∃ z, q = some z ∧ lvX s r ∧ tX s r = z ∧ gI σ 131 + 1 ≤ stS st')) (fun s => tryEqE M R mo (RE (Wr M R mo) (max 1 D)) (eqs M) (tX σ y) st (.inl (gI s 1006, gI s 131)) ∧ noX M σ s)
          (fun v2' s' => ((v2' = 0 ∨ v2' = 1 ∨ v2' = 2) ∧ ∃ sti, okX M R mo σ0 σ sti s' ∧ WI M R a0 r0 0 0 sti ∧ leS st sti ∧ ∀ o, tryEqE M R mo (RE (Wr M R mo) (max 1 D)) (eqR M v2' 0) (tX σ y) sti o → tryEqE M R mo (RE (Wr M R mo) (max 1 D)) (eqs M) (tX σ y) st o) ∧ (3 - v2').toNat < (3 - v2).toNat)
          (fun v3' s' => (∃ e : Nat, v3' = (e : Int) ∧ (e : Int) ≤ mEqs M ∧ ∃ sti, okX M R mo σ0 σ sti s' ∧ WI M R a0 r0 0 0 sti ∧ leS st sti ∧ ∀ o, tryEqE M R mo (RE (Wr M R mo) (max 1 D)) (eqR M v2 e) (tX σ y) sti o → tryEqE M R mo (RE (Wr M R mo) (max 1 D)) (eqs M) (tX σ y) st o) ∧ (mEqs M - v3').toNat < (mEqs M - (e : Int)).toNat) := by
        unfold x_tryEquations_j33
        by_cases hm : mOt M e = v2
        · rw [if_pos hm]
          have er : eqR M v2 e = (e : Int) :: eqR M v2 (e + 1) := by
            rcases hv2 with z | z | z
            · rw [z, eqR_0, eqR_0, ad, List.filter_cons, if_pos (decide_eq_true (by omega))]
              rfl
            · rw [z, eqR_1, eqR_1, ad, List.filter_cons, if_pos (decide_eq_true (by omega))]
            · omega
          have ety := ko.2.1.2.1 y ly
          have lys := ko.2.1.lv ly
          refine fo_x_S_toRest n _ _ _ _ _ _ _ (hT e (by omega) h3 s sti y ko.1 wi lys (by rw [ety]; exact hp.le li oy.1.1) (si.next ko)) (fun r13 t12 f12 q => ?_) (fun t12 f12 q => ?_)
          · obtain ⟨st2, qq, e2, k2, hq⟩ := q
            rw [ety] at e2
            have tw := tryOneE_wi hM hE (RE_sn (mo := mo) hM hE (max 1 D)) (RE_wi (mo := mo) hM hE (max 1 D)) (c.2.2.1 e (Or.inl ⟨by omega, h3⟩)) oy (hp.le li oy.1.1) wi e2
            have kk := okX.trans rg.1 ko k2
            rcases hq with ⟨rfl, rfl⟩ | ⟨z, rfl, lz, ez⟩
            · rw [if_pos rfl]
              unfold x_tryEquations_j56
              rw [we]
              refine ⟨⟨e + 1, rfl, by omega, st2, kk, tw.2.1 rfl, li.trans tw.1, fun o ho => hf o ?_⟩, by omega⟩
              rw [er]
              exact bnd_inr e2 ho
            · rw [if_neg (by have := lz.1; omega)]
              unfold x_tryEquations_j49
              refine fm_x_countStep (stp_step hn0 k2.1) (fun _ t17 f17 q => ?_) (fun t17 f17 q => ?_)
              · obtain ⟨st3, e3, k3, f3⟩ := q
                have g3 := k3.2.1
                refine ⟨st3, some z, hf _ ?_, okX.trans rg.1 kk k3, Or.inr ⟨z, rfl, g3.lv lz, (g3.2.1 _ lz).trans ez, ?_⟩⟩
                · rw [er]
                  exact bnd_inr e2 (bnd_inr e3 rfl)
                · have a1 := (stepE_ok e3).2
                  have a2 : stS st3 = stS st2 + 1 := by rw [a1]
                  have a3 := kk.2.2.2.1
                  omega
              · refine ⟨hf _ ?_, q.2.pre rg.1 kk⟩
                rw [er]
                exact bnd_inr e2 (bnd_inl q.1)
          · rw [ety] at q
            refine ⟨hf _ ?_, q.2.pre rg.1 ko⟩
            rw [er]
            exact bnd_inl q.1
        · rw [if_neg hm]
          unfold x_tryEquations_j56
          rw [we]
          have er : eqR M v2 e = eqR M v2 (e + 1) := by
            rcases hv2 with z | z | z
            · rw [z, eqR_0, eqR_0, ad, List.filter_cons, if_neg (by simp; omega)]
            · rw [z, eqR_1, eqR_1, ad, List.filter_cons, if_neg (by simp; omega)]
            · omega
          exact ⟨⟨e + 1, rfl, by omega, sti, ko, wi, li, fun o ho => hf o (by rw [er]; exact ho)⟩, by omega⟩
      by_cases h1 : v2 = 1
      · rw [if_pos h1]
        have b := both
        rw [h1] at b
        rw [h1]
        exact b
      · rw [if_neg h1]
        have h0 : v2 = 0 := by omega
        have b := both
        rw [h0] at b
        rw [h0]
        exact b
    · rw [if_neg h3]
      unfold x_tryEquations_j62
      have w2 : w32 (v2 + 1) = v2 + 1 := w32_id (by omega) (by omega)
      rw [w2]
      refine ⟨⟨by omega, sti, ko, wi, li, fun o ho => hf o ?_⟩, by omega⟩
      have ae := allE_end h3
      rcases hv2 with z | z | z
      · subst z
        unfold eqR at ho ⊢
        rw [if_neg (by decide), if_pos (by decide), List.drop_zero] at ho
        rw [if_pos rfl, ae]
        exact ho
      · subst z
        unfold eqR at ho ⊢
        rw [if_neg (by decide), if_neg (by decide)] at ho
        rw [if_neg (by decide), if_pos rfl, ae]
        exact ho
      · omega
  · rw [if_neg h2]
    have h2' : v2 = 2 := by omega
    refine ⟨sti, none, hf _ ?_, ko, Or.inl ⟨rfl, rfl⟩⟩
    unfold eqR
    rw [if_neg (by omega), if_neg (by omega)]
    rfl
end

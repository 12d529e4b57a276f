/-! RewriteHouseModel: reducing, steps -/
section
variable {M : Mo} {R : Ru} {mo : Int} {σ0 : S} {a0 r0 : Int} {sx : Int → Int}
def TC (mo : Int) (st : ST) (σ : S) : Prop := (gI σ 120 = stS st ∧ gI σ 124 = stF st ∧ gI σ 119 = stQ st ∧ gL σ 123 = stD st ∧ gI σ 122 = mo) ∧ (0 ≤ stS st ∧ stS st ≤ 600) ∧ (0 ≤ stF st ∧ stF st ≤ 4000) ∧ (0 ≤ stQ st ∧ stQ st ≤ 6000) ∧ (0 ≤ stD st ∧ stD st ≤ 3000000)
def TR (M : Mo) (R : Ru) (mo : Int) (sx : Int → Int) (σ0 : S) (st : ST) (σ : S) : Prop := TP M σ ∧ TM st σ ∧ EyT σ0 σ (CVt M st) ∧ TC mo st σ ∧ RuT M R sx σ ∧ 1 ≤ gI σ 121
theorem TR.ex {st st' : ST} {σ s : S} {N : Tr → Prop} {w : List Nat × List Nat × List Nat} (h : TR M R mo sx σ0 st σ) (xs : TP M s) (e : ExT σ s N) (ey : EyT σ0 s (CVt M st')) (eM : stM st' = stM st) (hc : TC mo st' s) (f : Fr w σ s) (hw : apt w [45, 121] [23, 64, 65, 29, 27, 66, 67, 68] = true) : TR M R mo sx σ0 st' s := by
  have hi := apt_i hw f
  have ha := apt_a hw f
  simp only [List.forall_mem_cons] at hi ha
  exact ⟨xs, h.2.1.ex h.1 xs e hi.2.1 h.2.2.2.2.2 eM, ey, hc, h.2.2.2.2.1.to e.ey.gw hi.1 ha.1 ha.2.1 ha.2.2.1 ha.2.2.2.1 ha.2.2.2.2.1 ha.2.2.2.2.2.1 ha.2.2.2.2.2.2.1 ha.2.2.2.2.2.2.2.1, by rw [hi.2.1]; exact h.2.2.2.2.2⟩
theorem EyT.of_fr {s q : S} {N : Tr → Prop} {w : List Nat × List Nat × List Nat} (f : Fr w s q) (hw : apt w [80] [48, 49, 50, 56] = true) : EyT s q N := by
  have hi := apt_i hw f
  have ha := apt_a hw f
  simp only [List.forall_mem_cons] at hi ha
  refine EyT.of_same hi.1 (fun x _ => ?_)
  unfold tT
  rw [ha.1, ha.2.1, ha.2.2.1, ha.2.2.2.1]
theorem TR.fr {st st' : ST} {σ s : S} {w : List Nat × List Nat × List Nat} (hn : 0 ≤ gI σ0 80) (h : TR M R mo sx σ0 st σ) (f : Fr w σ s) (hw : apt w TPi (56 :: (TPm ++ TPa)) = true) (hw2 : apt w [80] [48, 49, 50, 56, 54, 55] = true) (hw3 : apt w [80] [48, 49, 50, 56] = true) (hw4 : apt w [45, 121] [23, 64, 65, 29, 27, 66, 67, 68] = true) (eM : stM st' = stM st) (le : leS st st') (hc : TC mo st' s) : TR M R mo sx σ0 st' s :=
  h.ex (h.1.fr f hw).1 (ExT.of_fr (N := fun _ => False) f hw2) ((h.2.2.1.mono (fun t => CVt.le le)).trans (EyT.of_fr f hw3) hn) eM hc f hw4
/-- stacks below their tops are as before -/
def FY (σ s : S) : Prop :=
  (gI s 83 = gI σ 83 ∧ gI s 113 = gI σ 113 ∧ gI s 126 = gI σ 126) ∧
  (∀ j, j < gI σ 83 → gA s 58 j = gA σ 58 j) ∧ (∀ j, j < gI σ 113 → gA s 79 j = gA σ 79 j) ∧ ∀ j, j < gI σ 126 → gA s 80 j = gA σ 80 j
theorem FY.rf (σ : S) : FY σ σ := ⟨⟨rfl, rfl, rfl⟩, fun _ _ => rfl, fun _ _ => rfl, fun _ _ => rfl⟩
theorem FY.trans {a b c : S} (h : FY a b) (k : FY b c) : FY a c := by
  obtain ⟨⟨a1, a2, a3⟩, b1, b2, b3⟩ := h
  obtain ⟨⟨c1, c2, c3⟩, d1, d2, d3⟩ := k
  exact ⟨⟨c1.trans a1, c2.trans a2, c3.trans a3⟩, fun j hj => (d1 j (by omega)).trans (b1 j hj), fun j hj => (d2 j (by omega)).trans (b2 j hj), fun j hj => (d3 j (by omega)).trans (b3 j hj)⟩
/-- what a run leaves -/
def okY (M : Mo) (R : Ru) (mo : Int) (sx : Int → Int) (σ0 σ : S) (st' : ST) (s : S) : Prop := TR M R mo sx σ0 st' s ∧ gwT σ s ∧ FY σ s ∧ stS st' ≥ gI σ 120 ∧ stQ st' ≥ gI σ 119
def noY (M : Mo) (σ s : S) : Prop := TP M s ∧ gwT σ s
def cxT2 (M : Mo) (R : Ru) (mo : Int) (σ0 : S) (a0 r0 : Int) : Prop := TP M σ0 ∧ roT σ0 a0 r0 ∧ (∀ s, stX M s → RuOK M R s) ∧ mo ≤ 3000000
theorem okY.rf {σ : S} {st : ST} (h : TR M R mo sx σ0 st σ) : okY M R mo sx σ0 σ st σ := ⟨h, EyT.rf _ _, FY.rf _, by rw [h.2.2.2.1.1.1]; exact Int.le_refl _, by rw [h.2.2.2.1.1.2.2.1]; exact Int.le_refl _⟩
theorem okY.trans {a b s : S} {st st' : ST} (hn : 0 ≤ gI a 80) (h : okY M R mo sx σ0 a st b) (k : okY M R mo sx σ0 b st' s) : okY M R mo sx σ0 a st' s := by
  obtain ⟨⟨-, -, -, ⟨⟨c1, -, c3, -⟩, -⟩, -⟩, g, f, n, m⟩ := h
  obtain ⟨x2, g2, f2, n2, m2⟩ := k
  exact ⟨x2, g.trans g2 hn, f.trans f2, by omega, by omega⟩
theorem noY.pre {a b s : S} {st : ST} (hn : 0 ≤ gI a 80) (h : okY M R mo sx σ0 a st b) (k : noY M b s) : noY M a s := ⟨k.1, h.2.1.trans k.2 hn⟩
theorem TR.T40 {st : ST} {σ : S} (h : TR M R mo sx σ0 st σ) {x : Int} (hx : lvT σ x) : NF M (tT σ x) := (h.1.nd hx).2.2.1
/-- so much is filled in -/
theorem fill_stepT (c : cxT2 M R mo σ0 a0 r0) {σ : S} {st : ST} {n : Int} {T : Tr} {ρ : Env} (h : TR M R mo sx σ0 st σ) (w : WI M R a0 r0 0 0 st) (oT : okT M T) (hn : (trS T : Int) ≤ n) (hn2 : n ≤ 1000) (hv : ∀ v : Int, 0 ≤ v → occ v T → okT M (ρ v)) :
    t_fill n σ (fun _ s => ∃ st1, cntE n st (.inr ((), st1)) ∧ okY M R mo sx σ0 σ st1 s ∧ WI M R a0 r0 0 0 st1 ∧ leS st st1 ∧ WI M R a0 r0 0 (-1) (addA st1 (filA M ρ T)) ∧ Fr ([124], [], []) σ s) (fun s => cntE n st (.inl (gI s 1006, gI s 120)) ∧ noY M σ s) := by
  have hM := c.1.wm
  have hn0 := c.2.1.1
  obtain ⟨⟨d1, d2, d3, d4, d5⟩, ds, df, dq, dd⟩ := h.2.2.2.1
  unfold t_fill
  rintro t1 ht1
  rw [w32_id (by omega) (by omega)] at ht1
  have f1 : Fr ([124], [], []) σ t1 := Fr.rf.putI ht1 rfl
  have e1 : gI t1 124 = stF st + n := by rw [ht1]; simp only [gI_pI, gI_pL, gI_pA, gL_pI, gL_pL, gL_pA, gA_pI, gA_pL, gA_pA]; rw [if_pos trivial, d2]
  rw [e1]
  split
  · obtain ⟨st1, hst1⟩ : ∃ z : ST, z = (stM st, stA st, stS st, stF st + n, stQ st, stD st) := ⟨_, rfl⟩
    have hcnt : cntE n st (.inr ((), st1)) := by
      unfold cntE
      rw [if_neg (by omega), hst1]
    obtain ⟨w2, l2, w1, l1⟩ := cp_wi0 hM oT hn hv w hcnt
    have h1 : TR M R mo sx σ0 st1 t1 := h.fr hn0 f1 rfl rfl rfl rfl (by rw [hst1]) l1 ⟨⟨by rw [f1.i _ rfl, d1, hst1], by rw [e1, hst1], by rw [f1.i _ rfl, d3, hst1], by rw [f1.l _ rfl, d4, hst1], by rw [f1.i _ rfl, d5]⟩, by rw [hst1]; exact ds, by rw [hst1]; show 0 ≤ stF st + n ∧ stF st + n ≤ 4000; omega, by rw [hst1]; exact dq, by rw [hst1]; exact dd⟩
    exact ⟨st1, hcnt, ⟨h1, EyT.of_fr f1 rfl, ⟨⟨f1.i _ rfl, f1.i _ rfl, f1.i _ rfl⟩, fun j _ => by rw [f1.a _ rfl], fun j _ => by rw [f1.a _ rfl], fun j _ => by rw [f1.a _ rfl]⟩, by rw [hst1, d1]; exact Int.le_refl _, by rw [hst1, d3]; exact Int.le_refl _⟩, w1, l1, w2, f1⟩
  · refine ts_fail (fun s2 f2 i2 => ?_)
    have f12 : Fr ([124, 1006, 1007], [], []) σ s2 := (f1.weak rfl).trans (f2.weak rfl)
    refine ⟨?_, (h.1.fr f12 rfl).1, EyT.of_fr f12 rfl⟩
    rw [i2, show gI s2 120 = stS st from (f12.i _ rfl).trans d1]
    unfold cntE
    rw [if_pos (by omega)]
theorem step_stepT {σ : S} {st : ST} (hn0 : 0 ≤ gI σ0 80) (h : TR M R mo sx σ0 st σ) : t_oneStep σ (fun _ s => ∃ st', stepE st (.inr ((), st')) ∧ okY M R mo sx σ0 σ st' s ∧ Fr ([120], [], []) σ s) (fun s => stepE st (.inl (gI s 1006, gI s 120)) ∧ noY M σ s) := by
  obtain ⟨⟨d1, d2, d3, d4, d5⟩, ds, df, dq, dd⟩ := h.2.2.2.1
  unfold t_oneStep
  rintro t1 ht1
  rw [w32_id (by omega) (by omega)] at ht1
  have f' : Fr ([120], [], []) σ t1 := Fr.rf.putI ht1 rfl
  have e1 : gI t1 120 = stS st + 1 := by rw [ht1]; simp only [gI_pI, gI_pL, gI_pA, gL_pI, gL_pL, gL_pA, gA_pI, gA_pL, gA_pA]; rw [if_pos trivial, d1]
  rw [e1]
  split
  · obtain ⟨st', hst'⟩ : ∃ z : ST, z = (stM st, stA st, stS st + 1, stF st, stQ st, stD st) := ⟨_, rfl⟩
    have le : leS st st' := leS_same (by rw [hst']) (fun u hu => by rw [hst']; exact hu)
    refine ⟨st', ?_, ⟨h.fr hn0 f' rfl rfl rfl rfl (by rw [hst']) le ⟨⟨by rw [e1, hst'], by rw [f'.i _ rfl, d2, hst'], by rw [f'.i _ rfl, d3, hst'], by rw [f'.l _ rfl, d4, hst'], by rw [f'.i _ rfl, d5]⟩, ?_, by rw [hst']; exact df, by rw [hst']; exact dq, by rw [hst']; exact dd⟩, EyT.of_fr f' rfl, ⟨⟨f'.i _ rfl, f'.i _ rfl, f'.i _ rfl⟩, fun j _ => by rw [f'.a _ rfl], fun j _ => by rw [f'.a _ rfl], fun j _ => by rw [f'.a _ rfl]⟩, ?_, ?_⟩, f'⟩
    · unfold stepE; rw [if_neg (by omega), hst']
    · rw [hst']; show 0 ≤ stS st + 1 ∧ stS st + 1 ≤ 600; omega
    · rw [hst', d1]; show stS st + 1 ≥ stS st; omega
    · rw [hst', d3]; exact Int.le_refl _
  · refine ts_fail (fun s2 f2 i2 => ?_)
    have f12 : Fr ([120, 1006, 1007], [], []) σ s2 := (f'.weak rfl).trans (f2.weak rfl)
    refine ⟨?_, (h.1.fr f12 rfl).1, EyT.of_fr f12 rfl⟩
    rw [i2, show gI s2 120 = stS st + 1 from (f2.i _ rfl).trans e1]
    unfold stepE
    rw [if_pos (by omega)]
end

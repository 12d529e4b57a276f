/-! RewriteHouseModel: states -/
section
variable {M : Mo} {R : Ru} {mo : Int} {σ0 : S} {a0 r0 : Int} {sx : Int → Int}
def smT (σ : S) (L : SL) : Prop := ∀ i : Nat, i < L.length → lvT σ (gA σ 93 i) ∧ L[i]? = some (tT σ (gA σ 93 i), gA σ 95 i, gA σ 94 i, gA σ 96 i)
theorem smT.to {σ s : S} {L : SL} (h : smT σ L) (g : gwT σ s) (e1 : ∀ i : Nat, i < L.length → gA s 93 i = gA σ 93 i) (e2 : ∀ i : Nat, i < L.length → gA s 95 i = gA σ 95 i) (e3 : ∀ i : Nat, i < L.length → gA s 94 i = gA σ 94 i) (e4 : ∀ i : Nat, i < L.length → gA s 96 i = gA σ 96 i) : smT s L := by
  intro i hi
  obtain ⟨a, b⟩ := h i hi
  rw [e1 i hi, e2 i hi, e3 i hi, e4 i hi]
  exact ⟨g.lv a, by rw [b, g.2.1 _ a]⟩
abbrev stV : List Nat × List Nat × List Nat := ([], [], [93, 95, 94, 96, 98, 97])
theorem ts_statesLoop (c : cxT2 M R mo σ0 (a0 + 50) (r0 + 50)) (hOt : isOt M) {σ : S} {st : ST} {X : Tr} (h : TR M R mo sx σ0 st σ) (wi : WI M R a0 r0 0 0 st) (hs0 : smT σ [(X, -2, -2, 0)]) (ox : okT M X) (dx : DR M st X) (sy : SY 0 σ) {Q : Int → S → Prop}
    (hQ : ∀ st' L D F s, statesE M R mo X st (.inr ((L, D, F ++ [(D.length : Int)]), st')) → okY M R mo sx σ0 σ st' s → smT s L → edX (gA s 98) D → edX (gA s 97) F → F.length = L.length → wiL M R a0 r0 st st' L → t_states_j235 (L.length : Int) (D.length : Int) s Q)
    (hE : ∀ s, statesE M R mo X st (.inl (gI s 1006, gI s 120)) → noY M σ s → t_states_j383 s Q) :
    t_states_L66 1 0 0 σ Q := by
  have hM := c.1.wm
  have hn0 := c.2.1.1
  have rg := h.1.rg
  refine lt_states_L66 (fun n2 n3 n4 s => ∃ (L : SL) (D F : List Int) (sti : ST), n2 = (L.length : Int) ∧ n3 = (D.length : Int) ∧ n4 = (F.length : Int) ∧ F.length ≤ L.length ∧ D.length ≤ 60 * F.length ∧ 1 ≤ L.length ∧ okY M R mo sx σ0 σ sti s ∧ smT s L ∧ edX (gA s 98) D ∧ edX (gA s 97) F ∧ wiL M R a0 r0 st sti L ∧ ∀ o, stLoopE M R mo (122 - F.length) L D F sti o → statesE M R mo X st o)
    (fun _ _ n4 _ => (121 - n4.toNat)) ⟨[(X, -2, -2, 0)], [], [], st, rfl, rfl, rfl, by simp, by simp, by simp, okY.rf h, hs0, fun i hi => by simp at hi, fun i hi => by simp at hi, ⟨wi, leS.rf _, ⟨by simp, fun i q hq => by
    have i0 : i = 0 := by have := (List.getElem?_eq_some_iff.mp hq).1; simp at this; exact this
    subst i0
    rw [← Option.some.inj hq]
    exact ⟨Int.le_refl _, Int.le_refl _⟩⟩, fun q hq => by rw [List.mem_singleton.mp hq]; exact ⟨dx, ox⟩⟩, fun o ho => ho⟩ ?_
  rintro n2 n3 n4 s fr0 ⟨L, D, F, sti, rfl, rfl, rfl, hFL, hDF, hL1, ko, hsl, hD, hF, ⟨wii, li, ki⟩, hf⟩
  try dsimp only
  have l120 := ki.1.1
  by_cases yy : (F.length : Int) < (L.length : Int)
  · rw [if_pos yy]
    refine ⟨⟨by omega, by omega⟩, ?_⟩
    rintro t79 ht79 t15 ht15
    refine ⟨⟨by omega, by omega⟩, ?_⟩
    have f15 : Fr ([129], [], [97]) s t15 := (Fr.rf.putA ht79 rfl).putI ht15 rfl
    have g15 : gwT s t15 := EyT.of_fr f15 rfl
    have k15 := ko.fr3 hn0 rg.1 f15 rfl rfl rfl rfl rfl rfl rfl
    have ef15 : ∀ j : Int, gA t15 97 j = if j = (F.length : Int) then (D.length : Int) else gA s 97 j := fun j => by
      rw [ht15, ht79]
      simp only [gI_pI, gI_pL, gI_pA, gL_pI, gL_pL, gL_pA, gA_pI, gA_pL, gA_pA]
      by_cases z : j = (F.length : Int)
      · rw [if_pos ⟨trivial, z⟩, if_pos z]
      · rw [if_neg (fun q => z q.2), if_neg z]
    have tt15 : gI t15 129 = 0 := by rw [ht15]; simp only [gI_pI, gI_pL, gI_pA, gL_pI, gL_pL, gL_pA, gA_pI, gA_pL, gA_pA]; rw [if_pos trivial]
    obtain ⟨la, ea⟩ := hsl F.length (by omega)
    have x0 := ki.2 _ (List.mem_of_getElem? ea)
    rw [f15.a 93 rfl]
    have fu : 122 - F.length = (121 - F.length) + 1 := by omega
    have go : ∀ o, bnd (stepsE M R mo wAll (tT s (gA s 93 (F.length : Int))) sti) (fun fl st1 o => bnd (linkE F.length fl (L, D) st1) (fun ld st2 o => stLoopE M R mo (121 - F.length) ld.1 ld.2 (F ++ [(D.length : Int)]) st2 o) o) o → stLoopE M R mo (122 - F.length) L D F sti o := by
      intro o ho
      rw [fu]
      simp only [stLoopE]
      rw [ea]
      exact ho
    refine fm_t_listSteps (ts_listSteps (w := wAll) c hOt k15.1 wii x0.2 x0.1 (g15.lv la) (g15.2.1 _ la) (sy.next k15) tt15 (Int.le_refl _) (by omega) (fun r _ _ => ⟨fun _ => Or.inl (by decide), fun _ => rfl⟩)) (fun r87 t20 f20 q => ?_) (fun t20 f20 q => hE _ (hf _ (go _ (bnd_inl q.1))) (q.2.pre rg.1 k15))
    obtain ⟨st1, fl, e1, rfl, k20, hfl, -⟩ := q
    have w1 := stepsE_wi hM c.2.2.1 x0.2 x0.1 wii e1
    have ko20 := okY.trans rg.1 k15 k20
    have fl60 := hfl.2.1
    have hsl20 : smT t20 L := hsl.to (g15.trans k20.2.1 ko.1.1.rg.1) (fun i _ => by rw [f20.a _ rfl, f15.a _ rfl]) (fun i _ => by rw [f20.a _ rfl, f15.a _ rfl]) (fun i _ => by rw [f20.a _ rfl, f15.a _ rfl]) (fun i _ => by rw [f20.a _ rfl, f15.a _ rfl])
    have hD20 : edX (gA t20 98) D := hD.to (fun i _ => by rw [f20.a _ rfl, f15.a _ rfl])
    have hF20 : edX (gA t20 97) (F ++ [(D.length : Int)]) := hF.snoc (fun i hi => by rw [f20.a _ rfl, ef15, if_neg (by omega)]) (by rw [f20.a _ rfl, ef15, if_pos rfl])
    have rg20 := k20.1.1.rg
    refine lt_states_L103 (fun m2 m3 m5 s' => ∃ (L' : SL) (D' : List Int) (i : Nat), m2 = (L'.length : Int) ∧ m3 = (D'.length : Int) ∧ m5 = (i : Int) ∧ i ≤ fl.length ∧ D'.length = D.length + i ∧ L.length ≤ L'.length ∧ Fr stV t20 s' ∧ smT s' L' ∧ edX (gA s' 98) D' ∧ edX (gA s' 97) (F ++ [(D.length : Int)]) ∧ slK M st1 L' ∧ ∀ o, linkE F.length (fl.drop i) (L', D') st1 o → linkE F.length fl (L, D) st1 o)
      (fun _ _ m5 _ => (fl.length + 1 - m5.toNat)) ⟨L, D, 0, rfl, rfl, rfl, by omega, by omega, by omega, Fr.rf, hsl20, hD20, hF20, ki.le w1.2.1, fun o ho => ho⟩ ?_
    rintro m2 m3 m5 s' fr1 ⟨L', D', i, rfl, rfl, rfl, hi, hDi, hLL, fs, hsl', hD', hF', kl', hlk⟩
    try dsimp only
    have gs : gwT t20 s' := EyT.of_fr fs rfl
    have l'120 := kl'.1.1
    by_cases y5 : (i : Int) < (fl.length : Int)
    · rw [if_pos y5]
      obtain ⟨lf, ef⟩ := hfl.2.2 i (by omega)
      rw [Int.zero_add] at lf ef
      have exs : gA s' 81 (i : Int) = gA t20 81 (i : Int) := by rw [fs.a _ rfl]
      have exr : gA s' 82 (i : Int) = gA t20 82 (i : Int) := by rw [fs.a _ rfl]
      obtain ⟨y, hy⟩ : ∃ y, y = gA t20 81 (i : Int) := ⟨_, rfl⟩
      rw [← hy] at lf ef exs
      have dropi : fl.drop i = (tT t20 y, gA t20 82 (i : Int)) :: fl.drop (i + 1) := by
        have e := (List.getElem?_eq_some_iff.mp ef).2
        rw [← e, ← List.drop_eq_getElem_cons (by omega)]
      have zk := w1.2.2.2 _ (List.mem_of_getElem? ef)
      refine lt_states_L113 (fun m6 s2 => s2 = s' ∧ ∃ j : Nat, m6 = (j : Int) ∧ j ≤ L'.length ∧ ∀ i' q, i' < j → L'[i']? = some q → q.1 ≠ tT t20 y)
        (fun m6 _ => (L'.length + 1 - m6.toNat)) ⟨rfl, 0, rfl, by omega, fun i' q hq => by omega⟩ ?_
      rintro m6 s2 fr2 ⟨rfl, j, rfl, hj, hne⟩
      try dsimp only
      refine ⟨fun q => ⟨by omega, by omega⟩, fun q => ⟨by omega, by omega⟩, ?_⟩
      rw [exs]
      by_cases yj : (j : Int) < (L'.length : Int) ∧ ¬ gA s2 93 (j : Int) = y
      · rw [if_pos yj]
        have wi1 : w32 ((j : Int) + 1) = ((j + 1 : Nat) : Int) := by rw [w32_id (by omega) (by omega)]; omega
        rw [wi1]
        refine ⟨⟨rfl, j + 1, rfl, by omega, fun i' q hq he => ?_⟩, by omega⟩
        by_cases w : i' = j
        · subst w
          obtain ⟨lb, eb⟩ := hsl' i' (by omega)
          rw [eb] at he
          rw [← Option.some.inj he]
          intro e
          exact yj.2 ((ko20.1.1.fr fs rfl).1.inj lb (gs.lv lf) (by rw [gs.2.1 _ lf]; exact e))
        · exact hne i' q (by omega) he
      · rw [if_neg yj]
        have ix : isIx L' (tT t20 y) j := by
          refine ⟨hj, hne, fun q he => ?_⟩
          have lt := (List.getElem?_eq_some_iff.mp he).1
          obtain ⟨lb, eb⟩ := hsl' j lt
          rw [eb] at he
          rw [← Option.some.inj he]
          have ey : gA s2 93 (j : Int) = y := by
            rcases Classical.em (gA s2 93 (j : Int) = y) with w | w
            · exact w
            · exact absurd ⟨by omega, w⟩ yj
          rw [ey, gs.2.1 _ lf]
        unfold t_states_j142
        have wi3 : w32 ((D'.length : Int) + 1) = ((D'.length + 1 : Nat) : Int) := by rw [w32_id (by omega) (by omega)]; omega
        have wi5 : w32 ((i : Int) + 1) = ((i + 1 : Nat) : Int) := by rw [w32_id (by omega) (by omega)]; omega
        have edge : ∀ (X66 : Int → Int → Int → S → Prop) (L2 : SL) (s3 : S), Fr stV t20 s3 → smT s3 L2 → edX (gA s3 98) D' → edX (gA s3 97) (F ++ [(D.length : Int)]) → L.length ≤ L2.length → slK M st1 L2 → (∀ o, linkE F.length (fl.drop (i + 1)) (L2, D' ++ [(j : Int)]) st1 o → linkE F.length fl (L, D) st1 o) →
            t_states_j212 (L2.length : Int) (D'.length : Int) (F.length : Int) (fl.length : Int) (i : Int) (j : Int) s3 Q X66
              (fun m2 m3 m5 s' => (∃ (L' : SL) (D' : List Int) (i : Nat), m2 = (L'.length : Int) ∧ m3 = (D'.length : Int) ∧ m5 = (i : Int) ∧ i ≤ fl.length ∧ D'.length = D.length + i ∧ L.length ≤ L'.length ∧ Fr stV t20 s' ∧ smT s' L' ∧ edX (gA s' 98) D' ∧ edX (gA s' 97) (F ++ [(D.length : Int)]) ∧ slK M st1 L' ∧ ∀ o, linkE F.length (fl.drop i) (L', D') st1 o → linkE F.length fl (L, D) st1 o) ∧ (fl.length + 1 - m5.toNat) < (fl.length + 1 - ((i : Int)).toNat)) := by
          intro X66 L2 s3 f3 hs3 hd3 hf3 hll hk3 hl3
          unfold t_states_j212
          rw [wi3, wi5]
          refine ⟨⟨by omega, by omega⟩, ?_⟩
          rintro t35 ht35
          have f35 : Fr ([], [], [98]) s3 t35 := Fr.rf.putA ht35 rfl
          have g35 : gwT s3 t35 := EyT.of_fr f35 rfl
          have ev : ∀ q : Int, gA t35 98 q = if q = (D'.length : Int) then (j : Int) else gA s3 98 q := fun q => by
            rw [ht35]
            simp only [gI_pI, gI_pL, gI_pA, gL_pI, gL_pL, gL_pA, gA_pI, gA_pL, gA_pA]
            by_cases z : q = (D'.length : Int)
            · rw [if_pos ⟨trivial, z⟩, if_pos z]
            · rw [if_neg (fun w => z w.2), if_neg z]
          refine ⟨⟨L2, D' ++ [(j : Int)], i + 1, rfl, by rw [List.length_append]; rfl, rfl, by omega, by rw [List.length_append]; simp only [List.length_cons, List.length_nil]; omega, hll, f3.trans (f35.weak rfl), hs3.to g35 (fun q _ => by rw [f35.a _ rfl]) (fun q _ => by rw [f35.a _ rfl]) (fun q _ => by rw [f35.a _ rfl]) (fun q _ => by rw [f35.a _ rfl]), hd3.snoc (fun q hq => by rw [ev, if_neg (by omega)]) (by rw [ev, if_pos rfl]), hf3.to (fun q _ => by rw [f35.a _ rfl]), hk3, hl3⟩, by omega⟩
        by_cases jl : (j : Int) = (L'.length : Int)
        · rw [if_pos jl]
          have jl' : j = L'.length := by omega
          by_cases j120 : (L'.length : Int) = 120
          · rw [if_pos j120]
            refine ts_fail (fun s3 f3 i3 => ?_)
            refine hE _ (hf _ (go _ (bnd_inr e1 (bnd_inl (hlk _ ?_))))) ⟨((ko20.1.1.fr fs rfl).1.fr f3 rfl).1, (ko20.2.1.trans gs rg.1).trans (EyT.of_fr f3 rfl) rg.1⟩
            rw [dropi]
            refine ⟨j, ix, Or.inr ⟨jl', Or.inl ⟨by show L'.length = 120; omega, ?_⟩⟩⟩
            rw [i3, f3.i _ rfl, fs.i _ rfl, k20.1.2.2.2.1.1.1]
          · rw [if_neg j120]
            unfold t_states_j160
            have k120 : L'.length ≠ 120 := by omega
            obtain ⟨lc, ec⟩ := hsl' F.length (by omega)
            have efar := farO_at ec
            rw [exs]
            refine ⟨⟨by omega, by omega⟩, ⟨by omega, by omega⟩, ?_⟩
            rintro t40 ht40
            refine ⟨⟨by omega, by omega⟩, ⟨by omega, by omega⟩, ?_⟩
            rintro t43 ht43
            refine ⟨⟨by omega, by omega⟩, ?_⟩
            rintro t48 ht48
            refine ⟨⟨by omega, by omega⟩, ⟨by omega, by omega⟩, ?_⟩
            rintro t53 ht53
            have e40 : gA t40 82 (i : Int) = gA t20 82 (i : Int) := by rw [ht40]; exact exr
            rw [e40] at ht43
            have f53 : Fr stV s2 t53 := (((Fr.rf.putA ht40 rfl).putA ht43 rfl).putA ht48 rfl).putA ht53 rfl
            have g53 : gwT s2 t53 := EyT.of_fr f53 rfl
            have x1 : ∀ q : Int, gA t53 93 q = if q = (L'.length : Int) then y else gA s2 93 q := fun q => by
              rw [ht53, ht48, ht43, ht40]
              simp only [gI_pI, gI_pL, gI_pA, gL_pI, gL_pL, gL_pA, gA_pI, gA_pL, gA_pA]
              rw [if_neg (by rintro ⟨z, -⟩; exact absurd z (by decide)), if_neg (by rintro ⟨z, -⟩; exact absurd z (by decide)), if_neg (by rintro ⟨z, -⟩; exact absurd z (by decide))]
              by_cases z : q = (L'.length : Int)
              · rw [if_pos ⟨trivial, z⟩, if_pos z]
              · rw [if_neg (fun w => z w.2), if_neg z]
            have x2 : ∀ q : Int, gA t53 95 q = if q = (L'.length : Int) then (F.length : Int) else gA s2 95 q := fun q => by
              rw [ht53, ht48, ht43, ht40]
              simp only [gI_pI, gI_pL, gI_pA, gL_pI, gL_pL, gL_pA, gA_pI, gA_pL, gA_pA]
              rw [if_neg (by rintro ⟨z, -⟩; exact absurd z (by decide))]
              by_cases z : q = (L'.length : Int)
              · rw [if_pos ⟨trivial, z⟩, if_pos z]
              · rw [if_neg (fun w => z w.2), if_neg z, if_neg (by rintro ⟨z, -⟩; exact absurd z (by decide)), if_neg (by rintro ⟨z, -⟩; exact absurd z (by decide))]
            have x3 : ∀ q : Int, gA t53 94 q = if q = (L'.length : Int) then gA t20 82 (i : Int) else gA s2 94 q := fun q => by
              rw [ht53, ht48, ht43, ht40]
              simp only [gI_pI, gI_pL, gI_pA, gL_pI, gL_pL, gL_pA, gA_pI, gA_pL, gA_pA]
              rw [if_neg (by rintro ⟨z, -⟩; exact absurd z (by decide)), if_neg (by rintro ⟨z, -⟩; exact absurd z (by decide))]
              by_cases z : q = (L'.length : Int)
              · rw [if_pos ⟨trivial, z⟩, if_pos z]
              · rw [if_neg (fun w => z w.2), if_neg z, if_neg (by rintro ⟨z, -⟩; exact absurd z (by decide))]
            have e48 : ∀ q : Int, gA t48 96 q = gA s2 96 q := fun q => by
              rw [ht48, ht43, ht40]
              simp only [gI_pI, gI_pL, gI_pA, gL_pI, gL_pL, gL_pA, gA_pI, gA_pL, gA_pA]
              rw [if_neg (by rintro ⟨z, -⟩; exact absurd z (by decide)), if_neg (by rintro ⟨z, -⟩; exact absurd z (by decide)), if_neg (by rintro ⟨z, -⟩; exact absurd z (by decide))]
            have x4 : ∀ q : Int, gA t53 96 q = if q = (L'.length : Int) then w32 (farO L' F.length + 1) else gA s2 96 q := fun q => by
              rw [ht53, efar]
              simp only [gI_pI, gI_pL, gI_pA, gL_pI, gL_pL, gL_pA, gA_pI, gA_pL, gA_pA]
              rw [e48, e48]
              by_cases z : q = (L'.length : Int)
              · rw [if_pos ⟨trivial, z⟩, if_pos z]
              · rw [if_neg (fun w => z w.2), if_neg z]
            have wL : w32 ((L'.length : Int) + 1) = ((L'.length + 1 : Nat) : Int) := by rw [w32_id (by omega) (by omega)]; omega
            rw [wL]
            have ll : (L' ++ [(tT t20 y, (F.length : Int), gA t20 82 (i : Int), farO L' F.length + 1)]).length = L'.length + 1 := by rw [List.length_append]; rfl
            have wfar : w32 (farO L' F.length + 1) = farO L' F.length + 1 := by
              have := kl'.1.2.far (k := F.length) (by omega)
              exact w32_id (by omega) (by omega)
            have E := fun X66 => edge X66 (L' ++ [(tT t20 y, (F.length : Int), gA t20 82 (i : Int), farO L' F.length + 1)]) t53 (fs.trans f53) ?_ (hD'.to (fun q _ => ?_)) (hF'.to (fun q _ => ?_)) (by rw [ll]; omega) ?_ (fun o ho => hlk o ?_)
            · rw [ll] at E
              exact E _
            · intro q hq
              rw [ll] at hq
              rw [x1, x2, x3, x4]
              by_cases z : q = L'.length
              · rw [if_pos (by omega), if_pos (by omega), if_pos (by omega), if_pos (by omega), z, List.getElem?_append_right (Nat.le_refl _), Nat.sub_self, wfar]
                have ly2 : lvT t53 y := g53.lv (gs.lv lf)
                have ey2 : tT t53 y = tT t20 y := (g53.2.1 _ (gs.lv lf)).trans (gs.2.1 _ lf)
                exact ⟨ly2, by rw [ey2]; rfl⟩
              · rw [if_neg (by omega), if_neg (by omega), if_neg (by omega), if_neg (by omega), List.getElem?_append_left (by omega)]
                obtain ⟨p1, p3⟩ := hsl' q (by omega)
                exact ⟨g53.lv p1, by rw [p3, g53.2.1 _ p1]⟩
            · rw [ht53, ht48, ht43, ht40]
              rfl
            · rw [ht53, ht48, ht43, ht40]
              rfl
            · refine ⟨⟨by rw [ll]; omega, kl'.1.2.snoc (by have := kl'.1.2.far (k := F.length) (by omega); show 0 ≤ farO L' F.length + 1; omega) (by have := kl'.1.2.far (k := F.length) (by omega); show farO L' F.length + 1 ≤ _; omega)⟩, fun q hq => ?_⟩
              rcases List.mem_append.mp hq with e | e
              · exact kl'.2 q e
              · rw [List.mem_singleton.mp e]; exact zk
            · rw [dropi]
              exact ⟨j, ix, Or.inr ⟨jl', Or.inr ⟨k120, ho⟩⟩⟩
        · rw [if_neg jl]
          refine edge _ L' s2 fs hsl' hD' hF' hLL kl' (fun o ho => hlk o ?_)
          rw [dropi]
          exact ⟨j, ix, Or.inl ⟨by show j < L'.length; omega, ho⟩⟩
    · rw [if_neg y5]
      have ei : i = fl.length := by omega
      have e2 : linkE F.length fl (L, D) st1 (.inr ((L', D'), st1)) := hlk _ (by rw [ei, List.drop_length]; rfl)
      unfold t_states_j229
      have wi4 : w32 ((F.length : Int) + 1) = ((F.length + 1 : Nat) : Int) := by rw [w32_id (by omega) (by omega)]; omega
      rw [wi4]
      have fl1 : (F ++ [(D.length : Int)]).length = F.length + 1 := by rw [List.length_append]; rfl
      refine ⟨⟨L', D', F ++ [(D.length : Int)], st1, rfl, rfl, by rw [fl1], by rw [fl1]; omega, by rw [fl1]; omega, by omega, ko20.fr3 hn0 rg.1 fs rfl rfl rfl rfl rfl rfl rfl, hsl', hD', hF', ⟨w1.1, li.trans w1.2.1, kl'⟩, fun o ho => hf _ (go _ (bnd_inr e1 (bnd_inr e2 ?_)))⟩, by omega⟩
      rw [fl1, show 122 - (F.length + 1) = 121 - F.length by omega] at ho
      exact ho
  · rw [if_neg yy]
    have ek : F.length = L.length := by omega
    refine hQ sti L D F s (hf _ ?_) ko hsl hD hF ek ⟨wii, li, ki⟩
    rw [show 122 - F.length = (121 - F.length) + 1 by omega]
    simp only [stLoopE]
    rw [show L[F.length]? = none from List.getElem?_eq_none (by omega)]
    trivial
end

/-! RewriteHouse: states -/
section
variable {M : Mo} {R : Ru} {mo : Int} {σ0 : S} {a0 r0 : Int}
/-- states, edges and where they begin, as they stand -/
def smX (σ : S) (L : SL) : Prop := ∀ i : Nat, i < L.length → lvX σ (gA σ 104 i) ∧ ∃ rl : Int, L[i]? = some (tX σ (gA σ 104 i), gA σ 105 i, rl, gA σ 107 i) ∧ (i = 0 → rl = -2) ∧ (i ≠ 0 → rl = gA σ 106 i)
def edX (f : Int → Int) (D : List Int) : Prop := ∀ i : Nat, i < D.length → D[i]? = some (f i)
theorem edX.to {f g : Int → Int} {D : List Int} (h : edX f D) (e : ∀ i : Nat, i < D.length → g i = f i) : edX g D := fun i hi => by rw [h i hi, e i hi]
theorem edX.snoc {f g : Int → Int} {D : List Int} {v : Int} (h : edX f D) (e : ∀ i : Nat, i < D.length → g i = f i) (ev : g D.length = v) : edX g (D ++ [v]) := by
  intro i hi
  rw [List.length_append] at hi
  simp only [List.length_cons, List.length_nil] at hi
  by_cases z : i = D.length
  · rw [z, List.getElem?_append_right (Nat.le_refl _), Nat.sub_self, ev]
    rfl
  · rw [List.getElem?_append_left (by omega), h i (by omega), e i (by omega)]
theorem smX.to {σ s : S} {L : SL} (h : smX σ L) (g : gwX σ s) (e1 : ∀ i : Nat, i < L.length → gA s 104 i = gA σ 104 i) (e2 : ∀ i : Nat, i < L.length → gA s 105 i = gA σ 105 i) (e3 : ∀ i : Nat, i < L.length → gA s 106 i = gA σ 106 i) (e4 : ∀ i : Nat, i < L.length → gA s 107 i = gA σ 107 i) : smX s L := by
  intro i hi
  obtain ⟨a, rl, b, c, d⟩ := h i hi
  rw [e1 i hi, e2 i hi, e3 i hi, e4 i hi]
  exact ⟨g.lv a, rl, by rw [b, g.2.1 _ a], c, d⟩
abbrev stW : List Nat × List Nat × List Nat := ([], [], [104, 105, 106, 107, 109, 108])
theorem xs_findStates (c : cxR M R mo σ0 (a0 + 50) (r0 + 50)) (hOt : isOt M) {σ : S} {st : ST} {x : Int} {X : Tr} (h : XR M R mo σ0 st σ) (wi : WI M R a0 r0 0 0 st) (lx : lvX σ x) (eX : tX σ x = X) (dx : DR M st X) (ri : RI 0 σ) :
    x_findStates x σ (fun r s => ∃ st' L D F, statesE M R mo X st (.inr ((L, D, F), st')) ∧ r = (L.length : Int) ∧ okX M R mo σ0 σ st' s ∧ smX s L ∧ edX (gA s 109) D ∧ edX (gA s 108) F) (fun s => statesE M R mo X st (.inl (gI s 1006, gI s 131)) ∧ noX M σ s) := by
  have hM := c.1.wm
  have hn0 := c.2.1.1
  have rg := h.1.rg
  have ox : okT M X := by rw [← eX]; exact h.1.ok lx
  unfold x_findStates
  refine ⟨⟨by omega, by omega⟩, ?_⟩
  rintro t1 ht1
  refine ⟨⟨by omega, by omega⟩, ?_⟩
  rintro t4 ht4
  refine ⟨⟨by omega, by omega⟩, ?_⟩
  rintro t7 ht7
  have f7 : Fr stW σ t7 := ((Fr.rf.putA ht1 rfl).putA ht4 rfl).putA ht7 rfl
  have k7 : okX M R mo σ0 σ st t7 := (okX.rf h).fr3 hn0 rg.1 f7 rfl rfl rfl rfl rfl rfl rfl rfl
  have e7 : gA t7 104 0 = x ∧ gA t7 105 0 = -2 ∧ gA t7 107 0 = 0 := by
    refine ⟨?_, ?_, ?_⟩
    · rw [ht7, ht4, ht1]; simp only [gI_pI, gI_pL, gI_pA, gL_pI, gL_pL, gL_pA, gA_pI, gA_pL, gA_pA]; rw [if_neg (by rintro ⟨z, -⟩; exact absurd z (by decide)), if_neg (by rintro ⟨z, -⟩; exact absurd z (by decide)), if_pos ⟨trivial, trivial⟩]
    · rw [ht7, ht4, ht1]; simp only [gI_pI, gI_pL, gI_pA, gL_pI, gL_pL, gL_pA, gA_pI, gA_pL, gA_pA]; rw [if_neg (by rintro ⟨z, -⟩; exact absurd z (by decide)), if_pos ⟨trivial, trivial⟩]
    · rw [ht7, ht4, ht1]; simp only [gI_pI, gI_pL, gI_pA, gL_pI, gL_pL, gL_pA, gA_pI, gA_pL, gA_pA]; rw [if_pos ⟨trivial, trivial⟩]
  have sl7 : smX t7 [(X, -2, -2, 0)] := by
    intro i hi
    have i0 : i = 0 := by simp at hi; exact hi
    subst i0
    show lvX t7 (gA t7 104 0) ∧ ∃ rl : Int, _ = some (tX t7 (gA t7 104 0), gA t7 105 0, rl, gA t7 107 0) ∧ _ ∧ _
    rw [e7.1, e7.2.1, e7.2.2]
    exact ⟨k7.2.1.lv lx, -2, by rw [k7.2.1.2.1 x lx, eX]; rfl, fun _ => rfl, fun q => absurd rfl q⟩
  refine lx_findStates_L29 (fun n2 n3 n4 s => ∃ (L : SL) (D F : List Int) (sti : ST), n2 = (L.length : Int) ∧ n3 = (D.length : Int) ∧ n4 = (F.length : Int) ∧ F.length ≤ L.length ∧ D.length ≤ 60 * F.length ∧ 1 ≤ L.length ∧ okX M R mo σ0 σ sti s ∧ smX s L ∧ edX (gA s 109) D ∧ edX (gA s 108) F ∧ wiL M R a0 r0 st sti L ∧ ∀ o, stLoopE M R mo (122 - F.length) L D F sti o → statesE M R mo X st o)
    (fun _ _ n4 _ => (121 - n4.toNat)) ⟨[(X, -2, -2, 0)], [], [], st, rfl, rfl, rfl, by simp, by simp, by simp, k7, sl7, fun i hi => by simp at hi, fun i hi => by simp at hi, ⟨wi, leS.rf _, ⟨by simp, fun i q hq => by
    have i0 : i = 0 := by have := (List.getElem?_eq_some_iff.mp hq).1; simp at this; exact this
    subst i0
    rw [← Option.some.inj hq]
    exact ⟨Int.le_refl _, Int.le_refl _⟩⟩, fun q hq => by rw [List.mem_singleton.mp hq]; exact ⟨dx, ox⟩⟩, fun o ho => ho⟩ ?_
  rintro n2 n3 n4 s fr0 ⟨L, D, F, sti, rfl, rfl, rfl, hFL, hDF, hL1, ko, hsl, hD, hF, ⟨wii, li, ki⟩, hf⟩
  try dsimp only
  have l120 := ki.1.1
  by_cases yy : (F.length : Int) < (L.length : Int)
  · rw [if_pos yy]
    refine ⟨⟨by omega, by omega⟩, ?_⟩
    rintro t15 ht15
    refine ⟨⟨by omega, by omega⟩, ?_⟩
    have f15 : Fr ([], [], [108]) s t15 := Fr.rf.putA ht15 rfl
    have g15 : gwX s t15 := EyX.of_fr f15 rfl
    have k15 := ko.fr3 hn0 rg.1 f15 rfl rfl rfl rfl rfl rfl rfl rfl
    have ef15 : ∀ j : Int, gA t15 108 j = if j = (F.length : Int) then (D.length : Int) else gA s 108 j := fun j => by
      rw [ht15]
      simp only [gI_pI, gI_pL, gI_pA, gL_pI, gL_pL, gL_pA, gA_pI, gA_pL, gA_pA]
      by_cases z : j = (F.length : Int)
      · rw [if_pos ⟨trivial, z⟩, if_pos z]
      · rw [if_neg (fun q => z q.2), if_neg z]
    obtain ⟨la, rl, ea, -, -⟩ := hsl F.length (by omega)
    have x0 := ki.2 _ (List.mem_of_getElem? ea)
    rw [f15.a 104 rfl]
    have fu : 122 - F.length = (121 - F.length) + 1 := by omega
    have go : ∀ o, bnd (stepsE M R mo wAll (tX s (gA s 104 (F.length : Int))) sti) (fun fl st1 o => bnd (linkE F.length fl (L, D) st1) (fun ld st2 o => stLoopE M R mo (121 - F.length) ld.1 ld.2 (F ++ [(D.length : Int)]) st2 o) o) o → stLoopE M R mo (122 - F.length) L D F sti o := by
      intro o ho
      rw [fu]
      simp only [stLoopE]
      rw [ea]
      exact ho
    refine fm_x_rulesOf (xs_rulesOf (w := wAll) (lw := -2) c hOt k15.1 wii x0.2 x0.1 (g15.lv la) (g15.2.1 _ la) (ri.next k15) (fun r _ _ => ⟨fun _ => Or.inl rfl, fun _ => rfl⟩)) (fun _ t20 f20 q => ?_) (fun t20 f20 q => ⟨hf _ (go _ (bnd_inl q.1)), q.2.pre rg.1 k15⟩)
    obtain ⟨st1, fl, e1, k20, hfl⟩ := q
    have w1 := stepsE_wi hM c.2.2.1 x0.2 x0.1 wii e1
    have ko20 := okX.trans rg.1 k15 k20
    have fl60 := hfl.2.1
    have hsl20 : smX t20 L := hsl.to (g15.trans k20.2.1 ko.1.1.rg.1) (fun i _ => by rw [f20.a _ rfl, f15.a _ rfl]) (fun i _ => by rw [f20.a _ rfl, f15.a _ rfl]) (fun i _ => by rw [f20.a _ rfl, f15.a _ rfl]) (fun i _ => by rw [f20.a _ rfl, f15.a _ rfl])
    have hD20 : edX (gA t20 109) D := hD.to (fun i _ => by rw [f20.a _ rfl, f15.a _ rfl])
    have hF20 : edX (gA t20 108) (F ++ [(D.length : Int)]) := hF.snoc (fun i hi => by rw [f20.a _ rfl, ef15, if_neg (by omega)]) (by rw [f20.a _ rfl, ef15, if_pos rfl])
    have rg20 := k20.1.1.rg
    -- one behind the other
    refine lx_findStates_L59 (fun m2 m3 m5 s' => ∃ (L' : SL) (D' : List Int) (i : Nat), m2 = (L'.length : Int) ∧ m3 = (D'.length : Int) ∧ m5 = (i : Int) ∧ i ≤ fl.length ∧ D'.length = D.length + i ∧ L.length ≤ L'.length ∧ Fr stW t20 s' ∧ smX s' L' ∧ edX (gA s' 109) D' ∧ edX (gA s' 108) (F ++ [(D.length : Int)]) ∧ slK M st1 L' ∧ ∀ o, linkE F.length (fl.drop i) (L', D') st1 o → linkE F.length fl (L, D) st1 o)
      (fun _ _ m5 _ => (fl.length + 1 - m5.toNat)) ⟨L, D, 0, rfl, rfl, rfl, by omega, by omega, by omega, Fr.rf, hsl20, hD20, hF20, ki.le w1.2.1, fun o ho => ho⟩ ?_
    rintro m2 m3 m5 s' fr1 ⟨L', D', i, rfl, rfl, rfl, hi, hDi, hLL, fs, hsl', hD', hF', kl', hlk⟩
    try dsimp only
    have gs : gwX t20 s' := EyX.of_fr fs rfl
    have l'120 := kl'.1.1
    rw [fs.i 146 rfl, hfl.1]
    by_cases y5 : (i : Int) < (fl.length : Int)
    · rw [if_pos y5]
      obtain ⟨lf, ef⟩ := hfl.2.2 i (by omega)
      have exs : gA s' 93 (i : Int) = gA t20 93 (i : Int) := by rw [fs.a _ rfl]
      have exr : gA s' 94 (i : Int) = gA t20 94 (i : Int) := by rw [fs.a _ rfl]
      obtain ⟨y, hy⟩ : ∃ y, y = gA t20 93 (i : Int) := ⟨_, rfl⟩
      rw [← hy] at lf ef exs
      have dropi : fl.drop i = (tX t20 y, gA t20 94 (i : Int)) :: fl.drop (i + 1) := by
        have e := (List.getElem?_eq_some_iff.mp ef).2
        rw [← e, ← List.drop_eq_getElem_cons (by omega)]
      have zk := w1.2.2.2 _ (List.mem_of_getElem? ef)
      refine lx_findStates_L71 (fun m6 s2 => s2 = s' ∧ ∃ j : Nat, m6 = (j : Int) ∧ j ≤ L'.length ∧ ∀ i' q, i' < j → L'[i']? = some q → q.1 ≠ tX t20 y)
        (fun m6 _ => (L'.length + 1 - m6.toNat)) ⟨rfl, 0, rfl, by omega, fun i' q hq => by omega⟩ ?_
      rintro m6 s2 fr2 ⟨rfl, j, rfl, hj, hne⟩
      try dsimp only
      refine ⟨fun q => ⟨by omega, by omega⟩, fun q => ⟨by omega, by omega⟩, ?_⟩
      rw [exs]
      by_cases yj : (j : Int) < (L'.length : Int) ∧ ¬ gA s2 104 (j : Int) = y
      · rw [if_pos yj]
        have wi1 : w32 ((j : Int) + 1) = ((j + 1 : Nat) : Int) := by rw [w32_id (by omega) (by omega)]; omega
        rw [wi1]
        refine ⟨⟨rfl, j + 1, rfl, by omega, fun i' q hq he => ?_⟩, by omega⟩
        by_cases w : i' = j
        · subst w
          obtain ⟨lb, rl', eb, -, -⟩ := hsl' i' (by omega)
          rw [eb] at he
          rw [← Option.some.inj he]
          intro e
          exact yj.2 ((ko20.1.1.fr fs rfl).inj lb (gs.lv lf) (by rw [gs.2.1 _ lf]; exact e))
        · exact hne i' q (by omega) he
      · rw [if_neg yj]
        have ix : isIx L' (tX t20 y) j := by
          refine ⟨hj, hne, fun q he => ?_⟩
          have lt := (List.getElem?_eq_some_iff.mp he).1
          obtain ⟨lb, rl', eb, -, -⟩ := hsl' j lt
          rw [eb] at he
          rw [← Option.some.inj he]
          have ey : gA s2 104 (j : Int) = y := by
            rcases Classical.em (gA s2 104 (j : Int) = y) with w | w
            · exact w
            · exact absurd ⟨by omega, w⟩ yj
          rw [ey, gs.2.1 _ lf]
        unfold x_findStates_j100
        have wi3 : w32 ((D'.length : Int) + 1) = ((D'.length + 1 : Nat) : Int) := by rw [w32_id (by omega) (by omega)]; omega
        have wi5 : w32 ((i : Int) + 1) = ((i + 1 : Nat) : Int) := by rw [w32_id (by omega) (by omega)]; omega
        -- the edge
        have edge : ∀ (L2 : SL) (s3 : S), Fr stW t20 s3 → smX s3 L2 → edX (gA s3 109) D' → edX (gA s3 108) (F ++ [(D.length : Int)]) → L.length ≤ L2.length → slK M st1 L2 → (∀ o, linkE F.length (fl.drop (i + 1)) (L2, D' ++ [(j : Int)]) st1 o → linkE F.length fl (L, D) st1 o) →
            x_findStates_j171 (L2.length : Int) (D'.length : Int) (F.length : Int) (i : Int) (j : Int) s3 (fun r s => ∃ st' L D F, statesE M R mo X st (.inr ((L, D, F), st')) ∧ r = (L.length : Int) ∧ okX M R mo σ0 σ st' s ∧ smX s L ∧ edX (gA s 109) D ∧ edX (gA s 108) F) (fun s => statesE M R mo X st (.inl (gI s 1006, gI s 131)) ∧ noX M σ s)
              (fun n2 n3 n4 s' => (∃ (L : SL) (D F : List Int) (sti : ST), n2 = (L.length : Int) ∧ n3 = (D.length : Int) ∧ n4 = (F.length : Int) ∧ F.length ≤ L.length ∧ D.length ≤ 60 * F.length ∧ 1 ≤ L.length ∧ okX M R mo σ0 σ sti s' ∧ smX s' L ∧ edX (gA s' 109) D ∧ edX (gA s' 108) F ∧ wiL M R a0 r0 st sti L ∧ ∀ o, stLoopE M R mo (122 - F.length) L D F sti o → statesE M R mo X st o) ∧ (121 - n4.toNat) < (121 - ((F.length : Int)).toNat))
              (fun m2 m3 m5 s' => (∃ (L' : SL) (D' : List Int) (i : Nat), m2 = (L'.length : Int) ∧ m3 = (D'.length : Int) ∧ m5 = (i : Int) ∧ i ≤ fl.length ∧ D'.length = D.length + i ∧ L.length ≤ L'.length ∧ Fr stW t20 s' ∧ smX s' L' ∧ edX (gA s' 109) D' ∧ edX (gA s' 108) (F ++ [(D.length : Int)]) ∧ slK M st1 L' ∧ ∀ o, linkE F.length (fl.drop i) (L', D') st1 o → linkE F.length fl (L, D) st1 o) ∧ (fl.length + 1 - m5.toNat) < (fl.length + 1 - ((i : Int)).toNat)) := by
          intro L2 s3 f3 hs3 hd3 hf3 hll hk3 hl3
          unfold x_findStates_j171
          rw [wi3, wi5]
          refine ⟨⟨by omega, by omega⟩, ?_⟩
          rintro t35 ht35
          have f35 : Fr ([], [], [109]) s3 t35 := Fr.rf.putA ht35 rfl
          have g35 : gwX s3 t35 := EyX.of_fr f35 rfl
          have ev : ∀ q : Int, gA t35 109 q = if q = (D'.length : Int) then (j : Int) else gA s3 109 q := fun q => by
            rw [ht35]
            simp only [gI_pI, gI_pL, gI_pA, gL_pI, gL_pL, gL_pA, gA_pI, gA_pL, gA_pA]
            by_cases z : q = (D'.length : Int)
            · rw [if_pos ⟨trivial, z⟩, if_pos z]
            · rw [if_neg (fun w => z w.2), if_neg z]
          refine ⟨⟨L2, D' ++ [(j : Int)], i + 1, rfl, by rw [List.length_append]; rfl, rfl, by omega, by rw [List.length_append]; simp only [List.length_cons, List.length_nil]; omega, hll, f3.trans (f35.weak rfl), hs3.to g35 (fun q _ => by rw [f35.a _ rfl]) (fun q _ => by rw [f35.a _ rfl]) (fun q _ => by rw [f35.a _ rfl]) (fun q _ => by rw [f35.a _ rfl]), hd3.snoc (fun q hq => by rw [ev, if_neg (by omega)]) (by rw [ev, if_pos rfl]), hf3.to (fun q _ => by rw [f35.a _ rfl]), hk3, hl3⟩, by omega⟩
        by_cases j120 : (j : Int) = 120
        · rw [if_pos j120]
          have jl : j = L'.length := by omega
          unfold x_findStates_j107
          refine xs_stop ?_
          have fst : Fr ([1006], [], []) s2 (pI s2 1006 2) := Fr.rf.putI rfl rfl
          refine ⟨hf _ (go _ (bnd_inr e1 (bnd_inl (hlk _ ?_)))), ?_, ?_⟩
          · rw [dropi]
            refine ⟨j, ix, Or.inr ⟨jl, Or.inl ⟨by show L'.length = 120; omega, ?_⟩⟩⟩
            simp only [gI_pI, gI_pL, gI_pA, gL_pI, gL_pL, gL_pA, gA_pI, gA_pL, gA_pA]
            rw [if_pos trivial, if_neg (by decide), fs.i _ rfl, k20.1.2.2.2.1.1.1]
          · exact (ko20.1.1.fr fs rfl).fr fst rfl
          · exact (ko20.2.1.trans gs rg.1).trans (EyX.of_fr fst rfl) rg.1
        · rw [if_neg j120]
          by_cases jl : (j : Int) = (L'.length : Int)
          · rw [if_pos jl]
            have jl' : j = L'.length := by omega
            have k120 : L'.length ≠ 120 := by omega
            obtain ⟨lc, rlc, ec, -, -⟩ := hsl' F.length (by omega)
            have efar := farO_at ec
            refine ⟨⟨by omega, by omega⟩, ⟨by omega, by omega⟩, ?_⟩
            rintro t40 ht40
            refine ⟨⟨by omega, by omega⟩, ?_⟩
            rintro t43 ht43
            refine ⟨⟨by omega, by omega⟩, ⟨by omega, by omega⟩, ?_⟩
            rintro t48 ht48
            refine ⟨⟨by omega, by omega⟩, ⟨by omega, by omega⟩, ?_⟩
            rintro t53 ht53
            have f53 : Fr stW s2 t53 := (((Fr.rf.putA ht40 rfl).putA ht43 rfl).putA ht48 rfl).putA ht53 rfl
            have g53 : gwX s2 t53 := EyX.of_fr f53 rfl
            have x1 : ∀ q : Int, gA t53 104 q = if q = (L'.length : Int) then y else gA s2 104 q := fun q => by
              rw [ht53, ht48, ht43, ht40]
              simp only [gI_pI, gI_pL, gI_pA, gL_pI, gL_pL, gL_pA, gA_pI, gA_pL, gA_pA]
              rw [if_neg (by rintro ⟨z, -⟩; exact absurd z (by decide)), if_neg (by rintro ⟨z, -⟩; exact absurd z (by decide)), if_neg (by rintro ⟨z, -⟩; exact absurd z (by decide)), exs]
              by_cases z : q = (L'.length : Int)
              · rw [if_pos ⟨trivial, z⟩, if_pos z]
              · rw [if_neg (fun w => z w.2), if_neg z]
            have x2 : ∀ q : Int, gA t53 105 q = if q = (L'.length : Int) then (F.length : Int) else gA s2 105 q := fun q => by
              rw [ht53, ht48, ht43, ht40]
              simp only [gI_pI, gI_pL, gI_pA, gL_pI, gL_pL, gL_pA, gA_pI, gA_pL, gA_pA]
              rw [if_neg (by rintro ⟨z, -⟩; exact absurd z (by decide)), if_neg (by rintro ⟨z, -⟩; exact absurd z (by decide))]
              by_cases z : q = (L'.length : Int)
              · rw [if_pos ⟨trivial, z⟩, if_pos z]
              · rw [if_neg (fun w => z w.2), if_neg z, if_neg (by rintro ⟨z, -⟩; exact absurd z (by decide))]
            have e43 : gA t43 94 (i : Int) = gA t20 94 (i : Int) := by rw [ht43, ht40]; exact exr
            have x3 : ∀ q : Int, gA t53 106 q = if q = (L'.length : Int) then gA t20 94 (i : Int) else gA s2 106 q := fun q => by
              rw [ht53, ht48, e43, ht43, ht40]
              simp only [gI_pI, gI_pL, gI_pA, gL_pI, gL_pL, gL_pA, gA_pI, gA_pL, gA_pA]
              rw [if_neg (by rintro ⟨z, -⟩; exact absurd z (by decide))]
              by_cases z : q = (L'.length : Int)
              · rw [if_pos ⟨trivial, z⟩, if_pos z]
              · rw [if_neg (fun w => z w.2), if_neg z, if_neg (by rintro ⟨z, -⟩; exact absurd z (by decide)), if_neg (by rintro ⟨z, -⟩; exact absurd z (by decide))]
            have e48 : ∀ q : Int, gA t48 107 q = gA s2 107 q := fun q => by
              rw [ht48, ht43, ht40]
              simp only [gI_pI, gI_pL, gI_pA, gL_pI, gL_pL, gL_pA, gA_pI, gA_pL, gA_pA]
              rw [if_neg (by rintro ⟨z, -⟩; exact absurd z (by decide)), if_neg (by rintro ⟨z, -⟩; exact absurd z (by decide)), if_neg (by rintro ⟨z, -⟩; exact absurd z (by decide))]
            have x4 : ∀ q : Int, gA t53 107 q = if q = (L'.length : Int) then w32 (farO L' F.length + 1) else gA s2 107 q := fun q => by
              rw [ht53, efar]
              simp only [gI_pI, gI_pL, gI_pA, gL_pI, gL_pL, gL_pA, gA_pI, gA_pL, gA_pA]
              rw [e48, e48]
              by_cases z : q = (L'.length : Int)
              · rw [if_pos ⟨trivial, z⟩, if_pos z]
              · rw [if_neg (fun w => z w.2), if_neg z]
            have wL : w32 ((L'.length : Int) + 1) = ((L'.length + 1 : Nat) : Int) := by rw [w32_id (by omega) (by omega)]; omega
            rw [wL]
            have ll : (L' ++ [(tX t20 y, (F.length : Int), gA t20 94 (i : Int), farO L' F.length + 1)]).length = L'.length + 1 := by rw [List.length_append]; rfl
            have wfar : w32 (farO L' F.length + 1) = farO L' F.length + 1 := by
              have := kl'.1.2.far (k := F.length) (by omega)
              exact w32_id (by omega) (by omega)
            have E := edge (L' ++ [(tX t20 y, (F.length : Int), gA t20 94 (i : Int), farO L' F.length + 1)]) t53 (fs.trans f53) ?_ (hD'.to (fun q _ => ?_)) (hF'.to (fun q _ => ?_)) (by rw [ll]; omega) ?_ (fun o ho => hlk o ?_)
            · rw [ll] at E
              exact E
            · intro q hq
              rw [ll] at hq
              rw [x1, x2, x3, x4]
              by_cases z : q = L'.length
              · rw [if_pos (by omega), if_pos (by omega), if_pos (by omega), if_pos (by omega), z, List.getElem?_append_right (Nat.le_refl _), Nat.sub_self, wfar]
                have ly2 : lvX t53 y := g53.lv (gs.lv lf)
                have ey2 : tX t53 y = tX t20 y := (g53.2.1 _ (gs.lv lf)).trans (gs.2.1 _ lf)
                exact ⟨ly2, gA t20 94 (i : Int), by rw [ey2]; rfl, fun w => by omega, fun _ => rfl⟩
              · rw [if_neg (by omega), if_neg (by omega), if_neg (by omega), if_neg (by omega), List.getElem?_append_left (by omega)]
                obtain ⟨p1, p2, p3, p4, p5⟩ := hsl' q (by omega)
                exact ⟨g53.lv p1, p2, by rw [p3, g53.2.1 _ p1], p4, p5⟩
            · rw [ht53, ht48, ht43, ht40]
              rfl
            · rw [ht53, ht48, ht43, ht40]
              rfl
            · refine ⟨⟨by rw [ll]; omega, kl'.1.2.snoc (by have := kl'.1.2.far (k := F.length) (by omega); show 0 ≤ farO L' F.length + 1; omega) (by have := kl'.1.2.far (k := F.length) (by omega); show farO L' F.length + 1 ≤ _; omega)⟩, fun q hq => ?_⟩
              rcases List.mem_append.mp hq with e | e
              · exact kl'.2 q e
              · rw [List.mem_singleton.mp e]; exact zk
            · rw [dropi]
              exact ⟨j, ix, Or.inr ⟨jl', Or.inr ⟨k120, ho⟩⟩⟩
          · rw [if_neg jl]
            refine edge L' s2 fs hsl' hD' hF' hLL kl' (fun o ho => hlk o ?_)
            rw [dropi]
            exact ⟨j, ix, Or.inl ⟨by show j < L'.length; omega, ho⟩⟩
    · rw [if_neg y5]
      have ei : i = fl.length := by omega
      have e2 : linkE F.length fl (L, D) st1 (.inr ((L', D'), st1)) := hlk _ (by rw [ei, List.drop_length]; rfl)
      unfold x_findStates_j188
      have wi4 : w32 ((F.length : Int) + 1) = ((F.length + 1 : Nat) : Int) := by rw [w32_id (by omega) (by omega)]; omega
      rw [wi4]
      have fl1 : (F ++ [(D.length : Int)]).length = F.length + 1 := by rw [List.length_append]; rfl
      refine ⟨⟨L', D', F ++ [(D.length : Int)], st1, rfl, rfl, by rw [fl1], by rw [fl1]; omega, by rw [fl1]; omega, by omega, ko20.fr3 hn0 rg.1 fs rfl rfl rfl rfl rfl rfl rfl rfl, hsl', hD', hF', ⟨w1.1, li.trans w1.2.1, kl'⟩, fun o ho => hf _ (go _ (bnd_inr e1 (bnd_inr e2 ?_)))⟩, by omega⟩
      rw [fl1, show 122 - (F.length + 1) = 121 - F.length by omega] at ho
      exact ho
  · rw [if_neg yy]
    have ek : F.length = L.length := by omega
    unfold x_findStates_j194
    refine ⟨⟨by omega, by omega⟩, ?_⟩
    rintro t12 ht12
    have f12 : Fr ([], [], [108]) s t12 := Fr.rf.putA ht12 rfl
    have g12 : gwX s t12 := EyX.of_fr f12 rfl
    have ef12 : ∀ j : Int, gA t12 108 j = if j = (L.length : Int) then (D.length : Int) else gA s 108 j := fun j => by
      rw [ht12]
      simp only [gI_pI, gI_pL, gI_pA, gL_pI, gL_pL, gL_pA, gA_pI, gA_pL, gA_pA]
      by_cases z : j = (L.length : Int)
      · rw [if_pos ⟨trivial, z⟩, if_pos z]
      · rw [if_neg (fun q => z q.2), if_neg z]
    refine ⟨sti, L, D, F ++ [(D.length : Int)], hf _ ?_, rfl, ko.fr3 hn0 rg.1 f12 rfl rfl rfl rfl rfl rfl rfl rfl, hsl.to g12 (fun i _ => by rw [f12.a _ rfl]) (fun i _ => by rw [f12.a _ rfl]) (fun i _ => by rw [f12.a _ rfl]) (fun i _ => by rw [f12.a _ rfl]), hD.to (fun i _ => by rw [f12.a _ rfl]), hF.snoc (fun i hi => by rw [ef12, if_neg (by omega)]) (by rw [ef12, if_pos (by omega)])⟩
    rw [show 122 - F.length = (121 - F.length) + 1 by omega]
    simp only [stLoopE]
    rw [show L[F.length]? = none from List.getElem?_eq_none (by omega)]
    trivial
end

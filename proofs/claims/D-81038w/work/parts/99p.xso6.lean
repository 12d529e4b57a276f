/-! RewriteHouse: solving, rows, the whole -/
theorem shl_all : ∀ n : Fin 7, w32 (bShl 1 ((n.val : Nat) : Int) - 1) = ((2 ^ n.val - 1 : Nat) : Int) := by decide
theorem so_assoc {M : Mo} {A : Int → Bool} {t0 : Tr} {P : Env → Prop} {o : Int} {σ0 : S} {m : Nat} (c : cxX M A t0 P o σ0) (ih : SoX M A t0 P o σ0 m) {σ : S} {gs : List Goal} {ρ : Env} {L : List Env} {f p t : Int} (mt : mtX M (inU M A t0) P o σ0 σ ρ L) (g1 : gsX M σ (gI σ 121) gs) (g2 : ∀ g ∈ gs, gOK M A t0 g) (g3 : 0 ≤ gI σ 138 ∧ 2 * gI σ 138 + 4 + m ≤ 420) (g4 : 0 ≤ gI σ 134 ∧ 4 * gI σ 134 + 24 + 6 * m ≤ 2520)
    (hp : lvX σ p) (ht : lvX σ t) (hf : lab (tX σ p) = f) (h0 : 0 ≤ f) (has : mAs M f ≠ 0) (ok : gOK M A t0 (.inl (tX σ p, tX σ t))) (g5 : wGs (.inl (tX σ p, tX σ t) :: gs) + 1 ≤ m + 4) (hP : ∀ ρ', Solv M (.inl (tX σ p, tX σ t) :: gs) ρ ρ' → P ρ') :
    x_S_solve (m + 3) 4 [f, p, t] σ (fun _ s => ∃ L', doneX M (inU M A t0) o σ L (Solv M (.inl (tX σ p, tX σ t) :: gs) ρ) s L') (fun s => overX M (inU M A t0) σ L (Solv M (.inl (tX σ p, tX σ t) :: gs) ρ) s) := by
  have xp := mt.1
  have rg := xp.rg
  have hM := xp.wm
  have np := (xp.nd hp).2.2.1
  have nt := (xp.nd ht).2.2.1
  have h1 : f < mOps M := by rw [← hf]; exact np.op (by rw [hf]; exact h0)
  have ob := hM.2.2.1
  have bt := lvX_b xp ht
  have kt := tX_kids xp ht
  have at' := xp.at ht
  have hAf : A f = true := ok.1.2.1 f h0 has (by rw [← hf, np.eta, tAny_N]; simp [lab_N])
  have okt := ok.2
  have hel := elO_elm hM h0 has hAf okt.1 okt.2.1 okt.2.2.1
  have hrow := rowU_el (o := f) okt.2.2.2 okt.1.1
  have sol := fun ρ' => Solv_assoc (M := M) (p := tX σ p) (t := tX σ t) (gs := gs) (ρ := ρ) (ρ' := ρ') (by rw [hf]; exact h0) (by rw [hf]; exact has)
  rw [hf] at sol
  have hlen6 := hel.2.2.1
  have np2 : 2 ≤ (kids (tX σ p)).length := by
    rcases np.ok with z | z
    · omega
    · rw [hf, if_pos has] at z
      exact z.2.2.1.1
  have tp := mt.2.2.2.2.2.2.2.2.2
  -- behind the elements
  have j99 : ∀ (s1 : S) (n : Nat), Fr wX_solve σ s1 → XP M s1 → blX (inU M A t0) σ s1 → gI s1 138 = gI σ 138 → gI s1 121 = gI σ 121 → gI s1 134 = gI σ 134 + n → (∀ x ∈ rowI (gA s1 87) (gI σ 134) n, lvX s1 x) → (rowI (gA s1 87) (gI σ 134) n).map (tX s1) = elO M f (tX σ t) →
      x_solveAssoc_j99 (x_S_solve (m + 2)) f p (gI σ 134) s1 (fun _ s => ∃ L', doneX M (inU M A t0) o σ L (Solv M (.inl (tX σ p, tX σ t) :: gs) ρ) s L') (fun s => overX M (inU M A t0) σ L (Solv M (.inl (tX σ p, tX σ t) :: gs) ρ) s) := by
    intro s1 n f1 x1 b1 hsh hgo hele hlv hmap
    have hn : n = (elO M f (tX σ t)).length := by rw [← hmap, List.length_map, rowI_len]
    have hp1 := b1.1.lv hp
    have tp1 := b1.1.t hp
    have kp1 := tX_kids x1 hp1
    rw [tp1] at kp1
    have mt1 := mt.bl c.1 x1 b1 f1 rfl
    have hG := fo_x_S_solve (m + 2)
    unfold x_solveAssoc_j99
    rw [moX_un x1, hele, show gI σ 134 + (n : Int) - gI σ 134 = n by omega, w32_id (by omega) (by omega)]
    refine ⟨lvX_b x1 hp1, fun _ => by omega, ?_⟩
    by_cases hc : ¬ ((n : Int) < gA s1 68 p) ∨ ¬ (mUn M f = -2)
    · rw [if_pos hc]
      have sa := shl_all ⟨n, by omega⟩
      simp only at sa
      rw [sa]
      refine xs_newShare (by omega) (by omega) (fun s2 f2 b2 e2 x2 y2 z2 => ?_)
      have b2' := b2 (inU M A t0)
      have b12 := b1.trans b2' rg.1
      have f12 : Fr wX_solve σ s2 := Fr.trans f1 (f2.weak rfl)
      have x2' : XP M s2 := x1.fr f2 rfl
      have mt2 := mt.bl c.1 x2' b12 f12 rfl
      have hgo2 : gI s2 121 = gI σ 121 := by rw [f2.i _ rfl, hgo]
      have sh2 : shX M s2 (gI s1 138) f 0 (elO M f (tX σ t)) := by
        refine ⟨by omega, by omega, by rw [x2]; rfl, by rw [y2]; exact g4.1, n, 2 ^ n - 1, by omega, ?_, ?_, z2, fun _ => ⟨0, by omega, by rw [Nat.pow_zero]⟩, ?_, ?_⟩
        · have := Nat.two_pow_pos n; omega
        · rw [y2, f2.i _ rfl, hele]; omega
        · rw [y2, f2.a 87 rfl]
          exact fun x hx => b2'.1.lv (hlv x hx)
        · rw [y2, f2.a 87 rfl, ← hmap]
          rw [pk_all _ (by rw [List.length_map, rowI_len])]
          exact List.map_congr_left (fun x hx => (b2'.1.t (hlv x hx)).symm)
      have e12 := b12.1
      have hw : wGs (.inr (tX σ p, 0, elO M f (tX σ t)) :: gs) + 1 ≤ m := by
        rw [wGs_cons] at g5 ⊢
        simp only [wG, List.drop_zero] at g5 ⊢
        rw [trS_eta np] at g5
        omega
      have so := so_share (s := 0) (es := elO M f (tX σ t)) (gs := gs) (f := f) (p := p) (d := gI s1 138) c ih mt2 (g1.bl b12 hgo2) g2 (by rw [e2, hsh]; omega) (by rw [f2.i _ rfl, hele]; omega) (e12.lv hp) (by rw [e12.t hp]; exact hf) sh2 (by rw [e12.t hp]; exact ⟨ok.1, by rw [hf]; exact h0, by rw [hf]; exact has, by omega, by rw [hf]; exact hel, by rw [hf]; exact hrow⟩) (by rw [e12.t hp]; omega) (by rw [e12.t hp]; exact fun ρ' h => hP ρ' ((sol ρ').mpr h))
      rw [e12.t hp] at so
      refine hG _ _ _ _ _ _ _ so (fun r s3 f3 q => ?_) (fun s3 f3 q => ?_)
      · obtain ⟨L', d3⟩ := q
        rintro s4 hs4
        unfold x_solveAssoc_j159
        rintro s5 hs5
        rw [d3.2.1.2.2.1, e2, w32_id (by omega) (by omega)] at hs4
        have f5 : Fr ([121, 138, 134], [], []) s3 s5 := (Fr.rf.putI hs4 rfl).putI hs5 rfl
        refine ⟨L', (d3.back rg.1 f12 b12 f5 ?_ ?_ ?_).iff (fun ρ' => (sol ρ').symm)⟩
        · rw [hs5]; simp only [gI_pI, gI_pL, gI_pA, gL_pI, gL_pL, gL_pA, gA_pI, gA_pL, gA_pA]; rw [if_pos trivial]
        · rw [hs5, hs4]; simp only [gI_pI, gI_pL, gI_pA, gL_pI, gL_pL, gL_pA, gA_pI, gA_pL, gA_pA]; rw [if_neg (by decide), if_pos trivial]; omega
        · rw [hs5, hs4]; simp only [gI_pI, gI_pL, gI_pA, gL_pI, gL_pL, gL_pA, gA_pI, gA_pL, gA_pA]; rw [if_neg (by decide), if_neg (by decide), d3.2.1.2.2.2.1, hgo2]
      · exact (q.imp (fun ρ' => (sol ρ').mpr)).pre rg.1 e12
    · rw [if_neg hc]
      unfold x_solveAssoc_j159
      rintro s5 hs5
      have f5 : Fr ([121, 138, 134], [], []) s1 s5 := Fr.rf.putI hs5 rfl
      have dn : doneX M (inU M A t0) o s1 L (fun _ => False) s1 L := doneX.none x1 mt1.2.2.2.2.2.2.2.1
      refine ⟨L, (dn.back rg.1 f1 b1 f5 ?_ ?_ ?_).iff (fun ρ' => ⟨False.elim, fun h => ?_⟩)⟩
      · rw [hs5]; simp only [gI_pI, gI_pL, gI_pA, gL_pI, gL_pL, gL_pA, gA_pI, gA_pL, gA_pA]; rw [if_pos trivial]
      · rw [hs5]; simp only [gI_pI, gI_pL, gI_pA, gL_pI, gL_pL, gL_pA, gA_pI, gA_pL, gA_pA]; rw [if_neg (by decide), hsh]
      · rw [hs5]; simp only [gI_pI, gI_pL, gI_pA, gL_pI, gL_pL, gL_pA, gA_pI, gA_pL, gA_pA]; rw [if_neg (by decide), hgo]
      · have hu : mUn M f = -2 := Classical.byContradiction (fun z => hc (Or.inr z))
        have hlt : (n : Int) < gA s1 68 p := Classical.byContradiction (fun z => hc (Or.inl z))
        have := Solv_few (by rw [hf]; exact hu) _ 0 _ gs ρ ρ' (Nat.le_add_left _ _) (by omega) ((sol ρ').mp h)
        omega
  -- one element
  have j82 : ∀ (s1 : S), Fr wX_solve σ s1 → XP M s1 → blX (inU M A t0) σ s1 → gI s1 138 = gI σ 138 → gI s1 121 = gI σ 121 → gI s1 134 = gI σ 134 → elO M f (tX σ t) = [tX σ t] →
      x_solveAssoc_j82 (x_S_solve (m + 2)) f p t (gI σ 134) s1 (fun _ s => ∃ L', doneX M (inU M A t0) o σ L (Solv M (.inl (tX σ p, tX σ t) :: gs) ρ) s L') (fun s => overX M (inU M A t0) σ L (Solv M (.inl (tX σ p, tX σ t) :: gs) ρ) s) := by
    intro s1 f1 x1 b1 hsh hgo hele he
    unfold x_solveAssoc_j82
    rw [hele, w32_id (by omega) (by omega)]
    rintro s2 hs2
    refine ⟨by omega, ?_⟩
    rintro s3 hs3
    have f3 : Fr ([134], [], [87]) s1 s3 := (Fr.rf.putI hs2 rfl).putA hs3 rfl
    have x3 : XP M s3 := x1.fr f3 rfl
    have hv : ∀ j, gA s3 87 j = if j = gI σ 134 then t else gA s1 87 j := fun j => by rw [hs3, hs2]; simp [gI_pI, gI_pL, gI_pA, gL_pI, gL_pL, gL_pA, gA_pI, gA_pL, gA_pA]
    have he3 : gI s3 134 = gI σ 134 + 1 := by rw [hs3, hs2]; simp [gI_pI, gI_pL, gI_pA, gL_pI, gL_pL, gL_pA, gA_pI, gA_pL, gA_pA]
    have e3 : ExX s1 s3 (inU M A t0) := ExX.of_fr f3 rfl
    have b3 : blX (inU M A t0) s1 s3 := ⟨e3, by omega, by rw [f3.i _ rfl]; exact Int.le_refl _, by rw [f3.i _ rfl]; exact Int.le_refl _, f3.i _ rfl, f3.a _ rfl, f3.i _ rfl, f3.i _ rfl, f3.a _ rfl, fun i hi => by rw [hv, if_neg (by omega)], fun i _ => ⟨by rw [f3.a _ rfl], by rw [f3.a _ rfl], by rw [f3.a _ rfl]⟩, fun i _ => ⟨by rw [f3.a _ rfl], by rw [f3.a _ rfl]⟩, fun j _ => by rw [f3.a _ rfl]⟩
    have b13 := b1.trans b3 rg.1
    have el : rowI (gA s3 87) (gI σ 134) 1 = [t] := by simp only [rowI]; rw [hv, if_pos rfl]
    refine j99 s3 1 (Fr.trans f1 (f3.weak rfl)) x3 b13 (by rw [f3.i _ rfl, hsh]) (by rw [f3.i _ rfl, hgo]) (by rw [he3]; rfl) ?_ ?_
    · rw [el]
      intro x hx
      rw [List.mem_singleton.mp hx]
      exact b13.1.lv ht
    · rw [el, he, List.map_cons, List.map_nil, b13.1.t ht]
  rw [xe_solve_4]
  unfold x_solveAssoc_F
  refine ⟨bt, ?_⟩
  by_cases hw : gA σ 66 t = f
  · rw [if_pos hw]
    have hlt : lab (tX σ t) = f := by rw [kt.1, hw]
    have he : elO M f (tX σ t) = kids (tX σ t) := by unfold elO; rw [if_pos hlt]
    rw [he] at hlen6
    have hG := fo_x_S_solve (m + 2)
    refine lx_solveAssoc_L19 hG (fun i s1 => 0 ≤ i ∧ i ≤ gA σ 68 t ∧ Fr ([134], [], [87]) σ s1 ∧ gI s1 134 = gI σ 134 + i ∧ (∀ j, j < gI σ 134 → gA s1 87 j = gA σ 87 j) ∧ ∀ j, 0 ≤ j → j < i → gA s1 87 (gI σ 134 + j) = gA σ 73 (gA σ 67 t + j)) (fun i _ => (gA σ 68 t - i).toNat) ⟨by omega, at'.1, Fr.rf, by omega, fun _ _ => rfl, fun j j0 j1 => by omega⟩ ?_
    rintro i s1 fr ⟨i0, i1, f1, he1, hlow, hj⟩
    try dsimp only
    have xs1 : XP M s1 := xp.fr f1 rfl
    have e1 : ExX σ s1 (inU M A t0) := ExX.of_fr f1 rfl
    refine ⟨bt, ?_⟩
    rw [f1.a 68 rfl]
    by_cases hi : i < gA σ 68 t
    · rw [if_pos hi, he1, w32_id (by omega) (by omega)]
      rintro s2 hs2
      have f2 : Fr ([134], [], [87]) σ s2 := f1.putI hs2 rfl
      have xs2 : XP M s2 := xp.fr f2 rfl
      have l2 := lv_fr f2 rfl
      refine xs_at xs2 (l2 _ ht).1 i0 (by rw [f2.a _ rfl]; exact hi) ?_
      rw [f2.a 73 rfl, f2.a 67 rfl]
      refine ⟨by omega, ?_⟩
      rintro s3 hs3
      rw [w32_id (by omega) (by omega)]
      have f3 : Fr ([134], [], [87]) σ s3 := f2.putA hs3 rfl
      have hv : ∀ j, gA s3 87 j = if j = gI σ 134 + i then gA σ 73 (gA σ 67 t + i) else gA s1 87 j := fun j => by rw [hs3, hs2]; simp [gI_pI, gI_pL, gI_pA, gL_pI, gL_pL, gL_pA, gA_pI, gA_pL, gA_pA]
      refine ⟨⟨by omega, by omega, f3, by rw [hs3, hs2]; simp [gI_pI, gI_pL, gI_pA, gL_pI, gL_pL, gL_pA, gA_pI, gA_pL, gA_pA]; omega, fun j hj' => by rw [hv, if_neg (by omega)]; exact hlow j hj', fun j j0 j1 => ?_⟩, by omega⟩
      rw [hv]
      by_cases ej : j = i
      · rw [if_pos (by omega), ej]
      · rw [if_neg (by omega)]; exact hj j j0 (by omega)
    · rw [if_neg hi]
      have ei : i = gA σ 68 t := by omega
      subst ei
      unfold x_solveAssoc_j59
      have er : rowI (gA s1 87) (gI σ 134) (gA σ 68 t).toNat = rowI (gA σ 73) (gA σ 67 t) (gA σ 68 t).toNat := rowI_congr (fun j j0 j1 => hj j j0 (by omega))
      have b1 : blX (inU M A t0) σ s1 := ⟨e1, by omega, by rw [f1.i _ rfl]; exact Int.le_refl _, by rw [f1.i _ rfl]; exact Int.le_refl _, f1.i _ rfl, f1.a _ rfl, f1.i _ rfl, f1.i _ rfl, f1.a _ rfl, hlow, fun i _ => ⟨by rw [f1.a _ rfl], by rw [f1.a _ rfl], by rw [f1.a _ rfl]⟩, fun i _ => ⟨by rw [f1.a _ rfl], by rw [f1.a _ rfl]⟩, fun j _ => by rw [f1.a _ rfl]⟩
      refine j99 s1 (gA σ 68 t).toNat (f1.weak rfl) xs1 b1 (f1.i _ rfl) (f1.i _ rfl) (by omega) ?_ ?_
      · rw [er]
        intro x hx
        obtain ⟨j, j0, j1, rfl⟩ := rowI_mem.mp hx
        exact e1.lv (at'.2.2.2.2 j j0 (by omega)).1
      · rw [er, he, kt.2.1]
        refine List.map_congr_left (fun x hx => ?_)
        obtain ⟨j, j0, j1, rfl⟩ := rowI_mem.mp hx
        exact e1.t (at'.2.2.2.2 j j0 (by omega)).1
  · rw [if_neg hw]
    have hlt : lab (tX σ t) ≠ f := by rw [kt.1]; exact hw
    refine ⟨by omega, ?_⟩
    rw [moX_un xp]
    by_cases hu : mUn M f = -2
    · rw [if_pos hu]
      refine j82 σ Fr.rf xp (blX.rf _ σ) rfl rfl rfl ?_
      unfold elO
      rw [if_neg hlt, if_neg (fun z => z.1 hu)]
    · rw [if_neg hu]
      have rm := c.2.2.2.1 σ xp mt.2.1
      refine fm_x_unitNode (xs_unitNode xp h0 h1 hu tp.1 (by omega) (by omega) rm.2) (fun r s2 f2 q => ?_) (fun s2 f2 q => q.elim)
      obtain ⟨q1, q2, q3, q4, -⟩ := q
      have e2 : ExX σ s2 (inU M A t0) := q4.mono (fun u hu' => by rw [hu']; exact (unT_ok hM h0 h1 hu).2.2.2)
      have b2 : blX (inU M A t0) σ s2 := ⟨e2, by rw [f2.i _ rfl]; exact Int.le_refl _, by rw [f2.i _ rfl]; exact Int.le_refl _, by rw [f2.i _ rfl]; exact Int.le_refl _, f2.i _ rfl, f2.a _ rfl, f2.i _ rfl, f2.i _ rfl, f2.a _ rfl, fun i _ => by rw [f2.a _ rfl], fun i _ => ⟨by rw [f2.a _ rfl], by rw [f2.a _ rfl], by rw [f2.a _ rfl]⟩, fun i _ => ⟨by rw [f2.a _ rfl], by rw [f2.a _ rfl]⟩, fun j _ => by rw [f2.a _ rfl]⟩
      by_cases hr : t = r
      · rw [if_pos hr]
        refine j99 s2 0 (f2.weak rfl) q1 b2 (f2.i _ rfl) (f2.i _ rfl) (by rw [f2.i _ rfl]; simp) (fun x hx => by simp [rowI] at hx) ?_
        have htu : tX σ t = unT M f := by rw [← q3, ← hr, e2.t ht]
        unfold elO
        rw [if_neg hlt, if_pos ⟨hu, by rw [htu]; rfl⟩]
        rfl
      · rw [if_neg hr]
        refine j82 s2 (f2.weak rfl) q1 b2 (f2.i _ rfl) (f2.i _ rfl) (f2.i _ rfl) ?_
        unfold elO
        rw [if_neg hlt, if_neg]
        rintro ⟨-, z⟩
        have := (unit_is hM h0 h1 hu okt.1).mp z
        exact hr (q1.inj (e2.lv ht) q2 (by rw [e2.t ht, q3, this]))
/-- the top goal is laid back -/
theorem so_back {M : Mo} {N : Tr → Prop} {o : Int} {G : Orc} {E : S → Prop} {σ σ5 σ1 s : S} {L L' : List Env} {Z : Env → Prop} (h1 : 1 ≤ gI σ 93) (hg : 1 ≤ gI σ 121) (hg1 : gI σ 121 < 400) (h5 : σ5 = pI σ 121 (gI σ 121 - 1)) (f1 : Fr wX_solve σ5 σ1) (b : blX N σ5 σ1) (he : gI σ1 134 = gI σ5 134) (hsh : gI σ1 138 = gI σ5 138) (d : doneX M N o σ1 L Z s L') : x_solve_j191 G (gI σ 121 - 1) (gA σ 84 (gI σ 121 - 1)) (gA σ 85 (gI σ 121 - 1)) s (fun _ s => ∃ L', doneX M N o σ L Z s L') E := by
  have f5 : Fr ([121], [], []) σ σ5 := Fr.rf.putI h5 rfl
  have g5 : gI σ5 121 = gI σ 121 - 1 := by rw [h5]; rfl
  have rs := d.2.1
  have e5 : ExX σ σ5 N := ExX.of_fr f5 rfl
  obtain ⟨p1, p2, p3, p4, p5, p6, p7, p8, p9, p10, p11, p12, p13⟩ := b
  unfold x_solve_j191
  rw [w32_id (by omega) (by omega)]
  rintro s1 hs1
  refine ⟨by omega, ?_⟩
  rintro s2 hs2
  refine ⟨by omega, ?_⟩
  rintro s3 hs3
  have f3 : Fr ([121], [], [84, 85]) s s3 := ((Fr.rf.putI hs1 rfl).putA hs2 rfl).putA hs3 rfl
  refine ⟨L', d.around h1 (Fr.trans (f5.weak rfl) f1) (e5.trans p1 h1) (by rw [p7, f5.i _ rfl]) (fun j _ => by rw [p9, f5.a _ rfl]) f3 rfl rfl ?_ ?_ ?_ ?_ ?_ (fun i hi => ?_) (fun i hi => ?_) (fun i hi => ?_) (fun i hi => ?_)⟩
  · rw [f3.i _ rfl, rs.2.1, he, f5.i _ rfl]
  · rw [f3.i _ rfl, rs.2.2.1, hsh, f5.i _ rfl]
  · rw [hs3, hs2, hs1]; simp only [gI_pI, gI_pL, gI_pA, gL_pI, gL_pL, gL_pA, gA_pI, gA_pL, gA_pA]; rw [if_pos trivial]; omega
  · rw [f3.i _ rfl, rs.2.2.2.2.1, p5, f5.i _ rfl]
  · rw [f3.a _ rfl, rs.2.2.2.2.2.1, p6, f5.a _ rfl]
  · rw [f3.a _ rfl, rs.2.2.2.2.2.2.2.1 i (by rw [he, f5.i _ rfl]; exact hi), p10 i (by rw [f5.i _ rfl]; exact hi), f5.a _ rfl]
  · have a1 := rs.2.2.2.2.2.2.2.2.1 i (by rw [hsh, f5.i _ rfl]; exact hi)
    have a2 := p11 i (by rw [f5.i _ rfl]; exact hi)
    rw [f3.a _ rfl, f3.a _ rfl, f3.a _ rfl, a1.1, a1.2.1, a1.2.2, a2.1, a2.2.1, a2.2.2, f5.a _ rfl, f5.a _ rfl, f5.a _ rfl]
    exact ⟨rfl, rfl, rfl⟩
  · by_cases ei : i = gI σ 121 - 1
    · subst ei
      rw [hs3, hs2, hs1]
      simp [gI_pI, gI_pL, gI_pA, gL_pI, gL_pL, gL_pA, gA_pI, gA_pL, gA_pA]
    · have a1 := rs.2.2.2.2.2.2.2.2.2.1 i (by omega)
      have a2 := p12 i (by omega)
      rw [hs3, hs2, hs1]
      simp only [gI_pI, gI_pL, gI_pA, gL_pI, gL_pL, gL_pA, gA_pI, gA_pL, gA_pA]
      rw [if_neg (by omega), if_neg (by omega), if_neg (by omega), if_neg (by omega), a1.1, a1.2, a2.1, a2.2, f5.a _ rfl, f5.a _ rfl]
      exact ⟨rfl, rfl⟩
  · rw [f3.a _ rfl, rs.2.2.2.2.2.2.2.2.2.2.2 i (by rw [p5, f5.i _ rfl]; exact hi), p13 i (by rw [f5.i _ rfl]; exact hi), f5.a _ rfl]
theorem so_solve {M : Mo} {A : Int → Bool} {t0 : Tr} {P : Env → Prop} {o : Int} {σ0 : S} (c : cxX M A t0 P o σ0) : ∀ n : Nat, SoX M A t0 P o σ0 n := by
  intro n
  induction n using Nat.strongRecOn with
  | ind n IH =>
    intro σ gs ρ L h hP
    obtain ⟨mt, g1, g2, g3, g4, g5⟩ := h
    have xp := mt.1
    have rg := xp.rg
    have hM := xp.wm
    have ob := hM.2.2.1
    have hl := g1.len
    have hgl := wGs_len g2
    match n, g5 with
    | k + 1, g5 =>
    rw [xe_solve_0]
    unfold x_solve_F
    match gs, g1, g2, hl, g5, hP, hgl with
    | [], g1, g2, hl, g5, hP, hgl =>
      rw [if_pos (by simpa using hl)]
      refine fm_x_list (mt.list (hP ρ (Solv_nil.mpr rfl)) c.2.1 c.2.2.1) (fun r s f q => ?_) (fun s f q => ?_)
      · obtain ⟨L', d⟩ := q
        exact ⟨L', d.iff (fun ρ' => Solv_nil.symm)⟩
      · exact q.imp (fun ρ' => Solv_nil.mpr)
    | g :: gs, g1, g2, hl, g5, hP, hgl =>
      rw [List.length_cons] at hl hgl
      rw [if_neg (by omega)]
      rintro σ5 hs5
      rw [w32_id (by omega) (by omega)] at hs5
      have f5 : Fr ([121], [], []) σ σ5 := Fr.rf.putI hs5 rfl
      have e5 : ExX σ σ5 (inU M A t0) := ExX.of_fr f5 rfl
      have i5 : gI σ5 121 = gI σ 121 - 1 := by rw [hs5]; rfl
      have xp5 : XP M σ5 := xp.fr f5 rfl
      have mt5 : mtX M (inU M A t0) P o σ0 σ5 ρ L := mt.fr c.1 f5 rfl
      have okg := g2 g (List.mem_cons_self ..)
      have okgs : ∀ g ∈ gs, gOK M A t0 g := fun g hg => g2 g (List.mem_cons_of_mem _ hg)
      obtain ⟨-, hgo, hgs⟩ := g1
      have g15 : gsX M σ5 (gI σ5 121) gs := by
        rw [i5]
        exact hgs.kp (kpX.of_fr (N := inU M A t0) f5 rfl) (fun i _ => ⟨by rw [f5.a _ rfl], by rw [f5.a _ rfl]⟩)
      have sh5 : gI σ5 138 = gI σ 138 := f5.i _ rfl
      have el5 : gI σ5 134 = gI σ 134 := f5.i _ rfl
      rw [i5, f5.a 84 rfl, f5.a 85 rfl]
      have hgo5 := hgo.kp (kpX.of_fr (N := inU M A t0) f5 rfl)
      generalize hpv : gA σ 84 (gI σ 121 - 1) = p at hgo hgo5 ⊢
      generalize htv : gA σ 85 (gI σ 121 - 1) = t at hgo hgo5 ⊢
      have back : ∀ (s : S) (L' : List Env) (E : S → Prop), doneX M (inU M A t0) o σ5 L (Solv M (g :: gs) ρ) s L' → x_solve_j191 (x_S_solve k) (gI σ 121 - 1) p t s (fun _ s => ∃ L', doneX M (inU M A t0) o σ L (Solv M (g :: gs) ρ) s L') E := by
        intro s L' E d
        have := so_back (G := x_S_solve k) (E := E) rg.1 (by omega) (by omega) hs5 Fr.rf (blX.rf _ σ5) rfl rfl d
        rw [hpv, htv] at this
        exact this
      have back2 : ∀ (σ1 s : S) (L' : List Env) (E : S → Prop), Fr wX_solve σ5 σ1 → blX (inU M A t0) σ5 σ1 → gI σ1 134 = gI σ5 134 → gI σ1 138 = gI σ5 138 → doneX M (inU M A t0) o σ1 L (Solv M (g :: gs) ρ) s L' → x_solve_j191 (x_S_solve k) (gI σ 121 - 1) p t s (fun _ s => ∃ L', doneX M (inU M A t0) o σ L (Solv M (g :: gs) ρ) s L') E := by
        intro σ1 s L' E f1 b1 he hsh d
        have := so_back (G := x_S_solve k) (E := E) rg.1 (by omega) (by omega) hs5 f1 b1 he hsh d
        rw [hpv, htv] at this
        exact this
      rw [wGs_cons] at g5
      have hG := fo_x_S_solve k
      have w4 := wG_pos okg
      match g, okg, hgo5, hP, g5, back, back2, w4 with
      | .inr (tp, s, es), okg, ⟨lp, etp, hneg, shx⟩, hP, g5, back, back2, w4 =>
        have bp := lvX_b xp5 lp
        refine ⟨by omega, by omega, bp, ?_⟩
        rw [if_pos hneg]
        have kp := tX_kids xp5 lp
        rw [← kp.1, etp]
        have tb : -1000000 < t := by
          have := shx.2.1
          omega
        rw [w32_id (by omega) (by omega)]
        have w7 : 7 ≤ wG (.inr (tp, s, es)) := by
          obtain ⟨⟨hp, -, -⟩, -, -, hs, -⟩ := okg
          simp only [wG]
          have hq : (kids tp)[s] ∈ (kids tp).drop s := by
            rw [List.mem_drop_iff_getElem]
            exact ⟨0, by omega, by simp⟩
          have := trS_mem hq
          have := trS_pos (hp.kid (List.mem_of_mem_drop hq)).1
          omega
        obtain ⟨m, rfl⟩ : ∃ m, k = m + 2 := ⟨k - 2, by omega⟩
        have so := so_share (s := s) (es := es) (gs := gs) (ρ := ρ) (L := L) (σ := σ5) (f := lab tp) (p := p) (d := -1 - t) c (IH m (by omega)) mt5 g15 okgs (by omega) (by omega) lp (by rw [etp]) shx (by rw [etp]; exact okg) (by rw [etp, wGs_cons]; omega) (by rw [etp]; exact hP)
        rw [etp] at so
        refine hG _ _ _ _ _ _ _ so (fun r s2 f2 q => ?_) (fun s2 f2 q => q.pre rg.1 e5)
        obtain ⟨L', d⟩ := q
        exact back s2 L' _ d
      | .inl (tp, tt), okg, ⟨lp, etp, lt, ett⟩, hP, g5, back, back2, w4 =>
        have bp := lvX_b xp5 lp
        have bt := lvX_b xp5 lt
        refine ⟨by omega, by omega, bp, ?_⟩
        rw [if_neg (by omega)]
        have kp := tX_kids xp5 lp
        have kt := tX_kids xp5 lt
        have op := xp5.opr lp
        rw [moX_as xp5, moX_co xp5, moX_un xp5]
        subst etp ett
        by_cases hv : gA σ5 66 p < 0
        · rw [if_pos hv, w32_id (by omega) (by omega)]
          have hlp : lab (tX σ5 p) < 0 := by rw [kp.1]; exact hv
          have okp := okg.1.1.ok
          have hvm : Int.tmod (-1 - gA σ5 66 p) 30 < mVars M := by
            rcases okp with z | z
            · rw [← kp.1]; exact z.2.2.1
            · omega
          obtain ⟨m, rfl⟩ : ∃ m, k = m + 1 := ⟨k - 1, by omega⟩
          have hsol := fun ρ' => Solv_var (M := M) (p := tX σ5 p) (t := tX σ5 t) (gs := gs) (ρ := ρ) (ρ' := ρ') hlp
          rw [kp.1] at hsol
          have so := so_var (gs := gs) (ρ := ρ) (L := L) (σ := σ5) (v := -1 - gA σ5 66 p) (t := t) c (IH m (by omega)) ⟨mt5, g15, okgs, by omega, by omega, by omega⟩ (by omega) (by omega) hvm lt (Solv M (.inl (tX σ5 p, tX σ5 t) :: gs) ρ) hsol hP
          refine hG _ _ _ _ _ _ _ so (fun r s2 f2 q => ?_) (fun s2 f2 q => q.pre rg.1 e5)
          obtain ⟨L', d⟩ := q
          exact back s2 L' _ d
        · rw [if_neg hv]
          refine ⟨by omega, ?_⟩
          have hlp : 0 ≤ lab (tX σ5 p) := by rw [kp.1]; omega
          by_cases has : mAs M (gA σ5 66 p) = 0
          · rw [if_pos has]
            refine ⟨by omega, ?_⟩
            have two : (mCo M (gA σ5 66 p) ≠ 0 ∨ mUn M (gA σ5 66 p) ≠ -2) → x_solve_j126 (x_S_solve k) (gI σ 121 - 1) p t (gA σ5 66 p) σ5 (fun _ s => ∃ L', doneX M (inU M A t0) o σ L (Solv M (.inl (tX σ5 p, tX σ5 t) :: gs) ρ) s L') (fun s => overX M (inU M A t0) σ L (Solv M (.inl (tX σ5 p, tX σ5 t) :: gs) ρ) s) := by
              intro h2
              have w11 : 18 ≤ wG (.inl (tX σ5 p, tX σ5 t)) := by
                have hl2 : (kids (tX σ5 p)).length = 2 := by
                  have e := okg.1.1.len hlp (by rw [kp.1]; exact has)
                  have op' := hM.op (o := lab (tX σ5 p)) hlp (okg.1.1.op hlp)
                  rw [kp.1] at e op'
                  rcases h2 with z | z
                  · have := op'.2.2.2.2.2.1 z; omega
                  · rcases op'.2.2.2.2.2.2.1 with y | y
                    · exact absurd y z
                    · omega
                have := trS_len (ts := kids (tX σ5 p)) (fun t ht => (okg.1.1.kid ht).1)
                have := trS_eta okg.1.1
                simp only [wG]
                omega
              obtain ⟨m, rfl⟩ : ∃ m, k = m + 2 := ⟨k - 2, by omega⟩
              have so := so_two (gs := gs) (ρ := ρ) (L := L) (σ := σ5) (f := gA σ5 66 p) (p := p) (t := t) c (IH m (by omega)) mt5 g15 okgs (by omega) (by omega) lp lt kp.1 (by omega) has h2 okg (by rw [wGs_cons]; omega) hP
              unfold x_solve_j126
              refine hG _ _ _ _ _ _ _ so (fun r s2 f2 q => ?_) (fun s2 f2 q => q.pre rg.1 e5)
              obtain ⟨L', d⟩ := q
              exact back s2 L' _ d
            by_cases hco : mCo M (gA σ5 66 p) = 0
            · rw [if_pos hco]
              refine ⟨by omega, ?_⟩
              by_cases hun : mUn M (gA σ5 66 p) = -2
              · rw [if_pos hun]
                refine ⟨bt, ?_⟩
                have hsol := fun ρ' => Solv_plain (M := M) (p := tX σ5 p) (t := tX σ5 t) (gs := gs) (ρ := ρ) (ρ' := ρ') hlp (by rw [kp.1]; exact has)
                rw [kp.1, kt.1] at hsol
                by_cases hw : gA σ5 66 t = gA σ5 66 p
                · rw [if_pos hw]
                  refine ⟨bp, ?_⟩
                  have hsol' : ∀ ρ', Solv M (.inl (tX σ5 p, tX σ5 t) :: gs) ρ ρ' ↔ Solv M (pairG (kids (tX σ5 p)) (kids (tX σ5 t)) ++ gs) ρ ρ' := by
                    intro ρ'
                    rw [hsol ρ']
                    constructor
                    · rintro (z | z | z)
                      · exact z.2
                      · exact absurd hco z.2.1
                      · exact absurd hun z.1
                    · exact fun z => Or.inl ⟨hw, z⟩
                  have lens : (kids (tX σ5 p)).length = (kids (tX σ5 t)).length := by
                    have e1 := okg.1.1.len hlp (by rw [kp.1]; exact has)
                    have e2 := okg.2.1.len (by rw [kt.1, hw, ← kp.1]; exact hlp) (by rw [kt.1, hw]; exact has)
                    rw [kp.1] at e1
                    rw [kt.1, hw] at e2
                    omega
                  have ap := xp5.at lp
                  rw [w32_id (by omega) (by omega)]
                  refine lx_solve_L158 hG (fun v s => ∃ i : Nat, v = (i : Int) - 1 ∧ i ≤ (kids (tX σ5 p)).length ∧ Fr ([121], [], [84, 85]) σ5 s ∧ blX (inU M A t0) σ5 s ∧ gI s 121 = gI σ5 121 + (((kids (tX σ5 p)).length : Int) - i) ∧ gsX M s (gI s 121) (pairG ((kids (tX σ5 p)).drop i) ((kids (tX σ5 t)).drop i) ++ gs)) (fun v _ => (v + 1).toNat) ⟨(kids (tX σ5 p)).length, by omega, by omega, Fr.rf, blX.rf _ _, by omega, ?_⟩ ?_
                  · rw [List.drop_length]
                    simpa [pairG] using g15
                  rintro v s1 fr ⟨i, rfl, hi, f1, b1, hg1, gg1⟩
                  try dsimp only
                  by_cases hneg : (i : Int) - 1 < 0
                  · rw [if_pos hneg]
                    have i0 : i = 0 := by omega
                    subst i0
                    rw [List.drop_zero, List.drop_zero] at gg1
                    unfold x_solve_j187
                    have xp1 : XP M s1 := xp5.fr f1 rfl
                    have e51 := b1.1
                    have wp := trS_eta okg.1.1
                    have pw := pairG_w (kids (tX σ5 p)) (kids (tX σ5 t))
                    refine hG _ _ _ _ _ _ _ (IH k (by omega) s1 _ ρ L ⟨mt5.bl c.1 xp1 b1 f1 rfl, gg1, ?_, ?_, ?_, ?_⟩ (fun ρ' h => hP ρ' ((hsol' ρ').mpr h))) (fun r s2 f2 q => ?_) (fun s2 f2 q => ?_)
                    · intro g hg
                      rcases List.mem_append.mp hg with z | z
                      · exact pairG_gOK (fun q hq => kid_ok okg.1 hq) (fun u hu => term_kid c.2.2.2.2 okg.2 hu) g z
                      · exact okgs g z
                    · rw [f1.i _ rfl]; omega
                    · rw [f1.i _ rfl]; omega
                    · rw [wGs_app]
                      simp only [wG] at g5
                      omega
                    · obtain ⟨L', d⟩ := q
                      exact back2 s1 s2 L' _ (f1.weak rfl) b1 (f1.i _ rfl) (f1.i _ rfl) (d.iff (fun ρ' => (hsol' ρ').symm))
                    · exact ((q.imp (fun ρ' => (hsol' ρ').mpr)).pre xp5.rg.1 e51).pre rg.1 e5
                  · rw [if_neg hneg]
                    obtain ⟨j, rfl⟩ : ∃ j, i = j + 1 := ⟨i - 1, by omega⟩
                    have xp1 : XP M s1 := xp5.fr f1 rfl
                    have lp1 := b1.1.lv lp
                    have lt1 := b1.1.lv lt
                    have hjp : j < (kids (tX σ5 p)).length := by omega
                    have hjt : j < (kids (tX σ5 t)).length := by omega
                    have kq := tX_kid xp1 lp1 (k := j) (q := (kids (tX σ5 p))[j]) (by rw [b1.1.t lp]; exact List.getElem?_eq_getElem hjp)
                    have ku := tX_kid xp1 lt1 (k := j) (q := (kids (tX σ5 t))[j]) (by rw [b1.1.t lt]; exact List.getElem?_eq_getElem hjt)
                    have ej : ((j + 1 : Nat) : Int) - 1 = (j : Int) := by omega
                    rw [ej]
                    refine xs_at xp1 lp1 (by omega) kq.1 ?_
                    refine xs_at xp1 lt1 (by omega) ku.1 ?_
                    refine xs_goal (by omega) (by omega) (fun s2 f2 b2 e2 x2 y2 => ?_)
                    have b2' := b2 (inU M A t0)
                    rw [w32_id (by omega) (by omega)]
                    refine ⟨⟨j, by omega, by omega, f1.trans f2, b1.trans b2' xp5.rg.1, by omega, ?_⟩, by omega⟩
                    rw [List.drop_eq_getElem_cons hjp, List.drop_eq_getElem_cons hjt]
                    simp only [pairG, List.zipWith_cons_cons, List.cons_append]
                    exact gg1.push b2' e2 x2 y2 ⟨b2'.1.lv kq.2.1, (b2'.1.t kq.2.1).trans kq.2.2, b2'.1.lv ku.2.1, (b2'.1.t ku.2.1).trans ku.2.2⟩
                · rw [if_neg hw]
                  refine back σ5 L _ ((doneX.none xp5 mt5.2.2.2.2.2.2.2.1).iff (fun ρ' => ⟨False.elim, fun h => ?_⟩))
                  rcases (hsol ρ').mp h with z | z | z
                  · exact hw z.1
                  · exact hw z.1
                  · exact z.1 hun
              · rw [if_neg hun]
                exact two (Or.inr hun)
            · rw [if_neg hco]
              exact two (Or.inl hco)
          · rw [if_neg has]
            have w11 : 18 ≤ wG (.inl (tX σ5 p, tX σ5 t)) := by
              have hl2 : 2 ≤ (kids (tX σ5 p)).length := by
                rcases okg.1.1.ok with z | z
                · omega
                · rw [kp.1, if_pos has] at z
                  exact z.2.2.1.1
              have := trS_len (ts := kids (tX σ5 p)) (fun t ht => (okg.1.1.kid ht).1)
              have := trS_eta okg.1.1
              simp only [wG]
              omega
            obtain ⟨m, rfl⟩ : ∃ m, k = m + 3 := ⟨k - 3, by omega⟩
            have so := so_assoc (gs := gs) (ρ := ρ) (L := L) (σ := σ5) (f := gA σ5 66 p) (p := p) (t := t) c (IH m (by omega)) mt5 g15 okgs (by omega) (by omega) lp lt kp.1 (by omega) has okg (by rw [wGs_cons]; omega) hP
            refine hG _ _ _ _ _ _ _ so (fun r s2 f2 q => ?_) (fun s2 f2 q => q.pre rg.1 e5)
            obtain ⟨L', d⟩ := q
            exact back s2 L' _ d

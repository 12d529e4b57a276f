/-! RewriteHouse: all ways in which a rule's conditions hold -/
theorem xe_allWays (n : Nat) (a b c : Int) (σ : S) (Q : Int → S → Prop) (E : S → Prop) : x_S_allWays (n + 1) 0 [a, b, c] σ Q E = x_allWays_F (x_S_allWays n) a b c σ Q E := rfl
theorem xe_rulesAt (n : Nat) (a : Int) (σ : S) (Q : Int → S → Prop) (E : S → Prop) : x_S_rulesAt (n + 1) 0 [a] σ Q E = x_rulesAt_F (x_S_rulesAt n) a σ Q E := rfl
section
variable {M : Mo} {R : Ru} {mo : Int} {σ0 : S} {a0 r0 : Int}
theorem max10 : max (1 : Int) 0 = 1 := by omega
theorem rdx_top (c : cxR M R mo σ0 a0 r0) (hOt : isOt M) : RDX M R mo σ0 a0 r0 (x_S_toRest 719) 0 := by
  intro σ st x ρ h w lx hb hρ hv si
  rw [xe_toRest_5]
  exact xs_reduced c (fo_x_S_toRest 718) (by rw [max10]; exact xs_group c hOt 60 1 (by omega) (by omega) 718 (by omega)) h w lx hb hρ hv si
theorem xs_isTrueT (c : cxR M R mo σ0 a0 r0) (hOt : isOt M) {σ : S} {st : ST} {s cc : Int} {ρ : Env} (hs : stX M s) (c0 : 0 ≤ cc) (c1 : cc < mCn M s) (hm : mCs M (6 * s + cc) ≠ 1) (h : XR M R mo σ0 st σ) (w : WI M R a0 r0 0 0 st) (hb : ∀ v, 0 ≤ v → v < 60 → olX σ (gA σ 83 v)) (hρ : bX0 σ = ρ) (ei : EI M R s cc ρ) (ek : EK M st ρ) (si : SI 0 σ) :
    x_isTrue (6 * s + cc) σ (fun r s' => ∃ st' b, isTrueE M R (RE (Wr M R mo) 1) (6 * s + cc) ρ st (.inr (b, st')) ∧ r = (if b = true then 1 else 0) ∧ okX M R mo σ0 σ st' s' ∧ ∀ v, 0 ≤ v → v < 60 → gA s' 83 v = gA σ 83 v) (fun s' => isTrueE M R (RE (Wr M R mo) 1) (6 * s + cc) ρ st (.inl (gI s' 1006, gI s' 131)) ∧ noX M σ s') := by
  have := xs_isTrue c (fo_x_S_toRest 719) (rdx_top c hOt) hs c0 c1 hm h w hb hρ ei ek si
  rw [max10] at this
  exact this
theorem xs_matchCondT (c : cxR M R mo σ0 a0 r0) (hOt : isOt M) {σ : S} {st : ST} {s cc : Int} {ρ : Env} (hs : stX M s) (c0 : 0 ≤ cc) (c1 : cc < mCn M s) (hm : mCs M (6 * s + cc) = 1) (h : XR M R mo σ0 st σ) (w : WI M R a0 r0 0 0 st) (hb : ∀ v, 0 ≤ v → v < 60 → olX σ (gA σ 83 v)) (hρ : bX0 σ = ρ) (ei : EI M R s cc ρ) (ek : EK M st ρ) (si : SI 0 σ) :
    x_matchCondition (6 * s + cc) σ (fun r s' => ∃ st' L, mcE M R mo (RE (Wr M R mo) 1) (6 * s + cc) ρ st (.inr (L, st')) ∧ r = (L.length : Int) ∧ LX (lab (ruC R (6 * s + cc))) s' L ∧ okX M R mo σ0 σ st' s' ∧ gI σ 123 + (L.length : Int) ≤ stQ st') (fun s' => mcE M R mo (RE (Wr M R mo) 1) (6 * s + cc) ρ st (.inl (gI s' 1006, gI s' 131)) ∧ noX M σ s') := by
  have := xs_matchCondition c (fo_x_S_toRest 719) (rdx_top c hOt) hs c0 c1 hm h w hb hρ ei ek si
  rw [max10] at this
  exact this
/-- what is bound kept for a run, and taken back -/
theorem okX.kept {σ t6 t7 t10 : S} {st2 st3 : ST} (hn0 : 1 ≤ gI σ0 93) (hn : 1 ≤ gI σ 93) (f6 : Fr ([143], [], [92]) σ t6) (v1 : gI t6 143 = gI σ 143 + 60) (v2 : ∀ j, j < gI σ 143 → gA t6 92 j = gA σ 92 j) (k7 : okX M R mo σ0 t6 st3 t7) (f10 : Fr ([143], [], [83]) t7 t10) (u1 : gI t10 143 = gI t7 143 - 60) : okX M R mo σ0 σ st3 t10 := by
  obtain ⟨h7, g7, ⟨⟨y1, y2, y3, y4, y5, y6, y7⟩, z1, z2, z3, z4⟩, n7, m7⟩ := k7
  have h10 : XR M R mo σ0 st3 t10 := h7.fr hn0 f10 rfl rfl rfl rfl rfl (leS.rf _) (by
    obtain ⟨⟨d1, d2, d3, d4, d5⟩, d⟩ := h7.2.2.2.1
    exact ⟨⟨by rw [f10.i _ rfl, d1], by rw [f10.i _ rfl, d2], by rw [f10.i _ rfl, d3], by rw [f10.l _ rfl, d4], by rw [f10.l _ rfl, d5]⟩, d⟩)
  have g6 : gwX σ t6 := EyX.of_fr f6 rfl
  refine ⟨h10, (g6.trans g7 hn).trans (EyX.of_fr f10 rfl) hn, ⟨⟨?_, ?_, ?_, ?_, ?_, ?_, ?_⟩, fun j hj => ?_, fun j hj => ?_, fun j hj => ?_, fun j hj => ?_⟩, ?_, ?_⟩
  · rw [f10.i _ rfl, y1, f6.i _ rfl]
  · rw [f10.i _ rfl, y2, f6.i _ rfl]
  · rw [u1, y3, v1]; omega
  · rw [f10.i _ rfl, y4, f6.i _ rfl]
  · rw [f10.i _ rfl, y5, f6.i _ rfl]
  · rw [f10.i _ rfl, y6, f6.i _ rfl]
  · rw [f10.i _ rfl, y7, f6.i _ rfl]
  · rw [f10.a _ rfl, z1 j (by rw [f6.i _ rfl]; exact hj), f6.a _ rfl]
  · rw [f10.a _ rfl, z2 j (by rw [f6.i _ rfl]; exact hj), f6.a _ rfl]
  · rw [f10.a _ rfl, z3 j (by omega), v2 j hj]
  · rw [f10.a _ rfl, z4 j (by rw [f6.i _ rfl]; exact hj), f6.a _ rfl]
  · rw [← f6.i 131 rfl]; exact n7
  · rw [← f6.i 128 rfl]; exact m7
theorem XR.fr2 {st : ST} {σ s : S} {w : List Nat × List Nat × List Nat} (hn : 1 ≤ gI σ0 93) (h : XR M R mo σ0 st σ) (f : Fr w σ s) (hw : apt w XPi (XPm ++ XPa) = true) (hw2 : apt w [93] [66, 67, 68, 73, 75] = true) (hw3 : apt w [93] [66, 67, 68, 73] = true) (hw4 : apt w [] [78, 79, 80, 81] = true) (hw5 : apt w [131, 132, 128] [] = true) (hw6 : w.2.1.contains 129 = false) (hw7 : w.2.1.contains 130 = false) : XR M R mo σ0 st s :=
  h.fr hn f hw hw2 hw3 hw4 rfl (leS.rf _) (by
    have hi := apt_i hw5 f
    simp only [List.forall_mem_cons] at hi
    obtain ⟨⟨d1, d2, d3, d4, d5⟩, d⟩ := h.2.2.2.1
    exact ⟨⟨by rw [hi.1, d1], by rw [hi.2.1, d2], by rw [hi.2.2.1, d3], by rw [f.l _ hw6, d4], by rw [f.l _ hw7, d5]⟩, d⟩)
/-- a matcher's row -/
def mrX (σ : S) (row : Int) (ρm : Env) : Prop := (0 ≤ row ∧ row + 1 ≤ gI σ 123) ∧ (olX σ (gA σ 86 (62 * row + 60)) ∧ oX σ (gA σ 86 (62 * row + 60)) = ρm 60) ∧ olX σ (gA σ 86 (62 * row + 61)) ∧ oX σ (gA σ 86 (62 * row + 61)) = ρm 61
theorem mrX.to {σ s : S} {row : Int} {ρm : Env} (h : mrX σ row ρm) (g : gwX σ s) (e : gI σ 123 ≤ gI s 123) (k : ∀ j, j < 62 * gI σ 123 → gA s 86 j = gA σ 86 j) : mrX s row ρm := by
  obtain ⟨⟨a, b⟩, ⟨c1, c2⟩, d1, d2⟩ := h
  have x := oX_ey g c1
  have y := oX_ey g d1
  refine ⟨⟨a, by omega⟩, ?_, ?_⟩
  · rw [k _ (by omega)]
    exact ⟨x.1, x.2.trans c2⟩
  · rw [k _ (by omega)]
    exact ⟨y.1, y.2.trans d2⟩
def WYX (M : Mo) (R : Ru) (mo : Int) (σ0 : S) (a0 r0 s : Int) (π : Pth) (r : Tr) (ρm : Env) (k n : Nat) : Prop :=
  ∀ (σ : S) (st : ST) (c row : Int) (ρ : Env) (fl : FL), c + (k : Int) = mCn M s → 0 ≤ c → XR M R mo σ0 st σ → WI M R a0 r0 0 0 st → DR M st r → (∀ v, 0 ≤ v → v < 60 → olX σ (gA σ 83 v)) → bX0 σ = ρ → EI M R s c ρ → EK M st ρ → EK M st ρm → RI c σ → flX σ fl → flK M st fl → ptX σ π → gI σ 149 = (π.length : Int) → mrX σ row ρm →
    x_S_allWays n 0 [s, c, row] σ (fun _ s' => ∃ st' fl', waysE M R mo (RE (Wr M R mo) 0) (RE (Wr M R mo) 1) s π ρm k c ρ fl st (.inr (fl', st')) ∧ okX M R mo σ0 σ st' s' ∧ flX s' fl') (fun s' => waysE M R mo (RE (Wr M R mo) 0) (RE (Wr M R mo) 1) s π ρm k c ρ fl st (.inl (gI s' 1006, gI s' 131)) ∧ noX M σ s')
theorem RI.up {k k' : Int} {σ : S} (h : RI k σ) (hk : k ≤ k') : RI k' σ := by
  obtain ⟨h1, h2, h3, h4, h5⟩ := h
  exact ⟨h1, h2, h3, by omega, h5⟩
theorem xs_allWays (c : cxR M R mo σ0 (a0 + 50) (r0 + 50)) (hOt : isOt M) {s : Int} (hs : stX M s) {π : Pth} {x0 r : Tr} {ρm : Env} (hr : okT M r) (hc : pthC π x0 r) (lm : LM M R s ρm) : ∀ (k n : Nat), k + 1 ≤ n → WYX M R mo σ0 a0 r0 s π r ρm k n := by
  have hM := c.1.wm
  have hE := hE_of c
  have hn0 := c.2.1.1
  have c0' : cxR M R mo σ0 a0 r0 := c.weak (by omega) (by omega)
  have sr := stX_rg hM hs
  have rok := c.2.2.1 s hs
  have cm := rok.2.2.2.1
  have slb : inb s 70 := ⟨by omega, by omega⟩
  intro k
  induction k with
  | zero =>
    intro n hn σ st cc row ρ fl ck cc0 h w dr hb hρ ei ek km ri hf hfk pt pm mr
    obtain ⟨m, rfl⟩ : ∃ m, n = m + 1 := ⟨n - 1, by omega⟩
    have rg := h.1.rg
    rw [xe_allWays]
    unfold x_allWays_F
    refine ⟨slb, ?_⟩
    have eC : gA σ 32 s = mCn M s := by rw [← h.1.mo]; rfl
    rw [eC, if_pos (by omega)]
    refine ⟨slb, ?_⟩
    have ecc : cc = mCn M s := by omega
    subst ecc
    have rv := fun v v0 ho => EK.at ei ek (rok.2.2.1 v v0 ho)
    obtain ⟨lR, eR⟩ := (h.2.2.2.2 s hs).2.1
    refine fm_x_countFilled (cnt_step c0' h w lR eR (fun v v0 ho => (rv v v0 ho).1)) (fun _ t33 f33 q => ?_) (fun t33 f33 q => ⟨bnd_inl q.1, q.2⟩)
    obtain ⟨st1, ec, k33, w1, l1, w1A, fr33⟩ := q
    obtain ⟨⟨lL2, eL2⟩, ⟨lR2, eR2⟩, -⟩ := k33.1.2.2.2.2 s hs
    have hb33 := bX0_ey k33.2.1 hb (fun v _ _ => by rw [fr33.a _ rfl])
    have mr33 := mr.to k33.2.1 (by rw [fr33.i _ rfl]; exact Int.le_refl _) (fun j _ => by rw [fr33.a _ rfl])
    have wa : w32 (w32 (62 * row) + 60) = 62 * row + 60 := by
      have := mr.1
      have := ri.2.2.2.2.1
      have := h.2.2.2.1.1.2.2.1
      have := h.2.2.2.1.2.2.2.1
      simp (disch := omega) only [w32_id]
    have bnds : 0 ≤ 62 * row + 60 ∧ 62 * row + 61 < 409200 := by
      have := mr.1
      have := ri.2.2.2.2.1
      have := h.2.2.2.1.1.2.2.1
      have := h.2.2.2.1.2.2.2.1
      omega
    have wb : w32 (62 * row + 60 + 1) = 62 * row + 61 := by rw [w32_id (by omega) (by omega)]; omega
    rw [wa, wb]
    refine ⟨slb, ⟨by have := lL2.1; omega, by have := lL2.2; have := k33.1.1.rg; omega⟩, ⟨by omega, by omega⟩, slb, ?_⟩
    have si33 := (ri.next k33).si k33.1 (by omega)
    refine fm_x_filled (fil_step c0' k33.1 w1A lR2 eR2 hb33.2 (hb33.1.trans hρ) (fun v v0 ho => (rv v v0 ho).1) si33) (fun r44 t43 f43 q => ?_) (fun t43 f43 q => ⟨bnd_inr ec (bnd_inl q.1), q.2.pre rg.1 k33⟩)
    obtain ⟨ep, l44, k43, -⟩ := q
    refine ⟨⟨by omega, by omega⟩, ?_⟩
    have k43' := okX.trans rg.1 k33 k43
    have eW : gA t33 66 (gA t33 78 s) = lab (ruL R s) := by rw [← eL2, tX_row k33.1.1 lL2, lab_N]
    rw [eW]
    have mr43 := mr33.to k43.2.1 (by rw [k43.2.2.1.1.2.2.2.1]; exact Int.le_refl _) (fun j hj => k43.2.2.1.2.2.2.2 j hj)
    have e60 : gA t33 86 (62 * row + 60) = gA t43 86 (62 * row + 60) := (k43.2.2.1.2.2.2.2 _ (by have := mr33.1; omega)).symm
    rw [e60]
    obtain ⟨w2, l2, kv, ov, -, -⟩ := cp_wi hM rok.2.1 (Int.le_refl _) rv w ec ep
    have ar : ∀ i, (ρm i = .nil ∨ okT M (ρm i)) → (ρm i = .nil ∨ (okT M (ρm i) ∧ KH M (addA st1 (filA M ρ (ruR R s))) (ρm i))) := by
      intro i hi
      rcases hi with e | e
      · exact Or.inl e
      · rcases (km.le l2) i with q | q
        · exact Or.inl q
        · exact Or.inr ⟨e, q.2⟩
    have si43 := ((ri.next k33).next k43).si k43.1 (by omega)
    refine fm_x_beside (bes_step c0' k43.1 w1A l44 rfl mr43.2.1.1 mr43.2.1.2 mr43.2.2.1 mr43.2.2.2 lm.2.2.2 (rok.1.1.1.op rok.1.2) lm.2.1 lm.2.2.1 si43) (fun r49 t48 f48 q => ?_) (fun t48 f48 q => ⟨bnd_inr ec (bnd_inr ep (bnd_inl q.1)), q.2.pre rg.1 k43'⟩)
    obtain ⟨st3, eb, l49, k48, ls48⟩ := q
    have k48' := okX.trans rg.1 k43' k48
    obtain ⟨w3, l3, ky, oy⟩ := besE_wi (a0 := a0) (r0 := r0) hM (rok.1.1.1.op rok.1.2) (ar 60 lm.2.1) ⟨ov, kv⟩ (ar 61 lm.2.2.1) lm.2.2.2 w2 eb
    have l23 := l2.trans l3
    have wr : w32 (s - 40) = s - 40 := w32_id (by omega) (by omega)
    rw [wr]
    have pt48 : ptX t48 π := pt.to k48'.2.1 (fun j _ _ => ⟨by rw [f48.a _ rfl, f43.a _ rfl, f33.a _ rfl], by rw [f48.a _ rfl, f43.a _ rfl, f33.a _ rfl]⟩)
    have pm48 : gI t48 149 = (π.length : Int) := by rw [f48.i _ rfl, f43.i _ rfl, f33.i _ rfl, pm]
    have fl48 : flX t48 fl := hf.to k48'.2.1 (by rw [f48.i _ rfl, f43.i _ rfl, f33.i _ rfl]) (by rw [f48.a _ rfl, f43.a _ rfl, f33.a _ rfl]) (by rw [f48.a _ rfl, f43.a _ rfl, f33.a _ rfl])
    refine fm_x_found (xs_found c hOt k48.1 w3 l49 rfl hr (dr.1.KH.le l23 hr.1.1) hc ky pt48 pm48 ((ri.next k48').up (by omega)) fl48) (fun _ t51 f51 q => ?_) (fun t51 f51 q => ⟨bnd_inr ec (bnd_inr ep (bnd_inr eb q.1)), q.2.pre rg.1 k48'⟩)
    obtain ⟨st', fl', e, kf, hf'⟩ := q
    exact ⟨st', fl', bnd_inr ec (bnd_inr ep (bnd_inr eb e)), okX.trans rg.1 k48' kf, hf'⟩
  | succ k ih =>
    intro n hn σ st cc row ρ fl ck cc0 h w dr hb hρ ei ek km ri hf hfk pt pm mr
    obtain ⟨m, rfl⟩ : ∃ m, n = m + 1 := ⟨n - 1, by omega⟩
    have rg := h.1.rg
    have cq := h.2.2.2.1
    rw [xe_allWays]
    unfold x_allWays_F
    refine ⟨slb, ?_⟩
    have eC : gA σ 32 s = mCn M s := by rw [← h.1.mo]; rfl
    rw [eC, if_neg (by omega)]
    have wk : w32 (w32 (6 * s) + cc) = 6 * s + cc := by simp (disch := omega) only [w32_id]
    have wc : w32 (cc + 1) = cc + 1 := w32_id (by omega) (by omega)
    rw [wk]
    refine ⟨⟨by omega, by omega⟩, ?_⟩
    have eS : gA σ 33 (6 * s + cc) = mCs M (6 * s + cc) := by rw [← h.1.mo]; rfl
    rw [eS]
    have hC := rok.2.2.2.2 cc cc0 (by omega)
    by_cases z : mCs M (6 * s + cc) = 1
    · rw [if_pos z]
      obtain ⟨r1, r2, r3, r4, r5, r6, r7⟩ := id ri
      refine fm_x_keepBound (xs_keepBound (by omega) (by omega)) (fun _ t10 f10 q => ?_)
      obtain ⟨f10', v1, v2, v3⟩ := q
      have h10 : XR M R mo σ0 st t10 := h.fr2 hn0 f10' rfl rfl rfl rfl rfl rfl rfl
      have g10 : gwX σ t10 := EyX.of_fr f10' rfl
      have hb10 := bX0_ey g10 hb (fun v _ _ => by rw [f10'.a _ rfl])
      have ri10 : RI (cc + 1) t10 := ⟨by rw [f10'.i _ rfl, r1], by rw [f10'.i _ rfl, r2], by rw [f10'.i _ rfl, r3], by omega, by rw [f10'.i _ rfl, f10'.i 128 rfl]; exact r5, by rw [f10'.i _ rfl, r6], by rw [f10'.i _ rfl, r7]⟩
      have O := hC.2.1 (by omega)
      refine fm_x_matchCondition (xs_matchCondT c0' hOt hs cc0 (by omega) z h10 w hb10.2 (hb10.1.trans hρ) ei ek (ri10.si h10 (by omega))) (fun r12 t11 f11 q => ?_) (fun t11 f11 q => ⟨Or.inl ⟨z, bnd_inl q.1⟩, q.2.1, g10.trans q.2.2 rg.1⟩)
      obtain ⟨st1, L, em, rfl, lx, k11, lq⟩ := q
      obtain ⟨w1, l1, ekL⟩ := mcE_wi hM (RE_wi (mo := mo) hM hE 1) hC.1 O.1 (fun v v0 ho => EK.at ei ek (O.2 v v0 ho)) ei.1 ek w em
      have vL := mcE_val hM hE (RE_sn (mo := mo) hM hE 1) rok cc0 (by omega) z ei ek w em
      obtain ⟨lf0, hlf0⟩ : ∃ z, z = gI t11 123 := ⟨_, rfl⟩
      have lf10 : gI t10 123 = lf0 := by rw [hlf0, k11.2.2.1.1.2.2.2.1]
      have elf : gI σ 123 = lf0 := by rw [← lf10, f10'.i _ rfl]
      rw [elf]
      have lx2 := lx.2.1
      have lx0 := lx.1
      have lxl := lx.2.2.2.1
      rw [← hlf0] at lx2 lx0
      rw [lf10] at lq
      have stq : stQ st1 ≤ 6000 := k11.1.2.2.2.1.2.2.2.1.2
      have g11n := k11.1.1.rg.1
      have ri11 := ri10.next k11
      have l10n := h10.1.rg.1
      have hf11 : flX t11 fl := hf.to (g10.trans k11.2.1 rg.1) (by rw [f11.i _ rfl, f10'.i _ rfl]) (by rw [f11.a _ rfl, f10'.a _ rfl]) (by rw [f11.a _ rfl, f10'.a _ rfl])
      have pt11 : ptX t11 π := pt.to (g10.trans k11.2.1 rg.1) (fun j _ _ => ⟨by rw [f11.a _ rfl, f10'.a _ rfl], by rw [f11.a _ rfl, f10'.a _ rfl]⟩)
      have pm11 : gI t11 149 = (π.length : Int) := by rw [f11.i _ rfl, f10'.i _ rfl, pm]
      have mr11 : mrX t11 row ρm := (mr.to g10 (by rw [f10'.i _ rfl]; exact Int.le_refl _) (fun j _ => by rw [f10'.a _ rfl])).to k11.2.1 (by rw [k11.2.2.1.1.2.2.2.1]; exact Int.le_refl _) (fun j hj => k11.2.2.1.2.2.2.2 j hj)
      refine lx_allWays_L143 (fo_x_S_allWays m) (fun v7 s' => ∃ i : Nat, v7 = (i : Int) ∧ i ≤ L.length ∧ lf0 ≤ gI s' 123 ∧ (∀ j, j < 62 * (lf0 + L.length) → gA s' 86 j = gA t11 86 j) ∧ ∃ sti fli, okX M R mo σ0 t11 sti (pI s' 123 lf0) ∧ flX s' fli ∧ wiF M R a0 r0 st1 sti fli ∧ ∀ o, eachE (fun ρ1 fl st o => waysE M R mo (RE (Wr M R mo) 0) (RE (Wr M R mo) 1) s π ρm k (cc + 1) (cut ρ1) fl st o) (L.drop i) fli sti o → eachE (fun ρ1 fl st o => waysE M R mo (RE (Wr M R mo) 0) (RE (Wr M R mo) 1) s π ρm k (cc + 1) (cut ρ1) fl st o) L fl st1 o)
        (fun v7 _ => (L.length + 1 - v7.toNat)) ⟨0, rfl, by omega, by omega, fun j _ => rfl, st1, fl, by rw [pI_same hlf0.symm]; exact okX.rf k11.1, hf11, ⟨w1, leS.rf _, hfk.le l1⟩, fun o ho => by simpa using ho⟩ ?_
      rintro v7 s' fr0 ⟨i, rfl, hi, hlf, hlist, sti, fli, ko, hfi, ⟨wi, li, fki⟩, hfo⟩
      try dsimp only
      obtain ⟨s2, hs2⟩ : ∃ z, z = pI s' 123 lf0 := ⟨_, rfl⟩
      rw [← hs2] at ko
      have fs2 : Fr ([123], [], []) s' s2 := Fr.rf.putI hs2 rfl
      by_cases yy : (i : Int) < (L.length : Int)
      · rw [if_pos yy]
        obtain ⟨ρ1, hρ1⟩ : ∃ ρ1, L[i]? = some ρ1 := by
          rw [List.getElem?_eq_getElem (by omega)]; exact ⟨_, rfl⟩
        have mem1 : ρ1 ∈ L := List.mem_of_getElem? hρ1
        have wv : w32 (lf0 + (i : Int)) = lf0 + i := w32_id (by omega) (by omega)
        have wl : w32 (lf0 + (L.length : Int)) = lf0 + L.length := w32_id (by omega) (by omega)
        have wi1 : w32 ((i : Int) + 1) = ((i + 1 : Nat) : Int) := by rw [w32_id (by omega) (by omega)]; omega
        rw [wv, wl, wc, wi1]
        refine fm_x_takeRow (xs_takeRow (by omega) (by omega)) (fun _ t19 f19 q => ?_)
        obtain ⟨f19', b19⟩ := q
        rintro t20 ht20
        -- from s2 to t20
        have f20 : Fr ([123], [], [83]) s2 t20 := by
          have a : Fr ([123], [], [83]) s' t20 := (f19'.weak rfl).putI ht20 rfl
          refine ⟨fun j hj => ?_, fun j hj => ?_, fun j hj => ?_⟩
          · rw [a.1 j hj, fs2.1 j hj]
          · rw [a.2.1 j rfl, fs2.2.1 j rfl]
          · rw [a.2.2 j hj, fs2.2.2 j rfl]
        have h20 : XR M R mo σ0 sti t20 := ko.1.fr2 hn0 f20 rfl rfl rfl rfl rfl rfl rfl
        have g20 : gwX t11 t20 := ko.2.1.trans (EyX.of_fr f20 rfl) g11n
        have lf20 : gI t20 123 = lf0 + L.length := by rw [ht20]; simp only [gI_pI, gI_pL, gI_pA, gL_pI, gL_pL, gL_pA, gA_pI, gA_pL, gA_pA]; rw [if_pos trivial]
        have e1920 : ∀ a, gA t20 a = gA t19 a := fun a => by rw [ht20]; rfl
        have env := take_env lx hlf0.symm hρ1 g20 (fun v v0 v1 => by rw [e1920, b19 v v0 v1, hlist _ (by omega)])
        have ls20 : ∀ j, j < 62 * (lf0 + L.length) → gA t20 86 j = gA t11 86 j := fun j hj => by rw [e1920, f19'.a _ rfl, hlist j hj]
        have mq20 : gI t20 128 = stQ sti := h20.2.2.2.1.1.2.2.1
        have mq11 : gI t11 128 = stQ st1 := k11.1.2.2.2.1.1.2.2.1
        have kom := ko.2.2.2.2
        obtain ⟨q1, q2, q3, q4, q5, q6, q7⟩ := ri11.next ko
        have ri20 : RI (cc + 1) t20 := ⟨by rw [f20.i _ rfl, q1], by rw [f20.i _ rfl, q2], by rw [f20.i _ rfl, q3], by rw [f20.i _ rfl]; exact q4, by rw [lf20, mq20]; omega, by rw [f20.i _ rfl, q6], by rw [f20.i _ rfl, q7]⟩
        have gs20 : gwX s' t20 := EyX.of_fr ((f19'.weak rfl : Fr ([123], [], [83]) s' t19).putI ht20 rfl) rfl
        have fl20 : flX t20 fli := hfi.to gs20 (by rw [ht20]; simp only [gI_pI, gI_pL, gI_pA, gL_pI, gL_pL, gL_pA, gA_pI, gA_pL, gA_pA]; rw [if_neg (by decide), f19'.i _ rfl]) (by rw [e1920, f19'.a _ rfl]) (by rw [e1920, f19'.a _ rfl])
        have frp : gI t20 149 = gI t11 149 ∧ gA t20 95 = gA t11 95 ∧ gA t20 96 = gA t11 96 := by
          refine ⟨?_, ?_, ?_⟩
          · rw [ht20]; simp only [gI_pI, gI_pL, gI_pA, gL_pI, gL_pL, gL_pA, gA_pI, gA_pL, gA_pA]; rw [if_neg (by decide), f19'.i _ rfl, fr0.i _ rfl]
          · rw [e1920, f19'.a _ rfl, fr0.a _ rfl]
          · rw [e1920, f19'.a _ rfl, fr0.a _ rfl]
        have pt20 : ptX t20 π := pt11.to g20 (fun j _ _ => ⟨by rw [frp.2.1], by rw [frp.2.2]⟩)
        have mr20 : mrX t20 row ρm := mr11.to g20 (by omega) (fun j hj => ls20 j (by omega))
        have l01 : leS st sti := l1.trans li
        have recur := ih m (by omega) t20 sti (cc + 1) row (cut ρ1) fli (by omega) (by omega) h20 wi (dr.le l01 hr.1.1) env.2 env.1 (vL ρ1 mem1) ((ekL ρ1 mem1).le li).ct (km.le l01) ri20 fl20 fki pt20 (by rw [frp.1, pm11]) mr20
        have dropi : L.drop i = ρ1 :: L.drop (i + 1) := by
          rw [List.drop_eq_getElem_cons (by omega)]
          have := (List.getElem?_eq_some_iff.mp hρ1).2
          rw [this]
        refine fo_x_S_allWays m _ _ _ _ _ _ _ recur (fun _ t22 f22 q => ?_) (fun t22 f22 q => ⟨Or.inl ⟨z, bnd_inr em (hfo _ ?_)⟩, q.2.1, (g10.trans (k11.2.1.trans g20 l10n) rg.1).trans q.2.2 rg.1⟩)
        rotate_left
        · rw [dropi]
          exact bnd_inl q.1
        obtain ⟨st2, fl2, e2, k2, hf2⟩ := q
        have w2 := waysE_wi hM hE (RE_sn (mo := mo) hM hE 1) (RE_wi (mo := mo) hM hE 1) (RE_wi (mo := mo) hM hE 0) rok hr hc lm k (cc + 1) (cut ρ1) fli sti fl2 st2 (by omega) (by omega) (dr.le l01 hr.1.1).1.KH (km.le l01) (vL ρ1 mem1) ((ekL ρ1 mem1).le li).ct fki wi e2
        -- the list's start laid back
        have fb : Fr ([], [], [83]) s2 (pI t20 123 lf0) := by
          have f1 : Fr ([123], [], [83]) s2 (pI t20 123 lf0) := f20.putI rfl rfl
          refine ⟨fun j _ => ?_, f1.2.1, f1.2.2⟩
          by_cases e : j = 123
          · subst e; rw [hs2]; simp only [gI_pI, gI_pL, gI_pA, gL_pI, gL_pL, gL_pA, gA_pI, gA_pL, gA_pA]; rw [if_pos trivial, if_pos trivial]
          · exact f1.1 j (by simpa [List.contains_cons] using e)
        have k20 : okX M R mo σ0 t11 sti (pI t20 123 lf0) := by
          obtain ⟨xo, go, ⟨⟨o1, o2, o3, o4, o5, o6, o7⟩, v1, v2, v3, v4⟩, no, mo'⟩ := ko
          exact ⟨xo.fr2 hn0 fb rfl rfl rfl rfl rfl rfl rfl, go.trans (EyX.of_fr fb rfl) g11n, ⟨⟨by rw [fb.i _ rfl, o1], by rw [fb.i _ rfl, o2], by rw [fb.i _ rfl, o3], by rw [fb.i _ rfl, o4], by rw [fb.i _ rfl, o5], by rw [fb.i _ rfl, o6], by rw [fb.i _ rfl, o7]⟩, fun j hj => by rw [fb.a _ rfl, v1 j hj], fun j hj => by rw [fb.a _ rfl, v2 j hj], fun j hj => by rw [fb.a _ rfl, v3 j hj], fun j hj => by rw [fb.a _ rfl, v4 j hj]⟩, no, mo'⟩
        have kb := okX.back hn0 g11n hlf0 rfl k20 k2 (by omega)
        refine ⟨⟨i + 1, rfl, by omega, by rw [k2.2.2.1.1.2.2.2.1, lf20]; omega, fun j hj => by rw [k2.2.2.1.2.2.2.2 j (by rw [lf20]; exact hj), ls20 j hj], st2, fl2, kb, hf2, ⟨w2.1, li.trans w2.2.1, w2.2.2⟩, fun o ho => hfo o ?_⟩, by omega⟩
        rw [dropi]
        exact bnd_inr e2 ho
      · rw [if_neg yy]
        have ei' : i = L.length := by omega
        unfold x_allWays_j183
        rintro t16 ht16
        rw [← hs2] at ht16
        subst ht16
        have ka := okX.trans l10n k11 ko
        have svt : gI t16 143 = gI t10 143 := ka.2.2.1.1.2.2.1
        refine fm_x_takeBound (xs_takeBound (by omega) (by omega)) (fun _ t18 f18 q => ?_)
        obtain ⟨f18', u1, u2⟩ := q
        have g18 : gwX s' t18 := (EyX.of_fr (N := fun _ => True) fs2 rfl).trans (EyX.of_fr f18' rfl) (by have := ko.1.1.rg.1; rw [fs2.i _ rfl] at this; exact this)
        refine ⟨sti, fli, Or.inl ⟨z, bnd_inr em (hfo _ ?_)⟩, okX.kept (st2 := st) hn0 rg.1 f10' v1 v2 ka f18' u1, hfi.to g18 (by rw [f18'.i _ rfl, fs2.i _ rfl]) (by rw [f18'.a _ rfl, fs2.a _ rfl]) (by rw [f18'.a _ rfl, fs2.a _ rfl])⟩
        rw [ei', List.drop_length]
        rfl
    · rw [if_neg z]
      refine fm_x_isTrue (xs_isTrueT c0' hOt hs cc0 (by omega) z h w hb hρ ei ek (ri.si h (by omega))) (fun r25 t24 f24 q => ?_) (fun t24 f24 q => ⟨Or.inr ⟨z, bnd_inl q.1⟩, q.2⟩)
      obtain ⟨st1, b, e1, er, k1, bb⟩ := q
      have w1 := isTrueE_wi hM (RE_wi (mo := mo) hM hE 1) hC.1 (fun v v0 ho => EK.at ei ek (hC.2.2.1 z v v0 ho)) (fun z2 => ⟨(hC.2.1 z2).1, fun v v0 ho => EK.at ei ek ((hC.2.1 z2).2 v v0 ho)⟩) w e1
      have fl24 : flX t24 fl := hf.to k1.2.1 (f24.i _ rfl) (f24.a _ rfl) (f24.a _ rfl)
      cases b with
      | false =>
        rw [if_pos (by rw [er]; rfl)]
        exact ⟨st1, fl, Or.inr ⟨z, bnd_inr e1 (Or.inr ⟨rfl, rfl⟩)⟩, k1, fl24⟩
      | true =>
        rw [if_neg (by rw [er]; decide), wc]
        have hb24 := bX0_ey k1.2.1 hb bb
        have pt24 : ptX t24 π := pt.to k1.2.1 (fun j _ _ => ⟨by rw [f24.a _ rfl], by rw [f24.a _ rfl]⟩)
        have mr24 : mrX t24 row ρm := mr.to k1.2.1 (by rw [k1.2.2.1.1.2.2.2.1]; exact Int.le_refl _) (fun j hj => k1.2.2.1.2.2.2.2 j hj)
        have recur := ih m (by omega) t24 st1 (cc + 1) row ρ fl (by omega) (by omega) k1.1 w1.1 (dr.le w1.2 hr.1.1) hb24.2 (hb24.1.trans hρ) (ei.up z) (ek.le w1.2) (km.le w1.2) ((ri.next k1).up (by omega)) fl24 (hfk.le w1.2) pt24 (by rw [f24.i _ rfl, pm]) mr24
        refine fo_x_S_allWays m _ _ _ _ _ _ _ recur (fun _ t29 f29 q => ?_) (fun t29 f29 q => ⟨Or.inr ⟨z, bnd_inr e1 (Or.inl ⟨rfl, q.1⟩)⟩, q.2.pre rg.1 k1⟩)
        obtain ⟨st2, fl2, e2, k2, hf2⟩ := q
        exact ⟨st2, fl2, Or.inr ⟨z, bnd_inr e1 (Or.inl ⟨rfl, e2⟩)⟩, okX.trans rg.1 k1 k2, hf2⟩
end

/-! RewriteHouseModel: a term in its place -/
section
variable {M : Mo} {R : Ru} {mo : Int} {σ0 : S} {a0 r0 : Int} {sx : Int → Int}
theorem cxT2.weak {a1 r1 : Int} (c : cxT2 M R mo σ0 a1 r1) (h1 : a0 ≤ a1) (h2 : r0 ≤ r1) : cxT2 M R mo σ0 a0 r0 := by
  obtain ⟨c1, ⟨c2, c3, c4⟩, c5⟩ := c
  exact ⟨c1, ⟨c2, by omega, by omega⟩, c5⟩
theorem TR.fr2 {st : ST} {σ s : S} {w : List Nat × List Nat × List Nat} (hn : 0 ≤ gI σ0 80) (h : TR M R mo sx σ0 st σ) (f : Fr w σ s) (hw : apt w TPi (56 :: (TPm ++ TPa)) = true) (hw2 : apt w [80] [48, 49, 50, 56, 54, 55] = true) (hw3 : apt w [80] [48, 49, 50, 56] = true) (hw4 : apt w [45, 121] [23, 64, 65, 29, 27, 66, 67, 68] = true) (hw5 : apt w [120, 124, 119, 122] [] = true) (hw6 : w.2.1.contains 123 = false) : TR M R mo sx σ0 st s :=
  h.fr hn f hw hw2 hw3 hw4 rfl (leS.rf _) (by
    have hi := apt_i hw5 f
    simp only [List.forall_mem_cons] at hi
    obtain ⟨⟨d1, d2, d3, d4, d5⟩, d⟩ := h.2.2.2.1
    exact ⟨⟨by rw [hi.1, d1], by rw [hi.2.1, d2], by rw [hi.2.2.1, d3], by rw [f.l _ hw6, d4], by rw [hi.2.2.2.1, d5]⟩, d⟩)
theorem okY.fr3 {σ s t : S} {st : ST} {w : List Nat × List Nat × List Nat} (hn0 : 0 ≤ gI σ0 80) (hn : 0 ≤ gI σ 80) (h : okY M R mo sx σ0 σ st s) (f : Fr w s t) (hw : apt w TPi (56 :: (TPm ++ TPa)) = true) (hw2 : apt w [80] [48, 49, 50, 56, 54, 55] = true) (hw3 : apt w [80] [48, 49, 50, 56] = true) (hw4 : apt w [45, 121] [23, 64, 65, 29, 27, 66, 67, 68] = true) (hw5 : apt w [120, 124, 119, 122] [] = true) (hw6 : w.2.1.contains 123 = false) (hw7 : apt w [83, 113, 126] [58, 79, 80] = true) : okY M R mo sx σ0 σ st t := by
  have hi := apt_i hw7 f
  have ha := apt_a hw7 f
  simp only [List.forall_mem_cons] at hi ha
  obtain ⟨xo, go, ⟨⟨o1, o2, o3⟩, v1, v2, v3⟩, no, mo'⟩ := h
  exact ⟨xo.fr2 hn0 f hw hw2 hw3 hw4 hw5 hw6, go.trans (EyT.of_fr f hw3) hn, ⟨⟨by rw [hi.1, o1], by rw [hi.2.1, o2], by rw [hi.2.2.1, o3]⟩, fun j hj => by rw [ha.1, v1 j hj], fun j hj => by rw [ha.2.1, v2 j hj], fun j hj => by rw [ha.2.2.1, v3 j hj]⟩, no, mo'⟩
/-- places, by number -/
def ptT (σ : S) : Pth → Prop
  | [] => True
  | (_, k) :: π => gA σ 83 (π.length : Int) = (k : Int) ∧ ptT σ π
theorem ptT.to {σ s : S} : ∀ (π : Pth), ptT σ π → (∀ j : Int, 0 ≤ j → j < (π.length : Int) → gA s 83 j = gA σ 83 j) → ptT s π := by
  intro π
  induction π with
  | nil => intro _ _; trivial
  | cons a π ih =>
    obtain ⟨p, k⟩ := a
    rintro ⟨h1, h2⟩ he
    exact ⟨(he _ (by omega) (by rw [List.length_cons]; omega)).trans h1, ih h2 (fun j j0 j1 => he j j0 (by rw [List.length_cons]; omega))⟩
/-- the tree so deep on the way to a place -/
def anc : Pth → Tr → Nat → Tr
  | [], x, _ => x
  | (p, _) :: π, x, j => if j = π.length + 1 then x else anc π p j
theorem anc_top : ∀ (π : Pth) (x r : Tr), pthC π x r → anc π x 0 = r := by
  intro π
  induction π with
  | nil => intro x r h; exact h
  | cons a π ih =>
    obtain ⟨p, k⟩ := a
    rintro x r ⟨-, h2⟩
    unfold anc
    rw [if_neg (by omega)]
    exact ih p r h2
theorem anc_in (π : Pth) (x : Tr) : anc π x π.length = x := by
  cases π with
  | nil => rfl
  | cons a π =>
    obtain ⟨p, k⟩ := a
    unfold anc
    rw [if_pos (by rw [List.length_cons])]
theorem anc_step {σ : S} : ∀ (π : Pth) (x r : Tr), pthC π x r → ptT σ π → ∀ j, j < π.length → ∃ k : Nat, gA σ 83 (j : Int) = (k : Int) ∧ (kids (anc π x j))[k]? = some (anc π x (j + 1)) := by
  intro π
  induction π with
  | nil => intro x r _ _ j hj; simp at hj
  | cons a π ih =>
    obtain ⟨p, k⟩ := a
    rintro x r ⟨h1, h2⟩ ⟨h3, h4⟩ j hj
    rw [List.length_cons] at hj
    unfold anc
    by_cases z : j = π.length
    · rw [if_neg (by omega), if_pos (by omega), z, anc_in]
      exact ⟨k, h3, h1⟩
    · rw [if_neg (by omega), if_neg (by omega)]
      exact ih p r h2 h4 j (by omega)
/-- the nodes on the way -/
def opT (σ : S) : Pth → Prop
  | [] => True
  | (p, k) :: π => lvT σ (gA σ 84 (π.length : Int)) ∧ tT σ (gA σ 84 (π.length : Int)) = p ∧ gA σ 83 (π.length : Int) = (k : Int) ∧ opT σ π
theorem opT_to {σ s : S} (g : gwT σ s) : ∀ (π : Pth), opT σ π → gA s 83 = gA σ 83 → gA s 84 = gA σ 84 → opT s π := by
  intro π
  induction π with
  | nil => intro _ _ _; trivial
  | cons a π ih =>
    obtain ⟨p, k⟩ := a
    rintro ⟨h1, h2, h3, h4⟩ e1 e2
    unfold opT
    rw [e1, e2]
    exact ⟨g.lv h1, (g.2.1 _ h1).trans h2, h3, ih h4 e1 e2⟩
theorem opT.to {σ s : S} {π : Pth} (h : opT σ π) (g : gwT σ s) (e1 : gA s 83 = gA σ 83) (e2 : gA s 84 = gA σ 84) : opT s π := opT_to g π h e1 e2
theorem opT_of {σ : S} : ∀ (π : Pth) (x : Tr), ptT σ π → (∀ j : Nat, j ≤ π.length → lvT σ (gA σ 84 (j : Int)) ∧ tT σ (gA σ 84 (j : Int)) = anc π x j) → opT σ π := by
  intro π
  induction π with
  | nil => intro _ _ _; trivial
  | cons a π ih =>
    obtain ⟨p, k⟩ := a
    rintro x ⟨h1, h2⟩ h
    have a := h π.length (by rw [List.length_cons]; omega)
    have e : ∀ j : Nat, j ≤ π.length → anc ((p, k) :: π) x j = anc π p j := fun j hj => by
      show (if j = π.length + 1 then x else anc π p j) = anc π p j
      rw [if_neg (by omega)]
    rw [e _ (Nat.le_refl _), anc_in] at a
    refine ⟨a.1, a.2, h1, ih p h2 (fun j hj => ?_)⟩
    have b := h j (by rw [List.length_cons]; omega)
    rw [e j hj] at b
    exact b
theorem make_newT {σ s : S} {o : Int} {ts : List Tr} (xp : TP M σ) (xs : TP M s) (hok : mkOk M o ts) (hl : ∀ t ∈ ts, ∃ x, lvT σ x ∧ tT σ x = t) (e : ExT σ s (fun u => u = mk M o ts ∨ mUn M o ≠ -2 ∧ u = unT M o)) : ExT σ s (fun u => (realR M o ts = true ∧ u = mk M o ts) ∨ (∃ o, 0 ≤ o ∧ o < mOps M ∧ mUn M o ≠ -2 ∧ u = unT M o)) := by
  have rg := xp.rg
  refine ⟨e.1, e.2.1, fun x h1 h2 => ⟨(e.2.2 x h1 h2).1, ?_⟩⟩
  rcases (e.2.2 x h1 h2).2 with q | q
  · by_cases z : realR M o ts = true
    · exact Or.inl ⟨z, q⟩
    · have z' : realR M o ts = false := by simpa using z
      obtain ⟨hu, e2 | e2⟩ := mk_notreal z'
      · exact Or.inr ⟨o, hok.1, hok.2.1, hu, by rw [q, e2]⟩
      · obtain ⟨-, t, ht, w⟩ := fltR_subs (fun t ht => (hok.2.2.2 t ht).1) e2
        obtain ⟨y, ly, ey⟩ := hl t ht
        rw [← ey] at w
        obtain ⟨v, lv, ev⟩ := xp.sbs ly w
        have lx : lvT s x := ⟨by omega, h2⟩
        have := xs.inj (e.lv lv) lx (by rw [e.t lv, ev, q])
        have := lv.2
        omega
  · exact Or.inr ⟨o, hok.1, hok.2.1, q.1, q.2⟩
theorem plugA_le (hM : WM M) {r : Tr} (hr : okT M r) : ∀ (π : Pth) (x y : Tr), pthC π x r → NF M y → ∀ u ∈ plugA M π y, trS u ≤ trS (plug M π y) := by
  intro π
  induction π with
  | nil => intro x y _ _ u hu; cases hu
  | cons a π ih =>
    obtain ⟨p, k⟩ := a
    rintro x y ⟨h1, h2⟩ hy u hu
    have op := subs_NF hr (pthC_sub hr.1.1 π p h2).1
    have ok := set_ok (k := k) op.1 (lab_par op.1 h1).1 hy
    simp only [plugA, plug] at hu ⊢
    rcases List.mem_append.mp hu with e | e
    · exact ih p _ h2 (NF_mk hM ok) u e
    · split at e
      · rw [List.mem_singleton.mp e]
        exact (plug_ok hM hr π p _ h2 (NF_mk hM ok)).2.1
      · cases e
def plNT (M : Mo) (π : Pth) (y u : Tr) : Prop := u ∈ plugA M π y ∨ ∃ o, 0 ≤ o ∧ o < mOps M ∧ mUn M o ≠ -2 ∧ u = unT M o
theorem ts_replaced (c : cxT2 M R mo σ0 a0 r0) {σ : S} {st : ST} {rt y : Int} {π : Pth} {x0 r Y : Tr} (h : TR M R mo sx σ0 st σ) (w : WI M R a0 r0 1 1 st) (ly : lvT σ y) (eY : tT σ y = Y) (oy : okT M Y) (lrt : lvT σ rt) (ert : tT σ rt = r) (hr : okT M r) (hc : pthC π x0 r) (pt : ptT σ π) (pm : gI σ 132 = (π.length : Int)) (hp0 : 0 ≤ gI σ 83) (hp1 : gI σ 83 ≤ 14000) :
    t_replaced rt y σ (fun q s => plugE M π Y st (.inr (tT s q, addA st (plugA M π Y))) ∧ lvT s q ∧ okY M R mo sx σ0 σ (addA st (plugA M π Y)) s) (fun s => plugE M π Y st (.inl (gI s 1006, gI s 120)) ∧ noY M σ s) := by
  have hM := c.1.wm
  have hn0 := c.2.1.1
  have rg := h.1.rg
  have cc := h.2.2.2.1
  have sub0 := pthC_sub hr.1.1 π x0 hc
  have len : π.length ≤ 39 := by
    have b := trS_pos (subs_isT hr.1.1 sub0.1)
    have := hr.2
    omega
  have rm := roomT c.1 c.2.1 h.1 h.2.2.1 w
  have pok := plug_ok hM hr
  have r40 := hr.2
  unfold t_replaced
  refine ⟨⟨by omega, by omega⟩, ?_⟩
  rintro t1 ht1
  have f1 : Fr ([], [], [84]) σ t1 := Fr.rf.putA ht1 rfl
  refine lt_replaced_L9 (fun v3 s => ∃ i : Nat, v3 = (i : Int) ∧ i ≤ π.length ∧ Fr ([], [], [84]) σ s ∧ ∀ j : Nat, j ≤ i → lvT σ (gA s 84 (j : Int)) ∧ tT σ (gA s 84 (j : Int)) = anc π x0 j)
    (fun v3 _ => (π.length + 1 - v3.toNat)) ⟨0, rfl, by omega, f1, fun j hj => ?_⟩ ?_
  · have e : gA t1 84 (j : Int) = rt := by rw [ht1]; simp only [gI_pI, gI_pL, gI_pA, gL_pI, gL_pL, gL_pA, gA_pI, gA_pL, gA_pA]; rw [if_pos ⟨trivial, by omega⟩]
    rw [e, show j = 0 by omega, anc_top π x0 r hc]
    exact ⟨lrt, ert⟩
  rintro v3 s fr0 ⟨i, rfl, hi, fs, hj⟩
  try dsimp only
  have tpS : TP M s := (h.1.fr fs rfl).1
  have etS : ∀ x, lvT σ x → lvT s x ∧ tT s x = tT σ x := (h.1.fr fs rfl).2
  rw [fs.i 132 rfl, pm]
  by_cases y3 : (i : Int) < (π.length : Int)
  · rw [if_pos y3]
    have wi1 : w32 ((i : Int) + 1) = ((i + 1 : Nat) : Int) := by rw [w32_id (by omega) (by omega)]; omega
    refine ⟨⟨by omega, by omega⟩, ⟨by omega, by omega⟩, ?_⟩
    obtain ⟨k, ek, hk⟩ := anc_step π x0 r hc pt i (by omega)
    obtain ⟨lo, eo⟩ := hj i (Nat.le_refl _)
    rw [fs.a 83 rfl, ek]
    have kq := tT_kid h.1 lo (k := k) (q := anc π x0 (i + 1)) (by rw [eo]; exact hk)
    obtain ⟨k1, lk, ekk⟩ := kq
    refine ts_arg tpS (etS _ lo).1 (by omega) (by rw [fs.a 50 rfl]; exact k1) ?_
    rw [fs.a 56 rfl, fs.a 49 rfl, wi1]
    refine ⟨⟨by omega, by omega⟩, ?_⟩
    rintro t44 ht44
    refine ⟨⟨i + 1, rfl, by omega, fs.putA ht44 rfl, fun j hjj => ?_⟩, by omega⟩
    have e : gA t44 84 (j : Int) = if j = i + 1 then gA σ 56 (gA σ 49 (gA s 84 (i : Int)) + (k : Int)) else gA s 84 (j : Int) := by
      rw [ht44]
      simp only [gI_pI, gI_pL, gI_pA, gL_pI, gL_pL, gL_pA, gA_pI, gA_pL, gA_pA]
      by_cases z : j = i + 1
      · rw [if_pos ⟨trivial, by omega⟩, if_pos z]
      · rw [if_neg (fun q => z (by have := q.2; omega)), if_neg z]
    rw [e]
    by_cases z : j = i + 1
    · rw [if_pos z, z]
      exact ⟨lk, ekk⟩
    · rw [if_neg z]
      exact hj j (by omega)
  · rw [if_neg y3]
    have ei : i = π.length := by omega
    subst ei
    unfold t_replaced_j47
    rw [fs.i 132 rfl, pm, w32_id (by omega) (by omega)]
    have op0 : opT s π := opT_of π x0 (pt.to π (fun j _ _ => by rw [fs.a _ rfl])) (fun j hjj => ⟨(etS _ (hj j hjj).1).1, (etS _ (hj j hjj).1).2.trans (hj j hjj).2⟩)
    have gS : gwT σ s := EyT.of_fr fs rfl
    obtain ⟨pl, hpl⟩ : ∃ z, z = gI σ 83 := ⟨_, rfl⟩
    have exS : ExT σ s (plNT M π Y) := ExT.of_fr fs rfl
    have lyS := etS y ly
    refine lt_replaced_L57 (fun v3 v4 s => ∃ π1 x1, v4 = (π1.length : Int) - 1 ∧ π1.length ≤ π.length ∧ pthC π1 x1 r ∧ plug M π1 (tT s v3) = plug M π Y ∧ (∀ u ∈ plugA M π1 (tT s v3), u ∈ plugA M π Y) ∧ TP M s ∧ lvT s v3 ∧ NF M (tT s v3) ∧ trS (tT s v3) ≤ 40 + trS x1 ∧ trD (tT s v3) + π1.length ≤ 40 + π.length ∧ ExT σ s (plNT M π Y) ∧ gI s 80 + 2 * (π1.length : Int) ≤ gI σ 80 + 2 * (π.length : Int) ∧ gI s 81 + 2000 * (π1.length : Int) ≤ gI σ 81 + 2000 * (π.length : Int) ∧ gI s 83 = pl ∧ opT s π1 ∧ ∀ j, j < pl → gA s 58 j = gA σ 58 j)
      (fun _ v4 _ => (v4 + 1).toNat) ⟨π, x0, rfl, Nat.le_refl _, hc, by rw [lyS.2, eY], fun u hu => by rw [lyS.2, eY] at hu; exact hu, tpS, lyS.1, by rw [lyS.2, eY]; exact oy.1, by rw [lyS.2, eY]; have := oy.2; omega, by rw [lyS.2, eY]; have := oy.2; have := trD_S oy.1.1; omega, exS, by rw [fs.i _ rfl]; exact Int.le_refl _, by rw [fs.i _ rfl]; exact Int.le_refl _, by rw [fs.i _ rfl, hpl], op0, fun j _ => by rw [fs.a _ rfl]⟩ ?_
    rintro v3 v4 t fr1 ⟨π1, x1, rfl, hl, hc1, hp1', hA1, xt, l3, n3, s3, d3, es, hns, has, top, pt1, hpj⟩
    try dsimp only
    have F : Fr wT_replaced σ t := (fs.weak rfl).trans fr1
    by_cases h4 : (π1.length : Int) - 1 < 0
    · rw [if_pos h4]
      have e0 : π1 = [] := List.length_eq_zero_iff.mp (by omega)
      subst e0
      have eT : tT t v3 = plug M π Y := hp1'
      unfold t_replaced_j152
      refine ⟨⟨l3.1, by have := l3.2; have := xt.rg; omega⟩, ?_⟩
      rw [(xt.nd l3).1, eT]
      by_cases h40 : ((trS (plug M π Y) : Nat) : Int) ≤ 40
      · rw [if_pos h40]
        have l1 : leS st (addA st (plugA M π Y)) := leS_same rfl (fun u hu => List.mem_append_right _ hu)
        have ey1 : EyT σ0 t (CVt M (addA st (plugA M π Y))) := (h.2.2.1.mono (fun t => CVt.le l1)).trans (es.ey.mono (fun u hu => by
          rcases hu with e | e
          · exact ⟨Or.inr (Or.inl (List.mem_append_left _ e)), by have := plugA_le hM hr π x0 Y hc oy.1 u e; omega⟩
          · refine ⟨Or.inl e, ?_⟩
            obtain ⟨o, -, -, -, e⟩ := e
            rw [e, unT_S]
            omega)) hn0
        have h1 : TR M R mo sx σ0 (addA st (plugA M π Y)) t := h.ex xt es ey1 rfl (by
          obtain ⟨⟨d1, d2, d3, d4, d5⟩, d⟩ := cc
          exact ⟨⟨by rw [F.i _ rfl, d1]; rfl, by rw [F.i _ rfl, d2]; rfl, by rw [F.i _ rfl, d3]; rfl, by rw [F.l _ rfl, d4]; rfl, by rw [F.i _ rfl, d5]⟩, d⟩) F rfl
        refine ⟨?_, l3, h1, es.ey.gw, ⟨⟨by rw [top, hpl], F.i _ rfl, F.i _ rfl⟩, fun j hj => hpj j (by omega), fun j _ => by rw [F.a _ rfl], fun j _ => by rw [F.a _ rfl]⟩, by rw [cc.1.1]; exact Int.le_refl _, by rw [cc.1.2.2.1]; exact Int.le_refl _⟩
        unfold plugE
        rw [if_neg (by omega), eT]
      · rw [if_neg h40]
        refine ts_fail (fun s3 f3 i3 => ?_)
        refine ⟨?_, (xt.fr f3 rfl).1, es.ey.gw.trans (EyT.of_fr f3 rfl) rg.1⟩
        unfold plugE
        rw [if_pos (by omega), i3, show gI s3 120 = stS st from ((f3.i _ rfl).trans (F.i _ rfl)).trans cc.1.1]
    · rw [if_neg h4]
      match π1, hc1, hp1', hA1, pt1, hl, hns, has, d3, h4 with
      | [], _, _, _, _, _, _, _, _, h4 => exact absurd (by simp) h4
      | (p, k) :: π2, hc1, hp1', hA1, pt1, hl, hns, has, d3, h4 =>
      obtain ⟨hk, hc2⟩ := hc1
      obtain ⟨lp, ep, ek, pt2⟩ := pt1
      have e4 : (((p, k) :: π2 : Pth).length : Int) - 1 = (π2.length : Int) := by rw [List.length_cons]; omega
      rw [List.length_cons] at hl hns has d3
      rw [e4]
      have op := subs_NF hr (pthC_sub hr.1.1 π2 p hc2).1
      have l0 := (lab_par op.1 hk).1
      have ok := set_ok (k := k) op.1 l0 n3
      have b4 : inb (π2.length : Int) 51 := ⟨by omega, by omega⟩
      have b4' : inb (π2.length : Int) 50 := ⟨by omega, by omega⟩
      have bp : inb (gA t 84 (π2.length : Int)) 200000 := ⟨lp.1, by have := lp.2; have := xt.rg; omega⟩
      have klen : (kids p).length ≤ 39 := kids_40 op.1.1 op.2
      have kp := tT_kids xt lp
      rw [ep] at kp
      have sp := set_sum trS (kids p) k x1 (tT t v3) hk
      have ep40 := trS_eta op.1
      have op40 := op.2
      rw [top]
      simp only [plug, plugA] at hp1' hA1
      refine lt_replaced_L71 (fun v6 q => ∃ i : Nat, v6 = (i : Int) ∧ i ≤ (kids p).length ∧ Fr ([83], [], [58]) t q ∧ gI q 83 = pl + (i : Int) ∧ rowG (gA q 58) q pl i (((kids p).set k (tT t v3)).take i) ∧ ∀ j, j < pl → gA q 58 j = gA t 58 j)
        (fun v6 _ => ((kids p).length + 1 - v6.toNat)) ⟨0, rfl, by omega, Fr.rf, by omega, by rw [List.take_zero]; exact rowG.nil, fun _ _ => rfl⟩ ?_
      rintro v6 q fr2 ⟨i, rfl, hi, fq, topq, hrow, hnt⟩
      try dsimp only
      have xq := xt.fr fq rfl
      refine ⟨b4, ?_⟩
      rw [fq.a 84 rfl]
      refine ⟨bp, ?_⟩
      rw [fq.a 50 rfl, ← kp.2]
      have wi1 : w32 ((i : Int) + 1) = ((i + 1 : Nat) : Int) := by rw [w32_id (by omega) (by omega)]; omega
      by_cases y6 : (i : Int) < ((kids p).length : Int)
      · rw [if_pos y6]
        refine ⟨b4', ?_⟩
        rw [fq.a 83 rfl, ek]
        have hgi : (kids p)[i]? = some ((kids p)[i]'(by omega)) := List.getElem?_eq_getElem (by omega)
        have tk := take_set (k := k) (x := tT t v3) hgi
        have more : ∀ (X57 : Int → Int → S → Prop) (z : Int), lvT t z → tT t z = (if i = k then tT t v3 else (kids p)[i]'(by omega)) →
            t_replaced_j118 v3 (π2.length : Int) pl (i : Int) z q (fun q s => plugE M π Y st (.inr (tT s q, addA st (plugA M π Y))) ∧ lvT s q ∧ okY M R mo sx σ0 σ (addA st (plugA M π Y)) s) (fun s => plugE M π Y st (.inl (gI s 1006, gI s 120)) ∧ noY M σ s) X57
              (fun v6' s' => (∃ i : Nat, v6' = (i : Int) ∧ i ≤ (kids p).length ∧ Fr ([83], [], [58]) t s' ∧ gI s' 83 = pl + (i : Int) ∧ rowG (gA s' 58) s' pl i (((kids p).set k (tT t v3)).take i) ∧ ∀ j, j < pl → gA s' 58 j = gA t 58 j) ∧ ((kids p).length + 1 - v6'.toNat) < ((kids p).length + 1 - ((i : Int)).toNat)) := by
          intro X57 z lz ez
          unfold t_replaced_j118
          refine ts_push (by omega) (by omega) (fun t2 f2 et2 hv2 => ?_)
          rw [wi1]
          have lz2 : lvT t2 z := ⟨lz.1, by rw [f2.i _ rfl, fq.i _ rfl]; exact lz.2⟩
          have x2 := xq.1.fr f2 rfl
          refine ⟨⟨i + 1, rfl, by omega, fq.trans f2, by omega, ?_, fun j hj => by rw [hv2, if_neg (by omega), hnt j hj]⟩, by omega⟩
          rw [tk]
          refine rowG.app (hrow.same (fun j j0 j1 => by rw [hv2, if_neg (by omega)]) (fun x lx => x2.2 x lx)) ?_
          have hh : gA t2 58 (pl + (i : Int)) = z := by rw [hv2, if_pos (by omega)]
          have := rowG.one (f := gA t2 58) (σ := t2) (a := pl + (i : Int)) (by rw [hh]; exact lz2)
          rw [hh, (x2.2 z ((xq.2 z lz).1)).2, (xq.2 z lz).2, ez] at this
          exact this
        by_cases ik : i = k
        · rw [if_pos (by omega)]
          exact more _ v3 l3 (by rw [if_pos ik])
        · rw [if_neg (by omega)]
          refine ⟨b4, ?_⟩
          have kq := tT_kid xt lp (k := i) (q := (kids p)[i]'(by omega)) (by rw [ep]; exact hgi)
          refine ts_arg xq.1 (xq.2 _ lp).1 (by omega) (by rw [fq.a 50 rfl]; exact kq.1) ?_
          rw [fq.a 56 rfl, fq.a 49 rfl]
          refine more _ _ kq.2.1 ?_
          rw [if_neg ik]
          exact kq.2.2
      · rw [if_neg y6]
        have ei : i = (kids p).length := by omega
        subst ei
        unfold t_replaced_j127
        refine ⟨b4, ?_⟩
        rw [fq.a 84 rfl]
        refine ⟨bp, ?_⟩
        rw [fq.a 48 rfl, ← kp.1]
        have el : ((kids p).set k (tT t v3)).length = (kids p).length := List.length_set ..
        rw [← el, List.take_length, el] at hrow
        have live : ∀ u ∈ (kids p).set k (tT t v3), ∃ x, lvT q x ∧ tT q x = u := by
          intro u hu
          obtain ⟨j, hj, ej⟩ := List.getElem_of_mem hu
          have a := hrow.at (k := j) (by omega)
          rw [List.getElem?_eq_getElem hj, ej] at a
          exact ⟨_, hrow.1 j (by omega) (by omega), (Option.some.inj a).symm⟩
        have dps : ∀ u ∈ (kids p).set k (tT t v3), trD u ≤ 40 + π.length - (π2.length + 1) := by
          intro u hu
          rcases set_mem hu with e | e
          · rw [e]; omega
          · have a := trD_S (op.kid e).1.1
            have b := (op.kid e).2
            have c' := trS_pos (op.kid e).1.1
            have : trS u < trS p := by
              obtain ⟨c'', ts, e', -, -⟩ := isT_ex op.1.1
              rw [e', kids_N] at e
              rw [e']
              exact trS_kid e
            omega
        have sum40 : (((kids p).set k (tT t v3)).map trS).sum ≤ 119 := by
          have := trS_pos (subs_isT hr.1.1 (pthC_sub hr.1.1 ((p, k) :: π2) x1 ⟨hk, hc2⟩).1)
          omega
        have isTs : ∀ u ∈ (kids p).set k (tT t v3), NF M u := ok.2.2.2
        have fsum := fltT_sum l0 isTs
        refine fm_t_make (ts_mk xq.1 (by omega) topq (by omega) hrow ok (by omega) (fun u hu => by have := dps u hu; omega) (by rw [fq.i _ rfl]; omega) (by rw [fq.i _ rfl]; omega)) (fun r28 t2 f2 p2 => ?_)
        obtain ⟨q1, q2, q3, q4, q5, q6⟩ := p2
        obtain ⟨lr, er⟩ := q2.resolve_left (fun z => mk_nn hM ok z.1)
        have q3' := make_newT xq.1 q1 ok live q3
        have w4 : w32 ((π2.length : Int) + (-1)) = (π2.length : Int) - 1 := by rw [w32_id (by omega) (by omega)]; omega
        rw [w4]
        have est : ExT t q (plNT M π Y) := ExT.of_fr fq rfl
        have ex2 : ExT t t2 (plNT M π Y) := est.trans (q3'.mono (fun u hu => by
          rcases hu with ⟨e1, e2⟩ | e
          · refine Or.inl (hA1 u (List.mem_append_right _ ?_))
            rw [if_pos e1, e2]
            exact List.mem_cons_self ..
          · exact Or.inr e)) xt.rg.1
        have nx := NF_mk hM ok
        have le := mk_le (M := M) (o := lab p) (ts := (kids p).set k (tT t v3)) (fun u hu => (isTs u hu).1)
        have dd := mk_deep (M := M) (o := lab p) (ts := (kids p).set k (tT t v3)) (n := 40 + π.length - (π2.length + 1)) (by omega) (fun u hu => ⟨(isTs u hu).1, dps u hu⟩)
        have n2 := fq.i 80 rfl
        have a2 := fq.i 81 rfl
        have fl2 : (fltT M (lab p) ((kids p).set k (tT t v3))).length ≤ 119 := by
          have isF : ∀ u ∈ fltT M (lab p) ((kids p).set k (tT t v3)), isT u := by
            intro u hu
            rw [fltT_eq l0 isTs] at hu
            split at hu
            · exact ((fltR_ok ok).1 u hu).1
            · exact ((fltR_ok ok).1 u (List.mem_filter.mp hu).1).1
          have := lenS isF
          omega
        refine ⟨⟨π2, p, rfl, by omega, hc2, by rw [er]; exact hp1', fun u hu => hA1 u (List.mem_append_left _ (by rw [er] at hu; exact hu)), q1, lr, by rw [er]; exact nx, by rw [er]; omega, by rw [er]; omega, es.trans ex2 rg.1, by omega, by omega, q5, pt2.to ex2.ey.gw (by rw [f2.a _ rfl, fq.a _ rfl]) (by rw [f2.a _ rfl, fq.a _ rfl]), fun j hj => by rw [f2.a _ rfl, hnt j hj, hpj j hj]⟩, by omega⟩
end

/-! RewriteHouse: a step is found, in its place -/
section
variable {M : Mo} {R : Ru} {mo : Int} {σ0 : S} {a0 r0 : Int}
theorem room_more {σ0 s : S} {st : ST} {a0 r0 : Int} (h0 : XP M σ0) (hr : roX σ0 (a0 + 50) (r0 + 50)) (hs : XP M s) (e : EyX σ0 s (CV M st)) (w : WI M R a0 r0 1 1 st) : gI s 93 + 1000 ≤ 200000 ∧ gI s 102 + 5000 ≤ 600000 := by
  have c := e.cnt h0 hs (fun t ht => CV_cov h0.wm w.2.2.2.2.2.2 ht)
  have l := WI_len h0.wm w
  obtain ⟨r1, r2, r3⟩ := hr
  omega
/-- what a place makes -/
def plN (M : Mo) (π : Pth) (y u : Tr) : Prop := (u ∈ plugA M π y ∨ ∃ o, 0 ≤ o ∧ o < mOps M ∧ mUn M o ≠ -2 ∧ u = unT M o) ∧ trS u ≤ 40
theorem kids_40 {u : Tr} (hu : isT u) (h : trS u ≤ 40) : (kids u).length ≤ 39 := by
  obtain ⟨c, ts, rfl, -, hk⟩ := isT_ex hu
  have a := trS_len hk
  rw [trS_N] at h
  rw [kids_N]
  omega
theorem xs_found (c : cxR M R mo σ0 (a0 + 50) (r0 + 50)) (hOt : isOt M) {σ : S} {st : ST} {y rl : Int} {fl : FL} {π : Pth} {x0 r Y : Tr} (h : XR M R mo σ0 st σ) (w : WI M R a0 r0 1 1 st) (ly : lvX σ y) (eY : tX σ y = Y) (hr : okT M r) (kr : KH M st r) (hc : pthC π x0 r) (ky : KH M st Y) (pt : ptX σ π) (pm : gI σ 149 = (π.length : Int)) (ri : RI 8 σ) (hf : flX σ fl) :
    x_found rl y σ (fun _ s => ∃ st' fl', hitE M (RE (Wr M R mo) 0) π rl Y fl st (.inr (fl', st')) ∧ okX M R mo σ0 σ st' s ∧ flX s fl') (fun s => hitE M (RE (Wr M R mo) 0) π rl Y fl st (.inl (gI s 1006, gI s 131)) ∧ noX M σ s) := by
  have hM := c.1.wm
  have hn0 := c.2.1.1
  have rg := h.1.rg
  have oy : okT M Y := by rw [← eY]; exact h.1.ok ly
  have cc := h.2.2.2.1
  have len : π.length ≤ 39 := by
    have a := pthC_sub hr.1.1 π x0 hc
    have b := trS_pos (subs_isT hr.1.1 a.1)
    have := hr.2
    omega
  have rm := room_more c.1 c.2.1 h.1 h.2.2.1 w
  obtain ⟨r1, r2, r3, r4, r5, r6, r7⟩ := id ri
  have pok := plug_ok hM hr
  unfold x_found
  rw [pm, w32_id (by omega) (by omega)]
  refine lx_found_L10 (fun v3 v4 s => ∃ π1 x1, v4 = (π1.length : Int) - 1 ∧ π1.length ≤ π.length ∧ pthC π1 x1 r ∧ plug M π1 (tX s v3) = plug M π Y ∧ (∀ u ∈ plugA M π1 (tX s v3), u ∈ plugA M π Y) ∧ XP M s ∧ lvX s v3 ∧ ExX σ s (plN M π Y) ∧ gI s 93 + 2 * (π1.length : Int) ≤ gI σ 93 + 2 * (π.length : Int) ∧ gI s 106 = 0 ∧ ptX s π1 ∧ Fr wX_make σ s ∧ ∀ j : Int, j < 0 → gA s 74 j = gA σ 74 j)
    (fun _ v4 _ => (v4 + 1).toNat) ⟨π, x0, rfl, Nat.le_refl _, hc, by rw [eY], fun u hu => by rw [eY] at hu; exact hu, h.1, ly, ExX.rf _ _, Int.le_refl _, r2, pt, Fr.rf, fun _ _ => rfl⟩ ?_
  rintro v3 v4 s fr0 ⟨π1, x1, rfl, hl, hc1, hp1, hA1, xs, l3, es, hns, top, pt1, fs, hneg⟩
  try dsimp only
  have o3 := xs.ok l3
  by_cases h4 : (π1.length : Int) - 1 < 0
  · rw [if_pos h4]
    have e0 : π1 = [] := List.length_eq_zero_iff.mp (by omega)
    subst e0
    have eT : tX s v3 = plug M π Y := hp1
    have g : gwX σ s := es.ey.gw
    obtain ⟨st1, hst1⟩ : ∃ z, z = addA st (plugA M π Y) := ⟨_, rfl⟩
    have pE : plugE M π Y st (.inr (plug M π Y, st1)) := by
      unfold plugE
      rw [if_neg (by rw [← eT]; have := o3.2; omega), hst1]
    have l1 : leS st st1 := leS_same (by rw [hst1]; rfl) (fun u hu => by rw [hst1]; exact List.mem_append_right _ hu)
    have ey1 : EyX σ0 s (CV M st1) := (h.2.2.1.mono (fun t => CV.le l1)).trans (es.ey.mono (fun u hu => by
      rcases hu.1 with e | e
      · exact Or.inr (Or.inl (by rw [hst1]; exact List.mem_append_left _ e))
      · exact Or.inl e)) hn0
    have h1 : XR M R mo σ0 st1 s := h.ex xs es ey1 (by rw [hst1]; rfl) (by
      obtain ⟨⟨d1, d2, d3, d4, d5⟩, d⟩ := cc
      rw [hst1]
      exact ⟨⟨by rw [fs.i _ rfl, d1]; rfl, by rw [fs.i _ rfl, d2]; rfl, by rw [fs.i _ rfl, d3]; rfl, by rw [fs.l _ rfl, d4]; rfl, by rw [fs.l _ rfl, d5]⟩, d⟩) (fs.a _ rfl) (fs.a _ rfl) (fs.a _ rfl) (fs.a _ rfl)
    have k1 : okX M R mo σ0 σ st1 s := ⟨h1, g, ⟨⟨by rw [top, r2], fs.i _ rfl, fs.i _ rfl, fs.i _ rfl, fs.i _ rfl, fs.i _ rfl, fs.i _ rfl⟩, fun j hj => hneg j (by omega), fun j _ => by rw [fs.a _ rfl], fun j _ => by rw [fs.a _ rfl], fun j _ => by rw [fs.a _ rfl]⟩, by rw [cc.1.1, hst1]; exact Int.le_refl _, by rw [cc.1.2.2.1, hst1]; exact Int.le_refl _⟩
    refine fx_found_j105 Fr.rf (xs_foundRest (st := st1) (fl := fl) c hOt h1 (fun st2 e2 => ?_) l3 eT (ri.next k1) (hf.to g (fs.i _ rfl) (fs.a _ rfl) (fs.a _ rfl))) (fun _ t _ q => ?_) (fun t _ q => ?_)
    · have := plugcnt_wi hM hr kr hc oy ky w pE e2
      exact ⟨this.1, this.2.2.1⟩
    · obtain ⟨st', fl', e, k, f⟩ := q
      exact ⟨st', fl', bnd_inr pE e, okX.trans rg.1 k1 k, f⟩
    · exact ⟨bnd_inr pE q.1, q.2.pre rg.1 k1⟩
  · rw [if_neg h4]
    match π1, hc1, hp1, hA1, pt1, hl, hns, h4 with
    | [], _, _, _, _, _, _, h4 => exact absurd (by simp) h4
    | (p, k) :: π2, hc1, hp1, hA1, pt1, hl, hns, h4 =>
    obtain ⟨hk, hc2⟩ := hc1
    obtain ⟨lp, ep, ek, pt2⟩ := pt1
    have e4 : (((p, k) :: π2 : Pth).length : Int) - 1 = (π2.length : Int) := by rw [List.length_cons]; omega
    rw [List.length_cons] at hl hns
    rw [e4]
    have op := subs_NF hr (pthC_sub hr.1.1 π2 p hc2).1
    have l0 := (lab_par op.1 hk).1
    have ok := set_ok (k := k) op.1 l0 o3.1
    have b4 : inb (π2.length : Int) 80 := ⟨by omega, by omega⟩
    have bp : inb (gA s 95 (π2.length : Int)) 200000 := ⟨by have := lp.1; omega, by have := lp.2; have := xs.rg; omega⟩
    have klen : (kids p).length ≤ 39 := kids_40 op.1.1 op.2
    have emany : gA s 68 (gA s 95 (π2.length : Int)) = ((kids p).length : Int) := by
      have a := (xs.at lp).1
      rw [← ep, tX_row xs lp, kids_N, List.length_map, rowI_len]
      omega
    have ewhat : gA s 66 (gA s 95 (π2.length : Int)) = lab p := by rw [← ep, tX_row xs lp, lab_N]
    rw [top]
    simp only [plug, plugA] at hp1 hA1
    refine lx_found_L24 (fun v6 t => ∃ i : Nat, v6 = (i : Int) ∧ i ≤ (kids p).length ∧ Fr ([106], [], [74]) s t ∧ gI t 106 = (i : Int) ∧ rowH t 0 i (((kids p).set k (tX s v3)).take i) ∧ ∀ j : Int, j < 0 → gA t 74 j = gA s 74 j)
      (fun v6 _ => ((kids p).length + 1 - v6.toNat)) ⟨0, rfl, by omega, Fr.rf, top, by rw [List.take_zero]; exact rowH.nil, fun _ _ => rfl⟩ ?_
    rintro v6 t fr1 ⟨i, rfl, hi, ft, topt, hrow, hnt⟩
    try dsimp only
    have et : ∀ x, tX t x = tX s x := fun x => tX_fr ft rfl x
    have xt : XP M t := xs.fr ft rfl
    have lt : ∀ {x}, lvX s x → lvX t x := fun {x} l => ⟨l.1, by rw [ft.i _ rfl]; exact l.2⟩
    refine ⟨b4, ?_⟩
    rw [ft.a 95 rfl]
    refine ⟨bp, ?_⟩
    rw [ft.a 68 rfl, emany]
    have wi1 : w32 ((i : Int) + 1) = ((i + 1 : Nat) : Int) := by rw [w32_id (by omega) (by omega)]; omega
    by_cases y6 : (i : Int) < ((kids p).length : Int)
    · rw [if_pos y6]
      refine ⟨b4, ?_⟩
      rw [ft.a 96 rfl, ek]
      have hgi : (kids p)[i]? = some ((kids p)[i]'(by omega)) := List.getElem?_eq_getElem (by omega)
      have tk := take_set (k := k) (x := tX s v3) hgi
      -- one more at hand
      have more : ∀ z : Int, lvX s z → tX s z = (if i = k then tX s v3 else (kids p)[i]'(by omega)) →
          x_found_j71 rl v3 (π2.length : Int) 0 (i : Int) z t (fun _ s => ∃ st' fl', hitE M (RE (Wr M R mo) 0) π rl Y fl st (.inr (fl', st')) ∧ okX M R mo σ0 σ st' s ∧ flX s fl') (fun s => hitE M (RE (Wr M R mo) 0) π rl Y fl st (.inl (gI s 1006, gI s 131)) ∧ noX M σ s)
            (fun v3' v4' s' => (∃ π1 x1, v4' = (π1.length : Int) - 1 ∧ π1.length ≤ π.length ∧ pthC π1 x1 r ∧ plug M π1 (tX s' v3') = plug M π Y ∧ (∀ u ∈ plugA M π1 (tX s' v3'), u ∈ plugA M π Y) ∧ XP M s' ∧ lvX s' v3' ∧ ExX σ s' (plN M π Y) ∧ gI s' 93 + 2 * (π1.length : Int) ≤ gI σ 93 + 2 * (π.length : Int) ∧ gI s' 106 = 0 ∧ ptX s' π1 ∧ Fr wX_make σ s' ∧ ∀ j : Int, j < 0 → gA s' 74 j = gA σ 74 j) ∧ (v4' + 1).toNat < ((π2.length : Int) + 1).toNat)
            (fun v6' s' => (∃ i : Nat, v6' = (i : Int) ∧ i ≤ (kids p).length ∧ Fr ([106], [], [74]) s s' ∧ gI s' 106 = (i : Int) ∧ rowH s' 0 i (((kids p).set k (tX s v3)).take i) ∧ ∀ j : Int, j < 0 → gA s' 74 j = gA s 74 j) ∧ ((kids p).length + 1 - v6'.toNat) < ((kids p).length + 1 - ((i : Int)).toNat)) := by
        intro z lz ez
        unfold x_found_j71
        refine xs_push (by omega) (by omega) ?_
        rw [topt, wi1]
        obtain ⟨t2, ht2⟩ : ∃ q, q = pA (pI t 106 ((i : Int) + 1)) 74 (i : Int) z := ⟨_, rfl⟩
        rw [← ht2]
        have f2 : Fr ([106], [], [74]) t t2 := ((Fr.rf.putI rfl rfl : Fr ([106], [], [74]) t _)).putA ht2 rfl
        have eh : ∀ j : Int, gA t2 74 j = if j = (i : Int) then z else gA t 74 j := fun j => by
          rw [ht2]
          simp only [gI_pI, gI_pL, gI_pA, gL_pI, gL_pL, gL_pA, gA_pI, gA_pL, gA_pA]
          by_cases q : j = (i : Int)
          · rw [if_pos ⟨trivial, q⟩, if_pos q]
          · rw [if_neg (fun v => q v.2), if_neg q]
        have et2 : ∀ x, tX t2 x = tX s x := fun x => (tX_fr f2 rfl x).trans (et x)
        have lz2 : lvX t2 z := ⟨lz.1, by rw [f2.i _ rfl, ft.i _ rfl]; exact lz.2⟩
        refine ⟨⟨i + 1, rfl, by omega, ft.trans f2, by rw [ht2]; simp only [gI_pI, gI_pL, gI_pA, gL_pI, gL_pL, gL_pA, gA_pI, gA_pL, gA_pA]; rw [if_pos trivial]; omega, ?_, fun j hj => by rw [eh, if_neg (by omega), hnt j hj]⟩, by omega⟩
        rw [tk]
        refine rowH.app (hrow.same (fun j j0 j1 => by rw [eh, if_neg (by omega)]) (fun x lx => ⟨⟨lx.1, by rw [f2.i _ rfl]; exact lx.2⟩, tX_fr f2 rfl x⟩)) ?_
        have hh : gA t2 74 (0 + (i : Int)) = z := by rw [eh, if_pos (by omega)]
        have := rowH.one (σ := t2) (a := 0 + (i : Int)) (by rw [hh]; exact lz2)
        rw [hh, et2, ez] at this
        exact this
      by_cases ik : i = k
      · rw [if_pos (by omega)]
        exact more v3 l3 (by rw [if_pos ik])
      · rw [if_neg (by omega)]
        refine ⟨b4, ?_⟩
        have atp := xs.at lp
        refine xs_at xt (lt lp) (by omega) (by rw [ft.a 68 rfl, emany]; exact y6) ?_
        rw [ft.a 73 rfl, ft.a 67 rfl]
        refine more _ (atp.2.2.2.2 (i : Int) (by omega) (by rw [emany]; exact y6)).1 ?_
        rw [if_neg ik]
        have ekd := congrArg (fun l : List Tr => l[i]?) (congrArg kids (tX_row xs lp))
        rw [ep, kids_N] at ekd
        simp only [List.getElem?_map] at ekd
        rw [hgi, rowI_get _ _ (by rw [emany]; omega)] at ekd
        exact (Option.some.inj ekd).symm
    · rw [if_neg y6]
      have ei : i = (kids p).length := by omega
      subst ei
      unfold x_found_j80
      refine ⟨b4, ?_⟩
      rw [ft.a 95 rfl]
      refine ⟨bp, ?_⟩
      rw [ft.a 66 rfl, ewhat]
      have el : ((kids p).set k (tX s v3)).length = (kids p).length := List.length_set ..
      rw [← el, List.take_length, el] at hrow
      have pl := ExX.places h.1 xs es (m := 78) (c := 39) (by omega) (by omega) (by omega) (fun u hu iu => by have := kids_40 iu hu.2; omega)
      have live : ∀ u ∈ (kids p).set k (tX s v3), ∃ x, lvX t x ∧ tX t x = u := by
        intro u hu
        obtain ⟨j, hj, ej⟩ := List.getElem_of_mem hu
        have a := hrow.at (k := j) (by omega)
        rw [List.getElem?_eq_getElem hj, ej] at a
        exact ⟨_, hrow.1 j (by omega) (by omega), (Option.some.inj a).symm⟩
      refine fm_x_make (xs_make xt (by omega) (by rw [topt]; omega) (by omega) (by omega) hrow ok (by rw [ft.i _ rfl]; omega) (by rw [ft.i _ rfl]; omega)) (fun r46 t2 f2 q => ?_) (fun t2 f2 q => ?_)
      · obtain ⟨q1, q2, q3, q4, q5, q6, q7, q8⟩ := q
        have q4' := make_new xt q1 ok live q4
        have w4 : w32 ((π2.length : Int) + (-1)) = (π2.length : Int) - 1 := by rw [w32_id (by omega) (by omega)]; omega
        rw [w4]
        have est : ExX s t (plN M π Y) := ExX.of_fr ft rfl
        have ex2 : ExX s t2 (plN M π Y) := est.trans (q4'.mono (fun u hu => by
          rcases hu with ⟨e1, e2⟩ | e
          · refine ⟨Or.inl (hA1 u (List.mem_append_right _ ?_)), by rw [e2]; exact q6⟩
            rw [if_pos e1, e2]
            exact List.mem_cons_self ..
          · refine ⟨Or.inr e, ?_⟩
            obtain ⟨o, -, -, -, e⟩ := e
            rw [e, unT_S]
            omega)) xs.rg.1
        have f2s : Fr wX_make s t2 := (ft.weak rfl).trans f2
        refine ⟨⟨π2, p, rfl, by omega, hc2, by rw [q3]; exact hp1, fun u hu => hA1 u (List.mem_append_left _ (by rw [q3] at hu; exact hu)), q1, q2, es.trans ex2 rg.1, ?_, q7, pt2.to ex2.ey.gw (fun j _ _ => ⟨by rw [f2s.a _ rfl], by rw [f2s.a _ rfl]⟩), fs.trans f2s, fun j hj => by rw [q8 j hj, hnt j hj, hneg j hj]⟩, by omega⟩
        have := ft.i 93 rfl
        omega
      · obtain ⟨p1, p2, p3, p4⟩ := q
        have f2s : Fr wX_make s t2 := (ft.weak rfl).trans f2
        have big := (pok π2 p _ hc2 (NF_mk hM ok)).2.1
        rw [hp1] at big
        refine ⟨bnd_inl ?_, p3, es.ey.gw.trans ((EyX.of_fr (N := fun _ => True) ft rfl).trans p4.ey.gw xs.rg.1) rg.1⟩
        unfold plugE
        rw [if_pos (by omega), p2, show gI t2 131 = stS st from ((fs.trans f2s).i _ rfl).trans cc.1.1]
end

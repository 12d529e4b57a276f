/-! RewriteHouse: reducing, an equation tried -/
section
variable {M : Mo} {R : Ru} {mo : Int} {σ0 : S} {a0 r0 : Int}
theorem pI_two (σ : S) (k : Nat) (a b : Int) : pI (pI σ k a) k b = pI σ k b := by
  unfold pI
  refine Prod.ext ?_ rfl
  funext j
  show (if j = k then b else (if j = k then a else σ.1 j)) = if j = k then b else σ.1 j
  by_cases e : j = k
  · rw [if_pos e, if_pos e]
  · rw [if_neg e, if_neg e, if_neg e]
/-- behind a run, the list's start laid back -/
theorem okX.back {t s s' t2 : S} {lf : Int} {st1 st2 : ST} (hn0 : 1 ≤ gI σ0 93) (hn : 1 ≤ gI t 93) (hlf : lf = gI t 123) (hs' : s' = pI s 123 lf) (ko : okX M R mo σ0 t st1 s') (k : okX M R mo σ0 s st2 t2) (hle : lf ≤ gI s 123) : okX M R mo σ0 t st2 (pI t2 123 lf) := by
  have fs' : Fr ([123], [], []) s s' := Fr.rf.putI hs' rfl
  have f2 : Fr ([123], [], []) t2 (pI t2 123 lf) := Fr.rf.putI rfl rfl
  obtain ⟨x2, g2, ⟨⟨p1, p2, p3, p4, p5, p6, p7⟩, u1, u2, u3, u4⟩, n2, m2⟩ := k
  obtain ⟨xo, go, ⟨⟨o1, o2, o3, o4, o5, o6, o7⟩, v1, v2, v3, v4⟩, no, mo'⟩ := ko
  have x3 : XR M R mo σ0 st2 (pI t2 123 lf) := x2.fr hn0 f2 rfl rfl rfl rfl rfl (leS.rf _) (by
    obtain ⟨⟨d1, d2, d3, d4, d5⟩, d⟩ := x2.2.2.2.1
    exact ⟨⟨by rw [f2.i _ rfl, d1], by rw [f2.i _ rfl, d2], by rw [f2.i _ rfl, d3], by rw [f2.l _ rfl, d4], by rw [f2.l _ rfl, d5]⟩, d⟩)
  have c1 := xo.2.2.2.1.1.1
  have c3 := xo.2.2.2.1.1.2.2.1
  rw [fs'.i _ rfl] at c1 c3
  rw [fs'.i _ rfl] at o1 o2 o3 o5 o6 o7
  have gs : gwX t s := by
    refine ⟨?_, fun x hx => ?_, fun x _ _ => trivial⟩
    · have := go.1; rw [fs'.i _ rfl] at this; exact this
    · have := go.2.1 x hx
      rw [tX_fr fs' rfl] at this
      exact this
  refine ⟨x3, (gs.trans g2 hn).trans (EyX.of_fr f2 rfl) hn, ⟨⟨?_, ?_, ?_, ?_, ?_, ?_, ?_⟩, fun j hj => ?_, fun j hj => ?_, fun j hj => ?_, fun j hj => ?_⟩, by omega, by omega⟩
  · rw [f2.i _ rfl, p1, o1]
  · rw [f2.i _ rfl, p2, o2]
  · rw [f2.i _ rfl, p3, o3]
  · simp only [gI_pI, gI_pL, gI_pA, gL_pI, gL_pL, gL_pA, gA_pI, gA_pL, gA_pA]; rw [if_pos trivial, hlf]
  · rw [f2.i _ rfl, p5, o5]
  · rw [f2.i _ rfl, p6, o6]
  · rw [f2.i _ rfl, p7, o7]
  · have := v1 j hj
    rw [fs'.a _ rfl] at this
    rw [f2.a _ rfl, u1 j (by omega), this]
  · have := v2 j hj
    rw [fs'.a _ rfl] at this
    rw [f2.a _ rfl, u2 j (by omega), this]
  · have := v3 j hj
    rw [fs'.a _ rfl] at this
    rw [f2.a _ rfl, u3 j (by omega), this]
  · have := v4 j hj
    rw [fs'.a _ rfl] at this
    rw [f2.a _ rfl, u4 j (by omega), this]
def TOX (M : Mo) (R : Ru) (mo : Int) (σ0 : S) (a0 r0 sl D : Int) (n : Nat) : Prop :=
  ∀ (σ : S) (st : ST) (y : Int), XR M R mo σ0 st σ → WI M R a0 r0 0 0 st → lvX σ y → PH M st (tX σ y) → SI D σ →
    x_S_toRest n 3 [sl, y] σ (fun r s => ∃ st' q, tryOneE M R mo (RE (Wr M R mo) (max 1 D)) sl (tX σ y) st (.inr (q, st')) ∧ okX M R mo σ0 σ st' s ∧ ((q = none ∧ r = 0) ∨ ∃ z, q = some z ∧ lvX s r ∧ tX s r = z)) (fun s => tryOneE M R mo (RE (Wr M R mo) (max 1 D)) sl (tX σ y) st (.inl (gI s 1006, gI s 131)) ∧ noX M σ s)
theorem xs_tryOne (c : cxR M R mo σ0 a0 r0) {D : Int} {sl : Int} (hs : stX M sl) {n : Nat} (hH : ∀ k, HDX M R mo σ0 a0 r0 sl D (mCn M sl).toNat (n + k)) : TOX M R mo σ0 a0 r0 sl D (n + 1) := by
  have hM := c.1.wm
  have hE := hE_of c
  have hn0 := c.2.1.1
  have sr := stX_rg hM hs
  have rok := c.2.2.1 sl hs
  have cm := rok.2.2.2.1
  have slb : inb sl 70 := ⟨by omega, by omega⟩
  intro σ st y h w ly hp si
  have rg := h.1.rg
  rw [xe_toRest_3]
  unfold x_tryOne_F
  refine fm_x_unbind xs_unbind (fun _ t1 f1 q => ?_)
  obtain ⟨f1', b1⟩ := q
  have h1 : XR M R mo σ0 st t1 := h.fr hn0 f1' rfl rfl rfl rfl rfl (leS.rf _) (by
    obtain ⟨⟨d1, d2, d3, d4, d5⟩, d⟩ := h.2.2.2.1
    exact ⟨⟨by rw [f1'.i _ rfl, d1], by rw [f1'.i _ rfl, d2], by rw [f1'.i _ rfl, d3], by rw [f1'.l _ rfl, d4], by rw [f1'.l _ rfl, d5]⟩, d⟩)
  have k1 : okX M R mo σ0 σ st t1 := ⟨h1, EyX.of_fr f1' rfl, ⟨⟨f1'.i _ rfl, f1'.i _ rfl, f1'.i _ rfl, f1'.i _ rfl, f1'.i _ rfl, f1'.i _ rfl, f1'.i _ rfl⟩, fun j _ => by rw [f1'.a _ rfl], fun j _ => by rw [f1'.a _ rfl], fun j _ => by rw [f1'.a _ rfl], fun j _ => by rw [f1'.a _ rfl]⟩, by rw [h.2.2.2.1.1.1]; exact Int.le_refl _, by rw [h.2.2.2.1.1.2.2.1]; exact Int.le_refl _⟩
  obtain ⟨⟨lL, eL⟩, -, -⟩ := h1.2.2.2.2 sl hs
  have e1 : bX0 t1 = nilE := by
    funext v
    unfold bX0 nilE
    by_cases hv : 0 ≤ v ∧ v < 60
    · rw [if_pos hv, b1 v hv.1 hv.2, oX_0]
    · rw [if_neg hv]
  have lf1 : gI t1 123 = gI σ 123 := f1'.i _ rfl
  refine ⟨slb, ?_⟩
  refine fm_x_matchers (mt_step c h1 w lL eL (k1.2.1.lv ly) (k1.2.1.2.1 y ly) hp (fun v v0 v1 => Or.inl (b1 v v0 v1)) e1 (si.next k1)) (fun r6 t5 f5 q => ?_) (fun t5 f5 q => ⟨bnd_inl q.1, q.2.pre rg.1 k1⟩)
  obtain ⟨L, st1, em, rfl, lx, k5', lq⟩ := q
  have em : mtE M mo (ruL R sl) (tX σ y) true nilE st (.inr (L, st1)) := em
  have k5 := okX.trans rg.1 k1 k5'
  have emB := (mtE_ok em).2.1
  have oy := h.1.ok ly
  have LMs := left_val hM rok oy emB
  have w1 := mt_wi w em
  obtain ⟨hwd, hz⟩ := mlB_ok emB
  have EKs : ∀ ρm ∈ L, EK M st1 ρm := fun ρm hm => EK_match hM rok.1.1 oy hwd okB_nil (hz ρm hm) (hp.le w1.2 oy.1.1) (EK_nil _)
  obtain ⟨lL5, eL5⟩ := (k5.1.2.2.2.2 sl hs).1
  have lL0 : gA t5 78 sl = gA t1 78 sl := by rw [f5.a _ rfl]
  refine ⟨slb, ⟨by have := lL5.1; omega, by have := lL5.2; have := k5.1.1.rg; omega⟩, ?_⟩
  obtain ⟨lf0, hlf0⟩ : ∃ z, z = gI t5 123 := ⟨_, rfl⟩
  have lf5 : gI t5 123 = gI σ 123 := k5.2.2.1.1.2.2.2.1
  have lxl := lx.2.2.2.1
  have lx2 := lx.2.1
  have lx0 := lx.1
  have wl : w32 (gI t1 123 + (L.length : Int)) = lf0 + L.length := by rw [w32_id (by omega) (by omega)]; omega
  rw [wl]
  rintro t12 ht12
  have eW : gA t5 66 (gA t5 78 sl) = lab (ruL R sl) := by rw [← eL5, tX_row k5.1.1 lL5, lab_N]
  rw [eW, show gI t1 123 = lf0 by omega]
  have si5 := si.next k5
  have g5n := k5.1.1.rg.1
  refine lx_tryOne_L50 (fo_x_S_toRest n) (fun v6 v7 s => ∃ i : Nat, v7 = (i : Int) ∧ i ≤ L.length ∧ gI s 123 = lf0 + L.length ∧ (∀ j, j < 62 * (lf0 + L.length) → gA s 86 j = gA t5 86 j) ∧ ∃ sti, okX M R mo σ0 t5 sti (pI s 123 lf0) ∧
      ((v6 = 0 ∧ WI M R a0 r0 0 0 sti ∧ leS st1 sti ∧ ∀ o, firstE (useE M R mo (RE (Wr M R mo) (max 1 D)) sl) (L.drop i) sti o → firstE (useE M R mo (RE (Wr M R mo) (max 1 D)) sl) L st1 o) ∨
       (lvX s v6 ∧ firstE (useE M R mo (RE (Wr M R mo) (max 1 D)) sl) L st1 (.inr (some (tX s v6), sti)))))
    (fun v6 v7 _ => (L.length + 1 - v7.toNat)) ⟨0, rfl, by omega, by rw [ht12]; simp only [gI_pI, gI_pL, gI_pA, gL_pI, gL_pL, gL_pA, gA_pI, gA_pL, gA_pA]; rw [if_pos trivial], fun j _ => by rw [ht12]; simp only [gI_pI, gI_pL, gI_pA, gL_pI, gL_pL, gL_pA, gA_pI, gA_pL, gA_pA], st1, by rw [ht12, pI_two, pI_same hlf0.symm]; exact okX.rf k5.1, Or.inl ⟨rfl, w1.1, leS.rf _, fun o ho => by simpa using ho⟩⟩ ?_
  rintro v6 v7 s fr0 ⟨i, rfl, hi, hlf, hlist, sti, ko, hst⟩
  try dsimp only
  obtain ⟨s', hs'⟩ : ∃ z, z = pI s 123 lf0 := ⟨_, rfl⟩
  rw [← hs'] at ko
  have fs' : Fr ([123], [], []) s s' := Fr.rf.putI hs' rfl
  have ci := ko.1
  by_cases yy : (i : Int) < (L.length : Int) ∧ v6 = 0
  · rw [if_pos yy]
    obtain ⟨-, wi, li, hf⟩ := hst.resolve_right (fun k => by have := k.1.1; omega)
    obtain ⟨ρ1, hρ1⟩ : ∃ ρ1, L[i]? = some ρ1 := by
      rw [List.getElem?_eq_getElem (by omega)]; exact ⟨_, rfl⟩
    have mem1 : ρ1 ∈ L := List.mem_of_getElem? hρ1
    have lm := LMs ρ1 mem1
    have ek1 : EK M sti ρ1 := (EKs ρ1 mem1).le li
    have wv : w32 (lf0 + (i : Int)) = lf0 + i := w32_id (by omega) (by omega)
    rw [wv]
    refine fm_x_takeRow (xs_takeRow (by omega) (by omega)) (fun _ t16 f16 q => ?_)
    obtain ⟨f16', b16⟩ := q
    have fs16 : Fr ([123], [], [83]) s' t16 := by
      refine ⟨fun j hj => ?_, fun j hj => ?_, fun j hj => ?_⟩
      · have a1 := f16'.1 j rfl
        have a2 := fs'.1 j hj
        rw [a1, a2]
      · rw [f16'.2.1 j rfl, fs'.2.1 j rfl]
      · rw [f16'.2.2 j hj, fs'.2.2 j rfl]
    have c16 : XR M R mo σ0 sti t16 := ci.fr hn0 fs16 rfl rfl rfl rfl rfl (leS.rf _) (by
      obtain ⟨⟨d1, d2, d3, d4, d5⟩, d⟩ := ci.2.2.2.1
      exact ⟨⟨by rw [fs16.i _ rfl, d1], by rw [fs16.i _ rfl, d2], by rw [fs16.i _ rfl, d3], by rw [fs16.l _ rfl, d4], by rw [fs16.l _ rfl, d5]⟩, d⟩)
    have g16 : gwX t5 t16 := ko.2.1.trans (EyX.of_fr fs16 rfl) g5n
    have env := take_env lx hlf0.symm hρ1 g16 (fun v v0 v1 => by rw [b16 v v0 v1, hlist _ (by omega)])
    obtain ⟨s1, s2, s3, s4, s5, s6, s7, s8⟩ := si5.next ko
    have lf16 : gI t16 123 = lf0 + L.length := by rw [f16'.i _ rfl, hlf]
    have mq2 : gI t16 128 = stQ sti := c16.2.2.2.1.1.2.2.1
    have kom := ko.2.2.2.2
    have mq5 : gI t5 128 = stQ st1 := k5.1.2.2.2.1.1.2.2.1
    have si16 : SI D t16 := by
      refine ⟨by rw [fs16.i _ rfl, s1], s2, by rw [fs16.i _ rfl]; exact s3, by rw [fs16.i _ rfl, fs16.i 131 rfl]; exact s4, by rw [fs16.i _ rfl]; exact s5, by rw [lf16, mq2]; omega, by rw [fs16.i _ rfl, s7], by rw [fs16.i _ rfl, s8]⟩
    -- from t5 to t16, the list's start laid back
    have fb : Fr ([], [], [83]) s' (pI t16 123 lf0) := by
      have f1 : Fr ([123], [], [83]) s' (pI t16 123 lf0) := fs16.putI rfl rfl
      refine ⟨fun j _ => ?_, f1.2.1, f1.2.2⟩
      by_cases e : j = 123
      · subst e; rw [hs']; simp only [gI_pI, gI_pL, gI_pA, gL_pI, gL_pL, gL_pA, gA_pI, gA_pL, gA_pA]; rw [if_pos trivial, if_pos trivial]
      · exact f1.1 j (by simpa [List.contains_cons] using e)
    have c16b : XR M R mo σ0 sti (pI t16 123 lf0) := ci.fr hn0 fb rfl rfl rfl rfl rfl (leS.rf _) (by
      obtain ⟨⟨d1, d2, d3, d4, d5⟩, d⟩ := ci.2.2.2.1
      exact ⟨⟨by rw [fb.i _ rfl, d1], by rw [fb.i _ rfl, d2], by rw [fb.i _ rfl, d3], by rw [fb.l _ rfl, d4], by rw [fb.l _ rfl, d5]⟩, d⟩)
    have k16 : okX M R mo σ0 t5 sti (pI t16 123 lf0) := by
      obtain ⟨xo, go, ⟨⟨o1, o2, o3, o4, o5, o6, o7⟩, v1, v2, v3, v4⟩, no, mo'⟩ := ko
      exact ⟨c16b, go.trans (EyX.of_fr fb rfl) g5n, ⟨⟨by rw [fb.i _ rfl, o1], by rw [fb.i _ rfl, o2], by rw [fb.i _ rfl, o3], by rw [fb.i _ rfl, o4], by rw [fb.i _ rfl, o5], by rw [fb.i _ rfl, o6], by rw [fb.i _ rfl, o7]⟩, fun j hj => by rw [fb.a _ rfl, v1 j hj], fun j hj => by rw [fb.a _ rfl, v2 j hj], fun j hj => by rw [fb.a _ rfl, v3 j hj], fun j hj => by rw [fb.a _ rfl, v4 j hj]⟩, no, mo'⟩
    have dropi : L.drop i = ρ1 :: L.drop (i + 1) := by
      rw [List.drop_eq_getElem_cons (by omega)]
      have := (List.getElem?_eq_some_iff.mp hρ1).2
      rw [this]
    have wi1 : w32 ((i : Int) + 1) = ((i + 1 : Nat) : Int) := by rw [w32_id (by omega) (by omega)]; omega
    have recur := hH 0 t16 sti 0 (cut ρ1) (by omega) (by omega) c16 wi env.2 env.1 lm.1 ek1.ct si16
    have failE : ∀ e s, noX M t16 s → useE M R mo (RE (Wr M R mo) (max 1 D)) sl ρ1 sti (.inl e) → tryOneE M R mo (RE (Wr M R mo) (max 1 D)) sl (tX σ y) st (.inl e) ∧ noX M σ s := by
      intro e s hn hu
      refine ⟨bnd_inr em (hf _ ?_), hn.1, (k5.2.1.trans g16 rg.1).trans hn.2 rg.1⟩
      rw [dropi]
      exact bnd_inl hu
    refine fo_x_S_toRest n _ _ _ _ _ _ _ recur (fun r18 t17 f17 q => ?_) (fun t17 f17 q => failE _ _ q.2 (bnd_inl q.1))
    obtain ⟨st2, qq, e2, k2, hq⟩ := q
    have ls17 : ∀ j, j < 62 * (lf0 + L.length) → gA t17 86 j = gA t5 86 j := fun j hj => by
      rw [k2.2.2.1.2.2.2.2 j (by rw [lf16]; exact hj), f16'.a _ rfl, hlist j hj]
    have lf17 : gI t17 123 = lf0 + L.length := by rw [k2.2.2.1.1.2.2.2.1, lf16]
    have hw2 := holdsE_wi hM hE (RE_sn (mo := mo) hM hE (max 1 D)) (RE_wi (mo := mo) hM hE (max 1 D)) rok (mCn M sl).toNat 0 (cut ρ1) sti qq st2 (by omega) (by omega) lm.1 ek1.ct wi e2
    have s16p : pI t16 123 lf0 = pI t16 123 lf0 := rfl
    have kb17 := okX.back hn0 g5n hlf0 s16p k16 k2 (by omega)
    rcases hq with ⟨rfl, rfl⟩ | ⟨ρ', rfl, rfl, ebb, lbb⟩
    · rw [if_pos rfl]
      unfold x_tryOne_j139
      rw [wi1]
      refine ⟨⟨i + 1, rfl, by omega, lf17, ls17, st2, kb17, Or.inl ⟨yy.2, hw2.2.1 rfl, li.trans hw2.1, fun o ho => hf o ?_⟩⟩, by omega⟩
      rw [dropi]
      exact bnd_inr (bnd_inr e2 rfl) ho
    · rw [if_neg (by decide)]
      obtain ⟨w2, kk2, ei2⟩ := hw2.2.2 ρ' rfl
      obtain ⟨lR, eR⟩ := (k2.1.2.2.2.2 sl hs).2.1
      have hvR : ∀ v : Int, 0 ≤ v → occ v (ruR R sl) → okT M (ρ' v) := fun v v0 ho => (EK.at ei2 kk2 (rok.2.2.1 v v0 ho)).1
      have si17 := si16.next k2
      have g17n : 1 ≤ gI t17 93 := k2.1.1.rg.1
      refine ⟨slb, ?_⟩
      refine fm_x_countFilled (cnt_step c k2.1 w2 lR eR hvR) (fun _ t24 f24 q => ?_) (fun t24 f24 q => failE _ _ (q.2.pre c16.1.rg.1 k2) (bnd_inr e2 (bnd_inl q.1)))
      obtain ⟨st3, ec, k24, w3, l3, w3A, fr24⟩ := q
      have wa : w32 (w32 (62 * (lf0 + (i : Int))) + 60) = 62 * (lf0 + i) + 60 := by simp (disch := omega) only [w32_id]
      have wb : w32 (62 * (lf0 + (i : Int)) + 60 + 1) = 62 * (lf0 + i) + 61 := by rw [w32_id (by omega) (by omega)]; omega
      rw [wa, wb]
      obtain ⟨lR2, eR2⟩ := (k24.1.2.2.2.2 sl hs).2.1
      have hb24 := bX0_ey k24.2.1 lbb (fun v _ _ => by rw [fr24.a _ rfl])
      refine ⟨⟨by omega, by omega⟩, slb, ?_⟩
      have k24' := okX.trans c16.1.rg.1 k2 k24
      refine fm_x_filled (fil_step c k24.1 w3A lR2 eR2 hb24.2 (hb24.1.trans ebb) hvR (si17.next k24)) (fun r31 t30 f30 q => ?_) (fun t30 f30 q => failE _ _ (q.2.pre c16.1.rg.1 k24') (bnd_inr e2 (bnd_inr ec (bnd_inl q.1))))
      obtain ⟨ep, l31, k30, -⟩ := q
      refine ⟨⟨by omega, by omega⟩, ?_⟩
      have k30' := okX.trans c16.1.rg.1 k24' k30
      have g30 : gwX t5 t30 := g16.trans k30'.2.1 g5n
      have row := lx.2.2.2.2.2 i (by omega)
      rw [← hlf0] at row
      obtain ⟨⟨rw1, -⟩, rw2⟩ := row
      rw [hρ1] at rw2
      have e5 := Option.some.inj rw2
      have ls24 : ∀ j, j < 62 * (lf0 + L.length) → gA t24 86 j = gA t5 86 j := fun j hj => by rw [fr24.a _ rfl, ls17 j hj]
      have ls30 : ∀ j, j < 62 * (lf0 + L.length) → gA t30 86 j = gA t5 86 j := fun j hj => by rw [f30.a _ rfl, ls24 j hj]
      rw [ls24 _ (by omega), ls30 _ (by omega)]
      have va := oX_ey g30 (rw1 60 (by omega) (by omega))
      have vb := oX_ey g30 (rw1 61 (by omega) (by omega))
      have ea : oX t5 (gA t5 86 (62 * (lf0 + i) + 60)) = ρ1 60 := by
        rw [e5]; unfold eX; rw [if_pos ⟨by omega, by omega⟩]
      have eb : oX t5 (gA t5 86 (62 * (lf0 + i) + 61)) = ρ1 61 := by
        rw [e5]; unfold eX; rw [if_pos ⟨by omega, by omega⟩]
      have o31 : putE M (ruR R sl) ρ' st3 (.inr (tX t30 r31, addA st3 (filA M ρ' (ruR R sl)))) := ep
      refine fm_x_beside (bes_step c k30.1 w3A l31 rfl va.1 (va.2.trans ea) vb.1 (vb.2.trans eb) lm.2.2.2 (rok.1.1.1.op rok.1.2) lm.2.1 lm.2.2.1 ((si17.next k24).next k30)) (fun r36 t35 f35 q => ?_) (fun t35 f35 q => failE _ _ (q.2.pre c16.1.rg.1 k30') (bnd_inr e2 (bnd_inr ec (bnd_inr ep (bnd_inl q.1)))))
      obtain ⟨st5, ebs, l36, k35, ls35⟩ := q
      unfold x_tryOne_j139
      rw [wi1]
      have k35' := okX.trans c16.1.rg.1 k30' k35
      have kb35 := okX.back hn0 g5n hlf0 s16p k16 k35' (by omega)
      refine ⟨⟨i + 1, rfl, by omega, by rw [k35'.2.2.1.1.2.2.2.1, lf16], fun j hj => by rw [ls35, ls30 j hj], st5, kb35, Or.inr ⟨l36, hf _ ?_⟩⟩, by omega⟩
      rw [dropi]
      exact bnd_inr (bnd_inr e2 (bnd_inr ec (bnd_inr ep (bnd_inr ebs rfl)))) rfl
  · rw [if_neg yy]
    unfold x_tryOne_j145
    rintro t38 ht38
    rw [← hs'] at ht38
    rw [ht38]
    have kk := okX.trans rg.1 k5 ko
    rcases hst with ⟨rfl, wi, li, hf⟩ | ⟨lv6, hf⟩
    · have ei' : i = L.length := by
        have : ¬ ((i : Int) < (L.length : Int)) := fun k => yy ⟨k, rfl⟩
        omega
      refine ⟨sti, none, bnd_inr em (hf _ ?_), kk, Or.inl ⟨rfl, rfl⟩⟩
      rw [ei', List.drop_length]
      rfl
    · refine ⟨sti, some (tX s v6), bnd_inr em hf, kk, Or.inr ⟨tX s v6, rfl, ?_, tX_fr fs' rfl v6⟩⟩
      have := fs'.i 93 rfl
      exact ⟨lv6.1, by rw [this]; exact lv6.2⟩
end

/-! RewriteHouse: all steps of a term -/
section
variable {M : Mo} {R : Ru} {mo : Int} {σ0 : S} {a0 r0 : Int}
theorem okX.fr3 {σ s t : S} {st : ST} {w : List Nat × List Nat × List Nat} (hn0 : 1 ≤ gI σ0 93) (hn : 1 ≤ gI σ 93) (h : okX M R mo σ0 σ st s) (f : Fr w s t) (hw : apt w XPi (XPm ++ XPa) = true) (hw2 : apt w [93] [66, 67, 68, 73, 75] = true) (hw3 : apt w [93] [66, 67, 68, 73] = true) (hw4 : apt w [] [78, 79, 80, 81] = true) (hw5 : apt w [131, 132, 128] [] = true) (hw6 : w.2.1.contains 129 = false) (hw7 : w.2.1.contains 130 = false) (hw8 : apt w [106, 141, 143, 123, 139, 138, 134] [74, 91, 92, 86] = true) : okX M R mo σ0 σ st t := by
  have hi := apt_i hw8 f
  have ha := apt_a hw8 f
  simp only [List.forall_mem_cons] at hi ha
  obtain ⟨xo, go, ⟨⟨o1, o2, o3, o4, o5, o6, o7⟩, v1, v2, v3, v4⟩, no, mo'⟩ := h
  exact ⟨xo.fr2 hn0 f hw hw2 hw3 hw4 hw5 hw6 hw7, go.trans (EyX.of_fr f hw3) hn, ⟨⟨by rw [hi.1, o1], by rw [hi.2.1, o2], by rw [hi.2.2.1, o3], by rw [hi.2.2.2.1, o4], by rw [hi.2.2.2.2.1, o5], by rw [hi.2.2.2.2.2.1, o6], by rw [hi.2.2.2.2.2.2.1, o7]⟩, fun j hj => by rw [ha.1, v1 j hj], fun j hj => by rw [ha.2.1, v2 j hj], fun j hj => by rw [ha.2.2.1, v3 j hj], fun j hj => by rw [ha.2.2.2.1, v4 j hj]⟩, no, mo'⟩
theorem xs_applyRule (c : cxR M R mo σ0 (a0 + 50) (r0 + 50)) (hOt : isOt M) {s : Int} (hs : stX M s) {π : Pth} {x r X : Tr} (hr : okT M r) (hc : pthC π X r) {σ : S} {st : ST} {y : Int} {fl : FL} (h : XR M R mo σ0 st σ) (w : WI M R a0 r0 0 0 st) (dr : DR M st r) (ly : lvX σ y) (eY : tX σ y = X) (ri : RI 0 σ) (hf : flX σ fl) (hfk : flK M st fl) (pt : ptX σ π) (pm : gI σ 149 = (π.length : Int)) :
    x_applyRule s y σ (fun _ s' => ∃ st' fl', ruleE M R mo (RE (Wr M R mo) 0) (RE (Wr M R mo) 1) s π X fl st (.inr (fl', st')) ∧ okX M R mo σ0 σ st' s' ∧ flX s' fl') (fun s' => ruleE M R mo (RE (Wr M R mo) 0) (RE (Wr M R mo) 1) s π X fl st (.inl (gI s' 1006, gI s' 131)) ∧ noX M σ s') := by
  have hM := c.1.wm
  have hE := hE_of c
  have hn0 := c.2.1.1
  have c0' : cxR M R mo σ0 a0 r0 := c.weak (by omega) (by omega)
  have sr := stX_rg hM hs
  have rok := c.2.2.1 s hs
  have cm := rok.2.2.2.1
  have slb : inb s 70 := ⟨by omega, by omega⟩
  have rg := h.1.rg
  have sx := (pthC_sub hr.1.1 π X hc).1
  have ox := subs_NF hr sx
  have px : PH M st X := dr.1.sub hr.1.1 sx
  unfold x_applyRule
  refine fm_x_unbind xs_unbind (fun _ t1 f1 q => ?_)
  obtain ⟨f1', b1⟩ := q
  have h1 : XR M R mo σ0 st t1 := h.fr2 hn0 f1' rfl rfl rfl rfl rfl rfl rfl
  have k1 : okX M R mo σ0 σ st t1 := ⟨h1, EyX.of_fr f1' rfl, ⟨⟨f1'.i _ rfl, f1'.i _ rfl, f1'.i _ rfl, f1'.i _ rfl, f1'.i _ rfl, f1'.i _ rfl, f1'.i _ rfl⟩, fun j _ => by rw [f1'.a _ rfl], fun j _ => by rw [f1'.a _ rfl], fun j _ => by rw [f1'.a _ rfl], fun j _ => by rw [f1'.a _ rfl]⟩, by rw [h.2.2.2.1.1.1]; exact Int.le_refl _, by rw [h.2.2.2.1.1.2.2.1]; exact Int.le_refl _⟩
  obtain ⟨⟨lL, eL⟩, -, -⟩ := h1.2.2.2.2 s hs
  have e1 : bX0 t1 = nilE := by
    funext v
    unfold bX0 nilE
    by_cases hv : 0 ≤ v ∧ v < 60
    · rw [if_pos hv, b1 v hv.1 hv.2, oX_0]
    · rw [if_neg hv]
  have lf1 : gI t1 123 = gI σ 123 := f1'.i _ rfl
  have ri1 := ri.next k1
  refine ⟨slb, ?_⟩
  refine fm_x_matchers (mt_step c0' h1 w lL eL (k1.2.1.lv ly) ((k1.2.1.2.1 y ly).trans eY) px (fun v v0 v1 => Or.inl (b1 v v0 v1)) e1 (ri1.si h1 (by omega))) (fun r6 t5 f5 q => ?_) (fun t5 f5 q => ⟨bnd_inl q.1, q.2.pre rg.1 k1⟩)
  obtain ⟨L, st1, em, rfl, lx, k5', lq⟩ := q
  have em : mtE M mo (ruL R s) X true nilE st (.inr (L, st1)) := em
  have k5 := okX.trans rg.1 k1 k5'
  have emB := (mtE_ok em).2.1
  have LMs := left_val hM rok ox emB
  have w1 := mt_wi w em
  obtain ⟨hwd, hz⟩ := mlB_ok emB
  have EKs : ∀ ρm ∈ L, EK M st1 ρm := fun ρm hm => EK_match hM rok.1.1 ox hwd okB_nil (hz ρm hm) (px.le w1.2 ox.1.1) (EK_nil _)
  obtain ⟨lf0, hlf0⟩ : ∃ z, z = gI t5 123 := ⟨_, rfl⟩
  have lf5 : gI t5 123 = gI σ 123 := k5.2.2.1.1.2.2.2.1
  have lx2 := lx.2.1
  have lx0 := lx.1
  have lxl := lx.2.2.2.1
  rw [← hlf0] at lx2 lx0
  rw [show gI t1 123 = lf0 by omega] at lq ⊢
  have stq : stQ st1 ≤ 6000 := k5.1.2.2.2.1.2.2.2.1.2
  have g5n := k5.1.1.rg.1
  have ri5 := ri.next k5
  have hf5 : flX t5 fl := hf.to k5.2.1 (by rw [f5.i _ rfl, f1'.i _ rfl]) (by rw [f5.a _ rfl, f1'.a _ rfl]) (by rw [f5.a _ rfl, f1'.a _ rfl])
  have pt5 : ptX t5 π := pt.to k5.2.1 (fun j _ _ => ⟨by rw [f5.a _ rfl, f1'.a _ rfl], by rw [f5.a _ rfl, f1'.a _ rfl]⟩)
  have pm5 : gI t5 149 = (π.length : Int) := by rw [f5.i _ rfl, f1'.i _ rfl, pm]
  refine lx_applyRule_L26 (fun v7 s' => ∃ i : Nat, v7 = (i : Int) ∧ i ≤ L.length ∧ lf0 ≤ gI s' 123 ∧ (∀ j, j < 62 * (lf0 + L.length) → gA s' 86 j = gA t5 86 j) ∧ ∃ sti fli, okX M R mo σ0 t5 sti (pI s' 123 lf0) ∧ flX s' fli ∧ wiF M R a0 r0 st1 sti fli ∧ ∀ o, eachE (fun ρm fl st o => waysE M R mo (RE (Wr M R mo) 0) (RE (Wr M R mo) 1) s π ρm (mCn M s).toNat 0 (cut ρm) fl st o) (L.drop i) fli sti o → eachE (fun ρm fl st o => waysE M R mo (RE (Wr M R mo) 0) (RE (Wr M R mo) 1) s π ρm (mCn M s).toNat 0 (cut ρm) fl st o) L fl st1 o)
    (fun v7 _ => (L.length + 1 - v7.toNat)) ⟨0, rfl, by omega, by omega, fun j _ => rfl, st1, fl, by rw [pI_same hlf0.symm]; exact okX.rf k5.1, hf5, ⟨w1.1, leS.rf _, hfk.le w1.2⟩, fun o ho => by simpa using ho⟩ ?_
  rintro v7 s' fr0 ⟨i, rfl, hi, hlf, hlist, sti, fli, ko, hfi, ⟨wi, li, fki⟩, hfo⟩
  try dsimp only
  obtain ⟨s2, hs2⟩ : ∃ z, z = pI s' 123 lf0 := ⟨_, rfl⟩
  rw [← hs2] at ko
  have fs2 : Fr ([123], [], []) s' s2 := Fr.rf.putI hs2 rfl
  by_cases yy : (i : Int) < (L.length : Int)
  · rw [if_pos yy]
    obtain ⟨ρ1, hρ1⟩ : ∃ ρ1, L[i]? = some ρ1 := by
      rw [List.getElem?_eq_getElem (by omega)]; exact ⟨_, rfl⟩
    have mem1 : ρ1 ∈ L := List.mem_of_getElem? hρ1
    have lm := LMs ρ1 mem1
    have wv : w32 (lf0 + (i : Int)) = lf0 + i := w32_id (by omega) (by omega)
    have wl : w32 (lf0 + (L.length : Int)) = lf0 + L.length := w32_id (by omega) (by omega)
    have wi1 : w32 ((i : Int) + 1) = ((i + 1 : Nat) : Int) := by rw [w32_id (by omega) (by omega)]; omega
    rw [wv, wl, wi1]
    rintro t12 ht12
    refine fm_x_takeRow (xs_takeRow (by omega) (by omega)) (fun _ t20 f20 q => ?_)
    obtain ⟨f20', b20⟩ := q
    have fs20 : Fr ([123], [], [83]) s' t20 := ((Fr.rf.putI ht12 rfl : Fr ([123], [], []) s' t12).weak rfl).trans (f20'.weak rfl)
    have f2 : Fr ([123], [], [83]) s2 t20 := by
      refine ⟨fun j hj => ?_, fun j hj => ?_, fun j hj => ?_⟩
      · rw [fs20.1 j hj, fs2.1 j hj]
      · rw [fs20.2.1 j rfl, fs2.2.1 j rfl]
      · rw [fs20.2.2 j hj, fs2.2.2 j rfl]
    have h20 : XR M R mo σ0 sti t20 := ko.1.fr2 hn0 f2 rfl rfl rfl rfl rfl rfl rfl
    have g20 : gwX t5 t20 := ko.2.1.trans (EyX.of_fr f2 rfl) g5n
    have lf12 : gI t12 123 = lf0 + L.length := by rw [ht12]; simp only [gI_pI, gI_pL, gI_pA, gL_pI, gL_pL, gL_pA, gA_pI, gA_pL, gA_pA]; rw [if_pos trivial]
    have lf20 : gI t20 123 = lf0 + L.length := by rw [f20'.i _ rfl, lf12]
    have e12 : gA t12 86 = gA s' 86 := by rw [ht12]; rfl
    have ls20 : ∀ j, j < 62 * (lf0 + L.length) → gA t20 86 j = gA t5 86 j := fun j hj => by rw [f20'.a _ rfl, e12, hlist j hj]
    have env := take_env lx hlf0.symm hρ1 g20 (fun v v0 v1 => by rw [b20 v v0 v1, e12, hlist _ (by omega)])
    have mq20 : gI t20 128 = stQ sti := h20.2.2.2.1.1.2.2.1
    have mq5 : gI t5 128 = stQ st1 := k5.1.2.2.2.1.1.2.2.1
    have kom := ko.2.2.2.2
    obtain ⟨q1, q2, q3, q4, q5, q6, q7⟩ := ri5.next ko
    have ri20 : RI 0 t20 := ⟨by rw [f2.i _ rfl, q1], by rw [f2.i _ rfl, q2], by rw [f2.i _ rfl, q3], by rw [f2.i _ rfl]; exact q4, by rw [lf20, mq20]; omega, by rw [f2.i _ rfl, q6], by rw [f2.i _ rfl, q7]⟩
    have gs20 : gwX s' t20 := EyX.of_fr fs20 rfl
    have fl20 : flX t20 fli := hfi.to gs20 (fs20.i _ rfl) (fs20.a _ rfl) (fs20.a _ rfl)
    have pt20 : ptX t20 π := pt5.to g20 (fun j _ _ => ⟨by rw [fs20.a _ rfl, fr0.a _ rfl], by rw [fs20.a _ rfl, fr0.a _ rfl]⟩)
    have pm20 : gI t20 149 = (π.length : Int) := by rw [fs20.i _ rfl, fr0.i _ rfl, pm5]
    have row := lx.2.2.2.2.2 i (by omega)
    rw [← hlf0] at row
    obtain ⟨⟨rw1, -⟩, rw2⟩ := row
    rw [hρ1] at rw2
    have e5 := Option.some.inj rw2
    have mr20 : mrX t20 (lf0 + i) ρ1 := by
      have va := oX_ey g20 (rw1 60 (by omega) (by omega))
      have vb := oX_ey g20 (rw1 61 (by omega) (by omega))
      refine ⟨⟨by omega, by omega⟩, ?_, ?_⟩
      · rw [ls20 _ (by omega)]
        exact ⟨va.1, va.2.trans (by rw [e5]; unfold eX; rw [if_pos ⟨by omega, by omega⟩])⟩
      · rw [ls20 _ (by omega)]
        exact ⟨vb.1, vb.2.trans (by rw [e5]; unfold eX; rw [if_pos ⟨by omega, by omega⟩])⟩
    have l01 : leS st sti := w1.2.trans li
    have ekm : EK M sti ρ1 := (EKs ρ1 mem1).le li
    have recur := xs_allWays c hOt hs hr hc lm (mCn M s).toNat 10 (by omega) t20 sti 0 (lf0 + i) (cut ρ1) fli (by omega) (by omega) h20 wi (dr.le l01 hr.1.1) env.2 env.1 lm.1 ekm.ct ekm ri20 fl20 fki pt20 pm20 mr20
    have dropi : L.drop i = ρ1 :: L.drop (i + 1) := by
      rw [List.drop_eq_getElem_cons (by omega)]
      have := (List.getElem?_eq_some_iff.mp hρ1).2
      rw [this]
    refine fm_x_allWays recur (fun _ t22 f22 q => ?_) (fun t22 f22 q => ⟨bnd_inr em (hfo _ ?_), q.2.1, (k5.2.1.trans g20 rg.1).trans q.2.2 rg.1⟩)
    rotate_left
    · rw [dropi]
      exact bnd_inl q.1
    obtain ⟨st2, fl2, e2, k2, hf2⟩ := q
    have w2 := waysE_wi hM hE (RE_sn (mo := mo) hM hE 1) (RE_wi (mo := mo) hM hE 1) (RE_wi (mo := mo) hM hE 0) rok hr hc lm (mCn M s).toNat 0 (cut ρ1) fli sti fl2 st2 (by omega) (by omega) (dr.le l01 hr.1.1).1.KH ekm lm.1 ekm.ct fki wi e2
    have fb : Fr ([], [], [83]) s2 (pI t20 123 lf0) := by
      have f1 : Fr ([123], [], [83]) s2 (pI t20 123 lf0) := f2.putI rfl rfl
      refine ⟨fun j _ => ?_, f1.2.1, f1.2.2⟩
      by_cases e : j = 123
      · subst e; rw [hs2]; simp only [gI_pI, gI_pL, gI_pA, gL_pI, gL_pL, gL_pA, gA_pI, gA_pL, gA_pA]; rw [if_pos trivial, if_pos trivial]
      · exact f1.1 j (by simpa [List.contains_cons] using e)
    have k20 : okX M R mo σ0 t5 sti (pI t20 123 lf0) := by
      obtain ⟨xo, go, ⟨⟨o1, o2, o3, o4, o5, o6, o7⟩, v1, v2, v3, v4⟩, no, mo'⟩ := ko
      exact ⟨xo.fr2 hn0 fb rfl rfl rfl rfl rfl rfl rfl, go.trans (EyX.of_fr fb rfl) g5n, ⟨⟨by rw [fb.i _ rfl, o1], by rw [fb.i _ rfl, o2], by rw [fb.i _ rfl, o3], by rw [fb.i _ rfl, o4], by rw [fb.i _ rfl, o5], by rw [fb.i _ rfl, o6], by rw [fb.i _ rfl, o7]⟩, fun j hj => by rw [fb.a _ rfl, v1 j hj], fun j hj => by rw [fb.a _ rfl, v2 j hj], fun j hj => by rw [fb.a _ rfl, v3 j hj], fun j hj => by rw [fb.a _ rfl, v4 j hj]⟩, no, mo'⟩
    have kb := okX.back hn0 g5n hlf0 rfl k20 k2 (by omega)
    refine ⟨⟨i + 1, rfl, by omega, by rw [k2.2.2.1.1.2.2.2.1, lf20]; omega, fun j hj => by rw [k2.2.2.1.2.2.2.2 j (by rw [lf20]; exact hj), ls20 j hj], st2, fl2, kb, hf2, ⟨w2.1, li.trans w2.2.1, w2.2.2⟩, fun o ho => hfo o ?_⟩, by omega⟩
    rw [dropi]
    exact bnd_inr e2 ho
  · rw [if_neg yy]
    have ei' : i = L.length := by omega
    unfold x_applyRule_j65
    rintro t16 ht16
    rw [← hs2] at ht16
    subst ht16
    refine ⟨sti, fli, bnd_inr em (hfo _ ?_), okX.trans rg.1 k5 ko, hfi.to (EyX.of_fr fs2 rfl) (fs2.i _ rfl) (fs2.a _ rfl) (fs2.a _ rfl)⟩
    rw [ei', List.drop_length]
    rfl
/-- which rules are wanted -/
def lbX (M : Mo) (σ : S) (w : Int → Bool) : Prop := ∀ r, 0 ≤ r → r < mRls M → (w (40 + r) = true ↔ (gI σ 150 = -2 ∨ gA σ 27 (40 + r) = gI σ 150))
def rulR (M : Mo) (w : Int → Bool) (i : Nat) : List Int := (((List.range (mRls M).toNat).map (fun (n : Nat) => 40 + (n : Int))).drop i).filter w
theorem rulR_0 (w : Int → Bool) : rulR M w 0 = rulL M w := by unfold rulR rulL; rw [List.drop_zero]
theorem rulR_end {w : Int → Bool} {i : Nat} (h : ¬ (i : Int) < mRls M) : rulR M w i = [] := by
  unfold rulR
  rw [List.drop_eq_nil_of_le (by rw [List.length_map, List.length_range]; omega)]
  rfl
theorem rulR_next {w : Int → Bool} {i : Nat} (h : (i : Int) < mRls M) : rulR M w i = if w (40 + (i : Int)) = true then (40 + (i : Int)) :: rulR M w (i + 1) else rulR M w (i + 1) := by
  unfold rulR
  have hl : i < ((List.range (mRls M).toNat).map (fun (n : Nat) => 40 + (n : Int))).length := by rw [List.length_map, List.length_range]; omega
  rw [List.drop_eq_getElem_cons hl, List.filter_cons]
  simp only [List.getElem_map, List.getElem_range]
def RAX (M : Mo) (R : Ru) (mo : Int) (σ0 : S) (a0 r0 : Int) (w : Int → Bool) (r : Tr) (m n : Nat) : Prop :=
  ∀ (σ : S) (st : ST) (y : Int) (X : Tr) (π : Pth) (fl : FL), pthC π X r → XR M R mo σ0 st σ → WI M R a0 r0 0 0 st → DR M st r → lvX σ y → tX σ y = X → trS X ≤ m → RI 0 σ → flX σ fl → flK M st fl → ptX σ π → gI σ 149 = (π.length : Int) → lbX M σ w →
    x_S_rulesAt n 0 [y] σ (fun _ s' => ∃ st' fl', atE M R mo (RE (Wr M R mo) 0) (RE (Wr M R mo) 1) (rulL M w) m π X fl st (.inr (fl', st')) ∧ okX M R mo σ0 σ st' s' ∧ flX s' fl' ∧ gI s' 149 = gI σ 149 ∧ ∀ j, j < gI σ 149 → gA s' 95 j = gA σ 95 j ∧ gA s' 96 j = gA σ 96 j) (fun s' => atE M R mo (RE (Wr M R mo) 0) (RE (Wr M R mo) 1) (rulL M w) m π X fl st (.inl (gI s' 1006, gI s' 131)) ∧ noX M σ s')
theorem xs_rulesAt (c : cxR M R mo σ0 (a0 + 50) (r0 + 50)) (hOt : isOt M) {w : Int → Bool} {r : Tr} (hr : okT M r) : ∀ (m n : Nat), m ≤ n → RAX M R mo σ0 a0 r0 w r m n := by
  have hM := c.1.wm
  have hE := hE_of c
  have hn0 := c.2.1.1
  have r30 : 0 ≤ mRls M ∧ mRls M ≤ 30 := hM.2.2.2.2.2.1
  intro m
  induction m with
  | zero =>
    intro n _ σ st y X π fl hc _ _ _ _ _ hm
    have := trS_pos (subs_isT hr.1.1 (pthC_sub hr.1.1 π X hc).1)
    omega
  | succ m ih =>
    intro n hn σ st y X π fl hc h wi dr ly eY hm ri hf hfk pt pm hl
    obtain ⟨n, rfl⟩ : ∃ k, n = k + 1 := ⟨n - 1, by omega⟩
    have rg := h.1.rg
    have sx := pthC_sub hr.1.1 π X hc
    have ox := subs_NF hr sx.1
    have len : π.length ≤ 39 := by
      have b := trS_pos (subs_isT hr.1.1 sx.1)
      have := hr.2
      omega
    rw [xe_rulesAt]
    unfold x_rulesAt_F
    refine lx_rulesAt_L2 (fo_x_S_rulesAt n) (fun v2 s => ∃ i : Nat, v2 = (i : Int) ∧ (i : Int) ≤ mRls M ∧ ∃ sti fli, okX M R mo σ0 σ sti s ∧ flX s fli ∧ wiF M R a0 r0 st sti fli ∧ gI s 149 = gI σ 149 ∧ gA s 95 = gA σ 95 ∧ gA s 96 = gA σ 96 ∧ ∀ o, rulesE M R mo (RE (Wr M R mo) 0) (RE (Wr M R mo) 1) π X (rulR M w i) fli sti o → rulesE M R mo (RE (Wr M R mo) 0) (RE (Wr M R mo) 1) π X (rulL M w) fl st o)
      (fun v2 _ => (mRls M - v2).toNat) ⟨0, rfl, by omega, st, fl, okX.rf h, hf, ⟨wi, leS.rf _, hfk⟩, rfl, rfl, rfl, fun o ho => by rw [rulR_0] at ho; exact ho⟩ ?_
    rintro v2 s fr0 ⟨i, rfl, hi, sti, fli, ko, hfi, ⟨wii, li, fki⟩, pms, pas, pats, hfo⟩
    try dsimp only
    have eR : gI s 43 = mRls M := by rw [← ko.1.1.mo]; rfl
    rw [eR]
    by_cases yy : (i : Int) < mRls M
    · rw [if_pos yy]
      have w4 : w32 (40 + (i : Int)) = 40 + i := w32_id (by omega) (by omega)
      have wi1 : w32 ((i : Int) + 1) = ((i + 1 : Nat) : Int) := by rw [w32_id (by omega) (by omega)]; omega
      rw [w4]
      refine ⟨fun _ => ⟨by omega, by omega⟩, ?_⟩
      have lw : gI s 150 = gI σ 150 := fr0.i _ rfl
      have la : gA s 27 = gA σ 27 := fr0.a _ rfl
      rw [lw, la]
      have hw := hl i (by omega) yy
      have nx := rulR_next (w := w) yy
      by_cases z : gI σ 150 = -2 ∨ gA σ 27 (40 + (i : Int)) = gI σ 150
      · rw [if_pos z]
        rw [if_pos (hw.mpr z)] at nx
        have hs : stX M (40 + (i : Int)) := Or.inr ⟨by omega, by omega⟩
        have dri := dr.le li hr.1.1
        refine fm_x_applyRule (xs_applyRule (x := X) c hOt hs hr hc ko.1 wii dri (ko.2.1.lv ly) ((ko.2.1.2.1 y ly).trans eY) (ri.next ko) hfi fki (pt.to ko.2.1 (fun j _ _ => ⟨by rw [pas], by rw [pats]⟩)) (by rw [pms, pm])) (fun _ t f q => ?_) (fun t f q => ?_)
        · obtain ⟨st2, fl2, e2, k2, hf2⟩ := q
          have w2 := ruleE_wi hM hE (RE_sn (mo := mo) hM hE 1) (RE_wi (mo := mo) hM hE 1) (RE_wi (mo := mo) hM hE 0) (c.2.2.1 _ hs) hr hc dri fki wii e2
          unfold x_rulesAt_j43
          rw [wi1]
          refine ⟨⟨i + 1, rfl, by omega, st2, fl2, okX.trans rg.1 ko k2, hf2, ⟨w2.1, li.trans w2.2.1, w2.2.2⟩, by rw [f.i _ rfl, pms], by rw [f.a _ rfl, pas], by rw [f.a _ rfl, pats], fun o ho => hfo o ?_⟩, by omega⟩
          rw [nx]
          exact bnd_inr e2 ho
        · refine ⟨bnd_inl (hfo _ ?_), q.2.pre rg.1 ko⟩
          rw [nx]
          exact bnd_inl q.1
      · rw [if_neg z]
        rw [if_neg (fun k => z (hw.mp k))] at nx
        unfold x_rulesAt_j43
        rw [wi1]
        exact ⟨⟨i + 1, rfl, by omega, sti, fli, ko, hfi, ⟨wii, li, fki⟩, pms, pas, pats, fun o ho => hfo o (by rw [nx]; exact ho)⟩, by omega⟩
    · rw [if_neg yy]
      unfold x_rulesAt_j49
      have e1 : rulesE M R mo (RE (Wr M R mo) 0) (RE (Wr M R mo) 1) π X (rulL M w) fl st (.inr (fli, sti)) := hfo _ (by rw [rulR_end yy]; rfl)
      have kX := tX_kids h.1 ly
      rw [eY] at kX
      have klen : (kids X).length ≤ 39 := kids_40 ox.1.1 ox.2
      refine lx_rulesAt_L51 (fo_x_S_rulesAt n) (fun v2 t => ∃ j : Nat, v2 = (j : Int) ∧ j ≤ (kids X).length ∧ ∃ stj flj, okX M R mo σ0 σ stj t ∧ flX t flj ∧ wiF M R a0 r0 st stj flj ∧ gI t 149 = gI σ 149 ∧ (∀ i, i < gI σ 149 → gA t 95 i = gA σ 95 i ∧ gA t 96 i = gA σ 96 i) ∧ ∀ o, kidsE (atE M R mo (RE (Wr M R mo) 0) (RE (Wr M R mo) 1) (rulL M w) m) X π ((kids X).drop j) j flj stj o → kidsE (atE M R mo (RE (Wr M R mo) 0) (RE (Wr M R mo) 1) (rulL M w) m) X π (kids X) 0 fli sti o)
        (fun v2 _ => ((kids X).length + 1 - v2.toNat)) ⟨0, rfl, by omega, sti, fli, ko, hfi, ⟨wii, li, fki⟩, pms, fun i _ => ⟨by rw [pas], by rw [pats]⟩, fun o ho => by rw [List.drop_zero] at ho; exact ho⟩ ?_
      rintro v2 t fr1 ⟨j, rfl, hj, stj, flj, kj, hfj, ⟨wj, lj, fkj⟩, pmj, paj, hfo2⟩
      try dsimp only
      have lyt := kj.2.1.lv ly
      have eYt := (kj.2.1.2.1 y ly).trans eY
      have kXt := tX_kids kj.1.1 lyt
      rw [eYt] at kXt
      refine ⟨⟨by have := ly.1; omega, by have := lyt.2; have := kj.1.1.rg; omega⟩, ?_⟩
      rw [← kXt.2.2]
      by_cases yj : (j : Int) < ((kids X).length : Int)
      · rw [if_pos yj, pmj, pm]
        refine ⟨⟨by omega, by omega⟩, ?_⟩
        rintro t9 ht9 t13 ht13
        have e9 : gI t9 149 = (π.length : Int) := by rw [ht9]; exact pmj.trans pm
        rw [e9, w32_id (by omega) (by omega)] at ht13
        rw [e9]
        refine ⟨⟨by omega, by omega⟩, ?_⟩
        rintro t15 ht15
        have f15 : Fr ([149], [], [95, 96]) t t15 := ((Fr.rf.putA ht9 rfl).putI ht13 rfl).putA ht15 rfl
        have g15 : gwX t t15 := EyX.of_fr f15 rfl
        have h15 : XR M R mo σ0 stj t15 := kj.1.fr2 hn0 f15 rfl rfl rfl rfl rfl rfl rfl
        have k15 : okX M R mo σ0 σ stj t15 := by
          obtain ⟨xo, go, ⟨⟨o1, o2, o3, o4, o5, o6, o7⟩, v1, v2, v3, v4⟩, no, mo'⟩ := kj
          exact ⟨h15, go.trans g15 rg.1, ⟨⟨by rw [f15.i _ rfl, o1], by rw [f15.i _ rfl, o2], by rw [f15.i _ rfl, o3], by rw [f15.i _ rfl, o4], by rw [f15.i _ rfl, o5], by rw [f15.i _ rfl, o6], by rw [f15.i _ rfl, o7]⟩, fun j hj => by rw [f15.a _ rfl, v1 j hj], fun j hj => by rw [f15.a _ rfl, v2 j hj], fun j hj => by rw [f15.a _ rfl, v3 j hj], fun j hj => by rw [f15.a _ rfl, v4 j hj]⟩, no, mo'⟩
        have ep : ∀ i : Int, gA t15 95 i = if i = (π.length : Int) then y else gA t 95 i := fun i => by
          rw [ht15, ht13, ht9]
          simp only [gI_pI, gI_pL, gI_pA, gL_pI, gL_pL, gL_pA, gA_pI, gA_pL, gA_pA]
          rw [if_neg (by rintro ⟨z, -⟩; exact absurd z (by decide))]
          by_cases z : i = (π.length : Int)
          · rw [if_pos ⟨trivial, z⟩, if_pos z]
          · rw [if_neg (fun q => z q.2), if_neg z]
        have ea : ∀ i : Int, gA t15 96 i = if i = (π.length : Int) then (j : Int) else gA t 96 i := fun i => by
          rw [ht15, ht13, ht9]
          simp only [gI_pI, gI_pL, gI_pA, gL_pI, gL_pL, gL_pA, gA_pI, gA_pL, gA_pA]
          by_cases z : i = (π.length : Int)
          · rw [if_pos ⟨trivial, z⟩, if_pos z]
          · rw [if_neg (fun q => z q.2), if_neg z, if_neg (by rintro ⟨z, -⟩; exact absurd z (by decide))]
        have ly15 := g15.lv lyt
        have eY15 := (g15.2.1 y lyt).trans eYt
        refine xs_at h15.1 ly15 (by omega) (by rw [f15.a _ rfl, ← kXt.2.2]; exact yj) ?_
        rw [f15.a 73 rfl, f15.a 67 rfl]
        have atp := kj.1.1.at lyt
        have lk := (atp.2.2.2.2 (j : Int) (by omega) (by rw [← kXt.2.2]; exact yj)).1
        have hkj : (kids X)[j]? = some (tX t (gA t 73 (gA t 67 y + (j : Int)))) := by
          have e2 := kXt.2.2
          rw [kXt.2.1]
          simp only [List.getElem?_map]
          rw [rowI_get _ _ (by omega)]
          rfl
        generalize gA t 73 (gA t 67 y + (j : Int)) = u at lk hkj ⊢
        obtain ⟨T, hT⟩ : ∃ T, T = tX t u := ⟨_, rfl⟩
        rw [← hT] at hkj
        have smT : trS T < trS X := by
          have := ox.1
          obtain ⟨c', ts, e, -, -⟩ := isT_ex this.1
          have hm' := List.mem_of_getElem? hkj
          rw [e, kids_N] at hm'
          rw [e]
          exact trS_kid hm'
        have lu15 : lvX t15 u := g15.lv lk
        have eu15 : tX t15 u = T := (g15.2.1 u lk).trans hT.symm
        have drj := dr.le lj hr.1.1
        have pt15 : ptX t15 ((X, j) :: π) := by
          have ptj : ptX t15 π := pt.to (k15.2.1) (fun i i0 i1 => by
            have a := paj i (by rw [pm]; exact i1)
            rw [ep, ea, if_neg (by omega), if_neg (by omega)]
            exact a)
          refine ⟨?_, ?_, ?_, ptj⟩
          · rw [ep, if_pos rfl]; exact ly15
          · rw [ep, if_pos rfl]; exact eY15
          · rw [ea, if_pos rfl]
        have pm15 : gI t15 149 = (((X, j) :: π : Pth).length : Int) := by
          rw [ht15, ht13]
          simp only [gI_pI, gI_pL, gI_pA, gL_pI, gL_pL, gL_pA, gA_pI, gA_pL, gA_pA]
          rw [if_pos trivial, List.length_cons]
          omega
        have l15 : lbX M t15 w := by
          intro q q0 q1
          have a : gI t15 150 = gI σ 150 := by rw [f15.i _ rfl, fr1.i _ rfl, fr0.i _ rfl]
          have b : gA t15 27 = gA σ 27 := by rw [f15.a _ rfl, fr1.a _ rfl, fr0.a _ rfl]
          rw [a, b]
          exact hl q q0 q1
        have hf15 : flX t15 flj := hfj.to g15 (f15.i _ rfl) (f15.a _ rfl) (f15.a _ rfl)
        have dropj : (kids X).drop j = T :: (kids X).drop (j + 1) := by
          have e := (List.getElem?_eq_some_iff.mp hkj).2
          rw [← e, ← List.drop_eq_getElem_cons (by omega)]
        have recur := ih n (by omega) t15 stj u T ((X, j) :: π) flj ⟨hkj, hc⟩ h15 wj drj lu15 eu15 (by omega) (ri.next k15) hf15 fkj pt15 pm15 l15
        refine fo_x_S_rulesAt n _ _ _ _ _ _ _ recur (fun _ t20 f20 q => ?_) (fun t20 f20 q => ⟨bnd_inr e1 (hfo2 _ ?_), q.2.pre rg.1 k15⟩)
        rotate_left
        · rw [dropj]
          exact bnd_inl q.1
        obtain ⟨st2, fl2, e2, k2, hf2, pm2, pa2⟩ := q
        rintro t23 ht23
        have w2 := atE_wi hM hE (RE_sn (mo := mo) hM hE 1) (RE_wi (mo := mo) hM hE 1) (RE_wi (mo := mo) hM hE 0) hr (fun s hs => c.2.2.1 s (rulL_mem hs)) m ((X, j) :: π) T flj stj fl2 st2 ⟨hkj, hc⟩ drj fkj wj e2
        have f23 : Fr ([149], [], []) t20 t23 := Fr.rf.putI ht23 rfl
        have wi1 : w32 ((j : Int) + 1) = ((j + 1 : Nat) : Int) := by rw [w32_id (by omega) (by omega)]; omega
        rw [wi1]
        rw [pm15, List.length_cons] at pm2 pa2
        refine ⟨⟨j + 1, rfl, by omega, st2, fl2, (okX.trans rg.1 k15 k2).fr3 hn0 rg.1 f23 rfl rfl rfl rfl rfl rfl rfl rfl, hf2.to (EyX.of_fr f23 rfl) (f23.i _ rfl) (f23.a _ rfl) (f23.a _ rfl), ⟨w2.1, lj.trans w2.2.1, w2.2.2⟩, ?_, fun i hi => ?_, fun o ho => hfo2 o ?_⟩, by omega⟩
        · rw [ht23]
          simp only [gI_pI, gI_pL, gI_pA, gL_pI, gL_pL, gL_pA, gA_pI, gA_pL, gA_pA]
          rw [if_pos trivial, pm2, w32_id (by omega) (by omega)]
          omega
        · rw [f23.a _ rfl, f23.a 96 rfl]
          have a := pa2 i (by omega)
          rw [ep, ea, if_neg (by omega), if_neg (by omega)] at a
          have b := paj i (by rw [pm]; exact hi)
          exact ⟨a.1.trans b.1, a.2.trans b.2⟩
        · rw [dropj]
          exact bnd_inr e2 ho
      · rw [if_neg yj]
        have ej : j = (kids X).length := by omega
        refine ⟨stj, flj, bnd_inr e1 (hfo2 _ ?_), kj, hfj, pmj, paj⟩
        rw [ej, List.drop_length]
        rfl
theorem xs_rulesOf (c : cxR M R mo σ0 (a0 + 50) (r0 + 50)) (hOt : isOt M) {w : Int → Bool} {σ : S} {st : ST} {y lw : Int} {X : Tr} (h : XR M R mo σ0 st σ) (wi : WI M R a0 r0 0 0 st) (ox : okT M X) (dr : DR M st X) (ly : lvX σ y) (eY : tX σ y = X) (ri : RI 0 σ) (hl : ∀ r, 0 ≤ r → r < mRls M → (w (40 + r) = true ↔ (lw = -2 ∨ gA σ 27 (40 + r) = lw))) :
    x_rulesOf y lw σ (fun _ s' => ∃ st' fl', stepsE M R mo w X st (.inr (fl', st')) ∧ okX M R mo σ0 σ st' s' ∧ flX s' fl') (fun s' => stepsE M R mo w X st (.inl (gI s' 1006, gI s' 131)) ∧ noX M σ s') := by
  have hn0 := c.2.1.1
  have rg := h.1.rg
  unfold x_rulesOf
  rintro t1 ht1 t3 ht3 t5 ht5
  have f5 : Fr ([146, 149, 150], [], []) σ t5 := ((Fr.rf.putI ht1 rfl).putI ht3 rfl).putI ht5 rfl
  have k5 : okX M R mo σ0 σ st t5 := (okX.rf h).fr3 hn0 rg.1 f5 rfl rfl rfl rfl rfl rfl rfl rfl
  have g5 := k5.2.1
  have hf5 : flX t5 [] := ⟨by rw [ht5, ht3, ht1]; simp only [gI_pI, gI_pL, gI_pA, gL_pI, gL_pL, gL_pA, gA_pI, gA_pL, gA_pA]; rw [if_neg (by decide), if_neg (by decide), if_pos trivial]; rfl, by simp, fun i hi => by simp at hi⟩
  have pm5 : gI t5 149 = (([] : Pth).length : Int) := by rw [ht5, ht3]; simp only [gI_pI, gI_pL, gI_pA, gL_pI, gL_pL, gL_pA, gA_pI, gA_pL, gA_pA]; rw [if_neg (by decide), if_pos trivial]; rfl
  have l5 : lbX M t5 w := by
    intro q q0 q1
    have a : gI t5 150 = lw := by rw [ht5]; simp only [gI_pI, gI_pL, gI_pA, gL_pI, gL_pL, gL_pA, gA_pI, gA_pL, gA_pA]; rw [if_pos trivial]
    rw [a, f5.a _ rfl]
    exact hl q q0 q1
  have o40 := ox.2
  refine fm_x_rulesAt (xs_rulesAt c hOt (w := w) (r := X) ox (trS X) 44 (by omega) t5 st y X [] [] rfl k5.1 wi dr (g5.lv ly) ((g5.2.1 y ly).trans eY) (Nat.le_refl _) (ri.next k5) hf5 (flK_nil _) trivial pm5 l5) (fun _ t7 f7 q => ?_) (fun t7 f7 q => ⟨q.1, q.2.pre rg.1 k5⟩)
  obtain ⟨st', fl', e, k, hf, -, -⟩ := q
  exact ⟨st', fl', e, okX.trans rg.1 k5 k, hf⟩
end

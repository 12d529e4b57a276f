/-! RewriteHouseModel: all ways in which a rule's conditions hold -/
section
variable {M : Mo} {R : Ru} {mo : Int} {σ0 : S} {a0 r0 : Int} {sx : Int → Int}
theorem ppx_top (c : cxT2 M R mo σ0 a0 r0) (hOt : isOt M) {m : Nat} (hm : 662 ≤ m) : PPX M R mo sx σ0 a0 r0 (t_S_reduced m) 0 := by
  obtain ⟨j, rfl⟩ : ∃ j, m = j + 1 := ⟨m - 1, by omega⟩
  intro σ st x e T ρ h w oT lx eT he0 he1 hb hρ hv sy
  rw [te_reduced_3]
  exact ts_reducedPart c (fo_t_S_reduced j) (ts_group c hOt 60 (0 + 1) (by omega) (by omega) j (by omega)) h w oT lx eT he0 he1 hb hρ hv sy
/-- a matcher's place -/
def mrT (σ : S) (m : Int) (ρm : Env) : Prop := (0 ≤ m ∧ m + 64 ≤ gI σ 113) ∧ (olT σ (gA σ 79 (m + 60)) ∧ oT σ (gA σ 79 (m + 60)) = ρm 60) ∧ olT σ (gA σ 79 (m + 61)) ∧ oT σ (gA σ 79 (m + 61)) = ρm 61
theorem mrT.to {σ s : S} {m : Int} {ρm : Env} (h : mrT σ m ρm) (g : gwT σ s) (e : gI σ 113 ≤ gI s 113) (k : ∀ j, j < gI σ 113 → gA s 79 j = gA σ 79 j) : mrT s m ρm := by
  obtain ⟨⟨a, b⟩, ⟨c1, c2⟩, d1, d2⟩ := h
  have x := oT_ey g c1
  have y := oT_ey g d1
  refine ⟨⟨a, by omega⟩, ?_, ?_⟩
  · rw [k _ (by omega)]
    exact ⟨x.1, x.2.trans c2⟩
  · rw [k _ (by omega)]
    exact ⟨y.1, y.2.trans d2⟩
def WYT (M : Mo) (R : Ru) (mo : Int) (sx : Int → Int) (σ0 : S) (a0 r0 s fr : Int) (π : Pth) (r : Tr) (ρm : Env) (k n : Nat) : Prop :=
  ∀ (σ : S) (st : ST) (c e m rt : Int) (ρ : Env) (fl : FL), c + (k : Int) = mCn M s → 0 ≤ c → TR M R mo sx σ0 st σ → WI M R a0 r0 0 0 st → DR M st r → lvT σ rt → tT σ rt = r → 0 ≤ e → e + 64 ≤ gI σ 113 → (∀ v, 0 ≤ v → v < 60 → olT σ (gA σ 79 (e + v))) → eT0 σ e = ρ → EI M R s c ρ → EK M st ρ → EK M st ρm → SY 0 σ → flT σ fr fl → flK M st fl → ptT σ π → gI σ 132 = (π.length : Int) → mrT σ m ρm →
    t_S_allWays n 0 [rt, sx s, s - 40, c, e, m, fr] σ (fun _ s' => ∃ st' fl', waysE M R mo (RE (Wr M R mo) 0) (RE (Wr M R mo) 1) s π ρm k c ρ fl st (.inr (fl', st')) ∧ okY M R mo sx σ0 σ st' s' ∧ flT s' fr fl' ∧ tmF fr σ s') (fun s' => waysE M R mo (RE (Wr M R mo) 0) (RE (Wr M R mo) 1) s π ρm k c ρ fl st (.inl (gI s' 1006, gI s' 120)) ∧ noY M σ s')
theorem ts_allWays (c : cxT2 M R mo σ0 (a0 + 50) (r0 + 50)) (hOt : isOt M) {s fr : Int} (hs : stX M s) (f0 : 0 ≤ fr) (f1 : fr + 61 ≤ 40000) {π : Pth} {x0 r : Tr} {ρm : Env} (hr : okT M r) (hc : pthC π x0 r) (lm : LM M R s ρm) : ∀ (k n : Nat), k + 1 ≤ n → WYT M R mo sx σ0 a0 r0 s fr π r ρm k n := by
  have hM := c.1.wm
  have hE := hE_ofT c
  have hn0 := c.2.1.1
  have c0' : cxT2 M R mo σ0 a0 r0 := c.weak (by omega) (by omega)
  have rok := c.2.2.1 s hs
  have cm := rok.2.2.2.1
  have lb : ∀ {σ : S} {x : Int}, TP M σ → lvT σ x → inb x 200000 := fun {σ x} t l => ⟨l.1, by have := l.2; have := t.rg; omega⟩
  intro k
  induction k with
  | zero =>
    intro n hn σ st cc e m rt ρ fl ck cc0 h w dr lrt ert he0 he1 hb hρ ei ek km sy hf hfk pt pm mr
    obtain ⟨n, rfl⟩ : ∃ j, n = j + 1 := ⟨n - 1, by omega⟩
    have rg := h.1.rg
    obtain ⟨sxr, -, -, ⟨lR, eR⟩, eC, -⟩ := h.2.2.2.2.1.1 s hs
    have sm := h.2.2.2.2.1.2.1
    have tb : inb (sx s) 70 := ⟨by omega, by omega⟩
    have mq := h.2.2.2.1.2.2.2.1
    have mq1 := h.2.2.2.1.1.2.2.1
    obtain ⟨y1, y2, y3, y4⟩ := id sy
    rw [te_allWays]
    unfold t_allWays_F
    refine ⟨tb, ?_⟩
    rw [eC, if_pos (by omega)]
    have ecc : cc = mCn M s := by omega
    subst ecc
    have rv := fun v v0 ho => EK.at ei ek (rok.2.2.1 v v0 ho)
    have R40 := rok.2.1.2
    refine ⟨tb, lb h.1 lR, ?_⟩
    rw [(h.1.nd lR).1, eR]
    refine fm_t_fill (fill_stepT (ρ := ρ) c0' h w rok.2.1 (Int.le_refl _) (by omega) (fun v v0 ho => (rv v v0 ho).1)) (fun _ t50 f50 q => ?_) (fun t50 f50 q => ⟨bnd_inl q.1, q.2⟩)
    obtain ⟨st1, ec, k50, w1, l1, w1A, fr50⟩ := q
    obtain ⟨-, -, ⟨lL2, eL2⟩, ⟨lR2, eR2⟩, -, -⟩ := k50.1.2.2.2.2.1.1 s hs
    have hb50 := eT0_ey k50.2.1 hb (fun v _ _ => by rw [fr50.a _ rfl])
    refine ⟨tb, lb k50.1.1 lL2, tb, ?_⟩
    have p50 := k50.2.2.1.1.1
    refine fm_t_putIn (put_stepT c0' k50.1 w1A rok.2.1 lR2 eR2 he0 (by omega) hb50.2 (hb50.1.trans hρ) (fun v v0 ho => (rv v v0 ho).1) (by omega) (by omega)) (fun r59 t58 f58 q => ?_) (fun t58 f58 q => ⟨bnd_inr ec (bnd_inl q.1), q.2.pre rg.1 k50⟩)
    obtain ⟨ep, l59, k58, fr58⟩ := q
    have k58' := okY.trans rg.1 k50 k58
    have vo := putB_val hM rok.2.1 (fun v v0 ho => (rv v v0 ho).1) (putE_ok ep).2.2.2
    have eO : gA t50 48 (gA t50 64 (sx s)) = lab (ruL R s) := by rw [← eL2, tT_row k50.1.1 lL2, lab_N]
    rw [eO]
    have mr58 := mr.to k58'.2.1 (by rw [k58'.2.2.1.1.2.1]; exact Int.le_refl _) (fun j hj => k58'.2.2.1.2.2.1 j hj)
    have s58 := k58'.2.2.1.1.2.1
    obtain ⟨w2, l2, kv, ov, -, -⟩ := cp_wi hM rok.2.1 (Int.le_refl _) rv w ec ep
    have ar : ∀ i, (ρm i = .nil ∨ okT M (ρm i)) → (ρm i = .nil ∨ (okT M (ρm i) ∧ KH M (addA st1 (filA M ρ (ruR R s))) (ρm i))) := by
      intro i hi
      rcases hi with e | e
      · exact Or.inl e
      · rcases (km.le l2) i with q | q
        · exact Or.inl q
        · exact Or.inr ⟨e, q.2⟩
    have p58 := k58'.2.2.1.1.1
    have mr1 := mr58.1
    refine fm_t_beside (bes_stepT c0' k58.1 w1A l59 rfl vo mr1.1 (by omega) mr58.2.1.1 mr58.2.2.1 mr58.2.1.2 mr58.2.2.2 lm.2.2.2 (rok.1.1.1.op rok.1.2) lm.2.1 lm.2.2.1 (by omega) (by omega)) (fun r62 t61 f61 q => ?_) (fun t61 f61 q => ⟨bnd_inr ec (bnd_inr ep (bnd_inl q.1)), q.2.pre rg.1 k58'⟩)
    obtain ⟨st3, eb, l62, k61, st61⟩ := q
    have k61' := okY.trans rg.1 k58' k61
    obtain ⟨w3, l3, ky, oy⟩ := besE_wi (a0 := a0) (r0 := r0) hM (rok.1.1.1.op rok.1.2) (ar 60 lm.2.1) ⟨ov, kv⟩ (ar 61 lm.2.2.1) lm.2.2.2 w2 eb
    have l23 := l2.trans l3
    have pt61 : ptT t61 π := pt.to π (fun j _ _ => by rw [f61.a _ rfl, f58.a _ rfl, f50.a _ rfl])
    have pm61 : gI t61 132 = (π.length : Int) := by rw [f61.i _ rfl, f58.i _ rfl, f50.i _ rfl, pm]
    have fl61 : flT t61 fr fl := hf.to k61'.2.1 (by rw [f61.i _ rfl, f58.i _ rfl, f50.i _ rfl]) (by rw [f61.a _ rfl, f58.a _ rfl, f50.a _ rfl]) (by rw [f61.a _ rfl, f58.a _ rfl, f50.a _ rfl])
    have tm61 : tmF fr σ t61 := (((tmF.rf fr σ).fr f50 rfl).fr f58 rfl).fr f61 rfl
    refine fm_t_addStep (ts_addStep c hOt k61.1 w3 l62 rfl oy ky (k61'.2.1.lv lrt) ((k61'.2.1.2.1 _ lrt).trans ert) hr (dr.1.KH.le l23 hr.1.1) hc pt61 pm61 (sy.next k61') fl61 f0 f1) (fun _ t64 f64 q => ?_) (fun t64 f64 q => ⟨bnd_inr ec (bnd_inr ep (bnd_inr eb q.1)), q.2.pre rg.1 k61'⟩)
    obtain ⟨st', fl', e', kf, hf', tm⟩ := q
    exact ⟨st', fl', bnd_inr ec (bnd_inr ep (bnd_inr eb e')), okY.trans rg.1 k61' kf, hf', tm61.trans tm⟩
  | succ k ih =>
    intro n hn σ st cc e m rt ρ fl ck cc0 h w dr lrt ert he0 he1 hb hρ ei ek km sy hf hfk pt pm mr
    obtain ⟨n, rfl⟩ : ∃ j, n = j + 1 := ⟨n - 1, by omega⟩
    have rg := h.1.rg
    obtain ⟨sxr, -, -, -, eC, cond⟩ := h.2.2.2.2.1.1 s hs
    have sm := h.2.2.2.2.1.2.1
    have tb : inb (sx s) 70 := ⟨by omega, by omega⟩
    have mq := h.2.2.2.1.2.2.2.1
    have mq1 := h.2.2.2.1.1.2.2.1
    obtain ⟨y1, y2, y3, y4⟩ := id sy
    obtain ⟨eK, ⟨lC, eCt⟩, hO, -⟩ := cond cc cc0 (by omega)
    have hC := rok.2.2.2.2 cc cc0 (by omega)
    have wk : w32 (w32 (6 * sx s) + cc) = 6 * sx s + cc := by simp (disch := omega) only [w32_id]
    have wc : w32 (cc + 1) = cc + 1 := w32_id (by omega) (by omega)
    have kb : inb (6 * sx s + cc) 420 := ⟨by omega, by omega⟩
    rw [te_allWays]
    unfold t_allWays_F
    refine ⟨tb, ?_⟩
    rw [eC, if_neg (by omega), wk]
    refine ⟨kb, ?_⟩
    rw [eK]
    by_cases z : mCs M (6 * s + cc) = 1
    · rw [if_pos z]
      obtain ⟨lO, eO⟩ := hO (by omega)
      have O := hC.2.1 (by omega)
      have OV := fun v v0 ho => EK.at ei ek (O.2 v v0 ho)
      have C40 := hC.1.2
      have O40 := O.1.2
      refine ⟨kb, lb h.1 lC, kb, lb h.1 lO, ?_⟩
      rw [(h.1.nd lC).1, (h.1.nd lO).1, eCt, eO, w32_id (by omega) (by omega)]
      refine fm_t_fill (fill_stepT (ρ := ρ) c0' h w O.1 (by omega) (by omega) (fun v v0 ho => (OV v v0 ho).1)) (fun _ t17 f17 q => ?_) (fun t17 f17 q => ⟨Or.inl ⟨z, bnd_inl (bnd_inl q.1)⟩, q.2⟩)
      obtain ⟨st1, ec, k17, w1, l1, w1A, fr17⟩ := q
      obtain ⟨-, -, hO17, -⟩ := (k17.1.2.2.2.2.1.1 s hs).2.2.2.2.2 cc cc0 (by omega)
      obtain ⟨lO17, eO17⟩ := hO17 (by omega)
      have e17 := eT0_ey k17.2.1 hb (fun v _ _ => by rw [fr17.a _ rfl])
      refine ⟨kb, ?_⟩
      have top := ppx_top (sx := sx) c0' hOt (m := 720) (by omega) t17 st1 _ e _ ρ k17.1 w1A O.1 lO17 eO17 he0 (by omega) e17.2 (e17.1.trans hρ) (fun v v0 ho => ⟨(OV v v0 ho).1, (OV v v0 ho).2.le l1 (OV v v0 ho).1.1.1⟩) ((sy.next k17).up (by omega))
      refine fm_t_reducedPart top (fun r22 t21 f21 q => ?_) (fun t21 f21 q => ?_)
      rotate_left
      · refine ⟨Or.inl ⟨z, bnd_inl (bnd_inr ec ?_)⟩, q.2.pre rg.1 k17⟩
        rcases q.1 with ⟨e, b1, b2⟩ | ⟨v, sb, b1, b2⟩
        · refine bnd_inl ?_
          rw [Sum.inl.inj b2]
          exact b1
        · exact bnd_inr b1 (bnd_inl b2)
      obtain ⟨st2, e2, l22, k21⟩ := q
      obtain ⟨u, sa, ep, er⟩ := bnd_ok e2
      have er : RE (Wr M R mo) 1 u sa (.inr (tT t21 r22, st2)) := er
      have k1721 := okY.trans rg.1 k17 k21
      obtain ⟨ev, hsz, esa, ebp⟩ := putE_ok ep
      have ou := putB_val hM O.1 (fun v v0 ho => (OV v v0 ho).1) ebp
      have wA : WI M R a0 r0 0 0 sa := by rw [esa]; exact w1A.weak (by omega) (by omega)
      have khu : KH M sa u := by
        rw [esa, ev]
        exact KH_put hM O.1 (fun v v0 ho => ⟨(OV v v0 ho).1, (OV v v0 ho).2.le l1 (OV v v0 ho).1.1.1⟩)
      obtain ⟨w2, l2, d2, o2⟩ := RE_wi (mo := mo) hM hE 1 u sa _ st2 ou wA khu er
      obtain ⟨-, ⟨lC21, eC21⟩, -, -⟩ := (k21.1.2.2.2.2.1.1 s hs).2.2.2.2.2 cc cc0 (by omega)
      have sb21 := k1721.2.2.1
      have e21 := eT0_ey k1721.2.1 hb (fun v v0 v1 => sb21.2.2.1 _ (by omega))
      have sy21 := sy.next k1721
      refine ⟨kb, ?_⟩
      refine fm_t_list (lst_stepT (w := 0) c0' k21.1 w2 lC21 eC21 hC.1 l22 rfl o2 d2.1 (Or.inr ⟨⟨he0, by rw [sb21.1.2.1]; exact he1⟩, e21.2⟩) (e21.1.trans hρ) sy21.2.1.1 (by have := sy21.2.1; omega) sy21.2.2.2.1 sy21.2.2.2.2) (fun r28 t27 f27 q => ?_) (fun t27 f27 q => ⟨Or.inl ⟨z, bnd_inl (bnd_inr ec (bnd_inr ep (bnd_inr er q.1)))⟩, q.2.pre rg.1 k1721⟩)
      obtain ⟨L, st3, em, rfl, lt, elf, esto, est2, k27⟩ := q
      have em1 : mcE M R mo (RE (Wr M R mo) 1) (6 * s + cc) ρ st (.inr (L, st3)) := bnd_inr ec (bnd_inr ep (bnd_inr er em))
      have wm := mcE_wi hM (RE_wi (mo := mo) hM hE 1) hC.1 O.1 OV ei.1 ek w em1
      have vL := mcE_val hM hE (RE_sn (mo := mo) hM hE 1) rok cc0 (by omega) z ei ek w em1
      have kz27 := okZ.trans rg.1 k1721.okZ k27
      obtain ⟨top, htop⟩ : ∃ z, z = gI t21 113 := ⟨_, rfl⟩
      rw [← htop] at elf esto ⊢
      have lt3 := lt.2.2.2.1
      have lt0 := lt.1
      have lt1 := lt.2.1
      rw [elf] at lt0 lt1
      have sy27 : SY 0 t27 := by
        obtain ⟨⟨-, -, -, ⟨⟨q1, -, q3, -⟩, -⟩, -⟩, -, ⟨⟨y1', y2', y3'⟩, -⟩, nn, mm⟩ := kz27
        exact ⟨y1, by rw [y1']; exact y2, by rw [y3', q1]; omega, by omega, by rw [q3]; exact est2⟩
      have tσ : top = gI σ 113 := by rw [htop]; exact sb21.1.2.1
      have hf27 : flT t27 fr fl := hf.to kz27.2.1 (by rw [f27.i _ rfl, f21.i _ rfl, f17.i _ rfl]) (by rw [f27.a _ rfl, f21.a _ rfl, f17.a _ rfl]) (by rw [f27.a _ rfl, f21.a _ rfl, f17.a _ rfl])
      have tm27 : tmF fr σ t27 := (((tmF.rf fr σ).fr f17 rfl).fr f21 rfl).fr f27 rfl
      have pt27 : ptT t27 π := pt.to π (fun j _ _ => by rw [f27.a _ rfl, f21.a _ rfl, f17.a _ rfl])
      have pm27 : gI t27 132 = (π.length : Int) := by rw [f27.i _ rfl, f21.i _ rfl, f17.i _ rfl, pm]
      have rg27 := k27.1.1.rg
      refine lt_allWays_L190 (fo_t_S_allWays n) (fun v9 s' => ∃ i : Nat, v9 = (i : Int) ∧ i ≤ L.length ∧ ∃ sti fli, okY M R mo sx σ0 t27 sti s' ∧ flT s' fr fli ∧ tmF fr σ s' ∧ wiF M R a0 r0 st3 sti fli ∧ ∀ o, eachE (fun ρ1 fl st o => waysE M R mo (RE (Wr M R mo) 0) (RE (Wr M R mo) 1) s π ρm k (cc + 1) (cut ρ1) fl st o) (L.drop i) fli sti o → eachE (fun ρ1 fl st o => waysE M R mo (RE (Wr M R mo) 0) (RE (Wr M R mo) 1) s π ρm k (cc + 1) (cut ρ1) fl st o) L fl st3 o)
        (fun v9 _ => (L.length + 1 - v9.toNat)) ⟨0, rfl, by omega, st3, fl, okY.rf k27.1, hf27, tm27, ⟨wm.1, leS.rf _, hfk.le wm.2.1⟩, fun o ho => by simpa using ho⟩ ?_
      rintro v9 s' fr0 ⟨i, rfl, hi, sti, fli, ko, hfi, tmi, ⟨wi, li, fki⟩, hfo⟩
      try dsimp only
      by_cases y : (i : Int) < (L.length : Int)
      · rw [if_pos y]
        obtain ⟨ρ1, hρ1⟩ : ∃ ρ1, L[i]? = some ρ1 := by
          rw [List.getElem?_eq_getElem (by omega)]; exact ⟨_, rfl⟩
        have mem1 : ρ1 ∈ L := List.mem_of_getElem? hρ1
        have wv : w32 (top + w32 (64 * (i : Int))) = top + 64 * i := by simp (disch := omega) only [w32_id]
        have wi1 : w32 ((i : Int) + 1) = ((i + 1 : Nat) : Int) := by rw [w32_id (by omega) (by omega)]; omega
        have sto := ko.2.2.1.1.2.1
        have env := take_envT lt elf hρ1 ko.2.1 (fun v v0 v1 => ko.2.2.1.2.2.1 _ (by omega))
        rw [wv, wc, wi1]
        have kzs := okZ.trans rg.1 kz27 ko.okZ
        have mrs : mrT s' m ρm := mr.to kzs.2.1 kzs.2.2.1.1.2.1 (fun j hj => kzs.2.2.1.2.2.1 j hj)
        have l01 : leS st sti := wm.2.1.trans li
        have recur := ih n (by omega) s' sti (cc + 1) (top + 64 * i) m rt (cut ρ1) fli (by omega) (by omega) ko.1 wi (dr.le l01 hr.1.1) (kzs.2.1.lv lrt) ((kzs.2.1.2.1 _ lrt).trans ert) (by omega) (by omega) (fun v v0 v1 => (env.2 v v0 (by omega)).1) env.1 (vL ρ1 mem1) ((wm.2.2 ρ1 mem1).le li).ct (km.le l01) (sy27.next ko) hfi fki (pt27.to π (fun j _ _ => by rw [fr0.a _ rfl])) (by rw [fr0.i _ rfl, pm27]) mrs
        have dropi : L.drop i = ρ1 :: L.drop (i + 1) := by
          rw [List.drop_eq_getElem_cons (by omega)]
          have := (List.getElem?_eq_some_iff.mp hρ1).2
          rw [this]
        refine fo_t_S_allWays n _ _ _ _ _ _ _ recur (fun _ t35 f35 q => ?_) (fun t35 f35 q => ⟨Or.inl ⟨z, bnd_inr em1 (hfo _ ?_)⟩, q.2.1, kzs.2.1.trans q.2.2 rg.1⟩)
        rotate_left
        · rw [dropi]
          exact bnd_inl q.1
        obtain ⟨st2', fl2, e2', k2, hf2, tm2⟩ := q
        rintro t37 ht37
        have e37 : t37 = t35 := by rw [ht37]; exact pI_same k2.2.2.1.1.2.1
        rw [e37]
        have w2' := waysE_wi hM hE (RE_sn (mo := mo) hM hE 1) (RE_wi (mo := mo) hM hE 1) (RE_wi (mo := mo) hM hE 0) rok hr hc lm k (cc + 1) (cut ρ1) fli sti fl2 st2' (by omega) (by omega) (dr.le l01 hr.1.1).1.KH (km.le l01) (vL ρ1 mem1) ((wm.2.2 ρ1 mem1).le li).ct fki wi e2'
        refine ⟨⟨i + 1, rfl, by omega, st2', fl2, okY.trans rg27.1 ko k2, hf2, tmi.trans tm2, ⟨w2'.1, li.trans w2'.2.1, w2'.2.2⟩, fun o ho => hfo o ?_⟩, by omega⟩
        rw [dropi]
        exact bnd_inr e2' ho
      · rw [if_neg y]
        have ei' : i = L.length := by omega
        unfold t_allWays_j238
        rintro t32 ht32
        have kk := okZ.trans rg.1 kz27 ko.okZ
        have f32 : Fr ([113], [], []) s' t32 := Fr.rf.putI ht32 rfl
        refine ⟨sti, fli, Or.inl ⟨z, bnd_inr em1 (hfo _ ?_)⟩, kk.back hn0 rg.1 (by rw [← tσ]; exact ht32), hfi.to (EyT.of_fr f32 rfl) (f32.i _ rfl) (f32.a _ rfl) (f32.a _ rfl), tmi.fr f32 rfl⟩
        rw [ei', List.drop_length]
        rfl
    · rw [if_neg z]
      have g4 := ts_holdsPart c0' (fo_t_S_reduced 719) (ppx_top (sx := sx) c0' hOt (m := 719) (by omega)) hs cc0 (by omega) z h w he0 (by omega) hb hρ ei ek (sy.up (by omega))
      rw [← te_reduced_4] at g4
      refine fm_t_holdsPart g4 (fun r40 t39 f39 q => ?_) (fun t39 f39 q => ⟨Or.inr ⟨z, bnd_inl q.1⟩, q.2⟩)
      obtain ⟨st1, b, e1, er, k1⟩ := q
      have e1 : isTrueE M R (RE (Wr M R mo) 1) (6 * s + cc) ρ st (.inr (b, st1)) := e1
      have w1 := isTrueE_wi hM (RE_wi (mo := mo) hM hE 1) hC.1 (fun v v0 ho => EK.at ei ek (hC.2.2.1 z v v0 ho)) (fun z2 => ⟨(hC.2.1 z2).1, fun v v0 ho => EK.at ei ek ((hC.2.1 z2).2 v v0 ho)⟩) w e1
      have fl39 : flT t39 fr fl := hf.to k1.2.1 (f39.i _ rfl) (f39.a _ rfl) (f39.a _ rfl)
      have tm39 : tmF fr σ t39 := (tmF.rf fr σ).fr f39 rfl
      cases b with
      | false =>
        rw [if_pos (by rw [er]; rfl)]
        exact ⟨st1, fl, Or.inr ⟨z, bnd_inr e1 (Or.inr ⟨rfl, rfl⟩)⟩, k1, fl39, tm39⟩
      | true =>
        rw [if_neg (by rw [er]; decide), wc]
        have sto := k1.2.2.1.1.2.1
        have e39 := eT0_ey k1.2.1 hb (fun v v0 v1 => k1.2.2.1.2.2.1 _ (by omega))
        have mr39 := mr.to k1.2.1 (by rw [sto]; exact Int.le_refl _) (fun j hj => k1.2.2.1.2.2.1 j hj)
        have recur := ih n (by omega) t39 st1 (cc + 1) e m rt ρ fl (by omega) (by omega) k1.1 w1.1 (dr.le w1.2 hr.1.1) (k1.2.1.lv lrt) ((k1.2.1.2.1 _ lrt).trans ert) he0 (by omega) e39.2 (e39.1.trans hρ) (ei.up z) (ek.le w1.2) (km.le w1.2) (sy.next k1) fl39 (hfk.le w1.2) (pt.to π (fun j _ _ => by rw [f39.a _ rfl])) (by rw [f39.i _ rfl, pm]) mr39
        refine fo_t_S_allWays n _ _ _ _ _ _ _ recur (fun _ t44 f44 q => ?_) (fun t44 f44 q => ⟨Or.inr ⟨z, bnd_inr e1 (Or.inl ⟨rfl, q.1⟩)⟩, q.2.pre rg.1 k1⟩)
        obtain ⟨st2, fl2, e2, k2, hf2, tm2⟩ := q
        exact ⟨st2, fl2, Or.inr ⟨z, bnd_inr e1 (Or.inl ⟨rfl, e2⟩)⟩, okY.trans rg.1 k1 k2, hf2, tm39.trans tm2⟩
end

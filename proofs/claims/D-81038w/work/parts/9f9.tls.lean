/-! RewriteHouseModel: all steps of a term -/
section
variable {M : Mo} {R : Ru} {mo : Int} {σ0 : S} {a0 r0 : Int} {sx : Int → Int}
theorem ts_stepBy (c : cxT2 M R mo σ0 (a0 + 50) (r0 + 50)) (hOt : isOt M) {s fr : Int} (hs : stX M s) (f0 : 0 ≤ fr) (f1 : fr + 61 ≤ 40000) {π : Pth} {r X : Tr} (hr : okT M r) (hc : pthC π X r) {σ : S} {st : ST} {y rt : Int} {fl : FL} (h : TR M R mo sx σ0 st σ) (w : WI M R a0 r0 0 0 st) (dr : DR M st r) (lrt : lvT σ rt) (ert : tT σ rt = r) (ly : lvT σ y) (eY : tT σ y = X) (sy : SY 0 σ) (hf : flT σ fr fl) (hfk : flK M st fl) (pt : ptT σ π) (pm : gI σ 132 = (π.length : Int)) :
    t_stepBy rt y (sx s) (s - 40) fr σ (fun _ s' => ∃ st' fl', ruleE M R mo (RE (Wr M R mo) 0) (RE (Wr M R mo) 1) s π X fl st (.inr (fl', st')) ∧ okY M R mo sx σ0 σ st' s' ∧ flT s' fr fl' ∧ tmF fr σ s') (fun s' => ruleE M R mo (RE (Wr M R mo) 0) (RE (Wr M R mo) 1) s π X fl st (.inl (gI s' 1006, gI s' 120)) ∧ noY M σ s') := by
  have hM := c.1.wm
  have hE := hE_ofT c
  have hn0 := c.2.1.1
  have c0' : cxT2 M R mo σ0 a0 r0 := c.weak (by omega) (by omega)
  have rok := c.2.2.1 s hs
  have cm := rok.2.2.2.1
  have rg := h.1.rg
  have mq := h.2.2.2.1.2.2.2.1
  have mq1 := h.2.2.2.1.1.2.2.1
  have ox := subs_NF hr (pthC_sub hr.1.1 π X hc).1
  have px : PH M st X := dr.1.sub hr.1.1 (pthC_sub hr.1.1 π X hc).1
  obtain ⟨sxr, sK, ⟨lL, eL⟩, -, -, -⟩ := h.2.2.2.2.1.1 s hs
  have sm := h.2.2.2.2.1.2.1
  have tb : inb (sx s) 70 := ⟨by omega, by omega⟩
  have en : eT0 σ (-1) = nilE := by
    funext v
    unfold eT0 nilE
    rw [if_pos (by decide)]
  obtain ⟨y1, y2, y3, y4⟩ := id sy
  unfold t_stepBy
  refine ⟨tb, ?_⟩
  refine fm_t_list (lst_stepT c0' h w lL eL rok.1.1 ly eY ox px (Or.inl (by decide)) en (by omega) (by omega) (by omega) (by omega)) (fun r5 t13 f13 q => ?_) (fun t13 f13 q => ⟨bnd_inl q.1, q.2⟩)
  obtain ⟨L, st1, em, rfl, lt, elf, est, estq, kz⟩ := q
  have em : mtE M mo (ruL R s) X true nilE st (.inr (L, st1)) := em
  have emB := (mtE_ok em).2.1
  have LMs := left_val hM rok ox emB
  have w1 := mt_wi w em
  obtain ⟨hwd, hz⟩ := mlB_ok emB
  have EKs : ∀ ρm ∈ L, EK M st1 ρm := fun ρm hm => EK_match hM rok.1.1 ox hwd okB_nil (hz ρm hm) (px.le w1.2 ox.1.1) (EK_nil _)
  obtain ⟨top, htop⟩ : ∃ z, z = gI σ 113 := ⟨_, rfl⟩
  rw [← htop] at elf est ⊢
  have lc := lt.2.2.2.1
  have lt2 := lt.2.1
  have rg13 := kz.1.1.rg
  have mq13 := kz.1.2.2.2.1.2.2.2.1
  have mq131 := kz.1.2.2.2.1.1.2.2.1
  have sy13 : SY 0 t13 := by
    obtain ⟨-, -, ⟨⟨a1, a2, a3⟩, -⟩, n', m'⟩ := id kz
    exact ⟨y1, by rw [a1]; exact y2, by rw [a3]; have := kz.1.2.2.2.1.1.1; omega, by omega⟩
  have hf13 : flT t13 fr fl := hf.to kz.2.1 (f13.i _ rfl) (f13.a _ rfl) (f13.a _ rfl)
  have tm13 : tmF fr σ t13 := (tmF.rf fr σ).fr f13 rfl
  have pt13 : ptT t13 π := pt.to π (fun j _ _ => by rw [f13.a _ rfl])
  have pm13 : gI t13 132 = (π.length : Int) := by rw [f13.i _ rfl, pm]
  refine lt_stepBy_L24 (fun v7 s' => ∃ i : Nat, v7 = (i : Int) ∧ i ≤ L.length ∧ ∃ sti fli, okY M R mo sx σ0 t13 sti s' ∧ flT s' fr fli ∧ tmF fr σ s' ∧ wiF M R a0 r0 st1 sti fli ∧ ∀ o, eachE (fun ρm fl st o => waysE M R mo (RE (Wr M R mo) 0) (RE (Wr M R mo) 1) s π ρm (mCn M s).toNat 0 (cut ρm) fl st o) (L.drop i) fli sti o → eachE (fun ρm fl st o => waysE M R mo (RE (Wr M R mo) 0) (RE (Wr M R mo) 1) s π ρm (mCn M s).toNat 0 (cut ρm) fl st o) L fl st1 o)
    (fun v7 _ => (L.length + 1 - v7.toNat)) ⟨0, rfl, by omega, st1, fl, okY.rf kz.1, hf13, tm13, ⟨w1.1, leS.rf _, hfk.le w1.2⟩, fun o ho => by simpa using ho⟩ ?_
  rintro v7 s' fr0 ⟨i, rfl, hi, sti, fli, ko, hfi, tmi, ⟨wi, li, fki⟩, hfo⟩
  try dsimp only
  by_cases yy : (i : Int) < (L.length : Int)
  · rw [if_pos yy]
    obtain ⟨ρ1, hρ1⟩ : ∃ ρ1, L[i]? = some ρ1 := by
      rw [List.getElem?_eq_getElem (by omega)]; exact ⟨_, rfl⟩
    have mem1 : ρ1 ∈ L := List.mem_of_getElem? hρ1
    have lm := LMs ρ1 mem1
    have ekm : EK M sti ρ1 := (EKs ρ1 mem1).le li
    have wv : w32 (top + w32 (64 * (i : Int))) = top + 64 * i := by simp (disch := omega) only [w32_id]
    have wi1 : w32 ((i : Int) + 1) = ((i + 1 : Nat) : Int) := by rw [w32_id (by omega) (by omega)]; omega
    rw [wv, wi1]
    have sto := ko.2.2.1.1.2.1
    have env := take_envT lt elf hρ1 ko.2.1 (fun v v0 v1 => ko.2.2.1.2.2.1 _ (by omega))
    have kzs := okZ.trans rg.1 kz ko.okZ
    have mrs : mrT s' (top + 64 * i) ρ1 := ⟨⟨by omega, by omega⟩, env.2 60 (by omega) (by omega), env.2 61 (by omega) (by omega)⟩
    have l01 : leS st sti := w1.2.trans li
    have recur := ts_allWays (sx := sx) c hOt hs f0 f1 hr hc lm (mCn M s).toNat 10 (by omega) s' sti 0 (top + 64 * i) (top + 64 * i) rt (cut ρ1) fli (by omega) (by omega) ko.1 wi (dr.le l01 hr.1.1) (kzs.2.1.lv lrt) ((kzs.2.1.2.1 _ lrt).trans ert) (by omega) (by omega) (fun v v0 v1 => (env.2 v v0 (by omega)).1) env.1 lm.1 ekm.ct ekm (sy13.next ko) hfi fki (pt13.to π (fun j _ _ => by rw [fr0.a _ rfl])) (by rw [fr0.i _ rfl, pm13]) mrs
    have dropi : L.drop i = ρ1 :: L.drop (i + 1) := by
      rw [List.drop_eq_getElem_cons (by omega)]
      have := (List.getElem?_eq_some_iff.mp hρ1).2
      rw [this]
    refine fm_t_allWays recur (fun _ t12 f12 q => ?_) (fun t12 f12 q => ⟨bnd_inr em (hfo _ ?_), q.2.1, kzs.2.1.trans q.2.2 rg.1⟩)
    rotate_left
    · rw [dropi]
      exact bnd_inl q.1
    obtain ⟨st2, fl2, e2, k2, hf2, tm2⟩ := q
    rintro t14 ht14
    have e14 : t14 = t12 := by rw [ht14]; exact pI_same k2.2.2.1.1.2.1
    rw [e14]
    have w2 := waysE_wi hM hE (RE_sn (mo := mo) hM hE 1) (RE_wi (mo := mo) hM hE 1) (RE_wi (mo := mo) hM hE 0) rok hr hc lm (mCn M s).toNat 0 (cut ρ1) fli sti fl2 st2 (by omega) (by omega) (dr.le l01 hr.1.1).1.KH ekm lm.1 ekm.ct fki wi e2
    refine ⟨⟨i + 1, rfl, by omega, st2, fl2, okY.trans rg13.1 ko k2, hf2, tmi.trans tm2, ⟨w2.1, li.trans w2.2.1, w2.2.2⟩, fun o ho => hfo o ?_⟩, by omega⟩
    rw [dropi]
    exact bnd_inr e2 ho
  · rw [if_neg yy]
    have ei' : i = L.length := by omega
    unfold t_stepBy_j76
    rintro t9 ht9
    have kk := okZ.trans rg.1 kz ko.okZ
    have f9 : Fr ([113], [], []) s' t9 := Fr.rf.putI ht9 rfl
    refine ⟨sti, fli, bnd_inr em (hfo _ ?_), kk.back hn0 rg.1 (by rw [← htop]; exact ht9), hfi.to (EyT.of_fr f9 rfl) (f9.i _ rfl) (f9.a _ rfl) (f9.a _ rfl), tmi.fr f9 rfl⟩
    rw [ei', List.drop_length]
    rfl
/-- which rules are wanted -/
def lbT (M : Mo) (sx : Int → Int) (σ : S) (lw : Int) (w : Int → Bool) : Prop := ∀ r, 0 ≤ r → r < mRls M → (w (40 + r) = true ↔ (lw < 0 ∨ gA σ 69 (sx (40 + r)) = lw))
def SAX (M : Mo) (R : Ru) (mo : Int) (sx : Int → Int) (σ0 : S) (a0 r0 : Int) (w : Int → Bool) (r : Tr) (fr : Int) (m n : Nat) : Prop :=
  ∀ (σ : S) (st : ST) (y rt lw : Int) (X : Tr) (π : Pth) (fl : FL), pthC π X r → TR M R mo sx σ0 st σ → WI M R a0 r0 0 0 st → DR M st r → lvT σ rt → tT σ rt = r → lvT σ y → tT σ y = X → trS X ≤ m → SY 0 σ → flT σ fr fl → flK M st fl → ptT σ π → gI σ 132 = (π.length : Int) → lbT M sx σ lw w →
    t_S_stepAt n 0 [rt, y, lw, fr] σ (fun _ s' => ∃ st' fl', atE M R mo (RE (Wr M R mo) 0) (RE (Wr M R mo) 1) (rulL M w) m π X fl st (.inr (fl', st')) ∧ okY M R mo sx σ0 σ st' s' ∧ flT s' fr fl' ∧ tmF fr σ s' ∧ gI s' 132 = gI σ 132 ∧ ∀ j, j < gI σ 132 → gA s' 83 j = gA σ 83 j) (fun s' => atE M R mo (RE (Wr M R mo) 0) (RE (Wr M R mo) 1) (rulL M w) m π X fl st (.inl (gI s' 1006, gI s' 120)) ∧ noY M σ s')
theorem ts_stepAt (c : cxT2 M R mo σ0 (a0 + 50) (r0 + 50)) (hOt : isOt M) {w : Int → Bool} {fr : Int} (f0 : 0 ≤ fr) (f1 : fr + 61 ≤ 40000) {r : Tr} (hr : okT M r) : ∀ (m n : Nat), m ≤ n → SAX M R mo sx σ0 a0 r0 w r fr m n := by
  have hM := c.1.wm
  have hE := hE_ofT c
  have hn0 := c.2.1.1
  have r30 : 0 ≤ mRls M ∧ mRls M ≤ 30 := hM.2.2.2.2.2.1
  have e40 : 0 ≤ mEqs M ∧ mEqs M ≤ 40 := hM.2.2.2.2.1
  intro m
  induction m with
  | zero =>
    intro n _ σ st y rt lw X π fl hc _ _ _ _ _ _ _ hm
    have := trS_pos (subs_isT hr.1.1 (pthC_sub hr.1.1 π X hc).1)
    omega
  | succ m ih =>
    intro n hn σ st y rt lw X π fl hc h wi dr lrt ert ly eY hm sy hf hfk pt pm hl
    obtain ⟨n, rfl⟩ : ∃ k, n = k + 1 := ⟨n - 1, by omega⟩
    have rg := h.1.rg
    have sb := pthC_sub hr.1.1 π X hc
    have ox := subs_NF hr sb.1
    have len : π.length ≤ 39 := by
      have b := trS_pos (subs_isT hr.1.1 sb.1)
      have := hr.2
      omega
    have ru := h.2.2.2.2.1
    have st70 := ru.2.1
    rw [te_stepAt]
    unfold t_stepAt_F
    refine lt_stepAt_L6 (fo_t_S_stepAt n) (fun v5 v6 s => ∃ i : Nat, v5 = (i : Int) ∧ (i : Int) ≤ mRls M ∧ 0 ≤ v6 ∧ v6 ≤ gI σ 45 ∧ (∀ q, 0 ≤ q → q < mRls M → (q < (i : Int) ↔ sx (40 + q) < v6)) ∧ ∃ sti fli, okY M R mo sx σ0 σ sti s ∧ flT s fr fli ∧ tmF fr σ s ∧ wiF M R a0 r0 st sti fli ∧ gI s 132 = gI σ 132 ∧ gA s 83 = gA σ 83 ∧ ∀ o, rulesE M R mo (RE (Wr M R mo) 0) (RE (Wr M R mo) 1) π X (rulR M w i) fli sti o → rulesE M R mo (RE (Wr M R mo) 0) (RE (Wr M R mo) 1) π X (rulL M w) fl st o)
      (fun _ v6 _ => (gI σ 45 - v6).toNat) ⟨0, rfl, by omega, Int.le_refl _, st70.1, fun q q0 q1 => by have := (ru.1 (40 + q) (Or.inr ⟨by omega, by omega⟩)).1; omega, st, fl, okY.rf h, hf, tmF.rf _ _, ⟨wi, leS.rf _, hfk⟩, rfl, rfl, fun o ho => by rw [rulR_0] at ho; exact ho⟩ ?_
    rintro v5 v6 s fr0 ⟨i, rfl, hi, b0, b1, hq, sti, fli, ko, hfi, tmi, ⟨wii, li, fki⟩, pms, pas, hfo⟩
    try dsimp only
    have rus := ko.1.2.2.2.2.1
    have eSt : gI s 45 = gI σ 45 := fr0.i _ rfl
    rw [eSt]
    by_cases y6 : v6 < gI σ 45
    · rw [if_pos y6]
      have tb : inb v6 70 := ⟨by omega, by omega⟩
      refine ⟨tb, ?_⟩
      obtain ⟨sl, hs, es⟩ := rus.2.2.2 v6 b0 (by rw [eSt]; exact y6)
      have sK := (rus.1 sl hs).2.1
      rw [es] at sK
      rw [sK]
      have w6 : w32 (v6 + 1) = v6 + 1 := w32_id (by omega) (by omega)
      by_cases hk : (if sl < 40 then mOt M sl else 2) = 2
      · rw [if_pos hk]
        have l40 : ¬ sl < 40 := by
          intro z
          rw [if_pos z] at hk
          have s0 : 0 ≤ sl ∧ sl < mEqs M := by rcases hs with q | q <;> omega
          have := hOt sl s0.1 s0.2
          omega
        have slr : 40 ≤ sl ∧ sl < 40 + mRls M := by rcases hs with q | q <;> omega
        -- the rule's number
        have esl : sl = 40 + (i : Int) := by
          have a := hq (sl - 40) (by omega) (by omega)
          rw [show 40 + (sl - 40) = sl by omega, es] at a
          have ni : ¬ sl - 40 < (i : Int) := fun z => by have := a.mp z; omega
          rcases Classical.em (sl - 40 = (i : Int)) with z | z
          · omega
          · have b := hq (i : Int) (by omega) (by omega)
            have mono := rus.2.2.1 (40 + (i : Int)) sl (Or.inr ⟨by omega, by omega⟩) hs (by omega) (by omega)
            rw [es] at mono
            have := b.mpr mono
            omega
        have yi : (i : Int) < mRls M := by omega
        have wi1 : w32 ((i : Int) + 1) = ((i + 1 : Nat) : Int) := by rw [w32_id (by omega) (by omega)]; omega
        have hq1 : ∀ q, 0 ≤ q → q < mRls M → (q < ((i + 1 : Nat) : Int) ↔ sx (40 + q) < v6 + 1) := by
          intro q q0 q1
          have a := hq q q0 q1
          have sq : stX M (40 + q) := Or.inr ⟨by omega, by omega⟩
          constructor
          · intro z
            rcases Classical.em (q = (i : Int)) with e | e
            · rw [e, ← esl, es]; omega
            · have := a.mp (by omega); omega
          · intro z
            rcases Classical.em (q < (i : Int)) with e | e
            · omega
            · rcases Classical.em (q = (i : Int)) with e2 | e2
              · omega
              · have mono := rus.2.2.1 sl (40 + q) hs sq (by omega) (by omega)
                rw [es] at mono
                omega
        have la : gA s 69 = gA σ 69 := fr0.a _ rfl
        have hw := hl i (by omega) yi
        rw [← esl, es] at hw
        have nx := rulR_next (w := w) yi
        rw [← esl] at nx
        refine ⟨fun _ => tb, ?_⟩
        rw [la]
        by_cases z : lw < 0 ∨ gA σ 69 v6 = lw
        · rw [if_pos z]
          rw [if_pos (hw.mpr z)] at nx
          have dri := dr.le li hr.1.1
          have one := @ts_stepBy M R mo σ0 a0 r0 sx c hOt sl fr hs f0 f1 π r X hr hc s sti y rt fli ko.1 wii dri (ko.2.1.lv lrt) ((ko.2.1.2.1 _ lrt).trans ert) (ko.2.1.lv ly) ((ko.2.1.2.1 y ly).trans eY) (sy.next ko) hfi fki (pt.to π (fun j _ _ => by rw [pas])) (by rw [pms, pm])
          rw [es, show sl - 40 = (i : Int) by omega] at one
          refine fm_t_stepBy one (fun _ t f q => ?_) (fun t f q => ?_)
          · obtain ⟨st2, fl2, e2, k2, hf2, tm2⟩ := q
            have w2 := ruleE_wi hM hE (RE_sn (mo := mo) hM hE 1) (RE_wi (mo := mo) hM hE 1) (RE_wi (mo := mo) hM hE 0) (c.2.2.1 _ hs) hr hc dri fki wii e2
            unfold t_stepAt_j53 t_stepAt_j56
            rw [wi1, w6]
            refine ⟨⟨i + 1, rfl, by omega, by omega, by omega, hq1, st2, fl2, okY.trans rg.1 ko k2, hf2, tmi.trans tm2, ⟨w2.1, li.trans w2.2.1, w2.2.2⟩, by rw [f.i _ rfl, pms], by rw [f.a _ rfl, pas], fun o ho => hfo o ?_⟩, by omega⟩
            rw [nx]
            exact bnd_inr e2 ho
          · refine ⟨bnd_inl (hfo _ ?_), q.2.pre rg.1 ko⟩
            rw [nx]
            exact bnd_inl q.1
        · rw [if_neg z]
          rw [if_neg (fun k => z (hw.mp k))] at nx
          unfold t_stepAt_j53 t_stepAt_j56
          rw [wi1, w6]
          exact ⟨⟨i + 1, rfl, by omega, by omega, by omega, hq1, sti, fli, ko, hfi, tmi, ⟨wii, li, fki⟩, pms, pas, fun o ho => hfo o (by rw [nx]; exact ho)⟩, by omega⟩
      · rw [if_neg hk]
        have l40 : sl < 40 := by
          by_cases z : sl < 40
          · exact z
          · rw [if_neg z] at hk; exact absurd rfl hk
        unfold t_stepAt_j56
        rw [w6]
        refine ⟨⟨i, rfl, hi, by omega, by omega, fun q q0 q1 => ?_, sti, fli, ko, hfi, tmi, ⟨wii, li, fki⟩, pms, pas, hfo⟩, by omega⟩
        rw [hq q q0 q1]
        have sq : stX M (40 + q) := Or.inr ⟨by omega, by omega⟩
        have ne : sx (40 + q) ≠ v6 := by
          intro e
          have a := (rus.1 (40 + q) sq).2.1
          rw [e, sK, if_pos l40, if_neg (by omega)] at a
          rw [if_pos l40] at hk
          exact hk a
        omega
    · rw [if_neg y6]
      have ei : (i : Int) = mRls M := by
        rcases Classical.em ((i : Int) < mRls M) with z | z
        · have a := hq (i : Int) (by omega) z
          have b := (ru.1 (40 + (i : Int)) (Or.inr ⟨by omega, by omega⟩)).1
          have := a.mpr (by omega)
          omega
        · omega
      unfold t_stepAt_j62
      have e1 : rulesE M R mo (RE (Wr M R mo) 0) (RE (Wr M R mo) 1) π X (rulL M w) fl st (.inr (fli, sti)) := hfo _ (by rw [rulR_end (by omega)]; rfl)
      have klen : (kids X).length ≤ 39 := kids_40 ox.1.1 ox.2
      refine lt_stepAt_L65 (fo_t_S_stepAt n) (fun v2 t => ∃ j : Nat, v2 = (j : Int) ∧ j ≤ (kids X).length ∧ ∃ stj flj, okY M R mo sx σ0 σ stj t ∧ flT t fr flj ∧ tmF fr σ t ∧ wiF M R a0 r0 st stj flj ∧ gI t 132 = gI σ 132 ∧ (∀ i, i < gI σ 132 → gA t 83 i = gA σ 83 i) ∧ ∀ o, kidsE (atE M R mo (RE (Wr M R mo) 0) (RE (Wr M R mo) 1) (rulL M w) m) X π ((kids X).drop j) j flj stj o → kidsE (atE M R mo (RE (Wr M R mo) 0) (RE (Wr M R mo) 1) (rulL M w) m) X π (kids X) 0 fli sti o)
        (fun v2 _ => ((kids X).length + 1 - v2.toNat)) ⟨0, rfl, by omega, sti, fli, ko, hfi, tmi, ⟨wii, li, fki⟩, pms, fun i _ => by rw [pas], fun o ho => by rw [List.drop_zero] at ho; exact ho⟩ ?_
      rintro v2 t fr1 ⟨j, rfl, hj, stj, flj, kj, hfj, tmj, ⟨wj, lj, fkj⟩, pmj, paj, hfo2⟩
      try dsimp only
      have lyt := kj.2.1.lv ly
      have eYt := (kj.2.1.2.1 y ly).trans eY
      have kXt := tT_kids kj.1.1 lyt
      rw [eYt] at kXt
      have by2 : inb y 200000 := ⟨ly.1, by have := lyt.2; have := kj.1.1.rg; omega⟩
      refine ts_isVar kj.1.1 lyt ?_
      rw [← kXt.1]
      refine ⟨fun _ => by2, ?_⟩
      rw [← kXt.2]
      by_cases yj : (j : Int) < ((kids X).length : Int)
      · have nv : ¬ lab X < 0 := fun z => by
          have := kids_var ox.1 z
          rw [this] at yj
          simp at yj
          omega
        rw [if_pos ⟨bi_f nv, yj⟩, pmj, pm]
        refine ⟨⟨by omega, by omega⟩, ?_⟩
        rintro t9 ht9 t13 ht13
        have e9 : gI t9 132 = (π.length : Int) := by rw [ht9]; exact pmj.trans pm
        rw [e9, w32_id (by omega) (by omega)] at ht13
        have f15 : Fr ([132], [], [83]) t t13 := (Fr.rf.putA ht9 rfl).putI ht13 rfl
        have g15 : gwT t t13 := EyT.of_fr f15 rfl
        have k15 : okY M R mo sx σ0 σ stj t13 := kj.fr3 hn0 rg.1 f15 rfl rfl rfl rfl rfl rfl rfl
        have ep : ∀ i : Int, gA t13 83 i = if i = (π.length : Int) then (j : Int) else gA t 83 i := fun i => by
          rw [ht13, ht9]
          simp only [gI_pI, gI_pL, gI_pA, gL_pI, gL_pL, gL_pA, gA_pI, gA_pL, gA_pA]
          by_cases z : i = (π.length : Int)
          · rw [if_pos ⟨trivial, z⟩, if_pos z]
          · rw [if_neg (fun q => z q.2), if_neg z]
        have ly15 := g15.lv lyt
        obtain ⟨T, hkj⟩ : ∃ T, (kids X)[j]? = some T := ⟨_, List.getElem?_eq_getElem (by omega)⟩
        have kq := tT_kid kj.1.1 lyt (k := j) (q := T) (by rw [eYt]; exact hkj)
        refine ts_arg k15.1.1 ly15 (by omega) (by rw [f15.a 50 rfl]; exact kq.1) ?_
        rw [f15.a 56 rfl, f15.a 49 rfl]
        generalize gA t 56 (gA t 49 y + (j : Int)) = u at kq ⊢
        obtain ⟨-, lk, hT⟩ := kq
        have smT : trS T < trS X := by
          obtain ⟨c', ts, e, -, -⟩ := isT_ex ox.1.1
          have hm' := List.mem_of_getElem? hkj
          rw [e, kids_N] at hm'
          rw [e]
          exact trS_kid hm'
        have lu15 : lvT t13 u := g15.lv lk
        have eu15 : tT t13 u = T := (g15.2.1 u lk).trans hT
        have drj := dr.le lj hr.1.1
        have pt15 : ptT t13 ((X, j) :: π) := by
          refine ⟨by rw [ep, if_pos rfl], pt.to π (fun i i0 i1 => ?_)⟩
          rw [ep, if_neg (by omega)]
          exact paj i (by rw [pm]; exact i1)
        have pm15 : gI t13 132 = (((X, j) :: π : Pth).length : Int) := by
          rw [ht13]
          simp only [gI_pI, gI_pL, gI_pA, gL_pI, gL_pL, gL_pA, gA_pI, gA_pL, gA_pA]
          rw [if_pos trivial, List.length_cons]
          omega
        have l15 : lbT M sx t13 lw w := by
          intro q q0 q1
          have b : gA t13 69 = gA σ 69 := by rw [f15.a _ rfl, fr1.a _ rfl, fr0.a _ rfl]
          rw [b]
          exact hl q q0 q1
        have hf15 : flT t13 fr flj := hfj.to g15 (f15.i _ rfl) (f15.a _ rfl) (f15.a _ rfl)
        have dropj : (kids X).drop j = T :: (kids X).drop (j + 1) := by
          have e := (List.getElem?_eq_some_iff.mp hkj).2
          rw [← e, ← List.drop_eq_getElem_cons (by omega)]
        have recur := ih n (by omega) t13 stj u rt lw T ((X, j) :: π) flj ⟨hkj, hc⟩ k15.1 wj drj (k15.2.1.lv lrt) ((k15.2.1.2.1 _ lrt).trans ert) lu15 eu15 (by omega) (sy.next k15) hf15 fkj pt15 pm15 l15
        refine fo_t_S_stepAt n _ _ _ _ _ _ _ recur (fun _ t20 f20 q => ?_) (fun t20 f20 q => ⟨bnd_inr e1 (hfo2 _ ?_), q.2.pre rg.1 k15⟩)
        rotate_left
        · rw [dropj]
          exact bnd_inl q.1
        obtain ⟨st2, fl2, e2, k2, hf2, tm2, pm2, pa2⟩ := q
        rintro t23 ht23
        have w2 := atE_wi hM hE (RE_sn (mo := mo) hM hE 1) (RE_wi (mo := mo) hM hE 1) (RE_wi (mo := mo) hM hE 0) hr (fun s hs => c.2.2.1 s (rulL_mem hs)) m ((X, j) :: π) T flj stj fl2 st2 ⟨hkj, hc⟩ drj fkj wj e2
        have f23 : Fr ([132], [], []) t20 t23 := Fr.rf.putI ht23 rfl
        have wi1 : w32 ((j : Int) + 1) = ((j + 1 : Nat) : Int) := by rw [w32_id (by omega) (by omega)]; omega
        rw [wi1]
        rw [pm15, List.length_cons] at pm2 pa2
        refine ⟨⟨j + 1, rfl, by omega, st2, fl2, (okY.trans rg.1 k15 k2).fr3 hn0 rg.1 f23 rfl rfl rfl rfl rfl rfl rfl, hf2.to (EyT.of_fr f23 rfl) (f23.i _ rfl) (f23.a _ rfl) (f23.a _ rfl), ((tmj.fr f15 rfl).trans tm2).fr f23 rfl, ⟨w2.1, lj.trans w2.2.1, w2.2.2⟩, ?_, fun i hi => ?_, fun o ho => hfo2 o ?_⟩, by omega⟩
        · rw [ht23]
          simp only [gI_pI, gI_pL, gI_pA, gL_pI, gL_pL, gL_pA, gA_pI, gA_pL, gA_pA]
          rw [if_pos trivial, pm2, w32_id (by omega) (by omega)]
          omega
        · rw [f23.a _ rfl]
          have a := pa2 i (by omega)
          rw [ep, if_neg (by omega)] at a
          exact a.trans (paj i (by rw [pm]; exact hi))
        · rw [dropj]
          exact bnd_inr e2 ho
      · rw [if_neg (fun k => yj k.2)]
        have ej : j = (kids X).length := by omega
        refine ⟨stj, flj, bnd_inr e1 (hfo2 _ ?_), kj, hfj, tmj, pmj, paj⟩
        rw [ej, List.drop_length]
        rfl
theorem ts_listSteps (c : cxT2 M R mo σ0 (a0 + 50) (r0 + 50)) (hOt : isOt M) {w : Int → Bool} {σ : S} {st : ST} {y lw fr : Int} {X : Tr} (h : TR M R mo sx σ0 st σ) (wi : WI M R a0 r0 0 0 st) (ox : okT M X) (dr : DR M st X) (ly : lvT σ y) (eY : tT σ y = X) (sy : SY 0 σ) (ef : gI σ 129 = fr) (f0 : 0 ≤ fr) (f1 : fr + 61 ≤ 40000) (hl : lbT M sx σ lw w) :
    t_listSteps y lw σ (fun q s' => ∃ st' fl', stepsE M R mo w X st (.inr (fl', st')) ∧ q = (fl'.length : Int) ∧ okY M R mo sx σ0 σ st' s' ∧ flT s' fr fl' ∧ tmF fr σ s') (fun s' => stepsE M R mo w X st (.inl (gI s' 1006, gI s' 120)) ∧ noY M σ s') := by
  have hn0 := c.2.1.1
  have rg := h.1.rg
  unfold t_listSteps
  rintro t2 ht2
  have f2 : Fr ([132], [], []) σ t2 := Fr.rf.putI ht2 rfl
  have k2 : okY M R mo sx σ0 σ st t2 := (okY.rf h).fr3 hn0 rg.1 f2 rfl rfl rfl rfl rfl rfl rfl
  have g2 := k2.2.1
  have hf2 : flT t2 fr [] := ⟨by rw [f2.i _ rfl, ef]; simp, by simp, fun i hi => by simp at hi⟩
  have pm2 : gI t2 132 = (([] : Pth).length : Int) := by rw [ht2]; simp only [gI_pI, gI_pL, gI_pA, gL_pI, gL_pL, gL_pA, gA_pI, gA_pL, gA_pA]; rw [if_pos trivial]; rfl
  have l2 : lbT M sx t2 lw w := by
    intro q q0 q1
    rw [f2.a _ rfl]
    exact hl q q0 q1
  have o40 := ox.2
  rw [ef]
  refine fm_t_stepAt (ts_stepAt c hOt (w := w) f0 f1 (r := X) ox (trS X) 44 (by omega) t2 st y y lw X [] [] rfl k2.1 wi dr (g2.lv ly) ((g2.2.1 y ly).trans eY) (g2.lv ly) ((g2.2.1 y ly).trans eY) (Nat.le_refl _) (sy.next k2) hf2 (flK_nil _) trivial pm2 l2) (fun _ t4 f4 q => ?_) (fun t4 f4 q => ⟨q.1, q.2.pre rg.1 k2⟩)
  obtain ⟨st', fl', e, k, hf, tm, -, -⟩ := q
  refine ⟨st', fl', e, ?_, okY.trans rg.1 k2 k, hf, ((tmF.rf fr σ).fr f2 rfl).trans tm⟩
  have l60 := hf.2.1
  rw [hf.1, w32_id (by omega) (by omega)]
  omega
end

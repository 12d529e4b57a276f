/-! RewriteHouseModel: reducing, an equation tried -/
section
variable {M : Mo} {R : Ru} {mo : Int} {σ0 : S} {a0 r0 : Int} {sx : Int → Int}
theorem ts_oneT (c : cxT2 M R mo σ0 a0 r0) {d : Int} {n : Nat} {sl : Int} (hs : stX M sl) (hH : HTX M R mo sx σ0 a0 r0 sl d (mCn M sl).toNat n) {late t y : Int} (es : sx sl = t) {σ : S} {st : ST} (h : TR M R mo sx σ0 st σ) (w : WI M R a0 r0 0 0 st) (ly : lvT σ y) (oy : okT M (tT σ y)) (hp : PH M st (tT σ y)) (sy : SY (d + 1) σ)
    {Q : Int → S → Prop} {E : S → Prop} {X2 X10 : Int → S → Prop}
    (hQ : ∀ z st1 st2 r s', tryOneE M R mo (RE (Wr M R mo) (d + 1)) sl (tT σ y) st (.inr (some z, st1)) → stepE st1 (.inr ((), st2)) → okY M R mo sx σ0 σ st2 s' → lvT s' r → tT s' r = z → gI σ 120 + 1 ≤ stS st2 → Q r s')
    (hE1 : ∀ s', tryOneE M R mo (RE (Wr M R mo) (d + 1)) sl (tT σ y) st (.inl (gI s' 1006, gI s' 120)) → noY M σ s' → E s')
    (hE2 : ∀ z st1 s', tryOneE M R mo (RE (Wr M R mo) (d + 1)) sl (tT σ y) st (.inr (some z, st1)) → stepE st1 (.inl (gI s' 1006, gI s' 120)) → noY M σ s' → E s')
    (hN : ∀ st1 s', tryOneE M R mo (RE (Wr M R mo) (d + 1)) sl (tT σ y) st (.inr (none, st1)) → okY M R mo sx σ0 σ st1 s' → X10 (w32 (t + 1)) s') :
    t_list (gA σ 64 t) y 1 (-1) σ (fun r s' => t_byEquation_L55 (t_S_reduced n) y d late t (gI σ 113) r 0 s' Q E X2 X10) E := by
  have hM := c.1.wm
  have hE := hE_ofT c
  have hn0 := c.2.1.1
  have rok := c.2.2.1 sl hs
  have cm := rok.2.2.2.1
  have rg := h.1.rg
  have mq := h.2.2.2.1.2.2.2.1
  have mq1 := h.2.2.2.1.1.2.2.1
  have ss1 := h.2.2.2.1.1.1
  obtain ⟨sxr, sK, ⟨lL, eL⟩, -, -, -⟩ := h.2.2.2.2.1.1 sl hs
  have sm := h.2.2.2.2.1.2.1
  rw [es] at lL eL sxr
  have tb : inb t 70 := ⟨by omega, by omega⟩
  have en : eT0 σ (-1) = nilE := by
    funext v
    unfold eT0 nilE
    rw [if_pos (by decide)]
  have sy2 := sy
  obtain ⟨y1, y2, y3, y4⟩ := sy
  refine fm_t_list (lst_stepT c h w lL eL rok.1.1 ly rfl oy hp (Or.inl (by decide)) en (by omega) (by omega) (by omega) (by omega)) (fun r t13 f13 q => ?_) (fun t13 f13 q => hE1 _ (bnd_inl q.1) q.2)
  obtain ⟨L, st1, em, rfl, lt, elf, est, estq, kz⟩ := q
  have em : mtE M mo (ruL R sl) (tT σ y) true nilE st (.inr (L, st1)) := em
  have emB := (mtE_ok em).2.1
  have LMs := left_val hM rok oy emB
  have w1 := mt_wi w em
  obtain ⟨hwd, hz⟩ := mlB_ok emB
  have EKs : ∀ ρm ∈ L, EK M st1 ρm := fun ρm hm => EK_match hM rok.1.1 oy hwd okB_nil (hz ρm hm) (hp.le w1.2 oy.1.1) (EK_nil _)
  obtain ⟨top, htop⟩ : ∃ z, z = gI σ 113 := ⟨_, rfl⟩
  rw [← htop] at elf est ⊢
  have lc := lt.2.2.2.1
  have lt2 := lt.2.1
  have rg13 := kz.1.1.rg
  have mq13 := kz.1.2.2.2.1.2.2.2.1
  have mq131 := kz.1.2.2.2.1.1.2.2.1
  have sb13 := kz.2.2.1.1.2.1
  have sy13 : SY (d + 1) t13 := by
    obtain ⟨-, -, ⟨⟨a1, a2, a3⟩, -⟩, n', m'⟩ := id kz
    exact ⟨y1, by rw [a1]; exact y2, by rw [a3]; have := kz.1.2.2.2.1.1.1; omega, by omega⟩
  refine lt_byEquation_L55 (fo_t_S_reduced n) (fun v7 s => ∃ i : Nat, v7 = (i : Int) ∧ i ≤ L.length ∧ ∃ sti, okY M R mo sx σ0 t13 sti s ∧ WI M R a0 r0 0 0 sti ∧ leS st1 sti ∧ ∀ o, firstE (useE M R mo (RE (Wr M R mo) (d + 1)) sl) (L.drop i) sti o → firstE (useE M R mo (RE (Wr M R mo) (d + 1)) sl) L st1 o)
    (fun v7 _ => (L.length + 1 - v7.toNat)) ⟨0, rfl, by omega, st1, okY.rf kz.1, w1.1, leS.rf _, fun o ho => by simpa using ho⟩ ?_
  rintro v7 s fr0 ⟨i, rfl, hi, sti, ko, wi, li, hf⟩
  try dsimp only
  by_cases yy : (i : Int) < (L.length : Int)
  · rw [if_pos yy]
    obtain ⟨ρ1, hρ1⟩ : ∃ ρ1, L[i]? = some ρ1 := by
      rw [List.getElem?_eq_getElem (by omega)]; exact ⟨_, rfl⟩
    have mem1 : ρ1 ∈ L := List.mem_of_getElem? hρ1
    have lm := LMs ρ1 mem1
    have ek1 : EK M sti ρ1 := (EKs ρ1 mem1).le li
    have wv : w32 (top + w32 (64 * (i : Int))) = top + 64 * i := by simp (disch := omega) only [w32_id]
    have wi1 : w32 ((i : Int) + 1) = ((i + 1 : Nat) : Int) := by rw [w32_id (by omega) (by omega)]; omega
    rw [wv, wi1]
    have sto := ko.2.2.1.1.2.1
    have env := take_envT lt elf hρ1 ko.2.1 (fun v v0 v1 => ko.2.2.1.2.2.1 _ (by omega))
    have dropi : L.drop i = ρ1 :: L.drop (i + 1) := by
      rw [List.drop_eq_getElem_cons (by omega)]
      have := (List.getElem?_eq_some_iff.mp hρ1).2
      rw [this]
    have failE : ∀ e, useE M R mo (RE (Wr M R mo) (d + 1)) sl ρ1 sti (.inl e) → tryOneE M R mo (RE (Wr M R mo) (d + 1)) sl (tT σ y) st (.inl e) := by
      intro e hu
      refine bnd_inr em (hf _ ?_)
      rw [dropi]
      exact bnd_inl hu
    have g13s : ∀ s', noY M s s' → noY M σ s' := fun s' hn => ⟨hn.1, (kz.2.1.trans ko.2.1 rg.1).trans hn.2 rg.1⟩
    have recur := hH s sti 0 (top + 64 * i) (cut ρ1) (by omega) (by omega) ko.1 wi (by omega) (by omega) (fun v v0 v1 => (env.2 v v0 (by omega)).1) env.1 lm.1 ek1.ct (sy13.next ko)
    rw [es] at recur
    refine fo_t_S_reduced n _ _ _ _ _ _ _ recur (fun r22 t21 f21 q => ?_) (fun t21 f21 q => hE1 _ (failE _ (bnd_inl q.1)) (g13s _ q.2))
    obtain ⟨st2, qq, e2, hq⟩ := q
    have hw2 := holdsE_wi hM hE (RE_sn (mo := mo) hM hE (d + 1)) (RE_wi (mo := mo) hM hE (d + 1)) rok (mCn M sl).toNat 0 (cut ρ1) sti qq st2 (by omega) (by omega) lm.1 ek1.ct wi e2
    rcases hq with ⟨rfl, r0', k21⟩ | ⟨ρ', rfl, r0', r1, er', lr, k21, s21⟩
    · rw [if_pos r0']
      rintro t26 ht26
      have e26 : t26 = t21 := by rw [ht26]; exact pI_same k21.2.2.1.1.2.1
      rw [e26]
      refine ⟨⟨i + 1, rfl, by omega, st2, okY.trans rg13.1 ko k21, hw2.2.1 rfl, li.trans hw2.1, fun o ho => hf o ?_⟩, by omega⟩
      rw [dropi]
      exact bnd_inr (bnd_inr e2 rfl) ho
    · rw [if_neg (by omega)]
      obtain ⟨w2, kk2, ei2⟩ := hw2.2.2 ρ' rfl
      have lb : ∀ {σ : S} {x : Int}, TP M σ → lvT σ x → inb x 200000 := fun {σ x} t l => ⟨l.1, by have := l.2; have := t.rg; omega⟩
      obtain ⟨-, -, -, ⟨lR, eR⟩, -, -⟩ := k21.1.2.2.2.2.1.1 sl hs
      rw [es] at lR eR
      have hvR : ∀ v : Int, 0 ≤ v → occ v (ruR R sl) → okT M (ρ' v) := fun v v0 ho => (EK.at ei2 kk2 (rok.2.2.1 v v0 ho)).1
      have rgs := ko.1.1.rg
      have rg21 := k21.1.1.rg
      have mq21 := k21.1.2.2.2.1.2.2.2.1
      have R40 := rok.2.1.2
      have pil : gI t21 83 = gI σ 83 := by rw [k21.2.2.1.1.1, ko.2.2.1.1.1, kz.2.2.1.1.1]
      unfold t_byEquation_j95
      refine ⟨tb, lb k21.1.1 lR, ?_⟩
      rw [(k21.1.1.nd lR).1, eR]
      have er2 : ∀ o : Tr × ST, useE M R mo (RE (Wr M R mo) (d + 1)) sl ρ1 sti (.inr (some o.1, o.2)) → tryOneE M R mo (RE (Wr M R mo) (d + 1)) sl (tT σ y) st (.inr (some o.1, o.2)) := by
        intro o hu
        refine bnd_inr em (hf _ ?_)
        rw [dropi]
        exact bnd_inr hu rfl
      have no21 : ∀ s', noY M t21 s' → noY M σ s' := fun s' hn => g13s s' ⟨hn.1, k21.2.1.trans hn.2 rgs.1⟩
      refine fm_t_fill (fill_stepT (ρ := ρ') c k21.1 w2 rok.2.1 (Int.le_refl _) (by omega) hvR) (fun _ t32 f32 q => ?_) (fun t32 f32 q => hE1 _ (failE _ (bnd_inr e2 (bnd_inl q.1))) (no21 _ q.2))
      obtain ⟨st3, ec, k32, w3, l3, w3A, fr32⟩ := q
      have rg32 := k32.1.1.rg
      have hb32 := eT0_ey k32.2.1 lr (fun v _ _ => by rw [fr32.a _ rfl])
      obtain ⟨-, -, ⟨lL2, eL2⟩, ⟨lR2, eR2⟩, -, -⟩ := k32.1.2.2.2.2.1.1 sl hs
      rw [es] at lR2 eR2 lL2 eL2
      refine ⟨tb, lb k32.1.1 lL2, tb, ?_⟩
      have pil32 : gI t32 83 = gI σ 83 := by rw [k32.2.2.1.1.1, pil]
      have no32 : ∀ s', noY M t32 s' → noY M σ s' := fun s' hn => no21 s' ⟨hn.1, k32.2.1.trans hn.2 rg21.1⟩
      refine fm_t_putIn (put_stepT c k32.1 w3A rok.2.1 lR2 eR2 r0' (by omega) hb32.2 (hb32.1.trans er') hvR (by omega) (by omega)) (fun r41 t40 f40 q => ?_) (fun t40 f40 q => hE1 _ (failE _ (bnd_inr e2 (bnd_inr ec (bnd_inl q.1)))) (no32 _ q.2))
      obtain ⟨ep, l41, k40, fr40⟩ := q
      have rg40 := k40.1.1.rg
      have k32' := okZ.trans rgs.1 k21 k32.okZ
      have k40' := okZ.trans rgs.1 k32' k40.okZ
      have no40 : ∀ s', noY M t40 s' → noY M σ s' := fun s' hn => no32 s' ⟨hn.1, k40.2.1.trans hn.2 rg32.1⟩
      have g40 : gwT t13 t40 := ko.2.1.trans k40'.2.1 rg13.1
      have env40 := take_envT lt elf hρ1 g40 (fun v v0 v1 => by rw [k40'.2.2.1.2.2.1 _ (by omega), ko.2.2.1.2.2.1 _ (by omega)])
      have vo := putB_val hM rok.2.1 hvR (putE_ok ep).2.2.2
      have eO : gA t32 48 (gA t32 64 t) = lab (ruL R sl) := by rw [← eL2, tT_row k32.1.1 lL2, lab_N]
      rw [eO]
      have pil40 : gI t40 83 = gI σ 83 := by rw [k40.2.2.1.1.1, pil32]
      refine fm_t_beside (bes_stepT c k40.1 w3A l41 rfl vo (by omega) (by omega) (env40.2 60 (by omega) (by omega)).1 (env40.2 61 (by omega) (by omega)).1 (env40.2 60 (by omega) (by omega)).2 (env40.2 61 (by omega) (by omega)).2 lm.2.2.2 (rok.1.1.1.op rok.1.2) lm.2.1 lm.2.2.1 (by omega) (by omega)) (fun r44 t43 f43 q => ?_) (fun t43 f43 q => hE1 _ (failE _ (bnd_inr e2 (bnd_inr ec (bnd_inr ep (bnd_inl q.1))))) (no40 _ q.2))
      obtain ⟨st5, ebs, l44, k43, st43⟩ := q
      have rg43 := k43.1.1.rg
      have to := er2 (tT t43 r44, st5) (bnd_inr e2 (bnd_inr ec (bnd_inr ep (bnd_inr ebs rfl))))
      have no43 : ∀ s', noY M t43 s' → noY M σ s' := fun s' hn => no40 s' ⟨hn.1, k43.2.1.trans hn.2 rg40.1⟩
      refine fm_t_oneStep (step_stepT hn0 k43.1) (fun _ t46 f46 q => ?_) (fun t46 f46 q => hE2 _ _ _ to q.1 (no43 _ q.2))
      obtain ⟨st6, e6, k46, fr46⟩ := q
      rintro t48 ht48
      have k43' := okZ.trans rgs.1 k40' k43.okZ
      have k46' := okZ.trans rgs.1 k43' k46.okZ
      have kall := okZ.trans rg.1 kz (okZ.trans rg13.1 ko.okZ k46')
      have kb : okY M R mo sx σ0 σ st6 t48 := kall.back hn0 rg.1 (by rw [← htop]; exact ht48)
      have fb : Fr ([113], [], []) t46 t48 := Fr.rf.putI ht48 rfl
      have gb : gwT t46 t48 := EyT.of_fr fb rfl
      have l46 := k46.2.1.lv l44
      refine hQ _ _ _ _ _ to e6 kb (gb.lv l46) ((gb.2.1 _ l46).trans (k46.2.1.2.1 _ l44)) ?_
      have a1 := (stepE_ok e6).2
      have a2 : stS st6 = stS st5 + 1 := by rw [a1]
      have a3 := kz.2.2.2.1
      have a4 := ko.2.2.2.1
      have a5 := k43'.2.2.2.1
      have a6 := ko.1.2.2.2.1.1.1
      have a7 := kz.1.2.2.2.1.1.1
      omega
  · rw [if_neg yy]
    have ei' : i = L.length := by omega
    unfold t_byEquation_j169
    rintro t18 ht18
    unfold t_byEquation_j175
    have kall := okZ.trans rg.1 kz ko.okZ
    refine hN sti t18 (bnd_inr em (hf _ ?_)) (kall.back hn0 rg.1 (by rw [← htop]; exact ht18))
    rw [ei', List.drop_length]
    rfl
/-- equations yet to be tried: of a sort, from a statement on -/
theorem allE_mem {e : Int} : e ∈ allE M ↔ 0 ≤ e ∧ e < mEqs M := by
  unfold allE
  rw [List.mem_map]
  constructor
  · rintro ⟨n, hn, rfl⟩
    have := List.mem_range.mp hn
    omega
  · rintro ⟨h0, h1⟩
    exact ⟨e.toNat, List.mem_range.mpr (by omega), by omega⟩
theorem allE_lt : (allE M).Pairwise (fun a b => a < b) := by
  unfold allE
  rw [List.pairwise_map]
  exact List.pairwise_lt_range.imp (fun h => by omega)
theorem filter_at {l : List Int} {x : Int} {p q : Int → Bool} {a b : List Int} (e : l = a ++ x :: b) (ha : ∀ y ∈ a, p y = false ∧ q y = false) (hx : p x = true) (hq : q x = false) (hb : ∀ y ∈ b, p y = q y) : l.filter p = x :: l.filter q := by
  have n1 : a.filter p = [] := List.filter_eq_nil_iff.mpr (fun y hy => by rw [(ha y hy).1]; decide)
  have n2 : a.filter q = [] := List.filter_eq_nil_iff.mpr (fun y hy => by rw [(ha y hy).2]; decide)
  rw [e, List.filter_append, List.filter_append, n1, n2, List.filter_cons, if_pos hx, List.filter_cons, if_neg (by rw [hq]; decide), List.nil_append, List.nil_append, List.filter_congr hb]
def eqT (M : Mo) (sx : Int → Int) (late t : Int) : List Int :=
  (allE M).filter (fun e => decide (t ≤ sx e) && decide (mOt M e = late)) ++ (if late = 0 then (allE M).filter (fun e => decide (mOt M e ≠ 0)) else [])
theorem allE_st {e : Int} (h : e ∈ allE M) : stX M e := Or.inl (allE_mem.mp h)
theorem eqT_hit (hM : WM M) {σ : S} (h : RuT M R sx σ) {t late s : Int} (hs : 0 ≤ s ∧ s < mEqs M) (es : sx s = t) (hk : mOt M s = late) : eqT M sx late t = s :: eqT M sx late (t + 1) := by
  have m40 : mEqs M ≤ 40 := hM.2.2.2.2.1.2
  obtain ⟨a, b, e⟩ := List.append_of_mem (allE_mem.mpr hs)
  have pw := allE_lt (M := M)
  have al := e
  rw [e, List.pairwise_append] at pw
  obtain ⟨-, pb, pab⟩ := pw
  rw [List.pairwise_cons] at pb
  have mono := h.2.2.1
  have sm : stX M s := Or.inl hs
  have ina : ∀ y ∈ a, 0 ≤ y ∧ y < mEqs M := fun y hy => allE_mem.mp (by rw [al]; exact List.mem_append_left _ hy)
  have inb' : ∀ y ∈ b, 0 ≤ y ∧ y < mEqs M := fun y hy => allE_mem.mp (by rw [al]; exact List.mem_append_right _ (List.mem_cons_of_mem _ hy))
  have key : (allE M).filter (fun e => decide (t ≤ sx e) && decide (mOt M e = late)) = s :: (allE M).filter (fun e => decide (t + 1 ≤ sx e) && decide (mOt M e = late)) := by
    refine filter_at al ?_ ?_ ?_ ?_
    · intro y hy
      have i1 := ina y hy
      have := mono y s (Or.inl i1) sm (by omega) (pab y hy s (List.mem_cons_self ..))
      have n1 : ¬ t ≤ sx y := by omega
      have n2 : ¬ t + 1 ≤ sx y := by omega
      simp only [n1, n2, decide_false, Bool.false_and, and_self]
    · simp only [es, hk, Int.le_refl, decide_true, Bool.and_self]
    · have n2 : ¬ t + 1 ≤ sx s := by omega
      simp only [n2, decide_false, Bool.false_and]
    · intro y hy
      have i1 := inb' y hy
      have := mono s y sm (Or.inl i1) (by omega) (pb.1 y hy)
      have n1 : t ≤ sx y := by omega
      have n2 : t + 1 ≤ sx y := by omega
      simp only [n1, n2]
  unfold eqT
  rw [key]
  rfl
theorem eqT_miss {t late : Int} (hn : ∀ e, 0 ≤ e → e < mEqs M → sx e = t → mOt M e ≠ late) : eqT M sx late t = eqT M sx late (t + 1) := by
  unfold eqT
  congr 1
  refine List.filter_congr (fun y hy => ?_)
  obtain ⟨y0, y1⟩ := allE_mem.mp hy
  by_cases z : sx y = t
  · have n1 := hn y y0 y1 z
    simp only [n1, decide_false, Bool.and_false]
  · have n1 : t ≤ sx y ↔ t + 1 ≤ sx y := by omega
    simp only [n1]
theorem eqT_end {σ : S} (h : RuT M R sx σ) {t late : Int} (ht : gI σ 45 ≤ t) : eqT M sx late t = if late = 0 then (allE M).filter (fun e => decide (mOt M e ≠ 0)) else [] := by
  unfold eqT
  rw [List.filter_eq_nil_iff.mpr, List.nil_append]
  intro y hy
  have := (h.1 y (allE_st hy)).1
  have n1 : ¬ t ≤ sx y := by omega
  simp only [n1, decide_false, Bool.false_and]
  decide
theorem eqT_0 {σ : S} (h : RuT M R sx σ) (late : Int) : eqT M sx late 0 = (allE M).filter (fun e => decide (mOt M e = late)) ++ (if late = 0 then (allE M).filter (fun e => decide (mOt M e ≠ 0)) else []) := by
  unfold eqT
  congr 1
  refine List.filter_congr (fun y hy => ?_)
  have := (h.1 y (allE_st hy)).1
  have n1 : 0 ≤ sx y := by omega
  simp only [n1, decide_true, Bool.true_and]
def eqL (M : Mo) (late : Int) : List Int := if late = 0 then eqs M else if late = 1 then (allE M).filter (fun e => decide (mOt M e ≠ 0)) else []
theorem eqT_L (hOt : isOt M) {σ : S} (h : RuT M R sx σ) {late : Int} (hl : late = 0 ∨ late = 1) : eqT M sx late 0 = eqL M late := by
  rw [eqT_0 h]
  unfold eqL
  rcases hl with rfl | rfl
  · rw [if_pos rfl, if_pos rfl]
    rfl
  · rw [if_neg (by decide), if_neg (by decide), if_pos rfl, List.append_nil]
    refine List.filter_congr (fun y hy => ?_)
    obtain ⟨y0, y1⟩ := allE_mem.mp hy
    have o := hOt y y0 y1
    have n1 : mOt M y = 1 ↔ mOt M y ≠ 0 := by omega
    simp only [n1]
def BEX (M : Mo) (R : Ru) (mo : Int) (sx : Int → Int) (σ0 : S) (a0 r0 d : Int) (n : Nat) : Prop :=
  ∀ (σ : S) (st : ST) (y : Int), TR M R mo sx σ0 st σ → WI M R a0 r0 0 0 st → lvT σ y → okT M (tT σ y) → PH M st (tT σ y) → SY (d + 1) σ →
    t_S_reduced n 2 [y, d] σ (fun r s => ∃ st' q, tryEqE M R mo (RE (Wr M R mo) (d + 1)) (eqs M) (tT σ y) st (.inr (q, st')) ∧ okY M R mo sx σ0 σ st' s ∧ ((q = none ∧ r < 0) ∨ ∃ z, q = some z ∧ lvT s r ∧ tT s r = z ∧ gI σ 120 + 1 ≤ stS st')) (fun s => tryEqE M R mo (RE (Wr M R mo) (d + 1)) (eqs M) (tT σ y) st (.inl (gI s 1006, gI s 120)) ∧ noY M σ s)
theorem ts_byEq (c : cxT2 M R mo σ0 a0 r0) (hOt : isOt M) {d : Int} {n : Nat} (hH : ∀ sl, 0 ≤ sl → sl < mEqs M → HTX M R mo sx σ0 a0 r0 sl d (mCn M sl).toNat n) : BEX M R mo sx σ0 a0 r0 d (n + 1) := by
  have hM := c.1.wm
  have hE := hE_ofT c
  have hn0 := c.2.1.1
  have me40 : mEqs M ≤ 40 ∧ 0 ≤ mEqs M := by
    obtain ⟨-, -, -, -, e, -⟩ := hM; omega
  intro σ st y h w ly oy hp sy
  have rg := h.1.rg
  have ru := h.2.2.2.2.1
  rw [te_reduced_2]
  unfold t_byEquation_F
  refine lt_byEquation_L2 (fo_t_S_reduced n) (fun v3 s => (v3 = 0 ∨ v3 = 1 ∨ v3 = 2) ∧ ∃ sti, okY M R mo sx σ0 σ sti s ∧ WI M R a0 r0 0 0 sti ∧ leS st sti ∧ ∀ o, tryEqE M R mo (RE (Wr M R mo) (d + 1)) (eqL M v3) (tT σ y) sti o → tryEqE M R mo (RE (Wr M R mo) (d + 1)) (eqs M) (tT σ y) st o)
    (fun v3 _ => (3 - v3).toNat) ⟨Or.inl rfl, st, okY.rf h, w, leS.rf _, fun o ho => ho⟩ ?_
  rintro v3 s fr0 ⟨hv3, sti, ko, wi, li, hf⟩
  try dsimp only
  by_cases h3 : v3 < 2
  · rw [if_pos h3]
    have hl : v3 = 0 ∨ v3 = 1 := by omega
    refine lt_byEquation_L10 (fo_t_S_reduced n) (fun v4 s => 0 ≤ v4 ∧ v4 ≤ gI σ 45 ∧ ∃ sti, okY M R mo sx σ0 σ sti s ∧ WI M R a0 r0 0 0 sti ∧ leS st sti ∧ ∀ o, tryEqE M R mo (RE (Wr M R mo) (d + 1)) (eqT M sx v3 v4) (tT σ y) sti o → tryEqE M R mo (RE (Wr M R mo) (d + 1)) (eqs M) (tT σ y) st o)
      (fun v4 _ => (gI σ 45 - v4).toNat) ⟨Int.le_refl _, ru.2.1.1, sti, ko, wi, li, fun o ho => hf o (by rw [← eqT_L hOt ru hl]; exact ho)⟩ ?_
    rintro v4 s fr0 ⟨b0, b1, sti, ko, wi, li, hf⟩
    try dsimp only
    have rus := ko.1.2.2.2.2.1
    have es4 : gI s 45 = gI σ 45 := fr0.i _ rfl |>.trans ?_
    rotate_left
    · exact (by assumption : Fr _ σ _).i _ rfl
    rw [es4]
    have s70 := ru.2.1.2
    by_cases h4 : v4 < gI σ 45
    · rw [if_pos h4]
      have tb : inb v4 70 := ⟨by omega, by omega⟩
      refine ⟨tb, ?_⟩
      obtain ⟨sl, hs, es⟩ := rus.2.2.2 v4 b0 (by rw [es4]; exact h4)
      have sK := (rus.1 sl hs).2.1
      rw [es] at sK
      rw [sK]
      have w4 : w32 (v4 + 1) = v4 + 1 := w32_id (by omega) (by omega)
      by_cases hk : (if sl < 40 then mOt M sl else 2) = v3
      · rw [if_pos hk]
        have l40 : sl < 40 := by
          by_cases z : sl < 40
          · exact z
          · rw [if_neg z] at hk; omega
        rw [if_pos l40] at hk
        have sE : 0 ≤ sl ∧ sl < mEqs M := by
          rcases hs with q | q <;> omega
        have er := eqT_hit hM rus sE es hk
        have ety := ko.2.1.2.1 y ly
        have lys := ko.2.1.lv ly
        refine ⟨tb, ?_⟩
        have tw : ∀ r st2, tryOneE M R mo (RE (Wr M R mo) (d + 1)) sl (tT σ y) sti (.inr (r, st2)) → _ := fun r st2 e2 => tryOneE_wi (a0 := a0) (r0 := r0) hM hE (RE_sn (mo := mo) hM hE (d + 1)) (RE_wi (mo := mo) hM hE (d + 1)) (c.2.2.1 sl hs) oy (hp.le li oy.1.1) wi e2
        have one := @ts_oneT M R mo σ0 a0 r0 sx c d n sl hs (hH sl sE.1 sE.2) v3 v4 y es s sti ko.1 wi lys (by rw [ety]; exact oy) (by rw [ety]; exact hp.le li oy.1.1) (sy.next ko)
        rw [ety] at one
        refine one (fun z st1 st2 r s' e1 e2 k2 lr er2 hsz => ?_) (fun s' e1 hn => ?_) (fun z st1 s' e1 e2 hn => ?_) (fun st1 s' e1 k1 => ?_)
        · refine ⟨st2, some z, hf _ ?_, okY.trans rg.1 ko k2, Or.inr ⟨z, rfl, lr, er2, ?_⟩⟩
          · rw [er]
            exact bnd_inr e1 (bnd_inr e2 rfl)
          · have := ko.2.2.2.1
            have := ko.1.2.2.2.1.1.1
            omega
        · refine ⟨hf _ ?_, hn.pre rg.1 ko⟩
          rw [er]
          exact bnd_inl e1
        · refine ⟨hf _ ?_, hn.pre rg.1 ko⟩
          rw [er]
          exact bnd_inr e1 (bnd_inl e2)
        · have tw1 := tw _ _ e1
          rw [w4]
          refine ⟨⟨by omega, by omega, st1, okY.trans rg.1 ko k1, tw1.2.1 rfl, li.trans tw1.1, fun o ho => hf o ?_⟩, by omega⟩
          rw [er]
          exact bnd_inr e1 ho
      · rw [if_neg hk]
        unfold t_byEquation_j175
        rw [w4]
        refine ⟨⟨by omega, by omega, sti, ko, wi, li, fun o ho => hf o ?_⟩, by omega⟩
        rw [eqT_miss (t := v4)]
        · exact ho
        · intro e e0 e1 ee hh
          have se := (rus.1 e (Or.inl ⟨e0, e1⟩)).2.1
          rw [ee, sK, if_pos (show e < 40 by omega)] at se
          exact hk (se.trans hh)
    · rw [if_neg h4]
      unfold t_byEquation_j181
      have w3 : w32 (v3 + 1) = v3 + 1 := w32_id (by omega) (by omega)
      rw [w3]
      refine ⟨⟨by omega, sti, ko, wi, li, fun o ho => hf o ?_⟩, by omega⟩
      rw [eqT_end rus (by omega)]
      unfold eqL at ho
      rcases hl with rfl | rfl
      · rw [if_pos rfl]
        rw [if_neg (by decide), if_pos (by decide)] at ho
        exact ho
      · rw [if_neg (by decide)]
        rw [if_neg (by decide), if_neg (by decide)] at ho
        exact ho
  · rw [if_neg h3]
    have h2' : v3 = 2 := by omega
    refine ⟨sti, none, hf _ ?_, ko, Or.inl ⟨rfl, by decide⟩⟩
    unfold eqL
    rw [if_neg (by omega), if_neg (by omega)]
    rfl
end

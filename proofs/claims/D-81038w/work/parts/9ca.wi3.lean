/-! an equation tried, a step, the whole -/
section
variable {M : Mo} {R : Ru} {mo : Int} {G : RT} {a0 r0 : Int}
/-- a matcher of a left side -/
def LM (M : Mo) (R : Ru) (s : Int) (ρm : Env) : Prop := EI M R s 0 (cut ρm) ∧ (ρm 60 = .nil ∨ okT M (ρm 60)) ∧ (ρm 61 = .nil ∨ okT M (ρm 61)) ∧ (¬ (ρm 60 = .nil ∧ ρm 61 = .nil) → 0 ≤ lab (ruL R s) ∧ mAs M (lab (ruL R s)) ≠ 0)
theorem besE_wi (hM : WM M) {c : Int} {ta tx tb z : Tr} {st st' : ST} (c1 : c < mOps M) (ha : ta = .nil ∨ (okT M ta ∧ KH M st ta)) (hx : okT M tx ∧ KH M st tx) (hb : tb = .nil ∨ (okT M tb ∧ KH M st tb)) (hc : ¬ (ta = .nil ∧ tb = .nil) → 0 ≤ c ∧ mAs M c ≠ 0) (hw : WI M R a0 r0 0 (-1) st) (h : besE M c ta tx tb st (.inr (z, st'))) : WI M R a0 r0 1 1 st' ∧ leS st st' ∧ KH M st' z ∧ okT M z := by
  obtain ⟨eb, h⟩ := besE_ok h
  have oz := besB_val hM c1 (ha.imp id (fun e => e.1)) hx.1 (hb.imp id (fun e => e.1)) hc eb
  rcases h with ⟨-, -, e1, e2⟩ | ⟨hn, -, e1, e2⟩
  · rw [e1, e2]
    exact ⟨hw.weak (by omega) (by omega), leS.rf _, hx.2, hx.1⟩
  · have eM : stM st' = stM st := by rw [e2]; rfl
    have eA : stA st' = z :: stA st := by rw [e2, e1]; rfl
    have eF : stF st' = stF st := by rw [e2]; rfl
    have eS : stS st' = stS st := by rw [e2]; rfl
    have sub : ∀ u ∈ stA st, u ∈ stA st' := fun u hu => by rw [eA]; exact List.mem_cons_of_mem _ hu
    have le := leS_same eM sub
    have hh := hw
    obtain ⟨-, -, w3, w4, w5, w6, w7⟩ := hh
    have hr : rowsN (z :: stA st) ≤ rowsN (stA st) + 1 := by
      rw [show z :: stA st = [z] ++ stA st from rfl, rowsN_app]
      have : rowsN [z] ≤ 1 := List.length_filter_le _ _
      omega
    refine ⟨hw.to eM sub (by rw [eA, eF, eS, List.length_cons]; omega) (by rw [eA, eF, eS]; omega) (by rw [eF]; exact w5) (by rw [eS]; exact w6) (by rw [eA]; exact fun x hx => (List.mem_cons.mp hx).elim (fun e => by rw [e]; exact oz.1) (w7 x)), le, ?_, oz⟩
    have bl := (besL_ok (P := fun u => okT M u ∧ KH M st u) hn ha hx hb).2
    intro q hq
    rw [e1] at hq
    rcases mk_subs (fun u hu => (bl u hu).1.1.1) (by rw [← e1]; exact oz.1.1) hq with e | ⟨u, hu, w⟩
    · rw [e, ← e1, eA]
      exact Or.inr (Or.inl (List.mem_cons_self ..))
    · exact (bl u hu).2.le le (bl u hu).1.1.1 q w
theorem useE_wi (hM : WM M) (hE : ∀ e ∈ eqs M, RuOK M R e) (hG : sn M R G) (hW : wi M R a0 r0 G) {s : Int} (hR : RuOK M R s) {ρm : Env} {st st' : ST} {r : Option Tr} (hm : LM M R s ρm) (hk : EK M st ρm) (hw : WI M R a0 r0 0 0 st) (h : useE M R mo G s ρm st (.inr (r, st'))) : leS st st' ∧ (r = none → WI M R a0 r0 0 0 st') ∧ ∀ z, r = some z → WI M R a0 r0 1 1 st' ∧ KH M st' z ∧ okT M z := by
  obtain ⟨q, st1, h1, h⟩ := bnd_ok h
  obtain ⟨l1, n1, j1⟩ := holdsE_wi hM hE hG hW hR _ _ _ _ _ _ (by omega) (by have := hR.2.2.2.1.1; omega) hm.1 hk.ct hw h1
  match q with
  | none =>
    simp only [Sum.inr.injEq, Prod.mk.injEq] at h
    rw [h.1, h.2]
    exact ⟨l1, fun _ => n1 rfl, fun b e => by (cases e)⟩
  | some ρ' =>
    obtain ⟨w1, k1, i1⟩ := j1 ρ' rfl
    obtain ⟨u, st2, h2, h⟩ := bnd_ok h
    obtain ⟨v, st3, h3, h⟩ := bnd_ok h
    obtain ⟨z, st4, h4, h⟩ := bnd_ok h
    obtain ⟨w3, l3, k3, o3, -, -⟩ := cp_wi hM hR.2.1 (Int.le_refl _) (fun v v0 ho => EK.at i1 k1 (hR.2.2.1 v v0 ho)) w1 h2 h3
    have hk3 := hk.le (l1.trans l3)
    obtain ⟨w4, l4, k4, o4⟩ := besE_wi hM (hR.1.1.1.op hR.1.2) (by
      rcases hm.2.1 with e | e
      · exact Or.inl e
      · exact Or.inr ⟨e, ((hk3 60).resolve_left (isT_nn e.1.1)).2⟩) ⟨o3, k3⟩ (by
      rcases hm.2.2.1 with e | e
      · exact Or.inl e
      · exact Or.inr ⟨e, ((hk3 61).resolve_left (isT_nn e.1.1)).2⟩) hm.2.2.2 w3 h4
    simp only [Sum.inr.injEq, Prod.mk.injEq] at h
    rw [h.1, h.2]
    refine ⟨l1.trans (l3.trans l4), fun e => by (cases e), fun b e => ?_⟩
    cases e
    exact ⟨w4, k4, o4⟩
theorem tryOneE_wi (hM : WM M) (hE : ∀ e ∈ eqs M, RuOK M R e) (hG : sn M R G) (hW : wi M R a0 r0 G) {s : Int} (hR : RuOK M R s) {y : Tr} {st st' : ST} {r : Option Tr} (hy : okT M y) (hp : PH M st y) (hw : WI M R a0 r0 0 0 st) (h : tryOneE M R mo G s y st (.inr (r, st'))) : leS st st' ∧ (r = none → WI M R a0 r0 0 0 st') ∧ ∀ z, r = some z → WI M R a0 r0 1 1 st' ∧ KH M st' z ∧ okT M z := by
  obtain ⟨L, st1, h1, h⟩ := bnd_ok h
  obtain ⟨-, em, -⟩ := mtE_ok h1
  obtain ⟨w1, l1⟩ := mt_wi hw h1
  have lv := left_val hM hR hy em
  obtain ⟨hwd, hz⟩ := mlB_ok em
  obtain ⟨l2, n2, j2⟩ := firstE_wi (I := fun st ρm => EK M st ρm) (J := fun st z => WI M R a0 r0 1 1 st ∧ KH M st z ∧ okT M z) (fun st st' ρ l e => e.le l) L st1 r st' (fun ρm hm => EK_match hM hR.1.1 hy hwd okB_nil (hz ρm hm) (hp.le l1 hy.1.1) (EK_nil _)) (fun ρm hm st r st' hw hk h => useE_wi hM hE hG hW hR (lv ρm hm) hk hw h) w1 h
  exact ⟨l1.trans l2, n2, j2⟩
theorem tryEqE_wi (hM : WM M) (hE : ∀ e ∈ eqs M, RuOK M R e) (hG : sn M R G) (hW : wi M R a0 r0 G) : ∀ es y st r st', (∀ e ∈ es, RuOK M R e) → okT M y → PH M st y → WI M R a0 r0 0 0 st → tryEqE M R mo G es y st (.inr (r, st')) → WI M R a0 r0 0 0 st' ∧ leS st st' ∧ ∀ z, r = some z → KH M st' z ∧ okT M z := by
  intro es
  induction es with
  | nil =>
    intro y st r st' _ _ _ hw h
    simp only [tryEqE, Sum.inr.injEq, Prod.mk.injEq] at h
    rw [h.1, h.2]
    exact ⟨hw, leS.rf _, fun b e => by (cases e)⟩
  | cons e es ih =>
    intro y st r st' he hy hp hw h
    obtain ⟨q, st1, h1, h⟩ := bnd_ok h
    obtain ⟨l1, n1, j1⟩ := tryOneE_wi hM hE hG hW (he e (List.mem_cons_self ..)) hy hp hw h1
    match q with
    | none =>
      obtain ⟨w2, l2, j2⟩ := ih y st1 r st' (fun x hx => he x (List.mem_cons_of_mem _ hx)) hy (hp.le l1 hy.1.1) (n1 rfl) h
      exact ⟨w2, l1.trans l2, j2⟩
    | some z =>
      obtain ⟨w1, k1, o1⟩ := j1 z rfl
      obtain ⟨u, st2, h2, h⟩ := bnd_ok h
      obtain ⟨hs, e2⟩ := stepE_ok h2
      have eM : stM st2 = stM st1 := by rw [e2]
      have eA : stA st2 = stA st1 := by rw [e2]
      have eF : stF st2 = stF st1 := by rw [e2]
      have eS : stS st2 = stS st1 + 1 := by rw [e2]
      have sub : ∀ u ∈ stA st1, u ∈ stA st2 := fun u hu => by rw [eA]; exact hu
      have le := leS_same eM sub
      have hh := w1
      obtain ⟨-, -, w3, w4, w5, w6, w7⟩ := hh
      simp only [Sum.inr.injEq, Prod.mk.injEq] at h
      rw [h.1, h.2]
      refine ⟨w1.to eM sub (by rw [eA, eF, eS]; omega) (by rw [eA, eF, eS]; omega) (by rw [eF]; exact w5) (by rw [eS]; omega) (by rw [eA]; exact w7), l1.trans le, fun b e => ?_⟩
      cases e
      exact ⟨k1.le le o1.1.1, o1⟩
theorem leM_of {st st' : ST} (h : Ms M R st) (k : Ms M R st') (hn : ∀ t, 0 ≤ lab t → stM st t ≠ .nil → stM st' t ≠ .nil) : leM st st' := by
  intro t t0 ht
  obtain ⟨n, e⟩ := h t ht t0
  obtain ⟨m, e'⟩ := k t (hn t t0 ht) t0
  exact bg_det e' e
theorem finE_wi {ch : List Tr} {r : Tr} {st : ST} (hr : okT M r) (hp : PD M st r) (hw : WI M R a0 r0 0 0 st) (hm : Ms M R (finE ch r st)) : WI M R a0 r0 0 0 (finE ch r st) ∧ leS st (finE ch r st) ∧ DR M (finE ch r st) r := by
  have ev : ∀ t, stM (finE ch r st) t = @ite _ (t ∈ ch ∨ (t = r ∧ 0 ≤ lab r)) (Classical.propDecidable _) r (stM st t) := fun _ => rfl
  have le : leS st (finE ch r st) := by
    refine ⟨leM_of hw.1 hm (fun t t0 ht => ?_), fun u hu => hu⟩
    rw [ev]
    split
    · exact isT_nn hr.1.1
    · exact ht
  have hd : DR M (finE ch r st) r := by
    refine ⟨hp.1.le le hr.1.1, fun q hq => ?_⟩
    rcases subs_top hr.1.1 hq with e | ⟨k, hk, z⟩
    · rw [e]
      unfold came
      by_cases hv : lab r < 0
      · rw [if_pos hv]
      · rw [if_neg hv, ev, if_pos (Or.inr ⟨rfl, by omega⟩)]
    · exact (hp.2 k hk).le le (isT_kid hr.1.1 hk) q z
  obtain ⟨w1, w2, w3⟩ := hw
  refine ⟨⟨hm, fun t t0 ht => ?_, w3⟩, le, hd⟩
  rw [ev] at ht ⊢
  split
  · exact ⟨hd, hr⟩
  · rename_i z
    rw [if_neg z] at ht
    have a := w2 t t0 ht
    exact ⟨a.1.le le a.2.1.1, a.2⟩
theorem DR.PD {st : ST} {r : Tr} (hr : isT r) (h : DR M st r) : PD M st r := ⟨h.1, fun k hk q hq => h.2 q (subs_down hr hk hq)⟩
def VW (M : Mo) (R : Ru) (a0 r0 : Int) : WT := fun _ ch x st o => ∀ r st', o = .inr (r, st') → okT M x → 0 ≤ lab x → stM st x = .nil → WI M R a0 r0 0 0 st → KH M st x → (∀ c ∈ ch, 0 ≤ lab c ∧ ∀ n r, bg M R n x = some r → ∃ m, bg M R m c = some r) → WI M R a0 r0 0 0 st' ∧ leS st st' ∧ DR M st' r ∧ okT M r
theorem came_DR {st : ST} {t : Tr} (ot : okT M t) (hw : WI M R a0 r0 0 0 st) (h : came st t ≠ .nil) : DR M st (came st t) ∧ okT M (came st t) := by
  unfold came at h ⊢
  by_cases hv : lab t < 0
  · rw [if_pos hv]
    refine ⟨⟨PH_nil ot.1.1 (kids_var ot.1 hv), fun q hq => ?_⟩, ot⟩
    rcases subs_top ot.1.1 hq with e | ⟨k, hk, -⟩
    · rw [e]; unfold came; rw [if_pos hv]
    · rw [kids_var ot.1 hv] at hk; cases hk
  · rw [if_neg hv] at h ⊢
    exact hw.2.1 t (by omega) h
theorem came_nil {st : ST} {t : Tr} (ot : okT M t) (h : came st t = .nil) : 0 ≤ lab t ∧ stM st t = .nil := by
  have hv : ¬ lab t < 0 := by
    intro hv
    unfold came at h
    rw [if_pos hv] at h
    exact isT_nn ot.1.1 h
  unfold came at h
  rw [if_neg hv] at h
  exact ⟨by omega, h⟩
theorem VW_wi (d : Int) : wi M R a0 r0 (RE (VW M R a0 r0) d) := by
  intro t st r st' ot hw hk h
  rcases h with ⟨c, h⟩ | ⟨c, h | ⟨-, h⟩⟩
  · simp only [Sum.inr.injEq, Prod.mk.injEq] at h
    rw [h.1, h.2]
    have a := came_DR ot hw c
    exact ⟨hw, leS.rf _, a.1, a.2⟩
  · cases h.2
  · obtain ⟨t0, tm⟩ := came_nil ot c
    exact h r st' rfl ot t0 tm hw hk (fun c hc => absurd hc (List.not_mem_nil))
theorem Wr_wi (hM : WM M) (hE : ∀ e ∈ eqs M, RuOK M R e) {d : Int} {ch : List Tr} {x : Tr} {st : ST} {o : Out Tr} (h : Wr M R mo d ch x st o) : VW M R a0 r0 d ch x st o := by
  refine (h (fun d ch x st o => Wr M R mo d ch x st o ∧ VW M R a0 r0 d ch x st o) ?_).2
  clear h d ch x st o
  intro d ch x st o h
  have hWr : Wr M R mo d ch x st o := Wr_in (FW_mono (fun _ _ _ _ _ k => k.1) _ _ _ _ _ h)
  refine ⟨hWr, ?_⟩
  intro r st' eo ox x0 mx hw hk hch
  subst eo
  obtain ⟨fs, fb, -⟩ := Wr_sn hM hE hWr (fun _ => False) r st' rfl ox x0 mx (PA_no hw.1) (dm_no _) (fun c hc => ⟨(hch c hc).1, fun n r e => ⟨id, (hch c hc).2 n r e⟩⟩)
  have fr := sn_val hM hE ox fb
  have hm' : Ms M R st' := fs.1.1
  have hG : sn M R (RE (fun d ch x st o => Wr M R mo d ch x st o ∧ VW M R a0 r0 d ch x st o) (d + 1)) := by
    intro S t st r st' ot hP hd h
    exact RE_sn (mo := mo) hM hE (d + 1) S t st r st' ot hP hd (RE_mono (fun _ _ _ _ _ k => k.1) _ _ _ _ h)
  have hW : wi M R a0 r0 (RE (fun d ch x st o => Wr M R mo d ch x st o ∧ VW M R a0 r0 d ch x st o) (d + 1)) := by
    intro t st r st' ot hw hk h
    exact VW_wi (d + 1) t st r st' ot hw hk (RE_mono (fun _ _ _ _ _ k => k.2) _ _ _ _ h)
  obtain ⟨y, st1, h1, h⟩ := bnd_ok h
  obtain ⟨w1, l1, p1, oy⟩ := redE_wi hM hG hW ox hk hw h1
  obtain ⟨s1, ⟨n1, e1⟩, -⟩ := redE_sn (S := fun _ => False) hM hE hG ox (PA_no hw.1) (dm_no _) h1
  rcases h with ⟨ny, cy, h⟩ | ⟨ny, h⟩
  · simp only [Sum.inr.injEq, Prod.mk.injEq] at h
    obtain ⟨hr, hs⟩ := h
    have a := came_DR oy w1 cy
    rw [← hr] at a hs
    rw [hs] at hm' ⊢
    obtain ⟨w2, l2, d2⟩ := finE_wi fr (a.1.PD fr.1.1) w1 hm'
    exact ⟨w2, l1.trans l2, d2, fr⟩
  · obtain ⟨q, st2, h2, h⟩ := bnd_ok h
    obtain ⟨w2, l2, j2⟩ := tryEqE_wi hM hE hG hW _ y st1 q st2 hE oy p1.1 w1 h2
    match q with
    | none =>
      simp only [Sum.inr.injEq, Prod.mk.injEq] at h
      obtain ⟨hr, hs⟩ := h
      rw [← hr] at hs p1
      rw [hs] at hm' ⊢
      obtain ⟨w3, l3, d3⟩ := finE_wi fr (p1.le l2 fr.1.1) w2 hm'
      exact ⟨w3, (l1.trans l2).trans l3, d3, fr⟩
    | some z =>
      obtain ⟨kz, oz⟩ := j2 z rfl
      rcases h with ⟨cz, h⟩ | ⟨cz, h⟩
      · simp only [Sum.inr.injEq, Prod.mk.injEq] at h
        obtain ⟨hr, hs⟩ := h
        have a := came_DR oz w2 cz
        rw [← hr] at a hs
        rw [hs] at hm' ⊢
        obtain ⟨w3, l3, d3⟩ := finE_wi fr (a.1.PD fr.1.1) w2 hm'
        exact ⟨w3, (l1.trans l2).trans l3, d3, fr⟩
      · obtain ⟨z0, zm⟩ := came_nil oz cz
        have y0 : 0 ≤ lab y := by
          rcases Classical.em (lab y < 0) with hv | hv
          · refine absurd ⟨fun e => ?_, ?_⟩ ny
            · rw [e] at hv; omega
            · unfold came; rw [if_pos hv]; exact isT_nn oy.1.1
          · omega
        obtain ⟨-, n2, e2⟩ := tryEqE_sn (S := fun _ => False) hM hE hG _ y st1 _ st2 hE oy (PA_no w1.1) (dm_no _) h2
        have toX : ∀ n r, bg M R n z = some r → ∃ N, bg M R N x = some r := fun n r e => bg_some x0 y0 e1 e2 e
        obtain ⟨w3, l3, d3, o3⟩ := h.2 r st' rfl oz z0 zm w2 kz (fun c hc => by
          rcases List.mem_cons.mp hc with e | hc
          · rw [e]
            refine ⟨y0, fun n r' k => ?_⟩
            obtain ⟨N, eN⟩ := toX n r' k
            exact ⟨N, by rw [bg_y hM hE ox x0 y0 e1 N (by rw [eN]; exact fun z => by cases z), eN]⟩
          · rcases List.mem_cons.mp hc with e | hc
            · rw [e]; exact ⟨x0, toX⟩
            · refine ⟨(hch c hc).1, fun n r' k => ?_⟩
              obtain ⟨N, eN⟩ := toX n r' k
              exact (hch c hc).2 N r' eN)
        exact ⟨w3, (l1.trans l2).trans l3, d3, o3⟩
theorem RE_wi (hM : WM M) (hE : ∀ e ∈ eqs M, RuOK M R e) (d : Int) : wi M R a0 r0 (RE (Wr M R mo) d) := by
  intro t st r st' ot hw hk h
  exact VW_wi d t st r st' ot hw hk (RE_mono (fun _ _ _ _ _ k => Wr_wi hM hE k) d t st _ h)
end

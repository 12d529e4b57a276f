/-! RewriteHouseModel: solving a pair -/
theorem mtT.bind {M : Mo} {N : Tr → Prop} {P : Env → Prop} {o : Int} {σ0 σ s : S} {ρ : Env} {L : List Env} {v t : Int} (h : mtT M N P o σ0 σ ρ L) (h1 : 0 ≤ gI σ0 80) (v0 : 0 ≤ v) (v1 : v < 60) (ht : lvT σ t) (hs : s = pA σ 78 v t) : mtT M N P o σ0 s (upE ρ v (tT σ t)) L := by
  obtain ⟨a1, a2, a3, a4, a5, a6, a7, a8, a9, a10, a11⟩ := h
  have f : Fr ([], [], [78]) σ s := Fr.rf.putA hs rfl
  have e : ExT σ s N := ExT.of_fr f rfl
  have hb : ∀ w, gA s 78 w = if w = v then t else gA σ 78 w := fun w => by rw [hs]; simp [gA_pA]
  refine ⟨(a1.fr f rfl).1, a2.trans e h1, fun w w0 w1 => ?_, ?_, ?_, by rw [f.i _ rfl]; exact a6, ?_, a8.ex e (f.i _ rfl) (f.i _ rfl) (f.a _ rfl), a9, by rw [f.i _ rfl]; exact a10, by rw [f.i _ rfl]; exact a11⟩
  · rw [hb]
    by_cases ew : w = v
    · rw [if_pos ew]; exact Or.inr (e.lv ht)
    · rw [if_neg ew]; exact (oT_ex e (a3 w w0 w1)).1
  · rw [f.i _ rfl]; exact (oT_ex e a4).1
  · rw [f.i _ rfl]; exact (oT_ex e a5).1
  · rw [← a7]
    funext w
    unfold upE bT
    by_cases hw : 0 ≤ w ∧ w < 60
    · rw [if_pos hw, if_pos hw, hb]
      by_cases ew : w = v
      · rw [if_pos ew, if_pos ew, oT_n (e.lv ht), e.t ht]
      · rw [if_neg ew, if_neg ew, (oT_ex e (a3 w hw.1 hw.2)).2]
    · have ew : w ≠ v := by omega
      rw [if_neg hw, if_neg hw, if_neg ew, f.i 117 rfl, f.i 118 rfl, (oT_ex e a4).2, (oT_ex e a5).2]
theorem tT_kids {M : Mo} {σ : S} (h : TP M σ) {x : Int} (hx : lvT σ x) : lab (tT σ x) = gA σ 48 x ∧ ((kids (tT σ x)).length : Int) = gA σ 50 x := by
  have e := tT_row h hx
  have b := (h.at hx).1
  refine ⟨?_, ?_⟩
  · rw [e, lab_N]
  · rw [e, kids_N, List.length_map, rowI_len]; omega
theorem tT_kid {M : Mo} {σ : S} (h : TP M σ) {x : Int} (hx : lvT σ x) {k : Nat} {q : Tr} (hk : (kids (tT σ x))[k]? = some q) : ((k : Int) < gA σ 50 x) ∧ lvT σ (gA σ 56 (gA σ 49 x + k)) ∧ tT σ (gA σ 56 (gA σ 49 x + k)) = q := by
  have e3 := (tT_kids h hx).2
  have hl := (List.getElem?_eq_some_iff.mp hk).1
  have e2 : kids (tT σ x) = (rowI (gA σ 56) (gA σ 49 x) (gA σ 50 x).toNat).map (tT σ) := by rw [tT_row h hx, kids_N]
  rw [e2, List.getElem?_map, rowI_get _ _ (by omega)] at hk
  simp only [Option.map_some, Option.some.injEq] at hk
  exact ⟨by omega, ((h.at hx).2.2.2 k (by omega) (by omega)).1, hk⟩
/-- the argument of a node at a place, as a tree -/
theorem ts_kid {M : Mo} {σ : S} (h : TP M σ) {x : Int} (hx : lvT σ x) {k : Nat} {q : Tr} (hk : (kids (tT σ x))[k]? = some q) {Q : Int → S → Prop} (hQ : ∀ y, lvT σ y → tT σ y = q → Q y σ) : t_arg x k σ Q := by
  obtain ⟨h1, h2, h3⟩ := tT_kid h hx hk
  exact ts_arg h hx (by omega) h1 (hQ _ h2 h3)
section
variable {M : Mo} {A : Int → Bool} {t0 : Tr} {P : Env → Prop} {o : Int} {σ0 : S} {m : Nat}
theorem st_var (c : cxT M A t0 P o σ0) (ih : SoT M A t0 P o σ0 m) {σ : S} {gs : List Goal} {ρ : Env} {L : List Env} {p t nx : Int} (mt : mtT M (inU M A t0) P o σ0 σ ρ L) (gg : gsT M σ nx gs) (okgs : ∀ x ∈ gs, gOT M A t0 x) (hg : 0 ≤ gI σ 110 ∧ gI σ 110 + 4 * (m + 2 : Nat) ≤ 2000) (hp : lvT σ p) (ht : lvT σ t) (hv : lab (tT σ p) < 0) (hw : wTs gs + 1 ≤ m) (hP : ∀ ρ', Solv M (.inl (tT σ p, tT σ t) :: gs) ρ ρ' → P ρ') :
    t_S_solve (m + 1) 1 [p, t, nx] σ (fun _ s => ∃ L', doneT M (inU M A t0) o σ L (Solv M (.inl (tT σ p, tT σ t) :: gs) ρ) s L') (fun s => overT M (inU M A t0) σ L (Solv M (.inl (tT σ p, tT σ t) :: gs) ρ) s) := by
  have xp := mt.1
  have rg := xp.rg
  have hM := xp.wm
  have hlab := (tT_kids xp hp).1
  have okp := (xp.nd hp).2.2.1.ok
  have hL := mt.2.2.2.2.2.2.2.1
  have hsol := fun ρ' => Solv_var (M := M) (p := tT σ p) (t := tT σ t) (gs := gs) (ρ := ρ) (ρ' := ρ') hv
  rw [hlab] at hv hsol okp
  obtain ⟨v, ev⟩ : ∃ v, v = -1 - gA σ 48 p := ⟨_, rfl⟩
  rw [← ev] at hsol
  have vr : 0 ≤ v ∧ v < 60 ∧ Int.tmod v 30 < mVars M := by
    rcases okp with z | z
    · rw [ev]; exact ⟨by omega, by omega, z.2.2.1⟩
    · omega
  have hb := mt.2.2.1 v vr.1 vr.2.1
  have bv : ρ v = oT σ (gA σ 78 v) := by rw [← mt.2.2.2.2.2.2.1]; unfold bT; rw [if_pos ⟨vr.1, vr.2.1⟩]
  have bt := lvT_b xp ht
  rw [te_solve_1]
  unfold t_solvePair_F
  refine ts_isVar xp hp ?_
  rw [bi_t hv, if_neg (by decide)]
  refine ts_varOf xp hp ?_
  rw [← ev]
  refine ⟨⟨vr.1, vr.2.1⟩, ?_⟩
  by_cases h0 : gA σ 78 v < 0
  · rw [if_pos h0]
    have bn : ρ v = .nil := by rw [bv, oT_0 h0]
    have nd := (xp.nd ht).2.1
    have sr := srt_rg2 hM (xp.nd ht).2.2.1
    refine ⟨bt, ?_⟩
    by_cases hl : gA σ 52 t < 0
    · rw [if_pos hl]
      refine ⟨L, (doneT.none xp hL).iff (fun ρ' => ?_)⟩
      rw [hsol]
      constructor
      · exact False.elim
      · rintro (⟨a, -⟩ | ⟨-, a, -⟩)
        · exact a bn
        · exact a (by omega)
    · rw [if_neg hl]
      have hne : srt M (tT σ t) ≠ -2 := by omega
      refine ⟨bt, ?_⟩
      refine ts_sortOfVar xp.mo hM vr.1 vr.2.1 vr.2.2 ?_
      refine ts_isBelow xp.mo hM (by omega) (by omega) ?_
      by_cases hbl : blw M (gA σ 52 t) (mVs M (Int.tmod v 30))
      · rw [bi_t hbl, if_neg (by decide)]
        refine ⟨⟨vr.1, vr.2.1⟩, ?_⟩
        rintro s1 hs1
        have f1 : Fr ([], [], [78]) σ s1 := Fr.rf.putA hs1 rfl
        have e1 : ExT σ s1 (inU M A t0) := ExT.of_fr f1 rfl
        have mt1 := mt.bind c.1 vr.1 vr.2.1 ht hs1
        have six1 : ∀ a ∈ gA6, gA s1 a = gA σ a := apt_a (w := ([], [], [78])) (I := []) (A := gA6) rfl f1
        have hsz : ∀ ρ', Solv M gs (upE ρ v (tT σ t)) ρ' ↔ Solv M (.inl (tT σ p, tT σ t) :: gs) ρ ρ' := by
          intro ρ'
          rw [hsol]
          constructor
          · exact fun z => Or.inr ⟨bn, hne, by rw [← nd]; exact hbl, z⟩
          · rintro (⟨a, -⟩ | a)
            · exact absurd bn a
            · exact a.2.2.2
        have gg1 : gsT M s1 nx gs := by
          have k0 : ∀ (l : List Goal) (g : Int), gsT M σ g l → gsT M s1 g l := by
            intro l
            induction l with
            | nil => intro g z; exact z
            | cons x l ihl =>
              intro g ⟨z1, z2, z3⟩
              simp only [List.forall_mem_cons] at six1
              obtain ⟨c1, c2, c3, c4, c5, c6, -⟩ := six1
              refine ⟨by rw [f1.i _ rfl]; exact z1, ?_, ?_⟩
              · rw [c1, c2, c3, c4, c5]
                exact z2.mono (fun y hy => ⟨e1.lv hy, e1.t hy⟩)
              · rw [c6]; exact ihl _ z3
          exact k0 gs nx gg
        refine fo_t_S_solve m _ _ _ _ _ _ _ (ih s1 nx gs (upE ρ v (tT σ t)) L ⟨mt1, gg1, okgs, by rw [f1.i _ rfl]; omega, hw⟩ (fun ρ' z => hP ρ' ((hsz ρ').mp z))) (fun r s f q => ?_) (fun s f q => ?_)
        · obtain ⟨q1, L', d⟩ := q
          refine ⟨⟨vr.1, vr.2.1⟩, ?_⟩
          rintro s3 hs3
          have f3 : Fr ([], [], [78]) s s3 := Fr.rf.putA hs3 rfl
          have e3 : ExT s s3 (inU M A t0) := ExT.of_fr f3 rfl
          obtain ⟨d1, ⟨k1, k2, k3, k4, k5, k6, k7, k8⟩, d3, d4, d5⟩ := d
          have six3 : ∀ a ∈ gA6, gA s3 a = gA s a := apt_a (w := ([], [], [78])) (I := []) (A := gA6) rfl f3
          refine ⟨L', Fr.trans (f1.weak rfl) (Fr.trans d1 (f3.weak rfl)), ⟨(e1.trans k1 rg.1).trans e3 rg.1, by rw [f3.i _ rfl, k2, f1.i _ rfl], ?_, by rw [f3.i _ rfl, q1, f1.i _ rfl]; exact Int.le_refl _, by rw [f3.i _ rfl, k5, f1.i _ rfl], fun a i ha hi => ?_, fun j hj => ?_, fun j hj => ?_⟩, (d3.fr f3 rfl).1, d4.ex e3 (f3.i _ rfl) (f3.i _ rfl) (f3.a _ rfl), fun ρ' => by rw [d5 ρ', hsz ρ']⟩
          · funext j
            rw [hs3]
            simp only [gA_pA]
            by_cases ej : j = v
            · rw [if_pos ⟨trivial, ej⟩, ej]
              rcases hb with z | z
              · exact z.symm
              · have := z.1; omega
            · rw [if_neg (fun z => ej z.2), k3, hs1]
              simp only [gA_pA]
              rw [if_neg (fun z => ej z.2)]
          · rw [six3 a ha, k6 a i ha (by rw [f1.i _ rfl]; exact hi), six1 a ha]
          · rw [f3.a 79 rfl, k7 j (by rw [f1.i _ rfl]; exact hj), f1.a 79 rfl]
          · rw [f3.a 58 rfl, k8 j (by rw [f1.i _ rfl]; exact hj), f1.a 58 rfl]
        · obtain ⟨a, b, e, f⟩ := q.imp (fun ρ' => (hsz ρ').mp)
          exact ⟨a, b, e1.trans e rg.1, f⟩
      · rw [bi_f hbl, if_pos rfl]
        refine ⟨L, (doneT.none xp hL).iff (fun ρ' => ?_)⟩
        rw [hsol]
        constructor
        · exact False.elim
        · rintro (⟨a, -⟩ | ⟨-, -, a, -⟩)
          · exact a bn
          · exact hbl (by rw [nd]; exact a)
  · rw [if_neg h0]
    have lb : lvT σ (gA σ 78 v) := olT_lv hb h0
    have bn : ρ v = tT σ (gA σ 78 v) := by rw [bv, oT_n lb]
    have nn : ρ v ≠ .nil := by rw [bn]; exact isT_ne_nil (xp.T lb)
    refine ⟨⟨vr.1, vr.2.1⟩, ?_⟩
    by_cases he : gA σ 78 v = t
    · rw [if_pos he]
      have hsz : ∀ ρ', Solv M gs ρ ρ' ↔ Solv M (.inl (tT σ p, tT σ t) :: gs) ρ ρ' := by
        intro ρ'
        rw [hsol]
        constructor
        · exact fun z => Or.inl ⟨nn, by rw [bn, he], z⟩
        · rintro (⟨-, -, a⟩ | ⟨a, -⟩)
          · exact a
          · exact absurd a nn
      refine st_rec c ih mt (doneT.none xp hL) (fun _ z => z.elim) gg okgs (by omega) hw (fun ρ' z => hP ρ' ((hsz ρ').mp z)) (fun r s2 L2 f d k q => ?_) (fun s2 q => q.imp (fun ρ' z => (hsz ρ').mp (z.resolve_left id)))
      exact ⟨L2, d.iff (fun ρ' => ⟨fun z => (hsz ρ').mp (z.resolve_left id), fun z => Or.inr ((hsz ρ').mpr z)⟩)⟩
    · rw [if_neg he]
      refine ⟨L, (doneT.none xp hL).iff (fun ρ' => ?_)⟩
      rw [hsol]
      constructor
      · exact False.elim
      · rintro (⟨-, a, -⟩ | ⟨a, -⟩)
        · rw [bn] at a
          exact he (xp.inj lb ht a)
        · exact nn a
/-- a step within frames -/
theorem kT.of {N : Tr → Prop} {σ s : S} {w : List Nat × List Nat × List Nat} (e : ExT σ s N) (f : Fr w σ s) (hw : apt w [83, 110, 114] [78, 79, 58, 72, 73, 74, 75, 76, 77] = true) : kT N σ s := by
  have hi := apt_i hw f
  have ha := apt_a hw f
  simp only [List.forall_mem_cons] at hi
  have h6 : ∀ a ∈ gA6, gA s a = gA σ a := fun a h => ha a (List.mem_cons_of_mem _ (List.mem_cons_of_mem _ (List.mem_cons_of_mem _ h)))
  simp only [List.forall_mem_cons] at ha
  exact ⟨e, hi.1, ha.1, by rw [hi.2.1]; exact Int.le_refl _, hi.2.2.1, fun a i h _ => by rw [h6 a h], fun j _ => by rw [ha.2.1], fun j _ => by rw [ha.2.2.1]⟩
theorem st_pg {σ s : S} {gs : List Goal} {L L1 : List Env} {Z : Env → Prop} {x y nx : Int} (d : doneT M (inU M A t0) o σ L Z s L1) (hn : 0 ≤ gI σ 80) (hg : 0 ≤ gI s 110 ∧ gI s 110 < 3999) (gg : gsT M s nx gs) (lx : lvT s x) (ly : lvT s y) {Q : Int → S → Prop}
    (hQ : ∀ s1, doneT M (inU M A t0) o σ L Z s1 L1 → kT (inU M A t0) s s1 → TP M s1 → (∀ y, lvT s y → lvT s1 y ∧ tT s1 y = tT s y) → gI s1 110 = gI s 110 + 1 → gsT M s1 (gI s 110) (.inl (tT s x, tT s y) :: gs) → Q (gI s 110) s1) : t_goal 0 x y 0 0 nx s Q :=
  ts_goal (N := inU M A t0) (x := .inl (tT s x, tT s y)) d.2.2.1 hg.1 hg.2 gg ⟨rfl, lx, rfl, ly, rfl⟩ (fun s1 f x1 k l e g1 => hQ s1 (d.q hn f rfl rfl x1 k) k x1 l e g1)
theorem st_unit (c : cxT M A t0 P o σ0) (ih : SoT M A t0 P o σ0 m) {σ : S} {gs : List Goal} {ρ : Env} {L : List Env} {p t nx f : Int} (mt : mtT M (inU M A t0) P o σ0 σ ρ L) (gg : gsT M σ nx gs) (okgs : ∀ x ∈ gs, gOT M A t0 x) (hg : 0 ≤ gI σ 110 ∧ gI σ 110 + 4 * (m + 2 : Nat) ≤ 2000) (hp : lvT σ p) (ht : lvT σ t) (hf : lab (tT σ p) = f) (h0 : 0 ≤ f) (has : mAs M f = 0) (ok : gOT M A t0 (.inl (tT σ p, tT σ t))) (hw : wTs (.inl (tT σ p, tT σ t) :: gs) + 1 ≤ m + 2) (hP : ∀ ρ', Solv M (.inl (tT σ p, tT σ t) :: gs) ρ ρ' → P ρ')
    {Z1 : Env → Prop} {s : S} {L1 : List Env} (d : doneT M (inU M A t0) o σ L Z1 s L1) (hgs : gI s 110 ≤ gI σ 110 + 4) (hz : ∀ ρ', Z1 ρ' → Solv M (.inl (tT σ p, tT σ t) :: gs) ρ ρ') (hz' : ∀ ρ', Solv M (.inl (tT σ p, tT σ t) :: gs) ρ ρ' → Z1 ρ' ∨ mUn M f ≠ -2 ∧ (Solv M (pairG (kids (tT σ p)) [tT σ t, unT M f] ++ gs) ρ ρ' ∨ Solv M (pairG (kids (tT σ p)) [unT M f, tT σ t] ++ gs) ρ ρ')) :
    t_solvePair_j303 (t_S_solve m) p t nx f s (fun _ s => ∃ L', doneT M (inU M A t0) o σ L (Solv M (.inl (tT σ p, tT σ t) :: gs) ρ) s L') (fun s => overT M (inU M A t0) σ L (Solv M (.inl (tT σ p, tT σ t) :: gs) ρ) s) := by
  have xp := mt.1
  have rg := xp.rg
  have hM := xp.wm
  have np := (xp.nd hp).2.2.1
  have h1 : f < mOps M := by rw [← hf]; exact np.op (by rw [hf]; exact h0)
  have okp := ok.1
  have okt := ok.2
  have xs := d.2.2.1
  have ks := d.2.1
  have hZP : ∀ ρ', Z1 ρ' → P ρ' := fun ρ' z => hP ρ' (hz ρ' z)
  have rm := c.2.2.2.1 s xs (mt.2.1.trans ks.1 c.1)
  have kg := ks.2.2.2.1
  unfold t_solvePair_j303
  refine ts_idTerm xs h0 h1 (by omega) (fun hu => ?_) (fun hu r s1 f1 q => ?_)
  · refine ⟨fun z => absurd (by decide) z, ?_⟩
    rw [if_neg (fun z => z.1 (by decide))]
    exact ⟨L1, d.iff (fun ρ' => ⟨hz ρ', fun z => (hz' ρ' z).resolve_right (fun y => y.1 hu)⟩)⟩
  · obtain ⟨x1, lr, er, ex, -⟩ := q
    have un := unT_ok (A := A) (t0 := t0) hM h0 h1 hu
    have k1 : kT (inU M A t0) s s1 := kT.of (ex.mono (fun u z => by rw [z]; exact un.2.2.2)) f1 rfl
    have d1 := d.q rg.1 f1 rfl rfl x1 k1
    have hl2 := unit2 hM np (by rw [hf]; exact h0) (by rw [hf]; exact has) (by rw [hf]; exact hu)
    obtain ⟨p0, p1, hk⟩ : ∃ p0 p1, kids (tT σ p) = [p0, p1] := by
      match h : kids (tT σ p), hl2 with
      | [p0, p1], _ => exact ⟨p0, p1, rfl⟩
    have okp0 := kid_ok okp (q := p0) (by rw [hk]; simp)
    have okp1 := kid_ok okp (q := p1) (by rw [hk]; simp)
    have wle : ∀ a b : Tr, wTs (.inl (p0, a) :: .inl (p1, b) :: gs) + 1 ≤ m := by
      intro a b
      have e := trS_eta np
      rw [hk] at e
      rw [wTs_cons] at hw
      rw [wTs_cons, wTs_cons]
      simp only [wT1, List.map_cons, List.map_nil, List.sum_cons, List.sum_nil] at hw e ⊢
      have := trS_pos okp0.1.1
      have := trS_pos okp1.1.1
      omega
    have sol := fun ρ' => Solv_plain (M := M) (p := tT σ p) (t := tT σ t) (gs := gs) (ρ := ρ) (ρ' := ρ') (by rw [hf]; exact h0) (by rw [hf]; exact has)
    rw [hf] at sol
    rw [hk] at hz' sol
    simp only [pairG, List.zipWith_cons_cons, List.zipWith_nil_left, List.cons_append, List.nil_append] at hz' sol
    have i1 : gI s1 110 = gI s 110 := f1.i _ rfl
    have k01 := ks.trans k1 rg.1
    have hp1 := k01.1.lv hp
    have tp1 := k01.1.t hp
    have ht1 := k01.1.lv ht
    have tt1 := k01.1.t ht
    have hcnt : gA s1 50 p = 2 := by
      have := (tT_kids x1 hp1).2
      rw [tp1, hk] at this
      simpa using this.symm
    have rn : ¬ r < 0 := by have := lr.1; omega
    refine ⟨fun _ => lvT_b x1 hp1, ?_⟩
    rw [if_pos ⟨rn, hcnt⟩]
    refine ts_kid x1 hp1 (k := 1) (q := p1) (by rw [tp1, hk]; rfl) (fun y ly ey => ?_)
    refine st_pg d1 rg.1 (by omega) (gg.kp k01) ly ht1 (fun s2 d2 k2 x2 l2 g2 gg2 => ?_)
    rw [ey, tt1] at gg2
    refine ts_kid x2 (l2 _ hp1).1 (k := 0) (q := p0) (by rw [(l2 _ hp1).2, tp1, hk]; rfl) (fun y0 ly0 ey0 => ?_)
    refine st_pg d2 rg.1 (by omega) gg2 ly0 (l2 _ lr).1 (fun s3 d3 k3 x3 l3 g3 gg3 => ?_)
    rw [ey0, (l2 _ lr).2, er] at gg3
    have oks : ∀ (a b : Tr), (NF M a ∧ trS a ≤ 40 ∧ tWide A a = false ∧ inU M A t0 a) → (NF M b ∧ trS b ≤ 40 ∧ tWide A b = false ∧ inU M A t0 b) → ∀ x ∈ (.inl (p0, a) :: .inl (p1, b) :: gs : List Goal), gOT M A t0 x := by
      intro a b ha hb x hx
      rcases List.mem_cons.mp hx with rfl | hx
      · exact ⟨okp0, ha⟩
      · rcases List.mem_cons.mp hx with rfl | hx
        · exact ⟨okp1, hb⟩
        · exact okgs x hx
    have sA : ∀ ρ', Solv M (.inl (p0, unT M f) :: .inl (p1, tT σ t) :: gs) ρ ρ' → Solv M (.inl (tT σ p, tT σ t) :: gs) ρ ρ' := fun ρ' z => (sol ρ').mpr (Or.inr (Or.inr ⟨hu, Or.inr z⟩))
    have sB : ∀ ρ', Solv M (.inl (p0, tT σ t) :: .inl (p1, unT M f) :: gs) ρ ρ' → Solv M (.inl (tT σ p, tT σ t) :: gs) ρ ρ' := fun ρ' z => (sol ρ').mpr (Or.inr (Or.inr ⟨hu, Or.inl z⟩))
    refine st_rec c ih mt d3 hZP gg3 (oks _ _ un okt) (by omega) (wle _ _) (fun ρ' z => hP ρ' (sA ρ' z)) (fun r4 s4 L4 f4 d4 k4 g4 => ?_) (fun s4 q4 => q4.imp (fun ρ' z => z.elim (hz ρ') (sA ρ')))
    have x4 := d4.2.2.1
    have k04 := d4.2.1
    have hp4 := k04.1.lv hp
    have tp4 := k04.1.t hp
    have lr4 : lvT s4 r ∧ tT s4 r = unT M f := by
      have a := l2 _ lr
      have b := l3 _ a.1
      exact ⟨k4.1.lv b.1, by rw [k4.1.t b.1, b.2, a.2, er]⟩
    refine ts_kid x4 hp4 (k := 1) (q := p1) (by rw [tp4, hk]; rfl) (fun y5 ly5 ey5 => ?_)
    refine st_pg d4 rg.1 (by omega) (gg.kp k04) ly5 lr4.1 (fun s5 d5 k5 x5 l5 g5 gg5 => ?_)
    rw [ey5, lr4.2] at gg5
    refine ts_kid x5 (l5 _ hp4).1 (k := 0) (q := p0) (by rw [(l5 _ hp4).2, tp4, hk]; rfl) (fun y6 ly6 ey6 => ?_)
    have ht4 := k04.1.lv ht
    refine st_pg d5 rg.1 (by omega) gg5 ly6 (l5 _ ht4).1 (fun s6 d6 k6 x6 l6 g6 gg6 => ?_)
    rw [ey6, (l5 _ ht4).2, k04.1.t ht] at gg6
    refine st_rec c ih mt d6 (fun ρ' z => hP ρ' (z.elim (hz ρ') (sA ρ'))) gg6 (oks _ _ okt un) (by omega) (wle _ _) (fun ρ' z => hP ρ' (sB ρ' z)) (fun r7 s7 L7 f7 d7 k7 g7 => ?_) (fun s7 q7 => q7.imp (fun ρ' z => z.elim (fun y => y.elim (hz ρ') (sA ρ')) (sB ρ')))
    refine ⟨L7, d7.iff (fun ρ' => ⟨fun z => z.elim (fun y => y.elim (hz ρ') (sA ρ')) (sB ρ'), fun z => ?_⟩)⟩
    rcases hz' ρ' z with y | ⟨-, y | y⟩
    · exact Or.inl (Or.inl y)
    · exact Or.inr y
    · exact Or.inl (Or.inr y)
theorem st_plain (c : cxT M A t0 P o σ0) (ih : SoT M A t0 P o σ0 m) {σ : S} {gs : List Goal} {ρ : Env} {L : List Env} {p t nx : Int} (mt : mtT M (inU M A t0) P o σ0 σ ρ L) (gg : gsT M σ nx gs) (okgs : ∀ x ∈ gs, gOT M A t0 x) (hg : 0 ≤ gI σ 110 ∧ gI σ 110 + 4 * (m + 2 : Nat) ≤ 2000) (hp : lvT σ p) (ht : lvT σ t) (h0 : 0 ≤ lab (tT σ p)) (has : mAs M (lab (tT σ p)) = 0) (ok : gOT M A t0 (.inl (tT σ p, tT σ t))) (hw : wTs (.inl (tT σ p, tT σ t) :: gs) + 1 ≤ m + 2) (hP : ∀ ρ', Solv M (.inl (tT σ p, tT σ t) :: gs) ρ ρ' → P ρ') :
    t_S_solve (m + 1) 1 [p, t, nx] σ (fun _ s => ∃ L', doneT M (inU M A t0) o σ L (Solv M (.inl (tT σ p, tT σ t) :: gs) ρ) s L') (fun s => overT M (inU M A t0) σ L (Solv M (.inl (tT σ p, tT σ t) :: gs) ρ) s) := by
  have xp := mt.1
  have rg := xp.rg
  have hM := xp.wm
  have np := (xp.nd hp).2.2.1
  have nt := (xp.nd ht).2.2.1
  have hlp := tT_kids xp hp
  have hlt := tT_kids xp ht
  have bp := lvT_b xp hp
  have bt := lvT_b xp ht
  have h1 := np.op h0
  have ob := hM.2.2.1
  have hL := mt.2.2.2.2.2.2.2.1
  have okp := ok.1
  have okt := ok.2
  have sol := fun ρ' => Solv_plain (M := M) (p := tT σ p) (t := tT σ t) (gs := gs) (ρ := ρ) (ρ' := ρ') h0 has
  have moa := (xp.mo.2.2.2.1 _ h0 h1).1
  obtain ⟨f, ef⟩ : ∃ f, f = lab (tT σ p) := ⟨_, rfl⟩
  rw [← ef] at h0 has h1 sol moa
  have ef2 : gA σ 48 p = f := by rw [ef]; exact hlp.1.symm
  rw [te_solve_1]
  unfold t_solvePair_F
  refine ts_isVar xp hp ?_
  rw [bi_f (by omega), if_pos rfl, ef2]
  refine ⟨bp, by omega, ?_⟩
  rw [moa, if_pos has]
  refine ⟨bt, fun _ => bt, fun _ => bp, ?_⟩
  have dn : doneT M (inU M A t0) o σ L (fun _ => False) σ L := doneT.none xp hL
  by_cases hop : gA σ 48 t = f
  · have lens : (kids (tT σ p)).length = (kids (tT σ t)).length := by
      have a := np.len (by rw [← ef]; exact h0) (by rw [← ef]; exact has)
      have b := nt.len (by rw [hlt.1, hop]; exact h0) (by rw [hlt.1, hop]; exact has)
      rw [hlt.1, hop] at b
      rw [← ef] at a
      omega
    rw [if_pos ⟨hop, by omega⟩]
    refine ⟨bp, ?_⟩
    have n3 : (kids (tT σ p)).length ≤ 3 := by
      have a := np.len (by rw [← ef]; exact h0) (by rw [← ef]; exact has)
      have b := hM.op h0 h1
      rw [← ef] at a
      omega
    have solP : ∀ ρ', Solv M (pairG (kids (tT σ p)) (kids (tT σ t)) ++ gs) ρ ρ' → Solv M (.inl (tT σ p, tT σ t) :: gs) ρ ρ' := fun ρ' z => (sol ρ').mpr (Or.inl ⟨by rw [hlt.1, hop], z⟩)
    rw [w32_id (by omega) (by omega)]
    refine lt_solvePair_L204 (fo_t_S_solve m) (fun v5 v6 s => ∃ i : Nat, v6 = (i : Int) - 1 ∧ i ≤ (kids (tT σ p)).length ∧ doneT M (inU M A t0) o σ L (fun _ => False) s L ∧ gI s 110 = gI σ 110 + (((kids (tT σ p)).length : Int) - i) ∧ gsT M s v5 (pairG ((kids (tT σ p)).drop i) ((kids (tT σ t)).drop i) ++ gs)) (fun _ v6 _ => (v6 + 1).toNat) ⟨(kids (tT σ p)).length, by omega, by omega, dn, by omega, by rw [List.drop_length]; simpa [pairG] using gg⟩ ?_
    rintro v5 v6 s fr ⟨i, rfl, hi, d, hgo, gs5⟩
    try dsimp only
    have xs := d.2.2.1
    have ks := d.2.1
    by_cases hneg : (i : Int) - 1 < 0
    · rw [if_pos hneg]
      have i0 : i = 0 := by omega
      subst i0
      rw [List.drop_zero, List.drop_zero] at gs5
      unfold t_solvePair_j240
      have wp := trS_eta np
      have pw := pairG_wT (kids (tT σ p)) (kids (tT σ t))
      rw [wTs_cons] at hw
      simp only [wT1] at hw
      refine st_rec c ih mt d (fun _ z => z.elim) gs5 (fun x hx => ?_) (by omega) (by rw [wTs_app]; omega) (fun ρ' z => hP ρ' (solP ρ' z)) (fun r2 s2 L2 f2 d2 k2 g2 => ?_) (fun s2 q => q.imp (fun ρ' z => solP ρ' (z.resolve_left id)))
      · rcases List.mem_append.mp hx with z | z
        · exact pairG_gOT (fun q hq => kid_ok okp hq) (fun u hu => term_kid c.2.2.2.2 okt hu) x z
        · exact okgs x z
      have x2 := d2.2.2.1
      have k02 := d2.2.1
      refine ⟨by omega, ?_⟩
      rw [(x2.mo.2.2.2.1 f h0 h1).2.1]
      have hw' : wTs (.inl (tT σ p, tT σ t) :: gs) + 1 ≤ m + 2 := by rw [wTs_cons]; simp only [wT1]; exact hw
      by_cases hco : mCo M f = 0
      · rw [if_pos hco]
        refine st_unit c ih mt gg okgs hg hp ht ef.symm h0 has ok hw' hP d2 (by omega) (fun ρ' z => solP ρ' (z.resolve_left id)) (fun ρ' z => ?_)
        rcases (sol ρ').mp z with y | y | y
        · exact Or.inl (Or.inr y.2)
        · exact absurd hco y.2.1
        · exact Or.inr y
      · rw [if_neg hco]
        have hl2 : (kids (tT σ p)).length = 2 := by
          have a := np.len (by rw [← ef]; exact h0) (by rw [← ef]; exact has)
          have b := (hM.op h0 h1).2.2.2.2.2.1 hco
          rw [← ef] at a
          omega
        obtain ⟨p0, p1, hk⟩ : ∃ p0 p1, kids (tT σ p) = [p0, p1] := by
          match h : kids (tT σ p), hl2 with
          | [p0, p1], _ => exact ⟨p0, p1, rfl⟩
        obtain ⟨u0, u1, hkt⟩ : ∃ u0 u1, kids (tT σ t) = [u0, u1] := by
          match h : kids (tT σ t), (lens.symm.trans hl2) with
          | [u0, u1], _ => exact ⟨u0, u1, rfl⟩
        have hp2 := k02.1.lv hp
        have tp2 := k02.1.t hp
        have ht2 := k02.1.lv ht
        have tt2 := k02.1.t ht
        refine ts_kid x2 hp2 (k := 1) (q := p1) (by rw [tp2, hk]; rfl) (fun y ly ey => ?_)
        refine ts_kid x2 ht2 (k := 0) (q := u0) (by rw [tt2, hkt]; rfl) (fun z lz ez => ?_)
        refine st_pg d2 rg.1 (by omega) (gg.kp k02) ly lz (fun s3 d3 k3 x3 l3 g3 gg3 => ?_)
        rw [ey, ez] at gg3
        refine ts_kid x3 (l3 _ hp2).1 (k := 0) (q := p0) (by rw [(l3 _ hp2).2, tp2, hk]; rfl) (fun y0 ly0 ey0 => ?_)
        refine ts_kid x3 (l3 _ ht2).1 (k := 1) (q := u1) (by rw [(l3 _ ht2).2, tt2, hkt]; rfl) (fun z0 lz0 ez0 => ?_)
        refine st_pg d3 rg.1 (by omega) gg3 ly0 lz0 (fun s4 d4 k4 x4 l4 g4 gg4 => ?_)
        rw [ey0, ez0] at gg4
        have okp0 := kid_ok okp (q := p0) (by rw [hk]; simp)
        have okp1 := kid_ok okp (q := p1) (by rw [hk]; simp)
        have oku0 := term_kid c.2.2.2.2 okt (u := u0) (by rw [hkt]; simp)
        have oku1 := term_kid c.2.2.2.2 okt (u := u1) (by rw [hkt]; simp)
        have sR : ∀ ρ', Solv M (.inl (p0, u1) :: .inl (p1, u0) :: gs) ρ ρ' → Solv M (.inl (tT σ p, tT σ t) :: gs) ρ ρ' := fun ρ' z => (sol ρ').mpr (Or.inr (Or.inl ⟨by rw [hlt.1, hop], hco, by rw [hk, hkt]; exact z⟩))
        refine st_rec c ih mt d4 (fun ρ' z => hP ρ' (solP ρ' (z.resolve_left id))) gg4 (fun x hx => ?_) (by omega) ?_ (fun ρ' z => hP ρ' (sR ρ' z)) (fun r5 s5 L5 f5 d5 k5 g5 => ?_) (fun s5 q => q.imp (fun ρ' z => z.elim (fun y => solP ρ' (y.resolve_left id)) (sR ρ')))
        · rcases List.mem_cons.mp hx with rfl | hx
          · exact ⟨okp0, oku1⟩
          · rcases List.mem_cons.mp hx with rfl | hx
            · exact ⟨okp1, oku0⟩
            · exact okgs x hx
        · rw [hk] at wp
          rw [wTs_cons, wTs_cons]
          simp only [wT1, List.map_cons, List.map_nil, List.sum_cons, List.sum_nil] at wp ⊢
          have := trS_pos okp0.1.1
          have := trS_pos okp1.1.1
          omega
        · refine st_unit c ih mt gg okgs hg hp ht ef.symm h0 has ok hw' hP d5 (by omega) (fun ρ' z => z.elim (fun y => solP ρ' (y.resolve_left id)) (sR ρ')) (fun ρ' z => ?_)
          rcases (sol ρ').mp z with y | y | y
          · exact Or.inl (Or.inl (Or.inr y.2))
          · refine Or.inl (Or.inr ?_)
            have := y.2.2
            rw [hk, hkt] at this
            exact this
          · exact Or.inr y
    · rw [if_neg hneg]
      obtain ⟨j, rfl⟩ : ∃ j, i = j + 1 := ⟨i - 1, by omega⟩
      have hjp : j < (kids (tT σ p)).length := by omega
      have hjt : j < (kids (tT σ t)).length := by omega
      have ej : ((j + 1 : Nat) : Int) - 1 = (j : Int) := by omega
      rw [ej]
      refine ts_kid xs (ks.1.lv hp) (k := j) (q := (kids (tT σ p))[j]) (by rw [ks.1.t hp]; exact List.getElem?_eq_getElem hjp) (fun y ly ey => ?_)
      refine ts_kid xs (ks.1.lv ht) (k := j) (q := (kids (tT σ t))[j]) (by rw [ks.1.t ht]; exact List.getElem?_eq_getElem hjt) (fun z lz ez => ?_)
      refine st_pg d rg.1 (by omega) gs5 ly lz (fun s3 d3 k3 x3 l3 g3 gg3 => ?_)
      rw [ey, ez] at gg3
      rw [w32_id (by omega) (by omega)]
      refine ⟨⟨j, by omega, by omega, d3, by omega, ?_⟩, by omega⟩
      rw [List.drop_eq_getElem_cons hjp, List.drop_eq_getElem_cons hjt]
      simp only [pairG, List.zipWith_cons_cons, List.cons_append]
      exact gg3
  · rw [if_neg (fun z => hop z.1)]
    refine st_unit c ih mt gg okgs hg hp ht ef.symm h0 has ok hw hP dn (by omega) (fun _ z => z.elim) (fun ρ' z => ?_)
    rcases (sol ρ').mp z with y | y | y
    · exact absurd (by rw [← hlt.1]; exact y.1) hop
    · exact absurd (by rw [← hlt.1]; exact y.1) hop
    · exact Or.inr y
end

/-! RewriteHouse: solving, pairs -/
theorem doneX.back {M : Mo} {N : Tr → Prop} {o : Int} {σ σ1 s s' : S} {L L' : List Env} {Z : Env → Prop} (d : doneX M N o σ1 L Z s L') (h1 : 1 ≤ gI σ 93) (f1 : Fr wX_solve σ σ1) (b : blX N σ σ1) (f2 : Fr ([121, 138, 134], [], []) s s') (r1 : gI s' 134 = gI σ 134) (r2 : gI s' 138 = gI σ 138) (r3 : gI s' 121 = gI σ 121) : doneX M N o σ L Z s' L' := by
  obtain ⟨p1, p2, p3, p4, p5, p6, p7, p8, p9, p10, p11, p12, p13⟩ := b
  have rs := d.2.1
  refine d.around h1 f1 p1 p7 (fun j _ => by rw [p9]) f2 rfl rfl r1 r2 r3 ?_ ?_ (fun i hi => ?_) (fun i hi => ?_) (fun i hi => ?_) (fun i hi => ?_)
  · rw [f2.i _ rfl, rs.2.2.2.2.1, p5]
  · rw [f2.a _ rfl, rs.2.2.2.2.2.1, p6]
  · rw [f2.a _ rfl, rs.2.2.2.2.2.2.2.1 i (by omega), p10 i hi]
  · have a1 := rs.2.2.2.2.2.2.2.2.1 i (by omega)
    have a2 := p11 i hi
    rw [f2.a _ rfl, f2.a _ rfl, f2.a _ rfl]
    exact ⟨a1.1.trans a2.1, a1.2.1.trans a2.2.1, a1.2.2.trans a2.2.2⟩
  · have a1 := rs.2.2.2.2.2.2.2.2.2.1 i (by omega)
    have a2 := p12 i hi
    rw [f2.a _ rfl, f2.a _ rfl]
    exact ⟨a1.1.trans a2.1, a1.2.trans a2.2⟩
  · rw [f2.a _ rfl, rs.2.2.2.2.2.2.2.2.2.2.2 i (by omega), p13 i hi]
/-- a node's row -/
theorem tX_kids {M : Mo} {σ : S} (h : XP M σ) {x : Int} (hx : lvX σ x) : lab (tX σ x) = gA σ 66 x ∧ kids (tX σ x) = (rowI (gA σ 73) (gA σ 67 x) (gA σ 68 x).toNat).map (tX σ) ∧ ((kids (tX σ x)).length : Int) = gA σ 68 x := by
  have e := tX_row h hx
  have b := (h.at hx).1
  refine ⟨?_, ?_, ?_⟩
  · rw [e, lab_N]
  · rw [e, kids_N]
  · rw [e, kids_N, List.length_map, rowI_len]; omega
theorem tX_kid {M : Mo} {σ : S} (h : XP M σ) {x : Int} (hx : lvX σ x) {k : Nat} {q : Tr} (hk : (kids (tX σ x))[k]? = some q) : ((k : Int) < gA σ 68 x) ∧ lvX σ (gA σ 73 (gA σ 67 x + k)) ∧ tX σ (gA σ 73 (gA σ 67 x + k)) = q := by
  obtain ⟨-, e2, e3⟩ := tX_kids h hx
  have hl := (List.getElem?_eq_some_iff.mp hk).1
  rw [e2, List.getElem?_map, rowI_get _ _ (by omega)] at hk
  simp only [Option.map_some, Option.some.injEq] at hk
  exact ⟨by omega, ((h.at hx).2.2.2.2 k (by omega) (by omega)).1, hk⟩
theorem so_pair {M : Mo} {A : Int → Bool} {t0 : Tr} {P : Env → Prop} {o : Int} {σ0 : S} {m : Nat} (c : cxX M A t0 P o σ0) (ih : SoX M A t0 P o σ0 m) {σ : S} {gs : List Goal} {ρ : Env} {L : List Env} {p a b : Int} {p0 p1 ta tb : Tr} (mt : mtX M (inU M A t0) P o σ0 σ ρ L) (g1 : gsX M σ (gI σ 121) gs) (g2 : ∀ g ∈ gs, gOK M A t0 g) (g3 : 0 ≤ gI σ 138 ∧ 2 * gI σ 138 + m ≤ 420) (g4 : 0 ≤ gI σ 134 ∧ 4 * gI σ 134 + 6 * m ≤ 2520) (g5 : wGs (.inl (p0, ta) :: .inl (p1, tb) :: gs) + 1 ≤ m)
    (hp : lvX σ p) (hk : kids (tX σ p) = [p0, p1]) (ha : lvX σ a) (hb : lvX σ b) (ea : tX σ a = ta) (eb : tX σ b = tb) (ok0 : gOK M A t0 (.inl (p0, ta))) (ok1 : gOK M A t0 (.inl (p1, tb))) (hP : ∀ ρ', Solv M (.inl (p0, ta) :: .inl (p1, tb) :: gs) ρ ρ' → P ρ') :
    x_S_solve (m + 1) 2 [p, a, b] σ (fun _ s => ∃ L', doneX M (inU M A t0) o σ L (Solv M (.inl (p0, ta) :: .inl (p1, tb) :: gs) ρ) s L') (fun s => overX M (inU M A t0) σ L (Solv M (.inl (p0, ta) :: .inl (p1, tb) :: gs) ρ) s) := by
  have xp := mt.1
  have rg := xp.rg
  have hl := g1.len
  have hgl := wGs_len g2
  have k0 := tX_kid xp hp (k := 0) (q := p0) (by rw [hk]; rfl)
  have k1 := tX_kid xp hp (k := 1) (q := p1) (by rw [hk]; rfl)
  rw [wGs_cons, wGs_cons] at g5
  rw [xe_solve_2]
  unfold x_solvePair_F
  refine xs_at xp hp (by omega) k1.1 ?_
  refine xs_goal (by omega) (by omega) (fun s1 f1 b1 e1 x1 y1 => ?_)
  have xp1 : XP M s1 := xp.fr f1 rfl
  have hp1 : lvX s1 p := (b1 (inU M A t0)).1.lv hp
  refine xs_at xp1 hp1 (by omega) (by rw [f1.a _ rfl]; exact k0.1) ?_
  rw [f1.a 73 rfl, f1.a 67 rfl]
  refine xs_goal (by omega) (by omega) (fun s2 f2 b2 e2 x2 y2 => ?_)
  have b1' := b1 (inU M A t0)
  have b2' := b2 (inU M A t0)
  have b12 := b1'.trans b2' rg.1
  have xp2 : XP M s2 := xp1.fr f2 rfl
  have f12 : Fr ([121], [], [84, 85]) σ s2 := f1.trans f2
  have ex := b12.1
  have gg1 : gsX M s1 (gI s1 121) (.inl (p1, tb) :: gs) := g1.push b1' e1 x1 y1 ⟨b1'.1.lv k1.2.1, (b1'.1.t k1.2.1).trans k1.2.2, b1'.1.lv hb, (b1'.1.t hb).trans eb⟩
  have gg2 : gsX M s2 (gI s2 121) (.inl (p0, ta) :: .inl (p1, tb) :: gs) := gg1.push b2' e2 x2 y2 ⟨ex.lv k0.2.1, (ex.t k0.2.1).trans k0.2.2, ex.lv ha, (ex.t ha).trans ea⟩
  refine fo_x_S_solve m _ _ _ _ _ _ _ (ih s2 _ ρ L ⟨mt.bl c.1 xp2 b12 f12 rfl, gg2, ?_, by rw [f12.i _ rfl]; exact g3, by rw [f12.i _ rfl]; exact g4, by rw [wGs_cons, wGs_cons]; exact g5⟩ hP) (fun r s f q => ?_) (fun s f q => ?_)
  · intro g hg
    rcases List.mem_cons.mp hg with rfl | hg
    · exact ok0
    · rcases List.mem_cons.mp hg with rfl | hg
      · exact ok1
      · exact g2 g hg
  · obtain ⟨L', d⟩ := q
    rintro s3 hs3
    have f3 : Fr ([121, 138, 134], [], []) s s3 := Fr.rf.putI hs3 rfl
    have rs := d.2.1
    refine ⟨L', d.back rg.1 (f12.weak rfl) b12 f3 ?_ ?_ ?_⟩
    · rw [hs3]; simp only [gI_pI, gI_pL, gI_pA, gL_pI, gL_pL, gL_pA, gA_pI, gA_pL, gA_pA]; rw [if_neg (by decide), rs.2.1, f12.i _ rfl]
    · rw [hs3]; simp only [gI_pI, gI_pL, gI_pA, gL_pI, gL_pL, gL_pA, gA_pI, gA_pL, gA_pA]; rw [if_neg (by decide), rs.2.2.1, f12.i _ rfl]
    · rw [hs3]; rfl
  · exact q.pre rg.1 ex
/-- a comm operator, or one with a unit -/
theorem so_two {M : Mo} {A : Int → Bool} {t0 : Tr} {P : Env → Prop} {o : Int} {σ0 : S} {m : Nat} (c : cxX M A t0 P o σ0) (ih : SoX M A t0 P o σ0 m) {σ : S} {gs : List Goal} {ρ : Env} {L : List Env} {f p t : Int} (mt : mtX M (inU M A t0) P o σ0 σ ρ L) (g1 : gsX M σ (gI σ 121) gs) (g2 : ∀ g ∈ gs, gOK M A t0 g) (g3 : 0 ≤ gI σ 138 ∧ 2 * gI σ 138 + m ≤ 420) (g4 : 0 ≤ gI σ 134 ∧ 4 * gI σ 134 + 6 * m ≤ 2520)
    (hp : lvX σ p) (ht : lvX σ t) (hf : lab (tX σ p) = f) (h0 : 0 ≤ f) (ha : mAs M f = 0) (h2 : mCo M f ≠ 0 ∨ mUn M f ≠ -2) (ok : gOK M A t0 (.inl (tX σ p, tX σ t))) (g5 : wGs (.inl (tX σ p, tX σ t) :: gs) + 1 ≤ m + 10) (hP : ∀ ρ', Solv M (.inl (tX σ p, tX σ t) :: gs) ρ ρ' → P ρ') :
    x_S_solve (m + 2) 3 [f, p, t] σ (fun _ s => ∃ L', doneX M (inU M A t0) o σ L (Solv M (.inl (tX σ p, tX σ t) :: gs) ρ) s L') (fun s => overX M (inU M A t0) σ L (Solv M (.inl (tX σ p, tX σ t) :: gs) ρ) s) := by
  have xp := mt.1
  have rg := xp.rg
  have hM := xp.wm
  have np := (xp.nd hp).2.2.1
  have nt := (xp.nd ht).2.2.1
  have h1 : f < mOps M := by rw [← hf]; exact np.op (by rw [hf]; exact h0)
  have ob := hM.2.2.1
  have op := hM.op h0 h1
  have hl2 : (kids (tX σ p)).length = 2 := by
    have := np.len (by rw [hf]; exact h0) (by rw [hf]; exact ha)
    rw [hf] at this
    rcases h2 with z | z
    · have := op.2.2.2.2.2.1 z; omega
    · rcases op.2.2.2.2.2.2.1 with y | y
      · exact absurd y z
      · omega
  obtain ⟨p0, p1, hk⟩ : ∃ p0 p1, kids (tX σ p) = [p0, p1] := by
    match h : kids (tX σ p), hl2 with
    | [p0, p1], _ => exact ⟨p0, p1, rfl⟩
  have okp := ok.1
  have okt := ok.2
  have okp0 := kid_ok okp (q := p0) (by rw [hk]; simp)
  have okp1 := kid_ok okp (q := p1) (by rw [hk]; simp)
  have bt := lvX_b xp ht
  have kt := tX_kids xp ht
  have wle : ∀ a b : Tr, wGs (.inl (p0, a) :: .inl (p1, b) :: gs) + 1 ≤ m := by
    intro a b
    have e := trS_eta np
    rw [hk] at e
    rw [wGs_cons] at g5
    rw [wGs_cons, wGs_cons]
    simp only [wG, List.map_cons, List.map_nil, List.sum_cons, List.sum_nil] at g5 e ⊢
    have := trS_pos okp0.1.1
    have := trS_pos okp1.1.1
    omega
  have sol := fun ρ' => Solv_plain (M := M) (p := tX σ p) (t := tX σ t) (gs := gs) (ρ := ρ) (ρ' := ρ') (by rw [hf]; exact h0) (by rw [hf]; exact ha)
  simp only [hf, hk, pairG, List.zipWith_cons_cons, List.zipWith_nil_left, List.cons_append, List.nil_append] at sol
  -- one pair of terms
  have go : ∀ (Z1 : Env → Prop) (s : S) (L1 : List Env), doneX M (inU M A t0) o σ L Z1 s L1 → (∀ ρ', Z1 ρ' → P ρ') → ∀ (a b : Int) (ta tb : Tr) (K : S → Prop), lvX s a → lvX s b → tX s a = ta → tX s b = tb → gOK M A t0 (.inl (p0, ta)) → gOK M A t0 (.inl (p1, tb)) → (∀ ρ', Solv M (.inl (p0, ta) :: .inl (p1, tb) :: gs) ρ ρ' → Solv M (.inl (tX σ p, tX σ t) :: gs) ρ ρ') → (∀ ρ', Z1 ρ' → Solv M (.inl (tX σ p, tX σ t) :: gs) ρ ρ') →
      (∀ s2 L2, doneX M (inU M A t0) o σ L (fun ρ' => Z1 ρ' ∨ Solv M (.inl (p0, ta) :: .inl (p1, tb) :: gs) ρ ρ') s2 L2 → K s2) → x_S_solve (m + 1) 2 [p, a, b] s (fun _ s' => K s') (fun s => overX M (inU M A t0) σ L (Solv M (.inl (tX σ p, tX σ t) :: gs) ρ) s) := by
    intro Z1 s L1 d hZ a b ta tb K la lb ea eb k0 k1 hs hz hQ
    have mt1 := mt.done c.1 d hZ
    have ex := d.2.1.1
    have hp1 := ex.lv hp
    have tp1 := ex.t hp
    refine fo_x_S_solve (m + 1) _ _ _ _ _ _ _ (so_pair c ih mt1 (d.2.1.gs g1) g2 (by rw [d.2.1.2.2.1]; exact g3) (by rw [d.2.1.2.1]; exact g4) (wle ta tb) hp1 (by rw [tp1]; exact hk) la lb ea eb k0 k1 (fun ρ' h => hP ρ' (hs ρ' h))) (fun r s2 f q => ?_) (fun s2 f q => ?_)
    · obtain ⟨L2, d2⟩ := q
      exact hQ s2 L2 (d.seq rg.1 d2)
    · exact (d.over rg.1 q).imp (fun ρ' h => h.elim (hz ρ') (hs ρ'))
  -- the unit
  have unit : ∀ (Z1 : Env → Prop) (s : S) (L1 : List Env), doneX M (inU M A t0) o σ L Z1 s L1 → (∀ ρ', Z1 ρ' → Solv M (.inl (tX σ p, tX σ t) :: gs) ρ ρ') → (∀ ρ', Solv M (.inl (tX σ p, tX σ t) :: gs) ρ ρ' → Z1 ρ' ∨ mUn M f ≠ -2 ∧ (Solv M (.inl (p0, tX σ t) :: .inl (p1, unT M f) :: gs) ρ ρ' ∨ Solv M (.inl (p0, unT M f) :: .inl (p1, tX σ t) :: gs) ρ ρ')) →
      x_solveTwo_j53 (x_S_solve (m + 1)) f p t s (fun _ s => ∃ L', doneX M (inU M A t0) o σ L (Solv M (.inl (tX σ p, tX σ t) :: gs) ρ) s L') (fun s => overX M (inU M A t0) σ L (Solv M (.inl (tX σ p, tX σ t) :: gs) ρ) s) := by
    intro Z1 s L1 d hz hz'
    have xs := d.2.2.1
    have hZ : ∀ ρ', Z1 ρ' → P ρ' := fun ρ' h => hP ρ' (hz ρ' h)
    unfold x_solveTwo_j53
    refine ⟨by omega, ?_⟩
    rw [moX_un xs]
    by_cases hu : mUn M f = -2
    · rw [if_pos hu]
      refine ⟨L1, d.iff (fun ρ' => ⟨hz ρ', fun h => (hz' ρ' h).resolve_right (fun z => z.1 hu)⟩)⟩
    · rw [if_neg hu]
      have un := unT_ok (A := A) (t0 := t0) hM h0 h1 hu
      -- one more unit node
      have uno : ∀ (Z2 : Env → Prop) (s : S) (L1 : List Env) (Q : Int → S → Prop), doneX M (inU M A t0) o σ L Z2 s L1 → (∀ ρ', Z2 ρ' → P ρ') → (∀ r s2, doneX M (inU M A t0) o σ L Z2 s2 L1 → lvX s2 r → tX s2 r = unT M f → Q r s2) → x_unitNode f s Q (fun s => overX M (inU M A t0) σ L (Solv M (.inl (tX σ p, tX σ t) :: gs) ρ) s) := by
        intro Z2 s L1 Q d hZ2 hQ
        have mt1 := mt.done c.1 d hZ2
        have rm := c.2.2.2.1 s mt1.1 mt1.2.1
        have tp := mt1.2.2.2.2.2.2.2.2.2
        refine fm_x_unitNode (xs_unitNode mt1.1 h0 h1 hu tp.1 (by omega) (by omega) rm.2) (fun r s2 f2 q => ?_) (fun s2 f2 q => q.elim)
        obtain ⟨q1, q2, q3, q4, -⟩ := q
        have d2 : doneX M (inU M A t0) o s L1 (fun _ => False) s2 L1 := doneX.grow f2 rfl rfl q1 (q4.mono (fun u hu' => by rw [hu']; exact un.2.2.2)) (f2.i _ rfl) (fun j _ => by rw [f2.a _ rfl]) mt1.2.2.2.2.2.2.2.1
        exact hQ r s2 ((d.seq rg.1 d2).iff (fun ρ' => by simp)) q2 q3
      refine uno Z1 s L1 _ d hZ (fun r s2 d2 lr er => ?_)
      have ex2 := d2.2.1.1
      refine go Z1 s2 L1 d2 hZ t r (tX σ t) (unT M f) _ (ex2.lv ht) lr (ex2.t ht) er ⟨okp0, okt⟩ ⟨okp1, un⟩ (fun ρ' h => (sol ρ').mpr (Or.inr (Or.inr ⟨hu, Or.inl h⟩))) hz (fun s3 L3 d3 => ?_)
      refine uno _ s3 L3 _ d3 (fun ρ' h => hP ρ' (h.elim (hz ρ') (fun h => (sol ρ').mpr (Or.inr (Or.inr ⟨hu, Or.inl h⟩))))) (fun r4 s4 d4 lr4 er4 => ?_)
      have ex4 := d4.2.1.1
      refine go _ s4 L3 d4 (fun ρ' h => hP ρ' (h.elim (hz ρ') (fun h => (sol ρ').mpr (Or.inr (Or.inr ⟨hu, Or.inl h⟩))))) r4 t (unT M f) (tX σ t) (fun s => ∃ L', doneX M (inU M A t0) o σ L (Solv M (.inl (tX σ p, tX σ t) :: gs) ρ) s L') lr4 (ex4.lv ht) er4 (ex4.t ht) ⟨okp0, un⟩ ⟨okp1, okt⟩ (fun ρ' h => (sol ρ').mpr (Or.inr (Or.inr ⟨hu, Or.inr h⟩))) (fun ρ' h => h.elim (hz ρ') (fun h => (sol ρ').mpr (Or.inr (Or.inr ⟨hu, Or.inl h⟩)))) (fun s5 L5 d5 => ?_)
      refine ⟨L5, d5.iff (fun ρ' => ⟨?_, ?_⟩)⟩
      · rintro ((h | h) | h)
        · exact hz ρ' h
        · exact (sol ρ').mpr (Or.inr (Or.inr ⟨hu, Or.inl h⟩))
        · exact (sol ρ').mpr (Or.inr (Or.inr ⟨hu, Or.inr h⟩))
      · intro h
        rcases hz' ρ' h with z | ⟨-, z | z⟩
        · exact Or.inl (Or.inl z)
        · exact Or.inl (Or.inr z)
        · exact Or.inr z
  rw [xe_solve_3]
  unfold x_solveTwo_F
  refine ⟨bt, ?_⟩
  have dn : doneX M (inU M A t0) o σ L (fun _ => False) σ L := doneX.none xp mt.2.2.2.2.2.2.2.1
  by_cases hw : gA σ 66 t = f
  · rw [if_pos hw]
    have hlt : lab (tX σ t) = f := by rw [kt.1, hw]
    have hl2t : (kids (tX σ t)).length = 2 := by
      have := nt.len (by rw [hlt]; exact h0) (by rw [hlt]; exact ha)
      rw [hlt] at this
      have := np.len (by rw [hf]; exact h0) (by rw [hf]; exact ha)
      rw [hf] at this
      omega
    obtain ⟨u0, u1, hkt⟩ : ∃ p0 p1, kids (tX σ t) = [p0, p1] := by
      match h : kids (tX σ t), hl2t with
      | [p0, p1], _ => exact ⟨p0, p1, rfl⟩
    have ku0 := tX_kid xp ht (k := 0) (q := u0) (by rw [hkt]; rfl)
    have ku1 := tX_kid xp ht (k := 1) (q := u1) (by rw [hkt]; rfl)
    have oku0 := term_kid c.2.2.2.2 okt (u := u0) (by rw [hkt]; simp)
    have oku1 := term_kid c.2.2.2.2 okt (u := u1) (by rw [hkt]; simp)
    simp only [hlt, hkt, List.zipWith_cons_cons, List.zipWith_nil_left, List.reverse_cons, List.reverse_nil, List.cons_append, List.nil_append, true_and] at sol
    refine xs_at xp ht (by omega) ku0.1 ?_
    refine xs_at xp ht (by omega) ku1.1 ?_
    refine go _ σ L dn (fun _ h => h.elim) _ _ u0 u1 _ ku0.2.1 ku1.2.1 ku0.2.2 ku1.2.2 ⟨okp0, oku0⟩ ⟨okp1, oku1⟩ (fun ρ' h => (sol ρ').mpr (Or.inl h)) (fun _ h => h.elim) (fun s1 L1 d1 => ?_)
    have xp1 := d1.2.2.1
    have ex1 := d1.2.1.1
    rw [moX_co xp1]
    refine ⟨by omega, ?_⟩
    by_cases hco : mCo M f = 0
    · rw [if_pos hco]
      refine unit _ s1 L1 d1 (fun ρ' h => (sol ρ').mpr (Or.inl (h.resolve_left id))) (fun ρ' h => ?_)
      rcases (sol ρ').mp h with z | z | z
      · exact Or.inl (Or.inr z)
      · exact absurd hco z.1
      · exact Or.inr z
    · rw [if_neg hco]
      have ht1 := ex1.lv ht
      have ku0' := tX_kid xp1 ht1 (k := 0) (q := u0) (by rw [ex1.t ht, hkt]; rfl)
      have ku1' := tX_kid xp1 ht1 (k := 1) (q := u1) (by rw [ex1.t ht, hkt]; rfl)
      refine xs_at xp1 ht1 (by omega) ku1'.1 ?_
      refine xs_at xp1 ht1 (by omega) ku0'.1 ?_
      refine go _ s1 L1 d1 (fun ρ' h => hP ρ' ((sol ρ').mpr (Or.inl (h.resolve_left id)))) _ _ u1 u0 _ ku1'.2.1 ku0'.2.1 ku1'.2.2 ku0'.2.2 ⟨okp0, oku1⟩ ⟨okp1, oku0⟩ (fun ρ' h => (sol ρ').mpr (Or.inr (Or.inl ⟨hco, h⟩))) (fun ρ' h => (sol ρ').mpr (Or.inl (h.resolve_left id))) (fun s2 L2 d2 => ?_)
      refine unit _ s2 L2 d2 (fun ρ' h => ?_) (fun ρ' h => ?_)
      · rcases h with (h | h) | h
        · exact h.elim
        · exact (sol ρ').mpr (Or.inl h)
        · exact (sol ρ').mpr (Or.inr (Or.inl ⟨hco, h⟩))
      · rcases (sol ρ').mp h with z | z | z
        · exact Or.inl (Or.inl (Or.inr z))
        · exact Or.inl (Or.inr z.2)
        · exact Or.inr z
  · rw [if_neg hw]
    have hlt : lab (tX σ t) ≠ f := by rw [kt.1]; exact hw
    refine unit _ σ L dn (fun ρ' h => h.elim) (fun ρ' h => ?_)
    rcases (sol ρ').mp h with z | z | z
    · exact absurd z.1 hlt
    · exact absurd z.1 hlt
    · exact Or.inr z

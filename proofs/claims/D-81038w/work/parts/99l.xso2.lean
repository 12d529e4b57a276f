/-! RewriteHouse: solving, the parts -/
def rmX (M : Mo) (N : Tr → Prop) (σ0 : S) : Prop := ∀ s, XP M s → ExX σ0 s N → gI s 93 + 2 ≤ 200000 ∧ gI s 102 + 39 ≤ 600000
def cxX (M : Mo) (A : Int → Bool) (t0 : Tr) (P : Env → Prop) (o : Int) (σ0 : S) : Prop :=
  1 ≤ gI σ0 93 ∧ (∀ ρ, P ρ → okE o ρ) ∧ (∀ ρ ρ', P ρ → P ρ' → sdE ρ ρ') ∧ rmX M (inU M A t0) σ0 ∧ isT t0
/-- ready to solve, at a depth -/
def rdyX (M : Mo) (A : Int → Bool) (t0 : Tr) (P : Env → Prop) (o : Int) (σ0 : S) (n : Nat) (σ : S) (gs : List Goal) (ρ : Env) (L : List Env) : Prop :=
  mtX M (inU M A t0) P o σ0 σ ρ L ∧ gsX M σ (gI σ 121) gs ∧ (∀ g ∈ gs, gOK M A t0 g) ∧ (0 ≤ gI σ 138 ∧ 2 * gI σ 138 + n ≤ 420) ∧ (0 ≤ gI σ 134 ∧ 4 * gI σ 134 + 6 * n ≤ 2520) ∧ wGs gs + 1 ≤ n
def SoX (M : Mo) (A : Int → Bool) (t0 : Tr) (P : Env → Prop) (o : Int) (σ0 : S) (n : Nat) : Prop :=
  ∀ (σ : S) (gs : List Goal) (ρ : Env) (L : List Env), rdyX M A t0 P o σ0 n σ gs ρ L → (∀ ρ', Solv M gs ρ ρ' → P ρ') → x_S_solve n 0 [] σ (fun _ s => ∃ L', doneX M (inU M A t0) o σ L (Solv M gs ρ) s L') (fun s => overX M (inU M A t0) σ L (Solv M gs ρ) s)
theorem overX.pre {M : Mo} {N : Tr → Prop} {σ σ1 s : S} {L : List Env} {Z : Env → Prop} (h1 : 1 ≤ gI σ 93) (e : ExX σ σ1 N) (h : overX M N σ1 L Z s) : overX M N σ L Z s :=
  ⟨h.1, h.2.1, e.trans h.2.2.1 h1, h.2.2.2⟩
theorem doneX.around {M : Mo} {N : Tr → Prop} {o : Int} {σ σ1 s s' : S} {L L' : List Env} {Z : Env → Prop} {w2 : List Nat × List Nat × List Nat} (d : doneX M N o σ1 L Z s L') (h1 : 1 ≤ gI σ 93) (f1 : Fr wX_solve σ σ1) (e1 : ExX σ σ1 N) (l1 : gI σ1 123 = gI σ 123) (l2 : ∀ j, j < 62 * gI σ 123 → gA σ1 86 j = gA σ 86 j)
    (f2 : Fr w2 s s') (hw : apt w2 (XPi ++ [123, 124]) (XPm ++ XPa ++ [75, 86]) = true) (hw' : Fw w2 wX_solve = true)
    (r1 : gI s' 134 = gI σ 134) (r2 : gI s' 138 = gI σ 138) (r3 : gI s' 121 = gI σ 121) (r4 : gI s' 106 = gI σ 106) (r5 : gA s' 83 = gA σ 83)
    (r6 : ∀ i, i < gI σ 134 → gA s' 87 i = gA σ 87 i)
    (r7 : ∀ i, i < gI σ 138 → gA s' 88 i = gA σ 88 i ∧ gA s' 89 i = gA σ 89 i ∧ gA s' 90 i = gA σ 90 i)
    (r8 : ∀ i, i < gI σ 121 → gA s' 84 i = gA σ 84 i ∧ gA s' 85 i = gA σ 85 i)
    (r9 : ∀ i, i < gI σ 106 → gA s' 74 i = gA σ 74 i) : doneX M N o σ L Z s' L' := by
  have sub : ∀ I A : List Nat, (∀ i ∈ I, i ∈ XPi ++ [123, 124]) → (∀ i ∈ A, i ∈ XPm ++ XPa ++ [75, 86]) → apt w2 I A = true := by
    intro I A hI hA
    unfold apt at hw ⊢
    rw [Bool.and_eq_true, List.all_eq_true, List.all_eq_true] at hw ⊢
    exact ⟨fun i hi => hw.1 i (hI i hi), fun a ha => hw.2 a (hA a ha)⟩
  obtain ⟨d1, d2, d3, d4, d5⟩ := d
  have hi := apt_i (sub [123, 124] [86] (by decide) (by decide)) f2
  have ha := apt_a (sub [123, 124] [86] (by decide) (by decide)) f2
  simp only [List.forall_mem_cons] at hi ha
  have e2 : ExX s s' N := ExX.of_fr f2 (sub _ _ (by decide) (by decide))
  refine ⟨Fr.trans f1 (Fr.trans d1 (f2.weak hw')), ⟨(e1.trans d2.1 h1).trans e2 h1, r1, r2, r3, r4, r5, ?_, r6, r7, r8, fun j hj => ?_, r9⟩, d3.fr f2 (sub _ _ (by decide) (by decide)), d4.ex e2 hi.1 hi.2.1 ha.1, d5⟩
  · rw [hi.1, d2.2.2.2.2.2.2.1, l1]
  · rw [ha.1, d2.2.2.2.2.2.2.2.2.2.2.1 j (by rw [l1]; exact hj), l2 j hj]
theorem doneX.grow {M : Mo} {N : Tr → Prop} {o : Int} {σ s : S} {L : List Env} {w : List Nat × List Nat × List Nat} (f : Fr w σ s) (hw : apt w [134, 138, 121, 123, 124] [87, 88, 89, 90, 84, 85, 83, 86] = true) (hw' : Fw w wX_solve = true) (x : XP M s) (e : ExX σ s N) (ht : gI s 106 = gI σ 106) (hh : ∀ j, j < gI σ 106 → gA s 74 j = gA σ 74 j) (hL : LX o σ L) : doneX M N o σ L (fun _ => False) s L := by
  have hi := apt_i hw f
  have ha := apt_a hw f
  simp only [List.forall_mem_cons] at hi ha
  obtain ⟨i1, i2, i3, i4, i5, -⟩ := hi
  obtain ⟨b1, b2, b3, b4, b5, b6, b7, b8, -⟩ := ha
  exact ⟨f.weak hw', ⟨e, i1, i2, i3, ht, b7, i4, fun i _ => by rw [b1], fun i _ => ⟨by rw [b2], by rw [b3], by rw [b4]⟩, fun i _ => ⟨by rw [b5], by rw [b6]⟩, fun j _ => by rw [b8], hh⟩, x, hL.ex e i4 i5 b8, fun ρ => by simp⟩
theorem moX_vs {M : Mo} {σ : S} (h : XP M σ) (v : Int) : gA σ 58 v = mVs M v := by rw [← h.mo]; rfl
theorem lvX_b {M : Mo} {σ : S} (h : XP M σ) {x : Int} (hx : lvX σ x) : 0 ≤ x ∧ x < 200000 := by
  have := h.rg; have := hx.1; have := hx.2; omega
theorem so_var {M : Mo} {A : Int → Bool} {t0 : Tr} {P : Env → Prop} {o : Int} {σ0 : S} {m : Nat} (c : cxX M A t0 P o σ0) (ih : SoX M A t0 P o σ0 m) {σ : S} {gs : List Goal} {ρ : Env} {L : List Env} {v t : Int} (h : rdyX M A t0 P o σ0 m σ gs ρ L) (v0 : 0 ≤ v) (v1 : v < 60) (v2 : Int.tmod v 30 < mVars M) (ht : lvX σ t) (Z : Env → Prop)
    (hZ : ∀ ρ', Z ρ' ↔ (ρ v ≠ .nil ∧ ρ v = tX σ t ∧ Solv M gs ρ ρ') ∨ (ρ v = .nil ∧ srt M (tX σ t) ≠ -2 ∧ blw M (srt M (tX σ t)) (vrS M v) ∧ Solv M gs (upE ρ v (tX σ t)) ρ')) (hP : ∀ ρ', Z ρ' → P ρ') :
    x_S_solve (m + 1) 1 [v, t] σ (fun _ s => ∃ L', doneX M (inU M A t0) o σ L Z s L') (fun s => overX M (inU M A t0) σ L Z s) := by
  obtain ⟨mt, g1, g2, g3, g4, g5⟩ := h
  have xp := mt.1
  have rg := xp.rg
  have hb := mt.2.2.1 v v0 v1
  have bv : ρ v = oX σ (gA σ 83 v) := by rw [← mt.2.2.2.2.2.2.1]; unfold bX; rw [if_pos ⟨v0, v1⟩]
  have bt := lvX_b xp ht
  have hL := mt.2.2.2.2.2.2.2.1
  rw [xe_solve_1]
  unfold x_solveVariable_F
  refine ⟨⟨v0, v1⟩, ?_⟩
  by_cases h0 : gA σ 83 v = 0
  · rw [if_pos h0]
    have bn : ρ v = .nil := by rw [bv, h0, oX_0]
    have nd := (xp.nd ht).2.1
    refine ⟨bt, ?_⟩
    by_cases hl : gA σ 69 t = -2
    · rw [if_pos hl]
      refine ⟨L, (doneX.none xp hL).iff (fun ρ' => ?_)⟩
      rw [hZ]
      constructor
      · exact False.elim
      · rintro (⟨a, -⟩ | ⟨-, a, -⟩)
        · exact a bn
        · exact a (by rw [← nd]; exact hl)
    · rw [if_neg hl]
      refine ⟨bt, ?_⟩
      unfold x_sortOfVariable
      have tm : Int.tmod v 30 = v % 30 := Int.tmod_eq_emod_of_nonneg v0
      refine ⟨by rw [tm]; omega, ?_⟩
      have sr := srt_rg xp.wm (xp.nd ht).2.2.1
      rw [← nd] at sr
      refine xs_isBelow xp.mo (by omega) (by omega) ?_
      rw [moX_vs xp]
      by_cases hbl : blw M (gA σ 69 t) (mVs M (Int.tmod v 30))
      · rw [bi_t hbl, if_neg (by decide)]
        refine ⟨⟨v0, v1⟩, ?_⟩
        rintro s1 hs1
        have f1 : Fr ([], [], [83]) σ s1 := Fr.rf.putA hs1 rfl
        have e1 : ExX σ s1 (inU M A t0) := ExX.of_fr f1 rfl
        have k1 : kpX (inU M A t0) σ s1 := kpX.of_fr f1 rfl
        have mt1 := mt.bind v0 v1 ht hs1
        have hsol : ∀ ρ', Solv M gs (upE ρ v (tX σ t)) ρ' → Z ρ' := fun ρ' hρ => (hZ ρ').mpr (Or.inr ⟨bn, by rw [← nd]; exact hl, by rw [← nd]; exact hbl, hρ⟩)
        have hsol' : ∀ ρ', Z ρ' → Solv M gs (upE ρ v (tX σ t)) ρ' := by
          intro ρ' hρ
          rcases (hZ ρ').mp hρ with ⟨a, -⟩ | a
          · exact absurd bn a
          · exact a.2.2.2
        refine fo_x_S_solve m _ _ _ _ _ _ _ (ih s1 gs (upE ρ v (tX σ t)) L ⟨mt1, by rw [f1.i _ rfl]; exact g1.kp k1 (fun i _ => ⟨by rw [f1.a _ rfl], by rw [f1.a _ rfl]⟩), g2, by rw [f1.i _ rfl]; exact g3, by rw [f1.i _ rfl]; exact g4, g5⟩ (fun ρ' hρ => hP ρ' (hsol ρ' hρ))) (fun r s f q => ?_) (fun s f q => ?_)
        · obtain ⟨L', d⟩ := q
          refine ⟨⟨v0, v1⟩, ?_⟩
          rintro s2 hs2
          have f2 : Fr ([], [], [83]) s s2 := Fr.rf.putA hs2 rfl
          have rs := d.2.1
          refine ⟨L', (d.around rg.1 (f1.weak rfl) e1 (f1.i _ rfl) (fun j _ => by rw [f1.a _ rfl]) f2 rfl rfl ?_ ?_ ?_ ?_ ?_ (fun i hi => ?_) (fun i hi => ?_) (fun i hi => ?_) (fun i hi => ?_)).iff (fun ρ' => ⟨hsol ρ', hsol' ρ'⟩)⟩
          · rw [f2.i _ rfl, rs.2.1, f1.i _ rfl]
          · rw [f2.i _ rfl, rs.2.2.1, f1.i _ rfl]
          · rw [f2.i _ rfl, rs.2.2.2.1, f1.i _ rfl]
          · rw [f2.i _ rfl, rs.2.2.2.2.1, f1.i _ rfl]
          · funext j
            rw [hs2]
            simp only [gI_pI, gI_pL, gI_pA, gL_pI, gL_pL, gL_pA, gA_pI, gA_pL, gA_pA]
            by_cases ej : j = v
            · rw [if_pos ⟨trivial, ej⟩, ej, h0]
            · rw [if_neg (by omega), rs.2.2.2.2.2.1, hs1]
              simp only [gI_pI, gI_pL, gI_pA, gL_pI, gL_pL, gL_pA, gA_pI, gA_pL, gA_pA]
              rw [if_neg (by omega)]
          · rw [f2.a _ rfl, rs.2.2.2.2.2.2.2.1 i (by rw [f1.i _ rfl]; exact hi), f1.a _ rfl]
          · have := rs.2.2.2.2.2.2.2.2.1 i (by rw [f1.i _ rfl]; exact hi)
            rw [f2.a _ rfl, f2.a _ rfl, f2.a _ rfl, this.1, this.2.1, this.2.2, f1.a _ rfl, f1.a _ rfl, f1.a _ rfl]
            exact ⟨rfl, rfl, rfl⟩
          · have := rs.2.2.2.2.2.2.2.2.2.1 i (by rw [f1.i _ rfl]; exact hi)
            rw [f2.a _ rfl, f2.a _ rfl, this.1, this.2, f1.a _ rfl, f1.a _ rfl]
            exact ⟨rfl, rfl⟩
          · rw [f2.a _ rfl, rs.2.2.2.2.2.2.2.2.2.2.2 i (by rw [f1.i _ rfl]; exact hi), f1.a _ rfl]
        · exact (q.imp hsol).pre rg.1 e1
      · rw [bi_f hbl, if_pos rfl]
        refine ⟨L, (doneX.none xp hL).iff (fun ρ' => ?_)⟩
        rw [hZ]
        constructor
        · exact False.elim
        · rintro (⟨a, -⟩ | ⟨-, -, a, -⟩)
          · exact a bn
          · exact hbl (by rw [nd]; exact a)
  · rw [if_neg h0]
    have lb : lvX σ (gA σ 83 v) := hb.resolve_left h0
    have bn : ρ v = tX σ (gA σ 83 v) := by rw [bv, oX_n lb]
    have nn : ρ v ≠ .nil := by rw [bn]; exact isT_ne_nil (xp.T lb)
    refine ⟨⟨v0, v1⟩, ?_⟩
    by_cases he : gA σ 83 v = t
    · rw [if_pos he]
      have hsol : ∀ ρ', Solv M gs ρ ρ' ↔ Z ρ' := by
        intro ρ'
        rw [hZ]
        constructor
        · exact fun hρ => Or.inl ⟨nn, by rw [bn, he], hρ⟩
        · rintro (⟨-, -, a⟩ | ⟨a, -⟩)
          · exact a
          · exact absurd a nn
      refine fo_x_S_solve m _ _ _ _ _ _ _ (ih σ gs ρ L ⟨mt, g1, g2, g3, g4, g5⟩ (fun ρ' hρ => hP ρ' ((hsol ρ').mp hρ))) (fun r s f q => ?_) (fun s f q => ?_)
      · obtain ⟨L', d⟩ := q
        exact ⟨L', d.iff hsol⟩
      · exact q.imp (fun ρ' => (hsol ρ').mp)
    · rw [if_neg he]
      refine ⟨L, (doneX.none xp hL).iff (fun ρ' => ?_)⟩
      rw [hZ]
      constructor
      · exact False.elim
      · rintro (⟨-, a, -⟩ | ⟨a, -⟩)
        · rw [bn] at a
          exact he (xp.inj lb ht a)
        · exact nn a

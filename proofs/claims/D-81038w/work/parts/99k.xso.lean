/-! RewriteHouse: solving, what goals cost, what stays -/
def wG : Goal → Nat
  | .inl (p, _) => 7 * trS p - 3
  | .inr (p, s, _) => 7 * (((kids p).drop s).map trS).sum
def wGs (gs : List Goal) : Nat := (gs.map wG).sum
def gOK (M : Mo) (A : Int → Bool) (t0 : Tr) : Goal → Prop
  | .inl (p, t) => (NF M p ∧ sub1 M p A ∧ trS p ≤ 40) ∧ NF M t ∧ trS t ≤ 40 ∧ tWide A t = false ∧ inU M A t0 t
  | .inr (p, s, es) => (NF M p ∧ sub1 M p A ∧ trS p ≤ 40) ∧ 0 ≤ lab p ∧ mAs M (lab p) ≠ 0 ∧ s < (kids p).length ∧ elm M (lab p) A es ∧ rowU M A t0 (lab p) es
theorem wGs_cons (g : Goal) (gs : List Goal) : wGs (g :: gs) = wG g + wGs gs := by simp [wGs]
theorem wGs_app (a b : List Goal) : wGs (a ++ b) = wGs a + wGs b := by simp [wGs]
theorem wG_pos {M : Mo} {A : Int → Bool} {t0 : Tr} {g : Goal} (h : gOK M A t0 g) : 4 ≤ wG g := by
  match g with
  | .inl (p, t) =>
    have := trS_pos h.1.1.1
    simp only [wG]; omega
  | .inr (p, s, es) =>
    obtain ⟨⟨hp, -, -⟩, -, -, hs, -⟩ := h
    simp only [wG]
    have hq : (kids p)[s] ∈ (kids p).drop s := by
      rw [List.mem_drop_iff_getElem]
      exact ⟨0, by omega, by simp⟩
    have := trS_mem hq
    have := trS_pos (hp.kid (List.mem_of_mem_drop hq)).1
    omega
theorem wGs_len {M : Mo} {A : Int → Bool} {t0 : Tr} {gs : List Goal} (h : ∀ g ∈ gs, gOK M A t0 g) : 4 * gs.length ≤ wGs gs := by
  induction gs with
  | nil => simp [wGs]
  | cons g gs ih =>
    have := ih (fun g hg => h g (List.mem_cons_of_mem _ hg))
    have := wG_pos (h g (List.mem_cons_self ..))
    rw [wGs_cons, List.length_cons]
    omega
theorem kid_ok {M : Mo} {A : Int → Bool} {p q : Tr} (h : NF M p ∧ sub1 M p A ∧ trS p ≤ 40) (hq : q ∈ kids p) : NF M q ∧ sub1 M q A ∧ trS q ≤ 40 := by
  have e := h.1.eta
  have hs := h.2.1
  have hz := h.2.2
  rw [e] at hs hz
  exact ⟨h.1.kid hq, sub1_kid hs hq, by have := trS_kid (c := lab p) hq; omega⟩
theorem pairG_gOK {M : Mo} {A : Int → Bool} {t0 : Tr} {ps ts : List Tr} (hp : ∀ p ∈ ps, NF M p ∧ sub1 M p A ∧ trS p ≤ 40) (ht : ∀ t ∈ ts, NF M t ∧ trS t ≤ 40 ∧ tWide A t = false ∧ inU M A t0 t) : ∀ g ∈ pairG ps ts, gOK M A t0 g := by
  induction ps generalizing ts with
  | nil => intro g hg; simp [pairG] at hg
  | cons p ps ih =>
    match ts with
    | [] => intro g hg; simp [pairG] at hg
    | t :: ts =>
      intro g hg
      simp only [pairG, List.zipWith_cons_cons, List.mem_cons] at hg
      rcases hg with rfl | hg
      · exact ⟨hp p (List.mem_cons_self ..), ht t (List.mem_cons_self ..)⟩
      · exact ih (fun p h => hp p (List.mem_cons_of_mem _ h)) (fun t h => ht t (List.mem_cons_of_mem _ h)) g hg
theorem pairG_w : ∀ (ps ts : List Tr), wGs (pairG ps ts) ≤ 7 * (ps.map trS).sum
  | [], _ => by simp [pairG, wGs]
  | _ :: _, [] => by simp [pairG, wGs]
  | p :: ps, t :: ts => by
    have := pairG_w ps ts
    simp only [pairG, List.zipWith_cons_cons] at this ⊢
    rw [wGs_cons]
    simp only [wG, List.map_cons, List.sum_cons]
    omega
theorem trS_eta {M : Mo} {p : Tr} (h : NF M p) : trS p = 1 + ((kids p).map trS).sum := by
  have := congrArg trS h.eta
  rwa [trS_N] at this
theorem tWide_kid {A : Int → Bool} {M : Mo} {t u : Tr} (h : NF M t) (hw : tWide A t = false) (hu : u ∈ kids t) : tWide A u = false := by
  rw [h.eta, tWide_N] at hw
  simp only [Bool.or_eq_false_iff, List.any_eq_false] at hw
  have := hw.2 u hu
  simpa using this
theorem term_kid {M : Mo} {A : Int → Bool} {t0 t u : Tr} (h0 : isT t0) (h : NF M t ∧ trS t ≤ 40 ∧ tWide A t = false ∧ inU M A t0 t) (hu : u ∈ kids t) : NF M u ∧ trS u ≤ 40 ∧ tWide A u = false ∧ inU M A t0 u := by
  have := trS_kid (c := lab t) hu
  rw [← h.1.eta] at this
  exact ⟨h.1.kid hu, by omega, tWide_kid h.1 h.2.2.1 hu, inU_kid h0 h.2.2.2 hu⟩
theorem unT_ok {M : Mo} (hM : WM M) {A : Int → Bool} {t0 : Tr} {o : Int} (h0 : 0 ≤ o) (h1 : o < mOps M) (hu : mUn M o ≠ -2) : NF M (unT M o) ∧ trS (unT M o) ≤ 40 ∧ tWide A (unT M o) = false ∧ inU M A t0 (unT M o) := by
  refine ⟨NF_unT hM h0 h1 hu, ?_, ?_, Or.inr (Or.inr ⟨o, h0, h1, hu, rfl⟩)⟩
  · unfold unT; rw [trS_N]; simp
  · unfold unT; rw [tWide_N]; simp
theorem gOK.ok {M : Mo} {A : Int → Bool} {t0 : Tr} {g : Goal} (h : gOK M A t0 g) : okG M g := by
  match g with
  | .inl (p, t) => exact ⟨h.1.1, h.2.1⟩
  | .inr (p, s, es) =>
    obtain ⟨⟨hp, -, -⟩, h0, ha, hs, he, -⟩ := h
    exact ⟨hp, h0, ha, by omega, fun e hx => ⟨(he.1 e hx).1, (he.1 e hx).2.1⟩⟩
/-! what stays when the pool grows -/
theorem LX.ex {o : Int} {σ s : S} {L : List Env} {N : Tr → Prop} (h : LX o σ L) (e : ExX σ s N) (h1 : gI s 123 = gI σ 123) (h2 : gI s 124 = gI σ 124) (h3 : gA s 86 = gA σ 86) : LX o s L := by
  obtain ⟨a, b, c, d, f, g⟩ := h
  refine ⟨by omega, by omega, by omega, d, f, fun i hi => ?_⟩
  obtain ⟨⟨g1, g2⟩, g3⟩ := g i hi
  have ee : eX s (gI σ 123 + i) = eX σ (gI σ 123 + i) := by
    funext v
    unfold eX
    by_cases hv : 0 ≤ v ∧ v < 62
    · rw [if_pos hv, if_pos hv, h3, (oX_ex e (g1 v hv.1 hv.2)).2]
    · rw [if_neg hv, if_neg hv]
  rw [h1]
  refine ⟨⟨fun k k0 k1 => ?_, by rw [ee]; exact g2⟩, by rw [ee]; exact g3⟩
  rw [h3]; exact (oX_ex e (g1 k k0 k1)).1
theorem bX_ex {N : Tr → Prop} {σ s : S} (e : ExX σ s N) (a3 : ∀ v, 0 ≤ v → v < 60 → olX σ (gA σ 83 v)) (a4 : olX σ (gI σ 125)) (a5 : olX σ (gI σ 126)) (h1 : gA s 83 = gA σ 83) (h2 : gI s 125 = gI σ 125) (h3 : gI s 126 = gI σ 126) : bX s = bX σ := by
  funext v
  unfold bX
  by_cases hv : 0 ≤ v ∧ v < 60
  · rw [if_pos hv, if_pos hv, h1, (oX_ex e (a3 v hv.1 hv.2)).2]
  · rw [if_neg hv, if_neg hv, h2, h3, (oX_ex e a4).2, (oX_ex e a5).2]
theorem mtX.ex {M : Mo} {N : Tr → Prop} {P : Env → Prop} {o : Int} {σ0 σ s : S} {ρ : Env} {L : List Env} {w : List Nat × List Nat × List Nat} (h : mtX M N P o σ0 σ ρ L) (h1 : 1 ≤ gI σ0 93) (x : XP M s) (e : ExX σ s N) (f : Fr w σ s) (hw : apt w [125, 126, 127, 123, 124] [83, 86] = true) (ht : gI s 106 = gI σ 106) : mtX M N P o σ0 s ρ L := by
  obtain ⟨a1, a2, a3, a4, a5, a6, a7, a8, a9, a10, a11⟩ := h
  have hi := apt_i hw f
  have ha := apt_a hw f
  simp only [List.forall_mem_cons] at hi ha
  obtain ⟨i1, i2, i3, i4, i5, -⟩ := hi
  obtain ⟨b1, b2, -⟩ := ha
  refine ⟨x, a2.trans e h1, fun v v0 v1 => ?_, ?_, ?_, i3.trans a6, ?_, a8.ex e i4 i5 b2, a9, by rw [ht]; exact a10, by rw [ht]; exact a11⟩
  · rw [b1]; exact (oX_ex e (a3 v v0 v1)).1
  · rw [i1]; exact (oX_ex e a4).1
  · rw [i2]; exact (oX_ex e a5).1
  · rw [← a7]; exact bX_ex e a3 a4 a5 b1 i1 i2
theorem mtX.fr {M : Mo} {N : Tr → Prop} {P : Env → Prop} {o : Int} {σ0 σ s : S} {ρ : Env} {L : List Env} {w : List Nat × List Nat × List Nat} (h : mtX M N P o σ0 σ ρ L) (h1 : 1 ≤ gI σ0 93) (f : Fr w σ s) (hw : apt w (XPi ++ [125, 126, 127, 123, 124, 106]) (XPm ++ XPa ++ [75, 83, 86]) = true) : mtX M N P o σ0 s ρ L := by
  have sub : ∀ I A : List Nat, (∀ i ∈ I, i ∈ XPi ++ [125, 126, 127, 123, 124, 106]) → (∀ i ∈ A, i ∈ XPm ++ XPa ++ [75, 83, 86]) → apt w I A = true := by
    intro I A hI hA
    unfold apt at hw ⊢
    rw [Bool.and_eq_true, List.all_eq_true, List.all_eq_true] at hw ⊢
    exact ⟨fun i hi => hw.1 i (hI i hi), fun a ha => hw.2 a (hA a ha)⟩
  refine h.ex h1 (h.1.fr f (sub _ _ (by decide) (by decide))) (ExX.of_fr f (sub _ _ (by decide) (by decide))) f (sub _ _ (by decide) (by decide)) ?_
  exact apt_i hw f _ (by decide)
theorem mtX.bind {M : Mo} {N : Tr → Prop} {P : Env → Prop} {o : Int} {σ0 σ s : S} {ρ : Env} {L : List Env} {v t : Int} (h : mtX M N P o σ0 σ ρ L) (v0 : 0 ≤ v) (v1 : v < 60) (ht : lvX σ t) (hs : s = pA σ 83 v t) : mtX M N P o σ0 s (upE ρ v (tX σ t)) L := by
  obtain ⟨a1, a2, a3, a4, a5, a6, a7, a8, a9, a10, a11⟩ := h
  have f : Fr ([], [], [83]) σ s := Fr.rf.putA hs rfl
  have e : ExX σ s N := ExX.of_fr f rfl
  have hb : ∀ j, gA s 83 j = if j = v then t else gA σ 83 j := fun j => by rw [hs]; simp [gI_pI, gI_pL, gI_pA, gL_pI, gL_pL, gL_pA, gA_pI, gA_pL, gA_pA]
  refine ⟨a1.fr f rfl, a2.fr f rfl, fun j j0 j1 => ?_, ?_, ?_, ?_, ?_, a8.ex e (f.i _ rfl) (f.i _ rfl) (f.a _ rfl), a9, by rw [f.i _ rfl]; exact a10, by rw [f.i _ rfl]; exact a11⟩
  · rw [hb]
    by_cases ej : j = v
    · rw [if_pos ej]; exact Or.inr (e.lv ht)
    · rw [if_neg ej]; exact (oX_ex e (a3 j j0 j1)).1
  · rw [f.i _ rfl]; exact (oX_ex e a4).1
  · rw [f.i _ rfl]; exact (oX_ex e a5).1
  · rw [f.i _ rfl]; exact a6
  · rw [← a7]
    funext j
    unfold upE bX
    by_cases hj : 0 ≤ j ∧ j < 60
    · rw [if_pos hj, if_pos hj, hb]
      by_cases ej : j = v
      · rw [if_pos ej, if_pos ej, oX_n (e.lv ht), e.t ht]
      · rw [if_neg ej, if_neg ej, (oX_ex e (a3 j hj.1 hj.2)).2]
    · have ej : j ≠ v := by omega
      rw [if_neg hj, if_neg hj, if_neg ej, f.i _ rfl, f.i _ rfl, (oX_ex e a4).2, (oX_ex e a5).2]
theorem kpX.of_fr {N : Tr → Prop} {σ s : S} {w : List Nat × List Nat × List Nat} (f : Fr w σ s) (hw : apt w [93, 134, 138] [66, 67, 68, 73, 75, 87, 88, 89, 90] = true) : kpX N σ s := by
  have hi := apt_i hw f
  have ha := apt_a hw f
  simp only [List.forall_mem_cons] at hi ha
  obtain ⟨i1, i2, i3, -⟩ := hi
  obtain ⟨b1, b2, b3, b4, b5, b6, b7, b8, b9, -⟩ := ha
  refine ⟨⟨by omega, fun x hx => ⟨by unfold tX; rw [b1, b2, b3, b4], by rw [b5]⟩, fun x h1 h2 => by omega⟩, by omega, by omega, fun i _ => by rw [b6], fun i _ => ⟨by rw [b7], by rw [b8], by rw [b9]⟩⟩
/-- what lies below stays; more may lie above -/
def blX (N : Tr → Prop) (σ s : S) : Prop :=
  ExX σ s N ∧ gI σ 134 ≤ gI s 134 ∧ gI σ 138 ≤ gI s 138 ∧ gI σ 121 ≤ gI s 121 ∧ gI s 106 = gI σ 106 ∧ gA s 83 = gA σ 83 ∧ gI s 123 = gI σ 123 ∧ gI s 124 = gI σ 124 ∧ gA s 86 = gA σ 86 ∧
  (∀ i, i < gI σ 134 → gA s 87 i = gA σ 87 i) ∧
  (∀ i, i < gI σ 138 → gA s 88 i = gA σ 88 i ∧ gA s 89 i = gA σ 89 i ∧ gA s 90 i = gA σ 90 i) ∧
  (∀ i, i < gI σ 121 → gA s 84 i = gA σ 84 i ∧ gA s 85 i = gA σ 85 i) ∧
  ∀ j, j < gI σ 106 → gA s 74 j = gA σ 74 j
theorem blX.rf (N : Tr → Prop) (σ : S) : blX N σ σ := ⟨ExX.rf σ N, Int.le_refl _, Int.le_refl _, Int.le_refl _, rfl, rfl, rfl, rfl, rfl, fun _ _ => rfl, fun _ _ => ⟨rfl, rfl, rfl⟩, fun _ _ => ⟨rfl, rfl⟩, fun _ _ => rfl⟩
theorem blX.trans {N : Tr → Prop} {a b c : S} (h : blX N a b) (k : blX N b c) (h1 : 1 ≤ gI a 93) : blX N a c := by
  obtain ⟨p1, p2, p3, p4, p5, p6, p7, p8, p9, p10, p11, p12, p13⟩ := h
  obtain ⟨q1, q2, q3, q4, q5, q6, q7, q8, q9, q10, q11, q12, q13⟩ := k
  refine ⟨p1.trans q1 h1, by omega, by omega, by omega, q5.trans p5, q6.trans p6, q7.trans p7, q8.trans p8, q9.trans p9, fun i hi => ?_, fun i hi => ?_, fun i hi => ?_, fun j hj => by rw [q13 j (by omega), p13 j hj]⟩
  · rw [q10 i (by omega), p10 i hi]
  · have a1 := p11 i hi
    have a2 := q11 i (by omega)
    exact ⟨a2.1.trans a1.1, a2.2.1.trans a1.2.1, a2.2.2.trans a1.2.2⟩
  · have a1 := p12 i hi
    have a2 := q12 i (by omega)
    exact ⟨a2.1.trans a1.1, a2.2.trans a1.2⟩
theorem blX.kp {N : Tr → Prop} {σ s : S} (h : blX N σ s) : kpX N σ s := ⟨h.1, h.2.1, h.2.2.1, h.2.2.2.2.2.2.2.2.2.1, h.2.2.2.2.2.2.2.2.2.2.1⟩
theorem mtX.bl {M : Mo} {N : Tr → Prop} {P : Env → Prop} {o : Int} {σ0 σ s : S} {ρ : Env} {L : List Env} {w : List Nat × List Nat × List Nat} (h : mtX M N P o σ0 σ ρ L) (h1 : 1 ≤ gI σ0 93) (x : XP M s) (b : blX N σ s) (f : Fr w σ s) (hw : apt w [125, 126, 127] [] = true) : mtX M N P o σ0 s ρ L := by
  obtain ⟨a1, a2, a3, a4, a5, a6, a7, a8, a9, a10, a11⟩ := h
  have hi := apt_i hw f
  simp only [List.forall_mem_cons] at hi
  obtain ⟨i1, i2, i3, -⟩ := hi
  obtain ⟨e, -, -, -, ht, b1, i4, i5, b2, -⟩ := b
  refine ⟨x, a2.trans e h1, fun v v0 v1 => ?_, ?_, ?_, i3.trans a6, ?_, a8.ex e i4 i5 b2, a9, by rw [ht]; exact a10, by rw [ht]; exact a11⟩
  · rw [b1]; exact (oX_ex e (a3 v v0 v1)).1
  · rw [i1]; exact (oX_ex e a4).1
  · rw [i2]; exact (oX_ex e a5).1
  · rw [← a7]; exact bX_ex e a3 a4 a5 b1 i1 i2
theorem xs_goal {σ : S} {x y : Int} {Q : Int → S → Prop} (h0 : 0 ≤ gI σ 121) (h1 : gI σ 121 < 399) (hQ : ∀ s, Fr ([121], [], [84, 85]) σ s → (∀ N, blX N σ s) → gI s 121 = gI σ 121 + 1 → gA s 84 (gI σ 121) = x → gA s 85 (gI σ 121) = y → Q 0 s) : x_goal x y σ Q := by
  unfold x_goal
  refine ⟨by omega, ?_⟩
  rintro s1 hs1 s2 hs2
  have e1 : gI s1 121 = gI σ 121 := by rw [hs1, gI_pA]
  rw [e1, w32_id (by omega) (by omega)] at hs2
  rw [e1]
  refine ⟨by omega, ?_⟩
  rintro s3 hs3
  have f3 : Fr ([121], [], [84, 85]) σ s3 := ((Fr.rf.putA hs1 rfl).putI hs2 rfl).putA hs3 rfl
  have eg : gI s3 121 = gI σ 121 + 1 := by rw [hs3, gI_pA, hs2]; rfl
  refine hQ s3 f3 (fun N => ⟨ExX.of_fr f3 rfl, by rw [f3.i _ rfl]; exact Int.le_refl _, by rw [f3.i _ rfl]; exact Int.le_refl _, by omega, f3.i _ rfl, f3.a _ rfl, f3.i _ rfl, f3.i _ rfl, f3.a _ rfl, fun i _ => by rw [f3.a _ rfl], fun i _ => ⟨by rw [f3.a _ rfl], by rw [f3.a _ rfl], by rw [f3.a _ rfl]⟩, fun i hi => ⟨?_, ?_⟩, fun i _ => by rw [f3.a _ rfl]⟩) eg ?_ ?_
  · rw [hs3, hs2, hs1]; simp only [gI_pI, gI_pL, gI_pA, gL_pI, gL_pL, gL_pA, gA_pI, gA_pL, gA_pA]; rw [if_neg (by omega), if_neg (by omega)]
  · rw [hs3, hs2, hs1]; simp only [gI_pI, gI_pL, gI_pA, gL_pI, gL_pL, gL_pA, gA_pI, gA_pL, gA_pA]; rw [if_neg (by omega), if_neg (by omega)]
  · rw [hs3, hs2, hs1]; simp only [gI_pI, gI_pL, gI_pA, gL_pI, gL_pL, gL_pA, gA_pI, gA_pL, gA_pA]; rw [if_neg (by omega), if_pos ⟨trivial, trivial⟩]
  · rw [hs3, hs2, hs1]; simp only [gI_pI, gI_pL, gI_pA, gL_pI, gL_pL, gL_pA, gA_pI, gA_pL, gA_pA]; rw [if_pos ⟨trivial, trivial⟩]
theorem gsX.push {M : Mo} {N : Tr → Prop} {σ s : S} {gs : List Goal} {g : Goal} {x y : Int} (h : gsX M σ (gI σ 121) gs) (b : blX N σ s) (hg : gI s 121 = gI σ 121 + 1) (hx : gA s 84 (gI σ 121) = x) (hy : gA s 85 (gI σ 121) = y) (hgo : goX M s x y g) : gsX M s (gI s 121) (g :: gs) := by
  have hl := h.len
  refine ⟨by omega, ?_, ?_⟩
  · rw [hg, show gI σ 121 + 1 - 1 = gI σ 121 by omega, hx, hy]
    exact hgo
  · rw [hg, show gI σ 121 + 1 - 1 = gI σ 121 by omega]
    exact h.kp b.kp b.2.2.2.2.2.2.2.2.2.2.2.1
theorem gsX.bl {M : Mo} {N : Tr → Prop} {σ s : S} {gs : List Goal} (h : gsX M σ (gI σ 121) gs) (b : blX N σ s) (hg : gI s 121 = gI σ 121) : gsX M s (gI s 121) gs := by
  rw [hg]; exact h.kp b.kp b.2.2.2.2.2.2.2.2.2.2.2.1
theorem xs_newShare {σ : S} {x y z : Int} {Q : Int → S → Prop} (h0 : 0 ≤ gI σ 138) (h1 : gI σ 138 < 399) (hQ : ∀ s, Fr ([138], [], [88, 89, 90]) σ s → (∀ N, blX N σ s) → gI s 138 = gI σ 138 + 1 → gA s 88 (gI σ 138) = x → gA s 89 (gI σ 138) = y → gA s 90 (gI σ 138) = z → Q (gI σ 138) s) : x_newShare x y z σ Q := by
  unfold x_newShare
  refine ⟨by omega, ?_⟩
  rintro s1 hs1
  have e1 : gI s1 138 = gI σ 138 := by rw [hs1, gI_pA]
  rw [e1]
  refine ⟨by omega, ?_⟩
  rintro s2 hs2
  have e2 : gI s2 138 = gI σ 138 := by rw [hs2, gI_pA, e1]
  rw [e2]
  refine ⟨by omega, ?_⟩
  rintro s3 hs3
  have e3 : gI s3 138 = gI σ 138 := by rw [hs3, gI_pA, e2]
  rw [e3, w32_id (by omega) (by omega)]
  rintro s4 hs4
  have f4 : Fr ([138], [], [88, 89, 90]) σ s4 := (((Fr.rf.putA hs1 rfl).putA hs2 rfl).putA hs3 rfl).putI hs4 rfl
  have eg : gI s4 138 = gI σ 138 + 1 := by rw [hs4]; rfl
  refine hQ s4 f4 (fun N => ⟨ExX.of_fr f4 rfl, by rw [f4.i _ rfl]; exact Int.le_refl _, by omega, by rw [f4.i _ rfl]; exact Int.le_refl _, f4.i _ rfl, f4.a _ rfl, f4.i _ rfl, f4.i _ rfl, f4.a _ rfl, fun i _ => by rw [f4.a _ rfl], fun i hi => ⟨?_, ?_, ?_⟩, fun i _ => ⟨by rw [f4.a _ rfl], by rw [f4.a _ rfl]⟩, fun i _ => by rw [f4.a _ rfl]⟩) eg ?_ ?_ ?_
  · rw [hs4, hs3, hs2, hs1]; simp only [gI_pI, gI_pL, gI_pA, gL_pI, gL_pL, gL_pA, gA_pI, gA_pL, gA_pA]; rw [if_neg (by omega), if_neg (by omega), if_neg (by omega)]
  · rw [hs4, hs3, hs2, hs1]; simp only [gI_pI, gI_pL, gI_pA, gL_pI, gL_pL, gL_pA, gA_pI, gA_pL, gA_pA]; rw [if_neg (by omega), if_neg (by omega), if_neg (by omega)]
  · rw [hs4, hs3, hs2, hs1]; simp only [gI_pI, gI_pL, gI_pA, gL_pI, gL_pL, gL_pA, gA_pI, gA_pL, gA_pA]; rw [if_neg (by omega), if_neg (by omega), if_neg (by omega)]
  · rw [hs4, hs3, hs2, hs1]; simp only [gI_pI, gI_pL, gI_pA, gL_pI, gL_pL, gL_pA, gA_pI, gA_pL, gA_pA]; rw [if_neg (by omega), if_neg (by omega), if_pos ⟨trivial, trivial⟩]
  · rw [hs4, hs3, hs2, hs1]; simp only [gI_pI, gI_pL, gI_pA, gL_pI, gL_pL, gL_pA, gA_pI, gA_pL, gA_pA]; rw [if_neg (by omega), if_pos ⟨trivial, trivial⟩]
  · rw [hs4, hs3, hs2, hs1]; simp only [gI_pI, gI_pL, gI_pA, gL_pI, gL_pL, gL_pA, gA_pI, gA_pL, gA_pA]; rw [if_pos ⟨trivial, trivial⟩]

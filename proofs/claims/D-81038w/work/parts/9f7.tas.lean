/-! RewriteHouseModel: a step is found -/
theorem te_allWays (n : Nat) (a b c d e f g : Int) (σ : S) (Q : Int → S → Prop) (E : S → Prop) : t_S_allWays (n + 1) 0 [a, b, c, d, e, f, g] σ Q E = t_allWays_F (t_S_allWays n) a b c d e f g σ Q E := rfl
theorem te_stepAt (n : Nat) (a b c d : Int) (σ : S) (Q : Int → S → Prop) (E : S → Prop) : t_S_stepAt (n + 1) 0 [a, b, c, d] σ Q E = t_stepAt_F (t_S_stepAt n) a b c d σ Q E := rfl
section
variable {M : Mo} {R : Ru} {mo : Int} {σ0 : S} {a0 r0 : Int} {sx : Int → Int}
theorem SY.up {d : Int} {σ : S} (h : SY d σ) (hd : d + 1 ≤ 61) : SY (d + 1) σ := by
  obtain ⟨h1, h2, h3, h4⟩ := h
  exact ⟨by omega, by omega, by omega, h4⟩
/-- steps that were found, from a place on -/
def flT (σ : S) (fr : Int) (fl : FL) : Prop := gI σ 129 = fr + (fl.length : Int) ∧ fl.length ≤ 60 ∧ ∀ i : Nat, i < fl.length → lvT σ (gA σ 81 (fr + i)) ∧ fl[i]? = some (tT σ (gA σ 81 (fr + i)), gA σ 82 (fr + i))
theorem flT.to {σ s : S} {fr : Int} {fl : FL} (h : flT σ fr fl) (g : gwT σ s) (e0 : gI s 129 = gI σ 129) (e1 : gA s 81 = gA σ 81) (e2 : gA s 82 = gA σ 82) : flT s fr fl := by
  refine ⟨by rw [e0]; exact h.1, h.2.1, fun i hi => ?_⟩
  obtain ⟨a, b⟩ := h.2.2 i hi
  rw [e1, e2]
  exact ⟨g.lv a, by rw [b, g.2.1 _ a]⟩
/-- lists below stay -/
def tmF (fr : Int) (σ s : S) : Prop := ∀ j, j < fr → gA s 81 j = gA σ 81 j ∧ gA s 82 j = gA σ 82 j
theorem tmF.rf (fr : Int) (σ : S) : tmF fr σ σ := fun _ _ => ⟨rfl, rfl⟩
theorem tmF.trans {fr : Int} {a b c : S} (h : tmF fr a b) (k : tmF fr b c) : tmF fr a c := fun j hj => ⟨(k j hj).1.trans (h j hj).1, (k j hj).2.trans (h j hj).2⟩
theorem tmF.fr {fr : Int} {w : List Nat × List Nat × List Nat} {a b c : S} (h : tmF fr a b) (f : Fr w b c) (hw : apt w [] [81, 82] = true) : tmF fr a c := by
  have ha := apt_a hw f
  simp only [List.forall_mem_cons] at ha
  exact fun j hj => ⟨by rw [ha.1, (h j hj).1], by rw [ha.2.1, (h j hj).2]⟩
/-- but for the top all stay -/
def tmN (σ s : S) : Prop := ∀ j, j ≠ gI σ 129 → gA s 81 j = gA σ 81 j ∧ gA s 82 j = gA σ 82 j
theorem ts_addTerm {σ : S} {st : ST} {u rl fr : Int} {fl : FL} (hn0 : 0 ≤ gI σ0 80) (h : TR M R mo sx σ0 st σ) (lu : lvT σ u) (hf : flT σ fr fl) (f0 : 0 ≤ fr) (f1 : fr + 61 ≤ 40000) :
    t_addTerm u rl fr σ (fun _ s => ∃ fl', addE (tT σ u) rl fl st (.inr (fl', st)) ∧ okY M R mo sx σ0 σ st s ∧ flT s fr fl' ∧ tmN σ s) (fun s => addE (tT σ u) rl fl st (.inl (gI s 1006, gI s 120)) ∧ noY M σ s) := by
  have rg := h.1.rg
  obtain ⟨hf1, hf2, hf3⟩ := id hf
  unfold t_addTerm
  refine lt_addTerm_L3 (fun v4 s => s = σ ∧ ∃ i : Nat, v4 = fr + (i : Int) ∧ i ≤ fl.length ∧ ∀ j : Nat, j < i → ∀ q, fl[j]? = some q → q.1 ≠ tT σ u)
    (fun v4 _ => (fl.length + 1 - (v4 - fr).toNat)) ⟨rfl, 0, by omega, by omega, fun j hj => by omega⟩ ?_
  rintro v4 s fr0 ⟨rfl, i, rfl, hi, hne⟩
  try dsimp only
  rw [hf1]
  by_cases yy : fr + (i : Int) < fr + (fl.length : Int)
  · rw [if_pos yy]
    refine ⟨⟨by omega, by omega⟩, ?_⟩
    obtain ⟨la, ea⟩ := hf3 i (by omega)
    by_cases z : gA s 81 (fr + (i : Int)) = u
    · rw [if_pos z]
      refine ⟨fl, Or.inl ⟨?_, rfl⟩, okY.rf h, hf, fun _ _ => ⟨rfl, rfl⟩⟩
      rw [z] at ea
      exact List.mem_map.mpr ⟨_, List.mem_of_getElem? ea, rfl⟩
    · rw [if_neg z]
      have wi1 : w32 (fr + (i : Int) + 1) = fr + ((i + 1 : Nat) : Int) := by rw [w32_id (by omega) (by omega)]; omega
      rw [wi1]
      refine ⟨⟨rfl, i + 1, rfl, by omega, fun j hj q hq => ?_⟩, by omega⟩
      by_cases w : j = i
      · subst w
        rw [ea] at hq
        rw [← Option.some.inj hq]
        intro e
        exact z (h.1.inj la lu e)
      · exact hne j (by omega) q hq
  · rw [if_neg yy]
    have ei : i = fl.length := by omega
    have nm : tT s u ∉ fl.map Prod.fst := by
      intro hm
      obtain ⟨q, hq, eq⟩ := List.mem_map.mp hm
      obtain ⟨j, hj, ej⟩ := List.getElem_of_mem hq
      exact hne j (by omega) q (by rw [List.getElem?_eq_getElem hj, ej]) eq
    unfold t_addTerm_j30
    rw [hf1]
    have wd : w32 (fr + (fl.length : Int) - fr) = (fl.length : Int) := by rw [w32_id (by omega) (by omega)]; omega
    rw [wd]
    by_cases w : (fl.length : Int) = 60
    · rw [if_pos w]
      refine ts_fail (fun s3 f3 i3 => ?_)
      refine ⟨Or.inr ⟨nm, ?_⟩, (h.1.fr f3 rfl).1, EyT.of_fr f3 rfl⟩
      rw [if_pos (by omega), i3, show gI s3 120 = stS st from (f3.i _ rfl).trans h.2.2.2.1.1.1]
    · rw [if_neg w]
      unfold t_addTerm_j47
      rw [hf1]
      refine ⟨⟨by omega, by omega⟩, ?_⟩
      rintro t8 ht8
      have e8 : gI t8 129 = fr + (fl.length : Int) := by rw [ht8]; exact hf1
      rw [e8]
      refine ⟨⟨by omega, by omega⟩, ?_⟩
      rintro t12 ht12 t16 ht16
      have e12 : gI t12 129 = fr + (fl.length : Int) := by rw [ht12]; exact e8
      rw [e12, w32_id (by omega) (by omega)] at ht16
      have f26 : Fr ([129], [], [81, 82]) s t16 := ((Fr.rf.putA ht8 rfl).putA ht12 rfl).putI ht16 rfl
      have g26 : gwT s t16 := EyT.of_fr f26 rfl
      have k26 : okY M R mo sx σ0 s st t16 := (okY.rf h).fr3 hn0 rg.1 f26 rfl rfl rfl rfl rfl rfl rfl
      have ef : ∀ j : Int, gA t16 81 j = if j = fr + (fl.length : Int) then u else gA s 81 j := fun j => by
        rw [ht16, ht12, ht8]
        simp only [gI_pI, gI_pL, gI_pA, gL_pI, gL_pL, gL_pA, gA_pI, gA_pL, gA_pA]
        rw [if_neg (by rintro ⟨z, -⟩; exact absurd z (by decide))]
        by_cases z : j = fr + (fl.length : Int)
        · rw [if_pos ⟨trivial, z⟩, if_pos z]
        · rw [if_neg (fun q => z q.2), if_neg z]
      have er : ∀ j : Int, gA t16 82 j = if j = fr + (fl.length : Int) then rl else gA s 82 j := fun j => by
        rw [ht16, ht12, ht8]
        simp only [gI_pI, gI_pL, gI_pA, gL_pI, gL_pL, gL_pA, gA_pI, gA_pL, gA_pA]
        by_cases z : j = fr + (fl.length : Int)
        · rw [if_pos ⟨trivial, z⟩, if_pos z]
        · rw [if_neg (fun q => z q.2), if_neg z, if_neg (by rintro ⟨z, -⟩; exact absurd z (by decide))]
      refine ⟨fl ++ [(tT s u, rl)], Or.inr ⟨nm, ?_⟩, k26, ⟨?_, ?_, fun j hj => ?_⟩, fun j hj => ⟨by rw [ef, if_neg (by omega)], by rw [er, if_neg (by omega)]⟩⟩
      · rw [if_neg (by omega)]
      · rw [ht16]
        simp only [gI_pI, gI_pL, gI_pA, gL_pI, gL_pL, gL_pA, gA_pI, gA_pL, gA_pA]
        rw [if_pos trivial, List.length_append]
        simp only [List.length_cons, List.length_nil]
        omega
      · rw [List.length_append]
        simp only [List.length_cons, List.length_nil]
        omega
      · rw [List.length_append] at hj
        simp only [List.length_cons, List.length_nil] at hj
        rw [ef, er]
        by_cases z : j = fl.length
        · rw [if_pos (by omega), if_pos (by omega), z, List.getElem?_append_right (Nat.le_refl _), Nat.sub_self]
          exact ⟨g26.lv lu, by rw [g26.2.1 _ lu]; rfl⟩
        · rw [if_neg (by omega), if_neg (by omega), List.getElem?_append_left (by omega)]
          obtain ⟨la, ea⟩ := hf3 j (by omega)
          exact ⟨g26.lv la, by rw [ea, g26.2.1 _ la]⟩
theorem fill_plainT {σ : S} {st : ST} {n : Int} (hn0 : 0 ≤ gI σ0 80) (h : TR M R mo sx σ0 st σ) (h0 : 0 ≤ n) (hn2 : n ≤ 1000) :
    t_fill n σ (fun _ s => ∃ st1, cntE n st (.inr ((), st1)) ∧ okY M R mo sx σ0 σ st1 s ∧ Fr ([124], [], []) σ s) (fun s => cntE n st (.inl (gI s 1006, gI s 120)) ∧ noY M σ s) := by
  obtain ⟨⟨d1, d2, d3, d4, d5⟩, ds, df, dq, dd⟩ := h.2.2.2.1
  unfold t_fill
  rintro t1 ht1
  rw [w32_id (by omega) (by omega)] at ht1
  have f1 : Fr ([124], [], []) σ t1 := Fr.rf.putI ht1 rfl
  have e1 : gI t1 124 = stF st + n := by rw [ht1]; simp only [gI_pI, gI_pL, gI_pA, gL_pI, gL_pL, gL_pA, gA_pI, gA_pL, gA_pA]; rw [if_pos trivial, d2]
  rw [e1]
  split
  · obtain ⟨st1, hst1⟩ : ∃ z : ST, z = (stM st, stA st, stS st, stF st + n, stQ st, stD st) := ⟨_, rfl⟩
    have hcnt : cntE n st (.inr ((), st1)) := by
      unfold cntE
      rw [if_neg (by omega), hst1]
    have l1 : leS st st1 := leS_same (by rw [hst1]) (fun u hu => by rw [hst1]; exact hu)
    have h1 : TR M R mo sx σ0 st1 t1 := h.fr hn0 f1 rfl rfl rfl rfl (by rw [hst1]) l1 ⟨⟨by rw [f1.i _ rfl, d1, hst1], by rw [e1, hst1], by rw [f1.i _ rfl, d3, hst1], by rw [f1.l _ rfl, d4, hst1], by rw [f1.i _ rfl, d5]⟩, by rw [hst1]; exact ds, by rw [hst1]; show 0 ≤ stF st + n ∧ stF st + n ≤ 4000; omega, by rw [hst1]; exact dq, by rw [hst1]; exact dd⟩
    exact ⟨st1, hcnt, ⟨h1, EyT.of_fr f1 rfl, ⟨⟨f1.i _ rfl, f1.i _ rfl, f1.i _ rfl⟩, fun j _ => by rw [f1.a _ rfl], fun j _ => by rw [f1.a _ rfl], fun j _ => by rw [f1.a _ rfl]⟩, by rw [hst1, d1]; exact Int.le_refl _, by rw [hst1, d3]; exact Int.le_refl _⟩, f1⟩
  · refine ts_fail (fun s2 f2 i2 => ?_)
    have f12 : Fr ([124, 1006, 1007], [], []) σ s2 := (f1.weak rfl).trans (f2.weak rfl)
    refine ⟨?_, (h.1.fr f12 rfl).1, EyT.of_fr f12 rfl⟩
    rw [i2, show gI s2 120 = stS st from (f12.i _ rfl).trans d1]
    unfold cntE
    rw [if_pos (by omega)]
theorem ts_addStep (c : cxT2 M R mo σ0 (a0 + 50) (r0 + 50)) (hOt : isOt M) {σ : S} {st : ST} {rt y rl fr : Int} {fl : FL} {π : Pth} {x0 r Y : Tr} (h : TR M R mo sx σ0 st σ) (w : WI M R a0 r0 1 1 st) (ly : lvT σ y) (eY : tT σ y = Y) (oy : okT M Y) (ky : KH M st Y) (lrt : lvT σ rt) (ert : tT σ rt = r) (hr : okT M r) (kr : KH M st r) (hc : pthC π x0 r) (pt : ptT σ π) (pm : gI σ 132 = (π.length : Int)) (sy : SY 0 σ) (hf : flT σ fr fl) (f0 : 0 ≤ fr) (f1 : fr + 61 ≤ 40000) :
    t_addStep rt y rl fr σ (fun _ s => ∃ st' fl', hitE M (RE (Wr M R mo) 0) π rl Y fl st (.inr (fl', st')) ∧ okY M R mo sx σ0 σ st' s ∧ flT s fr fl' ∧ tmF fr σ s) (fun s => hitE M (RE (Wr M R mo) 0) π rl Y fl st (.inl (gI s 1006, gI s 120)) ∧ noY M σ s) := by
  have hM := c.1.wm
  have hn0 := c.2.1.1
  have rg := h.1.rg
  have c0' : cxT2 M R mo σ0 a0 r0 := c.weak (by omega) (by omega)
  have c1 : cxT2 M R mo σ0 (a0 + 1) (r0 + 1) := c.weak (by omega) (by omega)
  obtain ⟨y1, y2, y3, y4⟩ := id sy
  unfold t_addStep
  refine fm_t_replaced (ts_replaced c0' h w ly eY oy lrt ert hr hc pt pm (by omega) (by omega)) (fun r2 t1 q1 q => ?_) (fun t1 q1 q => ⟨bnd_inl q.1, q.2⟩)
  obtain ⟨pE, l2, k1⟩ := q
  obtain ⟨-, z40, -⟩ := plugE_ok pE
  refine ⟨⟨l2.1, by have := l2.2; have := k1.1.1.rg; omega⟩, ?_⟩
  rw [(k1.1.1.nd l2).1]
  refine fm_t_fill (fill_plainT hn0 k1.1 (by omega) (by omega)) (fun _ t6 f6 q => ?_) (fun t6 f6 q => ⟨bnd_inr pE (bnd_inl q.1), q.2.pre rg.1 k1⟩)
  obtain ⟨st2, ec, k6, f6'⟩ := q
  obtain ⟨w2, l12, kz, oz, -⟩ := plugcnt_wi hM hr kr hc oy ky w pE ec
  have k06 := okY.trans rg.1 k1 k6
  have l6 := k6.2.1.lv l2
  have e6 := k6.2.1.2.1 _ l2
  refine fm_t_reduced (ts_reduced c1 hOt (d := 0) k6.1 w2.shift l6 (by rw [e6]; exact oz) (by rw [e6]; exact kz) (sy.next k06)) (fun r9 t8 f8 q => ?_) (fun t8 f8 q => ?_)
  rotate_left
  · rw [e6] at q
    exact ⟨bnd_inr pE (bnd_inr ec (bnd_inl q.1)), q.2.pre rg.1 k06⟩
  obtain ⟨st3, e3, l9, k8⟩ := q
  rw [e6] at e3
  have k08 := okY.trans rg.1 k06 k8
  refine fm_t_oneStep (step_stepT hn0 k8.1) (fun _ t11 f11 q => ?_) (fun t11 f11 q => ⟨bnd_inr pE (bnd_inr ec (bnd_inr e3 (bnd_inl q.1))), q.2.pre rg.1 k08⟩)
  obtain ⟨st4, e4, k11, f11'⟩ := q
  have k011 := okY.trans rg.1 k08 k11
  have l11 := k11.2.1.lv l9
  have e11 := k11.2.1.2.1 _ l9
  have fl11 : flT t11 fr fl := hf.to k011.2.1 (by rw [f11.i _ rfl, f8.i _ rfl, f6.i _ rfl, q1.i _ rfl]) (by rw [f11.a _ rfl, f8.a _ rfl, f6.a _ rfl, q1.a _ rfl]) (by rw [f11.a _ rfl, f8.a _ rfl, f6.a _ rfl, q1.a _ rfl])
  have tm11 : tmF fr σ t11 := ((((tmF.rf fr σ).fr q1 rfl).fr f6 rfl).fr f8 rfl).fr f11 rfl
  refine fm_t_addTerm (ts_addTerm hn0 k11.1 l11 fl11 f0 f1) (fun _ t13 f13 q => ?_) (fun t13 f13 q => ?_)
  · obtain ⟨fl', e5, k13, hf', tm⟩ := q
    rw [e11] at e5
    exact ⟨st4, fl', bnd_inr pE (bnd_inr ec (bnd_inr e3 (bnd_inr e4 e5))), okY.trans rg.1 k011 k13, hf', tm11.trans (fun j hj => tm j (by rw [fl11.1]; omega))⟩
  · rw [e11] at q
    exact ⟨bnd_inr pE (bnd_inr ec (bnd_inr e3 (bnd_inr e4 q.1))), q.2.pre rg.1 k011⟩
end

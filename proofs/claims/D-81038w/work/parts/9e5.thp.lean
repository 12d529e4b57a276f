/-! RewriteHouseModel: reducing, whether a part holds -/
section
variable {M : Mo} {R : Ru} {mo : Int} {σ0 : S} {a0 r0 : Int} {sx : Int → Int}
theorem oT_ey {N : Tr → Prop} {σ s : S} (e : EyT σ s N) {x : Int} (h : olT σ x) : olT s x ∧ oT s x = oT σ x := by
  rcases h with h | h
  · have h' : x < 0 := by omega
    exact ⟨Or.inl h, by rw [oT_0 h', oT_0 h']⟩
  · exact ⟨Or.inr (e.lv h), by rw [oT_n (e.lv h), oT_n h, e.2.1 x h]⟩
theorem eT0_ey {N : Tr → Prop} {σ s : S} {e : Int} (y : EyT σ s N) (hb : ∀ v, 0 ≤ v → v < 60 → olT σ (gA σ 79 (e + v))) (h1 : ∀ v, 0 ≤ v → v < 60 → gA s 79 (e + v) = gA σ 79 (e + v)) : eT0 s e = eT0 σ e ∧ ∀ v, 0 ≤ v → v < 60 → olT s (gA s 79 (e + v)) := by
  refine ⟨?_, fun v v0 v1 => by rw [h1 v v0 v1]; exact (oT_ey y (hb v v0 v1)).1⟩
  funext v
  unfold eT0
  by_cases he : e < 0
  · rw [if_pos he, if_pos he]
  · rw [if_neg he, if_neg he]
    by_cases hv : 0 ≤ v ∧ v < 60
    · rw [if_pos hv, if_pos hv, h1 v hv.1 hv.2, (oT_ey y (hb v hv.1 hv.2)).2]
    · rw [if_neg hv, if_neg hv]
def PPX (M : Mo) (R : Ru) (mo : Int) (sx : Int → Int) (σ0 : S) (a0 r0 : Int) (G : Orc) (d : Int) : Prop :=
  ∀ (σ : S) (st : ST) (x e : Int) (T : Tr) (ρ : Env), TR M R mo sx σ0 st σ → WI M R a0 r0 0 (-1) (addA st (filA M ρ T)) → okT M T → lvT σ x → tT σ x = T → 0 ≤ e → e + 60 ≤ 460000 → (∀ v, 0 ≤ v → v < 60 → olT σ (gA σ 79 (e + v))) → eT0 σ e = ρ → (∀ v : Int, 0 ≤ v → occ v T → okT M (ρ v) ∧ KH M st (ρ v)) → SY (d + 1) σ →
    G 3 [x, e, d] σ (fun r s => ∃ st', bnd (putE M T ρ st) (fun u st2 o => RE (Wr M R mo) (d + 1) u st2 o) (.inr (tT s r, st')) ∧ lvT s r ∧ okY M R mo sx σ0 σ st' s) (fun s => bnd (putE M T ρ st) (fun u st2 o => RE (Wr M R mo) (d + 1) u st2 o) (.inl (gI s 1006, gI s 120)) ∧ noY M σ s)
theorem ts_holdsPart (c : cxT2 M R mo σ0 a0 r0) {G : Orc} (hG : FrO wT_reduced G) {d : Int} (hP : PPX M R mo sx σ0 a0 r0 G d) {σ : S} {st : ST} {s cc e : Int} {ρ : Env} (hs : stX M s) (c0 : 0 ≤ cc) (c1 : cc < mCn M s) (hm : mCs M (6 * s + cc) ≠ 1) (h : TR M R mo sx σ0 st σ) (w : WI M R a0 r0 0 0 st) (he0 : 0 ≤ e) (he1 : e + 60 ≤ gI σ 113) (hb : ∀ v, 0 ≤ v → v < 60 → olT σ (gA σ 79 (e + v))) (hρ : eT0 σ e = ρ) (ei : EI M R s cc ρ) (ek : EK M st ρ) (sy : SY (d + 1) σ) :
    t_holdsPart_F G (6 * sx s + cc) e d σ (fun r s' => ∃ st' b, isTrueE M R (RE (Wr M R mo) (d + 1)) (6 * s + cc) ρ st (.inr (b, st')) ∧ r = (if b = true then 1 else 0) ∧ okY M R mo sx σ0 σ st' s') (fun s' => isTrueE M R (RE (Wr M R mo) (d + 1)) (6 * s + cc) ρ st (.inl (gI s' 1006, gI s' 120)) ∧ noY M σ s') := by
  have hM := c.1.wm
  have rg := h.1.rg
  have rok := c.2.2.1 s hs
  have cm := rok.2.2.2.1
  have C := rok.2.2.2.2 cc c0 c1
  have CV1 := fun v v0 ho => EK.at ei ek (C.2.2.1 hm v v0 ho)
  obtain ⟨sxr, -, -, -, -, cond⟩ := h.2.2.2.2.1.1 s hs
  have sm := h.2.2.2.2.1.2.1
  obtain ⟨eK, ⟨lC, eC⟩, hO, hS⟩ := cond cc c0 c1
  have kb : inb (6 * sx s + cc) 420 := ⟨by omega, by omega⟩
  have mq := h.2.2.2.1.2.2.2.1
  have mq1 := h.2.2.2.1.1.2.2.1
  have st4 := sy.2.2.2
  have lb : ∀ {σ : S} {x : Int}, TP M σ → lvT σ x → inb x 200000 := fun {σ x} t l => ⟨l.1, by have := l.2; have := t.rg; omega⟩
  unfold t_holdsPart_F
  refine ⟨kb, lb h.1 lC, ?_⟩
  have C40 := C.1.2
  rw [(h.1.nd lC).1, eC]
  refine fm_t_fill (fill_stepT (ρ := ρ) c h w C.1 (Int.le_refl _) (by omega) (fun v v0 ho => (CV1 v v0 ho).1)) (fun _ t5 f5 q => ?_) (fun t5 f5 q => ⟨bnd_inl (bnd_inl q.1), q.2⟩)
  obtain ⟨st1, ec, k5, w1, l1, w1A, fr5⟩ := q
  obtain ⟨-, ⟨lC5, eC5⟩, -, -⟩ := (k5.1.2.2.2.2.1.1 s hs).2.2.2.2.2 cc c0 c1
  have e5 := eT0_ey k5.2.1 hb (fun v _ _ => by rw [fr5.a _ rfl])
  refine ⟨kb, ?_⟩
  refine hG _ _ _ _ _ _ _ (hP t5 st1 _ e _ ρ k5.1 w1A C.1 lC5 eC5 he0 (by omega) e5.2 (e5.1.trans hρ) (fun v v0 ho => ⟨(CV1 v v0 ho).1, (CV1 v v0 ho).2.le l1 (CV1 v v0 ho).1.1.1⟩) (sy.next k5)) (fun r10 t9 f9 q => ?_) (fun t9 f9 q => ⟨bnd_inl (bnd_inr ec q.1), q.2.pre rg.1 k5⟩)
  obtain ⟨st2, e2, l10, k9⟩ := q
  have part1 : partE M (RE (Wr M R mo) (d + 1)) (ruC R (6 * s + cc)) ρ st (.inr (tT t9 r10, st2)) := bnd_inr ec e2
  have k59 := okY.trans rg.1 k5 k9
  have wp := partE_wi hM (RE_wi (mo := mo) hM (fun e he => c.2.2.1 e (by
    refine Or.inl ?_
    have key : e ∈ allE M := by
      unfold eqs at he
      rcases List.mem_append.mp he with z | z
      · exact (List.mem_filter.mp z).1
      · exact (List.mem_filter.mp z).1
    unfold allE at key
    obtain ⟨n, hn, rfl⟩ := List.mem_map.mp key
    have := List.mem_range.mp hn
    omega)) (d + 1)) C.1 CV1 w part1
  obtain ⟨eK9, -, hO9, hS9⟩ := (k9.1.2.2.2.2.1.1 s hs).2.2.2.2.2 cc c0 c1
  refine ⟨kb, ?_⟩
  rw [eK9]
  by_cases z : mCs M (6 * s + cc) = 2
  · rw [if_pos z]
    have nd := k9.1.1.nd l10
    refine ⟨lb k9.1.1 l10, ?_⟩
    rw [nd.2.1, hS9 z]
    have sg := srt_rg2 hM nd.2.2.1
    by_cases y : srt M (tT t9 r10) = -2
    · rw [if_pos (by omega)]
      unfold t_holdsPart_j73
      refine ⟨st2, false, bnd_inr part1 (Or.inl ⟨z, ?_⟩), rfl, k59⟩
      simp only [Sum.inr.injEq, Prod.mk.injEq, and_true]
      exact (decide_eq_false (fun k => k.1 y)).symm
    · have sg2 := sg.resolve_left y
      rw [if_neg (by omega)]
      refine ⟨lb k9.1.1 l10, kb, ts_isBelow k9.1.1.mo hM sg2.1 sg2.2 ?_⟩
      by_cases v : blw M (srt M (tT t9 r10)) (ruS R (6 * s + cc))
      · rw [bi_t v, if_neg (by decide)]
        refine ⟨st2, true, bnd_inr part1 (Or.inl ⟨z, ?_⟩), rfl, k59⟩
        simp only [Sum.inr.injEq, Prod.mk.injEq, and_true]
        exact (decide_eq_true ⟨y, v⟩).symm
      · rw [bi_f v, if_pos rfl]
        unfold t_holdsPart_j73
        refine ⟨st2, false, bnd_inr part1 (Or.inl ⟨z, ?_⟩), rfl, k59⟩
        simp only [Sum.inr.injEq, Prod.mk.injEq, and_true]
        exact (decide_eq_false (fun k => v k.2)).symm
  · rw [if_neg z]
    have O := C.2.1 z
    obtain ⟨lO, eO⟩ := hO9 z
    have OV := fun v v0 ho => EK.at ei (ek.le wp.2.1) (O.2 v v0 ho)
    have O40 := O.1.2
    refine ⟨kb, lb k9.1.1 lO, ?_⟩
    rw [(k9.1.1.nd lO).1, eO]
    refine fm_t_fill (fill_stepT (ρ := ρ) c k9.1 wp.1 O.1 (Int.le_refl _) (by omega) (fun v v0 ho => (OV v v0 ho).1)) (fun _ t20 f20 q => ?_) (fun t20 f20 q => ⟨bnd_inr part1 (Or.inr ⟨z, bnd_inl (bnd_inl q.1)⟩), q.2.pre rg.1 k59⟩)
    obtain ⟨st3, ec3, k20, w3, l3, w3A, fr20⟩ := q
    have k520 := okY.trans rg.1 k59 k20
    obtain ⟨-, -, hO20, -⟩ := (k20.1.2.2.2.2.1.1 s hs).2.2.2.2.2 cc c0 c1
    obtain ⟨lO20, eO20⟩ := hO20 z
    have e20 := eT0_ey k520.2.1 hb (fun v v0 v1 => k520.2.2.1.2.2.1 _ (by omega))
    refine ⟨kb, ?_⟩
    refine hG _ _ _ _ _ _ _ (hP t20 st3 _ e _ ρ k20.1 w3A O.1 lO20 eO20 he0 (by omega) e20.2 (e20.1.trans hρ) (fun v v0 ho => ⟨(OV v v0 ho).1, (OV v v0 ho).2.le l3 (OV v v0 ho).1.1.1⟩) ((sy.next k59).next k20)) (fun r25 t24 f24 q => ?_) (fun t24 f24 q => ⟨bnd_inr part1 (Or.inr ⟨z, bnd_inl (bnd_inr ec3 q.1)⟩), q.2.pre rg.1 k520⟩)
    obtain ⟨st4', e4, l25, k24⟩ := q
    have part2 : partE M (RE (Wr M R mo) (d + 1)) (ruO R (6 * s + cc)) ρ st2 (.inr (tT t24 r25, st4')) := bnd_inr ec3 e4
    have kk := okY.trans rg.1 k520 k24
    have g924 : gwT t9 t24 := k20.2.1.trans k24.2.1 k9.1.1.rg.1
    have et := g924.2.1 r10 l10
    by_cases v : r10 = r25
    · rw [bi_t v]
      refine ⟨st4', true, bnd_inr part1 (Or.inr ⟨z, bnd_inr part2 (Or.inl ⟨?_, rfl⟩)⟩), rfl, kk⟩
      rw [← v, et]
    · rw [bi_f v]
      refine ⟨st4', false, bnd_inr part1 (Or.inr ⟨z, bnd_inr part2 (Or.inr ⟨fun k => v ?_, rfl⟩)⟩), rfl, kk⟩
      exact k24.1.1.inj (g924.lv l10) l25 (by rw [et, k])
end

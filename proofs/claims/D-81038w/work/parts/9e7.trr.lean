/-! RewriteHouseModel: reducing, a row -/
section
variable {M : Mo} {R : Ru} {mo : Int} {σ0 : S} {a0 r0 : Int} {sx : Int → Int}
/-- more may be piled -/
def okP (M : Mo) (R : Ru) (mo : Int) (sx : Int → Int) (σ0 σ : S) (sti : ST) (s : S) : Prop := TR M R mo sx σ0 sti s ∧ gwT σ s ∧ ((gI s 113 = gI σ 113 ∧ gI s 126 = gI σ 126 ∧ gI σ 83 ≤ gI s 83) ∧ (∀ j, j < gI σ 83 → gA s 58 j = gA σ 58 j) ∧ (∀ j, j < gI σ 113 → gA s 79 j = gA σ 79 j) ∧ ∀ j, j < gI σ 126 → gA s 80 j = gA σ 80 j) ∧ stS sti ≥ gI σ 120 ∧ stQ sti ≥ gI σ 119
theorem okP.run {σ s t : S} {sti st1 : ST} (hn : 0 ≤ gI σ 80) (h : okP M R mo sx σ0 σ sti s) (k : okY M R mo sx σ0 s st1 t) : okP M R mo sx σ0 σ st1 t ∧ gI t 83 = gI s 83 ∧ ∀ j, j < gI s 83 → gA t 58 j = gA s 58 j := by
  obtain ⟨⟨-, -, -, ⟨⟨c1, -, c3, -⟩, -⟩, -⟩, g, ⟨⟨a1, a2, a3⟩, b1, b2, b3⟩, n, m⟩ := h
  obtain ⟨x2, g2, ⟨⟨e1, e2, e3⟩, d1, d2, d3⟩, n2, m2⟩ := k
  exact ⟨⟨x2, g.trans g2 hn, ⟨⟨e2.trans a1, e3.trans a2, by omega⟩, fun j hj => (d1 j (by omega)).trans (b1 j hj), fun j hj => (d2 j (by omega)).trans (b2 j hj), fun j hj => (d3 j (by omega)).trans (b3 j hj)⟩, by omega, by omega⟩, e1, d1⟩
def RRY (M : Mo) (R : Ru) (mo : Int) (sx : Int → Int) (σ0 : S) (a0 r0 d : Int) (n : Nat) : Prop :=
  ∀ (σ : S) (st : ST) (x : Int), TR M R mo sx σ0 st σ → WI M R a0 r0 0 0 st → lvT σ x → okT M (tT σ x) → KH M st (tT σ x) → SY (d + 1) σ → gI σ 83 ≤ 40 * d →
    t_S_reduced n 1 [x, d] σ (fun r s => ∃ st', redE M (RE (Wr M R mo) (d + 1)) (tT σ x) st (.inr (tT s r, st')) ∧ lvT s r ∧ okY M R mo sx σ0 σ st' s) (fun s => redE M (RE (Wr M R mo) (d + 1)) (tT σ x) st (.inl (gI s 1006, gI s 120)) ∧ noY M σ s)
theorem ts_reduceRow (c : cxT2 M R mo σ0 a0 r0) {d : Int} {n : Nat} (hT : TTX M R mo sx σ0 a0 r0 (t_S_reduced n) (d + 1)) : RRY M R mo sx σ0 a0 r0 d (n + 1) := by
  have hM := c.1.wm
  have hE := hE_ofT c
  have hn0 := c.2.1.1
  intro σ st x h w lx ot hk sy top0
  have rg := h.1.rg
  have nf := ot.1
  have kx := tT_kids h.1 lx
  have bx : inb x 200000 := ⟨lx.1, by have := lx.2; omega⟩
  rw [te_reduced_1]
  unfold t_reduceRow_F
  refine ⟨bx, ?_⟩
  by_cases hz : gA σ 50 x = 0
  · rw [if_pos hz]
    have e0 : kids (tT σ x) = [] := List.length_eq_zero_iff.mp (by omega)
    exact ⟨st, Or.inl ⟨e0, rfl⟩, lx, okY.rf h⟩
  rw [if_neg hz]
  have kne : kids (tT σ x) ≠ [] := fun e => by rw [e] at kx; simp at kx; omega
  have x0 : 0 ≤ lab (tT σ x) := by
    rcases Classical.em (lab (tT σ x) < 0) with z | z
    · exact absurd (kids_var nf z) kne
    · omega
  have kl := trS_len (ts := kids (tT σ x)) (fun t ht => (nf.kid ht).1)
  have esz := trS_eta nf
  have s40 := ot.2
  obtain ⟨tp, htp⟩ : ∃ z, z = gI σ 83 := ⟨_, rfl⟩
  rw [← htp]
  obtain ⟨s1, s2, s3, s4⟩ := id sy
  refine lt_reduceRow_L19 (fo_t_S_reduced n) (fun v4 s => ∃ i : Nat, v4 = (i : Int) ∧ i ≤ (kids (tT σ x)).length ∧ gI s 83 = tp + i ∧ ∃ sti us, okP M R mo sx σ0 σ sti s ∧ rowG (gA s 58) s tp i us ∧ rowE (RE (Wr M R mo) (d + 1)) ((kids (tT σ x)).take i) st (.inr (us, sti)))
    (fun v4 _ => ((kids (tT σ x)).length + 1 - v4.toNat)) ⟨0, rfl, by omega, by omega, st, [], ⟨h, EyT.rf _ _, ⟨⟨rfl, rfl, Int.le_refl _⟩, fun _ _ => rfl, fun _ _ => rfl, fun _ _ => rfl⟩, by rw [h.2.2.2.1.1.1]; exact Int.le_refl _, by rw [h.2.2.2.1.1.2.2.1]; exact Int.le_refl _⟩, rowG.nil, by rw [List.take_zero]; rfl⟩ ?_
  rintro v4 s fr0 ⟨i, rfl, hi, htop, sti, us, ko, hrow, hru⟩
  try dsimp only
  have xs := ko.1
  have gs := ko.2.1
  have lxs := gs.lv lx
  have txs := gs.2.1 x lx
  have kxs := tT_kids xs.1 lxs
  rw [txs] at kxs
  have wr := rowE_wi (RE_sn (mo := mo) hM hE (d + 1)) (RE_wi (mo := mo) (a0 := a0) (r0 := r0) hM hE (d + 1)) _ _ _ _ (fun t ht => ⟨ot.kid (List.mem_of_mem_take ht), hk.sub nf.1 (subs_kid nf.1 (subs_self nf.1) (List.mem_of_mem_take ht)).1⟩) w hru
  have lus : us.length = i := hrow.len
  refine ⟨bx, ?_⟩
  by_cases hlt : (i : Int) < gA s 50 x
  · rw [if_pos hlt]
    have hil : i < (kids (tT σ x)).length := by omega
    obtain ⟨q, hq⟩ : ∃ q, (kids (tT σ x))[i]? = some q := ⟨_, List.getElem?_eq_getElem hil⟩
    have hqm := List.mem_of_getElem? hq
    have kq := tT_kid xs.1 lxs (k := i) (q := q) (by rw [txs]; exact hq)
    refine ts_arg xs.1 lxs (by omega) kq.1 ?_
    generalize gA s 56 (gA s 49 x + i) = y at kq ⊢
    obtain ⟨-, ly, ey⟩ := kq
    have kq2 : KH M sti q := (hk.sub nf.1 (subs_kid nf.1 (subs_self nf.1) hqm).1).le wr.2.1 (nf.kid hqm).1
    have cs := xs.2.2.2.1.1
    have se : SY (d + 1) s := by
      obtain ⟨-, -, ⟨⟨a1, a2, a3⟩, -⟩, n', m'⟩ := ko
      exact ⟨s1, by omega, by rw [a2, cs.1]; omega, by rw [a1, cs.2.2.1]; omega⟩
    have wd : w32 (d + 1) = d + 1 := w32_id (by omega) (by omega)
    have take1 : (kids (tT σ x)).take (i + 1) = (kids (tT σ x)).take i ++ [q] := by rw [List.take_add_one, hq]; rfl
    rw [wd]
    refine fo_t_S_reduced n _ _ _ _ _ _ _ (hT s sti y xs wr.1 ly (by rw [ey]; exact ot.kid hqm) (by rw [ey]; exact kq2) se) (fun r t21 f21 q21 => ?_) (fun t21 f21 q21 => ?_)
    rotate_left
    · rw [ey] at q21
      refine ⟨Or.inr ⟨kne, bnd_inl ?_⟩, q21.2.1, gs.trans q21.2.2 rg.1⟩
      have dr : kids (tT σ x) = (kids (tT σ x)).take i ++ (q :: (kids (tT σ x)).drop (i + 1)) := by
        have e := (List.getElem?_eq_some_iff.mp hq).2
        rw [← e, ← List.drop_eq_getElem_cons hil, List.take_append_drop]
      rw [dr]
      exact (rowE_app _ (q :: (kids (tT σ x)).drop (i + 1)) st us sti hru).2 _ (bnd_inl q21.1)
    obtain ⟨st2, e2, lr, k2⟩ := q21
    rw [ey] at e2
    obtain ⟨ko2, tp2, pl2⟩ := ko.run rg.1 k2
    refine ts_push (by omega) (by omega) (fun t27 f27 et27 hv27 => ?_)
    have wi1 : w32 ((i : Int) + 1) = ((i + 1 : Nat) : Int) := by rw [w32_id (by omega) (by omega)]; omega
    rw [wi1]
    have g27 : gwT t21 t27 := EyT.of_fr f27 rfl
    have k27 : okP M R mo sx σ0 σ st2 t27 := by
      obtain ⟨xo, go, ⟨⟨o1, o2, o3⟩, v1, v2, v3⟩, no, mo'⟩ := ko2
      refine ⟨xo.fr hn0 f27 rfl rfl rfl rfl rfl (leS.rf _) ?_, go.trans g27 rg.1, ⟨⟨by rw [f27.i _ rfl, o1], by rw [f27.i _ rfl, o2], by omega⟩, fun j hj => ?_, fun j hj => by rw [f27.a _ rfl, v2 j hj], fun j hj => by rw [f27.a _ rfl, v3 j hj]⟩, no, mo'⟩
      · obtain ⟨⟨d1, d2, d3, d4, d5⟩, dd⟩ := xo.2.2.2.1
        exact ⟨⟨by rw [f27.i _ rfl, d1], by rw [f27.i _ rfl, d2], by rw [f27.i _ rfl, d3], by rw [f27.l _ rfl, d4], by rw [f27.i _ rfl, d5]⟩, dd⟩
      · rw [hv27, if_neg (by omega), v1 j hj]
    have row27 : rowG (gA t27 58) t27 tp (i + 1) (us ++ [tT t21 r]) := by
      refine rowG.app (hrow.same (fun j j0 j1 => by rw [hv27, if_neg (by omega), pl2 _ (by omega)]) (fun z lz => ⟨g27.lv (k2.2.1.lv lz), (g27.2.1 z (k2.2.1.lv lz)).trans (k2.2.1.2.1 z lz)⟩)) ?_
      have hh : gA t27 58 (tp + i) = r := by rw [hv27, if_pos (by omega)]
      have := rowG.one (f := gA t27 58) (σ := t27) (a := tp + i) (by rw [hh]; exact g27.lv lr)
      rw [hh, g27.2.1 r lr] at this
      exact this
    refine ⟨⟨i + 1, rfl, by omega, by omega, st2, us ++ [tT t21 r], k27, row27, ?_⟩, by omega⟩
    rw [take1]
    exact (rowE_app _ [q] st us sti hru).1 _ _ (bnd_inr e2 (bnd_inr rfl rfl))
  · rw [if_neg hlt]
    have ei : i = (kids (tT σ x)).length := by omega
    have tk : (kids (tT σ x)).take i = kids (tT σ x) := by rw [ei, List.take_length]
    rw [tk] at hru wr
    unfold t_reduceRow_j58
    refine ⟨bx, ?_⟩
    rw [← kxs.1]
    have rm := roomT c.1 c.2.1 xs.1 xs.2.2.1 (wr.1.weak (by omega) (by omega))
    have ok := mkOk_row nf x0 (by rw [lus, ei]) (fun u hu => (wr.2.2.1 u hu).2.1)
    have sum : ∀ l : List Tr, (∀ u ∈ l, trS u ≤ 40) → (l.map trS).sum ≤ 40 * l.length := by
      intro l
      induction l with
      | nil => intro _; simp
      | cons a l ih =>
        intro hl
        have := ih (fun u hu => hl u (List.mem_cons_of_mem _ hu))
        have := hl a (List.mem_cons_self ..)
        simp only [List.map_cons, List.sum_cons, List.length_cons]
        omega
    have su := sum us (fun u hu => (wr.2.2.1 u hu).2.2)
    have cc := xs.2.2.2.1
    have dp : ∀ t ∈ us, trD t ≤ 86 := fun t ht => by
      have a := trD_S (wr.2.2.1 t ht).2.1.1
      have b := (wr.2.2.1 t ht).2.2
      omega
    refine fm_t_make (ts_mk xs.1 (by omega) htop (by omega) hrow ok (by omega) dp (by omega) (by omega)) (fun r t2 f2 p => ?_)
    obtain ⟨p1, p2, p3, p4, p5, p6⟩ := p
    obtain ⟨lr, er⟩ := p2.resolve_left (fun k => mk_nn hM ok k.1)
    have nd := p1.nd lr
    refine ⟨⟨lr.1, by have := lr.2; have := p1.rg; omega⟩, ?_⟩
    rw [nd.1, er]
    obtain ⟨xo, go, ⟨⟨o1, o2, o3⟩, v1, v2, v3⟩, no, mo'⟩ := ko
    by_cases hs : ((trS (mk M (lab (tT σ x)) us) : Nat) : Int) ≤ 40
    · rw [if_pos hs]
      have cvy : CV M sti (mk M (lab (tT σ x)) us) := by
        by_cases z : us = kids (tT σ x)
        · rw [z, mk_self hM nf x0 kne]
          rcases (hk.le wr.2.1 nf.1) _ (subs_self nf.1) with q | q | q
          · exact absurd q kne
          · exact Or.inr (Or.inl q)
          · exact Or.inr (Or.inr q.1)
        · exact Or.inr (Or.inr (Or.inl (row_gY ot hk x0 kne wr.2.1 wr.2.2.2.1 wr.2.2.2.2 z)))
      have ey2 : EyT σ0 t2 (CVt M sti) := xs.2.2.1.trans (p3.ey.mono (fun u hu => by
        rcases hu with e | e
        · rw [e]; exact ⟨cvy, by omega⟩
        · exact ⟨Or.inl ⟨_, x0, nf.op x0, e.1, e.2⟩, by rw [e.2, unT_S]; omega⟩)) hn0
      have h2 : TR M R mo sx σ0 sti t2 := xs.ex p1 p3 ey2 rfl (by
        obtain ⟨⟨d1, d2, d3, d4, d5⟩, dd⟩ := cc
        exact ⟨⟨by rw [f2.i _ rfl, d1], by rw [f2.i _ rfl, d2], by rw [f2.i _ rfl, d3], by rw [f2.l _ rfl, d4], by rw [f2.i _ rfl, d5]⟩, dd⟩) f2 rfl
      refine ⟨sti, Or.inr ⟨kne, bnd_inr hru ?_⟩, lr, ⟨h2, gs.trans p3.ey.gw rg.1, ⟨⟨by rw [p5, htp], by rw [f2.i _ rfl, o1], by rw [f2.i _ rfl, o2]⟩, fun j hj => by rw [f2.a _ rfl, v1 j hj], fun j hj => by rw [f2.a _ rfl, v2 j hj], fun j hj => by rw [f2.a _ rfl, v3 j hj]⟩, no, mo'⟩⟩
      rw [er]
      by_cases z : us = kids (tT σ x)
      · exact Or.inl ⟨z, by rw [z, mk_self hM nf x0 kne]⟩
      · exact Or.inr ⟨z, by rw [if_neg (by omega)]⟩
    · rw [if_neg hs]
      refine ts_fail (fun s3 f3 i3 => ?_)
      have nz : us ≠ kids (tT σ x) := fun z => by
        rw [z, mk_self hM nf x0 kne] at hs
        omega
      refine ⟨Or.inr ⟨kne, bnd_inr hru (Or.inr ⟨nz, ?_⟩)⟩, (p1.fr f3 rfl).1, (gs.trans p3.ey.gw rg.1).trans (EyT.of_fr f3 rfl) rg.1⟩
      rw [if_pos (by omega), i3, show gI s3 120 = stS sti from ((f3.i _ rfl).trans (f2.i _ rfl)).trans cc.1.1]
end

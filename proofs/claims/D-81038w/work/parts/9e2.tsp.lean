/-! RewriteHouseModel: reducing, filling and beside -/
section
variable {M : Mo} {R : Ru} {mo : Int} {σ0 : S} {a0 r0 : Int} {sx : Int → Int}
theorem fil_sub_le (hM : WM M) {ρ : Env} {t q : Tr} (ht : NF M t) (hρ : ∀ v : Int, 0 ≤ v → occ v t → okT M (ρ v)) (hq : q ∈ subs t) : trS (fil M ρ q) ≤ trS (fil M ρ t) := by
  have key : ∀ t, isT t → NF M t → (∀ v : Int, 0 ≤ v → occ v t → okT M (ρ v)) → ∀ q ∈ subs t, trS (fil M ρ q) ≤ trS (fil M ρ t) := by
    refine tr_ind ?_
    intro c ts hc hT ih nf hρ q hq
    have it : isT (trN c ts) := isT_N.mpr ⟨hc, hT⟩
    rcases subs_top it hq with e | ⟨k, hk, z⟩
    · rw [e]; exact Nat.le_refl _
    · have hk2 := hk
      rw [kids_N] at hk2
      have sub : ∀ u ∈ kids (trN c ts), ∀ v : Int, 0 ≤ v → occ v u → okT M (ρ v) := fun u hu v v0 ho => hρ v v0 (occ_kid it hu ho)
      have a := ih k hk2 (nf.kid hk) (sub k hk) q z
      have kne : kids (trN c ts) ≠ [] := fun e => by rw [e] at hk; cases hk
      have h0 : 0 ≤ lab (trN c ts) := by
        rcases Classical.em (lab (trN c ts) < 0) with w | w
        · exact absurd (kids_var nf w) kne
        · omega
      have ok := mkOk_map (g := fil M ρ) nf h0 (fun u hu => (fil_all hM u (nf.kid hu).1 (nf.kid hu) (sub u hu)).1)
      have b := mk_ge hM ok (List.mem_map_of_mem (f := fil M ρ) hk)
      rw [fil_mk it h0 kne]
      omega
  exact key t ht.1 ht hρ q hq
theorem unL_mem (hM : WM M) {o : Int} (o0 : 0 ≤ o) (o1 : o < mOps M) : unT M o ∈ unL M := by
  refine List.mem_map.mpr ⟨o.toNat, List.mem_range.mpr ?_, by rw [Int.toNat_of_nonneg o0]⟩
  have := hM.2.2.1
  omega
theorem unT_S (M : Mo) (o : Int) : trS (unT M o) = 1 := by unfold unT; rw [trS_N]; rfl
theorem put_stepT (c : cxT2 M R mo σ0 a0 r0) {σ : S} {st : ST} {x e : Int} {T : Tr} {ρ : Env} (h : TR M R mo sx σ0 st σ) (w : WI M R a0 r0 0 (-1) (addA st (filA M ρ T))) (oT : okT M T) (lx : lvT σ x) (eT : tT σ x = T) (he0 : 0 ≤ e) (he1 : e + 60 ≤ 460000) (hb : ∀ v, 0 ≤ v → v < 60 → olT σ (gA σ 79 (e + v))) (hρ : eT0 σ e = ρ) (hv : ∀ v : Int, 0 ≤ v → occ v T → okT M (ρ v)) (ht0 : 0 ≤ gI σ 83) (ht1 : gI σ 83 ≤ 13900) :
    t_putIn x e σ (fun r s => putE M T ρ st (.inr (tT s r, addA st (filA M ρ T))) ∧ lvT s r ∧ okY M R mo sx σ0 σ (addA st (filA M ρ T)) s ∧ Fr wT_putIn σ s) (fun s => putE M T ρ st (.inl (gI s 1006, gI s 120)) ∧ noY M σ s) := by
  have hM := c.1.wm
  have hn0 := c.2.1.1
  subst eT
  have cc := h.2.2.2.1
  have l12 : leS st (addA st (filA M ρ (tT σ x))) := leS_same rfl (fun u hu => List.mem_append_right _ hu)
  have rm := roomT c.1 c.2.1 h.1 (h.2.2.1.mono (fun t => CVt.le l12)) (w.weak (by omega) (by omega))
  have rg := h.1.rg
  have inA : ∀ q ∈ subs (tT σ x), 0 ≤ lab q → kids q ≠ [] → fil M ρ q ∈ filA M ρ (tT σ x) := by
    intro q hq q0 qk
    unfold filA
    refine List.mem_map.mpr ⟨q, List.mem_filter.mpr ⟨hq, ?_⟩, rfl⟩
    simp only [Bool.and_eq_true, decide_eq_true_eq, Bool.not_eq_true', List.isEmpty_eq_false_iff]
    exact ⟨q0, qk⟩
  have hr : rmT2 M (flN M ρ (tT σ x)) σ := by
    intro s xs es
    have n := ExT.count h.1 xs es (U := filA M ρ (tT σ x) ++ unL M) (fun t ht => by
      rcases ht with ⟨q, hq, q0, qk, e⟩ | ⟨o, o0, o1, -, e⟩
      · rw [e]; exact List.mem_append_left _ (inA q hq q0 qk)
      · rw [e]; exact List.mem_append_right _ (unL_mem hM o0 o1))
    have l1 := filA_len (M := M) (ρ := ρ) oT.1.1
    have l2 : (unL M).length = 50 := by unfold unL; rw [List.length_map, List.length_range]
    have s40 := oT.2
    rw [List.length_append] at n
    have a := ExT.args h.1 xs es (m := 90) (c := 1640) (by omega) (by omega) (by omega) (fun t ht it => by
      obtain ⟨d, ts, et, -, hk⟩ := isT_ex it
      have kl := trS_len hk
      have ks : (kids t).length + 1 ≤ trS t := by rw [et, kids_N, trS_N]; omega
      rcases ht with ⟨q, hq, q0, qk, e⟩ | ⟨o, o0, o1, -, e⟩
      · have oq := subs_NF oT hq
        have f := (fil_all hM q oq.1.1 oq.1 (fun v v0 ho => hv v v0 (occ_sub oT.1.1 hq ho))).2.1
        have q40 := oq.2
        rw [← e] at f
        omega
      · have := unT_S M o
        rw [← e] at this
        omega)
    omega
  refine fm_t_putIn (ts_putIn hr rg.1 he0 he1 h.1 (ExT.rf _ _) lx oT.2 hb hρ (fun v v0 ho => ⟨isT_nn (hv v v0 ho).1.1, (hv v v0 ho).2⟩) (fun u hu => hu) ht0 ht1) (fun r t2 f2 q => ?_) (fun t2 f2 q => ?_)
  · obtain ⟨p1, p2, p3, p4, p5, p6, p7⟩ := q
    have ey2 : EyT σ0 t2 (CVt M (addA st (filA M ρ (tT σ x)))) := (h.2.2.1.mono (fun t => CVt.le l12)).trans (p5.ey.mono (fun u hu => by
      rcases hu with ⟨q, hq, q0, qk, e⟩ | ⟨o, o0, o1, o2, e⟩
      · refine ⟨Or.inr (Or.inl (List.mem_append_left _ (by rw [e]; exact inA q hq q0 qk))), ?_⟩
        have := fil_sub_le hM oT.1 hv hq
        rw [e]
        omega
      · refine ⟨Or.inl ⟨o, o0, o1, o2, e⟩, ?_⟩
        rw [e, unT_S]
        omega)) hn0
    refine ⟨?_, p2, ⟨h.ex p1 p5 ey2 rfl ?_ f2 rfl, p5.ey.gw, ⟨⟨p6, f2.i _ rfl, f2.i _ rfl⟩, p7, fun j _ => by rw [f2.a _ rfl], fun j _ => by rw [f2.a _ rfl]⟩, ?_, ?_⟩, f2⟩
    · unfold putE
      rw [if_neg (by omega), p3]
    · obtain ⟨⟨d1, d2, d3, d4, d5⟩, d⟩ := cc
      exact ⟨⟨by rw [f2.i _ rfl, d1]; rfl, by rw [f2.i _ rfl, d2]; rfl, by rw [f2.i _ rfl, d3]; rfl, by rw [f2.l _ rfl, d4]; rfl, by rw [f2.i _ rfl, d5]⟩, d⟩
    · rw [cc.1.1]; exact Int.le_refl _
    · rw [cc.1.2.2.1]; exact Int.le_refl _
  · obtain ⟨p1, p2, p3, p4⟩ := q
    refine ⟨?_, p3, p4.ey.gw⟩
    rw [p2, show gI t2 120 = stS st from (f2.i _ rfl).trans cc.1.1]
    unfold putE
    rw [if_pos p1]
theorem bes_stepT (c : cxT2 M R mo σ0 a0 r0) {σ : S} {st : ST} {o x e : Int} {ta tx tb : Tr} (h : TR M R mo sx σ0 st σ) (w : WI M R a0 r0 0 (-1) st) (lx : lvT σ x) (ex : tT σ x = tx) (otx : okT M tx) (he0 : 0 ≤ e) (he1 : e + 62 ≤ 460000) (oa : olT σ (gA σ 79 (e + 60))) (ob : olT σ (gA σ 79 (e + 61))) (ea : oT σ (gA σ 79 (e + 60)) = ta) (eb : oT σ (gA σ 79 (e + 61)) = tb) (hok : ¬ (ta = .nil ∧ tb = .nil) → 0 ≤ o ∧ mAs M o ≠ 0) (o1 : o < mOps M) (ha : ta = .nil ∨ okT M ta) (hb : tb = .nil ∨ okT M tb) (ht0 : 0 ≤ gI σ 83) (ht1 : gI σ 83 ≤ 14000) :
    t_beside o x e σ (fun r s => ∃ st', besE M o ta tx tb st (.inr (tT s r, st')) ∧ lvT s r ∧ okY M R mo sx σ0 σ st' s ∧ gA s 79 = gA σ 79) (fun s => besE M o ta tx tb st (.inl (gI s 1006, gI s 120)) ∧ noY M σ s) := by
  have hM := c.1.wm
  have hn0 := c.2.1.1
  have cc := h.2.2.2.1
  have rm := roomT c.1 c.2.1 h.1 h.2.2.1 (w.weak (by omega) (by omega))
  have s40 : ∀ z : Tr, z = .nil ∨ okT M z → trS z ≤ 40 := by
    intro z hz
    rcases hz with e | e
    · rw [e]; decide
    · exact e.2
  refine fm_t_beside (ts_beside h.1 lx ex otx.2 he0 he1 oa ob ea eb (s40 _ ha) (s40 _ hb) (fun hn => ⟨(hok hn).1, o1, (hok hn).2⟩) ht0 ht1 (by omega) (by omega)) (fun r t2 f2 q => ?_) (fun t2 f2 q => ?_)
  · rcases q with ⟨q1, q2, q3, q4⟩ | ⟨hn, p1, p2, p3, p4, p5, p6, p7⟩
    · subst q3 q4
      exact ⟨st, Or.inl ⟨q1, q2, by rw [ex]⟩, lx, okY.rf h, rfl⟩
    · obtain ⟨T, hT⟩ : ∃ z, z = mk M o (besL ta tx tb) := ⟨_, rfl⟩
      rw [← hT] at p3 p4 p5
      have l12 : leS st (addA st [T]) := leS_same rfl (fun u hu => List.mem_append_right _ hu)
      have ey2 : EyT σ0 t2 (CVt M (addA st [T])) := (h.2.2.1.mono (fun t => CVt.le l12)).trans (p5.ey.mono (fun u hu => by
        rcases hu with e | e
        · exact ⟨Or.inr (Or.inl (by rw [e]; exact List.mem_cons_self ..)), by rw [e]; exact p4⟩
        · exact ⟨Or.inl ⟨o, (hok hn).1, o1, e.1, e.2⟩, by rw [e.2, unT_S]; omega⟩)) hn0
      refine ⟨addA st [T], Or.inr ⟨hn, ?_⟩, p2, ⟨h.ex p1 p5 ey2 rfl ?_ f2 rfl, p5.ey.gw, ⟨⟨p6, f2.i _ rfl, f2.i _ rfl⟩, p7, fun j _ => by rw [f2.a _ rfl], fun j _ => by rw [f2.a _ rfl]⟩, ?_, ?_⟩, f2.a _ rfl⟩
      · rw [← hT, if_neg (by omega), p3]
      · obtain ⟨⟨d1, d2, d3, d4, d5⟩, d⟩ := cc
        exact ⟨⟨by rw [f2.i _ rfl, d1]; rfl, by rw [f2.i _ rfl, d2]; rfl, by rw [f2.i _ rfl, d3]; rfl, by rw [f2.l _ rfl, d4]; rfl, by rw [f2.i _ rfl, d5]⟩, d⟩
      · rw [cc.1.1]; exact Int.le_refl _
      · rw [cc.1.2.2.1]; exact Int.le_refl _
  · obtain ⟨hn, p1, p2, p3, p4⟩ := q
    refine ⟨Or.inr ⟨hn, ?_⟩, p3, p4.ey.gw⟩
    rw [p2, show gI t2 120 = stS st from (f2.i _ rfl).trans cc.1.1, if_pos p1]
end

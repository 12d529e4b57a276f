/-! RewriteHouse: all matchers -/
/-- what a run of matching leaves as it was -/
def mpX (N : Tr → Prop) (σ s : S) : Prop :=
  ExX σ s N ∧ gI s 134 = gI σ 134 ∧ gI s 138 = gI σ 138 ∧ gI s 106 = gI σ 106 ∧ gA s 83 = gA σ 83 ∧ gI s 123 = gI σ 123 ∧ (∀ j, j < 62 * gI σ 123 → gA s 86 j = gA σ 86 j) ∧ ∀ j, j < gI σ 106 → gA s 74 j = gA σ 74 j
theorem mpX.rf (N : Tr → Prop) (σ : S) : mpX N σ σ := ⟨ExX.rf σ N, rfl, rfl, rfl, rfl, rfl, fun _ _ => rfl, fun _ _ => rfl⟩
theorem mpX.trans {N : Tr → Prop} {a b c : S} (h : mpX N a b) (k : mpX N b c) (h1 : 1 ≤ gI a 93) : mpX N a c := by
  obtain ⟨p1, p2, p3, p4, p5, p6, p7, p8⟩ := h
  obtain ⟨q1, q2, q3, q4, q5, q6, q7, q8⟩ := k
  exact ⟨p1.trans q1 h1, q2.trans p2, q3.trans p3, q4.trans p4, q5.trans p5, q6.trans p6, fun j hj => (q7 j (by omega)).trans (p7 j hj), fun j hj => (q8 j (by omega)).trans (p8 j hj)⟩
theorem mpX.of {N : Tr → Prop} {σ s : S} {w : List Nat × List Nat × List Nat} (e : ExX σ s N) (f : Fr w σ s) (hw : apt w [134, 138, 106, 123] [83, 86, 74] = true) : mpX N σ s := by
  have hi := apt_i hw f
  have ha := apt_a hw f
  simp only [List.forall_mem_cons] at hi ha
  exact ⟨e, hi.1, hi.2.1, hi.2.2.1, ha.1, hi.2.2.2.1, fun j _ => by rw [ha.2.1], fun j _ => by rw [ha.2.2.1]⟩
section
variable {M : Mo} {A : Int → Bool} {t0 : Tr} {P : Env → Prop} {o : Int} {σ0 : S}
theorem xs_matchPart (c : cxX M A t0 P o σ0) {σ : S} {ρ : Env} {L : List Env} {p x : Int} (mt : mtX M (inU M A t0) P o σ0 σ ρ L) (hsh : gI σ 138 = 0) (hel : gI σ 134 = 0) (lp : lvX σ p) (lx : lvX σ x) (ok : gOK M A t0 (.inl (tX σ p, tX σ x))) (hP : ∀ ρ', Solv M [.inl (tX σ p, tX σ x)] ρ ρ' → P ρ') :
    x_matchPart p x σ (fun _ s => mpX (inU M A t0) σ s ∧ ∃ L', mtX M (inU M A t0) P o σ0 s ρ L' ∧ ∀ ρ', ρ' ∈ L' ↔ ρ' ∈ L ∨ Solv M [.inl (tX σ p, tX σ x)] ρ ρ') (fun s => overX M (inU M A t0) σ L (Solv M [.inl (tX σ p, tX σ x)] ρ) s) := by
  have xp := mt.1
  have rg := xp.rg
  unfold x_matchPart
  rintro s1 hs1
  have f1 : Fr ([121], [], []) σ s1 := Fr.rf.putI hs1 rfl
  have x1 : XP M s1 := xp.fr f1 rfl
  have e1 : ExX σ s1 (inU M A t0) := ExX.of_fr f1 rfl
  have g1 : gI s1 121 = 0 := by rw [hs1]; rfl
  have mt1 := mt.fr c.1 f1 rfl
  refine xs_goal (by omega) (by omega) (fun s2 f2 b2 e2 x2 y2 => ?_)
  rw [g1] at x2 y2 e2
  have b2' := b2 (inU M A t0)
  have xp2 : XP M s2 := x1.fr f2 rfl
  have mt2 := mt1.bl c.1 xp2 b2' f2 rfl
  have f12 : Fr ([121], [], [84, 85]) σ s2 := (f1.weak rfl).trans f2
  have e12 : ExX σ s2 (inU M A t0) := ExX.of_fr f12 rfl
  have gg : gsX M s2 (gI s2 121) [.inl (tX σ p, tX σ x)] := by
    refine ⟨by omega, ?_, by rw [e2]; rfl⟩
    rw [e2, show (0 : Int) + 1 - 1 = 0 by omega, x2, y2]
    exact ⟨e12.lv lp, e12.t lp, e12.lv lx, e12.t lx⟩
  have w : wGs [.inl (tX σ p, tX σ x)] + 1 ≤ 420 := by
    have := ok.1.2.2
    rw [wGs_cons]
    simp only [wG, wGs, List.map_nil, List.sum_nil]
    omega
  show x_S_solve 420 0 [] s2 _ _
  refine fo_x_S_solve 420 _ _ _ _ _ _ _ (so_solve c 420 s2 _ ρ L ⟨mt2, gg, ?_, ⟨by rw [f12.i _ rfl]; omega, by rw [f12.i _ rfl]; omega⟩, ⟨by rw [f12.i _ rfl]; omega, by rw [f12.i _ rfl]; omega⟩, w⟩ hP) (fun r s f q => ?_) (fun s f q => q.pre rg.1 e12)
  · intro g hg
    simp only [List.mem_singleton] at hg
    rw [hg]; exact ok
  · obtain ⟨L', d⟩ := q
    have mt3 := mt2.done c.1 d hP
    obtain ⟨d1, ⟨r1, r2, r3, r4, r5, r6, r7, r8, r9, r10, r11, r12⟩, d3, d4, d5⟩ := d
    have m12 : mpX (inU M A t0) σ s2 := mpX.of e12 f12 rfl
    refine ⟨m12.trans ⟨r1, r2, r3, r5, r6, r7, r11, r12⟩ rg.1, L', mt3, d5⟩
/-- what is bound stays, what is beside changes -/
theorem mtX.ahead {N : Tr → Prop} {σ s : S} {ρ : Env} {L : List Env} {x : Int} (h : mtX M N P o σ0 σ ρ L) (h1 : 1 ≤ gI σ0 93) (hx : olX σ x) (hs : s = pI σ 125 x) : mtX M N P o σ0 s (upE ρ 60 (oX σ x)) L := by
  obtain ⟨a1, a2, a3, a4, a5, a6, a7, a8, a9, a10, a11⟩ := h
  have f : Fr ([125], [], []) σ s := Fr.rf.putI hs rfl
  have ofr := oX_fr f rfl
  have e : ExX σ s N := ExX.of_fr f rfl
  have ia : gI s 125 = x := by rw [hs]; rfl
  refine ⟨a1.fr f rfl, a2.trans e h1, fun v v0 v1 => ?_, by rw [ia]; exact (ofr x).2 hx, by rw [f.i _ rfl]; exact (ofr _).2 a5, by rw [f.i _ rfl]; exact a6, ?_, a8.ex e (f.i _ rfl) (f.i _ rfl) (f.a _ rfl), a9, by rw [f.i _ rfl]; exact a10, by rw [f.i _ rfl]; exact a11⟩
  · rw [f.a _ rfl]; exact (ofr _).2 (a3 v v0 v1)
  · rw [← a7]
    funext v
    unfold upE bX
    by_cases hv : 0 ≤ v ∧ v < 60
    · rw [if_pos hv, if_neg (by omega), if_pos hv, f.a _ rfl, (ofr _).1]
    · rw [if_neg hv]
      by_cases h60 : v = 60
      · rw [if_pos h60, if_pos h60, ia, (ofr _).1]
      · rw [if_neg h60, if_neg h60, if_neg hv, if_neg h60, f.i _ rfl, (ofr _).1]
theorem mtX.behind {N : Tr → Prop} {σ s : S} {ρ : Env} {L : List Env} {x : Int} (h : mtX M N P o σ0 σ ρ L) (h1 : 1 ≤ gI σ0 93) (hx : olX σ x) (hs : s = pI σ 126 x) : mtX M N P o σ0 s (upE ρ 61 (oX σ x)) L := by
  obtain ⟨a1, a2, a3, a4, a5, a6, a7, a8, a9, a10, a11⟩ := h
  have f : Fr ([126], [], []) σ s := Fr.rf.putI hs rfl
  have ofr := oX_fr f rfl
  have e : ExX σ s N := ExX.of_fr f rfl
  have ia : gI s 126 = x := by rw [hs]; rfl
  refine ⟨a1.fr f rfl, a2.trans e h1, fun v v0 v1 => ?_, by rw [f.i _ rfl]; exact (ofr _).2 a4, by rw [ia]; exact (ofr x).2 hx, by rw [f.i _ rfl]; exact a6, ?_, a8.ex e (f.i _ rfl) (f.i _ rfl) (f.a _ rfl), a9, by rw [f.i _ rfl]; exact a10, by rw [f.i _ rfl]; exact a11⟩
  · rw [f.a _ rfl]; exact (ofr _).2 (a3 v v0 v1)
  · rw [← a7]
    funext v
    unfold upE bX
    by_cases hv : 0 ≤ v ∧ v < 60
    · rw [if_pos hv, if_neg (by omega), if_pos hv, f.a _ rfl, (ofr _).1]
    · rw [if_neg hv]
      by_cases h60 : v = 60
      · rw [if_pos h60, if_neg (by omega), if_neg hv, if_pos h60, f.i _ rfl, (ofr _).1]
      · rw [if_neg h60]
        by_cases h61 : v = 61
        · rw [if_pos h61, if_pos h61, ia, (ofr _).1]
        · rw [if_neg h61, if_neg h61, if_neg hv, if_neg h60, if_neg h61]
/-- nothing but nodes and what is beside has changed -/
theorem mtX.grow {N : Tr → Prop} {σ s : S} {ρ : Env} {L : List Env} {w : List Nat × List Nat × List Nat} (h : mtX M N P o σ0 σ ρ L) (h1 : 1 ≤ gI σ0 93) (x : XP M s) (e : ExX σ s N) (f : Fr w σ s) (hw : apt w [125, 126, 127, 123, 124] [83, 86] = true) (ht : gI s 106 = gI σ 106) : mtX M N P o σ0 s ρ L := h.ex h1 x e f hw ht
/-- those of a row that bits name -/
theorem xs_some (hA : rmX M (inU M A t0) σ0) (hn0 : 1 ≤ gI σ0 93) {σ : S} (xp : XP M σ) (e0 : ExX σ0 σ (inU M A t0)) {f t b : Int} {n m : Nat} {E : List Tr} (hT : isT t0) (h0 : 0 ≤ f) (h1 : f < mOps M) (has : mAs M f ≠ 0) (hAf : A f = true) (lt : lvX σ t) (hE : kids (tX σ t) = E) (lE : E.length = n) (hn : n ≤ 6) (hm : m < 2 ^ n) (hb : ∀ k : Nat, k < n → (bAnd (bShr b (k : Int)) 1 = 1 ↔ (m / 2 ^ k) % 2 = 1)) (hel : elm M f A E) (hrow : rowU M A t0 f E) (ht0 : 0 ≤ gI σ 106) (ht1 : gI σ 106 + 40 ≤ 15000) :
    x_some t f b σ (fun r s => XP M s ∧ olX s r ∧ oX s r = rsT M f (pk m E) ∧ mpX (inU M A t0) σ s) (fun _ => False) := by
  have hM := xp.wm
  have ob := hM.2.2.1
  have rg := xp.rg
  have kp := tX_kids xp lt
  have bt := lvX_b xp lt
  have ap := xp.at lt
  have pl : ∀ i : Nat, (pk m (E.take i)).length ≤ 6 := fun i => by
    have := pk_sub_len (E.take i) m
    rw [List.length_take] at this
    omega
  have spk : spl E (pk m E) (pk (2 ^ n - 1 ^^^ m) E) := (spl_masks lE hn).mpr ⟨m, hm, rfl, rfl⟩
  obtain ⟨hin1, hin2, hin3, hin4, hin5, hin6⟩ := elm_in hM hT h0 h1 has hAf hel hrow spk
  have hsm := mkS_small hM h0 h1 has hin1
  rw [hE] at kp
  unfold x_some
  refine lx_some_L9 (fun k s => ∃ i : Nat, k = (i : Int) ∧ i ≤ n ∧ Fr ([106], [], [74]) σ s ∧ gI s 106 = gI σ 106 + (pk m (E.take i)).length ∧ rowH s (gI σ 106) (pk m (E.take i)).length (pk m (E.take i)) ∧ ∀ j, j < gI σ 106 → gA s 74 j = gA σ 74 j) (fun k _ => ((n : Int) - k).toNat) ⟨0, rfl, by omega, Fr.rf, by simp [pk], by simpa [pk] using rowH.nil, fun _ _ => rfl⟩ ?_
  rintro k s fr ⟨i, rfl, hi, f1, hp2, hr, hlo⟩
  try dsimp only
  have x1 : XP M s := xp.fr f1 rfl
  have l1 := lv_fr f1 rfl
  have pli := pl i
  refine ⟨bt, ?_⟩
  rw [f1.a 68 rfl]
  by_cases hk : (i : Int) < gA σ 68 t
  · rw [if_pos hk]
    have hin : i < n := by omega
    have hstep := pk_take E m i (by omega)
    by_cases hbit : bAnd (bShr b (i : Int)) 1 = 1
    · rw [if_pos hbit]
      rw [if_pos ((hb i hin).mp hbit)] at hstep
      have kq := tX_kid x1 (l1 _ lt).1 (k := i) (q := E[i]) (by rw [(l1 _ lt).2, hE]; exact List.getElem?_eq_getElem (by omega))
      refine xs_at x1 (l1 _ lt).1 (by omega) kq.1 ?_
      generalize gA s 73 (gA s 67 t + i) = y at kq
      refine xs_push (by omega) (by omega) ?_
      unfold x_some_j41
      rw [w32_id (by omega) (by omega)]
      obtain ⟨s2, hs2⟩ : ∃ s2, s2 = pA (pI s 106 (gI s 106 + 1)) 74 (gI s 106) y := ⟨_, rfl⟩
      rw [← hs2]
      have f2 : Fr ([106], [], [74]) s s2 := by rw [hs2]; exact (Fr.rf.putI rfl rfl).putA rfl rfl
      have l2 := lv_fr f2 rfl
      have hv : ∀ j, gA s2 74 j = if j = gI s 106 then y else gA s 74 j := fun j => by rw [hs2]; simp [gI_pI, gI_pL, gI_pA, gL_pI, gL_pL, gL_pA, gA_pI, gA_pL, gA_pA]
      have et2 : gI s2 106 = gI s 106 + 1 := by rw [hs2]; rfl
      have hdr : (E.drop i).take 1 = [tX s y] := by
        rw [List.drop_eq_getElem_cons (by omega), kq.2.2]
        rfl
      rw [hdr] at hstep
      refine ⟨⟨i + 1, by omega, by omega, f1.trans f2, ?_, ?_, fun j hj => by rw [hv, if_neg (by omega)]; exact hlo j hj⟩, by omega⟩
      · rw [hstep, List.length_append, et2, hp2]
        simp only [List.length_cons, List.length_nil]
        omega
      · rw [hstep, List.length_append]
        refine rowH.app (hr.same (fun j j0 j1 => ?_) l2) ?_
        · rw [hv, if_neg (by omega)]
        · have := rowH.one (σ := s2) (a := gI s 106) (by rw [hv, if_pos rfl]; exact (l2 _ kq.2.1).1)
          rw [hv, if_pos rfl, (l2 _ kq.2.1).2, hp2] at this
          exact this
    · rw [if_neg hbit]
      unfold x_some_j41
      rw [w32_id (by omega) (by omega)]
      rw [if_neg (fun z => hbit ((hb i hin).mpr z)), List.append_nil] at hstep
      exact ⟨⟨i + 1, by omega, by omega, f1, by rw [hstep]; exact hp2, by rw [hstep]; exact hr, hlo⟩, by omega⟩
  · rw [if_neg hk]
    have ei : E.take i = E := List.take_of_length_le (by omega)
    rw [ei] at hp2 hr pli
    unfold x_some_j47
    rw [hp2]
    by_cases hz : pk m E = []
    · rw [hz, if_pos (by simp)]
      rw [hz] at hp2
      simp only [List.length_nil] at hp2
      refine ⟨x1, Or.inl rfl, by rw [oX_0]; rfl, ExX.of_fr f1 rfl, f1.i _ rfl, f1.i _ rfl, by omega, f1.a _ rfl, f1.i _ rfl, fun j _ => by rw [f1.a _ rfl], hlo⟩
    · rw [if_neg (by
        intro z
        apply hz
        exact List.length_eq_zero_iff.mp (by omega))]
      have rm := hA s x1 (e0.trans (ExX.of_fr f1 rfl) hn0)
      refine fm_x_makeSome (xs_makeSome x1 h0 h1 has ht0 hp2 (by omega) (by omega) hr hsm.1 rm.1 rm.2) (fun r q f3 k => ?_) (fun _ _ k => k.elim)
      obtain ⟨k1, k2, k3, k4, k5, k6, k7⟩ := k
      have ersT : rsT M f (pk m E) = mkS M f (pk m E) := by
        match h : pk m E, hz with
        | a :: r, _ => rfl
      have e3 : ExX s q (inU M A t0) := by
        refine ⟨k4.1, k4.2.1, fun x h1' h2' => ?_⟩
        obtain ⟨z1, z2⟩ := k4.2.2 x h1' h2'
        exact ⟨z1, hin5 _ z2 (k1.T ⟨by have := x1.rg; omega, h2'⟩)⟩
      refine ⟨k1, k2, by rw [ersT]; exact k3, (ExX.of_fr (N := inU M A t0) f1 rfl).trans e3 rg.1, ?_, ?_, k6, ?_, ?_, fun j _ => ?_, fun j hj => ?_⟩
      · rw [f3.i _ rfl, f1.i _ rfl]
      · rw [f3.i _ rfl, f1.i _ rfl]
      · rw [f3.a _ rfl, f1.a _ rfl]
      · rw [f3.i _ rfl, f1.i _ rfl]
      · rw [f3.a 86 rfl, f1.a 86 rfl]
      · rw [k7 j hj]; exact hlo j hj
end

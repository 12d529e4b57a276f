/-! RewriteHouseModel: reducing, whether conditions hold -/
section
variable {M : Mo} {R : Ru} {mo : Int} {σ0 : S} {a0 r0 : Int} {sx : Int → Int}
theorem hE_ofT (c : cxT2 M R mo σ0 a0 r0) : ∀ e ∈ eqs M, RuOK M R e := by
  intro e he
  refine c.2.2.1 e (Or.inl ?_)
  have key : e ∈ allE M := by
    unfold eqs at he
    rcases List.mem_append.mp he with z | z
    · exact (List.mem_filter.mp z).1
    · exact (List.mem_filter.mp z).1
  unfold allE at key
  obtain ⟨n, hn, rfl⟩ := List.mem_map.mp key
  have := List.mem_range.mp hn
  omega
/-- a matcher of the list, as an environment -/
theorem take_envT {o : Int} {t s : S} {L : List Env} {lf : Int} {i : Nat} {ρ1 : Env} (hL : LT o t L) (hlf : gI t 114 = lf) (hi : L[i]? = some ρ1) (g : gwT t s) (hb : ∀ v, 0 ≤ v → v < 62 → gA s 79 (lf + 64 * i + v) = gA t 79 (lf + 64 * i + v)) : eT0 s (lf + 64 * i) = cut ρ1 ∧ ∀ v, 0 ≤ v → v < 62 → olT s (gA s 79 (lf + 64 * i + v)) ∧ oT s (gA s 79 (lf + 64 * i + v)) = ρ1 v := by
  have li := (List.getElem?_eq_some_iff.mp hi).1
  have r := hL.2.2.2.2.2 i li
  have l0 := hL.1
  rw [hlf] at r l0
  obtain ⟨⟨r1, -⟩, r2⟩ := r
  rw [hi] at r2
  have e := Option.some.inj r2
  have all : ∀ v, 0 ≤ v → v < 62 → olT s (gA s 79 (lf + 64 * i + v)) ∧ oT s (gA s 79 (lf + 64 * i + v)) = ρ1 v := fun v v0 v1 => by
    rw [hb v v0 v1]
    have a := oT_ey g (r1 v v0 v1)
    exact ⟨a.1, by rw [a.2, e]; unfold eT; rw [if_pos ⟨v0, v1⟩]⟩
  refine ⟨?_, all⟩
  funext v
  unfold eT0 cut
  rw [if_neg (by omega)]
  by_cases hv : 0 ≤ v ∧ v < 60
  · rw [if_pos hv, if_pos hv]; exact (all v hv.1 (by omega)).2
  · rw [if_neg hv, if_neg hv]
def HTX (M : Mo) (R : Ru) (mo : Int) (sx : Int → Int) (σ0 : S) (a0 r0 sl d : Int) (k n : Nat) : Prop :=
  ∀ (σ : S) (st : ST) (cc e : Int) (ρ : Env), cc + (k : Int) = mCn M sl → 0 ≤ cc → TR M R mo sx σ0 st σ → WI M R a0 r0 0 0 st → 0 ≤ e → e + 64 ≤ gI σ 113 → (∀ v, 0 ≤ v → v < 60 → olT σ (gA σ 79 (e + v))) → eT0 σ e = ρ → EI M R sl cc ρ → EK M st ρ → SY (d + 1) σ →
    t_S_reduced n 5 [sx sl, cc, e, d] σ (fun r s => ∃ st' q, holdsE M R mo (RE (Wr M R mo) (d + 1)) sl k cc ρ st (.inr (q, st')) ∧ ((q = none ∧ r < 0 ∧ okY M R mo sx σ0 σ st' s) ∨ ∃ ρ', q = some ρ' ∧ 0 ≤ r ∧ r + 64 ≤ gI s 113 ∧ eT0 s r = ρ' ∧ (∀ v, 0 ≤ v → v < 60 → olT s (gA s 79 (r + v))) ∧ okZ M R mo sx σ0 σ st' s ∧ gI s 113 ≤ 64 * stQ st')) (fun s => holdsE M R mo (RE (Wr M R mo) (d + 1)) sl k cc ρ st (.inl (gI s 1006, gI s 120)) ∧ noY M σ s)
theorem ts_holds (c : cxT2 M R mo σ0 a0 r0) {d : Int} {n0 : Nat} (hP : ∀ m, n0 ≤ m → PPX M R mo sx σ0 a0 r0 (t_S_reduced m) d) {sl : Int} (hs : stX M sl) : ∀ (k n : Nat), n0 + 1 + k ≤ n → HTX M R mo sx σ0 a0 r0 sl d k n := by
  have hM := c.1.wm
  have hE := hE_ofT c
  have hn0 := c.2.1.1
  have rok := c.2.2.1 sl hs
  have cm := rok.2.2.2.1
  intro k
  induction k with
  | zero =>
    intro n hn σ st cc e ρ ck c0 h w he0 he1 hb hρ ei ek sy
    obtain ⟨m, rfl⟩ : ∃ m, n = m + 1 := ⟨n - 1, by omega⟩
    obtain ⟨sxr, -, -, -, eC, -⟩ := h.2.2.2.2.1.1 sl hs
    have sm := h.2.2.2.2.1.2.1
    have mq1 := h.2.2.2.1.1.2.2.1
    rw [te_reduced_5]
    unfold t_holds_F
    refine ⟨⟨by omega, by omega⟩, ?_⟩
    rw [eC, if_pos (by omega)]
    exact ⟨st, some ρ, rfl, Or.inr ⟨ρ, rfl, he0, he1, hρ, hb, (okY.rf h).okZ, by rw [← mq1]; exact sy.2.2.2.2⟩⟩
  | succ k ih =>
    intro n hn σ st cc e ρ ck c0 h w he0 he1 hb hρ ei ek sy
    obtain ⟨m, rfl⟩ : ∃ m, n = m + 2 := ⟨n - 2, by omega⟩
    obtain ⟨sxr, -, -, -, eC, cond⟩ := h.2.2.2.2.1.1 sl hs
    have sm := h.2.2.2.2.1.2.1
    have rg := h.1.rg
    have mq := h.2.2.2.1.2.2.2.1
    have mq1 := h.2.2.2.1.1.2.2.1
    have st4 := sy.2.2.2
    obtain ⟨eK, ⟨lC, eCt⟩, hO, -⟩ := cond cc c0 (by omega)
    have hC := rok.2.2.2.2 cc c0 (by omega)
    have wk : w32 (w32 (6 * sx sl) + cc) = 6 * sx sl + cc := by simp (disch := omega) only [w32_id]
    have wc : w32 (cc + 1) = cc + 1 := w32_id (by omega) (by omega)
    have kb : inb (6 * sx sl + cc) 420 := ⟨by omega, by omega⟩
    have lb : ∀ {σ : S} {x : Int}, TP M σ → lvT σ x → inb x 200000 := fun {σ x} t l => ⟨l.1, by have := l.2; have := t.rg; omega⟩
    rw [te_reduced_5]
    unfold t_holds_F
    refine ⟨⟨by omega, by omega⟩, ?_⟩
    rw [eC, if_neg (by omega), wk]
    refine ⟨kb, ?_⟩
    rw [eK]
    by_cases z : mCs M (6 * sl + cc) = 1
    · rw [if_pos z]
      obtain ⟨lO, eO⟩ := hO (by omega)
      have O := hC.2.1 (by omega)
      have OV := fun v v0 ho => EK.at ei ek (O.2 v v0 ho)
      have C40 := hC.1.2
      have O40 := O.1.2
      refine ⟨kb, lb h.1 lC, kb, lb h.1 lO, ?_⟩
      rw [(h.1.nd lC).1, (h.1.nd lO).1, eCt, eO, w32_id (by omega) (by omega)]
      refine fm_t_fill (fill_stepT (ρ := ρ) c h w O.1 (by omega) (by omega) (fun v v0 ho => (OV v v0 ho).1)) (fun _ t17 f17 q => ?_) (fun t17 f17 q => ⟨Or.inl ⟨z, bnd_inl (bnd_inl q.1)⟩, q.2⟩)
      obtain ⟨st1, ec, k17, w1, l1, w1A, fr17⟩ := q
      obtain ⟨-, -, hO17, -⟩ := (k17.1.2.2.2.2.1.1 sl hs).2.2.2.2.2 cc c0 (by omega)
      obtain ⟨lO17, eO17⟩ := hO17 (by omega)
      have e17 := eT0_ey k17.2.1 hb (fun v _ _ => by rw [fr17.a _ rfl])
      refine ⟨kb, ?_⟩
      refine fo_t_S_reduced (m + 1) _ _ _ _ _ _ _ (hP (m + 1) (by omega) t17 st1 _ e _ ρ k17.1 w1A O.1 lO17 eO17 he0 (by omega) e17.2 (e17.1.trans hρ) (fun v v0 ho => ⟨(OV v v0 ho).1, (OV v v0 ho).2.le l1 (OV v v0 ho).1.1.1⟩) (sy.next k17)) (fun r22 t21 f21 q => ?_) (fun t21 f21 q => ?_)
      rotate_left
      · refine ⟨Or.inl ⟨z, bnd_inl (bnd_inr ec ?_)⟩, q.2.pre rg.1 k17⟩
        rcases q.1 with ⟨e, b1, b2⟩ | ⟨v, sb, b1, b2⟩
        · refine bnd_inl ?_
          rw [Sum.inl.inj b2]
          exact b1
        · exact bnd_inr b1 (bnd_inl b2)
      obtain ⟨st2, e2, l22, k21⟩ := q
      obtain ⟨u, sa, ep, er⟩ := bnd_ok e2
      have k1721 := okY.trans rg.1 k17 k21
      obtain ⟨ev, hsz, esa, ebp⟩ := putE_ok ep
      have ou := putB_val hM O.1 (fun v v0 ho => (OV v v0 ho).1) ebp
      have wA : WI M R a0 r0 0 0 sa := by rw [esa]; exact w1A.weak (by omega) (by omega)
      have khu : KH M sa u := by
        rw [esa, ev]
        exact KH_put hM O.1 (fun v v0 ho => ⟨(OV v v0 ho).1, (OV v v0 ho).2.le l1 (OV v v0 ho).1.1.1⟩)
      obtain ⟨w2, l2, d2, o2⟩ := RE_wi (mo := mo) hM hE (d + 1) u sa _ st2 ou wA khu er
      have l12 : leS st1 sa := by rw [esa]; exact leS_same rfl (fun u hu => List.mem_append_right _ hu)
      obtain ⟨-, ⟨lC21, eC21⟩, -, -⟩ := (k21.1.2.2.2.2.1.1 sl hs).2.2.2.2.2 cc c0 (by omega)
      have sb21 := k1721.2.2.1
      have e21 := eT0_ey k1721.2.1 hb (fun v v0 v1 => sb21.2.2.1 _ (by omega))
      have sy21 := (sy.next k17).next k21
      refine ⟨kb, ?_⟩
      refine fm_t_list (lst_stepT (w := 0) c k21.1 w2 lC21 eC21 hC.1 l22 rfl o2 d2.1 (Or.inr ⟨⟨he0, by rw [sb21.1.2.1]; exact he1⟩, e21.2⟩) (e21.1.trans hρ) sy21.2.1.1 (by have := sy21.1; have := sy21.2.1; omega) sy21.2.2.2.1 sy21.2.2.2.2) (fun r28 t27 f27 q => ?_) (fun t27 f27 q => ⟨Or.inl ⟨z, bnd_inl (bnd_inr ec (bnd_inr ep (bnd_inr er q.1)))⟩, q.2.pre rg.1 k1721⟩)
      obtain ⟨L, st3, em, rfl, lt, elf, esto, est2, k27⟩ := q
      have e1 : mcE M R mo (RE (Wr M R mo) (d + 1)) (6 * sl + cc) ρ st (.inr (L, st3)) := bnd_inr ec (bnd_inr ep (bnd_inr er em))
      have wm := mcE_wi hM (RE_wi (mo := mo) hM hE (d + 1)) hC.1 O.1 OV ei.1 ek w e1
      obtain ⟨-, n1, b1⟩ := mcE_sn (S := fun _ => False) hM (RE_sn (mo := mo) hM hE (d + 1)) O.1 (fun v v0 ho => (OV v v0 ho).1) (PA_no w.1) (dm_no _) e1
      have eL := mcB_val hM (bg_val hM hE n1) rok c0 (by omega) ei z b1
      have kz27 := okZ.trans rg.1 k1721.okZ k27
      obtain ⟨top, htop⟩ : ∃ z, z = gI t21 113 := ⟨_, rfl⟩
      rw [← htop] at elf esto ⊢
      have ltl := lt.2.2.2.1
      have lt0 := lt.1
      have lt1 := lt.2.1
      rw [elf] at lt0 lt1
      have sy27 : SY (d + 1) t27 := by
        obtain ⟨s1, s2, s3, s4⟩ := sy
        obtain ⟨⟨-, -, -, ⟨⟨q1, -, q3, -⟩, -⟩, -⟩, -, ⟨⟨y1, y2, y3⟩, -⟩, nn, mm⟩ := kz27
        exact ⟨s1, by rw [y1]; exact s2, by rw [y3, q1]; omega, by omega, by rw [q3]; exact est2⟩
      refine lt_holds_L130 (fo_t_S_reduced (m + 1)) (fun v9 s => ∃ i : Nat, v9 = (i : Int) ∧ i ≤ L.length ∧ ∃ sti, okY M R mo sx σ0 t27 sti s ∧ WI M R a0 r0 0 0 sti ∧ leS st3 sti ∧ ∀ o, firstE (fun ρ1 st o => holdsE M R mo (RE (Wr M R mo) (d + 1)) sl k (cc + 1) (cut ρ1) st o) (L.drop i) sti o → firstE (fun ρ1 st o => holdsE M R mo (RE (Wr M R mo) (d + 1)) sl k (cc + 1) (cut ρ1) st o) L st3 o)
        (fun v9 _ => (L.length + 1 - v9.toNat)) ⟨0, rfl, by omega, st3, okY.rf k27.1, wm.1, leS.rf _, fun o ho => by simpa using ho⟩ ?_
      rintro v9 s fr0 ⟨i, rfl, hi, sti, ko, wi, li, hf⟩
      try dsimp only
      have rg27 := k27.1.1.rg
      by_cases y : (i : Int) < (L.length : Int)
      · rw [if_pos y]
        obtain ⟨ρ1, hρ1⟩ : ∃ ρ1, L[i]? = some ρ1 := by
          rw [List.getElem?_eq_getElem (by omega)]; exact ⟨_, rfl⟩
        have mem1 : ρ1 ∈ L := List.mem_of_getElem? hρ1
        have wv : w32 (top + w32 (64 * (i : Int))) = top + 64 * i := by simp (disch := omega) only [w32_id]
        have wi1 : w32 ((i : Int) + 1) = ((i + 1 : Nat) : Int) := by rw [w32_id (by omega) (by omega)]; omega
        have sto := ko.2.2.1.1.2.1
        have env := take_envT lt elf hρ1 ko.2.1 (fun v v0 v1 => ko.2.2.1.2.2.1 _ (by omega))
        rw [wv, wc]
        have recur := ih (m + 1) (by omega) s sti (cc + 1) (top + 64 * i) (cut ρ1) (by omega) (by omega) ko.1 wi (by omega) (by omega) (fun v v0 v1 => (env.2 v v0 (by omega)).1) env.1 (eL ρ1 mem1) ((wm.2.2 ρ1 mem1).le li).ct (sy27.next ko)
        have dropi : L.drop i = ρ1 :: L.drop (i + 1) := by
          rw [List.drop_eq_getElem_cons (by omega)]
          have := (List.getElem?_eq_some_iff.mp hρ1).2
          rw [this]
        refine fo_t_S_reduced (m + 1) _ _ _ _ _ _ _ recur (fun r35 t34 f34 q => ?_) (fun t34 f34 q => ?_)
        · obtain ⟨st4', qq, e4, hq⟩ := q
          have hw := holdsE_wi hM hE (RE_sn (mo := mo) hM hE (d + 1)) (RE_wi (mo := mo) hM hE (d + 1)) rok k (cc + 1) (cut ρ1) sti qq st4' (by omega) (by omega) (eL ρ1 mem1) ((wm.2.2 ρ1 mem1).le li).ct wi e4
          rcases hq with ⟨rfl, r0', k34⟩ | ⟨ρ', rfl, r0', r1, er', lr, k34, s34⟩
          · rw [if_pos r0', wi1]
            refine ⟨⟨i + 1, rfl, by omega, st4', okY.trans rg27.1 ko k34, hw.2.1 rfl, li.trans hw.1, fun o ho => hf o ?_⟩, by omega⟩
            rw [dropi]
            exact bnd_inr e4 ho
          · rw [if_neg (by omega)]
            refine ⟨st4', some ρ', Or.inl ⟨z, bnd_inr e1 (hf _ ?_)⟩, Or.inr ⟨ρ', rfl, r0', r1, er', lr, okZ.trans rg.1 kz27 (okZ.trans rg27.1 ko.okZ k34), s34⟩⟩
            rw [dropi]
            exact bnd_inr e4 rfl
        · refine ⟨Or.inl ⟨z, bnd_inr e1 (hf _ ?_)⟩, q.2.1, (kz27.2.1.trans ko.2.1 rg.1).trans q.2.2 rg.1⟩
          rw [dropi]
          exact bnd_inl q.1
      · rw [if_neg y]
        unfold t_holds_j171
        rintro t32 ht32
        have ei' : i = L.length := by omega
        have kk := okZ.trans rg.1 kz27 ko.okZ
        have tσ : top = gI σ 113 := by rw [htop]; exact sb21.1.2.1
        refine ⟨sti, none, Or.inl ⟨z, bnd_inr e1 (hf _ ?_)⟩, Or.inl ⟨rfl, by decide, kk.back hn0 rg.1 (by rw [← tσ]; exact ht32)⟩⟩
        rw [ei', List.drop_length]
        rfl
    · rw [if_neg z]
      have g4 := ts_holdsPart c (fo_t_S_reduced m) (hP m (by omega)) hs c0 (by omega) z h w he0 (by omega) hb hρ ei ek sy
      rw [← te_reduced_4] at g4
      refine fo_t_S_reduced (m + 1) _ _ _ _ _ _ _ g4 (fun r40 t39 f39 q => ?_) (fun t39 f39 q => ⟨Or.inr ⟨z, bnd_inl q.1⟩, q.2⟩)
      obtain ⟨st1, b, e1, er, k1⟩ := q
      have w1 := isTrueE_wi hM (RE_wi (mo := mo) hM hE (d + 1)) hC.1 (fun v v0 ho => EK.at ei ek (hC.2.2.1 z v v0 ho)) (fun z2 => ⟨(hC.2.1 z2).1, fun v v0 ho => EK.at ei ek ((hC.2.1 z2).2 v v0 ho)⟩) w e1
      cases b with
      | false =>
        rw [if_pos (by rw [er]; rfl)]
        exact ⟨st1, none, Or.inr ⟨z, bnd_inr e1 (Or.inr ⟨rfl, rfl⟩)⟩, Or.inl ⟨rfl, by decide, k1⟩⟩
      | true =>
        rw [if_neg (by rw [er]; decide), wc]
        have e39 := eT0_ey k1.2.1 hb (fun v v0 v1 => k1.2.2.1.2.2.1 _ (by omega))
        have sto := k1.2.2.1.1.2.1
        have recur := ih (m + 1) (by omega) t39 st1 (cc + 1) e ρ (by omega) (by omega) k1.1 w1.1 he0 (by omega) e39.2 (e39.1.trans hρ) (ei.up z) (ek.le w1.2) (sy.next k1)
        refine fo_t_S_reduced (m + 1) _ _ _ _ _ _ _ recur (fun r45 t44 f44 q => ?_) (fun t44 f44 q => ⟨Or.inr ⟨z, bnd_inr e1 (Or.inl ⟨rfl, q.1⟩)⟩, q.2.pre rg.1 k1⟩)
        obtain ⟨st2, qq, e2, hq⟩ := q
        refine ⟨st2, qq, Or.inr ⟨z, bnd_inr e1 (Or.inl ⟨rfl, e2⟩)⟩, ?_⟩
        rcases hq with ⟨rfl, r0', k44⟩ | ⟨ρ', rfl, r0', r1, er', lr, k44, s44⟩
        · exact Or.inl ⟨rfl, r0', okY.trans rg.1 k1 k44⟩
        · exact Or.inr ⟨ρ', rfl, r0', r1, er', lr, okZ.trans rg.1 k1.okZ k44, s44⟩
end

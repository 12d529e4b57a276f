/-! RewriteHouse: reducing, whether conditions hold -/
theorem xe_toRest_0 (n : Nat) (a : Int) (σ : S) (Q : Int → S → Prop) (E : S → Prop) : x_S_toRest (n + 1) 0 [a] σ Q E = x_toRest_F (x_S_toRest n) a σ Q E := rfl
theorem xe_toRest_1 (n : Nat) (a : Int) (σ : S) (Q : Int → S → Prop) (E : S → Prop) : x_S_toRest (n + 1) 1 [a] σ Q E = x_reduceRow_F (x_S_toRest n) a σ Q E := rfl
theorem xe_toRest_2 (n : Nat) (a : Int) (σ : S) (Q : Int → S → Prop) (E : S → Prop) : x_S_toRest (n + 1) 2 [a] σ Q E = x_tryEquations_F (x_S_toRest n) a σ Q E := rfl
theorem xe_toRest_3 (n : Nat) (a b : Int) (σ : S) (Q : Int → S → Prop) (E : S → Prop) : x_S_toRest (n + 1) 3 [a, b] σ Q E = x_tryOne_F (x_S_toRest n) a b σ Q E := rfl
theorem xe_toRest_4 (n : Nat) (a b : Int) (σ : S) (Q : Int → S → Prop) (E : S → Prop) : x_S_toRest (n + 1) 4 [a, b] σ Q E = x_holds_F (x_S_toRest n) a b σ Q E := rfl
theorem xe_toRest_5 (n : Nat) (a : Int) (σ : S) (Q : Int → S → Prop) (E : S → Prop) : x_S_toRest (n + 1) 5 [a] σ Q E = x_reduced_F (x_S_toRest n) a σ Q E := rfl
theorem xe_toRest_6 (n : Nat) (a : Int) (σ : S) (Q : Int → S → Prop) (E : S → Prop) : x_S_toRest (n + 1) 6 [a] σ Q E = x_isTrue_F (x_S_toRest n) a σ Q E := rfl
theorem xe_toRest_7 (n : Nat) (a : Int) (σ : S) (Q : Int → S → Prop) (E : S → Prop) : x_S_toRest (n + 1) 7 [a] σ Q E = x_matchCondition_F (x_S_toRest n) a σ Q E := rfl
section
variable {M : Mo} {R : Ru} {mo : Int} {σ0 : S} {a0 r0 : Int}
def HDX (M : Mo) (R : Ru) (mo : Int) (σ0 : S) (a0 r0 sl D : Int) (k n : Nat) : Prop :=
  ∀ (σ : S) (st : ST) (c : Int) (ρ : Env), c + (k : Int) = mCn M sl → 0 ≤ c → XR M R mo σ0 st σ → WI M R a0 r0 0 0 st → (∀ v, 0 ≤ v → v < 60 → olX σ (gA σ 83 v)) → bX0 σ = ρ → EI M R sl c ρ → EK M st ρ → SI D σ →
    x_S_toRest n 4 [sl, c] σ (fun r s => ∃ st' q, holdsE M R mo (RE (Wr M R mo) (max 1 D)) sl k c ρ st (.inr (q, st')) ∧ okX M R mo σ0 σ st' s ∧ ((q = none ∧ r = 0) ∨ ∃ ρ', q = some ρ' ∧ r = 1 ∧ bX0 s = ρ' ∧ ∀ v, 0 ≤ v → v < 60 → olX s (gA s 83 v))) (fun s => holdsE M R mo (RE (Wr M R mo) (max 1 D)) sl k c ρ st (.inl (gI s 1006, gI s 131)) ∧ noX M σ s)
theorem okX.rf {σ : S} {st : ST} (h : XR M R mo σ0 st σ) : okX M R mo σ0 σ st σ := ⟨h, EyX.rf _ _, FX.rf _, by rw [h.2.2.2.1.1.1]; exact Int.le_refl _, by rw [h.2.2.2.1.1.2.2.1]; exact Int.le_refl _⟩
/-- a row of the list, taken -/
theorem take_env {o : Int} {t s : S} {L : List Env} {lf : Int} {i : Nat} {ρ1 : Env} (hL : LX o t L) (hlf : gI t 123 = lf) (hi : L[i]? = some ρ1) (g : gwX t s) (hb : ∀ v, 0 ≤ v → v < 60 → gA s 83 v = gA t 86 (62 * (lf + i) + v)) : bX0 s = cut ρ1 ∧ ∀ v, 0 ≤ v → v < 60 → olX s (gA s 83 v) := by
  have li := (List.getElem?_eq_some_iff.mp hi).1
  have r := hL.2.2.2.2.2 i li
  rw [hlf] at r
  obtain ⟨⟨r1, -⟩, r2⟩ := r
  rw [hi] at r2
  have e := Option.some.inj r2
  refine ⟨?_, fun v v0 v1 => by rw [hb v v0 v1]; exact (oX_ey g (r1 v v0 (by omega))).1⟩
  funext v
  unfold bX0 cut
  by_cases hv : 0 ≤ v ∧ v < 60
  · rw [if_pos hv, if_pos hv, hb v hv.1 hv.2, (oX_ey g (r1 v hv.1 (by omega))).2, e]
    unfold eX
    rw [if_pos ⟨hv.1, by omega⟩]
  · rw [if_neg hv, if_neg hv]
theorem xs_holds (c : cxR M R mo σ0 a0 r0) {D : Int} {n0 : Nat} (hD : ∀ m, n0 ≤ m → RDX M R mo σ0 a0 r0 (x_S_toRest m) D) {sl : Int} (hs : stX M sl) : ∀ (k n : Nat), n0 + 1 + k ≤ n → HDX M R mo σ0 a0 r0 sl D k n := by
  have hM := c.1.wm
  have hE := hE_of c
  have hn0 := c.2.1.1
  have sr := stX_rg hM hs
  have rok := c.2.2.1 sl hs
  have cm := rok.2.2.2.1
  have slb : inb sl 70 := ⟨by omega, by omega⟩
  intro k
  induction k with
  | zero =>
    intro n hn σ st cc ρ ck c0 h w hb hρ ei ek si
    obtain ⟨m, rfl⟩ : ∃ m, n = m + 1 := ⟨n - 1, by omega⟩
    rw [xe_toRest_4]
    unfold x_holds_F
    have eC : gA σ 32 sl = mCn M sl := by rw [← h.1.mo]; rfl
    refine ⟨slb, ?_⟩
    rw [eC, if_pos (by omega)]
    exact ⟨st, some ρ, rfl, okX.rf h, Or.inr ⟨ρ, rfl, rfl, hρ, hb⟩⟩
  | succ k ih =>
    intro n hn σ st cc ρ ck c0 h w hb hρ ei ek si
    obtain ⟨m, rfl⟩ : ∃ m, n = m + 2 := ⟨n - 2, by omega⟩
    rw [xe_toRest_4]
    unfold x_holds_F
    have eC : gA σ 32 sl = mCn M sl := by rw [← h.1.mo]; rfl
    have rg := h.1.rg
    have wk : w32 (w32 (6 * sl) + cc) = 6 * sl + cc := by simp (disch := omega) only [w32_id]
    refine ⟨slb, ?_⟩
    rw [eC, if_neg (by omega), wk]
    refine ⟨⟨by omega, by omega⟩, ?_⟩
    have eS : gA σ 33 (6 * sl + cc) = mCs M (6 * sl + cc) := by rw [← h.1.mo]; rfl
    have wc : w32 (cc + 1) = cc + 1 := w32_id (by omega) (by omega)
    have hC := rok.2.2.2.2 cc c0 (by omega)
    rw [eS, wc]
    by_cases z : mCs M (6 * sl + cc) = 1
    · rw [if_pos z]
      have g7 := xs_matchCondition c (fo_x_S_toRest m) (hD m (by omega)) hs c0 (by omega) z h w hb hρ ei ek si
      rw [← xe_toRest_7] at g7
      refine fo_x_S_toRest (m + 1) _ _ _ _ _ _ _ g7 (fun r11 t10 f10 q => ?_) (fun t10 f10 q => ⟨Or.inl ⟨z, bnd_inl q.1⟩, q.2⟩)
      obtain ⟨st1, L, e1, rfl, lx, k1, lq⟩ := q
      have O := hC.2.1 (by omega)
      have w1 := mcE_wi hM (RE_wi (mo := mo) hM hE (max 1 D)) hC.1 O.1 (fun v v0 ho => EK.at ei ek (O.2 v v0 ho)) ei.1 ek w e1
      obtain ⟨-, n1, b1⟩ := mcE_sn (S := fun _ => False) hM (RE_sn (mo := mo) hM hE (max 1 D)) O.1 (fun v v0 ho => ei.ok (O.2 v v0 ho)) (PA_no w.1) (dm_no _) e1
      have eL := mcB_val hM (bg_val hM hE n1) rok c0 (by omega) ei z b1
      have lf : gI t10 123 = gI σ 123 := k1.2.2.1.1.2.2.2.1
      have lxl := lx.2.2.2.1
      have lx2 := lx.2.1
      have lx0 := lx.1
      have si1 := si.next k1
      obtain ⟨lf0, hlf0⟩ : ∃ z, z = gI t10 123 := ⟨_, rfl⟩
      rw [← lf, ← hlf0]
      -- the loop over matchers
      refine lx_holds_L73 (fo_x_S_toRest (m + 1)) (fun v6 v7 s => ∃ i : Nat, v7 = (i : Int) ∧ i ≤ L.length ∧ (∀ j, j < 62 * (lf0 + L.length) → gA s 86 j = gA t10 86 j) ∧ ∃ sti, okX M R mo σ0 t10 sti (pI s 123 lf0) ∧
          ((v6 = 0 ∧ WI M R a0 r0 0 0 sti ∧ leS st1 sti ∧ ∀ o, firstE (fun ρ1 st o => holdsE M R mo (RE (Wr M R mo) (max 1 D)) sl k (cc + 1) (cut ρ1) st o) (L.drop i) sti o → firstE (fun ρ1 st o => holdsE M R mo (RE (Wr M R mo) (max 1 D)) sl k (cc + 1) (cut ρ1) st o) L st1 o) ∨
           (v6 = 1 ∧ ∃ ρ', firstE (fun ρ1 st o => holdsE M R mo (RE (Wr M R mo) (max 1 D)) sl k (cc + 1) (cut ρ1) st o) L st1 (.inr (some ρ', sti)) ∧ bX0 s = ρ' ∧ ∀ v, 0 ≤ v → v < 60 → olX s (gA s 83 v))))
        (fun v6 v7 _ => (L.length + 1 - v7.toNat)) ⟨0, rfl, by omega, fun _ _ => rfl, st1, by rw [pI_same hlf0.symm]; exact okX.rf k1.1, Or.inl ⟨rfl, w1.1, leS.rf _, fun o ho => by simpa using ho⟩⟩ ?_
      rintro v6 v7 s fr0 ⟨i, rfl, hi, hlist, sti, ko, hst⟩
      try dsimp only
      obtain ⟨s', hs'⟩ : ∃ z, z = pI s 123 lf0 := ⟨_, rfl⟩
      rw [← hs'] at ko
      have fs' : Fr ([123], [], []) s s' := Fr.rf.putI hs' rfl
      have ci := ko.1
      by_cases y : (i : Int) < (L.length : Int) ∧ v6 = 0
      · rw [if_pos y]
        obtain ⟨-, wi, li, hf⟩ := hst.resolve_right (fun k => by have := k.1; omega)
        obtain ⟨ρ1, hρ1⟩ : ∃ ρ1, L[i]? = some ρ1 := by
          rw [List.getElem?_eq_getElem (by omega)]; exact ⟨_, rfl⟩
        have mem1 : ρ1 ∈ L := List.mem_of_getElem? hρ1
        have wv : w32 (lf0 + (i : Int)) = lf0 + i := w32_id (by omega) (by omega)
        have wl : w32 (lf0 + (L.length : Int)) = lf0 + L.length := w32_id (by omega) (by omega)
        rw [wv, wl]
        refine fm_x_takeRow (xs_takeRow (by omega) (by omega)) (fun _ t15 f15 q => ?_)
        obtain ⟨f15', b15⟩ := q
        rintro t16 ht16
        -- from s' (the list as it was) to here
        have f16 : Fr ([123], [], [83]) s t16 := (f15'.weak rfl).putI ht16 rfl
        have fs16 : Fr ([123], [], [83]) s' t16 := by
          refine ⟨fun j hj => ?_, fun j hj => ?_, fun j hj => ?_⟩
          · have a1 := f16.1 j hj
            have a2 := fs'.1 j hj
            rw [a1, a2]
          · rw [f16.2.1 j hj, fs'.2.1 j rfl]
          · rw [f16.2.2 j hj, fs'.2.2 j rfl]
        have c16 : XR M R mo σ0 sti t16 := ci.fr hn0 fs16 rfl rfl rfl rfl rfl (leS.rf _) (by
          obtain ⟨⟨d1, d2, d3, d4, d5⟩, d⟩ := ci.2.2.2.1
          exact ⟨⟨by rw [fs16.i _ rfl, d1], by rw [fs16.i _ rfl, d2], by rw [fs16.i _ rfl, d3], by rw [fs16.l _ rfl, d4], by rw [fs16.l _ rfl, d5]⟩, d⟩)
        have g16 : gwX t10 t16 := ko.2.1.trans (EyX.of_fr fs16 rfl) k1.1.1.rg.1
        have env := take_env lx hlf0.symm hρ1 g16 (fun v v0 v1 => by rw [ht16]; simp only [gI_pI, gI_pL, gI_pA, gL_pI, gL_pL, gL_pA, gA_pI, gA_pL, gA_pA]; rw [b15 v v0 v1, hlist _ (by omega)])
        have sis := si1.next ko
        obtain ⟨s1, s2, s3, s4, s5, s6, s7, s8⟩ := sis
        have lf16 : gI t16 123 = lf0 + L.length := by rw [ht16]; simp only [gI_pI, gI_pL, gI_pA, gL_pI, gL_pL, gL_pA, gA_pI, gA_pL, gA_pA]; rw [if_pos trivial]
        have mq : gI t10 128 = stQ st1 := k1.1.2.2.2.1.1.2.2.1
        have mq2 : gI t16 128 = stQ sti := c16.2.2.2.1.1.2.2.1
        have kom := ko.2.2.2.2
        have si16 : SI D t16 := by
          refine ⟨by rw [fs16.i _ rfl, s1], s2, by rw [fs16.i _ rfl]; exact s3, by rw [fs16.i _ rfl, fs16.i 131 rfl]; exact s4, by rw [fs16.i _ rfl]; exact s5, by rw [lf16, mq2]; omega, by rw [fs16.i _ rfl, s7], by rw [fs16.i _ rfl, s8]⟩
        have recur := ih (m + 1) (by omega) t16 sti (cc + 1) (cut ρ1) (by omega) (by omega) c16 wi env.2 env.1 (eL ρ1 mem1) ((w1.2.2 ρ1 mem1).le li).ct si16
        have dropi : L.drop i = ρ1 :: L.drop (i + 1) := by
          rw [List.drop_eq_getElem_cons (by omega)]
          have := (List.getElem?_eq_some_iff.mp hρ1).2
          rw [this]
        have wi1 : w32 ((i : Int) + 1) = ((i + 1 : Nat) : Int) := by rw [w32_id (by omega) (by omega)]; omega
        rw [wc]
        refine fo_x_S_toRest (m + 1) _ _ _ _ _ _ _ recur (fun r19 t18 f18 q => ?_) (fun t18 f18 q => ?_)
        · obtain ⟨st2, qq, e2, k2, hq⟩ := q
          rw [wi1]
          have f18' : Fr ([123], [], []) t18 (pI t18 123 lf0) := Fr.rf.putI rfl rfl
          obtain ⟨x2, g2, fx2, n2, m2⟩ := k2
          obtain ⟨⟨p1, p2, p3, p4, p5, p6, p7⟩, u1, u2, u3, u4⟩ := fx2
          obtain ⟨xo, go, fxo, no, mo'⟩ := ko
          obtain ⟨⟨o1, o2, o3, o4, o5, o6, o7⟩, v1, v2, v3, v4⟩ := fxo
          have x18 : XR M R mo σ0 st2 (pI t18 123 lf0) := x2.fr hn0 f18' rfl rfl rfl rfl rfl (leS.rf _) (by
            obtain ⟨⟨d1, d2, d3, d4, d5⟩, d⟩ := x2.2.2.2.1
            exact ⟨⟨by rw [f18'.i _ rfl, d1], by rw [f18'.i _ rfl, d2], by rw [f18'.i _ rfl, d3], by rw [f18'.l _ rfl, d4], by rw [f18'.l _ rfl, d5]⟩, d⟩)
          have st16 : gI t16 131 = stS sti := c16.2.2.2.1.1.1
          have k18 : okX M R mo σ0 t10 st2 (pI t18 123 lf0) := by
            refine ⟨x18, (g16.trans g2 k1.1.1.rg.1).trans (EyX.of_fr f18' rfl) k1.1.1.rg.1, ⟨⟨?_, ?_, ?_, ?_, ?_, ?_, ?_⟩, fun j hj => ?_, fun j hj => ?_, fun j hj => ?_, fun j hj => ?_⟩, by omega, by omega⟩
            · rw [f18'.i _ rfl, p1, fs16.i _ rfl, o1]
            · rw [f18'.i _ rfl, p2, fs16.i _ rfl, o2]
            · rw [f18'.i _ rfl, p3, fs16.i _ rfl, o3]
            · simp only [gI_pI, gI_pL, gI_pA, gL_pI, gL_pL, gL_pA, gA_pI, gA_pL, gA_pA]; rw [if_pos trivial, hlf0]
            · rw [f18'.i _ rfl, p5, fs16.i _ rfl, o5]
            · rw [f18'.i _ rfl, p6, fs16.i _ rfl, o6]
            · rw [f18'.i _ rfl, p7, fs16.i _ rfl, o7]
            · rw [f18'.a _ rfl, u1 j (by rw [fs16.i _ rfl, o1]; exact hj), fs16.a _ rfl, v1 j hj]
            · rw [f18'.a _ rfl, u2 j (by rw [fs16.i _ rfl, o2]; exact hj), fs16.a _ rfl, v2 j hj]
            · rw [f18'.a _ rfl, u3 j (by rw [fs16.i _ rfl, o3]; exact hj), fs16.a _ rfl, v3 j hj]
            · rw [f18'.a _ rfl, u4 j (by rw [lf16]; omega), fs16.a _ rfl, v4 j hj]
          have ls : ∀ j, j < 62 * (lf0 + L.length) → gA t18 86 j = gA t10 86 j := fun j hj => by
            rw [u4 j (by rw [lf16]; exact hj), f16.a _ rfl, hlist j hj]
          refine ⟨⟨i + 1, rfl, by omega, ls, st2, k18, ?_⟩, by omega⟩
          rcases hq with ⟨rfl, rfl⟩ | ⟨ρ', rfl, rfl, eb, lb⟩
          · have hw := holdsE_wi hM hE (RE_sn (mo := mo) hM hE (max 1 D)) (RE_wi (mo := mo) hM hE (max 1 D)) rok k (cc + 1) (cut ρ1) sti none st2 (by omega) (by omega) (eL ρ1 mem1) ((w1.2.2 ρ1 mem1).le li).ct wi e2
            refine Or.inl ⟨rfl, hw.2.1 rfl, li.trans hw.1, fun o ho => hf o ?_⟩
            rw [dropi]
            exact bnd_inr e2 ho
          · refine Or.inr ⟨rfl, ρ', hf _ ?_, eb, lb⟩
            rw [dropi]
            exact bnd_inr e2 rfl
        · refine ⟨Or.inl ⟨z, bnd_inr e1 (hf _ ?_)⟩, q.2.1, (k1.2.1.trans g16 rg.1).trans q.2.2 rg.1⟩
          rw [dropi]
          exact bnd_inl q.1
      · rw [if_neg y]
        unfold x_holds_j119
        rintro t21 ht21
        rw [← hs'] at ht21
        rw [ht21]
        have kk := okX.trans rg.1 k1 ko
        rcases hst with ⟨rfl, wi, li, hf⟩ | ⟨rfl, ρ', hf, eb, lb⟩
        · have ei' : i = L.length := by
            have : ¬ ((i : Int) < (L.length : Int)) := fun k => y ⟨k, rfl⟩
            omega
          refine ⟨sti, none, Or.inl ⟨z, bnd_inr e1 (hf _ ?_)⟩, kk, Or.inl ⟨rfl, rfl⟩⟩
          rw [ei', List.drop_length]
          rfl
        · have hb' := bX0_ey (N := fun _ => True) (EyX.of_fr fs' rfl) lb (fun v _ _ => by rw [fs'.a _ rfl])
          exact ⟨sti, some ρ', Or.inl ⟨z, bnd_inr e1 hf⟩, kk, Or.inr ⟨ρ', rfl, rfl, hb'.1.trans eb, hb'.2⟩⟩
    · rw [if_neg z]
      have g6 := xs_isTrue c (fo_x_S_toRest m) (hD m (by omega)) hs c0 (by omega) z h w hb hρ ei ek si
      rw [← xe_toRest_6] at g6
      refine fo_x_S_toRest (m + 1) _ _ _ _ _ _ _ g6 (fun r27 t26 f26 q => ?_) (fun t26 f26 q => ⟨Or.inr ⟨z, bnd_inl q.1⟩, q.2⟩)
      obtain ⟨st1, b, e1, er, k1, bb⟩ := q
      have w1 := isTrueE_wi hM (RE_wi (mo := mo) hM hE (max 1 D)) hC.1 (fun v v0 ho => EK.at ei ek (hC.2.2.1 z v v0 ho)) (fun z2 => ⟨(hC.2.1 z2).1, fun v v0 ho => EK.at ei ek ((hC.2.1 z2).2 v v0 ho)⟩) w e1
      cases b with
      | false =>
        rw [if_pos (by rw [er]; rfl)]
        unfold x_holds_j52
        exact ⟨st1, none, Or.inr ⟨z, bnd_inr e1 (Or.inr ⟨rfl, rfl⟩)⟩, k1, Or.inl ⟨rfl, rfl⟩⟩
      | true =>
        rw [if_neg (by rw [er]; decide)]
        have hb1 := bX0_ey k1.2.1 hb bb
        have recur := ih (m + 1) (by omega) t26 st1 (cc + 1) ρ (by omega) (by omega) k1.1 w1.1 hb1.2 (hb1.1.trans hρ) (ei.up z) (ek.le w1.2) (si.next k1)
        refine fo_x_S_toRest (m + 1) _ _ _ _ _ _ _ recur (fun r32 t31 f31 q => ?_) (fun t31 f31 q => ⟨Or.inr ⟨z, bnd_inr e1 (Or.inl ⟨rfl, q.1⟩)⟩, q.2.pre rg.1 k1⟩)
        obtain ⟨st2, qq, e2, k2, hq⟩ := q
        have kk := okX.trans rg.1 k1 k2
        rcases hq with ⟨rfl, rfl⟩ | ⟨ρ', rfl, rfl, eb, lb⟩
        · rw [if_pos rfl]
          unfold x_holds_j52
          exact ⟨st2, none, Or.inr ⟨z, bnd_inr e1 (Or.inl ⟨rfl, e2⟩)⟩, kk, Or.inl ⟨rfl, rfl⟩⟩
        · rw [if_neg (by decide)]
          exact ⟨st2, some ρ', Or.inr ⟨z, bnd_inr e1 (Or.inl ⟨rfl, e2⟩)⟩, kk, Or.inr ⟨ρ', rfl, rfl, eb, lb⟩⟩
end

/-! RewriteHouse: reducing, a term in process -/
section
variable {M : Mo} {R : Ru} {mo : Int} {σ0 : S} {a0 r0 : Int}
/-- in process: one deeper, the chain above its start -/
def okC (M : Mo) (R : Ru) (mo : Int) (σ0 σ : S) (sti : ST) (s : S) : Prop := XR M R mo σ0 sti s ∧ gwX σ s ∧
  ((gI s 106 = gI σ 106 ∧ gI s 143 = gI σ 143 ∧ gI s 123 = gI σ 123 ∧ gI s 139 = gI σ 139 + 1 ∧ gI s 138 = gI σ 138 ∧ gI s 134 = gI σ 134 ∧ gI σ 141 ≤ gI s 141) ∧
  (∀ j, j < gI σ 106 → gA s 74 j = gA σ 74 j) ∧ (∀ j, j < gI σ 141 → gA s 91 j = gA σ 91 j) ∧ (∀ j, j < gI σ 143 → gA s 92 j = gA σ 92 j) ∧ ∀ j, j < 62 * gI σ 123 → gA s 86 j = gA σ 86 j) ∧ stS sti ≥ gI σ 131 ∧ stQ sti ≥ gI σ 128
theorem okC.run {σ s t : S} {sti st1 : ST} (hn : 1 ≤ gI σ 93) (h : okC M R mo σ0 σ sti s) (k : okX M R mo σ0 s st1 t) : okC M R mo σ0 σ st1 t ∧ gI t 141 = gI s 141 ∧ ∀ j, j < gI s 141 → gA t 91 j = gA s 91 j := by
  obtain ⟨⟨-, -, -, ⟨⟨c1, -, c3, -⟩, -⟩, -⟩, g, ⟨⟨o1, o2, o3, o4, o5, o6, o7⟩, v1, v2, v3, v4⟩, n, m⟩ := h
  obtain ⟨x2, g2, ⟨⟨p1, p2, p3, p4, p5, p6, p7⟩, u1, u2, u3, u4⟩, n2, m2⟩ := k
  exact ⟨⟨x2, g.trans g2 hn, ⟨⟨by rw [p1, o1], by rw [p3, o2], by rw [p4, o3], by rw [p5, o4], by rw [p6, o5], by rw [p7, o6], by rw [p2]; exact o7⟩, fun j hj => by rw [u1 j (by omega), v1 j hj], fun j hj => by rw [u2 j (by omega), v2 j hj], fun j hj => by rw [u3 j (by omega), v3 j hj], fun j hj => by rw [u4 j (by omega), v4 j hj]⟩, by omega, by omega⟩, p2, u2⟩
/-- what came -/
def chM (s : S) (c0 : Int) (chl : List Tr) : Prop := (∀ k, c0 ≤ k → k < gI s 141 → lvX s (gA s 91 k)) ∧ ∀ t, t ∈ chl ↔ ∃ k, c0 ≤ k ∧ k < gI s 141 ∧ tX s (gA s 91 k) = t
theorem chM.run {s t : S} {c0 : Int} {chl : List Tr} (h : chM s c0 chl) (g : gwX s t) (e : gI t 141 = gI s 141) (f : ∀ j, j < gI s 141 → gA t 91 j = gA s 91 j) : chM t c0 chl := by
  refine ⟨fun k k0 k1 => by rw [f k (by omega)]; exact g.lv (h.1 k k0 (by omega)), fun u => ?_⟩
  rw [h.2 u]
  constructor
  · rintro ⟨k, k0, k1, e1⟩
    exact ⟨k, k0, by omega, by rw [f k k1, g.2.1 _ (h.1 k k0 k1)]; exact e1⟩
  · rintro ⟨k, k0, k1, e1⟩
    have k1' : k < gI s 141 := by omega
    rw [f k k1', g.2.1 _ (h.1 k k0 k1')] at e1
    exact ⟨k, k0, k1', e1⟩
/-- one more comes -/
theorem push_ch {σ s s1 s2 : S} {sti : ST} {x : Int} {chl : List Tr} (hn0 : 1 ≤ gI σ0 93) (hn : 1 ≤ gI σ 93) (h : okC M R mo σ0 σ sti s) (hc : chM s (gI σ 141) chl) (lx : lvX s x) (h1 : s1 = pI s 141 (gI s 141 + 1)) (h2 : s2 = pA s1 91 (gI s 141) x) : okC M R mo σ0 σ sti s2 ∧ chM s2 (gI σ 141) (tX s x :: chl) ∧ gI s2 141 = gI s 141 + 1 ∧ gwX s s2 ∧ Fr ([141], [], [91]) s s2 := by
  have f : Fr ([141], [], [91]) s s2 := (Fr.rf.putI h1 rfl).putA h2 rfl
  have g : gwX s s2 := EyX.of_fr f rfl
  have ec : gI s2 141 = gI s 141 + 1 := by rw [h2, h1]; rfl
  have hv : ∀ j, gA s2 91 j = if j = gI s 141 then x else gA s 91 j := fun j => by rw [h2, h1]; simp [gI_pI, gI_pL, gI_pA, gL_pI, gL_pL, gL_pA, gA_pI, gA_pL, gA_pA]
  obtain ⟨xr, gg, ⟨⟨o1, o2, o3, o4, o5, o6, o7⟩, v1, v2, v3, v4⟩, n, m⟩ := h
  refine ⟨⟨xr.fr hn0 f rfl rfl rfl rfl rfl (leS.rf _) ?_, gg.trans g hn, ⟨⟨by rw [f.i _ rfl, o1], by rw [f.i _ rfl, o2], by rw [f.i _ rfl, o3], by rw [f.i _ rfl, o4], by rw [f.i _ rfl, o5], by rw [f.i _ rfl, o6], by omega⟩, fun j hj => by rw [f.a _ rfl, v1 j hj], fun j hj => by rw [hv, if_neg (by omega), v2 j hj], fun j hj => by rw [f.a _ rfl, v3 j hj], fun j hj => by rw [f.a _ rfl, v4 j hj]⟩, n, m⟩, ⟨fun k k0 k1 => ?_, fun u => ?_⟩, ec, g, f⟩
  · obtain ⟨⟨d1, d2, d3, d4, d5⟩, d⟩ := xr.2.2.2.1
    exact ⟨⟨by rw [f.i _ rfl, d1], by rw [f.i _ rfl, d2], by rw [f.i _ rfl, d3], by rw [f.l _ rfl, d4], by rw [f.l _ rfl, d5]⟩, d⟩
  · rw [hv]
    split
    · exact g.lv lx
    · exact g.lv (hc.1 k k0 (by omega))
  · rw [List.mem_cons, hc.2 u]
    constructor
    · rintro (e | ⟨k, k0, k1, e⟩)
      · exact ⟨gI s 141, by omega, by omega, by rw [hv, if_pos rfl, g.2.1 x lx, e]⟩
      · exact ⟨k, k0, by omega, by rw [hv, if_neg (by omega), g.2.1 _ (hc.1 k k0 k1), e]⟩
    · rintro ⟨k, k0, k1, e⟩
      by_cases z : k = gI s 141
      · left
        rw [hv, if_pos z, g.2.1 x lx] at e
        exact e.symm
      · right
        have k1' : k < gI s 141 := by omega
        rw [hv, if_neg z, g.2.1 _ (hc.1 k k0 k1')] at e
        exact ⟨k, k0, k1', e⟩
/-- what a node came to -/
theorem came_x {st : ST} {s : S} {x : Int} (h : XR M R mo σ0 st s) (lx : lvX s x) {r : Int} (hr : r = if lab (tX s x) < 0 then x else gA s 75 x) : (r = 0 ↔ came st (tX s x) = .nil) ∧ (r ≠ 0 → lvX s r ∧ tX s r = came st (tX s x)) := by
  have a := h.2.1.1 x lx
  unfold came
  by_cases z : lab (tX s x) < 0
  · rw [if_pos z] at hr ⊢
    subst hr
    exact ⟨⟨fun e => by have := lx.1; omega, fun e => absurd e (isT_nn (h.1.T lx))⟩, fun _ => ⟨lx, rfl⟩⟩
  · rw [if_neg z] at hr ⊢
    subst hr
    rw [← a.2]
    rcases a.1 with e | l
    · rw [e, oX_0]
      exact ⟨⟨fun _ => rfl, fun _ => rfl⟩, fun n => absurd rfl n⟩
    · rw [oX_n l]
      exact ⟨⟨fun e => by have := l.1; omega, fun e => absurd e (isT_nn (h.1.T l))⟩, fun _ => ⟨l, rfl⟩⟩
/-- the end: all that came have their rest -/
theorem fin_x (c : cxR M R mo σ0 a0 r0) {σ s : S} {sti : ST} {chl : List Tr} {r d : Int} {T : Tr} {st : ST} {G : Orc} (hG : FrO wX_toRest G) (hn : 1 ≤ gI σ 93) (ot : okT M T) (hms : Ms M R st) (hk : okC M R mo σ0 σ sti s) (hc : chM s (gI σ 141) chl) (lr : lvX s r) (hw : WI M R a0 r0 0 0 sti) (hd : gI σ 139 = d) (hd0 : 0 ≤ d) (hd1 : d ≤ 60) (hcm : 0 ≤ gI σ 141 ∧ gI s 141 ≤ 1600) (hrun : RE (Wr M R mo) d T st (.inr (tX s r, finE chl (tX s r) sti))) :
    x_toRest_j151 G (gI σ 141) r s (fun r s => ∃ st', RE (Wr M R mo) d T st (.inr (tX s r, st')) ∧ lvX s r ∧ okX M R mo σ0 σ st' s) (fun s => RE (Wr M R mo) d T st (.inl (gI s 1006, gI s 131)) ∧ noX M σ s) := by
  have hM := c.1.wm
  have hE := hE_of c
  have hn0 := c.2.1.1
  obtain ⟨xr, gg, ⟨⟨o1, o2, o3, o4, o5, o6, o7⟩, v1, v2, v3, v4⟩, n, m⟩ := hk
  have rgs := xr.1.rg
  have ms' : Ms M R (finE chl (tX s r) sti) := (RE_sn (mo := mo) hM hE d _ _ _ _ _ ot (PA_no hms) (dm_no _) hrun).1.1.1
  unfold x_toRest_j151
  refine lx_toRest_L154 hG (fun v5 t => gI σ 141 ≤ v5 ∧ v5 ≤ gI s 141 ∧ Fr ([], [], [75]) s t ∧ ∀ x, lvX s x → gA t 75 x = @ite _ (∃ k, gI σ 141 ≤ k ∧ k < v5 ∧ gA s 91 k = x) (Classical.propDecidable _) r (gA s 75 x))
    (fun v5 _ => (gI s 141 - v5).toNat) ⟨Int.le_refl _, o7, Fr.rf, fun x hx => by rw [if_neg]; rintro ⟨k, k0, k1, -⟩; omega⟩ ?_
  rintro v5 t fr0 ⟨b0, b1, ft, hv⟩
  try dsimp only
  rw [ft.i 141 rfl]
  by_cases h5 : v5 < gI s 141
  · rw [if_pos h5]
    have lc := hc.1 v5 b0 h5
    refine ⟨⟨by omega, by omega⟩, ?_⟩
    rw [ft.a 91 rfl]
    refine ⟨⟨by have := lc.1; omega, by have := lc.2; omega⟩, ?_⟩
    rintro t1 ht1
    rw [w32_id (by omega) (by omega)]
    refine ⟨⟨by omega, by omega, ft.putA ht1 rfl, fun x hx => ?_⟩, by omega⟩
    rw [ht1]
    simp only [gI_pI, gI_pL, gI_pA, gL_pI, gL_pL, gL_pA, gA_pI, gA_pL, gA_pA]
    by_cases e : x = gA s 91 v5
    · rw [if_pos ⟨trivial, e⟩, if_pos ⟨v5, b0, by omega, e.symm⟩]
    · rw [if_neg (fun z => e z.2), hv x hx]
      by_cases q : ∃ k, gI σ 141 ≤ k ∧ k < v5 ∧ gA s 91 k = x
      · rw [if_pos q]
        obtain ⟨k, k0, k1, ek⟩ := q
        rw [if_pos ⟨k, k0, by omega, ek⟩]
      · rw [if_neg q, if_neg]
        rintro ⟨k, k0, k1, ek⟩
        by_cases z : k = v5
        · subst z; exact e ek.symm
        · exact q ⟨k, k0, by omega, ek⟩
  · rw [if_neg h5]
    have e5 : v5 = gI s 141 := by omega
    subst e5
    unfold x_toRest_j183
    rintro t23 ht23
    have rb : inb r 200000 := ⟨by have := lr.1; omega, by have := lr.2; omega⟩
    refine ⟨rb, ?_⟩
    have f23 : Fr ([141], [], [75]) s t23 := (ft.weak rfl).putI ht23 rfl
    have eW : gA t23 66 r = lab (tX s r) := by rw [f23.a _ rfl, tX_row xr.1 lr, lab_N]
    rw [eW]
    have hv23 : ∀ x, lvX s x → gA t23 75 x = @ite _ (tX s x ∈ chl) (Classical.propDecidable _) r (gA s 75 x) := by
      intro x hx
      have e1 : gA t23 75 x = gA t 75 x := by rw [ht23]; rfl
      rw [e1, hv x hx]
      by_cases q : tX s x ∈ chl
      · rw [if_pos q, if_pos]
        obtain ⟨k, k0, k1, e⟩ := (hc.2 _).mp q
        exact ⟨k, k0, k1, xr.1.inj (hc.1 k k0 k1) hx e⟩
      · rw [if_neg q, if_neg]
        rintro ⟨k, k0, k1, e⟩
        exact q ((hc.2 _).mpr ⟨k, k0, k1, by rw [e]⟩)
    -- the state at the end
    have endS : ∀ t30, Fr ([141], [], [75]) s t30 → gI t30 141 = gI σ 141 → (∀ x, lvX s x → gA t30 75 x = @ite _ (tX s x ∈ chl ∨ (tX s x = tX s r ∧ 0 ≤ lab (tX s r))) (Classical.propDecidable _) r (gA s 75 x)) → x_toRest_j207 G r t30 (fun r s => ∃ st', RE (Wr M R mo) d T st (.inr (tX s r, st')) ∧ lvX s r ∧ okX M R mo σ0 σ st' s) (fun s => RE (Wr M R mo) d T st (.inl (gI s 1006, gI s 131)) ∧ noX M σ s) := by
      intro t30 f30 ec30 hv30
      unfold x_toRest_j207
      rintro t31 ht31
      have dp30 : gI t30 139 = d + 1 := by rw [f30.i _ rfl, o4, hd]
      rw [dp30, w32_id (by omega) (by omega)] at ht31
      have f31 : Fr ([141, 139], [], [75]) s t31 := (f30.weak rfl).putI ht31 rfl
      have g31 : gwX s t31 := EyX.of_fr f31 rfl
      have rest31 : ∀ x, gA t31 75 x = gA t30 75 x := fun x => by rw [ht31]; rfl
      have le : leS sti (finE chl (tX s r) sti) := by
        refine ⟨leM_of hw.1 ms' (fun t t0 ht => ?_), fun u hu => hu⟩
        show @ite _ (t ∈ chl ∨ (t = tX s r ∧ 0 ≤ lab (tX s r))) (Classical.propDecidable _) (tX s r) (stM sti t) ≠ .nil
        split
        · exact isT_nn (xr.1.T lr)
        · exact ht
      have xm : XM (finE chl (tX s r) sti) t31 := by
        refine ⟨fun x hx => ?_, fun t ht => ?_⟩
        · have hxs : lvX s x := ⟨hx.1, by have := hx.2; rw [f31.i _ rfl] at this; exact this⟩
          have ex : tX t31 x = tX s x := g31.2.1 x hxs
          have ev : stM (finE chl (tX s r) sti) (tX t31 x) = @ite _ (tX s x ∈ chl ∨ (tX s x = tX s r ∧ 0 ≤ lab (tX s r))) (Classical.propDecidable _) (tX s r) (stM sti (tX s x)) := by rw [ex]; rfl
          rw [rest31, hv30 x hxs, ev]
          by_cases q : tX s x ∈ chl ∨ (tX s x = tX s r ∧ 0 ≤ lab (tX s r))
          · rw [if_pos q, if_pos q]
            exact ⟨Or.inr (g31.lv lr), by rw [oX_n (g31.lv lr), g31.2.1 r lr]⟩
          · rw [if_neg q, if_neg q]
            have a := xr.2.1.1 x hxs
            have b := oX_ey g31 a.1
            exact ⟨b.1, b.2.trans a.2⟩
        · have ht' : (@ite _ (t ∈ chl ∨ (t = tX s r ∧ 0 ≤ lab (tX s r))) (Classical.propDecidable _) (tX s r) (stM sti t)) ≠ .nil := ht
          by_cases q : t ∈ chl ∨ (t = tX s r ∧ 0 ≤ lab (tX s r))
          · rcases q with q | q
            · obtain ⟨k, k0, k1, e⟩ := (hc.2 t).mp q
              have l := hc.1 k k0 k1
              exact ⟨_, g31.lv l, (g31.2.1 _ l).trans e⟩
            · exact ⟨r, g31.lv lr, (g31.2.1 r lr).trans q.1.symm⟩
          · rw [if_neg q] at ht'
            obtain ⟨x, l, e⟩ := xr.2.1.2 t ht'
            exact ⟨x, g31.lv l, (g31.2.1 x l).trans e⟩
      have cc : XC mo (finE chl (tX s r) sti) t31 := by
        obtain ⟨⟨d1, d2, d3, d4, d5⟩, d⟩ := xr.2.2.2.1
        exact ⟨⟨by rw [f31.i _ rfl, d1]; rfl, by rw [f31.i _ rfl, d2]; rfl, by rw [f31.i _ rfl, d3]; rfl, by rw [f31.l _ rfl, d4]; rfl, by rw [f31.l _ rfl, d5]⟩, d⟩
      have x31 : XR M R mo σ0 (finE chl (tX s r) sti) t31 := ⟨xr.1.fr f31 rfl, xm, (xr.2.2.1.mono (fun t => CV.le le)).trans (EyX.of_fr f31 rfl) hn0, cc, fun k hk => (xr.2.2.2.2 k hk).to g31 (f31.a _ rfl) (f31.a _ rfl) (f31.a _ rfl) (f31.a _ rfl)⟩
      refine ⟨finE chl (tX s r) sti, by rw [g31.2.1 r lr]; exact hrun, g31.lv lr, ⟨x31, gg.trans g31 hn, ⟨⟨by rw [f31.i _ rfl, o1], ?_, by rw [f31.i _ rfl, o2], by rw [f31.i _ rfl, o3], ?_, by rw [f31.i _ rfl, o5], by rw [f31.i _ rfl, o6]⟩, fun j hj => by rw [f31.a _ rfl, v1 j hj], fun j hj => by rw [f31.a _ rfl, v2 j hj], fun j hj => by rw [f31.a _ rfl, v3 j hj], fun j hj => by rw [f31.a _ rfl, v4 j hj]⟩, n, m⟩⟩
      · rw [ht31]; exact ec30
      · rw [ht31]; simp only [gI_pI, gI_pL, gI_pA, gL_pI, gL_pL, gL_pA, gA_pI, gA_pL, gA_pA]; rw [if_pos trivial, hd]; omega
    have ec23 : gI t23 141 = gI σ 141 := by rw [ht23]; rfl
    by_cases hl : lab (tX s r) < 0
    · rw [if_pos hl]
      refine endS t23 f23 ec23 (fun x hx => ?_)
      rw [hv23 x hx]
      by_cases q : tX s x ∈ chl
      · rw [if_pos q, if_pos (Or.inl q)]
      · rw [if_neg q, if_neg]
        rintro (z | z)
        · exact q z
        · omega
    · rw [if_neg hl]
      refine ⟨rb, ?_⟩
      rintro t32 ht32
      refine endS t32 (f23.putA ht32 rfl) (by rw [ht32]; exact ec23) (fun x hx => ?_)
      rw [ht32]
      simp only [gI_pI, gI_pL, gI_pA, gL_pI, gL_pL, gL_pA, gA_pI, gA_pL, gA_pA]
      by_cases e : x = r
      · rw [if_pos ⟨trivial, e⟩, if_pos (Or.inr ⟨by rw [e], by omega⟩)]
      · rw [if_neg (fun z => e z.2), hv23 x hx]
        by_cases q : tX s x ∈ chl
        · rw [if_pos q, if_pos (Or.inl q)]
        · rw [if_neg q, if_neg]
          rintro (z | z)
          · exact q z
          · exact e (xr.1.inj hx lr z.1)
end

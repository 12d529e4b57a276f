/-! RewriteHouseModel: reducing, a term in process -/
section
variable {M : Mo} {R : Ru} {mo : Int} {σ0 : S} {a0 r0 : Int} {sx : Int → Int}
/-- more may have come -/
def okD (M : Mo) (R : Ru) (mo : Int) (sx : Int → Int) (σ0 σ : S) (sti : ST) (s : S) : Prop := TR M R mo sx σ0 sti s ∧ gwT σ s ∧ ((gI s 83 = gI σ 83 ∧ gI s 113 = gI σ 113 ∧ gI σ 126 ≤ gI s 126) ∧ (∀ j, j < gI σ 83 → gA s 58 j = gA σ 58 j) ∧ (∀ j, j < gI σ 113 → gA s 79 j = gA σ 79 j) ∧ ∀ j, j < gI σ 126 → gA s 80 j = gA σ 80 j) ∧ stS sti ≥ gI σ 120 ∧ stQ sti ≥ gI σ 119
theorem okD.run {σ s t : S} {sti st1 : ST} (hn : 0 ≤ gI σ 80) (h : okD M R mo sx σ0 σ sti s) (k : okY M R mo sx σ0 s st1 t) : okD M R mo sx σ0 σ st1 t ∧ gI t 126 = gI s 126 ∧ ∀ j, j < gI s 126 → gA t 80 j = gA s 80 j := by
  obtain ⟨⟨-, -, -, ⟨⟨c1, -, c3, -⟩, -⟩, -⟩, g, ⟨⟨a1, a2, a3⟩, b1, b2, b3⟩, n, m⟩ := h
  obtain ⟨x2, g2, ⟨⟨e1, e2, e3⟩, d1, d2, d3⟩, n2, m2⟩ := k
  exact ⟨⟨x2, g.trans g2 hn, ⟨⟨e1.trans a1, e2.trans a2, by omega⟩, fun j hj => (d1 j (by omega)).trans (b1 j hj), fun j hj => (d2 j (by omega)).trans (b2 j hj), fun j hj => (d3 j (by omega)).trans (b3 j hj)⟩, by omega, by omega⟩, e3, d3⟩
/-- those that came, as a list -/
def chT (s : S) (c0 : Int) (chl : List Tr) : Prop := (∀ k, c0 ≤ k → k < gI s 126 → lvT s (gA s 80 k)) ∧ ∀ t, t ∈ chl ↔ ∃ k, c0 ≤ k ∧ k < gI s 126 ∧ tT s (gA s 80 k) = t
theorem chT.run {s t : S} {c0 : Int} {chl : List Tr} (h : chT s c0 chl) (g : gwT s t) (e : gI t 126 = gI s 126) (f : ∀ j, j < gI s 126 → gA t 80 j = gA s 80 j) : chT t c0 chl := by
  refine ⟨fun k k0 k1 => ?_, fun u => ?_⟩
  · rw [f k (by omega)]
    exact g.lv (h.1 k k0 (by omega))
  · rw [h.2]
    constructor
    · rintro ⟨k, k0, k1, z⟩
      exact ⟨k, k0, by omega, by rw [f k k1, g.2.1 _ (h.1 k k0 k1), z]⟩
    · rintro ⟨k, k0, k1, z⟩
      have k1' : k < gI s 126 := by omega
      rw [f k k1', g.2.1 _ (h.1 k k0 k1')] at z
      exact ⟨k, k0, k1', z⟩
theorem push_cT {σ s s1 s2 : S} {sti : ST} {x : Int} {chl : List Tr} (hn0 : 0 ≤ gI σ0 80) (hn : 0 ≤ gI σ 80) (h : okD M R mo sx σ0 σ sti s) (hc : chT s (gI σ 126) chl) (lx : lvT s x) (c1 : 0 ≤ gI s 126 ∧ gI s 126 < 60000) (h1 : s1 = pA s 80 (gI s 126) x) (h2 : s2 = pI s1 126 (w32 (gI s1 126 + 1))) : okD M R mo sx σ0 σ sti s2 ∧ chT s2 (gI σ 126) (tT s x :: chl) ∧ gI s2 126 = gI s 126 + 1 ∧ gwT s s2 ∧ Fr ([126], [], [80]) s s2 := by
  have e1 : gI s1 126 = gI s 126 := by rw [h1]; rfl
  rw [e1, w32_id (by omega) (by omega)] at h2
  have f : Fr ([126], [], [80]) s s2 := (Fr.rf.putA h1 rfl).putI h2 rfl
  have g : gwT s s2 := EyT.of_fr f rfl
  have ec : gI s2 126 = gI s 126 + 1 := by rw [h2]; simp only [gI_pI, gI_pL, gI_pA, gL_pI, gL_pL, gL_pA, gA_pI, gA_pL, gA_pA]; rw [if_pos trivial]
  have hv : ∀ j, gA s2 80 j = if j = gI s 126 then x else gA s 80 j := fun j => by
    rw [h2, h1]
    simp only [gI_pI, gI_pL, gI_pA, gL_pI, gL_pL, gL_pA, gA_pI, gA_pL, gA_pA]
    by_cases z : j = gI s 126
    · rw [if_pos ⟨trivial, z⟩, if_pos z]
    · rw [if_neg (fun q => z q.2), if_neg z]
  obtain ⟨xr, gg, ⟨⟨a1, a2, a3⟩, b1, b2, b3⟩, n, m⟩ := h
  refine ⟨⟨xr.fr hn0 f rfl rfl rfl rfl rfl (leS.rf _) ?_, gg.trans g hn, ⟨⟨by rw [f.i _ rfl, a1], by rw [f.i _ rfl, a2], by omega⟩, fun j hj => by rw [f.a _ rfl, b1 j hj], fun j hj => by rw [f.a _ rfl, b2 j hj], fun j hj => ?_⟩, n, m⟩, ⟨fun k k0 k1 => ?_, fun t => ?_⟩, ec, g, f⟩
  · obtain ⟨⟨d1, d2, d3, d4, d5⟩, dd⟩ := xr.2.2.2.1
    exact ⟨⟨by rw [f.i _ rfl, d1], by rw [f.i _ rfl, d2], by rw [f.i _ rfl, d3], by rw [f.l _ rfl, d4], by rw [f.i _ rfl, d5]⟩, dd⟩
  · rw [hv, if_neg (by omega), b3 j hj]
  · rw [hv]
    by_cases z : k = gI s 126
    · rw [if_pos z]; exact g.lv lx
    · rw [if_neg z]; exact g.lv (hc.1 k k0 (by omega))
  · rw [List.mem_cons, hc.2]
    constructor
    · rintro (e | ⟨k, k0, k1, e⟩)
      · exact ⟨gI s 126, by omega, by omega, by rw [hv, if_pos rfl, g.2.1 x lx, e]⟩
      · exact ⟨k, k0, by omega, by rw [hv, if_neg (by omega), g.2.1 _ (hc.1 k k0 k1), e]⟩
    · rintro ⟨k, k0, k1, e⟩
      by_cases z : k = gI s 126
      · left
        rw [hv, if_pos z, g.2.1 x lx] at e
        exact e.symm
      · right
        have k1' : k < gI s 126 := by omega
        rw [hv, if_neg z, g.2.1 _ (hc.1 k k0 k1')] at e
        exact ⟨k, k0, k1', e⟩
/-- the end: all that came have their rest -/
theorem fin_t (c : cxT2 M R mo σ0 a0 r0) {σ s : S} {sti : ST} {chl : List Tr} {r d : Int} {T : Tr} {st : ST} {G : Orc} (hG : FrO wT_reduced G) (hn : 0 ≤ gI σ 80) (ot : okT M T) (hms : Ms M R st) (hk : okD M R mo sx σ0 σ sti s) (hc : chT s (gI σ 126) chl) (lr : lvT s r) (hw : WI M R a0 r0 0 0 sti) (hcm : 0 ≤ gI σ 126 ∧ gI s 126 ≤ 60000) (hrun : RE (Wr M R mo) d T st (.inr (tT s r, finE chl (tT s r) sti))) (hrr : 0 ≤ lab (tT s r) → tT s r ∈ chl ∨ stM sti (tT s r) = tT s r) :
    t_reduced_L211 G (gI σ 126) r s (fun r s => ∃ st', RE (Wr M R mo) d T st (.inr (tT s r, st')) ∧ lvT s r ∧ okY M R mo sx σ0 σ st' s) (fun s => RE (Wr M R mo) d T st (.inl (gI s 1006, gI s 120)) ∧ noY M σ s) := by
  have hM := c.1.wm
  have hE := hE_ofT c
  have hn0 := c.2.1.1
  obtain ⟨xr, gg, ⟨⟨o1, o2, o3⟩, v1, v2, v3⟩, n, m⟩ := hk
  have rgs := xr.1.rg
  have ms' : Ms M R (finE chl (tT s r) sti) := (RE_sn (mo := mo) hM hE d _ _ _ _ _ ot (PA_no hms) (dm_no _) hrun).1.1.1
  refine lt_reduced_L211 hG (fun t => gI σ 126 ≤ gI t 126 ∧ gI t 126 ≤ gI s 126 ∧ Fr ([126], [], [54, 55]) s t ∧ ∀ x, lvT s x → ((∃ k, gI t 126 ≤ k ∧ k < gI s 126 ∧ gA s 80 k = x) → gA t 55 x = gI s 121 ∧ gA t 54 x = r) ∧ (¬ (∃ k, gI t 126 ≤ k ∧ k < gI s 126 ∧ gA s 80 k = x) → gA t 55 x = gA s 55 x ∧ gA t 54 x = gA s 54 x))
    (fun t => (gI t 126 - gI σ 126).toNat) ⟨o3, Int.le_refl _, Fr.rf, fun x hx => ⟨fun ⟨k, k0, k1, _⟩ => by omega, fun _ => ⟨rfl, rfl⟩⟩⟩ ?_
  rintro t fr0 ⟨b0, b1, ft, hv⟩
  try dsimp only
  by_cases h5 : gI t 126 ≤ gI σ 126
  · rw [if_pos h5]
    have g : gwT s t := EyT.of_fr ft rfl
    have hv' : ∀ x, lvT s x → (tT s x ∈ chl → gA t 55 x = gI s 121 ∧ gA t 54 x = r) ∧ (tT s x ∉ chl → gA t 55 x = gA s 55 x ∧ gA t 54 x = gA s 54 x) := by
      intro x hx
      refine ⟨fun q => (hv x hx).1 ?_, fun q => (hv x hx).2 ?_⟩
      · obtain ⟨k, k0, k1, e⟩ := (hc.2 _).mp q
        exact ⟨k, by omega, k1, xr.1.inj (hc.1 k k0 k1) hx e⟩
      · rintro ⟨k, k0, k1, e⟩
        exact q ((hc.2 _).mpr ⟨k, by omega, k1, by rw [e]⟩)
    have le : leS sti (finE chl (tT s r) sti) := by
      refine ⟨leM_of hw.1 ms' (fun t t0 ht => ?_), fun u hu => hu⟩
      show @ite _ (t ∈ chl ∨ (t = tT s r ∧ 0 ≤ lab (tT s r))) (Classical.propDecidable _) (tT s r) (stM sti t) ≠ .nil
      split
      · exact isT_nn (xr.1.T lr)
      · exact ht
    have ecn : gI t 121 = gI s 121 := ft.i _ rfl
    have xm : TM (finE chl (tT s r) sti) t := by
      refine ⟨fun x hx => ?_, fun u hu => ?_⟩
      · have hxs : lvT s x := ⟨hx.1, by have := hx.2; rw [ft.i _ rfl] at this; exact this⟩
        have ex : tT t x = tT s x := g.2.1 x hxs
        have ev : stM (finE chl (tT s r) sti) (tT t x) = @ite _ (tT s x ∈ chl ∨ (tT s x = tT s r ∧ 0 ≤ lab (tT s r))) (Classical.propDecidable _) (tT s r) (stM sti (tT s x)) := by rw [ex]; rfl
        rw [ev, ecn]
        have a := xr.2.1.1 x hxs
        by_cases q : tT s x ∈ chl
        · rw [if_pos (Or.inl q), ((hv' x hxs).1 q).1, ((hv' x hxs).1 q).2]
          exact ⟨fun _ => ⟨g.lv lr, g.2.1 r lr⟩, fun z => absurd rfl z⟩
        · rw [((hv' x hxs).2 q).1, ((hv' x hxs).2 q).2]
          have same : @ite _ (tT s x ∈ chl ∨ (tT s x = tT s r ∧ 0 ≤ lab (tT s r))) (Classical.propDecidable _) (tT s r) (stM sti (tT s x)) = stM sti (tT s x) := by
            by_cases w : tT s x ∈ chl ∨ (tT s x = tT s r ∧ 0 ≤ lab (tT s r))
            · rw [if_pos w]
              rcases w with w | w
              · exact absurd w q
              · rw [w.1]
                rcases hrr w.2 with y | y
                · rw [← w.1] at y; exact absurd y q
                · exact y.symm
            · rw [if_neg w]
          rw [same]
          exact ⟨fun z => ⟨g.lv (a.1 z).1, (g.2.1 _ (a.1 z).1).trans (a.1 z).2⟩, a.2⟩
      · have ht' : (@ite _ (u ∈ chl ∨ (u = tT s r ∧ 0 ≤ lab (tT s r))) (Classical.propDecidable _) (tT s r) (stM sti u)) ≠ .nil := hu
        by_cases q : u ∈ chl ∨ (u = tT s r ∧ 0 ≤ lab (tT s r))
        · rcases q with q | q
          · obtain ⟨k, k0, k1, e⟩ := (hc.2 u).mp q
            have l := hc.1 k k0 k1
            exact ⟨_, g.lv l, (g.2.1 _ l).trans e⟩
          · exact ⟨r, g.lv lr, (g.2.1 r lr).trans q.1.symm⟩
        · rw [if_neg q] at ht'
          obtain ⟨x, l, e⟩ := xr.2.1.2 u ht'
          exact ⟨x, g.lv l, (g.2.1 x l).trans e⟩
    have cc : TC mo (finE chl (tT s r) sti) t := by
      obtain ⟨⟨d1, d2, d3, d4, d5⟩, d⟩ := xr.2.2.2.1
      exact ⟨⟨by rw [ft.i _ rfl, d1]; rfl, by rw [ft.i _ rfl, d2]; rfl, by rw [ft.i _ rfl, d3]; rfl, by rw [ft.l _ rfl, d4]; rfl, by rw [ft.i _ rfl, d5]⟩, d⟩
    have hcnt : CN t := by
      refine ⟨by rw [ecn]; exact xr.1.cn.1, fun x hx => ?_⟩
      have hxs : lvT s x := ⟨hx.1, by have := hx.2; rw [ft.i _ rfl] at this; exact this⟩
      rw [ecn]
      by_cases q : tT s x ∈ chl
      · rw [((hv' x hxs).1 q).1]; exact Int.le_refl _
      · rw [((hv' x hxs).2 q).1]; exact xr.1.cn.2 x hxs
    have x31 : TR M R mo sx σ0 (finE chl (tT s r) sti) t := ⟨(xr.1.fr0 hcnt ft rfl).1, xm, (xr.2.2.1.mono (fun t => CVt.le le)).trans (EyT.of_fr ft rfl) hn0, cc, xr.2.2.2.2.1.to g (ft.i _ rfl) (ft.a _ rfl) (ft.a _ rfl) (ft.a _ rfl) (ft.a _ rfl) (ft.a _ rfl) (ft.a _ rfl) (ft.a _ rfl) (ft.a _ rfl), by rw [ecn]; exact xr.2.2.2.2.2⟩
    exact ⟨finE chl (tT s r) sti, by rw [g.2.1 r lr]; exact hrun, g.lv lr, ⟨x31, gg.trans g hn, ⟨⟨by rw [ft.i _ rfl, o1], by rw [ft.i _ rfl, o2], by omega⟩, fun j hj => by rw [ft.a _ rfl, v1 j hj], fun j hj => by rw [ft.a _ rfl, v2 j hj], fun j hj => by rw [ft.a _ rfl, v3 j hj]⟩, n, m⟩⟩
  · rw [if_neg h5]
    rintro t12 ht12
    rw [w32_id (by omega) (by omega)] at ht12
    obtain ⟨v, hv0⟩ : ∃ z, z = gI t 126 - 1 := ⟨_, rfl⟩
    have e12 : gI t12 126 = v := by rw [ht12]; simp only [gI_pI, gI_pL, gI_pA, gL_pI, gL_pL, gL_pA, gA_pI, gA_pL, gA_pA]; rw [if_pos trivial, hv0]
    have f12 : Fr ([126], [], [54, 55]) s t12 := ft.putI ht12 rfl
    rw [e12]
    refine ⟨⟨by omega, by omega⟩, ?_⟩
    have lc := hc.1 v (by omega) (by omega)
    have eb : gA t12 80 v = gA s 80 v := by rw [f12.a _ rfl]
    rw [eb]
    have bx : inb (gA s 80 v) 200000 := ⟨lc.1, by have := lc.2; omega⟩
    unfold t_remember
    refine ⟨bx, ?_⟩
    rintro t2 ht2
    refine ⟨bx, ?_⟩
    rintro t5 ht5
    have f5 : Fr ([126], [], [54, 55]) s t5 := (f12.putA ht2 rfl).putA ht5 rfl
    have e5 : gI t5 126 = v := by rw [ht5, ht2]; exact e12
    have ecn : gI t12 121 = gI s 121 := f12.i _ rfl
    have rc : ∀ x, gA t5 55 x = if x = gA s 80 v then gI s 121 else gA t 55 x := fun x => by
      rw [ht5, ht2]
      simp only [gI_pI, gI_pL, gI_pA, gL_pI, gL_pL, gL_pA, gA_pI, gA_pL, gA_pA]
      rw [if_neg (by rintro ⟨z, -⟩; exact absurd z (by decide)), ecn]
      by_cases z : x = gA s 80 v
      · rw [if_pos ⟨trivial, z⟩, if_pos z]
      · rw [if_neg (fun q => z q.2), if_neg z, ht12]; rfl
    have ra : ∀ x, gA t5 54 x = if x = gA s 80 v then r else gA t 54 x := fun x => by
      rw [ht5, ht2]
      simp only [gI_pI, gI_pL, gI_pA, gL_pI, gL_pL, gL_pA, gA_pI, gA_pL, gA_pA]
      by_cases z : x = gA s 80 v
      · rw [if_pos ⟨trivial, z⟩, if_pos z]
      · rw [if_neg (fun q => z q.2), if_neg z, if_neg (by rintro ⟨z, -⟩; exact absurd z (by decide)), ht12]; rfl
    refine ⟨⟨by omega, by omega, f5, fun x hx => ?_⟩, by omega⟩
    rw [rc, ra, e5]
    by_cases z : x = gA s 80 v
    · rw [if_pos z, if_pos z]
      exact ⟨fun _ => ⟨rfl, rfl⟩, fun q => absurd ⟨v, Int.le_refl _, by omega, z.symm⟩ q⟩
    · rw [if_neg z, if_neg z]
      refine ⟨fun ⟨k, k0, k1, e⟩ => (hv x hx).1 ⟨k, ?_, k1, e⟩, fun q => (hv x hx).2 (fun ⟨k, k0, k1, e⟩ => q ⟨k, by omega, k1, e⟩)⟩
      have : k ≠ v := fun w => by rw [w] at e; exact z e.symm
      omega
theorem finE_nil {r : Tr} {st : ST} (h : 0 ≤ lab r → stM st r = r) : finE [] r st = st := by
  unfold finE
  refine Prod.ext ?_ rfl
  funext t
  show @ite _ (t ∈ [] ∨ (t = r ∧ 0 ≤ lab r)) (Classical.propDecidable _) r (stM st t) = stM st t
  by_cases q : t ∈ ([] : List Tr) ∨ (t = r ∧ 0 ≤ lab r)
  · rw [if_pos q]
    rcases q with q | q
    · cases q
    · rw [q.1, h q.2]
  · rw [if_neg q]
theorem came_self {st : ST} {t : Tr} (ht : isT t) (h : DR M st t) (h0 : 0 ≤ lab t) : stM st t = t := by
  have := h.2 t (subs_self ht)
  unfold came at this
  rwa [if_neg (by omega)] at this
/-- a term in process: to go on, or at its end -/
def tIv (M : Mo) (R : Ru) (mo : Int) (sx : Int → Int) (σ0 : S) (a0 r0 d c0 : Int) (σ : S) (st : ST) (x v4 v5 : Int) (s : S) : Prop := ∃ sti chl, okD M R mo sx σ0 σ sti s ∧ chT s c0 chl ∧ WI M R a0 r0 0 0 sti ∧
      ((v5 = -1 ∧ lvT s v4 ∧ okT M (tT s v4) ∧ KH M sti (tT s v4) ∧ (∀ o, (came sti (tT s v4) ≠ .nil ∧ o = .inr (came sti (tT s v4), finE chl (came sti (tT s v4)) sti)) ∨ (came sti (tT s v4) = .nil ∧ ((60 < d ∧ o = .inl (5, stS sti)) ∨ (¬ 60 < d ∧ Wr M R mo d chl (tT s v4) sti o))) → RE (Wr M R mo) d (tT σ x) st o) ∧ gI s 126 ≤ 2 * d + 2 * stS sti) ∨
       (0 ≤ v5 ∧ lvT s v5 ∧ RE (Wr M R mo) d (tT σ x) st (.inr (tT s v5, finE chl (tT s v5) sti)) ∧ (0 ≤ lab (tT s v5) → tT s v5 ∈ chl ∨ stM sti (tT s v5) = tT s v5) ∧ gI s 126 ≤ 60000))
def tMe (v5 : Int) (s : S) : Nat := if v5 < 0 then (602 - gI s 120).toNat else 0
abbrev tQq (M : Mo) (R : Ru) (mo : Int) (sx : Int → Int) (σ0 : S) (d : Int) (σ : S) (st : ST) (x : Int) : Int → S → Prop := fun r s => ∃ st', RE (Wr M R mo) d (tT σ x) st (.inr (tT s r, st')) ∧ lvT s r ∧ okY M R mo sx σ0 σ st' s
abbrev tEe (M : Mo) (R : Ru) (mo : Int) (d : Int) (σ : S) (st : ST) (x : Int) : S → Prop := fun s => RE (Wr M R mo) d (tT σ x) st (.inl (gI s 1006, gI s 120)) ∧ noY M σ s
theorem ts_reduced_at (c : cxT2 M R mo σ0 a0 r0) {d : Int} {n : Nat} (hR : d ≤ 60 → RRY M R mo sx σ0 a0 r0 d n) (hQ : d ≤ 60 → BEX M R mo sx σ0 a0 r0 d n) : TTX M R mo sx σ0 a0 r0 (t_S_reduced (n + 1)) d := by
  have hM := c.1.wm
  have hE := hE_ofT c
  have hn0 := c.2.1.1
  intro σ st x h w lx ot hk sy
  have rg := h.1.rg
  have eW : gA σ 48 x = lab (tT σ x) := (tT_kids h.1 lx).1.symm
  have cx := h.2.2.2.1
  have sy2 := sy
  obtain ⟨s1, s2, s3, s4⟩ := sy
  rw [te_reduced_0]
  unfold t_reduced_F
  refine ts_isVar h.1 lx ?_
  rw [eW]
  by_cases hv : lab (tT σ x) < 0
  · rw [bi_t hv, if_neg (by decide)]
    refine ⟨st, Or.inl ⟨?_, ?_⟩, lx, okY.rf h⟩
    · unfold came
      rw [if_pos hv]
      exact isT_nn ot.1.1
    · unfold came
      rw [if_pos hv]
  rw [bi_f hv, if_pos rfl]
  obtain ⟨c0, hc0⟩ : ∃ z, z = gI σ 126 := ⟨_, rfl⟩
  rw [← hc0]
  have k0 : okD M R mo sx σ0 σ st σ := ⟨h, EyT.rf _ _, ⟨⟨rfl, rfl, Int.le_refl _⟩, fun _ _ => rfl, fun _ _ => rfl, fun _ _ => rfl⟩, by rw [cx.1.1]; exact Int.le_refl _, by rw [cx.1.2.2.1]; exact Int.le_refl _⟩
  have m0 : chT σ c0 [] := ⟨fun k k0 k1 => by omega, fun t => ⟨fun z => absurd z (List.not_mem_nil), fun ⟨k, k0, k1, _⟩ => by omega⟩⟩
  refine lt_reduced_L21 (fo_t_S_reduced n) (tIv M R mo sx σ0 a0 r0 d c0 σ st x)
    (fun _ v5 s => tMe v5 s) ⟨st, [], k0, m0, w, Or.inl ⟨rfl, lx, ot, hk, fun o ho => ?_, by have := cx.1.1; omega⟩⟩ ?_
  · rcases ho with ⟨a, b⟩ | ⟨a, b | b⟩
    · refine Or.inl ⟨a, ?_⟩
      rw [b, finE_nil]
      intro l0
      exact came_self (came_DR ot w a).2.1.1 (came_DR ot w a).1 l0
    · exact Or.inr ⟨a, Or.inl b⟩
    · exact Or.inr ⟨a, Or.inr b⟩
  rintro v4 v5 s fr0 ⟨sti, chl, ko, hch, wi, hst⟩
  try dsimp only
  have xs := ko.1
  have cs := xs.2.2.2.1
  have st600 := cs.2.1
  have ss0 := cs.1.1
  have o3 := ko.2.2.1.1.2.2
  by_cases h5 : v5 < 0
  · rw [if_pos h5]
    obtain ⟨-, l4, ox, kx, hf, hb⟩ := hst.resolve_right (fun k => by omega)
    have eWs : gA s 48 v4 = lab (tT s v4) := (tT_kids xs.1 l4).1.symm
    refine ts_isVar xs.1 l4 ?_
    rw [eWs]
    by_cases hv4 : lab (tT s v4) < 0
    · rw [bi_t hv4, if_neg (by decide)]
      have cm : came sti (tT s v4) = tT s v4 := by unfold came; rw [if_pos hv4]
      have hr := hf _ (Or.inl ⟨by rw [cm]; exact isT_nn ox.1.1, rfl⟩)
      rw [cm] at hr
      refine ⟨⟨sti, chl, ko, hch, wi, Or.inr ⟨l4.1, l4, hr, fun z => by omega, by omega⟩⟩, ?_⟩
      unfold tMe
      rw [if_pos h5, if_neg (by have := l4.1; omega)]
      omega
    rw [bi_f hv4, if_pos rfl]
    have memo : ∀ (t : S) (x : Int) (Q : Int → S → Prop), TP M t → lvT t x → Q (if gA t 55 x = gI t 121 then gA t 54 x else -1) t → t_memo x t Q := by
      intro t x Q tp lx hQ
      have b : inb x 200000 := ⟨lx.1, by have := lx.2; have := tp.rg; omega⟩
      unfold t_memo
      exact ⟨b, fun _ => b, hQ⟩
    refine memo s v4 _ xs.1 l4 ?_
    obtain ⟨r23, hr23⟩ : ∃ z, z = if gA s 55 v4 = gI s 121 then gA s 54 v4 else -1 := ⟨_, rfl⟩
    rw [← hr23]
    have cm := came_t xs.1 xs.2.1 l4 (by omega) hr23
    by_cases h23 : r23 < 0
    rotate_left
    · rw [if_neg h23]
      refine memo s v4 _ xs.1 l4 ?_
      rw [← hr23]
      obtain ⟨lr, er⟩ := cm.2 (by omega)
      have cne : came sti (tT s v4) ≠ .nil := fun e => h23 (cm.1.mpr e)
      have hr := hf _ (Or.inl ⟨cne, rfl⟩)
      rw [← er] at hr
      refine ⟨⟨sti, chl, ko, hch, wi, Or.inr ⟨by omega, lr, hr, fun z => Or.inr ?_, by omega⟩⟩, ?_⟩
      · rw [er] at z ⊢
        exact came_self (came_DR ox wi cne).2.1.1 (came_DR ox wi cne).1 z
      · unfold tMe
        rw [if_pos h5, if_neg h23]
        omega
    rw [if_pos h23]
    have cnx := cm.1.mp h23
    have nilx := came_nil ox cnx
    by_cases hd : d ≤ 60
    rotate_left
    · rw [if_neg hd]
      refine ts_fail (fun s3 f3 i3 => ?_)
      refine ⟨?_, (xs.1.fr f3 rfl).1, ko.2.1.trans (EyT.of_fr f3 rfl) rg.1⟩
      rw [i3, show gI s3 120 = stS sti from (f3.i _ rfl).trans ss0]
      exact hf _ (Or.inr ⟨cnx, Or.inl ⟨by omega, rfl⟩⟩)
    rw [if_pos hd]
    have hf2 : ∀ o, Wr M R mo d chl (tT s v4) sti o → RE (Wr M R mo) d (tT σ x) st o := fun o ho => hf o (Or.inr ⟨cnx, Or.inr ⟨by omega, ho⟩⟩)
    unfold t_reduced_j74
    refine ⟨⟨by omega, by omega⟩, ?_⟩
    rintro t29 ht29 t33 ht33
    obtain ⟨k33, m33, ec33, g33, f33⟩ := push_cT (x := v4) hn0 rg.1 ko (by rw [← hc0]; exact hch) l4 ⟨by omega, by omega⟩ ht29 ht33
    rw [← hc0] at m33
    have et33 := g33.2.1 v4 l4
    have syOf : ∀ (t : S) (sj : ST), okD M R mo sx σ0 σ sj t → gI t 126 ≤ 2 * (d + 1) + 2 * stS sj → SY (d + 1) t := by
      intro t sj kj hj
      obtain ⟨xj, -, ⟨⟨o1, o2, o3⟩, -⟩, nj, mj⟩ := kj
      have cj := xj.2.2.2.1.1
      exact ⟨by omega, by rw [o1]; omega, by rw [cj.1]; omega, by rw [o2, cj.2.2.1]; omega⟩
    have sy33 : SY (d + 1) t33 := syOf t33 sti k33 (by omega)
    have tp33 : gI t33 83 = gI σ 83 := k33.2.2.1.1.1
    refine fo_t_S_reduced n _ _ _ _ _ _ _ (hR hd t33 sti v4 k33.1 wi (g33.lv l4) (by rw [et33]; exact ox) (by rw [et33]; exact kx) sy33 (by rw [tp33]; omega)) (fun r36 t35 f35 q => ?_) (fun t35 f35 q => ?_)
    rotate_left
    · rw [et33] at q
      exact ⟨hf2 _ (Wr_in (bnd_inl q.1)), q.2.1, k33.2.1.trans q.2.2 rg.1⟩
    obtain ⟨st1, e1, l36, kx1⟩ := q
    rw [et33] at e1
    obtain ⟨k35, ec35, ch35⟩ := k33.run rg.1 kx1
    have m35 := m33.run kx1.2.1 ec35 ch35
    have wr := redE_wi hM (RE_sn (mo := mo) hM hE (d + 1)) (RE_wi (mo := mo) (a0 := a0) (r0 := r0) hM hE (d + 1)) ox kx wi e1
    have o36 := wr.2.2.2
    have stm1 : stS st1 ≥ stS sti := by have := kx1.2.2.2.1; have := k33.1.2.2.2.1.1.1; omega
    have st1600 := k35.1.2.2.2.1.2.1
    have yx : tT t35 r36 = tT s v4 ↔ r36 = v4 := by
      have e4 : tT t35 v4 = tT s v4 := (kx1.2.1.2.1 v4 (g33.lv l4)).trans et33
      rw [← e4]
      exact ⟨fun e => k35.1.1.inj l36 (kx1.2.1.lv (g33.lv l4)) e, fun e => by rw [e]⟩
    -- behind the row: the equations
    have eqn : ∀ (t : S) (chl2 : List Tr), okD M R mo sx σ0 σ st1 t → chT t c0 chl2 → lvT t r36 → tT t r36 = tT t35 r36 → (∀ u, u ∈ chl2 ↔ u = tT t35 r36 ∨ u = tT s v4 ∨ u ∈ chl) → gI t 126 ≤ 2 * (d + 1) + 2 * stS st1 → ¬ (tT t35 r36 ≠ tT s v4 ∧ came st1 (tT t35 r36) ≠ .nil) →
        t_reduced_j182 (t_S_reduced n) d c0 r36 t (tQq M R mo sx σ0 d σ st x) (tEe M R mo d σ st x) (fun v4' v5' s' => tIv M R mo sx σ0 a0 r0 d c0 σ st x v4' v5' s' ∧ tMe v5' s' < tMe v5 s) := by
      intro t chl2 kt mt lt et hch2 hcb ny
      unfold t_reduced_j182
      have finC : ∀ r st2, finE chl2 r st2 = finE (tT t35 r36 :: tT s v4 :: chl) r st2 := by
        intro r st2
        unfold finE
        refine Prod.ext ?_ rfl
        funext u
        have iff : (u ∈ chl2 ∨ (u = r ∧ 0 ≤ lab r)) ↔ (u ∈ tT t35 r36 :: tT s v4 :: chl ∨ (u = r ∧ 0 ≤ lab r)) := by
          rw [hch2 u, List.mem_cons, List.mem_cons]
        show @ite _ (u ∈ chl2 ∨ (u = r ∧ 0 ≤ lab r)) (Classical.propDecidable _) r (stM st2 u) = @ite _ (u ∈ tT t35 r36 :: tT s v4 :: chl ∨ (u = r ∧ 0 ≤ lab r)) (Classical.propDecidable _) r (stM st2 u)
        by_cases q : u ∈ chl2 ∨ (u = r ∧ 0 ≤ lab r)
        · rw [if_pos q, if_pos (iff.mp q)]
        · rw [if_neg q, if_neg (fun z => q (iff.mpr z))]
      have mt2 : chT t c0 (tT t35 r36 :: tT s v4 :: chl) := ⟨mt.1, fun u => by rw [← mt.2 u, hch2 u, List.mem_cons, List.mem_cons]⟩
      have syt := syOf t st1 kt hcb
      refine fo_t_S_reduced n _ _ _ _ _ _ _ (hQ hd t st1 r36 kt.1 wr.1 lt (by rw [et]; exact o36) (by rw [et]; exact wr.2.2.1.1) syt) (fun r45 t44 f44 q => ?_) (fun t44 f44 q => ?_)
      rotate_left
      · rw [et] at q
        exact ⟨hf2 _ (Wr_in (bnd_inr e1 (Or.inr ⟨ny, bnd_inl q.1⟩))), q.2.1, kt.2.1.trans q.2.2 rg.1⟩
      obtain ⟨st2, qq, e2, kx2, hqq⟩ := q
      rw [et] at e2
      obtain ⟨k44, ec44, ch44⟩ := kt.run rg.1 kx2
      have m44 := mt2.run kx2.2.1 ec44 ch44
      have te := tryEqE_wi hM hE (RE_sn (mo := mo) hM hE (d + 1)) (RE_wi (mo := mo) (a0 := a0) (r0 := r0) hM hE (d + 1)) _ _ _ _ _ hE o36 wr.2.2.1.1 wr.1 e2
      have l36' : lvT t44 r36 := kx2.2.1.lv lt
      have et44 : tT t44 r36 = tT t35 r36 := (kx2.2.1.2.1 _ lt).trans et
      unfold t_reduced_j208
      have sst : gI t 120 = stS st1 := kt.1.2.2.2.1.1.1
      have sss : gI s 120 = stS sti := cs.1.1
      have s44 : gI t44 120 = stS st2 := k44.1.2.2.2.1.1.1
      rcases hqq with ⟨rfl, r45n⟩ | ⟨z, rfl, lz, ez, hsz⟩
      · rw [if_pos r45n]
        have n36 : ¬ r36 < 0 := by have := lt.1; omega
        refine ⟨⟨st2, _, k44, m44, te.1, Or.inr ⟨by omega, l36', ?_, fun _ => Or.inl (by rw [et44]; exact List.mem_cons_self ..), by omega⟩⟩, ?_⟩
        · rw [et44]
          exact hf2 _ (Wr_in (bnd_inr e1 (Or.inr ⟨ny, bnd_inr e2 rfl⟩)))
        · unfold tMe
          rw [if_neg n36, if_pos h5]
          omega
      · have e45 : (if r45 < 0 then r36 else (-1 : Int)) = -1 := if_neg (by have := lz.1; omega)
        rw [e45]
        have kz := te.2.2 z rfl
        refine ⟨⟨st2, _, k44, m44, te.1, Or.inl ⟨rfl, lz, by rw [ez]; exact kz.2, by rw [ez]; exact kz.1, fun o ho => ?_, by omega⟩⟩, ?_⟩
        · rw [ez] at ho
          refine hf2 _ (Wr_in (bnd_inr e1 (Or.inr ⟨ny, bnd_inr e2 ?_⟩)))
          rcases ho with ho | ⟨h1, ⟨h2, -⟩ | ⟨-, h3⟩⟩
          · exact Or.inl ho
          · omega
          · exact Or.inr ⟨h1, h3⟩
        · unfold tMe
          rw [if_pos (by decide), if_pos h5]
          omega
    have j154 : ¬ (tT t35 r36 ≠ tT s v4 ∧ came st1 (tT t35 r36) ≠ .nil) → t_reduced_j154 (t_S_reduced n) d c0 v4 r36 t35 (tQq M R mo sx σ0 d σ st x) (tEe M R mo d σ st x) (fun v4' v5' s' => tIv M R mo sx σ0 a0 r0 d c0 σ st x v4' v5' s' ∧ tMe v5' s' < tMe v5 s) := by
      intro ny
      unfold t_reduced_j154
      by_cases e : r36 = v4
      · rw [if_pos e]
        have ee := yx.mpr e
        refine eqn t35 _ k35 m35 l36 rfl (fun u => ?_) (by omega) ny
        rw [List.mem_cons, ee]
        constructor
        · rintro (a | a)
          · exact Or.inl a
          · exact Or.inr (Or.inr a)
        · rintro (a | a | a)
          · exact Or.inl a
          · exact Or.inl a
          · exact Or.inr a
      · rw [if_neg e]
        refine ⟨⟨by omega, by omega⟩, ?_⟩
        rintro t52 ht52 t56 ht56
        obtain ⟨k56, m56, ec56, g56, f56⟩ := push_cT (x := r36) hn0 rg.1 k35 (by rw [← hc0]; exact m35) l36 ⟨by omega, by omega⟩ ht52 ht56
        rw [← hc0] at m56
        refine eqn t56 _ k56 m56 (g56.lv l36) (g56.2.1 _ l36) (fun u => by rw [List.mem_cons, List.mem_cons]) (by omega) ny
    have back : ∀ r, lvT t35 r → tT t35 r = came st1 (tT t35 r36) → r36 ≠ v4 → came st1 (tT t35 r36) ≠ .nil → t_reduced_j208 (t_S_reduced n) d c0 v4 r t35 (tQq M R mo sx σ0 d σ st x) (tEe M R mo d σ st x) (fun v4' v5' s' => tIv M R mo sx σ0 a0 r0 d c0 σ st x v4' v5' s' ∧ tMe v5' s' < tMe v5 s) := by
      intro r lr er ne cy
      unfold t_reduced_j208
      have nyx : tT t35 r36 ≠ tT s v4 := fun e => ne (yx.mp e)
      refine ⟨⟨st1, _, k35, m35, wr.1, Or.inr ⟨lr.1, lr, ?_, fun z => Or.inr ?_, by omega⟩⟩, ?_⟩
      · rw [er]
        exact hf2 _ (Wr_in (bnd_inr e1 (Or.inl ⟨nyx, cy, rfl⟩)))
      · rw [er] at z ⊢
        exact came_self (came_DR o36 wr.1 cy).2.1.1 (came_DR o36 wr.1 cy).1 z
      · unfold tMe
        rw [if_pos h5, if_neg (by have := lr.1; omega)]
        omega
    by_cases e36 : r36 = v4
    · rw [if_pos e36]
      unfold t_reduced_j127
      rw [if_pos e36]
      exact j154 (fun k => k.1 (yx.mpr e36))
    rw [if_neg e36]
    refine ts_isVar k35.1.1 l36 ?_
    rw [show gA t35 48 r36 = lab (tT t35 r36) from (tT_kids k35.1.1 l36).1.symm]
    by_cases hv36 : lab (tT t35 r36) < 0
    · rw [bi_t hv36, if_neg (by decide)]
      have cm36 : came st1 (tT t35 r36) = tT t35 r36 := by unfold came; rw [if_pos hv36]
      exact back r36 l36 cm36.symm e36 (by rw [cm36]; exact isT_nn o36.1.1)
    rw [bi_f hv36, if_pos rfl]
    unfold t_reduced_j127
    rw [if_neg e36]
    refine memo t35 r36 _ k35.1.1 l36 ?_
    obtain ⟨r59, hr59⟩ : ∃ z, z = if gA t35 55 r36 = gI t35 121 then gA t35 54 r36 else -1 := ⟨_, rfl⟩
    rw [← hr59]
    have cm59 := came_t k35.1.1 k35.1.2.1 l36 (by omega) hr59
    by_cases h59 : r59 < 0
    · rw [if_pos h59]
      exact j154 (fun k => k.2 (cm59.1.mp h59))
    · rw [if_neg h59]
      refine memo t35 r36 _ k35.1.1 l36 ?_
      rw [← hr59]
      obtain ⟨lr, er⟩ := cm59.2 (by omega)
      exact back r59 lr er e36 (fun e => h59 (cm59.1.mpr e))
  · rw [if_neg h5]
    obtain ⟨-, l5, hrun, hrr, hb⟩ := hst.resolve_left (fun k => h5 (by omega))
    have fin := fin_t c (fo_t_S_reduced n) (d := d) rg.1 ot w.1 ko (by rw [← hc0]; exact hch) l5 wi ⟨by omega, hb⟩ hrun hrr
    rw [← hc0] at fin
    exact fin
/-- all of the group, so deep -/
theorem ts_group (c : cxT2 M R mo σ0 a0 r0) (hOt : isOt M) : ∀ (k : Nat) (d : Int), d + (k : Int) = 61 → 0 ≤ d → ∀ n, 11 * k + 1 ≤ n → TTX M R mo sx σ0 a0 r0 (t_S_reduced n) d := by
  intro k
  induction k with
  | zero =>
    intro d hd d0 n hn
    obtain ⟨m, rfl⟩ : ∃ m, n = m + 1 := ⟨n - 1, by omega⟩
    exact ts_reduced_at c (fun h => by omega) (fun h => by omega)
  | succ k ih =>
    intro d hd d0 n hn
    obtain ⟨m, rfl⟩ : ∃ m, n = m + 2 := ⟨n - 2, by omega⟩
    have inner : ∀ m, 11 * k + 1 ≤ m → TTX M R mo sx σ0 a0 r0 (t_S_reduced m) (d + 1) := fun m hm => ih (d + 1) (by omega) (by omega) m hm
    have red : ∀ m, 11 * k + 2 ≤ m → PPX M R mo sx σ0 a0 r0 (t_S_reduced m) d := by
      intro m hm
      obtain ⟨j, rfl⟩ : ∃ j, m = j + 1 := ⟨m - 1, by omega⟩
      intro σ st x e T ρ h w oT lx eT he0 he1 hb hρ hv sy
      rw [te_reduced_3]
      exact ts_reducedPart c (fo_t_S_reduced j) (inner j (by omega)) h w oT lx eT he0 he1 hb hρ hv sy
    refine ts_reduced_at c (fun hd' => ts_reduceRow c (inner m (by omega))) (fun hd' => ts_byEq c hOt (fun sl l0 l1 => ?_))
    have hs : stX M sl := Or.inl ⟨l0, l1⟩
    have cm := (c.2.2.1 sl hs).2.2.2.1
    exact ts_holds c red hs _ _ (by omega)
/-- a term comes to rest -/
theorem ts_reduced (c : cxT2 M R mo σ0 a0 r0) (hOt : isOt M) {d : Int} {σ : S} {st : ST} {x : Int} (h : TR M R mo sx σ0 st σ) (w : WI M R a0 r0 0 0 st) (lx : lvT σ x) (ot : okT M (tT σ x)) (hk : KH M st (tT σ x)) (sy : SY d σ) :
    t_reduced x d σ (fun r s => ∃ st', RE (Wr M R mo) d (tT σ x) st (.inr (tT s r, st')) ∧ lvT s r ∧ okY M R mo sx σ0 σ st' s) (fun s => RE (Wr M R mo) d (tT σ x) st (.inl (gI s 1006, gI s 120)) ∧ noY M σ s) := by
  have d0 := sy.1
  exact ts_group c hOt (61 - d).toNat d (by omega) d0.1 720 (by omega) σ st x h w lx ot hk sy
end

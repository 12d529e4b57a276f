/-! RewriteHouseModel: reducing, lists -/
section
variable {M : Mo} {R : Ru} {mo : Int} {σ0 : S} {a0 r0 : Int} {sx : Int → Int}
/-- stacks below their tops are as before; more may be stored -/
def FZ (σ s : S) : Prop :=
  (gI s 83 = gI σ 83 ∧ gI σ 113 ≤ gI s 113 ∧ gI s 126 = gI σ 126) ∧
  (∀ j, j < gI σ 83 → gA s 58 j = gA σ 58 j) ∧ (∀ j, j < gI σ 113 → gA s 79 j = gA σ 79 j) ∧ ∀ j, j < gI σ 126 → gA s 80 j = gA σ 80 j
def okZ (M : Mo) (R : Ru) (mo : Int) (sx : Int → Int) (σ0 σ : S) (st' : ST) (s : S) : Prop := TR M R mo sx σ0 st' s ∧ gwT σ s ∧ FZ σ s ∧ stS st' ≥ gI σ 120 ∧ stQ st' ≥ gI σ 119
theorem okY.okZ {σ s : S} {st : ST} (h : okY M R mo sx σ0 σ st s) : okZ M R mo sx σ0 σ st s := by
  obtain ⟨a, b, ⟨⟨c1, c2, c3⟩, d1, d2, d3⟩, n⟩ := h
  exact ⟨a, b, ⟨⟨c1, by omega, c3⟩, d1, d2, d3⟩, n⟩
theorem okZ.trans {a b s : S} {st st' : ST} (hn : 0 ≤ gI a 80) (h : okZ M R mo sx σ0 a st b) (k : okZ M R mo sx σ0 b st' s) : okZ M R mo sx σ0 a st' s := by
  obtain ⟨⟨-, -, -, ⟨⟨c1, -, c3, -⟩, -⟩, -⟩, g, ⟨⟨a1, a2, a3⟩, b1, b2, b3⟩, n, m⟩ := h
  obtain ⟨x2, g2, ⟨⟨e1, e2, e3⟩, d1, d2, d3⟩, n2, m2⟩ := k
  exact ⟨x2, g.trans g2 hn, ⟨⟨e1.trans a1, by omega, e3.trans a3⟩, fun j hj => (d1 j (by omega)).trans (b1 j hj), fun j hj => (d2 j (by omega)).trans (b2 j hj), fun j hj => (d3 j (by omega)).trans (b3 j hj)⟩, by omega, by omega⟩
/-- what was stored is given up -/
theorem okZ.back {σ s t : S} {st : ST} (hn0 : 0 ≤ gI σ0 80) (hn : 0 ≤ gI σ 80) (h : okZ M R mo sx σ0 σ st s) (e : t = pI s 113 (gI σ 113)) : okY M R mo sx σ0 σ st t := by
  obtain ⟨a, b, ⟨⟨c1, c2, c3⟩, d1, d2, d3⟩, n, m⟩ := h
  have f : Fr ([113], [], []) s t := Fr.rf.putI e rfl
  refine ⟨a.fr hn0 f rfl rfl rfl rfl rfl (leS.rf _) ?_, b.trans (EyT.of_fr f rfl) hn, ⟨⟨by rw [f.i _ rfl, c1], by rw [e]; simp only [gI_pI, gI_pL, gI_pA, gL_pI, gL_pL, gL_pA, gA_pI, gA_pL, gA_pA]; rw [if_pos trivial], by rw [f.i _ rfl, c3]⟩, fun j hj => by rw [f.a _ rfl, d1 j hj], fun j hj => by rw [f.a _ rfl, d2 j hj], fun j hj => by rw [f.a _ rfl, d3 j hj]⟩, n, m⟩
  obtain ⟨⟨p1, p2, p3, p4, p5⟩, p⟩ := a.2.2.2.1
  exact ⟨⟨by rw [f.i _ rfl, p1], by rw [f.i _ rfl, p2], by rw [f.i _ rfl, p3], by rw [f.l _ rfl, p4], by rw [f.i _ rfl, p5]⟩, p⟩
theorem room_matchT {σ : S} {st : ST} {A : Int → Bool} {t : Int} (h0 : TP M σ0) (hr : roT σ0 a0 r0) (hs : TP M σ) (e : EyT σ0 σ (CVt M st)) (w : WI M R a0 r0 1 1 st) (lt : lvT σ t) (ot : okT M (tT σ t)) (hp : PH M st (tT σ t)) (hw : tWide A (tT σ t) = false) : rmT M (inU M A (tT σ t)) σ ∧ ∀ s, TP M s → ExT σ s (inU M A (tT σ t)) → EyT σ0 s (CVt M st) := by
  have key : ∀ s, TP M s → ExT σ s (inU M A (tT σ t)) → EyT σ0 s (CVt M st) := by
    intro s xs es
    refine ⟨by have := e.1; have := es.1; omega, fun x hx => (es.t (e.lv hx)).trans (e.2.1 x hx), fun x x0 x1 => ?_⟩
    by_cases z : x < gI σ 80
    · have l : lvT σ x := ⟨by have := hr.1; omega, z⟩
      rw [es.t l]
      exact e.2.2 x x0 z
    · have n := (es.2.2 x (by omega) x1).2
      have lx : lvT s x := ⟨by have := hr.1; omega, x1⟩
      have ph := inU_PH (hs.T lt) hp hw n
      rcases n with n | ⟨r, hr', hA, S, Q, hsp, h2, eq⟩ | ⟨o, o0, o1, o2, eq⟩
      · obtain ⟨y, ly, ey⟩ := hs.sbs lt n
        have := xs.inj (es.lv ly) lx (by rw [es.t ly, ey])
        have := ly.2
        omega
      · refine ⟨Or.inr (Or.inr ((ph _ (subs_self (xs.T lx))).resolve_left ?_).1), ?_⟩
        · rw [eq, kids_N]
          intro z
          rw [z] at h2
          simp at h2
        · have orr := subs_NF ot hr'
          have sub : ∀ {es S R : List Tr}, spl es S R → (S.map trS).sum ≤ (es.map trS).sum := by
            intro es
            induction es with
            | nil => rintro S R ⟨rfl, -⟩; exact Nat.le_refl _
            | cons a l ih =>
              rintro S R (⟨S', rfl, k⟩ | ⟨R', -, k⟩)
              · have := ih k
                simp only [List.map_cons, List.sum_cons]; omega
              · have := ih k
                simp only [List.map_cons, List.sum_cons]; omega
          have a := sub hsp
          have b := trS_eta orr.1
          have c := orr.2
          rw [eq, trS_N]
          omega
      · exact ⟨Or.inl ⟨o, o0, o1, o2, eq⟩, by rw [eq, unT_S]; omega⟩
  exact ⟨fun s xs es => by have := roomT h0 hr xs (key s xs es) w; omega, key⟩
theorem lst_stepT (c : cxT2 M R mo σ0 a0 r0) {σ : S} {st : ST} {p t w e : Int} {ρ : Env} {P T : Tr} (h : TR M R mo sx σ0 st σ) (wi : WI M R a0 r0 0 0 st) (lp : lvT σ p) (ep : tT σ p = P) (op : okT M P) (lt : lvT σ t) (et : tT σ t = T) (ot : okT M T) (hp : PH M st T) (he : e < 0 ∨ (0 ≤ e ∧ e + 64 ≤ gI σ 113) ∧ ∀ v, 0 ≤ v → v < 60 → olT σ (gA σ 79 (e + v))) (hρ : eT0 σ e = ρ) (ht0 : 0 ≤ gI σ 83) (ht1 : gI σ 83 ≤ 14000) (hl0 : 0 ≤ gI σ 113) (hl1 : gI σ 113 ≤ 64 * gI σ 119) :
    t_list p t w e σ (fun r s => ∃ L st', mtE M mo P T (decide (w ≠ 0)) ρ st (.inr (L, st')) ∧ r = (L.length : Int) ∧ LT (opP P) s L ∧ gI s 114 = gI σ 113 ∧ gI s 113 = gI σ 113 + 64 * (L.length : Int) ∧ gI s 113 ≤ 64 * stQ st' ∧ okZ M R mo sx σ0 σ st' s) (fun s => mtE M mo P T (decide (w ≠ 0)) ρ st (.inl (gI s 1006, gI s 120)) ∧ noY M σ s) := by
  subst ep et
  obtain ⟨⟨m1, m2, m3, m4, m5⟩, ms, mf, mq, md⟩ := h.2.2.2.1
  have rm := fun hw => room_matchT (A := asO M (tT σ p)) c.1 c.2.1 h.1 h.2.2.1 (wi.weak (by omega) (by omega)) lt ot hp hw
  have mo3 := c.2.2.2
  have rgs := ts_list (w := w) h.1 lp rfl lt rfl op.2 ot.2 he ht0 (by omega) hl0 (by omega) (fun hw => (rm hw).1) (by omega) (by omega) (by omega) (by omega)
  refine fm_t_list rgs (fun r t12 f12 q => ?_) (fun t12 f12 q => ?_)
  · obtain ⟨L, q1, q2, q3, q4, q5, q6, q7, q8, q9, q10, q11, q12⟩ := q
    rw [hρ, m3, m4, m5] at q1
    obtain ⟨st3, hst3⟩ : ∃ z : ST, z = (stM st, stA st, stS st, stF st, stQ st + (L.length : Int), stD st + ((min 3000001 (dlN M (tT σ t) (tT σ p)) : Nat) : Int)) := ⟨_, rfl⟩
    have hmt : mtE M mo (tT σ p) (tT σ t) (decide (w ≠ 0)) ρ st (.inr (L, st3)) := by
      unfold mtE mtO
      rw [q1, hst3]
    have ok := mtc_ok q1
    have hw : tWide (asO M (tT σ p)) (tT σ t) = false := (mlB_ok (mtE_ok hmt).2.1).1
    have le3 : leS st st3 := leS_same (by rw [hst3]) (fun u hu => by rw [hst3]; exact hu)
    have ey3 : EyT σ0 t12 (CVt M st3) := ((rm hw).2 t12 q5 q6).mono (fun t => CVt.le le3)
    have cc3 : TC mo st3 t12 := by
      refine ⟨⟨by rw [f12.i _ rfl, m1, hst3], by rw [f12.i _ rfl, m2, hst3], by rw [q11, m3, hst3], by rw [q10, m4, hst3], by rw [f12.i _ rfl, m5]⟩, by rw [hst3]; exact ms, by rw [hst3]; exact mf, ?_, ?_⟩
      · rw [hst3]; show 0 ≤ stQ st + (L.length : Int) ∧ stQ st + (L.length : Int) ≤ 6000; omega
      · rw [hst3]; show 0 ≤ stD st + ((min 3000001 (dlN M (tT σ t) (tT σ p)) : Nat) : Int) ∧ stD st + ((min 3000001 (dlN M (tT σ t) (tT σ p)) : Nat) : Int) ≤ 3000000; omega
    have h3 : TR M R mo sx σ0 st3 t12 := h.ex q5 q6 ey3 (by rw [hst3]) cc3 f12 rfl
    refine ⟨L, st3, hmt, q2, q3, q4, q12, ?_, ⟨h3, q6.ey.gw, ⟨⟨q7, by omega, f12.i _ rfl⟩, q9, q8, fun j _ => by rw [f12.a _ rfl]⟩, by rw [hst3, m1]; exact Int.le_refl _, by rw [hst3, m3]; show stQ st + (L.length : Int) ≥ stQ st; omega⟩⟩
    rw [hst3]
    show gI t12 113 ≤ 64 * (stQ st + (L.length : Int))
    omega
  · obtain ⟨q1, q2, q3⟩ := q
    rw [hρ, m3, m4, m5] at q1
    refine ⟨?_, q2, q3.ey.gw⟩
    unfold mtE mtO
    rw [q1, show gI t12 120 = stS st from (f12.i _ rfl).trans m1]
end

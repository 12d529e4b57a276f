/-! RewriteHouse: reducing, whole -/
section
variable {M : Mo} {R : Ru} {mo : Int} {σ0 : S} {a0 r0 : Int}
theorem xs_toRest_at (c : cxR M R mo σ0 a0 r0) {d : Int} {n : Nat} (hR : d ≤ 60 → RRX M R mo σ0 a0 r0 (d + 1) n) (hQ : d ≤ 60 → TEX M R mo σ0 a0 r0 (d + 1) n) : TRX M R mo σ0 a0 r0 (x_S_toRest (n + 1)) d := by
  have hM := c.1.wm
  have hE := hE_of c
  have hn0 := c.2.1.1
  intro σ st x h w lx hk se
  have rg := h.1.rg
  have ot := h.1.ok lx
  have bx : inb x 200000 := ⟨by have := lx.1; omega, by have := lx.2; omega⟩
  have eW : gA σ 66 x = lab (tX σ x) := by rw [tX_row h.1 lx, lab_N]
  have cx := h.2.2.2.1
  obtain ⟨s1, s2, s3, s4, s5, s6, s7, s8⟩ := se
  rw [xe_toRest_0]
  unfold x_toRest_F
  refine ⟨bx, ?_⟩
  have j18 : came st (tX σ x) ≠ .nil → x_toRest_j18 (x_S_toRest n) x σ (fun r s => ∃ st', RE (Wr M R mo) d (tX σ x) st (.inr (tX s r, st')) ∧ lvX s r ∧ okX M R mo σ0 σ st' s) (fun s => RE (Wr M R mo) d (tX σ x) st (.inl (gI s 1006, gI s 131)) ∧ noX M σ s) := by
    intro hc
    unfold x_toRest_j18
    refine xs_came h.1 lx ?_
    obtain ⟨r, hr⟩ : ∃ r, r = if lab (tX σ x) < 0 then x else gA σ 75 x := ⟨_, rfl⟩
    rw [← hr]
    have cm := came_x h lx hr
    have rn : r ≠ 0 := fun e => hc (cm.1.mp e)
    obtain ⟨lr, er⟩ := cm.2 rn
    exact ⟨st, Or.inl ⟨hc, by rw [er]⟩, lr, okX.rf h⟩
  rw [eW]
  have cme : ∀ r, r = (if lab (tX σ x) < 0 then x else gA σ 75 x) → (r = 0 ↔ came st (tX σ x) = .nil) := fun r hr => (came_x h lx hr).1
  by_cases hv : lab (tX σ x) < 0
  · rw [if_pos hv]
    refine j18 ?_
    unfold came
    rw [if_pos hv]
    exact isT_nn ot.1.1
  rw [if_neg hv]
  refine ⟨bx, ?_⟩
  by_cases hz : gA σ 75 x = 0
  rotate_left
  · rw [if_neg hz]
    exact j18 (fun e => hz ((cme _ (by rw [if_neg hv])).mpr e))
  rw [if_pos hz]
  have cn : came st (tX σ x) = .nil := (cme _ (by rw [if_neg hv])).mp hz
  have mn := (came_nil ot cn).2
  rw [s1]
  by_cases hd : d ≤ 60
  rotate_left
  · rw [if_neg hd]
    refine xs_stop ?_
    refine ⟨Or.inr ⟨cn, Or.inl ⟨by omega, ?_⟩⟩, h.1.fr (Fr.rf.putI rfl rfl : Fr ([1006], [], []) σ _) rfl, EyX.of_fr (Fr.rf.putI rfl rfl : Fr ([1006], [], []) σ _) rfl⟩
    simp only [gI_pI, gI_pL, gI_pA, gL_pI, gL_pL, gL_pA, gA_pI, gA_pL, gA_pA]
    rw [if_pos trivial, if_neg (by decide), cx.1.1]
  rw [if_pos hd]
  rintro t15 ht15
  rw [w32_id (by omega) (by omega)] at ht15
  have f15 : Fr ([139], [], []) σ t15 := Fr.rf.putI ht15 rfl
  obtain ⟨c0, hc0⟩ : ∃ z, z = gI σ 141 := ⟨_, rfl⟩
  have e15 : gI t15 141 = c0 := by rw [f15.i _ rfl, hc0]
  rw [e15]
  have x15 : XR M R mo σ0 st t15 := h.fr hn0 f15 rfl rfl rfl rfl rfl (leS.rf _) (by
    obtain ⟨⟨d1, d2, d3, d4, d5⟩, dd⟩ := cx
    exact ⟨⟨by rw [f15.i _ rfl, d1], by rw [f15.i _ rfl, d2], by rw [f15.i _ rfl, d3], by rw [f15.l _ rfl, d4], by rw [f15.l _ rfl, d5]⟩, dd⟩)
  have k15 : okC M R mo σ0 σ st t15 := ⟨x15, EyX.of_fr f15 rfl, ⟨⟨f15.i _ rfl, f15.i _ rfl, f15.i _ rfl, by rw [ht15]; simp only [gI_pI, gI_pL, gI_pA, gL_pI, gL_pL, gL_pA, gA_pI, gA_pL, gA_pA]; rw [if_pos trivial, s1], f15.i _ rfl, f15.i _ rfl, by rw [f15.i _ rfl]; exact Int.le_refl _⟩, fun j _ => by rw [f15.a _ rfl], fun j _ => by rw [f15.a _ rfl], fun j _ => by rw [f15.a _ rfl], fun j _ => by rw [f15.a _ rfl]⟩, by rw [cx.1.1]; exact Int.le_refl _, by rw [cx.1.2.2.1]; exact Int.le_refl _⟩
  have g15 : gwX σ t15 := k15.2.1
  have m15 : chM t15 c0 [] := ⟨fun k k0 k1 => by omega, fun t => ⟨fun z => absurd z (List.not_mem_nil), fun ⟨k, k0, k1, _⟩ => by omega⟩⟩
  have toRE : ∀ o, Wr M R mo d [] (tX σ x) st o → RE (Wr M R mo) d (tX σ x) st o := fun o ho => Or.inr ⟨cn, Or.inr ⟨by omega, ho⟩⟩
  refine lx_toRest_L59 (fo_x_S_toRest n) (fun v3 v4 s => ∃ sti chl, okC M R mo σ0 σ sti s ∧ chM s c0 chl ∧ WI M R a0 r0 0 0 sti ∧
      ((v4 = 0 ∧ lvX s v3 ∧ KH M sti (tX s v3) ∧ came sti (tX s v3) = .nil ∧ (∀ o, Wr M R mo d chl (tX s v3) sti o → Wr M R mo d [] (tX σ x) st o) ∧ gI s 141 ≤ 2 * d + 2 * stS sti) ∨
       (v4 ≠ 0 ∧ lvX s v4 ∧ Wr M R mo d [] (tX σ x) st (.inr (tX s v4, finE chl (tX s v4) sti)) ∧ gI s 141 ≤ 1600)))
    (fun v3 v4 s => if v4 = 0 then (602 - gI s 131).toNat else 0) ⟨st, [], k15, m15, w, Or.inl ⟨rfl, g15.lv lx, by rw [g15.2.1 x lx]; exact hk, by rw [g15.2.1 x lx]; exact cn, fun o ho => by rw [g15.2.1 x lx] at ho; exact ho, by have := cx.1.1; omega⟩⟩ ?_
  rintro v3 v4 s fr0 ⟨sti, chl, ko, hch, wi, hst⟩
  try dsimp only
  have xs := ko.1
  have cs := xs.2.2.2.1
  have st600 := cs.2.1
  have ss0 := cs.1.1
  have o7 := ko.2.2.1.1.2.2.2.2.2.2
  by_cases h4 : v4 = 0
  · rw [if_pos h4, if_pos h4]
    obtain ⟨-, l3, kx, cnx, hf, hb⟩ := hst.resolve_right (fun k => k.1 h4)
    have oX3 := xs.1.ok l3
    have nilx := came_nil oX3 cnx
    have wch : w32 (gI s 141 + 1) = gI s 141 + 1 := w32_id (by omega) (by omega)
    rw [wch]
    rintro t41 ht41
    refine ⟨⟨by omega, by omega⟩, ?_⟩
    rintro t43 ht43
    obtain ⟨k43, m43, ec43, g43, f43⟩ := push_ch (x := v3) hn0 rg.1 ko (by rw [← hc0]; exact hch) l3 ht41 ht43
    rw [← hc0] at m43
    have et43 := g43.2.1 v3 l3
    have siOf : ∀ (t : S) (sj : ST), okC M R mo σ0 σ sj t → gI t 141 ≤ 2 * (d + 1) + 2 * stS sj → SI (d + 1) t := by
      intro t sj kj hj
      obtain ⟨xj, -, ⟨⟨o1, o2, o3, o4, o5, o6, o7'⟩, -⟩, nj, mj⟩ := kj
      have cj := xj.2.2.2.1.1
      exact ⟨by rw [o4, s1], by omega, by rw [o1]; omega, by rw [cj.1]; omega, by rw [o2]; omega, by rw [o3, cj.2.2.1]; omega, by rw [o5, s7], by rw [o6, s8]⟩
    have si43 : SI (d + 1) t43 := siOf t43 sti k43 (by omega)
    have tp43 : gI t43 106 = gI σ 106 := k43.2.2.1.1.1
    refine fo_x_S_toRest n _ _ _ _ _ _ _ (hR hd t43 sti v3 k43.1 wi (g43.lv l3) (by rw [et43]; exact kx) si43 (by rw [tp43]; omega)) (fun r47 t46 f46 q => ?_) (fun t46 f46 q => ?_)
    rotate_left
    · rw [et43] at q
      exact ⟨toRE _ (hf _ (Wr_in (bnd_inl q.1))), q.2.1, k43.2.1.trans q.2.2 rg.1⟩
    obtain ⟨st1, e1, l47, kx1⟩ := q
    rw [et43] at e1
    obtain ⟨k46, ec46, ch46⟩ := k43.run rg.1 kx1
    have m46 := m43.run kx1.2.1 ec46 ch46
    have wr := redE_wi hM (RE_sn (mo := mo) hM hE (d + 1)) (RE_wi (mo := mo) (a0 := a0) (r0 := r0) hM hE (d + 1)) oX3 kx wi e1
    have nm := red_nm hM hE oX3 nilx.1 wi.1 nilx.2 e1
    refine xs_came k46.1.1 l47 ?_
    obtain ⟨r50, hr50⟩ : ∃ r, r = if lab (tX t46 r47) < 0 then r47 else gA t46 75 r47 := ⟨_, rfl⟩
    rw [← hr50]
    have cm := came_x k46.1 l47 hr50
    have stm1 : stS st1 ≥ stS sti := by have := kx1.2.2.2.1; have := k43.1.2.2.2.1.1.1; omega
    have st1600 := k46.1.2.2.2.1.2.1
    by_cases h50 : r50 = 0
    · rw [if_pos h50]
      have cy := cm.1.mp h50
      have ny : ¬ (tX t46 r47 ≠ tX s v3 ∧ came st1 (tX t46 r47) ≠ .nil) := fun k => k.2 cy
      have wch2 : w32 (gI t46 141 + 1) = gI t46 141 + 1 := w32_id (by omega) (by omega)
      rw [wch2]
      rintro t54 ht54
      refine ⟨⟨by omega, by omega⟩, ?_⟩
      rintro t56 ht56
      obtain ⟨k56, m56, ec56, g56, f56⟩ := push_ch (x := r47) hn0 rg.1 k46 (by rw [← hc0]; exact m46) l47 ht54 ht56
      rw [← hc0] at m56
      have et56 := g56.2.1 r47 l47
      have si56 : SI (d + 1) t56 := siOf t56 st1 k56 (by omega)
      have mx : max 1 (d + 1) = d + 1 := by omega
      have hq := hQ hd t56 st1 r47 k56.1 wr.1 (g56.lv l47) (by rw [et56]; exact wr.2.2.1.1) si56
      rw [mx, et56] at hq
      refine fo_x_S_toRest n _ _ _ _ _ _ _ hq (fun r60 t59 f59 q => ?_) (fun t59 f59 q => ?_)
      rotate_left
      · exact ⟨toRE _ (hf _ (Wr_in (bnd_inr e1 (Or.inr ⟨ny, bnd_inl q.1⟩)))), q.2.1, k56.2.1.trans q.2.2 rg.1⟩
      obtain ⟨st2, qq, e2, kx2, hqq⟩ := q
      obtain ⟨k59, ec59, ch59⟩ := k56.run rg.1 kx2
      have m59 := m56.run kx2.2.1 ec59 ch59
      have te := tryEqE_wi hM hE (RE_sn (mo := mo) hM hE (d + 1)) (RE_wi (mo := mo) (a0 := a0) (r0 := r0) hM hE (d + 1)) _ _ _ _ _ hE wr.2.2.2 wr.2.2.1.1 wr.1 e2
      have l47' : lvX t59 r47 := kx2.2.1.lv (g56.lv l47)
      have et59 : tX t59 r47 = tX t46 r47 := (kx2.2.1.2.1 _ (g56.lv l47)).trans et56
      rcases hqq with ⟨rfl, rfl⟩ | ⟨z, rfl, lz, ez, hsz⟩
      · rw [if_pos rfl]
        unfold x_toRest_j143 x_toRest_j148
        have n47 : r47 ≠ 0 := by have := l47.1; omega
        refine ⟨⟨st2, _, k59, m59, te.1, Or.inr ⟨n47, l47', ?_, by omega⟩⟩, ?_⟩
        · rw [et59]
          exact hf _ (Wr_in (bnd_inr e1 (Or.inr ⟨ny, bnd_inr e2 rfl⟩)))
        · rw [if_neg n47]
          omega
      · have n60 : r60 ≠ 0 := by have := lz.1; omega
        rw [if_neg n60]
        refine xs_came k59.1.1 lz ?_
        obtain ⟨r65, hr65⟩ : ∃ r, r = if lab (tX t59 r60) < 0 then r60 else gA t59 75 r60 := ⟨_, rfl⟩
        rw [← hr65]
        have cm2 := came_x k59.1 lz hr65
        rw [ez] at cm2
        unfold x_toRest_j143 x_toRest_j148
        have kz := te.2.2 z rfl
        have st56 : gI t56 131 = stS st1 := k56.1.2.2.2.1.1.1
        by_cases h65 : r65 = 0
        · have cz := cm2.1.mp h65
          have st59 : gI t59 131 = stS st2 := k59.1.2.2.2.1.1.1
          have ss : gI s 131 = stS sti := cs.1.1
          refine ⟨⟨st2, _, k59, m59, te.1, Or.inl ⟨h65, lz, by rw [ez]; exact kz.1, by rw [ez]; exact cz, fun o ho => ?_, by omega⟩⟩, ?_⟩
          · rw [ez] at ho
            exact hf _ (Wr_in (bnd_inr e1 (Or.inr ⟨ny, bnd_inr e2 (Or.inr ⟨cz, ho⟩)⟩)))
          · rw [if_pos h65]
            omega
        · obtain ⟨l65, e65⟩ := cm2.2 h65
          have cz : came st2 z ≠ .nil := fun e => h65 (cm2.1.mpr e)
          refine ⟨⟨st2, _, k59, m59, te.1, Or.inr ⟨h65, l65, ?_, by omega⟩⟩, ?_⟩
          · rw [e65]
            exact hf _ (Wr_in (bnd_inr e1 (Or.inr ⟨ny, bnd_inr e2 (Or.inl ⟨cz, rfl⟩)⟩)))
          · rw [if_neg h65]
            omega
    · rw [if_neg h50]
      unfold x_toRest_j148
      obtain ⟨l50, e50⟩ := cm.2 h50
      have cy : came st1 (tX t46 r47) ≠ .nil := fun e => h50 (cm.1.mpr e)
      have nyx : tX t46 r47 ≠ tX s v3 := by
        intro e
        apply cy
        rw [e]
        unfold came
        rw [if_neg (by omega)]
        exact nm
      refine ⟨⟨st1, _, k46, m46, wr.1, Or.inr ⟨h50, l50, ?_, by omega⟩⟩, ?_⟩
      · rw [e50]
        exact hf _ (Wr_in (bnd_inr e1 (Or.inl ⟨nyx, cy, rfl⟩)))
      · rw [if_neg h50]
        omega
  · rw [if_neg h4]
    obtain ⟨-, l4, hrun, hb⟩ := hst.resolve_left (fun k => h4 k.1)
    have fin := fin_x c (fo_x_S_toRest n) (d := d) rg.1 ot w.1 ko (by rw [← hc0]; exact hch) l4 wi s1 s2.1 hd ⟨by omega, hb⟩ (toRE _ hrun)
    rw [← hc0] at fin
    exact fin
/-- all of the group, so deep -/
theorem xs_group (c : cxR M R mo σ0 a0 r0) (hOt : isOt M) : ∀ (k : Nat) (d : Int), d + (k : Int) = 61 → 0 ≤ d → ∀ n, 11 * k + 1 ≤ n → TRX M R mo σ0 a0 r0 (x_S_toRest n) d := by
  intro k
  induction k with
  | zero =>
    intro d hd d0 n hn
    obtain ⟨m, rfl⟩ : ∃ m, n = m + 1 := ⟨n - 1, by omega⟩
    exact xs_toRest_at c (fun h => by omega) (fun h => by omega)
  | succ k ih =>
    intro d hd d0 n hn
    obtain ⟨m, rfl⟩ : ∃ m, n = m + 3 := ⟨n - 3, by omega⟩
    have inner : ∀ m, 11 * k + 1 ≤ m → TRX M R mo σ0 a0 r0 (x_S_toRest m) (d + 1) := fun m hm => ih (d + 1) (by omega) (by omega) m hm
    have mx : max 1 (d + 1) = d + 1 := by omega
    have red : ∀ m, 11 * k + 2 ≤ m → RDX M R mo σ0 a0 r0 (x_S_toRest m) (d + 1) := by
      intro m hm
      obtain ⟨j, rfl⟩ : ∃ j, m = j + 1 := ⟨m - 1, by omega⟩
      intro σ st x ρ h w lx hb hρ hv si
      rw [xe_toRest_5]
      exact xs_reduced c (fo_x_S_toRest j) (by rw [mx]; exact inner j (by omega)) h w lx hb hρ hv si
    refine xs_toRest_at c (fun hd' => xs_reduceRow c (inner (m + 1) (by omega))) (fun hd' => xs_tryEq c hOt (fun sl l0 l1 => ?_))
    have hs : stX M sl := Or.inl ⟨l0, l1⟩
    obtain ⟨j, rfl⟩ : ∃ j, m = j + 0 := ⟨m, rfl⟩
    have cm := (c.2.2.1 sl hs).2.2.2.1
    exact xs_tryOne c hs (fun i => xs_holds c red hs _ _ (by omega))
/-- a term comes to rest -/
theorem xs_toRest (c : cxR M R mo σ0 a0 r0) (hOt : isOt M) {d : Int} {σ : S} {st : ST} {x : Int} (h : XR M R mo σ0 st σ) (w : WI M R a0 r0 0 0 st) (lx : lvX σ x) (hk : KH M st (tX σ x)) (se : SE d σ) :
    x_toRest x σ (fun r s => ∃ st', RE (Wr M R mo) d (tX σ x) st (.inr (tX s r, st')) ∧ lvX s r ∧ okX M R mo σ0 σ st' s) (fun s => RE (Wr M R mo) d (tX σ x) st (.inl (gI s 1006, gI s 131)) ∧ noX M σ s) := by
  have d0 := se.2.1
  exact xs_group c hOt (61 - d).toNat d (by omega) d0.1 720 (by omega) σ st x h w lx hk se
end

/-! RewriteHouse: a step is found -/
section
variable {M : Mo} {R : Ru} {mo : Int} {σ0 : S} {a0 r0 : Int}
theorem cxR.weak {a1 r1 : Int} (c : cxR M R mo σ0 a1 r1) (h1 : a0 ≤ a1) (h2 : r0 ≤ r1) : cxR M R mo σ0 a0 r0 := by
  obtain ⟨c1, ⟨c2, c3, c4⟩, c5⟩ := c
  exact ⟨c1, ⟨c2, by omega, by omega⟩, c5⟩
theorem cnt_plain {σ : S} {st : ST} {x : Int} {T : Tr} (hn0 : 1 ≤ gI σ0 93) (h : XR M R mo σ0 st σ) (lx : lvX σ x) (eT : tX σ x = T) :
    x_countFilled x σ (fun _ s => ∃ st1, cntE (trS T : Int) st (.inr ((), st1)) ∧ okX M R mo σ0 σ st1 s ∧ Fr ([132], [], []) σ s) (fun s => cntE (trS T : Int) st (.inl (gI s 1006, gI s 131)) ∧ noX M σ s) := by
  subst eT
  obtain ⟨⟨d1, d2, d3, d4, d5⟩, ds, df, dq, dd⟩ := h.2.2.2.1
  refine fm_x_countFilled (xs_countFilled h.1 lx (by omega) (by omega)) (fun _ t1 f1 q => ?_) (fun t1 f1 q => ?_)
  · obtain ⟨q1, q2⟩ := q
    obtain ⟨st1, hst1⟩ : ∃ z : ST, z = (stM st, stA st, stS st, stF st + (trS (tX σ x) : Int), stQ st, stD st) := ⟨_, rfl⟩
    have hcnt : cntE (trS (tX σ x) : Int) st (.inr ((), st1)) := by
      unfold cntE
      rw [if_neg (by omega), hst1]
    have l1 : leS st st1 := leS_same (by rw [hst1]) (fun u hu => by rw [hst1]; exact hu)
    have f1' : Fr ([132], [], []) σ t1 := Fr.rf.putI q2 rfl
    have eF : gI t1 132 = stF st + (trS (tX σ x) : Int) := by rw [q2]; simp only [gI_pI, gI_pL, gI_pA, gL_pI, gL_pL, gL_pA, gA_pI, gA_pL, gA_pA]; rw [if_pos trivial, d2]
    have h1 : XR M R mo σ0 st1 t1 := h.fr hn0 f1' rfl rfl rfl rfl (by rw [hst1]) l1 ⟨⟨by rw [f1'.i _ rfl, d1, hst1], by rw [eF, hst1], by rw [f1'.i _ rfl, d3, hst1], by rw [f1'.l _ rfl, d4, hst1], by rw [f1'.l _ rfl, d5]⟩, by rw [hst1]; exact ds, by rw [hst1]; show 0 ≤ stF st + (trS (tX σ x) : Int) ∧ stF st + (trS (tX σ x) : Int) ≤ 4000; omega, by rw [hst1]; exact dq, by rw [hst1]; exact dd⟩
    exact ⟨st1, hcnt, ⟨h1, EyX.of_fr f1' rfl, ⟨⟨f1'.i _ rfl, f1'.i _ rfl, f1'.i _ rfl, f1'.i _ rfl, f1'.i _ rfl, f1'.i _ rfl, f1'.i _ rfl⟩, fun j _ => by rw [f1'.a _ rfl], fun j _ => by rw [f1'.a _ rfl], fun j _ => by rw [f1'.a _ rfl], fun j _ => by rw [f1'.a _ rfl]⟩, by rw [hst1, d1]; exact Int.le_refl _, by rw [hst1, d3]; exact Int.le_refl _⟩, f1'⟩
  · refine ⟨?_, h.1.fr f1 rfl, (EyX.of_fr (N := fun _ => True) f1 rfl)⟩
    rw [q.2.1, show gI t1 131 = stS st from (f1.i _ rfl).trans d1]
    unfold cntE
    rw [if_pos (by omega)]
/-- the state in which rules are tried -/
def RI (k : Int) (σ : S) : Prop := gI σ 139 = 0 ∧ gI σ 106 = 0 ∧ gI σ 141 = 0 ∧ (0 ≤ gI σ 143 ∧ gI σ 143 ≤ 60 * k) ∧ (0 ≤ gI σ 123 ∧ gI σ 123 ≤ gI σ 128) ∧ gI σ 138 = 0 ∧ gI σ 134 = 0
theorem RI.next {k : Int} {σ s : S} {st' : ST} (h : RI k σ) (x : okX M R mo σ0 σ st' s) : RI k s := by
  obtain ⟨h1, h2, h3, h4, h5, h6, h7⟩ := h
  obtain ⟨x1, -, ⟨⟨a1, a2, a3, a4, a5, a6, a7⟩, -⟩, -, m⟩ := x
  have := x1.2.2.2.1.1.2.2.1
  exact ⟨by omega, by omega, by omega, by omega, by omega, by omega, by omega⟩
theorem RI.si {k : Int} {st : ST} {σ : S} (h : RI k σ) (x : XR M R mo σ0 st σ) (hk : k ≤ 9) : SI 0 σ := by
  obtain ⟨h1, h2, h3, h4, h5, h6, h7⟩ := h
  have c := x.2.2.2.1
  have := c.1.1
  have := c.2.1
  exact ⟨h1, by omega, by omega, by omega, by omega, h5, h6, h7⟩
theorem RI.se {k : Int} {st : ST} {σ : S} (h : RI k σ) (x : XR M R mo σ0 st σ) (hk : k ≤ 9) : SE 0 σ := by
  obtain ⟨h1, h2, h3, h4, h5, h6, h7⟩ := h
  have c := x.2.2.2.1
  have := c.1.1
  have := c.2.1
  exact ⟨h1, by omega, by omega, by omega, by omega, h5, h6, h7⟩
/-- steps that were found -/
def flX (σ : S) (fl : FL) : Prop := gI σ 146 = (fl.length : Int) ∧ fl.length ≤ 60 ∧ ∀ i : Nat, i < fl.length → lvX σ (gA σ 93 i) ∧ fl[i]? = some (tX σ (gA σ 93 i), gA σ 94 i)
theorem flX.to {σ s : S} {fl : FL} (h : flX σ fl) (g : gwX σ s) (e0 : gI s 146 = gI σ 146) (e1 : gA s 93 = gA σ 93) (e2 : gA s 94 = gA σ 94) : flX s fl := by
  refine ⟨by rw [e0]; exact h.1, h.2.1, fun i hi => ?_⟩
  obtain ⟨a, b⟩ := h.2.2 i hi
  rw [e1, e2]
  exact ⟨g.lv a, by rw [b, g.2.1 _ a]⟩
/-- the place that is looked at -/
def ptX (σ : S) : Pth → Prop
  | [] => True
  | (p, k) :: π => lvX σ (gA σ 95 (π.length : Int)) ∧ tX σ (gA σ 95 (π.length : Int)) = p ∧ gA σ 96 (π.length : Int) = (k : Int) ∧ ptX σ π
theorem ptX_to {σ s : S} (g : gwX σ s) : ∀ (π : Pth), ptX σ π → (∀ j : Int, 0 ≤ j → j < (π.length : Int) → gA s 95 j = gA σ 95 j ∧ gA s 96 j = gA σ 96 j) → ptX s π := by
  intro π
  induction π with
  | nil => intro _ _; trivial
  | cons a π ih =>
    obtain ⟨p, k⟩ := a
    rintro ⟨h1, h2, h3, h4⟩ he
    have e := he (π.length : Int) (by omega) (by rw [List.length_cons]; omega)
    unfold ptX
    rw [e.1, e.2]
    exact ⟨g.lv h1, (g.2.1 _ h1).trans h2, h3, ih h4 (fun j j0 j1 => he j j0 (by rw [List.length_cons]; omega))⟩
theorem ptX.to {σ s : S} {π : Pth} (h : ptX σ π) (g : gwX σ s) (he : ∀ j : Int, 0 ≤ j → j < (π.length : Int) → gA s 95 j = gA σ 95 j ∧ gA s 96 j = gA σ 96 j) : ptX s π := ptX_to g π h he
theorem take_set {l : List Tr} {k : Nat} {x : Tr} {i : Nat} {t : Tr} (h : l[i]? = some t) : (l.set k x).take (i + 1) = (l.set k x).take i ++ [if i = k then x else t] := by
  have hl := (List.getElem?_eq_some_iff.mp h).1
  rw [List.take_add_one]
  congr 1
  rw [List.getElem?_set]
  by_cases e : k = i
  · rw [if_pos e, if_pos e.symm, if_pos (by omega)]
    rfl
  · rw [if_neg e, if_neg (fun z => e z.symm), h]
    rfl
/-- making, what is new -/
theorem make_new {σ s : S} {o : Int} {ts : List Tr} (xp : XP M σ) (xs : XP M s) (hok : mkOk M o ts) (hl : ∀ t ∈ ts, ∃ x, lvX σ x ∧ tX σ x = t) (e : ExX σ s (fun u => u = mk M o ts ∨ mUn M o ≠ -2 ∧ u = unT M o)) : ExX σ s (fun u => (realR M o ts = true ∧ u = mk M o ts) ∨ (∃ o, 0 ≤ o ∧ o < mOps M ∧ mUn M o ≠ -2 ∧ u = unT M o)) := by
  have rg := xp.rg
  refine ⟨e.1, e.2.1, fun x h1 h2 => ⟨(e.2.2 x h1 h2).1, ?_⟩⟩
  rcases (e.2.2 x h1 h2).2 with q | q
  · by_cases z : realR M o ts = true
    · exact Or.inl ⟨z, q⟩
    · have z' : realR M o ts = false := by simpa using z
      obtain ⟨hu, e2 | e2⟩ := mk_notreal z'
      · exact Or.inr ⟨o, hok.1, hok.2.1, hu, by rw [q, e2]⟩
      · obtain ⟨-, t, ht, w⟩ := fltR_subs (fun t ht => (hok.2.2.2 t ht).1) e2
        obtain ⟨y, ly, ey⟩ := hl t ht
        rw [← ey] at w
        obtain ⟨v, lv, ev⟩ := xp.sbs ly w
        have lx : lvX s x := ⟨by omega, h2⟩
        have := xs.inj (e.lv lv) lx (by rw [e.t lv, ev, q])
        have := lv.2
        omega
  · exact Or.inr ⟨o, hok.1, hok.2.1, q.1, q.2⟩
/-- behind the place: the whole term comes to rest, and to the list -/
theorem xs_foundRest (c : cxR M R mo σ0 (a0 + 50) (r0 + 50)) (hOt : isOt M) {σ : S} {st : ST} {x rl : Int} {fl : FL} {T : Tr} (h : XR M R mo σ0 st σ) (hx : ∀ st2, cntE (trS T : Int) st (.inr ((), st2)) → WI M R a0 r0 1 1 st2 ∧ KH M st2 T) (lx : lvX σ x) (eT : tX σ x = T) (ri : RI 8 σ) (hf : flX σ fl) :
    x_found_j105 rl x σ (fun _ s => ∃ st' fl', bnd (cntE (trS T) st) (fun _ st2 o => bnd (RE (Wr M R mo) 0 T st2) (fun z st3 o => bnd (stepE st3) (fun _ st4 o => addE z rl fl st4 o) o) o) (.inr (fl', st')) ∧ okX M R mo σ0 σ st' s ∧ flX s fl') (fun s => bnd (cntE (trS T) st) (fun _ st2 o => bnd (RE (Wr M R mo) 0 T st2) (fun z st3 o => bnd (stepE st3) (fun _ st4 o => addE z rl fl st4 o) o) o) (.inl (gI s 1006, gI s 131)) ∧ noX M σ s) := by
  have hM := c.1.wm
  have hE := hE_of c
  have hn0 := c.2.1.1
  have rg := h.1.rg
  unfold x_found_j105
  refine fm_x_countFilled (cnt_plain hn0 h lx eT) (fun _ t4 f4 q => ?_) (fun t4 f4 q => ⟨bnd_inl q.1, q.2⟩)
  obtain ⟨st2, ec, k4, f4'⟩ := q
  obtain ⟨w2, kT⟩ := hx st2 ec
  have ri4 := ri.next k4
  obtain ⟨r1, r2, r3, r4, r5, r6, r7⟩ := id ri4
  refine fm_x_keepBound (xs_keepBound (by omega) (by omega)) (fun _ t6 f6 q => ?_)
  obtain ⟨f6', v1, v2, v3⟩ := q
  have h6 : XR M R mo σ0 st2 t6 := k4.1.fr hn0 f6' rfl rfl rfl rfl rfl (leS.rf _) (by
    obtain ⟨⟨d1, d2, d3, d4, d5⟩, d⟩ := k4.1.2.2.2.1
    exact ⟨⟨by rw [f6'.i _ rfl, d1], by rw [f6'.i _ rfl, d2], by rw [f6'.i _ rfl, d3], by rw [f6'.l _ rfl, d4], by rw [f6'.l _ rfl, d5]⟩, d⟩)
  have g46 : gwX t4 t6 := EyX.of_fr f6' rfl
  have g06 : gwX σ t6 := k4.2.1.trans g46 rg.1
  have lx6 := g06.lv lx
  have ex6 := (g06.2.1 x lx).trans eT
  have ri6 : RI 9 t6 := ⟨by rw [f6'.i _ rfl, r1], by rw [f6'.i _ rfl, r2], by rw [f6'.i _ rfl, r3], by omega, by rw [f6'.i _ rfl, f6'.i 128 rfl]; exact r5, by rw [f6'.i _ rfl, r6], by rw [f6'.i _ rfl, r7]⟩
  have c1 : cxR M R mo σ0 (a0 + 1) (r0 + 1) := c.weak (by omega) (by omega)
  refine fm_x_toRest (xs_toRest c1 hOt (d := 0) h6 w2.shift lx6 (by rw [ex6]; exact kT) (ri6.se h6 (by omega))) (fun r8 t7 f7 q => ?_) (fun t7 f7 q => ?_)
  rotate_left
  · rw [ex6] at q
    exact ⟨bnd_inr ec (bnd_inl q.1), q.2.1, g06.trans q.2.2 rg.1⟩
  obtain ⟨st3, e3, l8, k7⟩ := q
  rw [ex6] at e3
  obtain ⟨h7, g7, ⟨⟨y1, y2, y3, y4, y5, y6, y7⟩, z1, z2, z3, z4⟩, n7, m7⟩ := id k7
  refine fm_x_takeBound (xs_takeBound (by omega) (by omega)) (fun _ t10 f10 q => ?_)
  obtain ⟨f10', u1, u2⟩ := q
  have h10 : XR M R mo σ0 st3 t10 := h7.fr hn0 f10' rfl rfl rfl rfl rfl (leS.rf _) (by
    obtain ⟨⟨d1, d2, d3, d4, d5⟩, d⟩ := h7.2.2.2.1
    exact ⟨⟨by rw [f10'.i _ rfl, d1], by rw [f10'.i _ rfl, d2], by rw [f10'.i _ rfl, d3], by rw [f10'.l _ rfl, d4], by rw [f10'.l _ rfl, d5]⟩, d⟩)
  have g710 : gwX t7 t10 := EyX.of_fr f10' rfl
  have g610 := g7.trans g710 h6.1.rg.1
  have g010 : gwX σ t10 := g06.trans g610 rg.1
  have k10 : okX M R mo σ0 t4 st3 t10 := by
    refine ⟨h10, g46.trans g610 k4.1.1.rg.1, ⟨⟨?_, ?_, ?_, ?_, ?_, ?_, ?_⟩, fun j hj => ?_, fun j hj => ?_, fun j hj => ?_, fun j hj => ?_⟩, ?_, ?_⟩
    · rw [f10'.i _ rfl, y1, f6'.i _ rfl]
    · rw [f10'.i _ rfl, y2, f6'.i _ rfl]
    · rw [u1, y3, v1]; omega
    · rw [f10'.i _ rfl, y4, f6'.i _ rfl]
    · rw [f10'.i _ rfl, y5, f6'.i _ rfl]
    · rw [f10'.i _ rfl, y6, f6'.i _ rfl]
    · rw [f10'.i _ rfl, y7, f6'.i _ rfl]
    · rw [f10'.a _ rfl, z1 j (by rw [f6'.i _ rfl]; exact hj), f6'.a _ rfl]
    · rw [f10'.a _ rfl, z2 j (by rw [f6'.i _ rfl]; exact hj), f6'.a _ rfl]
    · rw [f10'.a _ rfl, z3 j (by omega), v2 j hj]
    · rw [f10'.a _ rfl, z4 j (by rw [f6'.i _ rfl]; exact hj), f6'.a _ rfl]
    · rw [← f6'.i 131 rfl]; exact n7
    · rw [← f6'.i 128 rfl]; exact m7
  have k010 := okX.trans rg.1 k4 k10
  refine fm_x_countStep (stp_step hn0 h10) (fun _ t11 f11 q => ?_) (fun t11 f11 q => ⟨bnd_inr ec (bnd_inr e3 (bnd_inl q.1)), q.2.pre rg.1 k010⟩)
  obtain ⟨st4, e4, k11, f11'⟩ := q
  have kk := okX.trans rg.1 k010 k11
  have l11 : lvX t11 r8 := k11.2.1.lv (g710.lv l8)
  have e11 : tX t11 r8 = tX t7 r8 := (k11.2.1.2.1 _ (g710.lv l8)).trans (g710.2.1 _ l8)
  have run : ∀ o, addE (tX t7 r8) rl fl st4 o → bnd (cntE (trS T) st) (fun _ st2 o => bnd (RE (Wr M R mo) 0 T st2) (fun z st3 o => bnd (stepE st3) (fun _ st4 o => addE z rl fl st4 o) o) o) o := fun o ho => bnd_inr ec (bnd_inr e3 (bnd_inr e4 ho))
  have fr : gI t11 146 = gI σ 146 ∧ gA t11 93 = gA σ 93 ∧ gA t11 94 = gA σ 94 := by
    refine ⟨?_, ?_, ?_⟩
    · rw [f11'.i _ rfl, f10'.i _ rfl, f7.i _ rfl, f6'.i _ rfl, f4'.i _ rfl]
    · rw [f11'.a _ rfl, f10'.a _ rfl, f7.a _ rfl, f6'.a _ rfl, f4'.a _ rfl]
    · rw [f11'.a _ rfl, f10'.a _ rfl, f7.a _ rfl, f6'.a _ rfl, f4'.a _ rfl]
  have hf11 : flX t11 fl := hf.to kk.2.1 fr.1 fr.2.1 fr.2.2
  have rg11 := kk.1.1.rg
  refine lx_found_L131 (fun v4 s => s = t11 ∧ ∃ i : Nat, v4 = (i : Int) ∧ i ≤ fl.length ∧ ∀ j : Nat, j < i → ∀ q, fl[j]? = some q → q.1 ≠ tX t7 r8)
    (fun v4 _ => (fl.length + 1 - v4.toNat)) ⟨rfl, 0, rfl, by omega, fun j hj => by omega⟩ ?_
  rintro v4 s fr0 ⟨rfl, i, rfl, hi, hne⟩
  try dsimp only
  have m60 := hf11.2.1
  rw [hf11.1]
  by_cases yy : (i : Int) < (fl.length : Int)
  · rw [if_pos yy]
    refine ⟨⟨by omega, by omega⟩, ?_⟩
    obtain ⟨la, ea⟩ := hf11.2.2 i (by omega)
    by_cases z : gA s 93 (i : Int) = r8
    · rw [if_pos z]
      refine ⟨st4, fl, run _ (Or.inl ⟨?_, rfl⟩), kk, hf11⟩
      rw [z, e11] at ea
      exact List.mem_map.mpr ⟨_, List.mem_of_getElem? ea, rfl⟩
    · rw [if_neg z]
      have wi1 : w32 ((i : Int) + 1) = ((i + 1 : Nat) : Int) := by rw [w32_id (by omega) (by omega)]; omega
      rw [wi1]
      refine ⟨⟨rfl, i + 1, rfl, by omega, fun j hj q hq => ?_⟩, by omega⟩
      by_cases w : j = i
      · subst w
        rw [ea] at hq
        rw [← Option.some.inj hq]
        intro e
        exact z (kk.1.1.inj la l11 (by rw [e11]; exact e))
      · exact hne j (by omega) q hq
  · rw [if_neg yy]
    have ei : i = fl.length := by omega
    have nm : tX t7 r8 ∉ fl.map Prod.fst := by
      intro hm
      obtain ⟨q, hq, eq⟩ := List.mem_map.mp hm
      obtain ⟨j, hj, ej⟩ := List.getElem_of_mem hq
      exact hne j (by omega) q (by rw [List.getElem?_eq_getElem hj, ej]) eq
    unfold x_found_j158
    rw [hf11.1]
    by_cases w : (fl.length : Int) = 60
    · rw [if_pos w]
      refine xs_stop ?_
      have fs : Fr ([1006], [], []) s (pI s 1006 2) := Fr.rf.putI rfl rfl
      refine ⟨run _ (Or.inr ⟨nm, ?_⟩), kk.1.1.fr fs rfl, kk.2.1.trans (EyX.of_fr fs rfl) rg.1⟩
      rw [if_pos (by omega)]
      simp only [gI_pI, gI_pL, gI_pA, gL_pI, gL_pL, gL_pA, gA_pI, gA_pL, gA_pA]
      rw [if_pos trivial, if_neg (by decide), kk.1.2.2.2.1.1.1]
    · rw [if_neg w]
      refine ⟨⟨by omega, by omega⟩, ?_⟩
      rintro t20 ht20 t24 ht24
      have e20 : gI t20 146 = (fl.length : Int) := by rw [ht20]; simp only [gI_pI, gI_pL, gI_pA, gL_pI, gL_pL, gL_pA, gA_pI, gA_pL, gA_pA]; exact hf11.1
      rw [e20, w32_id (by omega) (by omega)] at ht24
      rw [e20]
      refine ⟨⟨by omega, by omega⟩, ?_⟩
      rintro t26 ht26
      have f26 : Fr ([146], [], [93, 94]) s t26 := (((Fr.rf.putA ht20 rfl).putI ht24 rfl).putA ht26 rfl)
      have g26 : gwX s t26 := EyX.of_fr f26 rfl
      have h26 : XR M R mo σ0 st4 t26 := kk.1.fr hn0 f26 rfl rfl rfl rfl rfl (leS.rf _) (by
        obtain ⟨⟨d1, d2, d3, d4, d5⟩, d⟩ := kk.1.2.2.2.1
        exact ⟨⟨by rw [f26.i _ rfl, d1], by rw [f26.i _ rfl, d2], by rw [f26.i _ rfl, d3], by rw [f26.l _ rfl, d4], by rw [f26.l _ rfl, d5]⟩, d⟩)
      have k26 : okX M R mo σ0 s st4 t26 := ⟨h26, g26, ⟨⟨f26.i _ rfl, f26.i _ rfl, f26.i _ rfl, f26.i _ rfl, f26.i _ rfl, f26.i _ rfl, f26.i _ rfl⟩, fun j _ => by rw [f26.a _ rfl], fun j _ => by rw [f26.a _ rfl], fun j _ => by rw [f26.a _ rfl], fun j _ => by rw [f26.a _ rfl]⟩, by rw [kk.1.2.2.2.1.1.1]; exact Int.le_refl _, by rw [kk.1.2.2.2.1.1.2.2.1]; exact Int.le_refl _⟩
      have ef : ∀ j : Int, gA t26 93 j = if j = (fl.length : Int) then r8 else gA s 93 j := fun j => by
        rw [ht26, ht24, ht20]
        simp only [gI_pI, gI_pL, gI_pA, gL_pI, gL_pL, gL_pA, gA_pI, gA_pL, gA_pA]
        rw [if_neg (by rintro ⟨z, -⟩; exact absurd z (by decide))]
        by_cases z : j = (fl.length : Int)
        · rw [if_pos ⟨trivial, z⟩, if_pos z]
        · rw [if_neg (fun q => z q.2), if_neg z]
      have er : ∀ j : Int, gA t26 94 j = if j = (fl.length : Int) then rl else gA s 94 j := fun j => by
        rw [ht26, ht24, ht20]
        simp only [gI_pI, gI_pL, gI_pA, gL_pI, gL_pL, gL_pA, gA_pI, gA_pL, gA_pA]
        by_cases z : j = (fl.length : Int)
        · rw [if_pos ⟨trivial, z⟩, if_pos z]
        · rw [if_neg (fun q => z q.2), if_neg z, if_neg (by rintro ⟨z, -⟩; exact absurd z (by decide))]
      refine ⟨st4, fl ++ [(tX t7 r8, rl)], run _ (Or.inr ⟨nm, ?_⟩), okX.trans rg.1 kk k26, ?_, ?_, fun j hj => ?_⟩
      · rw [if_neg (by omega)]
      · rw [ht26, ht24]
        simp only [gI_pI, gI_pL, gI_pA, gL_pI, gL_pL, gL_pA, gA_pI, gA_pL, gA_pA]
        rw [if_pos trivial, List.length_append]
        simp only [List.length_cons, List.length_nil]
        omega
      · rw [List.length_append]
        simp only [List.length_cons, List.length_nil]
        omega
      · rw [List.length_append] at hj
        simp only [List.length_cons, List.length_nil] at hj
        rw [ef, er]
        by_cases z : j = fl.length
        · rw [if_pos (by omega), if_pos (by omega), z, List.getElem?_append_right (Nat.le_refl _), Nat.sub_self]
          exact ⟨g26.lv l11, by rw [g26.2.1 _ l11, e11]; rfl⟩
        · rw [if_neg (by omega), if_neg (by omega), List.getElem?_append_left (by omega)]
          obtain ⟨la, ea⟩ := hf11.2.2 j (by omega)
          exact ⟨g26.lv la, by rw [ea, g26.2.1 _ la]⟩
end

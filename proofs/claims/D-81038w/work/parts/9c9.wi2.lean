/-! what runs that end well leave: terms at rest, how many are made -/
section
variable {M : Mo} {R : Ru} {mo : Int} {G : RT} {a0 r0 : Int}
def EK (M : Mo) (st : ST) (ρ : Env) : Prop := ∀ v, ρ v = .nil ∨ (isT (ρ v) ∧ KH M st (ρ v))
theorem EK.le {st st' : ST} (h : leS st st') {ρ : Env} (k : EK M st ρ) : EK M st' ρ := fun v => (k v).imp id (fun z => ⟨z.1, z.2.le h z.1⟩)
theorem EK.ct {st : ST} {ρ : Env} (k : EK M st ρ) : EK M st (cut ρ) := fun v => by
  unfold cut
  split
  · exact k v
  · exact Or.inl rfl
theorem EK.at {st : ST} {ρ : Env} {s c : Int} (h : EI M R s c ρ) (k : EK M st ρ) {v : Int} (hk : kn M R s c v) : okT M (ρ v) ∧ KH M st (ρ v) := ⟨h.ok hk, ((k v).resolve_left (h.2.2 v hk)).2⟩
theorem EK_nil (st : ST) : EK M st nilE := fun _ => Or.inl rfl
/-- matchers of a term at rest -/
theorem EK_match (hM : WM M) {p t : Tr} {w : Bool} {ρ ρ1 : Env} {st : ST} (hp : okT M p) (ht : okT M t) (hw : tWide (asO M p) t = false) (hb : okB M ρ) (hz : Zm M p t w ρ ρ1) (h : PH M st t) (k : EK M st ρ) : EK M st ρ1 := fun v => by
  rcases Zm_in hM hp.1 hp.2 ht.1 ht.2 hw hb hz v with e | ⟨e1, -, e3⟩
  · rw [e]; exact k v
  · exact Or.inr ⟨e1.1, (inU_PH ht.1.1 h hw e3).KH⟩
def wi (M : Mo) (R : Ru) (a0 r0 : Int) (G : RT) : Prop := ∀ t st r st', okT M t → WI M R a0 r0 0 0 st → KH M st t → G t st (.inr (r, st')) → WI M R a0 r0 0 0 st' ∧ leS st st' ∧ DR M st' r ∧ okT M r
theorem leM_came {st st' : ST} (h : SN M R (fun _ => False) st st') {t : Tr} (k : came st t ≠ .nil) : came st' t = came st t := by
  unfold came at k ⊢
  by_cases hv : lab t < 0
  · rw [if_pos hv, if_pos hv]
  · rw [if_neg hv] at k
    rw [if_neg hv, if_neg hv]
    exact h.2 t (by omega) k
theorem rowE_wi (hG : sn M R G) (hW : wi M R a0 r0 G) : ∀ ts st us st', (∀ t ∈ ts, okT M t ∧ KH M st t) → WI M R a0 r0 0 0 st → rowE G ts st (.inr (us, st')) → WI M R a0 r0 0 0 st' ∧ leS st st' ∧ (∀ u ∈ us, DR M st' u ∧ okT M u) ∧ us = ts.map (came st') ∧ ∀ t ∈ ts, came st' t ≠ .nil := by
  intro ts
  induction ts with
  | nil =>
    intro st us st' _ hw h
    simp only [rowE, Sum.inr.injEq, Prod.mk.injEq] at h
    rw [h.1, h.2]
    exact ⟨hw, leS.rf _, fun u hu => absurd hu (List.not_mem_nil), rfl, fun u hu => absurd hu (List.not_mem_nil)⟩
  | cons t ts ih =>
    intro st us st' ht hw h
    obtain ⟨u, st1, h1, h⟩ := bnd_ok h
    obtain ⟨vs, st2, h2, h⟩ := bnd_ok h
    simp only [Sum.inr.injEq, Prod.mk.injEq] at h
    have a := ht t (List.mem_cons_self ..)
    obtain ⟨w1, l1, d1, o1⟩ := hW t st u st1 a.1 hw a.2 h1
    obtain ⟨-, -, c1⟩ := hG (fun _ => False) t st u st1 a.1 (PA_no hw.1) (dm_no _) h1
    obtain ⟨w2, l2, d2, c2, n2⟩ := ih st1 vs st2 (fun x hx => by
      have b := ht x (List.mem_cons_of_mem _ hx)
      exact ⟨b.1, b.2.le l1 b.1.1.1⟩) w1 h2
    have ct : came st2 t = u := by
      rw [came_le l2 (by rw [c1]; exact isT_nn o1.1.1), c1]
    rw [h.1, h.2]
    refine ⟨w2, l1.trans l2, fun x hx => ?_, by rw [List.map_cons, ct, ← c2], fun x hx => ?_⟩
    · rcases List.mem_cons.mp hx with rfl | hx
      · exact ⟨d1.le l2 o1.1.1, o1⟩
      · exact d2 x hx
    · rcases List.mem_cons.mp hx with rfl | hx
      · rw [ct]; exact isT_nn o1.1.1
      · exact n2 x hx
/-- a row's term, its parts at rest -/
def PD (M : Mo) (st : ST) (y : Tr) : Prop := PH M st y ∧ ∀ k ∈ kids y, aR st k
theorem PD.le {st st' : ST} (h : leS st st') {t : Tr} (ht : isT t) (k : PD M st t) : PD M st' t := ⟨k.1.le h ht, fun u hu => (k.2 u hu).le h (isT_kid ht hu)⟩
theorem redE_wi (hM : WM M) (hG : sn M R G) (hW : wi M R a0 r0 G) {x y : Tr} {st st' : ST} (hx : okT M x) (hk : KH M st x) (hw : WI M R a0 r0 0 0 st) (h : redE M G x st (.inr (y, st'))) : WI M R a0 r0 0 0 st' ∧ leS st st' ∧ PD M st' y ∧ okT M y := by
  rcases h with ⟨k, h⟩ | ⟨k, h⟩
  · simp only [Sum.inr.injEq, Prod.mk.injEq] at h
    rw [h.1, h.2]
    exact ⟨hw, leS.rf _, ⟨PH_nil hx.1.1 k, by rw [k]; exact fun u hu => absurd hu (List.not_mem_nil)⟩, hx⟩
  · have x0 : 0 ≤ lab x := by
      rcases Classical.em (lab x < 0) with z | z
      · exact absurd (kids_var hx.1 z) k
      · omega
    obtain ⟨us, st1, h1, h⟩ := bnd_ok h
    obtain ⟨w1, l1, d1, c1, n1⟩ := rowE_wi hG hW _ _ _ _ (fun t ht => ⟨hx.kid ht, hk.sub hx.1.1 (subs_kid hx.1.1 (subs_self hx.1.1) ht).1⟩) hw h1
    rcases h with ⟨a, h⟩ | ⟨a, h⟩
    · simp only [Sum.inr.injEq, Prod.mk.injEq] at h
      rw [h.1, h.2]
      rw [a] at d1 c1
      have kr : kR st1 x := fun u hu => (d1 u hu).1.2 u (subs_self (d1 u hu).2.1.1)
      refine ⟨w1, l1, ⟨fun q hq => ?_, fun u hu => (d1 u hu).1.2⟩, hx⟩
      rcases subs_top hx.1.1 hq with e | ⟨u, hu, z⟩
      · rw [e]
        refine Or.inr ⟨?_, kr⟩
        rcases hk x (subs_self hx.1.1) with z | z | z
        · exact absurd z k
        · refine Or.inl ⟨x, l1.2 x z, x0, k, n1, ?_⟩
          rw [← c1]
          exact (mk_self hM hx.1 x0 k).symm
        · exact z.1.le l1
      · exact (d1 u hu).1.1 q z
    · split at h
      · cases h
      · rename_i hs
        simp only [Sum.inr.injEq, Prod.mk.injEq] at h
        have lu : us.length = (kids x).length := by rw [c1, List.length_map]
        have ok := mkOk_row hx.1 x0 lu (fun u hu => (d1 u hu).2.1)
        have oy : okT M y := by rw [h.1]; exact ⟨NF_mk hM ok, by omega⟩
        have iu : ∀ u ∈ us, isT u := fun u hu => (d1 u hu).2.1.1
        have hA : x ∈ stA st := by
          rcases hk x (subs_self hx.1.1) with z | z | z
          · exact absurd z k
          · exact z
          · refine absurd ?_ a
            rw [c1]
            have : ∀ u ∈ kids x, came st1 u = id u := fun u hu => by
              have e := z.2 u hu
              rw [came_le l1 (by rw [e]; exact isT_nn (isT_kid hx.1.1 hu)), e]
              rfl
            rw [List.map_congr_left this, List.map_id]
        have ey : y = mk M (lab x) us := h.1
        have kd : ∀ u ∈ kids y, ∃ w ∈ us, u ∈ subs w := fun u hu => mk_kid iu (by rw [← ey]; exact hu)
        have ak : ∀ u ∈ kids y, aR st1 u := fun u hu q hq => by
          obtain ⟨w, hw, z⟩ := kd u hu
          exact (d1 w hw).1.2 q (subs_trans (iu w hw) z hq)
        rw [h.2]
        refine ⟨w1, l1, ⟨fun q hq => ?_, ak⟩, oy⟩
        rw [ey] at hq
        rcases mk_subs iu (by rw [← ey]; exact oy.1.1) hq with e | ⟨w, hw, z⟩
        · rw [e, ← ey]
          refine Or.inr ⟨Or.inl ⟨x, l1.2 x hA, x0, k, n1, by rw [ey, c1]⟩, fun u hu => ak u hu u (subs_self (oy.kid hu).1.1)⟩
        · exact (d1 w hw).1.1 q z
theorem sn_val (hM : WM M) (hE : ∀ e ∈ eqs M, RuOK M R e) {t r : Tr} (ot : okT M t) (h : ∃ n, bg M R n t = some r) : okT M r := by
  obtain ⟨n, e⟩ := h
  exact bg_val hM hE n t r ot e
theorem partE_wi (hM : WM M) (hW : wi M R a0 r0 G) {t r : Tr} {ρ : Env} {st st' : ST} (ht : okT M t) (hρ : ∀ v : Int, 0 ≤ v → occ v t → okT M (ρ v) ∧ KH M st (ρ v)) (hw : WI M R a0 r0 0 0 st) (h : partE M G t ρ st (.inr (r, st'))) : WI M R a0 r0 0 0 st' ∧ leS st st' ∧ DR M st' r ∧ okT M r := by
  obtain ⟨u, st1, h1, h⟩ := bnd_ok h
  obtain ⟨v, st2, h2, h⟩ := bnd_ok h
  obtain ⟨w2, l2, k2, o2, -, -⟩ := cp_wi hM ht (Int.le_refl _) hρ hw h1 h2
  obtain ⟨w3, l3, d3, o3⟩ := hW v st2 r st' o2 (w2.weak (by omega) (by omega)) k2 h
  exact ⟨w3, l2.trans l3, d3, o3⟩
theorem isTrueE_wi (hM : WM M) (hW : wi M R a0 r0 G) {k : Int} {ρ : Env} {b : Bool} {st st' : ST} (hc : okT M (ruC R k)) (hcv : ∀ v : Int, 0 ≤ v → occ v (ruC R k) → okT M (ρ v) ∧ KH M st (ρ v)) (ho : mCs M k ≠ 2 → okT M (ruO R k) ∧ ∀ v : Int, 0 ≤ v → occ v (ruO R k) → okT M (ρ v) ∧ KH M st (ρ v)) (hw : WI M R a0 r0 0 0 st) (h : isTrueE M R G k ρ st (.inr (b, st'))) : WI M R a0 r0 0 0 st' ∧ leS st st' := by
  obtain ⟨a, st1, h1, h⟩ := bnd_ok h
  obtain ⟨w1, l1, -, -⟩ := partE_wi hM hW hc hcv hw h1
  rcases h with ⟨c, h⟩ | ⟨c, h⟩
  · simp only [Sum.inr.injEq, Prod.mk.injEq] at h
    rw [h.2]
    exact ⟨w1, l1⟩
  · obtain ⟨b2, st2, h2, h⟩ := bnd_ok h
    obtain ⟨w2, l2, -, -⟩ := partE_wi hM hW (ho c).1 (fun v v0 hv => ⟨((ho c).2 v v0 hv).1, ((ho c).2 v v0 hv).2.le l1 ((ho c).2 v v0 hv).1.1.1⟩) w1 h2
    have : st' = st2 := by
      rcases h with ⟨-, h⟩ | ⟨-, h⟩
      · simp only [Sum.inr.injEq, Prod.mk.injEq] at h; exact h.2
      · simp only [Sum.inr.injEq, Prod.mk.injEq] at h; exact h.2
    rw [this]
    exact ⟨w2, l1.trans l2⟩
theorem mt_wi {st st' : ST} {p t : Tr} {w : Bool} {ρ : Env} {L : List Env} {ka kr : Int} (h : WI M R a0 r0 ka kr st) (k : mtE M mo p t w ρ st (.inr (L, st'))) : WI M R a0 r0 ka kr st' ∧ leS st st' := by
  obtain ⟨-, -, e⟩ := mtE_ok k
  have eM : stM st' = stM st := by rw [e]
  have eA : stA st' = stA st := by rw [e]
  have eF : stF st' = stF st := by rw [e]
  have eS : stS st' = stS st := by rw [e]
  have hh := h
  obtain ⟨-, -, w3, w4, w5, w6, w7⟩ := hh
  exact ⟨h.to eM (fun u hu => by rw [eA]; exact hu) (by rw [eA, eF, eS]; exact w3) (by rw [eA, eF, eS]; exact w4) (by rw [eF]; exact w5) (by rw [eS]; exact w6) (by rw [eA]; exact w7), leS_same eM (fun u hu => by rw [eA]; exact hu)⟩
theorem mcE_wi (hM : WM M) (hW : wi M R a0 r0 G) {k : Int} {ρ : Env} {L : List Env} {st st' : ST} (hC : okT M (ruC R k)) (ho : okT M (ruO R k)) (hov : ∀ v : Int, 0 ≤ v → occ v (ruO R k) → okT M (ρ v) ∧ KH M st (ρ v)) (hb : okB M ρ) (hk : EK M st ρ) (hw : WI M R a0 r0 0 0 st) (h : mcE M R mo G k ρ st (.inr (L, st'))) : WI M R a0 r0 0 0 st' ∧ leS st st' ∧ ∀ ρ1 ∈ L, EK M st' ρ1 := by
  obtain ⟨u, st1, h1, h⟩ := bnd_ok h
  obtain ⟨v, st2, h2, h⟩ := bnd_ok h
  obtain ⟨r, st3, h3, h⟩ := bnd_ok h
  obtain ⟨w2, l2, k2, o2, -, -⟩ := cp_wi hM ho (by omega) hov hw h1 h2
  obtain ⟨w3, l3, d3, o3⟩ := hW v st2 r st3 o2 (w2.weak (by omega) (by omega)) k2 h3
  obtain ⟨w4, l4⟩ := mt_wi w3 h
  obtain ⟨-, em, -⟩ := mtE_ok h
  obtain ⟨hwd, hz⟩ := mlB_ok em
  refine ⟨w4, l2.trans (l3.trans l4), fun ρ1 hm => ?_⟩
  exact (EK_match hM hC o3 hwd hb (hz ρ1 hm) d3.1 (hk.le (l2.trans l3))).le l4
theorem firstE_wi {β : Type} {a : Env → ST → Out (Option β) → Prop} {I : ST → Env → Prop} {J : ST → β → Prop} (hI : ∀ st st' ρ, leS st st' → I st ρ → I st' ρ) : ∀ L st r st', (∀ ρ ∈ L, I st ρ) → (∀ ρ ∈ L, ∀ st r st', WI M R a0 r0 0 0 st → I st ρ → a ρ st (.inr (r, st')) → leS st st' ∧ (r = none → WI M R a0 r0 0 0 st') ∧ ∀ b, r = some b → J st' b) → WI M R a0 r0 0 0 st → firstE a L st (.inr (r, st')) → leS st st' ∧ (r = none → WI M R a0 r0 0 0 st') ∧ ∀ b, r = some b → J st' b := by
  intro L
  induction L with
  | nil =>
    intro st r st' _ _ hw k
    simp only [firstE, Sum.inr.injEq, Prod.mk.injEq] at k
    rw [k.1, k.2]
    exact ⟨leS.rf _, fun _ => hw, fun b e => by cases e⟩
  | cons ρ L ih =>
    intro st r st' hi h hw k
    obtain ⟨q, st1, k1, k⟩ := bnd_ok k
    obtain ⟨l1, n1, j1⟩ := h ρ (List.mem_cons_self ..) st q st1 hw (hi ρ (List.mem_cons_self ..)) k1
    match q with
    | some v =>
      simp only [Sum.inr.injEq, Prod.mk.injEq] at k
      rw [k.1, k.2]
      exact ⟨l1, fun e => by (cases e), fun b e => by (cases e; exact j1 _ rfl)⟩
    | none =>
      obtain ⟨l2, n2, j2⟩ := ih st1 r st' (fun x hx => hI st st1 x l1 (hi x (List.mem_cons_of_mem _ hx))) (fun x hx => h x (List.mem_cons_of_mem _ hx)) (n1 rfl) k
      exact ⟨l1.trans l2, n2, j2⟩
theorem holdsE_wi (hM : WM M) (hE : ∀ e ∈ eqs M, RuOK M R e) (hG : sn M R G) (hW : wi M R a0 r0 G) {s : Int} (hR : RuOK M R s) : ∀ (k : Nat) (c : Int) (ρ : Env) st r st', 0 ≤ c → c + (k : Int) = mCn M s → EI M R s c ρ → EK M st ρ → WI M R a0 r0 0 0 st → holdsE M R mo G s k c ρ st (.inr (r, st')) → leS st st' ∧ (r = none → WI M R a0 r0 0 0 st') ∧ ∀ ρ', r = some ρ' → WI M R a0 r0 0 0 st' ∧ EK M st' ρ' ∧ EI M R s (mCn M s) ρ' := by
  intro k
  induction k with
  | zero =>
    intro c ρ st r st' _ ck hρ hk hw h
    simp only [holdsE, Sum.inr.injEq, Prod.mk.injEq] at h
    rw [h.1, h.2]
    refine ⟨leS.rf _, fun e => by (cases e), fun ρ' e => ?_⟩
    cases e
    rw [← ck]
    exact ⟨hw, hk, by simpa using hρ⟩
  | succ k ih =>
    intro c ρ st r st' c0 ck hρ hk hw h
    have C := hR.2.2.2.2 c c0 (by omega)
    rcases h with ⟨z, h⟩ | ⟨z, h⟩
    · obtain ⟨L, st1, h1, h⟩ := bnd_ok h
      have D := C.2.1 (by omega)
      obtain ⟨-, n, e1⟩ := mcE_sn (S := fun _ => False) hM hG D.1 (fun v v0 ho => hρ.ok (D.2 v v0 ho)) (PA_no hw.1) (dm_no _) h1
      have eL := mcB_val hM (bg_val hM hE n) hR c0 (by omega) hρ z e1
      obtain ⟨w1, l1, k1⟩ := mcE_wi hM hW C.1 D.1 (fun v v0 ho => EK.at hρ hk (D.2 v v0 ho)) hρ.1 hk hw h1
      obtain ⟨l2, n2, j2⟩ := firstE_wi (I := fun st ρ1 => EK M st ρ1) (J := fun st ρ' => WI M R a0 r0 0 0 st ∧ EK M st ρ' ∧ EI M R s (mCn M s) ρ') (fun st st' ρ l e => e.le l) L st1 r st' k1 (fun ρ1 hm st r st' hw hk h => ih (c + 1) (cut ρ1) st r st' (by omega) (by omega) (eL ρ1 hm) hk.ct hw h) w1 h
      exact ⟨l1.trans l2, n2, j2⟩
    · obtain ⟨b, st1, h1, h⟩ := bnd_ok h
      have D := C.2.2.1 z
      obtain ⟨w1, l1⟩ := isTrueE_wi hM hW C.1 (fun v v0 ho => EK.at hρ hk (D v v0 ho)) (fun z2 => ⟨(C.2.1 z2).1, fun v v0 ho => EK.at hρ hk ((C.2.1 z2).2 v v0 ho)⟩) hw h1
      rcases h with ⟨y, h⟩ | ⟨y, h⟩
      · obtain ⟨l2, n2, j2⟩ := ih (c + 1) ρ st1 r st' (by omega) (by omega) (hρ.up z) (hk.le l1) w1 h
        exact ⟨l1.trans l2, n2, j2⟩
      · simp only [Sum.inr.injEq, Prod.mk.injEq] at h
        rw [h.1, h.2]
        exact ⟨l1, fun _ => w1, fun b e => by (cases e)⟩
end

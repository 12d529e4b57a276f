/-! values of reducing: terms in their form, of 40 at most -/
theorem ob_ok {α β : Type} {o : Option α} {k : α → Option β} {b : β} (h : o.bind k = some b) : ∃ a, o = some a ∧ k a = some b := by
  cases o with
  | none => cases h
  | some a => exact ⟨a, rfl, h⟩
theorem mkOk_row {M : Mo} {t : Tr} {us : List Tr} (ht : NF M t) (h0 : 0 ≤ lab t) (hl : us.length = (kids t).length) (h : ∀ u ∈ us, NF M u) : mkOk M (lab t) us := by
  rcases ht.ok with y | y
  · omega
  · refine ⟨h0, y.2.1, ?_, h⟩
    have z := y.2.2.1
    by_cases ha : mAs M (lab t) ≠ 0
    · rw [if_pos ha] at z ⊢; omega
    · rw [if_neg ha] at z ⊢; omega
theorem okT.kid {M : Mo} {t u : Tr} (h : okT M t) (hu : u ∈ kids t) : okT M u := by
  refine ⟨h.1.kid hu, ?_⟩
  have := trS_kid (c := lab t) hu
  rw [← h.1.eta] at this
  have := h.2
  omega
theorem kids_var {M : Mo} {t : Tr} (h : NF M t) (hv : lab t < 0) : kids t = [] := by
  rcases h.ok with y | y
  · exact y.2.2.2
  · omega
def vl (M : Mo) (f : FT) : Prop := ∀ t r, okT M t → f t = some r → okT M r
section
variable {M : Mo} {R : Ru} {f : FT}
theorem rowB_val (hf : vl M f) : ∀ ts us, (∀ t ∈ ts, okT M t) → rowB f ts = some us → (∀ u ∈ us, okT M u) ∧ us.length = ts.length := by
  intro ts
  induction ts with
  | nil =>
    intro us _ h
    simp only [rowB, Option.some.injEq] at h
    rw [← h]
    exact ⟨fun u hu => absurd hu (List.not_mem_nil), rfl⟩
  | cons t ts ih =>
    intro us ht h
    simp only [rowB] at h
    obtain ⟨u, h1, h⟩ := ob_ok h
    obtain ⟨vs, h2, h⟩ := ob_ok h
    have a := hf t u (ht t (List.mem_cons_self ..)) h1
    have b := ih vs (fun x hx => ht x (List.mem_cons_of_mem _ hx)) h2
    rw [← Option.some.inj h]
    refine ⟨fun x hx => ?_, by simp [b.2]⟩
    rcases List.mem_cons.mp hx with rfl | hx
    · exact a
    · exact b.1 x hx
theorem redB_val (hM : WM M) (hf : vl M f) {x y : Tr} (hx : okT M x) (h : redB M f x = some y) : okT M y := by
  unfold redB at h
  obtain ⟨us, h1, h⟩ := ob_ok h
  have v := rowB_val hf _ _ (fun t ht => hx.kid ht) h1
  split at h
  · rw [← Option.some.inj h]; exact hx
  · rename_i hne
    split at h
    · cases h
    · rename_i hs
      rw [← Option.some.inj h]
      refine ⟨NF_mk hM (mkOk_row hx.1 ?_ v.2 (fun u hu => (v.1 u hu).1)), by omega⟩
      rcases Classical.em (0 ≤ lab x) with z | z
      · exact z
      · have k := kids_var hx.1 (by omega)
        rw [k] at v hne
        exact absurd (List.length_eq_zero_iff.mp v.2) hne
theorem putB_val (hM : WM M) {ρ : Env} {t r : Tr} (ht : okT M t) (hρ : ∀ v : Int, 0 ≤ v → occ v t → okT M (ρ v)) (h : putB M ρ t = some r) : okT M r := by
  unfold putB at h
  split at h
  · cases h
  · rw [← Option.some.inj h]
    exact ⟨(fil_all hM t ht.1.1 ht.1 hρ).1, by omega⟩
theorem EI.ok {s c : Int} {ρ : Env} (h : EI M R s c ρ) {v : Int} (hk : kn M R s c v) : okT M (ρ v) := h.val (h.2.2 v hk)
theorem kn_le {s c c' v : Int} (h : kn M R s c v) (hc : c ≤ c') : kn M R s c' v := by
  obtain ⟨v0, z | ⟨d, d0, d1, d2, z⟩⟩ := h
  · exact ⟨v0, Or.inl z⟩
  · exact ⟨v0, Or.inr ⟨d, d0, by omega, d2, z⟩⟩
theorem kn_up {s c v : Int} (h : kn M R s (c + 1) v) : kn M R s c v ∨ (mCs M (6 * s + c) = 1 ∧ occ v (ruC R (6 * s + c))) := by
  obtain ⟨v0, z | ⟨d, d0, d1, d2, z⟩⟩ := h
  · exact Or.inl ⟨v0, Or.inl z⟩
  · by_cases e : d = c
    · subst e; exact Or.inr ⟨d2, z⟩
    · exact Or.inl ⟨v0, Or.inr ⟨d, d0, by omega, d2, z⟩⟩
theorem EI.up {s c : Int} {ρ : Env} (h : EI M R s c ρ) (hc : mCs M (6 * s + c) ≠ 1) : EI M R s (c + 1) ρ := by
  refine ⟨h.1, h.2.1, fun v hv => ?_⟩
  rcases kn_up hv with z | z
  · exact h.2.2 v z
  · exact absurd z.1 hc
theorem mcB_val (hM : WM M) (hf : vl M f) {s c : Int} (hR : RuOK M R s) (c0 : 0 ≤ c) (c1 : c < mCn M s) {ρ : Env} (hρ : EI M R s c ρ) (hc : mCs M (6 * s + c) = 1) {L : List Env} (h : mcB M R f (6 * s + c) ρ = some L) : ∀ ρ1 ∈ L, EI M R s (c + 1) (cut ρ1) := by
  unfold mcB partB at h
  obtain ⟨v, h1, h⟩ := ob_ok h
  obtain ⟨u, h2, h1⟩ := ob_ok h1
  have C := hR.2.2.2.2 c c0 c1
  have D := C.2.1 (by omega)
  have ou := putB_val hM D.1 (fun v v0 ho => hρ.ok (D.2 v v0 ho)) h2
  have ov := hf u v ou h1
  obtain ⟨hw, hz⟩ := mlB_ok h
  intro ρ1 hm
  refine EI.next (c' := c + 1) hM C.1 ov hw hρ.1 hρ.2.1 (fun w hk => ?_) (hz ρ1 hm) (fun w hk => hk) (fun w hk => kn_rg hM hR (by omega) hk)
  rcases kn_up hk with z | z
  · exact Or.inl (hρ.2.2 w z)
  · exact Or.inr z.2
theorem firstB_val {β : Type} {g : Env → Option (Option β)} {I : Env → Prop} {J : β → Prop} (h : ∀ ρ r, I ρ → g ρ = some (some r) → J r) : ∀ L r, (∀ ρ ∈ L, I ρ) → firstB g L = some (some r) → J r := by
  intro L
  induction L with
  | nil => intro r _ k; simp only [firstB, Option.some.injEq] at k; cases k
  | cons ρ L ih =>
    intro r hL k
    simp only [firstB] at k
    obtain ⟨q, k1, k⟩ := ob_ok k
    match q with
    | some b =>
      simp only [Option.some.injEq] at k
      subst k
      exact h ρ b (hL ρ (List.mem_cons_self ..)) k1
    | none => exact ih r (fun x hx => hL x (List.mem_cons_of_mem _ hx)) k
theorem holdsB_val (hM : WM M) (hf : vl M f) {s : Int} (hR : RuOK M R s) : ∀ (n : Nat) (c : Int) (ρ ρ' : Env), 0 ≤ c → c + (n : Int) = mCn M s → EI M R s c ρ → holdsB M R f s n c ρ = some (some ρ') → EI M R s (mCn M s) ρ' := by
  intro n
  induction n with
  | zero =>
    intro c ρ ρ' c0 cn hρ h
    simp only [holdsB, Option.some.injEq] at h
    subst h
    rw [← cn]
    simpa using hρ
  | succ n ih =>
    intro c ρ ρ' c0 cn hρ h
    simp only [holdsB] at h
    by_cases z : mCs M (6 * s + c) = 1
    · rw [if_pos z] at h
      obtain ⟨L, h1, h⟩ := ob_ok h
      have v := mcB_val hM hf hR c0 (by omega) hρ z h1
      exact firstB_val (I := fun ρ1 => EI M R s (c + 1) (cut ρ1)) (J := EI M R s (mCn M s)) (fun ρ1 r hI k => ih (c + 1) (cut ρ1) r (by omega) (by omega) hI k) L ρ' v h
    · rw [if_neg z] at h
      obtain ⟨b, h1, h⟩ := ob_ok h
      split at h
      · exact ih (c + 1) ρ ρ' (by omega) (by omega) (hρ.up z) h
      · simp only [Option.some.injEq] at h; cases h
theorem okB_nil : okB M nilE := ⟨fun _ _ _ => Or.inl rfl, fun _ _ => rfl⟩
theorem Zm_rest (hM : WM M) {p t : Tr} {w : Bool} {ρ : Env} (hp : NF M p) (ht : NF M t) (h : Zm M p t w nilE ρ) (hn : ¬ (ρ 60 = .nil ∧ ρ 61 = .nil)) : 0 ≤ lab p ∧ mAs M (lab p) ≠ 0 := by
  unfold Zm at h
  split at h
  · rename_i c; exact ⟨c.2.1, c.2.2.1⟩
  · have E := Solv_env hM h (fun g hg => by simp only [List.mem_singleton] at hg; subst hg; exact ⟨hp, ht⟩)
    have a := E 60
    have b := E 61
    refine absurd ⟨?_, ?_⟩ hn
    · rcases a with a | a
      · exact a
      · omega
    · rcases b with b | b
      · exact b
      · omega
theorem besL_ok {ta tx tb : Tr} (hn : ¬ (ta = .nil ∧ tb = .nil)) {P : Tr → Prop} (ha : ta = .nil ∨ P ta) (hx : P tx) (hb : tb = .nil ∨ P tb) : 2 ≤ (besL ta tx tb).length ∧ ∀ u ∈ besL ta tx tb, P u := by
  by_cases za : ta = .nil
  · by_cases zb : tb = .nil
    · exact absurd ⟨za, zb⟩ hn
    · subst za
      rw [besL_0n zb]
      refine ⟨by simp, fun u hu => ?_⟩
      simp only [List.mem_cons, List.not_mem_nil, or_false] at hu
      rcases hu with rfl | rfl
      · exact hx
      · exact hb.resolve_left zb
  · by_cases zb : tb = .nil
    · subst zb
      rw [besL_n0 za]
      refine ⟨by simp, fun u hu => ?_⟩
      simp only [List.mem_cons, List.not_mem_nil, or_false] at hu
      rcases hu with rfl | rfl
      · exact ha.resolve_left za
      · exact hx
    · rw [besL_nn za zb]
      refine ⟨by simp, fun u hu => ?_⟩
      simp only [List.mem_cons, List.not_mem_nil, or_false] at hu
      rcases hu with rfl | rfl | rfl
      · exact ha.resolve_left za
      · exact hx
      · exact hb.resolve_left zb
/-- what is bound behind matching a left side -/
theorem left_val (hM : WM M) {s : Int} (hR : RuOK M R s) {y : Tr} (hy : okT M y) {L : List Env} (h : mlB M (ruL R s) y true nilE = some L) : ∀ ρm ∈ L, EI M R s 0 (cut ρm) ∧ (ρm 60 = .nil ∨ okT M (ρm 60)) ∧ (ρm 61 = .nil ∨ okT M (ρm 61)) ∧ (¬ (ρm 60 = .nil ∧ ρm 61 = .nil) → 0 ≤ lab (ruL R s) ∧ mAs M (lab (ruL R s)) ≠ 0) := by
  obtain ⟨hw, hz⟩ := mlB_ok h
  intro ρm hm
  have z := hz ρm hm
  have I := Zm_in hM hR.1.1.1 hR.1.1.2 hy.1 hy.2 hw okB_nil z
  have rest : ∀ v, ρm v = .nil ∨ okT M (ρm v) := fun v => (I v).imp (fun e => e) (fun e => ⟨e.1, e.2.1⟩)
  refine ⟨?_, rest 60, rest 61, Zm_rest hM hR.1.1.1 hy.1 z⟩
  refine EI.next (c' := 0) hM hR.1.1 hy hw okB_nil (fun v k => absurd rfl k) (fun w hk => ?_) z (fun w hk => hk) (fun w hk => kn_rg hM hR hR.2.2.2.1.1 hk)
  rcases hk with ⟨v0, z | ⟨d, d0, d1, -⟩⟩
  · exact Or.inr z
  · omega
theorem besB_val (hM : WM M) {c : Int} {ta tx tb r : Tr} (c1 : c < mOps M) (ha : ta = .nil ∨ okT M ta) (hx : okT M tx) (hb : tb = .nil ∨ okT M tb) (hc : ¬ (ta = .nil ∧ tb = .nil) → 0 ≤ c ∧ mAs M c ≠ 0) (h : besB M c ta tx tb = some r) : okT M r := by
  unfold besB at h
  split at h
  · rw [← Option.some.inj h]; exact hx
  · rename_i hn
    split at h
    · cases h
    · rw [← Option.some.inj h]
      have b := besL_ok hn ha hx hb
      have c' := hc hn
      refine ⟨NF_mk hM ⟨c'.1, c1, ?_, fun u hu => (b.2 u hu).1⟩, by omega⟩
      rw [if_pos c'.2]
      exact b.1
theorem useB_val (hM : WM M) (hf : vl M f) {s : Int} (hR : RuOK M R s) {ρm : Env} (h0 : EI M R s 0 (cut ρm)) (ha : ρm 60 = .nil ∨ okT M (ρm 60)) (hb : ρm 61 = .nil ∨ okT M (ρm 61)) (hc : ¬ (ρm 60 = .nil ∧ ρm 61 = .nil) → 0 ≤ lab (ruL R s) ∧ mAs M (lab (ruL R s)) ≠ 0) {r : Tr} (h : useB M R f s ρm = some (some r)) : okT M r := by
  unfold useB at h
  obtain ⟨q, h1, h⟩ := ob_ok h
  match q with
  | none => simp only [Option.some.injEq] at h; cases h
  | some ρ' =>
    simp only at h
    obtain ⟨v, h2, h⟩ := ob_ok h
    obtain ⟨z, h3, h⟩ := ob_ok h
    simp only [Option.some.injEq] at h
    subst h
    have e := holdsB_val hM hf hR (mCn M s).toNat 0 _ _ (by omega) (by have := hR.2.2.2.1.1; omega) h0 h1
    have ov := putB_val hM hR.2.1 (fun v v0 ho => e.ok (hR.2.2.1 v v0 ho)) h2
    exact besB_val hM (hR.1.1.1.op hR.1.2) ha ov hb hc h3
theorem tryOneB_val (hM : WM M) (hf : vl M f) {s : Int} (hR : RuOK M R s) {y r : Tr} (hy : okT M y) (h : tryOneB M R f s y = some (some r)) : okT M r := by
  unfold tryOneB at h
  obtain ⟨L, h1, h⟩ := ob_ok h
  have v := left_val hM hR hy h1
  exact firstB_val (I := fun ρm => ρm ∈ L) (fun ρm q hm k => useB_val hM hf hR (v ρm hm).1 (v ρm hm).2.1 (v ρm hm).2.2.1 (v ρm hm).2.2.2 k) L r (fun _ h => h) h
theorem tryEqB_val (hM : WM M) (hf : vl M f) : ∀ es y r, (∀ e ∈ es, RuOK M R e) → okT M y → tryEqB M R f es y = some (some r) → okT M r := by
  intro es
  induction es with
  | nil => intro y r _ _ k; simp only [tryEqB, Option.some.injEq] at k; cases k
  | cons e es ih =>
    intro y r he hy k
    simp only [tryEqB] at k
    obtain ⟨q, k1, k⟩ := ob_ok k
    match q with
    | none => exact ih y r (fun x hx => he x (List.mem_cons_of_mem _ hx)) hy k
    | some z =>
      simp only [Option.some.injEq] at k
      subst k
      exact tryOneB_val hM hf (he e (List.mem_cons_self ..)) hy k1
theorem bg_val (hM : WM M) (hE : ∀ e ∈ eqs M, RuOK M R e) : ∀ n, vl M (bg M R n) := by
  intro n
  induction n with
  | zero => intro t r _ h; cases h
  | succ n ih =>
    intro t r ht h
    simp only [bg] at h
    split at h
    · rw [← Option.some.inj h]; exact ht
    · obtain ⟨y, h1, h⟩ := ob_ok h
      have oy := redB_val hM ih ht h1
      split at h
      · rw [← Option.some.inj h]; exact oy
      · obtain ⟨q, h2, h⟩ := ob_ok h
        match q with
        | none => simp only [Option.some.injEq] at h; subst h; exact oy
        | some z => exact ih z r (tryEqB_val hM ih _ _ _ hE oy h2) h
/-! results are at rest: so are their parts -/
theorem isT_kid {t u : Tr} (h : isT t) (hu : u ∈ kids t) : isT u := (subs_kid h (subs_self h) hu).2.1
theorem subs_top {t q : Tr} (h : isT t) (hq : q ∈ subs t) : q = t ∨ ∃ k ∈ kids t, q ∈ subs k := by
  obtain ⟨c, ts, rfl, -, hk⟩ := isT_ex h
  rw [subs_N] at hq
  rw [kids_N]
  rcases List.mem_cons.mp hq with e | e
  · exact Or.inl e
  · obtain ⟨k, hk, z⟩ := List.mem_flatMap.mp e
    exact Or.inr ⟨k, hk, z⟩
theorem subs_down {t k q : Tr} (h : isT t) (hk : k ∈ kids t) (hq : q ∈ subs k) : q ∈ subs t := by
  obtain ⟨c, ts, rfl, -, hT⟩ := isT_ex h
  rw [kids_N] at hk
  rw [subs_N]
  exact List.mem_cons_of_mem _ (List.mem_flatMap.mpr ⟨k, hk, hq⟩)
theorem subs_trans {t k q : Tr} (h : isT t) (hk : k ∈ subs t) (hq : q ∈ subs k) : q ∈ subs t := by
  have key : ∀ t, isT t → ∀ k q : Tr, k ∈ subs t → q ∈ subs k → q ∈ subs t := by
    refine tr_ind ?_
    intro c ts hc hT ih k q hk hq
    have it : isT (trN c ts) := isT_N.mpr ⟨hc, hT⟩
    rcases subs_top it hk with e | ⟨u, hu, z⟩
    · rw [e] at hq; exact hq
    · rw [kids_N] at hu
      exact subs_down it (by rw [kids_N]; exact hu) (ih u hu k q z hq)
  exact key t h k q hk hq
theorem flat_kids {o : Int} {ts : List Tr} (hT : ∀ t ∈ ts, isT t) {u : Tr} (h : u ∈ flat o ts) : ∃ t ∈ ts, u ∈ subs t := by
  obtain ⟨t, ht, z⟩ := flat_mem.mp h
  rcases z with ⟨-, z⟩ | ⟨-, z⟩
  · exact ⟨t, ht, (subs_kid (hT t ht) (subs_self (hT t ht)) z).1⟩
  · rw [z]; exact ⟨t, ht, subs_self (hT t ht)⟩
theorem fltR_subs {o : Int} {ts : List Tr} (hT : ∀ t ∈ ts, isT t) {u : Tr} (h : u ∈ fltR M o ts) : isT u ∧ ∃ t ∈ ts, u ∈ subs t := by
  unfold fltR at h
  split at h
  · obtain ⟨t, ht, z⟩ := flat_mem.mp h
    rcases z with ⟨-, z⟩ | ⟨-, z⟩
    · exact ⟨isT_kid (hT t ht) z, t, ht, (subs_kid (hT t ht) (subs_self (hT t ht)) z).1⟩
    · rw [z]; exact ⟨hT t ht, t, ht, subs_self (hT t ht)⟩
  · exact ⟨hT u h, u, h, subs_self (hT u h)⟩
theorem mk3_kid {o : Int} {ts : List Tr} {k : Tr} (h : k ∈ kids (mk3 M o ts)) : k ∈ ts := by
  unfold mk3 at h
  rw [kids_N] at h
  split at h
  · exact isort_mem.mp h
  · exact h
/-- parts of what is made are parts of what it is made of -/
theorem mk_kid {o : Int} {ts : List Tr} (hT : ∀ t ∈ ts, isT t) {k : Tr} (h : k ∈ kids (mk M o ts)) : ∃ t ∈ ts, k ∈ subs t := by
  rw [mk_eq] at h
  unfold mk2 at h
  split at h
  · exact (fltR_subs hT (mk3_kid h)).2
  · split at h
    · unfold unT at h; rw [kids_N] at h; cases h
    · rename_i t hf
      have m : t ∈ (fltR M o ts).filter fun t => decide (lab t ≠ mUn M o) := by rw [hf]; exact List.mem_cons_self ..
      obtain ⟨it, s, hs, z⟩ := fltR_subs hT (List.mem_filter.mp m).1
      exact ⟨s, hs, (subs_kid (hT s hs) z h).1⟩
    · rename_i a b r hf
      have m := mk3_kid h
      rw [← hf] at m
      exact (fltR_subs hT (List.mem_filter.mp m).1).2
theorem mk_subs {o : Int} {ts : List Tr} (hT : ∀ t ∈ ts, isT t) (hm : isT (mk M o ts)) {q : Tr} (h : q ∈ subs (mk M o ts)) : q = mk M o ts ∨ ∃ t ∈ ts, q ∈ subs t := by
  rcases subs_top hm h with e | ⟨k, hk, hq⟩
  · exact Or.inl e
  · obtain ⟨t, ht, z⟩ := mk_kid hT hk
    exact Or.inr ⟨t, ht, subs_trans (hT t ht) z hq⟩
theorem subs_NF {t q : Tr} (h : okT M t) (hq : q ∈ subs t) : okT M q := by
  have key : ∀ t, isT t → okT M t → ∀ q ∈ subs t, okT M q := by
    refine tr_ind ?_
    intro c ts hc hT ih ht q hq
    rcases subs_top ht.1.1 hq with e | ⟨u, hu, z⟩
    · rw [e]; exact ht
    · have ou := ht.kid hu
      rw [kids_N] at hu
      exact ih u hu ou q z
  exact key t h.1.1 h q hq
theorem rowB_same {ts : List Tr} (h : ∀ t ∈ ts, f t = some t) : rowB f ts = some ts := by
  induction ts with
  | nil => rfl
  | cons t ts ih =>
    simp only [rowB]
    rw [h t (List.mem_cons_self ..), ih (fun x hx => h x (List.mem_cons_of_mem _ hx))]
    rfl
theorem redB_same {x : Tr} (h : ∀ t ∈ kids x, f t = some t) : redB M f x = some x := by
  unfold redB
  rw [rowB_same h]
  simp only [Option.bind_some]
  rw [if_pos trivial]
theorem rowB_from : ∀ ts us, rowB f ts = some us → ∀ u ∈ us, ∃ t ∈ ts, f t = some u := by
  intro ts
  induction ts with
  | nil =>
    intro us h
    simp only [rowB, Option.some.injEq] at h
    rw [← h]
    exact fun u hu => absurd hu (List.not_mem_nil)
  | cons t ts ih =>
    intro us h
    simp only [rowB] at h
    obtain ⟨u, h1, h⟩ := ob_ok h
    obtain ⟨vs, h2, h⟩ := ob_ok h
    rw [← Option.some.inj h]
    intro x hx
    rcases List.mem_cons.mp hx with rfl | hx
    · exact ⟨t, List.mem_cons_self .., h1⟩
    · obtain ⟨w, hw, e⟩ := ih vs h2 x hx
      exact ⟨w, List.mem_cons_of_mem _ hw, e⟩
/-- parts of a reduced row's term are parts of results -/
theorem redB_parts (hM : WM M) (hf : vl M f) {x y : Tr} (hx : okT M x) (h : redB M f x = some y) : ∀ k ∈ kids y, ∃ t u, okT M t ∧ f t = some u ∧ k ∈ subs u := by
  unfold redB at h
  obtain ⟨us, h1, h⟩ := ob_ok h
  have v := rowB_val hf _ _ (fun t ht => hx.kid ht) h1
  have w := rowB_from _ _ h1
  have wf : ∀ u ∈ us, ∃ t, okT M t ∧ f t = some u := fun u hu => by
    obtain ⟨t, ht, e⟩ := w u hu
    exact ⟨t, hx.kid ht, e⟩
  intro k hk
  split at h
  · rename_i e
    rw [← Option.some.inj h, ← e] at hk
    obtain ⟨t, ot, et⟩ := wf k hk
    exact ⟨t, k, ot, et, subs_self (v.1 k hk).1.1⟩
  · split at h
    · cases h
    · rw [← Option.some.inj h] at hk
      obtain ⟨u, hu, z⟩ := mk_kid (fun t ht => (v.1 t ht).1.1) hk
      obtain ⟨t, ot, et⟩ := wf u hu
      exact ⟨t, u, ot, et, z⟩
theorem bg_fix (hM : WM M) (hE : ∀ e ∈ eqs M, RuOK M R e) : ∀ n c r, okT M c → bg M R n c = some r → ∀ q ∈ subs r, bg M R n q = some q := by
  intro n
  induction n with
  | zero => intro c r _ h; cases h
  | succ n ih =>
    intro c r hc h q hq
    simp only [bg] at h
    split at h
    · rename_i hv
      rw [← Option.some.inj h] at hq
      rcases subs_top hc.1.1 hq with e | ⟨k, hk, -⟩
      · rw [e]; exact bg_var hv n
      · rw [kids_var hc.1 hv] at hk; cases hk
    · obtain ⟨y, h1, h⟩ := ob_ok h
      have vn := bg_val (R := R) hM hE n
      have oy := redB_val hM vn hc h1
      have parts : ∀ k ∈ kids y, ∀ q ∈ subs k, bg M R n q = some q := by
        intro k hk q hq
        obtain ⟨t, u, ot, et, z⟩ := redB_parts hM vn hc h1 k hk
        exact ih t u ot et q (subs_trans (vn t u ot et).1.1 z hq)
      by_cases hv : lab y < 0
      · rw [if_pos hv] at h
        rw [← Option.some.inj h] at hq
        rcases subs_top oy.1.1 hq with e | ⟨k, hk, -⟩
        · rw [e]; exact bg_var hv n
        · rw [kids_var oy.1 hv] at hk; cases hk
      · rw [if_neg hv] at h
        obtain ⟨w, h2, h⟩ := ob_ok h
        match w with
        | some z => exact bg_succ M R n q q (ih z r (tryEqB_val hM vn _ _ _ hE oy h2) h q hq)
        | none =>
          simp only [Option.some.injEq] at h
          subst h
          rcases subs_top oy.1.1 hq with e | ⟨k, hk, z⟩
          · rw [e]
            simp only [bg]
            rw [if_neg hv, redB_same (fun k hk => parts k hk k (subs_self (oy.kid hk).1.1))]
            simp only [Option.bind_some]
            rw [if_neg hv, h2]
            rfl
          · exact bg_succ M R n q q (parts k hk q z)
end

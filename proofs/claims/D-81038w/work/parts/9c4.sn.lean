/-! runs that end well: the memo stays right, what it knew stays, and terms in process are not in it -/
section
variable {M : Mo} {R : Ru} {mo : Int} {G : RT} {S : Tr → Prop}
def Ms (M : Mo) (R : Ru) (st : ST) : Prop := ∀ t, stM st t ≠ .nil → 0 ≤ lab t → ∃ n, bg M R n t = some (stM st t)
def leM (st st' : ST) : Prop := ∀ t, 0 ≤ lab t → stM st t ≠ .nil → stM st' t = stM st t
/-- whoever of S has a value demands b before -/
def dm (M : Mo) (R : Ru) (S : Tr → Prop) {α : Type} (b : Nat → Option α) : Prop := ∀ a, S a → ∀ n, bg M R n a ≠ none → ∃ m, m < n ∧ b m ≠ none
def qt (S : Tr → Prop) (st : ST) : Prop := ∀ a, S a → stM st a = .nil
def PA (M : Mo) (R : Ru) (S : Tr → Prop) (st : ST) : Prop := Ms M R st ∧ qt S st
def SN (M : Mo) (R : Ru) (S : Tr → Prop) (st st' : ST) : Prop := PA M R S st' ∧ leM st st'
theorem SN.trans {a b c : ST} (h : SN M R S a b) (k : SN M R S b c) : SN M R S a c := by
  refine ⟨k.1, fun t h0 ht => ?_⟩
  have e := h.2 t h0 ht
  rw [k.2 t h0 (by rw [e]; exact ht), e]
theorem SN.same {st st' : ST} (h : PA M R S st) (e : stM st' = stM st) : SN M R S st st' := by
  obtain ⟨a, b⟩ := h
  unfold SN PA Ms qt leM
  rw [e]
  exact ⟨⟨a, b⟩, fun _ _ _ => rfl⟩
theorem dm_l {α β : Type} {a : Nat → Option α} {k : Nat → α → Option β} (h : dm M R S (fun n => (a n).bind (k n))) : dm M R S a := by
  intro x hx n hn
  obtain ⟨m, hm, e⟩ := h x hx n hn
  refine ⟨m, hm, fun z => e ?_⟩
  simp only [z, Option.bind_none]
theorem dm_r {α β : Type} {a : Nat → Option α} {k : Nat → α → Option β} (h : dm M R S (fun n => (a n).bind (k n))) (mono : ∀ n m, n ≤ m → ∀ v, a n = some v → a m = some v) {N : Nat} {v : α} (e : a N = some v) : dm M R S (fun n => k n v) := by
  intro x hx n hn
  obtain ⟨m, hm, z⟩ := h x hx n hn
  refine ⟨m, hm, fun w => z ?_⟩
  cases q : a m with
  | none => simp only [q, Option.bind_none]
  | some v' =>
    have e1 := mono _ _ (Nat.le_max_left N m) v e
    have e2 := mono _ _ (Nat.le_max_right N m) v' q
    rw [e1] at e2
    rw [← Option.some.inj e2] at q
    simp only [q, Option.bind_some]
    exact w
def sn (M : Mo) (R : Ru) (G : RT) : Prop := ∀ (S : Tr → Prop) t st r st', okT M t → PA M R S st → dm M R S (fun n => bg M R n t) → G t st (.inr (r, st')) → SN M R S st st' ∧ (∃ n, bg M R n t = some r) ∧ came st' t = r
theorem bgm {t : Tr} : ∀ n m, n ≤ m → ∀ v, bg M R n t = some v → bg M R m t = some v := fun _ _ h v e => bg_le h t v e
theorem isT_nn {t : Tr} (h : isT t) : t ≠ .nil := by
  obtain ⟨c, ts, rfl, -, -⟩ := isT_ex h
  exact fun z => by cases z
theorem rowE_sn (hM : WM M) (hE : ∀ e ∈ eqs M, RuOK M R e) (hG : sn M R G) : ∀ ts st us st', (∀ t ∈ ts, okT M t) → PA M R S st → dm M R S (fun n => rowB (bg M R n) ts) → rowE G ts st (.inr (us, st')) → SN M R S st st' ∧ (∃ n, rowB (bg M R n) ts = some us) ∧ ∀ t ∈ ts, came st' t ≠ .nil := by
  intro ts
  induction ts with
  | nil =>
    intro st us st' _ hP _ h
    simp only [rowE, Sum.inr.injEq, Prod.mk.injEq] at h
    rw [h.1, h.2]
    exact ⟨SN.same hP rfl, ⟨0, rfl⟩, fun t ht => absurd ht (List.not_mem_nil)⟩
  | cons t ts ih =>
    intro st us st' ht hP hd h
    obtain ⟨u, st1, h1, h⟩ := bnd_ok h
    obtain ⟨vs, st2, h2, h⟩ := bnd_ok h
    simp only [Sum.inr.injEq, Prod.mk.injEq] at h
    simp only [rowB] at hd
    obtain ⟨p1, ⟨n, e1⟩, c1⟩ := hG S t st u st1 (ht t (List.mem_cons_self ..)) hP (dm_l hd) h1
    obtain ⟨p2, ⟨m, e2⟩, c2⟩ := ih st1 vs st2 (fun x hx => ht x (List.mem_cons_of_mem _ hx)) p1.1 (dm_l (dm_r hd bgm e1)) h2
    rw [h.1, h.2]
    refine ⟨p1.trans p2, ⟨max n m, ?_⟩, ?_⟩
    · simp only [rowB]
      rw [bg_le (Nat.le_max_left n m) _ _ e1, rowB_mono (bg_le (Nat.le_max_right n m)) _ _ e2]
      rfl
    · intro x hx
      rcases List.mem_cons.mp hx with rfl | hx
      · unfold came at c1 ⊢
        split
        · rename_i hv
          intro z
          rw [z] at hv
          exact absurd hv (by decide)
        · rename_i hv
          rw [if_neg hv] at c1
          have ou : u ≠ .nil := isT_nn (bg_val hM hE n x u (ht x (List.mem_cons_self ..)) e1).1.1
          rw [p2.2 x (by omega) (by rw [c1]; exact ou), c1]
          exact ou
      · exact c2 x hx
theorem redE_sn (hM : WM M) (hE : ∀ e ∈ eqs M, RuOK M R e) (hG : sn M R G) {x y : Tr} {st st' : ST} (hx : okT M x) (hP : PA M R S st) (hd : dm M R S (fun n => redB M (bg M R n) x)) (h : redE M G x st (.inr (y, st'))) : SN M R S st st' ∧ (∃ n, redB M (bg M R n) x = some y) ∧ ∀ t ∈ kids x, came st' t ≠ .nil := by
  rcases h with ⟨k, h⟩ | ⟨k, h⟩
  · simp only [Sum.inr.injEq, Prod.mk.injEq] at h
    rw [h.1, h.2]
    refine ⟨SN.same hP rfl, ⟨0, ?_⟩, by rw [k]; exact fun t ht => absurd ht (List.not_mem_nil)⟩
    unfold redB
    rw [k]
    simp only [rowB, Option.bind_some]
    exact if_pos trivial
  · obtain ⟨us, st1, h1, h⟩ := bnd_ok h
    obtain ⟨p1, ⟨n, e1⟩, c1⟩ := rowE_sn hM hE hG _ _ _ _ (fun t ht => hx.kid ht) hP (dm_l (k := fun _ us => @ite _ (us = kids x) (Classical.propDecidable _) (some x) (if 40 < trS (mk M (lab x) us) then none else some (mk M (lab x) us))) hd) h1
    rcases h with ⟨a, h⟩ | ⟨a, h⟩
    · simp only [Sum.inr.injEq, Prod.mk.injEq] at h
      rw [h.1, h.2]
      refine ⟨p1, ⟨n, ?_⟩, c1⟩
      unfold redB
      rw [e1]
      simp only [Option.bind_some]
      rw [if_pos a]
    · split at h
      · cases h
      · rename_i hs
        simp only [Sum.inr.injEq, Prod.mk.injEq] at h
        rw [h.1, h.2]
        refine ⟨p1, ⟨n, ?_⟩, c1⟩
        unfold redB
        rw [e1]
        simp only [Option.bind_some]
        rw [if_neg a, if_neg hs]
theorem partE_sn (hM : WM M) (hG : sn M R G) {t r : Tr} {ρ : Env} {st st' : ST} (ht : okT M t) (hρ : ∀ v : Int, 0 ≤ v → occ v t → okT M (ρ v)) (hP : PA M R S st) (hd : dm M R S (fun n => partB M (bg M R n) ρ t)) (h : partE M G t ρ st (.inr (r, st'))) : SN M R S st st' ∧ ∃ n, partB M (bg M R n) ρ t = some r := by
  obtain ⟨u, st1, h1, h⟩ := bnd_ok h
  obtain ⟨v, st2, h2, h⟩ := bnd_ok h
  obtain ⟨-, e1⟩ := cntE_ok h1
  obtain ⟨-, -, e2, eb⟩ := putE_ok h2
  have s2 : SN M R S st st2 := SN.same hP (by rw [e2, e1]; rfl)
  have ov := putB_val hM ht hρ eb
  obtain ⟨p3, ⟨n, e3⟩, -⟩ := hG S v st2 r st' ov s2.1 (dm_r (a := fun _ => putB M ρ t) (k := fun n v => bg M R n v) hd (fun _ _ _ _ e => e) (N := 0) eb) h
  refine ⟨s2.trans p3, n, ?_⟩
  unfold partB
  rw [eb]
  exact e3
theorem isTrueE_sn (hM : WM M) (hG : sn M R G) {k : Int} {ρ : Env} {b : Bool} {st st' : ST} (hc : okT M (ruC R k)) (hcv : ∀ v : Int, 0 ≤ v → occ v (ruC R k) → okT M (ρ v)) (ho : mCs M k ≠ 2 → okT M (ruO R k) ∧ ∀ v : Int, 0 ≤ v → occ v (ruO R k) → okT M (ρ v)) (hP : PA M R S st) (hd : dm M R S (fun n => isTrueB M R (bg M R n) k ρ)) (h : isTrueE M R G k ρ st (.inr (b, st'))) : SN M R S st st' ∧ ∃ n, isTrueB M R (bg M R n) k ρ = some b := by
  obtain ⟨a, st1, h1, h⟩ := bnd_ok h
  unfold isTrueB at hd
  obtain ⟨p1, n, e1⟩ := partE_sn hM hG hc hcv hP (dm_l hd) h1
  rcases h with ⟨c, h⟩ | ⟨c, h⟩
  · simp only [Sum.inr.injEq, Prod.mk.injEq] at h
    rw [h.1, h.2]
    refine ⟨p1, n, ?_⟩
    unfold isTrueB
    rw [e1]
    simp only [Option.bind_some]
    rw [if_pos c]
  · obtain ⟨b2, st2, h2, h⟩ := bnd_ok h
    have hd2 := dm_r hd (fun n m h v e => partB_mono (bg_le h) _ _ _ e) e1
    simp only [if_neg c] at hd2
    obtain ⟨p2, m, e2⟩ := partE_sn hM hG (ho c).1 (ho c).2 p1.1 (dm_l hd2) h2
    have f1 := partB_mono (M := M) (bg_le (Nat.le_max_left n m)) _ _ _ e1
    have f2 := partB_mono (M := M) (bg_le (Nat.le_max_right n m)) _ _ _ e2
    rcases h with ⟨q, h⟩ | ⟨q, h⟩
    · simp only [Sum.inr.injEq, Prod.mk.injEq] at h
      rw [h.1, h.2]
      refine ⟨p1.trans p2, max n m, ?_⟩
      unfold isTrueB
      rw [f1]
      simp only [Option.bind_some]
      rw [if_neg c, f2]
      simp only [Option.bind_some, Option.some.injEq, decide_eq_true_eq]
      exact q
    · simp only [Sum.inr.injEq, Prod.mk.injEq] at h
      rw [h.1, h.2]
      refine ⟨p1.trans p2, max n m, ?_⟩
      unfold isTrueB
      rw [f1]
      simp only [Option.bind_some]
      rw [if_neg c, f2]
      simp only [Option.bind_some, Option.some.injEq, decide_eq_false_iff_not]
      exact q
theorem mcE_sn (hM : WM M) (hG : sn M R G) {k : Int} {ρ : Env} {L : List Env} {st st' : ST} (ho : okT M (ruO R k)) (hov : ∀ v : Int, 0 ≤ v → occ v (ruO R k) → okT M (ρ v)) (hP : PA M R S st) (hd : dm M R S (fun n => mcB M R (bg M R n) k ρ)) (h : mcE M R mo G k ρ st (.inr (L, st'))) : SN M R S st st' ∧ ∃ n, mcB M R (bg M R n) k ρ = some L := by
  obtain ⟨u, st1, h1, h⟩ := bnd_ok h
  obtain ⟨v, st2, h2, h⟩ := bnd_ok h
  obtain ⟨r, st3, h3, h⟩ := bnd_ok h
  obtain ⟨-, e1⟩ := cntE_ok h1
  obtain ⟨-, -, e2, eb⟩ := putE_ok h2
  have s2 : SN M R S st st2 := SN.same hP (by rw [e2, e1]; rfl)
  have ov := putB_val hM ho hov eb
  have hd1 : dm M R S (fun n => partB M (bg M R n) ρ (ruO R k)) := dm_l (k := fun _ v => mlB M (ruC R k) v false ρ) hd
  obtain ⟨p3, ⟨n, e3⟩, -⟩ := hG S v st2 r st3 ov s2.1 (dm_r (a := fun _ => putB M ρ (ruO R k)) (k := fun n v => bg M R n v) hd1 (fun _ _ _ _ e => e) (N := 0) eb) h3
  obtain ⟨-, em, e4⟩ := mtE_ok h
  refine ⟨s2.trans (p3.trans (SN.same p3.1 (by rw [e4]))), n, ?_⟩
  unfold mcB partB
  rw [eb]
  simp only [Option.bind_some]
  rw [e3]
  simp only [Option.bind_some]
  exact em
theorem firstE_sn {β : Type} {a : Env → ST → Out (Option β) → Prop} {b : Nat → Env → Option (Option β)} (hm : ∀ n m, n ≤ m → ∀ ρ r, b n ρ = some r → b m ρ = some r) : ∀ L st r st', (∀ ρ ∈ L, ∀ st r st', PA M R S st → dm M R S (fun n => b n ρ) → a ρ st (.inr (r, st')) → SN M R S st st' ∧ ∃ n, b n ρ = some r) → PA M R S st → dm M R S (fun n => firstB (b n) L) → firstE a L st (.inr (r, st')) → SN M R S st st' ∧ ∃ n, firstB (b n) L = some r := by
  intro L
  induction L with
  | nil =>
    intro st r st' _ hP _ k
    simp only [firstE, Sum.inr.injEq, Prod.mk.injEq] at k
    rw [k.1, k.2]
    exact ⟨SN.same hP rfl, 0, rfl⟩
  | cons ρ L ih =>
    intro st r st' h hP hd k
    obtain ⟨q, st1, k1, k⟩ := bnd_ok k
    simp only [firstB] at hd
    obtain ⟨p1, n, e1⟩ := h ρ (List.mem_cons_self ..) st q st1 hP (dm_l hd) k1
    match q with
    | some v =>
      simp only [Sum.inr.injEq, Prod.mk.injEq] at k
      rw [k.1, k.2]
      refine ⟨p1, n, ?_⟩
      simp only [firstB]
      rw [e1]
      rfl
    | none =>
      obtain ⟨p2, m, e2⟩ := ih st1 r st' (fun x hx => h x (List.mem_cons_of_mem _ hx)) p1.1 (dm_r hd (fun n m h v e => hm n m h ρ v e) e1) k
      refine ⟨p1.trans p2, max n m, ?_⟩
      simp only [firstB]
      rw [hm _ _ (Nat.le_max_left n m) _ _ e1]
      exact firstB_mono (hm _ _ (Nat.le_max_right n m)) _ _ e2
theorem holdsE_sn (hM : WM M) (hE : ∀ e ∈ eqs M, RuOK M R e) (hG : sn M R G) {s : Int} (hR : RuOK M R s) : ∀ (k : Nat) (c : Int) (ρ : Env) st r st', 0 ≤ c → c + (k : Int) = mCn M s → EI M R s c ρ → PA M R S st → dm M R S (fun n => holdsB M R (bg M R n) s k c ρ) → holdsE M R mo G s k c ρ st (.inr (r, st')) → SN M R S st st' ∧ ∃ n, holdsB M R (bg M R n) s k c ρ = some r := by
  intro k
  induction k with
  | zero =>
    intro c ρ st r st' _ _ _ hP _ h
    simp only [holdsE, Sum.inr.injEq, Prod.mk.injEq] at h
    rw [h.1, h.2]
    exact ⟨SN.same hP rfl, 0, rfl⟩
  | succ k ih =>
    intro c ρ st r st' c0 ck hρ hP hd h
    have C := hR.2.2.2.2 c c0 (by omega)
    simp only [holdsB] at hd
    rcases h with ⟨z, h⟩ | ⟨z, h⟩
    · obtain ⟨L, st1, h1, h⟩ := bnd_ok h
      simp only [if_pos z] at hd
      have D := C.2.1 (by omega)
      obtain ⟨p1, n, e1⟩ := mcE_sn hM hG D.1 (fun v v0 ho => hρ.ok (D.2 v v0 ho)) hP (dm_l hd) h1
      have eL := mcB_val hM (bg_val hM hE n) hR c0 (by omega) hρ z e1
      obtain ⟨p2, m, e2⟩ := firstE_sn (b := fun n ρ1 => holdsB M R (bg M R n) s k (c + 1) (cut ρ1)) (fun n m h ρ1 r => holdsB_mono (bg_le h) s _ _ _ _) L st1 r st' (fun ρ1 hm st r st' hP hd h => ih (c + 1) (cut ρ1) st r st' (by omega) (by omega) (eL ρ1 hm) hP hd h) p1.1 (dm_r hd (fun n m h v e => mcB_mono (bg_le h) _ _ _ e) e1) h
      refine ⟨p1.trans p2, max n m, ?_⟩
      simp only [holdsB]
      rw [if_pos z, mcB_mono (bg_le (Nat.le_max_left n m)) _ _ _ e1]
      exact firstB_mono (fun ρ1 r => holdsB_mono (bg_le (Nat.le_max_right n m)) s _ _ _ _) _ _ e2
    · obtain ⟨b, st1, h1, h⟩ := bnd_ok h
      simp only [if_neg z] at hd
      have D := C.2.2.1 z
      obtain ⟨p1, n, e1⟩ := isTrueE_sn hM hG C.1 (fun v v0 ho => hρ.ok (D v v0 ho)) (fun z2 => ⟨(C.2.1 z2).1, fun v v0 ho => hρ.ok ((C.2.1 z2).2 v v0 ho)⟩) hP (dm_l hd) h1
      have hd2 := dm_r hd (fun n m h v e => isTrueB_mono (bg_le h) _ _ _ e) e1
      rcases h with ⟨y, h⟩ | ⟨y, h⟩
      · simp only [if_pos y] at hd2
        obtain ⟨p2, m, e2⟩ := ih (c + 1) ρ st1 r st' (by omega) (by omega) (hρ.up z) p1.1 hd2 h
        refine ⟨p1.trans p2, max n m, ?_⟩
        simp only [holdsB]
        rw [if_neg z, isTrueB_mono (bg_le (Nat.le_max_left n m)) _ _ _ e1]
        simp only [Option.bind_some]
        rw [if_pos y]
        exact holdsB_mono (bg_le (Nat.le_max_right n m)) s _ _ _ _ e2
      · simp only [Sum.inr.injEq, Prod.mk.injEq] at h
        rw [h.1, h.2]
        refine ⟨p1, n, ?_⟩
        simp only [holdsB]
        rw [if_neg z, e1]
        simp only [Option.bind_some]
        rw [if_neg (by rw [y]; decide)]
theorem useE_sn (hM : WM M) (hE : ∀ e ∈ eqs M, RuOK M R e) (hG : sn M R G) {s : Int} (hR : RuOK M R s) {ρm : Env} {st st' : ST} {r : Option Tr} (h0 : EI M R s 0 (cut ρm)) (hP : PA M R S st) (hd : dm M R S (fun n => useB M R (bg M R n) s ρm)) (h : useE M R mo G s ρm st (.inr (r, st'))) : SN M R S st st' ∧ ∃ n, useB M R (bg M R n) s ρm = some r := by
  obtain ⟨q, st1, h1, h⟩ := bnd_ok h
  unfold useB at hd
  obtain ⟨p1, n, e1⟩ := holdsE_sn hM hE hG hR _ _ _ _ _ _ (by omega) (by have := hR.2.2.2.1.1; omega) h0 hP (dm_l hd) h1
  match q with
  | none =>
    simp only [Sum.inr.injEq, Prod.mk.injEq] at h
    rw [h.1, h.2]
    refine ⟨p1, n, ?_⟩
    unfold useB
    rw [e1]
    rfl
  | some ρ' =>
    obtain ⟨u, st2, h2, h⟩ := bnd_ok h
    obtain ⟨v, st3, h3, h⟩ := bnd_ok h
    obtain ⟨z, st4, h4, h⟩ := bnd_ok h
    obtain ⟨-, e2⟩ := cntE_ok h2
    obtain ⟨-, -, e3, eb⟩ := putE_ok h3
    obtain ⟨ez, e4⟩ := besE_ok h4
    simp only [Sum.inr.injEq, Prod.mk.injEq] at h
    rw [h.1, h.2]
    refine ⟨p1.trans (SN.same p1.1 ?_), n, ?_⟩
    · rcases e4 with e4 | e4
      · rw [e4.2.2.2, e3, e2]; rfl
      · rw [e4.2.2.2, e3, e2]; rfl
    · unfold useB
      rw [e1]
      simp only [Option.bind_some]
      rw [eb]
      simp only [Option.bind_some]
      rw [ez]
      rfl
theorem tryOneE_sn (hM : WM M) (hE : ∀ e ∈ eqs M, RuOK M R e) (hG : sn M R G) {s : Int} (hR : RuOK M R s) {y : Tr} {st st' : ST} {r : Option Tr} (hy : okT M y) (hP : PA M R S st) (hd : dm M R S (fun n => tryOneB M R (bg M R n) s y)) (h : tryOneE M R mo G s y st (.inr (r, st'))) : SN M R S st st' ∧ ∃ n, tryOneB M R (bg M R n) s y = some r := by
  obtain ⟨L, st1, h1, h⟩ := bnd_ok h
  obtain ⟨-, em, e1⟩ := mtE_ok h1
  have lv := left_val hM hR hy em
  have s1 : SN M R S st st1 := SN.same hP (by rw [e1])
  unfold tryOneB at hd
  obtain ⟨p2, n, e2⟩ := firstE_sn (b := fun n ρ1 => useB M R (bg M R n) s ρ1) (fun n m h ρ1 r => useB_mono (bg_le h) s _ _) L st1 r st' (fun ρ1 hm st r st' hP hd k => useE_sn hM hE hG hR (lv ρ1 hm).1 hP hd k) s1.1 (dm_r (a := fun _ => mlB M (ruL R s) y true nilE) (k := fun n L => firstB (useB M R (bg M R n) s) L) hd (fun _ _ _ _ e => e) (N := 0) em) h
  refine ⟨s1.trans p2, n, ?_⟩
  unfold tryOneB
  rw [em]
  exact e2
theorem tryEqE_sn (hM : WM M) (hE : ∀ e ∈ eqs M, RuOK M R e) (hG : sn M R G) : ∀ es y st r st', (∀ e ∈ es, RuOK M R e) → okT M y → PA M R S st → dm M R S (fun n => tryEqB M R (bg M R n) es y) → tryEqE M R mo G es y st (.inr (r, st')) → SN M R S st st' ∧ ∃ n, tryEqB M R (bg M R n) es y = some r := by
  intro es
  induction es with
  | nil =>
    intro y st r st' _ _ hP _ h
    simp only [tryEqE, Sum.inr.injEq, Prod.mk.injEq] at h
    rw [h.1, h.2]
    exact ⟨SN.same hP rfl, 0, rfl⟩
  | cons e es ih =>
    intro y st r st' he hy hP hd h
    obtain ⟨q, st1, h1, h⟩ := bnd_ok h
    simp only [tryEqB] at hd
    obtain ⟨p1, n, e1⟩ := tryOneE_sn hM hE hG (he e (List.mem_cons_self ..)) hy hP (dm_l hd) h1
    match q with
    | none =>
      obtain ⟨p2, m, e2⟩ := ih y st1 r st' (fun x hx => he x (List.mem_cons_of_mem _ hx)) hy p1.1 (dm_r hd (fun n m h v e' => tryOneB_mono (bg_le h) e _ v e') e1) h
      refine ⟨p1.trans p2, max n m, ?_⟩
      simp only [tryEqB]
      rw [tryOneB_mono (bg_le (Nat.le_max_left n m)) e _ _ e1]
      exact tryEqB_mono (bg_le (Nat.le_max_right n m)) _ _ _ e2
    | some z =>
      obtain ⟨u, st2, h2, h⟩ := bnd_ok h
      obtain ⟨-, e2⟩ := stepE_ok h2
      simp only [Sum.inr.injEq, Prod.mk.injEq] at h
      rw [h.1, h.2]
      refine ⟨p1.trans (SN.same p1.1 (by rw [e2])), n, ?_⟩
      simp only [tryEqB]
      rw [e1]
      rfl
end

/-! RewriteHouse: reducing, what stands for what -/
/-- the pool has grown; what is at rest is not looked at -/
def EyX (σ s : S) (N : Tr → Prop) : Prop := gI σ 93 ≤ gI s 93 ∧ (∀ x, lvX σ x → tX s x = tX σ x) ∧ ∀ x, gI σ 93 ≤ x → x < gI s 93 → N (tX s x)
theorem EyX.rf (σ : S) (N : Tr → Prop) : EyX σ σ N := ⟨Int.le_refl _, fun _ _ => rfl, fun x h1 h2 => by omega⟩
theorem EyX.lv {σ s : S} {N : Tr → Prop} (h : EyX σ s N) {x : Int} (hx : lvX σ x) : lvX s x := ⟨hx.1, by have := h.1; have := hx.2; omega⟩
theorem EyX.mono {σ s : S} {N N' : Tr → Prop} (h : EyX σ s N) (k : ∀ t, N t → N' t) : EyX σ s N' := ⟨h.1, h.2.1, fun x h1 h2 => k _ (h.2.2 x h1 h2)⟩
theorem ExX.ey {σ s : S} {N : Tr → Prop} (h : ExX σ s N) : EyX σ s N := ⟨h.1, fun x hx => h.t hx, fun x h1 h2 => (h.2.2 x h1 h2).2⟩
theorem EyX.trans {a b c : S} {N : Tr → Prop} (h : EyX a b N) (k : EyX b c N) (h1 : 1 ≤ gI a 93) : EyX a c N := by
  refine ⟨by have := h.1; have := k.1; omega, fun x hx => (k.2.1 x (h.lv hx)).trans (h.2.1 x hx), fun x x0 x1 => ?_⟩
  by_cases z : x < gI b 93
  · have l : lvX b x := ⟨by omega, z⟩
    rw [k.2.1 x l]
    exact h.2.2 x x0 z
  · exact k.2.2 x (by omega) x1
theorem EyX.of_fr {s q : S} {N : Tr → Prop} {w : List Nat × List Nat × List Nat} (f : Fr w s q) (hw : apt w [93] [66, 67, 68, 73] = true) : EyX s q N := by
  have hi := apt_i hw f
  have ha := apt_a hw f
  simp only [List.forall_mem_cons] at hi ha
  have e : ∀ x, tX q x = tX s x := fun x => by
    unfold tX
    rw [ha.1, ha.2.1, ha.2.2.1, ha.2.2.2.1]
  exact ⟨by rw [hi.1]; exact Int.le_refl _, fun x _ => e x, fun x h1 h2 => by rw [hi.1] at h2; omega⟩
abbrev gwX (σ s : S) : Prop := EyX σ s (fun _ => True)
theorem EyX.gw {σ s : S} {N : Tr → Prop} (h : EyX σ s N) : gwX σ s := h.mono (fun _ _ => trivial)
theorem EyX.cnt {M : Mo} {σ s : S} {U : List Tr} {N : Tr → Prop} (h : XP M σ) (k : XP M s) (e : EyX σ s N) (hU : ∀ t, N t → t ∈ U) : gI s 93 ≤ gI σ 93 + U.length ∧ gI s 102 ≤ gI σ 102 + (U.map wt).sum := by
  have rg := h.rg
  have hn : ((rowI (fun x => x) (gI σ 93) (gI s 93 - gI σ 93).toNat).map (tX s)).Nodup := by
    rw [List.nodup_iff_pairwise_ne, List.pairwise_map]
    have key : ∀ (n : Nat) (a : Int), 1 ≤ a → a + n ≤ gI s 93 → (rowI (fun x => x) a n).Pairwise fun x y => tX s x ≠ tX s y := by
      intro n
      induction n with
      | zero => intro a _ _; exact List.Pairwise.nil
      | succ n ih =>
        intro a h1 h2
        simp only [rowI]
        rw [List.pairwise_cons]
        refine ⟨fun y hy z => ?_, ih (a + 1) (by omega) (by omega)⟩
        obtain ⟨j, j0, j1, rfl⟩ := rowI_mem.mp hy
        have := k.inj (x := a) (y := a + 1 + j) ⟨h1, by omega⟩ ⟨by omega, by omega⟩ z
        omega
    exact key _ _ rg.1 (by have := e.1; omega)
  have sub : ∀ t ∈ (rowI (fun x => x) (gI σ 93) (gI s 93 - gI σ 93).toNat).map (tX s), t ∈ U := by
    intro t ht
    obtain ⟨x, hx, rfl⟩ := List.mem_map.mp ht
    obtain ⟨j, j0, j1, rfl⟩ := rowI_mem.mp hx
    exact hU _ (e.2.2 _ (by omega) (by omega))
  refine ⟨?_, ?_⟩
  · have := nodup_le hn sub
    rw [List.length_map, rowI_len] at this
    omega
  · have w := nodup_sum wt hn sub
    rw [h.pl, k.pl]
    have eo : rowI (gA s 68) 1 (gI σ 93 - 1).toNat = rowI (gA σ 68) 1 (gI σ 93 - 1).toNat := by
      apply rowI_congr
      intro j j0 j1
      have lj : lvX σ (1 + j) := ⟨by omega, by omega⟩
      have e1 := e.2.1 _ lj
      rw [tX_row h lj, tX_row k (e.lv lj)] at e1
      have := congrArg List.length (trN_inj e1).2
      rw [List.length_map, rowI_len, List.length_map, rowI_len] at this
      have a1 := (h.at lj).1
      have a2 := (k.at (e.lv lj)).1
      omega
    have hl : (gI s 93 - 1).toNat = (gI σ 93 - 1).toNat + (gI s 93 - gI σ 93).toNat := by have := e.1; omega
    rw [hl, rowI_app, List.sum_append, eo]
    have key : ∀ (l : Nat) (a : Int), 1 ≤ a → a + l ≤ gI s 93 → (rowI (gA s 68) a l).sum = ((((rowI (fun x => x) a l).map (tX s)).map wt).sum : Nat) := by
      intro l
      induction l with
      | zero => intro a _ _; rfl
      | succ l ih =>
        intro a h1 h2
        simp only [rowI, List.sum_cons, List.map_cons]
        rw [ih (a + 1) (by omega) (by omega)]
        have la : lvX s a := ⟨h1, by omega⟩
        have at_ := k.at la
        have : wt (tX s a) = (gA s 68 a).toNat := by
          unfold wt
          rw [tX_row k la, kids_N, List.length_map, rowI_len]
          omega
        rw [this]
        omega
    have en : 1 + ((gI σ 93 - 1).toNat : Int) = gI σ 93 := by omega
    rw [en, key _ _ rg.1 (by have := e.1; omega)]
    omega
/-- terms in terms that are nodes are nodes -/
theorem XP.sbs {M : Mo} {σ : S} (h : XP M σ) {x : Int} (hx : lvX σ x) {q : Tr} (hq : q ∈ subs (tX σ x)) : ∃ y, lvX σ y ∧ tX σ y = q := by
  have key : ∀ n x, lvX σ x → trS (tX σ x) ≤ n → ∀ q ∈ subs (tX σ x), ∃ y, lvX σ y ∧ tX σ y = q := by
    intro n
    induction n with
    | zero => intro x hx hn; have := trS_pos (h.T hx); omega
    | succ n ih =>
      intro x hx hn q hq
      rcases subs_top (h.T hx) hq with e | ⟨k, hk, z⟩
      · exact ⟨x, hx, e.symm⟩
      · have et := tX_row h hx
        rw [et, kids_N] at hk
        obtain ⟨y, hy, rfl⟩ := List.mem_map.mp hk
        obtain ⟨j, j0, j1, rfl⟩ := rowI_mem.mp hy
        have at_ := h.at hx
        have ly := (at_.2.2.2.2 j j0 (by omega)).1
        refine ih _ ly ?_ q z
        have : trS (tX σ (gA σ 73 (gA σ 67 x + j))) < trS (tX σ x) := by
          rw [et]; exact trS_kid hk
        omega
  exact key _ x hx (Nat.le_refl _) q hq
/-- rules as they stand -/
def stX (M : Mo) (s : Int) : Prop := (0 ≤ s ∧ s < mEqs M) ∨ (40 ≤ s ∧ s < 40 + mRls M)
def RX (M : Mo) (R : Ru) (σ : S) (s : Int) : Prop :=
  (lvX σ (gA σ 78 s) ∧ tX σ (gA σ 78 s) = ruL R s) ∧ (lvX σ (gA σ 79 s) ∧ tX σ (gA σ 79 s) = ruR R s) ∧
  ∀ c, 0 ≤ c → c < mCn M s → (lvX σ (gA σ 80 (6 * s + c)) ∧ tX σ (gA σ 80 (6 * s + c)) = ruC R (6 * s + c)) ∧ (mCs M (6 * s + c) ≠ 2 → lvX σ (gA σ 81 (6 * s + c)) ∧ tX σ (gA σ 81 (6 * s + c)) = ruO R (6 * s + c)) ∧ (mCs M (6 * s + c) = 2 → gA σ 81 (6 * s + c) = ruS R (6 * s + c))
theorem RX.to {M : Mo} {R : Ru} {σ s : S} {k : Int} (h : RX M R σ k) (e : gwX σ s) (e1 : gA s 78 = gA σ 78) (e2 : gA s 79 = gA σ 79) (e3 : gA s 80 = gA σ 80) (e4 : gA s 81 = gA σ 81) : RX M R s k := by
  unfold RX
  rw [e1, e2, e3, e4]
  obtain ⟨a, b, c⟩ := h
  refine ⟨⟨e.lv a.1, (e.2.1 _ a.1).trans a.2⟩, ⟨e.lv b.1, (e.2.1 _ b.1).trans b.2⟩, fun i i0 i1 => ?_⟩
  obtain ⟨d1, d2, d3⟩ := c i i0 i1
  exact ⟨⟨e.lv d1.1, (e.2.1 _ d1.1).trans d1.2⟩, fun z => ⟨e.lv (d2 z).1, (e.2.1 _ (d2 z).1).trans (d2 z).2⟩, d3⟩
/-- the memo -/
def XM (st : ST) (σ : S) : Prop := (∀ x, lvX σ x → olX σ (gA σ 75 x) ∧ oX σ (gA σ 75 x) = stM st (tX σ x)) ∧ ∀ t, stM st t ≠ .nil → ∃ x, lvX σ x ∧ tX σ x = t
def XC (mo : Int) (st : ST) (σ : S) : Prop := (gI σ 131 = stS st ∧ gI σ 132 = stF st ∧ gI σ 128 = stQ st ∧ gL σ 129 = stD st ∧ gL σ 130 = mo) ∧ (0 ≤ stS st ∧ stS st ≤ 600) ∧ (0 ≤ stF st ∧ stF st ≤ 4000) ∧ (0 ≤ stQ st ∧ stQ st ≤ 6000) ∧ (0 ≤ stD st ∧ stD st ≤ 3000000)
def XR (M : Mo) (R : Ru) (mo : Int) (σ0 : S) (st : ST) (σ : S) : Prop := XP M σ ∧ XM st σ ∧ EyX σ0 σ (CV M st) ∧ XC mo st σ ∧ ∀ s, stX M s → RX M R σ s
/-- stacks below their tops are as before -/
def FX (σ s : S) : Prop :=
  (gI s 106 = gI σ 106 ∧ gI s 141 = gI σ 141 ∧ gI s 143 = gI σ 143 ∧ gI s 123 = gI σ 123 ∧ gI s 139 = gI σ 139 ∧ gI s 138 = gI σ 138 ∧ gI s 134 = gI σ 134) ∧
  (∀ j, j < gI σ 106 → gA s 74 j = gA σ 74 j) ∧ (∀ j, j < gI σ 141 → gA s 91 j = gA σ 91 j) ∧ (∀ j, j < gI σ 143 → gA s 92 j = gA σ 92 j) ∧ ∀ j, j < 62 * gI σ 123 → gA s 86 j = gA σ 86 j
theorem FX.rf (σ : S) : FX σ σ := ⟨⟨rfl, rfl, rfl, rfl, rfl, rfl, rfl⟩, fun _ _ => rfl, fun _ _ => rfl, fun _ _ => rfl, fun _ _ => rfl⟩
theorem FX.trans {a b c : S} (h : FX a b) (k : FX b c) : FX a c := by
  obtain ⟨⟨a1, a2, a3, a4, a5, a6, a7⟩, b1, b2, b3, b4⟩ := h
  obtain ⟨⟨c1, c2, c3, c4, c5, c6, c7⟩, d1, d2, d3, d4⟩ := k
  exact ⟨⟨c1.trans a1, c2.trans a2, c3.trans a3, c4.trans a4, c5.trans a5, c6.trans a6, c7.trans a7⟩, fun j hj => (d1 j (by omega)).trans (b1 j hj), fun j hj => (d2 j (by omega)).trans (b2 j hj), fun j hj => (d3 j (by omega)).trans (b3 j hj), fun j hj => (d4 j (by omega)).trans (b4 j hj)⟩
/-- room, from a start on -/
def roX (σ0 : S) (a0 r0 : Int) : Prop := 1 ≤ gI σ0 93 ∧ gI σ0 93 + 50 + 2 * a0 + 9202 + 32 * (r0 + 4601) + 2 ≤ 200000 ∧ 2 * (gI σ0 102 + 39) + 4 * a0 + 18404 + 235 * (r0 + 4601) ≤ 1200000
theorem room {M : Mo} {R : Ru} {σ0 s : S} {st : ST} {a0 r0 : Int} (h0 : XP M σ0) (hr : roX σ0 a0 r0) (hs : XP M s) (e : EyX σ0 s (CV M st)) (w : WI M R a0 r0 1 1 st) : gI s 93 + 2 ≤ 200000 ∧ gI s 102 + 39 ≤ 600000 := by
  have c := e.cnt h0 hs (fun t ht => CV_cov h0.wm w.2.2.2.2.2.2 ht)
  have l := WI_len h0.wm w
  obtain ⟨r1, r2, r3⟩ := hr
  omega
theorem CV.le {M : Mo} {st st' : ST} (h : leS st st') {u : Tr} (k : CV M st u) : CV M st' u := by
  rcases k with k | k | k
  · exact Or.inl k
  · exact Or.inr (Or.inl (h.2 u k))
  · exact Or.inr (Or.inr (k.le h))
/-- room for matching -/
theorem room_match {M : Mo} {R : Ru} {σ0 σ : S} {st : ST} {a0 r0 : Int} {A : Int → Bool} {t : Int} (h0 : XP M σ0) (hr : roX σ0 a0 r0) (hs : XP M σ) (e : EyX σ0 σ (CV M st)) (w : WI M R a0 r0 1 1 st) (lt : lvX σ t) (hp : PH M st (tX σ t)) (hw : tWide A (tX σ t) = false) : rmX M (inU M A (tX σ t)) σ ∧ ∀ s, XP M s → ExX σ s (inU M A (tX σ t)) → EyX σ0 s (CV M st) := by
  have key : ∀ s, XP M s → ExX σ s (inU M A (tX σ t)) → EyX σ0 s (CV M st) := by
    intro s xs es
    refine ⟨by have := e.1; have := es.1; omega, fun x hx => (es.t (e.lv hx)).trans (e.2.1 x hx), fun x x0 x1 => ?_⟩
    by_cases z : x < gI σ 93
    · have l : lvX σ x := ⟨by have := hr.1; omega, z⟩
      rw [es.t l]
      exact e.2.2 x x0 z
    · have n := (es.2.2 x (by omega) x1).2
      have lx : lvX s x := ⟨by have := hr.1; omega, x1⟩
      have ph := inU_PH (hs.T lt) hp hw n
      rcases n with n | ⟨r, hr', hA, S, Q, hsp, h2, eq⟩ | n
      · obtain ⟨y, ly, ey⟩ := hs.sbs lt n
        have := xs.inj (es.lv ly) lx (by rw [es.t ly, ey])
        have := ly.2
        omega
      · refine Or.inr (Or.inr ((ph _ (subs_self (xs.T lx))).resolve_left ?_).1)
        rw [eq, kids_N]
        intro z
        rw [z] at h2
        simp at h2
      · exact Or.inl n
  exact ⟨fun s xs es => room h0 hr xs (key s xs es) w, key⟩

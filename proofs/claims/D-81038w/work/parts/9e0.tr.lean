/-! RewriteHouseModel: reducing, what stands for what -/
/-- the pool has grown; what is at rest is not looked at -/
def EyT (σ s : S) (N : Tr → Prop) : Prop := gI σ 80 ≤ gI s 80 ∧ (∀ x, lvT σ x → tT s x = tT σ x) ∧ ∀ x, gI σ 80 ≤ x → x < gI s 80 → N (tT s x)
theorem EyT.rf (σ : S) (N : Tr → Prop) : EyT σ σ N := ⟨Int.le_refl _, fun _ _ => rfl, fun x h1 h2 => by omega⟩
theorem EyT.lv {σ s : S} {N : Tr → Prop} (h : EyT σ s N) {x : Int} (hx : lvT σ x) : lvT s x := ⟨hx.1, by have := h.1; have := hx.2; omega⟩
theorem EyT.mono {σ s : S} {N N' : Tr → Prop} (h : EyT σ s N) (k : ∀ t, N t → N' t) : EyT σ s N' := ⟨h.1, h.2.1, fun x h1 h2 => k _ (h.2.2 x h1 h2)⟩
theorem ExT.ey {σ s : S} {N : Tr → Prop} (h : ExT σ s N) : EyT σ s N := ⟨h.1, fun x hx => h.t hx, fun x h1 h2 => (h.2.2 x h1 h2).2⟩
theorem EyT.trans {a b c : S} {N : Tr → Prop} (h : EyT a b N) (k : EyT b c N) (h1 : 0 ≤ gI a 80) : EyT a c N := by
  refine ⟨by have := h.1; have := k.1; omega, fun x hx => (k.2.1 x (h.lv hx)).trans (h.2.1 x hx), fun x x0 x1 => ?_⟩
  by_cases z : x < gI b 80
  · have l : lvT b x := ⟨by omega, z⟩
    rw [k.2.1 x l]
    exact h.2.2 x x0 z
  · exact k.2.2 x (by omega) x1
theorem EyT.of_same {s q : S} {N : Tr → Prop} (h1 : gI q 80 = gI s 80) (h2 : ∀ x, lvT s x → tT q x = tT s x) : EyT s q N := ⟨by omega, h2, fun x _ _ => by omega⟩
abbrev gwT (σ s : S) : Prop := EyT σ s (fun _ => True)
theorem EyT.gw {σ s : S} {N : Tr → Prop} (h : EyT σ s N) : gwT σ s := h.mono (fun _ _ => trivial)
theorem EyT.cnt {M : Mo} {σ s : S} {U : List Tr} {N : Tr → Prop} (h : TP M σ) (k : TP M s) (e : EyT σ s N) (hU : ∀ t, N t → isT t → t ∈ U ∧ (kids t).length ≤ 39) : gI s 80 ≤ gI σ 80 + U.length ∧ gI s 81 ≤ gI σ 81 + (U.map wt).sum := by
  have rg := h.rg
  have hn : ((rowI (fun x => x) (gI σ 80) (gI s 80 - gI σ 80).toNat).map (tT s)).Nodup := by
    rw [List.nodup_iff_pairwise_ne, List.pairwise_map]
    have key : ∀ (n : Nat) (a : Int), 0 ≤ a → a + n ≤ gI s 80 → (rowI (fun x => x) a n).Pairwise fun x y => tT s x ≠ tT s y := by
      intro n
      induction n with
      | zero => intro a _ _; exact List.Pairwise.nil
      | succ n ih =>
        intro a h1 h2
        simp only [rowI]
        rw [List.pairwise_cons]
        refine ⟨fun y hy z => ?_, ih (a + 1) (by omega) (by omega)⟩
        obtain ⟨j, j0, j1, rfl⟩ := rowI_mem.mp hy
        have := k.inj (x := a) (y := a + 1 + j) ⟨h1, by omega⟩ ⟨by omega, by omega⟩ z
        omega
    exact key _ _ rg.1 (by have := e.1; omega)
  have sub : ∀ t ∈ (rowI (fun x => x) (gI σ 80) (gI s 80 - gI σ 80).toNat).map (tT s), t ∈ U := by
    intro t ht
    obtain ⟨x, hx, rfl⟩ := List.mem_map.mp ht
    obtain ⟨j, j0, j1, rfl⟩ := rowI_mem.mp hx
    exact (hU _ (e.2.2 _ (by omega) (by omega)) (k.T ⟨by omega, by omega⟩)).1
  refine ⟨?_, ?_⟩
  · have := nodup_le hn sub
    rw [List.length_map, rowI_len] at this
    omega
  · have w := nodup_sum wt hn sub
    rw [h.pl, k.pl]
    have eo : rowI (gA s 50) 0 (gI σ 80).toNat = rowI (gA σ 50) 0 (gI σ 80).toNat := by
      apply rowI_congr
      intro j j0 j1
      have lj : lvT σ (0 + j) := ⟨by omega, by omega⟩
      have e1 := e.2.1 _ lj
      rw [tT_row h lj, tT_row k (e.lv lj)] at e1
      have := congrArg List.length (trN_inj e1).2
      rw [List.length_map, rowI_len, List.length_map, rowI_len] at this
      have a1 := (h.at lj).1
      have a2 := (k.at (e.lv lj)).1
      omega
    have hl : (gI s 80).toNat = (gI σ 80).toNat + (gI s 80 - gI σ 80).toNat := by have := e.1; omega
    rw [hl, rowI_app, List.sum_append, eo]
    have key : ∀ (l : Nat) (a : Int), gI σ 80 ≤ a → a + l ≤ gI s 80 → (rowI (gA s 50) a l).sum = ((((rowI (fun x => x) a l).map (tT s)).map wt).sum : Nat) := by
      intro l
      induction l with
      | zero => intro a _ _; rfl
      | succ l ih =>
        intro a h1 h2
        simp only [rowI, List.sum_cons, List.map_cons]
        rw [ih (a + 1) (by omega) (by omega)]
        have la : lvT s a := ⟨by omega, by omega⟩
        have at_ := k.at la
        have sm := (hU _ (e.2.2 a h1 (by omega)) (k.T la)).2
        have : wt (tT s a) = (gA s 50 a).toNat := by
          unfold wt
          rw [tT_row k la, kids_N, List.length_map, rowI_len] at sm ⊢
          omega
        rw [this]
        omega
    have en : 0 + ((gI σ 80).toNat : Int) = gI σ 80 := by omega
    rw [en, key _ _ (Int.le_refl _) (by have := e.1; omega)]
    omega
/-- terms in terms that are nodes are nodes -/
theorem TP.sbs {M : Mo} {σ : S} (h : TP M σ) {x : Int} (hx : lvT σ x) {q : Tr} (hq : q ∈ subs (tT σ x)) : ∃ y, lvT σ y ∧ tT σ y = q := by
  have key : ∀ n x, lvT σ x → trS (tT σ x) ≤ n → ∀ q ∈ subs (tT σ x), ∃ y, lvT σ y ∧ tT σ y = q := by
    intro n
    induction n with
    | zero => intro x hx hn; have := trS_pos (h.T hx); omega
    | succ n ih =>
      intro x hx hn q hq
      rcases subs_top (h.T hx) hq with e | ⟨k, hk, z⟩
      · exact ⟨x, hx, e.symm⟩
      · have et := tT_row h hx
        rw [et, kids_N] at hk
        obtain ⟨y, hy, rfl⟩ := List.mem_map.mp hk
        obtain ⟨j, j0, j1, rfl⟩ := rowI_mem.mp hy
        have at_ := h.at hx
        have ly := (at_.2.2.2 j j0 (by omega)).1
        refine ih _ ly ?_ q z
        have : trS (tT σ (gA σ 56 (gA σ 49 x + j))) < trS (tT σ x) := by
          rw [et]; exact trS_kid hk
        omega
  exact key _ x hx (Nat.le_refl _) q hq
/-- what is made, small -/
def CVt (M : Mo) (st : ST) (u : Tr) : Prop := CV M st u ∧ trS u ≤ 40
theorem CVt.kids {M : Mo} {st : ST} {u : Tr} (h : CVt M st u) (hu : isT u) : (kids u).length ≤ 39 := by
  obtain ⟨c, ts, rfl, -, hk⟩ := isT_ex hu
  have a := trS_len hk
  have b := h.2
  rw [trS_N] at b
  rw [kids_N]
  omega
/-- the memo -/
def TM (st : ST) (σ : S) : Prop := (∀ x, lvT σ x → (gA σ 55 x = gI σ 121 → lvT σ (gA σ 54 x) ∧ tT σ (gA σ 54 x) = stM st (tT σ x)) ∧ (gA σ 55 x ≠ gI σ 121 → stM st (tT σ x) = .nil)) ∧ ∀ t, stM st t ≠ .nil → ∃ x, lvT σ x ∧ tT σ x = t
theorem TM.ex {M : Mo} {st st' : ST} {σ s : S} {N : Tr → Prop} (h : TM st σ) (xp : TP M σ) (xs : TP M s) (e : ExT σ s N) (ec : gI s 121 = gI σ 121) (c1 : 1 ≤ gI σ 121) (eM : stM st' = stM st) : TM st' s := by
  have rg := xp.rg
  refine ⟨fun x hx => ?_, fun t ht => ?_⟩
  · rw [eM, ec]
    by_cases z : x < gI σ 80
    · have l : lvT σ x := ⟨hx.1, z⟩
      have a := h.1 x l
      obtain ⟨et, e1, e2⟩ := e.2.1 x l
      rw [e1, e2, et]
      exact ⟨fun k => ⟨e.lv (a.1 k).1, (e.t (a.1 k).1).trans (a.1 k).2⟩, a.2⟩
    · have n := (e.2.2 x (by omega) hx.2).1
      rw [n]
      refine ⟨fun k => by omega, fun _ => ?_⟩
      rcases Classical.em (stM st (tT s x) = .nil) with w | w
      · exact w
      · obtain ⟨y, ly, ey⟩ := h.2 _ w
        have := xs.inj (e.lv ly) hx (by rw [e.t ly, ey])
        have := ly.2
        omega
  · rw [eM] at ht
    obtain ⟨y, ly, ey⟩ := h.2 t ht
    exact ⟨y, e.lv ly, by rw [e.t ly, ey]⟩
/-- what a node came to -/
theorem came_t {M : Mo} {st : ST} {s : S} {x : Int} (xp : TP M s) (h : TM st s) (lx : lvT s x) (h0 : 0 ≤ lab (tT s x)) {r : Int} (hr : r = if gA s 55 x = gI s 121 then gA s 54 x else -1) : (r < 0 ↔ came st (tT s x) = .nil) ∧ (0 ≤ r → lvT s r ∧ tT s r = came st (tT s x)) := by
  have a := h.1 x lx
  unfold came
  rw [if_neg (by omega)]
  by_cases z : gA s 55 x = gI s 121
  · rw [if_pos z] at hr
    subst hr
    obtain ⟨l, e⟩ := a.1 z
    rw [← e]
    exact ⟨⟨fun k => by have := l.1; omega, fun k => absurd k (isT_nn (xp.T l))⟩, fun _ => ⟨l, rfl⟩⟩
  · rw [if_neg z] at hr
    have e := a.2 z
    exact ⟨⟨fun _ => e, fun _ => by omega⟩, fun k => by omega⟩
/-- room, from a start on -/
def roT (σ0 : S) (a0 r0 : Int) : Prop := 0 ≤ gI σ0 80 ∧ gI σ0 80 + 50 + 2 * a0 + 9202 + 32 * (r0 + 4601) + 100 ≤ 200000 ∧ 2 * (gI σ0 81 + 150000) + 4 * a0 + 18404 + 235 * (r0 + 4601) ≤ 1600000
theorem roomT {M : Mo} {R : Ru} {σ0 s : S} {st : ST} {a0 r0 : Int} (h0 : TP M σ0) (hr : roT σ0 a0 r0) (hs : TP M s) (e : EyT σ0 s (CVt M st)) (w : WI M R a0 r0 1 1 st) : gI s 80 + 100 ≤ 200000 ∧ gI s 81 + 150000 ≤ 800000 := by
  have c := e.cnt h0 hs (fun t ht it => ⟨CV_cov h0.wm w.2.2.2.2.2.2 ht.1, ht.kids it⟩)
  have l := WI_len h0.wm w
  obtain ⟨r1, r2, r3⟩ := hr
  omega
theorem CVt.le {M : Mo} {st st' : ST} (h : leS st st') {u : Tr} (k : CVt M st u) : CVt M st' u := ⟨CV.le h k.1, k.2⟩
/-- statements as they stand, and their slots -/
def RuT (M : Mo) (R : Ru) (sx : Int → Int) (σ : S) : Prop :=
  (∀ s, stX M s → (0 ≤ sx s ∧ sx s < gI σ 45) ∧ gA σ 23 (sx s) = (if s < 40 then mOt M s else 2) ∧ (lvT σ (gA σ 64 (sx s)) ∧ tT σ (gA σ 64 (sx s)) = ruL R s) ∧ (lvT σ (gA σ 65 (sx s)) ∧ tT σ (gA σ 65 (sx s)) = ruR R s) ∧ gA σ 29 (sx s) = mCn M s ∧
    ∀ c, 0 ≤ c → c < mCn M s → gA σ 27 (6 * sx s + c) = mCs M (6 * s + c) ∧ (lvT σ (gA σ 66 (6 * sx s + c)) ∧ tT σ (gA σ 66 (6 * sx s + c)) = ruC R (6 * s + c)) ∧ (mCs M (6 * s + c) ≠ 2 → lvT σ (gA σ 67 (6 * sx s + c)) ∧ tT σ (gA σ 67 (6 * sx s + c)) = ruO R (6 * s + c)) ∧ (mCs M (6 * s + c) = 2 → gA σ 68 (6 * sx s + c) = ruS R (6 * s + c))) ∧
  (0 ≤ gI σ 45 ∧ gI σ 45 ≤ 70) ∧ (∀ s s', stX M s → stX M s' → (s < 40 ↔ s' < 40) → s < s' → sx s < sx s') ∧ ∀ t, 0 ≤ t → t < gI σ 45 → ∃ s, stX M s ∧ sx s = t
theorem RuT.to {M : Mo} {R : Ru} {sx : Int → Int} {σ s : S} (h : RuT M R sx σ) (e : gwT σ s) (e0 : gI s 45 = gI σ 45) (e1 : gA s 23 = gA σ 23) (e2 : gA s 64 = gA σ 64) (e3 : gA s 65 = gA σ 65) (e4 : gA s 29 = gA σ 29) (e5 : gA s 27 = gA σ 27) (e6 : gA s 66 = gA σ 66) (e7 : gA s 67 = gA σ 67) (e8 : gA s 68 = gA σ 68) : RuT M R sx s := by
  unfold RuT
  rw [e0, e1, e2, e3, e4, e5, e6, e7, e8]
  refine ⟨fun k hk => ?_, h.2⟩
  obtain ⟨a, b, c, d, f, g⟩ := h.1 k hk
  refine ⟨a, b, ⟨e.lv c.1, (e.2.1 _ c.1).trans c.2⟩, ⟨e.lv d.1, (e.2.1 _ d.1).trans d.2⟩, f, fun i i0 i1 => ?_⟩
  obtain ⟨g1, g2, g3, g4⟩ := g i i0 i1
  exact ⟨g1, ⟨e.lv g2.1, (e.2.1 _ g2.1).trans g2.2⟩, fun z => ⟨e.lv (g3 z).1, (e.2.1 _ (g3 z).1).trans (g3 z).2⟩, g4⟩

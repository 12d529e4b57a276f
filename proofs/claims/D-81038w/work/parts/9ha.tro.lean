/-! RewriteHouseModel: room is made -/
theorem TP.cnt {M : Mo} {s : S} {U : List Tr} (k : TP M s) (hU : ∀ z, lvT s z → tT s z ∈ U ∧ (kids (tT s z)).length ≤ 39) : gI s 80 ≤ U.length ∧ gI s 81 ≤ ((U.map wt).sum : Nat) := by
  have rg := k.rg
  have hn : ((rowI (fun x => x) 0 (gI s 80).toNat).map (tT s)).Nodup := by
    rw [List.nodup_iff_pairwise_ne, List.pairwise_map]
    have key : ∀ (n : Nat) (a : Int), 0 ≤ a → a + n ≤ gI s 80 → (rowI (fun x => x) a n).Pairwise fun x y => tT s x ≠ tT s y := by
      intro n
      induction n with
      | zero => intro a _ _; exact List.Pairwise.nil
      | succ n ih =>
        intro a h1 h2
        simp only [rowI]
        rw [List.pairwise_cons]
        refine ⟨fun y hy z => ?_, ih (a + 1) (by omega) (by omega)⟩
        obtain ⟨j, j0, j1, rfl⟩ := rowI_mem.mp hy
        have := k.inj (x := a) (y := a + 1 + j) ⟨h1, by omega⟩ ⟨by omega, by omega⟩ z
        omega
    exact key _ _ (Int.le_refl _) (by omega)
  have sub : ∀ t ∈ (rowI (fun x => x) 0 (gI s 80).toNat).map (tT s), t ∈ U := by
    intro t ht
    obtain ⟨x, hx, rfl⟩ := List.mem_map.mp ht
    obtain ⟨j, j0, j1, rfl⟩ := rowI_mem.mp hx
    exact (hU _ ⟨by omega, by omega⟩).1
  refine ⟨?_, ?_⟩
  · have := nodup_le hn sub
    rw [List.length_map, rowI_len] at this
    omega
  · have w := nodup_sum wt hn sub
    rw [k.pl]
    have key : ∀ (l : Nat) (a : Int), 0 ≤ a → a + l ≤ gI s 80 → (rowI (gA s 50) a l).sum = ((((rowI (fun x => x) a l).map (tT s)).map wt).sum : Nat) := by
      intro l
      induction l with
      | zero => intro a _ _; rfl
      | succ l ih =>
        intro a h1 h2
        simp only [rowI, List.sum_cons, List.map_cons]
        rw [ih (a + 1) (by omega) (by omega)]
        have la : lvT s a := ⟨by omega, by omega⟩
        have at_ := k.at la
        have sm := (hU a la).2
        have : wt (tT s a) = (gA s 50 a).toNat := by
          unfold wt
          rw [tT_row k la, kids_N, List.length_map, rowI_len] at sm ⊢
          omega
        rw [this]
        omega
    rw [key _ _ (Int.le_refl _) (by omega)]
    omega
/-- the kept nodes after room is made: g tells the new number of each -/
def rmQ (M : Mo) (σ : S) (g : Int → Int) (s : S) : Prop := TP M s ∧ Fr wT_makeRoom σ s ∧ (∀ y, rtT σ y → lvT s (g y) ∧ tT s (g y) = tT σ y) ∧
  (∀ k, 0 ≤ k → k < gI σ 45 → gA s 64 k = g (gA σ 64 k) ∧ gA s 65 k = g (gA σ 65 k) ∧ ∀ c, 0 ≤ c → c < gA σ 29 k → gA s 66 (6 * k + c) = g (gA σ 66 (6 * k + c)) ∧ (0 ≤ gA σ 67 (6 * k + c) → gA s 67 (6 * k + c) = g (gA σ 67 (6 * k + c))) ∧ (gA σ 67 (6 * k + c) < 0 → gA s 67 (6 * k + c) < 0)) ∧
  (∀ k, 0 ≤ k → k < gI σ 101 → gA s 70 k = g (gA σ 70 k)) ∧ (gI σ 190 ≠ 0 → gI s 181 = g (gI σ 181) ∧ gI s 182 = g (gI σ 182)) ∧
  (∀ k, 0 ≤ k → k < gI σ 134 → (gI σ 135 ≠ 1 → gA s 85 k = g (gA σ 85 k)) ∧ (gI σ 135 = 1 → ∀ j, 0 ≤ j → j < 62 → (0 ≤ gA σ 86 (64 * k + j) → gA s 86 (64 * k + j) = g (gA σ 86 (64 * k + j))) ∧ (gA σ 86 (64 * k + j) < 0 → gA s 86 (64 * k + j) = gA σ 86 (64 * k + j)))) ∧
  (∀ z, lvT s z → gA s 55 z = 0 ∨ lvT σ z ∧ gA s 55 z = gA σ 55 z)
theorem ts_compact {M : Mo} {σ : S} (h : TP M σ) (O : rtO σ) : t_compact σ (fun _ s => ∃ g, rmQ M σ g s ∧ ∀ z, lvT s z → ∃ y, rtT σ y ∧ tT s z ∈ subs (tT σ y)) := by
  have rg := h.rg
  refine ts_marks ⟨rg.1, rg.2.1⟩ O (fun p I ka => ?_)
  refine ts_closed h O I (fun s q f ml kp hs mq => ?_)
  obtain ⟨hq, nq, mv, on, fq⟩ := mq
  have fsq : Fr wT_moveNodes σ q := (f.weak rfl).trans fq
  obtain ⟨-, hl⟩ := h.fr f rfl
  have rl := ts_relabel (g := gA q 92) O rg.2.1 fsq rfl
  refine ft_compact_L290 (σ0 := q) Fr.rf rl ?_
  rintro r t - ⟨ft, rA, rH, rP, rR⟩
  obtain ⟨ht, hlt⟩ := hq.fr ft rfl
  have lvn : ∀ z, lvT t z ↔ lvT q z := fun z => by unfold lvT; rw [ft.i _ rfl]
  refine ⟨gA q 92, ⟨ht, (fsq.weak rfl).trans (ft.weak rfl), fun y hy => ?_, fun k k0 k1 => ?_, rH, rP, fun k k0 k1 => ?_, fun z hz => Or.inl ?_⟩, fun z hz => ?_⟩
  · have ly := O.1 y hy
    have hm : gA s 92 y = 1 := by
      refine ml y ?_
      rcases hy with ⟨k, ⟨k0, k1⟩, e | e | ⟨c, ⟨c0, c1⟩, e | ⟨e, e0⟩⟩⟩ | ⟨k, ⟨k0, k1⟩, e⟩ | ⟨hp, e | e⟩ | ⟨hk, k, ⟨k0, k1⟩, e⟩ | ⟨hk, k, j, ⟨k0, k1⟩, ⟨j0, j1⟩, e, e0⟩
      · rw [e]; exact (ka.1 k k0 k1).1 (by rw [← e]; exact ly.1)
      · rw [e]; exact (ka.1 k k0 k1).2.1 (by rw [← e]; exact ly.1)
      · rw [e]; exact ((ka.1 k k0 k1).2.2 c c0 c1).1 (by rw [← e]; exact ly.1)
      · rw [e]; exact ((ka.1 k k0 k1).2.2 c c0 c1).2 (by rw [← e]; exact ly.1)
      · rw [e]; exact ka.2.1 k k0 k1 (by rw [← e]; exact ly.1)
      · rw [e]; exact (ka.2.2.1 hp).1 (by rw [← e]; exact ly.1)
      · rw [e]; exact (ka.2.2.1 hp).2 (by rw [← e]; exact ly.1)
      · rw [e]; exact (ka.2.2.2 k k0 k1).1 hk (by rw [← e]; exact ly.1)
      · rw [e]; exact (ka.2.2.2 k k0 k1).2 hk j j0 j1 (by rw [← e]; exact ly.1)
    obtain ⟨m1, m2, m3⟩ := mv y (hl y ly).1 hm
    rw [m1]
    exact ⟨(hlt _ m2).1, by rw [(hlt _ m2).2, m3, (hl y ly).2]⟩
  · obtain ⟨a1, a2, a3⟩ := rA k k0 k1
    refine ⟨a1, a2, fun c c0 c1 => ?_⟩
    obtain ⟨b1, b2⟩ := a3 c c0 c1
    refine ⟨b1, fun z => by rw [b2, if_neg (by omega)], fun z => by rw [b2, if_pos z]; omega⟩
  · obtain ⟨b1, b2⟩ := rR k k0 k1
    exact ⟨b1, fun e j j0 j1 => ⟨fun z => by rw [b2 e j j0 j1, if_neg (by omega)], fun z => by rw [b2 e j j0 j1, if_pos z]⟩⟩
  · rw [ft.a _ rfl]
    exact (on z ((lvn z).mp hz)).1
  · obtain ⟨y, ly, hm, e⟩ := (on z ((lvn z).mp hz)).2
    have ly2 : lvT σ y := ⟨ly.1, by have := ly.2; rw [f.i _ rfl] at this; exact this⟩
    obtain ⟨x, rx, sx⟩ := kp y ly2 hm
    refine ⟨x, rx, ?_⟩
    rw [(hlt z ((lvn z).mp hz)).2, ← e, (mv y ly hm).2.2, (hl y ly2).2]
    exact sx
theorem ts_makeRoom {M : Mo} {σ : S} {U : List Tr} (h : TP M σ) (O : rtO σ) (hU : ∀ y, rtT σ y → okT M (tT σ y) ∧ ∀ q ∈ subs (tT σ y), q ∈ U) (u1 : U.length ≤ 20000) (u2 : (U.map wt).sum ≤ 80000) : t_makeRoom σ (fun _ s => ∃ g, rmQ M σ g s ∧ gI s 80 ≤ 20000 ∧ gI s 81 ≤ 80000) := by
  unfold t_makeRoom
  by_cases hc : ¬ (gI σ 80 ≤ 20000) ∨ ¬ (gI σ 81 ≤ 80000)
  · rw [if_pos hc]
    refine fm_t_compact (ts_compact h O) ?_
    rintro r s - ⟨g, rm, hz⟩
    have c := rm.1.cnt (U := U) (fun z lz => by
      obtain ⟨y, ry, sy⟩ := hz z lz
      obtain ⟨h1, h2⟩ := hU y ry
      have o := subs_NF h1 sy
      exact ⟨h2 _ sy, kids_40 o.1.1 o.2⟩)
    exact ⟨g, rm, by omega, by omega⟩
  · rw [if_neg hc]
    refine ⟨fun y => y, ⟨h, Fr.rf, fun y hy => ⟨O.1 y hy, rfl⟩, fun k k0 k1 => ⟨rfl, rfl, fun c c0 c1 => ⟨rfl, fun _ => rfl, fun z => z⟩⟩, fun k k0 k1 => rfl, fun _ => ⟨rfl, rfl⟩, fun k k0 k1 => ⟨fun _ => rfl, fun _ j j0 j1 => ⟨fun _ => rfl, fun _ => rfl⟩⟩, fun z lz => Or.inr ⟨lz, rfl⟩⟩, by omega, by omega⟩

/-- assoc operators of a pattern's part are among the pattern's -/
def sub1 (M : Mo) (p : Tr) (A : Int → Bool) : Prop := ∀ c, 0 ≤ c → mAs M c ≠ 0 → tAny (fun d => decide (d = c)) p = true → A c = true
theorem sub1_self (M : Mo) (p : Tr) : sub1 M p (asO M p) := by
  intro c h0 h1 h2
  unfold asO
  rw [h2, decide_eq_true ⟨h0, h1⟩]; rfl
theorem sub1_kid {M : Mo} {c : Int} {ts : List Tr} {A : Int → Bool} (h : sub1 M (trN c ts) A) {t : Tr} (ht : t ∈ ts) : sub1 M t A := by
  intro d h0 h1 h2
  refine h d h0 h1 ?_
  rw [tAny_N, Bool.or_eq_true, List.any_eq_true]
  exact Or.inr ⟨t, ht, h2⟩
theorem own_le {M : Mo} {t : Tr} {c : Int} {r : Nat} {A : Int → Bool} (hr : r ≤ 39) (hn : tWide A t = false) (hA : 0 ≤ c → mAs M c ≠ 0 → A c = true) : own M t c r ≤ 9474296896 := by
  unfold own
  split
  · omega
  · split
    · rename_i h1 h2
      have := lng_of_narrow (hA (by omega) h2) t hn
      have b := wys_le (decide (mCo M c ≠ 0)) hr (max 1 (lng c t)) (by omega)
      have b2 : 46 ^ (max 1 (lng c t)) ≤ 46 ^ 6 := Nat.pow_le_pow_right (by omega) (by omega)
      have b3 : (46 : Nat) ^ 6 = 9474296896 := by decide
      omega
    · split <;> omega
theorem xs_dealsS {M : Mo} {σ : S} (h : XP M σ) {t : Int} (ht : lvX σ t) {A : Int → Bool} (hn : tWide A (tX σ t) = false) : ∀ (n : Nat) (x : Int) (Q : Int → S → Prop) (E : S → Prop), trS (tX σ x) ≤ n → lvX σ x → sub1 M (tX σ x) A → (∀ v : Int, 1 ≤ v → v ≤ 9000006000001 → min 3000001 v.toNat = min 3000001 (dlN M (tX σ t) (tX σ x)) → Q v σ) → x_S_deals n 0 [x, t] σ Q E := by
  intro n
  induction n with
  | zero => intro x Q E hn hx; have := trS_pos (h.T hx); omega
  | succ n ih =>
    intro x Q E hs hx hA hQ
    have rg := h.rg
    have ax := h.at hx
    have ox := h.opr hx
    have om := h.wm.2.2.1
    have bx : 0 ≤ x ∧ x < 200000 := by have := hx.1; have := hx.2; omega
    have row := dlN_N M (tX σ t) (gA σ 66 x) ((rowI (gA σ 73) (gA σ 67 x) (gA σ 68 x).toNat).map (tX σ))
    rw [← tX_row h hx, List.length_map, rowI_len] at row
    have hAx := hA
    rw [tX_row h hx] at hAx
    have hAc : 0 ≤ gA σ 66 x → mAs M (gA σ 66 x) ≠ 0 → A (gA σ 66 x) = true := fun h0 h1 => hAx _ h0 h1 (by rw [tAny_N]; simp)
    have ob := own_le (M := M) (t := tX σ t) (c := gA σ 66 x) (r := (gA σ 68 x).toNat) (by omega) hn hAc
    have op := own_pos M (tX σ t) (gA σ 66 x) (gA σ 68 x).toNat
    show x_deals_F (x_S_deals n) x t σ Q
    unfold x_deals_F
    refine ⟨bx, ?_⟩
    have rest : ∀ v : Int, v = ((own M (tX σ t) (gA σ 66 x) (gA σ 68 x).toNat : Nat) : Int) → x_deals_j71 (x_S_deals n) x t v σ Q := by
      intro v hv
      unfold x_deals_j71
      refine lx_deals_L74 (fo_x_S_deals n) (fun v k s => s = σ ∧ 0 ≤ k ∧ k ≤ gA σ 68 x ∧ 1 ≤ v ∧ v ≤ 9000006000001 ∧ ∃ a : Nat, 1 ≤ a ∧ min 3000001 v.toNat = min 3000001 a ∧ dlN M (tX σ t) (tX σ x) = ((rowI (gA σ 73) (gA σ 67 x + k) (gA σ 68 x - k).toNat).map (tX σ)).foldl (fun b u => b * dlN M (tX σ t) u) a) (fun _ k _ => (gA σ 68 x - k).toNat) ⟨rfl, by omega, ax.1, by omega, by omega, _, op, by rw [hv]; simp, by simp only [Int.add_zero, Int.sub_zero]; exact row⟩ ?_
      rintro v k q fr ⟨rfl, k0, k1, hv0, hv1, a, ha, hm, hc⟩
      try dsimp only
      refine ⟨bx, ?_⟩
      by_cases hk : k < gA q 68 x
      · rw [if_pos hk]
        refine xs_at h hx k0 hk ?_
        have lk := (ax.2.2.2.2 k k0 hk).1
        have hmem : tX q (gA q 73 (gA q 67 x + k)) ∈ (rowI (gA q 73) (gA q 67 x) (gA q 68 x).toNat).map (tX q) := List.mem_map_of_mem (rowI_mem.mpr ⟨k, k0, by omega, rfl⟩)
        refine ih _ _ _ ?_ lk (sub1_kid hAx hmem) (fun w w0 w1 hw => ?_)
        · have : trS (tX q (gA q 73 (gA q 67 x + k))) < trS (tX q x) := by
            conv => rhs; rw [tX_row h hx]
            exact trS_kid hmem
          omega
        · have m1 : min 3000001 v = ((min 3000001 v.toNat : Nat) : Int) := by omega
          have m2 : min 3000001 w = ((min 3000001 w.toNat : Nat) : Int) := by omega
          have hp : ((min 3000001 v.toNat : Nat) : Int) * ((min 3000001 w.toNat : Nat) : Int) = ((min 3000001 v.toNat * min 3000001 w.toNat : Nat) : Int) := by push_cast; rfl
          have hb : min 3000001 v.toNat * min 3000001 w.toNat ≤ 3000001 * 3000001 := Nat.mul_le_mul (Nat.min_le_left _ _) (Nat.min_le_left _ _)
          have hb0 : 1 ≤ min 3000001 v.toNat * min 3000001 w.toNat := Nat.mul_pos (by omega) (by omega)
          rw [m1, m2, hp, w64_id (by omega) (by omega), w32_id (by omega) (by omega)]
          refine ⟨⟨rfl, by omega, by omega, by omega, by omega, a * dlN M (tX q t) (tX q (gA q 73 (gA q 67 x + k))), Nat.mul_pos ha (dlN_pos _ _ _), ?_, ?_⟩, by omega⟩
          · rw [Int.toNat_natCast, hm, hw, min_mul ha (dlN_pos _ _ _)]
          · rw [hc, show (gA q 68 x - k).toNat = (gA q 68 x - (k + 1)).toNat + 1 by omega]
            simp only [rowI, List.map_cons, List.foldl_cons]
            rw [show gA q 67 x + (k + 1) = gA q 67 x + k + 1 by omega]
      · rw [if_neg hk]
        rw [show (gA q 68 x - k).toNat = 0 by omega] at hc
        simp only [rowI, List.map_nil, List.foldl_nil] at hc
        exact hQ v hv0 hv1 (by rw [hc]; exact hm)
    have co : ∀ v, v = 1 → (gA σ 66 x < 0 ∨ mAs M (gA σ 66 x) = 0) → x_deals_j53 (x_S_deals n) x t (gA σ 66 x) v σ Q := by
      intro v hv hna
      unfold x_deals_j53
      rw [moX_co h]
      refine ⟨fun _ => by omega, ?_⟩
      by_cases hc : ¬ gA σ 66 x < 0 ∧ ¬ mCo M (gA σ 66 x) = 0
      · rw [if_pos hc]
        refine rest 2 ?_
        unfold own
        rw [if_neg hc.1, if_neg (by rcases hna with z | z; exact absurd z hc.1; simp [z]), if_pos hc.2]; rfl
      · rw [if_neg hc]
        refine rest v ?_
        unfold own
        rw [hv]
        by_cases z : gA σ 66 x < 0
        · rw [if_pos z]; rfl
        · rw [if_neg z, if_neg (by rcases hna with y | y; exact absurd y z; simp [y]), if_neg (fun y => hc ⟨z, y⟩)]; rfl
    by_cases hv0 : gA σ 66 x < 0
    · rw [if_pos hv0]
      exact co 1 rfl (Or.inl hv0)
    · rw [if_neg hv0, moX_as h]
      refine ⟨by omega, ?_⟩
      by_cases has : mAs M (gA σ 66 x) = 0
      · rw [if_pos has]
        exact co 1 rfl (Or.inr has)
      · rw [if_neg has]
        refine xs_longest h ht ?_
        have hl := lng_of_narrow (hAc (by omega) has) _ hn
        have hcb := (h.wm.op (show 0 ≤ gA σ 66 x by omega) ox.2).2.2.2.1
        rw [moX_co h]
        refine ⟨bx, by omega, ?_⟩
        have := xs_waysToDeal (σ := σ) (w := max 1 (lng (gA σ 66 x) (tX σ t))) (r := (gA σ 68 x).toNat) (co := mCo M (gA σ 66 x)) (Q := fun r s => x_deals_j71 (x_S_deals n) x t r s Q) (by omega) (by omega) hcb (by
          refine rest _ ?_
          unfold own
          rw [if_neg hv0, if_pos has])
        rw [show ((max 1 (lng (gA σ 66 x) (tX σ t)) : Nat) : Int) = max 1 ((lng (gA σ 66 x) (tX σ t) : Nat) : Int) by omega, show (((gA σ 68 x).toNat : Nat) : Int) = gA σ 68 x by omega] at this
        exact this
theorem xs_deals {M : Mo} {σ : S} (h : XP M σ) {x t : Int} {Q : Int → S → Prop} (hx : lvX σ x) (ht : lvX σ t) (hn : tWide (asO M (tX σ x)) (tX σ t) = false) (hQ : ∀ v : Int, 1 ≤ v → v ≤ 9000006000001 → min 3000001 v.toNat = min 3000001 (dlN M (tX σ t) (tX σ x)) → Q v σ) : x_deals x t σ Q :=
  xs_dealsS h ht hn 44 x Q _ (by have := (h.nd hx).2.2.2; omega) hx (sub1_self _ _) hQ
theorem ts_longestS {M : Mo} {σ : S} (h : TP M σ) {o : Int} (ho : 0 ≤ o) : ∀ (n : Nat) (x : Int) (Q : Int → S → Prop) (E : S → Prop), trD (tT σ x) ≤ n → lvT σ x → Q ((max 1 (lng o (tT σ x)) : Nat) : Int) σ → t_S_longest n 0 [o, x] σ Q E := by
  intro n
  induction n with
  | zero =>
    intro x Q E hn hx
    exfalso
    rw [tT_row h hx] at hn
    simp only [trN, trD] at hn
    omega
  | succ n ih =>
    intro x Q E hn hx hQ
    have rg := h.rg
    have ax := h.at hx
    have ox := h.opr hx
    have om := h.wm.2.2.1
    have bx : 0 ≤ x ∧ x < 200000 := by have := hx.1; have := hx.2; omega
    have row := lng_N o (gA σ 48 x) ((rowI (gA σ 56) (gA σ 49 x) (gA σ 50 x).toNat).map (tT σ))
    rw [← tT_row h hx, List.length_map, rowI_len] at row
    have dk : ∀ k, 0 ≤ k → k < gA σ 50 x → trD (tT σ (gA σ 56 (gA σ 49 x + k))) ≤ n := by
      intro k k0 k1
      rw [tT_row h hx, trD_N] at hn
      exact hn _ (List.mem_map_of_mem (rowI_mem.mpr ⟨k, k0, by omega, rfl⟩))
    have fm : ∀ (l : List Tr) (a : Nat), max 1 (l.foldl (fun b t => max b (lng o t)) a) = l.foldl (fun b t => max b (lng o t)) (max 1 a) := by
      intro l
      induction l with
      | nil => intro a; rfl
      | cons t r ih2 => intro a; simp only [List.foldl_cons]; rw [ih2, Nat.max_assoc]
    show t_longest_F (t_S_longest n) o x σ Q
    unfold t_longest_F
    refine ts_isVar h hx ?_
    by_cases hv0 : gA σ 48 x < 0
    · rw [bi_t hv0, if_neg (by decide)]
      rw [h.vk hx hv0, if_neg (by omega)] at row
      simp only [show (0 : Int).toNat = 0 from rfl, rowI, List.map_nil, List.foldl_nil] at row
      rw [row] at hQ
      exact hQ
    · rw [bi_f hv0, if_pos rfl]
      refine ⟨bx, fun _ => bx, fun _ _ => bx, ?_⟩
      refine lt_longest_L44 (fo_t_S_longest n) (fun v k s => s = σ ∧ 0 ≤ k ∧ k ≤ gA σ 50 x ∧ 1 ≤ v ∧ max 1 (lng o (tT σ x)) = ((rowI (gA σ 56) (gA σ 49 x + k) (gA σ 50 x - k).toNat).map (tT σ)).foldl (fun b t => max b (lng o t)) v.toNat) (fun _ k _ => (gA σ 50 x - k).toNat) ⟨rfl, by omega, ax.1, by split <;> (try split) <;> omega, by
        simp only [Int.add_zero, Int.sub_zero]
        rw [row, fm]
        congr 1
        split <;> (try split) <;> omega⟩ ?_
      rintro v k q fr ⟨rfl, k0, k1, hv, hc⟩
      try dsimp only
      refine ⟨bx, ?_⟩
      by_cases hk : k < gA q 50 x
      · rw [if_pos hk]
        refine ts_arg h hx k0 hk ?_
        have lk := (ax.2.2.2 k k0 hk).1
        refine ih _ _ _ (dk k k0 hk) lk ?_
        rw [w32_id (by have := h.at hx; omega) (by have := h.at hx; omega)]
        refine ⟨⟨rfl, by omega, by omega, by split <;> omega, ?_⟩, by omega⟩
        rw [hc, show (gA q 50 x - k).toNat = (gA q 50 x - (k + 1)).toNat + 1 by omega]
        simp only [rowI, List.map_cons, List.foldl_cons]
        rw [show gA q 49 x + (k + 1) = gA q 49 x + k + 1 by omega]
        congr 1
        split <;> omega
      · rw [if_neg hk]
        rw [show (gA q 50 x - k).toNat = 0 by omega] at hc
        simp only [rowI, List.map_nil, List.foldl_nil] at hc
        rw [hc, show ((v.toNat : Nat) : Int) = v by omega] at hQ
        exact hQ
theorem ts_longest {M : Mo} {σ : S} (h : TP M σ) {o x : Int} {Q : Int → S → Prop} (ho : 0 ≤ o) (hx : lvT σ x) (hd : trS (tT σ x) ≤ 40) (hQ : Q ((max 1 (lng o (tT σ x)) : Nat) : Int) σ) : t_longest o x σ Q :=
  ts_longestS h ho 44 x Q _ (by have := trD_S (h.T hx); omega) hx hQ
theorem foldmul (M : Mo) (t : Tr) (l : List Tr) (a : Nat) : a ≤ l.foldl (fun b u => b * dlN M t u) a := by
  induction l generalizing a with
  | nil => simp
  | cons u r ih =>
    simp only [List.foldl_cons]
    exact Nat.le_trans (Nat.le_mul_of_pos_right _ (dlN_pos M t u)) (ih _)
theorem ts_dealsOfS {M : Mo} {σ : S} (h : TP M σ) {t : Int} (ht : lvT σ t) (hts : trS (tT σ t) ≤ 40) {A : Int → Bool} (hn : tWide A (tT σ t) = false) : ∀ (n : Nat) (x : Int) (Q : Int → S → Prop) (E : S → Prop), trS (tT σ x) ≤ n → n ≤ 44 → trS (tT σ x) ≤ 40 → lvT σ x → sub1 M (tT σ x) A → Q ((min 3000001 (dlN M (tT σ t) (tT σ x)) : Nat) : Int) σ → t_S_dealsOf n 0 [x, t] σ Q E := by
  intro n
  induction n with
  | zero => intro x Q E hs hn44 h40 hx; have := trS_pos (h.T hx); omega
  | succ n ih =>
    intro x Q E hs hn44 h40 hx hA hQ
    have rg := h.rg
    have ax := h.at hx
    have ox := h.opr hx
    have om := h.wm.2.2.1
    have bx : 0 ≤ x ∧ x < 200000 := by have := hx.1; have := hx.2; omega
    have row := dlN_N M (tT σ t) (gA σ 48 x) ((rowI (gA σ 56) (gA σ 49 x) (gA σ 50 x).toNat).map (tT σ))
    rw [← tT_row h hx, List.length_map, rowI_len] at row
    have hAx := hA
    rw [tT_row h hx] at hAx
    have hAc : 0 ≤ gA σ 48 x → mAs M (gA σ 48 x) ≠ 0 → A (gA σ 48 x) = true := fun h0 h1 => hAx _ h0 h1 (by rw [tAny_N]; simp)
    have hcnt : gA σ 50 x ≤ 39 := by
      have kT : ∀ u ∈ (rowI (gA σ 56) (gA σ 49 x) (gA σ 50 x).toNat).map (tT σ), isT u := by
        intro u hu
        obtain ⟨y, hy, rfl⟩ := List.mem_map.mp hu
        obtain ⟨k, k0, k1, rfl⟩ := rowI_mem.mp hy
        exact h.T (ax.2.2.2 k k0 (by omega)).1
      have := trS_len kT
      rw [List.length_map, rowI_len] at this
      rw [tT_row h hx, trS_N] at h40
      omega
    have ob := own_le (M := M) (t := tT σ t) (c := gA σ 48 x) (r := (gA σ 50 x).toNat) (by omega) hn hAc
    have op := own_pos M (tT σ t) (gA σ 48 x) (gA σ 50 x).toNat
    show t_dealsOf_F (t_S_dealsOf n) x t σ Q
    unfold t_dealsOf_F
    refine ts_isVar h hx ?_
    by_cases hv0 : gA σ 48 x < 0
    · rw [bi_t hv0, if_neg (by decide)]
      rw [h.vk hx hv0] at row
      simp only [show (0 : Int).toNat = 0 from rfl, rowI, List.map_nil, List.foldl_nil] at row
      rw [row] at hQ
      unfold own at hQ
      rw [if_pos hv0] at hQ
      exact hQ
    · rw [bi_f hv0, if_pos rfl]
      have hop := h.mo.2.2.2.1 _ (show 0 ≤ gA σ 48 x by omega) ox.2
      have hcb := (h.wm.op (show 0 ≤ gA σ 48 x by omega) ox.2).2.2.2.1
      rw [hop.1, hop.2.1]
      refine ⟨bx, by omega, fun _ => by omega, by omega, ?_⟩
      -- the kids
      have rest : ∀ v : Int, v = ((own M (tT σ t) (gA σ 48 x) (gA σ 50 x).toNat : Nat) : Int) → t_dealsOf_j126 (t_S_dealsOf n) x t v σ Q := by
        intro v hv
        unfold t_dealsOf_j126
        refine lt_dealsOf_L129 (fo_t_S_dealsOf n) (fun v k s => s = σ ∧ 0 ≤ k ∧ k ≤ gA σ 50 x ∧ 1 ≤ v ∧ v ≤ 9000003000000 ∧ dlN M (tT σ t) (tT σ x) ≥ 1 ∧ ((3000001 ≤ v ∧ 3000001 ≤ dlN M (tT σ t) (tT σ x)) ∨ (v ≤ 9474296896 ∧ dlN M (tT σ t) (tT σ x) = ((rowI (gA σ 56) (gA σ 49 x + k) (gA σ 50 x - k).toNat).map (tT σ)).foldl (fun b u => b * dlN M (tT σ t) u) v.toNat))) (fun _ k _ => (gA σ 50 x - k).toNat) ⟨rfl, by omega, ax.1, by omega, by omega, dlN_pos _ _ _, Or.inr ⟨by omega, by simp only [Int.add_zero, Int.sub_zero]; rw [hv]; exact row⟩⟩ ?_
        rintro v k q fr ⟨rfl, k0, k1, hv0', hv1, hd1, hor⟩
        try dsimp only
        refine ⟨bx, ?_⟩
        by_cases hk : k < gA q 50 x ∧ v ≤ 3000000
        · rw [if_pos ⟨hk.1, (cmple _ _).mpr hk.2⟩]
          have hc : dlN M (tT q t) (tT q x) = ((rowI (gA q 56) (gA q 49 x + k) (gA q 50 x - k).toNat).map (tT q)).foldl (fun b u => b * dlN M (tT q t) u) v.toNat := by
            rcases hor with z | z
            · omega
            · exact z.2
          refine ts_arg h hx k0 hk.1 ?_
          have lk := (ax.2.2.2 k k0 hk.1).1
          have hmem : tT q (gA q 56 (gA q 49 x + k)) ∈ (rowI (gA q 56) (gA q 49 x) (gA q 50 x).toNat).map (tT q) := List.mem_map_of_mem (rowI_mem.mpr ⟨k, k0, by omega, rfl⟩)
          have hsz : trS (tT q (gA q 56 (gA q 49 x + k))) < trS (tT q x) := by
            conv => rhs; rw [tT_row h hx]
            exact trS_kid hmem
          refine ih _ _ _ (by omega) (by omega) (by omega) lk (sub1_kid hAx hmem) ?_
          have dp := dlN_pos M (tT q t) (tT q (gA q 56 (gA q 49 x + k)))
          have hmul : v * ((min 3000001 (dlN M (tT q t) (tT q (gA q 56 (gA q 49 x + k)))) : Nat) : Int) = ((v.toNat * min 3000001 (dlN M (tT q t) (tT q (gA q 56 (gA q 49 x + k)))) : Nat) : Int) := by
            rw [Int.natCast_mul, show ((v.toNat : Nat) : Int) = v by omega]
          have hle : v.toNat * min 3000001 (dlN M (tT q t) (tT q (gA q 56 (gA q 49 x + k)))) ≤ 3000000 * 3000001 := Nat.mul_le_mul (by omega) (Nat.min_le_left _ _)
          have hge : 1 ≤ v.toNat * min 3000001 (dlN M (tT q t) (tT q (gA q 56 (gA q 49 x + k)))) := Nat.mul_pos (by omega) (by omega)
          rw [hmul, w64_id (by omega) (by omega), w32_id (by omega) (by omega)]
          refine ⟨⟨rfl, by omega, by omega, by omega, by omega, hd1, ?_⟩, by omega⟩
          rw [show (gA q 50 x - k).toNat = (gA q 50 x - (k + 1)).toNat + 1 by omega] at hc
          simp only [rowI, List.map_cons, List.foldl_cons] at hc
          by_cases hbig : 3000001 ≤ v.toNat * dlN M (tT q t) (tT q (gA q 56 (gA q 49 x + k)))
          · left
            refine ⟨?_, ?_⟩
            · rcases Nat.le_total 3000001 (dlN M (tT q t) (tT q (gA q 56 (gA q 49 x + k)))) with z | z
              · rw [Nat.min_eq_left z]
                have : 3000001 ≤ v.toNat * 3000001 := Nat.le_mul_of_pos_left _ (by omega)
                omega
              · rw [Nat.min_eq_right z]; omega
            · rw [hc]; exact Nat.le_trans hbig (foldmul M (tT q t) _ _)
          · right
            have hsm : dlN M (tT q t) (tT q (gA q 56 (gA q 49 x + k))) ≤ 3000001 := by
              have : dlN M (tT q t) (tT q (gA q 56 (gA q 49 x + k))) ≤ v.toNat * dlN M (tT q t) (tT q (gA q 56 (gA q 49 x + k))) := Nat.le_mul_of_pos_left _ (by omega)
              omega
            rw [Nat.min_eq_right hsm, Int.toNat_natCast]
            refine ⟨by omega, ?_⟩
            rw [hc, show gA q 49 x + (k + 1) = gA q 49 x + k + 1 by omega]
        · rw [if_neg (fun z => hk ⟨z.1, (cmple _ _).mp z.2⟩)]
          unfold t_dealsOf_j172
          simp only [cmple]
          have : ((min 3000001 (dlN M (tT q t) (tT q x)) : Nat) : Int) = if v ≤ 3000000 then v else 3000001 := by
            by_cases z : v ≤ 3000000
            · rw [if_pos z]
              rcases hor with y | y
              · omega
              · have hk2 : ¬ k < gA q 50 x := fun w => hk ⟨w, z⟩
                have y2 := y.2
                rw [show (gA q 50 x - k).toNat = 0 by omega] at y2
                simp only [rowI, List.map_nil, List.foldl_nil] at y2
                omega
            · rw [if_neg z]
              rcases hor with y | y
              · omega
              · have := foldmul M (tT q t) ((rowI (gA q 56) (gA q 49 x + k) (gA q 50 x - k).toNat).map (tT q)) v.toNat
                rw [← y.2] at this
                omega
          rw [this] at hQ
          exact hQ
      -- the ways
      have ways : ∀ (v : Int) (w : Nat), w ≤ 6 → (mAs M (gA σ 48 x) = 0 → w = 0) → v = (if mCo M (gA σ 48 x) = 0 then 1 else (if mAs M (gA σ 48 x) = 0 then 2 else 1)) → (mAs M (gA σ 48 x) ≠ 0 → w = max 1 (lng (gA σ 48 x) (tT σ t))) → t_dealsOf_j63 (t_S_dealsOf n) x t (gA σ 48 x) v w σ Q := by
        intro v w hw6 hw0 hv hw
        unfold t_dealsOf_j63
        refine lt_dealsOf_L68 (fo_t_S_dealsOf n) (fun v i s => s = σ ∧ 1 ≤ i ∧ i ≤ (w : Int) + 1 ∧ (mAs M (gA σ 48 x) = 0 → v = ((own M (tT σ t) (gA σ 48 x) (gA σ 50 x).toNat : Nat) : Int)) ∧ (mAs M (gA σ 48 x) ≠ 0 → v = ((wys (decide (mCo M (gA σ 48 x) ≠ 0)) (gA σ 50 x).toNat (i - 1).toNat : Nat) : Int))) (fun _ i _ => ((w : Int) + 1 - i).toNat) ⟨rfl, by omega, by omega, fun z => ?_, fun z => ?_⟩ ?_
        · rw [hv]
          unfold own
          by_cases y : mCo M (gA σ 48 x) = 0
          · simp [hv0, z, y]
          · simp [hv0, z, y]
        · rw [hv]
          by_cases y : mCo M (gA σ 48 x) = 0
          · rw [if_pos y]; rfl
          · rw [if_neg y, if_neg z]; rfl
        rintro v i q fr ⟨rfl, i0, i1, hva, hvb⟩
        try dsimp only
        by_cases hi : i ≤ (w : Int)
        · rw [if_pos hi]
          have has : mAs M (gA q 48 x) ≠ 0 := fun z => by have := hw0 z; omega
          rw [hop.2.1]
          refine ⟨by omega, fun _ => bx, fun _ => by omega, fun _ => bx, ?_⟩
          rw [w32_id (v := i + 1) (by omega) (by omega)]
          refine ⟨⟨rfl, by omega, by omega, fun z => absurd z has, fun _ => ?_⟩, by omega⟩
          have := wys_step (decide (mCo M (gA q 48 x) ≠ 0)) (r := (gA q 50 x).toNat) (i := (i - 1).toNat) (v := v) (by omega) (by omega) (hvb has)
          rw [show (((i - 1).toNat : Nat) : Int) + 1 = i by omega, show (i - 1).toNat + 1 = (i + 1 - 1).toNat by omega, show (((gA q 50 x).toNat : Nat) : Int) = gA q 50 x by omega] at this
          rw [← this]
          rcases hcb with e | e <;> rw [e] <;> rfl
        · rw [if_neg hi]
          refine rest v ?_
          by_cases has : mAs M (gA q 48 x) = 0
          · exact hva has
          · rw [hvb has, show (i - 1).toNat = w by omega, hw has]
            unfold own
            rw [if_neg hv0, if_pos has]
      by_cases has : mAs M (gA σ 48 x) = 0
      · rw [if_pos has]
        have := ways _ 0 (by omega) (fun _ => rfl) rfl (fun z => absurd has z)
        exact this
      · rw [if_neg has]
        refine ts_longest h (by omega) ht hts ?_
        have hl := lng_of_narrow (hAc (by omega) has) _ hn
        exact ways _ (max 1 (lng (gA σ 48 x) (tT σ t))) (by omega) (fun z => absurd z has) rfl (fun _ => rfl)
theorem ts_dealsOf {M : Mo} {σ : S} (h : TP M σ) {x t : Int} {Q : Int → S → Prop} (hx : lvT σ x) (ht : lvT σ t) (hxs : trS (tT σ x) ≤ 40) (hts : trS (tT σ t) ≤ 40) (hn : tWide (asO M (tT σ x)) (tT σ t) = false) (hQ : Q ((min 3000001 (dlN M (tT σ t) (tT σ x)) : Nat) : Int) σ) : t_dealsOf x t σ Q :=
  ts_dealsOfS h ht hts hn 44 x Q _ (by omega) (by omega) hxs hx (sub1_self _ _) hQ

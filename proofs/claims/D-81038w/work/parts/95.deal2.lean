theorem TP.vk {M : Mo} {σ : S} (h : TP M σ) {x : Int} (hx : lvT σ x) (hv : gA σ 48 x < 0) : gA σ 50 x = 0 := by
  have nx := (h.nd hx).2.2.1
  rw [tT_row h hx] at nx
  have a := (h.at hx).1
  rcases (NF_N.mp nx).1 with q | q
  · have := congrArg List.length q.2.2.2
    rw [List.length_map, rowI_len] at this
    simp at this
    omega
  · omega
theorem XP.vk {M : Mo} {σ : S} (h : XP M σ) {x : Int} (hx : lvX σ x) (hv : gA σ 66 x < 0) : gA σ 68 x = 0 := by
  have nx := (h.nd hx).2.2.1
  rw [tX_row h hx] at nx
  have a := (h.at hx).1
  rcases (NF_N.mp nx).1 with q | q
  · have := congrArg List.length q.2.2.2
    rw [List.length_map, rowI_len] at this
    simp at this
    omega
  · omega
theorem NF.small {M : Mo} (hM : WM M) : ∀ t, NF M t → tAny (fun c => decide (64 ≤ c)) t = false := by
  have key : ∀ (n : Nat) (t : Tr), trS t < n → NF M t → tAny (fun c => decide (64 ≤ c)) t = false := by
    intro n
    induction n with
    | zero => intro t h; omega
    | succ n ih =>
      intro t ht h
      obtain ⟨c, ts, rfl, hok, hk⟩ := h.ex
      rw [tAny_N]
      simp only [Bool.or_eq_false_iff, decide_eq_false_iff_not, List.any_eq_false]
      refine ⟨?_, fun u hu => ?_⟩
      · have := hM.2.2.1
        rcases hok with q | q <;> omega
      · simpa using ih u (by have := trS_kid (c := c) hu; omega) (hk u hu)
  exact fun t h => key _ t (Nat.lt_succ_self _) h
theorem ts_assocInS {M : Mo} {σ : S} (h : TP M σ) : ∀ (n : Nat) (x : Int) (Q : Int → S → Prop) (E : S → Prop), trD (tT σ x) ≤ n → lvT σ x → Q (asB M (tT σ x)) σ → t_S_assocIn n 0 [x] σ Q E := by
  intro n
  induction n with
  | zero =>
    intro x Q E hn hx
    exfalso
    rw [tT_row h hx] at hn
    simp only [trN, trD] at hn
    omega
  | succ n ih =>
    intro x Q E hn hx hQ
    have rg := h.rg
    have ax := h.at hx
    have ox := h.opr hx
    have om := h.wm.2.2.1
    have bx : 0 ≤ x ∧ x < 200000 := by have := hx.1; have := hx.2; omega
    have kT : ∀ t ∈ (rowI (gA σ 56) (gA σ 49 x) (gA σ 50 x).toNat).map (tT σ), isT t := by
      intro t ht
      obtain ⟨y, hy, rfl⟩ := List.mem_map.mp ht
      obtain ⟨k, k0, k1, rfl⟩ := rowI_mem.mp hy
      exact h.T (ax.2.2.2 k k0 (by omega)).1
    have row := asB_N M (gA σ 48 x) kT
    rw [← tT_row h hx] at row
    have dk : ∀ k, 0 ≤ k → k < gA σ 50 x → trD (tT σ (gA σ 56 (gA σ 49 x + k))) ≤ n := by
      intro k k0 k1
      rw [tT_row h hx, trD_N] at hn
      exact hn _ (List.mem_map_of_mem (rowI_mem.mpr ⟨k, k0, by omega, rfl⟩))
    show t_assocIn_F (t_S_assocIn n) x σ Q
    unfold t_assocIn_F
    refine ts_isVar h hx ?_
    by_cases hv0 : gA σ 48 x < 0
    · rw [bi_t hv0, if_neg (by decide)]
      rw [h.vk hx hv0] at row
      simp only [show (0 : Int).toNat = 0 from rfl, rowI, List.map_nil, List.foldl_nil] at row
      rw [row] at hQ
      unfold asI at hQ
      rw [if_pos hv0] at hQ
      exact hQ
    · rw [bi_f hv0, if_pos rfl]
      have hop := h.mo.2.2.2.1 _ (show 0 ≤ gA σ 48 x by omega) ox.2
      rw [hop.1]
      refine ⟨bx, by omega, fun _ => bx, ?_⟩
      have e0 : (if mAs M (gA σ 48 x) = 0 then 0 else lShl 1 (gA σ 48 x)) = asI M (gA σ 48 x) := by unfold asI; rw [if_neg hv0]
      rw [e0]
      refine lt_assocIn_L40 (fo_t_S_assocIn n) (fun v k s => s = σ ∧ 0 ≤ k ∧ k ≤ gA σ 50 x ∧ asB M (tT σ x) = ((rowI (gA σ 56) (gA σ 49 x + k) (gA σ 50 x - k).toNat).map (tT σ)).foldl (fun b t => lOr b (asB M t)) v) (fun _ k _ => (gA σ 50 x - k).toNat) ⟨rfl, by omega, ax.1, by simp only [Int.add_zero, Int.sub_zero]; exact row⟩ ?_
      rintro v k q fr ⟨rfl, k0, k1, hc⟩
      try dsimp only
      refine ⟨bx, ?_⟩
      by_cases hk : k < gA q 50 x
      · rw [if_pos hk]
        refine ts_arg h hx k0 hk ?_
        have lk := (ax.2.2.2 k k0 hk).1
        refine ih _ _ _ (dk k k0 hk) lk ?_
        rw [w32_id (by have := h.at hx; omega) (by have := h.at hx; omega)]
        refine ⟨⟨rfl, by omega, by omega, ?_⟩, by omega⟩
        rw [hc, show (gA q 50 x - k).toNat = (gA q 50 x - (k + 1)).toNat + 1 by omega]
        simp only [rowI, List.map_cons, List.foldl_cons]
        rw [show gA q 49 x + (k + 1) = gA q 49 x + k + 1 by omega]
      · rw [if_neg hk]
        rw [show (gA q 50 x - k).toNat = 0 by omega] at hc
        simp only [rowI, List.map_nil, List.foldl_nil] at hc
        rw [hc] at hQ
        exact hQ
theorem ts_assocIn {M : Mo} {σ : S} (h : TP M σ) {x : Int} {Q : Int → S → Prop} (hx : lvT σ x) (hd : trS (tT σ x) ≤ 40) (hQ : Q (asB M (tT σ x)) σ) : t_assocIn x σ Q :=
  ts_assocInS h 44 x Q _ (by have := trD_S (h.T hx); omega) hx hQ
/-- which operators a set of bits names -/
theorem set_asO {M : Mo} (hM : WM M) {p : Tr} (hp : NF M p) {c : Int} (h0 : 0 ≤ c) (h1 : c < mOps M) : cmpI (lAnd (lShr (asB M p) c) 1) 1 = 0 ↔ asO M p c = true := by
  have hb := hM.2.2.1
  rw [cmp0, andL1]
  have e := btL_shr (asB M p) (c := c.toNat) (by omega)
  rw [show ((c.toNat : Nat) : Int) = c by omega] at e
  rw [e, asB_bit hp.1 (hp.small hM) (by omega)]
  rw [show ((c.toNat : Nat) : Int) = c by omega]
  unfold asO
  have key : ∀ t, isT t → tAny (fun d => decide (d = c ∧ mAs M d ≠ 0)) t = (decide (0 ≤ c ∧ mAs M c ≠ 0) && tAny (fun d => decide (d = c)) t) := by
    refine tr_ind ?_
    intro d ts hd hk ih
    rw [tAny_N, tAny_N, Bool.and_or_distrib_left]
    have e1 : decide (d = c ∧ mAs M d ≠ 0) = (decide (0 ≤ c ∧ mAs M c ≠ 0) && decide (d = c)) := by
      by_cases z : d = c
      · subst z; simp [h0]
      · simp [z]
    rw [e1]
    congr 1
    clear e1 hk
    induction ts with
    | nil => simp
    | cons t r ih2 =>
      simp only [List.any_cons, Bool.and_or_distrib_left]
      rw [ih t (List.mem_cons_self ..), ih2 (fun u hu => ih u (List.mem_cons_of_mem _ hu))]
  rw [key p hp.1]
theorem ts_isWideS {M : Mo} {σ : S} (h : TP M σ) {p : Tr} (hp : NF M p) : ∀ (n : Nat) (x : Int) (Q : Int → S → Prop) (E : S → Prop), trD (tT σ x) ≤ n → lvT σ x → Q (bi (tWide (asO M p) (tT σ x) = true)) σ → t_S_isWide n 0 [x, asB M p] σ Q E := by
  intro n
  induction n with
  | zero =>
    intro x Q E hn hx
    exfalso
    rw [tT_row h hx] at hn
    simp only [trN, trD] at hn
    omega
  | succ n ih =>
    intro x Q E hn hx hQ
    have rg := h.rg
    have ax := h.at hx
    have ox := h.opr hx
    have om := h.wm.2.2.1
    have bx : 0 ≤ x ∧ x < 200000 := by have := hx.1; have := hx.2; omega
    have row := tWide_N (asO M p) (gA σ 48 x) ((rowI (gA σ 56) (gA σ 49 x) (gA σ 50 x).toNat).map (tT σ))
    rw [← tT_row h hx, List.length_map, rowI_len] at row
    have dk : ∀ k, 0 ≤ k → k < gA σ 50 x → trD (tT σ (gA σ 56 (gA σ 49 x + k))) ≤ n := by
      intro k k0 k1
      rw [tT_row h hx, trD_N] at hn
      exact hn _ (List.mem_map_of_mem (rowI_mem.mpr ⟨k, k0, by omega, rfl⟩))
    show t_isWide_F (t_S_isWide n) x (asB M p) σ Q
    unfold t_isWide_F
    refine ts_isVar h hx ?_
    by_cases hv0 : gA σ 48 x < 0
    · rw [bi_t hv0, if_neg (by decide)]
      rw [h.vk hx hv0] at row
      simp only [show (0 : Int).toNat = 0 from rfl, rowI, List.map_nil, List.any_nil] at row
      rw [row, bi_f (by simp)] at hQ
      exact hQ
    · rw [bi_f hv0, if_pos rfl]
      refine ⟨bx, fun _ => bx, ?_⟩
      have hset := set_asO h.wm hp (c := gA σ 48 x) (by omega) ox.2
      by_cases hc : ¬ gA σ 50 x ≤ 6 ∧ cmpI (lAnd (lShr (asB M p) (gA σ 48 x)) 1) 1 = 0
      · rw [if_pos hc]
        rw [row, hset.mp hc.2, decide_eq_true (by omega), bi_t (by simp)] at hQ
        exact hQ
      · rw [if_neg hc]
        have hno : (asO M p (gA σ 48 x) && decide (6 < (gA σ 50 x).toNat)) = false := by
          by_cases z : 6 < (gA σ 50 x).toNat
          · have : asO M p (gA σ 48 x) = false := by
              cases hz : asO M p (gA σ 48 x) with
              | false => rfl
              | true => exact absurd ⟨by omega, hset.mpr hz⟩ hc
            rw [this]; rfl
          · rw [decide_eq_false z]; simp
        rw [hno, Bool.false_or] at row
        refine lt_isWide_L41 (fo_t_S_isWide n) (fun k s => s = σ ∧ 0 ≤ k ∧ k ≤ gA σ 50 x ∧ tWide (asO M p) (tT σ x) = ((rowI (gA σ 56) (gA σ 49 x + k) (gA σ 50 x - k).toNat).map (tT σ)).any (tWide (asO M p))) (fun k _ => (gA σ 50 x - k).toNat) ⟨rfl, by omega, ax.1, by simp only [Int.add_zero, Int.sub_zero]; exact row⟩ ?_
        rintro k q fr ⟨rfl, k0, k1, hc2⟩
        try dsimp only
        refine ⟨bx, ?_⟩
        by_cases hk : k < gA q 50 x
        · rw [if_pos hk]
          refine ts_arg h hx k0 hk ?_
          have lk := (ax.2.2.2 k k0 hk).1
          rw [show (gA q 50 x - k).toNat = (gA q 50 x - (k + 1)).toNat + 1 by omega] at hc2
          simp only [rowI, List.map_cons, List.any_cons] at hc2
          refine ih _ _ _ (dk k k0 hk) lk ?_
          cases hz : tWide (asO M p) (tT q (gA q 56 (gA q 49 x + k))) with
          | false =>
            rw [bi_f (by simp), if_pos rfl, w32_id (by have := h.at hx; omega) (by have := h.at hx; omega)]
            refine ⟨⟨rfl, by omega, by omega, ?_⟩, by omega⟩
            rw [hc2, hz, show gA q 49 x + (k + 1) = gA q 49 x + k + 1 by omega]
            simp
          | true =>
            rw [bi_t rfl, if_neg (by decide)]
            rw [hc2, hz, Bool.true_or, bi_t rfl] at hQ
            exact hQ
        · rw [if_neg hk]
          rw [show (gA q 50 x - k).toNat = 0 by omega] at hc2
          simp only [rowI, List.map_nil, List.any_nil] at hc2
          rw [hc2, bi_f (by simp)] at hQ
          exact hQ
theorem ts_isWide {M : Mo} {σ : S} (h : TP M σ) {p : Tr} (hp : NF M p) {x : Int} {Q : Int → S → Prop} (hx : lvT σ x) (hd : trS (tT σ x) ≤ 40) (hQ : Q (bi (tWide (asO M p) (tT σ x) = true)) σ) : t_isWide x (asB M p) σ Q :=
  ts_isWideS h hp 44 x Q _ (by have := trD_S (h.T hx); omega) hx hQ
theorem asB_0 {M : Mo} (hM : WM M) {p : Tr} (hp : NF M p) (h : asB M p = 0) {t : Tr} (ht : NF M t) : tWide (asO M p) t = false := by
  have none : ∀ c, 0 ≤ c → c < mOps M → asO M p c = false := by
    intro c h0 h1
    cases hz : asO M p c with
    | false => rfl
    | true =>
      exfalso
      have := (set_asO hM hp h0 h1).mpr hz
      rw [cmp0, andL1, h] at this
      have hb := hM.2.2.1
      have e := btL_shr 0 (c := c.toNat) (by omega)
      rw [show ((c.toNat : Nat) : Int) = c by omega] at e
      rw [e, btL_0] at this
      cases this
  have key : ∀ (n : Nat) (t : Tr), trS t < n → NF M t → tWide (asO M p) t = false := by
    intro n
    induction n with
    | zero => intro t h; omega
    | succ n ih =>
      intro t hs h
      obtain ⟨c, ts, rfl, hok, hk⟩ := h.ex
      rw [tWide_N]
      have e1 : (asO M p c && decide (6 < ts.length)) = false := by
        rcases hok with q | q
        · rw [q.2.2.2]; simp
        · rw [none c q.1 q.2.1]; rfl
      rw [e1, Bool.false_or, List.any_eq_false]
      intro u hu
      simpa using ih u (by have := trS_kid (c := c) hu; omega) (hk u hu)
  exact key _ t (Nat.lt_succ_self _) ht

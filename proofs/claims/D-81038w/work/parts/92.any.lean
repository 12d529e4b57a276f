/-! whether some node is so -/
def tAny (P : Int → Bool) : Tr → Bool
  | .nest c l => P c || tAny P l
  | .append a l => tAny P a || tAny P l
  | _ => false
theorem tAny_L (P : Int → Bool) (ts : List Tr) : tAny P (trL ts) = ts.any (tAny P) := by
  induction ts with
  | nil => rfl
  | cons t r ih => simp only [trL, tAny, ih, List.any_cons]
theorem tAny_N (P : Int → Bool) (c : Int) (ts : List Tr) : tAny P (trN c ts) = (P c || ts.any (tAny P)) := by
  simp only [trN, tAny, tAny_L]
theorem bi_dec (p : Prop) [Decidable p] : decide (bi p = 1) = decide p := by
  by_cases h : p
  · rw [bi_t h]; simp [h]
  · rw [bi_f h]; simp [h]
theorem isB_bi2 {v : Int} (h : isB v) : v = bi (v = 1) := by
  rcases h with e | e <;> subst e <;> decide
theorem XP.opr {M : Mo} {σ : S} (h : XP M σ) {x : Int} (hx : lvX σ x) : -60 ≤ gA σ 66 x ∧ gA σ 66 x < mOps M := by
  have nx := (h.nd hx).2.2.1
  rw [tX_row h hx] at nx
  have := h.wm.2.2.1
  rcases (NF_N.mp nx).1 with q | q <;> omega
theorem TP.opr {M : Mo} {σ : S} (h : TP M σ) {x : Int} (hx : lvT σ x) : -60 ≤ gA σ 48 x ∧ gA σ 48 x < mOps M := by
  have nx := (h.nd hx).2.2.1
  rw [tT_row h hx] at nx
  have := h.wm.2.2.1
  rcases (NF_N.mp nx).1 with q | q <;> omega
theorem ts_isVar {M : Mo} {σ : S} (h : TP M σ) {x : Int} (hx : lvT σ x) {Q : Int → S → Prop} (hQ : Q (bi (gA σ 48 x < 0)) σ) : t_isVar x σ Q := by
  have := h.rg
  unfold t_isVar
  exact ⟨⟨hx.1, by have := hx.2; omega⟩, hQ⟩
theorem ts_varOf {M : Mo} {σ : S} (h : TP M σ) {x : Int} (hx : lvT σ x) {Q : Int → S → Prop} (hQ : Q (-1 - gA σ 48 x) σ) : t_varOf x σ Q := by
  have := h.rg
  have b := h.opr hx
  have := h.wm.2.2.1
  unfold t_varOf
  rw [w32_id (by omega) (by omega)]
  exact ⟨⟨hx.1, by have := hx.2; omega⟩, hQ⟩
theorem moX_co {M : Mo} {σ : S} (h : XP M σ) (o : Int) : gA σ 53 o = mCo M o := by rw [← h.mo]; rfl
theorem moX_as {M : Mo} {σ : S} (h : XP M σ) (o : Int) : gA σ 52 o = mAs M o := by rw [← h.mo]; rfl
theorem moX_un {M : Mo} {σ : S} (h : XP M σ) (o : Int) : gA σ 54 o = mUn M o := by rw [← h.mo]; rfl

theorem xs_hasAssocS {M : Mo} {σ : S} (h : XP M σ) {o : Int} : ∀ (n : Nat) (x : Int) (Q : Int → S → Prop) (E : S → Prop), trS (tX σ x) ≤ n → lvX σ x → Q (bi (tAny (fun c => decide (c = o)) (tX σ x) = true)) σ → x_S_hasAssoc n 0 [x, o] σ Q E := by
  intro n
  induction n with
  | zero => intro x Q E hn hx; have := trS_pos (h.T hx); omega
  | succ n ih =>
    intro x Q E hn hx hQ
    have rg := h.rg
    have ax := h.at hx
    have ox := h.opr hx
    have om := h.wm.2.2.1
    have bx : 0 ≤ x ∧ x < 200000 := by have := hx.1; have := hx.2; omega
    have e0 : decide (bi (gA σ 66 x = o) = 1) = (fun c => decide (c = o)) (gA σ 66 x) := by
      rw [bi_dec]
      try simp
    dsimp only at e0
    have row := tAny_N (fun c => decide (c = o)) (gA σ 66 x) ((rowI (gA σ 73) (gA σ 67 x) (gA σ 68 x).toNat).map (tX σ))
    try dsimp only at row
    rw [← tX_row h hx, ← e0] at row
    show x_hasAssoc_F (x_S_hasAssoc n) x o σ Q
    unfold x_hasAssoc_F
    refine ⟨bx, ?_⟩
    refine lx_hasAssoc_L19 (fo_x_S_hasAssoc n) (fun v k s => s = σ ∧ 0 ≤ k ∧ k ≤ gA σ 68 x ∧ isB v ∧ tAny (fun c => decide (c = o)) (tX σ x) = (decide (v = 1) || ((rowI (gA σ 73) (gA σ 67 x + k) (gA σ 68 x - k).toNat).map (tX σ)).any (tAny (fun c => decide (c = o))))) (fun _ k _ => (gA σ 68 x - k).toNat) ⟨rfl, by omega, ax.1, isB_bi _, by simpa using row⟩ ?_
    rintro v k q fr ⟨rfl, k0, k1, hv, hc⟩
    try dsimp only
    refine ⟨bx, ?_⟩
    by_cases hk : k < gA q 68 x ∧ v = 0
    · rw [if_pos hk]
      refine xs_at h hx k0 hk.1 ?_
      have lk := (ax.2.2.2.2 k k0 hk.1).1
      refine ih _ _ _ ?_ lk ?_
      · have : trS (tX q (gA q 73 (gA q 67 x + k))) < trS (tX q x) := by
          conv => rhs; rw [tX_row h hx]
          exact trS_kid (List.mem_map_of_mem (rowI_mem.mpr ⟨k, k0, by omega, rfl⟩))
        omega
      · rw [w32_id (by omega) (by omega)]
        refine ⟨⟨rfl, by omega, by omega, isB_bi _, ?_⟩, by omega⟩
        rw [hc, hk.2, bi_dec, show (gA q 68 x - k).toNat = (gA q 68 x - (k + 1)).toNat + 1 by omega]
        simp only [rowI, List.map_cons, List.any_cons]
        rw [show gA q 67 x + (k + 1) = gA q 67 x + k + 1 by omega]
        simp
    · rw [if_neg hk]
      have : tAny (fun c => decide (c = o)) (tX q x) = decide (v = 1) := by
        rw [hc]
        rcases hv with e | e
        · have : ¬ k < gA q 68 x := fun z => hk ⟨z, e⟩
          rw [show (gA q 68 x - k).toNat = 0 by omega]
          simp [rowI]
        · rw [e]; simp
      rw [this] at hQ
      simp only [decide_eq_true_eq] at hQ
      rw [isB_bi2 hv]
      exact hQ
theorem xs_hasAssoc {M : Mo} {σ : S} (h : XP M σ) {o : Int} {x : Int} {Q : Int → S → Prop} (hx : lvX σ x) (hQ : Q (bi (tAny (fun c => decide (c = o)) (tX σ x) = true)) σ) : x_hasAssoc x o σ Q :=
  xs_hasAssocS h 44 x Q _ (by have := (h.nd hx).2.2.2; omega) hx hQ
theorem xs_occursS {M : Mo} {σ : S} (h : XP M σ) {w : Int} : ∀ (n : Nat) (x : Int) (Q : Int → S → Prop) (E : S → Prop), trS (tX σ x) ≤ n → lvX σ x → Q (bi (tAny (fun c => decide (c = w)) (tX σ x) = true)) σ → x_S_occurs n 0 [w, x] σ Q E := by
  intro n
  induction n with
  | zero => intro x Q E hn hx; have := trS_pos (h.T hx); omega
  | succ n ih =>
    intro x Q E hn hx hQ
    have rg := h.rg
    have ax := h.at hx
    have ox := h.opr hx
    have om := h.wm.2.2.1
    have bx : 0 ≤ x ∧ x < 200000 := by have := hx.1; have := hx.2; omega
    have e0 : decide (bi (gA σ 66 x = w) = 1) = (fun c => decide (c = w)) (gA σ 66 x) := by
      rw [bi_dec]
      try simp
    dsimp only at e0
    have row := tAny_N (fun c => decide (c = w)) (gA σ 66 x) ((rowI (gA σ 73) (gA σ 67 x) (gA σ 68 x).toNat).map (tX σ))
    try dsimp only at row
    rw [← tX_row h hx, ← e0] at row
    show x_occurs_F (x_S_occurs n) w x σ Q
    unfold x_occurs_F
    refine ⟨bx, ?_⟩
    refine lx_occurs_L19 (fo_x_S_occurs n) (fun v k s => s = σ ∧ 0 ≤ k ∧ k ≤ gA σ 68 x ∧ isB v ∧ tAny (fun c => decide (c = w)) (tX σ x) = (decide (v = 1) || ((rowI (gA σ 73) (gA σ 67 x + k) (gA σ 68 x - k).toNat).map (tX σ)).any (tAny (fun c => decide (c = w))))) (fun _ k _ => (gA σ 68 x - k).toNat) ⟨rfl, by omega, ax.1, isB_bi _, by simpa using row⟩ ?_
    rintro v k q fr ⟨rfl, k0, k1, hv, hc⟩
    try dsimp only
    refine ⟨bx, ?_⟩
    by_cases hk : k < gA q 68 x ∧ v = 0
    · rw [if_pos hk]
      refine xs_at h hx k0 hk.1 ?_
      have lk := (ax.2.2.2.2 k k0 hk.1).1
      refine ih _ _ _ ?_ lk ?_
      · have : trS (tX q (gA q 73 (gA q 67 x + k))) < trS (tX q x) := by
          conv => rhs; rw [tX_row h hx]
          exact trS_kid (List.mem_map_of_mem (rowI_mem.mpr ⟨k, k0, by omega, rfl⟩))
        omega
      · rw [w32_id (by omega) (by omega)]
        refine ⟨⟨rfl, by omega, by omega, isB_bi _, ?_⟩, by omega⟩
        rw [hc, hk.2, bi_dec, show (gA q 68 x - k).toNat = (gA q 68 x - (k + 1)).toNat + 1 by omega]
        simp only [rowI, List.map_cons, List.any_cons]
        rw [show gA q 67 x + (k + 1) = gA q 67 x + k + 1 by omega]
        simp
    · rw [if_neg hk]
      have : tAny (fun c => decide (c = w)) (tX q x) = decide (v = 1) := by
        rw [hc]
        rcases hv with e | e
        · have : ¬ k < gA q 68 x := fun z => hk ⟨z, e⟩
          rw [show (gA q 68 x - k).toNat = 0 by omega]
          simp [rowI]
        · rw [e]; simp
      rw [this] at hQ
      simp only [decide_eq_true_eq] at hQ
      rw [isB_bi2 hv]
      exact hQ
theorem xs_occurs {M : Mo} {σ : S} (h : XP M σ) {w : Int} {x : Int} {Q : Int → S → Prop} (hx : lvX σ x) (hQ : Q (bi (tAny (fun c => decide (c = w)) (tX σ x) = true)) σ) : x_occurs w x σ Q :=
  xs_occursS h 44 x Q _ (by have := (h.nd hx).2.2.2; omega) hx hQ
theorem xs_hasAxiomS {M : Mo} {σ : S} (h : XP M σ) : ∀ (n : Nat) (x : Int) (Q : Int → S → Prop) (E : S → Prop), trS (tX σ x) ≤ n → lvX σ x → Q (bi (tAny (fun c => decide (0 ≤ c ∧ (mAs M c ≠ 0 ∨ mUn M c ≠ -2))) (tX σ x) = true)) σ → x_S_hasAxiom n 0 [x] σ Q E := by
  intro n
  induction n with
  | zero => intro x Q E hn hx; have := trS_pos (h.T hx); omega
  | succ n ih =>
    intro x Q E hn hx hQ
    have rg := h.rg
    have ax := h.at hx
    have ox := h.opr hx
    have om := h.wm.2.2.1
    have bx : 0 ≤ x ∧ x < 200000 := by have := hx.1; have := hx.2; omega
    have e0 : decide (bi (¬ (gA σ 66 x < 0) ∧ (¬ (gA σ 52 (gA σ 66 x) = 0) ∨ (¬ (gA σ 54 (gA σ 66 x) = (-2))))) = 1) = (fun c => decide (0 ≤ c ∧ (mAs M c ≠ 0 ∨ mUn M c ≠ -2))) (gA σ 66 x) := by
      rw [bi_dec]
      rw [moX_as h, moX_un h]
      by_cases z : gA σ 66 x < 0
      · have z2 : ¬ 0 ≤ gA σ 66 x := by omega
        simp only [z, z2, not_true_eq_false, false_and, decide_false]
      · have z2 : 0 ≤ gA σ 66 x := by omega
        simp only [z, z2, not_false_eq_true, true_and, ne_eq]
    dsimp only at e0
    have row := tAny_N (fun c => decide (0 ≤ c ∧ (mAs M c ≠ 0 ∨ mUn M c ≠ -2))) (gA σ 66 x) ((rowI (gA σ 73) (gA σ 67 x) (gA σ 68 x).toNat).map (tX σ))
    try dsimp only at row
    rw [← tX_row h hx, ← e0] at row
    show x_hasAxiom_F (x_S_hasAxiom n) x σ Q
    unfold x_hasAxiom_F
    refine ⟨bx, fun _ => bx, fun _ => by omega, fun _ _ => bx, fun _ _ => by omega, ?_⟩
    refine lx_hasAxiom_L47 (fo_x_S_hasAxiom n) (fun v k s => s = σ ∧ 0 ≤ k ∧ k ≤ gA σ 68 x ∧ isB v ∧ tAny (fun c => decide (0 ≤ c ∧ (mAs M c ≠ 0 ∨ mUn M c ≠ -2))) (tX σ x) = (decide (v = 1) || ((rowI (gA σ 73) (gA σ 67 x + k) (gA σ 68 x - k).toNat).map (tX σ)).any (tAny (fun c => decide (0 ≤ c ∧ (mAs M c ≠ 0 ∨ mUn M c ≠ -2)))))) (fun _ k _ => (gA σ 68 x - k).toNat) ⟨rfl, by omega, ax.1, isB_bi _, by simpa using row⟩ ?_
    rintro v k q fr ⟨rfl, k0, k1, hv, hc⟩
    try dsimp only
    refine ⟨bx, ?_⟩
    by_cases hk : k < gA q 68 x ∧ v = 0
    · rw [if_pos hk]
      refine xs_at h hx k0 hk.1 ?_
      have lk := (ax.2.2.2.2 k k0 hk.1).1
      refine ih _ _ _ ?_ lk ?_
      · have : trS (tX q (gA q 73 (gA q 67 x + k))) < trS (tX q x) := by
          conv => rhs; rw [tX_row h hx]
          exact trS_kid (List.mem_map_of_mem (rowI_mem.mpr ⟨k, k0, by omega, rfl⟩))
        omega
      · rw [w32_id (by omega) (by omega)]
        refine ⟨⟨rfl, by omega, by omega, isB_bi _, ?_⟩, by omega⟩
        rw [hc, hk.2, bi_dec, show (gA q 68 x - k).toNat = (gA q 68 x - (k + 1)).toNat + 1 by omega]
        simp only [rowI, List.map_cons, List.any_cons]
        rw [show gA q 67 x + (k + 1) = gA q 67 x + k + 1 by omega]
        simp
    · rw [if_neg hk]
      have : tAny (fun c => decide (0 ≤ c ∧ (mAs M c ≠ 0 ∨ mUn M c ≠ -2))) (tX q x) = decide (v = 1) := by
        rw [hc]
        rcases hv with e | e
        · have : ¬ k < gA q 68 x := fun z => hk ⟨z, e⟩
          rw [show (gA q 68 x - k).toNat = 0 by omega]
          simp [rowI]
        · rw [e]; simp
      rw [this] at hQ
      simp only [decide_eq_true_eq] at hQ
      rw [isB_bi2 hv]
      exact hQ
theorem xs_hasAxiom {M : Mo} {σ : S} (h : XP M σ) {x : Int} {Q : Int → S → Prop} (hx : lvX σ x) (hQ : Q (bi (tAny (fun c => decide (0 ≤ c ∧ (mAs M c ≠ 0 ∨ mUn M c ≠ -2))) (tX σ x) = true)) σ) : x_hasAxiom x σ Q :=
  xs_hasAxiomS h 44 x Q _ (by have := (h.nd hx).2.2.2; omega) hx hQ
theorem xs_hasCommS {M : Mo} {σ : S} (h : XP M σ) : ∀ (n : Nat) (x : Int) (Q : Int → S → Prop) (E : S → Prop), trS (tX σ x) ≤ n → lvX σ x → Q (bi (tAny (fun c => decide (0 ≤ c ∧ mCo M c ≠ 0)) (tX σ x) = true)) σ → x_S_hasComm n 0 [x] σ Q E := by
  intro n
  induction n with
  | zero => intro x Q E hn hx; have := trS_pos (h.T hx); omega
  | succ n ih =>
    intro x Q E hn hx hQ
    have rg := h.rg
    have ax := h.at hx
    have ox := h.opr hx
    have om := h.wm.2.2.1
    have bx : 0 ≤ x ∧ x < 200000 := by have := hx.1; have := hx.2; omega
    have e0 : decide (bi (¬ (gA σ 66 x < 0) ∧ (¬ (gA σ 53 (gA σ 66 x) = 0))) = 1) = (fun c => decide (0 ≤ c ∧ mCo M c ≠ 0)) (gA σ 66 x) := by
      rw [bi_dec]
      rw [moX_co h]
      by_cases z : gA σ 66 x < 0
      · have z2 : ¬ 0 ≤ gA σ 66 x := by omega
        simp only [z, z2, not_true_eq_false, false_and, decide_false]
      · have z2 : 0 ≤ gA σ 66 x := by omega
        simp only [z, z2, not_false_eq_true, true_and, ne_eq]
    dsimp only at e0
    have row := tAny_N (fun c => decide (0 ≤ c ∧ mCo M c ≠ 0)) (gA σ 66 x) ((rowI (gA σ 73) (gA σ 67 x) (gA σ 68 x).toNat).map (tX σ))
    try dsimp only at row
    rw [← tX_row h hx, ← e0] at row
    show x_hasComm_F (x_S_hasComm n) x σ Q
    unfold x_hasComm_F
    refine ⟨bx, fun _ => bx, fun _ => by omega, ?_⟩
    refine lx_hasComm_L31 (fo_x_S_hasComm n) (fun v k s => s = σ ∧ 0 ≤ k ∧ k ≤ gA σ 68 x ∧ isB v ∧ tAny (fun c => decide (0 ≤ c ∧ mCo M c ≠ 0)) (tX σ x) = (decide (v = 1) || ((rowI (gA σ 73) (gA σ 67 x + k) (gA σ 68 x - k).toNat).map (tX σ)).any (tAny (fun c => decide (0 ≤ c ∧ mCo M c ≠ 0))))) (fun _ k _ => (gA σ 68 x - k).toNat) ⟨rfl, by omega, ax.1, isB_bi _, by simpa using row⟩ ?_
    rintro v k q fr ⟨rfl, k0, k1, hv, hc⟩
    try dsimp only
    refine ⟨bx, ?_⟩
    by_cases hk : k < gA q 68 x ∧ v = 0
    · rw [if_pos hk]
      refine xs_at h hx k0 hk.1 ?_
      have lk := (ax.2.2.2.2 k k0 hk.1).1
      refine ih _ _ _ ?_ lk ?_
      · have : trS (tX q (gA q 73 (gA q 67 x + k))) < trS (tX q x) := by
          conv => rhs; rw [tX_row h hx]
          exact trS_kid (List.mem_map_of_mem (rowI_mem.mpr ⟨k, k0, by omega, rfl⟩))
        omega
      · rw [w32_id (by omega) (by omega)]
        refine ⟨⟨rfl, by omega, by omega, isB_bi _, ?_⟩, by omega⟩
        rw [hc, hk.2, bi_dec, show (gA q 68 x - k).toNat = (gA q 68 x - (k + 1)).toNat + 1 by omega]
        simp only [rowI, List.map_cons, List.any_cons]
        rw [show gA q 67 x + (k + 1) = gA q 67 x + k + 1 by omega]
        simp
    · rw [if_neg hk]
      have : tAny (fun c => decide (0 ≤ c ∧ mCo M c ≠ 0)) (tX q x) = decide (v = 1) := by
        rw [hc]
        rcases hv with e | e
        · have : ¬ k < gA q 68 x := fun z => hk ⟨z, e⟩
          rw [show (gA q 68 x - k).toNat = 0 by omega]
          simp [rowI]
        · rw [e]; simp
      rw [this] at hQ
      simp only [decide_eq_true_eq] at hQ
      rw [isB_bi2 hv]
      exact hQ
theorem xs_hasComm {M : Mo} {σ : S} (h : XP M σ) {x : Int} {Q : Int → S → Prop} (hx : lvX σ x) (hQ : Q (bi (tAny (fun c => decide (0 ≤ c ∧ mCo M c ≠ 0)) (tX σ x) = true)) σ) : x_hasComm x σ Q :=
  xs_hasCommS h 44 x Q _ (by have := (h.nd hx).2.2.2; omega) hx hQ

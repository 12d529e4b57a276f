/-! RewriteHouseModel: its module's tables, its pool -/
def trD : Tr → Nat
  | .nest _ l => 1 + trD l
  | .append a l => max (trD a) (trD l)
  | _ => 0
theorem trD_L (ts : List Tr) (n : Nat) : trD (trL ts) ≤ n ↔ ∀ t ∈ ts, trD t ≤ n := by
  induction ts with
  | nil => simp [trL, trD]
  | cons t r ih => simp only [trL, trD, Nat.max_le, ih, List.forall_mem_cons]
theorem trD_N (c : Int) (ts : List Tr) (n : Nat) : trD (trN c ts) ≤ n + 1 ↔ ∀ t ∈ ts, trD t ≤ n := by
  rw [← trD_L]
  simp only [trN, trD]
  omega
theorem trD_S {t : Tr} (h : isT t) : trD t ≤ trS t := by
  have key : ∀ (n : Nat) (t : Tr), trS t ≤ n → isT t → trD t ≤ trS t := by
    intro n
    induction n with
    | zero => intro t h1 h2; have := trS_pos h2; omega
    | succ n ih =>
      intro t h1 h2
      obtain ⟨c, ts, rfl, -, hk⟩ := isT_ex h2
      rw [trS_N, Nat.add_comm, trD_N]
      intro u hu
      have a := trS_kid (c := c) hu
      have b := trS_mem hu
      have := ih u (by omega) (hk u hu)
      omega
  exact key _ t (Nat.le_refl _) h
/-- the tables agree with M where they count -/
def TMo (M : Mo) (τ : S) : Prop :=
  (gI τ 18 = mSorts M ∧ gI τ 37 = mRows M ∧ gI τ 62 = mOps M ∧ gI τ 23 = mVars M ∧ gI τ 53 = mKinds M) ∧
  (∀ s, 0 ≤ s → s < mSorts M → gA τ 31 s = mAb M s ∧ gA τ 32 s = mKd M s) ∧
  (∀ r, 0 ≤ r → r < mRows M → gA τ 40 r = mRo M r ∧ gA τ 39 r = mRr M r ∧ ∀ k, 0 ≤ k → k < mHo M (mRo M r) → gA τ 38 (5 * r + k) = mRs M r k) ∧
  (∀ o, 0 ≤ o → o < mOps M → gA τ 44 o = mAs M o ∧ gA τ 45 o = mCo M o ∧ gA τ 46 o = mUn M o ∧ gA τ 42 o = mOk M o ∧ gA τ 43 o = mSt M o ∧ 0 ≤ gA τ 41 o ∧ gA τ 41 o < mRows M ∧ gA τ 37 (gA τ 41 o) = mHo M o) ∧
  ∀ v, 0 ≤ v → v < mVars M → gA τ 34 v = mVs M v
def tT (τ : S) (x : Int) : Tr := den (gA τ 48) (gA τ 49) (gA τ 50) (gA τ 56) x
abbrev lvT (τ : S) (x : Int) : Prop := 0 ≤ x ∧ x < gI τ 80
def hsT (h : Int) : List Int → Int
  | [] => h
  | a :: r => hsT (bXor (w32 (w32 (h * 31) + a)) (bUsh (w32 (w32 (h * 31) + a)) 13)) r
def sltT (op : Int) (l : List Int) : Int := bAnd (bXor (hsT (w32 (w32 (op * 31) + (l.length : Int))) l) (bUsh (hsT (w32 (w32 (op * 31) + (l.length : Int))) l) 16)) 65535
def kyT (τ : S) (x : Int) : Int := sltT (gA τ 48 x) (rowI (gA τ 56) (gA τ 49 x) (gA τ 50 x).toNat)
/-- no term is greater or deeper -/
abbrev bigT (t : Tr) : Prop := trS t ≤ 2000000000 ∧ trD t ≤ 88
/-- what came in a call bears that call's number -/
def CN (τ : S) : Prop := 0 ≤ gI τ 121 ∧ ∀ x, lvT τ x → gA τ 55 x ≤ gI τ 121
def TP (M : Mo) (τ : S) : Prop :=
  (TMo M τ ∧ WM M) ∧ (0 ≤ gI τ 80 ∧ gI τ 80 ≤ 200000 ∧ 0 ≤ gI τ 81 ∧ gI τ 81 ≤ 800000) ∧
  Pv (gA τ 48) (gA τ 49) (gA τ 50) (gA τ 56) 0 (gI τ 80) (gI τ 81) ∧
  Pu (gA τ 48) (gA τ 49) (gA τ 50) (gA τ 56) 0 (gI τ 80) ∧
  (∀ x, lvT τ x → gA τ 51 x = trS (tT τ x) ∧ gA τ 52 x = srt M (tT τ x) ∧ NF M (tT τ x) ∧ bigT (tT τ x)) ∧
  Ch 65536 (gA τ 57) (gA τ 53) (kyT τ) 0 (gI τ 80) ∧
  (∀ x, lvT τ x → gA τ 49 x = (rowI (gA τ 50) 0 x.toNat).sum) ∧ gI τ 81 = (rowI (gA τ 50) 0 (gI τ 80).toNat).sum ∧ CN τ
abbrev TPj : List Nat := [18, 37, 62, 23, 53]
abbrev TPi0 : List Nat := TPj ++ [80, 81]
abbrev TPi : List Nat := TPi0 ++ [121]
abbrev TPm : List Nat := [31, 32, 40, 39, 38, 44, 45, 46, 42, 43, 41, 37, 34]
abbrev TPa0 : List Nat := [48, 49, 50, 51, 52, 53, 57]
abbrev TPa : List Nat := TPa0 ++ [55]
theorem TMo.same {M : Mo} {σ s : S} (h : TMo M σ) (hi : ∀ i ∈ TPj, gI s i = gI σ i) (ha : ∀ a ∈ TPm, gA s a = gA σ a) : TMo M s := by
  simp only [TPj, TPm, List.forall_mem_cons] at hi ha
  unfold TMo at h ⊢
  simp only [hi, ha]
  exact h
theorem TP.mo {M : Mo} {σ : S} (h : TP M σ) : TMo M σ := h.1.1
theorem TP.wm {M : Mo} {σ : S} (h : TP M σ) : WM M := h.1.2
theorem TP.rg {M : Mo} {σ : S} (h : TP M σ) : 0 ≤ gI σ 80 ∧ gI σ 80 ≤ 200000 ∧ 0 ≤ gI σ 81 ∧ gI σ 81 ≤ 800000 := h.2.1
theorem TP.pv {M : Mo} {σ : S} (h : TP M σ) : Pv (gA σ 48) (gA σ 49) (gA σ 50) (gA σ 56) 0 (gI σ 80) (gI σ 81) := h.2.2.1
theorem TP.pu {M : Mo} {σ : S} (h : TP M σ) : Pu (gA σ 48) (gA σ 49) (gA σ 50) (gA σ 56) 0 (gI σ 80) := h.2.2.2.1
theorem TP.nd {M : Mo} {σ : S} (h : TP M σ) {x : Int} (hx : lvT σ x) : gA σ 51 x = trS (tT σ x) ∧ gA σ 52 x = srt M (tT σ x) ∧ NF M (tT σ x) ∧ bigT (tT σ x) := h.2.2.2.2.1 x hx
theorem TP.ch {M : Mo} {σ : S} (h : TP M σ) : Ch 65536 (gA σ 57) (gA σ 53) (kyT σ) 0 (gI σ 80) := h.2.2.2.2.2.1
theorem TP.st {M : Mo} {σ : S} (h : TP M σ) {x : Int} (hx : lvT σ x) : gA σ 49 x = (rowI (gA σ 50) 0 x.toNat).sum := h.2.2.2.2.2.2.1 x hx
theorem TP.pl {M : Mo} {σ : S} (h : TP M σ) : gI σ 81 = (rowI (gA σ 50) 0 (gI σ 80).toNat).sum := h.2.2.2.2.2.2.2.1
theorem TP.cn {M : Mo} {σ : S} (h : TP M σ) : CN σ := h.2.2.2.2.2.2.2.2
theorem TP.T {M : Mo} {σ : S} (h : TP M σ) {x : Int} (hx : lvT σ x) : isT (tT σ x) := (h.nd hx).2.2.1.1
theorem TP.at {M : Mo} {σ : S} (h : TP M σ) {x : Int} (hx : lvT σ x) : 0 ≤ gA σ 50 x ∧ 0 ≤ gA σ 49 x ∧ gA σ 49 x + gA σ 50 x ≤ gI σ 81 ∧ ∀ k, 0 ≤ k → k < gA σ 50 x → lvT σ (gA σ 56 (gA σ 49 x + k)) ∧ gA σ 56 (gA σ 49 x + k) < x := by
  obtain ⟨-, a1, a2, a3, a4⟩ := h.pv.2 x hx.1 hx.2
  exact ⟨a1, a2, a3, fun k k0 k1 => by have := a4 k k0 k1; exact ⟨⟨this.1, by have := hx.2; omega⟩, this.2⟩⟩
theorem tT_row {M : Mo} {σ : S} (h : TP M σ) {x : Int} (hx : lvT σ x) : tT σ x = trN (gA σ 48 x) ((rowI (gA σ 56) (gA σ 49 x) (gA σ 50 x).toNat).map (tT σ)) := den_row h.pv hx.1 hx.2
theorem TP.inj {M : Mo} {σ : S} (h : TP M σ) {x y : Int} (hx : lvT σ x) (hy : lvT σ y) (e : tT σ x = tT σ y) : x = y := den_one h.pv h.pu hx.1 hx.2 hy.1 hy.2 e
/-- what lies behind all rows does not count -/
theorem TP.same0 {M : Mo} {σ s : S} (h : TP M σ) (hcn : CN s) (hi : ∀ i ∈ TPi0, gI s i = gI σ i) (ha : ∀ a ∈ TPm ++ TPa0, gA s a = gA σ a) (hb : ∀ j, j < gI σ 81 → gA s 56 j = gA σ 56 j) : TP M s ∧ ∀ x, lvT σ x → lvT s x ∧ tT s x = tT σ x := by
  have hm : TMo M s := h.mo.same (fun i h => hi i (List.mem_append_left _ h)) (fun a h => ha a (List.mem_append_left _ h))
  have ha2 : ∀ a ∈ TPa0, gA s a = gA σ a := fun a h => ha a (List.mem_append_right _ h)
  simp only [TPi0, TPj, TPa0, List.cons_append, List.nil_append, List.forall_mem_cons] at hi ha2
  have rg := h.rg
  have e : ∀ x, lvT σ x → tT s x = tT σ x := by
    intro x hx
    unfold tT
    simp only [ha2]
    exact den_old h.pv (fun _ _ _ => rfl) (fun _ _ _ => rfl) (fun _ _ _ => rfl) (fun k _ k1 => hb k k1) hx.1 hx.2
  have lv : ∀ x, lvT s x ↔ lvT σ x := fun x => by unfold lvT; simp only [hi]
  have e2 : ∀ x, lvT σ x → kyT s x = kyT σ x := by
    intro x hx
    unfold kyT
    simp only [ha2]
    congr 1
    apply rowI_congr
    intro k k0 k1
    have := h.at hx
    exact hb _ (by omega)
  refine ⟨⟨⟨hm, h.wm⟩, by simp only [hi]; exact rg, ?_, ?_, fun x hx => ?_, ?_, fun x hx => ?_, ?_, hcn⟩, fun x hx => ⟨(lv x).mpr hx, e x hx⟩⟩
  · simp only [hi, ha2]
    refine ⟨by omega, fun x x0 x1 => ?_⟩
    obtain ⟨b0, b1, b2, b3, b4⟩ := h.pv.2 x x0 x1
    refine ⟨b0, b1, b2, b3, fun k k0 k1 => ?_⟩
    rw [hb _ (by omega)]
    exact b4 k k0 k1
  · simp only [hi, ha2]
    intro x y x0 x1 y0 y1 e1 e2 e3
    refine h.pu x y x0 x1 y0 y1 e1 e2 (fun k k0 k1 => ?_)
    have h1 := h.at (x := x) ⟨x0, x1⟩
    have h2 := h.at (x := y) ⟨y0, y1⟩
    have := e3 k k0 k1
    rw [hb _ (by omega), hb _ (by omega)] at this
    exact this
  · have hx' := (lv x).mp hx
    simp only [ha2]
    rw [e x hx']
    exact h.nd hx'
  · simp only [hi, ha2]
    exact h.ch.congr (fun _ => rfl) (fun _ _ _ => rfl) (fun x x0 x1 => e2 x ⟨x0, x1⟩)
  · simp only [ha2]
    exact h.st ((lv x).mp hx)
  · simp only [hi, ha2]
    exact h.pl
theorem TP.same {M : Mo} {σ s : S} (h : TP M σ) (hi : ∀ i ∈ TPi, gI s i = gI σ i) (ha : ∀ a ∈ TPm ++ TPa, gA s a = gA σ a) (hb : ∀ j, j < gI σ 81 → gA s 56 j = gA σ 56 j) : TP M s ∧ ∀ x, lvT σ x → lvT s x ∧ tT s x = tT σ x := by
  have hi0 : ∀ i ∈ TPi0, gI s i = gI σ i := fun i h => hi i (List.mem_append_left _ h)
  refine h.same0 ⟨?_, fun x lx => ?_⟩ hi0 (fun a h => ha a ?_) hb
  · rw [hi 121 (List.mem_append_right _ (List.mem_singleton.mpr rfl))]; exact h.cn.1
  · rw [hi 121 (List.mem_append_right _ (List.mem_singleton.mpr rfl)), ha 55 (List.mem_append_right _ (List.mem_append_right _ (List.mem_singleton.mpr rfl)))]
    have en : gI s 80 = gI σ 80 := hi0 _ (List.mem_append_right _ (List.mem_cons_self ..))
    exact h.cn.2 x ⟨lx.1, by rw [← en]; exact lx.2⟩
  · rcases List.mem_append.mp h with e | e
    · exact List.mem_append_left _ e
    · exact List.mem_append_right _ (List.mem_append_left _ e)
theorem TP.fr0 {M : Mo} {σ s : S} {w : List Nat × List Nat × List Nat} (h : TP M σ) (hcn : CN s) (f : Fr w σ s) (hw : apt w TPi0 (56 :: (TPm ++ TPa0)) = true) : TP M s ∧ ∀ x, lvT σ x → lvT s x ∧ tT s x = tT σ x :=
  h.same0 hcn (apt_i hw f) (fun a ha => apt_a hw f a (List.mem_cons_of_mem _ ha)) (fun j _ => by rw [apt_a hw f 56 (List.mem_cons_self ..)])
theorem TP.fr {M : Mo} {σ s : S} {w : List Nat × List Nat × List Nat} (h : TP M σ) (f : Fr w σ s) (hw : apt w TPi (56 :: (TPm ++ TPa)) = true) : TP M s ∧ ∀ x, lvT σ x → lvT s x ∧ tT s x = tT σ x :=
  h.same (apt_i hw f) (fun a ha => apt_a hw f a (List.mem_cons_of_mem _ ha)) (fun j _ => by rw [apt_a hw f 56 (List.mem_cons_self ..)])
theorem ts_arg {M : Mo} {σ : S} (h : TP M σ) {x k : Int} {Q : Int → S → Prop} (hx : lvT σ x) (h0 : 0 ≤ k) (h1 : k < gA σ 50 x) (hQ : Q (gA σ 56 (gA σ 49 x + k)) σ) : t_arg x k σ Q := by
  obtain ⟨a1, a3, a4, a5⟩ := h.at hx
  have := h.rg
  have e : w32 (gA σ 49 x + k) = gA σ 49 x + k := w32_id (by omega) (by omega)
  unfold t_arg
  rw [e]
  exact ⟨⟨by omega, by omega⟩, ⟨by omega, by omega⟩, hQ⟩
/-! least sorts -/
theorem ts_isBelow {M : Mo} {σ : S} {s t : Int} {Q : Int → S → Prop} (hm : TMo M σ) (hM : WM M) (h0 : 0 ≤ s) (h1 : s < mSorts M) (hQ : Q (bi (blw M s t)) σ) : t_isBelow s t σ Q := by
  unfold t_isBelow
  rw [(hm.2.1 s h0 h1).1]
  exact ⟨⟨h0, by have := hM.1; omega⟩, hQ⟩
theorem ts_lowest {M : Mo} {σ : S} {set : Int} {Q : Int → S → Prop} (hm : TMo M σ) (hM : WM M) (hQ : Q (loS M set (mSorts M).toNat) σ) : t_lowest set σ Q := by
  have b1 := hM.1
  unfold t_lowest
  refine lt_lowest_L2 (fun s q => q = σ ∧ 0 ≤ s ∧ s ≤ mSorts M ∧ ∀ j, 0 ≤ j → j < s → ¬ isLo M set j) (fun s _ => (mSorts M - s).toNat) ⟨rfl, by omega, b1.1, fun j h0 h1 => by omega⟩ ?_
  rintro s q fr ⟨rfl, s0, s1, hno⟩
  try dsimp only
  rw [hm.1.1]
  by_cases hs : s < mSorts M
  · rw [if_pos hs, (hm.2.1 s s0 hs).1]
    refine ⟨fun _ => by omega, ?_⟩
    by_cases hc : bAnd (bShr set s) 1 = 1 ∧ bAnd set (bXor (mAb M s) (-1)) = 0
    · rw [if_pos hc]
      have : loS M set (mSorts M).toNat = s := by
        rcases loS_v M set (mSorts M).toNat with h | h
        · exact absurd hc (h.2 s s0 (by omega))
        · exact lo_uniq hM h.1 (by omega) s0 hs h.2.2 hc
      rw [this] at hQ
      exact hQ
    · rw [if_neg hc, w32_id (by omega) (by omega)]
      refine ⟨⟨rfl, by omega, by omega, fun j j0 j1 => ?_⟩, by omega⟩
      by_cases e : j = s
      · rw [e]; exact hc
      · exact hno j j0 (by omega)
  · rw [if_neg hs]
    have : loS M set (mSorts M).toNat = -2 := by
      rcases loS_v M set (mSorts M).toNat with h | h
      · exact h.1
      · exact absurd h.2.2 (hno _ h.1 (by omega))
    rw [this] at hQ
    exact hQ
theorem ts_isRowAbove {M : Mo} {σ : S} {r a b : Int} {Q : Int → S → Prop} (hm : TMo M σ) (hM : WM M) (r0 : 0 ≤ r) (r1 : r < mRows M) (h2 : mHo M (mRo M r) = 2) (a0 : 0 ≤ a) (a1 : a < mSorts M) (b0 : 0 ≤ b) (b1 : b < mSorts M)
    (hQ : Q (bi ((rwA M r 0 [a, b] || decide (mCo M (mRo M r) ≠ 0) && rwA M r 0 [b, a]) = true)) σ) : t_isRowAbove r a b σ Q := by
  have hr := hm.2.2.1 r r0 r1
  have ho := hM.row r0 r1
  have hop := hm.2.2.2.1 _ ho.1 ho.2.1
  have bb := hM.2.1
  have bo := hM.2.2.1
  have e1 : w32 (5 * r) = 5 * r := w32_id (by omega) (by omega)
  have e2 : w32 (5 * r + 1) = 5 * r + 1 := w32_id (by omega) (by omega)
  have k0 := hr.2.2 0 (by omega) (by omega)
  have k1 := hr.2.2 1 (by omega) (by omega)
  rw [Int.add_zero] at k0
  have na : ¬ a = -2 := by omega
  have nb : ¬ b = -2 := by omega
  have A : rwA M r 0 [a, b] = (decide (blw M a (mRs M r 0)) && decide (blw M b (mRs M r 1))) := by
    simp only [rwA, Bool.and_true]
    rw [decide_eq_true (p := a ≠ -2) na, decide_eq_true (p := b ≠ -2) nb]; rfl
  have B : rwA M r 0 [b, a] = (decide (blw M b (mRs M r 0)) && decide (blw M a (mRs M r 1))) := by
    simp only [rwA, Bool.and_true]
    rw [decide_eq_true (p := a ≠ -2) na, decide_eq_true (p := b ≠ -2) nb]; rfl
  unfold t_isRowAbove
  rw [e1, e2, k0, k1]
  refine ⟨by omega, by omega, ?_⟩
  have snd : ¬ (rwA M r 0 [a, b] = true) → t_isRowAbove_j46 r a b (mRs M r 0) (mRs M r 1) σ Q := by
    intro hno
    rw [Bool.eq_false_iff.mpr hno, Bool.false_or] at hQ
    unfold t_isRowAbove_j46 t_isRowAbove_j47
    rw [if_pos rfl, hr.1, hop.2.1]
    refine ⟨by omega, by omega, ?_⟩
    by_cases hc : mCo M (mRo M r) = 0
    · rw [if_pos hc]
      unfold t_isRowAbove_j92
      rw [bi_f (by simp [hc])] at hQ
      exact hQ
    · rw [if_neg hc]
      rw [decide_eq_true (p := mCo M (mRo M r) ≠ 0) hc, Bool.true_and, B] at hQ
      refine ts_isBelow hm hM b0 b1 ?_
      by_cases h3 : blw M b (mRs M r 0)
      · rw [bi_t h3, if_neg (by decide)]
        refine ts_isBelow hm hM a0 a1 ?_
        rw [decide_eq_true (p := blw M b (mRs M r 0)) h3] at hQ
        by_cases h4 : blw M a (mRs M r 1)
        · rw [bi_t h4, if_neg (by decide)]
          rw [decide_eq_true (p := blw M a (mRs M r 1)) h4, bi_t (p := (true && true) = true) rfl] at hQ
          exact hQ
        · rw [bi_f h4, if_pos rfl]
          rw [decide_eq_false (p := blw M a (mRs M r 1)) h4, bi_f (by simp)] at hQ
          exact hQ
      · rw [bi_f h3, if_pos rfl]
        rw [decide_eq_false (p := blw M b (mRs M r 0)) h3, bi_f (by simp)] at hQ
        exact hQ
  refine ts_isBelow hm hM a0 a1 ?_
  by_cases h3 : blw M a (mRs M r 0)
  · rw [bi_t h3, if_neg (by decide)]
    refine ts_isBelow hm hM b0 b1 ?_
    by_cases h4 : blw M b (mRs M r 1)
    · rw [bi_t h4, if_neg (by decide)]
      have hA : rwA M r 0 [a, b] = true := by rw [A, decide_eq_true (p := blw M a (mRs M r 0)) h3, decide_eq_true (p := blw M b (mRs M r 1)) h4]; rfl
      rw [hA, Bool.true_or, bi_t rfl] at hQ
      unfold t_isRowAbove_j47
      rw [if_neg (by decide)]
      exact hQ
    · rw [bi_f h4, if_pos rfl]
      exact snd (by rw [A, decide_eq_false (p := blw M b (mRs M r 1)) h4]; simp)
  · rw [bi_f h3, if_pos rfl]
    exact snd (by rw [A, decide_eq_false (p := blw M a (mRs M r 0)) h3]; simp)
theorem rwA_neg (M : Mo) (r k : Int) (ss : List Int) (h : (-2 : Int) ∈ ss) : rwA M r k ss = false := by
  induction ss generalizing k with
  | nil => cases h
  | cons s t ih =>
    simp only [rwA]
    rcases List.mem_cons.mp h with e | e
    · rw [← e]; simp
    · rw [ih (k + 1) e]; simp
theorem lbS_neg (M : Mo) (o : Int) (ss : List Int) (h : (-2 : Int) ∈ ss) (n : Nat) : lbS M o ss n = 0 := by
  induction n with
  | zero => rfl
  | succ n ih =>
    simp only [lbS]
    have : rwO M o n ss = false := by
      unfold rwO
      rw [rwA_neg M _ _ _ h, rwA_neg M _ _ _ (List.mem_reverse.mpr h)]
      simp
    rw [this, if_neg (by simp), ih]
theorem loS_0 (M : Mo) (n : Nat) : loS M 0 n = -2 := by
  induction n with
  | zero => rfl
  | succ n ih =>
    simp only [loS]
    rw [if_neg, ih]
    intro h
    have e : bAnd (bShr 0 n) 1 = 1 → False := by
      rw [and1]
      unfold btI
      rw [i32_shr]
      intro hb
      have : i32 0 >>> (i32 (n : Int) &&& 31) = 0 := by
        rw [show i32 0 = (0 : Int32) from by decide]
        simp
      rw [this, b_0] at hb
      cases hb
    exact e h.1
theorem ts_sortOfTwo {M : Mo} {σ : S} {o a b : Int} {Q : Int → S → Prop} (hm : TMo M σ) (hM : WM M) (ho : 0 ≤ o) (ho1 : o < mOps M) (h2 : mHo M o = 2) (ha : a = -2 ∨ 0 ≤ a ∧ a < mSorts M) (hb : b = -2 ∨ 0 ≤ b ∧ b < mSorts M)
    (hQ : Q (lstB M o [a, b]) σ) : t_sortOfTwo o a b σ Q := by
  have b2 := hM.2.1
  unfold t_sortOfTwo
  by_cases hn : a < 0 ∨ b < 0
  · rw [if_pos hn]
    have hmem : (-2 : Int) ∈ [a, b] := by
      simp only [List.mem_cons, List.not_mem_nil, or_false]
      omega
    unfold lstB at hQ
    rw [lbS_neg M o _ hmem, loS_0] at hQ
    exact hQ
  · rw [if_neg hn]
    refine lt_sortOfTwo_L17 (fun set r q => q = σ ∧ 0 ≤ r ∧ r ≤ mRows M ∧ set = lbS M o [a, b] r.toNat) (fun _ r _ => (mRows M - r).toNat) ⟨rfl, by omega, b2.1, rfl⟩ ?_
    rintro set r q fr ⟨rfl, r0, r1, hset⟩
    try dsimp only
    rw [hm.1.2.1]
    by_cases hr : r < mRows M
    · rw [if_pos hr]
      have hrow := hm.2.2.1 r r0 hr
      have e2 : w32 (r + 1) = r + 1 := w32_id (by omega) (by omega)
      have en : ((r.toNat : Nat) : Int) = r := by omega
      have es : (r + 1).toNat = r.toNat + 1 := by omega
      refine ⟨by omega, ?_⟩
      rw [hrow.1]
      have hrw : rwO M o r [a, b] = (decide (mRo M r = o) && (rwA M r 0 [a, b] || decide (mCo M o ≠ 0) && rwA M r 0 [b, a])) := rfl
      by_cases hro : mRo M r = o
      · rw [if_pos hro]
        refine ts_isRowAbove hm hM r0 hr (by rw [hro]; exact h2) (by omega) (by omega) (by omega) (by omega) ?_
        rw [hro]
        rw [decide_eq_true hro, Bool.true_and] at hrw
        rw [← hrw]
        by_cases hc : rwO M o r [a, b] = true
        · rw [bi_t hc, if_neg (by decide)]
          refine ⟨by omega, ?_⟩
          unfold t_sortOfTwo_j62
          rw [e2]
          refine ⟨⟨rfl, by omega, by omega, ?_⟩, by omega⟩
          rw [es]
          simp only [lbS]
          rw [en, if_pos hc, hset, hrow.2.1]
        · rw [bi_f hc, if_pos rfl]
          unfold t_sortOfTwo_j62
          rw [e2]
          refine ⟨⟨rfl, by omega, by omega, ?_⟩, by omega⟩
          rw [es]
          simp only [lbS]
          rw [en, if_neg hc, hset]
      · rw [if_neg hro]
        unfold t_sortOfTwo_j62
        rw [e2]
        refine ⟨⟨rfl, by omega, by omega, ?_⟩, by omega⟩
        rw [es]
        simp only [lbS]
        rw [en, if_neg (by rw [hrw, decide_eq_false hro]; simp), hset]
    · rw [if_neg hr]
      unfold t_sortOfTwo_j68
      refine ts_lowest hm hM ?_
      rw [hset, show r = mRows M by omega]
      exact hQ

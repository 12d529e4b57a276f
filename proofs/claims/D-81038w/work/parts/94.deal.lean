/-! bits of machine longs -/
def btL (a : Int) (k : Nat) : Bool := (i64 a).toBitVec.getLsbD k
theorem btL_or (a b : Int) (k : Nat) : btL (lOr a b) k = (btL a k || btL b k) := by
  unfold btL lOr
  rw [i64_t, Int64.toBitVec_or, BitVec.getLsbD_or]
theorem btL_and (a b : Int) (k : Nat) : btL (lAnd a b) k = (btL a k && btL b k) := by
  unfold btL lAnd
  rw [i64_t, Int64.toBitVec_and, BitVec.getLsbD_and]
theorem btL_xor (a b : Int) (k : Nat) : btL (lXor a b) k = (btL a k ^^ btL b k) := by
  unfold btL lXor
  rw [i64_t, Int64.toBitVec_xor, BitVec.getLsbD_xor]
theorem btL_0 (k : Nat) : btL 0 k = false := by
  unfold btL
  have : (i64 0).toBitVec = 0#64 := by decide
  rw [this, BitVec.getLsbD_zero]
theorem btL_shl : ∀ c, c < 64 → ∀ k, k < 64 → btL (lShl 1 ((c : Nat) : Int)) k = decide (k = c) := by decide +kernel
theorem sh64 : ∀ c, c < 64 → (((i32 ((c : Nat) : Int)).toInt64 &&& 63).toBitVec.smod 64).toNat = c := by decide +kernel
theorem btL_shr (a : Int) {c : Nat} (hc : c < 64) : btL (lShr a c) 0 = btL a c := by
  unfold btL lShr
  rw [i64_t, Int64.toBitVec_shiftRight]
  show ((i64 a).toBitVec.sshiftRight (((i32 ((c : Nat) : Int)).toInt64 &&& 63).toBitVec.smod 64).toNat).getLsbD 0 = _
  rw [sh64 c hc, BitVec.getLsbD_sshiftRight]
  simp [hc]
theorem can8_lAnd (a b : Int) : can8 (lAnd a b) := can8_t _
theorem btL_1 : ∀ k, k < 64 → btL 1 k = decide (k = 0) := by decide +kernel
theorem andL1 (a : Int) : lAnd a 1 = 1 ↔ btL a 0 = true := by
  have e : lAnd a 1 = 1 ↔ i64 (lAnd a 1) = i64 1 := by rw [i64_eq (can8_lAnd _ _) (by decide)]
  rw [e]
  constructor
  · intro h
    have h2 : btL (lAnd a 1) 0 = btL 1 0 := by unfold btL; rw [h]
    rw [btL_and, btL_1 0 (by omega)] at h2
    simpa using h2
  · intro h
    apply Int64.toBitVec_inj.mp
    apply BitVec.eq_of_getLsbD_eq
    intro i hi
    show btL (lAnd a 1) i = btL 1 i
    rw [btL_and, btL_1 i hi]
    by_cases h0 : i = 0
    · rw [h0, h]; simp
    · simp [h0]
theorem cmp0 (a b : Int) : cmpI a b = 0 ↔ a = b := by
  unfold cmpI
  split
  · constructor
    · intro h; omega
    · intro h; omega
  · split
    · simp_all
    · constructor
      · intro h; omega
      · intro h; omega
theorem cmple (a b : Int) : cmpI a b ≤ 0 ↔ a ≤ b := by
  unfold cmpI
  split
  · constructor <;> intro h <;> omega
  · split
    · constructor <;> intro h <;> omega
    · constructor <;> intro h <;> omega
/-! rows that are too wide -/
def tWide (P : Int → Bool) : Tr → Bool
  | .nest c l => (P c && decide (6 < (trK l).length)) || tWide P l
  | .append a l => tWide P a || tWide P l
  | _ => false
theorem tWide_L (P : Int → Bool) (ts : List Tr) : tWide P (trL ts) = ts.any (tWide P) := by
  induction ts with
  | nil => rfl
  | cons t r ih => simp only [trL, tWide, ih, List.any_cons]
theorem tWide_N (P : Int → Bool) (c : Int) (ts : List Tr) : tWide P (trN c ts) = ((P c && decide (6 < ts.length)) || ts.any (tWide P)) := by
  simp only [trN, tWide, tWide_L, trK_trL]
/-- the assoc operators of a pattern -/
def asO (M : Mo) (p : Tr) : Int → Bool := fun c => decide (0 ≤ c ∧ mAs M c ≠ 0) && tAny (fun d => decide (d = c)) p
theorem xs_isWideS {M : Mo} {σ : S} (h : XP M σ) {p : Int} (hp : lvX σ p) : ∀ (n : Nat) (x : Int) (Q : Int → S → Prop) (E : S → Prop), trS (tX σ x) ≤ n → lvX σ x → Q (bi (tWide (asO M (tX σ p)) (tX σ x) = true)) σ → x_S_isWide n 0 [p, x] σ Q E := by
  intro n
  induction n with
  | zero => intro x Q E hn hx; have := trS_pos (h.T hx); omega
  | succ n ih =>
    intro x Q E hn hx hQ
    have rg := h.rg
    have ax := h.at hx
    have ox := h.opr hx
    have om := h.wm.2.2.1
    have bx : 0 ≤ x ∧ x < 200000 := by have := hx.1; have := hx.2; omega
    have row := tWide_N (asO M (tX σ p)) (gA σ 66 x) ((rowI (gA σ 73) (gA σ 67 x) (gA σ 68 x).toNat).map (tX σ))
    rw [← tX_row h hx, List.length_map, rowI_len] at row
    show x_isWide_F (x_S_isWide n) p x σ Q
    unfold x_isWide_F
    refine ⟨bx, fun _ => bx, fun _ => by omega, fun _ _ => bx, ?_⟩
    have rest : (asO M (tX σ p) (gA σ 66 x) && decide (6 < (gA σ 68 x).toNat)) = false → x_isWide_j50 (x_S_isWide n) p x σ Q := by
      intro hno
      rw [hno, Bool.false_or] at row
      unfold x_isWide_j50
      refine lx_isWide_L52 (fo_x_S_isWide n) (fun k s => s = σ ∧ 0 ≤ k ∧ k ≤ gA σ 68 x ∧ tWide (asO M (tX σ p)) (tX σ x) = ((rowI (gA σ 73) (gA σ 67 x + k) (gA σ 68 x - k).toNat).map (tX σ)).any (tWide (asO M (tX σ p)))) (fun k _ => (gA σ 68 x - k).toNat) ⟨rfl, by omega, ax.1, by simpa using row⟩ ?_
      rintro k q fr ⟨rfl, k0, k1, hc⟩
      try dsimp only
      refine ⟨bx, ?_⟩
      by_cases hk : k < gA q 68 x
      · rw [if_pos hk]
        refine xs_at h hx k0 hk ?_
        have lk := (ax.2.2.2.2 k k0 hk).1
        rw [show (gA q 68 x - k).toNat = (gA q 68 x - (k + 1)).toNat + 1 by omega] at hc
        simp only [rowI, List.map_cons, List.any_cons] at hc
        refine ih _ _ _ ?_ lk ?_
        · have : trS (tX q (gA q 73 (gA q 67 x + k))) < trS (tX q x) := by
            conv => rhs; rw [tX_row h hx]
            exact trS_kid (List.mem_map_of_mem (rowI_mem.mpr ⟨k, k0, by omega, rfl⟩))
          omega
        · cases hz : tWide (asO M (tX q p)) (tX q (gA q 73 (gA q 67 x + k))) with
          | false =>
            rw [bi_f (by simp), if_pos rfl, w32_id (by omega) (by omega)]
            refine ⟨⟨rfl, by omega, by omega, ?_⟩, by omega⟩
            rw [hc, hz, show gA q 67 x + (k + 1) = gA q 67 x + k + 1 by omega]
            simp
          | true =>
            rw [bi_t rfl, if_neg (by decide)]
            rw [hc, hz, Bool.true_or, bi_t rfl] at hQ
            exact hQ
      · rw [if_neg hk]
        rw [show (gA q 68 x - k).toNat = 0 by omega] at hc
        simp only [rowI, List.map_nil, List.any_nil] at hc
        rw [hc, bi_f (by simp)] at hQ
        exact hQ
    rw [moX_as h]
    by_cases hc : ¬ gA σ 66 x < 0 ∧ ¬ mAs M (gA σ 66 x) = 0 ∧ ¬ gA σ 68 x ≤ 6
    · rw [if_pos hc]
      refine ⟨bx, xs_hasAssoc h hp ?_⟩
      have e1 : decide (0 ≤ gA σ 66 x ∧ mAs M (gA σ 66 x) ≠ 0) = true := decide_eq_true ⟨by omega, hc.2.1⟩
      have e2 : decide (6 < (gA σ 68 x).toNat) = true := decide_eq_true (by omega)
      cases hz : tAny (fun d => decide (d = gA σ 66 x)) (tX σ p) with
      | false =>
        rw [bi_f (by simp), if_pos rfl]
        exact rest (by unfold asO; rw [hz]; simp)
      | true =>
        rw [bi_t rfl, if_neg (by decide)]
        rw [row] at hQ
        unfold asO at hQ
        rw [hz, e1, e2, bi_t (by simp)] at hQ
        exact hQ
    · rw [if_neg hc]
      refine rest ?_
      by_cases z : 6 < (gA σ 68 x).toNat
      · have : ¬ (0 ≤ gA σ 66 x ∧ mAs M (gA σ 66 x) ≠ 0) := fun q => hc ⟨by omega, q.2, by omega⟩
        unfold asO
        rw [decide_eq_false this]; simp
      · rw [decide_eq_false z]; simp
theorem xs_isWide {M : Mo} {σ : S} (h : XP M σ) {p x : Int} {Q : Int → S → Prop} (hp : lvX σ p) (hx : lvX σ x) (hQ : Q (bi (tWide (asO M (tX σ p)) (tX σ x) = true)) σ) : x_isWide p x σ Q :=
  xs_isWideS h hp 44 x Q _ (by have := (h.nd hx).2.2.2; omega) hx hQ
/-! the same, as bits -/
def asI (M : Mo) (c : Int) : Int := if c < 0 then 0 else if mAs M c = 0 then 0 else lShl 1 c
def asA (M : Mo) : Tr → Int → Int
  | .nest c l, a => lOr a (asA M l (asI M c))
  | .append x l, a => asA M l (asA M x a)
  | _, a => a
def asB (M : Mo) : Tr → Int
  | .nest c l => asA M l (asI M c)
  | _ => 0
theorem asA_T (M : Mo) {t : Tr} (h : isT t) (a : Int) : asA M t a = lOr a (asB M t) := by
  obtain ⟨c, ts, rfl, -, -⟩ := isT_ex h
  rfl
theorem asA_L (M : Mo) {ts : List Tr} (h : ∀ t ∈ ts, isT t) (a : Int) : asA M (trL ts) a = ts.foldl (fun b t => lOr b (asB M t)) a := by
  induction ts generalizing a with
  | nil => rfl
  | cons t r ih =>
    simp only [trL, asA, List.foldl_cons]
    rw [asA_T M (h t (List.mem_cons_self ..)), ih (fun u hu => h u (List.mem_cons_of_mem _ hu))]
theorem asB_N (M : Mo) (c : Int) {ts : List Tr} (h : ∀ t ∈ ts, isT t) : asB M (trN c ts) = ts.foldl (fun b t => lOr b (asB M t)) (asI M c) := asA_L M h _
theorem asI_bit (M : Mo) {c : Int} (hc : c < 64) {k : Nat} (hk : k < 64) : btL (asI M c) k = decide (c = k ∧ mAs M c ≠ 0) := by
  unfold asI
  split
  · rw [btL_0, decide_eq_false]; omega
  · split
    · rw [btL_0, decide_eq_false]; rintro ⟨-, h⟩; exact h (by assumption)
    · have := btL_shl c.toNat (by omega) k hk
      rw [show ((c.toNat : Nat) : Int) = c by omega] at this
      rw [this]
      by_cases e : c = k
      · rw [decide_eq_true, decide_eq_true]
        · exact ⟨e, by assumption⟩
        · omega
      · rw [decide_eq_false, decide_eq_false]
        · rintro ⟨q, -⟩; exact e q
        · omega
theorem asB_bit {M : Mo} {t : Tr} (h : isT t) (hl : tAny (fun c => decide (64 ≤ c)) t = false) {k : Nat} (hk : k < 64) : btL (asB M t) k = tAny (fun c => decide (c = k ∧ mAs M c ≠ 0)) t := by
  have key : ∀ t, isT t → tAny (fun c => decide (64 ≤ c)) t = false → btL (asB M t) k = tAny (fun c => decide (c = k ∧ mAs M c ≠ 0)) t := by
    refine tr_ind ?_
    intro c ts hc hk' ih hl
    rw [tAny_N] at hl
    simp only [Bool.or_eq_false_iff, decide_eq_false_iff_not] at hl
    rw [asB_N M c hk', tAny_N]
    have fold : ∀ (ts : List Tr) (a : Int), (∀ t ∈ ts, btL (asB M t) k = tAny (fun c => decide (c = k ∧ mAs M c ≠ 0)) t) → btL (ts.foldl (fun b t => lOr b (asB M t)) a) k = (btL a k || ts.any (tAny (fun c => decide (c = k ∧ mAs M c ≠ 0)))) := by
      intro ts
      induction ts with
      | nil => intro a _; simp
      | cons t r ih2 =>
        intro a ht
        simp only [List.foldl_cons, List.any_cons]
        rw [ih2 _ (fun u hu => ht u (List.mem_cons_of_mem _ hu)), btL_or, ht t (List.mem_cons_self ..), Bool.or_assoc]
    rw [fold ts _ (fun t ht => ih t ht (by
      have := hl.2
      rw [List.any_eq_false] at this
      simpa using this t ht)), asI_bit M (by omega) hk]
  exact key t h hl

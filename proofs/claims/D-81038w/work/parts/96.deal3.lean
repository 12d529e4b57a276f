/-! what a list may cost -/
def lng (o : Int) : Tr → Nat
  | .nest c l => max (if c = o then (trK l).length else 0) (lng o l)
  | .append a l => max (lng o a) (lng o l)
  | _ => 0
theorem lng_L (o : Int) (ts : List Tr) (a : Nat) : max a (lng o (trL ts)) = ts.foldl (fun b t => max b (lng o t)) a := by
  induction ts generalizing a with
  | nil => simp [trL, lng]
  | cons t r ih => simp only [trL, lng, List.foldl_cons]; rw [← ih, Nat.max_assoc]
theorem lng_N (o c : Int) (ts : List Tr) : lng o (trN c ts) = ts.foldl (fun b t => max b (lng o t)) (if c = o then ts.length else 0) := by
  simp only [trN, lng, trK_trL, lng_L]
def wys (co : Bool) (r : Nat) : Nat → Nat
  | 0 => 1
  | i + 1 => if co then wys co r i * (r + 1) else wys co r i * (r + 1 + (i + 1)) / (i + 1)
theorem wys_le (co : Bool) {r : Nat} (hr : r ≤ 39) : ∀ i, i ≤ 6 → wys co r i ≤ 46 ^ i := by
  intro i
  induction i with
  | zero => intro _; simp [wys]
  | succ i ih =>
    intro hi
    have := ih (by omega)
    simp only [wys]
    rw [Nat.pow_succ]
    split
    · exact Nat.mul_le_mul this (by omega)
    · exact Nat.le_trans (Nat.div_le_self _ _) (Nat.mul_le_mul this (by omega))
theorem wys_pos (co : Bool) (r : Nat) : ∀ i, 1 ≤ wys co r i := by
  intro i
  induction i with
  | zero => simp [wys]
  | succ i ih =>
    simp only [wys]
    split
    · exact Nat.mul_pos ih (by omega)
    · rw [Nat.le_div_iff_mul_le (by omega)]
      calc 1 * (i + 1) ≤ 1 * (r + 1 + (i + 1)) := by omega
        _ ≤ _ := Nat.mul_le_mul_right _ ih
def own (M : Mo) (t : Tr) (c : Int) (r : Nat) : Nat :=
  if c < 0 then 1 else if mAs M c ≠ 0 then wys (decide (mCo M c ≠ 0)) r (max 1 (lng c t)) else if mCo M c ≠ 0 then 2 else 1
def dlN (M : Mo) (t : Tr) : Tr → Nat
  | .nest c l => own M t c (trK l).length * dlN M t l
  | .append a l => dlN M t a * dlN M t l
  | _ => 1
theorem dlN_L (M : Mo) (t : Tr) (ts : List Tr) (a : Nat) : a * dlN M t (trL ts) = ts.foldl (fun b u => b * dlN M t u) a := by
  induction ts generalizing a with
  | nil => simp [trL, dlN]
  | cons u r ih => simp only [trL, dlN, List.foldl_cons]; rw [← ih, Nat.mul_assoc]
theorem dlN_N (M : Mo) (t : Tr) (c : Int) (ts : List Tr) : dlN M t (trN c ts) = ts.foldl (fun b u => b * dlN M t u) (own M t c ts.length) := by
  simp only [trN, dlN, trK_trL, dlN_L]
theorem own_pos (M : Mo) (t : Tr) (c : Int) (r : Nat) : 1 ≤ own M t c r := by
  unfold own
  split
  · omega
  · split
    · exact wys_pos _ _ _
    · split <;> omega
theorem dlN_pos (M : Mo) (t p : Tr) : 1 ≤ dlN M t p := by
  induction p with
  | nest c l ih => simp only [dlN]; exact Nat.mul_pos (own_pos M t c _) ih
  | append a l iha ihl => simp only [dlN]; exact Nat.mul_pos iha ihl
  | _ => simp [dlN]
theorem min_mul {D a b : Nat} (ha : 1 ≤ a) (hb : 1 ≤ b) : min D (min D a * min D b) = min D (a * b) := by
  rcases Nat.le_total D a with h1 | h1 <;> rcases Nat.le_total D b with h2 | h2
  · rw [Nat.min_eq_left h1, Nat.min_eq_left h2]
    have : D ≤ a * b := Nat.le_trans h1 (Nat.le_mul_of_pos_right _ hb)
    rcases Nat.eq_zero_or_pos D with e | e
    · simp [e]
    · have : D ≤ D * D := Nat.le_mul_of_pos_right _ e
      omega
  · rw [Nat.min_eq_left h1, Nat.min_eq_right h2]
    have e1 : D ≤ D * b := Nat.le_mul_of_pos_right _ hb
    have e2 : D ≤ a * b := Nat.le_trans h1 (Nat.le_mul_of_pos_right _ hb)
    omega
  · rw [Nat.min_eq_right h1, Nat.min_eq_left h2]
    have e1 : D ≤ a * D := Nat.le_mul_of_pos_left _ ha
    have e2 : D ≤ a * b := Nat.le_trans h2 (Nat.le_mul_of_pos_left _ ha)
    omega
  · rw [Nat.min_eq_right h1, Nat.min_eq_right h2]
/-- rows of the pattern's assoc operators are short in the term -/
theorem lng_of_narrow {P : Int → Bool} {c : Int} (hc : P c = true) : ∀ t, tWide P t = false → lng c t ≤ 6 := by
  intro t
  induction t with
  | nest d l ih =>
    intro h
    simp only [tWide, Bool.or_eq_false_iff] at h
    simp only [lng]
    have := ih h.2
    by_cases e : d = c
    · subst e
      have h1 := h.1
      rw [hc, Bool.true_and, decide_eq_false_iff_not] at h1
      rw [if_pos rfl]; omega
    · rw [if_neg e]; omega
  | append a l iha ihl =>
    intro h
    simp only [tWide, Bool.or_eq_false_iff] at h
    simp only [lng]
    have := iha h.1
    have := ihl h.2
    omega
  | _ => intro _; simp [lng]
theorem foldmax (o : Int) (l : List Tr) (a : Nat) : a ≤ l.foldl (fun b t => max b (lng o t)) a := by
  induction l generalizing a with
  | nil => simp
  | cons t r ih => simp only [List.foldl_cons]; exact Nat.le_trans (Nat.le_max_left _ _) (ih _)
theorem xs_longestS {M : Mo} {σ : S} (h : XP M σ) {o : Int} : ∀ (n : Nat) (x : Int) (Q : Int → S → Prop) (E : S → Prop), trS (tX σ x) ≤ n → lvX σ x → Q ((lng o (tX σ x) : Nat) : Int) σ → x_S_longest n 0 [x, o] σ Q E := by
  intro n
  induction n with
  | zero => intro x Q E hn hx; have := trS_pos (h.T hx); omega
  | succ n ih =>
    intro x Q E hn hx hQ
    have rg := h.rg
    have ax := h.at hx
    have bx : 0 ≤ x ∧ x < 200000 := by have := hx.1; have := hx.2; omega
    have row := lng_N o (gA σ 66 x) ((rowI (gA σ 73) (gA σ 67 x) (gA σ 68 x).toNat).map (tX σ))
    rw [← tX_row h hx, List.length_map, rowI_len] at row
    show x_longest_F (x_S_longest n) x o σ Q
    unfold x_longest_F
    refine ⟨bx, fun _ => bx, ?_⟩
    refine lx_longest_L24 (fo_x_S_longest n) (fun v k s => s = σ ∧ 0 ≤ k ∧ k ≤ gA σ 68 x ∧ 0 ≤ v ∧ lng o (tX σ x) = ((rowI (gA σ 73) (gA σ 67 x + k) (gA σ 68 x - k).toNat).map (tX σ)).foldl (fun b t => max b (lng o t)) v.toNat) (fun _ k _ => (gA σ 68 x - k).toNat) ⟨rfl, by omega, ax.1, by split <;> omega, by
      simp only [Int.add_zero, Int.sub_zero]
      rw [row]
      congr 1
      split <;> simp⟩ ?_
    rintro v k q fr ⟨rfl, k0, k1, hv, hc⟩
    try dsimp only
    refine ⟨bx, ?_⟩
    by_cases hk : k < gA q 68 x
    · rw [if_pos hk]
      refine xs_at h hx k0 hk ?_
      have lk := (ax.2.2.2.2 k k0 hk).1
      refine ih _ _ _ ?_ lk ?_
      · have : trS (tX q (gA q 73 (gA q 67 x + k))) < trS (tX q x) := by
          conv => rhs; rw [tX_row h hx]
          exact trS_kid (List.mem_map_of_mem (rowI_mem.mpr ⟨k, k0, by omega, rfl⟩))
        omega
      · rw [w32_id (by omega) (by omega)]
        refine ⟨⟨rfl, by omega, by omega, by omega, ?_⟩, by omega⟩
        rw [hc, show (gA q 68 x - k).toNat = (gA q 68 x - (k + 1)).toNat + 1 by omega]
        simp only [rowI, List.map_cons, List.foldl_cons]
        rw [show gA q 67 x + (k + 1) = gA q 67 x + k + 1 by omega]
        congr 1
        omega
    · rw [if_neg hk]
      rw [show (gA q 68 x - k).toNat = 0 by omega] at hc
      simp only [rowI, List.map_nil, List.foldl_nil] at hc
      rw [hc, show ((v.toNat : Nat) : Int) = v by omega] at hQ
      exact hQ
theorem xs_longest {M : Mo} {σ : S} (h : XP M σ) {x o : Int} {Q : Int → S → Prop} (hx : lvX σ x) (hQ : Q ((lng o (tX σ x) : Nat) : Int) σ) : x_longest x o σ Q :=
  xs_longestS h 44 x Q _ (by have := (h.nd hx).2.2.2; omega) hx hQ
theorem wys_step (co : Bool) {r i : Nat} {v : Int} (hr : r ≤ 39) (hi : i + 1 ≤ 6) (hv : v = (wys co r i : Nat)) : (if (if co then (1 : Int) else 0) = 0 then w64 (Int.tdiv (w64 (v * (w32 (w32 ((r : Int) + 1) + ((i : Int) + 1))))) ((i : Int) + 1)) else w64 (v * (w32 ((r : Int) + 1)))) = ((wys co r (i + 1) : Nat) : Int) := by
  have b := wys_le co hr i (by omega)
  have b2 : 46 ^ i ≤ 46 ^ 5 := Nat.pow_le_pow_right (by omega) (by omega)
  have b3 : (46 : Nat) ^ 5 = 205962976 := by decide
  have hb : wys co r i ≤ 205962976 := by omega
  simp only [wys]
  rw [hv]
  cases co with
  | true =>
    simp only [if_true]
    rw [if_neg (by decide), w32_id (by omega) (by omega)]
    have e : ((wys true r i : Nat) : Int) * ((r : Int) + 1) = ((wys true r i * (r + 1) : Nat) : Int) := by push_cast; rfl
    have le : wys true r i * (r + 1) ≤ 205962976 * 40 := Nat.mul_le_mul hb (by omega)
    rw [e, w64_id (by omega) (by omega)]
  | false =>
    simp only [Bool.false_eq_true, if_false]
    rw [if_pos trivial, w32_id (v := (r : Int) + 1) (by omega) (by omega), w32_id (by omega) (by omega)]
    have e : ((wys false r i : Nat) : Int) * ((r : Int) + 1 + ((i : Int) + 1)) = ((wys false r i * (r + 1 + (i + 1)) : Nat) : Int) := by push_cast; rfl
    have le : wys false r i * (r + 1 + (i + 1)) ≤ 205962976 * 46 := Nat.mul_le_mul hb (by omega)
    rw [e, w64_id (v := ((wys false r i * (r + 1 + (i + 1)) : Nat) : Int)) (by omega) (by omega)]
    have e2 : Int.tdiv ((wys false r i * (r + 1 + (i + 1)) : Nat) : Int) ((i : Int) + 1) = ((wys false r i * (r + 1 + (i + 1)) / (i + 1) : Nat) : Int) := by
      rw [show ((i : Int) + 1) = ((i + 1 : Nat) : Int) by omega]
      exact Int.ofNat_tdiv _ _ |>.symm
    have le2 : wys false r i * (r + 1 + (i + 1)) / (i + 1) ≤ wys false r i * (r + 1 + (i + 1)) := Nat.div_le_self _ _
    rw [e2]
    generalize wys false r i * (r + 1 + (i + 1)) / (i + 1) = z at le2 ⊢
    exact w64_id (by omega) (by omega)
theorem xs_waysToDeal {σ : S} {w r : Nat} {co : Int} {Q : Int → S → Prop} (hw : w ≤ 6) (hr : r ≤ 39) (hco : isB co) (hQ : Q ((wys (decide (co ≠ 0)) r w : Nat) : Int) σ) : x_waysToDeal w r co σ Q := by
  unfold x_waysToDeal
  refine lx_waysToDeal_L5 (fun v i s => s = σ ∧ 1 ≤ i ∧ i ≤ (w : Int) + 1 ∧ v = ((wys (decide (co ≠ 0)) r (i - 1).toNat : Nat) : Int)) (fun _ i _ => ((w : Int) + 1 - i).toNat) ⟨rfl, by omega, by omega, rfl⟩ ?_
  rintro v i q fr ⟨rfl, i0, i1, hv⟩
  try dsimp only
  by_cases hi : i ≤ (w : Int)
  · rw [if_pos hi]
    refine ⟨fun _ => by omega, ?_⟩
    rw [w32_id (v := i + 1) (by omega) (by omega)]
    refine ⟨⟨rfl, by omega, by omega, ?_⟩, by omega⟩
    have := wys_step (decide (co ≠ 0)) (r := r) (i := (i - 1).toNat) (v := v) hr (by omega) hv
    rw [show (((i - 1).toNat : Nat) : Int) + 1 = i by omega, show (i - 1).toNat + 1 = (i + 1 - 1).toNat by omega] at this
    rw [← this]
    rcases hco with e | e
    · subst e; rfl
    · subst e; rfl
  · rw [if_neg hi]
    rw [show (i - 1).toNat = w by omega] at hv
    rw [hv]
    exact hQ

/-! rules of the state -/
theorem gI_pI (σ : S) (k : Nat) (v : Int) (j : Nat) : gI (pI σ k v) j = if j = k then v else gI σ j := rfl
theorem gI_pL (σ : S) (k : Nat) (v : Int) (j : Nat) : gI (pL σ k v) j = gI σ j := rfl
theorem gI_pA (σ : S) (a : Nat) (i v : Int) (j : Nat) : gI (pA σ a i v) j = gI σ j := rfl
theorem gL_pI (σ : S) (k : Nat) (v : Int) (j : Nat) : gL (pI σ k v) j = gL σ j := rfl
theorem gL_pL (σ : S) (k : Nat) (v : Int) (j : Nat) : gL (pL σ k v) j = if j = k then v else gL σ j := rfl
theorem gL_pA (σ : S) (a : Nat) (i v : Int) (j : Nat) : gL (pA σ a i v) j = gL σ j := rfl
theorem gA_pI (σ : S) (k : Nat) (v : Int) (a : Nat) : gA (pI σ k v) a = gA σ a := rfl
theorem gA_pL (σ : S) (k : Nat) (v : Int) (a : Nat) : gA (pL σ k v) a = gA σ a := rfl
theorem gA_pA (σ : S) (a : Nat) (i v : Int) (b : Nat) (j : Int) : gA (pA σ a i v) b j = if b = a ∧ j = i then v else gA σ b j := rfl
theorem gA_pA_o (σ : S) {a : Nat} (i v : Int) {b : Nat} (h : b ≠ a) : gA (pA σ a i v) b = gA σ b := by
  funext j
  rw [gA_pA, if_neg (fun e => h e.1)]
/-! rows of numbers -/
def rowI (f : Int → Int) : Int → Nat → List Int
  | _, 0 => []
  | a, n + 1 => f a :: rowI f (a + 1) n
theorem rowI_len (f : Int → Int) (a : Int) (n : Nat) : (rowI f a n).length = n := by
  induction n generalizing a with
  | zero => rfl
  | succ n ih => simp [rowI, ih]
theorem rowI_congr {f g : Int → Int} {a b : Int} {n : Nat} (h : ∀ k : Int, 0 ≤ k → k < n → f (a + k) = g (b + k)) : rowI f a n = rowI g b n := by
  induction n generalizing a b with
  | zero => rfl
  | succ n ih =>
    simp only [rowI]
    have h0 := h 0 (by omega) (by omega)
    simp only [Int.add_zero] at h0
    rw [h0, ih (a := a + 1) (b := b + 1)]
    intro k h1 h2
    have := h (k + 1) (by omega) (by omega)
    rw [show a + 1 + k = a + (k + 1) by omega, show b + 1 + k = b + (k + 1) by omega, this]
theorem rowI_range (f : Int → Int) (a : Int) (n : Nat) : rowI f a n = (List.range n).map fun (k : Nat) => f (a + (k : Int)) := by
  induction n generalizing a with
  | zero => rfl
  | succ n ih =>
    rw [List.range_succ_eq_map]
    simp only [rowI, List.map_cons, List.map_map]
    rw [ih]
    congr 1
    · simp
    · apply List.map_congr_left
      intro k _
      simp only [Function.comp_def]
      congr 1
      omega
theorem rowI_app (f : Int → Int) (a : Int) (n m : Nat) : rowI f a (n + m) = rowI f a n ++ rowI f (a + n) m := by
  induction n generalizing a with
  | zero => simp [rowI]
  | succ n ih =>
    rw [show n + 1 + m = (n + m) + 1 by omega]
    simp only [rowI, List.cons_append]
    rw [ih, show a + 1 + (n : Int) = a + ((n + 1 : Nat) : Int) by omega]
theorem rowI_get (f : Int → Int) (a : Int) {n k : Nat} (h : k < n) : (rowI f a n)[k]? = some (f (a + k)) := by
  rw [rowI_range, List.getElem?_map, List.getElem?_range h]; rfl
theorem rowI_mem {f : Int → Int} {a : Int} {n : Nat} {x : Int} : x ∈ rowI f a n ↔ ∃ k : Int, 0 ≤ k ∧ k < n ∧ x = f (a + k) := by
  rw [rowI_range, List.mem_map]
  constructor
  · rintro ⟨k, hk, rfl⟩
    exact ⟨k, by omega, by have := List.mem_range.mp hk; omega, rfl⟩
  · rintro ⟨k, h0, h1, rfl⟩
    exact ⟨k.toNat, List.mem_range.mpr (by omega), by rw [show ((k.toNat : Nat) : Int) = k by omega]⟩
theorem den_row {op st ct ar : Int → Int} {lo hi tp : Int} (h : Pv op st ct ar lo hi tp) {x : Int} (h1 : lo ≤ x) (h2 : x < hi) :
    den op st ct ar x = trN (op x) ((rowI ar (st x) (ct x).toNat).map (den op st ct ar)) := by
  rw [den_eq h h1 h2, rowI_range, List.map_map]; rfl
/-! RewriteHouse's pool -/
def moX (σ : S) : Mo
  | 0 => fun _ => gI σ 22
  | 1 => gA σ 39
  | 2 => gA σ 40
  | 3 => fun _ => gI σ 61
  | 4 => fun _ => gI σ 29
  | 5 => gA σ 41
  | 6 => gA σ 42
  | 7 => gA σ 44
  | 8 => fun _ => gI σ 63
  | 9 => gA σ 49
  | 10 => gA σ 50
  | 11 => gA σ 51
  | 12 => gA σ 52
  | 13 => gA σ 53
  | 14 => gA σ 54
  | 15 => gA σ 55
  | 16 => fun _ => gI σ 39
  | 17 => gA σ 58
  | 18 => fun _ => gI σ 42
  | 19 => fun _ => gI σ 43
  | 20 => gA σ 26
  | 21 => gA σ 32
  | 22 => gA σ 33
  | _ => fun _ => 0
def tX (σ : S) (x : Int) : Tr := den (gA σ 66) (gA σ 67) (gA σ 68) (gA σ 73) x
abbrev lvX (σ : S) (x : Int) : Prop := 1 ≤ x ∧ x < gI σ 93
def hsX (h : Int) : List Int → Int
  | [] => h
  | a :: r => hsX (bXor (w32 (w32 (h * 1000003) + a)) (bUsh (w32 (w32 (h * 1000003) + a)) 15)) r
def sltX (op : Int) (l : List Int) : Int := bAnd (hsX (w32 (w32 (op * 31) + (l.length : Int))) l) 131071
def kyX (σ : S) (x : Int) : Int := sltX (gA σ 66 x) (rowI (gA σ 73) (gA σ 67 x) (gA σ 68 x).toNat)
def XP (M : Mo) (σ : S) : Prop :=
  (moX σ = M ∧ WM M) ∧ (1 ≤ gI σ 93 ∧ gI σ 93 ≤ 200000 ∧ 0 ≤ gI σ 102 ∧ gI σ 102 ≤ 600000) ∧
  Pv (gA σ 66) (gA σ 67) (gA σ 68) (gA σ 73) 1 (gI σ 93) (gI σ 102) ∧
  Pu (gA σ 66) (gA σ 67) (gA σ 68) (gA σ 73) 1 (gI σ 93) ∧
  (∀ x, lvX σ x → gA σ 70 x = trS (tX σ x) ∧ gA σ 69 x = srt M (tX σ x) ∧ NF M (tX σ x) ∧ trS (tX σ x) ≤ 40) ∧
  Ch 131072 (gA σ 72) (gA σ 71) (kyX σ) 1 (gI σ 93) ∧
  (∀ x, lvX σ x → gA σ 67 x = (rowI (gA σ 68) 1 (x - 1).toNat).sum) ∧ gI σ 102 = (rowI (gA σ 68) 1 (gI σ 93 - 1).toNat).sum
abbrev XPj : List Nat := [22, 61, 29, 63, 39, 42, 43]
abbrev XPi : List Nat := XPj ++ [93, 102]
abbrev XPm : List Nat := [39, 40, 41, 42, 44, 49, 50, 51, 52, 53, 54, 55, 58, 26, 32, 33]
abbrev XPa : List Nat := [66, 67, 68, 69, 70, 71, 72, 73]
/-- what a frame leaves alone -/
def apt (w : List Nat × List Nat × List Nat) (I A : List Nat) : Bool := I.all (fun i => !w.1.contains i) && A.all (fun a => !w.2.2.contains a)
theorem apt_i {w : List Nat × List Nat × List Nat} {I A : List Nat} (h : apt w I A = true) {σ s : S} (f : Fr w σ s) : ∀ i ∈ I, gI s i = gI σ i := by
  intro i hi
  unfold apt at h
  simp only [Bool.and_eq_true, List.all_eq_true, Bool.not_eq_true'] at h
  exact f.1 i (h.1 i hi)
theorem apt_a {w : List Nat × List Nat × List Nat} {I A : List Nat} (h : apt w I A = true) {σ s : S} (f : Fr w σ s) : ∀ a ∈ A, gA s a = gA σ a := by
  intro i hi
  unfold apt at h
  simp only [Bool.and_eq_true, List.all_eq_true, Bool.not_eq_true'] at h
  exact f.2.2 i (h.2 i hi)
theorem moX_same {σ s : S} (hi : ∀ i ∈ XPj, gI s i = gI σ i) (ha : ∀ a ∈ XPm, gA s a = gA σ a) : moX s = moX σ := by
  simp only [XPj, XPm, List.forall_mem_cons] at hi ha
  funext k
  unfold moX
  split <;> simp only [hi, ha]
theorem XP.same {M : Mo} {σ s : S} (h : XP M σ) (hi : ∀ i ∈ XPi, gI s i = gI σ i) (ha : ∀ a ∈ XPm ++ XPa, gA s a = gA σ a) : XP M s := by
  have hm := moX_same (fun i h => hi i (List.mem_append_left _ h)) (fun a h => ha a (List.mem_append_left _ h))
  have ha2 : ∀ a ∈ XPa, gA s a = gA σ a := fun a h => ha a (List.mem_append_right _ h)
  simp only [XPi, XPj, XPa, List.cons_append, List.nil_append, List.forall_mem_cons] at hi ha2
  unfold XP at h ⊢
  rw [hm]
  have e : ∀ x, tX s x = tX σ x := fun x => by unfold tX; simp only [ha2]
  have e2 : kyX s = kyX σ := by funext x; unfold kyX; simp only [ha2]
  simp only [e, e2, lvX, hi, ha2]
  exact h
theorem XP.fr {M : Mo} {σ s : S} {w : List Nat × List Nat × List Nat} (h : XP M σ) (f : Fr w σ s) (hw : apt w XPi (XPm ++ XPa) = true) : XP M s :=
  h.same (apt_i hw f) (apt_a hw f)
theorem tX_fr {σ s : S} {w : List Nat × List Nat × List Nat} (f : Fr w σ s) (hw : apt w [] [66, 67, 68, 73] = true) (x : Int) : tX s x = tX σ x := by
  have ha := apt_a hw f
  simp only [List.forall_mem_cons] at ha
  unfold tX
  simp only [ha]
theorem xs_slotOf {op a n : Int} {σ : S} {Q : Int → S → Prop} (hn : 0 ≤ n) (ha : 0 ≤ a) (han : a + n ≤ 20000) (hQ : Q (sltX op (rowI (gA σ 74) a n.toNat)) σ) : x_slotOf op a n σ Q := by
  unfold x_slotOf
  refine lx_slotOf_L11 (fun h k s => s = σ ∧ 0 ≤ k ∧ k ≤ n ∧ hsX h (rowI (gA σ 74) (a + k) (n - k).toNat) = hsX (w32 (w32 (op * 31) + n)) (rowI (gA σ 74) a n.toNat)) (fun _ k _ => (n - k).toNat) ⟨rfl, by omega, hn, by simp⟩ ?_
  intro h k s fr ⟨hs, h0, h1, h2⟩
  subst hs
  dsimp only
  by_cases hk : k < n
  · rw [if_pos hk]
    have e : w32 (a + k) = a + k := w32_id (by omega) (by omega)
    have e2 : w32 (k + 1) = k + 1 := w32_id (by omega) (by omega)
    rw [e, e2]
    refine ⟨⟨by omega, by omega⟩, ⟨rfl, by omega, by omega, ?_⟩, by omega⟩
    rw [show (n - k).toNat = (n - (k + 1)).toNat + 1 by omega] at h2
    simp only [rowI, hsX] at h2
    rw [show a + (k + 1) = a + k + 1 by omega]
    exact h2
  · rw [if_neg hk]
    rw [show (n - k).toNat = 0 by omega] at h2
    simp only [rowI, hsX] at h2
    unfold sltX at hQ
    rw [rowI_len, show ((n.toNat : Nat) : Int) = n by omega] at hQ
    rw [h2]
    exact hQ

/-! a pool of nodes: label, start of its row, how many, the rows; the tree that a node is -/
def dn (op st ct ar : Int → Int) : Nat → Int → Tr
  | 0, _ => .nil
  | n + 1, x => trN (op x) ((List.range (ct x).toNat).map fun (k : Nat) => dn op st ct ar n (ar (st x + (k : Int))))
def den (op st ct ar : Int → Int) (x : Int) : Tr := dn op st ct ar (x + 1).toNat x
/-- a pool with nodes lo .. hi - 1 and rows below tp -/
def Pv (op st ct ar : Int → Int) (lo hi tp : Int) : Prop :=
  0 ≤ lo ∧ ∀ x, lo ≤ x → x < hi → -1000 ≤ op x ∧ 0 ≤ ct x ∧ 0 ≤ st x ∧ st x + ct x ≤ tp ∧ ∀ k, 0 ≤ k → k < ct x → lo ≤ ar (st x + k) ∧ ar (st x + k) < x
/-- alike nodes are one -/
def Pu (op st ct ar : Int → Int) (lo hi : Int) : Prop :=
  ∀ x y, lo ≤ x → x < hi → lo ≤ y → y < hi → op x = op y → ct x = ct y → (∀ k, 0 ≤ k → k < ct x → ar (st x + k) = ar (st y + k)) → x = y
section
variable {op st ct ar op' st' ct' ar' : Int → Int} {lo hi tp hi' tp' : Int}
theorem dn_fuel (h : Pv op st ct ar lo hi tp) : ∀ (n m : Nat) (x : Int), lo ≤ x → x < hi → x < n → x < m → dn op st ct ar n x = dn op st ct ar m x := by
  intro n
  induction n with
  | zero => intro m x h1 h2 h3 h4; have := h.1; omega
  | succ n ih =>
    intro m x h1 h2 h3 h4
    cases m with
    | zero => have := h.1; omega
    | succ m =>
      obtain ⟨-, a1, a2, a3, a4⟩ := h.2 x h1 h2
      simp only [dn]
      congr 1
      apply List.map_congr_left
      intro k hk
      have hk' : (k : Int) < ct x := by have := List.mem_range.mp hk; omega
      have := a4 k (by omega) hk'
      exact ih m _ this.1 (by omega) (by omega) (by omega)
theorem den_eq (h : Pv op st ct ar lo hi tp) {x : Int} (h1 : lo ≤ x) (h2 : x < hi) :
    den op st ct ar x = trN (op x) ((List.range (ct x).toNat).map fun (k : Nat) => den op st ct ar (ar (st x + (k : Int)))) := by
  obtain ⟨-, a1, a2, a3, a4⟩ := h.2 x h1 h2
  have h0 := h.1
  unfold den
  have e : (x + 1).toNat = x.toNat + 1 := by omega
  rw [e]
  simp only [dn]
  congr 1
  apply List.map_congr_left
  intro k hk
  have hk' : (k : Int) < ct x := by have := List.mem_range.mp hk; omega
  have := a4 k (by omega) hk'
  exact dn_fuel h _ _ _ this.1 (by omega) (by omega) (by omega)
theorem den_lab (h : Pv op st ct ar lo hi tp) {x : Int} (h1 : lo ≤ x) (h2 : x < hi) : lab (den op st ct ar x) = op x := by
  rw [den_eq h h1 h2]; rfl
theorem den_kids (h : Pv op st ct ar lo hi tp) {x : Int} (h1 : lo ≤ x) (h2 : x < hi) :
    kids (den op st ct ar x) = (List.range (ct x).toNat).map fun (k : Nat) => den op st ct ar (ar (st x + (k : Int))) := by
  rw [den_eq h h1 h2, kids_N]
theorem den_isT (h : Pv op st ct ar lo hi tp) : ∀ (n : Nat) (x : Int), x < n → lo ≤ x → x < hi → isT (den op st ct ar x) := by
  intro n
  induction n with
  | zero => intro x h1 h2; have := h.1; omega
  | succ n ih =>
    intro x hx h1 h2
    obtain ⟨a0, a1, a2, a3, a4⟩ := h.2 x h1 h2
    rw [den_eq h h1 h2, isT_N]
    refine ⟨a0, fun t ht => ?_⟩
    obtain ⟨k, hk, rfl⟩ := List.mem_map.mp ht
    have hk' : (k : Int) < ct x := by have := List.mem_range.mp hk; omega
    have := a4 k (by omega) hk'
    exact ih _ (by omega) this.1 (by omega)
theorem den_T (h : Pv op st ct ar lo hi tp) {x : Int} (h1 : lo ≤ x) (h2 : x < hi) : isT (den op st ct ar x) :=
  den_isT h (x.toNat + 1) x (by omega) h1 h2
/-- a pool that has grown: old nodes are what they were -/
theorem den_grow (h : Pv op st ct ar lo hi tp) (ho : ∀ x, lo ≤ x → x < hi → op' x = op x) (hs : ∀ x, lo ≤ x → x < hi → st' x = st x) (hc : ∀ x, lo ≤ x → x < hi → ct' x = ct x) (ha : ∀ k, 0 ≤ k → k < tp → ar' k = ar k) :
    ∀ (n : Nat) (x : Int), x < n → lo ≤ x → x < hi → den op' st' ct' ar' x = den op st ct ar x := by
  have key : ∀ (n : Nat) (x : Int), lo ≤ x → x < hi → dn op' st' ct' ar' n x = dn op st ct ar n x := by
    intro n
    induction n with
    | zero => intro x _ _; rfl
    | succ n ih =>
      intro x h1 h2
      obtain ⟨-, a1, a2, a3, a4⟩ := h.2 x h1 h2
      simp only [dn]
      rw [ho x h1 h2, hs x h1 h2, hc x h1 h2]
      congr 1
      apply List.map_congr_left
      intro k hk
      have hk' : (k : Int) < ct x := by have := List.mem_range.mp hk; omega
      rw [ha _ (by omega) (by omega)]
      have := a4 k (by omega) hk'
      exact ih _ this.1 (by omega)
  intro n x _ h1 h2
  exact key _ x h1 h2
theorem den_old (h : Pv op st ct ar lo hi tp) (ho : ∀ x, lo ≤ x → x < hi → op' x = op x) (hs : ∀ x, lo ≤ x → x < hi → st' x = st x) (hc : ∀ x, lo ≤ x → x < hi → ct' x = ct x) (ha : ∀ k, 0 ≤ k → k < tp → ar' k = ar k) {x : Int} (h1 : lo ≤ x) (h2 : x < hi) : den op' st' ct' ar' x = den op st ct ar x :=
  den_grow h ho hs hc ha (x.toNat + 1) x (by omega) h1 h2
theorem den_inj (h : Pv op st ct ar lo hi tp) (u : Pu op st ct ar lo hi) : ∀ (n : Nat) (x y : Int), x < n → lo ≤ x → x < hi → lo ≤ y → y < hi → den op st ct ar x = den op st ct ar y → x = y := by
  intro n
  induction n with
  | zero => intro x y h1 h2; have := h.1; omega
  | succ n ih =>
    intro x y hn h1 h2 h3 h4 e
    rw [den_eq h h1 h2, den_eq h h3 h4] at e
    obtain ⟨e1, e2⟩ := trN_inj e
    obtain ⟨-, a1, a2, a3, a4⟩ := h.2 x h1 h2
    obtain ⟨-, b1, b2, b3, b4⟩ := h.2 y h3 h4
    have e3 : ct x = ct y := by
      have := congrArg List.length e2
      simp only [List.length_map, List.length_range] at this
      omega
    refine u x y h1 h2 h3 h4 e1 e3 (fun k k0 k1 => ?_)
    have e4 := congrArg (fun l : List Tr => l[k.toNat]?) e2
    simp only [List.getElem?_map] at e4
    rw [List.getElem?_range (by omega), List.getElem?_range (by omega)] at e4
    simp only [Option.map_some, Option.some.injEq] at e4
    have ek : ((k.toNat : Nat) : Int) = k := by omega
    rw [ek] at e4
    have c1 := a4 k k0 k1
    have c2 := b4 k k0 (by omega)
    exact ih _ _ (by omega) c1.1 (by omega) c2.1 (by omega) e4
theorem den_one (h : Pv op st ct ar lo hi tp) (u : Pu op st ct ar lo hi) {x y : Int} (h1 : lo ≤ x) (h2 : x < hi) (h3 : lo ≤ y) (h4 : y < hi) (e : den op st ct ar x = den op st ct ar y) : x = y :=
  den_inj h u (x.toNat + 1) x y (by omega) h1 h2 h3 h4 e
end
/-! chains: of each key the nodes that have it, from the last one on; nil is lo - 1 -/
/-- the last node below x with key s; lo - 1 if there is none -/
def lastK (ky : Int → Int) (lo : Int) (s : Int) : Nat → Int
  | 0 => lo - 1
  | n + 1 => if ky (lo + n) = s then lo + n else lastK ky lo s n
/-- heads fs (of keys below hz) and links nx are those of the nodes lo .. hi - 1 -/
def Ch (hz : Int) (fs nx ky : Int → Int) (lo hi : Int) : Prop :=
  (∀ s, 0 ≤ s → s < hz → fs s = lastK ky lo s (hi - lo).toNat) ∧ ∀ x, lo ≤ x → x < hi → nx x = lastK ky lo (ky x) (x - lo).toNat
theorem lastK_ge (ky : Int → Int) (lo s : Int) (n : Nat) : lo - 1 ≤ lastK ky lo s n ∧ lastK ky lo s n < lo + n := by
  induction n with
  | zero => simp only [lastK]; omega
  | succ n ih =>
    simp only [lastK]
    split <;> omega
theorem lastK_key (ky : Int → Int) (lo s : Int) (n : Nat) (h : lo ≤ lastK ky lo s n) : ky (lastK ky lo s n) = s := by
  induction n with
  | zero => simp only [lastK] at h; omega
  | succ n ih =>
    simp only [lastK] at h ⊢
    split
    · assumption
    · rename_i hne
      rw [if_neg hne] at h
      exact ih h
theorem lastK_above (ky : Int → Int) (lo s : Int) (n : Nat) (x : Int) (h1 : lastK ky lo s n < x) (h2 : lo ≤ x) (h3 : x < lo + n) : ky x ≠ s := by
  induction n with
  | zero => omega
  | succ n ih =>
    simp only [lastK] at h1
    split at h1
    · omega
    · rename_i hne
      by_cases hx : x = lo + n
      · rw [hx]; exact hne
      · exact ih h1 (by omega)
theorem lastK_congr {ky ky' : Int → Int} {lo s : Int} : ∀ (n : Nat), (∀ x, lo ≤ x → x < lo + n → ky' x = ky x) → lastK ky' lo s n = lastK ky lo s n := by
  intro n
  induction n with
  | zero => intro _; rfl
  | succ n ih =>
    intro h
    simp only [lastK]
    rw [h (lo + n) (by omega) (by omega), ih (fun x h1 h2 => h x h1 (by omega))]
/-- the walk down a chain meets every node of its key: what is left are those below -/
theorem Ch.next {hz : Int} {fs nx ky : Int → Int} {lo hi : Int} (h : Ch hz fs nx ky lo hi) {x : Int} (h1 : lo ≤ x) (h2 : x < hi) : lo - 1 ≤ nx x ∧ nx x < x ∧ (lo ≤ nx x → ky (nx x) = ky x) ∧ ∀ y, nx x < y → y < x → lo ≤ y → ky y ≠ ky x := by
  have e := h.2 x h1 h2
  have a := lastK_ge ky lo (ky x) (x - lo).toNat
  rw [← e] at a
  refine ⟨a.1, by omega, fun q => ?_, fun y hy1 hy2 hy3 => ?_⟩
  · rw [e] at q ⊢
    exact lastK_key ky lo _ _ q
  · rw [e] at hy1
    exact lastK_above ky lo (ky x) _ y hy1 hy3 (by omega)
theorem Ch.head {hz : Int} {fs nx ky : Int → Int} {lo hi : Int} (h : Ch hz fs nx ky lo hi) (hl : lo ≤ hi) {s : Int} (h1 : 0 ≤ s) (h2 : s < hz) : lo - 1 ≤ fs s ∧ fs s < hi ∧ (lo ≤ fs s → ky (fs s) = s) ∧ ∀ y, fs s < y → y < hi → lo ≤ y → ky y ≠ s := by
  have e := h.1 s h1 h2
  have a := lastK_ge ky lo s (hi - lo).toNat
  rw [← e] at a
  refine ⟨a.1, by omega, fun q => ?_, fun y hy1 hy2 hy3 => ?_⟩
  · rw [e] at q ⊢
    exact lastK_key ky lo _ _ q
  · rw [e] at hy1
    exact lastK_above ky lo s _ y hy1 hy3 (by omega)
theorem Ch.push {hz : Int} {fs nx ky fs' nx' ky' : Int → Int} {lo hi : Int} (h : Ch hz fs nx ky lo hi) (hl : lo ≤ hi) (h0 : 0 ≤ ky' hi) (h1 : ky' hi < hz) (hk : ∀ x, lo ≤ x → x < hi → ky' x = ky x) (hn : ∀ x, lo ≤ x → x < hi → nx' x = nx x) (hx : nx' hi = fs (ky' hi)) (hf : ∀ s, fs' s = if s = ky' hi then hi else fs s) : Ch hz fs' nx' ky' lo (hi + 1) := by
  have e : (hi + 1 - lo).toNat = (hi - lo).toNat + 1 := by omega
  have e2 : lo + ((hi - lo).toNat : Int) = hi := by omega
  refine ⟨fun s z0 z1 => ?_, fun x h1 h2 => ?_⟩
  · rw [e, hf s]
    simp only [lastK]
    rw [e2]
    by_cases hs : s = ky' hi
    · rw [if_pos hs, if_pos hs.symm]
    · rw [if_neg hs, if_neg (fun q => hs q.symm), h.1 s z0 z1]
      exact (lastK_congr _ (fun x a b => hk x a (by omega))).symm
  · by_cases hxx : x = hi
    · rw [hxx, hx, h.1 _ h0 (by assumption)]
      exact (lastK_congr _ (fun x a b => hk x a (by omega))).symm
    · rw [hn x h1 (by omega), h.2 x h1 (by omega), hk x h1 (by omega)]
      exact (lastK_congr _ (fun y a b => hk y a (by omega))).symm
theorem Ch.pop {hz : Int} {fs nx ky fs' : Int → Int} {lo hi : Int} (h : Ch hz fs nx ky lo (hi + 1)) (hl : lo ≤ hi) (hf : ∀ s, fs' s = if s = ky hi then nx hi else fs s) : Ch hz fs' nx ky lo hi := by
  have e : (hi + 1 - lo).toNat = (hi - lo).toNat + 1 := by omega
  have e2 : lo + ((hi - lo).toNat : Int) = hi := by omega
  refine ⟨fun s z0 z1 => ?_, fun x h1 h2 => h.2 x h1 (by omega)⟩
  have hs := h.1 s z0 z1
  rw [e] at hs
  simp only [lastK] at hs
  rw [e2] at hs
  rw [hf s]
  by_cases c : s = ky hi
  · rw [if_pos c, h.2 hi hl (by omega), c]
  · rw [if_neg c, hs, if_neg (fun q => c q.symm)]
theorem Ch.congr {hz : Int} {fs nx ky fs' nx' ky' : Int → Int} {lo hi : Int} (h : Ch hz fs nx ky lo hi) (hf : ∀ s, fs' s = fs s) (hn : ∀ x, lo ≤ x → x < hi → nx' x = nx x) (hk : ∀ x, lo ≤ x → x < hi → ky' x = ky x) : Ch hz fs' nx' ky' lo hi := by
  refine ⟨fun s z0 z1 => ?_, fun x h1 h2 => ?_⟩
  · rw [hf, h.1 s z0 z1]
    exact (lastK_congr _ (fun x a b => hk x a (by omega))).symm
  · rw [hn x h1 h2, h.2 x h1 h2, hk x h1 h2]
    exact (lastK_congr _ (fun y a b => hk y a (by omega))).symm

/-! RewriteHouse: the goals that lie on the stack -/
/-- a share: parts from s on against what is left of the elements -/
def shX (M : Mo) (σ : S) (d o : Int) (s : Nat) (es : List Tr) : Prop :=
  0 ≤ d ∧ d < gI σ 138 ∧ gA σ 88 d = (s : Int) ∧ 0 ≤ gA σ 89 d ∧ ∃ n m : Nat, n ≤ 6 ∧ m < 2 ^ n ∧ gA σ 89 d + n ≤ gI σ 134 ∧ gA σ 90 d = (m : Int) ∧
  (mCo M o = 0 → ∃ a : Nat, a ≤ n ∧ m = 2 ^ n - 2 ^ a) ∧ (∀ x ∈ rowI (gA σ 87) (gA σ 89 d) n, lvX σ x) ∧ es = pk m ((rowI (gA σ 87) (gA σ 89 d) n).map (tX σ))
/-- an entry says a goal -/
def goX (M : Mo) (σ : S) (x y : Int) : Goal → Prop
  | .inl (p, t) => lvX σ x ∧ tX σ x = p ∧ lvX σ y ∧ tX σ y = t
  | .inr (p, s, es) => lvX σ x ∧ tX σ x = p ∧ y < 0 ∧ shX M σ (-1 - y) (lab p) s es
def gsX (M : Mo) (σ : S) : Int → List Goal → Prop
  | k, [] => k = 0
  | k, g :: gs => 1 ≤ k ∧ goX M σ (gA σ 84 (k - 1)) (gA σ 85 (k - 1)) g ∧ gsX M σ (k - 1) gs
/-- what lies below stays -/
def kpX (N : Tr → Prop) (σ s : S) : Prop :=
  ExX σ s N ∧ gI σ 134 ≤ gI s 134 ∧ gI σ 138 ≤ gI s 138 ∧ (∀ i, i < gI σ 134 → gA s 87 i = gA σ 87 i) ∧
  ∀ i, i < gI σ 138 → gA s 88 i = gA σ 88 i ∧ gA s 89 i = gA σ 89 i ∧ gA s 90 i = gA σ 90 i
theorem kpX.rf (N : Tr → Prop) (σ : S) : kpX N σ σ := ⟨ExX.rf σ N, Int.le_refl _, Int.le_refl _, fun _ _ => rfl, fun _ _ => ⟨rfl, rfl, rfl⟩⟩
theorem kpX.trans {N : Tr → Prop} {a b c : S} (h : kpX N a b) (k : kpX N b c) (h1 : 1 ≤ gI a 93) : kpX N a c := by
  obtain ⟨h1', h2, h3, h4, h5⟩ := h
  obtain ⟨k1, k2, k3, k4, k5⟩ := k
  refine ⟨h1'.trans k1 h1, by omega, by omega, fun i hi => ?_, fun i hi => ?_⟩
  · rw [k4 i (by omega), h4 i hi]
  · have a1 := h5 i hi
    have a2 := k5 i (by omega)
    exact ⟨a2.1.trans a1.1, a2.2.1.trans a1.2.1, a2.2.2.trans a1.2.2⟩
theorem shX.kp {M : Mo} {N : Tr → Prop} {σ s : S} (k : kpX N σ s) {d o : Int} {c : Nat} {es : List Tr} (h : shX M σ d o c es) : shX M s d o c es := by
  obtain ⟨d0, d1, hp, hf, n, m, hn, hm, he, hl, hc, hx, hes⟩ := h
  obtain ⟨k1, k2, k3, k4, k5⟩ := k
  obtain ⟨a1, a2, a3⟩ := k5 d d1
  have er : rowI (gA s 87) (gA σ 89 d) n = rowI (gA σ 87) (gA σ 89 d) n := rowI_congr (fun j j0 j1 => k4 _ (by omega))
  refine ⟨d0, by omega, by rw [a1]; exact hp, by rw [a2]; exact hf, n, m, hn, hm, by rw [a2]; omega, by rw [a3]; exact hl, hc, ?_, ?_⟩
  · rw [a2, er]
    exact fun x hx' => k1.lv (hx x hx')
  · rw [a2, er, hes]
    congr 1
    exact List.map_congr_left (fun x hx' => (k1.t (hx x hx')).symm)
theorem goX.kp {M : Mo} {N : Tr → Prop} {σ s : S} (k : kpX N σ s) {x y : Int} {g : Goal} (h : goX M σ x y g) : goX M s x y g := by
  match g with
  | .inl (p, t) =>
    obtain ⟨a, b, c, d⟩ := h
    exact ⟨k.1.lv a, (k.1.t a).trans b, k.1.lv c, (k.1.t c).trans d⟩
  | .inr (p, c, es) =>
    obtain ⟨a, b, c, d⟩ := h
    exact ⟨k.1.lv a, (k.1.t a).trans b, c, d.kp k⟩
theorem gsX.kp {M : Mo} {N : Tr → Prop} {σ s : S} (k : kpX N σ s) {n : Int} {gs : List Goal} (h : gsX M σ n gs) (hg : ∀ i, i < n → gA s 84 i = gA σ 84 i ∧ gA s 85 i = gA σ 85 i) : gsX M s n gs := by
  induction gs generalizing n with
  | nil => exact h
  | cons g gs ih =>
    obtain ⟨a, b, c⟩ := h
    refine ⟨a, ?_, ih c (fun i hi => hg i (by omega))⟩
    rw [(hg (n - 1) (by omega)).1, (hg (n - 1) (by omega)).2]
    exact b.kp k
theorem gsX.len {M : Mo} {σ : S} {n : Int} {gs : List Goal} (h : gsX M σ n gs) : n = (gs.length : Int) := by
  induction gs generalizing n with
  | nil => exact h
  | cons g gs ih =>
    have := ih h.2.2
    rw [List.length_cons]
    omega
/-- all is as it was, but for what has been made and listed -/
def rsX (N : Tr → Prop) (σ s : S) : Prop :=
  ExX σ s N ∧ gI s 134 = gI σ 134 ∧ gI s 138 = gI σ 138 ∧ gI s 121 = gI σ 121 ∧ gI s 106 = gI σ 106 ∧ gA s 83 = gA σ 83 ∧ gI s 123 = gI σ 123 ∧
  (∀ i, i < gI σ 134 → gA s 87 i = gA σ 87 i) ∧
  (∀ i, i < gI σ 138 → gA s 88 i = gA σ 88 i ∧ gA s 89 i = gA σ 89 i ∧ gA s 90 i = gA σ 90 i) ∧
  (∀ i, i < gI σ 121 → gA s 84 i = gA σ 84 i ∧ gA s 85 i = gA σ 85 i) ∧
  (∀ j, j < 62 * gI σ 123 → gA s 86 j = gA σ 86 j) ∧ ∀ j, j < gI σ 106 → gA s 74 j = gA σ 74 j
theorem rsX.rf (N : Tr → Prop) (σ : S) : rsX N σ σ := ⟨ExX.rf σ N, rfl, rfl, rfl, rfl, rfl, rfl, fun _ _ => rfl, fun _ _ => ⟨rfl, rfl, rfl⟩, fun _ _ => ⟨rfl, rfl⟩, fun _ _ => rfl, fun _ _ => rfl⟩
theorem rsX.kp {N : Tr → Prop} {σ s : S} (h : rsX N σ s) : kpX N σ s := ⟨h.1, by rw [h.2.1]; exact Int.le_refl _, by rw [h.2.2.1]; exact Int.le_refl _, h.2.2.2.2.2.2.2.1, h.2.2.2.2.2.2.2.2.1⟩
theorem rsX.trans {N : Tr → Prop} {a b c : S} (h : rsX N a b) (k : rsX N b c) (h1 : 1 ≤ gI a 93) : rsX N a c := by
  obtain ⟨p1, p2, p3, p4, p5, p6, p7, p8, p9, p10, p11, p12⟩ := h
  obtain ⟨q1, q2, q3, q4, q5, q6, q7, q8, q9, q10, q11, q12⟩ := k
  refine ⟨p1.trans q1 h1, q2.trans p2, q3.trans p3, q4.trans p4, q5.trans p5, q6.trans p6, q7.trans p7, fun i hi => ?_, fun i hi => ?_, fun i hi => ?_, fun j hj => ?_, fun j hj => by rw [q12 j (by omega), p12 j hj]⟩
  · rw [q8 i (by omega), p8 i hi]
  · have a1 := p9 i hi
    have a2 := q9 i (by omega)
    exact ⟨a2.1.trans a1.1, a2.2.1.trans a1.2.1, a2.2.2.trans a1.2.2⟩
  · have a1 := p10 i hi
    have a2 := q10 i (by omega)
    exact ⟨a2.1.trans a1.1, a2.2.trans a1.2⟩
  · rw [q11 j (by omega), p11 j hj]
theorem rsX.gs {M : Mo} {N : Tr → Prop} {σ s : S} (h : rsX N σ s) {gs : List Goal} (k : gsX M σ (gI σ 121) gs) : gsX M s (gI s 121) gs := by
  rw [h.2.2.2.1]
  exact k.kp h.kp h.2.2.2.2.2.2.2.2.2.1

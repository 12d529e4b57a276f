/-! RewriteHouseModel: solving, what stays -/
abbrev gA6 : List Nat := [72, 73, 74, 75, 76, 77]
theorem ExT.of_fr {s q : S} {N : Tr → Prop} {w : List Nat × List Nat × List Nat} (f : Fr w s q) (hw : apt w [80] [48, 49, 50, 56, 54, 55] = true) : ExT s q N := by
  have hi := apt_i hw f
  have ha := apt_a hw f
  simp only [List.forall_mem_cons] at hi ha
  obtain ⟨i1, -⟩ := hi
  obtain ⟨b1, b2, b3, b4, b5, b6, -⟩ := ha
  refine ⟨by rw [i1]; exact Int.le_refl _, fun x _ => ⟨?_, by rw [b5], by rw [b6]⟩, fun x h1 h2 => by omega⟩
  unfold tT
  rw [b1, b2, b3, b4]
theorem oT_ex {σ s : S} {N : Tr → Prop} (e : ExT σ s N) {x : Int} (h : olT σ x) : olT s x ∧ oT s x = oT σ x := by
  rcases h with h | h
  · have z' : x < 0 := by omega
    exact ⟨Or.inl h, by rw [oT_0 z', oT_0 z']⟩
  · exact ⟨Or.inr (e.lv h), by rw [oT_n h, oT_n (e.lv h), e.t h]⟩
theorem LT.ex {o : Int} {σ s : S} {N : Tr → Prop} {L : List Env} (h : LT o σ L) (e : ExT σ s N) (h1 : gI s 114 = gI σ 114) (h2 : gI s 115 = gI σ 115) (h3 : gA s 79 = gA σ 79) : LT o s L := by
  obtain ⟨f0, f1, hm, hlen, hsr, hrows⟩ := h
  refine ⟨by rw [h1]; exact f0, by rw [h1]; exact f1, by rw [h2]; exact hm, hlen, hsr, fun i hi => ?_⟩
  obtain ⟨r1, r2⟩ := hrows i hi
  have ee : eT s (gI σ 114 + 64 * i) = eT σ (gI σ 114 + 64 * i) := by
    funext v
    unfold eT
    by_cases hv : 0 ≤ v ∧ v < 62
    · rw [if_pos hv, if_pos hv, h3, (oT_ex e (r1.1 v hv.1 hv.2)).2]
    · rw [if_neg hv, if_neg hv]
  rw [h1]
  refine ⟨⟨fun k k0 k1 => ?_, by rw [ee]; exact r1.2⟩, by rw [ee]; exact r2⟩
  rw [h3]
  exact (oT_ex e (r1.1 k k0 k1)).1
/-- what lies below stays -/
def kT (N : Tr → Prop) (σ s : S) : Prop :=
  ExT σ s N ∧ gI s 83 = gI σ 83 ∧ gA s 78 = gA σ 78 ∧ gI σ 110 ≤ gI s 110 ∧ gI s 114 = gI σ 114 ∧ (∀ a i, a ∈ gA6 → i < gI σ 110 → gA s a i = gA σ a i) ∧
  (∀ j, j < gI σ 114 → gA s 79 j = gA σ 79 j) ∧ ∀ j, j < gI σ 83 → gA s 58 j = gA σ 58 j
theorem kT.rf (N : Tr → Prop) (σ : S) : kT N σ σ := ⟨ExT.rf σ N, rfl, rfl, Int.le_refl _, rfl, fun _ _ _ _ => rfl, fun _ _ => rfl, fun _ _ => rfl⟩
theorem kT.trans {N : Tr → Prop} {a b c : S} (h : kT N a b) (k : kT N b c) (h1 : 0 ≤ gI a 80) : kT N a c := by
  obtain ⟨p1, p2, p3, p4, p5, p6, p7, p8⟩ := h
  obtain ⟨q1, q2, q3, q4, q5, q6, q7, q8⟩ := k
  exact ⟨p1.trans q1 h1, q2.trans p2, q3.trans p3, Int.le_trans p4 q4, q5.trans p5, fun x i hx hi => (q6 x i hx (by omega)).trans (p6 x i hx hi), fun j hj => (q7 j (by omega)).trans (p7 j hj), fun j hj => (q8 j (by omega)).trans (p8 j hj)⟩
/-- the matchers of Z have come to the list -/
def doneT (M : Mo) (N : Tr → Prop) (o : Int) (σ : S) (L : List Env) (Z : Env → Prop) (s : S) (L' : List Env) : Prop :=
  Fr wT_solve σ s ∧ kT N σ s ∧ TP M s ∧ LT o s L' ∧ ∀ ρ, ρ ∈ L' ↔ ρ ∈ L ∨ Z ρ
def overT (M : Mo) (N : Tr → Prop) (σ : S) (L : List Env) (Z : Env → Prop) (s : S) : Prop :=
  gI s 1006 = 2 ∧ TP M s ∧ ExT σ s N ∧ ∃ B : List Env, B.Nodup ∧ 201 ≤ B.length ∧ ∀ ρ ∈ B, ρ ∈ L ∨ Z ρ
theorem doneT.none {M : Mo} {N : Tr → Prop} {o : Int} {σ : S} {L : List Env} (h : TP M σ) (hL : LT o σ L) : doneT M N o σ L (fun _ => False) σ L :=
  ⟨Fr.rf, kT.rf N σ, h, hL, fun ρ => by simp⟩
theorem doneT.iff {M : Mo} {N : Tr → Prop} {o : Int} {σ s : S} {L L' : List Env} {Z Z' : Env → Prop} (h : doneT M N o σ L Z s L') (k : ∀ ρ, Z ρ ↔ Z' ρ) : doneT M N o σ L Z' s L' :=
  ⟨h.1, h.2.1, h.2.2.1, h.2.2.2.1, fun ρ => by rw [h.2.2.2.2 ρ, k ρ]⟩
theorem overT.imp {M : Mo} {N : Tr → Prop} {σ s : S} {L : List Env} {Z Z' : Env → Prop} (h : overT M N σ L Z s) (k : ∀ ρ, Z ρ → Z' ρ) : overT M N σ L Z' s := by
  obtain ⟨a, b, c, B, d, e, f⟩ := h
  exact ⟨a, b, c, B, d, e, fun ρ hρ => (f ρ hρ).imp id (k ρ)⟩
theorem doneT.seq {M : Mo} {N : Tr → Prop} {o : Int} {a b c : S} {L L1 L2 : List Env} {Z1 Z2 : Env → Prop} (h1 : 0 ≤ gI a 80) (h : doneT M N o a L Z1 b L1) (k : doneT M N o b L1 Z2 c L2) : doneT M N o a L (fun ρ => Z1 ρ ∨ Z2 ρ) c L2 := by
  refine ⟨Fr.trans h.1 k.1, h.2.1.trans k.2.1 h1, k.2.2.1, k.2.2.2.1, fun ρ => ?_⟩
  rw [k.2.2.2.2 ρ, h.2.2.2.2 ρ, or_assoc]
theorem doneT.over {M : Mo} {N : Tr → Prop} {o : Int} {a b c : S} {L L1 : List Env} {Z1 Z2 : Env → Prop} (h1 : 0 ≤ gI a 80) (h : doneT M N o a L Z1 b L1) (k : overT M N b L1 Z2 c) : overT M N a L (fun ρ => Z1 ρ ∨ Z2 ρ) c := by
  obtain ⟨x, y, z, B, d, e, f⟩ := k
  refine ⟨x, y, h.2.1.1.trans z h1, B, d, e, fun ρ hρ => ?_⟩
  rw [← or_assoc, ← h.2.2.2.2 ρ]
  exact f ρ hρ
/-- a step that lists nothing -/
theorem doneT.q {M : Mo} {N : Tr → Prop} {o : Int} {σ s s1 : S} {L L1 : List Env} {Z : Env → Prop} {w : List Nat × List Nat × List Nat} (d : doneT M N o σ L Z s L1) (h1 : 0 ≤ gI σ 80) (f : Fr w s s1) (hw : apt w [114, 115] [79] = true) (hw' : Fw w wT_solve = true) (x : TP M s1) (k : kT N s s1) : doneT M N o σ L Z s1 L1 := by
  have hi := apt_i hw f
  have ha := apt_a hw f
  simp only [List.forall_mem_cons] at hi ha
  exact ⟨Fr.trans d.1 (f.weak hw'), d.2.1.trans k h1, x, d.2.2.2.1.ex k.1 hi.1 hi.2.1 ha.1, d.2.2.2.2⟩
/-- matching under way -/
def mtT (M : Mo) (N : Tr → Prop) (P : Env → Prop) (o : Int) (σ0 σ : S) (ρ : Env) (L : List Env) : Prop :=
  TP M σ ∧ ExT σ0 σ N ∧ (∀ v, 0 ≤ v → v < 60 → olT σ (gA σ 78 v)) ∧ olT σ (gI σ 117) ∧ olT σ (gI σ 118) ∧ gI σ 116 = o ∧ bT σ = ρ ∧ LT o σ L ∧ (∀ ρ ∈ L, P ρ) ∧ 0 ≤ gI σ 83 ∧ gI σ 83 + 100 ≤ 15000
theorem bT_ex {σ s : S} {N : Tr → Prop} (e : ExT σ s N) (a3 : ∀ v, 0 ≤ v → v < 60 → olT σ (gA σ 78 v)) (a4 : olT σ (gI σ 117)) (a5 : olT σ (gI σ 118)) (i5 : gA s 78 = gA σ 78) (i1 : gI s 117 = gI σ 117) (i2 : gI s 118 = gI σ 118) : bT s = bT σ := by
  funext v
  unfold bT
  by_cases hv : 0 ≤ v ∧ v < 60
  · rw [if_pos hv, if_pos hv, i5, (oT_ex e (a3 v hv.1 hv.2)).2]
  · rw [if_neg hv, if_neg hv]
    by_cases h60 : v = 60
    · rw [if_pos h60, if_pos h60, i1, (oT_ex e a4).2]
    · rw [if_neg h60, if_neg h60]
      by_cases h61 : v = 61
      · rw [if_pos h61, if_pos h61, i2, (oT_ex e a5).2]
      · rw [if_neg h61, if_neg h61]
theorem mtT.done {M : Mo} {N : Tr → Prop} {P : Env → Prop} {o : Int} {σ0 σ s : S} {ρ : Env} {L L' : List Env} {Z : Env → Prop} (h : mtT M N P o σ0 σ ρ L) (h1 : 0 ≤ gI σ0 80) (d : doneT M N o σ L Z s L') (hP : ∀ ρ, Z ρ → P ρ) : mtT M N P o σ0 s ρ L' := by
  obtain ⟨a1, a2, a3, a4, a5, a6, a7, a8, a9, a10, a11⟩ := h
  obtain ⟨f, r, x, l, m⟩ := d
  have e := r.1
  have i1 : gI s 117 = gI σ 117 := f.1 _ rfl
  have i2 : gI s 118 = gI σ 118 := f.1 _ rfl
  have i3 : gI s 116 = gI σ 116 := f.1 _ rfl
  have i4 : gI s 83 = gI σ 83 := r.2.1
  have i5 : gA s 78 = gA σ 78 := r.2.2.1
  refine ⟨x, a2.trans e h1, fun v v0 v1 => ?_, ?_, ?_, i3.trans a6, ?_, l, fun ρ hρ => ?_, by rw [i4]; exact a10, by rw [i4]; exact a11⟩
  · rw [i5]; exact (oT_ex e (a3 v v0 v1)).1
  · rw [i1]; exact (oT_ex e a4).1
  · rw [i2]; exact (oT_ex e a5).1
  · rw [← a7]; exact bT_ex e a3 a4 a5 i5 i1 i2
  · rcases (m ρ).mp hρ with k | k
    · exact a9 ρ k
    · exact hP ρ k
theorem mtT.list {M : Mo} {N : Tr → Prop} {P : Env → Prop} {o : Int} {σ0 σ : S} {ρ : Env} {L : List Env} (h : mtT M N P o σ0 σ ρ L) (hP : P ρ) (hok : ∀ ρ, P ρ → okE o ρ) (hsd : ∀ ρ ρ', P ρ → P ρ' → sdE ρ ρ') :
    t_record σ (fun _ s => gI s 110 = gI σ 110 ∧ ∃ L', doneT M N o σ L (fun ρ' => ρ' = ρ) s L') (fun s => overT M N σ L (fun ρ' => ρ' = ρ) s) := by
  obtain ⟨a1, a2, a3, a4, a5, a6, a7, a8, a9, a10, a11⟩ := h
  refine fm_t_record (ts_record a1 a6 a8 a3 a4 a5 (by rw [a7]; exact hok ρ hP) (fun ρ' hρ => by rw [a7]; exact hsd _ _ hP (a9 ρ' hρ))) (fun r s f q => ?_) (fun s f q => ?_)
  · obtain ⟨q1, ⟨L', q2, q3⟩, q4⟩ := q
    refine ⟨f.1 _ rfl, L', Fr.weak f rfl, ⟨ExT.of_fr f rfl, f.1 _ rfl, f.2.2 _ rfl, by rw [f.i _ rfl]; exact Int.le_refl _, q1, fun a i ha _ => ?_, q4, fun j _ => by rw [f.2.2 58 rfl]⟩, (a1.fr f rfl).1, q2, fun ρ' => ?_⟩
    · have : ∀ a ∈ gA6, gA s a = gA σ a := apt_a (w := wT_record) (I := []) (A := gA6) rfl f
      rw [this a ha]
    · rw [q3 ρ', a7]
  · refine ⟨q.1, (a1.fr f rfl).1, ExT.of_fr f rfl, ρ :: L, ?_, ?_, ?_⟩
    · refine List.nodup_cons.mpr ⟨by rw [← a7]; exact q.2.2, srE_nodup a8.2.2.2.2.1⟩
    · rw [List.length_cons, q.2.1]; omega
    · intro ρ' hρ
      rcases List.mem_cons.mp hρ with e | e
      · exact Or.inr e
      · exact Or.inl e
/-! goals -/
def goV (M : Mo) (s : S) (k p t a b : Int) : Goal → Prop
  | .inl (tp, tt) => k = 0 ∧ lvT s p ∧ tT s p = tp ∧ lvT s t ∧ tT s t = tt
  | .inr (tp, i, es) => lvT s p ∧ tT s p = tp ∧ lvT s t ∧ a = (i : Int) ∧ (elO M (lab tp) (tT s t)).length ≤ 6 ∧
    ((mCo M (lab tp) = 0 ∧ k = 1 ∧ ∃ n : Nat, b = (n : Int) ∧ n ≤ (elO M (lab tp) (tT s t)).length ∧ es = (elO M (lab tp) (tT s t)).drop n) ∨
     (mCo M (lab tp) ≠ 0 ∧ k = 2 ∧ ∃ m : Nat, b = (m : Int) ∧ m < 2 ^ (elO M (lab tp) (tT s t)).length ∧ es = pk m (elO M (lab tp) (tT s t))))
theorem goV.mono {M : Mo} {σ s : S} {k p t a b : Int} {x : Goal} (l : ∀ y, lvT σ y → lvT s y ∧ tT s y = tT σ y) (h : goV M σ k p t a b x) : goV M s k p t a b x := by
  match x with
  | .inl (tp, tt) =>
    obtain ⟨h1, h2, h3, h4, h5⟩ := h
    exact ⟨h1, (l _ h2).1, (l _ h2).2.trans h3, (l _ h4).1, (l _ h4).2.trans h5⟩
  | .inr (tp, i, es) =>
    obtain ⟨h2, h3, h4, h5⟩ := h
    refine ⟨(l _ h2).1, (l _ h2).2.trans h3, (l _ h4).1, ?_⟩
    rw [(l _ h4).2]
    exact h5
def gsT (M : Mo) (s : S) : Int → List Goal → Prop
  | g, [] => g < 0
  | g, x :: gs => (0 ≤ g ∧ g < gI s 110) ∧ goV M s (gA s 72 g) (gA s 73 g) (gA s 74 g) (gA s 75 g) (gA s 76 g) x ∧ gsT M s (gA s 77 g) gs
theorem gsT.kp {M : Mo} {N : Tr → Prop} {σ s : S} (k : kT N σ s) {g : Int} {gs : List Goal} (h : gsT M σ g gs) : gsT M s g gs := by
  induction gs generalizing g with
  | nil => exact h
  | cons x gs ih =>
    obtain ⟨h1, h2, h3⟩ := h
    obtain ⟨k1, k2, k3, k4, k5, k6, k7, k8⟩ := k
    have c : ∀ a ∈ gA6, gA s a g = gA σ a g := fun a ha => k6 a g ha h1.2
    simp only [List.forall_mem_cons] at c
    obtain ⟨c1, c2, c3, c4, c5, c6, -⟩ := c
    refine ⟨⟨h1.1, by omega⟩, ?_, ?_⟩
    · rw [c1, c2, c3, c4, c5]
      exact h2.mono (fun y hy => ⟨k1.lv hy, k1.t hy⟩)
    · rw [c6]; exact ih h3
theorem ts_goal {M : Mo} {N : Tr → Prop} {σ : S} (h : TP M σ) {k p t a b nx : Int} {x : Goal} {gs : List Goal} (h0 : 0 ≤ gI σ 110) (h1 : gI σ 110 < 3999) (gg : gsT M σ nx gs) (hv : goV M σ k p t a b x) {Q : Int → S → Prop}
    (hQ : ∀ s, Fr ([110], [], gA6) σ s → TP M s → kT N σ s → (∀ y, lvT σ y → lvT s y ∧ tT s y = tT σ y) → gI s 110 = gI σ 110 + 1 → gsT M s (gI σ 110) (x :: gs) → Q (gI σ 110) s) : t_goal k p t a b nx σ Q := by
  unfold t_goal
  refine ⟨⟨h0, by omega⟩, ?_⟩
  rintro s1 hs1
  refine ⟨⟨h0, by omega⟩, ?_⟩
  rintro s2 hs2
  refine ⟨⟨h0, by omega⟩, ?_⟩
  rintro s3 hs3
  refine ⟨⟨h0, by omega⟩, ?_⟩
  rintro s4 hs4
  refine ⟨⟨h0, by omega⟩, ?_⟩
  rintro s5 hs5
  refine ⟨⟨h0, by omega⟩, ?_⟩
  rintro s6 hs6 s7 hs7
  have f : Fr ([110], [], gA6) σ s7 := ((((((Fr.rf.putA hs1 rfl).putA hs2 rfl).putA hs3 rfl).putA hs4 rfl).putA hs5 rfl).putA hs6 rfl).putI hs7 rfl
  have e6 : gI s6 110 = gI σ 110 := by rw [hs6, gI_pA, hs5, gI_pA, hs4, gI_pA, hs3, gI_pA, hs2, gI_pA, hs1, gI_pA]
  rw [e6, w32_id (by omega) (by omega)] at hs7
  have eg : gI s7 110 = gI σ 110 + 1 := by rw [hs7]; rfl
  obtain ⟨ts, ls⟩ := h.fr f rfl
  have kk : kT N σ s7 := by
    refine ⟨ExT.of_fr f rfl, f.i _ rfl, f.a _ rfl, by omega, f.i _ rfl, fun c i _ hi => ?_, fun j _ => by rw [f.a 79 rfl], fun j _ => by rw [f.a 58 rfl]⟩
    rw [hs7, gA_pI, hs6, gA_pA, if_neg (fun z => by omega), hs5, gA_pA, if_neg (fun z => by omega), hs4, gA_pA, if_neg (fun z => by omega), hs3, gA_pA, if_neg (fun z => by omega), hs2, gA_pA, if_neg (fun z => by omega), hs1, gA_pA, if_neg (fun z => by omega)]
  refine hQ s7 f ts kk ls eg ⟨⟨h0, by omega⟩, ?_, ?_⟩
  · have c1 : gA s7 72 (gI σ 110) = k := by rw [hs7, hs6, hs5, hs4, hs3, hs2, hs1]; simp [gI_pI, gI_pL, gI_pA, gL_pI, gL_pL, gL_pA, gA_pI, gA_pL, gA_pA]
    have c2 : gA s7 73 (gI σ 110) = p := by rw [hs7, hs6, hs5, hs4, hs3, hs2]; simp [gI_pI, gI_pL, gI_pA, gL_pI, gL_pL, gL_pA, gA_pI, gA_pL, gA_pA]
    have c3 : gA s7 74 (gI σ 110) = t := by rw [hs7, hs6, hs5, hs4, hs3]; simp [gI_pI, gI_pL, gI_pA, gL_pI, gL_pL, gL_pA, gA_pI, gA_pL, gA_pA]
    have c4 : gA s7 75 (gI σ 110) = a := by rw [hs7, hs6, hs5, hs4]; simp [gI_pI, gI_pL, gI_pA, gL_pI, gL_pL, gL_pA, gA_pI, gA_pL, gA_pA]
    have c5 : gA s7 76 (gI σ 110) = b := by rw [hs7, hs6, hs5]; simp [gI_pI, gI_pL, gI_pA, gL_pI, gL_pL, gL_pA, gA_pI, gA_pL, gA_pA]
    rw [c1, c2, c3, c4, c5]
    exact hv.mono ls
  · have c6 : gA s7 77 (gI σ 110) = nx := by rw [hs7, hs6]; simp [gI_pI, gI_pL, gI_pA, gL_pI, gL_pL, gL_pA, gA_pI, gA_pL, gA_pA]
    rw [c6]
    exact gg.kp kk
/-! weights; what goals are -/
def wT1 : Goal → Nat
  | .inl (p, _) => 6 * trS p - 2
  | .inr (p, s, _) => 6 * (((kids p).drop s).map trS).sum + 2
def wTs (gs : List Goal) : Nat := (gs.map wT1).sum
theorem wTs_cons (g : Goal) (gs : List Goal) : wTs (g :: gs) = wT1 g + wTs gs := by simp [wTs]
theorem wTs_app (a b : List Goal) : wTs (a ++ b) = wTs a + wTs b := by simp [wTs]
def gOT (M : Mo) (A : Int → Bool) (t0 : Tr) : Goal → Prop
  | .inl (p, t) => (NF M p ∧ sub1 M p A ∧ trS p ≤ 40) ∧ NF M t ∧ trS t ≤ 40 ∧ tWide A t = false ∧ inU M A t0 t
  | .inr (p, s, es) => (NF M p ∧ sub1 M p A ∧ trS p ≤ 40) ∧ 0 ≤ lab p ∧ mAs M (lab p) ≠ 0 ∧ s ≤ (kids p).length ∧ elm M (lab p) A es ∧ rowU M A t0 (lab p) es
theorem pairG_wT : ∀ (ps ts : List Tr), wTs (pairG ps ts) ≤ 6 * (ps.map trS).sum
  | [], _ => by simp [pairG, wTs]
  | _ :: _, [] => by simp [pairG, wTs]
  | p :: ps, t :: ts => by
    have := pairG_wT ps ts
    simp only [pairG, List.zipWith_cons_cons] at this ⊢
    rw [wTs_cons]
    simp only [wT1, List.map_cons, List.sum_cons]
    omega
theorem pairG_gOT {M : Mo} {A : Int → Bool} {t0 : Tr} {ps ts : List Tr} (hp : ∀ p ∈ ps, NF M p ∧ sub1 M p A ∧ trS p ≤ 40) (ht : ∀ t ∈ ts, NF M t ∧ trS t ≤ 40 ∧ tWide A t = false ∧ inU M A t0 t) : ∀ g ∈ pairG ps ts, gOT M A t0 g := by
  induction ps generalizing ts with
  | nil => intro g hg; simp [pairG] at hg
  | cons p ps ih =>
    match ts with
    | [] => intro g hg; simp [pairG] at hg
    | t :: ts =>
      intro g hg
      simp only [pairG, List.zipWith_cons_cons, List.mem_cons] at hg
      rcases hg with rfl | hg
      · exact ⟨hp p (List.mem_cons_self ..), ht t (List.mem_cons_self ..)⟩
      · exact ih (fun p h => hp p (List.mem_cons_of_mem _ h)) (fun t h => ht t (List.mem_cons_of_mem _ h)) g hg
def rmT (M : Mo) (N : Tr → Prop) (σ0 : S) : Prop := ∀ s, TP M s → ExT σ0 s N → gI s 80 + 2 ≤ 200000 ∧ gI s 81 + 6 ≤ 800000
def cxT (M : Mo) (A : Int → Bool) (t0 : Tr) (P : Env → Prop) (o : Int) (σ0 : S) : Prop :=
  0 ≤ gI σ0 80 ∧ (∀ ρ, P ρ → okE o ρ) ∧ (∀ ρ ρ', P ρ → P ρ' → sdE ρ ρ') ∧ rmT M (inU M A t0) σ0 ∧ isT t0
/-- ready to solve, at a depth -/
def rdyT (M : Mo) (A : Int → Bool) (t0 : Tr) (P : Env → Prop) (o : Int) (σ0 : S) (n : Nat) (σ : S) (g : Int) (gs : List Goal) (ρ : Env) (L : List Env) : Prop :=
  mtT M (inU M A t0) P o σ0 σ ρ L ∧ gsT M σ g gs ∧ (∀ x ∈ gs, gOT M A t0 x) ∧ (0 ≤ gI σ 110 ∧ gI σ 110 + 4 * n ≤ 2000) ∧ wTs gs + 1 ≤ n
def SoT (M : Mo) (A : Int → Bool) (t0 : Tr) (P : Env → Prop) (o : Int) (σ0 : S) (n : Nat) : Prop :=
  ∀ (σ : S) (g : Int) (gs : List Goal) (ρ : Env) (L : List Env), rdyT M A t0 P o σ0 n σ g gs ρ L → (∀ ρ', Solv M gs ρ ρ' → P ρ') → t_S_solve n 0 [g] σ (fun _ s => gI s 110 = gI σ 110 ∧ ∃ L', doneT M (inU M A t0) o σ L (Solv M gs ρ) s L') (fun s => overT M (inU M A t0) σ L (Solv M gs ρ) s)
/-- goals behind others are solved -/
theorem st_rec {M : Mo} {A : Int → Bool} {t0 : Tr} {P : Env → Prop} {o : Int} {σ0 : S} {m : Nat} (c : cxT M A t0 P o σ0) (ih : SoT M A t0 P o σ0 m) {σ s : S} {ρ : Env} {L L1 : List Env} {Z : Env → Prop} (mt : mtT M (inU M A t0) P o σ0 σ ρ L) (d : doneT M (inU M A t0) o σ L Z s L1) (hZ : ∀ ρ', Z ρ' → P ρ') {g : Int} {gs : List Goal} (gg : gsT M s g gs) (ok : ∀ x ∈ gs, gOT M A t0 x) (hg : 0 ≤ gI s 110 ∧ gI s 110 + 4 * m ≤ 2000) (hw : wTs gs + 1 ≤ m) (hP : ∀ ρ', Solv M gs ρ ρ' → P ρ') {Q : Int → S → Prop} {E : S → Prop}
    (hQ : ∀ r s2 L2, Fr wT_solve s s2 → doneT M (inU M A t0) o σ L (fun ρ' => Z ρ' ∨ Solv M gs ρ ρ') s2 L2 → kT (inU M A t0) s s2 → gI s2 110 = gI s 110 → Q r s2) (hE : ∀ s2, overT M (inU M A t0) σ L (fun ρ' => Z ρ' ∨ Solv M gs ρ ρ') s2 → E s2) : t_S_solve m 0 [g] s Q E := by
  have mt1 := mt.done c.1 d hZ
  refine fo_t_S_solve m _ _ _ _ _ _ _ (ih s g gs ρ L1 ⟨mt1, gg, ok, hg, hw⟩ hP) (fun r s2 f q => ?_) (fun s2 f q => ?_)
  · obtain ⟨q1, L2, d2⟩ := q
    exact hQ r s2 L2 f (d.seq mt.1.rg.1 d2) d2.2.1 q1
  · exact hE s2 (d.over mt.1.rg.1 q)

/-! RewriteHouse: what solving leaves -/
/-- the matchers of Z have come to the list -/
def doneX (M : Mo) (N : Tr → Prop) (o : Int) (σ : S) (L : List Env) (Z : Env → Prop) (s : S) (L' : List Env) : Prop :=
  Fr wX_solve σ s ∧ rsX N σ s ∧ XP M s ∧ LX o s L' ∧ ∀ ρ, ρ ∈ L' ↔ ρ ∈ L ∨ Z ρ
/-- there are too many of them -/
def overX (M : Mo) (N : Tr → Prop) (σ : S) (L : List Env) (Z : Env → Prop) (s : S) : Prop :=
  gI s 1006 = 2 ∧ XP M s ∧ ExX σ s N ∧ ∃ B : List Env, B.Nodup ∧ 201 ≤ B.length ∧ ∀ ρ ∈ B, ρ ∈ L ∨ Z ρ
theorem doneX.none {M : Mo} {N : Tr → Prop} {o : Int} {σ : S} {L : List Env} (h : XP M σ) (hL : LX o σ L) : doneX M N o σ L (fun _ => False) σ L :=
  ⟨Fr.rf, rsX.rf N σ, h, hL, fun ρ => by simp⟩
theorem doneX.iff {M : Mo} {N : Tr → Prop} {o : Int} {σ s : S} {L L' : List Env} {Z Z' : Env → Prop} (h : doneX M N o σ L Z s L') (k : ∀ ρ, Z ρ ↔ Z' ρ) : doneX M N o σ L Z' s L' :=
  ⟨h.1, h.2.1, h.2.2.1, h.2.2.2.1, fun ρ => by rw [h.2.2.2.2 ρ, k ρ]⟩
theorem overX.imp {M : Mo} {N : Tr → Prop} {σ s : S} {L : List Env} {Z Z' : Env → Prop} (h : overX M N σ L Z s) (k : ∀ ρ, Z ρ → Z' ρ) : overX M N σ L Z' s := by
  obtain ⟨a, b, c, B, d, e, f⟩ := h
  exact ⟨a, b, c, B, d, e, fun ρ hρ => (f ρ hρ).imp id (k ρ)⟩
theorem doneX.seq {M : Mo} {N : Tr → Prop} {o : Int} {a b c : S} {L L1 L2 : List Env} {Z1 Z2 : Env → Prop} (h1 : 1 ≤ gI a 93) (h : doneX M N o a L Z1 b L1) (k : doneX M N o b L1 Z2 c L2) : doneX M N o a L (fun ρ => Z1 ρ ∨ Z2 ρ) c L2 := by
  refine ⟨Fr.trans h.1 k.1, h.2.1.trans k.2.1 h1, k.2.2.1, k.2.2.2.1, fun ρ => ?_⟩
  rw [k.2.2.2.2 ρ, h.2.2.2.2 ρ, or_assoc]
theorem doneX.over {M : Mo} {N : Tr → Prop} {o : Int} {a b c : S} {L L1 : List Env} {Z1 Z2 : Env → Prop} (h1 : 1 ≤ gI a 93) (h : doneX M N o a L Z1 b L1) (k : overX M N b L1 Z2 c) : overX M N a L (fun ρ => Z1 ρ ∨ Z2 ρ) c := by
  obtain ⟨x, y, z, B, d, e, f⟩ := k
  refine ⟨x, y, h.2.1.1.trans z h1, B, d, e, fun ρ hρ => ?_⟩
  rw [← or_assoc, ← h.2.2.2.2 ρ]
  exact f ρ hρ
/-- matching under way -/
def mtX (M : Mo) (N : Tr → Prop) (P : Env → Prop) (o : Int) (σ0 σ : S) (ρ : Env) (L : List Env) : Prop :=
  XP M σ ∧ ExX σ0 σ N ∧ (∀ v, 0 ≤ v → v < 60 → olX σ (gA σ 83 v)) ∧ olX σ (gI σ 125) ∧ olX σ (gI σ 126) ∧ gI σ 127 = o ∧ bX σ = ρ ∧ LX o σ L ∧ (∀ ρ ∈ L, P ρ) ∧ 0 ≤ gI σ 106 ∧ gI σ 106 + 40 ≤ 15000
theorem oX_ex {σ s : S} {N : Tr → Prop} (e : ExX σ s N) {x : Int} (h : olX σ x) : olX s x ∧ oX s x = oX σ x := by
  rcases h with rfl | h
  · exact ⟨Or.inl rfl, by rw [oX_0, oX_0]⟩
  · refine ⟨Or.inr (e.lv h), ?_⟩
    unfold oX
    have : x ≠ 0 := by have := h.1; omega
    rw [if_neg this, if_neg this, e.t h]
theorem mtX.done {M : Mo} {N : Tr → Prop} {P : Env → Prop} {o : Int} {σ0 σ s : S} {ρ : Env} {L L' : List Env} {Z : Env → Prop} (h : mtX M N P o σ0 σ ρ L) (h1 : 1 ≤ gI σ0 93) (d : doneX M N o σ L Z s L') (hP : ∀ ρ, Z ρ → P ρ) : mtX M N P o σ0 s ρ L' := by
  obtain ⟨a1, a2, a3, a4, a5, a6, a7, a8, a9, a10, a11⟩ := h
  obtain ⟨f, r, x, l, m⟩ := d
  have e := r.1
  have i1 : gI s 125 = gI σ 125 := f.1 _ rfl
  have i2 : gI s 126 = gI σ 126 := f.1 _ rfl
  have i3 : gI s 127 = gI σ 127 := f.1 _ rfl
  have i4 : gI s 106 = gI σ 106 := r.2.2.2.2.1
  have i5 : gA s 83 = gA σ 83 := r.2.2.2.2.2.1
  refine ⟨x, a2.trans e h1, fun v v0 v1 => ?_, ?_, ?_, i3.trans a6, ?_, l, fun ρ hρ => ?_, by rw [i4]; exact a10, by rw [i4]; exact a11⟩
  · rw [i5]; exact (oX_ex e (a3 v v0 v1)).1
  · rw [i1]; exact (oX_ex e a4).1
  · rw [i2]; exact (oX_ex e a5).1
  · rw [← a7]
    funext v
    unfold bX
    by_cases hv : 0 ≤ v ∧ v < 60
    · rw [if_pos hv, if_pos hv, i5, (oX_ex e (a3 v hv.1 hv.2)).2]
    · rw [if_neg hv, if_neg hv]
      by_cases h60 : v = 60
      · rw [if_pos h60, if_pos h60, i1, (oX_ex e a4).2]
      · rw [if_neg h60, if_neg h60]
        by_cases h61 : v = 61
        · rw [if_pos h61, if_pos h61, i2, (oX_ex e a5).2]
        · rw [if_neg h61, if_neg h61]
  · rcases (m ρ).mp hρ with k | k
    · exact a9 ρ k
    · exact hP ρ k
theorem srE_nodup {o : Int} {L : List Env} (h : srE o L) : L.Nodup := by
  unfold srE at h
  refine List.Pairwise.imp ?_ h
  intro a b hab e
  rw [e, cmE_rf] at hab
  omega
/-- what is bound comes to the list -/
theorem mtX.list {M : Mo} {N : Tr → Prop} {P : Env → Prop} {o : Int} {σ0 σ : S} {ρ : Env} {L : List Env} (h : mtX M N P o σ0 σ ρ L) (hP : P ρ) (hok : ∀ ρ, P ρ → okE o ρ) (hsd : ∀ ρ ρ', P ρ → P ρ' → sdE ρ ρ') :
    x_list σ (fun _ s => ∃ L', doneX M N o σ L (fun ρ' => ρ' = ρ) s L') (fun s => overX M N σ L (fun ρ' => ρ' = ρ) s) := by
  obtain ⟨a1, a2, a3, a4, a5, a6, a7, a8, a9, a10, a11⟩ := h
  refine fm_x_list (xs_list a1 a6 a8 a3 a4 a5 (by rw [a7]; exact hok ρ hP) (fun ρ' hρ => by rw [a7]; exact hsd _ _ hP (a9 ρ' hρ))) (fun r s f q => ?_) (fun s f q => ?_)
  · obtain ⟨q1, ⟨L', q2, q3⟩, q4⟩ := q
    have e : ExX σ s N := ExX.of_fr f rfl
    refine ⟨L', Fr.weak f rfl, ⟨e, f.1 _ rfl, f.1 _ rfl, f.1 _ rfl, f.1 _ rfl, f.2.2 _ rfl, q1, fun i _ => by rw [f.2.2 87 rfl], fun i _ => ⟨by rw [f.2.2 88 rfl], by rw [f.2.2 89 rfl], by rw [f.2.2 90 rfl]⟩, fun i _ => ⟨by rw [f.2.2 84 rfl], by rw [f.2.2 85 rfl]⟩, q4, fun j _ => by rw [f.2.2 74 rfl]⟩, a1.fr f rfl, q2, fun ρ' => ?_⟩
    rw [q3 ρ', a7]
  · refine ⟨q.1, a1.fr f rfl, ExX.of_fr f rfl, ρ :: L, ?_, ?_, ?_⟩
    · refine List.nodup_cons.mpr ⟨by rw [← a7]; exact q.2.2, srE_nodup a8.2.2.2.2.1⟩
    · rw [List.length_cons, q.2.1]; omega
    · intro ρ' hρ
      rcases List.mem_cons.mp hρ with e | e
      · exact Or.inr e
      · exact Or.inl e

/-! what stays, and rules for loops -/
def Fw (a b : List Nat × List Nat × List Nat) : Bool := a.1.all (fun i => b.1.contains i) && a.2.1.all (fun i => b.2.1.contains i) && a.2.2.all (fun i => b.2.2.contains i)
def Fr (w : List Nat × List Nat × List Nat) (σ τ : S) : Prop := (∀ i, w.1.contains i = false → gI τ i = gI σ i) ∧ (∀ i, w.2.1.contains i = false → gL τ i = gL σ i) ∧ (∀ i, w.2.2.contains i = false → gA τ i = gA σ i)
theorem Fr.rf {w : List Nat × List Nat × List Nat} {σ : S} : Fr w σ σ := ⟨fun _ _ => rfl, fun _ _ => rfl, fun _ _ => rfl⟩
theorem Fr.trans {w : List Nat × List Nat × List Nat} {a b c : S} (h : Fr w a b) (k : Fr w b c) : Fr w a c := ⟨fun i e => (k.1 i e).trans (h.1 i e), fun i e => (k.2.1 i e).trans (h.2.1 i e), fun i e => (k.2.2 i e).trans (h.2.2 i e)⟩
theorem Fr.i {w : List Nat × List Nat × List Nat} {a b : S} (h : Fr w a b) (i : Nat) (e : w.1.contains i = false) : gI b i = gI a i := h.1 i e
theorem Fr.l {w : List Nat × List Nat × List Nat} {a b : S} (h : Fr w a b) (i : Nat) (e : w.2.1.contains i = false) : gL b i = gL a i := h.2.1 i e
theorem Fr.a {w : List Nat × List Nat × List Nat} {a b : S} (h : Fr w a b) (i : Nat) (e : w.2.2.contains i = false) : gA b i = gA a i := h.2.2 i e
theorem Fr.putI {w : List Nat × List Nat × List Nat} {a b c : S} (h : Fr w a b) {k : Nat} {v : Int} (e : c = pI b k v) (hk : w.1.contains k = true) : Fr w a c := by
  subst e
  refine ⟨fun i hi => ?_, h.2.1, h.2.2⟩
  have : i ≠ k := fun z => by rw [z, hk] at hi; cases hi
  rw [← h.1 i hi]
  unfold gI pI
  simp [this]
theorem Fr.putL {w : List Nat × List Nat × List Nat} {a b c : S} (h : Fr w a b) {k : Nat} {v : Int} (e : c = pL b k v) (hk : w.2.1.contains k = true) : Fr w a c := by
  subst e
  refine ⟨h.1, fun i hi => ?_, h.2.2⟩
  have : i ≠ k := fun z => by rw [z, hk] at hi; cases hi
  rw [← h.2.1 i hi]
  unfold gL pL
  simp [this]
theorem Fr.putA {w : List Nat × List Nat × List Nat} {a b c : S} (h : Fr w a b) {k : Nat} {j v : Int} (e : c = pA b k j v) (hk : w.2.2.contains k = true) : Fr w a c := by
  subst e
  refine ⟨h.1, h.2.1, fun i hi => ?_⟩
  have : i ≠ k := fun z => by rw [z, hk] at hi; cases hi
  rw [← h.2.2 i hi]
  unfold gA pA
  funext x
  simp [this]
theorem Fr.weak {w w' : List Nat × List Nat × List Nat} {a b : S} (h : Fr w a b) (hw : Fw w w' = true) : Fr w' a b := by
  unfold Fw at hw
  simp only [Bool.and_eq_true, List.all_eq_true] at hw
  have key : ∀ (x y : List Nat), (∀ z, z ∈ x → y.contains z = true) → ∀ i, y.contains i = false → x.contains i = false := by
    intro x y hxy i hi
    cases hc : x.contains i with
    | false => rfl
    | true =>
      have := hxy i (List.contains_iff_mem.mp hc)
      rw [hi] at this
      cases this
  exact ⟨fun i e => h.1 i (key _ _ hw.1.1 i e), fun i e => h.2.1 i (key _ _ hw.1.2 i e), fun i e => h.2.2 i (key _ _ hw.2 i e)⟩
theorem ite_m {c : Prop} [Decidable c] {A A' B B' : Prop} (ha : c → A → A') (hb : ¬ c → B → B') (h : if c then A else B) : if c then A' else B' := by
  by_cases hc : c
  · rw [if_pos hc] at h ⊢; exact ha hc h
  · rw [if_neg hc] at h ⊢; exact hb hc h
def FrO (w : List Nat × List Nat × List Nat) (G : Orc) : Prop := ∀ (k : Nat) (l : List Int) (σ : S) (Q Q2 : Int → S → Prop) (E E2 : S → Prop), G k l σ Q E → (∀ r s, Fr w σ s → Q r s → Q2 r s) → (∀ s, Fr w σ s → E s → E2 s) → G k l σ Q2 E2

/-! RewriteHouse: the answers of a strategy -/
theorem xe_answers_0 (n : Nat) (a b c : Int) (σ : S) (Q : Int → S → Prop) (E : S → Prop) : x_S_answers (n + 1) 0 [a, b, c] σ Q E = x_answers_F (x_S_answers n) a b c σ Q E := rfl
theorem xe_answers_1 (n : Nat) (a b c : Int) (σ : S) (Q : Int → S → Prop) (E : S → Prop) : x_S_answers (n + 1) 1 [a, b, c] σ Q E = x_answersThen_F (x_S_answers n) a b c σ Q E := rfl
theorem xe_answers_2 (n : Nat) (a b c : Int) (σ : S) (Q : Int → S → Prop) (E : S → Prop) : x_S_answers (n + 1) 2 [a, b, c] σ Q E = x_answersMany_F (x_S_answers n) a b c σ Q E := rfl
section
variable {M : Mo} {R : Ru} {mo : Int} {σ0 : S} {a0 r0 : Int} {wl : Int → Int → Bool}
/-- a list of answers at a place -/
def anX (σ : S) (a : Int) (l : List Tr) : Prop := ∀ i : Nat, i < l.length → lvX σ (gA σ 118 (a + i)) ∧ l[i]? = some (tX σ (gA σ 118 (a + i)))
theorem anX.to {σ s : S} {a : Int} {l : List Tr} (h : anX σ a l) (g : gwX σ s) (e : ∀ j, a ≤ j → j < a + l.length → gA s 118 j = gA σ 118 j) : anX s a l := by
  intro i hi
  obtain ⟨a1, a2⟩ := h i hi
  rw [e _ (by omega) (by omega)]
  exact ⟨g.lv a1, by rw [a2, g.2.1 _ a1]⟩
theorem anX_nil (σ : S) (a : Int) : anX σ a [] := fun i hi => by simp at hi
theorem xs_addAnswer {σ : S} {st : ST} {a x n : Int} {l : List Tr} (hn0 : 1 ≤ gI σ0 93) (h : XR M R mo σ0 st σ) (lx : lvX σ x) (hl : anX σ a l) (en : n = (l.length : Int)) (l60 : l.length ≤ 60) (a0' : 0 ≤ a) (a1 : a + 61 ≤ 20000) :
    x_addAnswer a n x σ (fun r s => ∃ l', addTE (tX σ x) l st (.inr (l', st)) ∧ r = (l'.length : Int) ∧ okX M R mo σ0 σ st s ∧ anX s a l' ∧ Fr ([], [], [118]) σ s ∧ ∀ j, j < a ∨ a + 60 ≤ j → gA s 118 j = gA σ 118 j) (fun s => addTE (tX σ x) l st (.inl (gI s 1006, gI s 131)) ∧ noX M σ s) := by
  subst en
  have rg := h.1.rg
  unfold x_addAnswer
  refine lx_addAnswer_L3 (fun v4 s => s = σ ∧ ∃ i : Nat, v4 = (i : Int) ∧ i ≤ l.length ∧ ∀ j : Nat, j < i → ∀ q, l[j]? = some q → q ≠ tX σ x)
    (fun v4 _ => (l.length + 1 - v4.toNat)) ⟨rfl, 0, rfl, by omega, fun j hj => by omega⟩ ?_
  rintro v4 s fr0 ⟨rfl, i, rfl, hi, hne⟩
  try dsimp only
  by_cases yy : (i : Int) < (l.length : Int)
  · rw [if_pos yy, w32_id (by omega) (by omega)]
    refine ⟨⟨by omega, by omega⟩, ?_⟩
    obtain ⟨la, ea⟩ := hl i (by omega)
    by_cases z : gA s 118 (a + (i : Int)) = x
    · rw [if_pos z]
      refine ⟨l, Or.inl ⟨?_, rfl⟩, rfl, okX.rf h, hl, Fr.rf, fun _ _ => rfl⟩
      rw [z] at ea
      exact List.mem_of_getElem? ea
    · rw [if_neg z]
      have wi1 : w32 ((i : Int) + 1) = ((i + 1 : Nat) : Int) := by rw [w32_id (by omega) (by omega)]; omega
      rw [wi1]
      refine ⟨⟨rfl, i + 1, rfl, by omega, fun j hj q hq => ?_⟩, by omega⟩
      by_cases w : j = i
      · subst w
        rw [ea] at hq
        rw [← Option.some.inj hq]
        intro e
        exact z (h.1.inj la lx e)
      · exact hne j (by omega) q hq
  · rw [if_neg yy]
    have ei : i = l.length := by omega
    have nm : tX s x ∉ l := by
      intro hm
      obtain ⟨j, hj, ej⟩ := List.getElem_of_mem hm
      exact hne j (by omega) _ (by rw [List.getElem?_eq_getElem hj, ej]) rfl
    unfold x_addAnswer_j30
    by_cases w : (l.length : Int) = 60
    · rw [if_pos w]
      refine xs_stop ?_
      have fs : Fr ([1006], [], []) s (pI s 1006 2) := Fr.rf.putI rfl rfl
      refine ⟨Or.inr ⟨nm, ?_⟩, h.1.fr fs rfl, EyX.of_fr fs rfl⟩
      rw [if_pos (by omega)]
      simp only [gI_pI, gI_pL, gI_pA, gL_pI, gL_pL, gL_pA, gA_pI, gA_pL, gA_pA]
      rw [if_pos trivial, if_neg (by decide), h.2.2.2.1.1.1]
    · rw [if_neg w, w32_id (by omega) (by omega)]
      refine ⟨⟨by omega, by omega⟩, ?_⟩
      rintro t5 ht5
      have f5 : Fr ([], [], [118]) s t5 := Fr.rf.putA ht5 rfl
      have g5 : gwX s t5 := EyX.of_fr f5 rfl
      have wi1 : w32 ((l.length : Int) + 1) = ((l.length + 1 : Nat) : Int) := by rw [w32_id (by omega) (by omega)]; omega
      have ef : ∀ j : Int, gA t5 118 j = if j = a + (l.length : Int) then x else gA s 118 j := fun j => by
        rw [ht5]
        simp only [gI_pI, gI_pL, gI_pA, gL_pI, gL_pL, gL_pA, gA_pI, gA_pL, gA_pA]
        by_cases z : j = a + (l.length : Int)
        · rw [if_pos ⟨trivial, z⟩, if_pos z]
        · rw [if_neg (fun q => z q.2), if_neg z]
      refine ⟨l ++ [tX s x], Or.inr ⟨nm, by rw [if_neg (by omega)]⟩, ?_, (okX.rf h).fr3 hn0 rg.1 f5 rfl rfl rfl rfl rfl rfl rfl rfl, fun j hj => ?_, f5, fun j hj => by rw [ef, if_neg (by omega)]⟩
      · rw [wi1, List.length_append]
        rfl
      · rw [List.length_append] at hj
        simp only [List.length_cons, List.length_nil] at hj
        rw [ef]
        by_cases z : j = l.length
        · rw [if_pos (by omega), z, List.getElem?_append_right (Nat.le_refl _), Nat.sub_self]
          exact ⟨g5.lv lx, by rw [g5.2.1 _ lx]; rfl⟩
        · rw [if_neg (by omega), List.getElem?_append_left (by omega)]
          obtain ⟨la, ea⟩ := hl j (by omega)
          exact ⟨g5.lv la, by rw [ea, g5.2.1 _ la]⟩
/-- a strategy as it stands -/
def szX (M : Mo) (σ : S) : Nat → Int → Tr → Prop
  | 0, _, _ => False
  | n + 1, z, Z => (0 ≤ z ∧ z < 200) ∧ ((lab Z = 0 ∧ gA σ 115 z = 0) ∨ (lab Z = 1 ∧ gA σ 115 z = 1) ∨ (lab Z = 2 ∧ gA σ 115 z = 2) ∨ (100 ≤ lab Z ∧ lab Z < 100 + mRls M ∧ gA σ 115 z = 3 ∧ gA σ 116 z = gA σ 27 (40 + (lab Z - 100))) ∨
    (lab Z = 4 ∧ gA σ 115 z = 4 ∧ szX M σ n (gA σ 116 z) (kid0 Z) ∧ szX M σ n (gA σ 117 z) (kid1 Z)) ∨ (lab Z = 5 ∧ gA σ 115 z = 5 ∧ szX M σ n (gA σ 116 z) (kid0 Z) ∧ szX M σ n (gA σ 117 z) (kid1 Z)) ∨
    (lab Z = 6 ∧ gA σ 115 z = 6 ∧ szX M σ n (gA σ 116 z) (kid0 Z)) ∨ (lab Z = 7 ∧ gA σ 115 z = 7 ∧ szX M σ n (gA σ 116 z) (kid0 Z)) ∨ (lab Z = 8 ∧ gA σ 115 z = 8 ∧ szX M σ n (gA σ 116 z) (kid0 Z)) ∨ (lab Z = 9 ∧ gA σ 115 z = 9 ∧ szX M σ n (gA σ 116 z) (kid0 Z)))
theorem szX.fr {σ s : S} (e1 : gA s 115 = gA σ 115) (e2 : gA s 116 = gA σ 116) (e3 : gA s 117 = gA σ 117) (e4 : gA s 27 = gA σ 27) : ∀ n z Z, szX M σ n z Z → szX M s n z Z := by
  intro n
  induction n with
  | zero => intro z Z h; exact h.elim
  | succ n ih =>
    intro z Z h
    unfold szX at h ⊢
    rw [e1, e2, e3, e4]
    refine ⟨h.1, ?_⟩
    rcases h.2 with h | h | h | h | ⟨a, b, c, d⟩ | ⟨a, b, c, d⟩ | ⟨a, b, c⟩ | ⟨a, b, c⟩ | ⟨a, b, c⟩ | ⟨a, b, c⟩
    · exact Or.inl h
    · exact Or.inr (Or.inl h)
    · exact Or.inr (Or.inr (Or.inl h))
    · exact Or.inr (Or.inr (Or.inr (Or.inl h)))
    · exact Or.inr (Or.inr (Or.inr (Or.inr (Or.inl ⟨a, b, ih _ _ c, ih _ _ d⟩))))
    · exact Or.inr (Or.inr (Or.inr (Or.inr (Or.inr (Or.inl ⟨a, b, ih _ _ c, ih _ _ d⟩)))))
    · exact Or.inr (Or.inr (Or.inr (Or.inr (Or.inr (Or.inr (Or.inl ⟨a, b, ih _ _ c⟩))))))
    · exact Or.inr (Or.inr (Or.inr (Or.inr (Or.inr (Or.inr (Or.inr (Or.inl ⟨a, b, ih _ _ c⟩)))))))
    · exact Or.inr (Or.inr (Or.inr (Or.inr (Or.inr (Or.inr (Or.inr (Or.inr (Or.inl ⟨a, b, ih _ _ c⟩))))))))
    · exact Or.inr (Or.inr (Or.inr (Or.inr (Or.inr (Or.inr (Or.inr (Or.inr (Or.inr ⟨a, b, ih _ _ c⟩))))))))
/-- labels of rules -/
def llX (M : Mo) (σ : S) (wl : Int → Int → Bool) : Prop := ∀ r, 0 ≤ r → r < mRls M → 0 ≤ gA σ 27 (40 + r) ∧ ∀ q, 0 ≤ q → q < mRls M → (wl r (40 + q) = true ↔ gA σ 27 (40 + q) = gA σ 27 (40 + r))
def ANX (M : Mo) (R : Ru) (mo : Int) (σ0 : S) (a0 r0 : Int) (wl : Int → Int → Bool) (m n : Nat) : Prop :=
  ∀ (σ : S) (st : ST) (z x a : Int) (Z X : Tr), XR M R mo σ0 st σ → WI M R a0 r0 0 0 st → lvX σ x → tX σ x = X → DR M st X → RI 0 σ → szX M σ m z Z → llX M σ wl → 0 ≤ a → a + 122 * (m : Int) + 61 ≤ 20000 →
    x_S_answers n 0 [z, x, a] σ (fun r s => ∃ st' l, ansE M R mo wl m Z X st (.inr (l, st')) ∧ r = (l.length : Int) ∧ okX M R mo σ0 σ st' s ∧ anX s a l ∧ ∀ j, j < a → gA s 118 j = gA σ 118 j) (fun s => ansE M R mo wl m Z X st (.inl (gI s 1006, gI s 131)) ∧ noX M σ s)
/-- a list from another place comes to one -/
theorem addsE_snoc {st : ST} : ∀ (zs : List Tr) (z : Tr) (l l' : List Tr) (o : Out (List Tr)), addsE zs l st (.inr (l', st)) → addTE z l' st o → addsE (zs ++ [z]) l st o := by
  intro zs
  induction zs with
  | nil =>
    intro z l l' o h k
    simp only [addsE, Sum.inr.injEq, Prod.mk.injEq] at h
    obtain ⟨rfl, -⟩ := h
    rcases o with e | ⟨v, s⟩
    · exact bnd_inl k
    · exact bnd_inr k rfl
  | cons y zs ih =>
    intro z l l' o h k
    rcases h with ⟨e, -, h⟩ | ⟨l1, st1, p1, h⟩
    · cases h
    · have e1 : st1 = st := by
        rcases p1 with ⟨-, p⟩ | ⟨-, p⟩
        · simp only [Sum.inr.injEq, Prod.mk.injEq] at p; exact p.2
        · split at p
          · cases p
          · simp only [Sum.inr.injEq, Prod.mk.injEq] at p; exact p.2
      subst e1
      exact bnd_inr p1 (ih z l1 l' o h k)
theorem addsE_stop {st : ST} {e : Int × Int} : ∀ (zs ys : List Tr) (l : List Tr), addsE zs l st (.inl e) → addsE (zs ++ ys) l st (.inl e) := by
  intro zs
  induction zs with
  | nil => intro ys l h; cases h
  | cons z zs ih =>
    intro ys l h
    rcases h with ⟨e', p1, h⟩ | ⟨l1, st1, p1, h⟩
    · exact Or.inl ⟨e', p1, h⟩
    · have e1 : st1 = st := by
        rcases p1 with ⟨-, p⟩ | ⟨-, p⟩
        · simp only [Sum.inr.injEq, Prod.mk.injEq] at p; exact p.2
        · split at p
          · cases p
          · simp only [Sum.inr.injEq, Prod.mk.injEq] at p; exact p.2
      subst e1
      exact Or.inr ⟨l1, st1, p1, ih ys l1 h⟩
end

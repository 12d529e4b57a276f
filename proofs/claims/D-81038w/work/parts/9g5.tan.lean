/-! RewriteHouseModel: the answers of a strategy -/
theorem te_answers_0 (n : Nat) (a b : Int) (σ : S) (Q : Int → S → Prop) (E : S → Prop) : t_S_answers (n + 1) 0 [a, b] σ Q E = t_answers_F (t_S_answers n) a b σ Q E := rfl
theorem te_answers_1 (n : Nat) (a b c : Int) (σ : S) (Q : Int → S → Prop) (E : S → Prop) : t_S_answers (n + 1) 1 [a, b, c] σ Q E = t_addAll_F (t_S_answers n) a b c σ Q E := rfl
theorem te_answers_2 (n : Nat) (a b c d : Int) (σ : S) (Q : Int → S → Prop) (E : S → Prop) : t_S_answers (n + 1) 2 [a, b, c, d] σ Q E = t_thenAll_F (t_S_answers n) a b c d σ Q E := rfl
theorem te_answers_3 (n : Nat) (a b c : Int) (σ : S) (Q : Int → S → Prop) (E : S → Prop) : t_S_answers (n + 1) 3 [a, b, c] σ Q E = t_ends_F (t_S_answers n) a b c σ Q E := rfl
section
variable {M : Mo} {R : Ru} {mo : Int} {σ0 : S} {a0 r0 : Int} {sx : Int → Int} {wl : Int → Int → Bool}
/-- a list of answers at a place -/
def alT (σ : S) (a : Int) (l : List Tr) : Prop := ∀ i : Nat, i < l.length → lvT σ (gA σ 81 (a + i)) ∧ l[i]? = some (tT σ (gA σ 81 (a + i)))
/-- the topmost list -/
def anT (σ : S) (a : Int) (l : List Tr) : Prop := gI σ 129 = a + (l.length : Int) ∧ l.length ≤ 60 ∧ alT σ a l
theorem alT.to {σ s : S} {a : Int} {l : List Tr} (h : alT σ a l) (g : gwT σ s) (e : ∀ j, a ≤ j → j < a + l.length → gA s 81 j = gA σ 81 j) : alT s a l := by
  intro i hi
  obtain ⟨a1, a2⟩ := h i hi
  rw [e _ (by omega) (by omega)]
  exact ⟨g.lv a1, by rw [a2, g.2.1 _ a1]⟩
theorem alT_nil (σ : S) (a : Int) : alT σ a [] := fun i hi => by simp at hi
theorem flT.an {σ : S} {a : Int} {fl : FL} (h : flT σ a fl) : anT σ a (fl.map Prod.fst) := by
  refine ⟨by rw [List.length_map]; exact h.1, by rw [List.length_map]; exact h.2.1, fun i hi => ?_⟩
  rw [List.length_map] at hi
  obtain ⟨a1, a2⟩ := h.2.2 i hi
  exact ⟨a1, by rw [List.getElem?_map, a2]; rfl⟩
theorem ts_addTermA {σ : S} {st : ST} {u rl fr : Int} {l : List Tr} (hn0 : 0 ≤ gI σ0 80) (h : TR M R mo sx σ0 st σ) (lu : lvT σ u) (hl : anT σ fr l) (f0 : 0 ≤ fr) (f1 : fr + 61 ≤ 40000) :
    t_addTerm u rl fr σ (fun _ s => ∃ l', addTE (tT σ u) l st (.inr (l', st)) ∧ okY M R mo sx σ0 σ st s ∧ anT s fr l' ∧ tmN σ s) (fun s => addTE (tT σ u) l st (.inl (gI s 1006, gI s 120)) ∧ noY M σ s) := by
  obtain ⟨fl, hfl⟩ : ∃ fl : FL, fl = (List.range l.length).map (fun (i : Nat) => (tT σ (gA σ 81 (fr + i)), gA σ 82 (fr + i))) := ⟨_, rfl⟩
  have len : fl.length = l.length := by rw [hfl, List.length_map, List.length_range]
  have get : ∀ i, i < l.length → fl[i]? = some (tT σ (gA σ 81 (fr + i)), gA σ 82 (fr + i)) := fun i hi => by
    rw [hfl, List.getElem?_map, List.getElem?_range hi]
    rfl
  have mp : fl.map Prod.fst = l := by
    apply List.ext_getElem?
    intro i
    by_cases hi : i < l.length
    · rw [List.getElem?_map, get i hi, (hl.2.2 i hi).2]
      rfl
    · rw [List.getElem?_eq_none (by rw [List.length_map]; omega), List.getElem?_eq_none (by omega)]
  have hf : flT σ fr fl := ⟨by rw [len]; exact hl.1, by rw [len]; exact hl.2.1, fun i hi => ⟨(hl.2.2 i (by omega)).1, get i (by omega)⟩⟩
  have conv : ∀ o, addE (tT σ u) rl fl st o → addTE (tT σ u) l st (match o with | .inl e => .inl e | .inr (fl', s) => .inr (fl'.map Prod.fst, s)) := by
    rintro o (⟨a, b⟩ | ⟨a, b⟩)
    · rw [mp] at a
      subst b
      refine Or.inl ⟨a, ?_⟩
      show (Sum.inr (fl.map Prod.fst, st) : Out (List Tr)) = _
      rw [mp]
    · rw [mp] at a
      subst b
      refine Or.inr ⟨a, ?_⟩
      by_cases z : fl.length = 60
      · rw [if_pos z, if_pos (by omega)]
      · rw [if_neg z, if_neg (by omega)]
        show (Sum.inr ((fl ++ [(tT σ u, rl)]).map Prod.fst, st) : Out (List Tr)) = _
        rw [List.map_append, mp]
        rfl
  refine fm_t_addTerm (ts_addTerm hn0 h lu hf f0 f1) (fun _ s f q => ?_) (fun s f q => ⟨conv _ q.1, q.2⟩)
  obtain ⟨fl', e, k, hf', tm⟩ := q
  exact ⟨fl'.map Prod.fst, conv _ e, k, hf'.an, tm⟩
/-- a strategy as it stands -/
def szT (M : Mo) (sx : Int → Int) (σ : S) : Nat → Int → Tr → Prop
  | 0, _, _ => False
  | n + 1, z, Z => (0 ≤ z ∧ z < 200) ∧ ((lab Z = 0 ∧ gA σ 102 z = 0) ∨ (lab Z = 1 ∧ gA σ 102 z = 1) ∨ (lab Z = 2 ∧ gA σ 102 z = 2) ∨ (100 ≤ lab Z ∧ lab Z < 100 + mRls M ∧ gA σ 102 z = 3 ∧ gA σ 103 z = gA σ 69 (sx (40 + (lab Z - 100)))) ∨
    (lab Z = 4 ∧ gA σ 102 z = 4 ∧ szT M sx σ n (gA σ 103 z) (kid0 Z) ∧ szT M sx σ n (gA σ 104 z) (kid1 Z)) ∨ (lab Z = 5 ∧ gA σ 102 z = 5 ∧ szT M sx σ n (gA σ 103 z) (kid0 Z) ∧ szT M sx σ n (gA σ 104 z) (kid1 Z)) ∨
    (lab Z = 6 ∧ gA σ 102 z = 6 ∧ szT M sx σ n (gA σ 103 z) (kid0 Z)) ∨ (lab Z = 7 ∧ gA σ 102 z = 7 ∧ szT M sx σ n (gA σ 103 z) (kid0 Z)) ∨ (lab Z = 8 ∧ gA σ 102 z = 8 ∧ szT M sx σ n (gA σ 103 z) (kid0 Z)) ∨ (lab Z = 9 ∧ gA σ 102 z = 9 ∧ szT M sx σ n (gA σ 103 z) (kid0 Z)))
theorem szT.fr {σ s : S} (e1 : gA s 102 = gA σ 102) (e2 : gA s 103 = gA σ 103) (e3 : gA s 104 = gA σ 104) (e4 : gA s 69 = gA σ 69) : ∀ n z Z, szT M sx σ n z Z → szT M sx s n z Z := by
  intro n
  induction n with
  | zero => intro z Z h; exact h.elim
  | succ n ih =>
    intro z Z h
    unfold szT at h ⊢
    rw [e1, e2, e3, e4]
    refine ⟨h.1, ?_⟩
    rcases h.2 with h | h | h | h | ⟨a, b, c, d⟩ | ⟨a, b, c, d⟩ | ⟨a, b, c⟩ | ⟨a, b, c⟩ | ⟨a, b, c⟩ | ⟨a, b, c⟩
    · exact Or.inl h
    · exact Or.inr (Or.inl h)
    · exact Or.inr (Or.inr (Or.inl h))
    · exact Or.inr (Or.inr (Or.inr (Or.inl h)))
    · exact Or.inr (Or.inr (Or.inr (Or.inr (Or.inl ⟨a, b, ih _ _ c, ih _ _ d⟩))))
    · exact Or.inr (Or.inr (Or.inr (Or.inr (Or.inr (Or.inl ⟨a, b, ih _ _ c, ih _ _ d⟩)))))
    · exact Or.inr (Or.inr (Or.inr (Or.inr (Or.inr (Or.inr (Or.inl ⟨a, b, ih _ _ c⟩))))))
    · exact Or.inr (Or.inr (Or.inr (Or.inr (Or.inr (Or.inr (Or.inr (Or.inl ⟨a, b, ih _ _ c⟩)))))))
    · exact Or.inr (Or.inr (Or.inr (Or.inr (Or.inr (Or.inr (Or.inr (Or.inr (Or.inl ⟨a, b, ih _ _ c⟩))))))))
    · exact Or.inr (Or.inr (Or.inr (Or.inr (Or.inr (Or.inr (Or.inr (Or.inr (Or.inr ⟨a, b, ih _ _ c⟩))))))))
def llT (M : Mo) (sx : Int → Int) (σ : S) (wl : Int → Int → Bool) : Prop := ∀ r, 0 ≤ r → r < mRls M → 0 ≤ gA σ 69 (sx (40 + r)) ∧ ∀ q, 0 ≤ q → q < mRls M → (wl r (40 + q) = true ↔ gA σ 69 (sx (40 + q)) = gA σ 69 (sx (40 + r)))
def ANT (M : Mo) (R : Ru) (mo : Int) (sx : Int → Int) (σ0 : S) (a0 r0 : Int) (wl : Int → Int → Bool) (m n : Nat) : Prop :=
  ∀ (σ : S) (st : ST) (z x fr : Int) (Z X : Tr), TR M R mo sx σ0 st σ → WI M R a0 r0 0 0 st → lvT σ x → tT σ x = X → okT M X → DR M st X → SY 0 σ → szT M sx σ m z Z → llT M sx σ wl → gI σ 129 = fr → 0 ≤ fr → fr + 122 * (m : Int) + 62 ≤ 40000 →
    t_S_answers n 0 [z, x] σ (fun r s => ∃ st' l, ansE M R mo wl m Z X st (.inr (l, st')) ∧ r = (l.length : Int) ∧ okY M R mo sx σ0 σ st' s ∧ anT s fr l ∧ tmF fr σ s) (fun s => ansE M R mo wl m Z X st (.inl (gI s 1006, gI s 120)) ∧ noY M σ s)
/-- answers that come to a list -/
def ADT (M : Mo) (R : Ru) (mo : Int) (sx : Int → Int) (σ0 : S) (a0 r0 : Int) (wl : Int → Int → Bool) (m n : Nat) : Prop :=
  ∀ (σ : S) (st : ST) (z x fr : Int) (Z X : Tr) (l : List Tr), TR M R mo sx σ0 st σ → WI M R a0 r0 0 0 st → lvT σ x → tT σ x = X → okT M X → DR M st X → SY 0 σ → szT M sx σ m z Z → llT M sx σ wl → anT σ fr l → anK M st l → 0 ≤ fr → fr + 60 + 122 * (m : Int) + 62 ≤ 40000 →
    t_S_answers n 1 [z, x, fr] σ (fun r s => ∃ st' l1 l2, ansE M R mo wl m Z X st (.inr (l1, st')) ∧ addsE l1 l st' (.inr (l2, st')) ∧ r = (l1.length : Int) ∧ okY M R mo sx σ0 σ st' s ∧ anT s fr l2 ∧ tmF (fr + (l.length : Int)) σ s) (fun s => bnd (ansE M R mo wl m Z X st) (fun l1 st1 o => addsE l1 l st1 o) (.inl (gI s 1006, gI s 120)) ∧ noY M σ s)
theorem ts_addAll (c : cxT2 M R mo σ0 (a0 + 50) (r0 + 50)) {m n : Nat} (ih : ANT M R mo sx σ0 a0 r0 wl m n) : ADT M R mo sx σ0 a0 r0 wl m (n + 1) := by
  have hM := c.1.wm
  have hn0 := c.2.1.1
  intro σ st z x fr Z X l h wi lx eX ox dx sy sz hll hl kl f0 f1
  have rg := h.1.rg
  rw [te_answers_1]
  unfold t_addAll_F
  have l60 := hl.2.1
  obtain ⟨top, htop⟩ : ∃ z, z = gI σ 129 := ⟨_, rfl⟩
  have et : top = fr + (l.length : Int) := by rw [htop]; exact hl.1
  rw [← htop]
  refine fo_t_S_answers n _ _ _ _ _ _ _ (ih σ st z x top Z X h wi lx eX ox dx sy sz hll htop.symm (by omega) (by omega)) (fun r3 t2 f2 q => ?_) (fun t2 f2 q => ⟨bnd_inl q.1, q.2⟩)
  obtain ⟨st1, l1, e1, rfl, k2, hl1, tm2⟩ := q
  have w1 := ansE_wi hM c.2.2.1 m Z X st l1 st1 ox dx wi e1
  have l160 := hl1.2.1
  rintro t5 ht5
  have f5 : Fr ([129], [], []) t2 t5 := Fr.rf.putI ht5 rfl
  have k5 := k2.fr3 hn0 rg.1 f5 rfl rfl rfl rfl rfl rfl rfl
  have g25 : gwT t2 t5 := EyT.of_fr f5 rfl
  have hl5 : anT t5 fr l := ⟨by rw [ht5]; simp only [gI_pI, gI_pL, gI_pA, gL_pI, gL_pL, gL_pA, gA_pI, gA_pL, gA_pA]; rw [if_pos trivial, et], l60, hl.2.2.to k5.2.1 (fun j j0 j1 => by rw [f5.a _ rfl]; exact (tm2 j (by omega)).1)⟩
  have src5 : alT t5 top l1 := hl1.2.2.to g25 (fun j _ _ => by rw [f5.a _ rfl])
  refine lt_addAll_L23 (fo_t_S_answers n) (fun v6 s => ∃ (k : Nat) (lc : List Tr), v6 = (k : Int) ∧ k ≤ l1.length ∧ addsE (l1.take k) l st1 (.inr (lc, st1)) ∧ okY M R mo sx σ0 σ st1 s ∧ gwT t5 s ∧ anT s fr lc ∧ lc.length ≤ l.length + k ∧ l.length ≤ lc.length ∧ (∀ j, (j < top ∨ top + (k : Int) ≤ j) → gA s 81 j = gA t5 81 j) ∧ ∀ j, j < top → gA s 82 j = gA t5 82 j)
    (fun v6 _ => (l1.length - v6.toNat)) ⟨0, l, rfl, by omega, by rw [List.take_zero]; rfl, k5, EyT.rf _ _, hl5, by omega, by omega, fun _ _ => rfl, fun _ _ => rfl⟩ ?_
  rintro v6 s fr0 ⟨k, lc, rfl, hk, had, ko, g5s, hlc, hle, hge, frt, frr⟩
  try dsimp only
  by_cases yy : (k : Int) < (l1.length : Int)
  · rw [if_pos yy]
    have wk : w32 (top + (k : Int)) = top + k := w32_id (by omega) (by omega)
    have wi1 : w32 ((k : Int) + 1) = ((k + 1 : Nat) : Int) := by rw [w32_id (by omega) (by omega)]; omega
    rw [wk, wi1]
    refine ⟨⟨by omega, by omega⟩, ?_⟩
    obtain ⟨a1, a2⟩ := src5 k (by omega)
    rw [frt _ (Or.inr (Int.le_refl _))]
    have ly := g5s.lv a1
    have ey : l1[k]? = some (tT s (gA t5 81 (top + (k : Int)))) := by rw [a2, g5s.2.1 _ a1]
    have tk := take_one ey
    refine fm_t_addTerm (ts_addTermA hn0 ko.1 ly hlc f0 (by omega)) (fun _ s' f' q => ?_) (fun s' f' q => ⟨bnd_inr e1 ?_, q.2.pre rg.1 ko⟩)
    · obtain ⟨l', e, k', hl', tm'⟩ := q
      have sp := addTE_an (M := M) (st := st1) (w1.2.2.2 _ (List.mem_of_getElem? ey)) (addsE_an (l1.take k) l st1 lc st1 (fun z hz => w1.2.2.2 z (List.mem_of_mem_take hz)) (kl.le w1.2.1) had).2.1 e
      have ll : l'.length ≤ lc.length + 1 := by
        rcases e with ⟨-, e⟩ | ⟨-, e⟩
        · simp only [Sum.inr.injEq, Prod.mk.injEq] at e
          rw [e.1]; omega
        · split at e
          · cases e
          · simp only [Sum.inr.injEq, Prod.mk.injEq] at e
            rw [e.1, List.length_append]
            simp only [List.length_cons, List.length_nil]
            omega
      have lg : lc.length ≤ l'.length := by
        obtain ⟨-, -, tt, e3⟩ := sp
        rw [e3, List.length_append]; omega
      have top' : gI s 129 = fr + (lc.length : Int) := hlc.1
      refine ⟨⟨k + 1, l', rfl, by omega, ?_, okY.trans rg.1 ko k', g5s.trans k'.2.1 (by have := k5.1.1.rg; omega), hl', by omega, by omega, fun j hj => ?_, fun j hj => ?_⟩, by omega⟩
      · rw [tk]
        exact addsE_snoc _ _ _ _ _ had e
      · rw [(tm' j (by omega)).1, frt j (by omega)]
      · rw [(tm' j (by omega)).2, frr j hj]
    · have e := addsE_stop _ (l1.drop (k + 1)) _ (by rw [tk]; exact addsE_snoc _ _ _ _ _ had q.1 : addsE (l1.take (k + 1)) l st1 (.inl (gI s' 1006, gI s' 120)))
      rwa [List.take_append_drop] at e
  · rw [if_neg yy]
    have ek : k = l1.length := by omega
    rw [ek, List.take_length] at had
    exact ⟨st1, l1, lc, e1, had, rfl, ko, hlc, fun j hj => ⟨by rw [frt j (by omega), f5.a _ rfl, (tm2 j (by omega)).1], by rw [frr j (by omega), f5.a _ rfl, (tm2 j (by omega)).2]⟩⟩
end

/-! states: what is found. A state: its term, from which, by which rule, how far -/
abbrev SL : Type := List (Tr × Int × Int × Int)
section
variable {M : Mo} {R : Ru} {mo : Int} {a0 r0 : Int}
def isIx (L : SL) (z : Tr) (j : Nat) : Prop := j ≤ L.length ∧ (∀ i q, i < j → L[i]? = some q → q.1 ≠ z) ∧ ∀ q, L[j]? = some q → q.1 = z
def farO (L : SL) (k : Nat) : Int := match L[k]? with
  | some q => q.2.2.2
  | none => 0
def linkE (k : Nat) : FL → SL × List Int → ST → Out (SL × List Int) → Prop
  | [], ld, st, o => o = .inr (ld, st)
  | (z, r) :: fl, ld, st, o => ∃ j, isIx ld.1 z j ∧ ((j < ld.1.length ∧ linkE k fl (ld.1, ld.2 ++ [(j : Int)]) st o) ∨ (j = ld.1.length ∧ ((ld.1.length = 120 ∧ o = .inl (2, stS st)) ∨ (ld.1.length ≠ 120 ∧ linkE k fl (ld.1 ++ [(z, (k : Int), r, farO ld.1 k + 1)], ld.2 ++ [(j : Int)]) st o))))
def stLoopE (M : Mo) (R : Ru) (mo : Int) : Nat → SL → List Int → List Int → ST → Out (SL × List Int × List Int) → Prop
  | 0, _, _, _, _, _ => False
  | n + 1, L, D, F, st, o => match L[F.length]? with
    | none => o = .inr ((L, D, F ++ [(D.length : Int)]), st)
    | some q => bnd (stepsE M R mo wAll q.1 st) (fun fl st1 o => bnd (linkE F.length fl (L, D) st1) (fun ld st2 o => stLoopE M R mo n ld.1 ld.2 (F ++ [(D.length : Int)]) st2 o) o) o
def statesE (M : Mo) (R : Ru) (mo : Int) (x : Tr) (st : ST) (o : Out (SL × List Int × List Int)) : Prop := stLoopE M R mo 122 [(x, -2, -2, 0)] [] [] st o
theorem isIx_det {L : SL} {z : Tr} {i j : Nat} (h : isIx L z i) (k : isIx L z j) : i = j := by
  have one : ∀ {i j : Nat}, isIx L z i → isIx L z j → ¬ i < j := by
    intro i j h k hlt
    have li : i < L.length := by have := k.1; omega
    have e := List.getElem?_eq_getElem li
    exact k.2.1 i _ hlt e (h.2.2 _ e)
  have a := one h k
  have b := one k h
  omega
theorem linkE_det (k : Nat) : ∀ fl ld st a b, linkE k fl ld st a → linkE k fl ld st b → a = b := by
  intro fl
  induction fl with
  | nil => intro ld st a b x y; exact eq_det a b x y
  | cons q fl ih =>
    obtain ⟨z, r⟩ := q
    rintro ld st a b ⟨i, hi, ha⟩ ⟨j, hj, hb⟩
    have e := isIx_det hi hj
    subst e
    rcases ha with ⟨l1, ha⟩ | ⟨l1, ⟨n1, ha⟩ | ⟨n1, ha⟩⟩ <;> rcases hb with ⟨l2, hb⟩ | ⟨l2, ⟨n2, hb⟩ | ⟨n2, hb⟩⟩ <;> (try (exfalso; omega))
    · exact ih _ _ _ _ ha hb
    · exact eq_det a b ha hb
    · exact ih _ _ _ _ ha hb
theorem stLoopE_det : ∀ n L D F st a b, stLoopE M R mo n L D F st a → stLoopE M R mo n L D F st b → a = b := by
  intro n
  induction n with
  | zero => intro L D F st a b x; exact x.elim
  | succ n ih =>
    intro L D F st a b
    simp only [stLoopE]
    split
    · exact fun x y => eq_det a b x y
    · exact bnd_det (stepsE_det wAll _ st) (fun fl st1 b c => bnd_det (linkE_det _ fl _ st1) (fun ld st2 b c => ih _ _ _ _ b c))
theorem statesE_det (x : Tr) (st : ST) : ∀ a b, statesE M R mo x st a → statesE M R mo x st b → a = b := stLoopE_det _ _ _ _ _
/-- what is in the list -/
def slF (L : SL) : Prop := ∀ (i : Nat) q, L[i]? = some q → 0 ≤ q.2.2.2 ∧ q.2.2.2 ≤ (i : Int)
def slK (M : Mo) (st : ST) (L : SL) : Prop := (L.length ≤ 120 ∧ slF L) ∧ ∀ q ∈ L, DR M st q.1 ∧ okT M q.1
theorem farO_at {L : SL} {k : Nat} {q : Tr × Int × Int × Int} (h : L[k]? = some q) : farO L k = q.2.2.2 := by
  unfold farO
  rw [h]
theorem slF.far {L : SL} (h : slF L) {k : Nat} (hk : k < L.length) : 0 ≤ farO L k ∧ farO L k ≤ (k : Int) := by
  have e := List.getElem?_eq_getElem hk
  rw [farO_at e]
  exact h k _ e
theorem slF.snoc {L : SL} (h : slF L) {q : Tr × Int × Int × Int} (h0 : 0 ≤ q.2.2.2) (h1 : q.2.2.2 ≤ (L.length : Int)) : slF (L ++ [q]) := by
  intro i p hp
  by_cases z : i < L.length
  · rw [List.getElem?_append_left z] at hp
    exact h i p hp
  · have lt := (List.getElem?_eq_some_iff.mp hp).1
    rw [List.length_append] at lt
    simp only [List.length_cons, List.length_nil] at lt
    have ei : i = L.length := by omega
    rw [ei, List.getElem?_append_right (Nat.le_refl _), Nat.sub_self] at hp
    rw [← Option.some.inj hp, ei]
    exact ⟨h0, h1⟩
theorem slK.le {st st' : ST} (h : leS st st') {L : SL} (k : slK M st L) : slK M st' L := ⟨k.1, fun q hq => ⟨(k.2 q hq).1.le h (k.2 q hq).2.1.1, (k.2 q hq).2⟩⟩
theorem linkE_wi (k : Nat) : ∀ (fl : FL) (ld : SL × List Int) (st : ST) ld' st', (∀ q ∈ fl, DR M st q.1 ∧ okT M q.1) → slK M st ld.1 → k < ld.1.length → linkE k fl ld st (.inr (ld', st')) → st' = st ∧ slK M st ld'.1 ∧ ld'.2.length = ld.2.length + fl.length ∧ ld.1.length ≤ ld'.1.length := by
  intro fl
  induction fl with
  | nil =>
    intro ld st ld' st' _ hl _ h
    simp only [linkE, Sum.inr.injEq, Prod.mk.injEq] at h
    obtain ⟨rfl, rfl⟩ := h
    exact ⟨rfl, hl, by simp, Nat.le_refl _⟩
  | cons q fl ih =>
    obtain ⟨z, r⟩ := q
    rintro ld st ld' st' hq hl hk ⟨j, hj, ⟨l1, h⟩ | ⟨l1, ⟨n1, h⟩ | ⟨n1, h⟩⟩⟩
    · obtain ⟨e1, e2, e3, e4⟩ := ih (ld.1, ld.2 ++ [(j : Int)]) st ld' st' (fun q hq' => hq q (List.mem_cons_of_mem _ hq')) hl hk h
      refine ⟨e1, e2, ?_, e4⟩
      rw [e3, List.length_append]
      simp only [List.length_cons, List.length_nil]
      omega
    · cases h
    · have fr := hl.1.2.far hk
      obtain ⟨e1, e2, e3, e4⟩ := ih (ld.1 ++ [(z, (k : Int), r, farO ld.1 k + 1)], ld.2 ++ [(j : Int)]) st ld' st' (fun q hq' => hq q (List.mem_cons_of_mem _ hq')) (by
        refine ⟨⟨by rw [List.length_append]; have := hl.1.1; simp only [List.length_cons, List.length_nil]; omega, hl.1.2.snoc (by show 0 ≤ farO ld.1 k + 1; omega) (by show farO ld.1 k + 1 ≤ _; omega)⟩, fun q hq' => ?_⟩
        rcases List.mem_append.mp hq' with e | e
        · exact hl.2 q e
        · rw [List.mem_singleton.mp e]; exact hq (z, r) (List.mem_cons_self ..)) (by rw [List.length_append]; omega) h
      refine ⟨e1, e2, ?_, ?_⟩
      · rw [e3, List.length_append]
        simp only [List.length_cons, List.length_nil]
        omega
      · rw [List.length_append] at e4
        omega
def wiL (M : Mo) (R : Ru) (a0 r0 : Int) (st st' : ST) (L : SL) : Prop := WI M R a0 r0 0 0 st' ∧ leS st st' ∧ slK M st' L
theorem stLoopE_wi (hM : WM M) (hR : ∀ s, stX M s → RuOK M R s) : ∀ n L D F st q st', slK M st L → WI M R a0 r0 0 0 st → F.length ≤ L.length → D.length ≤ 60 * F.length → stLoopE M R mo n L D F st (.inr (q, st')) → wiL M R a0 r0 st st' q.1 ∧ q.2.2.length = q.1.length + 1 ∧ q.2.1.length ≤ 7200 ∧ 1 ≤ n := by
  intro n
  induction n with
  | zero => intro L D F st q st' _ _ _ _ h; exact h.elim
  | succ n ih =>
    intro L D F st q st' hl hw hF hD h
    simp only [stLoopE] at h
    split at h
    · rename_i hx
      simp only [Sum.inr.injEq, Prod.mk.injEq] at h
      obtain ⟨rfl, rfl⟩ := h
      have := List.getElem?_eq_none_iff.mp hx
      have := hl.1.1
      refine ⟨⟨hw, leS.rf _, hl⟩, ?_, ?_, by omega⟩
      · rw [List.length_append]; simp only [List.length_cons, List.length_nil]; omega
      · show D.length ≤ 7200
        omega
    · rename_i x hx
      have lt := (List.getElem?_eq_some_iff.mp hx).1
      have x0 := hl.2 x (List.mem_of_getElem? hx)
      obtain ⟨fl, st1, p1, h3⟩ := bnd_ok h
      obtain ⟨ld, st2, p2, h2⟩ := bnd_ok h3
      obtain ⟨w1, l1, k1⟩ := stepsE_wi hM hR x0.2 x0.1 hw p1
      obtain ⟨es, k2, e3, e4⟩ := linkE_wi _ fl (L, D) st1 ld st2 k1.2 (hl.le l1) lt p2
      rw [es] at h2
      have f60 := k1.1.1
      obtain ⟨⟨w3, l3, k3⟩, r⟩ := ih _ _ _ _ _ _ k2 w1 (by rw [List.length_append]; simp only [List.length_cons, List.length_nil] at e4 ⊢; omega) (by rw [List.length_append, e3]; simp only [List.length_cons, List.length_nil]; omega) h2
      exact ⟨⟨w3, l1.trans l3, k3⟩, r.1, r.2.1, by omega⟩
end

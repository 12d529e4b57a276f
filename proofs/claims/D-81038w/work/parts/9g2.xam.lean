/-! RewriteHouse: lists of answers that come together -/
section
variable {M : Mo} {R : Ru} {mo : Int} {σ0 : S} {a0 r0 : Int} {wl : Int → Int → Bool}
def adX (M : Mo) (R : Ru) (mo : Int) (σ0 σ : S) (st : ST) (a : Int) (zs l : List Tr) (n i : Int) (s : S) : Prop :=
  ∃ (k : Nat) (lc : List Tr), i = (k : Int) ∧ k ≤ zs.length ∧ addsE (zs.take k) l st (.inr (lc, st)) ∧ n = (lc.length : Int) ∧ lc.length ≤ 60 ∧ anX s a lc ∧ okX M R mo σ0 σ st s ∧ Fr ([], [], [118]) σ s ∧ ∀ j, j < a ∨ a + 60 ≤ j → gA s 118 j = gA σ 118 j
theorem adX_0 {σ : S} {st : ST} {a : Int} {zs l : List Tr} (h : XR M R mo σ0 st σ) (hl : anX σ a l) (l60 : l.length ≤ 60) : adX M R mo σ0 σ st a zs l (l.length : Int) 0 σ := ⟨0, l, rfl, by omega, by rw [List.take_zero]; rfl, rfl, l60, hl, okX.rf h, Fr.rf, fun _ _ => rfl⟩
theorem take_one {l : List Tr} {k : Nat} {t : Tr} (h : l[k]? = some t) : l.take (k + 1) = l.take k ++ [t] := by rw [List.take_add_one, h]; rfl
theorem ad_step {σ s : S} {st : ST} {a y n i : Int} {zs l : List Tr} {X : Int → S → Prop} {E : S → Prop} (hn0 : 1 ≤ gI σ0 93) (hn : 1 ≤ gI σ 93) (I : adX M R mo σ0 σ st a zs l n i s) (ly : lvX s y) (ey : zs[i.toNat]? = some (tX s y)) (a0' : 0 ≤ a) (a1 : a + 61 ≤ 20000)
    (hX : ∀ r s', adX M R mo σ0 σ st a zs l r (i + 1) s' → X r s') (hE : ∀ s', addsE zs l st (.inl (gI s' 1006, gI s' 131)) → noX M σ s' → E s') : x_addAnswer a n y s X E := by
  obtain ⟨k, lc, rfl, hk, had, rfl, l60, hl, ko, fs, fr⟩ := I
  rw [Int.toNat_natCast] at ey
  have lt := (List.getElem?_eq_some_iff.mp ey).1
  have tk := take_one ey
  refine fm_x_addAnswer (xs_addAnswer hn0 ko.1 ly hl rfl l60 a0' a1) (fun r s' f q => ?_) (fun s' f q => hE s' ?_ (q.2.pre hn ko))
  · obtain ⟨l', e, rfl, k', hl', f', fr'⟩ := q
    refine hX _ _ ⟨k + 1, l', by omega, by omega, ?_, rfl, ?_, hl', okX.trans hn ko k', fs.trans f', fun j hj => (fr' j hj).trans (fr j hj)⟩
    · rw [tk]
      exact addsE_snoc _ _ _ _ _ had e
    · rcases e with ⟨-, e⟩ | ⟨-, e⟩
      · simp only [Sum.inr.injEq, Prod.mk.injEq] at e
        rw [e.1]; exact l60
      · split at e
        · cases e
        · simp only [Sum.inr.injEq, Prod.mk.injEq] at e
          rw [e.1, List.length_append]
          simp only [List.length_cons, List.length_nil]
          omega
  · have e := addsE_stop _ (zs.drop (k + 1)) _ (by rw [tk]; exact addsE_snoc _ _ _ _ _ had q.1 : addsE (zs.take (k + 1)) l st (.inl (gI s' 1006, gI s' 131)))
    rwa [List.take_append_drop] at e
theorem ad_end {σ s : S} {st : ST} {a n i : Int} {zs l : List Tr} (I : adX M R mo σ0 σ st a zs l n i s) (hi : (zs.length : Int) ≤ i) : ∃ lc, addsE zs l st (.inr (lc, st)) ∧ n = (lc.length : Int) ∧ lc.length ≤ 60 ∧ anX s a lc ∧ okX M R mo σ0 σ st s ∧ Fr ([], [], [118]) σ s ∧ ∀ j, j < a ∨ a + 60 ≤ j → gA s 118 j = gA σ 118 j := by
  obtain ⟨k, lc, rfl, hk, had, rfl, l60, hl, ko, fs, fr⟩ := I
  have ek : k = zs.length := by omega
  rw [ek, List.take_length] at had
  exact ⟨lc, had, rfl, l60, hl, ko, fs, fr⟩
/-- a source that stays -/
theorem ad_src {σ s : S} {st : ST} {a b n i : Int} {zs l : List Tr} (I : adX M R mo σ0 σ st a zs l n i s) (hs : anX σ b zs) (hb : b + zs.length ≤ a ∨ a + 60 ≤ b) (hi : i < (zs.length : Int)) : lvX s (gA s 118 (b + i)) ∧ zs[i.toNat]? = some (tX s (gA s 118 (b + i))) := by
  obtain ⟨k, lc, rfl, hk, had, rfl, l60, hl, ko, fs, fr⟩ := I
  obtain ⟨a1, a2⟩ := hs k (by omega)
  rw [fr _ (by omega), Int.toNat_natCast]
  exact ⟨ko.2.1.lv a1, by rw [a2, ko.2.1.2.1 _ a1]⟩
theorem xs_join {σ : S} {st : ST} {a : Int} {zs l : List Tr} (hn0 : 1 ≤ gI σ0 93) (h : XR M R mo σ0 st σ) (hl : anX σ a l) (hz : anX σ (a + 61) zs) (l60 : l.length ≤ 60) (z60 : zs.length ≤ 60) (a0' : 0 ≤ a) (a1 : a + 122 ≤ 20000) :
    x_join a (l.length : Int) (zs.length : Int) σ (fun r s => ∃ lc, addsE zs l st (.inr (lc, st)) ∧ r = (lc.length : Int) ∧ okX M R mo σ0 σ st s ∧ anX s a lc ∧ Fr ([], [], [118]) σ s ∧ ∀ j, j < a ∨ a + 60 ≤ j → gA s 118 j = gA σ 118 j) (fun s => addsE zs l st (.inl (gI s 1006, gI s 131)) ∧ noX M σ s) := by
  have rg := h.1.rg
  unfold x_join
  refine lx_join_L6 (fun n i s => adX M R mo σ0 σ st a zs l n i s) (fun _ i _ => (zs.length - i.toNat)) (adX_0 h hl l60) ?_
  rintro n i s fr0 I
  try dsimp only
  have I2 := I
  obtain ⟨k, lc, rfl, hk, -⟩ := I2
  by_cases yy : (k : Int) < (zs.length : Int)
  · rw [if_pos yy]
    have w1 : w32 (w32 (w32 (a + 60) + 1) + (k : Int)) = a + 61 + k := by
      simp (disch := omega) only [w32_id]
      omega
    have wi1 : w32 ((k : Int) + 1) = (k : Int) + 1 := w32_id (by omega) (by omega)
    rw [w1, wi1]
    refine ⟨⟨by omega, by omega⟩, ?_⟩
    obtain ⟨ly, ey⟩ := ad_src I hz (Or.inr (by omega)) yy
    exact ad_step hn0 rg.1 I ly ey a0' (by omega) (fun r s' I' => ⟨I', by omega⟩) (fun s' e no => ⟨e, no⟩)
  · rw [if_neg yy]
    obtain ⟨lc, e, en, -, hl', ko, fs, fr⟩ := ad_end I (by omega)
    exact ⟨lc, e, en, ko, hl', fs, fr⟩
end

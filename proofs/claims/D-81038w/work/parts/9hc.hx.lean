/-! terms that stand outside: handles -/
theorem wi_start {M : Mo} {R : Ru} {t : Tr} (ht : okT M t) : WI M R 40 40 0 0 (st0 (subs t)) ∧ KH M (st0 (subs t)) t := by
  have r := subs_rows ht.1.1
  have l := subs_len ht.1.1
  have s40 := ht.2
  refine ⟨⟨fun t h _ => absurd rfl h, fun t _ h => absurd rfl h, ?_, ?_, ?_, ?_, fun x hx => (subs_NF ht hx).1⟩, fun q hq => Or.inr (Or.inl hq)⟩
  · show (((subs t).length : Nat) : Int) ≤ 40 + 0 + 0 + 0; omega
  · show 2 * (rowsN (subs t) : Int) ≤ 40 + 0 + 0 + 0; omega
  · show (0 : Int) ≤ 4000; omega
  · show (0 : Int) ≤ 600; omega
theorem wi_start2 {M : Mo} {R : Ru} {t u : Tr} (ht : okT M t) (hu : okT M u) : WI M R 80 80 0 0 (st0 (subs t ++ subs u)) ∧ KH M (st0 (subs t ++ subs u)) t ∧ KH M (st0 (subs t ++ subs u)) u := by
  have r := subs_rows ht.1.1
  have l := subs_len ht.1.1
  have r2 := subs_rows hu.1.1
  have l2 := subs_len hu.1.1
  have s40 := ht.2
  have s402 := hu.2
  refine ⟨⟨fun t h _ => absurd rfl h, fun t _ h => absurd rfl h, ?_, ?_, ?_, ?_, fun x hx => ?_⟩, fun q hq => Or.inr (Or.inl (List.mem_append_left _ hq)), fun q hq => Or.inr (Or.inl (List.mem_append_right _ hq))⟩
  · show (((subs t ++ subs u).length : Nat) : Int) ≤ 80 + 0 + 0 + 0
    rw [List.length_append]; omega
  · show 2 * (rowsN (subs t ++ subs u) : Int) ≤ 80 + 0 + 0 + 0
    rw [rowsN_app]; omega
  · show (0 : Int) ≤ 4000; omega
  · show (0 : Int) ≤ 600; omega
  · rcases List.mem_append.mp hx with e | e
    · exact (subs_NF ht e).1
    · exact (subs_NF hu e).1
def okH (M : Mo) (hs : List Tr) : Prop := hs.length ≤ 200 ∧ ∀ t ∈ hs, okT M t
def HX (hs : List Tr) (σ : S) : Prop := gI σ 111 = (hs.length : Int) ∧ ∀ (i : Nat) (t : Tr), hs[i]? = some t → atR (gA σ 77) (80 * (i : Int)) (sv t)
theorem HX.fr {hs : List Tr} {σ s : S} {w : List Nat × List Nat × List Nat} (h : HX hs σ) (f : Fr w σ s) (hw : apt w [111] [77] = true) : HX hs s := by
  have hi := apt_i hw f
  have ha := apt_a hw f
  simp only [List.forall_mem_cons] at hi ha
  unfold HX
  rw [hi.1, ha.1]
  exact h
theorem svA_h : svA 77 := Or.inl rfl
theorem dH : ((dAln dX 77 : Nat) : Int) = 16000 := rfl
theorem xs_isHandle {hs : List Tr} {σ : S} (h : HX hs σ) (hl : hs.length ≤ 200) {v : Int} {Q : Int → S → Prop} (hQ : Q (bi (0 ≤ v ∧ v < (hs.length : Int))) σ) : x_isHandle v σ Q := by
  unfold x_isHandle x_within
  rw [h.1, w32_id (by omega) (by omega)]
  have e : bi (¬ (v < 0) ∧ (v ≤ (hs.length : Int) - 1)) = bi (0 ≤ v ∧ v < (hs.length : Int)) := by
    by_cases z : 0 ≤ v ∧ v < (hs.length : Int)
    · rw [bi_t z, bi_t (by omega)]
    · rw [bi_f z, bi_f (by omega)]
  rw [e]
  exact hQ
theorem xs_newHandle {M : Mo} {hs : List Tr} {σ : S} (h : XP M σ) (hx : HX hs σ) (hok : okH M hs) (hl : hs.length < 200) {x : Int} (lx : lvX σ x) : x_newHandle x σ (fun r s => r = (hs.length : Int) ∧ HX (hs ++ [tX σ x]) s) := by
  unfold x_newHandle
  rw [hx.1, w32_id (by omega) (by omega)]
  have L4 := dH
  refine fm_x_saveTo (xs_saveTo svA_h (by omega) h lx (by omega) (by omega)) ?_
  rintro r s - ⟨f, hr, ho⟩
  rintro s2 hs2
  rw [f.i 111 rfl, hx.1, w32_id (by omega) (by omega)] at hs2
  have a2 : gA s2 77 = gA s 77 := by rw [hs2]; rfl
  rw [f.i 111 rfl, hx.1]
  refine ⟨rfl, by rw [hs2, gI_pI, if_pos rfl, List.length_append]; simp, fun i t hi => ?_⟩
  rw [a2]
  by_cases e : i < hs.length
  · rw [List.getElem?_append_left e] at hi
    have okl := hx.2 i t hi
    unfold atR at okl ⊢
    rw [← okl, rowI_len]
    refine rowI_congr (fun j j0 j1 => ho _ (Or.inl ?_))
    have s40 := (hok.2 t (List.mem_of_getElem? hi)).2
    have := sv_len t
    omega
  · rw [List.getElem?_append_right (by omega)] at hi
    by_cases e2 : i - hs.length = 0
    · rw [e2] at hi
      rw [← Option.some.inj hi, show i = hs.length by omega]
      exact hr
    · rw [List.getElem?_eq_none (by simp; omega)] at hi
      cases hi

/-! RewriteHouse: terms as rows of numbers, kept over calls -/
def sv : Tr → List Int
  | .nest c l => c :: ((trK l).length : Int) :: sv l
  | .append a l => sv a ++ sv l
  | _ => []
theorem sv_L (ts : List Tr) : sv (trL ts) = ts.flatMap sv := by
  induction ts with
  | nil => rfl
  | cons t r ih => simp only [trL, sv, ih, List.flatMap_cons]
theorem sv_N (c : Int) (ts : List Tr) : sv (trN c ts) = c :: (ts.length : Int) :: ts.flatMap sv := by
  simp only [trN, sv, sv_L, trK_trL]
theorem sv_len (t : Tr) : (sv t).length = 2 * trS t := by
  induction t with
  | nest c l ih => simp only [sv, trS, List.length_cons, ih]; omega
  | append a l iha ihl => simp only [sv, trS, List.length_append, iha, ihl]; omega
  | _ => rfl
theorem svs_len (ts : List Tr) : (ts.flatMap sv).length = 2 * (ts.map trS).sum := by
  rw [← sv_L, sv_len, trS_L]
/-- a row of numbers that stands from a place on -/
def atR (f : Int → Int) (a : Int) (l : List Int) : Prop := rowI f a l.length = l
theorem atR_app {f : Int → Int} {a : Int} {l r : List Int} : atR f a (l ++ r) ↔ atR f a l ∧ atR f (a + l.length) r := by
  unfold atR
  rw [List.length_append, rowI_app]
  constructor
  · intro h
    exact List.append_inj h (rowI_len _ _ _)
  · rintro ⟨h1, h2⟩
    rw [h1, h2]
theorem atR_cons {f : Int → Int} {a x : Int} {r : List Int} : atR f a (x :: r) ↔ f a = x ∧ atR f (a + 1) r := by
  unfold atR
  simp only [List.length_cons, rowI, List.cons.injEq]
theorem atR_nil {f : Int → Int} {a : Int} : atR f a [] := rfl
theorem atR.same {f g : Int → Int} {a : Int} {l : List Int} (h : atR f a l) (k : ∀ j, a ≤ j → j < a + l.length → g j = f j) : atR g a l := by
  unfold atR at h ⊢
  rw [← h, rowI_len]
  exact rowI_congr (fun j j0 j1 => k _ (by omega) (by omega))
def svA (v : Nat) : Prop := v = 77 ∨ v = 97 ∨ v = 103 ∨ v = 124
theorem svA.ok {v : Nat} (h : svA v) : apt ([109], [], [v]) XPi (XPm ++ XPa) = true ∧ apt ([109], [], [v]) [] [66, 67, 68, 73] = true ∧ [v].contains 66 = false ∧ [v].contains 68 = false ∧ [v].contains 73 = false ∧ [v].contains 67 = false := by
  rcases h with rfl | rfl | rfl | rfl <;> exact ⟨rfl, rfl, rfl, rfl, rfl, rfl⟩
/-- a term is laid down -/
def svQ (v : Nat) (σ : S) (t : Tr) (s : S) : Prop := Fr ([109], [], [v]) σ s ∧ gI s 109 = gI σ 109 + 2 * trS t ∧ atR (gA s v) (gI σ 109) (sv t) ∧ ∀ j, j < gI σ 109 ∨ gI σ 109 + 2 * trS t ≤ j → gA s v j = gA σ v j
theorem xs_save_at {M : Mo} {v : Nat} (hv : svA v) (L4 : ((dAln dX v : Nat) : Int) ≤ 1000000) : ∀ (n : Nat) (σ : S) (x : Int), trS (tX σ x) ≤ n → XP M σ → lvX σ x → 0 ≤ gI σ 109 → gI σ 109 + 2 * trS (tX σ x) ≤ ((dAln dX v : Nat) : Int) →
    x_S_save n 0 [x, (v : Int)] σ (fun _ s => svQ v σ (tX σ x) s) (fun _ => False) := by
  obtain ⟨a1, a2, a3, a4, a5, a6⟩ := hv.ok
  intro n
  induction n with
  | zero => intro σ x hn h lx; have := trS_pos (h.T lx); omega
  | succ n ih =>
    intro σ x hn h lx b0 b1
    have et := tX_row h lx
    have at_ := h.at lx
    have rg := h.rg
    generalize hks : (rowI (gA σ 73) (gA σ 67 x) (gA σ 68 x).toNat).map (tX σ) = ks at et
    have hkl : (ks.length : Int) = gA σ 68 x := by rw [← hks, List.length_map, rowI_len]; omega
    have hsz := trS_N (gA σ 66 x) ks
    rw [← et] at hsz
    show x_save_F (x_S_save n) x (((v : Nat) : Int).toNat) σ (fun _ s => svQ v σ (tX σ x) s)
    rw [Int.toNat_natCast]
    unfold x_save_F
    rintro s1 hs1
    rw [w32_id (by omega) (by omega)] at hs1
    refine ⟨⟨by have := lx.1; omega, by have := lx.2; omega⟩, ⟨b0, by omega⟩, ?_⟩
    rintro s2 hs2
    rintro s3 hs3
    have e2 : gI s2 109 = gI σ 109 + 1 := by rw [hs2, gI_pA, hs1, gI_pI, if_pos rfl]
    rw [e2, w32_id (by omega) (by omega)] at hs3
    refine ⟨⟨by have := lx.1; omega, by have := lx.2; omega⟩, ⟨by omega, by omega⟩, ?_⟩
    rintro s4 hs4
    have wv : [v].contains v = true := by simp
    have f3 : Fr ([109], [], [v]) σ s3 := ((Fr.rf.putI hs1 rfl).putA hs2 wv).putI hs3 rfl
    have f4 : Fr ([109], [], [v]) σ s4 := f3.putA hs4 wv
    have g4 : gI s4 109 = gI σ 109 + 2 := by rw [hs4, gI_pA, hs3, gI_pI, if_pos rfl]; omega
    have ew : gA s1 66 = gA σ 66 := by rw [hs1]; rfl
    have em : gA s3 68 = gA σ 68 := f3.a _ a4
    have v4 : ∀ j, gA s4 v j = if j = gI σ 109 + 1 then gA σ 68 x else if j = gI σ 109 then gA σ 66 x else gA σ v j := by
      intro j
      rw [hs4, gA_pA, em, hs3, gA_pI, hs2, gA_pA, ew, hs1, gA_pI]
      by_cases k1 : j = gI σ 109 + 1
      · rw [if_pos ⟨rfl, k1⟩, if_pos k1]
      · rw [if_neg (fun e => k1 e.2), if_neg k1]
        by_cases k2 : j = gI σ 109
        · rw [if_pos ⟨rfl, k2⟩, if_pos k2]
        · rw [if_neg (fun e => k2 e.2), if_neg k2]
    have sums : ∀ k : Nat, k ≤ ks.length → ((ks.take k).map trS).sum ≤ (ks.map trS).sum := by
      intro k _
      have := List.take_append_drop k ks
      have e := congrArg (fun l : List Tr => (l.map trS).sum) this
      simp only [List.map_append, List.sum_append] at e
      omega
    /- the loop -/
    have loop : ∀ (d k : Nat) (s : S), d + k = ks.length → Fr ([109], [], [v]) σ s → gI s 109 = gI σ 109 + 2 + 2 * (((ks.take k).map trS).sum : Nat) →
        atR (gA s v) (gI σ 109) (gA σ 66 x :: (ks.length : Int) :: (ks.take k).flatMap sv) → (∀ j, j < gI σ 109 ∨ gI s 109 ≤ j → gA s v j = gA σ v j) →
        x_save_L40 (x_S_save n) x v (k : Int) s (fun _ s => svQ v σ (tX σ x) s) := by
      intro d
      induction d with
      | zero =>
        intro k s hd f g hr ho
        unfold x_save_L40
        intro Y hY
        refine hY _ _ ⟨⟨by have := lx.1; omega, by have := lx.2; omega⟩, ?_⟩
        rw [f.a _ a4, if_neg (by omega)]
        have ht : ks.take k = ks := List.take_of_length_le (by omega)
        rw [ht] at g hr
        refine ⟨f, by rw [g, hsz]; omega, ?_, fun j hj => ho j (by rw [g]; rw [hsz] at hj; omega)⟩
        rw [et, sv_N]
        exact hr
      | succ d ihd =>
        intro k s hd f g hr ho
        unfold x_save_L40
        intro Y hY
        refine hY _ _ ⟨⟨by have := lx.1; omega, by have := lx.2; omega⟩, ?_⟩
        rw [f.a _ a4, if_pos (by omega)]
        have hs : XP M s := h.fr f a1
        have lxs : lvX s x := ⟨lx.1, by rw [f.i _ rfl]; exact lx.2⟩
        have lk := at_.2.2.2.2 (k : Int) (by omega) (by omega)
        refine xs_at hs lxs (by omega) (by rw [f.a _ a4]; omega) ?_
        rw [f.a _ a5, f.a _ a6]
        generalize hy : gA σ 73 (gA σ 67 x + (k : Int)) = y at lk
        have ly : lvX s y := ⟨lk.1.1, by rw [f.i _ rfl]; exact lk.1.2⟩
        have ey : tX s y = tX σ y := tX_fr f a2 y
        have hk : k < ks.length := by omega
        have ek : ks[k] = tX σ y := by
          have : ks[k]? = some (tX σ y) := by
            rw [← hks, List.getElem?_map, rowI_get _ _ (by omega), hy]; rfl
          rw [List.getElem?_eq_getElem hk] at this
          exact Option.some.inj this
        have hmem : tX σ y ∈ ks := by rw [← ek]; exact List.getElem_mem hk
        have hlt : trS (tX σ y) < trS (tX σ x) := by rw [et]; exact trS_kid hmem
        have etk : ks.take (k + 1) = ks.take k ++ [tX σ y] := by rw [List.take_succ_eq_append_getElem hk, ek]
        have s1 := sums (k + 1) (by omega)
        rw [etk, List.map_append, List.sum_append, List.map_singleton, List.sum_singleton] at s1
        refine fs_save n _ _ _ _ _ (ih s y (by rw [ey]; omega) hs ly (by omega) (by rw [ey, g]; omega)) ?_
        rintro r s5 - ⟨f5, g5, r5, o5⟩
        rw [ey] at g5 r5 o5
        have hx := ihd (k + 1) s5 (by omega) (f.trans f5) (by rw [g5, g, etk, List.map_append, List.sum_append, List.map_singleton, List.sum_singleton]; omega) ?_ ?_
        · unfold x_save_L40 at hx
          have e : w32 ((k : Int) + 1) = ((k + 1 : Nat) : Int) := by rw [w32_id (by omega) (by omega)]; omega
          rw [e]
          exact hx Y hY
        · rw [etk, List.flatMap_append, List.flatMap_singleton]
          have e3 : gA σ 66 x :: (ks.length : Int) :: ((ks.take k).flatMap sv ++ sv (tX σ y)) = (gA σ 66 x :: (ks.length : Int) :: (ks.take k).flatMap sv) ++ sv (tX σ y) := rfl
          rw [e3, atR_app]
          have ln : ((gA σ 66 x :: (ks.length : Int) :: (ks.take k).flatMap sv).length : Int) = 2 + 2 * (((ks.take k).map trS).sum : Nat) := by
            rw [List.length_cons, List.length_cons, svs_len]; omega
          refine ⟨hr.same (fun j j0 j1 => o5 j (Or.inl (by omega))), ?_⟩
          rw [ln, show gI σ 109 + (2 + 2 * (((ks.take k).map trS).sum : Nat) : Int) = gI s 109 by omega]
          exact r5
        · intro j hj
          rw [o5 j (by omega)]
          exact ho j (by omega)
    have h0 := loop ks.length 0 s4 (by omega) f4 (by rw [g4]; simp) ?_ ?_
    · exact h0
    · rw [List.take_zero, List.flatMap_nil, atR_cons, atR_cons]
      refine ⟨?_, ?_, atR_nil⟩
      · rw [v4, if_neg (by omega), if_pos rfl]
      · rw [v4, if_pos rfl, hkl]
    · intro j hj
      rw [v4, if_neg (by omega), if_neg (by omega)]
theorem xs_save {M : Mo} {v : Nat} (hv : svA v) (L4 : ((dAln dX v : Nat) : Int) ≤ 1000000) {σ : S} {x : Int} (h : XP M σ) (lx : lvX σ x) (b0 : 0 ≤ gI σ 109) (b1 : gI σ 109 + 2 * trS (tX σ x) ≤ ((dAln dX v : Nat) : Int)) : x_save x v σ (fun _ s => svQ v σ (tX σ x) s) :=
  xs_save_at hv L4 44 σ x (by have := (h.nd lx).2.2.2; omega) h lx b0 b1
theorem xs_saveTo {M : Mo} {v : Nat} (hv : svA v) (L4 : ((dAln dX v : Nat) : Int) ≤ 1000000) {σ : S} {x a : Int} (h : XP M σ) (lx : lvX σ x) (b0 : 0 ≤ a) (b1 : a + 80 ≤ ((dAln dX v : Nat) : Int)) : x_saveTo x v a σ (fun _ s => Fr ([109], [], [v]) σ s ∧ atR (gA s v) a (sv (tX σ x)) ∧ ∀ j, j < a ∨ a + 80 ≤ j → gA s v j = gA σ v j) := by
  unfold x_saveTo
  rintro s1 hs1
  obtain ⟨a1, a2, a3, a4, a5, a6⟩ := hv.ok
  have f1 : Fr ([109], [], [v]) σ s1 := Fr.rf.putI hs1 rfl
  have g1 : gI s1 109 = a := by rw [hs1, gI_pI, if_pos rfl]
  have e1 : tX s1 x = tX σ x := tX_fr f1 a2 x
  have sz := (h.nd lx).2.2.2
  refine fm_x_save (xs_save hv L4 (h.fr f1 a1) (x := x) ⟨lx.1, by rw [f1.i _ rfl]; exact lx.2⟩ (by omega) (by rw [g1, e1]; omega)) ?_
  rintro r s - ⟨f, g, r, o⟩
  rw [g1, e1] at r o
  refine ⟨f1.trans f, r, fun j hj => ?_⟩
  rw [o j (by omega), hs1, gA_pI]

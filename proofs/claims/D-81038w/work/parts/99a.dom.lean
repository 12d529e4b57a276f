/-! goals as they come: their terms have their forms; which variables they bind -/
def okG (M : Mo) : Goal → Prop
  | .inl (p, t) => NF M p ∧ NF M t
  | .inr (p, s, es) => NF M p ∧ 0 ≤ lab p ∧ mAs M (lab p) ≠ 0 ∧ s ≤ (kids p).length ∧ ∀ e ∈ es, NF M e ∧ lab e ≠ lab p
/-- variable v (label -1 - v) occurs in what is to be matched -/
def occ (v : Int) (p : Tr) : Prop := tAny (fun c => decide (c = -1 - v)) p = true
def occG (v : Int) : Goal → Prop
  | .inl (p, _) => occ v p
  | .inr (p, s, _) => ∃ q ∈ (kids p).drop s, occ v q
theorem NF.kid {M : Mo} {t u : Tr} (h : NF M t) (hu : u ∈ kids t) : NF M u := by
  obtain ⟨c, ts, rfl, -, hk⟩ := h.ex
  rw [kids_N] at hu
  exact hk u hu
theorem NF.ok {M : Mo} {t : Tr} (h : NF M t) : okN M (lab t) (kids t) := by
  obtain ⟨c, ts, rfl, hok, -⟩ := h.ex
  rw [kids_N, lab_N]
  exact hok
theorem NF.eta {M : Mo} {t : Tr} (h : NF M t) : t = trN (lab t) (kids t) := by
  obtain ⟨c, ts, rfl, -, -⟩ := h.ex
  rw [kids_N, lab_N]
theorem NF.len {M : Mo} {t : Tr} (h : NF M t) (h0 : 0 ≤ lab t) (ha : mAs M (lab t) = 0) : ((kids t).length : Int) = mHo M (lab t) := by
  rcases h.ok with q | q
  · omega
  · have := q.2.2.1
    rw [if_neg (by simp [ha])] at this
    exact this
theorem mkS_NF {M : Mo} (hM : WM M) {o : Int} (h0 : 0 ≤ o) (h1 : o < mOps M) (ha : mAs M o ≠ 0) {es : List Tr} (h : ∀ e ∈ es, NF M e ∧ lab e ≠ o) (hn : mkS M o es ≠ .nil) : NF M (mkS M o es) := by
  match es with
  | [] =>
    simp only [mkS] at hn ⊢
    by_cases hu : mUn M o = -2
    · rw [if_pos hu] at hn; exact absurd rfl hn
    · rw [if_neg hu]; exact NF_unT hM h0 h1 hu
  | [t] => exact (h t (by simp)).1
  | a :: b :: r =>
    simp only [mkS]
    refine NF_mk hM ⟨h0, h1, ?_, fun t ht => (h t ht).1⟩
    rw [if_pos ha]
    simp
theorem elO_ok {M : Mo} {o : Int} (h0 : 0 ≤ o) (ha : mAs M o ≠ 0) {t : Tr} (ht : NF M t) : ∀ e ∈ elO M o t, NF M e ∧ lab e ≠ o := by
  intro e he
  unfold elO at he
  split at he
  · rename_i hl
    refine ⟨ht.kid he, ?_⟩
    rcases ht.ok with q | q
    · omega
    · have := q.2.2.1
      rw [hl, if_pos ha] at this
      exact this.2 e he
  · split at he
    · cases he
    · rename_i hl _
      simp only [List.mem_singleton] at he
      rw [he]; exact ⟨ht, hl⟩
theorem pairG_ok {M : Mo} {ps ts : List Tr} (hp : ∀ p ∈ ps, NF M p) (ht : ∀ t ∈ ts, NF M t) : ∀ g ∈ pairG ps ts, okG M g := by
  induction ps generalizing ts with
  | nil => intro g hg; simp [pairG] at hg
  | cons p ps ih => cases ts with
    | nil => intro g hg; simp [pairG] at hg
    | cons t ts =>
      intro g hg
      simp only [pairG, List.zipWith_cons_cons, List.mem_cons] at hg
      rcases hg with rfl | hg
      · exact ⟨hp p (List.mem_cons_self ..), ht t (List.mem_cons_self ..)⟩
      · exact ih (fun q hq => hp q (List.mem_cons_of_mem _ hq)) (fun q hq => ht q (List.mem_cons_of_mem _ hq)) g hg
theorem pairG_occ {v : Int} {ps ts : List Tr} (hl : ps.length = ts.length) : (∃ g ∈ pairG ps ts, occG v g) ↔ ∃ p ∈ ps, occ v p := by
  induction ps generalizing ts with
  | nil => simp [pairG]
  | cons p ps ih => cases ts with
    | nil => simp at hl
    | cons t ts =>
      have := ih (ts := ts) (by simpa using hl)
      simp only [pairG, List.zipWith_cons_cons, List.mem_cons, exists_eq_or_imp]
      rw [show (∃ a, a ∈ List.zipWith (fun p t => (Sum.inl (p, t) : Goal)) ps ts ∧ occG v a) ↔ ∃ p ∈ ps, occ v p from this]
      exact Iff.rfl
theorem occ_node {v : Int} {p : Tr} (h : isT p) (h0 : 0 ≤ lab p) (hv : 0 ≤ v) : occ v p ↔ ∃ q ∈ kids p, occ v q := by
  obtain ⟨c, ts, rfl, -, -⟩ := isT_ex h
  rw [lab_N] at h0
  unfold occ
  rw [tAny_N, kids_N, decide_eq_false (by omega), Bool.false_or, List.any_eq_true]
theorem occ_var {v : Int} {M : Mo} {p : Tr} (h : NF M p) (h0 : lab p < 0) : occ v p ↔ v = -1 - lab p := by
  obtain ⟨c, ts, rfl, hok, -⟩ := h.ex
  rw [lab_N] at h0 ⊢
  unfold occ
  have : ts = [] := by
    rcases hok with q | q
    · exact q.2.2.2
    · omega
  rw [tAny_N, this]
  simp only [List.any_nil, Bool.or_false, decide_eq_true_eq]
  omega
theorem unit2 {M : Mo} (hM : WM M) {p : Tr} (hp : NF M p) (h0 : 0 ≤ lab p) (ha : mAs M (lab p) = 0) (hu : mUn M (lab p) ≠ -2) : (kids p).length = 2 := by
  have h1 : lab p < mOps M := by
    rcases hp.ok with q | q
    · omega
    · exact q.2.1
  have := hp.len h0 ha
  have ho := (hM.op h0 h1).2.2.2.2.2.2.1
  rcases ho with q | q
  · exact absurd q hu
  · omega
theorem NF.op {M : Mo} {p : Tr} (hp : NF M p) (h0 : 0 ≤ lab p) : lab p < mOps M := by
  rcases hp.ok with q | q
  · omega
  · exact q.2.1
/-- steps keep the forms of goals -/
theorem okG_row {M : Mo} (hM : WM M) {p q : Tr} {s : Nat} {es S T : List Tr} (h : okG M (.inr (p, s, es))) (hq : (kids p)[s]? = some q) (hs : Sp M (lab p) es S T) (hn : mkS M (lab p) S ≠ .nil) : okG M (.inl (q, mkS M (lab p) S)) ∧ okG M (.inr (p, s + 1, T)) := by
  obtain ⟨h1, h2, h3, h4, h5⟩ := h
  have hm := Sp_mem hs
  have hlt : s < (kids p).length := (List.getElem?_eq_some_iff.mp hq).1
  refine ⟨⟨h1.kid (List.mem_of_getElem? hq), mkS_NF hM h2 (h1.op h2) h3 (fun e he => h5 e (hm.1 e he)) hn⟩, h1, h2, h3, by omega, fun e he => h5 e (hm.2.1 e he)⟩
theorem Solv_dom {M : Mo} (hM : WM M) {gs : List Goal} {ρ ρ' : Env} (h : Solv M gs ρ ρ') : (∀ g ∈ gs, okG M g) → ∀ v, 0 ≤ v → (ρ' v ≠ .nil ↔ ρ v ≠ .nil ∨ ∃ g ∈ gs, occG v g) := by
  refine h (fun gs ρ ρ' => (∀ g ∈ gs, okG M g) → ∀ v, 0 ≤ v → (ρ' v ≠ .nil ↔ ρ v ≠ .nil ∨ ∃ g ∈ gs, occG v g)) ?_
  intro gs ρ ρ' hF ok v hv
  have app : ∀ {a b : List Goal}, (∃ g ∈ a ++ b, occG v g) ↔ (∃ g ∈ a, occG v g) ∨ ∃ g ∈ b, occG v g := by
    intro a b
    simp only [List.mem_append, or_and_right, exists_or]
  match gs with
  | [] =>
    rw [show ρ' = ρ from hF]
    simp
  | .inl (p, t) :: g1 =>
    have okp := ok _ (List.mem_cons_self ..)
    have ok1 : ∀ g ∈ g1, okG M g := fun g hg => ok g (List.mem_cons_of_mem _ hg)
    have okA : ∀ {l : List Goal}, (∀ g ∈ l, okG M g) → ∀ g ∈ l ++ g1, okG M g := by
      intro l hl g hg
      rcases List.mem_append.mp hg with z | z
      · exact hl g z
      · exact ok1 g z
    simp only [List.mem_cons, exists_eq_or_imp]
    simp only [FS] at hF
    rcases hF with ⟨a, b | b⟩ | ⟨a, b, c⟩ | ⟨a, b, c, d⟩ | ⟨a, b, c, d, e⟩ | ⟨a, b, c, d⟩
    · rw [b.2.2 ok1 v hv]
      simp only [occG]
      rw [occ_var okp.1 a]
      constructor
      · rintro (z | z)
        · exact Or.inl z
        · exact Or.inr (Or.inr z)
      · rintro (z | z | z)
        · exact Or.inl z
        · left; rw [z]; exact b.1
        · exact Or.inr z
    · rw [b.2.2.2 ok1 v hv]
      simp only [occG]
      rw [occ_var okp.1 a]
      unfold upE
      by_cases e : v = -1 - lab p
      · rw [if_pos e]
        constructor
        · intro _; exact Or.inr (Or.inl e)
        · intro _; exact Or.inl (isT_ne_nil okp.2.1)
      · rw [if_neg e]
        constructor
        · rintro (z | z)
          · exact Or.inl z
          · exact Or.inr (Or.inr z)
        · rintro (z | z | z)
          · exact Or.inl z
          · exact absurd z e
          · exact Or.inr z
    · have okr : okG M (.inr (p, 0, elO M (lab p) t)) := ⟨okp.1, a, b, by omega, elO_ok a b okp.2⟩
      rw [c (fun g hg => by
        rcases List.mem_cons.mp hg with rfl | z
        · exact okr
        · exact ok1 g z) v hv]
      simp only [List.mem_cons, exists_eq_or_imp, occG, List.drop_zero]
      rw [occ_node okp.1.1 a hv]
    · have hl : (kids p).length = (kids t).length := by
        have h1 := okp.1.len a b
        have h2 := okp.2.len (by omega) (by rw [c]; exact b)
        rw [c] at h2
        omega
      rw [d (okA (pairG_ok (fun q hq => okp.1.kid hq) (fun q hq => okp.2.kid hq))) v hv, app, pairG_occ hl]
      simp only [occG]
      rw [occ_node okp.1.1 a hv]
    · have hl : (kids p).length = (kids t).reverse.length := by
        have h1 := okp.1.len a b
        have h2 := okp.2.len (by omega) (by rw [c]; exact b)
        rw [c] at h2
        rw [List.length_reverse]
        omega
      rw [e (okA (pairG_ok (fun q hq => okp.1.kid hq) (fun q hq => okp.2.kid (List.mem_reverse.mp hq)))) v hv, app, pairG_occ hl]
      simp only [occG]
      rw [occ_node okp.1.1 a hv]
    · have h2 := unit2 hM okp.1 a b c
      have hu := NF_unT hM a (okp.1.op a) c
      rcases d with d | d
      · rw [d (okA (pairG_ok (fun q hq => okp.1.kid hq) (fun q hq => by
          simp only [List.mem_cons, List.not_mem_nil, or_false] at hq
          rcases hq with rfl | rfl
          · exact okp.2
          · exact hu))) v hv, app, pairG_occ h2]
        simp only [occG]
        rw [occ_node okp.1.1 a hv]
      · rw [d (okA (pairG_ok (fun q hq => okp.1.kid hq) (fun q hq => by
          simp only [List.mem_cons, List.not_mem_nil, or_false] at hq
          rcases hq with rfl | rfl
          · exact hu
          · exact okp.2))) v hv, app, pairG_occ h2]
        simp only [occG]
        rw [occ_node okp.1.1 a hv]
  | .inr (p, s, es) :: g1 =>
    have okp := ok _ (List.mem_cons_self ..)
    have ok1 : ∀ g ∈ g1, okG M g := fun g hg => ok g (List.mem_cons_of_mem _ hg)
    simp only [List.mem_cons, exists_eq_or_imp]
    simp only [FS] at hF
    rcases hF with ⟨a, b, c⟩ | ⟨q, S, T, a, b, c, d⟩
    · rw [c ok1 v hv]
      simp only [occG]
      rw [a, List.drop_length]
      simp
    · obtain ⟨k1, k2⟩ := okG_row hM okp a b c
      rw [d (fun g hg => by
        rcases List.mem_cons.mp hg with rfl | hg
        · exact k1
        · rcases List.mem_cons.mp hg with rfl | hg
          · exact k2
          · exact ok1 g hg) v hv]
      have hlt : s < (kids p).length := (List.getElem?_eq_some_iff.mp a).1
      have hd : (kids p).drop s = q :: (kids p).drop (s + 1) := by
        rw [List.drop_eq_getElem_cons hlt]
        congr 1
        exact (List.getElem?_eq_some_iff.mp a).2
      simp only [List.mem_cons, exists_eq_or_imp, occG, hd]
      constructor
      · rintro (z | z | z | z)
        · exact Or.inl z
        · exact Or.inr (Or.inl (Or.inl z))
        · exact Or.inr (Or.inl (Or.inr z))
        · exact Or.inr (Or.inr z)
      · rintro (z | (z | z) | z)
        · exact Or.inl z
        · exact Or.inr (Or.inl z)
        · exact Or.inr (Or.inr (Or.inl z))
        · exact Or.inr (Or.inr (Or.inr z))

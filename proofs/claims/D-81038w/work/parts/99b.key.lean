/-! matchers in order -/
/-- two rows of numbers of which neither is a true head of the other -/
def nph (a b : List Int) : Prop := ∀ x y : List Int, a ++ x = b ++ y → a = b
theorem cmL_seq {a b : List Int} (h : nph a b) (x y : List Int) : cmL (a ++ x) (b ++ y) = if cmL a b = 0 then cmL x y else cmL a b := by
  by_cases e : a = b
  · rw [e, cmL_rf, if_pos rfl, cmL_same]
  · rw [if_neg (fun z => e (cmL_eq z))]
    exact cmL_np a b x y (fun x y z => e (h x y z))
theorem nph_app {a b c d : List Int} (h : nph a b) (k : nph c d) : nph (a ++ c) (b ++ d) := by
  intro x y e
  rw [List.append_assoc, List.append_assoc] at e
  have e1 := h _ _ e
  rw [e1] at e ⊢
  have e2 := List.append_cancel_left e
  rw [k x y e2]
theorem nph_nil : nph [] [] := fun _ _ _ => rfl
theorem nph_ser {a b : Tr} (ha : isT a) (hb : isT b) : nph (ser a) (ser b) := by
  intro x y e
  rw [(ser_uniq _ a b x y (Nat.lt_succ_self _) ha hb e).1]
theorem nph_rows {ts us : List Tr} (ht : ∀ t ∈ ts, isT t) (hu : ∀ t ∈ us, isT t) (hl : ts.length = us.length) : nph (ts.map ser).flatten (us.map ser).flatten := by
  induction ts generalizing us with
  | nil => cases us with
    | nil => exact nph_nil
    | cons _ _ => simp at hl
  | cons t r ih => cases us with
    | nil => simp at hl
    | cons u v =>
      simp only [List.map_cons, List.flatten_cons]
      exact nph_app (nph_ser (ht t (List.mem_cons_self ..)) (hu u (List.mem_cons_self ..))) (ih (fun q hq => ht q (List.mem_cons_of_mem _ hq)) (fun q hq => hu q (List.mem_cons_of_mem _ hq)) (by simpa using hl))
theorem rows_inj {ts us : List Tr} (ht : ∀ t ∈ ts, isT t) (hu : ∀ t ∈ us, isT t) (hl : ts.length = us.length) (e : (ts.map ser).flatten = (us.map ser).flatten) : ts = us := by
  induction ts generalizing us with
  | nil => cases us with
    | nil => rfl
    | cons _ _ => simp at hl
  | cons t r ih => cases us with
    | nil => simp at hl
    | cons u v =>
      simp only [List.map_cons, List.flatten_cons] at e
      obtain ⟨e1, e2⟩ := ser_uniq _ t u _ _ (Nat.lt_succ_self _) (ht t (List.mem_cons_self ..)) (hu u (List.mem_cons_self ..)) e
      rw [e1, ih (fun q hq => ht q (List.mem_cons_of_mem _ hq)) (fun q hq => hu q (List.mem_cons_of_mem _ hq)) (by simpa using hl) e2]
/-- what stands beside: how many, then one by one -/
def rstL (o : Int) (t : Tr) : List Tr := match t with
  | .nest c l => if c = o then trK l else [.nest c l]
  | _ => []
def keyR (o : Int) (t : Tr) : List Int := ((rstL o t).length : Int) :: ((rstL o t).map ser).flatten
def keyV (ρ : Env) : Nat → List Int
  | 0 => []
  | n + 1 => keyV ρ n ++ ser (ρ n)
def keyE (o : Int) (ρ : Env) : List Int := keyV ρ 60 ++ (keyR o (ρ 60) ++ keyR o (ρ 61))
def cmE (o : Int) (ρ ρ' : Env) : Int := cmL (keyE o ρ) (keyE o ρ')
/-- a term or nothing; of an assoc operator o at least two -/
def okR (o : Int) (t : Tr) : Prop := t = .nil ∨ (isT t ∧ (lab t = o → 2 ≤ (kids t).length))
theorem rstL_ok {o : Int} {t : Tr} (h : okR o t) : ∀ u ∈ rstL o t, isT u := by
  intro u hu
  rcases h with rfl | ⟨h, -⟩
  · cases hu
  · obtain ⟨c, ts, rfl, hc, hk⟩ := isT_ex h
    simp only [rstL, trN] at hu
    split at hu
    · rw [trK_trL] at hu; exact hk u hu
    · simp only [List.mem_singleton] at hu
      rw [hu]; exact h
theorem rstL_inj {o : Int} {t u : Tr} (ht : okR o t) (hu : okR o u) (e : rstL o t = rstL o u) : t = u := by
  rcases ht with rfl | ⟨ht, ht2⟩ <;> rcases hu with rfl | ⟨hu, hu2⟩
  · rfl
  · obtain ⟨c, us, rfl, hc, hk⟩ := isT_ex hu
    rw [lab_N, kids_N] at hu2
    simp only [rstL, trN] at e
    split at e
    · rw [trK_trL] at e
      have := hu2 (by assumption)
      rw [← e] at this
      simp at this
    · cases e
  · obtain ⟨c, us, rfl, hc, hk⟩ := isT_ex ht
    rw [lab_N, kids_N] at ht2
    simp only [rstL, trN] at e
    split at e
    · rw [trK_trL] at e
      have := ht2 (by assumption)
      rw [e] at this
      simp at this
    · cases e
  · obtain ⟨c, us, rfl, hc, hk⟩ := isT_ex ht
    obtain ⟨d, vs, rfl, hd, hj⟩ := isT_ex hu
    rw [lab_N, kids_N] at ht2 hu2
    simp only [rstL, trN] at e
    split at e <;> split at e
    · rename_i h1 h2
      rw [trK_trL, trK_trL] at e
      rw [h1, h2, e]
    · rename_i h1 h2
      rw [trK_trL] at e
      have := ht2 h1
      rw [e] at this
      simp at this
    · rename_i h1 h2
      rw [trK_trL] at e
      have := hu2 h2
      rw [← e] at this
      simp at this
    · simpa [trN] using e
theorem nph_keyR {o : Int} {t u : Tr} (ht : okR o t) (hu : okR o u) : nph (keyR o t) (keyR o u) := by
  intro x y e
  unfold keyR at e ⊢
  simp only [List.cons_append, List.cons.injEq] at e
  have hl : (rstL o t).length = (rstL o u).length := by have := e.1; omega
  rw [e.1, nph_rows (rstL_ok ht) (rstL_ok hu) hl x y e.2]
theorem keyR_inj {o : Int} {t u : Tr} (ht : okR o t) (hu : okR o u) (e : keyR o t = keyR o u) : t = u := by
  unfold keyR at e
  simp only [List.cons.injEq] at e
  exact rstL_inj ht hu (rows_inj (rstL_ok ht) (rstL_ok hu) (by have := e.1; omega) e.2)
/-- an environment whose terms are terms -/
def okE (o : Int) (ρ : Env) : Prop := (∀ v : Int, 0 ≤ v → v < 60 → ρ v = .nil ∨ isT (ρ v)) ∧ okR o (ρ 60) ∧ okR o (ρ 61) ∧ ∀ v : Int, v < 0 ∨ 62 ≤ v → ρ v = .nil
/-- two of one list bind the same variables -/
def sdE (ρ ρ' : Env) : Prop := ∀ v : Int, 0 ≤ v → v < 60 → (ρ v = .nil ↔ ρ' v = .nil)
theorem nph_keyV {o : Int} {ρ ρ' : Env} (h : okE o ρ) (h' : okE o ρ') (sd : sdE ρ ρ') : ∀ n : Nat, n ≤ 60 → nph (keyV ρ n) (keyV ρ' n) := by
  intro n
  induction n with
  | zero => intro _; exact nph_nil
  | succ n ih =>
    intro hn
    simp only [keyV]
    refine nph_app (ih (by omega)) ?_
    rcases h.1 n (by omega) (by omega) with e | e
    · rw [e, (sd n (by omega) (by omega)).mp e]; exact nph_nil
    · rcases h'.1 n (by omega) (by omega) with e' | e'
      · exact absurd ((sd n (by omega) (by omega)).mpr e') (isT_ne_nil e)
      · exact nph_ser e e'
theorem keyV_inj {o : Int} {ρ ρ' : Env} (h : okE o ρ) (h' : okE o ρ') (sd : sdE ρ ρ') : ∀ n : Nat, n ≤ 60 → keyV ρ n = keyV ρ' n → ∀ v : Int, 0 ≤ v → v < n → ρ v = ρ' v := by
  intro n
  induction n with
  | zero => intro _ _ v h0 h1; omega
  | succ n ih =>
    intro hn e v h0 h1
    simp only [keyV] at e
    have e1 := nph_keyV h h' sd n (by omega) _ _ e
    rw [e1] at e
    have e2 := List.append_cancel_left e
    by_cases hv : v = n
    · subst hv
      rcases h.1 n (by omega) (by omega) with q | q
      · rw [q, (sd n (by omega) (by omega)).mp q]
      · rcases h'.1 n (by omega) (by omega) with q' | q'
        · exact absurd ((sd n (by omega) (by omega)).mpr q') (isT_ne_nil q)
        · exact ser_inj q q' e2
    · exact ih (by omega) e1 v h0 (by omega)
theorem cmE_eq {o : Int} {ρ ρ' : Env} (h : okE o ρ) (h' : okE o ρ') (sd : sdE ρ ρ') (e : cmE o ρ ρ' = 0) : ρ = ρ' := by
  have e1 := cmL_eq e
  unfold keyE at e1
  have e2 := nph_keyV h h' sd 60 (by omega) _ _ e1
  rw [e2] at e1
  have e3 := List.append_cancel_left e1
  have e4 := nph_keyR h.2.1 h'.2.1 _ _ e3
  rw [e4] at e3
  have e5 := List.append_cancel_left e3
  funext v
  by_cases hv : 0 ≤ v ∧ v < 62
  · by_cases h60 : v < 60
    · exact keyV_inj h h' sd 60 (by omega) e2 v hv.1 (by omega)
    · have : v = 60 ∨ v = 61 := by omega
      rcases this with rfl | rfl
      · exact keyR_inj h.2.1 h'.2.1 e4
      · exact keyR_inj h.2.2.1 h'.2.2.1 e5
  · rw [h.2.2.2 v (by omega), h'.2.2.2 v (by omega)]
theorem cmE_rf (o : Int) (ρ : Env) : cmE o ρ ρ = 0 := by unfold cmE; exact cmL_rf _
theorem cmE_neg (o : Int) (ρ ρ' : Env) : cmE o ρ' ρ = - cmE o ρ ρ' := by unfold cmE; exact cmL_neg _ _
theorem cmE_v (o : Int) (ρ ρ' : Env) : cmE o ρ ρ' = -1 ∨ cmE o ρ ρ' = 0 ∨ cmE o ρ ρ' = 1 := by unfold cmE; exact cmL_v _ _
theorem cmL_lt {x y z : List Int} (h : cmL x y < 0) (k : cmL y z < 0) : cmL x z < 0 := by
  have h1 := cmL_tr (x := x) (y := y) (z := z) (by omega) (by omega)
  rcases cmL_v x z with e | e | e
  · omega
  · exfalso
    have := cmL_eq e
    rw [this] at h
    have := cmL_neg y z
    omega
  · omega
theorem cmE_lt {o : Int} {a b c : Env} (h : cmE o a b < 0) (k : cmE o b c < 0) : cmE o a c < 0 := by
  unfold cmE at h k ⊢
  exact cmL_lt h k
/-- sorted without doubles -/
abbrev srE (o : Int) (L : List Env) : Prop := L.Pairwise fun a b => cmE o a b < 0
theorem srE_uniq {o : Int} : ∀ {L L' : List Env}, srE o L → srE o L' → (∀ x, x ∈ L ↔ x ∈ L') → L = L' := by
  intro L
  induction L with
  | nil =>
    intro L' _ _ h
    cases L' with
    | nil => rfl
    | cons a r => exact absurd ((h a).mpr (List.mem_cons_self ..)) (by simp)
  | cons a r ih =>
    intro L' hs hs' h
    cases L' with
    | nil => exact absurd ((h a).mp (List.mem_cons_self ..)) (by simp)
    | cons b q =>
      unfold srE at hs hs'
      rw [List.pairwise_cons] at hs hs'
      have irr : ∀ x : Env, ¬ cmE o x x < 0 := fun x z => by rw [cmE_rf] at z; omega
      have eab : a = b := by
        rcases List.mem_cons.mp ((h a).mp (List.mem_cons_self ..)) with e | e
        · exact e
        · rcases List.mem_cons.mp ((h b).mpr (List.mem_cons_self ..)) with e' | e'
          · exact e'.symm
          · exact absurd (cmE_lt (hs.1 b e') (hs'.1 a e)) (irr a)
      subst eab
      congr 1
      refine ih hs.2 hs'.2 (fun x => ?_)
      constructor
      · intro hx
        rcases List.mem_cons.mp ((h x).mp (List.mem_cons_of_mem _ hx)) with e | e
        · subst e; exact absurd (hs.1 x hx) (irr x)
        · exact e
      · intro hx
        rcases List.mem_cons.mp ((h x).mpr (List.mem_cons_of_mem _ hx)) with e | e
        · subst e; exact absurd (hs'.1 x hx) (irr x)
        · exact e
/-- one more in its place -/
theorem srE_ins {o : Int} {A B : List Env} {ρ : Env} (h : srE o (A ++ B)) (hA : ∀ a ∈ A, cmE o a ρ < 0) (hB : ∀ b ∈ B, cmE o ρ b < 0) : srE o (A ++ ρ :: B) := by
  unfold srE at h ⊢
  rw [List.pairwise_append] at h ⊢
  refine ⟨h.1, ?_, ?_⟩
  · rw [List.pairwise_cons]
    exact ⟨hB, h.2.1⟩
  · intro a ha b hb
    rcases List.mem_cons.mp hb with rfl | hb
    · exact hA a ha
    · exact h.2.2 a ha b hb

/-! the loop of a term in process -/
section
variable {M : Mo} {R : Ru} {mo : Int} {S : Tr → Prop}
theorem dm_bg {x : Tr} (hx : 0 ≤ lab x) (h : dm M R S (fun n => bg M R n x)) : dm M R S (fun n => (redB M (bg M R n) x).bind fun y => if lab y < 0 then some y else (tryEqB M R (bg M R n) (eqs M) y).bind fun r => match r with
    | none => some y
    | some z => bg M R n z) := by
  intro a ha n hn
  obtain ⟨m, hm, e⟩ := h a ha n hn
  cases m with
  | zero => exact absurd rfl e
  | succ m =>
    simp only [bg] at e
    rw [if_neg (by omega)] at e
    exact ⟨m, by omega, e⟩
theorem notS {a x : Tr} (h : dm M R S (fun n => bg M R n x)) (ha : ∃ n r, bg M R n a = some r) (hx : ∀ m, bg M R m x ≠ none → bg M R m a ≠ none) : ¬ S a := by
  intro hS
  have key : ∀ k n, n < k → bg M R n a = none := by
    intro k
    induction k with
    | zero => intro n hn; omega
    | succ k ih =>
      intro n hn
      cases q : bg M R n a with
      | none => rfl
      | some r =>
        obtain ⟨m, hm, e⟩ := h a hS n (by rw [q]; exact fun z => by cases z)
        exact absurd (ih m (by omega)) (hx m e)
  obtain ⟨n, r, e⟩ := ha
  rw [key (n + 1) n (by omega)] at e
  cases e
theorem redB_det {x y y' : Tr} {n m : Nat} (h : redB M (bg M R n) x = some y) (k : redB M (bg M R m) x = some y') : y = y' := by
  have a := redB_mono (bg_le (M := M) (R := R) (Nat.le_max_left n m)) _ _ h
  have b := redB_mono (bg_le (M := M) (R := R) (Nat.le_max_right n m)) _ _ k
  rw [a] at b
  exact Option.some.inj b
theorem redB_rest (hM : WM M) (hE : ∀ e ∈ eqs M, RuOK M R e) {x y : Tr} (hx : okT M x) {n : Nat} (h : redB M (bg M R n) x = some y) : redB M (bg M R n) y = some y := by
  have vn := bg_val (R := R) hM hE n
  refine redB_same (fun k hk => ?_)
  obtain ⟨t, u, ot, et, z⟩ := redB_parts hM vn hx h k hk
  exact bg_fix hM hE n t u ot et k z
/-- y has what x has, at once -/
theorem bg_y (hM : WM M) (hE : ∀ e ∈ eqs M, RuOK M R e) {x y : Tr} (hx : okT M x) (x0 : 0 ≤ lab x) (y0 : 0 ≤ lab y) {n : Nat} (h : redB M (bg M R n) x = some y) (m : Nat) : bg M R m x ≠ none → bg M R m y = bg M R m x := by
  intro k
  cases m with
  | zero => rfl
  | succ m =>
    simp only [bg] at k ⊢
    rw [if_neg (by omega)] at k
    rw [if_neg (by omega : ¬ lab y < 0), if_neg (by omega : ¬ lab x < 0)]
    cases q : redB M (bg M R m) x with
    | none => rw [q] at k; exact absurd rfl k
    | some y' =>
      have e := redB_det q h
      subst e
      rw [redB_rest hM hE hx q]
theorem bg_up (hM : WM M) (hE : ∀ e ∈ eqs M, RuOK M R e) {x y r : Tr} (hx : okT M x) (x0 : 0 ≤ lab x) {n m : Nat} (h : redB M (bg M R n) x = some y) (k : bg M R m y = some r) : ∃ N, bg M R N x = some r := by
  refine ⟨max n m + 1, ?_⟩
  have e := redB_mono (bg_le (M := M) (R := R) (Nat.le_max_left n m)) _ _ h
  have k2 := bg_le (Nat.le_trans (Nat.le_max_right n m) (Nat.le_succ _)) y r k
  simp only [bg] at k2 ⊢
  rw [if_neg (by omega), e]
  by_cases y0 : lab y < 0
  · rw [if_pos y0] at k2
    simp only [Option.bind_some]
    rw [if_pos y0]
    exact k2
  · rw [if_neg y0, redB_rest hM hE hx e] at k2
    exact k2
theorem bg_none {x y : Tr} (x0 : 0 ≤ lab x) (y0 : 0 ≤ lab y) {n m : Nat} (h : redB M (bg M R n) x = some y) (k : tryEqB M R (bg M R m) (eqs M) y = some none) : ∃ N, bg M R N x = some y := by
  refine ⟨max n m + 1, ?_⟩
  have e := redB_mono (bg_le (M := M) (R := R) (Nat.le_max_left n m)) _ _ h
  have f := tryEqB_mono (bg_le (M := M) (R := R) (Nat.le_max_right n m)) _ _ _ k
  simp only [bg]
  rw [if_neg (by omega), e]
  simp only [Option.bind_some]
  rw [if_neg (by omega), f]
  rfl
theorem bg_some {x y z r : Tr} (x0 : 0 ≤ lab x) (y0 : 0 ≤ lab y) {n m l : Nat} (h : redB M (bg M R n) x = some y) (k : tryEqB M R (bg M R m) (eqs M) y = some (some z)) (w : bg M R l z = some r) : ∃ N, bg M R N x = some r := by
  refine ⟨max (max n m) l + 1, ?_⟩
  have e := redB_mono (bg_le (M := M) (R := R) (Nat.le_trans (Nat.le_max_left n m) (Nat.le_max_left _ l))) _ _ h
  have f := tryEqB_mono (bg_le (M := M) (R := R) (Nat.le_trans (Nat.le_max_right n m) (Nat.le_max_left _ l))) _ _ _ k
  have g := bg_le (M := M) (R := R) (Nat.le_max_right (max n m) l) _ _ w
  simp only [bg]
  rw [if_neg (by omega), e]
  simp only [Option.bind_some]
  rw [if_neg (by omega), f]
  exact g
theorem finE_sn {ch : List Tr} {r : Tr} {st : ST} (hP : PA M R S st) (hr : r ≠ .nil) (hc : ∀ c ∈ ch, 0 ≤ lab c ∧ ¬ S c ∧ ∃ m, bg M R m c = some r) (hr2 : 0 ≤ lab r → ¬ S r ∧ ∃ m, bg M R m r = some r) : SN M R S st (finE ch r st) ∧ ∀ c ∈ ch, stM (finE ch r st) c = r := by
  have ev : ∀ t, stM (finE ch r st) t = @ite _ (t ∈ ch ∨ (t = r ∧ 0 ≤ lab r)) (Classical.propDecidable _) r (stM st t) := fun _ => rfl
  refine ⟨⟨⟨fun t ht h0 => ?_, fun a ha => ?_⟩, fun t h0 ht => ?_⟩, fun c hm => ?_⟩
  · rw [ev] at ht ⊢
    split
    · rename_i z
      rcases z with z | ⟨rfl, z⟩
      · exact (hc t z).2.2
      · exact (hr2 z).2
    · rename_i z
      rw [if_neg z] at ht
      exact hP.1 t ht h0
  · rw [ev, if_neg]
    · exact hP.2 a ha
    · rintro (z | ⟨rfl, z⟩)
      · exact (hc a z).2.1 ha
      · exact (hr2 z).1 ha
  · rw [ev]
    split
    · rename_i z
      obtain ⟨n, e⟩ := hP.1 t ht h0
      rcases z with z | ⟨rfl, z⟩
      · obtain ⟨m, e2⟩ := (hc t z).2.2
        exact bg_det e2 e
      · obtain ⟨m, e2⟩ := (hr2 z).2
        exact bg_det e2 e
    · rfl
  · rw [ev, if_pos (Or.inl hm)]
end

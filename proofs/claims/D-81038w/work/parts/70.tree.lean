/-! trees: a label and a row of trees. The type is core Lean's Format: a node is nest, a row is append .. nil -/
abbrev Tr : Type := Std.Format
def trL : List Tr → Tr
  | [] => .nil
  | t :: r => .append t (trL r)
def trN (c : Int) (ts : List Tr) : Tr := .nest c (trL ts)
def trK : Tr → List Tr
  | .append t r => t :: trK r
  | _ => []
def lab : Tr → Int
  | .nest c _ => c
  | _ => 0
def kids : Tr → List Tr
  | .nest _ l => trK l
  | _ => []
theorem trK_trL (ts : List Tr) : trK (trL ts) = ts := by
  induction ts with
  | nil => rfl
  | cons t r ih => simp [trL, trK, ih]
theorem lab_N (c : Int) (ts : List Tr) : lab (trN c ts) = c := rfl
theorem kids_N (c : Int) (ts : List Tr) : kids (trN c ts) = ts := trK_trL ts
theorem trN_inj {c d : Int} {ts us : List Tr} (h : trN c ts = trN d us) : c = d ∧ ts = us := by
  have h1 : lab (trN c ts) = lab (trN d us) := by rw [h]
  have h2 : kids (trN c ts) = kids (trN d us) := by rw [h]
  rw [kids_N, kids_N] at h2
  exact ⟨h1, h2⟩
theorem trN_ne_nil (c : Int) (ts : List Tr) : trN c ts ≠ .nil := fun h => by cases h
/-- how many nodes -/
def trS : Tr → Nat
  | .nest _ l => 1 + trS l
  | .append a l => trS a + trS l
  | _ => 0
theorem trS_L (ts : List Tr) : trS (trL ts) = (ts.map trS).sum := by
  induction ts with
  | nil => rfl
  | cons t r ih => simp [trL, trS, ih]
theorem trS_N (c : Int) (ts : List Tr) : trS (trN c ts) = 1 + (ts.map trS).sum := by
  simp [trN, trS, trS_L]
/-- nodes and rows as they are made here, labels not too far below 0 -/
def trW : Tr → Bool → Bool
  | .nest c l, false => decide (-1000 ≤ c) && trW l true
  | .append a l, true => trW a false && trW l true
  | .nil, true => true
  | _, _ => false
abbrev isT (t : Tr) : Prop := trW t false = true
theorem trW_L (ts : List Tr) : trW (trL ts) true = true ↔ ∀ t ∈ ts, isT t := by
  induction ts with
  | nil => simp [trL, trW]
  | cons t r ih => simp [trL, trW, ih, isT]
theorem isT_N {c : Int} {ts : List Tr} : isT (trN c ts) ↔ -1000 ≤ c ∧ ∀ t ∈ ts, isT t := by
  simp only [isT, trN, trW, Bool.and_eq_true, decide_eq_true_eq]
  rw [trW_L]
theorem isT_ex {t : Tr} (h : isT t) : ∃ c ts, t = trN c ts ∧ -1000 ≤ c ∧ ∀ u ∈ ts, isT u := by
  cases t with
  | nest c l =>
    simp only [isT, trW, Bool.and_eq_true, decide_eq_true_eq] at h
    have key : ∀ l : Tr, trW l true = true → ∃ ts, l = trL ts ∧ ∀ u ∈ ts, isT u := by
      intro l
      induction l with
      | nil => intro _; exact ⟨[], rfl, by simp⟩
      | append a r iha ihr =>
        intro hl
        simp only [trW, Bool.and_eq_true] at hl
        obtain ⟨ts, e, hu⟩ := ihr hl.2
        refine ⟨a :: ts, by rw [e]; rfl, fun u hu' => ?_⟩
        rcases List.mem_cons.mp hu' with rfl | h1
        · exact hl.1
        · exact hu u h1
      | _ => intro hl; simp [trW] at hl
    obtain ⟨ts, e, hu⟩ := key l h.2
    exact ⟨c, ts, by rw [e]; rfl, h.1, hu⟩
  | _ => simp [isT, trW] at h
theorem trS_mem {ts : List Tr} {t : Tr} (h : t ∈ ts) : trS t ≤ (ts.map trS).sum := by
  induction ts with
  | nil => cases h
  | cons a r ih =>
    simp only [List.map_cons, List.sum_cons]
    rcases List.mem_cons.mp h with rfl | h1
    · omega
    · have := ih h1; omega
theorem trS_kid {c : Int} {ts : List Tr} {t : Tr} (h : t ∈ ts) : trS t < trS (trN c ts) := by
  rw [trS_N]; have := trS_mem h; omega
theorem tr_ind {P : Tr → Prop} (h : ∀ c ts, -1000 ≤ c → (∀ t ∈ ts, isT t) → (∀ t ∈ ts, P t) → P (trN c ts)) : ∀ t, isT t → P t := by
  have key : ∀ (n : Nat) (t : Tr), trS t < n → isT t → P t := by
    intro n
    induction n with
    | zero => intro t ht; omega
    | succ n ih =>
      intro t ht hw
      obtain ⟨c, ts, rfl, hc, hk⟩ := isT_ex hw
      exact h c ts hc hk (fun u hu => ih u (by have := trS_kid (c := c) hu; omega) (hk u hu))
  exact fun t ht => key _ t (Nat.lt_succ_self _) ht
theorem isT_ne_nil {t : Tr} (h : isT t) : t ≠ .nil := fun e => by rw [e] at h; simp [isT, trW] at h
theorem trS_pos {t : Tr} (h : isT t) : 1 ≤ trS t := by
  obtain ⟨c, ts, rfl, -, -⟩ := isT_ex h
  rw [trS_N]; omega
theorem trS_len {ts : List Tr} (h : ∀ t ∈ ts, isT t) : ts.length ≤ (ts.map trS).sum := by
  induction ts with
  | nil => simp
  | cons t r ih =>
    have := ih (fun u hu => h u (List.mem_cons_of_mem _ hu))
    have h1 := trS_pos (h t (List.mem_cons_self ..))
    simp only [List.length_cons, List.map_cons, List.sum_cons]
    omega
/-! a tree as a row of numbers, in the order of ORDER -/
def kyc (c : Int) : Int := if c < 0 then -1 - c else 1000 + c
theorem kyc_inj {c d : Int} (hc : -1000 ≤ c) (hd : -1000 ≤ d) (h : kyc c = kyc d) : c = d := by
  unfold kyc at h; split at h <;> split at h <;> omega
def ser : Tr → List Int
  | .nest c l => kyc c :: ((trK l).length : Int) :: ser l
  | .append a l => ser a ++ ser l
  | _ => []
theorem ser_L (ts : List Tr) : ser (trL ts) = (ts.map ser).flatten := by
  induction ts with
  | nil => rfl
  | cons t r ih => simp [trL, ser, ih]
theorem ser_N (c : Int) (ts : List Tr) : ser (trN c ts) = kyc c :: (ts.length : Int) :: (ts.map ser).flatten := by
  simp [trN, ser, ser_L, trK_trL]
theorem ser_uniq : ∀ (n : Nat) (a b : Tr) (x y : List Int), trS a < n → isT a → isT b → ser a ++ x = ser b ++ y → a = b ∧ x = y := by
  intro n
  induction n with
  | zero => intro a b x y h; omega
  | succ n ih =>
    intro a b x y hs ha hb e
    obtain ⟨c, ts, rfl, hc, hk⟩ := isT_ex ha
    obtain ⟨d, us, rfl, hd, hj⟩ := isT_ex hb
    rw [ser_N, ser_N] at e
    simp only [List.cons_append, List.cons.injEq] at e
    have e1 := kyc_inj hc hd e.1
    have e2 : ts.length = us.length := by have := e.2.1; omega
    have key : ∀ (ts us : List Tr), (∀ t ∈ ts, trS t < n) → (∀ t ∈ ts, isT t) → (∀ t ∈ us, isT t) → ts.length = us.length → (ts.map ser).flatten ++ x = (us.map ser).flatten ++ y → ts = us ∧ x = y := by
      intro ts
      induction ts with
      | nil =>
        intro us _ _ _ hl he
        cases us with
        | nil => exact ⟨rfl, by simpa using he⟩
        | cons _ _ => simp at hl
      | cons t r ihr =>
        intro us h1 h2 h3 hl he
        cases us with
        | nil => simp at hl
        | cons u v =>
          simp only [List.map_cons, List.flatten_cons, List.append_assoc] at he
          obtain ⟨e3, e4⟩ := ih t u _ _ (h1 t (List.mem_cons_self ..)) (h2 t (List.mem_cons_self ..)) (h3 u (List.mem_cons_self ..)) he
          obtain ⟨e5, e6⟩ := ihr v (fun q hq => h1 q (List.mem_cons_of_mem _ hq)) (fun q hq => h2 q (List.mem_cons_of_mem _ hq)) (fun q hq => h3 q (List.mem_cons_of_mem _ hq)) (by simpa using hl) e4
          exact ⟨by rw [e3, e5], e6⟩
    obtain ⟨e3, e4⟩ := key ts us (fun t ht => by have := trS_kid (c := c) ht; omega) hk hj e2 e.2.2
    exact ⟨by rw [e1, e3], e4⟩
theorem ser_inj {a b : Tr} (ha : isT a) (hb : isT b) (h : ser a = ser b) : a = b :=
  (ser_uniq _ a b [] [] (Nat.lt_succ_self _) ha hb (by rw [h])).1
/-! ORDER -/
def cmL : List Int → List Int → Int
  | [], [] => 0
  | [], _ :: _ => -1
  | _ :: _, [] => 1
  | a :: x, b :: y => if a < b then -1 else if b < a then 1 else cmL x y
def cmT (a b : Tr) : Int := cmL (ser a) (ser b)
theorem cmL_rf (x : List Int) : cmL x x = 0 := by
  induction x with
  | nil => rfl
  | cons a x ih => simp [cmL, ih]
theorem cmL_eq {x y : List Int} (h : cmL x y = 0) : x = y := by
  induction x generalizing y with
  | nil => cases y with
    | nil => rfl
    | cons _ _ => simp [cmL] at h
  | cons a x ih => cases y with
    | nil => simp [cmL] at h
    | cons b y =>
      simp only [cmL] at h
      split at h
      · simp at h
      · split at h
        · simp at h
        · rw [ih h, show a = b by omega]
theorem cmL_neg (x y : List Int) : cmL y x = - cmL x y := by
  induction x generalizing y with
  | nil => cases y <;> simp [cmL]
  | cons a x ih => cases y with
    | nil => simp [cmL]
    | cons b y =>
      simp only [cmL]
      rw [ih y]
      split <;> split <;> (try split) <;> omega
theorem cmL_v (x y : List Int) : cmL x y = -1 ∨ cmL x y = 0 ∨ cmL x y = 1 := by
  induction x generalizing y with
  | nil => cases y <;> simp [cmL]
  | cons a x ih => cases y with
    | nil => simp [cmL]
    | cons b y =>
      simp only [cmL]
      have := ih y
      split <;> (try split) <;> simp_all
theorem cmL_tr {x y z : List Int} (h : cmL x y ≤ 0) (k : cmL y z ≤ 0) : cmL x z ≤ 0 := by
  induction x generalizing y z with
  | nil => cases z <;> simp [cmL]
  | cons a x ih => cases y with
    | nil => simp [cmL] at h
    | cons b y => cases z with
      | nil => simp [cmL] at k
      | cons c z =>
        simp only [cmL] at h k ⊢
        by_cases h1 : a < b
        · by_cases h2 : b < c
          · rw [if_pos (by omega)]; omega
          · by_cases h3 : c < b
            · rw [if_neg h2, if_pos h3] at k; omega
            · rw [if_pos (by omega)]; omega
        · by_cases h1' : b < a
          · rw [if_neg h1, if_pos h1'] at h; omega
          · rw [if_neg h1, if_neg h1'] at h
            by_cases h2 : b < c
            · rw [if_pos (by omega)]; omega
            · by_cases h3 : c < b
              · rw [if_neg h2, if_pos h3] at k; omega
              · rw [if_neg h2, if_neg h3] at k
                rw [if_neg (by omega), if_neg (by omega)]
                exact ih h k
/-- two rows neither of which is the other's head: what stands behind does not count -/
theorem cmL_app : ∀ (s t x y : List Int), s.length = t.length → s ≠ t → cmL (s ++ x) (t ++ y) = cmL s t := by
  intro s
  induction s with
  | nil => intro t x y hl hn; cases t with
    | nil => exact absurd rfl hn
    | cons _ _ => simp at hl
  | cons a s ih => intro t x y hl hn; cases t with
    | nil => simp at hl
    | cons b t =>
      simp only [List.cons_append, cmL]
      split
      · rfl
      · split
        · rfl
        · refine ih t x y (by simpa using hl) (fun e => hn ?_)
          rw [e, show a = b by omega]
theorem cmL_same (s x y : List Int) : cmL (s ++ x) (s ++ y) = cmL x y := by
  induction s with
  | nil => rfl
  | cons a s ih => simp [cmL, ih]

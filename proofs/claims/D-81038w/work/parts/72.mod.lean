/-! the module: tables by number -/
abbrev Mo : Type := Nat → Int → Int
abbrev mSorts (M : Mo) : Int := M 0 0
abbrev mAb (M : Mo) (s : Int) : Int := M 1 s
abbrev mKd (M : Mo) (s : Int) : Int := M 2 s
abbrev mKinds (M : Mo) : Int := M 3 0
abbrev mRows (M : Mo) : Int := M 4 0
abbrev mRo (M : Mo) (r : Int) : Int := M 5 r
abbrev mRs (M : Mo) (r k : Int) : Int := M 6 (3 * r + k)
abbrev mRr (M : Mo) (r : Int) : Int := M 7 r
abbrev mOps (M : Mo) : Int := M 8 0
abbrev mHo (M : Mo) (o : Int) : Int := M 9 o
abbrev mSt (M : Mo) (o : Int) : Int := M 10 o
abbrev mTk (M : Mo) (o k : Int) : Int := M 11 (3 * o + k)
abbrev mAs (M : Mo) (o : Int) : Int := M 12 o
abbrev mCo (M : Mo) (o : Int) : Int := M 13 o
abbrev mUn (M : Mo) (o : Int) : Int := M 14 o
abbrev mOk (M : Mo) (o : Int) : Int := M 15 o
abbrev mVars (M : Mo) : Int := M 16 0
abbrev mVs (M : Mo) (v : Int) : Int := M 17 v
abbrev mEqs (M : Mo) : Int := M 18 0
abbrev mRls (M : Mo) : Int := M 19 0
abbrev mOt (M : Mo) (e : Int) : Int := M 20 e
abbrev mCn (M : Mo) (s : Int) : Int := M 21 s
abbrev mCs (M : Mo) (c : Int) : Int := M 22 c
/-- a sort is below another one -/
abbrev blw (M : Mo) (s t : Int) : Prop := bAnd (bShr (mAb M s) t) 1 = 1
/-- what holds of a module -/
def WM (M : Mo) : Prop :=
  (0 ≤ mSorts M ∧ mSorts M ≤ 20) ∧ (0 ≤ mRows M ∧ mRows M ≤ 50) ∧ (0 ≤ mOps M ∧ mOps M ≤ 50) ∧ (0 ≤ mVars M ∧ mVars M ≤ 30) ∧ (0 ≤ mEqs M ∧ mEqs M ≤ 40) ∧ (0 ≤ mRls M ∧ mRls M ≤ 30) ∧
  (∀ r, 0 ≤ r → r < mRows M → 0 ≤ mRo M r ∧ mRo M r < mOps M ∧ 0 ≤ mRr M r ∧ mRr M r < mSorts M ∧ ∀ k, 0 ≤ k → k < mHo M (mRo M r) → 0 ≤ mRs M r k ∧ mRs M r k < mSorts M) ∧
  (∀ o, 0 ≤ o → o < mOps M → 0 ≤ mHo M o ∧ mHo M o ≤ 3 ∧ isB (mAs M o) ∧ isB (mCo M o) ∧ (mAs M o ≠ 0 → mHo M o = 2) ∧ (mCo M o ≠ 0 → mHo M o = 2) ∧ (mUn M o = -2 ∨ 0 ≤ mUn M o ∧ mUn M o < mOps M ∧ mHo M (mUn M o) = 0 ∧ mHo M o = 2) ∧ 0 ≤ mSt M o ∧ mSt M o ≤ 99 ∧ 0 ≤ mOk M o ∧ mOk M o < mKinds M) ∧
  (∀ v, 0 ≤ v → v < mVars M → 0 ≤ mVs M v ∧ mVs M v < mSorts M) ∧
  (∀ s, 0 ≤ s → s < mSorts M → 0 ≤ mKd M s ∧ mKd M s < mKinds M) ∧
  (0 ≤ mKinds M ∧ mKinds M ≤ 20) ∧
  (∀ s t, 0 ≤ s → s < mSorts M → 0 ≤ t → t < mSorts M → blw M s t → blw M t s → s = t) ∧
  (∀ s, 0 ≤ s → s < 70 → 0 ≤ mCn M s ∧ mCn M s ≤ 6)
theorem WM.op {M : Mo} (h : WM M) {o : Int} (h1 : 0 ≤ o) (h2 : o < mOps M) : 0 ≤ mHo M o ∧ mHo M o ≤ 3 ∧ isB (mAs M o) ∧ isB (mCo M o) ∧ (mAs M o ≠ 0 → mHo M o = 2) ∧ (mCo M o ≠ 0 → mHo M o = 2) ∧ (mUn M o = -2 ∨ 0 ≤ mUn M o ∧ mUn M o < mOps M ∧ mHo M (mUn M o) = 0 ∧ mHo M o = 2) ∧ 0 ≤ mSt M o ∧ mSt M o ≤ 99 ∧ 0 ≤ mOk M o ∧ mOk M o < mKinds M := h.2.2.2.2.2.2.2.1 o h1 h2
theorem WM.row {M : Mo} (h : WM M) {r : Int} (h1 : 0 ≤ r) (h2 : r < mRows M) : 0 ≤ mRo M r ∧ mRo M r < mOps M ∧ 0 ≤ mRr M r ∧ mRr M r < mSorts M ∧ ∀ k, 0 ≤ k → k < mHo M (mRo M r) → 0 ≤ mRs M r k ∧ mRs M r k < mSorts M := h.2.2.2.2.2.2.1 r h1 h2
theorem WM.var {M : Mo} (h : WM M) {v : Int} (h1 : 0 ≤ v) (h2 : v < mVars M) : 0 ≤ mVs M v ∧ mVs M v < mSorts M := h.2.2.2.2.2.2.2.2.1 v h1 h2
theorem WM.anti {M : Mo} (h : WM M) {s t : Int} (h1 : 0 ≤ s) (h2 : s < mSorts M) (h3 : 0 ≤ t) (h4 : t < mSorts M) (a : blw M s t) (b : blw M t s) : s = t := h.2.2.2.2.2.2.2.2.2.2.2.1 s t h1 h2 h3 h4 a b
/-! least sorts -/
def rwA (M : Mo) (r : Int) : Int → List Int → Bool
  | _, [] => true
  | k, s :: t => decide (s ≠ -2) && decide (blw M s (mRs M r k)) && rwA M r (k + 1) t
/-- row r counts for an operator and a row of sorts -/
def rwO (M : Mo) (o r : Int) (ss : List Int) : Bool := decide (mRo M r = o) && (rwA M r 0 ss || decide (mCo M o ≠ 0) && rwA M r 0 ss.reverse)
/-- results of the first n rows that count, as bits -/
def lbS (M : Mo) (o : Int) (ss : List Int) : Nat → Int
  | 0 => 0
  | n + 1 => if rwO M o n ss = true then bOr (lbS M o ss n) (bShl 1 (mRr M n)) else lbS M o ss n
/-- the last of the first n sorts that is below all of a set -/
def isLo (M : Mo) (set s : Int) : Prop := bAnd (bShr set s) 1 = 1 ∧ bAnd set (bXor (mAb M s) (-1)) = 0
def loS (M : Mo) (set : Int) : Nat → Int
  | 0 => -2
  | n + 1 => if bAnd (bShr set n) 1 = 1 ∧ bAnd set (bXor (mAb M n) (-1)) = 0 then n else loS M set n
def lstB (M : Mo) (o : Int) (ss : List Int) : Int := loS M (lbS M o ss (mRows M).toNat) (mSorts M).toNat
def lst (M : Mo) (c : Int) (ss : List Int) : Int :=
  if c < 0 then mVs M (Int.tmod (-1 - c) 30)
  else if mAs M c ≠ 0 then (match ss with
    | [] => -2
    | s :: r => r.foldl (fun a b => lstB M c [a, b]) s)
  else lstB M c ss
def srtL (M : Mo) : Tr → List Int
  | .nest c l => [lst M c (srtL M l)]
  | .append a l => srtL M a ++ srtL M l
  | _ => []
def srt (M : Mo) (t : Tr) : Int := (srtL M t).headD (-2)
theorem srtL_1 (M : Mo) {t : Tr} (h : isT t) : srtL M t = [srt M t] := by
  obtain ⟨c, ts, rfl, -, -⟩ := isT_ex h
  rfl
theorem srt_N (M : Mo) (c : Int) {ts : List Tr} (h : ∀ t ∈ ts, isT t) : srt M (trN c ts) = lst M c (ts.map (srt M)) := by
  have key : ∀ ts : List Tr, (∀ t ∈ ts, isT t) → srtL M (trL ts) = ts.map (srt M) := by
    intro ts
    induction ts with
    | nil => intro _; rfl
    | cons t r ih =>
      intro h
      simp only [trL, srtL, List.map_cons]
      rw [srtL_1 M (h t (List.mem_cons_self ..)), ih (fun u hu => h u (List.mem_cons_of_mem _ hu))]
      rfl
  unfold srt
  simp only [trN, srtL, List.headD_cons]
  rw [key ts h]
  rfl
/-! forms that terms have -/
def sorted : List Tr → Prop
  | [] => True
  | [_] => True
  | a :: b :: r => cmT a b ≤ 0 ∧ sorted (b :: r)
def okN (M : Mo) (c : Int) (ts : List Tr) : Prop :=
  (c < 0 ∧ -60 ≤ c ∧ Int.tmod (-1 - c) 30 < mVars M ∧ ts = []) ∨
  (0 ≤ c ∧ c < mOps M ∧ (if mAs M c ≠ 0 then 2 ≤ ts.length ∧ ∀ t ∈ ts, lab t ≠ c else (ts.length : Int) = mHo M c) ∧
    (mUn M c ≠ -2 → ∀ t ∈ ts, lab t ≠ mUn M c) ∧ (mCo M c ≠ 0 → sorted ts))
def NFa (M : Mo) : Tr → Prop
  | .nest c l => okN M c (trK l) ∧ NFa M l
  | .append a l => NFa M a ∧ NFa M l
  | _ => True
def NF (M : Mo) (t : Tr) : Prop := isT t ∧ NFa M t
theorem NFa_L (M : Mo) (ts : List Tr) : NFa M (trL ts) ↔ ∀ t ∈ ts, NFa M t := by
  induction ts with
  | nil => simp [trL, NFa]
  | cons t r ih => simp [trL, NFa, ih]
theorem NF_N {M : Mo} {c : Int} {ts : List Tr} : NF M (trN c ts) ↔ okN M c ts ∧ -1000 ≤ c ∧ ∀ t ∈ ts, NF M t := by
  unfold NF
  rw [isT_N]
  simp only [trN, NFa]
  rw [NFa_L, trK_trL]
  constructor
  · rintro ⟨⟨a, b⟩, c, d⟩
    exact ⟨c, a, fun t ht => ⟨b t ht, d t ht⟩⟩
  · rintro ⟨a, b, c⟩
    exact ⟨⟨b, fun t ht => (c t ht).1⟩, a, fun t ht => (c t ht).2⟩
theorem NF.mk {M : Mo} {c : Int} {ts : List Tr} (h : okN M c ts) (k : ∀ t ∈ ts, NF M t) : NF M (trN c ts) := by
  refine NF_N.mpr ⟨h, ?_, k⟩
  rcases h with h | h <;> omega
theorem NF.ex {M : Mo} {t : Tr} (h : NF M t) : ∃ c ts, t = trN c ts ∧ okN M c ts ∧ ∀ u ∈ ts, NF M u := by
  obtain ⟨c, ts, rfl, -, -⟩ := isT_ex h.1
  have := NF_N.mp h
  exact ⟨c, ts, rfl, this.1, this.2.2⟩
/-! making -/
def insR (t : Tr) : List Tr → List Tr
  | [] => [t]
  | e :: r => if cmT t e < 0 then e :: insR t r else t :: e :: r
def isort (ts : List Tr) : List Tr := (ts.foldl (fun acc t => insR t acc) []).reverse
def flat (o : Int) (ts : List Tr) : List Tr := ts.flatMap fun t => if lab t = o then kids t else [t]
def unT (M : Mo) (o : Int) : Tr := trN (mUn M o) []
def mk3 (M : Mo) (o : Int) (ts : List Tr) : Tr := trN o (if mCo M o ≠ 0 then isort ts else ts)
def mk2 (M : Mo) (o : Int) (ts : List Tr) : Tr :=
  if mUn M o = -2 then mk3 M o ts
  else match ts.filter fun t => decide (lab t ≠ mUn M o) with
    | [] => unT M o
    | [t] => t
    | a :: b :: r => mk3 M o (a :: b :: r)
/-- the term of an operator and a row, in its form -/
def mk (M : Mo) (o : Int) (ts : List Tr) : Tr := mk2 M o (if mAs M o ≠ 0 then flat o ts else ts)
/-- of an assoc operator: none, one, or more -/
def mkS (M : Mo) (o : Int) : List Tr → Tr
  | [] => if mUn M o = -2 then .nil else unT M o
  | [t] => t
  | a :: b :: r => mk M o (a :: b :: r)

/-! reducing: what is computed. ST: memo (nil: nothing), made by filling, steps, filled, matchers, deals -/
abbrev ST : Type := (Tr → Tr) × List Tr × Int × Int × Int × Int
abbrev stM (st : ST) : Tr → Tr := st.1
abbrev stA (st : ST) : List Tr := st.2.1
abbrev stS (st : ST) : Int := st.2.2.1
abbrev stF (st : ST) : Int := st.2.2.2.1
abbrev stQ (st : ST) : Int := st.2.2.2.2.1
abbrev stD (st : ST) : Int := st.2.2.2.2.2
/-- a stop and the steps told, or a value -/
abbrev Out (α : Type) : Type := (Int × Int) ⊕ (α × ST)
/-- left sides, right sides, terms of conditions, other terms; sorts of conditions -/
abbrev Ru : Type := (Nat → Int → Tr) × (Int → Int)
abbrev ruL (R : Ru) (s : Int) : Tr := R.1 0 s
abbrev ruR (R : Ru) (s : Int) : Tr := R.1 1 s
abbrev ruC (R : Ru) (k : Int) : Tr := R.1 2 k
abbrev ruO (R : Ru) (k : Int) : Tr := R.1 3 k
abbrev ruS (R : Ru) (k : Int) : Int := R.2 k
def bnd {α β : Type} (m : Out α → Prop) (k : α → ST → Out β → Prop) (o : Out β) : Prop := (∃ e, m (.inl e) ∧ o = .inl e) ∨ ∃ a st, m (.inr (a, st)) ∧ k a st o
theorem bnd_mono {α β : Type} {m m' : Out α → Prop} {k k' : α → ST → Out β → Prop} (h1 : ∀ o, m o → m' o) (h2 : ∀ a st o, k a st o → k' a st o) : ∀ o, bnd m k o → bnd m' k' o := by
  rintro o (⟨e, a, b⟩ | ⟨a, st, b, c⟩)
  · exact Or.inl ⟨e, h1 _ a, b⟩
  · exact Or.inr ⟨a, st, h1 _ b, h2 _ _ _ c⟩
theorem bnd_inr {α β : Type} {m : Out α → Prop} {k : α → ST → Out β → Prop} {o : Out β} {a : α} {st : ST} (h1 : m (.inr (a, st))) (h2 : k a st o) : bnd m k o := Or.inr ⟨a, st, h1, h2⟩
theorem bnd_inl {α β : Type} {m : Out α → Prop} {k : α → ST → Out β → Prop} {e : Int × Int} (h1 : m (.inl e)) : bnd m k (.inl e) := Or.inl ⟨e, h1, rfl⟩
def cntE (n : Int) (st : ST) (o : Out Unit) : Prop := o = if 4000 < stF st + n then .inl (7, stS st) else .inr ((), (stM st, stA st, stS st, stF st + n, stQ st, stD st))
def stepE (st : ST) (o : Out Unit) : Prop := o = if 600 < stS st + 1 then .inl (1, stS st + 1) else .inr ((), (stM st, stA st, stS st + 1, stF st, stQ st, stD st))
def addA (st : ST) (l : List Tr) : ST := (stM st, l ++ stA st, stS st, stF st, stQ st, stD st)
noncomputable def mtO (M : Mo) (mo : Int) (p t : Tr) (w : Bool) (ρ : Env) (st : ST) : Out (List Env) := match mtc M p t w ρ (stD st) mo (stQ st) with
  | .inl c => .inl (c, stS st)
  | .inr L => .inr (L, (stM st, stA st, stS st, stF st, stQ st + (L.length : Int), stD st + ((min 3000001 (dlN M t p) : Nat) : Int)))
def mtE (M : Mo) (mo : Int) (p t : Tr) (w : Bool) (ρ : Env) (st : ST) (o : Out (List Env)) : Prop := o = mtO M mo p t w ρ st
/-- what filling makes -/
def filA (M : Mo) (ρ : Env) (t : Tr) : List Tr := ((subs t).filter (fun q => decide (0 ≤ lab q) && !(kids q).isEmpty)).map (fil M ρ)
def putE (M : Mo) (t : Tr) (ρ : Env) (st : ST) (o : Out Tr) : Prop := o = if 40 < trS (fil M ρ t) then .inl (6, stS st) else .inr (fil M ρ t, addA st (filA M ρ t))
def besE (M : Mo) (c : Int) (ta tx tb : Tr) (st : ST) (o : Out Tr) : Prop :=
  (ta = .nil ∧ tb = .nil ∧ o = .inr (tx, st)) ∨ (¬ (ta = .nil ∧ tb = .nil) ∧ o = if 40 < trS (mk M c (besL ta tx tb)) then .inl (6, stS st) else .inr (mk M c (besL ta tx tb), addA st [mk M c (besL ta tx tb)]))
/-- the recursion -/
abbrev RT : Type := Tr → ST → Out Tr → Prop
def rowE (RE : RT) : List Tr → ST → Out (List Tr) → Prop
  | [], st, o => o = .inr ([], st)
  | t :: ts, st, o => bnd (RE t st) (fun u st1 o => bnd (rowE RE ts st1) (fun us st2 o => o = .inr (u :: us, st2)) o) o
def redE (M : Mo) (RE : RT) (x : Tr) (st : ST) (o : Out Tr) : Prop :=
  (kids x = [] ∧ o = .inr (x, st)) ∨ (kids x ≠ [] ∧ bnd (rowE RE (kids x) st) (fun us st1 o => (us = kids x ∧ o = .inr (x, st1)) ∨ (us ≠ kids x ∧ o = if 40 < trS (mk M (lab x) us) then .inl (6, stS st1) else .inr (mk M (lab x) us, st1))) o)
def partE (M : Mo) (RE : RT) (t : Tr) (ρ : Env) (st : ST) (o : Out Tr) : Prop := bnd (cntE (trS t) st) (fun _ st1 o => bnd (putE M t ρ st1) (fun u st2 o => RE u st2 o) o) o
def isTrueE (M : Mo) (R : Ru) (RE : RT) (k : Int) (ρ : Env) (st : ST) (o : Out Bool) : Prop :=
  bnd (partE M RE (ruC R k) ρ st) (fun a st1 o => (mCs M k = 2 ∧ o = .inr (decide (srt M a ≠ -2 ∧ blw M (srt M a) (ruS R k)), st1)) ∨ (mCs M k ≠ 2 ∧ bnd (partE M RE (ruO R k) ρ st1) (fun b st2 o => (a = b ∧ o = .inr (true, st2)) ∨ (a ≠ b ∧ o = .inr (false, st2))) o)) o
def mcE (M : Mo) (R : Ru) (mo : Int) (RE : RT) (k : Int) (ρ : Env) (st : ST) (o : Out (List Env)) : Prop :=
  bnd (cntE ((trS (ruC R k) : Int) + trS (ruO R k)) st) (fun _ st1 o => bnd (putE M (ruO R k) ρ st1) (fun u st2 o => bnd (RE u st2) (fun v st3 o => mtE M mo (ruC R k) v false ρ st3 o) o) o) o
def firstE {β : Type} (f : Env → ST → Out (Option β) → Prop) : List Env → ST → Out (Option β) → Prop
  | [], st, o => o = .inr (none, st)
  | ρ :: L, st, o => bnd (f ρ st) (fun r st1 o => match r with
    | some b => o = .inr (some b, st1)
    | none => firstE f L st1 o) o
def cut (ρ : Env) : Env := fun v => if 0 ≤ v ∧ v < 60 then ρ v else .nil
def holdsE (M : Mo) (R : Ru) (mo : Int) (RE : RT) (s : Int) : Nat → Int → Env → ST → Out (Option Env) → Prop
  | 0, _, ρ, st, o => o = .inr (some ρ, st)
  | n + 1, c, ρ, st, o => (mCs M (6 * s + c) = 1 ∧ bnd (mcE M R mo RE (6 * s + c) ρ st) (fun L st1 o => firstE (fun ρ1 st o => holdsE M R mo RE s n (c + 1) (cut ρ1) st o) L st1 o) o) ∨
    (mCs M (6 * s + c) ≠ 1 ∧ bnd (isTrueE M R RE (6 * s + c) ρ st) (fun b st1 o => (b = true ∧ holdsE M R mo RE s n (c + 1) ρ st1 o) ∨ (b = false ∧ o = .inr (none, st1))) o)
def useE (M : Mo) (R : Ru) (mo : Int) (RE : RT) (s : Int) (ρm : Env) (st : ST) (o : Out (Option Tr)) : Prop :=
  bnd (holdsE M R mo RE s (mCn M s).toNat 0 (cut ρm) st) (fun r st1 o => match r with
    | none => o = .inr (none, st1)
    | some ρ' => bnd (cntE (trS (ruR R s)) st1) (fun _ st2 o => bnd (putE M (ruR R s) ρ' st2) (fun v st3 o => bnd (besE M (lab (ruL R s)) (ρm 60) v (ρm 61) st3) (fun z st4 o => o = .inr (some z, st4)) o) o) o) o
def nilE : Env := fun _ => .nil
def tryOneE (M : Mo) (R : Ru) (mo : Int) (RE : RT) (s : Int) (y : Tr) (st : ST) (o : Out (Option Tr)) : Prop :=
  bnd (mtE M mo (ruL R s) y true nilE st) (fun L st1 o => firstE (useE M R mo RE s) L st1 o) o
def tryEqE (M : Mo) (R : Ru) (mo : Int) (RE : RT) : List Int → Tr → ST → Out (Option Tr) → Prop
  | [], _, st, o => o = .inr (none, st)
  | e :: es, y, st, o => bnd (tryOneE M R mo RE e y st) (fun r st1 o => match r with
    | none => tryEqE M R mo RE es y st1 o
    | some z => bnd (stepE st1) (fun _ st2 o => o = .inr (some z, st2)) o) o
def allE (M : Mo) : List Int := (List.range (mEqs M).toNat).map fun (n : Nat) => (n : Int)
def eqs (M : Mo) : List Int := (allE M).filter (fun e => decide (mOt M e = 0)) ++ (allE M).filter (fun e => decide (mOt M e ≠ 0))
def came (st : ST) (t : Tr) : Tr := if lab t < 0 then t else stM st t
noncomputable def finE (ch : List Tr) (r : Tr) (st : ST) : ST := ((fun t => @ite _ (t ∈ ch ∨ (t = r ∧ 0 ≤ lab r)) (Classical.propDecidable _) r (stM st t)), stA st, stS st, stF st, stQ st, stD st)
/-- in process: depth, those that came, the term -/
abbrev WT : Type := Int → List Tr → Tr → ST → Out Tr → Prop
def RE (W : WT) (d : Int) : RT := fun t st o => (came st t ≠ .nil ∧ o = .inr (came st t, st)) ∨ (came st t = .nil ∧ ((60 < d ∧ o = .inl (5, stS st)) ∨ (¬ 60 < d ∧ W d [] t st o)))
def FW (M : Mo) (R : Ru) (mo : Int) (W : WT) (d : Int) (ch : List Tr) (x : Tr) (st : ST) (o : Out Tr) : Prop :=
  bnd (redE M (RE W (d + 1)) x st) (fun y st1 o =>
    (y ≠ x ∧ came st1 y ≠ .nil ∧ o = .inr (came st1 y, finE (x :: ch) (came st1 y) st1)) ∨
    (¬ (y ≠ x ∧ came st1 y ≠ .nil) ∧ bnd (tryEqE M R mo (RE W (d + 1)) (eqs M) y st1) (fun r st2 o => match r with
      | none => o = .inr (y, finE (y :: x :: ch) y st2)
      | some z => (came st2 z ≠ .nil ∧ o = .inr (came st2 z, finE (y :: x :: ch) (came st2 z) st2)) ∨ (came st2 z = .nil ∧ W d (y :: x :: ch) z st2 o)) o)) o
def Wr (M : Mo) (R : Ru) (mo : Int) : WT := fun d ch x st o => ∀ W : WT, (∀ d ch x st o, FW M R mo W d ch x st o → W d ch x st o) → W d ch x st o
/-! all of it grows with the recursion -/
section
variable {M : Mo} {R : Ru} {mo : Int} {G H : RT}
theorem rowE_mono (h : ∀ t st o, G t st o → H t st o) : ∀ ts st o, rowE G ts st o → rowE H ts st o := by
  intro ts
  induction ts with
  | nil => intro st o k; exact k
  | cons t ts ih => intro st o; exact bnd_mono (h t st) (fun u st1 => bnd_mono (ih st1) (fun _ _ _ k => k)) o
theorem redE_mono (h : ∀ t st o, G t st o → H t st o) : ∀ x st o, redE M G x st o → redE M H x st o := by
  rintro x st o (k | ⟨k1, k2⟩)
  · exact Or.inl k
  · exact Or.inr ⟨k1, bnd_mono (rowE_mono h _ _) (fun _ _ _ k => k) o k2⟩
theorem partE_mono (h : ∀ t st o, G t st o → H t st o) : ∀ t ρ st o, partE M G t ρ st o → partE M H t ρ st o := by
  intro t ρ st
  exact bnd_mono (fun _ k => k) (fun _ st1 => bnd_mono (fun _ k => k) (fun u st2 => h u st2))
theorem isTrueE_mono (h : ∀ t st o, G t st o → H t st o) : ∀ k ρ st o, isTrueE M R G k ρ st o → isTrueE M R H k ρ st o := by
  intro k ρ st
  refine bnd_mono (partE_mono h _ _ _) (fun a st1 o => ?_)
  rintro (z | ⟨z1, z2⟩)
  · exact Or.inl z
  · exact Or.inr ⟨z1, bnd_mono (partE_mono h _ _ _) (fun _ _ _ k => k) o z2⟩
theorem mcE_mono (h : ∀ t st o, G t st o → H t st o) : ∀ k ρ st o, mcE M R mo G k ρ st o → mcE M R mo H k ρ st o := by
  intro k ρ st
  exact bnd_mono (fun _ k => k) (fun _ st1 => bnd_mono (fun _ k => k) (fun u st2 => bnd_mono (h u st2) (fun _ _ _ k => k)))
theorem firstE_mono {β : Type} {f g : Env → ST → Out (Option β) → Prop} (h : ∀ ρ st o, f ρ st o → g ρ st o) : ∀ L st o, firstE f L st o → firstE g L st o := by
  intro L
  induction L with
  | nil => intro st o k; exact k
  | cons ρ L ih =>
    intro st o
    refine bnd_mono (h ρ st) (fun r st1 o => ?_) o
    match r with
    | some b => exact fun k => k
    | none => exact ih st1 o
theorem holdsE_mono (h : ∀ t st o, G t st o → H t st o) (s : Int) : ∀ n c ρ st o, holdsE M R mo G s n c ρ st o → holdsE M R mo H s n c ρ st o := by
  intro n
  induction n with
  | zero => intro c ρ st o k; exact k
  | succ n ih =>
    intro c ρ st o
    rintro (⟨z1, z2⟩ | ⟨z1, z2⟩)
    · exact Or.inl ⟨z1, bnd_mono (mcE_mono h _ _ _) (fun L st1 => firstE_mono (fun ρ1 st o => ih (c + 1) (cut ρ1) st o) L st1) o z2⟩
    · refine Or.inr ⟨z1, bnd_mono (isTrueE_mono h _ _ _) (fun b st1 o => ?_) o z2⟩
      rintro (⟨y1, y2⟩ | y)
      · exact Or.inl ⟨y1, ih (c + 1) ρ st1 o y2⟩
      · exact Or.inr y
theorem useE_mono (h : ∀ t st o, G t st o → H t st o) (s : Int) : ∀ ρ st o, useE M R mo G s ρ st o → useE M R mo H s ρ st o := by
  intro ρ st o
  refine bnd_mono (holdsE_mono h s _ _ _ _) (fun r st1 o => ?_) o
  match r with
  | none => exact fun k => k
  | some ρ' => exact fun k => k
theorem tryOneE_mono (h : ∀ t st o, G t st o → H t st o) (s : Int) : ∀ y st o, tryOneE M R mo G s y st o → tryOneE M R mo H s y st o := by
  intro y st o
  exact bnd_mono (fun _ k => k) (fun L st1 => firstE_mono (useE_mono h s) L st1) o
theorem tryEqE_mono (h : ∀ t st o, G t st o → H t st o) : ∀ es y st o, tryEqE M R mo G es y st o → tryEqE M R mo H es y st o := by
  intro es
  induction es with
  | nil => intro y st o k; exact k
  | cons e es ih =>
    intro y st o
    refine bnd_mono (tryOneE_mono h e y st) (fun r st1 o => ?_) o
    match r with
    | none => exact ih y st1 o
    | some z => exact fun k => k
end
theorem RE_mono {W V : WT} (h : ∀ d ch x st o, W d ch x st o → V d ch x st o) (d : Int) : ∀ t st o, RE W d t st o → RE V d t st o := by
  rintro t st o (k | ⟨k1, k2 | ⟨k2, k3⟩⟩)
  · exact Or.inl k
  · exact Or.inr ⟨k1, Or.inl k2⟩
  · exact Or.inr ⟨k1, Or.inr ⟨k2, h _ _ _ _ _ k3⟩⟩
theorem FW_mono {M : Mo} {R : Ru} {mo : Int} {W V : WT} (h : ∀ d ch x st o, W d ch x st o → V d ch x st o) : ∀ d ch x st o, FW M R mo W d ch x st o → FW M R mo V d ch x st o := by
  intro d ch x st o
  refine bnd_mono (redE_mono (RE_mono h _) _ _) (fun y st1 o => ?_) o
  rintro (k | ⟨k1, k2⟩)
  · exact Or.inl k
  · refine Or.inr ⟨k1, bnd_mono (tryEqE_mono (RE_mono h _) _ _ _) (fun r st2 o => ?_) o k2⟩
    match r with
    | none => exact fun k => k
    | some z =>
      rintro (k | ⟨y1, y2⟩)
      · exact Or.inl k
      · exact Or.inr ⟨y1, h _ _ _ _ _ y2⟩
theorem Wr_in {M : Mo} {R : Ru} {mo : Int} {d : Int} {ch : List Tr} {x : Tr} {st : ST} {o : Out Tr} (h : FW M R mo (Wr M R mo) d ch x st o) : Wr M R mo d ch x st o := by
  intro W hW
  exact hW _ _ _ _ _ (FW_mono (fun d ch x st o k => k W hW) _ _ _ _ _ h)
theorem Wr_out {M : Mo} {R : Ru} {mo : Int} {d : Int} {ch : List Tr} {x : Tr} {st : ST} {o : Out Tr} (h : Wr M R mo d ch x st o) : FW M R mo (Wr M R mo) d ch x st o :=
  h (FW M R mo (Wr M R mo)) (fun _ _ _ _ _ k => FW_mono (fun _ _ _ _ _ k => Wr_in k) _ _ _ _ _ k)
/-! it is a function -/
theorem bnd_det {α β : Type} {m m' : Out α → Prop} {k k' : α → ST → Out β → Prop} {o o' : Out β} (h1 : ∀ a b, m a → m' b → a = b) (h2 : ∀ a st b c, k a st b → k' a st c → b = c) (x : bnd m k o) (y : bnd m' k' o') : o = o' := by
  rcases x with ⟨e, a, rfl⟩ | ⟨a, st, b, c⟩
  · rcases y with ⟨e', a', rfl⟩ | ⟨a', st', b', c'⟩
    · have := h1 _ _ a a'
      simp only [Sum.inl.injEq] at this
      rw [this]
    · cases h1 _ _ a b'
  · rcases y with ⟨e', a', rfl⟩ | ⟨a', st', b', c'⟩
    · cases h1 _ _ b a'
    · have := h1 _ _ b b'
      simp only [Sum.inr.injEq, Prod.mk.injEq] at this
      obtain ⟨rfl, rfl⟩ := this
      exact h2 _ _ _ _ c c'
theorem eq_det {α : Type} {v : Out α} : ∀ a b : Out α, a = v → b = v → a = b := fun _ _ h k => h.trans k.symm
section
variable {M : Mo} {R : Ru} {mo : Int} {G H : RT}
theorem rowE_det (h : ∀ t st a b, G t st a → H t st b → a = b) : ∀ ts st a b, rowE G ts st a → rowE H ts st b → a = b := by
  intro ts
  induction ts with
  | nil => intro st a b x y; exact eq_det a b x y
  | cons t ts ih => intro st a b; exact bnd_det (h t st) (fun u st1 b c => bnd_det (ih st1) (fun _ _ b c x y => eq_det b c x y))
theorem redE_det (h : ∀ t st a b, G t st a → H t st b → a = b) : ∀ x st a b, redE M G x st a → redE M H x st b → a = b := by
  rintro x st a b (⟨k1, k2⟩ | ⟨k1, k2⟩) (⟨j1, j2⟩ | ⟨j1, j2⟩)
  · exact eq_det a b k2 j2
  · exact absurd k1 j1
  · exact absurd j1 k1
  · refine bnd_det (rowE_det h _ _) (fun us st1 b c => ?_) k2 j2
    rintro (⟨x1, x2⟩ | ⟨x1, x2⟩) (⟨y1, y2⟩ | ⟨y1, y2⟩)
    · exact eq_det b c x2 y2
    · exact absurd x1 y1
    · exact absurd y1 x1
    · exact eq_det b c x2 y2
theorem partE_det (h : ∀ t st a b, G t st a → H t st b → a = b) : ∀ t ρ st a b, partE M G t ρ st a → partE M H t ρ st b → a = b := by
  intro t ρ st a b
  exact bnd_det (fun a b => eq_det a b) (fun _ st1 b c => bnd_det (fun a b => eq_det a b) (fun u st2 => h u st2))
theorem isTrueE_det (h : ∀ t st a b, G t st a → H t st b → a = b) : ∀ k ρ st a b, isTrueE M R G k ρ st a → isTrueE M R H k ρ st b → a = b := by
  intro k ρ st a b
  refine bnd_det (partE_det h _ _ _) (fun u st1 b c => ?_)
  rintro (⟨x1, x2⟩ | ⟨x1, x2⟩) (⟨y1, y2⟩ | ⟨y1, y2⟩)
  · exact eq_det b c x2 y2
  · exact absurd x1 y1
  · exact absurd y1 x1
  · refine bnd_det (partE_det h _ _ _) (fun w st2 b c => ?_) x2 y2
    rintro (⟨x1, x2⟩ | ⟨x1, x2⟩) (⟨y1, y2⟩ | ⟨y1, y2⟩)
    · exact eq_det b c x2 y2
    · exact absurd x1 y1
    · exact absurd y1 x1
    · exact eq_det b c x2 y2
theorem mcE_det (h : ∀ t st a b, G t st a → H t st b → a = b) : ∀ k ρ st a b, mcE M R mo G k ρ st a → mcE M R mo H k ρ st b → a = b := by
  intro k ρ st a b
  exact bnd_det (fun a b => eq_det a b) (fun _ st1 b c => bnd_det (fun a b => eq_det a b) (fun u st2 b c => bnd_det (h u st2) (fun _ _ b c => eq_det b c)))
theorem firstE_det {β : Type} {f g : Env → ST → Out (Option β) → Prop} (h : ∀ ρ st a b, f ρ st a → g ρ st b → a = b) : ∀ L st a b, firstE f L st a → firstE g L st b → a = b := by
  intro L
  induction L with
  | nil => intro st a b x y; exact eq_det a b x y
  | cons ρ L ih =>
    intro st a b
    refine bnd_det (h ρ st) (fun r st1 b c => ?_)
    match r with
    | some v => exact fun x y => eq_det b c x y
    | none => exact ih st1 b c
theorem holdsE_det (h : ∀ t st a b, G t st a → H t st b → a = b) (s : Int) : ∀ n c ρ st a b, holdsE M R mo G s n c ρ st a → holdsE M R mo H s n c ρ st b → a = b := by
  intro n
  induction n with
  | zero => intro c ρ st a b x y; exact eq_det a b x y
  | succ n ih =>
    intro c ρ st a b
    rintro (⟨x1, x2⟩ | ⟨x1, x2⟩) (⟨y1, y2⟩ | ⟨y1, y2⟩)
    · exact bnd_det (mcE_det h _ _ _) (fun L st1 b c' => firstE_det (fun ρ1 st a b => ih (c + 1) (cut ρ1) st a b) L st1 b c') x2 y2
    · exact absurd x1 y1
    · exact absurd y1 x1
    · refine bnd_det (isTrueE_det h _ _ _) (fun u st1 b c' => ?_) x2 y2
      rintro (⟨x1, x2⟩ | ⟨x1, x2⟩) (⟨y1, y2⟩ | ⟨y1, y2⟩)
      · exact ih (c + 1) ρ st1 b c' x2 y2
      · rw [x1] at y1; cases y1
      · rw [x1] at y1; cases y1
      · exact eq_det b c' x2 y2
theorem useE_det (h : ∀ t st a b, G t st a → H t st b → a = b) (s : Int) : ∀ ρ st a b, useE M R mo G s ρ st a → useE M R mo H s ρ st b → a = b := by
  intro ρ st a b
  refine bnd_det (holdsE_det h s _ _ _ _) (fun r st1 b c => ?_)
  match r with
  | none => exact fun x y => eq_det b c x y
  | some ρ' =>
    refine bnd_det (fun a b => eq_det a b) (fun _ st2 b c => bnd_det (fun a b => eq_det a b) (fun v st3 b c => bnd_det (fun a b => ?_) (fun _ _ b c => eq_det b c)))
    rintro (⟨x1, x2, x3⟩ | ⟨x1, x2⟩) (⟨y1, y2, y3⟩ | ⟨y1, y2⟩)
    · exact eq_det a b x3 y3
    · exact absurd ⟨x1, x2⟩ y1
    · exact absurd ⟨y1, y2⟩ x1
    · exact eq_det a b x2 y2
theorem tryOneE_det (h : ∀ t st a b, G t st a → H t st b → a = b) (s : Int) : ∀ y st a b, tryOneE M R mo G s y st a → tryOneE M R mo H s y st b → a = b := by
  intro y st a b
  exact bnd_det (fun a b => eq_det a b) (fun L st1 b c => firstE_det (useE_det h s) L st1 b c)
theorem tryEqE_det (h : ∀ t st a b, G t st a → H t st b → a = b) : ∀ es y st a b, tryEqE M R mo G es y st a → tryEqE M R mo H es y st b → a = b := by
  intro es
  induction es with
  | nil => intro y st a b x z; exact eq_det a b x z
  | cons e es ih =>
    intro y st a b
    refine bnd_det (tryOneE_det h e y st) (fun r st1 b c => ?_)
    match r with
    | none => exact ih y st1 b c
    | some z => exact bnd_det (fun a b => eq_det a b) (fun _ _ b c => eq_det b c)
end
theorem RE_det {W V : WT} (h : ∀ d ch x st a b, W d ch x st a → V d ch x st b → a = b) (d : Int) : ∀ t st a b, RE W d t st a → RE V d t st b → a = b := by
  rintro t st a b (⟨k1, k2⟩ | ⟨k1, k2⟩) (⟨j1, j2⟩ | ⟨j1, j2⟩)
  · exact eq_det a b k2 j2
  · exact absurd j1 k1
  · exact absurd k1 j1
  · rcases k2 with ⟨x1, x2⟩ | ⟨x1, x2⟩ <;> rcases j2 with ⟨y1, y2⟩ | ⟨y1, y2⟩
    · exact eq_det a b x2 y2
    · exact absurd x1 y1
    · exact absurd y1 x1
    · exact h _ _ _ _ _ _ x2 y2
theorem Wr_det {M : Mo} {R : Ru} {mo : Int} {d : Int} {ch : List Tr} {x : Tr} {st : ST} {a b : Out Tr} (h : Wr M R mo d ch x st a) (k : Wr M R mo d ch x st b) : a = b := by
  refine h (fun d ch x st a => ∀ b, Wr M R mo d ch x st b → a = b) ?_ b k
  intro d ch x st a hF b hb
  have hB := Wr_out hb
  have hd : ∀ d ch x st a b, (∀ b, Wr M R mo d ch x st b → a = b) → Wr M R mo d ch x st b → a = b := fun _ _ _ _ _ b h k => h b k
  refine bnd_det (redE_det (RE_det hd _) _ _) (fun y st1 b c => ?_) hF hB
  rintro (⟨x1, x2, x3⟩ | ⟨x1, x2⟩) (⟨y1, y2, y3⟩ | ⟨y1, y2⟩)
  · exact eq_det b c x3 y3
  · exact absurd ⟨x1, x2⟩ y1
  · exact absurd ⟨y1, y2⟩ x1
  · refine bnd_det (tryEqE_det (RE_det hd _) _ _ _) (fun r st2 b c => ?_) x2 y2
    match r with
    | none => exact fun x y => eq_det b c x y
    | some z =>
      rintro (⟨x1, x2⟩ | ⟨x1, x2⟩) (⟨y1, y2⟩ | ⟨y1, y2⟩)
      · exact eq_det b c x2 y2
      · exact absurd y1 x1
      · exact absurd x1 y1
      · exact x2 c y2
theorem REr_det {M : Mo} {R : Ru} {mo : Int} {d : Int} {t : Tr} {st : ST} {a b : Out Tr} (h : RE (Wr M R mo) d t st a) (k : RE (Wr M R mo) d t st b) : a = b :=
  RE_det (fun _ _ _ _ _ _ x y => Wr_det x y) d t st a b h k

/-! reducing without memory, without counting: so deep at most -/
abbrev FT : Type := Tr → Option Tr
def rowB (f : FT) : List Tr → Option (List Tr)
  | [] => some []
  | t :: ts => (f t).bind fun u => (rowB f ts).bind fun us => some (u :: us)
def putB (M : Mo) (ρ : Env) (t : Tr) : Option Tr := if 40 < trS (fil M ρ t) then none else some (fil M ρ t)
def partB (M : Mo) (f : FT) (ρ : Env) (t : Tr) : Option Tr := (putB M ρ t).bind f
noncomputable def isTrueB (M : Mo) (R : Ru) (f : FT) (k : Int) (ρ : Env) : Option Bool :=
  (partB M f ρ (ruC R k)).bind fun a => if mCs M k = 2 then some (decide (srt M a ≠ -2 ∧ blw M (srt M a) (ruS R k))) else (partB M f ρ (ruO R k)).bind fun b => some (@decide (a = b) (Classical.propDecidable _))
noncomputable def mlB (M : Mo) (p t : Tr) (w : Bool) (ρ : Env) : Option (List Env) := if tWide (asO M p) t = true then none else mls M p t w ρ
theorem mlB_ok {M : Mo} {p t : Tr} {w : Bool} {ρ : Env} {L : List Env} (h : mlB M p t w ρ = some L) : tWide (asO M p) t = false ∧ ∀ ρ' ∈ L, Zm M p t w ρ ρ' := by
  unfold mlB at h
  split at h
  · cases h
  · rename_i hw
    exact ⟨by simpa using hw, fun ρ' k => ((mls_ok h).1.2 ρ').mp k⟩
noncomputable def mcB (M : Mo) (R : Ru) (f : FT) (k : Int) (ρ : Env) : Option (List Env) :=
  (partB M f ρ (ruO R k)).bind fun v => mlB M (ruC R k) v false ρ
def firstB {β : Type} (g : Env → Option (Option β)) : List Env → Option (Option β)
  | [] => some none
  | ρ :: L => (g ρ).bind fun r => match r with
    | some b => some (some b)
    | none => firstB g L
noncomputable def holdsB (M : Mo) (R : Ru) (f : FT) (s : Int) : Nat → Int → Env → Option (Option Env)
  | 0, _, ρ => some (some ρ)
  | n + 1, c, ρ => if mCs M (6 * s + c) = 1 then (mcB M R f (6 * s + c) ρ).bind fun L => firstB (fun ρ1 => holdsB M R f s n (c + 1) (cut ρ1)) L
    else (isTrueB M R f (6 * s + c) ρ).bind fun b => if b = true then holdsB M R f s n (c + 1) ρ else some none
noncomputable def besB (M : Mo) (c : Int) (ta tx tb : Tr) : Option Tr := @ite _ (ta = .nil ∧ tb = .nil) (Classical.propDecidable _) (some tx) (if 40 < trS (mk M c (besL ta tx tb)) then none else some (mk M c (besL ta tx tb)))
noncomputable def useB (M : Mo) (R : Ru) (f : FT) (s : Int) (ρm : Env) : Option (Option Tr) :=
  (holdsB M R f s (mCn M s).toNat 0 (cut ρm)).bind fun r => match r with
    | none => some none
    | some ρ' => (putB M ρ' (ruR R s)).bind fun v => (besB M (lab (ruL R s)) (ρm 60) v (ρm 61)).bind fun z => some (some z)
noncomputable def tryOneB (M : Mo) (R : Ru) (f : FT) (s : Int) (y : Tr) : Option (Option Tr) := (mlB M (ruL R s) y true nilE).bind fun L => firstB (useB M R f s) L
noncomputable def tryEqB (M : Mo) (R : Ru) (f : FT) : List Int → Tr → Option (Option Tr)
  | [], _ => some none
  | e :: es, y => (tryOneB M R f e y).bind fun r => match r with
    | none => tryEqB M R f es y
    | some z => some (some z)
noncomputable def redB (M : Mo) (f : FT) (x : Tr) : Option Tr := (rowB f (kids x)).bind fun us => @ite _ (us = kids x) (Classical.propDecidable _) (some x) (if 40 < trS (mk M (lab x) us) then none else some (mk M (lab x) us))
noncomputable def bg (M : Mo) (R : Ru) : Nat → FT
  | 0, _ => none
  | n + 1, x => if lab x < 0 then some x else (redB M (bg M R n) x).bind fun y => if lab y < 0 then some y else (tryEqB M R (bg M R n) (eqs M) y).bind fun r => match r with
    | none => some y
    | some z => bg M R n z
/-! deeper: the same -/
def leF (f g : FT) : Prop := ∀ t r, f t = some r → g t = some r
theorem ob_mono {α β : Type} {a a' : Option α} {k k' : α → Option β} {r : β} (h1 : ∀ x, a = some x → a' = some x) (h2 : ∀ x y, k x = some y → k' x = some y) (h : a.bind k = some r) : a'.bind k' = some r := by
  cases a with
  | none => cases h
  | some x =>
    rw [h1 x rfl]
    exact h2 x r h
section
variable {M : Mo} {R : Ru} {f g : FT}
theorem rowB_mono (h : leF f g) : ∀ ts r, rowB f ts = some r → rowB g ts = some r := by
  intro ts
  induction ts with
  | nil => intro r k; exact k
  | cons t ts ih => intro r; exact ob_mono (h t) (fun u y => ob_mono (ih) (fun _ _ k => k))
theorem partB_mono (h : leF f g) : ∀ ρ t r, partB M f ρ t = some r → partB M g ρ t = some r := fun ρ t r => ob_mono (fun _ k => k) (fun x y => h x y)
theorem isTrueB_mono (h : leF f g) : ∀ k ρ r, isTrueB M R f k ρ = some r → isTrueB M R g k ρ = some r := by
  intro k ρ r
  refine ob_mono (partB_mono h _ _) (fun a y => ?_)
  by_cases c : mCs M k = 2
  · rw [if_pos c, if_pos c]; exact fun z => z
  · rw [if_neg c, if_neg c]
    exact ob_mono (partB_mono h _ _) (fun _ _ k => k)
theorem mcB_mono (h : leF f g) : ∀ k ρ r, mcB M R f k ρ = some r → mcB M R g k ρ = some r := fun k ρ r => ob_mono (partB_mono h _ _) (fun _ _ k => k)
theorem firstB_mono {β : Type} {a b : Env → Option (Option β)} (h : ∀ ρ r, a ρ = some r → b ρ = some r) : ∀ L r, firstB a L = some r → firstB b L = some r := by
  intro L
  induction L with
  | nil => intro r k; exact k
  | cons ρ L ih =>
    intro r
    refine ob_mono (h ρ) (fun x y => ?_)
    match x with
    | some b => exact fun k => k
    | none => exact ih y
theorem holdsB_mono (h : leF f g) (s : Int) : ∀ n c ρ r, holdsB M R f s n c ρ = some r → holdsB M R g s n c ρ = some r := by
  intro n
  induction n with
  | zero => intro c ρ r k; exact k
  | succ n ih =>
    intro c ρ r
    simp only [holdsB]
    by_cases z : mCs M (6 * s + c) = 1
    · rw [if_pos z, if_pos z]
      exact ob_mono (mcB_mono h _ _) (fun L y => firstB_mono (fun ρ1 r => ih (c + 1) (cut ρ1) r) L y)
    · rw [if_neg z, if_neg z]
      refine ob_mono (isTrueB_mono h _ _) (fun b y => ?_)
      by_cases e : b = true
      · rw [if_pos e, if_pos e]; exact ih (c + 1) ρ y
      · rw [if_neg e, if_neg e]; exact fun k => k
theorem useB_mono (h : leF f g) (s : Int) : ∀ ρ r, useB M R f s ρ = some r → useB M R g s ρ = some r := by
  intro ρ r
  refine ob_mono (holdsB_mono h s _ _ _) (fun x y => ?_)
  match x with
  | none => exact fun k => k
  | some ρ' => exact fun k => k
theorem tryOneB_mono (h : leF f g) (s : Int) : ∀ y r, tryOneB M R f s y = some r → tryOneB M R g s y = some r := fun y r => ob_mono (fun _ k => k) (fun L z => firstB_mono (useB_mono h s) L z)
theorem tryEqB_mono (h : leF f g) : ∀ es y r, tryEqB M R f es y = some r → tryEqB M R g es y = some r := by
  intro es
  induction es with
  | nil => intro y r k; exact k
  | cons e es ih =>
    intro y r
    refine ob_mono (tryOneB_mono h e y) (fun x z => ?_)
    match x with
    | none => exact ih y z
    | some b => exact fun k => k
theorem redB_mono (h : leF f g) : ∀ x r, redB M f x = some r → redB M g x = some r := fun x r => ob_mono (rowB_mono h _) (fun _ _ k => k)
end
theorem bg_succ (M : Mo) (R : Ru) : ∀ n, leF (bg M R n) (bg M R (n + 1)) := by
  intro n
  induction n with
  | zero => intro t r h; cases h
  | succ n ih =>
    intro t r h
    simp only [bg] at h ⊢
    by_cases hv : lab t < 0
    · rw [if_pos hv] at h ⊢; exact h
    · rw [if_neg hv] at h ⊢
      refine ob_mono (redB_mono ih t) (fun y z => ?_) h
      by_cases hy : lab y < 0
      · rw [if_pos hy, if_pos hy]; exact fun k => k
      · rw [if_neg hy, if_neg hy]
        refine ob_mono (tryEqB_mono ih _ y) (fun q w => ?_)
        match q with
        | none => exact fun k => k
        | some u => exact ih u w
theorem bg_le {M : Mo} {R : Ru} {n m : Nat} (h : n ≤ m) : leF (bg M R n) (bg M R m) := by
  induction h with
  | refl => exact fun _ _ k => k
  | step h ih => exact fun t r k => bg_succ M R _ t r (ih t r k)
theorem bg_det {M : Mo} {R : Ru} {n m : Nat} {t r s : Tr} (h : bg M R n t = some r) (k : bg M R m t = some s) : r = s := by
  have a := bg_le (Nat.le_max_left n m) t r h
  have b := bg_le (Nat.le_max_right n m) t s k
  rw [a] at b
  exact Option.some.inj b
theorem bg_var {M : Mo} {R : Ru} {t : Tr} (h : lab t < 0) (n : Nat) : bg M R (n + 1) t = some t := by simp only [bg]; rw [if_pos h]
section
variable {M : Mo} {R : Ru} {mo : Int}
theorem bnd_ok {α β : Type} {m : Out α → Prop} {k : α → ST → Out β → Prop} {b : β} {st : ST} (h : bnd m k (.inr (b, st))) : ∃ a st1, m (.inr (a, st1)) ∧ k a st1 (.inr (b, st)) := by
  rcases h with ⟨e, -, z⟩ | h
  · cases z
  · exact h
theorem cntE_ok {n : Int} {st st' : ST} {u : Unit} (h : cntE n st (.inr (u, st'))) : stF st + n ≤ 4000 ∧ st' = (stM st, stA st, stS st, stF st + n, stQ st, stD st) := by
  unfold cntE at h
  split at h
  · cases h
  · simp only [Sum.inr.injEq, Prod.mk.injEq] at h
    obtain ⟨-, h⟩ := h
    exact ⟨by omega, by rw [h]⟩
theorem stepE_ok {st st' : ST} {u : Unit} (h : stepE st (.inr (u, st'))) : stS st + 1 ≤ 600 ∧ st' = (stM st, stA st, stS st + 1, stF st, stQ st, stD st) := by
  unfold stepE at h
  split at h
  · cases h
  · simp only [Sum.inr.injEq, Prod.mk.injEq] at h
    obtain ⟨-, h⟩ := h
    exact ⟨by omega, by rw [h]⟩
theorem putE_ok {t v : Tr} {ρ : Env} {st st' : ST} (h : putE M t ρ st (.inr (v, st'))) : v = fil M ρ t ∧ trS (fil M ρ t) ≤ 40 ∧ st' = addA st (filA M ρ t) ∧ putB M ρ t = some v := by
  unfold putE at h
  unfold putB
  split at h
  · cases h
  · rename_i hs
    simp only [Sum.inr.injEq, Prod.mk.injEq] at h
    obtain ⟨h1, h2⟩ := h
    refine ⟨h1, by omega, h2, ?_⟩
    rw [if_neg hs, h1]
theorem besE_ok {c : Int} {ta tx tb z : Tr} {st st' : ST} (h : besE M c ta tx tb st (.inr (z, st'))) : besB M c ta tx tb = some z ∧ ((ta = .nil ∧ tb = .nil ∧ z = tx ∧ st' = st) ∨ (¬ (ta = .nil ∧ tb = .nil) ∧ trS (mk M c (besL ta tx tb)) ≤ 40 ∧ z = mk M c (besL ta tx tb) ∧ st' = addA st [mk M c (besL ta tx tb)])) := by
  rcases h with ⟨a, b, h⟩ | ⟨a, h⟩
  · simp only [Sum.inr.injEq, Prod.mk.injEq] at h
    refine ⟨?_, Or.inl ⟨a, b, h.1, h.2⟩⟩
    unfold besB
    rw [if_pos ⟨a, b⟩, h.1]
  · split at h
    · cases h
    · rename_i hs
      simp only [Sum.inr.injEq, Prod.mk.injEq] at h
      refine ⟨?_, Or.inr ⟨a, by omega, h.1, h.2⟩⟩
      unfold besB
      rw [if_neg a, if_neg hs, h.1]
theorem mtE_ok {p t : Tr} {w : Bool} {ρ : Env} {st st' : ST} {L : List Env} (h : mtE M mo p t w ρ st (.inr (L, st'))) : mtc M p t w ρ (stD st) mo (stQ st) = .inr L ∧ mlB M p t w ρ = some L ∧ st' = (stM st, stA st, stS st, stF st, stQ st + (L.length : Int), stD st + ((min 3000001 (dlN M t p) : Nat) : Int)) := by
  unfold mtE mtO at h
  split at h
  · cases h
  · rename_i L' hm
    simp only [Sum.inr.injEq, Prod.mk.injEq] at h
    obtain ⟨h1, h2⟩ := h
    subst h1
    refine ⟨hm, ?_, by rw [h2]⟩
    unfold mlB
    split
    · rename_i hw; rw [mtc_wide hw] at hm; cases hm
    · exact (mtc_ok hm).1
end

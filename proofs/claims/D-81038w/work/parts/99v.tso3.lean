/-! RewriteHouseModel: solving rows -/
theorem pk_0 {α : Type} (E : List α) : pk 0 E = [] := by
  induction E with
  | nil => rfl
  | cons e E ih => simp [pk, ih]
theorem mk_ones : ∀ n : Fin 7, w32 (bShl 1 ((n.val : Nat) : Int) - 1) = ((2 ^ n.val - 1 : Nat) : Int) := by decide +kernel
theorem mk_andn : ∀ m : Fin 64, ∀ s : Fin 64, s.val &&& m.val = s.val → bAnd ((m.val : Nat) : Int) (bXor ((s.val : Nat) : Int) (-1)) = ((m.val ^^^ s.val : Nat) : Int) := by decide +kernel
/-- what can't be matched -/
theorem no_take {M : Mo} (hM : WM M) {A : Int → Bool} {p q : Tr} {S : List Tr} (hp : NF M p) (h0 : 0 ≤ lab p) (has : mAs M (lab p) ≠ 0) (hq : q ∈ kids p) (hel : elm M (lab p) A S) (hno : ¬ (if lab q < 0 ∨ mUn M (lab q) ≠ -2 then 0 < S.length ∨ mUn M (lab p) ≠ -2 else S.length = 1)) (hnn : mkS M (lab p) S ≠ .nil) {gs : List Goal} {ρ ρ' : Env} : ¬ Solv M (.inl (q, mkS M (lab p) S) :: gs) ρ ρ' := by
  intro hs
  have nq := hp.kid hq
  have okp : (2 ≤ (kids p).length ∧ ∀ t ∈ kids p, lab t ≠ lab p) ∧ (mUn M (lab p) ≠ -2 → ∀ t ∈ kids p, lab t ≠ mUn M (lab p)) := by
    rcases hp.ok with z | z
    · omega
    · have z3 := z.2.2.1
      rw [if_pos has] at z3
      exact ⟨z3, z.2.2.2.1⟩
  by_cases hc : lab q < 0 ∨ mUn M (lab q) ≠ -2
  · rw [if_pos hc] at hno
    match S, hno, hnn with
    | [], hno, hnn =>
      simp only [mkS] at hnn
      rw [if_pos (by
        by_cases z : mUn M (lab p) = -2
        · exact z
        · exact absurd (Or.inr z) hno)] at hnn
      exact hnn rfl
    | a :: r, hno, _ => exact hno (Or.inl (by simp))
  · rw [if_neg hc] at hno
    have hq0 : 0 ≤ lab q := by omega
    have hu : mUn M (lab q) = -2 := by
      by_cases z : mUn M (lab q) = -2
      · exact z
      · exact absurd (Or.inr z) hc
    have hl : lab (mkS M (lab p) S) ≠ lab q := by
      match S, hno, hel with
      | [], _, _ =>
        simp only [mkS] at hnn ⊢
        by_cases z : mUn M (lab p) = -2
        · rw [if_pos z] at hnn; exact absurd rfl hnn
        · rw [if_neg z]
          intro e
          exact okp.2 z q hq (by rw [← e]; rfl)
      | [a], hno, _ => exact absurd rfl hno
      | a :: b :: r, _, hel =>
        rw [mkS_elm has hel (by simp), lab_N]
        exact fun e => okp.1.2 q hq e.symm
    by_cases hqa : mAs M (lab q) = 0
    · rcases (Solv_plain hq0 hqa).mp hs with z | z | z
      · exact hl z.1
      · exact hl z.1
      · exact z.1 hu
    · have z := (Solv_assoc hq0 hqa).mp hs
      have e1 : elO M (lab q) (mkS M (lab p) S) = [mkS M (lab p) S] := by
        unfold elO
        rw [if_neg hl, if_neg (fun y => y.1 hu)]
      rw [e1] at z
      have few := Solv_few hu (kids q).length 0 _ _ _ _ (by omega) (by omega) z
      rcases nq.ok with y | y
      · omega
      · have y3 := y.2.2.1
        rw [if_pos hqa] at y3
        simp only [List.length_cons, List.length_nil] at few
        omega
section
variable {M : Mo} {A : Int → Bool} {t0 : Tr} {P : Env → Prop} {o : Int} {σ0 : S} {m : Nat}
/-- a part for itself, then the others -/
def oneT (M : Mo) (p : Tr) (s : Nat) (gs : List Goal) (ρ : Env) (S T : List Tr) (ρ' : Env) : Prop :=
  ∃ q, (kids p)[s]? = some q ∧ mkS M (lab p) S ≠ .nil ∧ Solv M (.inl (q, mkS M (lab p) S) :: .inr (p, s + 1, T) :: gs) ρ ρ'
/-- a part is tried: its goals are pushed and solved -/
theorem st_try (c : cxT M A t0 P o σ0) (ih : SoT M A t0 P o σ0 m) {σ s : S} {gs : List Goal} {ρ : Env} {L L1 : List Env} {Z : Env → Prop} {p t q nx a b k : Int} {i : Nat} {tp tq : Tr} {Sx Tx : List Tr} (mt : mtT M (inU M A t0) P o σ0 σ ρ L) (d : doneT M (inU M A t0) o σ L Z s L1) (hZ : ∀ ρ', Z ρ' → P ρ') (gg : gsT M s nx gs) (okgs : ∀ x ∈ gs, gOT M A t0 x) (hg : 0 ≤ gI s 110 ∧ gI s 110 + 2 + 4 * m ≤ 2000) (hq : lvT s q) (eq : tT s q = tq) (etq : (kids tp)[i]? = some tq)
    (gv : goV M s k p t a b (.inr (tp, i + 1, Tx))) (okr : gOT M A t0 (.inr (tp, i + 1, Tx))) (okx : mkS M (lab tp) Sx ≠ .nil → gOT M A t0 (.inl (tq, mkS M (lab tp) Sx))) {v : Int} (hv : mkS M (lab tp) Sx = .nil ∧ v = -2 ∨ lvT s v ∧ tT s v = mkS M (lab tp) Sx) (hnn : mkS M (lab tp) Sx ≠ .nil) (hw : wTs (.inl (tq, mkS M (lab tp) Sx) :: .inr (tp, i + 1, Tx) :: gs) + 1 ≤ m) (hP : ∀ ρ', oneT M tp i gs ρ Sx Tx ρ' → P ρ') {K : S → Prop} {E : S → Prop}
    (hQ : ∀ s2 L2, doneT M (inU M A t0) o σ L (fun ρ' => Z ρ' ∨ oneT M tp i gs ρ Sx Tx ρ') s2 L2 → kT (inU M A t0) s s2 → gI s2 110 = gI s 110 → K s2) (hE : ∀ s2, overT M (inU M A t0) σ L (fun ρ' => Z ρ' ∨ oneT M tp i gs ρ Sx Tx ρ') s2 → E s2) :
    t_goal k p t a b nx s (fun r_41 σ_40 => t_goal 0 q v 0 0 r_41 σ_40 (fun r_43 σ_42 => t_S_solve m 0 [r_43] σ_42 (fun _ σ_44 => ∀ σ_46, σ_46 = pI σ_44 110 (gI s 110) → K σ_46) E)) := by
  have rg := mt.1.rg
  have xs := d.2.2.1
  have lv : lvT s v ∧ tT s v = mkS M (lab tp) Sx := hv.resolve_left (fun z => hnn z.1)
  have one : ∀ ρ', Solv M (.inl (tq, mkS M (lab tp) Sx) :: .inr (tp, i + 1, Tx) :: gs) ρ ρ' ↔ oneT M tp i gs ρ Sx Tx ρ' := by
    intro ρ'
    constructor
    · exact fun z => ⟨tq, etq, hnn, z⟩
    · rintro ⟨q', hq', -, z⟩
      rw [etq] at hq'
      simp only [Option.some.injEq] at hq'
      rw [hq']; exact z
  refine ts_goal (N := inU M A t0) (x := .inr (tp, i + 1, Tx)) xs hg.1 (by omega) gg gv (fun s1 f1 x1 k1 l1 g1 gg1 => ?_)
  have d1 := d.q rg.1 f1 rfl rfl x1 k1
  refine st_pg d1 rg.1 (by omega) gg1 (l1 _ hq).1 (l1 _ lv.1).1 (fun s2 d2 k2 x2 l2 g2 gg2 => ?_)
  rw [(l1 _ hq).2, eq, (l1 _ lv.1).2, lv.2] at gg2
  refine st_rec c ih mt d2 hZ gg2 (fun x hx => ?_) (by omega) hw (fun ρ' z => hP ρ' ((one ρ').mp z)) (fun r3 s3 L3 f3 d3 k3 g3 => ?_) (fun s3 q3 => hE s3 (q3.imp (fun ρ' z => z.imp id (one ρ').mp)))
  · rcases List.mem_cons.mp hx with rfl | hx
    · exact okx hnn
    · rcases List.mem_cons.mp hx with rfl | hx
      · exact okr
      · exact okgs x hx
  · rintro s4 hs4
    have f4 : Fr ([110], [], []) s3 s4 := Fr.rf.putI hs4 rfl
    have g4 : gI s4 110 = gI s 110 := by rw [hs4]; rfl
    have six4 : ∀ a ∈ gA6, gA s4 a = gA s3 a := apt_a (w := ([110], [], [])) (I := []) (A := gA6) rfl f4
    have x3 := d3.2.2.1
    have e34 : ExT s3 s4 (inU M A t0) := ExT.of_fr f4 rfl
    have ks := d.2.1
    have kss : kT (inU M A t0) s s3 := (k1.trans k2 xs.rg.1).trans k3 xs.rg.1
    have ks4 : kT (inU M A t0) s s4 := by
      obtain ⟨z1, z2, z3, z4, z5, z6, z7, z8⟩ := kss
      exact ⟨z1.trans e34 xs.rg.1, by rw [f4.i _ rfl]; exact z2, by rw [f4.a _ rfl]; exact z3, by rw [g4]; exact Int.le_refl _, by rw [f4.i _ rfl]; exact z5, fun a i ha hi => by rw [six4 a ha]; exact z6 a i ha hi, fun j hj => by rw [f4.a 79 rfl]; exact z7 j hj, fun j hj => by rw [f4.a 58 rfl]; exact z8 j hj⟩
    refine hQ s4 L3 (doneT.iff ⟨Fr.trans d3.1 (f4.weak rfl), ks.trans ks4 rg.1, (x3.fr f4 rfl).1, d3.2.2.2.1.ex e34 (f4.i _ rfl) (f4.i _ rfl) (f4.a _ rfl), d3.2.2.2.2⟩ (fun ρ' => ⟨fun z => z.imp id (one ρ').mp, fun z => z.imp id (one ρ').mpr⟩)) ks4 g4
theorem kT.sg {σ s : S} {f r : Int} {es : List Tr} (hU : ∀ u, u = mkS M f es ∨ mUn M f ≠ -2 ∧ u = unT M f → isT u → inU M A t0 u) (h : TP M σ) (q : sgQ M σ f es r s) (fr : Fr wT_segment σ s) : kT (inU M A t0) σ s := by
  obtain ⟨q1, q2, q3, q4, q5, q6, q7⟩ := q
  have six : ∀ a ∈ gA6, gA s a = gA σ a := apt_a (w := wT_segment) (I := []) (A := gA6) rfl fr
  refine ⟨⟨q3.1, q3.2.1, fun x h1 h2 => ?_⟩, q4, fr.a _ rfl, by rw [fr.i _ rfl]; exact Int.le_refl _, fr.i _ rfl, fun a i ha _ => by rw [six a ha], fun j _ => by rw [fr.a 79 rfl], q7⟩
  obtain ⟨z1, z2⟩ := q3.2.2 x h1 h2
  exact ⟨z1, hU _ z2 (q1.T ⟨by have := h.rg; omega, h2⟩)⟩
theorem elm_in {f : Int} {es S R : List Tr} (hM : WM M) (h0t : isT t0) (h0 : 0 ≤ f) (h1 : f < mOps M) (has : mAs M f ≠ 0) (hA : A f = true) (hel : elm M f A es) (hrow : rowU M A t0 f es) (hsp : spl es S R) : elm M f A S ∧ elm M f A R ∧ rowU M A t0 f S ∧ rowU M A t0 f R ∧ (∀ u, u = mkS M f S ∨ mUn M f ≠ -2 ∧ u = unT M f → isT u → inU M A t0 u) ∧ (mkS M f S ≠ .nil → NF M (mkS M f S) ∧ trS (mkS M f S) ≤ 40 ∧ tWide A (mkS M f S) = false ∧ inU M A t0 (mkS M f S)) := by
  have e2 := hel.sub hsp
  have r2 := rowU_sub hrow hsp
  have sm := mkS_small hM h0 h1 has e2.1
  refine ⟨e2.1, e2.2, r2.1, r2.2, ?_, fun z => ⟨(sm.2 z).1, sm.1, (sm.2 z).2, rowU_mk h0t h0 h1 has hA r2.1 e2.1 z⟩⟩
  rintro u (rfl | ⟨hu, rfl⟩) hT
  · exact rowU_mk h0t h0 h1 has hA r2.1 e2.1 (isT_ne_nil hT)
  · exact Or.inr (Or.inr ⟨f, h0, h1, hu, rfl⟩)
theorem rst_el {f : Int} {t : Tr} (ht : isT t) (hne : elO M f t ≠ []) : rstL f t = elO M f t := by
  obtain ⟨c, ts, rfl, -, -⟩ := isT_ex ht
  unfold elO at hne ⊢
  rw [lab_N] at hne ⊢
  show (if c = f then trK (trL ts) else [trN c ts]) = _
  rw [kids_N] at hne ⊢
  rw [trK_trL]
  by_cases h : c = f
  · rw [if_pos h, if_pos h]
  · rw [if_neg h, if_neg h]
    rw [if_neg h] at hne
    split
    · rename_i z; rw [if_pos z] at hne; exact absurd rfl hne
    · rfl
theorem rst_len {f : Int} {t : Tr} (ht : isT t) : (elO M f t).length ≤ (rstL f t).length := by
  by_cases h : elO M f t = []
  · rw [h]; simp
  · rw [rst_el ht h]; exact Nat.le_refl _
theorem rst_drop {f : Int} {t : Tr} (ht : isT t) {a n : Nat} (h : a + n ≤ (elO M f t).length) : ((rstL f t).drop a).take n = ((elO M f t).drop a).take n := by
  by_cases hn : elO M f t = []
  · rw [hn] at h
    have : n = 0 := by simp at h; omega
    rw [this]; simp
  · rw [rst_el ht hn]
theorem rst_pk {f : Int} {t : Tr} (ht : isT t) {k : Nat} (h : k < 2 ^ (elO M f t).length) : pk k (rstL f t) = pk k (elO M f t) := by
  by_cases hn : elO M f t = []
  · rw [hn] at h
    have : k = 0 := by simpa using h
    rw [this, pk_0, pk_0]
  · rw [rst_el ht hn]
end

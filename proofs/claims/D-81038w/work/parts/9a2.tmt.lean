/-! RewriteHouseModel: matching within rows -/
/-- what a run of matching leaves as it was -/
def mpT (N : Tr → Prop) (σ s : S) : Prop :=
  ExT σ s N ∧ gI s 83 = gI σ 83 ∧ gI s 114 = gI σ 114 ∧ (∀ j, j < gI σ 114 → gA s 79 j = gA σ 79 j) ∧ ∀ j, j < gI σ 83 → gA s 58 j = gA σ 58 j
theorem mpT.rf (N : Tr → Prop) (σ : S) : mpT N σ σ := ⟨ExT.rf σ N, rfl, rfl, fun _ _ => rfl, fun _ _ => rfl⟩
theorem mpT.trans {N : Tr → Prop} {a b c : S} (h : mpT N a b) (k : mpT N b c) (h1 : 0 ≤ gI a 80) : mpT N a c := by
  obtain ⟨p1, p2, p3, p4, p5⟩ := h
  obtain ⟨q1, q2, q3, q4, q5⟩ := k
  exact ⟨p1.trans q1 h1, q2.trans p2, q3.trans p3, fun j hj => (q4 j (by omega)).trans (p4 j hj), fun j hj => (q5 j (by omega)).trans (p5 j hj)⟩
theorem mpT.of {N : Tr → Prop} {σ s : S} {w : List Nat × List Nat × List Nat} (e : ExT σ s N) (f : Fr w σ s) (hw : apt w [83, 114] [79, 58] = true) : mpT N σ s := by
  have hi := apt_i hw f
  have ha := apt_a hw f
  simp only [List.forall_mem_cons] at hi ha
  exact ⟨e, hi.1, hi.2.1, fun j _ => by rw [ha.1], fun j _ => by rw [ha.2.1]⟩
theorem kT.mp {N : Tr → Prop} {σ s : S} (h : kT N σ s) : mpT N σ s := ⟨h.1, h.2.1, h.2.2.2.2.1, h.2.2.2.2.2.2.1, h.2.2.2.2.2.2.2⟩
section
variable {M : Mo} {A : Int → Bool} {t0 : Tr} {P : Env → Prop} {o f : Int} {σ0 : S}
theorem mtT.ahead {N : Tr → Prop} {σ s : S} {ρ : Env} {L : List Env} {x : Int} (h : mtT M N P o σ0 σ ρ L) (h1 : 0 ≤ gI σ0 80) (hx : olT σ x) (hs : s = pI σ 117 x) : mtT M N P o σ0 s (upE ρ 60 (oT σ x)) L := by
  obtain ⟨a1, a2, a3, a4, a5, a6, a7, a8, a9, a10, a11⟩ := h
  have f : Fr ([117], [], []) σ s := Fr.rf.putI hs rfl
  have ofr := oT_fr f rfl
  have e : ExT σ s N := ExT.of_fr f rfl
  have oe := fun {y : Int} (hy : olT σ y) => (oT_ex e hy).1
  have ia : gI s 117 = x := by rw [hs]; rfl
  refine ⟨(a1.fr f rfl).1, a2.trans e h1, fun v v0 v1 => ?_, by rw [ia]; exact oe hx, by rw [f.i _ rfl]; exact oe a5, by rw [f.i _ rfl]; exact a6, ?_, a8.ex e (f.i _ rfl) (f.i _ rfl) (f.a _ rfl), a9, by rw [f.i _ rfl]; exact a10, by rw [f.i _ rfl]; exact a11⟩
  · rw [f.a _ rfl]; exact oe (a3 v v0 v1)
  · rw [← a7]
    funext v
    unfold upE bT
    by_cases hv : 0 ≤ v ∧ v < 60
    · rw [if_pos hv, if_neg (by omega), if_pos hv, f.a _ rfl, (ofr _).1]
    · rw [if_neg hv]
      by_cases h60 : v = 60
      · rw [if_pos h60, if_pos h60, ia, (ofr _).1]
      · rw [if_neg h60, if_neg h60, if_neg hv, if_neg h60, f.i _ rfl, (ofr _).1]
theorem mtT.behind {N : Tr → Prop} {σ s : S} {ρ : Env} {L : List Env} {x : Int} (h : mtT M N P o σ0 σ ρ L) (h1 : 0 ≤ gI σ0 80) (hx : olT σ x) (hs : s = pI σ 118 x) : mtT M N P o σ0 s (upE ρ 61 (oT σ x)) L := by
  obtain ⟨a1, a2, a3, a4, a5, a6, a7, a8, a9, a10, a11⟩ := h
  have f : Fr ([118], [], []) σ s := Fr.rf.putI hs rfl
  have ofr := oT_fr f rfl
  have e : ExT σ s N := ExT.of_fr f rfl
  have oe := fun {y : Int} (hy : olT σ y) => (oT_ex e hy).1
  have ia : gI s 118 = x := by rw [hs]; rfl
  refine ⟨(a1.fr f rfl).1, a2.trans e h1, fun v v0 v1 => ?_, by rw [f.i _ rfl]; exact oe a4, by rw [ia]; exact oe hx, by rw [f.i _ rfl]; exact a6, ?_, a8.ex e (f.i _ rfl) (f.i _ rfl) (f.a _ rfl), a9, by rw [f.i _ rfl]; exact a10, by rw [f.i _ rfl]; exact a11⟩
  · rw [f.a _ rfl]; exact oe (a3 v v0 v1)
  · rw [← a7]
    funext v
    unfold upE bT
    by_cases hv : 0 ≤ v ∧ v < 60
    · rw [if_pos hv, if_neg (by omega), if_pos hv, f.a _ rfl, (ofr _).1]
    · rw [if_neg hv]
      by_cases h60 : v = 60
      · rw [if_pos h60, if_neg (by omega), if_neg hv, if_pos h60, f.i _ rfl, (ofr _).1]
      · rw [if_neg h60]
        by_cases h61 : v = 61
        · rw [if_pos h61, if_pos h61, ia, (ofr _).1]
        · rw [if_neg h61, if_neg h61, if_neg hv, if_neg h60, if_neg h61]
/-- quiet steps -/
theorem mtT.quiet {N : Tr → Prop} {σ s : S} {ρ : Env} {L : List Env} {w : List Nat × List Nat × List Nat} (h : mtT M N P o σ0 σ ρ L) (h1 : 0 ≤ gI σ0 80) (x : TP M s) (e : ExT σ s N) (f : Fr w σ s) (hw : apt w [117, 118, 116, 114, 115] [78, 79] = true) (ht : gI s 83 = gI σ 83) : mtT M N P o σ0 s ρ L := by
  obtain ⟨a1, a2, a3, a4, a5, a6, a7, a8, a9, a10, a11⟩ := h
  have hi := apt_i hw f
  have ha := apt_a hw f
  simp only [List.forall_mem_cons] at hi ha
  obtain ⟨i1, i2, i3, i4, i5, -⟩ := hi
  obtain ⟨b1, b2, -⟩ := ha
  refine ⟨x, a2.trans e h1, fun v v0 v1 => by rw [b1]; exact (oT_ex e (a3 v v0 v1)).1, by rw [i1]; exact (oT_ex e a4).1, by rw [i2]; exact (oT_ex e a5).1, i3.trans a6, ?_, a8.ex e i4 i5 b2, a9, by rw [ht]; exact a10, by rw [ht]; exact a11⟩
  rw [← a7]; exact bT_ex e a3 a4 a5 b1 i1 i2
theorem ts_solvePart (c : cxT M A t0 P o σ0) {s : S} {ρ : Env} {L : List Env} {p x : Int} (mt : mtT M (inU M A t0) P o σ0 s ρ L) (hg : gI s 110 = 0) (lp : lvT s p) (lx : lvT s x) (ok : gOT M A t0 (.inl (tT s p, tT s x))) (hP : ∀ ρ', Solv M [.inl (tT s p, tT s x)] ρ ρ' → P ρ') {K : S → Prop} {E : S → Prop}
    (hK : ∀ s2 L2, Fr wT_solve s s2 → mtT M (inU M A t0) P o σ0 s2 ρ L2 → mpT (inU M A t0) s s2 → (∀ ρ', ρ' ∈ L2 ↔ ρ' ∈ L ∨ Solv M [.inl (tT s p, tT s x)] ρ ρ') → K s2) (hE : ∀ s2, overT M (inU M A t0) s L (Solv M [.inl (tT s p, tT s x)] ρ) s2 → E s2) : t_goal 0 p x 0 0 (-1) s (fun r s1 => t_solve r s1 (fun _ s2 => K s2) E) := by
  have xs := mt.1
  have dn : doneT M (inU M A t0) o s L (fun _ => False) s L := doneT.none xs mt.2.2.2.2.2.2.2.1
  refine st_pg (gs := []) dn xs.rg.1 (by omega) (show (-1 : Int) < 0 by decide) lp lx (fun s1 d1 k1 x1 l1 g1 gg1 => ?_)
  have mt1 := mt.done c.1 d1 (fun _ z => z.elim)
  have w : wTs [.inl (tT s p, tT s x)] + 1 ≤ 420 := by
    have := ok.1.2.2
    rw [wTs_cons]
    simp only [wT1, wTs, List.map_nil, List.sum_nil]
    omega
  show t_S_solve 420 0 [gI s 110] s1 _ _
  refine fo_t_S_solve 420 _ _ _ _ _ _ _ (SoT_all c 420 s1 _ _ ρ L ⟨mt1, gg1, fun y hy => ?_, by omega, w⟩ hP) (fun r s2 f q => ?_) (fun s2 f q => ?_)
  · simp only [List.mem_singleton] at hy
    rw [hy]; exact ok
  · obtain ⟨q1, L2, d2⟩ := q
    have dd := (d1.seq xs.rg.1 d2).iff (Z' := Solv M [.inl (tT s p, tT s x)] ρ) (fun ρ' => by simp)
    exact hK s2 L2 dd.1 (mt.done c.1 dd hP) dd.2.1.mp dd.2.2.2.2
  · refine hE s2 ((d1.over xs.rg.1 q).imp (fun ρ' z => z.resolve_left id))
theorem rst_kids {f : Int} {t : Tr} (ht : isT t) (hl : lab t = f) : rstL f t = kids t := by
  obtain ⟨c, ts, rfl, -, -⟩ := isT_ex ht
  rw [lab_N] at hl
  show (if c = f then trK (trL ts) else [trN c ts]) = _
  rw [if_pos hl, kids_N, trK_trL]
theorem kT.sc {σ s : S} {f r : Int} {es : List Tr} (hU : ∀ u, u = mkS M f es ∨ mUn M f ≠ -2 ∧ u = unT M f → isT u → inU M A t0 u) (h : TP M σ) (q : sgQ M σ f es r s) (fr : Fr wT_chosen σ s) : kT (inU M A t0) σ s := kT.sg hU h q (fr.weak rfl)
/-- a part that is not empty is a node -/
theorem sg_lv {σ s : S} {f r : Int} {es : List Tr} (hM : WM M) (h0 : 0 ≤ f) (h1 : f < mOps M) (has : mAs M f ≠ 0) (hel : elm M f A es) (hne : es ≠ []) (q : sgQ M σ f es r s) : lvT s r ∧ tT s r = mkS M f es := by
  have nn := mkS_ok hM h0 h1 has (fun e he => ⟨(hel.1 e he).1, (hel.1 e he).2.1⟩) hne
  exact q.2.1.resolve_left (fun z => isT_ne_nil nn.1 z.1)
theorem rsT_ne {M : Mo} {f : Int} {es : List Tr} (hne : es ≠ []) : rsT M f es = mkS M f es := by
  match es, hne with
  | a :: r, _ => rfl
/-- a part by a mask -/
theorem ts_maskPart (hr : rmT M (inU M A t0) σ0) (hn0 : 0 ≤ gI σ0 80) {E : List Tr} {n : Nat} (rw0 : rwP M A t0 f E n) (hl : lab t0 = f) {s : S} (xs : TP M s) (e0 : ExT σ0 s (inU M A t0)) {t : Int} {m : Nat} (lt : lvT s t) (ht : tT s t = t0) (hm : m < 2 ^ n) (hp : 0 ≤ gI s 83) (hp1 : gI s 83 + 100 ≤ 15000) :
    t_chosen f t m s (fun r s2 => TP M s2 ∧ kT (inU M A t0) s s2 ∧ (pk m E ≠ [] → lvT s2 r ∧ tT s2 r = mkS M f (pk m E))) := by
  obtain ⟨hT, h0, h1, has, hAf, hkE, lE, hn, hel6, hrow⟩ := rw0
  have er : rstL f (tT s t) = E := by rw [ht, rst_kids hT hl, hkE]
  have spk : spl E (pk m E) (pk (2 ^ n - 1 ^^^ m) E) := (spl_masks lE hn).mpr ⟨m, hm, rfl, rfl⟩
  obtain ⟨hin1, hin2, hin3, hin4, hin5, hin6⟩ := elm_in xs.wm hT h0 h1 has hAf hel6 hrow spk
  have rm := hr s xs e0
  refine fm_t_chosen (ts_chosen xs h0 h1 has lt (m := m) (n := n) (es := pk m E) (A := A) hn hm (by rw [er]; omega) (by rw [er]) hin1 hp (by omega) rm.1 rm.2) (fun r s2 f2 q => ?_)
  exact ⟨q.1, kT.sc hin5 xs q f2, fun hne => sg_lv xs.wm h0 h1 has hin1 hne q⟩
theorem ts_spanPart (hr : rmT M (inU M A t0) σ0) (hn0 : 0 ≤ gI σ0 80) {E : List Tr} {n : Nat} (rw0 : rwP M A t0 f E n) (hl : lab t0 = f) {s : S} (xs : TP M s) (e0 : ExT σ0 s (inU M A t0)) {t : Int} {a b : Nat} (lt : lvT s t) (ht : tT s t = t0) (hab : a + b ≤ n) (hp : 0 ≤ gI s 83) (hp1 : gI s 83 + 100 ≤ 15000) :
    t_segment f t a b s (fun r s2 => TP M s2 ∧ kT (inU M A t0) s s2 ∧ (0 < b → lvT s2 r ∧ tT s2 r = mkS M f ((E.drop a).take b))) := by
  obtain ⟨hT, h0, h1, has, hAf, hkE, lE, hn, hel6, hrow⟩ := rw0
  have er : rstL f (tT s t) = E := by rw [ht, rst_kids hT hl, hkE]
  have spk : ∃ R, spl E ((E.drop a).take b) R := by
    refine ⟨_, (spl_masks lE hn).mpr ⟨2 ^ (a + b) - 2 ^ a, ?_, ?_, rfl⟩⟩
    · have : 2 ^ (a + b) ≤ 2 ^ n := Nat.pow_le_pow_right (by omega) hab
      have : 1 ≤ 2 ^ a := Nat.one_le_two_pow
      have : 1 ≤ 2 ^ n := Nat.one_le_two_pow
      omega
    · rw [pk_run E (a + b) a (by omega) (by omega), show a + b - a = b by omega]
  obtain ⟨R, spk⟩ := spk
  obtain ⟨hin1, hin2, hin3, hin4, hin5, hin6⟩ := elm_in xs.wm hT h0 h1 has hAf hel6 hrow spk
  have rm := hr s xs e0
  refine fm_t_segment (ts_segment xs h0 h1 has lt (a := a) (n := b) (es := (E.drop a).take b) (A := A) (by rw [er]; omega) (by omega) (by rw [er]) hin1 hp (by omega) rm.1 rm.2) (fun r s2 f2 q => ?_)
  refine ⟨q.1, kT.sg hin5 xs q f2, fun hb => sg_lv xs.wm h0 h1 has hin1 (fun z => ?_) q⟩
  have := congrArg List.length z
  rw [List.length_take, List.length_drop, List.length_nil] at this
  omega
theorem ts_withinBag (c : cxT M A t0 P f σ0) {E : List Tr} {n : Nat} (rw0 : rwP M A t0 f E n) (hl : lab t0 = f) {σ : S} {ρ : Env} {p t : Int} {tp : Tr} (mt : mtT M (inU M A t0) P f σ0 σ ρ []) (h61 : ρ 61 = .nil) (lp : lvT σ p) (etp : tT σ p = tp) (lt : lvT σ t) (ht : tT σ t = t0) (okp : NF M tp ∧ sub1 M tp A ∧ trS tp ≤ 40) {Z : Env → Prop} (hZ : ∀ ρ', Z ρ' ↔ ∃ S R, spl E S R ∧ S ≠ [] ∧ Solv M [.inl (tp, mkS M f S)] (upE ρ 61 (rsT M f R)) ρ') (hP : ∀ ρ', Z ρ' → P ρ') :
    t_listWithin_L28 p t f ((2 ^ n - 1 : Nat) : Int) 1 σ (fun _ s => mpT (inU M A t0) σ s ∧ TP M s ∧ ∃ L', LT f s L' ∧ ∀ ρ', ρ' ∈ L' ↔ Z ρ') (fun s => overT M (inU M A t0) σ [] Z s) := by
  have hrw := rw0
  obtain ⟨hT, h0, h1, has, hAf, hkE, lE, hn, hel6, hrow⟩ := rw0
  have xp := mt.1
  have rg := xp.rg
  have hM := xp.wm
  have h64 : (2 : Nat) ^ n ≤ 64 := Nat.le_trans (Nat.pow_le_pow_right (by omega) hn) (by decide)
  have p1 : 1 ≤ 2 ^ n := Nat.one_le_two_pow
  have full := pk_all E lE
  have hz : ∀ ρ', Z ρ' ↔ ∃ u : Nat, 1 ≤ u ∧ u < 2 ^ n ∧ Solv M [.inl (tp, mkS M f (pk u E))] (upE ρ 61 (rsT M f (pk (2 ^ n - 1 ^^^ u) E))) ρ' := by
    intro ρ'
    rw [hZ]
    constructor
    · rintro ⟨S, R, hs, hne, h⟩
      obtain ⟨k, hk, rfl, rfl⟩ := (spl_masks lE hn).mp hs
      have : k ≠ 0 := fun z => hne ((pk_nil_iff lE hk).mpr z)
      exact ⟨k, by omega, hk, h⟩
    · rintro ⟨u, u1, u2, h⟩
      exact ⟨_, _, (spl_masks lE hn).mpr ⟨u, u2, rfl, rfl⟩, fun z => by have := (pk_nil_iff lE u2).mp z; omega, h⟩
  refine lt_listWithin_L28 (fun v s => ∃ k : Nat, v = (k : Int) ∧ 1 ≤ k ∧ k ≤ 2 ^ n ∧ mpT (inU M A t0) σ s ∧ ∃ ρb L', mtT M (inU M A t0) P f σ0 s ρb L' ∧ (∀ u, u ≠ 61 → ρb u = ρ u) ∧ ∀ ρ', ρ' ∈ L' ↔ ∃ u : Nat, 1 ≤ u ∧ u < k ∧ Solv M [.inl (tp, mkS M f (pk u E))] (upE ρ 61 (rsT M f (pk (2 ^ n - 1 ^^^ u) E))) ρ') (fun v _ => (64 - v).toNat) ⟨1, rfl, by omega, by omega, mpT.rf _ _, ρ, [], mt, fun _ _ => rfl, fun ρ' => ⟨fun z => (by cases z), fun ⟨u, u1, u2, _⟩ => by omega⟩⟩ ?_
  rintro v s fr ⟨k, rfl, k1, k2, mp1, ρb, L1, mt1, hρb, hL1⟩
  try dsimp only
  have x1 := mt1.1
  have lt1 := mp1.1.lv lt
  have tt1 := (mp1.1.t lt).trans ht
  have top1 := mt1.2.2.2.2.2.2.2.2.2
  by_cases hk : (k : Int) ≤ ((2 ^ n - 1 : Nat) : Int)
  · rw [if_pos hk]
    have hk' : k < 2 ^ n := by omega
    have xl : 2 ^ n - 1 ^^^ k < 2 ^ n := Nat.xor_lt_two_pow (by omega) hk'
    have solk : ∀ ρ', Solv M [.inl (tp, mkS M f (pk k E))] (upE ρ 61 (rsT M f (pk (2 ^ n - 1 ^^^ k) E))) ρ' → Z ρ' := fun ρ' z => (hz ρ').mpr ⟨k, k1, hk', z⟩
    have hne : pk k E ≠ [] := fun z => by have := (pk_nil_iff lE hk').mp z; omega
    have spk : spl E (pk k E) (pk (2 ^ n - 1 ^^^ k) E) := (spl_masks lE hn).mpr ⟨k, hk', rfl, rfl⟩
    obtain ⟨hin1, hin2, hin3, hin4, hin5, hin6⟩ := elm_in hM hT h0 h1 has hAf hel6 hrow spk
    have nn := mkS_ok hM h0 h1 has (fun e he => ⟨(hin1.1 e he).1, (hin1.1 e he).2.1⟩) hne
    -- behind is laid: the part is matched
    have go : ∀ (s2 : S) (x : Int), mtT M (inU M A t0) P f σ0 s2 ρb L1 → mpT (inU M A t0) σ s2 → olT s2 x → oT s2 x = rsT M f (pk (2 ^ n - 1 ^^^ k) E) → t_listWithin_j60 p t f ((2 ^ n - 1 : Nat) : Int) k x s2 (fun _ s => mpT (inU M A t0) σ s ∧ TP M s ∧ ∃ L', LT f s L' ∧ ∀ ρ', ρ' ∈ L' ↔ Z ρ') (fun s => overT M (inU M A t0) σ [] Z s) (fun v' s' => (∃ k : Nat, v' = (k : Int) ∧ 1 ≤ k ∧ k ≤ 2 ^ n ∧ mpT (inU M A t0) σ s' ∧ ∃ ρb L', mtT M (inU M A t0) P f σ0 s' ρb L' ∧ (∀ u, u ≠ 61 → ρb u = ρ u) ∧ ∀ ρ', ρ' ∈ L' ↔ ∃ u : Nat, 1 ≤ u ∧ u < k ∧ Solv M [.inl (tp, mkS M f (pk u E))] (upE ρ 61 (rsT M f (pk (2 ^ n - 1 ^^^ u) E))) ρ') ∧ (64 - v').toNat < (64 - (k : Int)).toNat) := by
      intro s2 x mt2 mp2 ox vx
      unfold t_listWithin_j60
      rintro s3 hs3 s4 hs4
      have f3 : Fr ([118], [], []) s2 s3 := Fr.rf.putI hs3 rfl
      have mt3 := mt2.behind c.1 ox hs3
      have f4 : Fr ([110], [], []) s3 s4 := Fr.rf.putI hs4 rfl
      have x4 := (mt3.1.fr f4 rfl).1
      have e4 : ExT s3 s4 (inU M A t0) := ExT.of_fr f4 rfl
      have mt4 := mt3.quiet c.1 x4 e4 f4 rfl (f4.i _ rfl)
      rw [vx, upE_same hρb] at mt4
      have mp4 := (mp2.trans (mpT.of (ExT.of_fr f3 rfl) f3 rfl) rg.1).trans (mpT.of e4 f4 rfl) rg.1
      have g4 : gI s4 110 = 0 := by rw [hs4]; rfl
      have top4 := mt4.2.2.2.2.2.2.2.2.2
      refine fm_t_chosen (ts_maskPart c.2.2.2.1 c.1 hrw hl x4 mt4.2.1 (mp4.1.lv lt) ((mp4.1.t lt).trans ht) hk' top4.1 top4.2) (fun r5 s5 f5 q => ?_)
      obtain ⟨x5, k5, v5⟩ := q
      obtain ⟨lr, vr⟩ := v5 hne
      have mt5 := mt4.quiet c.1 x5 k5.1 f5 rfl k5.2.1
      have mp5 := mp4.trans k5.mp rg.1
      have lp5 := mp5.1.lv lp
      have tp5 := (mp5.1.t lp).trans etp
      refine ts_solvePart c mt5 (by rw [f5.i _ rfl]; exact g4) lp5 lr (by rw [tp5, vr]; exact ⟨okp, hin6 (isT_ne_nil nn.1)⟩) (by rw [tp5, vr]; exact fun ρ' z => hP ρ' (solk ρ' z)) (fun s6 L6 f6 mt6 m6 hL6 => ?_) (fun s6 q6 => ?_)
      · rw [tp5, vr] at hL6
        rw [w32_id (by omega) (by omega)]
        refine ⟨⟨k + 1, by omega, by omega, by omega, mp5.trans m6 rg.1, _, L6, mt6, upE_other, fun ρ' => ?_⟩, by omega⟩
        rw [hL6 ρ', hL1 ρ']
        constructor
        · rintro (⟨u, u1, u2, h⟩ | h)
          · exact ⟨u, u1, by omega, h⟩
          · exact ⟨k, k1, by omega, h⟩
        · rintro ⟨u, u1, u2, h⟩
          by_cases e : u = k
          · subst e; exact Or.inr h
          · exact Or.inl ⟨u, u1, by omega, h⟩
      · rw [tp5, vr] at q6
        obtain ⟨q1, q2, q3, B, b1, b2, b3⟩ := q6
        refine ⟨q1, q2, mp5.1.trans q3 rg.1, B, b1, b2, fun ρ' hρ => Or.inr ?_⟩
        rcases b3 ρ' hρ with z | z
        · obtain ⟨u, u1, u2, h⟩ := (hL1 ρ').mp z
          exact (hz ρ').mpr ⟨u, u1, by omega, h⟩
        · exact solk ρ' z
    by_cases hall : (k : Int) = ((2 ^ n - 1 : Nat) : Int)
    · rw [if_pos hall]
      have ek : k = 2 ^ n - 1 := by omega
      refine go s (-1) mt1 mp1 (Or.inl rfl) ?_
      rw [oT_0 (show (-1 : Int) < 0 by decide), ek, Nat.xor_self, pk_0]
      rfl
    · rw [if_neg hall]
      have wan := mk_andn ⟨2 ^ n - 1, by omega⟩ ⟨k, by omega⟩ (by
        have and_full : ∀ n : Fin 7, ∀ k : Fin 64, k.val < 2 ^ n.val → k.val &&& (2 ^ n.val - 1) = k.val := by decide +kernel
        exact and_full ⟨n, by omega⟩ ⟨k, by omega⟩ hk')
      simp only at wan
      rw [wan]
      refine fm_t_chosen (ts_maskPart c.2.2.2.1 c.1 hrw hl x1 mt1.2.1 lt1 tt1 xl top1.1 top1.2) (fun r2 s2 f2 q => ?_)
      obtain ⟨x2, kk2, v2⟩ := q
      have hne2 : pk (2 ^ n - 1 ^^^ k) E ≠ [] := fun z => by
        have h3 := (pk_nil_iff lE xl).mp z
        have : k = 2 ^ n - 1 := by
          have h4 : (2 ^ n - 1) ^^^ k ^^^ k = 0 ^^^ k := by rw [h3]
          rw [Nat.xor_assoc, Nat.xor_self, Nat.xor_zero, Nat.zero_xor] at h4
          exact h4.symm
        omega
      obtain ⟨lr2, vr2⟩ := v2 hne2
      refine go s2 r2 (mt1.quiet c.1 x2 kk2.1 f2 rfl kk2.2.1) (mp1.trans kk2.mp rg.1) (Or.inr lr2) ?_
      rw [oT_n lr2, vr2, rsT_ne hne2]
  · rw [if_neg hk]
    have ek : k = 2 ^ n := by omega
    subst ek
    unfold t_listWithin_j95
    exact ⟨mp1, x1, L1, mt1.2.2.2.2.2.2.2.1, fun ρ' => by rw [hL1 ρ', hz ρ']⟩
theorem ts_withinRow (c : cxT M A t0 P f σ0) {E : List Tr} {n : Nat} (rw0 : rwP M A t0 f E n) (hl : lab t0 = f) {σ : S} {ρ : Env} {p t : Int} {tp : Tr} (mt : mtT M (inU M A t0) P f σ0 σ ρ []) (lp : lvT σ p) (etp : tT σ p = tp) (lt : lvT σ t) (ht : tT σ t = t0) (okp : NF M tp ∧ sub1 M tp A ∧ trS tp ≤ 40) {Z : Env → Prop} (hZ : ∀ ρ', Z ρ' ↔ ∃ a b : Nat, a < b ∧ b ≤ n ∧ rowZ M f tp E ρ a b ρ') (hP : ∀ ρ', Z ρ' → P ρ') :
    t_listWithin_L101 p t f (n : Int) 0 σ (fun _ s => mpT (inU M A t0) σ s ∧ TP M s ∧ ∃ L', LT f s L' ∧ ∀ ρ', ρ' ∈ L' ↔ Z ρ') (fun s => overT M (inU M A t0) σ [] Z s) := by
  have hrw := rw0
  obtain ⟨hT, h0, h1, has, hAf, hkE, lE, hn, hel6, hrow⟩ := rw0
  have xp := mt.1
  have rg := xp.rg
  have hM := xp.wm
  refine lt_listWithin_L101 (fun v s => ∃ a : Nat, v = (a : Int) ∧ a ≤ n ∧ mpT (inU M A t0) σ s ∧ ∃ ρb L', mtT M (inU M A t0) P f σ0 s ρb L' ∧ (∀ u, u ≠ 60 → u ≠ 61 → ρb u = ρ u) ∧ ∀ ρ', ρ' ∈ L' ↔ ∃ a' b' : Nat, a' < b' ∧ b' ≤ n ∧ a' < a ∧ rowZ M f tp E ρ a' b' ρ') (fun v _ => (7 - v).toNat) ⟨0, rfl, by omega, mpT.rf _ _, ρ, [], mt, fun _ _ _ => rfl, fun ρ' => ⟨fun z => (by cases z), fun ⟨_, _, _, _, h, _⟩ => by omega⟩⟩ ?_
  rintro v s fr ⟨a, rfl, ha, mp1, ρb, L1, mt1, hρb, hL1⟩
  try dsimp only
  have x1 := mt1.1
  by_cases hk : (a : Int) < (n : Int)
  · rw [if_pos hk, w32_id (by omega) (by omega)]
    refine lt_listWithin_L114 (fun v s => ∃ b : Nat, v = (b : Int) ∧ a < b ∧ b ≤ n + 1 ∧ mpT (inU M A t0) σ s ∧ ∃ ρb L', mtT M (inU M A t0) P f σ0 s ρb L' ∧ (∀ u, u ≠ 60 → u ≠ 61 → ρb u = ρ u) ∧ ∀ ρ', ρ' ∈ L' ↔ ∃ a' b' : Nat, a' < b' ∧ b' ≤ n ∧ (a' < a ∨ a' = a ∧ b' < b) ∧ rowZ M f tp E ρ a' b' ρ') (fun v _ => (8 - v).toNat) ⟨a + 1, by omega, by omega, by omega, mp1, ρb, L1, mt1, hρb, fun ρ' => ?_⟩ ?_
    · rw [hL1 ρ']
      constructor
      · rintro ⟨a', b', g1, g2, g3, g4⟩
        exact ⟨a', b', g1, g2, Or.inl g3, g4⟩
      · rintro ⟨a', b', g1, g2, g3, g4⟩
        exact ⟨a', b', g1, g2, by omega, g4⟩
    rintro v s2 fr2 ⟨b, rfl, hab, hbn, mp2, ρc, L2, mt2, hρc, hL2⟩
    try dsimp only
    have x2 := mt2.1
    have top2 := mt2.2.2.2.2.2.2.2.2.2
    by_cases hb : (b : Int) ≤ (n : Int)
    · rw [if_pos hb]
      have solk : ∀ ρ', rowZ M f tp E ρ a b ρ' → Z ρ' := fun ρ' z => (hZ ρ').mpr ⟨a, b, hab, by omega, z⟩
      have hne : (E.drop a).take (b - a) ≠ [] := fun z => by
        have := congrArg List.length z
        rw [List.length_take, List.length_drop, List.length_nil] at this
        omega
      have spk : spl E ((E.drop a).take (b - a)) (pk (2 ^ n - 1 ^^^ (2 ^ b - 2 ^ a)) E) := by
        refine (spl_masks lE hn).mpr ⟨2 ^ b - 2 ^ a, ?_, (pk_run E b a (by omega) (by omega)).symm, rfl⟩
        have : 2 ^ b ≤ 2 ^ n := Nat.pow_le_pow_right (by omega) (by omega)
        have : 1 ≤ 2 ^ a := Nat.one_le_two_pow
        have : 1 ≤ 2 ^ n := Nat.one_le_two_pow
        omega
      obtain ⟨hin1, hin2, hin3, hin4, hin5, hin6⟩ := elm_in hM hT h0 h1 has hAf hel6 hrow spk
      have nn := mkS_ok hM h0 h1 has (fun e he => ⟨(hin1.1 e he).1, (hin1.1 e he).2.1⟩) hne
      -- both sides are laid: the part is matched
      have go : ∀ (s5 : S) (y : Int), mtT M (inU M A t0) P f σ0 s5 (upE ρc 60 (rsT M f (E.take a))) L2 → mpT (inU M A t0) σ s5 → olT s5 y → oT s5 y = rsT M f (E.drop b) → t_listWithin_j168 p t f n a b y s5 (fun _ s => mpT (inU M A t0) σ s ∧ TP M s ∧ ∃ L', LT f s L' ∧ ∀ ρ', ρ' ∈ L' ↔ Z ρ') (fun s => overT M (inU M A t0) σ [] Z s) (fun v5' s' => (∃ a : Nat, v5' = (a : Int) ∧ a ≤ n ∧ mpT (inU M A t0) σ s' ∧ ∃ ρb L', mtT M (inU M A t0) P f σ0 s' ρb L' ∧ (∀ u, u ≠ 60 → u ≠ 61 → ρb u = ρ u) ∧ ∀ ρ', ρ' ∈ L' ↔ ∃ a' b' : Nat, a' < b' ∧ b' ≤ n ∧ a' < a ∧ rowZ M f tp E ρ a' b' ρ') ∧ (7 - v5').toNat < (7 - (a : Int)).toNat)
          (fun v6' s' => (∃ b : Nat, v6' = (b : Int) ∧ a < b ∧ b ≤ n + 1 ∧ mpT (inU M A t0) σ s' ∧ ∃ ρb L', mtT M (inU M A t0) P f σ0 s' ρb L' ∧ (∀ u, u ≠ 60 → u ≠ 61 → ρb u = ρ u) ∧ ∀ ρ', ρ' ∈ L' ↔ ∃ a' b' : Nat, a' < b' ∧ b' ≤ n ∧ (a' < a ∨ a' = a ∧ b' < b) ∧ rowZ M f tp E ρ a' b' ρ') ∧ (8 - v6').toNat < (8 - (b : Int)).toNat) := by
        intro s5 y mt5 mp5 oy vy
        unfold t_listWithin_j168
        rintro s6 hs6 s7 hs7
        have f6 : Fr ([118], [], []) s5 s6 := Fr.rf.putI hs6 rfl
        have mt6 := mt5.behind c.1 oy hs6
        have f7 : Fr ([110], [], []) s6 s7 := Fr.rf.putI hs7 rfl
        have x7 := (mt6.1.fr f7 rfl).1
        have e7 : ExT s6 s7 (inU M A t0) := ExT.of_fr f7 rfl
        have mt7 := mt6.quiet c.1 x7 e7 f7 rfl (f7.i _ rfl)
        have eρ : upE (upE ρc 60 (rsT M f (E.take a))) 61 (rsT M f (E.drop b)) = upE (upE ρ 60 (rsT M f (E.take a))) 61 (rsT M f (E.drop b)) := by
          funext u
          unfold upE
          by_cases e1 : u = 61
          · rw [if_pos e1, if_pos e1]
          · rw [if_neg e1, if_neg e1]
            by_cases e2 : u = 60
            · rw [if_pos e2, if_pos e2]
            · rw [if_neg e2, if_neg e2, hρc u e2 e1]
        rw [vy, eρ] at mt7
        have mp7 := (mp5.trans (mpT.of (ExT.of_fr f6 rfl) f6 rfl) rg.1).trans (mpT.of e7 f7 rfl) rg.1
        have g7 : gI s7 110 = 0 := by rw [hs7]; rfl
        have top7 := mt7.2.2.2.2.2.2.2.2.2
        have wba : w32 ((b : Int) - a) = ((b - a : Nat) : Int) := by rw [w32_id (by omega) (by omega)]; omega
        rw [wba]
        refine fm_t_segment (ts_spanPart c.2.2.2.1 c.1 hrw hl x7 mt7.2.1 (a := a) (b := b - a) (mp7.1.lv lt) ((mp7.1.t lt).trans ht) (by omega) top7.1 top7.2) (fun r8 s8 f8 q => ?_)
        obtain ⟨x8, k8, v8⟩ := q
        obtain ⟨lr, vr⟩ := v8 (by omega)
        have mt8 := mt7.quiet c.1 x8 k8.1 f8 rfl k8.2.1
        have mp8 := mp7.trans k8.mp rg.1
        have lp8 := mp8.1.lv lp
        have tp8 := (mp8.1.t lp).trans etp
        refine ts_solvePart c mt8 (by rw [f8.i _ rfl]; exact g7) lp8 lr (by rw [tp8, vr]; exact ⟨okp, hin6 (isT_ne_nil nn.1)⟩) (by rw [tp8, vr]; exact fun ρ' z => hP ρ' (solk ρ' z)) (fun s9 L9 f9 mt9 m9 hL9 => ?_) (fun s9 q9 => ?_)
        · rw [tp8, vr] at hL9
          rw [w32_id (by omega) (by omega)]
          refine ⟨⟨b + 1, by omega, by omega, by omega, mp8.trans m9 rg.1, _, L9, mt9, fun u u1 u2 => by unfold upE; rw [if_neg u2, if_neg u1], fun ρ' => ?_⟩, by omega⟩
          rw [hL9 ρ', hL2 ρ']
          constructor
          · rintro (⟨a', b', g1, g2, g3, g4⟩ | h)
            · exact ⟨a', b', g1, g2, by omega, g4⟩
            · exact ⟨a, b, hab, by omega, by omega, h⟩
          · rintro ⟨a', b', g1, g2, g3, g4⟩
            by_cases e : a' = a ∧ b' = b
            · obtain ⟨rfl, rfl⟩ := e; exact Or.inr g4
            · exact Or.inl ⟨a', b', g1, g2, by omega, g4⟩
        · rw [tp8, vr] at q9
          obtain ⟨q1, q2, q3, B, b1, b2, b3⟩ := q9
          refine ⟨q1, q2, mp8.1.trans q3 rg.1, B, b1, b2, fun ρ' hρ => Or.inr ?_⟩
          rcases b3 ρ' hρ with z | z
          · obtain ⟨a', b', g1, g2, g3, g4⟩ := (hL2 ρ').mp z
            exact (hZ ρ').mpr ⟨a', b', g1, g2, g4⟩
          · exact solk ρ' z
      have go2 : ∀ (s3 : S) (x : Int), mtT M (inU M A t0) P f σ0 s3 ρc L2 → mpT (inU M A t0) σ s3 → olT s3 x → oT s3 x = rsT M f (E.take a) → t_listWithin_j140 p t f n a b x s3 (fun _ s => mpT (inU M A t0) σ s ∧ TP M s ∧ ∃ L', LT f s L' ∧ ∀ ρ', ρ' ∈ L' ↔ Z ρ') (fun s => overT M (inU M A t0) σ [] Z s) (fun v5' s' => (∃ a : Nat, v5' = (a : Int) ∧ a ≤ n ∧ mpT (inU M A t0) σ s' ∧ ∃ ρb L', mtT M (inU M A t0) P f σ0 s' ρb L' ∧ (∀ u, u ≠ 60 → u ≠ 61 → ρb u = ρ u) ∧ ∀ ρ', ρ' ∈ L' ↔ ∃ a' b' : Nat, a' < b' ∧ b' ≤ n ∧ a' < a ∧ rowZ M f tp E ρ a' b' ρ') ∧ (7 - v5').toNat < (7 - (a : Int)).toNat)
          (fun v6' s' => (∃ b : Nat, v6' = (b : Int) ∧ a < b ∧ b ≤ n + 1 ∧ mpT (inU M A t0) σ s' ∧ ∃ ρb L', mtT M (inU M A t0) P f σ0 s' ρb L' ∧ (∀ u, u ≠ 60 → u ≠ 61 → ρb u = ρ u) ∧ ∀ ρ', ρ' ∈ L' ↔ ∃ a' b' : Nat, a' < b' ∧ b' ≤ n ∧ (a' < a ∨ a' = a ∧ b' < b) ∧ rowZ M f tp E ρ a' b' ρ') ∧ (8 - v6').toNat < (8 - (b : Int)).toNat) := by
        intro s3 x mt3 mp3 ox vx
        unfold t_listWithin_j140
        rintro s4 hs4
        have f4 : Fr ([117], [], []) s3 s4 := Fr.rf.putI hs4 rfl
        have mt4 := mt3.ahead c.1 ox hs4
        rw [vx] at mt4
        have mp4 := mp3.trans (mpT.of (ExT.of_fr f4 rfl) f4 rfl) rg.1
        have top4 := mt4.2.2.2.2.2.2.2.2.2
        by_cases hbe : (b : Int) = (n : Int)
        · rw [if_pos hbe]
          refine go s4 (-1) mt4 mp4 (Or.inl rfl) ?_
          rw [oT_0 (show (-1 : Int) < 0 by decide), List.drop_of_length_le (by omega)]
          rfl
        · rw [if_neg hbe]
          have wnb : w32 ((n : Int) - b) = ((n - b : Nat) : Int) := by rw [w32_id (by omega) (by omega)]; omega
          rw [wnb]
          refine fm_t_segment (ts_spanPart c.2.2.2.1 c.1 hrw hl mt4.1 mt4.2.1 (a := b) (b := n - b) (mp4.1.lv lt) ((mp4.1.t lt).trans ht) (by omega) top4.1 top4.2) (fun r5 s5 f5 q => ?_)
          obtain ⟨x5, k5, v5⟩ := q
          obtain ⟨lr, vr⟩ := v5 (by omega)
          have eW : (E.drop b).take (n - b) = E.drop b := List.take_of_length_le (by rw [List.length_drop]; omega)
          refine go s5 r5 (mt4.quiet c.1 x5 k5.1 f5 rfl k5.2.1) (mp4.trans k5.mp rg.1) (Or.inr lr) ?_
          rw [oT_n lr, vr, eW, rsT_ne (fun z => by
            have := congrArg List.length z
            rw [List.length_drop, List.length_nil] at this
            omega)]
      by_cases ha0 : (a : Int) = 0
      · rw [if_pos ha0]
        have ea : a = 0 := by omega
        refine go2 s2 (-1) mt2 mp2 (Or.inl rfl) ?_
        rw [oT_0 (show (-1 : Int) < 0 by decide), ea, List.take_zero]
        rfl
      · rw [if_neg ha0]
        refine fm_t_segment (ts_spanPart c.2.2.2.1 c.1 hrw hl x2 mt2.2.1 (a := 0) (b := a) (mp2.1.lv lt) ((mp2.1.t lt).trans ht) (by omega) top2.1 top2.2) (fun r3 s3 f3 q => ?_)
        obtain ⟨x3, k3, v3⟩ := q
        obtain ⟨lr, vr⟩ := v3 (by omega)
        rw [List.drop_zero] at vr
        refine go2 s3 r3 (mt2.quiet c.1 x3 k3.1 f3 rfl k3.2.1) (mp2.trans k3.mp rg.1) (Or.inr lr) ?_
        rw [oT_n lr, vr, rsT_ne (fun z => by
          have := congrArg List.length z
          rw [List.length_take, List.length_nil] at this
          omega)]
    · rw [if_neg hb]
      unfold t_listWithin_j208
      rw [w32_id (by omega) (by omega)]
      refine ⟨⟨a + 1, by omega, by omega, mp2, ρc, L2, mt2, hρc, fun ρ' => ?_⟩, by omega⟩
      rw [hL2 ρ']
      constructor
      · rintro ⟨a', b', g1, g2, g3, g4⟩
        exact ⟨a', b', g1, g2, by omega, g4⟩
      · rintro ⟨a', b', g1, g2, g3, g4⟩
        exact ⟨a', b', g1, g2, by omega, g4⟩
  · rw [if_neg hk]
    refine ⟨mp1, x1, L1, mt1.2.2.2.2.2.2.2.1, fun ρ' => ?_⟩
    rw [hL1 ρ', hZ ρ']
    constructor
    · rintro ⟨a', b', g1, g2, g3, g4⟩
      exact ⟨a', b', g1, g2, g4⟩
    · rintro ⟨a', b', g1, g2, g4⟩
      exact ⟨a', b', g1, g2, by omega, g4⟩
end

/-! RewriteHouseModel: solving rows, all goals -/
section
variable {M : Mo} {A : Int → Bool} {t0 : Tr} {P : Env → Prop} {o : Int} {σ0 : S} {m : Nat}
theorem row_one {M : Mo} {p : Tr} {s : Nat} {es : List Tr} {gs : List Goal} {ρ ρ' : Env} (hs : s < (kids p).length) : Solv M (.inr (p, s, es) :: gs) ρ ρ' ↔ ∃ S T, Sp M (lab p) es S T ∧ oneT M p s gs ρ S T ρ' := by
  rw [Solv_row]
  constructor
  · rintro (⟨z, -⟩ | ⟨q, S, T, a, b, c, d⟩)
    · omega
    · exact ⟨S, T, b, q, a, c, d⟩
  · rintro ⟨S, T, b, q, a, c, d⟩
    exact Or.inr ⟨q, S, T, a, b, c, d⟩
/-- behind the last part nothing may be left -/
theorem one_last {M : Mo} {p : Tr} {s : Nat} {S T : List Tr} {gs : List Goal} {ρ ρ' : Env} (hs : s + 1 = (kids p).length) (h : oneT M p s gs ρ S T ρ') : T = [] := by
  obtain ⟨q, -, -, h⟩ := h
  rw [Solv_cons] at h
  obtain ⟨ρ1, -, h2⟩ := h
  exact ((Solv_end hs).mp h2).1
theorem one_few {M : Mo} {p : Tr} {s : Nat} {S T : List Tr} {gs : List Goal} {ρ ρ' : Env} (hu : mUn M (lab p) = -2) (hs : s < (kids p).length) (h : oneT M p s gs ρ S T ρ') : (kids p).length ≤ s + 1 + T.length := by
  obtain ⟨q, -, -, h⟩ := h
  rw [Solv_cons] at h
  obtain ⟨ρ1, -, h2⟩ := h
  exact Solv_few hu _ (s + 1) _ gs ρ1 ρ' (Nat.le_add_left _ _) (by omega) h2
theorem st_side (c : cxT M A t0 P o σ0) (ih : SoT M A t0 P o σ0 m) {σ : S} {gs : List Goal} {ρ : Env} {L : List Env} {g : Int} {p : Tr} {i : Nat} {es : List Tr} (mt : mtT M (inU M A t0) P o σ0 σ ρ L) (gg : gsT M σ g (.inr (p, i, es) :: gs)) (hk : gA σ 72 g = 1) (ok : gOT M A t0 (.inr (p, i, es))) (okgs : ∀ x ∈ gs, gOT M A t0 x) (hg : 0 ≤ gI σ 110 ∧ gI σ 110 + 4 * (m + 2 : Nat) ≤ 2000) (hw : wTs (.inr (p, i, es) :: gs) + 1 ≤ m + 2) (hP : ∀ ρ', Solv M (.inr (p, i, es) :: gs) ρ ρ' → P ρ') :
    t_S_solve (m + 1) 2 [g] σ (fun _ s => ∃ L', doneT M (inU M A t0) o σ L (Solv M (.inr (p, i, es) :: gs) ρ) s L') (fun s => overT M (inU M A t0) σ L (Solv M (.inr (p, i, es) :: gs) ρ) s) := by
  have xp := mt.1
  have rg := xp.rg
  have hM := xp.wm
  have ob := hM.2.2.1
  have hL := mt.2.2.2.2.2.2.2.1
  obtain ⟨okp, h0, has, hil, hel, hrow⟩ := ok
  have h1 := okp.1.op h0
  obtain ⟨hgr, hv, gg2⟩ := gg
  obtain ⟨lp, ep, lt, ea, hE6, hsh⟩ := hv
  obtain ⟨hco, -, b, eb, hb, hes⟩ := hsh.resolve_right (fun z => by rw [hk] at z; exact absurd z.2.1 (by decide))
  generalize hPp : gA σ 73 g = pp at *
  generalize hTt : gA σ 74 g = tt at *
  have kp := tT_kids xp lp
  rw [ep] at kp
  have bp := lvT_b xp lp
  have bt := lvT_b xp lt
  have nT := xp.T lt
  have hAf : A (lab p) = true := okp.2.1 (lab p) h0 has (by rw [okp.1.eta, tAny_N]; simp [lab_N])
  have rm := c.2.2.2.1 σ xp mt.2.1
  obtain ⟨f, ef⟩ : ∃ f, f = lab p := ⟨_, rfl⟩
  have k39 : (kids p).length ≤ 40 := by
    have := trS_len (ts := kids p) (fun t ht => (okp.1.kid ht).1)
    have := trS_eta okp.1
    omega
  rw [te_solve_2]
  unfold t_solveSide_F
  rw [hPp, hTt, ea, eb, show gA σ 48 pp = f by rw [ef]; exact kp.1.symm]
  rw [← ef] at h0 has h1 hel hrow hco hAf hE6 hb hes
  have i4 : inb g 4000 := ⟨hgr.1, by omega⟩
  refine ⟨i4, i4, i4, i4, bp, ?_⟩
  refine ts_rowCount xp h0 h1 lt (by omega) (fun s f1 x1 e1 n1 => ?_)
  have k1 : kT (inU M A t0) σ s := kT.of (e1.mono (fun u z => by rw [z.2]; exact (unT_ok (A := A) (t0 := t0) hM h0 h1 z.1).2.2.2)) f1 rfl
  have d1 := (doneT.none (N := inU M A t0) xp hL).q rg.1 f1 rfl rfl x1 k1
  have lp1 := k1.1.lv lp
  have tp1 := (k1.1.t lp).trans ep
  have lt1 := k1.1.lv lt
  have tt1 := k1.1.t lt
  have kp1 := tT_kids x1 lp1
  rw [tp1] at kp1
  have i1 : gI s 110 = gI σ 110 := f1.i _ rfl
  have gn1 : gA s 77 g = gA σ 77 g := by rw [f1.a 77 rfl]
  have elen : es.length = (elO M f (tT σ tt)).length - b := by rw [hes, List.length_drop]
  refine ⟨bp, ?_⟩
  rw [← kp1.2, w32_id (by omega) (by omega)]
  by_cases hend : ((kids p).length : Int) - i = 0
  · rw [if_pos hend]
    have hie : i = (kids p).length := by omega
    have sol := fun ρ' => Solv_end (M := M) (p := p) (s := i) (es := es) (gs := gs) (ρ := ρ) (ρ' := ρ') hie
    by_cases hbe : (b : Int) = ((elO M f (tT σ tt)).length : Int)
    · rw [if_pos hbe]
      have hnil : es = [] := List.length_eq_zero_iff.mp (by omega)
      refine ⟨i4, ?_⟩
      rw [gn1]
      rw [wTs_cons] at hw
      simp only [wT1] at hw
      refine st_rec c ih mt d1 (fun _ z => z.elim) (gg2.kp k1) okgs (by omega) (by omega) (fun ρ' z => hP ρ' ((sol ρ').mpr ⟨hnil, z⟩)) (fun r2 s2 L2 f2 d2 k2 g2 => ?_) (fun s2 q => q.imp (fun ρ' z => (sol ρ').mpr ⟨hnil, z.resolve_left id⟩))
      exact ⟨L2, d2.iff (fun ρ' => ⟨fun z => (sol ρ').mpr ⟨hnil, z.resolve_left id⟩, fun z => Or.inr ((sol ρ').mp z).2⟩)⟩
    · rw [if_neg hbe]
      refine ⟨L, d1.iff (fun ρ' => ⟨False.elim, fun z => ?_⟩)⟩
      have := ((sol ρ').mp z).1
      rw [this] at elen
      simp only [List.length_nil] at elen
      omega
  · rw [if_neg hend]
    have hil2 : i < (kids p).length := by omega
    obtain ⟨q, hq⟩ : ∃ q, (kids p)[i]? = some q := ⟨_, List.getElem?_eq_getElem hil2⟩
    have hqm : q ∈ kids p := List.mem_of_getElem? hq
    have okq := kid_ok okp hqm
    refine ts_kid x1 lp1 (k := i) (q := q) (by rw [tp1]; exact hq) (fun y ly ey => ?_)
    refine ⟨⟨h0, by omega⟩, ?_⟩
    rw [(x1.mo.2.2.2.1 f h0 h1).2.2.1]
    -- one way: so many
    have one : ∀ j : Nat, oneT M p i gs ρ (es.take j) (es.drop j) = oneT M p i gs ρ (es.take j) (es.drop j) := fun _ => rfl
    have sol : ∀ ρ', Solv M (.inr (p, i, es) :: gs) ρ ρ' ↔ ∃ j : Nat, j ≤ es.length ∧ oneT M p i gs ρ (es.take j) (es.drop j) ρ' := by
      intro ρ'
      rw [row_one hil2]
      constructor
      · rintro ⟨S, T, hsp, h⟩
        unfold Sp at hsp
        rw [← ef, if_neg (fun z => z hco)] at hsp
        subst hsp
        refine ⟨S.length, by simp, ?_⟩
        rw [List.take_left, List.drop_left]
        exact h
      · rintro ⟨j, hj, h⟩
        refine ⟨es.take j, es.drop j, ?_, h⟩
        unfold Sp
        rw [← ef, if_neg (fun z => z hco), List.take_append_drop]
    obtain ⟨lo, elo⟩ : ∃ lo : Nat, lo = if (kids p).length - i = 1 then es.length else 0 := ⟨_, rfl⟩
    obtain ⟨hi, ehi⟩ : ∃ hi : Int, hi = if mUn M f = -2 then (es.length : Int) - ((kids p).length - i - 1) else (es.length : Int) := ⟨_, rfl⟩
    have only : ∀ (j : Nat) ρ', j ≤ es.length → oneT M p i gs ρ (es.take j) (es.drop j) ρ' → lo ≤ j ∧ (j : Int) ≤ hi := by
      intro j ρ' hj h
      constructor
      · rw [elo]
        split
        · have := one_last (by omega) h
          have := congrArg List.length this
          rw [List.length_drop, List.length_nil] at this
          omega
        · omega
      · rw [ehi]
        split
        · rename_i hu
          have := one_few (by rw [← ef]; exact hu) hil2 h
          rw [List.length_drop] at this
          omega
        · omega
    have w1 : (if mUn M f < 0 then w32 (w32 (((elO M f (tT σ tt)).length : Int) - b) - w32 (((kids p).length : Int) - i - 1)) else w32 (((elO M f (tT σ tt)).length : Int) - b)) = hi := by
      have hun := (hM.op h0 h1).2.2.2.2.2.2.1
      rw [ehi]
      by_cases hu : mUn M f = -2
      · rw [if_pos (by omega), if_pos hu]
        simp (disch := omega) only [w32_id]
        omega
      · rw [if_neg (by omega), if_neg hu, w32_id (by omega) (by omega)]
        omega
    have w2 : (if ((kids p).length : Int) - i = 1 then w32 (((elO M f (tT σ tt)).length : Int) - b) else 0) = (lo : Int) := by
      rw [elo]
      by_cases hz : (kids p).length - i = 1
      · rw [if_pos (by omega), if_pos hz, w32_id (by omega) (by omega)]
        omega
      · rw [if_neg (by omega), if_neg hz]; rfl
    rw [w1, w2]
    have hhi : hi ≤ es.length := by rw [ehi]; split <;> omega
    have hlo : lo ≤ es.length := by rw [elo]; split <;> omega
    have spj : ∀ j : Nat, spl es (es.take j) (es.drop j) := fun j => by
      have := app_spl (es.take j) (es.drop j)
      rwa [List.take_append_drop] at this
    refine lt_solveSide_L141 (fo_t_S_solve m) (fun n s => ∃ j : Nat, n = (j : Int) ∧ lo ≤ j ∧ (j : Int) ≤ max hi (lo - 1) + 1 ∧ gI s 110 = gI σ 110 ∧ ∃ L1, doneT M (inU M A t0) o σ L (fun ρ' => ∃ u : Nat, u < j ∧ u ≤ es.length ∧ oneT M p i gs ρ (es.take u) (es.drop u) ρ') s L1) (fun n _ => (hi + 1 - n).toNat) ⟨lo, rfl, by omega, by omega, i1, L, d1.iff (fun ρ' => ⟨False.elim, ?_⟩)⟩ ?_
    · rintro ⟨u, hu1, hu2, h⟩
      have := (only u ρ' hu2 h).1
      omega
    rintro n s2 fr ⟨j, rfl, hj1, hj2, hgo, L1, d⟩
    try dsimp only
    have hsub : ∀ ρ', (∃ u : Nat, u < j ∧ u ≤ es.length ∧ oneT M p i gs ρ (es.take u) (es.drop u) ρ') → Solv M (.inr (p, i, es) :: gs) ρ ρ' := fun ρ' ⟨u, _, h2, h3⟩ => (sol ρ').mpr ⟨u, h2, h3⟩
    have x2 := d.2.2.1
    have k2 := d.2.1
    by_cases hle : (j : Int) ≤ hi
    · rw [if_pos hle]
      have hjl : j ≤ es.length := by omega
      have lp2 := k2.1.lv lp
      have tp2 := (k2.1.t lp).trans ep
      have lt2 := k2.1.lv lt
      have tt2 := k2.1.t lt
      obtain ⟨hin1, hin2, hin3, hin4, hin5, hin6⟩ := elm_in hM c.2.2.2.2 h0 h1 has hAf hel hrow (spj j)
      have ly2 : lvT s2 y ∧ tT s2 y = q := by
        have hk := tT_kid x1 lp1 (k := i) (q := q) (by rw [tp1]; exact hq)
        have hk2 := tT_kid x2 lp2 (k := i) (q := q) (by rw [tp2]; exact hq)
        have d12 : kT (inU M A t0) σ s2 := k2
        have fs : Fr wT_solveSide s s2 := fr
        -- y is the same node in both
        have ey0 : tT σ (gA σ 56 (gA σ 49 pp + i)) = q := (tT_kid xp lp (k := i) (q := q) (by rw [ep]; exact hq)).2.2
        have ly0 := (tT_kid xp lp (k := i) (q := q) (by rw [ep]; exact hq)).2.1
        have ysame : y = gA σ 56 (gA σ 49 pp + i) := x1.inj ly (k1.1.lv ly0) (by rw [ey, k1.1.t ly0, ey0])
        rw [ysame]
        exact ⟨k2.1.lv ly0, (k2.1.t ly0).trans ey0⟩
      have nxt : ∀ (s3 : S) (L3 : List Env), gI s3 110 = gI σ 110 → doneT M (inU M A t0) o σ L (fun ρ' => (∃ u : Nat, u < j ∧ u ≤ es.length ∧ oneT M p i gs ρ (es.take u) (es.drop u) ρ') ∨ oneT M p i gs ρ (es.take j) (es.drop j) ρ') s3 L3 →
          t_solveSide_j227 (t_S_solve m) g pp tt i b f y hi j s3 (fun _ s => ∃ L', doneT M (inU M A t0) o σ L (Solv M (.inr (p, i, es) :: gs) ρ) s L') (fun s => overT M (inU M A t0) σ L (Solv M (.inr (p, i, es) :: gs) ρ) s) (fun n' s' => (∃ j : Nat, n' = (j : Int) ∧ lo ≤ j ∧ (j : Int) ≤ max hi (lo - 1) + 1 ∧ gI s' 110 = gI σ 110 ∧ ∃ L1, doneT M (inU M A t0) o σ L (fun ρ' => ∃ u : Nat, u < j ∧ u ≤ es.length ∧ oneT M p i gs ρ (es.take u) (es.drop u) ρ') s' L1) ∧ (hi + 1 - n').toNat < (hi + 1 - (j : Int)).toNat) := by
        intro s3 L3 hg3 d3
        unfold t_solveSide_j227
        rw [w32_id (by omega) (by omega)]
        refine ⟨⟨j + 1, by omega, by omega, by omega, hg3, L3, d3.iff (fun ρ' => ⟨?_, ?_⟩)⟩, by omega⟩
        · rintro (⟨u, h1, h2, h3⟩ | h)
          · exact ⟨u, by omega, h2, h3⟩
          · exact ⟨j, by omega, hjl, h⟩
        · rintro ⟨u, h1, h2, h3⟩
          by_cases hu : u = j
          · subst hu; exact Or.inr h3
          · exact Or.inl ⟨u, by omega, h2, h3⟩
      refine ts_mayTake x2 h0 h1 ly2.1 ?_
      rw [ly2.2]
      have takes : (if (if lab q < 0 ∨ mUn M (lab q) ≠ -2 then bi (0 < (j : Int) ∨ mUn M f ≠ -2) else bi ((j : Int) = 1)) = 0 then False else True) ↔ (if lab q < 0 ∨ mUn M (lab q) ≠ -2 then 0 < (es.take j).length ∨ mUn M (lab p) ≠ -2 else (es.take j).length = 1) := by
        rw [List.length_take, Nat.min_eq_left hjl, ← ef]
        by_cases hc : lab q < 0 ∨ mUn M (lab q) ≠ -2
        · rw [if_pos hc, if_pos hc]
          by_cases hz : 0 < (j : Int) ∨ mUn M f ≠ -2
          · rw [bi_t hz, if_neg (by decide)]
            exact ⟨fun _ => hz.imp (fun z => by omega) id, fun _ => trivial⟩
          · rw [bi_f hz, if_pos rfl]
            exact ⟨False.elim, fun z => hz (z.imp (fun y => by omega) id)⟩
        · rw [if_neg hc, if_neg hc]
          by_cases hz : (j : Int) = 1
          · rw [bi_t hz, if_neg (by decide)]
            exact ⟨fun _ => by omega, fun _ => trivial⟩
          · rw [bi_f hz, if_pos rfl]
            exact ⟨False.elim, fun z => hz (by omega)⟩
      generalize hbv : (if lab q < 0 ∨ mUn M (lab q) ≠ -2 then bi (0 < (j : Int) ∨ mUn M f ≠ -2) else bi ((j : Int) = 1)) = bv at takes ⊢
      by_cases hb0 : bv = 0
      · rw [if_pos hb0]
        rw [if_pos hb0] at takes
        refine nxt s2 L1 hgo (d.iff (fun ρ' => ⟨Or.inl, fun z => z.elim id (fun y => ?_)⟩))
        obtain ⟨q', hq', hnn, hs⟩ := y
        rw [hq] at hq'
        simp only [Option.some.injEq] at hq'
        subst hq'
        exact absurd hs (no_take hM okp.1 (by rw [← ef]; exact h0) (by rw [← ef]; exact has) hqm (by rw [← ef]; exact hin1) takes.mpr hnn)
      · rw [if_neg hb0]
        rw [if_neg hb0] at takes
        have rm2 := c.2.2.2.1 s2 x2 (mt.2.1.trans k2.1 c.1)
        have pl2 := k2.2.1
        have mtp := mt.2.2.2.2.2.2.2.2.2
        have hbj : b + j ≤ (elO M f (tT σ tt)).length := by omega
        refine fm_t_segment (ts_segment x2 h0 h1 has lt2 (a := b) (n := j) (es := es.take j) (A := A) (by rw [tt2]; have := rst_len (M := M) (f := f) nT; omega) (by omega) (by rw [tt2, rst_drop nT hbj, ← hes]) hin1 (by omega) (by omega) rm2.1 rm2.2) (fun v s3 f3 q3 => ?_)
        have x3 := q3.1
        have k3 : kT (inU M A t0) s2 s3 := kT.sg hin5 x2 q3 f3
        have d3 := d.q rg.1 f3 rfl rfl x3 k3
        have k03 := k2.trans k3 rg.1
        refine ⟨i4, ?_⟩
        have gn3 : gA s3 77 g = gA σ 77 g := k03.2.2.2.2.2.1 77 g (by simp) hgr.2
        have g3 : gI s3 110 = gI σ 110 := by rw [f3.i _ rfl, hgo]
        have hnn : mkS M f (es.take j) ≠ .nil := by
          have := takes.mp trivial
          rw [List.length_take, Nat.min_eq_left hjl, ← ef] at this
          intro hz
          match hsj : es.take j with
          | [] =>
            rw [hsj] at hz
            have hj0 : j = 0 := by
              have := congrArg List.length hsj
              rw [List.length_take, List.length_nil] at this
              omega
            simp only [mkS] at hz
            by_cases hu : mUn M f = -2
            · split at this
              · rcases this with z | z
                · omega
                · exact z hu
              · omega
            · rw [if_neg hu] at hz
              exact trN_ne_nil _ _ hz
          | x :: r =>
            rw [hsj] at hz hin1
            have hx := hin1.1 x (by simp)
            match r, hz, hin1 with
            | [], hz, _ => exact isT_ne_nil hx.1.1 hz
            | y :: r, hz, hin1 =>
              rw [mkS_elm has hin1 (by simp)] at hz
              exact trN_ne_nil _ _ hz
        have wadd : w32 ((i : Int) + 1) = ((i + 1 : Nat) : Int) := by rw [w32_id (by omega) (by omega)]; omega
        have wbj : w32 ((b : Int) + j) = ((b + j : Nat) : Int) := by rw [w32_id (by omega) (by omega)]; omega
        rw [wadd, wbj, gn3]
        have lt3 := k3.1.lv lt2
        have tt3 := (k3.1.t lt2).trans tt2
        have edrop : es.drop j = (elO M f (tT σ tt)).drop (b + j) := by rw [hes, List.drop_drop]
        have hfe : (fun (p : Int) => p) f = lab p := ef
        rw [wTs_cons] at hw
        simp only [wT1] at hw
        have wdrop : (((kids p).drop i).map trS).sum = trS q + (((kids p).drop (i + 1)).map trS).sum := by
          rw [List.drop_eq_getElem_cons hil2, List.map_cons, List.sum_cons]
          rw [(List.getElem?_eq_some_iff.mp hq).2]
        have q1 := trS_pos okq.1.1
        refine st_try (i := i) (tp := p) (tq := q) (Sx := es.take j) (Tx := es.drop j) c ih mt d3 (fun ρ' z => hP ρ' (hsub ρ' z)) (gg2.kp k03) okgs (by omega) (k3.1.lv ly2.1) ((k3.1.t ly2.1).trans ly2.2) hq ?_ ?_ ?_ (by rw [← ef]; exact q3.2.1) (by rw [← ef]; exact hnn) ?_ (fun ρ' z => hP ρ' ((sol ρ').mpr ⟨j, hjl, z⟩)) (fun s4 L4 d4 k4 g4 => ?_) (fun s4 q4 => q4.imp (fun ρ' z => z.elim (hsub ρ') (fun y => (sol ρ').mpr ⟨j, hjl, y⟩)))
        · refine ⟨k3.1.lv lp2, (k3.1.t lp2).trans tp2, lt3, rfl, ?_, Or.inl ⟨by rw [← ef]; exact hco, rfl, b + j, rfl, ?_, ?_⟩⟩
          · rw [← ef, tt3]; exact hE6
          · rw [← ef, tt3]; exact hbj
          · rw [← ef, tt3]; exact edrop
        · exact ⟨okp, by rw [← ef]; exact h0, by rw [← ef]; exact has, by omega, by rw [← ef]; exact hin2, by rw [← ef]; exact hin4⟩
        · intro z
          rw [← ef] at z ⊢
          exact ⟨okq, hin6 z⟩
        · rw [wTs_cons, wTs_cons]
          simp only [wT1]
          omega
        · exact nxt s4 L4 (by rw [g4, g3]) d4
    · rw [if_neg hle]
      refine ⟨L1, d.iff (fun ρ' => ⟨hsub ρ', fun z => ?_⟩)⟩
      obtain ⟨u, hu, h⟩ := (sol ρ').mp z
      have := (only u ρ' hu h).2
      exact ⟨u, by omega, hu, h⟩
end

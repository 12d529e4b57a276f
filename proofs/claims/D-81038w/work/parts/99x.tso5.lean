/-! RewriteHouseModel: solving rows of comm operators; all goals -/
section
variable {M : Mo} {A : Int → Bool} {t0 : Tr} {P : Env → Prop} {o : Int} {σ0 : S} {m : Nat}
theorem st_any (c : cxT M A t0 P o σ0) (ih : SoT M A t0 P o σ0 m) {σ : S} {gs : List Goal} {ρ : Env} {L : List Env} {g : Int} {p : Tr} {i : Nat} {es : List Tr} (mt : mtT M (inU M A t0) P o σ0 σ ρ L) (gg : gsT M σ g (.inr (p, i, es) :: gs)) (hk : gA σ 72 g = 2) (ok : gOT M A t0 (.inr (p, i, es))) (okgs : ∀ x ∈ gs, gOT M A t0 x) (hg : 0 ≤ gI σ 110 ∧ gI σ 110 + 4 * (m + 2 : Nat) ≤ 2000) (hw : wTs (.inr (p, i, es) :: gs) + 1 ≤ m + 2) (hP : ∀ ρ', Solv M (.inr (p, i, es) :: gs) ρ ρ' → P ρ') :
    t_S_solve (m + 1) 3 [g] σ (fun _ s => ∃ L', doneT M (inU M A t0) o σ L (Solv M (.inr (p, i, es) :: gs) ρ) s L') (fun s => overT M (inU M A t0) σ L (Solv M (.inr (p, i, es) :: gs) ρ) s) := by
  have xp := mt.1
  have rg := xp.rg
  have hM := xp.wm
  have ob := hM.2.2.1
  have hL := mt.2.2.2.2.2.2.2.1
  obtain ⟨okp, h0, has, hil, hel, hrow⟩ := ok
  have h1 := okp.1.op h0
  obtain ⟨hgr, hv, gg2⟩ := gg
  obtain ⟨lp, ep, lt, ea, hE6, hsh⟩ := hv
  obtain ⟨hco, -, mb, eb, hb, hes⟩ := hsh.resolve_left (fun z => by rw [hk] at z; exact absurd z.2.1 (by decide))
  generalize hPp : gA σ 73 g = pp at *
  generalize hTt : gA σ 74 g = tt at *
  have kp := tT_kids xp lp
  rw [ep] at kp
  have bp := lvT_b xp lp
  have bt := lvT_b xp lt
  have nT := xp.T lt
  have hAf : A (lab p) = true := okp.2.1 (lab p) h0 has (by rw [okp.1.eta, tAny_N]; simp [lab_N])
  obtain ⟨f, ef⟩ : ∃ f, f = lab p := ⟨_, rfl⟩
  have k39 : (kids p).length ≤ 40 := by
    have := trS_len (ts := kids p) (fun t ht => (okp.1.kid ht).1)
    have := trS_eta okp.1
    omega
  rw [te_solve_3]
  unfold t_solveAny_F
  rw [hPp, hTt, ea, eb, show gA σ 48 pp = f by rw [ef]; exact kp.1.symm, ← kp.2]
  rw [← ef] at h0 has h1 hel hrow hco hAf hE6 hb hes
  obtain ⟨E, eE⟩ : ∃ E, E = elO M f (tT σ tt) := ⟨_, rfl⟩
  obtain ⟨n, en⟩ : ∃ n, n = E.length := ⟨_, rfl⟩
  rw [← eE, ← en] at hE6 hb
  rw [← eE] at hes
  have h64 : (2 : Nat) ^ n ≤ 64 := Nat.le_trans (Nat.pow_le_pow_right (by omega) hE6) (by decide)
  have i4 : inb g 4000 := ⟨hgr.1, by omega⟩
  refine ⟨i4, i4, i4, i4, bp, bp, ?_⟩
  rw [w32_id (by omega) (by omega)]
  have dn : doneT M (inU M A t0) o σ L (fun _ => False) σ L := doneT.none xp hL
  have elen : (es.length : Int) = bCnt (mb : Int) := by
    have := mk_cnt ⟨mb, by omega⟩
    simp only at this
    rw [this, hes, pk_len, ← en]
    have := pc_ext n (6 - n) mb hb
    rw [show n + (6 - n) = 6 by omega] at this
    rw [this]
  by_cases hend : ((kids p).length : Int) - i = 0
  · rw [if_pos hend]
    have hie : i = (kids p).length := by omega
    have sol := fun ρ' => Solv_end (M := M) (p := p) (s := i) (es := es) (gs := gs) (ρ := ρ) (ρ' := ρ') hie
    have hz : (mb : Int) = 0 ↔ es = [] := by
      rw [← List.length_eq_zero_iff]
      have k0 : ∀ x : Fin 64, bCnt ((x.val : Nat) : Int) = 0 ↔ x.val = 0 := by decide +kernel
      have := k0 ⟨mb, by omega⟩
      simp only at this
      rw [← elen] at this
      omega
    by_cases hbe : (mb : Int) = 0
    · rw [if_pos hbe]
      have hnil := hz.mp hbe
      refine ⟨i4, ?_⟩
      rw [wTs_cons] at hw
      simp only [wT1] at hw
      refine st_rec c ih mt dn (fun _ z => z.elim) gg2 okgs (by omega) (by omega) (fun ρ' z => hP ρ' ((sol ρ').mpr ⟨hnil, z⟩)) (fun r2 s2 L2 f2 d2 k2 g2 => ?_) (fun s2 q => q.imp (fun ρ' z => (sol ρ').mpr ⟨hnil, z.resolve_left id⟩))
      exact ⟨L2, d2.iff (fun ρ' => ⟨fun z => (sol ρ').mpr ⟨hnil, z.resolve_left id⟩, fun z => Or.inr ((sol ρ').mp z).2⟩)⟩
    · rw [if_neg hbe]
      exact ⟨L, dn.iff (fun ρ' => ⟨False.elim, fun z => hbe (hz.mpr ((sol ρ').mp z).1)⟩)⟩
  · rw [if_neg hend]
    have hil2 : i < (kids p).length := by omega
    obtain ⟨q, hq⟩ : ∃ q, (kids p)[i]? = some q := ⟨_, List.getElem?_eq_getElem hil2⟩
    have hqm : q ∈ kids p := List.mem_of_getElem? hq
    have okq := kid_ok okp hqm
    refine ⟨⟨h0, by omega⟩, ?_⟩
    rw [(xp.mo.2.2.2.1 f h0 h1).2.2.1]
    have oneA : ∀ k ρ', oneT M p i gs ρ (pk k E) (pk (mb ^^^ k) E) ρ' → k &&& mb = k → Solv M (.inr (p, i, es) :: gs) ρ ρ' := by
      intro k ρ' h hkm
      rw [row_one hil2]
      refine ⟨_, _, ?_, h⟩
      unfold Sp
      rw [← ef, if_pos hco, hes]
      exact pk_spl (by omega) hkm
    have sol : ∀ ρ', Solv M (.inr (p, i, es) :: gs) ρ ρ' ↔ ∃ k : Nat, k &&& mb = k ∧ oneT M p i gs ρ (pk k E) (pk (mb ^^^ k) E) ρ' := by
      intro ρ'
      constructor
      · intro h
        rw [row_one hil2] at h
        obtain ⟨S, T, hsp, h⟩ := h
        unfold Sp at hsp
        rw [← ef, if_pos hco, hes] at hsp
        obtain ⟨k, hkm, rfl, rfl⟩ := spl_pk (by omega) hsp
        exact ⟨k, hkm, h⟩
      · rintro ⟨k, hkm, h⟩
        exact oneA k ρ' h hkm
    -- the last part takes all
    have lastK : i + 1 = (kids p).length → ∀ k ρ', k &&& mb = k → oneT M p i gs ρ (pk k E) (pk (mb ^^^ k) E) ρ' → oneT M p i gs ρ (pk mb E) (pk (mb ^^^ mb) E) ρ' := by
      intro hl k ρ' hkm h
      have ht := one_last hl h
      have hs := spl_rnil (by have := pk_spl (E := E) (m := mb) (s := k) (by omega) hkm; rw [ht] at this; exact this)
      rw [hs, ht] at h
      rw [Nat.xor_self, pk_0]
      exact h
    have main : t_solveAny_j91 (t_S_solve m) g pp tt i mb f (((kids p).length : Int) - i) σ (fun _ s => ∃ L', doneT M (inU M A t0) o σ L (Solv M (.inr (p, i, es) :: gs) ρ) s L') (fun s => overT M (inU M A t0) σ L (Solv M (.inr (p, i, es) :: gs) ρ) s) := by
      unfold t_solveAny_j91
      refine ts_kid xp lp (k := i) (q := q) (by rw [ep]; exact hq) (fun y ly ey => ?_)
      refine lt_solveAny_L104 (fo_t_S_solve m) (fun v s' => (v = -1 ∨ ∃ k : Nat, v = (k : Int) ∧ k &&& mb = k) ∧ gI s' 110 = gI σ 110 ∧ ∃ L', doneT M (inU M A t0) o σ L (fun ρ' => ∃ k : Nat, v < (k : Int) ∧ k &&& mb = k ∧ oneT M p i gs ρ (pk k E) (pk (mb ^^^ k) E) ρ') s' L') (fun v _ => (v + 1).toNat) ⟨Or.inr ⟨mb, rfl, Nat.and_self mb⟩, rfl, L, dn.iff (fun ρ' => ⟨False.elim, ?_⟩)⟩ ?_
      · rintro ⟨k, h1, h2, -⟩
        have : k ≤ mb := by rw [← h2]; exact Nat.and_le_right
        omega
      rintro v s2 fr ⟨hvv, hgo, L1, d⟩
      try dsimp only
      have hsub : ∀ ρ', (∃ k : Nat, v < (k : Int) ∧ k &&& mb = k ∧ oneT M p i gs ρ (pk k E) (pk (mb ^^^ k) E) ρ') → Solv M (.inr (p, i, es) :: gs) ρ ρ' := fun ρ' ⟨k, _, h2, h3⟩ => oneA k ρ' h3 h2
      by_cases hneg : v < 0
      · rw [if_pos hneg]
        refine ⟨L1, d.iff (fun ρ' => ⟨hsub ρ', fun z => ?_⟩)⟩
        obtain ⟨k, h2, h3⟩ := (sol ρ').mp z
        exact ⟨k, by omega, h2, h3⟩
      rw [if_neg hneg]
      obtain ⟨k, rfl, hkm⟩ : ∃ k : Nat, v = (k : Int) ∧ k &&& mb = k := by
        rcases hvv with z | z
        · omega
        · exact z
      have hkle : k ≤ mb := by rw [← hkm]; exact Nat.and_le_right
      have x2 := d.2.2.1
      have k2 := d.2.1
      have nxt : ∀ (s3 : S) (L3 : List Env), gI s3 110 = gI σ 110 → doneT M (inU M A t0) o σ L (fun ρ' => (∃ u : Nat, (k : Int) < (u : Int) ∧ u &&& mb = u ∧ oneT M p i gs ρ (pk u E) (pk (mb ^^^ u) E) ρ') ∨ oneT M p i gs ρ (pk k E) (pk (mb ^^^ k) E) ρ') s3 L3 →
          t_solveAny_j204 (t_S_solve m) g pp tt i mb f (((kids p).length : Int) - i) y k s3 (fun _ s => ∃ L', doneT M (inU M A t0) o σ L (Solv M (.inr (p, i, es) :: gs) ρ) s L') (fun s => overT M (inU M A t0) σ L (Solv M (.inr (p, i, es) :: gs) ρ) s) (fun v' s' => ((v' = -1 ∨ ∃ k : Nat, v' = (k : Int) ∧ k &&& mb = k) ∧ gI s' 110 = gI σ 110 ∧ ∃ L', doneT M (inU M A t0) o σ L (fun ρ' => ∃ k : Nat, v' < (k : Int) ∧ k &&& mb = k ∧ oneT M p i gs ρ (pk k E) (pk (mb ^^^ k) E) ρ') s' L') ∧ (v' + 1).toNat < ((k : Int) + 1).toNat) := by
        intro s3 L3 hg3 d3
        unfold t_solveAny_j204
        by_cases hk0 : k = 0
        · subst hk0
          rw [if_pos (show ((0 : Nat) : Int) = 0 from rfl)]
          refine ⟨⟨Or.inl rfl, hg3, L3, d3.iff (fun ρ' => ⟨?_, ?_⟩)⟩, by omega⟩
          · rintro (⟨u, h1, h2⟩ | h)
            · exact ⟨u, by omega, h2⟩
            · exact ⟨0, by omega, hkm, h⟩
          · rintro ⟨u, h1, h2, h3⟩
            by_cases hu : u = 0
            · subst hu; exact Or.inr h3
            · exact Or.inl ⟨u, by omega, h2, h3⟩
        · rw [if_neg (by omega)]
          have mn := mk_next ⟨mb, by omega⟩ ⟨k, by omega⟩ (by show 0 < k; omega)
          simp only at mn
          rw [mn]
          have mg := mk_gap ⟨mb, by omega⟩ ⟨k, by omega⟩ (by show 0 < k; omega) hkm
          have ms := mk_sub ⟨mb, by omega⟩ ⟨k, by omega⟩
          simp only at ms
          have hle : (k - 1) &&& mb ≤ k - 1 := Nat.and_le_left
          refine ⟨⟨Or.inr ⟨(k - 1) &&& mb, rfl, ms⟩, hg3, L3, d3.iff (fun ρ' => ⟨?_, ?_⟩)⟩, by omega⟩
          · rintro (⟨u, h1, h2⟩ | h)
            · exact ⟨u, by omega, h2⟩
            · exact ⟨k, by omega, hkm, h⟩
          · rintro ⟨u, h1, h2, h3⟩
            by_cases hu : u = k
            · subst hu; exact Or.inr h3
            · refine Or.inl ⟨u, ?_, h2, h3⟩
              rcases Nat.lt_or_ge k u with z | z
              · omega
              · have hum : u ≤ mb := by rw [← h2]; exact Nat.and_le_right
                have := mg ⟨u, by omega⟩ h2 (by show u < k; omega)
                simp only at this
                omega
      have skip : (∀ ρ', oneT M p i gs ρ (pk k E) (pk (mb ^^^ k) E) ρ' → ∃ u : Nat, (k : Int) < (u : Int) ∧ u &&& mb = u ∧ oneT M p i gs ρ (pk u E) (pk (mb ^^^ u) E) ρ') →
          t_solveAny_j204 (t_S_solve m) g pp tt i mb f (((kids p).length : Int) - i) y k s2 (fun _ s => ∃ L', doneT M (inU M A t0) o σ L (Solv M (.inr (p, i, es) :: gs) ρ) s L') (fun s => overT M (inU M A t0) σ L (Solv M (.inr (p, i, es) :: gs) ρ) s) (fun v' s' => ((v' = -1 ∨ ∃ k : Nat, v' = (k : Int) ∧ k &&& mb = k) ∧ gI s' 110 = gI σ 110 ∧ ∃ L', doneT M (inU M A t0) o σ L (fun ρ' => ∃ k : Nat, v' < (k : Int) ∧ k &&& mb = k ∧ oneT M p i gs ρ (pk k E) (pk (mb ^^^ k) E) ρ') s' L') ∧ (v' + 1).toNat < ((k : Int) + 1).toNat) :=
        fun hno => nxt s2 L1 hgo (d.iff (fun ρ' => ⟨Or.inl, fun z => z.elim id (hno ρ')⟩))
      by_cases hdo : ¬ (((kids p).length : Int) - i ≤ 1) ∨ (k : Int) = (mb : Int)
      · rw [if_pos hdo]
        unfold t_bits
        have spk := pk_spl (E := E) (m := mb) (s := k) (by omega) hkm
        obtain ⟨hin1, hin2, hin3, hin4, hin5, hin6⟩ := elm_in hM c.2.2.2.2 h0 h1 has hAf hel hrow (by rw [hes]; exact spk)
        have lp2 := k2.1.lv lp
        have tp2 := (k2.1.t lp).trans ep
        have lt2 := k2.1.lv lt
        have tt2 := k2.1.t lt
        have ly2 : lvT s2 y ∧ tT s2 y = q := ⟨k2.1.lv ly, (k2.1.t ly).trans ey⟩
        have hkn : k < 2 ^ n := by omega
        have klen : ((pk k E).length : Int) = bCnt (k : Int) := by
          have := mk_cnt ⟨k, by omega⟩
          simp only at this
          rw [this, pk_len, ← en]
          have := pc_ext n (6 - n) k hkn
          rw [show n + (6 - n) = 6 by omega] at this
          rw [this]
        refine ts_mayTake x2 h0 h1 ly2.1 ?_
        rw [ly2.2, ← klen]
        have takes : (if (if lab q < 0 ∨ mUn M (lab q) ≠ -2 then bi (0 < ((pk k E).length : Int) ∨ mUn M f ≠ -2) else bi (((pk k E).length : Int) = 1)) = 0 then False else True) ↔ (if lab q < 0 ∨ mUn M (lab q) ≠ -2 then 0 < (pk k E).length ∨ mUn M (lab p) ≠ -2 else (pk k E).length = 1) := by
          rw [← ef]
          by_cases hc : lab q < 0 ∨ mUn M (lab q) ≠ -2
          · rw [if_pos hc, if_pos hc]
            by_cases hz : 0 < ((pk k E).length : Int) ∨ mUn M f ≠ -2
            · rw [bi_t hz, if_neg (by decide)]
              exact ⟨fun _ => hz.imp (fun z => by omega) id, fun _ => trivial⟩
            · rw [bi_f hz, if_pos rfl]
              exact ⟨False.elim, fun z => hz (z.imp (fun y => by omega) id)⟩
          · rw [if_neg hc, if_neg hc]
            by_cases hz : ((pk k E).length : Int) = 1
            · rw [bi_t hz, if_neg (by decide)]
              exact ⟨fun _ => by omega, fun _ => trivial⟩
            · rw [bi_f hz, if_pos rfl]
              exact ⟨False.elim, fun z => hz (by omega)⟩
        generalize hbv : (if lab q < 0 ∨ mUn M (lab q) ≠ -2 then bi (0 < ((pk k E).length : Int) ∨ mUn M f ≠ -2) else bi (((pk k E).length : Int) = 1)) = bv at takes ⊢
        by_cases hb0 : bv = 0
        · rw [if_pos hb0]
          rw [if_pos hb0] at takes
          refine skip (fun ρ' y => ?_)
          obtain ⟨q', hq', hnn, hs⟩ := y
          rw [hq] at hq'
          simp only [Option.some.injEq] at hq'
          subst hq'
          exact absurd hs (no_take hM okp.1 (by rw [← ef]; exact h0) (by rw [← ef]; exact has) hqm (by rw [← ef]; exact hin1) takes.mpr hnn)
        · rw [if_neg hb0]
          rw [if_neg hb0] at takes
          have rm2 := c.2.2.2.1 s2 x2 (mt.2.1.trans k2.1 c.1)
          have pl2 := k2.2.1
          have mtp := mt.2.2.2.2.2.2.2.2.2
          have hkE : k < 2 ^ (elO M f (tT σ tt)).length := by rw [← eE, ← en]; exact hkn
          refine fm_t_chosen (ts_chosen x2 h0 h1 has lt2 (m := k) (n := n) (es := pk k E) (A := A) hE6 hkn (by rw [tt2]; have := rst_len (M := M) (f := f) nT; rw [← eE, ← en] at this; exact this) (by rw [tt2, rst_pk nT hkE, ← eE]) hin1 (by omega) (by omega) rm2.1 rm2.2) (fun v s3 f3 q3 => ?_)
          have x3 := q3.1
          have k3 : kT (inU M A t0) s2 s3 := kT.sg hin5 x2 q3 f3
          have d3 := d.q rg.1 f3 rfl rfl x3 k3
          have k03 := k2.trans k3 rg.1
          refine ⟨i4, ?_⟩
          have gn3 : gA s3 77 g = gA σ 77 g := k03.2.2.2.2.2.1 77 g (by simp) hgr.2
          have g3 : gI s3 110 = gI σ 110 := by rw [f3.i _ rfl, hgo]
          have hnn : mkS M f (pk k E) ≠ .nil := by
            have := takes.mp trivial
            rw [← ef] at this
            intro hz
            match hsj : pk k E with
            | [] =>
              rw [hsj] at hz this
              simp only [mkS] at hz
              by_cases hu : mUn M f = -2
              · simp only [List.length_nil] at this
                split at this
                · rcases this with z | z
                  · omega
                  · exact z hu
                · omega
              · rw [if_neg hu] at hz
                exact trN_ne_nil _ _ hz
            | x :: r =>
              rw [hsj] at hz hin1
              have hx := hin1.1 x (by simp)
              match r, hz, hin1 with
              | [], hz, _ => exact isT_ne_nil hx.1.1 hz
              | y :: r, hz, hin1 =>
                rw [mkS_elm has hin1 (by simp)] at hz
                exact trN_ne_nil _ _ hz
          have wadd : w32 ((i : Int) + 1) = ((i + 1 : Nat) : Int) := by rw [w32_id (by omega) (by omega)]; omega
          have wan := mk_andn ⟨mb, by omega⟩ ⟨k, by omega⟩ hkm
          simp only at wan
          rw [wadd, wan, gn3]
          have lt3 := k3.1.lv lt2
          have tt3 := (k3.1.t lt2).trans tt2
          rw [wTs_cons] at hw
          simp only [wT1] at hw
          have wdrop : (((kids p).drop i).map trS).sum = trS q + (((kids p).drop (i + 1)).map trS).sum := by
            rw [List.drop_eq_getElem_cons hil2, List.map_cons, List.sum_cons]
            rw [(List.getElem?_eq_some_iff.mp hq).2]
          have q1 := trS_pos okq.1.1
          have xlt : mb ^^^ k < 2 ^ n := Nat.xor_lt_two_pow hb hkn
          refine st_try (i := i) (tp := p) (tq := q) (Sx := pk k E) (Tx := pk (mb ^^^ k) E) c ih mt d3 (fun ρ' z => hP ρ' (hsub ρ' z)) (gg2.kp k03) okgs (by omega) (k3.1.lv ly2.1) ((k3.1.t ly2.1).trans ly2.2) hq ?_ ?_ ?_ (by rw [← ef]; exact q3.2.1) (by rw [← ef]; exact hnn) ?_ (fun ρ' z => hP ρ' ((sol ρ').mpr ⟨k, hkm, z⟩)) (fun s4 L4 d4 k4 g4 => ?_) (fun s4 q4 => q4.imp (fun ρ' z => z.elim (hsub ρ') (fun y => (sol ρ').mpr ⟨k, hkm, y⟩)))
          · refine ⟨k3.1.lv lp2, (k3.1.t lp2).trans tp2, lt3, rfl, ?_, Or.inr ⟨by rw [← ef]; exact hco, rfl, mb ^^^ k, rfl, ?_, ?_⟩⟩
            · rw [← ef, tt3, ← eE, ← en]; exact hE6
            · rw [← ef, tt3, ← eE, ← en]; exact xlt
            · rw [← ef, tt3, ← eE]
          · exact ⟨okp, by rw [← ef]; exact h0, by rw [← ef]; exact has, by omega, by rw [← ef]; exact hin2, by rw [← ef]; exact hin4⟩
          · intro z
            rw [← ef] at z ⊢
            exact ⟨okq, hin6 z⟩
          · rw [wTs_cons, wTs_cons]
            simp only [wT1]
            omega
          · exact nxt s4 L4 (by rw [g4, g3]) d4
      · rw [if_neg hdo]
        refine skip (fun ρ' h => ⟨mb, by omega, Nat.and_self mb, lastK (by omega) k ρ' hkm h⟩)
    by_cases hun : mUn M f = -2
    · rw [if_pos (by omega)]
      unfold t_bits
      rw [← elen]
      dsimp only
      by_cases hfew : (es.length : Int) < ((kids p).length : Int) - i
      · rw [if_pos hfew]
        refine ⟨L, dn.iff (fun ρ' => ⟨False.elim, fun z => ?_⟩)⟩
        have := Solv_few (by rw [← ef]; exact hun) _ i _ gs ρ ρ' (Nat.le_add_left _ _) (by omega) z
        omega
      · rw [if_neg hfew]
        exact main
    · have hux := (hM.op h0 h1).2.2.2.2.2.2.1
      rw [if_neg (by omega)]
      exact main
theorem st_assoc (c : cxT M A t0 P o σ0) (ih : SoT M A t0 P o σ0 m) {σ : S} {gs : List Goal} {ρ : Env} {L : List Env} {p t nx : Int} (mt : mtT M (inU M A t0) P o σ0 σ ρ L) (gg : gsT M σ nx gs) (okgs : ∀ x ∈ gs, gOT M A t0 x) (hg : 0 ≤ gI σ 110 ∧ gI σ 110 + 4 * (m + 2 : Nat) ≤ 2000) (hp : lvT σ p) (ht : lvT σ t) (h0 : 0 ≤ lab (tT σ p)) (has : mAs M (lab (tT σ p)) ≠ 0) (ok : gOT M A t0 (.inl (tT σ p, tT σ t))) (hw : wTs (.inl (tT σ p, tT σ t) :: gs) + 1 ≤ m + 2) (hP : ∀ ρ', Solv M (.inl (tT σ p, tT σ t) :: gs) ρ ρ' → P ρ') :
    t_S_solve (m + 1) 1 [p, t, nx] σ (fun _ s => ∃ L', doneT M (inU M A t0) o σ L (Solv M (.inl (tT σ p, tT σ t) :: gs) ρ) s L') (fun s => overT M (inU M A t0) σ L (Solv M (.inl (tT σ p, tT σ t) :: gs) ρ) s) := by
  have xp := mt.1
  have rg := xp.rg
  have hM := xp.wm
  have np := (xp.nd hp).2.2.1
  have nt := (xp.nd ht).2.2.1
  have hlp := tT_kids xp hp
  have bp := lvT_b xp hp
  have bt := lvT_b xp ht
  have h1 := np.op h0
  have ob := hM.2.2.1
  have hL := mt.2.2.2.2.2.2.2.1
  obtain ⟨okp, okt⟩ := ok
  have hAf : A (lab (tT σ p)) = true := okp.2.1 _ h0 has (by rw [np.eta, tAny_N]; simp [lab_N])
  have hel := elO_elm hM h0 has hAf okt.1 okt.2.1 okt.2.2.1
  have hrow := rowU_el (M := M) (A := A) (o := lab (tT σ p)) okt.2.2.2 nt.1
  have sol := fun ρ' => Solv_assoc (M := M) (p := tT σ p) (t := tT σ t) (gs := gs) (ρ := ρ) (ρ' := ρ') h0 has
  have moa := (xp.mo.2.2.2.1 _ h0 h1)
  obtain ⟨f, ef⟩ : ∃ f, f = lab (tT σ p) := ⟨_, rfl⟩
  have ef2 : gA σ 48 p = f := by rw [ef]; exact hlp.1.symm
  have rm := c.2.2.2.1 σ xp mt.2.1
  rw [te_solve_1]
  unfold t_solvePair_F
  refine ts_isVar xp hp ?_
  rw [bi_f (by omega), if_pos rfl, ef2]
  rw [← ef] at h0 has h1 hAf hel hrow sol moa
  have cf : inb f 50 := ⟨h0, by omega⟩
  refine ⟨bp, cf, ?_⟩
  rw [moa.1, if_neg has]
  refine ⟨cf, ?_⟩
  rw [moa.2.1]
  have wle : wTs (.inr (tT σ p, 0, elO M f (tT σ t)) :: gs) + 1 ≤ m := by
    have e := trS_eta np
    rw [wTs_cons] at hw ⊢
    simp only [wT1, List.drop_zero] at hw ⊢
    omega
  -- the goal of the row is pushed and solved
  have push : ∀ (s : S) (k b : Int), doneT M (inU M A t0) o σ L (fun _ => False) s L → gI s 110 = gI σ 110 → kT (inU M A t0) σ s → ((mCo M f = 0 ∧ k = 1 ∧ b = 0) ∨ (mCo M f ≠ 0 ∧ k = 2 ∧ b = ((2 ^ (elO M f (tT σ t)).length - 1 : Nat) : Int))) →
      t_solvePair_j157 (t_S_solve m) nx b 0 t p k s (fun _ s => ∃ L', doneT M (inU M A t0) o σ L (Solv M (.inl (tT σ p, tT σ t) :: gs) ρ) s L') (fun s => overT M (inU M A t0) σ L (Solv M (.inl (tT σ p, tT σ t) :: gs) ρ) s) := by
    intro s k b d hgs ks hkb
    have xs := d.2.2.1
    unfold t_solvePair_j157
    have gv : goV M s k p t 0 b (.inr (tT σ p, 0, elO M f (tT σ t))) := by
      refine ⟨ks.1.lv hp, ks.1.t hp, ks.1.lv ht, rfl, ?_, ?_⟩
      · rw [← ef, ks.1.t ht]; exact hel.2.2.1
      · rw [← ef, ks.1.t ht]
        rcases hkb with ⟨z1, z2, z3⟩ | ⟨z1, z2, z3⟩
        · exact Or.inl ⟨z1, z2, 0, z3, by omega, by rw [List.drop_zero]⟩
        · refine Or.inr ⟨z1, z2, _, z3, ?_, (pk_all _ rfl).symm⟩
          have : 1 ≤ 2 ^ (elO M f (tT σ t)).length := Nat.one_le_two_pow
          omega
    refine ts_goal (N := inU M A t0) (x := .inr (tT σ p, 0, elO M f (tT σ t))) xs (by omega) (by omega) (gg.kp ks) gv (fun s1 f1 x1 k1 l1 g1 gg1 => ?_)
    have d1 := d.q rg.1 f1 rfl rfl x1 k1
    refine st_rec c ih mt d1 (fun _ z => z.elim) gg1 (fun x hx => ?_) (by omega) wle (fun ρ' z => hP ρ' ((sol ρ').mpr z)) (fun r2 s2 L2 f2 d2 k2 g2 => ?_) (fun s2 q => q.imp (fun ρ' z => (sol ρ').mpr (z.resolve_left id)))
    · rcases List.mem_cons.mp hx with rfl | hx
      · exact ⟨okp, by rw [← ef]; exact h0, by rw [← ef]; exact has, by omega, by rw [← ef]; exact hel, by rw [← ef]; exact hrow⟩
      · exact okgs x hx
    · exact ⟨L2, d2.iff (fun ρ' => ⟨fun z => (sol ρ').mpr (z.resolve_left id), fun z => Or.inr ((sol ρ').mp z)⟩)⟩
  have dn : doneT M (inU M A t0) o σ L (fun _ => False) σ L := doneT.none xp hL
  by_cases hco : mCo M f = 0
  · rw [if_pos hco]
    unfold t_solvePair_j129
    refine ⟨cf, ?_⟩
    rw [moa.2.1, if_pos hco]
    exact push σ 1 0 dn rfl (kT.rf _ _) (Or.inl ⟨hco, rfl, rfl⟩)
  · rw [if_neg hco]
    unfold t_solvePair_j129
    refine ⟨cf, ?_⟩
    rw [moa.2.1, if_neg hco]
    refine ts_rowCount xp h0 h1 ht (by omega) (fun s f1 x1 e1 n1 => ?_)
    have k1 : kT (inU M A t0) σ s := kT.of (e1.mono (fun u z => by rw [z.2]; exact (unT_ok (A := A) (t0 := t0) hM h0 h1 z.1).2.2.2)) f1 rfl
    have d1 := dn.q rg.1 f1 rfl rfl x1 k1
    have on := mk_ones ⟨(elO M f (tT σ t)).length, by have := hel.2.2.1; omega⟩
    simp only at on
    rw [on]
    exact push s 2 _ d1 (f1.i _ rfl) k1 (Or.inr ⟨hco, rfl, rfl⟩)
end
theorem SoT_all {M : Mo} {A : Int → Bool} {t0 : Tr} {P : Env → Prop} {o : Int} {σ0 : S} (c : cxT M A t0 P o σ0) : ∀ n, SoT M A t0 P o σ0 n := by
  have main : ∀ k n, n ≤ k → SoT M A t0 P o σ0 n := by
    intro k
    induction k with
    | zero =>
      intro n hn σ g gs ρ L h
      obtain ⟨-, -, -, -, h5⟩ := h
      omega
    | succ k IH =>
      intro n hn σ g gs ρ L h hP
      obtain ⟨mt, gg, ok, hg, hw⟩ := h
      obtain ⟨n1, rfl⟩ : ∃ n1, n = n1 + 1 := ⟨n - 1, by omega⟩
      have xp := mt.1
      have rg := xp.rg
      rw [te_solve_0]
      unfold t_solve_F
      match gs, gg, ok, hw, hP with
      | [], gg, _, _, hP =>
        rw [if_pos (show g < 0 from gg)]
        have e : ∀ ρ', ρ' = ρ ↔ Solv M [] ρ ρ' := fun ρ' => Solv_nil.symm
        refine fm_t_record (mt.list (hP ρ (Solv_nil.mpr rfl)) c.2.1 c.2.2.1) (fun r s f q => ?_) (fun s f q => q.imp (fun ρ' z => (e ρ').mp z))
        obtain ⟨q1, L', d⟩ := q
        exact ⟨q1, L', d.iff e⟩
      | x :: gs, gg, ok, hw, hP =>
        have hgr := gg.1
        rw [if_neg (by omega)]
        have i4 : inb g 4000 := ⟨hgr.1, by omega⟩
        have w4 : 2 ≤ wT1 x := by
          match x with
          | .inl (p, t) =>
            have := trS_pos (ok _ (List.mem_cons_self ..)).1.1.1
            simp only [wT1]; omega
          | .inr (p, s, es) => simp only [wT1]; omega
        rw [wTs_cons] at hw
        obtain ⟨m, rfl⟩ : ∃ m, n1 = m + 1 := ⟨n1 - 1, by omega⟩
        have ih := IH m (by omega)
        have hw' : wTs (x :: gs) + 1 ≤ m + 2 := by rw [wTs_cons]; omega
        have okx := ok x (List.mem_cons_self ..)
        have okgs : ∀ y ∈ gs, gOT M A t0 y := fun y hy => ok y (List.mem_cons_of_mem _ hy)
        -- goals as they were
        have back : ∀ (s : S) (L' : List Env), doneT M (inU M A t0) o σ L (Solv M (x :: gs) ρ) s L' → t_solve_j71 (t_S_solve (m + 1)) (gI σ 110) s (fun _ s => gI s 110 = gI σ 110 ∧ ∃ L', doneT M (inU M A t0) o σ L (Solv M (x :: gs) ρ) s L') (fun s => overT M (inU M A t0) σ L (Solv M (x :: gs) ρ) s) := by
          intro s L' d
          unfold t_solve_j71
          rintro s4 hs4
          have f4 : Fr ([110], [], []) s s4 := Fr.rf.putI hs4 rfl
          have g4 : gI s4 110 = gI σ 110 := by rw [hs4]; rfl
          have six4 : ∀ a ∈ gA6, gA s4 a = gA s a := apt_a (w := ([110], [], [])) (I := []) (A := gA6) rfl f4
          have e4 : ExT s s4 (inU M A t0) := ExT.of_fr f4 rfl
          obtain ⟨z1, z2, z3, z4, z5, z6, z7, z8⟩ := d.2.1
          exact ⟨g4, L', Fr.trans d.1 (f4.weak rfl), ⟨z1.trans e4 rg.1, by rw [f4.i _ rfl]; exact z2, by rw [f4.a _ rfl]; exact z3, by rw [g4]; exact Int.le_refl _, by rw [f4.i _ rfl]; exact z5, fun a i ha hi => by rw [six4 a ha]; exact z6 a i ha hi, fun j hj => by rw [f4.a 79 rfl]; exact z7 j hj, fun j hj => by rw [f4.a 58 rfl]; exact z8 j hj⟩, (d.2.2.1.fr f4 rfl).1, d.2.2.2.1.ex e4 (f4.i _ rfl) (f4.i _ rfl) (f4.a _ rfl), d.2.2.2.2⟩
        refine ⟨i4, ?_⟩
        match x, gg, okx, back, hw', hP with
        | .inl (p, t), gg, okx, back, hw', hP =>
          obtain ⟨-, ⟨v1, v2, v3, v4, v5⟩, v6⟩ := gg
          rw [if_pos v1]
          refine ⟨i4, i4, i4, ?_⟩
          generalize hpp : gA σ 73 g = pp at *
          generalize htt : gA σ 74 g = tt at *
          subst v3 v5
          have res : t_S_solve (m + 1) 1 [pp, tt, gA σ 77 g] σ (fun _ s => ∃ L', doneT M (inU M A t0) o σ L (Solv M (.inl (tT σ pp, tT σ tt) :: gs) ρ) s L') (fun s => overT M (inU M A t0) σ L (Solv M (.inl (tT σ pp, tT σ tt) :: gs) ρ) s) := by
            by_cases hv : lab (tT σ pp) < 0
            · have w1 : 4 ≤ wT1 (.inl (tT σ pp, tT σ tt)) := by
                have := trS_pos okx.1.1.1
                simp only [wT1]; omega
              rw [wTs_cons] at hw'
              exact st_var c ih mt v6 okgs (by omega) v2 v4 hv (by omega) hP
            · by_cases has : mAs M (lab (tT σ pp)) = 0
              · exact st_plain c ih mt v6 okgs (by omega) v2 v4 (by omega) has okx hw' hP
              · exact st_assoc c ih mt v6 okgs (by omega) v2 v4 (by omega) has okx hw' hP
          refine fo_t_S_solve (m + 1) _ _ _ _ _ _ _ res (fun r s f q => ?_) (fun s f q => q)
          obtain ⟨L', d⟩ := q
          exact back s L' d
        | .inr (p, i, es), gg, okx, back, hw', hP =>
          have gv := gg.2.1
          obtain ⟨-, -, -, -, -, hsh⟩ := gv
          rcases hsh with z | z
          · rw [if_neg (by rw [z.2.1]; decide)]
            refine ⟨i4, ?_⟩
            rw [if_pos z.2.1]
            refine fo_t_S_solve (m + 1) _ _ _ _ _ _ _ (st_side c ih mt gg z.2.1 okx okgs (by omega) hw' hP) (fun r s f q => ?_) (fun s f q => q)
            obtain ⟨L', d⟩ := q
            exact back s L' d
          · rw [if_neg (by rw [z.2.1]; decide)]
            refine ⟨i4, ?_⟩
            rw [if_neg (by rw [z.2.1]; decide)]
            refine fo_t_S_solve (m + 1) _ _ _ _ _ _ _ (st_any c ih mt gg z.2.1 okx okgs (by omega) hw' hP) (fun r s f q => ?_) (fun s f q => q)
            obtain ⟨L', d⟩ := q
            exact back s L' d
  exact fun n => main n n (Nat.le_refl _)

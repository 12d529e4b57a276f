/-! RewriteHouse: solving, all shares -/
theorem pc_ext : ∀ (n j x : Nat), x < 2 ^ n → pc (n + j) x = pc n x
  | 0, j, x, h => by
    have hx : x = 0 := by simpa using h
    subst hx
    have : ∀ j, pc j 0 = 0 := by
      intro j
      induction j with
      | zero => rfl
      | succ j ih => simp [pc, ih]
    rw [this, this]
  | n + 1, j, x, h => by
    have ih := pc_ext n j (x / 2) (by rw [Nat.pow_succ] at h; omega)
    rw [show n + 1 + j = (n + j) + 1 by omega]
    simp only [pc, ih]
theorem pk_all {α : Type} (E : List α) {n : Nat} (h : E.length = n) : pk (2 ^ n - 1) E = E := by
  have := pk_run E n 0 (by omega) (by omega)
  rw [Nat.pow_zero] at this
  rw [this, List.drop_zero, Nat.sub_zero, ← h, List.take_length]
/-- all ways to share -/
theorem row_ways {M : Mo} {p : Tr} {s n mb : Nat} {E : List Tr} {gs : List Goal} {ρ ρ' : Env} (hn : n ≤ 6) (lE : E.length = n) (hmb : mb < 2 ^ n) (a : Nat) (ha : mCo M (lab p) = 0 → a ≤ n ∧ mb = 2 ^ n - 2 ^ a) (hs : s + 1 < (kids p).length) :
    Solv M (.inr (p, s, pk mb E) :: gs) ρ ρ' ↔ ∃ k : Nat, k &&& mb = k ∧ (mCo M (lab p) ≠ 0 ∨ ∃ c, a ≤ c ∧ c ≤ n ∧ k = 2 ^ c - 2 ^ a) ∧ oneZ M p s gs ρ (pk k E) (pk (mb ^^^ k) E) ρ' := by
  have h64 : (2 : Nat) ^ n ≤ 64 := Nat.le_trans (Nat.pow_le_pow_right (by omega) hn) (by decide)
  rw [Solv_row]
  constructor
  · rintro (⟨z, -⟩ | ⟨q, S, T, hq, hsp, hnn, h⟩)
    · omega
    · by_cases hco : mCo M (lab p) = 0
      · obtain ⟨han, e⟩ := ha hco
        unfold Sp at hsp
        rw [if_neg (fun z => z hco)] at hsp
        have hr := pk_run E n a han (by omega)
        rw [e, hr] at hsp
        have hlen : S.length + T.length = n - a := by
          have := congrArg List.length hsp
          rw [List.length_take, List.length_drop, List.length_append] at this
          omega
        have r1 := run_sub ⟨n, by omega⟩ ⟨a, by omega⟩ ⟨a + S.length, by omega⟩ (by simp) (by simp; omega)
        simp only at r1
        have eS : pk (2 ^ (a + S.length) - 2 ^ a) E = S := by
          rw [pk_run E (a + S.length) a (by omega) (by omega), show a + S.length - a = S.length by omega]
          have := congrArg (List.take S.length) hsp
          rw [List.take_take, Nat.min_eq_left (by omega), List.take_append_of_le_length (by omega), List.take_length] at this
          exact this
        have eT : pk (2 ^ n - 2 ^ (a + S.length)) E = T := by
          rw [pk_run E n (a + S.length) (by omega) (by omega)]
          have := congrArg (List.drop S.length) hsp
          rw [List.drop_take, List.drop_drop, List.drop_append_of_le_length (by omega), List.drop_length, List.nil_append] at this
          rw [← this]
          congr 1
          omega
        refine ⟨2 ^ (a + S.length) - 2 ^ a, by rw [e]; exact r1.1, Or.inr ⟨a + S.length, by omega, by omega, rfl⟩, q, hq, by rw [eS]; exact hnn, ?_⟩
        rw [if_pos hs, e, r1.2.1, eS, eT]
        exact h
      · unfold Sp at hsp
        rw [if_pos hco] at hsp
        obtain ⟨k, hk, rfl, rfl⟩ := spl_pk (by omega) hsp
        refine ⟨k, hk, Or.inl hco, q, hq, hnn, ?_⟩
        rw [if_pos hs]
        exact h
  · rintro ⟨k, hk, hor, q, hq, hnn, h⟩
    rw [if_pos hs] at h
    refine Or.inr ⟨q, pk k E, pk (mb ^^^ k) E, hq, ?_, hnn, h⟩
    unfold Sp
    by_cases hco : mCo M (lab p) = 0
    · rw [if_neg (fun z => z hco)]
      obtain ⟨han, e⟩ := ha hco
      obtain ⟨c, hac, hcn, rfl⟩ := hor.resolve_left (fun z => z hco)
      have r1 := run_sub ⟨n, by omega⟩ ⟨a, by omega⟩ ⟨c, by omega⟩ hac hcn
      simp only at r1
      rw [e, r1.2.1, pk_run E n a han (by omega), pk_run E c a hac (by omega), pk_run E n c hcn (by omega)]
      have : E.drop c = (E.drop a).drop (c - a) := by rw [List.drop_drop]; congr 1; omega
      rw [this, ← List.take_add]
      congr 1
      omega
    · rw [if_pos hco]
      exact pk_spl (by omega) hk
theorem so_share {M : Mo} {A : Int → Bool} {t0 : Tr} {P : Env → Prop} {o : Int} {σ0 : S} {m : Nat} (c : cxX M A t0 P o σ0) (ih : SoX M A t0 P o σ0 m) {σ : S} {gs : List Goal} {ρ : Env} {L : List Env} {f p d : Int} {s : Nat} {es : List Tr} (mt : mtX M (inU M A t0) P o σ0 σ ρ L) (g1 : gsX M σ (gI σ 121) gs) (g2 : ∀ g ∈ gs, gOK M A t0 g) (g3 : 0 ≤ gI σ 138 ∧ 2 * gI σ 138 + 2 + m ≤ 420) (g4 : 0 ≤ gI σ 134 ∧ 4 * gI σ 134 + 6 * m ≤ 2520)
    (hp : lvX σ p) (hf : lab (tX σ p) = f) (sh : shX M σ d f s es) (ok : gOK M A t0 (.inr (tX σ p, s, es))) (g5 : wGs (.inr (tX σ p, s, es) :: gs) + 1 ≤ m + 3) (hP : ∀ ρ', Solv M (.inr (tX σ p, s, es) :: gs) ρ ρ' → P ρ') :
    x_S_solve (m + 2) 5 [d, f, p] σ (fun _ s' => ∃ L', doneX M (inU M A t0) o σ L (Solv M (.inr (tX σ p, s, es) :: gs) ρ) s' L') (fun s' => overX M (inU M A t0) σ L (Solv M (.inr (tX σ p, s, es) :: gs) ρ) s') := by
  have xp := mt.1
  have rg := xp.rg
  have hM := xp.wm
  obtain ⟨d0, d1, hs, hfr, n, mb, hn, hmb, hfe, hl, hco, hE, hes⟩ := sh
  have h0 : 0 ≤ f := by rw [← hf]; exact ok.2.1
  have h1 : f < mOps M := by rw [← hf]; exact ok.1.1.op ok.2.1
  have ob := hM.2.2.1
  have hsl := ok.2.2.2.1
  have kp := tX_kids xp hp
  have ap := xp.at hp
  have h64 : (2 : Nat) ^ n ≤ 64 := Nat.le_trans (Nat.pow_le_pow_right (by omega) hn) (by decide)
  generalize hEE : (rowI (gA σ 87) (gA σ 89 d) n).map (tX σ) = E at hes
  have lE : E.length = n := by rw [← hEE, List.length_map, rowI_len]
  subst hes
  rw [xe_solve_5]
  unfold x_share_F
  rw [hs, hl, w32_id (by omega) (by omega)]
  refine ⟨by omega, by omega, lvX_b xp hp, ?_⟩
  by_cases hone : gA σ 68 p - s = 1
  · rw [if_pos hone]
    have hlast : s + 1 = (kids (tX σ p)).length := by omega
    have sol : ∀ ρ', oneZ M (tX σ p) s gs ρ (pk mb E) (pk (mb ^^^ mb) E) ρ' ↔ Solv M (.inr (tX σ p, s, pk mb E) :: gs) ρ ρ' := by
      intro ρ'
      obtain ⟨q, hq⟩ : ∃ q, (kids (tX σ p))[s]? = some q := ⟨_, List.getElem?_eq_getElem hsl⟩
      rw [Solv_last hlast hq]
      unfold oneZ
      constructor
      · rintro ⟨q', hq', a, b⟩
        rw [hq] at hq'
        simp only [Option.some.injEq] at hq'
        subst hq'
        rw [if_neg (by omega)] at b
        exact ⟨a, b⟩
      · rintro ⟨a, b⟩
        exact ⟨q, hq, a, by rw [if_neg (by omega)]; exact b⟩
    refine fo_x_S_solve (m + 1) _ _ _ _ _ _ _ (so_one (n := n) (mb := mb) (k := mb) (E := E) c ih mt g1 g2 g3 g4 hp hf d0 d1 hs hfr hn hmb hfe hl hE hEE.symm ok (Nat.and_self mb) (fun _ => ⟨n, n, by omega, by omega, by rw [Nat.xor_self]; omega, rfl⟩) (fun _ => rfl) g5 (fun ρ' h => hP ρ' ((sol ρ').mp h))) (fun r s' f' q => ?_) (fun s' f' q => ?_)
    · obtain ⟨L', d'⟩ := q
      exact ⟨L', d'.iff sol⟩
    · exact q.imp (fun ρ' => (sol ρ').mp)
  · rw [if_neg hone]
    have hs1 : s + 1 < (kids (tX σ p)).length := by omega
    obtain ⟨a, ha⟩ : ∃ a : Nat, mCo M f = 0 → a ≤ n ∧ mb = 2 ^ n - 2 ^ a := by
      by_cases z : mCo M f = 0
      · obtain ⟨a, h⟩ := hco z
        exact ⟨a, fun _ => h⟩
      · exact ⟨0, fun z' => absurd z' z⟩
    have ways := fun ρ' => row_ways (M := M) (p := tX σ p) (s := s) (gs := gs) (ρ := ρ) (ρ' := ρ') hn lE hmb a (by rw [hf]; exact ha) hs1
    rw [hf] at ways
    have hG := fo_x_S_solve (m + 1)
    -- those above a mask are done
    refine lx_share_L47 hG (fun v s' => (v = -1 ∨ ∃ k : Nat, v = (k : Int) ∧ k &&& mb = k) ∧ ∃ L', doneX M (inU M A t0) o σ L (fun ρ' => ∃ k : Nat, v < (k : Int) ∧ k &&& mb = k ∧ (mCo M f ≠ 0 ∨ ∃ c, a ≤ c ∧ c ≤ n ∧ k = 2 ^ c - 2 ^ a) ∧ oneZ M (tX σ p) s gs ρ (pk k E) (pk (mb ^^^ k) E) ρ') s' L') (fun v _ => (v + 1).toNat) ⟨Or.inr ⟨mb, rfl, Nat.and_self mb⟩, L, (doneX.none xp mt.2.2.2.2.2.2.2.1).iff (fun ρ' => ⟨False.elim, ?_⟩)⟩ ?_
    · rintro ⟨k, h1, h2, -⟩
      have : k ≤ mb := by rw [← h2]; exact Nat.and_le_right
      omega
    rintro v s' fr ⟨hv, L1, dn⟩
    try dsimp only
    have sub : ∀ ρ', (∃ k : Nat, v < (k : Int) ∧ k &&& mb = k ∧ (mCo M f ≠ 0 ∨ ∃ c, a ≤ c ∧ c ≤ n ∧ k = 2 ^ c - 2 ^ a) ∧ oneZ M (tX σ p) s gs ρ (pk k E) (pk (mb ^^^ k) E) ρ') → Solv M (.inr (tX σ p, s, pk mb E) :: gs) ρ ρ' := by
      rintro ρ' ⟨k, -, h2, h3, h4⟩
      exact (ways ρ').mpr ⟨k, h2, h3, h4⟩
    by_cases hneg : v < 0
    · rw [if_pos hneg]
      refine ⟨L1, dn.iff (fun ρ' => ⟨sub ρ', fun h => ?_⟩)⟩
      obtain ⟨k, h2, h3, h4⟩ := (ways ρ').mp h
      exact ⟨k, by omega, h2, h3, h4⟩
    · rw [if_neg hneg]
      obtain ⟨k, rfl, hk⟩ : ∃ k : Nat, v = (k : Int) ∧ k &&& mb = k := by
        rcases hv with z | z
        · omega
        · exact z
      have hkm : k ≤ mb := by rw [← hk]; exact Nat.and_le_right
      have mt1 := mt.done c.1 dn (fun ρ' h => hP ρ' (sub ρ' h))
      have xp1 := dn.2.2.1
      have rs := dn.2.1
      have ex := rs.1
      -- the next mask
      have nxt : ∀ (s2 : S) (L2 : List Env), doneX M (inU M A t0) o σ L (fun ρ' => (∃ u : Nat, (k : Int) < (u : Int) ∧ u &&& mb = u ∧ (mCo M f ≠ 0 ∨ ∃ c, a ≤ c ∧ c ≤ n ∧ u = 2 ^ c - 2 ^ a) ∧ oneZ M (tX σ p) s gs ρ (pk u E) (pk (mb ^^^ u) E) ρ') ∨ ((mCo M f ≠ 0 ∨ ∃ c, a ≤ c ∧ c ≤ n ∧ k = 2 ^ c - 2 ^ a) ∧ oneZ M (tX σ p) s gs ρ (pk k E) (pk (mb ^^^ k) E) ρ')) s2 L2 →
          x_share_j152 (x_S_solve (m + 1)) d f p mb (gA σ 68 p - s) k s2 (fun _ s' => ∃ L', doneX M (inU M A t0) o σ L (Solv M (.inr (tX σ p, s, pk mb E) :: gs) ρ) s' L') (fun s' => overX M (inU M A t0) σ L (Solv M (.inr (tX σ p, s, pk mb E) :: gs) ρ) s') (fun v' s' => ((v' = -1 ∨ ∃ k : Nat, v' = (k : Int) ∧ k &&& mb = k) ∧ ∃ L', doneX M (inU M A t0) o σ L (fun ρ' => ∃ k : Nat, v' < (k : Int) ∧ k &&& mb = k ∧ (mCo M f ≠ 0 ∨ ∃ c, a ≤ c ∧ c ≤ n ∧ k = 2 ^ c - 2 ^ a) ∧ oneZ M (tX σ p) s gs ρ (pk k E) (pk (mb ^^^ k) E) ρ') s' L') ∧ (v' + 1).toNat < ((k : Int) + 1).toNat) := by
        intro s2 L2 d2
        unfold x_share_j152
        by_cases hk0 : k = 0
        · subst hk0
          rw [if_pos (show ((0 : Nat) : Int) = 0 from rfl)]
          refine ⟨⟨Or.inl rfl, L2, d2.iff (fun ρ' => ⟨?_, ?_⟩)⟩, by omega⟩
          · rintro (⟨u, h1, h2⟩ | h)
            · exact ⟨u, by omega, h2⟩
            · exact ⟨0, by omega, hk, h⟩
          · rintro ⟨u, h1, h2, h3⟩
            by_cases hu : u = 0
            · subst hu; exact Or.inr h3
            · exact Or.inl ⟨u, by omega, h2, h3⟩
        · rw [if_neg (by omega)]
          have mn := mk_next ⟨mb, by omega⟩ ⟨k, by omega⟩ (by show 0 < k; omega)
          simp only at mn
          rw [mn]
          have mg := mk_gap ⟨mb, by omega⟩ ⟨k, by omega⟩ (by show 0 < k; omega) hk
          have ms := mk_sub ⟨mb, by omega⟩ ⟨k, by omega⟩
          simp only at ms
          have hle : (k - 1) &&& mb ≤ k - 1 := Nat.and_le_left
          refine ⟨⟨Or.inr ⟨(k - 1) &&& mb, rfl, ms⟩, L2, d2.iff (fun ρ' => ⟨?_, ?_⟩)⟩, by omega⟩
          · rintro (⟨u, h1, h2⟩ | h)
            · exact ⟨u, by omega, h2⟩
            · exact ⟨k, by omega, hk, h⟩
          · rintro ⟨u, h1, h2, h3⟩
            by_cases hu : u = k
            · subst hu; exact Or.inr h3
            · refine Or.inl ⟨u, ?_, h2, h3⟩
              rcases Nat.lt_or_ge k u with z | z
              · omega
              · have hum : u ≤ mb := by rw [← h2]; exact Nat.and_le_right
                have := mg ⟨u, by omega⟩ h2 (by show u < k; omega)
                simp only at this
                omega
      -- what is passed over gives nothing
      have skip : (∀ ρ', ¬ ((mCo M f ≠ 0 ∨ ∃ c, a ≤ c ∧ c ≤ n ∧ k = 2 ^ c - 2 ^ a) ∧ oneZ M (tX σ p) s gs ρ (pk k E) (pk (mb ^^^ k) E) ρ')) → x_share_j152 (x_S_solve (m + 1)) d f p mb (gA σ 68 p - s) k s' (fun _ s' => ∃ L', doneX M (inU M A t0) o σ L (Solv M (.inr (tX σ p, s, pk mb E) :: gs) ρ) s' L') (fun s' => overX M (inU M A t0) σ L (Solv M (.inr (tX σ p, s, pk mb E) :: gs) ρ) s') (fun v' s' => ((v' = -1 ∨ ∃ k : Nat, v' = (k : Int) ∧ k &&& mb = k) ∧ ∃ L', doneX M (inU M A t0) o σ L (fun ρ' => ∃ k : Nat, v' < (k : Int) ∧ k &&& mb = k ∧ (mCo M f ≠ 0 ∨ ∃ c, a ≤ c ∧ c ≤ n ∧ k = 2 ^ c - 2 ^ a) ∧ oneZ M (tX σ p) s gs ρ (pk k E) (pk (mb ^^^ k) E) ρ') s' L') ∧ (v' + 1).toNat < ((k : Int) + 1).toNat) :=
        fun hno => nxt s' L1 (dn.iff (fun ρ' => ⟨Or.inl, fun h => h.elim id (fun z => absurd z (hno ρ'))⟩))
      have one : (mCo M f ≠ 0 ∨ ∃ c, a ≤ c ∧ c ≤ n ∧ k = 2 ^ c - 2 ^ a) → x_share_j143 (x_S_solve (m + 1)) d f p mb (gA σ 68 p - s) k s' (fun _ s' => ∃ L', doneX M (inU M A t0) o σ L (Solv M (.inr (tX σ p, s, pk mb E) :: gs) ρ) s' L') (fun s' => overX M (inU M A t0) σ L (Solv M (.inr (tX σ p, s, pk mb E) :: gs) ρ) s') (fun v' s' => ((v' = -1 ∨ ∃ k : Nat, v' = (k : Int) ∧ k &&& mb = k) ∧ ∃ L', doneX M (inU M A t0) o σ L (fun ρ' => ∃ k : Nat, v' < (k : Int) ∧ k &&& mb = k ∧ (mCo M f ≠ 0 ∨ ∃ c, a ≤ c ∧ c ≤ n ∧ k = 2 ^ c - 2 ^ a) ∧ oneZ M (tX σ p) s gs ρ (pk k E) (pk (mb ^^^ k) E) ρ') s' L') ∧ (v' + 1).toNat < ((k : Int) + 1).toNat) := by
        intro hrun
        have hsub : ∀ ρ', oneZ M (tX σ p) s gs ρ (pk k E) (pk (mb ^^^ k) E) ρ' → Solv M (.inr (tX σ p, s, pk mb E) :: gs) ρ ρ' := fun ρ' h => (ways ρ').mpr ⟨k, hk, hrun, h⟩
        have a7 := rs.2.2.2.2.2.2.2.2.1 d d1
        have er : rowI (gA s' 87) (gA σ 89 d) n = rowI (gA σ 87) (gA σ 89 d) n := rowI_congr (fun j j0 j1 => rs.2.2.2.2.2.2.2.1 _ (by omega))
        have so := so_one (n := n) (mb := mb) (k := k) (E := E) (s := s) (gs := gs) (f := f) (p := p) (d := d) c ih mt1 (rs.gs g1) g2 (by rw [rs.2.2.1]; exact g3) (by rw [rs.2.1]; exact g4) (ex.lv hp) (by rw [ex.t hp]; exact hf) d0 (by rw [rs.2.2.1]; exact d1) (by rw [a7.1]; exact hs) (by rw [a7.2.1]; exact hfr) hn hmb (by rw [a7.2.1, rs.2.1]; exact hfe) (by rw [a7.2.2]; exact hl) (by rw [a7.2.1, er]; exact fun x hx => ex.lv (hE x hx)) (by rw [a7.2.1, er, ← hEE]; exact List.map_congr_left (fun x hx => (ex.t (hE x hx)).symm)) (by rw [ex.t hp]; exact ok) hk (fun z => ?_) (by rw [ex.t hp]; intro z; omega) (by rw [ex.t hp]; exact g5) (by rw [ex.t hp]; exact fun ρ' h => hP ρ' (hsub ρ' h))
        · rw [ex.t hp] at so
          unfold x_share_j143
          refine hG _ _ _ _ _ _ _ so (fun r s2 f2 q => ?_) (fun s2 f2 q => ?_)
          · obtain ⟨L2, d2⟩ := q
            exact nxt s2 L2 ((dn.seq rg.1 d2).iff (fun ρ' => ⟨fun h => h.imp id (fun z => ⟨hrun, z⟩), fun h => h.imp id (fun z => z.2)⟩))
          · exact (dn.over rg.1 q).imp (fun ρ' h => h.elim (sub ρ') (hsub ρ'))
        · obtain ⟨han, e⟩ := ha z
          obtain ⟨b, hab, hbn, e2⟩ := hrun.resolve_left (fun y => y z)
          have r1 := run_sub ⟨n, by omega⟩ ⟨a, by omega⟩ ⟨b, by omega⟩ hab hbn
          simp only at r1
          exact ⟨b, n, hbn, by omega, by rw [e, e2]; exact r1.2.1, rfl⟩
      have few : mUn M f = -2 → bCnt (bXor (mb : Int) (k : Int)) < w32 (gA σ 68 p - s - 1) → ∀ ρ', ¬ ((mCo M f ≠ 0 ∨ ∃ c, a ≤ c ∧ c ≤ n ∧ k = 2 ^ c - 2 ^ a) ∧ oneZ M (tX σ p) s gs ρ (pk k E) (pk (mb ^^^ k) E) ρ') := by
        rintro hu hb ρ' ⟨-, q, hq, hnn, h⟩
        rw [if_pos hs1, Solv_cons] at h
        obtain ⟨ρ1, -, h2⟩ := h
        have := Solv_few (by rw [hf]; exact hu) _ (s + 1) _ gs ρ1 ρ' (Nat.le_add_left _ _) (by omega) h2
        have hx := mk_xor ⟨mb, by omega⟩ ⟨k, by omega⟩
        simp only at hx
        have xl : mb ^^^ k < 2 ^ n := Nat.xor_lt_two_pow hmb (by omega)
        have hc := mk_cnt ⟨mb ^^^ k, by omega⟩
        simp only at hc
        rw [hx, hc, w32_id (by omega) (by omega)] at hb
        rw [pk_len, lE] at this
        have pe := pc_ext n (6 - n) (mb ^^^ k) xl
        rw [show n + (6 - n) = 6 by omega] at pe
        omega
      refine ⟨by omega, ?_⟩
      rw [moX_co xp1, moX_un xp1]
      by_cases hcm : mCo M f = 0
      · obtain ⟨han, e⟩ := ha hcm
        have mm := mk_may ⟨n, by omega⟩ ⟨a, by omega⟩ han ⟨k, by omega⟩ (by rw [← e]; exact hk)
        simp only at mm
        rw [← e] at mm
        by_cases hmay : ∃ c, a ≤ c ∧ c ≤ n ∧ k = 2 ^ c - 2 ^ a
        · obtain ⟨b, hab, hbn, eb⟩ := hmay
          rw [bi_t (Or.inr (mm.mpr ⟨⟨b, by omega⟩, hab, hbn, eb⟩)), if_neg (by decide)]
          refine ⟨by omega, ?_⟩
          by_cases hu : mUn M f = -2
          · rw [if_pos hu]
            by_cases hb : bCnt (bXor (mb : Int) (k : Int)) < w32 (gA σ 68 p - s - 1)
            · rw [if_pos hb]
              exact skip (few hu hb)
            · rw [if_neg hb]
              exact one (Or.inr ⟨b, hab, hbn, eb⟩)
          · rw [if_neg hu]
            exact one (Or.inr ⟨b, hab, hbn, eb⟩)
        · rw [bi_f (fun z => z.elim (fun y => y hcm) (fun y => by obtain ⟨b, y1, y2, y3⟩ := mm.mp y; exact hmay ⟨b, y1, y2, y3⟩)), if_pos rfl]
          exact skip (fun ρ' z => z.1.elim (fun y => y hcm) hmay)
      · rw [bi_t (Or.inl hcm), if_neg (by decide)]
        refine ⟨by omega, ?_⟩
        by_cases hu : mUn M f = -2
        · rw [if_pos hu]
          by_cases hb : bCnt (bXor (mb : Int) (k : Int)) < w32 (gA σ 68 p - s - 1)
          · rw [if_pos hb]
            exact skip (few hu hb)
          · rw [if_neg hb]
            exact one (Or.inl hcm)
        · rw [if_neg hu]
          exact one (Or.inl hcm)

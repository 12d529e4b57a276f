/-! RewriteHouse: solving, shares -/
theorem pk_sub_len {α : Type} : ∀ (E : List α) (k : Nat), (pk k E).length ≤ E.length
  | [], k => by simp [pk]
  | e :: E, k => by
    have := pk_sub_len E (k / 2)
    simp only [pk]
    split <;> simp only [List.length_cons] <;> omega
theorem pk_take {α : Type} : ∀ (E : List α) (k j : Nat), j < E.length → pk k (E.take (j + 1)) = pk k (E.take j) ++ (if (k / 2 ^ j) % 2 = 1 then (E.drop j).take 1 else [])
  | [], k, j, h => by simp at h
  | e :: E, k, 0, h => by
    by_cases hk : k % 2 = 1
    · simp [pk, hk]
    · simp [pk, hk]
  | e :: E, k, j + 1, h => by
    have ih := pk_take E (k / 2) j (by simpa using h)
    have hd : k / 2 ^ (j + 1) = k / 2 / 2 ^ j := by rw [Nat.pow_succ, Nat.mul_comm, ← Nat.div_div_eq_div_mul]
    rw [hd, List.take_succ_cons, List.take_succ_cons, List.drop_succ_cons]
    simp only [pk]
    by_cases hk : k % 2 = 1
    · rw [if_pos hk, if_pos hk, ih, List.cons_append]
    · rw [if_neg hk, if_neg hk, ih]
theorem pk_stop {α : Type} : ∀ (E : List α) (k j : Nat), k / 2 ^ j = 0 → pk k (E.take j) = pk k E
  | [], k, j, _ => by simp
  | e :: E, k, 0, h => by
    have hk : k = 0 := by simpa using h
    subst hk
    have : ∀ E : List α, pk 0 E = [] := by
      intro E
      induction E with
      | nil => rfl
      | cons a l ih => simp [pk, ih]
    rw [this, this]
  | e :: E, k, j + 1, h => by
    have hd : k / 2 ^ (j + 1) = k / 2 / 2 ^ j := by rw [Nat.pow_succ, Nat.mul_comm, ← Nat.div_div_eq_div_mul]
    have ih := pk_stop E (k / 2) j (by rw [← hd]; exact h)
    rw [List.take_succ_cons]
    simp only [pk, ih]
/-- too few are left for the parts -/
theorem Solv_few {M : Mo} {p : Tr} (hu : mUn M (lab p) = -2) : ∀ (n s : Nat) (es : List Tr) (gs : List Goal) (ρ ρ' : Env), (kids p).length ≤ s + n → s ≤ (kids p).length → Solv M (.inr (p, s, es) :: gs) ρ ρ' → (kids p).length ≤ s + es.length
  | 0, s, es, gs, ρ, ρ', h, _, _ => by omega
  | n + 1, s, es, gs, ρ, ρ', h, hs, k => by
    rw [Solv_row] at k
    rcases k with ⟨a, -⟩ | ⟨q, S, T, a, b, c, d⟩
    · omega
    · rw [Solv_cons] at d
      obtain ⟨ρ1, -, d2⟩ := d
      have hl := (List.getElem?_eq_some_iff.mp a).1
      have := Solv_few hu n (s + 1) T gs ρ1 ρ' (by omega) (by omega) d2
      have hS : S ≠ [] := by
        rintro rfl
        exact c (by simp only [mkS]; rw [if_pos hu])
      have := List.length_pos_iff.mpr hS
      have := (Sp_mem b).2.2
      omega
/-- one part gets some -/
def oneZ (M : Mo) (p : Tr) (s : Nat) (gs : List Goal) (ρ : Env) (S T : List Tr) (ρ' : Env) : Prop :=
  ∃ q, (kids p)[s]? = some q ∧ mkS M (lab p) S ≠ .nil ∧ if s + 1 < (kids p).length then Solv M (.inl (q, mkS M (lab p) S) :: .inr (p, s + 1, T) :: gs) ρ ρ' else Solv M (.inl (q, mkS M (lab p) S) :: gs) ρ ρ'
theorem so_one {M : Mo} {A : Int → Bool} {t0 : Tr} {P : Env → Prop} {o : Int} {σ0 : S} {m : Nat} (c : cxX M A t0 P o σ0) (ih : SoX M A t0 P o σ0 m) {σ : S} {gs : List Goal} {ρ : Env} {L : List Env} {f p d : Int} {s n mb k : Nat} {E : List Tr} (mt : mtX M (inU M A t0) P o σ0 σ ρ L) (g1 : gsX M σ (gI σ 121) gs) (g2 : ∀ g ∈ gs, gOK M A t0 g) (g3 : 0 ≤ gI σ 138 ∧ 2 * gI σ 138 + 2 + m ≤ 420) (g4 : 0 ≤ gI σ 134 ∧ 4 * gI σ 134 + 6 * m ≤ 2520)
    (hp : lvX σ p) (hf : lab (tX σ p) = f) (d0 : 0 ≤ d) (d1 : d < gI σ 138) (hs : gA σ 88 d = (s : Int)) (hfr : 0 ≤ gA σ 89 d) (hn : n ≤ 6) (hmb : mb < 2 ^ n) (hfe : gA σ 89 d + n ≤ gI σ 134) (hl : gA σ 90 d = (mb : Int)) (hE : ∀ x ∈ rowI (gA σ 87) (gA σ 89 d) n, lvX σ x) (eE : E = (rowI (gA σ 87) (gA σ 89 d) n).map (tX σ))
    (ok : gOK M A t0 (.inr (tX σ p, s, pk mb E))) (hk : k &&& mb = k) (hrun : mCo M f = 0 → ∃ a b : Nat, a ≤ b ∧ b ≤ n ∧ mb ^^^ k = 2 ^ b - 2 ^ a ∧ b = n) (hlast : s + 1 = (kids (tX σ p)).length → k = mb) (g5 : wGs (.inr (tX σ p, s, pk mb E) :: gs) + 1 ≤ m + 3) (hP : ∀ ρ', oneZ M (tX σ p) s gs ρ (pk k E) (pk (mb ^^^ k) E) ρ' → P ρ') :
    x_S_solve (m + 1) 6 [d, f, p, (k : Int)] σ (fun _ s' => ∃ L', doneX M (inU M A t0) o σ L (oneZ M (tX σ p) s gs ρ (pk k E) (pk (mb ^^^ k) E)) s' L') (fun s' => overX M (inU M A t0) σ L (oneZ M (tX σ p) s gs ρ (pk k E) (pk (mb ^^^ k) E)) s') := by
  have xp := mt.1
  have rg := xp.rg
  have hM := xp.wm
  obtain ⟨okp, h0, has, hsl, hel, hrow⟩ := ok
  rw [hf] at h0 has hel hrow
  have h1 : f < mOps M := by rw [← hf]; exact okp.1.op (by rw [hf]; exact h0)
  have ob := hM.2.2.1
  have h64 : (2 : Nat) ^ n ≤ 64 := Nat.le_trans (Nat.pow_le_pow_right (by omega) hn) (by decide)
  have hk64 : k < 64 := by
    have : k ≤ mb := by rw [← hk]; exact Nat.and_le_right
    omega
  have hkn : k < 2 ^ n := by
    have : k ≤ mb := by rw [← hk]; exact Nat.and_le_right
    omega
  have lE : E.length = n := by rw [eE, List.length_map, rowI_len]
  have hspl := pk_spl (E := E) (m := mb) (s := k) (by omega) hk
  have hel2 := hel.sub hspl
  have hrow2 := rowU_sub hrow hspl
  have small := mkS_small hM h0 h1 has hel2.1
  have tp := mt.2.2.2.2.2.2.2.2.2
  have ap := xp.at hp
  have kp := tX_kids xp hp
  have hAf : A f = true := okp.2.1 f h0 has (by rw [← hf, okp.1.eta, tAny_N]; simp [lab_N])
  have hG := fo_x_S_solve m
  rw [xe_solve_6]
  unfold x_shareOne_F
  refine lx_shareOne_L9 hG (fun j s1 => ∃ i : Nat, j = (i : Int) ∧ i ≤ n ∧ Fr ([106], [], [74]) σ s1 ∧ gI s1 106 = gI σ 106 + (pk k (E.take i)).length ∧ rowH s1 (gI σ 106) (pk k (E.take i)).length (pk k (E.take i)) ∧ ∀ j, j < gI σ 106 → gA s1 74 j = gA σ 74 j) (fun j _ => (6 - j).toNat) ⟨0, rfl, by omega, Fr.rf, by simp [pk], by simpa [pk] using rowH.nil, fun _ _ => rfl⟩ ?_
  rintro j s1 fr ⟨i, rfl, hi, f1, ht1, hr1, hh1⟩
  have xp1 : XP M s1 := xp.fr f1 rfl
  have l1 := lv_fr f1 rfl
  have plen : (pk k (E.take i)).length ≤ 6 := by
    have := pk_sub_len (E.take i) k
    rw [List.length_take] at this
    omega
  have mbit := mk_bit ⟨k, hk64⟩ ⟨i, by omega⟩
  simp only at mbit
  try dsimp only
  by_cases hz : bShr (k : Int) (i : Int) = 0
  · rw [if_pos hz]
    have hz' := mbit.2.mp hz
    have eS := pk_stop E k i hz'
    rw [eS] at ht1 hr1 plen
    have mt1 : ExX σ s1 (inU M A t0) := ExX.of_fr f1 rfl
    have rm := c.2.2.2.1 s1 xp1 (mt.2.1.trans mt1 c.1)
    unfold x_shareOne_j52
    refine fm_x_makeSome (xs_makeSome xp1 h0 h1 has tp.1 ht1 (by omega) (by omega) hr1 small.1 rm.1 rm.2) (fun r s4 f4 q => ?_) (fun s4 f4 q => q.elim)
    obtain ⟨x4, o4, v4, e4, -, t4, hh4⟩ := q
    have f04 : Fr wX_makeSome σ s4 := Fr.trans (f1.weak rfl) f4
    have u4 : ∀ u, u = mkS M f (pk k E) ∨ mUn M f ≠ -2 ∧ u = unT M f → isT u → inU M A t0 u := by
      rintro u (rfl | ⟨hu, rfl⟩) hT
      · exact rowU_mk c.2.2.2.2 h0 h1 has hAf hrow2.1 hel2.1 (isT_ne_nil hT)
      · exact Or.inr (Or.inr ⟨f, h0, h1, hu, rfl⟩)
    have e04 : ExX σ s4 (inU M A t0) := by
      refine mt1.trans ⟨e4.1, e4.2.1, fun x hx1 hx2 => ?_⟩ rg.1
      obtain ⟨z1, z2⟩ := e4.2.2 x hx1 hx2
      refine ⟨z1, u4 _ z2 (x4.T ⟨?_, hx2⟩)⟩
      have := xp1.rg.1
      omega
    have d4 : doneX M (inU M A t0) o σ L (fun _ => False) s4 L := doneX.grow f04 rfl rfl x4 e04 t4 (fun j hj => by rw [hh4 j hj, hh1 j hj]) mt.2.2.2.2.2.2.2.1
    have b4 : blX (inU M A t0) σ s4 := ⟨e04, by rw [f04.i _ rfl]; exact Int.le_refl _, by rw [f04.i _ rfl]; exact Int.le_refl _, by rw [f04.i _ rfl]; exact Int.le_refl _, t4, f04.a _ rfl, f04.i _ rfl, f04.i _ rfl, f04.a _ rfl, fun i _ => by rw [f04.a _ rfl], fun i _ => ⟨by rw [f04.a _ rfl], by rw [f04.a _ rfl], by rw [f04.a _ rfl]⟩, fun i _ => ⟨by rw [f04.a _ rfl], by rw [f04.a _ rfl]⟩, fun j hj => by rw [hh4 j hj, hh1 j hj]⟩
    by_cases hr0 : r = 0
    · rw [if_pos hr0]
      refine ⟨L, d4.iff (fun ρ' => ⟨False.elim, ?_⟩)⟩
      rintro ⟨q, -, z, -⟩
      rw [hf] at z
      apply z
      rw [← v4, hr0, oX_0]
    · rw [if_neg hr0]
      have lr : lvX s4 r := o4.resolve_left hr0
      have tr : tX s4 r = mkS M f (pk k E) := by rw [← v4, oX_n lr]
      have hnn : mkS M f (pk k E) ≠ .nil := by rw [← tr]; exact isT_ne_nil (x4.T lr)
      have hp4 := e04.lv hp
      have tp4 := e04.t hp
      have kp4 := tX_kids x4 hp4
      have ap4 := x4.at hp4
      rw [tp4] at kp4
      have bp4 := lvX_b x4 hp4
      have i88 : gA s4 88 d = (s : Int) := by rw [f04.a _ rfl]; exact hs
      rw [i88]
      have s39 : (s : Int) + 1 < 1000 := by omega
      rw [w32_id (by omega) (by omega)]
      obtain ⟨q, hq⟩ : ∃ q, (kids (tX σ p))[s]? = some q := ⟨_, List.getElem?_eq_getElem hsl⟩
      have hqm : q ∈ kids (tX σ p) := List.mem_of_getElem? hq
      have okq := kid_ok okp hqm
      have kq := tX_kid x4 hp4 (k := s) (q := q) (by rw [tp4]; exact hq)
      have okx : gOK M A t0 (.inl (q, mkS M f (pk k E))) := ⟨okq, (small.2 hnn).1, small.1, (small.2 hnn).2, rowU_mk c.2.2.2.2 h0 h1 has hAf hrow2.1 hel2.1 hnn⟩
      have wdrop : (((kids (tX σ p)).drop s).map trS).sum = trS q + (((kids (tX σ p)).drop (s + 1)).map trS).sum := by
        rw [List.drop_eq_getElem_cons hsl, List.map_cons, List.sum_cons]
        have := (List.getElem?_eq_some_iff.mp hq).2
        rw [this]
      rw [wGs_cons] at g5
      simp only [wG] at g5
      rw [wdrop] at g5
      have hq1 := trS_pos okq.1.1
      have hgl := wGs_len g2
      have hlen := g1.len
      have gl4 : gI s4 121 = gI σ 121 := f04.i _ rfl
      -- the part itself, then all others
      have fin : ∀ (s5 : S) (gs5 : List Goal) (v9 : Int), Fr wX_solve σ s5 → XP M s5 → blX (inU M A t0) σ s5 → gsX M s5 (gI s5 121) gs5 → (∀ g ∈ gs5, gOK M A t0 g) → (v9 = 0 ∨ v9 = 1) → gI s5 138 = gI σ 138 + v9 → gI s5 134 = gI σ 134 → lvX s5 r → tX s5 r = mkS M f (pk k E) → wGs (.inl (q, mkS M f (pk k E)) :: gs5) + 1 ≤ m → (∀ ρ', Solv M (.inl (q, mkS M f (pk k E)) :: gs5) ρ ρ' ↔ oneZ M (tX σ p) s gs ρ (pk k E) (pk (mb ^^^ k) E) ρ') →
          x_shareOne_j136 (x_S_solve m) p r s (gI σ 121) v9 s5 (fun _ s' => ∃ L', doneX M (inU M A t0) o σ L (oneZ M (tX σ p) s gs ρ (pk k E) (pk (mb ^^^ k) E)) s' L') (fun s' => overX M (inU M A t0) σ L (oneZ M (tX σ p) s gs ρ (pk k E) (pk (mb ^^^ k) E)) s') := by
        intro s5 gs5 v9 f5 x5 b5 gg5 okg5 hv9 hsh5 hel5 lr5 tr5 w5 hsol
        have hp5 := b5.1.lv hp
        have tp5 := b5.1.t hp
        have kq5 := tX_kid x5 hp5 (k := s) (q := q) (by rw [tp5]; exact hq)
        have hl5 := gg5.len
        have hgl5 := wGs_len okg5
        have w5' := w5
        rw [wGs_cons] at w5'
        unfold x_shareOne_j136
        refine xs_at x5 hp5 (by omega) kq5.1 ?_
        refine xs_goal (by omega) (by omega) (fun s6 f6 b6 e6 x6 y6 => ?_)
        have b6' := b6 (inU M A t0)
        have x6' : XP M s6 := x5.fr f6 rfl
        have b56 := b5.trans b6' rg.1
        have f56 : Fr wX_solve σ s6 := Fr.trans f5 (f6.weak rfl)
        have gg6 : gsX M s6 (gI s6 121) (.inl (q, mkS M f (pk k E)) :: gs5) := gg5.push b6' e6 x6 y6 ⟨b6'.1.lv kq5.2.1, (b6'.1.t kq5.2.1).trans kq5.2.2, b6'.1.lv lr5, (b6'.1.t lr5).trans tr5⟩
        have mt6 := mt.bl c.1 x6' b56 f56 rfl
        refine fo_x_S_solve m _ _ _ _ _ _ _ (ih s6 _ ρ L ⟨mt6, gg6, ?_, ?_, ?_, w5⟩ (fun ρ' h => hP ρ' ((hsol ρ').mp h))) (fun r7 s7 f7 q7 => ?_) (fun s7 f7 q7 => ?_)
        · intro g hg
          rcases List.mem_cons.mp hg with rfl | hg
          · exact okx
          · exact okg5 g hg
        · rw [f6.i _ rfl, hsh5]; omega
        · rw [f6.i _ rfl, hel5]; exact g4
        · obtain ⟨L', d7⟩ := q7
          rintro s8 hs8
          rintro s9 hs9
          have e8 : gI s8 138 = gI σ 138 + v9 := by rw [hs8]; simp only [gI_pI, gI_pL, gI_pA, gL_pI, gL_pL, gL_pA, gA_pI, gA_pL, gA_pA]; rw [if_neg (by decide), d7.2.1.2.2.1, f6.i _ rfl, hsh5]
          have e9 : bi (¬ (v9 = 0)) = v9 := by rcases hv9 with rfl | rfl <;> decide
          rw [e8, e9, w32_id (by omega) (by omega)] at hs9
          have f9 : Fr ([121, 138, 134], [], []) s7 s9 := (Fr.rf.putI hs8 rfl).putI hs9 rfl
          refine ⟨L', (d7.back rg.1 f56 b56 f9 ?_ ?_ ?_).iff hsol⟩
          · rw [hs9, hs8]; simp only [gI_pI, gI_pL, gI_pA, gL_pI, gL_pL, gL_pA, gA_pI, gA_pL, gA_pA]; rw [if_neg (by decide), if_neg (by decide), d7.2.1.2.1, f6.i _ rfl, hel5]
          · rw [hs9]; simp only [gI_pI, gI_pL, gI_pA, gL_pI, gL_pL, gL_pA, gA_pI, gA_pL, gA_pA]; rw [if_pos trivial]; omega
          · rw [hs9, hs8]; simp only [gI_pI, gI_pL, gI_pA, gL_pI, gL_pL, gL_pA, gA_pI, gA_pL, gA_pA]; rw [if_neg (by decide), if_pos trivial]
        · exact (q7.imp (fun ρ' => (hsol ρ').mp)).pre rg.1 b56.1
      refine ⟨by omega, bp4, ?_⟩
      rw [gl4]
      by_cases hmore : (s : Int) + 1 < gA s4 68 p
      · rw [bi_t hmore, if_neg (by decide)]
        have hml : s + 1 < (kids (tX σ p)).length := by omega
        refine ⟨by omega, by omega, ?_⟩
        rw [f04.a 89 rfl, f04.a 90 rfl, hl, mk_xor ⟨mb, by omega⟩ ⟨k, hk64⟩]
        have sh4 : gI s4 138 = gI σ 138 := f04.i _ rfl
        refine xs_newShare (by omega) (by omega) (fun s5 f5 b5 e5 x5 y5 z5 => ?_)
        rw [sh4] at x5 y5 z5 e5 ⊢
        have b5' := b5 (inU M A t0)
        have x5' : XP M s5 := x4.fr f5 rfl
        have b45 := b4.trans b5' rg.1
        have f45 : Fr wX_solve σ s5 := Fr.trans (f04.weak rfl) (f5.weak rfl)
        have g5l : gI s5 121 = gI σ 121 := by rw [f5.i _ rfl, gl4]
        rw [w32_id (by omega) (by omega)]
        refine xs_goal (by omega) (by omega) (fun s6 f6 b6 e6 x6 y6 => ?_)
        have b6' := b6 (inU M A t0)
        have x6' : XP M s6 := x5'.fr f6 rfl
        have b46 := b45.trans b6' rg.1
        have f46 : Fr wX_solve σ s6 := Fr.trans f45 (f6.weak rfl)
        have e46 := b46.1
        have lt64 : mb ^^^ k < 2 ^ n := Nat.xor_lt_two_pow hmb hkn
        have shx : shX M s6 (gI σ 138) (lab (tX σ p)) (s + 1) (pk (mb ^^^ k) E) := by
          refine ⟨g3.1, by rw [f6.i _ rfl, e5]; omega, by rw [f6.a _ rfl, x5]; omega, by rw [f6.a _ rfl, y5]; exact hfr, n, mb ^^^ k, hn, lt64, ?_, by rw [f6.a _ rfl, z5], ?_, ?_, ?_⟩
          · rw [f6.a _ rfl, y5, f6.i _ rfl, f5.i _ rfl, f04.i _ rfl]; exact hfe
          · rw [hf]
            intro hco
            obtain ⟨a, b, hab, hb, e, rfl⟩ := hrun hco
            exact ⟨a, hab, e⟩
          · rw [f6.a 89 rfl, y5, f6.a 87 rfl, f5.a 87 rfl, f04.a 87 rfl]
            exact fun x hx => e46.lv (hE x hx)
          · rw [f6.a 89 rfl, y5, f6.a 87 rfl, f5.a 87 rfl, f04.a 87 rfl, eE]
            congr 1
            exact List.map_congr_left (fun x hx => (e46.t (hE x hx)).symm)
        have gg5 : gsX M s5 (gI s5 121) gs := g1.bl b45 g5l
        have gg6 : gsX M s6 (gI s6 121) (.inr (tX σ p, s + 1, pk (mb ^^^ k) E) :: gs) := gg5.push b6' e6 x6 y6 ⟨e46.lv hp, e46.t hp, by omega, by rw [show -1 - (-1 - gI σ 138) = gI σ 138 by omega]; exact shx⟩
        refine fin s6 _ 1 f46 x6' b46 gg6 ?_ (Or.inr rfl) ?_ ?_ ((b5'.trans b6' x4.rg.1).1.lv lr) (((b5'.trans b6' x4.rg.1).1.t lr).trans tr) ?_ (fun ρ' => ?_)
        · intro g hg
          rcases List.mem_cons.mp hg with rfl | hg
          · exact ⟨okp, by rw [hf]; exact h0, by rw [hf]; exact has, hml, by rw [hf]; exact hel2.2, by rw [hf]; exact hrow2.2⟩
          · exact g2 g hg
        · rw [f6.i _ rfl, e5]
        · rw [f6.i _ rfl, f5.i _ rfl, f04.i _ rfl]
        · rw [wGs_cons, wGs_cons]; simp only [wG]; omega
        · unfold oneZ
          rw [hf]
          simp only [if_pos hml]
          constructor
          · exact fun h => ⟨q, hq, hnn, h⟩
          · rintro ⟨q', hq', -, h⟩
            rw [hq] at hq'
            simp only [Option.some.injEq] at hq'
            rw [hq']; exact h
      · rw [bi_f hmore, if_pos rfl]
        have hml : s + 1 = (kids (tX σ p)).length := by omega
        refine fin s4 gs 0 (f04.weak rfl) x4 b4 (g1.bl b4 gl4) g2 (Or.inl rfl) (by rw [f04.i _ rfl]; omega) (f04.i _ rfl) lr tr ?_ (fun ρ' => ?_)
        · rw [wGs_cons]; simp only [wG]; omega
        · unfold oneZ
          have hnl : ¬ s + 1 < (kids (tX σ p)).length := by omega
          rw [hf]
          simp only [if_neg hnl]
          constructor
          · exact fun h => ⟨q, hq, hnn, h⟩
          · rintro ⟨q', hq', -, h⟩
            rw [hq] at hq'
            simp only [Option.some.injEq] at hq'
            rw [hq']; exact h
  · rw [if_neg hz]
    have hin : i < n := by
      rcases Nat.lt_or_ge i n with z | z
      · exact z
      · exact absurd (mbit.2.mpr (Nat.div_eq_of_lt (Nat.lt_of_lt_of_le hkn (Nat.pow_le_pow_right (by omega) z)))) hz
    have hstep := pk_take E k i (by omega)
    have mem : gA σ 87 (gA σ 89 d + i) ∈ rowI (gA σ 87) (gA σ 89 d) n := rowI_mem.mpr ⟨i, by omega, by omega, rfl⟩
    have hdr : (E.drop i).take 1 = [tX σ (gA σ 87 (gA σ 89 d + i))] := by
      have : E[i]? = some (tX σ (gA σ 87 (gA σ 89 d + i))) := by rw [eE, List.getElem?_map, rowI_get _ _ hin]; rfl
      have hl' := (List.getElem?_eq_some_iff.mp this).2
      rw [List.drop_eq_getElem_cons (by omega)]
      simp [hl']
    by_cases hbit : bAnd (bShr (k : Int) (i : Int)) 1 = 1
    · rw [if_pos hbit]
      have hb' := mbit.1.mp hbit
      rw [if_pos hb', hdr] at hstep
      rw [f1.a 89 rfl, f1.a 87 rfl, w32_id (by omega) (by omega)]
      refine ⟨by omega, by omega, ?_⟩
      refine xs_push (by omega) (by omega) ?_
      unfold x_shareOne_j46
      rw [w32_id (by omega) (by omega)]
      obtain ⟨s2, hs2⟩ : ∃ s2, s2 = pA (pI s1 106 (gI s1 106 + 1)) 74 (gI s1 106) (gA σ 87 (gA σ 89 d + i)) := ⟨_, rfl⟩
      rw [← hs2]
      have f2 : Fr ([106], [], [74]) s1 s2 := by rw [hs2]; exact (Fr.rf.putI rfl rfl).putA rfl rfl
      have l2 := lv_fr f2 rfl
      have hv : ∀ j, gA s2 74 j = if j = gI s1 106 then gA σ 87 (gA σ 89 d + i) else gA s1 74 j := fun j => by rw [hs2]; simp [gI_pI, gI_pL, gI_pA, gL_pI, gL_pL, gL_pA, gA_pI, gA_pL, gA_pA]
      have et2 : gI s2 106 = gI s1 106 + 1 := by rw [hs2]; rfl
      have lx := l1 _ (hE _ mem)
      have lx2 := l2 _ lx.1
      refine ⟨⟨i + 1, by omega, by omega, f1.trans f2, ?_, ?_, fun j hj => ?_⟩, by omega⟩
      · rw [hstep, List.length_append, et2, ht1]
        simp only [List.length_cons, List.length_nil]
        omega
      · rw [hstep, List.length_append]
        refine rowH.app (hr1.same (fun j j0 j1 => ?_) l2) ?_
        · rw [hv, if_neg (by omega)]
        · have := rowH.one (σ := s2) (a := gI s1 106) (by rw [hv, if_pos rfl]; exact lx2.1)
          rw [hv, if_pos rfl, lx2.2, lx.2, ht1] at this
          exact this
      · rw [hv, if_neg (by omega)]; exact hh1 j hj
    · rw [if_neg hbit]
      unfold x_shareOne_j46
      rw [w32_id (by omega) (by omega)]
      have hb' : ¬ (k / 2 ^ i) % 2 = 1 := fun z => hbit (mbit.1.mpr z)
      rw [if_neg hb', List.append_nil] at hstep
      refine ⟨⟨i + 1, by omega, by omega, f1, ?_, ?_, hh1⟩, by omega⟩
      · rw [hstep]; exact ht1
      · rw [hstep]; exact hr1

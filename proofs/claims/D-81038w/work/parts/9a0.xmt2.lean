/-! RewriteHouse: matching within rows -/
section
variable {M : Mo} {A : Int → Bool} {t0 : Tr} {P : Env → Prop} {f : Int} {σ0 : S}
theorem upE_same {ρ ρ1 : Env} {v : Int} {t : Tr} (h : ∀ u, u ≠ v → ρ1 u = ρ u) : upE ρ1 v t = upE ρ v t := by
  funext u
  unfold upE
  by_cases e : u = v
  · rw [if_pos e, if_pos e]
  · rw [if_neg e, if_neg e, h u e]
theorem upE_other {ρ : Env} {v : Int} {t : Tr} : ∀ u, u ≠ v → upE ρ v t u = ρ u := fun u h => by unfold upE; rw [if_neg h]
/-- a row whose parts are tried -/
def rwP (M : Mo) (A : Int → Bool) (t0 : Tr) (f : Int) (E : List Tr) (n : Nat) : Prop :=
  isT t0 ∧ 0 ≤ f ∧ f < mOps M ∧ mAs M f ≠ 0 ∧ A f = true ∧ kids t0 = E ∧ E.length = n ∧ n ≤ 6 ∧ elm M f A E ∧ rowU M A t0 f E
theorem rwP.mk {M : Mo} {A : Int → Bool} {t0 : Tr} {f : Int} (hM : WM M) (nf : NF M t0) (hs : trS t0 ≤ 40) (hw : tWide A t0 = false) (h0 : 0 ≤ f) (has : mAs M f ≠ 0) (hA : A f = true) (hl : lab t0 = f) : rwP M A t0 f (kids t0) (kids t0).length := by
  have h1 : f < mOps M := by rw [← hl]; exact nf.op (by rw [hl]; exact h0)
  have e1 := elO_elm hM h0 has hA nf hs hw
  have e2 := rowU_el (M := M) (A := A) (o := f) (Or.inl (subs_self nf.1)) nf.1
  have ee : elO M f t0 = kids t0 := by unfold elO; rw [if_pos hl]
  rw [ee] at e1 e2
  exact ⟨nf.1, h0, h1, has, hA, rfl, rfl, e1.2.2.1, e1, e2⟩
theorem xs_part (hA : rmX M (inU M A t0) σ0) (hn0 : 1 ≤ gI σ0 93) {E : List Tr} {n : Nat} (rw0 : rwP M A t0 f E n) {σ : S} (xp : XP M σ) (e0 : ExX σ0 σ (inU M A t0)) {t b : Int} {m : Nat} (lt : lvX σ t) (ht : tX σ t = t0) (hm : m < 2 ^ n) (hb : ∀ k : Nat, k < n → (bAnd (bShr b (k : Int)) 1 = 1 ↔ (m / 2 ^ k) % 2 = 1)) (ht0 : 0 ≤ gI σ 106) (ht1 : gI σ 106 + 40 ≤ 15000) :
    x_some t f b σ (fun r s => XP M s ∧ olX s r ∧ oX s r = rsT M f (pk m E) ∧ mpX (inU M A t0) σ s) (fun _ => False) := by
  obtain ⟨hT, h0, h1, has, hAf, hk, lE, hn, hel, hrow⟩ := rw0
  exact xs_some hA hn0 xp e0 hT h0 h1 has hAf lt (by rw [ht]; exact hk) lE hn hm hb hel hrow ht0 ht1
theorem xs_span (hA : rmX M (inU M A t0) σ0) (hn0 : 1 ≤ gI σ0 93) {E : List Tr} {n : Nat} (rw0 : rwP M A t0 f E n) {σ : S} (xp : XP M σ) (e0 : ExX σ0 σ (inU M A t0)) {t : Int} {a b : Nat} (lt : lvX σ t) (ht : tX σ t = t0) (hab : a ≤ b) (hbn : b ≤ n) (ht0 : 0 ≤ gI σ 106) (ht1 : gI σ 106 + 40 ≤ 15000) :
    x_span t f a b σ (fun r s => XP M s ∧ olX s r ∧ oX s r = rsT M f ((E.drop a).take (b - a)) ∧ mpX (inU M A t0) σ s) (fun _ => False) := by
  have hn := rw0.2.2.2.2.2.2.2.1
  have lE := rw0.2.2.2.2.2.2.1
  have ms := mk_span ⟨a, by omega⟩ ⟨b, by omega⟩ hab
  simp only at ms
  have hlt : 2 ^ b - 2 ^ a < 2 ^ n := by
    have : 2 ^ b ≤ 2 ^ n := Nat.pow_le_pow_right (by omega) hbn
    have : 1 ≤ 2 ^ a := Nat.one_le_two_pow
    have : 1 ≤ 2 ^ b := Nat.one_le_two_pow
    omega
  have := xs_part hA hn0 rw0 xp e0 (t := t) (b := ((2 ^ b - 2 ^ a : Nat) : Int)) (m := 2 ^ b - 2 ^ a) lt ht hlt (fun k hk => (mk_bit ⟨2 ^ b - 2 ^ a, ms.2⟩ ⟨k, by omega⟩).1) ht0 ht1
  rw [pk_run E b a hab (by omega)] at this
  unfold x_span
  rw [ms.1]
  exact this
theorem xs_matchBag (c : cxX M A t0 P f σ0) {E : List Tr} {n : Nat} (rw0 : rwP M A t0 f E n) {σ : S} {ρ : Env} {p t : Int} {tp : Tr} (mt : mtX M (inU M A t0) P f σ0 σ ρ []) (hsh : gI σ 138 = 0) (hel : gI σ 134 = 0) (lp : lvX σ p) (etp : tX σ p = tp) (lt : lvX σ t) (ht : tX σ t = t0) (okp : NF M tp ∧ sub1 M tp A ∧ trS tp ≤ 40) {Z : Env → Prop} (hZ : ∀ ρ', Z ρ' ↔ ∃ S R, spl E S R ∧ S ≠ [] ∧ Solv M [.inl (tp, mkS M f S)] (upE ρ 61 (rsT M f R)) ρ') (hP : ∀ ρ', Z ρ' → P ρ') :
    x_matchBag p t f σ (fun _ s => mpX (inU M A t0) σ s ∧ XP M s ∧ ∃ L', LX f s L' ∧ ∀ ρ', ρ' ∈ L' ↔ Z ρ') (fun s => overX M (inU M A t0) σ [] Z s) := by
  have hrw := rw0
  obtain ⟨hT, h0, h1, has, hAf, hkE, lE, hn, hel6, hrow⟩ := rw0
  have xp := mt.1
  have rg := xp.rg
  have hM := xp.wm
  have bt := lvX_b xp lt
  have kp := tX_kids xp lt
  rw [ht, hkE] at kp
  have h64 : (2 : Nat) ^ n ≤ 64 := Nat.le_trans (Nat.pow_le_pow_right (by omega) hn) (by decide)
  have p1 : 1 ≤ 2 ^ n := Nat.one_le_two_pow
  have mp := mk_pow ⟨n, by omega⟩
  simp only at mp
  have hz : ∀ ρ', Z ρ' ↔ ∃ u : Nat, 1 ≤ u ∧ u < 2 ^ n ∧ Solv M [.inl (tp, mkS M f (pk u E))] (upE ρ 61 (rsT M f (pk (2 ^ n - 1 ^^^ u) E))) ρ' := by
    intro ρ'
    rw [hZ]
    constructor
    · rintro ⟨S, R, hs, hne, h⟩
      obtain ⟨k, hk, rfl, rfl⟩ := (spl_masks lE hn).mp hs
      have : k ≠ 0 := fun z => hne ((pk_nil_iff lE hk).mpr z)
      exact ⟨k, by omega, hk, h⟩
    · rintro ⟨u, u1, u2, h⟩
      exact ⟨_, _, (spl_masks lE hn).mpr ⟨u, u2, rfl, rfl⟩, fun z => by have := (pk_nil_iff lE u2).mp z; omega, h⟩
  unfold x_matchBag
  refine lx_matchBag_L3 (fun v s => ∃ k : Nat, v = (k : Int) ∧ 1 ≤ k ∧ k ≤ 2 ^ n ∧ mpX (inU M A t0) σ s ∧ ∃ ρb L', mtX M (inU M A t0) P f σ0 s ρb L' ∧ (∀ u, u ≠ 61 → ρb u = ρ u) ∧ ∀ ρ', ρ' ∈ L' ↔ ∃ u : Nat, 1 ≤ u ∧ u < k ∧ Solv M [.inl (tp, mkS M f (pk u E))] (upE ρ 61 (rsT M f (pk (2 ^ n - 1 ^^^ u) E))) ρ') (fun v _ => (64 - v).toNat) ⟨1, rfl, by omega, by omega, mpX.rf _ _, ρ, [], mt, fun _ _ => rfl, fun ρ' => ⟨fun z => (by cases z), fun ⟨u, u1, u2, _⟩ => by omega⟩⟩ ?_
  rintro v s fr ⟨k, rfl, k1, k2, mp1, ρb, L1, mt1, hρb, hL1⟩
  try dsimp only
  have x1 := mt1.1
  have lt1 := mp1.1.lv lt
  have tt1 := (mp1.1.t lt).trans ht
  have kp1 := tX_kids x1 lt1
  rw [tt1, hkE] at kp1
  have tp1 := mt1.2.2.2.2.2.2.2.2.2
  refine ⟨bt, ?_⟩
  rw [← kp1.2.2, lE, mp]
  by_cases hk : (k : Int) < ((2 ^ n : Nat) : Int)
  · rw [if_pos hk]
    have hk' : k < 2 ^ n := by omega
    have nk := fun (j : Nat) (hj : j < n) => mk_not ⟨n, by omega⟩ ⟨k, by omega⟩ hk' ⟨j, by omega⟩ hj
    simp only at nk
    have xl : 2 ^ n - 1 ^^^ k < 2 ^ n := Nat.xor_lt_two_pow (by omega) hk'
    refine fm_x_some (xs_part c.2.2.2.1 c.1 hrw x1 mt1.2.1 lt1 tt1 xl nk tp1.1 tp1.2) (fun r s2 f2 q => ?_) (fun _ _ q => q.elim)
    obtain ⟨x2, o2, v2, m2⟩ := q
    have mt2 := mt1.grow c.1 x2 m2.1 f2 rfl m2.2.2.2.1
    rintro s3 hs3
    have f3 : Fr ([126], [], []) s2 s3 := Fr.rf.putI hs3 rfl
    have mt3 := mt2.behind c.1 o2 hs3
    have m3 : mpX (inU M A t0) s2 s3 := mpX.of (ExX.of_fr f3 rfl) f3 rfl
    have m13 := (mp1.trans m2 rg.1).trans m3 rg.1
    rw [v2, upE_same hρb] at mt3
    have tp3 := mt3.2.2.2.2.2.2.2.2.2
    have lt3 := m13.1.lv lt
    have tt3 := (m13.1.t lt).trans ht
    refine fm_x_some (xs_part c.2.2.2.1 c.1 hrw mt3.1 mt3.2.1 lt3 tt3 hk' (fun j hj => (mk_bit ⟨k, by omega⟩ ⟨j, by omega⟩).1) tp3.1 tp3.2) (fun r4 s4 f4 q => ?_) (fun _ _ q => q.elim)
    obtain ⟨x4, o4, v4, m4⟩ := q
    have mt4 := mt3.grow c.1 x4 m4.1 f4 rfl m4.2.2.2.1
    have m14 := m13.trans m4 rg.1
    have hne : pk k E ≠ [] := fun z => by have := (pk_nil_iff lE hk').mp z; omega
    have spk : spl E (pk k E) (pk (2 ^ n - 1 ^^^ k) E) := (spl_masks lE hn).mpr ⟨k, hk', rfl, rfl⟩
    obtain ⟨hin1, hin2, hin3, hin4, hin5, hin6⟩ := elm_in hM hT h0 h1 has hAf hel6 hrow spk
    have ers : rsT M f (pk k E) = mkS M f (pk k E) := by
      match h : pk k E, hne with
      | a :: r, _ => rfl
    have nn := mkS_ok hM h0 h1 has (fun e he => ⟨(hin1.1 e he).1, (hin1.1 e he).2.1⟩) hne
    rw [ers] at v4
    have lr : lvX s4 r4 := by
      rcases o4 with z | z
      · rw [z, oX_0] at v4
        exact absurd v4.symm (isT_ne_nil nn.1)
      · exact z
    rw [oX_n lr] at v4
    have lp4 := m14.1.lv lp
    have tp4 := (m14.1.t lp).trans etp
    have solk : ∀ ρ', Solv M [.inl (tp, mkS M f (pk k E))] (upE ρ 61 (rsT M f (pk (2 ^ n - 1 ^^^ k) E))) ρ' → Z ρ' := fun ρ' z => (hz ρ').mpr ⟨k, k1, hk', z⟩
    have mm := xs_matchPart c (p := p) (x := r4) mt4 (by rw [m14.2.2.1]; exact hsh) (by rw [m14.2.1]; exact hel) lp4 lr (by rw [tp4, v4]; exact ⟨okp, hin6 (isT_ne_nil nn.1)⟩) (by rw [tp4, v4]; exact fun ρ' z => hP ρ' (solk ρ' z))
    rw [tp4, v4] at mm
    refine fm_x_matchPart mm (fun r5 s5 f5 q => ?_) (fun s5 f5 q => ?_)
    · obtain ⟨m5, L5, mt5, hL5⟩ := q
      have m15 := m14.trans m5 rg.1
      rw [w32_id (by omega) (by omega)]
      refine ⟨⟨k + 1, by omega, by omega, by omega, m15, _, L5, mt5, upE_other, fun ρ' => ?_⟩, by omega⟩
      rw [hL5 ρ', hL1 ρ']
      constructor
      · rintro (⟨u, u1, u2, h⟩ | h)
        · exact ⟨u, u1, by omega, h⟩
        · exact ⟨k, k1, by omega, h⟩
      · rintro ⟨u, u1, u2, h⟩
        by_cases e : u = k
        · subst e; exact Or.inr h
        · exact Or.inl ⟨u, u1, by omega, h⟩
    · obtain ⟨q1, q2, q3, B, b1, b2, b3⟩ := q
      refine ⟨q1, q2, m14.1.trans q3 rg.1, B, b1, b2, fun ρ' hρ => Or.inr ?_⟩
      rcases b3 ρ' hρ with z | z
      · obtain ⟨u, u1, u2, h⟩ := (hL1 ρ').mp z
        exact (hz ρ').mpr ⟨u, u1, by omega, h⟩
      · exact solk ρ' z
  · rw [if_neg hk]
    have ek : k = 2 ^ n := by omega
    subst ek
    exact ⟨mp1, x1, L1, mt1.2.2.2.2.2.2.2.1, fun ρ' => by rw [hL1 ρ', hz ρ']⟩
/-- a row's part from a to b, what is beside -/
def rowZ (M : Mo) (f : Int) (tp : Tr) (E : List Tr) (ρ : Env) (a b : Nat) (ρ' : Env) : Prop :=
  Solv M [.inl (tp, mkS M f ((E.drop a).take (b - a)))] (upE (upE ρ 60 (rsT M f (E.take a))) 61 (rsT M f (E.drop b))) ρ'
theorem rowZ_iff {M : Mo} {f : Int} {tp : Tr} {E : List Tr} {ρ ρ' : Env} : (∃ X Y W, E = X ++ (Y ++ W) ∧ Y ≠ [] ∧ Solv M [.inl (tp, mkS M f Y)] (upE (upE ρ 60 (rsT M f X)) 61 (rsT M f W)) ρ') ↔ ∃ a b : Nat, a < b ∧ b ≤ E.length ∧ rowZ M f tp E ρ a b ρ' := by
  constructor
  · rintro ⟨X, Y, W, rfl, hY, h⟩
    have hl : 0 < Y.length := List.length_pos_iff.mpr hY
    refine ⟨X.length, X.length + Y.length, by omega, by simp only [List.length_append]; omega, ?_⟩
    unfold rowZ
    rw [List.drop_left, show X.length + Y.length - X.length = Y.length by omega, List.take_left, List.take_left, ← List.append_assoc, ← List.length_append, List.drop_left]
    exact h
  · rintro ⟨a, b, hab, hb, h⟩
    unfold rowZ at h
    refine ⟨E.take a, (E.drop a).take (b - a), E.drop b, ?_, ?_, h⟩
    · have : E.drop b = (E.drop a).drop (b - a) := by rw [List.drop_drop]; congr 1; omega
      rw [this, List.take_append_drop, List.take_append_drop]
    · intro z
      have := congrArg List.length z
      rw [List.length_take, List.length_drop, List.length_nil] at this
      omega
theorem xs_matchRow (c : cxX M A t0 P f σ0) {E : List Tr} {n : Nat} (rw0 : rwP M A t0 f E n) {σ : S} {ρ : Env} {p t : Int} {tp : Tr} (mt : mtX M (inU M A t0) P f σ0 σ ρ []) (hsh : gI σ 138 = 0) (hel : gI σ 134 = 0) (lp : lvX σ p) (etp : tX σ p = tp) (lt : lvX σ t) (ht : tX σ t = t0) (okp : NF M tp ∧ sub1 M tp A ∧ trS tp ≤ 40) {Z : Env → Prop} (hZ : ∀ ρ', Z ρ' ↔ ∃ a b : Nat, a < b ∧ b ≤ n ∧ rowZ M f tp E ρ a b ρ') (hP : ∀ ρ', Z ρ' → P ρ') :
    x_matchRow p t f σ (fun _ s => mpX (inU M A t0) σ s ∧ XP M s ∧ ∃ L', LX f s L' ∧ ∀ ρ', ρ' ∈ L' ↔ Z ρ') (fun s => overX M (inU M A t0) σ [] Z s) := by
  have hrw := rw0
  obtain ⟨hT, h0, h1, has, hAf, hkE, lE, hn, hel6, hrow⟩ := rw0
  have xp := mt.1
  have rg := xp.rg
  have hM := xp.wm
  have bt := lvX_b xp lt
  unfold x_matchRow
  refine lx_matchRow_L3 (fun v s => ∃ a : Nat, v = (a : Int) ∧ a ≤ n ∧ mpX (inU M A t0) σ s ∧ ∃ ρb L', mtX M (inU M A t0) P f σ0 s ρb L' ∧ (∀ u, u ≠ 60 → u ≠ 61 → ρb u = ρ u) ∧ ∀ ρ', ρ' ∈ L' ↔ ∃ a' b' : Nat, a' < b' ∧ b' ≤ n ∧ a' < a ∧ rowZ M f tp E ρ a' b' ρ') (fun v _ => (7 - v).toNat) ⟨0, rfl, by omega, mpX.rf _ _, ρ, [], mt, fun _ _ _ => rfl, fun ρ' => ⟨fun z => (by cases z), fun ⟨_, _, _, _, h, _⟩ => by omega⟩⟩ ?_
  rintro v s fr ⟨a, rfl, ha, mp1, ρb, L1, mt1, hρb, hL1⟩
  try dsimp only
  have x1 := mt1.1
  have kp1 := tX_kids x1 (mp1.1.lv lt)
  rw [(mp1.1.t lt).trans ht, hkE] at kp1
  refine ⟨bt, ?_⟩
  rw [← kp1.2.2, lE]
  by_cases hk : (a : Int) < (n : Int)
  · rw [if_pos hk, w32_id (by omega) (by omega)]
    refine lx_matchRow_L20 (fun v s => ∃ b : Nat, v = (b : Int) ∧ a < b ∧ b ≤ n + 1 ∧ mpX (inU M A t0) σ s ∧ ∃ ρb L', mtX M (inU M A t0) P f σ0 s ρb L' ∧ (∀ u, u ≠ 60 → u ≠ 61 → ρb u = ρ u) ∧ ∀ ρ', ρ' ∈ L' ↔ ∃ a' b' : Nat, a' < b' ∧ b' ≤ n ∧ (a' < a ∨ a' = a ∧ b' < b) ∧ rowZ M f tp E ρ a' b' ρ') (fun v _ => (8 - v).toNat) ⟨a + 1, by omega, by omega, by omega, mp1, ρb, L1, mt1, hρb, fun ρ' => ?_⟩ ?_
    · rw [hL1 ρ']
      constructor
      · rintro ⟨a', b', g1, g2, g3, g4⟩
        exact ⟨a', b', g1, g2, Or.inl g3, g4⟩
      · rintro ⟨a', b', g1, g2, g3, g4⟩
        exact ⟨a', b', g1, g2, by omega, g4⟩
    rintro v s2 fr2 ⟨b, rfl, hab, hbn, mp2, ρc, L2, mt2, hρc, hL2⟩
    try dsimp only
    have x2 := mt2.1
    have lt2 := mp2.1.lv lt
    have tt2 := (mp2.1.t lt).trans ht
    have kp2 := tX_kids x2 lt2
    rw [tt2, hkE] at kp2
    have top2 := mt2.2.2.2.2.2.2.2.2.2
    refine ⟨bt, ?_⟩
    rw [← kp2.2.2, lE]
    by_cases hb : (b : Int) ≤ (n : Int)
    · rw [if_pos hb]
      refine fm_x_span (xs_span c.2.2.2.1 c.1 hrw x2 mt2.2.1 (a := 0) (b := a) lt2 tt2 (by omega) ha top2.1 top2.2) (fun r3 s3 f3 q => ?_) (fun _ _ q => q.elim)
      obtain ⟨x3, o3, v3, m3⟩ := q
      rw [List.drop_zero, Nat.sub_zero] at v3
      have mt3 := mt2.grow c.1 x3 m3.1 f3 rfl m3.2.2.2.1
      rintro s4 hs4
      have f4 : Fr ([125], [], []) s3 s4 := Fr.rf.putI hs4 rfl
      have mt4 := mt3.ahead c.1 o3 hs4
      have m4 : mpX (inU M A t0) s3 s4 := mpX.of (ExX.of_fr f4 rfl) f4 rfl
      have m24 := (mp2.trans m3 rg.1).trans m4 rg.1
      rw [v3] at mt4
      have lt4 := m24.1.lv lt
      have tt4 := (m24.1.t lt).trans ht
      have kp4 := tX_kids mt4.1 lt4
      rw [tt4, hkE] at kp4
      have top4 := mt4.2.2.2.2.2.2.2.2.2
      refine ⟨bt, ?_⟩
      rw [← kp4.2.2, lE]
      refine fm_x_span (xs_span c.2.2.2.1 c.1 hrw mt4.1 mt4.2.1 (a := b) (b := n) lt4 tt4 (by omega) (by omega) top4.1 top4.2) (fun r5 s5 f5 q => ?_) (fun _ _ q => q.elim)
      obtain ⟨x5, o5, v5, m5⟩ := q
      have eW : (E.drop b).take (n - b) = E.drop b := List.take_of_length_le (by rw [List.length_drop]; omega)
      rw [eW] at v5
      have mt5 := mt4.grow c.1 x5 m5.1 f5 rfl m5.2.2.2.1
      rintro s6 hs6
      have f6 : Fr ([126], [], []) s5 s6 := Fr.rf.putI hs6 rfl
      have mt6 := mt5.behind c.1 o5 hs6
      have m6 : mpX (inU M A t0) s5 s6 := mpX.of (ExX.of_fr f6 rfl) f6 rfl
      have m26 := (m24.trans m5 rg.1).trans m6 rg.1
      have eρ : upE (upE ρc 60 (rsT M f (E.take a))) 61 (rsT M f (E.drop b)) = upE (upE ρ 60 (rsT M f (E.take a))) 61 (rsT M f (E.drop b)) := by
        funext u
        unfold upE
        by_cases e1 : u = 61
        · rw [if_pos e1, if_pos e1]
        · rw [if_neg e1, if_neg e1]
          by_cases e2 : u = 60
          · rw [if_pos e2, if_pos e2]
          · rw [if_neg e2, if_neg e2, hρc u e2 e1]
      rw [v5, eρ] at mt6
      have lt6 := m26.1.lv lt
      have tt6 := (m26.1.t lt).trans ht
      have top6 := mt6.2.2.2.2.2.2.2.2.2
      refine fm_x_span (xs_span c.2.2.2.1 c.1 hrw mt6.1 mt6.2.1 (a := a) (b := b) lt6 tt6 (by omega) (by omega) top6.1 top6.2) (fun r7 s7 f7 q => ?_) (fun _ _ q => q.elim)
      obtain ⟨x7, o7, v7, m7⟩ := q
      have mt7 := mt6.grow c.1 x7 m7.1 f7 rfl m7.2.2.2.1
      have m27 := m26.trans m7 rg.1
      have hne : (E.drop a).take (b - a) ≠ [] := fun z => by
        have := congrArg List.length z
        rw [List.length_take, List.length_drop, List.length_nil] at this
        omega
      have spk : spl E ((E.drop a).take (b - a)) (pk (2 ^ n - 1 ^^^ (2 ^ b - 2 ^ a)) E) := by
        refine (spl_masks lE hn).mpr ⟨2 ^ b - 2 ^ a, ?_, (pk_run E b a (by omega) (by omega)).symm, rfl⟩
        have : 2 ^ b ≤ 2 ^ n := Nat.pow_le_pow_right (by omega) (by omega)
        have : 1 ≤ 2 ^ a := Nat.one_le_two_pow
        have : 1 ≤ 2 ^ n := Nat.one_le_two_pow
        omega
      obtain ⟨hin1, hin2, hin3, hin4, hin5, hin6⟩ := elm_in hM hT h0 h1 has hAf hel6 hrow spk
      have ers : rsT M f ((E.drop a).take (b - a)) = mkS M f ((E.drop a).take (b - a)) := by
        match h : (E.drop a).take (b - a), hne with
        | a :: r, _ => rfl
      have nn := mkS_ok hM h0 h1 has (fun e he => ⟨(hin1.1 e he).1, (hin1.1 e he).2.1⟩) hne
      rw [ers] at v7
      have lr : lvX s7 r7 := by
        rcases o7 with z | z
        · rw [z, oX_0] at v7
          exact absurd v7.symm (isT_ne_nil nn.1)
        · exact z
      rw [oX_n lr] at v7
      have lp7 := m27.1.lv lp
      have tp7 := (m27.1.t lp).trans etp
      have solk : ∀ ρ', rowZ M f tp E ρ a b ρ' → Z ρ' := fun ρ' z => (hZ ρ').mpr ⟨a, b, hab, by omega, z⟩
      have mm := xs_matchPart c (p := p) (x := r7) mt7 (by rw [m27.2.2.1]; exact hsh) (by rw [m27.2.1]; exact hel) lp7 lr (by rw [tp7, v7]; exact ⟨okp, hin6 (isT_ne_nil nn.1)⟩) (by rw [tp7, v7]; exact fun ρ' z => hP ρ' (solk ρ' z))
      rw [tp7, v7] at mm
      refine fm_x_matchPart mm (fun r8 s8 f8 q => ?_) (fun s8 f8 q => ?_)
      · obtain ⟨m8, L8, mt8, hL8⟩ := q
        have m28 := m27.trans m8 rg.1
        rw [w32_id (by omega) (by omega)]
        refine ⟨⟨b + 1, by omega, by omega, by omega, m28, _, L8, mt8, fun u u1 u2 => by unfold upE; rw [if_neg u2, if_neg u1], fun ρ' => ?_⟩, by omega⟩
        rw [hL8 ρ', hL2 ρ']
        constructor
        · rintro (⟨a', b', g1, g2, g3, g4⟩ | h)
          · exact ⟨a', b', g1, g2, by omega, g4⟩
          · exact ⟨a, b, hab, by omega, by omega, h⟩
        · rintro ⟨a', b', g1, g2, g3, g4⟩
          by_cases e : a' = a ∧ b' = b
          · obtain ⟨rfl, rfl⟩ := e; exact Or.inr g4
          · exact Or.inl ⟨a', b', g1, g2, by omega, g4⟩
      · obtain ⟨q1, q2, q3, B, b1, b2, b3⟩ := q
        refine ⟨q1, q2, m27.1.trans q3 rg.1, B, b1, b2, fun ρ' hρ => Or.inr ?_⟩
        rcases b3 ρ' hρ with z | z
        · obtain ⟨a', b', g1, g2, g3, g4⟩ := (hL2 ρ').mp z
          exact (hZ ρ').mpr ⟨a', b', g1, g2, g4⟩
        · exact solk ρ' z
    · rw [if_neg hb]
      unfold x_matchRow_j83
      rw [w32_id (by omega) (by omega)]
      refine ⟨⟨a + 1, by omega, by omega, mp2, ρc, L2, mt2, hρc, fun ρ' => ?_⟩, by omega⟩
      rw [hL2 ρ']
      constructor
      · rintro ⟨a', b', g1, g2, g3, g4⟩
        exact ⟨a', b', g1, g2, by omega, g4⟩
      · rintro ⟨a', b', g1, g2, g3, g4⟩
        exact ⟨a', b', g1, g2, by omega, g4⟩
  · rw [if_neg hk]
    refine ⟨mp1, x1, L1, mt1.2.2.2.2.2.2.2.1, fun ρ' => ?_⟩
    rw [hL1 ρ', hZ ρ']
    constructor
    · rintro ⟨a', b', g1, g2, g3, g4⟩
      exact ⟨a', b', g1, g2, g4⟩
    · rintro ⟨a', b', g1, g2, g4⟩
      exact ⟨a', b', g1, g2, by omega, g4⟩
end

/-! RewriteHouse: what is bound is filled in; what is beside -/
def flN (M : Mo) (ρ : Env) (t u : Tr) : Prop := (∃ q ∈ subs t, 0 ≤ lab q ∧ kids q ≠ [] ∧ u = fil M ρ q) ∨ ∃ o, 0 ≤ o ∧ o < mOps M ∧ mUn M o ≠ -2 ∧ u = unT M o
theorem flN_kid {M : Mo} {ρ : Env} {t q u : Tr} (ht : isT t) (hq : q ∈ kids t) (h : flN M ρ q u) : flN M ρ t u := by
  rcases h with ⟨r, hr, z⟩ | h
  · refine Or.inl ⟨r, ?_, z⟩
    obtain ⟨c, ts, rfl, -, -⟩ := isT_ex ht
    rw [kids_N] at hq
    rw [subs_N]
    exact List.mem_cons_of_mem _ (List.mem_flatMap.mpr ⟨q, hq, hr⟩)
  · exact Or.inr h
theorem occ_kid {v : Int} {t q : Tr} (ht : isT t) (hq : q ∈ kids t) (h : occ v q) : occ v t := by
  obtain ⟨c, ts, rfl, -, -⟩ := isT_ex ht
  rw [kids_N] at hq
  unfold occ at h ⊢
  rw [tAny_N, Bool.or_eq_true]
  exact Or.inr (List.any_eq_true.mpr ⟨q, hq, h⟩)
theorem bX0_ex {N : Tr → Prop} {σ s : S} (e : ExX σ s N) (hb : ∀ v, 0 ≤ v → v < 60 → olX σ (gA σ 83 v)) (h1 : gA s 83 = gA σ 83) : bX0 s = bX0 σ ∧ ∀ v, 0 ≤ v → v < 60 → olX s (gA s 83 v) := by
  refine ⟨?_, fun v v0 v1 => by rw [h1]; exact (oX_ex e (hb v v0 v1)).1⟩
  funext v
  unfold bX0
  by_cases hv : 0 ≤ v ∧ v < 60
  · rw [if_pos hv, if_pos hv, h1, (oX_ex e (hb v hv.1 hv.2)).2]
  · rw [if_neg hv, if_neg hv]
theorem xs_filledS {M : Mo} {N : Tr → Prop} {σ0 : S} (hr : rmX M N σ0) (hn0 : 1 ≤ gI σ0 93) {ρ : Env} : ∀ (n : Nat) (σ : S) (x : Int), XP M σ → ExX σ0 σ N → lvX σ x → trS (tX σ x) ≤ n → (∀ v, 0 ≤ v → v < 60 → olX σ (gA σ 83 v)) → bX0 σ = ρ → (∀ v, 0 ≤ v → occ v (tX σ x) → ρ v ≠ .nil) → (∀ u, flN M ρ (tX σ x) u → N u) → 0 ≤ gI σ 106 → gI σ 106 + 2 * (trS (tX σ x) : Int) ≤ 14000 →
    x_S_filled n 0 [x] σ (fun r s => XP M s ∧ lvX s r ∧ tX s r = fil M ρ (tX σ x) ∧ trS (fil M ρ (tX σ x)) ≤ 40 ∧ ExX σ s N ∧ gI s 106 = gI σ 106 ∧ ∀ j, j < gI σ 106 → gA s 74 j = gA σ 74 j) (fun s => 40 < trS (fil M ρ (tX σ x)) ∧ gI s 1006 = 6 ∧ XP M s ∧ ExX σ s N) := by
  intro n
  induction n with
  | zero => intro σ x xp _ hx hn; have := trS_pos (xp.T hx); omega
  | succ n ih =>
    intro σ x xp e0 hx hn hb hρ hocc hN ht0 ht1
    have rg := xp.rg
    have hM := xp.wm
    have nf := (xp.nd hx).2.2.1
    have s40 := (xp.nd hx).2.2.2
    have kx := tX_kids xp hx
    have bx := lvX_b xp hx
    have ax := xp.at hx
    have op := xp.opr hx
    have ob := hM.2.2.1
    show x_filled_F (x_S_filled n) x σ _ _
    unfold x_filled_F
    refine ⟨bx, ?_⟩
    by_cases hv : gA σ 66 x < 0
    · rw [if_pos hv, w32_id (by omega) (by omega)]
      have hl : lab (tX σ x) < 0 := by rw [kx.1]; exact hv
      have ef := fil_var (M := M) (ρ := ρ) nf.1 hl
      have hne := hocc (-1 - lab (tX σ x)) (by omega) ((occ_var nf hl).mpr rfl)
      rw [ef]
      rw [kx.1] at hne ⊢
      have bv : ρ (-1 - gA σ 66 x) = oX σ (gA σ 83 (-1 - gA σ 66 x)) := by
        rw [← hρ]; unfold bX0; rw [if_pos ⟨by omega, by omega⟩]
      rw [bv] at hne ⊢
      have lb : lvX σ (gA σ 83 (-1 - gA σ 66 x)) := by
        rcases hb (-1 - gA σ 66 x) (by omega) (by omega) with z | z
        · rw [z, oX_0] at hne; exact absurd rfl hne
        · exact z
      rw [oX_n lb]
      exact ⟨bx, ⟨by omega, by omega⟩, xp, lb, rfl, (xp.nd lb).2.2.2, ExX.rf _ _, rfl, fun _ _ => rfl⟩
    · rw [if_neg hv]
      have hl : 0 ≤ lab (tX σ x) := by rw [kx.1]; omega
      have esz := trS_eta nf
      have hlen := trS_len (ts := kids (tX σ x)) (fun t ht => (nf.kid ht).1)
      have val : ∀ v, 0 ≤ v → occ v (tX σ x) → v < 60 → NF M (ρ v) ∧ trS (ρ v) ≤ 40 := by
        intro v v0 ho v1
        have hne := hocc v v0 ho
        rw [← hρ] at hne ⊢
        unfold bX0 at hne ⊢
        rw [if_pos ⟨v0, v1⟩] at hne ⊢
        rcases hb v v0 v1 with z | z
        · rw [z, oX_0] at hne; exact absurd rfl hne
        · rw [oX_n z]; exact ⟨(xp.nd z).2.2.1, (xp.nd z).2.2.2⟩
      have okB0 := bX0_ok xp hb
      rw [hρ] at okB0
      have val2 : ∀ v, 0 ≤ v → occ v (tX σ x) → NF M (ρ v) ∧ trS (ρ v) ≤ 40 := by
        intro v v0 ho
        rcases Classical.em (0 ≤ v ∧ v < 60) with z | z
        · exact val v z.1 ho z.2
        · exact absurd (okB0.2 v (by omega)) (hocc v v0 ho)
      have filK : ∀ u ∈ kids (tX σ x), NF M (fil M ρ u) := fun u hu => (fil_all hM u (nf.kid hu).1 (nf.kid hu) (fun v v0 hv => val2 v v0 (occ_kid nf.1 hu hv))).1
      have ok := mkOk_map (g := fil M ρ) nf hl filK
      refine lx_filled_L30 (fo_x_S_filled n) (fun k s => ∃ i : Nat, k = (i : Int) ∧ i ≤ (kids (tX σ x)).length ∧ XP M s ∧ ExX σ s N ∧ Fr wX_filled σ s ∧ gI s 106 = gI σ 106 + i ∧ rowH s (gI σ 106) i (((kids (tX σ x)).take i).map (fil M ρ)) ∧ ∀ j, j < gI σ 106 → gA s 74 j = gA σ 74 j) (fun k _ => (((kids (tX σ x)).length : Int) - k).toNat) ⟨0, rfl, by omega, xp, ExX.rf _ _, Fr.rf, by simp, by simpa using rowH.nil, fun _ _ => rfl⟩ ?_
      rintro k s fr0 ⟨i, rfl, hi, xs, es, fr, htop, hrow, hlo⟩
      try dsimp only
      have lxs := es.lv hx
      have txs := es.t hx
      have kxs := tX_kids xs lxs
      rw [txs] at kxs
      refine ⟨bx, ?_⟩
      by_cases hk : (i : Int) < gA s 68 x
      · rw [if_pos hk]
        have hil : i < (kids (tX σ x)).length := by omega
        obtain ⟨q, hq⟩ : ∃ q, (kids (tX σ x))[i]? = some q := ⟨_, List.getElem?_eq_getElem hil⟩
        have hqm := List.mem_of_getElem? hq
        have kq := tX_kid xs lxs (k := i) (q := q) (by rw [txs]; exact hq)
        refine xs_at xs lxs (by omega) kq.1 ?_
        generalize gA s 73 (gA s 67 x + i) = y at kq ⊢
        obtain ⟨-, ly, ey⟩ := kq
        have hbs := bX0_ex es hb (fr.a _ rfl)
        have qs := trS_kid (c := lab (tX σ x)) hqm
        rw [← nf.eta] at qs
        have hsum : (trS q : Int) + i ≤ trS (tX σ x) - 1 := by
          obtain ⟨l1, l2, e12, hl1⟩ : ∃ l1 l2, kids (tX σ x) = l1 ++ q :: l2 ∧ l1.length = i := by
            refine ⟨(kids (tX σ x)).take i, (kids (tX σ x)).drop (i + 1), ?_, by rw [List.length_take]; omega⟩
            have := (List.getElem?_eq_some_iff.mp hq).2
            rw [← this, ← List.drop_eq_getElem_cons hil, List.take_append_drop]
          have a1 := trS_len (ts := l1) (fun t ht => (nf.kid (by rw [e12]; exact List.mem_append_left _ ht)).1)
          rw [e12, List.map_append, List.sum_append, List.map_cons, List.sum_cons] at esz
          omega
        have ihq := ih s y xs (e0.trans es hn0) ly (by rw [ey]; omega) hbs.2 (hbs.1.trans hρ) (by rw [ey]; exact fun v v0 hv => hocc v v0 (occ_kid nf.1 hqm hv)) (by rw [ey]; exact fun u hu => hN u (flN_kid nf.1 hqm hu)) (by omega) (by rw [ey]; omega)
        rw [ey] at ihq
        refine fo_x_S_filled n _ _ _ _ _ _ _ ihq (fun r s2 f2 q2 => ?_) (fun s2 f2 q2 => ?_)
        · obtain ⟨x2, lr, er, sz, e2, top2, lo2⟩ := q2
          refine xs_push (by omega) (by omega) ?_
          obtain ⟨s3, hs3⟩ : ∃ s3, s3 = pA (pI s2 106 (gI s2 106 + 1)) 74 (gI s2 106) r := ⟨_, rfl⟩
          rw [← hs3]
          have f3 : Fr ([106], [], [74]) s2 s3 := by rw [hs3]; exact (Fr.rf.putI rfl rfl).putA rfl rfl
          have l3 := lv_fr f3 rfl
          have hv3 : ∀ j, gA s3 74 j = if j = gI s2 106 then r else gA s2 74 j := fun j => by rw [hs3]; simp [gI_pI, gI_pL, gI_pA, gL_pI, gL_pL, gL_pA, gA_pI, gA_pL, gA_pA]
          have et3 : gI s3 106 = gI s2 106 + 1 := by rw [hs3]; rfl
          rw [w32_id (by omega) (by omega)]
          have est : ((kids (tX σ x)).take (i + 1)).map (fil M ρ) = ((kids (tX σ x)).take i).map (fil M ρ) ++ [fil M ρ q] := by
            rw [List.take_add_one, hq, List.map_append]; rfl
          refine ⟨⟨i + 1, by omega, by omega, x2.fr f3 rfl, (es.trans e2 rg.1).trans (ExX.of_fr f3 rfl) rg.1, Fr.trans fr (Fr.trans f2 (f3.weak rfl)), by omega, ?_, fun j hj => ?_⟩, by omega⟩
          · rw [est]
            refine rowH.app ((hrow.ex (M := M) e2 (fun j j0 j1 => lo2 _ (by omega))).same (fun j j0 j1 => by rw [hv3, if_neg (by omega)]) l3) ?_
            have := rowH.one (σ := s3) (a := gI σ 106 + i) (by rw [hv3, if_pos (by omega)]; exact (l3 _ lr).1)
            rw [hv3, if_pos (by omega), (l3 _ lr).2, er] at this
            exact this
          · rw [hv3, if_neg (by omega), lo2 j (by omega)]
            exact hlo j hj
        · obtain ⟨q1, q2, q3, q4⟩ := q2
          refine ⟨?_, q2, q3, es.trans q4 rg.1⟩
          rw [fil_mk nf.1 hl (fun z => by rw [z] at hil; simp at hil)]
          have := mk_ge hM ok (List.mem_map.mpr ⟨q, hqm, rfl⟩)
          omega
      · rw [if_neg hk]
        have ei : (kids (tX σ x)).take i = kids (tX σ x) := List.take_of_length_le (by omega)
        have eil : i = (kids (tX σ x)).length := by omega
        rw [ei] at hrow
        unfold x_filled_j64
        refine ⟨bx, ?_⟩
        by_cases hz : gA s 68 x = 0
        · rw [if_pos hz]
          have hnil : kids (tX σ x) = [] := List.length_eq_zero_iff.mp (by omega)
          rw [fil_con nf.1 hl hnil]
          refine ⟨xs, lxs, txs, s40, es, ?_, hlo⟩
          rw [hnil] at eil
          simp only [List.length_nil] at eil
          omega
        · rw [if_neg hz]
          refine ⟨bx, ?_⟩
          have hne : kids (tX σ x) ≠ [] := fun z => by rw [z] at kxs; simp at kxs; omega
          have ef := fil_mk (M := M) (ρ := ρ) nf.1 hl hne
          rw [← kxs.1, ef]
          have rm := hr s xs (e0.trans es hn0)
          have hNk : ∀ u, u = mk M (lab (tX σ x)) ((kids (tX σ x)).map (fil M ρ)) ∨ mUn M (lab (tX σ x)) ≠ -2 ∧ u = unT M (lab (tX σ x)) → N u := by
            rintro u (rfl | ⟨hu, rfl⟩)
            · exact hN _ (Or.inl ⟨_, subs_self nf.1, hl, hne, ef.symm⟩)
            · exact hN _ (Or.inr ⟨_, hl, nf.op hl, hu, rfl⟩)
          refine fm_x_make (xs_make xs ht0 htop (by omega) (by omega) hrow ok rm.1 rm.2) (fun r s2 f2 q => ?_) (fun s2 f2 q => ?_)
          · obtain ⟨q1, q2, q3, q4, q5, q6, q7, q8⟩ := q
            exact ⟨q1, q2, q3, q6, es.trans (q4.mono hNk) rg.1, q7, fun j hj => by rw [q8 j hj]; exact hlo j hj⟩
          · obtain ⟨q1, q2, q3, q4⟩ := q
            exact ⟨q1, q2, q3, es.trans (q4.mono (fun u hu => hNk u (Or.inr hu))) rg.1⟩
theorem xs_filled {M : Mo} {N : Tr → Prop} {σ0 : S} (hr : rmX M N σ0) (hn0 : 1 ≤ gI σ0 93) {ρ : Env} {σ : S} {x : Int} (xp : XP M σ) (e0 : ExX σ0 σ N) (hx : lvX σ x) (hb : ∀ v, 0 ≤ v → v < 60 → olX σ (gA σ 83 v)) (hρ : bX0 σ = ρ) (hocc : ∀ v, 0 ≤ v → occ v (tX σ x) → ρ v ≠ .nil) (hN : ∀ u, flN M ρ (tX σ x) u → N u) (ht0 : 0 ≤ gI σ 106) (ht1 : gI σ 106 ≤ 13900) :
    x_filled x σ (fun r s => XP M s ∧ lvX s r ∧ tX s r = fil M ρ (tX σ x) ∧ trS (fil M ρ (tX σ x)) ≤ 40 ∧ ExX σ s N ∧ gI s 106 = gI σ 106 ∧ ∀ j, j < gI σ 106 → gA s 74 j = gA σ 74 j) (fun s => 40 < trS (fil M ρ (tX σ x)) ∧ gI s 1006 = 6 ∧ XP M s ∧ ExX σ s N) := by
  have := (xp.nd hx).2.2.2
  exact xs_filledS hr hn0 44 σ x xp e0 hx (by omega) hb hρ hocc hN ht0 (by omega)
/-- with what is ahead and behind -/
def besL (ta tx tb : Tr) : List Tr := (match ta with | .nil => [] | _ => [ta]) ++ (tx :: (match tb with | .nil => [] | _ => [tb]))
theorem besL_nn {ta tx tb : Tr} (ha : ta ≠ .nil) (hb : tb ≠ .nil) : besL ta tx tb = [ta, tx, tb] := by
  unfold besL
  cases ta <;> cases tb <;> first | rfl | exact absurd rfl ha | exact absurd rfl hb
theorem besL_0n {tx tb : Tr} (hb : tb ≠ .nil) : besL .nil tx tb = [tx, tb] := by
  unfold besL
  cases tb <;> first | rfl | exact absurd rfl hb
theorem besL_n0 {ta tx : Tr} (ha : ta ≠ .nil) : besL ta tx .nil = [ta, tx] := by
  unfold besL
  cases ta <;> first | rfl | exact absurd rfl ha
theorem xs_beside {M : Mo} {σ : S} (xp : XP M σ) {o a x b : Int} {tx : Tr} (hx : lvX σ x) (ex : tX σ x = tx) (oa : olX σ a) (ob : olX σ b) (hok : ¬ (oX σ a = .nil ∧ oX σ b = .nil) → 0 ≤ o ∧ o < mOps M ∧ mAs M o ≠ 0) (ht0 : 0 ≤ gI σ 106) (ht1 : gI σ 106 ≤ 14000) (hr1 : gI σ 93 + 2 ≤ 200000) (hr2 : gI σ 102 + 39 ≤ 600000) :
    x_beside o a x b σ (fun r s => (oX σ a = .nil ∧ oX σ b = .nil ∧ r = x ∧ s = σ) ∨ (¬ (oX σ a = .nil ∧ oX σ b = .nil) ∧ mkQ M σ o (gI σ 106) (mk M o (besL (oX σ a) tx (oX σ b))) r s)) (fun s => ¬ (oX σ a = .nil ∧ oX σ b = .nil) ∧ mkE M σ o (mk M o (besL (oX σ a) tx (oX σ b))) s) := by
  have rg := xp.rg
  have hM := xp.wm
  have nz : ∀ {y : Int}, olX σ y → (y = 0 ↔ oX σ y = .nil) := by
    intro y hy
    constructor
    · intro z; rw [z, oX_0]
    · intro z
      rcases hy with e | e
      · exact e
      · rw [oX_n e] at z; exact absurd z (isT_ne_nil (xp.T e))
  unfold x_beside
  by_cases h : a = 0 ∧ b = 0
  · rw [if_pos h]
    exact Or.inl ⟨(nz oa).mp h.1, (nz ob).mp h.2, rfl, rfl⟩
  · rw [if_neg h]
    have hn : ¬ (oX σ a = .nil ∧ oX σ b = .nil) := fun z => h ⟨(nz oa).mpr z.1, (nz ob).mpr z.2⟩
    obtain ⟨o0, o1, oas⟩ := hok hn
    -- the row lies at hand: it is made
    have fin : ∀ (s : S) (ts : List Tr), Fr ([106], [], [74]) σ s → gI s 106 = gI σ 106 + ts.length → rowH s (gI σ 106) ts.length ts → (∀ j, j < gI σ 106 → gA s 74 j = gA σ 74 j) → besL (oX σ a) tx (oX σ b) = ts → 2 ≤ ts.length → ts.length ≤ 3 → (∀ t ∈ ts, NF M t) → x_make o (gI σ 106) s (fun r s => (oX σ a = .nil ∧ oX σ b = .nil ∧ r = x ∧ s = σ) ∨ (¬ (oX σ a = .nil ∧ oX σ b = .nil) ∧ mkQ M σ o (gI σ 106) (mk M o (besL (oX σ a) tx (oX σ b))) r s)) (fun s => ¬ (oX σ a = .nil ∧ oX σ b = .nil) ∧ mkE M σ o (mk M o (besL (oX σ a) tx (oX σ b))) s) := by
      intro s ts f htop hrow hlo hbes h2 h3 hnf
      have xs : XP M s := xp.fr f rfl
      have es : ∀ N, ExX σ s N := fun N => ExX.of_fr f rfl
      refine fm_x_make (xs_make xs ht0 htop (by omega) (by omega) hrow ⟨o0, o1, by rw [if_pos oas]; exact h2, hnf⟩ (by rw [f.i _ rfl]; exact hr1) (by rw [f.i _ rfl]; exact hr2)) (fun r s2 f2 q => Or.inr ⟨hn, ?_⟩) (fun s2 f2 q => ⟨hn, ?_⟩)
      · obtain ⟨q1, q2, q3, q4, q5, q6, q7, q8⟩ := q
        rw [hbes]
        exact ⟨q1, q2, q3, (es _).trans q4 rg.1, by rw [f.i _ rfl] at q5; exact q5, q6, q7, fun j hj => by rw [q8 j hj]; exact hlo j hj⟩
      · obtain ⟨q1, q2, q3, q4⟩ := q
        rw [hbes]
        exact ⟨q1, q2, q3, (es _).trans q4 rg.1⟩
    -- one more at hand
    have push : ∀ (s : S) (ts : List Tr) (y : Int), Fr ([106], [], [74]) σ s → gI s 106 = gI σ 106 + ts.length → rowH s (gI σ 106) ts.length ts → (∀ j, j < gI σ 106 → gA s 74 j = gA σ 74 j) → ts.length ≤ 3 → lvX σ y → ∀ Q : Int → S → Prop, (∀ s2, Fr ([106], [], [74]) σ s2 → gI s2 106 = gI σ 106 + (ts ++ [tX σ y]).length → rowH s2 (gI σ 106) (ts ++ [tX σ y]).length (ts ++ [tX σ y]) → (∀ j, j < gI σ 106 → gA s2 74 j = gA σ 74 j) → Q 0 s2) → x_push y s Q := by
      intro s ts y f htop hrow hlo hlen ly Q hQ
      refine xs_push (by omega) (by omega) ?_
      obtain ⟨s3, hs3⟩ : ∃ s3, s3 = pA (pI s 106 (gI s 106 + 1)) 74 (gI s 106) y := ⟨_, rfl⟩
      rw [← hs3]
      have f3 : Fr ([106], [], [74]) s s3 := by rw [hs3]; exact (Fr.rf.putI rfl rfl).putA rfl rfl
      have l3 := lv_fr f3 rfl
      have ls := lv_fr f rfl
      have hv3 : ∀ j, gA s3 74 j = if j = gI s 106 then y else gA s 74 j := fun j => by rw [hs3]; simp [gI_pI, gI_pL, gI_pA, gL_pI, gL_pL, gL_pA, gA_pI, gA_pL, gA_pA]
      have et3 : gI s3 106 = gI s 106 + 1 := by rw [hs3]; rfl
      have ly3 := l3 _ (ls _ ly).1
      refine hQ s3 (f.trans f3) (by rw [et3, htop, List.length_append]; simp only [List.length_cons, List.length_nil]; omega) ?_ (fun j hj => by rw [hv3, if_neg (by omega)]; exact hlo j hj)
      rw [List.length_append]
      refine rowH.app (hrow.same (fun j j0 j1 => by rw [hv3, if_neg (by omega)]) l3) ?_
      have := rowH.one (σ := s3) (a := gI σ 106 + ts.length) (by rw [hv3, if_pos (by omega)]; exact ly3.1)
      rw [hv3, if_pos (by omega), ly3.2, (ls _ ly).2] at this
      exact this
    have nfo : ∀ {y : Int}, lvX σ y → NF M (tX σ y) := fun hy => (xp.nd hy).2.2.1
    have st0 : Fr ([106], [], [74]) σ σ := Fr.rf
    by_cases ha : a = 0
    · rw [if_pos ha]
      have hb : ¬ b = 0 := fun z => h ⟨ha, z⟩
      have lb : lvX σ b := ob.resolve_left hb
      have ea : oX σ a = .nil := (nz oa).mp ha
      unfold x_beside_j26
      refine push σ [] x st0 (by simp) (by simpa using rowH.nil) (fun _ _ => rfl) (by simp) hx _ (fun s2 f2 t2 r2 l2 => ?_)
      rw [if_neg hb]
      refine push s2 _ b f2 t2 r2 l2 (by simp) lb _ (fun s3 f3 t3 r3 l3 => ?_)
      unfold x_beside_j42
      refine fin s3 _ f3 t3 r3 l3 ?_ (by simp) (by simp) (fun t ht => ?_)
      · rw [ea, oX_n lb, besL_0n (isT_ne_nil (xp.T lb)), ex]; rfl
      · simp only [List.nil_append, List.cons_append, List.mem_cons, List.not_mem_nil, or_false] at ht
        rcases ht with rfl | rfl
        · exact nfo hx
        · exact nfo lb
    · rw [if_neg ha]
      have la : lvX σ a := oa.resolve_left ha
      refine push σ [] a st0 (by simp) (by simpa using rowH.nil) (fun _ _ => rfl) (by simp) la _ (fun s1 f1 t1 r1 l1 => ?_)
      unfold x_beside_j26
      refine push s1 _ x f1 t1 r1 l1 (by simp) hx _ (fun s2 f2 t2 r2 l2 => ?_)
      by_cases hb : b = 0
      · rw [if_pos hb]
        unfold x_beside_j42
        refine fin s2 _ f2 t2 r2 l2 ?_ (by simp) (by simp) (fun t ht => ?_)
        · rw [oX_n la, (nz ob).mp hb, besL_n0 (isT_ne_nil (xp.T la)), ex]; rfl
        · simp only [List.nil_append, List.cons_append, List.mem_cons, List.not_mem_nil, or_false] at ht
          rcases ht with rfl | rfl
          · exact nfo la
          · exact nfo hx
      · rw [if_neg hb]
        have lb : lvX σ b := ob.resolve_left hb
        refine push s2 _ b f2 t2 r2 l2 (by simp) lb _ (fun s3 f3 t3 r3 l3 => ?_)
        unfold x_beside_j42
        refine fin s3 _ f3 t3 r3 l3 ?_ (by simp) (by simp) (fun t ht => ?_)
        · rw [oX_n la, oX_n lb, besL_nn (isT_ne_nil (xp.T la)) (isT_ne_nil (xp.T lb)), ex]; rfl
        · simp only [List.nil_append, List.cons_append, List.mem_cons, List.not_mem_nil, or_false] at ht
          rcases ht with rfl | rfl | rfl
          · exact nfo la
          · exact nfo hx
          · exact nfo lb

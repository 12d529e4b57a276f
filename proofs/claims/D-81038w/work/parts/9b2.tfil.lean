/-! RewriteHouseModel: what is bound is put in; what is beside -/
def rmT2 (M : Mo) (N : Tr → Prop) (σ0 : S) : Prop := ∀ s, TP M s → ExT σ0 s N → gI s 80 + 2 ≤ 200000 ∧ gI s 81 + 2000 ≤ 800000
theorem rmT2.rm {M : Mo} {N : Tr → Prop} {σ0 : S} (h : rmT2 M N σ0) : rmT M N σ0 := fun s x e => by
  have := h s x e; omega
theorem lenS {ts : List Tr} (h : ∀ t ∈ ts, isT t) : ts.length ≤ (ts.map trS).sum := trS_len h
theorem fltT_sum {M : Mo} {o : Int} (h0 : 0 ≤ o) {ts : List Tr} (h : ∀ t ∈ ts, NF M t) : ((fltT M o ts).map trS).sum ≤ (ts.map trS).sum := by
  rw [fltT_eq h0 h]
  have hf : ((fltR M o ts).map trS).sum ≤ (ts.map trS).sum := by
    unfold fltR
    split
    · exact flat_sum o ts (fun t ht => (h t ht).1)
    · exact Nat.le_refl _
  split
  · exact hf
  · have := filter_sum (fun t => decide (lab t ≠ mUn M o)) (fltR M o ts)
    omega
/-- making, of rows that may be made -/
theorem ts_mk {M : Mo} {σ : S} (h : TP M σ) {o a : Int} {n : Nat} {ts : List Tr} (ha : 0 ≤ a) (hpi : gI σ 83 = a + n) (hpi2 : a + n ≤ 20000) (hr : rowG (gA σ 58) σ a n ts) (hok : mkOk M o ts) (hs : (ts.map trS).sum ≤ 1999) (hd : ∀ t ∈ ts, trD t ≤ 86) (hr1 : gI σ 80 + 2 ≤ 200000) (hr2 : gI σ 81 + 2000 ≤ 800000) :
    t_make o a σ (tkQ M σ o a (fltT M o ts).length (mk M o ts)) := by
  have hM := h.wm
  have nf := hok.2.2.2
  have fs := fltT_sum (M := M) hok.1 nf
  have fnf : ∀ t ∈ fltT M o ts, NF M t ∧ trD t ≤ 86 := by
    intro t ht
    have e := fltT_eq hok.1 nf
    have key : ∀ u ∈ fltR M o ts, NF M u ∧ trD u ≤ 86 := by
      intro u hu
      refine ⟨(fltR_ok hok).1 u hu, ?_⟩
      unfold fltR at hu
      split at hu
      · obtain ⟨v, hv, z | z⟩ := flat_mem.mp hu
        · obtain ⟨c, us, ev, -, -⟩ := isT_ex (nf v hv).1
          have h1 := hd v hv
          rw [ev] at z h1
          rw [kids_N] at z
          have := (trD_N c us 85).mp h1 u z.2
          omega
        · rw [z.2]; exact hd v hv
      · exact hd u hu
    rw [e] at ht
    split at ht
    · exact key t ht
    · exact key t (List.mem_filter.mp ht).1
  have fl : (fltT M o ts).length ≤ 1999 := by
    have := lenS (ts := fltT M o ts) (fun t ht => (fnf t ht).1.1)
    omega
  have dp : ∀ l : List Tr, (∀ t ∈ l, trD t ≤ 86) → trD (trN o l) ≤ 88 := by
    intro l hl
    have := (trD_N o l 86).mpr hl
    omega
  have m3 : bigT (mk3 M o (fltT M o ts)) := by
    refine ⟨by rw [mk3_S]; omega, ?_⟩
    unfold mk3
    refine dp _ (fun t ht => ?_)
    split at ht
    · exact (fnf t (isort_mem.mp ht)).2
    · exact (fnf t ht).2
  have res := ts_make h hok.1 hok.2.1 ha hpi hpi2 hr (fun z => ?_) (fun h2 => ⟨?_, m3⟩) hr1 (by omega)
  · rw [mkV_mk hM hok] at res; exact res
  · refine ⟨Or.inr ⟨hok.1, hok.2.1, ?_, fun y => absurd z.2.1 y, fun y => absurd z.2.2 y⟩, by rw [trS_N]; omega, dp _ hd⟩
    have := hok.2.2.1
    rw [if_neg (fun y => y z.1)] at this ⊢
    exact this
  · have e := fltT_eq hok.1 nf
    by_cases hu : mUn M o = -2
    · rw [if_pos hu] at e
      rw [e]
      exact okN_mk3 hok.1 hok.2.1 (fltR_ok hok).2 (fun y => absurd hu y)
    · rw [if_neg hu] at e
      rw [e] at h2 ⊢
      exact okN_flt hM hok hu h2
theorem mk_nn {M : Mo} (hM : WM M) {o : Int} {ts : List Tr} (h : mkOk M o ts) : mk M o ts ≠ .nil := isT_ne_nil (NF_mk hM h).1
theorem eT0_ex {N : Tr → Prop} {σ s : S} {e : Int} (x : ExT σ s N) (hb : ∀ v, 0 ≤ v → v < 60 → olT σ (gA σ 79 (e + v))) (h1 : gA s 79 = gA σ 79) : eT0 s e = eT0 σ e ∧ ∀ v, 0 ≤ v → v < 60 → olT s (gA s 79 (e + v)) := by
  refine ⟨?_, fun v v0 v1 => by rw [h1]; exact (oT_ex x (hb v v0 v1)).1⟩
  funext v
  unfold eT0
  by_cases he : e < 0
  · rw [if_pos he, if_pos he]
  · rw [if_neg he, if_neg he]
    by_cases hv : 0 ≤ v ∧ v < 60
    · rw [if_pos hv, if_pos hv, h1, (oT_ex x (hb v hv.1 hv.2)).2]
    · rw [if_neg hv, if_neg hv]
theorem ts_putS {M : Mo} {N : Tr → Prop} {σ0 : S} (hr : rmT2 M N σ0) (hn0 : 0 ≤ gI σ0 80) {ρ : Env} {e : Int} (he0 : 0 ≤ e) (he1 : e + 60 ≤ 460000) : ∀ (n : Nat) (σ : S) (x : Int) (E : S → Prop), TP M σ → ExT σ0 σ N → lvT σ x → trS (tT σ x) ≤ n → trS (tT σ x) ≤ 40 → (∀ v, 0 ≤ v → v < 60 → olT σ (gA σ 79 (e + v))) → eT0 σ e = ρ → (∀ v, 0 ≤ v → occ v (tT σ x) → ρ v ≠ .nil ∧ trS (ρ v) ≤ 40) → (∀ u, flN M ρ (tT σ x) u → N u) → 0 ≤ gI σ 83 → gI σ 83 + 2 * (trS (tT σ x) : Int) ≤ 14000 →
    t_S_put n 0 [x, e] σ (fun r s => TP M s ∧ lvT s r ∧ tT s r = fil M ρ (tT σ x) ∧ ExT σ s N ∧ gI s 83 = gI σ 83 ∧ ∀ j, j < gI σ 83 → gA s 58 j = gA σ 58 j) E := by
  intro n
  induction n with
  | zero => intro σ x E xp _ hx hn; have := trS_pos (xp.T hx); omega
  | succ n ih =>
    intro σ x E xp e0 hx hn s40 hb hρ hocc hN ht0 ht1
    have rg := xp.rg
    have hM := xp.wm
    have nf := (xp.nd hx).2.2.1
    have kx := tT_kids xp hx
    have bx := lvT_b xp hx
    have op := xp.opr hx
    have ob := hM.2.2.1
    show t_put_F (t_S_put n) x e σ _
    unfold t_put_F
    refine ts_isVar xp hx ?_
    by_cases hv : gA σ 48 x < 0
    · rw [bi_t hv, if_neg (by decide)]
      refine ts_varOf xp hx ?_
      have hl : lab (tT σ x) < 0 := by rw [kx.1]; exact hv
      have ef := fil_var (M := M) (ρ := ρ) nf.1 hl
      have hne := (hocc (-1 - lab (tT σ x)) (by omega) ((occ_var nf hl).mpr rfl)).1
      rw [ef]
      rw [kx.1] at hne ⊢
      have bv : ρ (-1 - gA σ 48 x) = oT σ (gA σ 79 (e + (-1 - gA σ 48 x))) := by
        rw [← hρ]; unfold eT0; rw [if_neg (by omega), if_pos ⟨by omega, by omega⟩]
      rw [bv] at hne ⊢
      have lb : lvT σ (gA σ 79 (e + (-1 - gA σ 48 x))) := by
        rcases hb (-1 - gA σ 48 x) (by omega) (by omega) with z | z
        · have z' : gA σ 79 (e + (-1 - gA σ 48 x)) < 0 := by omega
          rw [oT_0 z'] at hne; exact absurd rfl hne
        · exact z
      rw [oT_n lb, w32_id (by omega) (by omega)]
      refine ⟨⟨by omega, by omega⟩, ?_⟩
      rw [if_neg (by have := lb.1; omega)]
      exact ⟨xp, lb, rfl, ExT.rf _ _, rfl, fun _ _ => rfl⟩
    · rw [bi_f hv, if_pos rfl]
      refine ⟨bx, ?_⟩
      have hl : 0 ≤ lab (tT σ x) := by rw [kx.1]; omega
      have esz := trS_eta nf
      have hlen := trS_len (ts := kids (tT σ x)) (fun t ht => (nf.kid ht).1)
      by_cases hz : gA σ 50 x = 0
      · rw [if_pos hz]
        have hnil : kids (tT σ x) = [] := List.length_eq_zero_iff.mp (by omega)
        rw [fil_con nf.1 hl hnil]
        exact ⟨xp, hx, rfl, ExT.rf _ _, rfl, fun _ _ => rfl⟩
      · rw [if_neg hz]
        have hne : kids (tT σ x) ≠ [] := fun z => by rw [z] at kx; simp at kx; omega
        have okB0 := eT0_ok xp (Or.inr hb)
        rw [hρ] at okB0
        have val2 : ∀ v, 0 ≤ v → occ v (tT σ x) → NF M (ρ v) ∧ trS (ρ v) ≤ 40 := by
          intro v v0 ho
          have h2 := hocc v v0 ho
          rcases Classical.em (0 ≤ v ∧ v < 60) with z | z
          · exact ⟨(okB0.1 v z.1 z.2).resolve_left h2.1, h2.2⟩
          · exact absurd (okB0.2 v (by omega)) h2.1
        have filK : ∀ u ∈ kids (tT σ x), NF M (fil M ρ u) ∧ trS (fil M ρ u) ≤ 40 * trS u ∧ trD (fil M ρ u) ≤ trD u + 39 := fun u hu => fil_all hM u (nf.kid hu).1 (nf.kid hu) (fun v v0 hv => val2 v v0 (occ_kid nf.1 hu hv))
        have ok := mkOk_map (g := fil M ρ) nf hl (fun u hu => (filK u hu).1)
        have ef := fil_mk (M := M) (ρ := ρ) nf.1 hl hne
        refine lt_put_L50 (fo_t_S_put n) (fun k s => ∃ i : Nat, k = (i : Int) ∧ i ≤ (kids (tT σ x)).length ∧ TP M s ∧ ExT σ s N ∧ Fr wT_put σ s ∧ gI s 83 = gI σ 83 + i ∧ rowG (gA s 58) s (gI σ 83) i (((kids (tT σ x)).take i).map (fil M ρ)) ∧ ∀ j, j < gI σ 83 → gA s 58 j = gA σ 58 j) (fun k _ => (((kids (tT σ x)).length : Int) - k).toNat) ⟨0, rfl, by omega, xp, ExT.rf _ _, Fr.rf, by simp, by simpa using rowG.nil, fun _ _ => rfl⟩ ?_
        rintro k s fr0 ⟨i, rfl, hi, xs, es, fr, htop, hrow, hlo⟩
        try dsimp only
        have lxs := es.lv hx
        have txs := es.t hx
        have kxs := tT_kids xs lxs
        rw [txs] at kxs
        refine ⟨bx, ?_⟩
        by_cases hk : (i : Int) < gA s 50 x
        · rw [if_pos hk]
          have hil : i < (kids (tT σ x)).length := by omega
          obtain ⟨q, hq⟩ : ∃ q, (kids (tT σ x))[i]? = some q := ⟨_, List.getElem?_eq_getElem hil⟩
          have hqm := List.mem_of_getElem? hq
          refine ts_kid xs lxs (k := i) (q := q) (by rw [txs]; exact hq) (fun y ly ey => ?_)
          have hbs := eT0_ex es hb (fr.a _ rfl)
          have qs := trS_kid (c := lab (tT σ x)) hqm
          rw [← nf.eta] at qs
          have hsum : (trS q : Int) + i ≤ trS (tT σ x) - 1 := by
            obtain ⟨l1, l2, e12, hl1⟩ : ∃ l1 l2, kids (tT σ x) = l1 ++ q :: l2 ∧ l1.length = i := by
              refine ⟨(kids (tT σ x)).take i, (kids (tT σ x)).drop (i + 1), ?_, by rw [List.length_take]; omega⟩
              have := (List.getElem?_eq_some_iff.mp hq).2
              rw [← this, ← List.drop_eq_getElem_cons hil, List.take_append_drop]
            have a1 := trS_len (ts := l1) (fun t ht => (nf.kid (by rw [e12]; exact List.mem_append_left _ ht)).1)
            rw [e12, List.map_append, List.sum_append, List.map_cons, List.sum_cons] at esz
            omega
          have ihq := ih s y (fun _ => False) xs (e0.trans es hn0) ly (by rw [ey]; omega) (by rw [ey]; omega) hbs.2 (hbs.1.trans hρ) (by rw [ey]; exact fun v v0 hv => hocc v v0 (occ_kid nf.1 hqm hv)) (by rw [ey]; exact fun u hu => hN u (flN_kid nf.1 hqm hu)) (by omega) (by rw [ey]; omega)
          rw [ey] at ihq
          refine fo_t_S_put n _ _ _ _ _ _ _ ihq (fun r s2 f2 q2 => ?_) (fun s2 f2 q2 => q2)
          obtain ⟨x2, lr, er, e2, top2, lo2⟩ := q2
          refine ts_push (by omega) (by omega) (fun s3 f3 et3 hv3 => ?_)
          obtain ⟨x3, l3⟩ := x2.fr f3 rfl
          rw [w32_id (by omega) (by omega)]
          have est : ((kids (tT σ x)).take (i + 1)).map (fil M ρ) = ((kids (tT σ x)).take i).map (fil M ρ) ++ [fil M ρ q] := by
            rw [List.take_add_one, hq, List.map_append]; rfl
          refine ⟨⟨i + 1, by omega, by omega, x3, (es.trans e2 rg.1).trans (ExT.of_fr f3 rfl) rg.1, Fr.trans fr (Fr.trans f2 (f3.weak rfl)), by omega, ?_, fun j hj => ?_⟩, by omega⟩
          · rw [est]
            refine rowG.app ((hrow.same (g := gA s2 58) (s := s2) (b := gI σ 83) (fun j j0 j1 => lo2 _ (by omega)) (fun y hy => ⟨e2.lv hy, e2.t hy⟩)).same (fun j j0 j1 => by rw [hv3, if_neg (by omega)]) l3) ?_
            have := rowG.one (f := gA s3 58) (σ := s3) (a := gI σ 83 + i) (by rw [hv3, if_pos (by omega)]; exact (l3 _ lr).1)
            rw [hv3, if_pos (by omega), (l3 _ lr).2, er] at this
            exact this
          · rw [hv3, if_neg (by omega), lo2 j (by omega)]
            exact hlo j hj
        · rw [if_neg hk]
          have ei : (kids (tT σ x)).take i = kids (tT σ x) := List.take_of_length_le (by omega)
          rw [ei] at hrow
          unfold t_put_j87
          refine ⟨bx, ?_⟩
          rw [← kxs.1, ef]
          have rm := hr s xs (e0.trans es hn0)
          have hNk : ∀ u, u = mk M (lab (tT σ x)) ((kids (tT σ x)).map (fil M ρ)) ∨ mUn M (lab (tT σ x)) ≠ -2 ∧ u = unT M (lab (tT σ x)) → N u := by
            rintro u (rfl | ⟨hu, rfl⟩)
            · exact hN _ (Or.inl ⟨_, subs_self nf.1, hl, hne, ef.symm⟩)
            · exact hN _ (Or.inr ⟨_, hl, nf.op hl, hu, rfl⟩)
          have sumF : (((kids (tT σ x)).map (fil M ρ)).map trS).sum ≤ 40 * ((kids (tT σ x)).map trS).sum := by
            have key : ∀ l : List Tr, (∀ u ∈ l, trS (fil M ρ u) ≤ 40 * trS u) → ((l.map (fil M ρ)).map trS).sum ≤ 40 * (l.map trS).sum := by
              intro l
              induction l with
              | nil => intro _; simp
              | cons u r ih2 =>
                intro hl2
                have a := hl2 u (List.mem_cons_self ..)
                have b := ih2 (fun y hy => hl2 y (List.mem_cons_of_mem _ hy))
                simp only [List.map_cons, List.sum_cons] at b ⊢
                omega
            exact key _ (fun u hu => (filK u hu).2.1)
          have depF : ∀ t ∈ (kids (tT σ x)).map (fil M ρ), trD t ≤ 86 := by
            intro t ht
            obtain ⟨u, hu, rfl⟩ := List.mem_map.mp ht
            have a := (filK u hu).2.2
            have b := trD_S (nf.kid hu).1
            have c := trS_mem hu
            omega
          refine fm_t_make (ts_mk xs ht0 htop (by omega) hrow ok (by omega) depF rm.1 rm.2) (fun r s2 f2 q => ?_)
          obtain ⟨q1, q2, q3, q4, q5, q6⟩ := q
          have lr := q2.resolve_left (fun z => mk_nn hM ok z.1)
          exact ⟨q1, lr.1, lr.2, es.trans (q3.mono hNk) rg.1, q5, fun j hj => by rw [f2.a 58 rfl]; exact hlo j hj⟩
theorem ts_putIn {M : Mo} {N : Tr → Prop} {σ0 : S} (hr : rmT2 M N σ0) (hn0 : 0 ≤ gI σ0 80) {ρ : Env} {e : Int} (he0 : 0 ≤ e) (he1 : e + 60 ≤ 460000) {σ : S} {x : Int} (xp : TP M σ) (e0 : ExT σ0 σ N) (hx : lvT σ x) (s40 : trS (tT σ x) ≤ 40) (hb : ∀ v, 0 ≤ v → v < 60 → olT σ (gA σ 79 (e + v))) (hρ : eT0 σ e = ρ) (hocc : ∀ v, 0 ≤ v → occ v (tT σ x) → ρ v ≠ .nil ∧ trS (ρ v) ≤ 40) (hN : ∀ u, flN M ρ (tT σ x) u → N u) (ht0 : 0 ≤ gI σ 83) (ht1 : gI σ 83 ≤ 13900) :
    t_putIn x e σ (fun r s => TP M s ∧ lvT s r ∧ tT s r = fil M ρ (tT σ x) ∧ trS (fil M ρ (tT σ x)) ≤ 40 ∧ ExT σ s N ∧ gI s 83 = gI σ 83 ∧ ∀ j, j < gI σ 83 → gA s 58 j = gA σ 58 j) (fun s => 40 < trS (fil M ρ (tT σ x)) ∧ gI s 1006 = 6 ∧ TP M s ∧ ExT σ s N) := by
  unfold t_putIn
  refine fm_t_put (ts_putS hr hn0 he0 he1 44 σ x _ xp e0 hx (by omega) s40 hb hρ hocc hN ht0 (by omega)) (fun r s f q => ?_)
  obtain ⟨q1, q2, q3, q4, q5, q6⟩ := q
  have nd := (q1.nd q2).1
  rw [q3] at nd
  refine ⟨lvT_b q1 q2, ?_⟩
  rw [nd]
  by_cases h : (trS (fil M ρ (tT σ x)) : Int) ≤ 40
  · rw [if_pos h]
    exact ⟨q1, q2, q3, by omega, q4, q5, q6⟩
  · rw [if_neg h]
    refine ts_fail (fun s2 f2 i => ⟨by omega, i, (q1.fr f2 rfl).1, q4.trans (ExT.of_fr f2 rfl) xp.rg.1⟩)
theorem ts_beside {M : Mo} {σ : S} (xp : TP M σ) {o x e : Int} {tx ta tb : Tr} (hx : lvT σ x) (ex : tT σ x = tx) (sx : trS tx ≤ 40) (he0 : 0 ≤ e) (he1 : e + 62 ≤ 460000) (oa : olT σ (gA σ 79 (e + 60))) (ob : olT σ (gA σ 79 (e + 61))) (ea : oT σ (gA σ 79 (e + 60)) = ta) (eb : oT σ (gA σ 79 (e + 61)) = tb) (sa : trS ta ≤ 40) (sb : trS tb ≤ 40) (hok : ¬ (ta = .nil ∧ tb = .nil) → 0 ≤ o ∧ o < mOps M ∧ mAs M o ≠ 0) (ht0 : 0 ≤ gI σ 83) (ht1 : gI σ 83 ≤ 14000) (hr1 : gI σ 80 + 2 ≤ 200000) (hr2 : gI σ 81 + 2000 ≤ 800000) :
    t_beside o x e σ (fun r s => (ta = .nil ∧ tb = .nil ∧ r = x ∧ s = σ) ∨ (¬ (ta = .nil ∧ tb = .nil) ∧ TP M s ∧ lvT s r ∧ tT s r = mk M o (besL ta tx tb) ∧ trS (mk M o (besL ta tx tb)) ≤ 40 ∧ ExT σ s (fun u => u = mk M o (besL ta tx tb) ∨ mUn M o ≠ -2 ∧ u = unT M o) ∧ gI s 83 = gI σ 83 ∧ ∀ j, j < gI σ 83 → gA s 58 j = gA σ 58 j))
      (fun s => ¬ (ta = .nil ∧ tb = .nil) ∧ 40 < trS (mk M o (besL ta tx tb)) ∧ gI s 1006 = 6 ∧ TP M s ∧ ExT σ s (fun u => u = mk M o (besL ta tx tb) ∨ mUn M o ≠ -2 ∧ u = unT M o)) := by
  have rg := xp.rg
  have hM := xp.wm
  have w60 : w32 (e + 60) = e + 60 := w32_id (by omega) (by omega)
  have w61 : w32 (e + 61) = e + 61 := w32_id (by omega) (by omega)
  generalize hga : gA σ 79 (e + 60) = a at *
  generalize hgb : gA σ 79 (e + 61) = b at *
  have nz : ∀ {y : Int}, olT σ y → (y < 0 ↔ oT σ y = .nil) := by
    intro y hy
    constructor
    · intro z; exact oT_0 z
    · intro z
      rcases hy with q | q
      · omega
      · rw [oT_n q] at z; exact absurd z (isT_ne_nil (xp.T q))
  unfold t_beside
  rw [w60, w61, hga, hgb]
  refine ⟨⟨by omega, by omega⟩, ⟨by omega, by omega⟩, ?_⟩
  by_cases h : a < 0 ∧ b < 0
  · rw [if_pos h]
    exact Or.inl ⟨by rw [← ea]; exact (nz oa).mp h.1, by rw [← eb]; exact (nz ob).mp h.2, rfl, rfl⟩
  · rw [if_neg h]
    have hn : ¬ (ta = .nil ∧ tb = .nil) := fun z => h ⟨(nz oa).mpr (by rw [ea]; exact z.1), (nz ob).mpr (by rw [eb]; exact z.2)⟩
    obtain ⟨o0, o1, oas⟩ := hok hn
    have fin : ∀ (s : S) (ts : List Tr), Fr ([83], [], [58]) σ s → gI s 83 = gI σ 83 + ts.length → rowG (gA s 58) s (gI σ 83) ts.length ts → (∀ j, j < gI σ 83 → gA s 58 j = gA σ 58 j) → besL ta tx tb = ts → 2 ≤ ts.length → ts.length ≤ 3 → (∀ t ∈ ts, NF M t ∧ trS t ≤ 40) → t_beside_j67 o (gI σ 83) s (fun r s => (ta = .nil ∧ tb = .nil ∧ r = x ∧ s = σ) ∨ (¬ (ta = .nil ∧ tb = .nil) ∧ TP M s ∧ lvT s r ∧ tT s r = mk M o (besL ta tx tb) ∧ trS (mk M o (besL ta tx tb)) ≤ 40 ∧ ExT σ s (fun u => u = mk M o (besL ta tx tb) ∨ mUn M o ≠ -2 ∧ u = unT M o) ∧ gI s 83 = gI σ 83 ∧ ∀ j, j < gI σ 83 → gA s 58 j = gA σ 58 j))
        (fun s => ¬ (ta = .nil ∧ tb = .nil) ∧ 40 < trS (mk M o (besL ta tx tb)) ∧ gI s 1006 = 6 ∧ TP M s ∧ ExT σ s (fun u => u = mk M o (besL ta tx tb) ∨ mUn M o ≠ -2 ∧ u = unT M o)) := by
      intro s ts f htop hrow hlo hbes h2 h3 hnf
      obtain ⟨xs, ls⟩ := xp.fr f rfl
      have es : ∀ N, ExT σ s N := fun N => ExT.of_fr f rfl
      have ok : mkOk M o ts := ⟨o0, o1, by rw [if_pos oas]; exact h2, fun t ht => (hnf t ht).1⟩
      have sums : (ts.map trS).sum ≤ 40 * ts.length := by
        have key : ∀ l : List Tr, (∀ t ∈ l, trS t ≤ 40) → (l.map trS).sum ≤ 40 * l.length := by
          intro l
          induction l with
          | nil => intro _; simp
          | cons u r ih2 =>
            intro hl2
            have a := hl2 u (List.mem_cons_self ..)
            have b := ih2 (fun y hy => hl2 y (List.mem_cons_of_mem _ hy))
            simp only [List.map_cons, List.sum_cons, List.length_cons]
            omega
        exact key ts (fun t ht => (hnf t ht).2)
      unfold t_beside_j67
      refine fm_t_make (ts_mk xs ht0 htop (by omega) hrow ok (by omega) (fun t ht => by have a := trD_S (hnf t ht).1.1; have b := (hnf t ht).2; omega) (by rw [f.i _ rfl]; exact hr1) (by rw [f.i _ rfl]; exact hr2)) (fun r s2 f2 q => ?_)
      obtain ⟨q1, q2, q3, q4, q5, q6⟩ := q
      have lr := q2.resolve_left (fun z => mk_nn hM ok z.1)
      have nd := (q1.nd lr.1).1
      rw [lr.2] at nd
      refine ⟨lvT_b q1 lr.1, ?_⟩
      rw [nd, hbes]
      have e2 := (es (fun u => u = mk M o ts ∨ mUn M o ≠ -2 ∧ u = unT M o)).trans q3 rg.1
      by_cases hs : (trS (mk M o ts) : Int) ≤ 40
      · rw [if_pos hs]
        exact Or.inr ⟨hn, q1, lr.1, lr.2, by omega, e2, q5, fun j hj => by rw [f2.a 58 rfl]; exact hlo j hj⟩
      · rw [if_neg hs]
        exact ts_fail (fun s3 f3 i => ⟨hn, by omega, i, (q1.fr f3 rfl).1, e2.trans (ExT.of_fr f3 rfl) rg.1⟩)
    have push : ∀ (s : S) (ts : List Tr) (y : Int), Fr ([83], [], [58]) σ s → gI s 83 = gI σ 83 + ts.length → rowG (gA s 58) s (gI σ 83) ts.length ts → (∀ j, j < gI σ 83 → gA s 58 j = gA σ 58 j) → ts.length ≤ 3 → lvT σ y → ∀ Q : Int → S → Prop, (∀ s2, Fr ([83], [], [58]) σ s2 → gI s2 83 = gI σ 83 + (ts ++ [tT σ y]).length → rowG (gA s2 58) s2 (gI σ 83) (ts ++ [tT σ y]).length (ts ++ [tT σ y]) → (∀ j, j < gI σ 83 → gA s2 58 j = gA σ 58 j) → Q 0 s2) → t_push y s Q := by
      intro s ts y f htop hrow hlo hlen ly Q hQ
      refine ts_push (by omega) (by omega) (fun s3 f3 et3 hv3 => ?_)
      obtain ⟨xs, ls⟩ := xp.fr f rfl
      obtain ⟨x3, l3⟩ := xs.fr f3 rfl
      have ly3 := l3 _ (ls _ ly).1
      refine hQ s3 (f.trans f3) (by rw [et3, htop, List.length_append]; simp only [List.length_cons, List.length_nil]; omega) ?_ (fun j hj => by rw [hv3, if_neg (by omega)]; exact hlo j hj)
      rw [List.length_append]
      refine rowG.app (hrow.same (fun j j0 j1 => by rw [hv3, if_neg (by omega)]) l3) ?_
      have := rowG.one (f := gA s3 58) (σ := s3) (a := gI σ 83 + ts.length) (by rw [hv3, if_pos (by omega)]; exact ly3.1)
      rw [hv3, if_pos (by omega), ly3.2, (ls _ ly).2] at this
      exact this
    have nfo : ∀ {y : Int}, lvT σ y → NF M (tT σ y) := fun hy => (xp.nd hy).2.2.1
    have st0 : Fr ([83], [], [58]) σ σ := Fr.rf
    by_cases ha : a < 0
    · rw [if_pos ha]
      have hb : ¬ b < 0 := fun z => h ⟨ha, z⟩
      have lb : lvT σ b := olT_lv ob hb
      have ea' : ta = .nil := by rw [← ea]; exact (nz oa).mp ha
      rw [oT_n lb] at eb
      unfold t_beside_j51
      refine push σ [] x st0 (by simp) (by simpa using rowG.nil) (fun _ _ => rfl) (by simp) hx _ (fun s2 f2 t2 r2 l2 => ?_)
      rw [if_neg hb]
      refine push s2 _ b f2 t2 r2 l2 (by simp) lb _ (fun s3 f3 t3 r3 l3 => ?_)
      refine fin s3 _ f3 t3 r3 l3 ?_ (by simp) (by simp) (fun t ht => ?_)
      · rw [ea', ← eb, besL_0n (isT_ne_nil (xp.T lb)), ex]; rfl
      · simp only [List.nil_append, List.cons_append, List.mem_cons, List.not_mem_nil, or_false] at ht
        rcases ht with rfl | rfl
        · exact ⟨nfo hx, by rw [ex]; exact sx⟩
        · exact ⟨nfo lb, by rw [eb]; exact sb⟩
    · rw [if_neg ha]
      have la : lvT σ a := olT_lv oa ha
      rw [oT_n la] at ea
      refine push σ [] a st0 (by simp) (by simpa using rowG.nil) (fun _ _ => rfl) (by simp) la _ (fun s1 f1 t1 r1 l1 => ?_)
      unfold t_beside_j51
      refine push s1 _ x f1 t1 r1 l1 (by simp) hx _ (fun s2 f2 t2 r2 l2 => ?_)
      by_cases hb : b < 0
      · rw [if_pos hb]
        refine fin s2 _ f2 t2 r2 l2 ?_ (by simp) (by simp) (fun t ht => ?_)
        · rw [← ea, ← eb, (nz ob).mp hb, besL_n0 (isT_ne_nil (xp.T la)), ex]; rfl
        · simp only [List.nil_append, List.cons_append, List.mem_cons, List.not_mem_nil, or_false] at ht
          rcases ht with rfl | rfl
          · exact ⟨nfo la, by rw [ea]; exact sa⟩
          · exact ⟨nfo hx, by rw [ex]; exact sx⟩
      · rw [if_neg hb]
        have lb : lvT σ b := olT_lv ob hb
        rw [oT_n lb] at eb
        refine push s2 _ b f2 t2 r2 l2 (by simp) lb _ (fun s3 f3 t3 r3 l3 => ?_)
        refine fin s3 _ f3 t3 r3 l3 ?_ (by simp) (by simp) (fun t ht => ?_)
        · rw [← ea, ← eb, besL_nn (isT_ne_nil (xp.T la)) (isT_ne_nil (xp.T lb)), ex]; rfl
        · simp only [List.nil_append, List.cons_append, List.mem_cons, List.not_mem_nil, or_false] at ht
          rcases ht with rfl | rfl | rfl
          · exact ⟨nfo la, by rw [ea]; exact sa⟩
          · exact ⟨nfo hx, by rw [ex]; exact sx⟩
          · exact ⟨nfo lb, by rw [eb]; exact sb⟩

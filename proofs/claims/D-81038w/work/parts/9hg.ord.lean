/-! both programs: the calls order, part, forget -/
theorem redC_det {M : Mo} {R : Ru} {a : Cl} {v r r' : Int} {b b' : Cl} (h : redC M R a v r b) (k : redC M R a v r' b') : r = r' ∧ b = b' := by
  rcases h with ⟨h1, h2, h3⟩ | ⟨h1, h2, h3, h4⟩ | ⟨t, h1, h2, h3, h4⟩
  · rcases k with ⟨k1, k2, k3⟩ | ⟨k1, k2, k3, k4⟩ | ⟨u, k1, k2, k3, k4⟩
    · exact ⟨by omega, by rw [h3, k3]⟩
    · exact absurd k1 h1
    · exact absurd k1 h1
  · rcases k with ⟨k1, k2, k3⟩ | ⟨k1, k2, k3, k4⟩ | ⟨u, k1, k2, k3, k4⟩
    · exact absurd h1 k1
    · exact ⟨by omega, by rw [h4, k4]⟩
    · omega
  · rcases k with ⟨k1, k2, k3⟩ | ⟨k1, k2, k3, k4⟩ | ⟨u, k1, k2, k3, k4⟩
    · exact absurd h1 k1
    · omega
    · rw [h2] at k2
      have e := Option.some.inj k2
      subst e
      have det : ∀ x y, RE (Wr M R 300000) 0 t (st0 (subs t)) x → RE (Wr M R 300000) 0 t (st0 (subs t)) y → x = y := fun x y p q => RE_det (fun _ _ _ _ _ _ c d => Wr_det c d) 0 t _ _ _ p q
      rcases h4 with ⟨w, n, e1, e2, e3⟩ | ⟨u, st', e1, e0, e2, e3⟩
      · rcases k4 with ⟨w', n', c1, c2, c3⟩ | ⟨u', st2, c1, c0, c2, c3⟩
        · have := det _ _ e1 c1
          injection this with this
          injection this with p q
          subst p q
          exact ⟨by rw [e2, c2], by rw [e3, c3]⟩
        · have := det _ _ e1 c1
          cases this
      · rcases k4 with ⟨w', n', c1, c2, c3⟩ | ⟨u', st2, c1, c0, c2, c3⟩
        · have := det _ _ e1 c1
          cases this
        · have := det _ _ e1 c1
          injection this with this
          injection this with p q
          subst p q
          exact ⟨by rw [e2, c2], by rw [e3, c3]⟩
def hdl (a : Cl) (v : Int) : Option Tr := if 0 ≤ v then a.1[v.toNat]? else none
theorem hdl_some {a : Cl} {v : Int} (h : 0 ≤ v ∧ v < (a.1.length : Int)) : ∃ t, hdl a v = some t ∧ a.1[v.toNat]? = some t := by
  have hl : v.toNat < a.1.length := by omega
  refine ⟨_, ?_, List.getElem?_eq_getElem hl⟩
  unfold hdl
  rw [if_pos h.1, List.getElem?_eq_getElem hl]
theorem hdl_none {a : Cl} {v : Int} (h : ¬ (0 ≤ v ∧ v < (a.1.length : Int))) : hdl a v = none := by
  unfold hdl
  by_cases z : 0 ≤ v
  · rw [if_pos z, List.getElem?_eq_none (by omega)]
  · rw [if_neg z]
def ordF (a : Cl) (v w : Int) : Int := match hdl a v, hdl a w with
  | some t, some u => cmT t u
  | _, _ => -9
theorem inT.halt {M : Mo} {R : Ru} {sx : Int → Int} {UM UP : List Tr} {a : Cl} {σ s0 : S} (h : inT M R sx UM UP a σ) (hs0 : s0 = pI σ 0 0) : inT M R sx UM UP a s0 ∧ gI s0 121 = gI σ 121 := by
  have f0 : Fr ([0], [], []) σ s0 := Fr.rf.putI hs0 rfl
  have g0 : gwT σ s0 := EyT.of_fr f0 rfl
  obtain ⟨⟨m1, m2, m3, m4⟩, kp, cs⟩ := h
  exact ⟨⟨⟨(m1.fr f0 rfl).1, m2.fr g0 f0 rfl, m3.to g0 (f0.i _ rfl) (f0.a _ rfl) (f0.a _ rfl) (f0.a _ rfl) (f0.a _ rfl) (f0.a _ rfl) (f0.a _ rfl) (f0.a _ rfl) (f0.a _ rfl), m4⟩, kp.fr m2 g0 f0 rfl, cs.fr g0 f0 rfl rfl⟩, f0.i _ rfl⟩
theorem inT.hd {M : Mo} {R : Ru} {sx : Int → Int} {UM UP : List Tr} {a : Cl} {σ : S} (h : inT M R sx UM UP a σ) {v : Int} {t : Tr} (v0 : 0 ≤ v) (ht : a.1[v.toNat]? = some t) : lvT σ (gA σ 70 v) ∧ tT σ (gA σ 70 v) = t := by
  have := h.2.2.1.2 v.toNat t ht
  rw [show ((v.toNat : Nat) : Int) = v by omega] at this
  exact this
theorem xc_order {M : Mo} {R : Ru} {a : Cl} {σ : S} (h : MB M R σ) (hc : csX M a σ) {v w : Int} : x_order v w σ (fun r s => r = ordF a v w ∧ MB M R s ∧ csX M a s) (fun _ => False) := by
  have hlen := hc.2.1.1
  unfold x_order
  refine xs_isHandle hc.1 hlen ?_
  by_cases hv : 0 ≤ v ∧ v < (a.1.length : Int)
  · show (if bi (0 ≤ v ∧ v < (a.1.length : Int)) = 0 then _ else _)
    rw [bi_t hv, if_neg (by decide)]
    refine xs_isHandle hc.1 hlen ?_
    obtain ⟨t, ht, ht2⟩ := hdl_some hv
    by_cases hw : 0 ≤ w ∧ w < (a.1.length : Int)
    · show (if bi (0 ≤ w ∧ w < (a.1.length : Int)) = 0 then _ else _)
      rw [bi_t hw, if_neg (by decide)]
      obtain ⟨u, hu, hu2⟩ := hdl_some hw
      refine fm_x_begin (xs_begin h) ?_
      rintro r1 s1 - ⟨f1, b1⟩
      refine fm_x_termAt (xs_termAt b1 (by omega) (hc.fr f1 rfl rfl) hv.1 ht2) ?_ (fun _ _ h => h)
      rintro x s2 - ⟨-, b2, c2, lx, ex, -⟩
      refine fm_x_termAt (xs_termAt b2 (by omega) c2 hw.1 hu2) ?_ (fun _ _ h => h)
      rintro y s3 - ⟨-, b3, c3, ly, ey, e3⟩
      refine xs_compare b3.1.1 (e3.lv lx) ly ?_
      rw [e3.t lx, ex, ey]
      refine ⟨?_, b3.1, c3⟩
      unfold ordF; rw [ht, hu]
    · show (if bi (0 ≤ w ∧ w < (a.1.length : Int)) = 0 then _ else _)
      rw [bi_f hw, if_pos rfl]
      refine ⟨?_, h, hc⟩
      unfold ordF; rw [ht, hdl_none hw]
  · show (if bi (0 ≤ v ∧ v < (a.1.length : Int)) = 0 then _ else _)
    rw [bi_f hv, if_pos rfl]
    refine ⟨?_, h, hc⟩
    unfold ordF; rw [hdl_none hv]
theorem tc_order {M : Mo} {R : Ru} {sx : Int → Int} {UM UP : List Tr} {a : Cl} {σ : S} (h : inT M R sx UM UP a σ) {v w : Int} : t_order v w σ (fun r s => r = ordF a v w ∧ inT M R sx UM UP a s ∧ gI s 121 = gI σ 121) := by
  have hlen := h.2.2.2.1.1
  unfold t_order
  rintro s0 hs0
  obtain ⟨i0, c0⟩ := h.halt hs0
  refine ts_noHandle i0.2.2 ?_
  show (if bi (¬ (0 ≤ v ∧ v < (a.1.length : Int))) = 0 then _ else _)
  by_cases hv : 0 ≤ v ∧ v < (a.1.length : Int)
  · rw [bi_f (by omega), if_pos rfl]
    obtain ⟨t, ht, ht2⟩ := hdl_some hv
    refine ts_noHandle i0.2.2 ?_
    show (if bi (¬ (0 ≤ w ∧ w < (a.1.length : Int))) = 0 then _ else _)
    by_cases hw : 0 ≤ w ∧ w < (a.1.length : Int)
    · rw [bi_f (by omega), if_pos rfl]
      obtain ⟨u, hu, hu2⟩ := hdl_some hw
      obtain ⟨l1, e1⟩ := i0.hd hv.1 ht2
      obtain ⟨l2, e2⟩ := i0.hd hw.1 hu2
      refine ⟨⟨hv.1, by omega⟩, ⟨hw.1, by omega⟩, ?_⟩
      refine ts_orderOf i0.1.1 l1 l2 ?_
      rw [e1, e2]
      refine ⟨?_, i0, c0⟩
      unfold ordF; rw [ht, hu]
    · rw [bi_t hw, if_neg (by decide)]
      unfold t_order_j21
      refine ⟨?_, i0, c0⟩
      unfold ordF; rw [ht, hdl_none hw]
  · rw [bi_t hv, if_neg (by decide)]
    unfold t_order_j21
    refine ⟨?_, i0, c0⟩
    unfold ordF; rw [hdl_none hv]
/-- a part of a term becomes a handle -/
def parF (a : Cl) (v k : Int) : Int × Cl := match hdl a v with
  | some t => if ¬ (0 ≤ k ∧ k < ((kids t).length : Int)) then (-1, a) else if a.1.length = 200 then (-3, a) else ((a.1.length : Int), (a.1 ++ [(kids t).getD k.toNat .nil], a.2))
  | none => (-1, a)
theorem kidX {M : Mo} {σ : S} (h : XP M σ) {x : Int} (lx : lvX σ x) : gA σ 68 x = ((kids (tX σ x)).length : Int) ∧ ∀ k, 0 ≤ k → k < gA σ 68 x → lvX σ (gA σ 73 (gA σ 67 x + k)) ∧ (kids (tX σ x)).getD k.toNat .nil = tX σ (gA σ 73 (gA σ 67 x + k)) := by
  have at_ := h.at lx
  have e := tX_row h lx
  have ek : kids (tX σ x) = (rowI (gA σ 73) (gA σ 67 x) (gA σ 68 x).toNat).map (tX σ) := by rw [e, kids_N]
  refine ⟨by rw [ek, List.length_map, rowI_len]; omega, fun k k0 k1 => ⟨(at_.2.2.2.2 k k0 k1).1, ?_⟩⟩
  rw [ek, List.getD_eq_getElem?_getD, List.getElem?_map, rowI_get _ _ (by omega), show ((k.toNat : Nat) : Int) = k by omega]
  rfl
theorem kidT {M : Mo} {σ : S} (h : TP M σ) {x : Int} (lx : lvT σ x) : gA σ 50 x = ((kids (tT σ x)).length : Int) ∧ ∀ k, 0 ≤ k → k < gA σ 50 x → lvT σ (gA σ 56 (gA σ 49 x + k)) ∧ (kids (tT σ x)).getD k.toNat .nil = tT σ (gA σ 56 (gA σ 49 x + k)) := by
  have at_ := h.at lx
  have e := tT_row h lx
  have ek : kids (tT σ x) = (rowI (gA σ 56) (gA σ 49 x) (gA σ 50 x).toNat).map (tT σ) := by rw [e, kids_N]
  refine ⟨by rw [ek, List.length_map, rowI_len]; omega, fun k k0 k1 => ⟨(at_.2.2.2 k k0 k1).1, ?_⟩⟩
  rw [ek, List.getD_eq_getElem?_getD, List.getElem?_map, rowI_get _ _ (by omega), show ((k.toNat : Nat) : Int) = k by omega]
  rfl
theorem kidOk {M : Mo} {t : Tr} (ht : okT M t) {k : Int} (k0 : 0 ≤ k) (k1 : k < ((kids t).length : Int)) : okT M ((kids t).getD k.toNat .nil) := by
  have hl : k.toNat < (kids t).length := by omega
  rw [List.getD_eq_getElem?_getD, List.getElem?_eq_getElem hl]
  exact ht.kid (List.getElem_mem hl)
theorem xc_part {M : Mo} {R : Ru} {a : Cl} {σ : S} (h : MB M R σ) (hc : csX M a σ) {v k : Int} : x_part v k σ (fun r s => r = (parF a v k).1 ∧ MB M R s ∧ csX M (parF a v k).2 s) (fun _ => False) := by
  have hlen := hc.2.1.1
  unfold x_part
  refine xs_isHandle hc.1 hlen ?_
  show (if bi (0 ≤ v ∧ v < (a.1.length : Int)) = 0 then _ else _)
  by_cases hv : 0 ≤ v ∧ v < (a.1.length : Int)
  · rw [bi_t hv, if_neg (by decide)]
    obtain ⟨t, ht, ht2⟩ := hdl_some hv
    refine fm_x_begin (xs_begin h) ?_
    rintro r1 s1 - ⟨f1, b1⟩
    refine fm_x_termAt (xs_termAt b1 (by omega) (hc.fr f1 rfl rfl) hv.1 ht2) ?_ (fun _ _ h => h)
    rintro x s2 - ⟨-, b2, c2, lx, ex, -⟩
    have kx := kidX b2.1.1 lx
    have rg := b2.1.1.rg
    have at_ := b2.1.1.at lx
    have ot : okT M t := by rw [← ex]; exact b2.1.1.ok lx
    rw [ex] at kx
    refine ⟨⟨by have := lx.1; omega, by have := lx.2; omega⟩, ?_⟩
    unfold x_within
    rw [w32_id (by omega) (by omega)]
    have e : bi (¬ (k < 0) ∧ (k ≤ gA s2 68 x - 1)) = bi (0 ≤ k ∧ k < ((kids t).length : Int)) := by
      by_cases z : 0 ≤ k ∧ k < ((kids t).length : Int)
      · rw [bi_t z, bi_t (by omega)]
      · rw [bi_f z, bi_f (by omega)]
    rw [e]
    show (if bi (0 ≤ k ∧ k < ((kids t).length : Int)) = 0 then _ else _)
    by_cases hk : 0 ≤ k ∧ k < ((kids t).length : Int)
    · rw [bi_t hk, if_neg (by decide), c2.1.1]
      by_cases h2 : (a.1.length : Int) = 200
      · rw [if_pos h2]
        have e2 : parF a v k = (-3, a) := by
          unfold parF; rw [ht]; simp only
          rw [if_neg (by omega), if_pos (by omega)]
        rw [e2]
        exact ⟨rfl, b2.1, c2⟩
      · rw [if_neg h2]
        have e2 : parF a v k = ((a.1.length : Int), (a.1 ++ [(kids t).getD k.toNat .nil], a.2)) := by
          unfold parF; rw [ht]; simp only
          rw [if_neg (by omega), if_neg (by omega)]
        rw [e2]
        obtain ⟨ly, ey⟩ := kx.2 k hk.1 (by omega)
        refine xs_at b2.1.1 lx hk.1 (by omega) ?_
        refine fm_x_newHandle (xs_newHandle b2.1.1 c2.1 c2.2.1 (by omega) ly) ?_
        rintro r s3 f3 ⟨hr, hx⟩
        rw [← ey] at hx
        have x3 := b2.1.1.fr f3 rfl
        exact ⟨hr, b2.1.fr x3 (EyX.of_fr f3 rfl) f3 rfl, hx, c2.2.1.snoc (by omega) (kidOk ot hk.1 hk.2), by rw [f3.i _ rfl]; exact c2.2.2.1, by rw [f3.i _ rfl]; exact c2.2.2.2⟩
    · rw [bi_f hk, if_pos rfl]
      have e2 : parF a v k = (-1, a) := by
        unfold parF; rw [ht]; simp only
        rw [if_pos hk]
      rw [e2]
      exact ⟨rfl, b2.1, c2⟩
  · rw [bi_f hv, if_pos rfl]
    have e2 : parF a v k = (-1, a) := by unfold parF; rw [hdl_none hv]
    rw [e2]
    exact ⟨rfl, h, hc⟩
theorem in_eq {v n : Int} : bi (¬ (cmpI v 0 < 0) ∧ (cmpI v n ≤ 0)) = bi (0 ≤ v ∧ v ≤ n) := by
  by_cases z : 0 ≤ v ∧ v ≤ n
  · have : ¬ (cmpI v 0 < 0) ∧ (cmpI v n ≤ 0) := by
      unfold cmpI
      refine ⟨?_, ?_⟩
      · rw [if_neg (by omega)]; split <;> omega
      · split
        · omega
        · split <;> omega
    rw [bi_t this, bi_t z]
  · have : ¬ (¬ (cmpI v 0 < 0) ∧ (cmpI v n ≤ 0)) := by
      rintro ⟨x, y⟩
      unfold cmpI at x y
      apply z
      refine ⟨?_, ?_⟩
      · by_cases k : v < 0
        · rw [if_pos k] at x; omega
        · omega
      · by_cases k : v < n
        · omega
        · rw [if_neg k] at y
          by_cases k2 : v = n
          · omega
          · rw [if_neg k2] at y; omega
    rw [bi_f this, bi_f z]
theorem tc_part {M : Mo} {R : Ru} {sx : Int → Int} {UM UP : List Tr} {a : Cl} {σ : S} (h : inT M R sx UM UP a σ) {v k : Int} : t_part v k σ (fun r s => r = (parF a v k).1 ∧ inT M R sx UM UP (parF a v k).2 s ∧ gI s 121 = gI σ 121) := by
  have hlen := h.2.2.2.1.1
  unfold t_part
  rintro s0 hs0
  obtain ⟨i0, c0⟩ := h.halt hs0
  refine ts_noHandle i0.2.2 ?_
  show (if bi (¬ (0 ≤ v ∧ v < (a.1.length : Int))) = 0 then _ else _)
  by_cases hv : 0 ≤ v ∧ v < (a.1.length : Int)
  · rw [bi_f (by omega), if_pos rfl]
    obtain ⟨t, ht, ht2⟩ := hdl_some hv
    obtain ⟨lx, ex⟩ := i0.hd hv.1 ht2
    have xp := i0.1.1
    have rg := xp.rg
    have kx := kidT xp lx
    have at_ := xp.at lx
    have ot : okT M t := i0.2.2.2.1.2 t (List.mem_of_getElem? ht2)
    have k39 := kids_40 ot.1.1 ot.2
    rw [ex] at kx
    refine ⟨⟨hv.1, by omega⟩, ⟨lx.1, by have := lx.2; omega⟩, ?_⟩
    unfold t_in
    rw [in_eq, w32_id (by omega) (by omega)]
    have e : bi (0 ≤ k ∧ k ≤ gA s0 50 (gA s0 70 v) - 1) = bi (0 ≤ k ∧ k < ((kids t).length : Int)) := by
      by_cases z : 0 ≤ k ∧ k < ((kids t).length : Int)
      · rw [bi_t z, bi_t (by omega)]
      · rw [bi_f z, bi_f (by omega)]
    rw [e]
    show (if bi (0 ≤ k ∧ k < ((kids t).length : Int)) = 0 then _ else _)
    by_cases hk : 0 ≤ k ∧ k < ((kids t).length : Int)
    · rw [bi_t hk, if_neg (by decide), i0.2.2.1.1]
      by_cases h2 : (a.1.length : Int) = 200
      · rw [if_pos h2]
        have e2 : parF a v k = (-3, a) := by
          unfold parF; rw [ht]; simp only
          rw [if_neg (by omega), if_pos (by omega)]
        rw [e2]
        exact ⟨rfl, i0, c0⟩
      · rw [if_neg h2]
        have e2 : parF a v k = ((a.1.length : Int), (a.1 ++ [(kids t).getD k.toNat .nil], a.2)) := by
          unfold parF; rw [ht]; simp only
          rw [if_neg (by omega), if_neg (by omega)]
        rw [e2]
        obtain ⟨ly, ey⟩ := kx.2 k hk.1 (by omega)
        refine ⟨⟨hv.1, by omega⟩, ?_⟩
        refine ts_arg xp lx hk.1 (by omega) ?_
        refine fm_t_newHandle (ts_newHandle xp ⟨i0.1.2.1, i0.2.1, i0.2.2⟩ (by omega) ly (by rw [← ey]; exact kidOk ot hk.1 hk.2)) ?_
        rintro r s3 f3 ⟨hr, hx⟩
        rw [← ey] at hx
        have g3 : gwT s0 s3 := EyT.of_fr f3 rfl
        refine ⟨hr, ⟨⟨(xp.fr f3 rfl).1, hx.1, i0.1.2.2.1.to g3 (f3.i _ rfl) (f3.a _ rfl) (f3.a _ rfl) (f3.a _ rfl) (f3.a _ rfl) (f3.a _ rfl) (f3.a _ rfl) (f3.a _ rfl) (f3.a _ rfl), i0.1.2.2.2⟩, hx.2.1, hx.2.2⟩, by rw [f3.i _ rfl]; exact c0⟩
    · rw [bi_f hk, if_pos rfl]
      have e2 : parF a v k = (-1, a) := by
        unfold parF; rw [ht]; simp only
        rw [if_pos hk]
      rw [e2]
      exact ⟨rfl, i0, c0⟩
  · rw [bi_t hv, if_neg (by decide)]
    have e2 : parF a v k = (-1, a) := by unfold parF; rw [hdl_none hv]
    rw [e2]
    exact ⟨rfl, i0, c0⟩
theorem xc_forget {M : Mo} {R : Ru} {a : Cl} {σ : S} (h : MB M R σ) (hc : csX M a σ) : x_forget σ (fun r s => r = (a.1.length : Int) ∧ MB M R s ∧ csX M ([], a.2) s) := by
  unfold x_forget
  rintro s hs
  have f : Fr ([111], [], []) σ s := Fr.rf.putI hs rfl
  have x := h.1.fr f rfl
  refine ⟨hc.1.1, h.fr x (EyX.of_fr f rfl) f rfl, ⟨by rw [hs, gI_pI, if_pos rfl]; rfl, fun i t ht => by cases ht⟩, ⟨by show 0 ≤ 200; omega, fun t ht => by cases ht⟩, by rw [f.i _ rfl]; exact hc.2.2.1, by rw [f.i _ rfl]; exact hc.2.2.2⟩
theorem tc_forget {M : Mo} {R : Ru} {sx : Int → Int} {UM UP : List Tr} {a : Cl} {σ : S} (h : inT M R sx UM UP a σ) : t_forget σ (fun r s => r = (a.1.length : Int) ∧ inT M R sx UM UP ([], a.2) s ∧ gI s 121 = gI σ 121) := by
  unfold t_forget
  rintro s0 hs0
  obtain ⟨i0, c0⟩ := h.halt hs0
  rintro s hs
  have f : Fr ([101], [], []) s0 s := Fr.rf.putI hs rfl
  have g : gwT s0 s := EyT.of_fr f rfl
  have e : gI s 101 = 0 := by rw [hs, gI_pI, if_pos rfl]
  obtain ⟨⟨m1, m2, m3, m4⟩, kp, cs⟩ := i0
  obtain ⟨o1, o2, o3, o4, o5⟩ := id m2
  refine ⟨cs.1.1, ⟨⟨(m1.fr f rfl).1, ⟨fun y hy => ?_, by rw [f.i _ rfl]; exact o2, by rw [f.i _ rfl, f.a _ rfl]; exact o3, by rw [e]; omega, by rw [f.i _ rfl]; exact o5⟩, m3.to g (f.i _ rfl) (f.a _ rfl) (f.a _ rfl) (f.a _ rfl) (f.a _ rfl) (f.a _ rfl) (f.a _ rfl) (f.a _ rfl) (f.a _ rfl), m4⟩, kp.fr m2 g f rfl, ⟨e, fun i t ht => by cases ht⟩, ⟨by show 0 ≤ 200; omega, fun t ht => by cases ht⟩, by rw [f.i _ rfl]; exact cs.2.2.1, by rw [f.i _ rfl]; exact cs.2.2.2⟩, by rw [f.i _ rfl]; exact c0⟩
  rcases rtT_or.mp hy with k | ⟨k, ⟨k0, k1⟩, z⟩
  · exact g.lv (o1 y (rtT_or.mpr (Or.inl ((rtN.fr f rfl y).mp k))))
  · rw [e] at k1; omega

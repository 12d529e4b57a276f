/-! RewriteHouse: the call reduce -/
/-- handles; steps told, last stop -/
abbrev Cl : Type := List Tr × Int × Int
def redC (M : Mo) (R : Ru) (a : Cl) (v r : Int) (b : Cl) : Prop :=
  (¬ (0 ≤ v ∧ v < (a.1.length : Int)) ∧ r = -1 ∧ b = a) ∨ ((0 ≤ v ∧ v < (a.1.length : Int)) ∧ a.1.length = 200 ∧ r = -3 ∧ b = a) ∨
  ∃ t, (0 ≤ v ∧ v < (a.1.length : Int)) ∧ a.1[v.toNat]? = some t ∧ a.1.length < 200 ∧
    ((∃ w n, RE (Wr M R 300000) 0 t (st0 (subs t)) (.inl (w, n)) ∧ r = w32 (-20 - w) ∧ b = (a.1, n, w)) ∨ ∃ u st', RE (Wr M R 300000) 0 t (st0 (subs t)) (.inr (u, st')) ∧ okT M u ∧ r = (a.1.length : Int) ∧ b = (a.1 ++ [u], stS st', a.2.2))
def csX (M : Mo) (a : Cl) (σ : S) : Prop := HX a.1 σ ∧ okH M a.1 ∧ gI σ 162 = a.2.1 ∧ gI σ 151 = a.2.2
theorem csX.fr {M : Mo} {a : Cl} {σ s : S} {w : List Nat × List Nat × List Nat} (h : csX M a σ) (f : Fr w σ s) (hw : apt w [111] [77] = true) (hw2 : apt w [162, 151] [] = true) : csX M a s := by
  have hi := apt_i hw2 f
  simp only [List.forall_mem_cons] at hi
  exact ⟨h.1.fr f hw, h.2.1, by rw [hi.1]; exact h.2.2.1, by rw [hi.2.1]; exact h.2.2.2⟩
theorem bgX.se {n : Int} {M : Mo} {R : Ru} {s : S} (h : bgX n M R s) : SE 0 s := by
  obtain ⟨mb, hm, ⟨c1, c2, c3, c4, c5⟩, ⟨i1, i2, i3, i4, i5, i6, i7⟩, -⟩ := h
  exact ⟨i1, by omega, by omega, by omega, by omega, by omega, i6, i7⟩
theorem okH.snoc {M : Mo} {hs : List Tr} {t : Tr} (h : okH M hs) (hl : hs.length < 200) (ht : okT M t) : okH M (hs ++ [t]) := by
  refine ⟨by rw [List.length_append]; simp; omega, fun u hu => ?_⟩
  rcases List.mem_append.mp hu with e | e
  · exact h.2 u e
  · rw [List.mem_singleton.mp e]; exact ht
/-- a handle's term comes -/
theorem xs_termAt {M : Mo} {R : Ru} {a : Cl} {n : Int} {σ : S} {t : Tr} {v : Int} (hb : bgX n M R σ) (hn : 0 ≤ n ∧ n ≤ 5) (hc : csX M a σ) (v0 : 0 ≤ v) (ht : a.1[v.toNat]? = some t) : x_termAt v σ (fun r s => Fr wX_termAt σ s ∧ bgX (n + 1) M R s ∧ csX M a s ∧ lvX s r ∧ tX s r = t ∧ ExX σ s (fun u => u ∈ subs t)) (fun _ => False) := by
  have hl : v.toNat < a.1.length := by
    by_cases z : v.toNat < a.1.length
    · exact z
    · rw [List.getElem?_eq_none (by omega)] at ht; cases ht
  have := hc.2.1.1
  have ar := hc.1.2 _ _ ht
  rw [show ((v.toNat : Nat) : Int) = v by omega] at ar
  unfold x_termAt
  have L4 := dH
  rw [w32_id (by omega) (by omega)]
  refine fm_x_loadFrom (xs_come svA_h (by omega) hb hn (hc.2.1.2 t (List.mem_of_getElem? ht)) ar (by omega) (by omega)) ?_ (fun _ _ h => h)
  rintro r s f0 ⟨f, b, l, e, x⟩
  exact ⟨f0.weak rfl, b, hc.fr f rfl rfl, l, e, x⟩
theorem xs_reduce {M : Mo} {R : Ru} {a : Cl} {σ : S} (h : MB M R σ) (hOt : isOt M) (hc : csX M a σ) {v : Int} : x_reduce v σ (fun r s => ∃ b, redC M R a v r b ∧ MB M R s ∧ csX M b s) := by
  obtain ⟨hs, ls, lp⟩ := a
  have hlen := hc.2.1.1
  have hw : hs.length ≤ 200 := hlen
  unfold x_reduce
  refine xs_isHandle hc.1 hlen ?_
  show (if bi (0 ≤ v ∧ v < (hs.length : Int)) = 0 then _ else _)
  by_cases hv : 0 ≤ v ∧ v < (hs.length : Int)
  · rw [bi_t hv, if_neg (by decide)]
    have hh : gI σ 111 = (hs.length : Int) := hc.1.1
    by_cases h2 : gI σ 111 = 200
    · rw [if_pos h2]
      exact ⟨(hs, ls, lp), Or.inr (Or.inl ⟨hv, by show hs.length = 200; omega, rfl, rfl⟩), h, hc⟩
    rw [if_neg h2]
    have hl : v.toNat < hs.length := by omega
    obtain ⟨t, ht⟩ : ∃ t, hs[v.toNat]? = some t := ⟨_, List.getElem?_eq_getElem hl⟩
    refine fm_x_begin (xs_begin h) ?_
    rintro r1 s1 - ⟨f1, b1⟩
    have c1 : csX M (hs, ls, lp) s1 := hc.fr f1 rfl rfl
    refine fm_x_termAt (xs_termAt b1 (by omega) c1 hv.1 ht) ?_ (fun _ _ h => h.elim)
    rintro x s2 f2 ⟨-, b2, c2, lx, ex, -⟩
    have cx := (b2.cx (by omega) (a0 := 40) (r0 := 40) (by omega) (by omega)).weak (a0 := 40) (r0 := 40) (by omega) (by omega)
    have ot : okT M (tX s2 x) := b2.1.1.ok lx
    obtain ⟨w1, w2⟩ := wi_start (R := R) ot
    refine fm_x_toRest (xs_toRest cx hOt (b2.xr (subs (tX s2 x))) w1 lx w2 b2.se) ?_ ?_
    · rintro y s3 f3 ⟨st', e3, ly, k3⟩
      have mb3 : MB M R s3 := b2.1.fr k3.1.1 k3.2.1 f3 rfl
      have c3 : csX M (hs, ls, lp) s3 := c2.fr f3 rfl rfl
      unfold x_tellSteps
      rintro s4 hs4
      have f4 : Fr ([162], [], []) s3 s4 := Fr.rf.putI hs4 rfl
      have x4 := k3.1.1.fr f4 rfl
      have ty : tX s4 y = tX s3 y := tX_fr f4 rfl y
      have mb4 : MB M R s4 := mb3.fr x4 (EyX.of_fr f4 rfl) f4 rfl
      refine fm_x_newHandle (xs_newHandle x4 (c3.1.fr f4 rfl) c3.2.1 (by show hs.length < 200; omega) (x := y) ⟨ly.1, by rw [f4.i _ rfl]; exact ly.2⟩) ?_
      rintro r s5 f5 ⟨hr, hx⟩
      rw [ty] at hx
      have ou : okT M (tX s3 y) := k3.1.1.ok ly
      have x5 := x4.fr f5 rfl
      rw [ex] at e3
      refine ⟨(hs ++ [tX s3 y], stS st', lp), Or.inr (Or.inr ⟨t, hv, ht, by show hs.length < 200; omega, Or.inr ⟨_, st', e3, ou, hr, rfl⟩⟩), mb4.fr x5 (EyX.of_fr f5 rfl) f5 rfl, hx, hc.2.1.snoc (by show hs.length < 200; omega) ou, ?_, ?_⟩
      · show gI s5 162 = stS st'
        rw [f5.i _ rfl, hs4, gI_pI, if_pos rfl]
        exact k3.1.2.2.2.1.1.1
      · show gI s5 151 = lp
        rw [f5.i _ rfl, f4.i _ rfl]
        exact c3.2.2.2
    · rintro s3 f3 ⟨e3, k3⟩
      have mb3 : MB M R s3 := b2.1.fr k3.1 k3.2 f3 rfl
      have c3 : csX M (hs, ls, lp) s3 := c2.fr f3 rfl rfl
      unfold x_reduce_j47 x_tellSteps
      rintro s4 hs4
      unfold x_stopped
      rintro s5 hs5
      have f5 : Fr ([162, 151], [], []) s3 s5 := (Fr.rf.putI hs4 rfl).putI hs5 rfl
      have x5 := k3.1.fr f5 rfl
      rw [ex] at e3
      have i6 : gI s5 1006 = gI s3 1006 := by rw [f5.i _ rfl]
      rw [i6]
      refine ⟨(hs, gI s3 131, gI s3 1006), Or.inr (Or.inr ⟨t, hv, ht, by show hs.length < 200; omega, Or.inl ⟨_, _, e3, rfl, rfl⟩⟩), mb3.fr x5 (EyX.of_fr f5 rfl) f5 rfl, c3.1.fr f5 rfl, hc.2.1, ?_, ?_⟩
      · show gI s5 162 = gI s3 131
        rw [hs5, gI_pI, if_neg (by decide), hs4, gI_pI, if_pos rfl]
      · show gI s5 151 = gI s3 1006
        rw [hs5, gI_pI, if_pos rfl, hs4, gI_pI, if_neg (by decide)]
  · rw [bi_f hv, if_pos rfl]
    exact ⟨(hs, ls, lp), Or.inl ⟨hv, rfl, rfl⟩, h, hc⟩

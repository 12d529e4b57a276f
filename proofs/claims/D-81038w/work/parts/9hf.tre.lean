/-! RewriteHouseModel: the call reduce -/
theorem ts_noHandle {M : Mo} {a : Cl} {σ : S} (h : csT M a σ) {v : Int} {Q : Int → S → Prop} (hQ : Q (bi (¬ (0 ≤ v ∧ v < (a.1.length : Int)))) σ) : t_noHandle v σ Q := by
  have hl := h.2.1.1
  unfold t_noHandle t_in
  rw [h.1.1, w32_id (by omega) (by omega)]
  have e : bi (bi (¬ (cmpI v 0 < 0) ∧ (cmpI v ((a.1.length : Int) - 1) ≤ 0)) = 0) = bi (¬ (0 ≤ v ∧ v < (a.1.length : Int))) := by
    by_cases z : 0 ≤ v ∧ v < (a.1.length : Int)
    · have : ¬ (cmpI v 0 < 0) ∧ (cmpI v ((a.1.length : Int) - 1) ≤ 0) := by
        unfold cmpI
        refine ⟨?_, ?_⟩
        · rw [if_neg (by omega)]; split <;> omega
        · split
          · omega
          · split <;> omega
      rw [bi_t this, bi_f (by omega), bi_f (by omega)]
    · have : ¬ (¬ (cmpI v 0 < 0) ∧ (cmpI v ((a.1.length : Int) - 1) ≤ 0)) := by
        rintro ⟨x, y⟩
        unfold cmpI at x y
        apply z
        refine ⟨?_, ?_⟩
        · by_cases k : v < 0
          · rw [if_pos k] at x; omega
          · omega
        · by_cases k : v < (a.1.length : Int) - 1
          · omega
          · rw [if_neg k] at y
            by_cases k2 : v = (a.1.length : Int) - 1
            · omega
            · rw [if_neg k2] at y; omega
      rw [bi_f this, bi_t rfl, bi_t z]
  show Q (bi (bi (¬ (cmpI v 0 < 0) ∧ (cmpI v ((a.1.length : Int) - 1) ≤ 0)) = 0)) σ
  rw [e]
  exact hQ
theorem ts_reduce {M : Mo} {R : Ru} {sx : Int → Int} {UM UP : List Tr} {a : Cl} {σ : S} (hU : kpU UM UP) (hOt : isOt M) (h : inT M R sx UM UP a σ) (hn : gI σ 121 ≤ 1000000000) {v : Int} : t_reduce v σ (fun r s => ∃ b, redC M R a v r b ∧ inT M R sx UM UP b s ∧ gI s 121 ≤ gI σ 121 + 1) := by
  obtain ⟨hs, ls, lp⟩ := a
  have hlen := h.2.2.2.1.1
  have hw : hs.length ≤ 200 := hlen
  unfold t_reduce
  rintro s0 hs0
  have f0 : Fr ([0], [], []) σ s0 := Fr.rf.putI hs0 rfl
  have g0 : gwT σ s0 := EyT.of_fr f0 rfl
  have i0 : inT M R sx UM UP (hs, ls, lp) s0 := by
    obtain ⟨⟨m1, m2, m3, m4⟩, kp, cs⟩ := h
    exact ⟨⟨(m1.fr f0 rfl).1, m2.fr g0 f0 rfl, m3.to g0 (f0.i _ rfl) (f0.a _ rfl) (f0.a _ rfl) (f0.a _ rfl) (f0.a _ rfl) (f0.a _ rfl) (f0.a _ rfl) (f0.a _ rfl) (f0.a _ rfl), m4⟩, kp.fr m2 g0 f0 rfl, cs.fr g0 f0 rfl rfl⟩
  have cn0 : gI s0 121 = gI σ 121 := f0.i _ rfl
  refine ts_noHandle i0.2.2 ?_
  show (if bi (¬ (0 ≤ v ∧ v < (hs.length : Int))) = 0 then _ else _)
  by_cases hv : 0 ≤ v ∧ v < (hs.length : Int)
  · rw [bi_f (by omega), if_pos rfl]
    have hh : gI s0 101 = (hs.length : Int) := i0.2.2.1.1
    by_cases h2 : gI s0 101 = 200
    · rw [if_pos h2]
      exact ⟨(hs, ls, lp), Or.inr (Or.inl ⟨hv, by show hs.length = 200; omega, rfl, rfl⟩), i0, by omega⟩
    rw [if_neg h2]
    have hl : v.toNat < hs.length := by omega
    obtain ⟨t, ht⟩ : ∃ t, hs[v.toNat]? = some t := ⟨_, List.getElem?_eq_getElem hl⟩
    refine fm_t_beginCall (ts_open hU i0 (by omega)) ?_
    rintro r1 s1 - ⟨b1, c1, cn1, -⟩
    obtain ⟨lx, ex⟩ := c1.2.2.1.2 v.toNat t ht
    rw [show ((v.toNat : Nat) : Int) = v by omega] at lx ex
    have ot : okT M t := c1.2.2.2.1.2 t (List.mem_of_getElem? ht)
    refine ⟨⟨hv.1, by omega⟩, ?_⟩
    have cx := (b1.cx (a0 := 40) (r0 := 40) (by omega) (by omega)).weak (a0 := 40) (r0 := 40) (by omega) (by omega)
    obtain ⟨w1, w2⟩ := wi_start (R := R) ot
    rw [← ex] at w1 w2 ot
    have fin : ∀ s2 : S, TP M s2 → gwT s1 s2 → Fr wT_reduced s1 s2 → RuT M R sx s2 ∧ caT M UM UP (hs, ls, lp) s2 := fun s2 x2 g2 f2 =>
      ⟨b1.2.1.to g2 (f2.i _ rfl) (f2.a _ rfl) (f2.a _ rfl) (f2.a _ rfl) (f2.a _ rfl) (f2.a _ rfl) (f2.a _ rfl) (f2.a _ rfl) (f2.a _ rfl), c1.fr g2 f2 rfl rfl rfl rfl⟩
    refine fm_t_reduced (ts_reduced cx hOt (b1.tr (subs (tT s1 (gA s1 70 v)))) w1 lx ot w2 b1.sy) ?_ ?_
    · rintro y s2 f2 ⟨st', e2, ly, k2⟩
      obtain ⟨ru2, c2⟩ := fin s2 k2.1.1 k2.2.1 f2
      rintro s3 hs3
      have f3 : Fr ([145], [], []) s2 s3 := Fr.rf.putI hs3 rfl
      have g3 : gwT s2 s3 := EyT.of_fr f3 rfl
      obtain ⟨x3, l3⟩ := k2.1.1.fr f3 rfl
      have c3 : caT M UM UP (hs, gI s2 120, lp) s3 := ⟨c2.1.fr g3 f3 rfl, c2.2.1.fr c2.1 g3 f3 rfl, c2.2.2.1.fr g3 f3 rfl, c2.2.2.2.1, by show gI s3 145 = _; rw [hs3, gI_pI, if_pos rfl], by show gI s3 144 = lp; rw [f3.i _ rfl]; exact c2.2.2.2.2.2⟩
      have ou : okT M (tT s2 y) := (RE_wi cx.1.wm (hE_ofT cx) 0 _ _ _ _ ot w1 w2 e2).2.2.2
      rw [ex] at e2
      have ly3 := (l3 y ly).1
      refine fm_t_newHandle (ts_newHandle x3 c3 (by show hs.length < 200; omega) ly3 (by rw [(l3 y ly).2]; exact ou)) ?_
      rintro r s4 f4 ⟨hr, c4⟩
      rw [(l3 y ly).2] at c4
      have g4 : gwT s3 s4 := EyT.of_fr f4 rfl
      have e5 : gI s2 120 = stS st' := k2.1.2.2.2.1.1.1
      rw [e5] at c4
      refine ⟨(hs ++ [tT s2 y], stS st', lp), Or.inr (Or.inr ⟨t, hv, ht, by show hs.length < 200; omega, Or.inr ⟨_, st', e2, ou, hr, rfl⟩⟩), ⟨⟨(x3.fr f4 rfl).1, c4.1, (ru2.to g3 (f3.i _ rfl) (f3.a _ rfl) (f3.a _ rfl) (f3.a _ rfl) (f3.a _ rfl) (f3.a _ rfl) (f3.a _ rfl) (f3.a _ rfl) (f3.a _ rfl)).to g4 (f4.i _ rfl) (f4.a _ rfl) (f4.a _ rfl) (f4.a _ rfl) (f4.a _ rfl) (f4.a _ rfl) (f4.a _ rfl) (f4.a _ rfl) (f4.a _ rfl), b1.2.2.1⟩, c4.2.1, c4.2.2⟩, ?_⟩
      rw [f4.i _ rfl, f3.i _ rfl, f2.i _ rfl, cn1, cn0]
      exact Int.le_refl _
    · rintro s2 f2 ⟨e2, k2⟩
      obtain ⟨ru2, c2⟩ := fin s2 k2.1 k2.2 f2
      rw [ex] at e2
      unfold t_reduce_j58
      rintro s3 hs3
      unfold t_stopped
      rintro s4 hs4
      have f4 : Fr ([145, 144], [], []) s2 s4 := (Fr.rf.putI hs3 rfl).putI hs4 rfl
      have g4 : gwT s2 s4 := EyT.of_fr f4 rfl
      have i6 : gI s4 1006 = gI s2 1006 := by rw [f4.i _ rfl]
      rw [i6]
      refine ⟨(hs, gI s2 120, gI s2 1006), Or.inr (Or.inr ⟨t, hv, ht, by show hs.length < 200; omega, Or.inl ⟨_, _, e2, rfl, rfl⟩⟩), ⟨⟨(k2.1.fr f4 rfl).1, c2.1.fr g4 f4 rfl, ru2.to g4 (f4.i _ rfl) (f4.a _ rfl) (f4.a _ rfl) (f4.a _ rfl) (f4.a _ rfl) (f4.a _ rfl) (f4.a _ rfl) (f4.a _ rfl) (f4.a _ rfl), b1.2.2.1⟩, c2.2.1.fr c2.1 g4 f4 rfl, c2.2.2.1.fr g4 f4 rfl, c2.2.2.2.1, ?_, ?_⟩, ?_⟩
      · show gI s4 145 = gI s2 120
        rw [hs4, gI_pI, if_neg (by decide), hs3, gI_pI, if_pos rfl]
      · show gI s4 144 = gI s2 1006
        rw [hs4, gI_pI, if_pos rfl, hs3, gI_pI, if_neg (by decide)]
      · rw [f4.i _ rfl, f2.i _ rfl, cn1, cn0]
        exact Int.le_refl _
  · rw [bi_t hv, if_neg (by decide)]
    exact ⟨(hs, ls, lp), Or.inl ⟨hv, rfl, rfl⟩, i0, by omega⟩

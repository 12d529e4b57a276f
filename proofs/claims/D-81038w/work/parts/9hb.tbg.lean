/-! RewriteHouseModel: a call starts over from what is kept -/
/-- between calls -/
def MBT (M : Mo) (R : Ru) (sx : Int → Int) (σ : S) : Prop := TP M σ ∧ rtO σ ∧ RuT M R sx σ ∧ ∀ s, stX M s → RuOK M R s
/-- a call begun -/
def bgT (M : Mo) (R : Ru) (sx : Int → Int) (s : S) : Prop := TP M s ∧ RuT M R sx s ∧ (∀ k, stX M k → RuOK M R k) ∧ ((∀ x, lvT s x → gA s 55 x < gI s 121) ∧ 1 ≤ gI s 121) ∧ (gI s 80 ≤ 20000 ∧ gI s 81 ≤ 80000) ∧
  (gI s 120 = 0 ∧ gI s 124 = 0 ∧ gI s 119 = 0 ∧ gL s 123 = 0 ∧ gI s 122 = 300000) ∧ (gI s 83 = 0 ∧ gI s 126 = 0 ∧ gI s 113 = 0 ∧ gI s 129 = 0 ∧ gI s 132 = 0)
theorem RuT.mv {M : Mo} {R : Ru} {sx : Int → Int} {σ s : S} {g : Int → Int} (h : RuT M R sx σ) (O : ∀ y, rtT σ y → lvT s (g y) ∧ tT s (g y) = tT σ y) (hR : ∀ k, stX M k → RuOK M R k) (hM : WM M) (f : Fr wT_makeRoom σ s) (hst : ∀ k, 0 ≤ k → k < gI σ 45 → gA s 64 k = g (gA σ 64 k) ∧ gA s 65 k = g (gA σ 65 k) ∧ ∀ c, 0 ≤ c → c < gA σ 29 k → gA s 66 (6 * k + c) = g (gA σ 66 (6 * k + c)) ∧ (0 ≤ gA σ 67 (6 * k + c) → gA s 67 (6 * k + c) = g (gA σ 67 (6 * k + c)))) : RuT M R sx s := by
  obtain ⟨h1, h2, h3, h4⟩ := h
  refine ⟨fun k hk => ?_, by rw [f.i _ rfl]; exact h2, h3, by rw [f.i _ rfl]; exact h4⟩
  obtain ⟨⟨a0, a1⟩, b, ⟨cl, ce⟩, ⟨dl, de⟩, e, g6⟩ := h1 k hk
  obtain ⟨x1, x2, x3⟩ := hst (sx k) a0 a1
  have r1 := O _ (Or.inl ⟨sx k, ⟨a0, a1⟩, Or.inl rfl⟩)
  have r2 := O _ (Or.inl ⟨sx k, ⟨a0, a1⟩, Or.inr (Or.inl rfl)⟩)
  refine ⟨⟨a0, by rw [f.i _ rfl]; exact a1⟩, by rw [f.a _ rfl]; exact b, ?_, ?_, by rw [f.a _ rfl]; exact e, fun c c0 c1 => ?_⟩
  · rw [x1]; exact ⟨r1.1, r1.2.trans ce⟩
  · rw [x2]; exact ⟨r2.1, r2.2.trans de⟩
  · obtain ⟨k1, ⟨k2, k3⟩, k4, k5⟩ := g6 c c0 c1
    obtain ⟨y1, y2⟩ := x3 c c0 (by rw [e]; exact c1)
    have r3 := O _ (Or.inl ⟨sx k, ⟨a0, a1⟩, Or.inr (Or.inr ⟨c, ⟨c0, by rw [e]; exact c1⟩, Or.inl rfl⟩)⟩)
    refine ⟨by rw [f.a _ rfl]; exact k1, ?_, fun z => ?_, fun z => by rw [f.a _ rfl]; exact k5 z⟩
    · rw [y1]; exact ⟨r3.1, r3.2.trans k3⟩
    · obtain ⟨l1, l2⟩ := k4 z
      have r4 := O _ (Or.inl ⟨sx k, ⟨a0, a1⟩, Or.inr (Or.inr ⟨c, ⟨c0, by rw [e]; exact c1⟩, Or.inr ⟨rfl, l1.1⟩⟩)⟩)
      rw [y2 l1.1]
      exact ⟨r4.1, r4.2.trans l2⟩
/-- the counters start over -/
theorem ts_beginTry {M : Mo} {R : Ru} {sx : Int → Int} {σ : S} (h : TP M σ) (hr : RuT M R sx σ) (hR : ∀ k, stX M k → RuOK M R k) (hc : (∀ x, lvT σ x → gA σ 55 x ≤ gI σ 121) ∧ 0 ≤ gI σ 121 ∧ gI σ 121 ≤ 1000000000) (hn : gI σ 80 ≤ 20000 ∧ gI σ 81 ≤ 80000) : t_beginTry σ (fun _ s => bgT M R sx s ∧ Fr wT_beginTry σ s ∧ gI s 121 = gI σ 121 + 1 ∧ ∀ x, lvT σ x → lvT s x ∧ tT s x = tT σ x) := by
  unfold t_beginTry
  rintro s1 hs1 s2 hs2 s3 hs3 s4 hs4 s5 hs5 s6 hs6 s7 hs7 s8 hs8 s9 hs9 s10 hs10 s11 hs11
  have f : Fr wT_beginTry σ s11 := ((((((((((Fr.rf.putI hs1 rfl).putL hs2 rfl).putI hs3 rfl).putI hs4 rfl).putI hs5 rfl).putI hs6 rfl).putI hs7 rfl).putI hs8 rfl).putI hs9 rfl).putI hs10 rfl).putI hs11 rfl
  have vals : gI s11 120 = 0 ∧ gI s11 124 = 0 ∧ gI s11 119 = 0 ∧ gL s11 123 = 0 ∧ gI s11 122 = 300000 ∧ gI s11 83 = 0 ∧ gI s11 126 = 0 ∧ gI s11 113 = 0 ∧ gI s11 129 = 0 ∧ gI s11 132 = 0 ∧ gI s11 121 = w32 (gI σ 121 + 1) := by
    rw [hs11, hs10, hs9, hs8, hs7, hs6, hs5, hs4, hs3, hs2, hs1]
    exact ⟨rfl, rfl, rfl, rfl, rfl, rfl, rfl, rfl, rfl, rfl, rfl⟩
  obtain ⟨v1, v2, v3, v4, v5, v6, v7, v8, v9, v10, v11⟩ := vals
  rw [w32_id (by omega) (by omega)] at v11
  have hcn : CN s11 := by
    refine ⟨by omega, fun x lx => ?_⟩
    rw [f.a _ rfl, v11]
    have := hc.1 x ⟨lx.1, by have := lx.2; rw [f.i _ rfl] at this; exact this⟩
    omega
  obtain ⟨hs, hl⟩ := h.fr0 hcn f rfl
  have eT : ∀ x, tT s11 x = tT σ x := fun x => by unfold tT; rw [f.a _ rfl, f.a _ rfl, f.a _ rfl, f.a _ rfl]
  have gw : gwT σ s11 := ⟨by rw [f.i _ rfl]; exact Int.le_refl _, fun x _ => eT x, fun x a b => by rw [f.i _ rfl] at b; omega⟩
  refine ⟨⟨hs, hr.to gw (f.i _ rfl) (f.a _ rfl) (f.a _ rfl) (f.a _ rfl) (f.a _ rfl) (f.a _ rfl) (f.a _ rfl) (f.a _ rfl) (f.a _ rfl), hR, ⟨fun x lx => ?_, by omega⟩, ⟨by rw [f.i _ rfl]; exact hn.1, by rw [f.i _ rfl]; exact hn.2⟩, ⟨v1, v2, v3, v4, v5⟩, v6, v7, v8, v9, v10⟩, f, v11, hl⟩
  rw [f.a _ rfl, v11]
  have := hc.1 x ⟨lx.1, by have := lx.2; rw [f.i _ rfl] at this; exact this⟩
  omega
theorem ts_beginCall {M : Mo} {R : Ru} {sx : Int → Int} {σ : S} {U : List Tr} (h : MBT M R sx σ) (hn : gI σ 121 ≤ 1000000000) (hU : ∀ y, rtT σ y → okT M (tT σ y) ∧ ∀ q ∈ subs (tT σ y), q ∈ U) (u1 : U.length ≤ 20000) (u2 : (U.map wt).sum ≤ 80000) : t_beginCall σ (fun _ s => bgT M R sx s ∧ (∃ g q, rmQ M σ g q ∧ Fr wT_beginTry q s ∧ ∀ x, lvT q x → lvT s x ∧ tT s x = tT q x) ∧ gI s 121 = gI σ 121 + 1) := by
  obtain ⟨h1, h2, h3, h4⟩ := h
  unfold t_beginCall
  refine fm_t_makeRoom (ts_makeRoom h1 h2 hU u1 u2) ?_
  rintro r q - ⟨g, rm, n1, n2⟩
  obtain ⟨q1, q2, q3, q4, q5, q6, q7, q8⟩ := id rm
  have hr := h3.mv q3 h4 h1.wm q2 (fun k k0 k1 => ⟨(q4 k k0 k1).1, (q4 k k0 k1).2.1, fun c c0 c1 => ⟨((q4 k k0 k1).2.2 c c0 c1).1, ((q4 k k0 k1).2.2 c c0 c1).2.1⟩⟩)
  have hc : (∀ x, lvT q x → gA q 55 x ≤ gI q 121) ∧ 0 ≤ gI q 121 ∧ gI q 121 ≤ 1000000000 := ⟨q1.cn.2, q1.cn.1, by rw [q2.i _ rfl]; exact hn⟩
  refine fm_t_beginTry (ts_beginTry q1 hr h4 hc ⟨n1, n2⟩) ?_
  rintro r2 s - ⟨b1, b2, b3, b4⟩
  exact ⟨b1, ⟨g, q, rm, b2, b4⟩, by rw [b3, q2.i _ rfl]⟩
theorem bgT.tr {M : Mo} {R : Ru} {sx : Int → Int} {s : S} (h : bgT M R sx s) (A : List Tr) : TR M R 300000 sx s (st0 A) s := by
  obtain ⟨h1, h2, h3, ⟨h4, h5⟩, h6, h7, h8⟩ := h
  refine ⟨h1, ⟨fun x lx => ⟨fun e => ?_, fun _ => rfl⟩, fun t ht => absurd rfl ht⟩, EyT.rf _ _, ⟨h7, ⟨by show (0:Int) ≤ 0; omega, by show (0:Int) ≤ 600; omega⟩, ⟨by show (0:Int) ≤ 0; omega, by show (0:Int) ≤ 4000; omega⟩, ⟨by show (0:Int) ≤ 0; omega, by show (0:Int) ≤ 6000; omega⟩, ⟨by show (0:Int) ≤ 0; omega, by show (0:Int) ≤ 3000000; omega⟩⟩, h2, h5⟩
  have := h4 x lx
  omega
theorem bgT.cx {M : Mo} {R : Ru} {sx : Int → Int} {s : S} (h : bgT M R sx s) {a0 r0 : Int} (ha : a0 ≤ 200) (hr : r0 ≤ 100) : cxT2 M R 300000 s (a0 + 50) (r0 + 50) := by
  obtain ⟨h1, h2, h3, h4, h6, h7, h8⟩ := h
  have := h1.rg
  exact ⟨h1, ⟨by omega, by omega, by omega⟩, h3, by omega⟩
theorem bgT.sy {M : Mo} {R : Ru} {sx : Int → Int} {s : S} (h : bgT M R sx s) : SY 0 s := by
  obtain ⟨h1, h2, h3, h4, h6, ⟨c1, c2, c3, -⟩, d1, d2, d3, -⟩ := h
  exact ⟨by omega, by omega, by omega, by omega⟩

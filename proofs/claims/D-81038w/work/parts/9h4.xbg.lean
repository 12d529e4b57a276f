/-! RewriteHouse: a call starts over from the module -/
def RXb (n : Int) (M : Mo) (R : Ru) (σ : S) (s : Int) : Prop :=
  ((1 ≤ gA σ 78 s ∧ gA σ 78 s < n) ∧ tX σ (gA σ 78 s) = ruL R s) ∧ ((1 ≤ gA σ 79 s ∧ gA σ 79 s < n) ∧ tX σ (gA σ 79 s) = ruR R s) ∧
  ∀ c, 0 ≤ c → c < mCn M s → ((1 ≤ gA σ 80 (6 * s + c) ∧ gA σ 80 (6 * s + c) < n) ∧ tX σ (gA σ 80 (6 * s + c)) = ruC R (6 * s + c)) ∧ (mCs M (6 * s + c) ≠ 2 → (1 ≤ gA σ 81 (6 * s + c) ∧ gA σ 81 (6 * s + c) < n) ∧ tX σ (gA σ 81 (6 * s + c)) = ruO R (6 * s + c)) ∧ (mCs M (6 * s + c) = 2 → gA σ 81 (6 * s + c) = ruS R (6 * s + c))
/-- the module stands -/
def MB (M : Mo) (R : Ru) (σ : S) : Prop := XP M σ ∧ baX σ ∧ (gI σ 94 ≤ gI σ 93 ∧ gI σ 94 ≤ 10000 ∧ gI σ 103 ≤ 15000) ∧ (∀ k, stX M k → RXb (gI σ 94) M R σ k) ∧ ∀ s, stX M s → RuOK M R s
theorem RXb.to {n : Int} {M : Mo} {R : Ru} {σ s : S} {k : Int} (h : RXb n M R σ k) (hn : n ≤ gI σ 93) (e : ∀ x, lvX σ x → tX s x = tX σ x) (e1 : gA s 78 = gA σ 78) (e2 : gA s 79 = gA σ 79) (e3 : gA s 80 = gA σ 80) (e4 : gA s 81 = gA σ 81) : RXb n M R s k := by
  unfold RXb
  rw [e1, e2, e3, e4]
  obtain ⟨a, b, c⟩ := h
  have lt : ∀ x, 1 ≤ x ∧ x < n → lvX σ x := fun x hx => ⟨hx.1, by omega⟩
  refine ⟨⟨a.1, (e _ (lt _ a.1)).trans a.2⟩, ⟨b.1, (e _ (lt _ b.1)).trans b.2⟩, fun i i0 i1 => ?_⟩
  obtain ⟨d1, d2, d3⟩ := c i i0 i1
  exact ⟨⟨d1.1, (e _ (lt _ d1.1)).trans d1.2⟩, fun z => ⟨(d2 z).1, (e _ (lt _ (d2 z).1)).trans (d2 z).2⟩, d3⟩
theorem RXb.rx {n : Int} {M : Mo} {R : Ru} {σ : S} {k : Int} (h : RXb n M R σ k) (hn : n ≤ gI σ 93) : RX M R σ k := by
  obtain ⟨a, b, c⟩ := h
  have lt : ∀ x, 1 ≤ x ∧ x < n → lvX σ x := fun x hx => ⟨hx.1, by omega⟩
  refine ⟨⟨lt _ a.1, a.2⟩, ⟨lt _ b.1, b.2⟩, fun i i0 i1 => ?_⟩
  obtain ⟨d1, d2, d3⟩ := c i i0 i1
  exact ⟨⟨lt _ d1.1, d1.2⟩, fun z => ⟨lt _ (d2 z).1, (d2 z).2⟩, d3⟩
/-- the module stands after the pool has grown -/
theorem MB.grow {M : Mo} {R : Ru} {σ s : S} (h : MB M R σ) (k : XP M s) (e : gwX σ s) (e0 : gI s 94 = gI σ 94) (e5 : gI s 103 = gI σ 103) (em : ∀ x, lvX σ x → gA s 68 x = gA σ 68 x) (e1 : gA s 78 = gA σ 78) (e2 : gA s 79 = gA σ 79) (e3 : gA s 80 = gA σ 80) (e4 : gA s 81 = gA σ 81) : MB M R s := by
  obtain ⟨h1, ⟨h2, h3⟩, ⟨h4, h5, h6⟩, h7, h8⟩ := h
  refine ⟨k, ⟨by omega, ?_⟩, ⟨by have := e.1; omega, by omega, by omega⟩, fun i hi => ?_, h8⟩
  · rw [e5, e0, h3]
    congr 1
    exact rowI_congr (fun j j0 j1 => (em (1 + j) ⟨by omega, by omega⟩).symm)
  · rw [e0]
    exact (h7 i hi).to h4 e.2.1 e1 e2 e3 e4
theorem many_same {M : Mo} {σ s : S} (h : XP M σ) (k : XP M s) (e : gwX σ s) {x : Int} (lx : lvX σ x) : gA s 68 x = gA σ 68 x := by
  have e1 := e.2.1 _ lx
  rw [tX_row h lx, tX_row k (e.lv lx)] at e1
  have := congrArg List.length (trN_inj e1).2
  rw [List.length_map, rowI_len, List.length_map, rowI_len] at this
  have a1 := (h.at lx).1
  have a2 := (k.at (e.lv lx)).1
  omega
theorem MB.fr {M : Mo} {R : Ru} {σ s : S} {w : List Nat × List Nat × List Nat} (h : MB M R σ) (k : XP M s) (e : gwX σ s) (f : Fr w σ s) (hw : apt w [94, 103] [78, 79, 80, 81] = true) : MB M R s := by
  have hi := apt_i hw f
  have ha := apt_a hw f
  simp only [List.forall_mem_cons] at hi ha
  exact h.grow k e hi.1 hi.2.1 (fun x lx => many_same h.1 k e lx) ha.1 ha.2.1 ha.2.2.1 ha.2.2.2.1
def st0 (A : List Tr) : ST := (fun _ => .nil, A, 0, 0, 0, 0)
/-- a call begun: n terms have come -/
def bgX (n : Int) (M : Mo) (R : Ru) (s : S) : Prop := MB M R s ∧ (∀ x, lvX s x → gA s 75 x = 0) ∧ (gI s 131 = 0 ∧ gI s 132 = 0 ∧ gI s 128 = 0 ∧ gL s 129 = 0 ∧ gL s 130 = 300000) ∧ RI 0 s ∧ (gI s 121 = 0 ∧ gI s 106 = 0) ∧ (∀ v, 0 ≤ v → v < 60 → gA s 83 v = 0) ∧ (gI s 93 ≤ 10000 + 40 * n ∧ gI s 102 ≤ 15000 + 1560 * n)
theorem xs_begin {M : Mo} {R : Ru} {σ : S} (h : MB M R σ) : x_begin σ (fun _ s => Fr wX_begin σ s ∧ bgX 0 M R s) := by
  unfold x_begin
  refine fm_x_dropNodes (xs_dropNodes h.1 h.2.1 h.2.2.1.1) ?_
  rintro r s - ⟨xp, n1, p1, eT, hr, tp, f⟩
  rintro s1 hs1 s2 hs2 s3 hs3 s4 hs4 s5 hs5 s6 hs6 s7 hs7 s8 hs8 s9 hs9 s10 hs10 s11 hs11 s12 hs12
  have f12 : Fr ([121, 134, 138, 139, 141, 143, 123, 128, 131, 132], [129, 130], []) s s12 := (((((((((((Fr.rf.putI hs1 rfl).putI hs2 rfl).putI hs3 rfl).putI hs4 rfl).putI hs5 rfl).putI hs6 rfl).putI hs7 rfl).putI hs8 rfl).putL hs9 rfl).putL hs10 rfl).putI hs11 rfl).putI hs12 rfl
  have vals : gI s12 121 = 0 ∧ gI s12 134 = 0 ∧ gI s12 138 = 0 ∧ gI s12 139 = 0 ∧ gI s12 141 = 0 ∧ gI s12 143 = 0 ∧ gI s12 123 = 0 ∧ gI s12 128 = 0 ∧ gI s12 131 = 0 ∧ gI s12 132 = 0 ∧ gL s12 129 = 0 ∧ gL s12 130 = 300000 := by
    rw [hs12, hs11, hs10, hs9, hs8, hs7, hs6, hs5, hs4, hs3, hs2, hs1]
    exact ⟨rfl, rfl, rfl, rfl, rfl, rfl, rfl, rfl, rfl, rfl, rfl, rfl⟩
  obtain ⟨v1, v2, v3, v4, v5, v6, v7, v8, v9, v10, v11, v12⟩ := vals
  refine fm_x_unbind xs_unbind ?_
  rintro r2 s13 - ⟨f13, hb⟩
  have fa : Fr ([121, 134, 138, 139, 141, 143, 123, 128, 131, 132], [129, 130], [83]) s s13 := (f12.weak rfl).trans (f13.weak rfl)
  have fw : Fr wX_begin σ s13 := (f.weak rfl).trans (fa.weak rfl)
  have xp13 : XP M s13 := xp.fr fa rfl
  have eT13 : ∀ x, tX s13 x = tX σ x := fun x => (tX_fr fa rfl x).trans (eT x)
  obtain ⟨h1, ⟨h2, h3⟩, ⟨h4, h5, h6⟩, h7, h8⟩ := h
  have n13 : gI s13 93 = gI σ 94 := by rw [fa.i _ rfl, n1]
  have b13 : gI s13 94 = gI σ 94 := fw.i _ rfl
  have q13 : gI s13 103 = gI σ 103 := fw.i _ rfl
  refine ⟨fw, ⟨xp13, ⟨by omega, ?_⟩, ⟨by omega, by omega, by omega⟩, fun i hi => ?_, h8⟩, fun x lx => ?_, ⟨?_, ?_, ?_, ?_, ?_⟩, ⟨?_, ?_, ?_, ⟨?_, ?_⟩, ⟨?_, ?_⟩, ?_, ?_⟩, ⟨?_, ?_⟩, hb, ⟨by omega, ?_⟩⟩
  · rw [q13, b13, h3, fw.a _ rfl]
  · rw [b13]
    exact (h7 i hi).to h4 (fun x _ => eT13 x) (fw.a _ rfl) (fw.a _ rfl) (fw.a _ rfl) (fw.a _ rfl)
  · rw [fa.a _ rfl]
    exact hr x (by have := lx.1; omega) (by have := lx.2; omega)
  · rw [f13.i _ rfl]; exact v9
  · rw [f13.i _ rfl]; exact v10
  · rw [f13.i _ rfl]; exact v8
  · rw [f13.l _ rfl]; exact v11
  · rw [f13.l _ rfl]; exact v12
  · rw [f13.i _ rfl]; exact v4
  · rw [fa.i _ rfl]; exact tp
  · rw [f13.i _ rfl]; exact v5
  · rw [f13.i _ rfl, v6]; omega
  · rw [f13.i _ rfl, v6]; omega
  · rw [f13.i _ rfl, v7]; omega
  · rw [f13.i _ rfl, f13.i _ rfl, v7, v8]; omega
  · rw [f13.i _ rfl]; exact v3
  · rw [f13.i _ rfl]; exact v2
  · rw [f13.i _ rfl]; exact v1
  · rw [fa.i _ rfl]; exact tp
  · rw [fa.i _ rfl, p1]; omega
/-- a kept term comes into a begun call -/
theorem xs_come {M : Mo} {R : Ru} {v : Nat} (hv : svA v) (L4 : ((dAln dX v : Nat) : Int) ≤ 1000000) {n : Int} {σ : S} {t : Tr} {a : Int} (hb : bgX n M R σ) (hn : 0 ≤ n ∧ n ≤ 5) (ht : okT M t) (hr : atR (gA σ v) a (sv t)) (b0 : 0 ≤ a) (b1 : a + 80 ≤ ((dAln dX v : Nat) : Int)) :
    x_loadFrom v a σ (fun r s => Fr wX_load σ s ∧ bgX (n + 1) M R s ∧ lvX s r ∧ tX s r = t ∧ ExX σ s (fun u => u ∈ subs t)) (fun _ => False) := by
  obtain ⟨mb, hm, hc, hi, ⟨hg, htp⟩, hbd, n1, p1⟩ := hb
  refine fm_x_loadFrom (xs_loadFrom hv L4 ht mb.1 hr b0 b1 (by omega) (by omega) (by omega) (by omega)) ?_ (fun _ _ h => h)
  rintro r s - ⟨f, q1, q2, q3, q4, q5, q6⟩
  have pls := ExX.places (N := fun u => u ∈ subs t) mb.1 q1 q4 (m := 40) (c := 39) q5 (by omega) (by omega) (fun q hq hqT => by
    have := kids_40 hqT (subs_NF ht hq).2
    omega)
  obtain ⟨i1, i2, i3, i4, i5, i6, i7⟩ := hi
  refine ⟨f, ⟨mb.fr q1 q4.ey.gw f rfl, fun x lx => ?_, ?_, ⟨?_, ?_, ?_, ?_, ?_, ?_, ?_⟩, ⟨?_, ?_⟩, ?_, ⟨by omega, by omega⟩⟩, q2, q3, q4⟩
  · by_cases z : x < gI σ 93
    · rw [(q4.2.1 x ⟨lx.1, z⟩).2]; exact hm x ⟨lx.1, z⟩
    · exact (q4.2.2 x (by omega) lx.2).1
  · rw [f.i _ rfl, f.i _ rfl, f.i _ rfl, f.l _ rfl, f.l _ rfl]; exact hc
  · rw [f.i _ rfl]; exact i1
  · rw [q6]; exact i2
  · rw [f.i _ rfl]; exact i3
  · rw [f.i _ rfl]; exact i4
  · rw [f.i _ rfl, f.i _ rfl]; exact i5
  · rw [f.i _ rfl]; exact i6
  · rw [f.i _ rfl]; exact i7
  · rw [f.i _ rfl]; exact hg
  · rw [q6]; exact htp
  · rw [f.a _ rfl]; exact hbd
theorem bgX.xr {n : Int} {M : Mo} {R : Ru} {s : S} (h : bgX n M R s) (A : List Tr) : XR M R 300000 s (st0 A) s := by
  obtain ⟨mb, hm, hc, hi, ⟨hg, htp⟩, hbd, n1, p1⟩ := h
  refine ⟨mb.1, ⟨fun x lx => ?_, fun t ht => absurd rfl ht⟩, EyX.rf _ _, ⟨hc, ⟨by show (0:Int) ≤ 0; omega, by show (0:Int) ≤ 600; omega⟩, ⟨by show (0:Int) ≤ 0; omega, by show (0:Int) ≤ 4000; omega⟩, ⟨by show (0:Int) ≤ 0; omega, by show (0:Int) ≤ 6000; omega⟩, ⟨by show (0:Int) ≤ 0; omega, by show (0:Int) ≤ 3000000; omega⟩⟩, fun k hk => (mb.2.2.2.1 k hk).rx mb.2.2.1.1⟩
  rw [hm x lx]
  exact ⟨Or.inl rfl, rfl⟩
theorem bgX.cx {n : Int} {M : Mo} {R : Ru} {s : S} (h : bgX n M R s) (hn : n ≤ 2) {a0 r0 : Int} (ha : a0 ≤ 200) (hr : r0 ≤ 200) : cxR M R 300000 s (a0 + 50) (r0 + 50) := by
  obtain ⟨mb, hm, hc, hi, ⟨hg, htp⟩, hbd, n1, p1⟩ := h
  have := mb.1.rg
  exact ⟨mb.1, ⟨by omega, by omega, by omega⟩, mb.2.2.2.2, by omega⟩

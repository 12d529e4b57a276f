/-! RewriteHouse: back to the module's own nodes -/
theorem rowI_pre {f : Int → Int} {n m : Nat} (h : ∀ k : Int, 1 ≤ k → k < 1 + m → 0 ≤ f k) (nm : n ≤ m) : (rowI f 1 n).sum ≤ (rowI f 1 m).sum := by
  have pos : ∀ (d : Nat) (a : Int), 1 ≤ a → a + d ≤ 1 + m → 0 ≤ (rowI f a d).sum := by
    intro d
    induction d with
    | zero => intro a _ _; exact Int.le_refl _
    | succ d ih =>
      intro a a0 a1
      simp only [rowI, List.sum_cons]
      have := ih (a + 1) (by omega) (by omega)
      have := h a a0 (by omega)
      omega
  rw [show m = n + (m - n) by omega, rowI_app, List.sum_append]
  have := pos (m - n) (1 + n) (by omega) (by omega)
  omega
def drX (σ : S) (x : Int) (s : S) : Prop := gI σ 94 - 1 ≤ x ∧ x < gI σ 93 ∧ Fr ([], [], [72, 74]) σ s ∧ Ch 131072 (gA s 72) (gA σ 71) (kyX σ) 1 (x + 1)
def baX (σ : S) : Prop := 1 ≤ gI σ 94 ∧ gI σ 103 = (rowI (gA σ 68) 1 (gI σ 94 - 1).toNat).sum
theorem xs_dropNodes {M : Mo} {σ : S} (h : XP M σ) (hb : baX σ) (b2 : gI σ 94 ≤ gI σ 93) :
    x_dropNodes σ (fun _ s => XP M s ∧ gI s 93 = gI σ 94 ∧ gI s 102 = gI σ 103 ∧ (∀ x, tX s x = tX σ x) ∧ (∀ x, 0 ≤ x → x < gI σ 94 → gA s 75 x = 0) ∧ gI s 106 = 0 ∧ Fr wX_dropNodes σ s) := by
  obtain ⟨b1, bp⟩ := hb
  have rg := h.rg
  unfold x_dropNodes
  rw [w32_id (by omega) (by omega)]
  refine lx_dropNodes_L7 (drX σ) (fun x _ => x.toNat) ⟨by omega, by omega, Fr.rf, by rw [show gI σ 93 - 1 + 1 = gI σ 93 by omega]; exact h.ch⟩ ?_
  rintro x s fr ⟨x0, x1, f, hc⟩
  try dsimp only
  rw [f.i _ rfl]
  by_cases hx : x < gI σ 94
  · rw [if_pos hx]
    unfold x_dropNodes_j86
    rw [f.i _ rfl]
    rintro s1 hs1
    rintro s2 hs2
    have e103 : gI s1 103 = gI σ 103 := by rw [hs1, gI_pI, if_neg (by decide), f.i _ rfl]
    rw [e103] at hs2
    have f2 : Fr ([93, 102], [], [72, 74]) σ s2 := ((f.weak rfl).putI hs1 rfl).putI hs2 rfl
    have n2 : gI s2 93 = gI σ 94 := by rw [hs2, gI_pI, if_neg (by decide), hs1, gI_pI, if_pos rfl]
    have p2 : gI s2 102 = gI σ 103 := by rw [hs2, gI_pI, if_pos rfl]
    have fi2 : gA s2 72 = gA s 72 := by rw [hs2, hs1]; rfl
    refine lx_dropNodes_L104 (fun k s => 0 ≤ k ∧ k ≤ gI σ 94 ∧ Fr ([], [], [75]) s2 s ∧ ∀ y, 0 ≤ y → y < k → gA s 75 y = 0) (fun k _ => (gI σ 94 - k).toNat) ⟨by omega, by omega, Fr.rf, fun y y0 y1 => by omega⟩ ?_
    rintro k q fq ⟨k0, k1, g, hr⟩
    try dsimp only
    have gb : gI q 94 = gI σ 94 := by rw [g.i _ rfl, f2.i _ rfl]
    rw [gb]
    by_cases hk : k < gI σ 94
    · rw [if_pos hk]
      refine ⟨⟨k0, by omega⟩, ?_⟩
      rintro q1 hq1
      rw [w32_id (by omega) (by omega)]
      refine ⟨⟨by omega, by omega, g.putA hq1 rfl, fun y y0 y1 => ?_⟩, by omega⟩
      rw [hq1]; simp only [gI_pI, gI_pL, gI_pA, gL_pI, gL_pL, gL_pA, gA_pI, gA_pL, gA_pA]
      by_cases e : y = k
      · rw [if_pos ⟨trivial, e⟩]
      · rw [if_neg (by omega)]; exact hr y y0 (by omega)
    · rw [if_neg hk]
      unfold x_dropNodes_j125
      rintro q1 hq1
      have g1 : Fr ([106], [], [75]) s2 q1 := (g.weak rfl).putI hq1 rfl
      have gw : Fr wX_dropNodes σ q1 := (f2.weak rfl).trans (g1.weak rfl)
      have ew : gA q1 66 = gA σ 66 := by rw [g1.a _ rfl, f2.a _ rfl]
      have er : gA q1 67 = gA σ 67 := by rw [g1.a _ rfl, f2.a _ rfl]
      have em : gA q1 68 = gA σ 68 := by rw [g1.a _ rfl, f2.a _ rfl]
      have ep : gA q1 73 = gA σ 73 := by rw [g1.a _ rfl, f2.a _ rfl]
      have eg : gA q1 70 = gA σ 70 := by rw [g1.a _ rfl, f2.a _ rfl]
      have el : gA q1 69 = gA σ 69 := by rw [g1.a _ rfl, f2.a _ rfl]
      have en : gA q1 71 = gA σ 71 := by rw [g1.a _ rfl, f2.a _ rfl]
      have ef : gA q1 72 = gA s 72 := by rw [g1.a _ rfl, fi2]
      have nn : gI q1 93 = gI σ 94 := by rw [g1.i _ rfl, n2]
      have pp : gI q1 102 = gI σ 103 := by rw [g1.i _ rfl, p2]
      have eT : ∀ x, tX q1 x = tX σ x := fun x => by unfold tX; rw [ew, er, em, ep]
      have eK : kyX q1 = kyX σ := by funext x; unfold kyX; rw [ew, er, em, ep]
      have emo : moX q1 = moX σ := by
        refine moX_same (fun i hi => ?_) (fun a ha => ?_)
        · exact apt_i (w := wX_dropNodes) (I := XPj) (A := []) rfl gw i hi
        · exact apt_a (w := wX_dropNodes) (I := []) (A := XPm) rfl gw a ha
      have mono : ∀ y, 1 ≤ y → y < gI σ 94 → (rowI (gA σ 68) 1 y.toNat).sum ≤ gI σ 103 := by
        intro y y0 y1
        rw [bp]
        exact rowI_pre (fun k k0 k1 => (h.at (x := k) ⟨k0, by omega⟩).1) (by omega)
      refine ⟨⟨⟨by rw [emo]; exact h.1.1, h.wm⟩, ⟨by omega, by omega, ?_, ?_⟩, ⟨by omega, fun y y0 y1 => ?_⟩, ?_, fun y hy => ?_, ?_, fun y hy => ?_, ?_⟩, nn, pp, eT, fun y y0 y1 => ?_, ?_, gw⟩
      · rw [pp, bp]
        have := rowI_pre (f := gA σ 68) (n := 0) (m := (gI σ 94 - 1).toNat) (fun k k0 k1 => (h.at (x := k) ⟨k0, by omega⟩).1) (by omega)
        exact this
      · rw [pp, bp]
        have := rowI_pre (f := gA σ 68) (n := (gI σ 94 - 1).toNat) (m := (gI σ 93 - 1).toNat) (fun k k0 k1 => (h.at (x := k) ⟨k0, by omega⟩).1) (by omega)
        rw [← h.pl] at this
        omega
      · rw [nn] at y1
        have ly : lvX σ y := ⟨y0, by omega⟩
        obtain ⟨-, a1, a2, a3, a4, a5⟩ := h.pv.2 y y0 (by omega) |>.elim (fun a b => (⟨trivial, a, b⟩ : True ∧ _ ∧ _))
        rw [ew, er, em, ep]
        refine ⟨a1, a2, a3, ?_, a5⟩
        rw [pp, h.st ly]
        have m1 := mono y y0 y1
        rw [show y.toNat = (y - 1).toNat + 1 by omega, rowI_app, List.sum_append] at m1
        simp only [rowI, List.sum_cons, List.sum_nil] at m1
        rw [show 1 + ((y - 1).toNat : Int) = y by omega] at m1
        omega
      · rw [nn]
        intro y z y0 y1 z0 z1
        rw [ew, er, em, ep]
        exact h.pu y z y0 (by omega) z0 (by omega)
      · have hy2 : y < gI σ 94 := by have := hy.2; omega
        rw [eg, el, eT]
        exact h.nd ⟨hy.1, by omega⟩
      · rw [ef, en, eK, nn, show gI σ 94 = x + 1 by omega]
        exact hc
      · have hy2 : y < gI σ 94 := by have := hy.2; omega
        rw [er, em]
        exact h.st ⟨hy.1, by omega⟩
      · rw [pp, em, nn]
        exact bp
      · rw [hq1]; simp only [gI_pI, gI_pL, gI_pA, gL_pI, gL_pL, gL_pA, gA_pI, gA_pL, gA_pA]
        exact hr y y0 (by omega)
      · rw [hq1, gI_pI, if_pos rfl]
  · rw [if_neg hx]
    have lx : lvX σ x := ⟨by omega, x1⟩
    have at_ := h.at lx
    have tp := at_.2.2.2.1
    refine lx_dropNodes_L17 (fun k q => 0 ≤ k ∧ k ≤ gA σ 68 x ∧ Fr ([], [], [74]) s q ∧ ∀ j, 0 ≤ j → j < k → gA q 74 j = gA σ 73 (gA σ 67 x + j)) (fun k _ => (gA σ 68 x - k).toNat) ⟨by omega, at_.1, Fr.rf, fun j j0 j1 => by omega⟩ ?_
    rintro k q fq ⟨k0, k1, g, hh⟩
    try dsimp only
    have qm : gA q 68 = gA σ 68 := by rw [g.a _ rfl, f.a _ rfl]
    have qr : gA q 67 = gA σ 67 := by rw [g.a _ rfl, f.a _ rfl]
    have qp : gA q 73 = gA σ 73 := by rw [g.a _ rfl, f.a _ rfl]
    have qw : gA q 66 = gA σ 66 := by rw [g.a _ rfl, f.a _ rfl]
    have qn : gA q 71 = gA σ 71 := by rw [g.a _ rfl, f.a _ rfl]
    have qf : gA q 72 = gA s 72 := by rw [g.a _ rfl]
    rw [qm, qr, qp]
    refine ⟨⟨by omega, by omega⟩, ?_⟩
    by_cases hk : k < gA σ 68 x
    · rw [if_pos hk, w32_id (v := gA σ 67 x + k) (by omega) (by omega)]
      refine ⟨⟨by omega, by omega⟩, ⟨by omega, by omega⟩, ⟨by omega, by omega⟩, ?_⟩
      rintro q1 hq1
      rw [w32_id (by omega) (by omega)]
      refine ⟨⟨by omega, by omega, g.putA hq1 rfl, fun j j0 j1 => ?_⟩, by omega⟩
      rw [hq1]; simp only [gI_pI, gI_pL, gI_pA, gL_pI, gL_pL, gL_pA, gA_pI, gA_pL, gA_pA]
      by_cases e : j = k
      · rw [if_pos ⟨trivial, e⟩, e]
      · rw [if_neg (by omega)]; exact hh j j0 (by omega)
    · rw [if_neg hk]
      unfold x_dropNodes_j52
      rw [qm, qw]
      refine ⟨⟨by omega, by omega⟩, ⟨by omega, by omega⟩, ?_⟩
      refine xs_slotOf at_.1 (Int.le_refl _) (by omega) ?_
      have er : rowI (gA q 74) 0 (gA σ 68 x).toNat = rowI (gA σ 73) (gA σ 67 x) (gA σ 68 x).toNat := by
        refine rowI_congr (fun j j0 j1 => ?_)
        rw [Int.zero_add]
        exact hh j j0 (by omega)
      rw [er]
      show inb x 200000 ∧ inb (kyX σ x) 131072 ∧ _
      have sr := sltX_rg (gA σ 66 x) (rowI (gA σ 73) (gA σ 67 x) (gA σ 68 x).toNat)
      have sr2 : 0 ≤ kyX σ x ∧ kyX σ x < 131072 := sr
      refine ⟨⟨by omega, by omega⟩, ⟨sr2.1, sr2.2⟩, ?_⟩
      rintro q1 hq1
      rw [qn] at hq1
      rw [w32_id (by omega) (by omega)]
      refine ⟨⟨by omega, by omega, (f.trans (g.weak rfl)).putA hq1 rfl, ?_⟩, by omega⟩
      have hc' : Ch 131072 (gA s 72) (gA σ 71) (kyX σ) 1 (x + -1 + 1 + 1) := by rw [show x + -1 + 1 + 1 = x + 1 by omega]; exact hc
      refine hc'.pop (by omega) (fun z => ?_)
      rw [show x + -1 + 1 = x by omega, hq1, gA_pA, qf]
      by_cases e : z = kyX σ x
      · rw [if_pos ⟨rfl, e⟩, if_pos e]
      · rw [if_neg (fun k => e k.2), if_neg e]

theorem bAnd_rg (a : Int) {m : Int} (h0 : 0 ≤ m) (h1 : m < 2147483648) : 0 ≤ bAnd a m ∧ bAnd a m ≤ m := by
  unfold bAnd
  have e : (i32 m).toBitVec.toNat = m.toNat := by
    have h2 : (i32 m).toBitVec.toInt = m := t_i32 ⟨by omega, h1⟩
    rw [BitVec.toInt_eq_toNat_cond] at h2
    split at h2
    · omega
    · have := (i32 m).toBitVec.isLt
      omega
  have h3 : (i32 a &&& i32 m).toInt = ((i32 a).toBitVec &&& (i32 m).toBitVec).toInt := rfl
  rw [h3, BitVec.toInt_eq_toNat_cond, BitVec.toNat_and, e]
  have h4 : (i32 a).toBitVec.toNat &&& m.toNat ≤ m.toNat := Nat.and_le_right
  rw [if_pos (by omega)]
  omega
theorem sltX_rg (op : Int) (l : List Int) : 0 ≤ sltX op l ∧ sltX op l < 131072 := by
  have := bAnd_rg (hsX (w32 (w32 (op * 31) + (l.length : Int))) l) (m := 131071) (by omega) (by omega)
  unfold sltX
  omega
/-- a pool has grown; old nodes have kept what they came to; new ones have not come to anything -/
def ExX (σ s : S) (N : Tr → Prop) : Prop :=
  gI σ 93 ≤ gI s 93 ∧ (∀ x, lvX σ x → tX s x = tX σ x ∧ gA s 75 x = gA σ 75 x) ∧ ∀ x, gI σ 93 ≤ x → x < gI s 93 → gA s 75 x = 0 ∧ N (tX s x)
theorem ExX.rf (σ : S) (N : Tr → Prop) : ExX σ σ N := ⟨Int.le_refl _, fun _ _ => ⟨rfl, rfl⟩, fun x h1 h2 => by omega⟩
theorem ExX.lv {σ s : S} {N : Tr → Prop} (h : ExX σ s N) {x : Int} (hx : lvX σ x) : lvX s x := ⟨hx.1, by have := h.1; have := hx.2; omega⟩
theorem ExX.t {σ s : S} {N : Tr → Prop} (h : ExX σ s N) {x : Int} (hx : lvX σ x) : tX s x = tX σ x := (h.2.1 x hx).1
theorem ExX.mono {σ s : S} {N N' : Tr → Prop} (h : ExX σ s N) (k : ∀ t, N t → N' t) : ExX σ s N' := ⟨h.1, h.2.1, fun x h1 h2 => ⟨(h.2.2 x h1 h2).1, k _ (h.2.2 x h1 h2).2⟩⟩
theorem ExX.trans {a b c : S} {N : Tr → Prop} (h : ExX a b N) (k : ExX b c N) (h1 : 1 ≤ gI a 93) : ExX a c N := by
  refine ⟨by have := h.1; have := k.1; omega, fun x hx => ?_, fun x x0 x1 => ?_⟩
  · have e1 := h.2.1 x hx
    have e2 := k.2.1 x (h.lv hx)
    exact ⟨e2.1.trans e1.1, e2.2.trans e1.2⟩
  · by_cases hx : x < gI b 93
    · have e1 := h.2.2 x x0 hx
      have e2 := k.2.1 x ⟨by omega, hx⟩
      rw [e2.1, e2.2]
      exact e1
    · exact k.2.2 x (by omega) x1
theorem ExX.fr {σ s q : S} {N : Tr → Prop} {w : List Nat × List Nat × List Nat} (h : ExX σ s N) (f : Fr w s q) (hw : apt w [93] [66, 67, 68, 73, 75] = true) : ExX σ q N := by
  have hi := apt_i hw f
  have ha := apt_a hw f
  simp only [List.forall_mem_cons] at hi ha
  have e : ∀ x, tX q x = tX s x := fun x => by unfold tX; simp only [ha]
  unfold ExX at h ⊢
  simp only [e, hi, ha]
  exact h
theorem ExX.of_fr {s q : S} {N : Tr → Prop} {w : List Nat × List Nat × List Nat} (f : Fr w s q) (hw : apt w [93] [66, 67, 68, 73, 75] = true) : ExX s q N := (ExX.rf s N).fr f hw
/-- one more node -/
theorem XP_new {M : Mo} {σ s : S} (h : XP M σ) (hM : WM M) {op a n sz : Int} {ts : List Tr} (hn : 0 ≤ n) (hts : ts = (rowI (gA σ 74) a n.toNat).map (tX σ)) (hl : ∀ k, 0 ≤ k → k < n → lvX σ (gA σ 74 (a + k))) (hok : okN M op ts)
    (hno : ∀ y, lvX σ y → tX σ y ≠ trN op ts) (hr1 : gI σ 93 < 200000) (hr2 : gI σ 102 + n ≤ 600000) (hsz : trS (trN op ts) ≤ 40)
    (emo : moX s = M) (enod : gI s 93 = gI σ 93 + 1) (epl : gI s 102 = gI σ 102 + n)
    (ewh : ∀ x, gA s 66 x = if x = gI σ 93 then op else gA σ 66 x)
    (est : ∀ x, gA s 67 x = if x = gI σ 93 then gI σ 102 else gA σ 67 x)
    (ema : ∀ x, gA s 68 x = if x = gI σ 93 then n else gA σ 68 x)
    (eat : ∀ j, gA s 73 j = if gI σ 102 ≤ j ∧ j < gI σ 102 + n then gA σ 74 (a + (j - gI σ 102)) else gA σ 73 j)
    (ebg : ∀ x, gA s 70 x = if x = gI σ 93 then (trS (trN op ts) : Int) else gA σ 70 x)
    (ere : ∀ x, gA s 75 x = if x = gI σ 93 then 0 else gA σ 75 x)
    (ele : ∀ x, gA s 69 x = if x = gI σ 93 then srt M (trN op ts) else gA σ 69 x)
    (enx : ∀ x, gA s 71 x = if x = gI σ 93 then gA σ 72 (sltX op (rowI (gA σ 74) a n.toNat)) else gA σ 71 x)
    (efi : ∀ x, gA s 72 x = if x = sltX op (rowI (gA σ 74) a n.toNat) then gI σ 93 else gA σ 72 x) :
    XP M s ∧ lvX s (gI σ 93) ∧ tX s (gI σ 93) = trN op ts ∧ ExX σ s (fun t => t = trN op ts) := by
  have rg := h.rg
  have pv := h.pv
  have ne : ∀ x, lvX σ x → x ≠ gI σ 93 := fun x hx e => by have := hx.2; omega
  have hop : -1000 ≤ op := by rcases hok with q | q <;> omega
  have pv' : Pv (gA s 66) (gA s 67) (gA s 68) (gA s 73) 1 (gI s 93) (gI s 102) := by
    refine ⟨by omega, fun x x0 x1 => ?_⟩
    rw [ewh, est, ema]
    by_cases hx : x = gI σ 93
    · rw [if_pos hx, if_pos hx, if_pos hx]
      refine ⟨hop, hn, by omega, by omega, fun k k0 k1 => ?_⟩
      rw [eat, if_pos (by omega), show a + (gI σ 102 + k - gI σ 102) = a + k by omega]
      have := hl k k0 k1
      exact ⟨this.1, by have := this.2; omega⟩
    · rw [if_neg hx, if_neg hx, if_neg hx]
      obtain ⟨b0, b1, b2, b3, b4⟩ := pv.2 x x0 (by omega)
      refine ⟨b0, b1, b2, by omega, fun k k0 k1 => ?_⟩
      rw [eat, if_neg (by omega)]
      exact b4 k k0 k1
  have old : ∀ x, lvX σ x → tX s x = tX σ x := by
    intro x hx
    refine den_old pv (fun x _ _ => ?_) (fun x _ _ => ?_) (fun x _ _ => ?_) (fun k _ _ => ?_) hx.1 hx.2
    · rw [ewh, if_neg (by omega)]
    · rw [est, if_neg (by omega)]
    · rw [ema, if_neg (by omega)]
    · rw [eat, if_neg (by omega)]
  have rws : rowI (gA s 73) (gI σ 102) n.toNat = rowI (gA σ 74) a n.toNat := by
    apply rowI_congr
    intro k k0 k1
    rw [eat, if_pos (by omega), show a + (gI σ 102 + k - gI σ 102) = a + k by omega]
  have new : tX s (gI σ 93) = trN op ts := by
    unfold tX
    rw [den_row pv' (by omega) (by omega), ewh, est, ema, if_pos rfl, if_pos rfl, if_pos rfl, rws, hts]
    congr 1
    apply List.map_congr_left
    intro y hy
    obtain ⟨k, k0, k1, rfl⟩ := rowI_mem.mp hy
    exact old _ (hl k k0 (by omega))
  have kids : ∀ t ∈ ts, NF M t := by
    intro t ht
    rw [hts] at ht
    obtain ⟨y, hy, rfl⟩ := List.mem_map.mp ht
    obtain ⟨k, k0, k1, rfl⟩ := rowI_mem.mp hy
    exact (h.nd (hl k k0 (by omega))).2.2.1
  have lv' : ∀ x, lvX s x → x = gI σ 93 ∨ lvX σ x := by
    intro x hx
    by_cases e : x = gI σ 93
    · exact Or.inl e
    · exact Or.inr ⟨hx.1, by have := hx.2; omega⟩
  have same : ∀ y, lvX σ y → gA σ 66 y = op → gA σ 68 y = n → (∀ k, 0 ≤ k → k < n → gA σ 73 (gA σ 67 y + k) = gA σ 74 (a + k)) → False := by
    intro y hy e1 e2 e3
    apply hno y hy
    rw [tX_row h hy, e1, e2, hts]
    congr 2
    exact rowI_congr (fun k k0 k1 => e3 k k0 (by omega))
  refine ⟨⟨⟨emo, hM⟩, ⟨by omega, by omega, by omega, by omega⟩, pv', ?_, ?_, ?_, ?_, ?_⟩, ⟨by omega, by omega⟩, new, ⟨by omega, fun x hx => ⟨old x hx, ?_⟩, fun x x0 x1 => ?_⟩⟩
  · intro x y x0 x1 y0 y1 e1 e2 e3
    rw [ewh, ewh] at e1
    rw [ema, ema] at e2
    rw [ema, est, est] at e3
    rcases lv' x ⟨x0, x1⟩ with hx | hx <;> rcases lv' y ⟨y0, y1⟩ with hy | hy
    · omega
    · exfalso
      rw [if_pos hx, if_neg (ne y hy)] at e1 e2
      refine same y hy e1.symm e2.symm (fun k k0 k1 => ?_)
      rw [if_pos hx, if_pos hx, if_neg (ne y hy)] at e3
      have := e3 k k0 k1
      rw [eat, eat, if_pos (by omega), if_neg (by have := pv.2 y hy.1 hy.2; omega)] at this
      rw [← this]
      congr 1
      omega
    · exfalso
      rw [if_neg (ne x hx), if_pos hy] at e1 e2
      refine same x hx e1 e2 (fun k k0 k1 => ?_)
      rw [if_neg (ne x hx), if_neg (ne x hx), if_pos hy] at e3
      have := e3 k k0 (by omega)
      rw [eat, eat, if_neg (by have := pv.2 x hx.1 hx.2; omega), if_pos (by omega)] at this
      rw [this]
      congr 1
      omega
    · rw [if_neg (ne x hx), if_neg (ne y hy)] at e1 e2
      rw [if_neg (ne x hx), if_neg (ne x hx), if_neg (ne y hy)] at e3
      refine h.pu x y hx.1 hx.2 hy.1 hy.2 e1 e2 (fun k k0 k1 => ?_)
      have := e3 k k0 k1
      rw [eat, eat, if_neg (by have := pv.2 x hx.1 hx.2; omega), if_neg (by have := pv.2 y hy.1 hy.2; omega)] at this
      exact this
  · intro x hx
    rw [ebg, ele]
    rcases lv' x hx with e | e
    · rw [if_pos e, if_pos e, e, new]
      exact ⟨rfl, rfl, NF.mk hok kids, hsz⟩
    · rw [if_neg (ne x e), if_neg (ne x e), old x e]
      exact h.nd e
  · have kyo : ∀ x, 1 ≤ x → x < gI σ 93 → kyX s x = kyX σ x := by
      intro x x0 x1
      unfold kyX
      rw [ewh, est, ema, if_neg (by omega), if_neg (by omega), if_neg (by omega)]
      congr 1
      apply rowI_congr
      intro k k0 k1
      rw [eat, if_neg (by have := pv.2 x x0 x1; omega)]
    have kyn : kyX s (gI σ 93) = sltX op (rowI (gA σ 74) a n.toNat) := by
      unfold kyX
      rw [ewh, est, ema, if_pos rfl, if_pos rfl, if_pos rfl, rws]
    have sr := sltX_rg op (rowI (gA σ 74) a n.toNat)
    rw [enod]
    refine Ch.push h.ch rg.1 (by rw [kyn]; exact sr.1) (by rw [kyn]; exact sr.2) kyo (fun x x0 x1 => ?_) ?_ (fun x => ?_)
    · rw [enx, if_neg (by omega)]
    · rw [enx, if_pos rfl, kyn]
    · rw [efi, kyn]
  · intro x hx
    rw [est]
    have ec : ∀ m : Nat, (m : Int) < gI σ 93 → rowI (gA s 68) 1 m = rowI (gA σ 68) 1 m := by
      intro m hm
      apply rowI_congr
      intro k k0 k1
      rw [ema, if_neg (by omega)]
    rcases lv' x hx with e | e
    · rw [if_pos e, e, ec _ (by omega)]
      exact h.pl
    · rw [if_neg (ne x e), ec _ (by have := e.2; have := e.1; omega)]
      exact h.st e
  · rw [epl, enod, show (gI σ 93 + 1 - 1).toNat = (gI σ 93 - 1).toNat + 1 by omega, rowI_app, List.sum_append]
    have ec : rowI (gA s 68) 1 (gI σ 93 - 1).toNat = rowI (gA σ 68) 1 (gI σ 93 - 1).toNat := by
      apply rowI_congr
      intro k k0 k1
      rw [ema, if_neg (by omega)]
    rw [ec, ← h.pl]
    simp only [rowI, List.sum_cons, List.sum_nil]
    rw [ema, if_pos (by omega)]
    omega
  · rw [ere, if_neg (ne x hx)]
  · have e : x = gI σ 93 := by omega
    rw [ere, if_pos e, e]
    exact ⟨rfl, new⟩

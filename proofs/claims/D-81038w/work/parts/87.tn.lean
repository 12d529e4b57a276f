/-! RewriteHouseModel: nodes -/
theorem ts_hashOf {op a n : Int} {σ : S} {Q : Int → S → Prop} (hn : 0 ≤ n) (ha : 0 ≤ a) (han : a + n ≤ 800000) (hQ : Q (sltT op (rowI (gA σ 56) a n.toNat)) σ) : t_hashOf op a n σ Q := by
  unfold t_hashOf
  refine lt_hashOf_L11 (fun h k s => s = σ ∧ 0 ≤ k ∧ k ≤ n ∧ hsT h (rowI (gA σ 56) (a + k) (n - k).toNat) = hsT (w32 (w32 (op * 31) + n)) (rowI (gA σ 56) a n.toNat)) (fun _ k _ => (n - k).toNat) ⟨rfl, by omega, hn, by simp⟩ ?_
  intro h k s fr ⟨hs, h0, h1, h2⟩
  subst hs
  try dsimp only
  by_cases hk : k < n
  · rw [if_pos hk]
    have e : w32 (a + k) = a + k := w32_id (by omega) (by omega)
    have e2 : w32 (k + 1) = k + 1 := w32_id (by omega) (by omega)
    rw [e, e2]
    refine ⟨⟨by omega, by omega⟩, ⟨rfl, by omega, by omega, ?_⟩, by omega⟩
    rw [show (n - k).toNat = (n - (k + 1)).toNat + 1 by omega] at h2
    simp only [rowI, hsT] at h2
    rw [show a + (k + 1) = a + k + 1 by omega]
    exact h2
  · rw [if_neg hk]
    rw [show (n - k).toNat = 0 by omega] at h2
    simp only [rowI, hsT] at h2
    unfold sltT at hQ
    rw [rowI_len, show ((n.toNat : Nat) : Int) = n by omega] at hQ
    unfold t_hashOf_j50
    rw [h2]
    exact hQ
theorem sltT_rg (op : Int) (l : List Int) : 0 ≤ sltT op l ∧ sltT op l < 65536 := by
  unfold sltT
  have := bAnd_rg (bXor (hsT (w32 (w32 (op * 31) + (l.length : Int))) l) (bUsh (hsT (w32 (w32 (op * 31) + (l.length : Int))) l) 16)) (m := 65535) (by omega) (by omega)
  omega
def ExT (σ s : S) (N : Tr → Prop) : Prop :=
  gI σ 80 ≤ gI s 80 ∧ (∀ x, lvT σ x → tT s x = tT σ x ∧ gA s 54 x = gA σ 54 x ∧ gA s 55 x = gA σ 55 x) ∧ ∀ x, gI σ 80 ≤ x → x < gI s 80 → gA s 55 x = 0 ∧ N (tT s x)
theorem ExT.rf (σ : S) (N : Tr → Prop) : ExT σ σ N := ⟨Int.le_refl _, fun _ _ => ⟨rfl, rfl, rfl⟩, fun x h1 h2 => by omega⟩
theorem ExT.lv {σ s : S} {N : Tr → Prop} (h : ExT σ s N) {x : Int} (hx : lvT σ x) : lvT s x := ⟨hx.1, by have := h.1; have := hx.2; omega⟩
theorem ExT.t {σ s : S} {N : Tr → Prop} (h : ExT σ s N) {x : Int} (hx : lvT σ x) : tT s x = tT σ x := (h.2.1 x hx).1
theorem ExT.mono {σ s : S} {N N' : Tr → Prop} (h : ExT σ s N) (k : ∀ t, N t → N' t) : ExT σ s N' := ⟨h.1, h.2.1, fun x h1 h2 => ⟨(h.2.2 x h1 h2).1, k _ (h.2.2 x h1 h2).2⟩⟩
theorem ExT.trans {a b c : S} {N : Tr → Prop} (h : ExT a b N) (k : ExT b c N) (h1 : 0 ≤ gI a 80) : ExT a c N := by
  refine ⟨by have := h.1; have := k.1; omega, fun x hx => ?_, fun x x0 x1 => ?_⟩
  · have e1 := h.2.1 x hx
    have e2 := k.2.1 x (h.lv hx)
    exact ⟨e2.1.trans e1.1, e2.2.1.trans e1.2.1, e2.2.2.trans e1.2.2⟩
  · by_cases hx : x < gI b 80
    · have e1 := h.2.2 x x0 hx
      have e2 := k.2.1 x ⟨by omega, hx⟩
      rw [e2.1, e2.2.2]
      exact e1
    · exact k.2.2 x (by omega) x1
theorem ExT.of_same {M : Mo} {s q : S} (h : TP M s) {N : Tr → Prop} (h1 : gI q 80 = gI s 80) (h2 : ∀ x, lvT s x → tT q x = tT s x) (h3 : gA q 54 = gA s 54) (h4 : gA q 55 = gA s 55) : ExT s q N :=
  ⟨by omega, fun x hx => ⟨h2 x hx, by rw [h3], by rw [h4]⟩, fun x x0 x1 => by omega⟩
/-- one more node -/
theorem TP_new {M : Mo} {σ s : S} (h : TP M σ) {op n : Int} {ts : List Tr} (hn : 0 ≤ n) (hts : ts = (rowI (gA σ 56) (gI σ 81) n.toNat).map (tT σ)) (hl : ∀ k, 0 ≤ k → k < n → lvT σ (gA σ 56 (gI σ 81 + k))) (hok : okN M op ts)
    (hno : ∀ y, lvT σ y → tT σ y ≠ trN op ts) (hr1 : gI σ 80 < 200000) (hr2 : gI σ 81 + n ≤ 800000) (hsz : bigT (trN op ts))
    (emo : TMo M s) (enod : gI s 80 = gI σ 80 + 1) (epl : gI s 81 = gI σ 81 + n) (ecn : gI s 121 = gI σ 121)
    (ewh : ∀ x, gA s 48 x = if x = gI σ 80 then op else gA σ 48 x)
    (est : ∀ x, gA s 49 x = if x = gI σ 80 then gI σ 81 else gA σ 49 x)
    (ema : ∀ x, gA s 50 x = if x = gI σ 80 then n else gA σ 50 x)
    (eat : gA s 56 = gA σ 56)
    (ebg : ∀ x, gA s 51 x = if x = gI σ 80 then (trS (trN op ts) : Int) else gA σ 51 x)
    (era : gA s 54 = gA σ 54)
    (ere : ∀ x, gA s 55 x = if x = gI σ 80 then 0 else gA σ 55 x)
    (ele : ∀ x, gA s 52 x = if x = gI σ 80 then srt M (trN op ts) else gA σ 52 x)
    (enx : ∀ x, gA s 53 x = if x = gI σ 80 then gA σ 57 (sltT op (rowI (gA σ 56) (gI σ 81) n.toNat)) else gA σ 53 x)
    (efi : ∀ x, gA s 57 x = if x = sltT op (rowI (gA σ 56) (gI σ 81) n.toNat) then gI σ 80 else gA σ 57 x) :
    TP M s ∧ lvT s (gI σ 80) ∧ tT s (gI σ 80) = trN op ts ∧ ExT σ s (fun t => t = trN op ts) := by
  have rg := h.rg
  have pv := h.pv
  have ne : ∀ x, lvT σ x → x ≠ gI σ 80 := fun x hx e => by have := hx.2; omega
  have hop : -1000 ≤ op := by rcases hok with q | q <;> omega
  have pv' : Pv (gA s 48) (gA s 49) (gA s 50) (gA s 56) 0 (gI s 80) (gI s 81) := by
    refine ⟨by omega, fun x x0 x1 => ?_⟩
    rw [ewh, est, ema, eat]
    by_cases hx : x = gI σ 80
    · rw [if_pos hx, if_pos hx, if_pos hx]
      refine ⟨hop, hn, by omega, by omega, fun k k0 k1 => ?_⟩
      have := hl k k0 k1
      exact ⟨this.1, by have := this.2; omega⟩
    · rw [if_neg hx, if_neg hx, if_neg hx]
      obtain ⟨b0, b1, b2, b3, b4⟩ := pv.2 x x0 (by omega)
      exact ⟨b0, b1, b2, by omega, b4⟩
  have old : ∀ x, lvT σ x → tT s x = tT σ x := by
    intro x hx
    refine den_old pv (fun x _ _ => ?_) (fun x _ _ => ?_) (fun x _ _ => ?_) (fun k _ _ => ?_) hx.1 hx.2
    · rw [ewh, if_neg (by omega)]
    · rw [est, if_neg (by omega)]
    · rw [ema, if_neg (by omega)]
    · rw [eat]
  have new : tT s (gI σ 80) = trN op ts := by
    unfold tT
    rw [den_row pv' (by omega) (by omega), ewh, est, ema, if_pos rfl, if_pos rfl, if_pos rfl, hts, eat]
    congr 1
    apply List.map_congr_left
    intro y hy
    obtain ⟨k, k0, k1, rfl⟩ := rowI_mem.mp hy
    have := old _ (hl k k0 (by omega))
    unfold tT at this
    rw [eat] at this
    exact this
  have kids : ∀ t ∈ ts, NF M t := by
    intro t ht
    rw [hts] at ht
    obtain ⟨y, hy, rfl⟩ := List.mem_map.mp ht
    obtain ⟨k, k0, k1, rfl⟩ := rowI_mem.mp hy
    exact (h.nd (hl k k0 (by omega))).2.2.1
  have lv' : ∀ x, lvT s x → x = gI σ 80 ∨ lvT σ x := by
    intro x hx
    by_cases e : x = gI σ 80
    · exact Or.inl e
    · exact Or.inr ⟨hx.1, by have := hx.2; omega⟩
  have same : ∀ y, lvT σ y → gA σ 48 y = op → gA σ 50 y = n → (∀ k, 0 ≤ k → k < n → gA σ 56 (gA σ 49 y + k) = gA σ 56 (gI σ 81 + k)) → False := by
    intro y hy e1 e2 e3
    apply hno y hy
    rw [tT_row h hy, e1, e2, hts]
    congr 2
    exact rowI_congr (fun k k0 k1 => e3 k k0 (by omega))
  refine ⟨⟨⟨emo, h.wm⟩, ⟨by omega, by omega, by omega, by omega⟩, pv', ?_, ?_, ?_, ?_, ?_, ?_⟩, ⟨by omega, by omega⟩, new, ⟨by omega, fun x hx => ⟨old x hx, by rw [era], ?_⟩, fun x x0 x1 => ?_⟩⟩
  · intro x y x0 x1 y0 y1 e1 e2 e3
    rw [ewh, ewh] at e1
    rw [ema, ema] at e2
    rw [ema, est, est, eat] at e3
    rcases lv' x ⟨x0, x1⟩ with hx | hx <;> rcases lv' y ⟨y0, y1⟩ with hy | hy
    · omega
    · exfalso
      rw [if_pos hx, if_neg (ne y hy)] at e1 e2
      rw [if_pos hx, if_pos hx, if_neg (ne y hy)] at e3
      exact same y hy e1.symm e2.symm (fun k k0 k1 => (e3 k k0 k1).symm)
    · exfalso
      rw [if_neg (ne x hx), if_pos hy] at e1 e2
      rw [if_neg (ne x hx), if_neg (ne x hx), if_pos hy] at e3
      exact same x hx e1 e2 (fun k k0 k1 => e3 k k0 (by omega))
    · rw [if_neg (ne x hx), if_neg (ne y hy)] at e1 e2
      rw [if_neg (ne x hx), if_neg (ne x hx), if_neg (ne y hy)] at e3
      exact h.pu x y hx.1 hx.2 hy.1 hy.2 e1 e2 e3
  · intro x hx
    rw [ebg, ele]
    rcases lv' x hx with e | e
    · rw [if_pos e, if_pos e, e, new]
      exact ⟨rfl, rfl, NF.mk hok kids, hsz⟩
    · rw [if_neg (ne x e), if_neg (ne x e), old x e]
      exact h.nd e
  · have kyo : ∀ x, 0 ≤ x → x < gI σ 80 → kyT s x = kyT σ x := by
      intro x x0 x1
      unfold kyT
      rw [ewh, est, ema, eat, if_neg (by omega), if_neg (by omega), if_neg (by omega)]
    have kyn : kyT s (gI σ 80) = sltT op (rowI (gA σ 56) (gI σ 81) n.toNat) := by
      unfold kyT
      rw [ewh, est, ema, eat, if_pos rfl, if_pos rfl, if_pos rfl]
    have sr := sltT_rg op (rowI (gA σ 56) (gI σ 81) n.toNat)
    rw [enod]
    refine Ch.push h.ch rg.1 (by rw [kyn]; exact sr.1) (by rw [kyn]; exact sr.2) kyo (fun x x0 x1 => ?_) ?_ (fun x => ?_)
    · rw [enx, if_neg (by omega)]
    · rw [enx, if_pos rfl, kyn]
    · rw [efi, kyn]
  · intro x hx
    rw [est]
    have ec : ∀ m : Nat, (m : Int) ≤ gI σ 80 → rowI (gA s 50) 0 m = rowI (gA σ 50) 0 m := by
      intro m hm
      apply rowI_congr
      intro k k0 k1
      rw [ema, if_neg (by omega)]
    rcases lv' x hx with e | e
    · rw [if_pos e, e, ec _ (by omega)]
      exact h.pl
    · rw [if_neg (ne x e), ec _ (by have := e.2; have := e.1; omega)]
      exact h.st e
  · rw [epl, enod, show (gI σ 80 + 1).toNat = (gI σ 80).toNat + 1 by omega, rowI_app, List.sum_append]
    have ec : rowI (gA s 50) 0 (gI σ 80).toNat = rowI (gA σ 50) 0 (gI σ 80).toNat := by
      apply rowI_congr
      intro k k0 k1
      rw [ema, if_neg (by omega)]
    rw [ec, ← h.pl]
    simp only [rowI, List.sum_cons, List.sum_nil]
    rw [ema, if_pos (by omega)]
    omega
  · refine ⟨by rw [ecn]; exact h.cn.1, fun x lx => ?_⟩
    rw [ere, ecn]
    by_cases z : x = gI σ 80
    · rw [if_pos z]; exact h.cn.1
    · rw [if_neg z]; exact h.cn.2 x ⟨lx.1, by have := lx.2; omega⟩
  · rw [ere, if_neg (ne x hx)]
  · have e : x = gI σ 80 := by omega
    rw [ere, if_pos e, e]
    exact ⟨rfl, new⟩

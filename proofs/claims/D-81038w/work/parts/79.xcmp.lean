/-! ORDER by parts -/
theorem cmL_np : ∀ (s t x y : List Int), (∀ x y, s ++ x ≠ t ++ y) → cmL (s ++ x) (t ++ y) = cmL s t := by
  intro s
  induction s with
  | nil => intro t x y h; exact absurd (by simp) (h t [])
  | cons a s ih => intro t x y h; cases t with
    | nil => exact absurd (by simp) (h [] (a :: s))
    | cons b t =>
      simp only [List.cons_append, cmL]
      split
      · rfl
      · split
        · rfl
        · refine ih t x y (fun x y e => h x y ?_)
          simp only [List.cons_append]
          rw [e, show a = b by omega]
theorem cmT_rf (t : Tr) : cmT t t = 0 := cmL_rf _
theorem cmT_eq {a b : Tr} (ha : isT a) (hb : isT b) (h : cmT a b = 0) : a = b := ser_inj ha hb (cmL_eq h)
theorem cmT_lab {c d : Int} (ts us : List Tr) (h : kyc c ≠ kyc d) : cmT (trN c ts) (trN d us) = if kyc c < kyc d then -1 else 1 := by
  unfold cmT
  rw [ser_N, ser_N]
  simp only [cmL]
  split
  · rfl
  · rw [if_pos (by omega)]
theorem cmT_len {c d : Int} {ts us : List Tr} (h : kyc c = kyc d) (hl : ts.length ≠ us.length) : cmT (trN c ts) (trN d us) = if ts.length < us.length then -1 else 1 := by
  unfold cmT
  rw [ser_N, ser_N]
  simp only [cmL]
  rw [if_neg (by omega), if_neg (by omega)]
  split
  · rw [if_pos (by omega)]
  · rw [if_pos (by omega), if_neg (by omega)]
/-- kids from left to right -/
def cmK (ts us : List Tr) : Int := cmL (ts.map ser).flatten (us.map ser).flatten
theorem cmT_kids {c d : Int} {ts us : List Tr} (h : kyc c = kyc d) (hl : ts.length = us.length) : cmT (trN c ts) (trN d us) = cmK ts us := by
  unfold cmT cmK
  rw [ser_N, ser_N]
  simp only [cmL]
  rw [if_neg (by omega), if_neg (by omega), if_neg (by omega), if_neg (by omega)]
theorem cmK_cons {t u : Tr} (ts us : List Tr) (ht : isT t) (hu : isT u) : cmK (t :: ts) (u :: us) = if cmT t u = 0 then cmK ts us else cmT t u := by
  unfold cmK
  simp only [List.map_cons, List.flatten_cons]
  by_cases e : t = u
  · rw [e, cmT_rf, if_pos rfl, cmL_same]
  · have hne : ¬ cmT t u = 0 := fun z => e (cmT_eq ht hu z)
    rw [if_neg hne]
    exact cmL_np _ _ _ _ (fun x y z => e (ser_uniq _ t u x y (Nat.lt_succ_self _) ht hu z).1)
theorem cmK_nil : cmK [] [] = 0 := rfl
theorem cmT_v (a b : Tr) : cmT a b = -1 ∨ cmT a b = 0 ∨ cmT a b = 1 := cmL_v _ _
theorem cmT_neg (a b : Tr) : cmT b a = - cmT a b := cmL_neg _ _
theorem cmT_tr {a b c : Tr} (h : cmT a b ≤ 0) (k : cmT b c ≤ 0) : cmT a c ≤ 0 := cmL_tr h k
theorem XP.T {M : Mo} {σ : S} (h : XP M σ) {x : Int} (hx : lvX σ x) : isT (tX σ x) := (h.nd hx).2.2.1.1
/-! comparing -/
theorem xs_compareS {M : Mo} {σ : S} (h : XP M σ) : ∀ (n : Nat) (x y : Int) (Q : Int → S → Prop) (E : S → Prop), trS (tX σ x) ≤ n → lvX σ x → lvX σ y → Q (cmT (tX σ x) (tX σ y)) σ → x_S_compare n 0 [x, y] σ Q E := by
  intro n
  induction n with
  | zero => intro x y Q E hn hx; have := trS_pos (h.T hx); omega
  | succ n ih =>
    intro x y Q E hn hx hy hQ
    have rg := h.rg
    have ax := h.at hx
    have ay := h.at hy
    have nx := (h.nd hx).2.2.1
    have ny := (h.nd hy).2.2.1
    rw [tX_row h hx] at nx
    rw [tX_row h hy] at ny
    have okx := (NF_N.mp nx).1
    have oky := (NF_N.mp ny).1
    show x_compare_F (x_S_compare n) x y σ Q
    unfold x_compare_F
    by_cases hxy : x = y
    · rw [if_pos hxy]
      rw [hxy, cmT_rf] at hQ
      exact hQ
    · rw [if_neg hxy]
      have b1 : -60 ≤ gA σ 66 x ∧ gA σ 66 x < 1000000 := by
        have := h.wm.2.2.1
        rcases okx with q | q <;> omega
      have b2 : -60 ≤ gA σ 66 y ∧ gA σ 66 y < 1000000 := by
        have := h.wm.2.2.1
        rcases oky with q | q <;> omega
      have k1 : (if gA σ 66 x < 0 then w32 (-1 - gA σ 66 x) else w32 (1000 + gA σ 66 x)) = kyc (gA σ 66 x) := by
        unfold kyc; split <;> simp (disch := omega) only [w32_id]
      have k2 : (if gA σ 66 y < 0 then w32 (-1 - gA σ 66 y) else w32 (1000 + gA σ 66 y)) = kyc (gA σ 66 y) := by
        unfold kyc; split <;> simp (disch := omega) only [w32_id]
      rw [k1, k2]
      have bx : 0 ≤ x ∧ x < 200000 := by have := hx.1; have := hx.2; omega
      have by' : 0 ≤ y ∧ y < 200000 := by have := hy.1; have := hy.2; omega
      refine ⟨bx, fun _ => bx, fun _ => bx, by', fun _ => by', fun _ => by', ?_⟩
      have fin : (kyc (gA σ 66 x) = kyc (gA σ 66 y) → gA σ 68 x ≠ gA σ 68 y) → x_compare_j91 (x_S_compare n) x y (kyc (gA σ 66 x)) (kyc (gA σ 66 y)) σ Q := by
        intro hd
        unfold x_compare_j91
        refine ⟨fun _ => bx, fun _ => by', ?_⟩
        rw [tX_row h hx, tX_row h hy] at hQ
        by_cases hk : kyc (gA σ 66 x) = kyc (gA σ 66 y)
        · rw [if_pos hk]
          have hl := hd hk
          rw [cmT_len hk (by simp only [List.length_map, rowI_len]; omega)] at hQ
          simp only [List.length_map, rowI_len] at hQ
          by_cases hlt : gA σ 68 x < gA σ 68 y
          · rw [if_pos hlt]; rw [if_pos (by omega)] at hQ; exact hQ
          · rw [if_neg hlt]; rw [if_neg (by omega)] at hQ; exact hQ
        · rw [if_neg hk]
          rw [cmT_lab _ _ hk] at hQ
          exact hQ
      by_cases hk : kyc (gA σ 66 x) = kyc (gA σ 66 y)
      · rw [if_pos hk]
        refine ⟨bx, by', ?_⟩
        by_cases hm : gA σ 68 x = gA σ 68 y
        · rw [if_pos hm]
          have hQ' := hQ
          rw [tX_row h hx, tX_row h hy, cmT_kids hk (by simp only [List.length_map, rowI_len]; omega)] at hQ'
          refine lx_compare_L135 (fo_x_S_compare n) (fun k s => s = σ ∧ 0 ≤ k ∧ k ≤ gA σ 68 x ∧ cmK ((rowI (gA σ 73) (gA σ 67 x + k) (gA σ 68 x - k).toNat).map (tX σ)) ((rowI (gA σ 73) (gA σ 67 y + k) (gA σ 68 y - k).toNat).map (tX σ)) = cmK ((rowI (gA σ 73) (gA σ 67 x) (gA σ 68 x).toNat).map (tX σ)) ((rowI (gA σ 73) (gA σ 67 y) (gA σ 68 y).toNat).map (tX σ))) (fun k _ => (gA σ 68 x - k).toNat) ⟨rfl, by omega, ax.1, by simp⟩ ?_
          rintro k q fr ⟨rfl, k0, k1', hc⟩
          try dsimp only
          refine ⟨bx, ?_⟩
          by_cases hkn : k < gA q 68 x
          · rw [if_pos hkn]
            refine xs_at h hx k0 hkn (xs_at h hy k0 (by omega) ?_)
            have lx := (ax.2.2.2.2 k k0 hkn).1
            have ly := (ay.2.2.2.2 k k0 (by omega)).1
            rw [show (gA q 68 x - k).toNat = (gA q 68 x - (k + 1)).toNat + 1 by omega, show (gA q 68 y - k).toNat = (gA q 68 y - (k + 1)).toNat + 1 by omega] at hc
            simp only [rowI, List.map_cons] at hc
            rw [cmK_cons _ _ (h.T lx) (h.T ly)] at hc
            refine ih _ _ _ _ ?_ lx ly ?_
            · have : trS (tX q (gA q 73 (gA q 67 x + k))) < trS (tX q x) := by
                conv => rhs; rw [tX_row h hx]
                refine trS_kid (List.mem_map_of_mem (rowI_mem.mpr ⟨k, k0, by omega, rfl⟩))
              omega
            · by_cases hz : cmT (tX q (gA q 73 (gA q 67 x + k))) (tX q (gA q 73 (gA q 67 y + k))) = 0
              · rw [if_pos hz, w32_id (by omega) (by omega)]
                rw [if_pos hz] at hc
                refine ⟨⟨rfl, by omega, by omega, ?_⟩, by omega⟩
                rw [← hc]
                congr 3 <;> omega
              · rw [if_neg hz]
                rw [if_neg hz] at hc
                rw [hc]
                exact hQ'
          · rw [if_neg hkn]
            rw [show (gA q 68 x - k).toNat = 0 by omega, show (gA q 68 y - k).toNat = 0 by omega] at hc
            simp only [rowI, List.map_nil, cmK_nil] at hc
            rw [← hc] at hQ'
            exact hQ'
        · rw [if_neg hm]
          exact fin (fun _ => hm)
      · rw [if_neg hk]
        exact fin (fun e => absurd e hk)
theorem xs_compare {M : Mo} {σ : S} (h : XP M σ) {x y : Int} {Q : Int → S → Prop} (hx : lvX σ x) (hy : lvX σ y) (hQ : Q (cmT (tX σ x) (tX σ y)) σ) : x_compare x y σ Q :=
  xs_compareS h 44 x y Q _ (by have := (h.nd hx).2.2.2; omega) hx hy hQ

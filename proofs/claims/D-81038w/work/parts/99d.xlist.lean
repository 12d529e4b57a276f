/-! RewriteHouse: a matcher comes to the list -/
def bX (σ : S) : Env := fun v => if 0 ≤ v ∧ v < 60 then oX σ (gA σ 83 v) else if v = 60 then oX σ (gI σ 125) else if v = 61 then oX σ (gI σ 126) else .nil
/-- the list that is laid -/
def LX (o : Int) (σ : S) (L : List Env) : Prop :=
  0 ≤ gI σ 123 ∧ gI σ 123 + 201 < 6600 ∧ gI σ 124 = (L.length : Int) ∧ L.length ≤ 200 ∧ srE o L ∧ ∀ i : Nat, i < L.length → rwX o σ (gI σ 123 + i) ∧ L[i]? = some (eX σ (gI σ 123 + i))
theorem oX_fr {σ s : S} {w : List Nat × List Nat × List Nat} (f : Fr w σ s) (hw : apt w [93] poolX = true) (x : Int) : oX s x = oX σ x ∧ (olX σ x → olX s x) := by
  have ha := apt_a hw f
  have hi := apt_i hw f
  simp only [List.forall_mem_cons] at ha hi
  unfold oX olX lvX tX
  simp only [ha, hi]
  exact ⟨trivial, fun h => h⟩
theorem eX_row {σ s : S} {w : List Nat × List Nat × List Nat} (f : Fr w σ s) (hw : apt w [93] poolX = true) {r r' : Int} (hv : ∀ k, 0 ≤ k → k < 62 → gA s 86 (62 * r' + k) = gA σ 86 (62 * r + k)) : eX s r' = eX σ r := by
  funext v
  unfold eX
  by_cases h : 0 ≤ v ∧ v < 62
  · rw [if_pos h, if_pos h, hv v h.1 h.2, (oX_fr f hw _).1]
  · rw [if_neg h, if_neg h]
theorem rwX_row {o : Int} {σ s : S} {w : List Nat × List Nat × List Nat} (f : Fr w σ s) (hw : apt w [93] poolX = true) {r r' : Int} (hv : ∀ k, 0 ≤ k → k < 62 → gA s 86 (62 * r' + k) = gA σ 86 (62 * r + k)) (h : rwX o σ r) : rwX o s r' := by
  refine ⟨fun k k0 k1 => ?_, ?_⟩
  · rw [hv k k0 k1]
    exact (oX_fr f hw _).2 (h.1 k k0 k1)
  · rw [eX_row f hw hv]; exact h.2
/-- at a place: those ahead of it are less -/
theorem srE_take {o : Int} {L : List Env} (h : srE o L) {k : Nat} {e ρ : Env} (hk : L[k]? = some e) (hc : cmE o e ρ < 0) : ∀ a ∈ L.take (k + 1), cmE o a ρ < 0 := by
  intro a ha
  obtain ⟨i, hi, e1⟩ := List.getElem_of_mem ha
  rw [List.length_take] at hi
  have hkl := (List.getElem?_eq_some_iff.mp hk).1
  have e2 : L[i]'(by omega) = a := by rw [← e1, List.getElem_take]
  by_cases hik : i = k
  · have : e = a := by
      rw [← e2]
      have := (List.getElem?_eq_some_iff.mp hk).2
      rw [← this]
      congr 1
      exact hik.symm
    rw [← this]; exact hc
  · have hlt : i < k := by omega
    have := List.pairwise_iff_getElem.mp h i k (by omega) hkl hlt
    rw [e2, (List.getElem?_eq_some_iff.mp hk).2] at this
    exact cmE_lt this hc
theorem xs_list {M : Mo} {σ : S} (h : XP M σ) {o : Int} {L : List Env} (ho : gI σ 127 = o) (hL : LX o σ L) (hb : ∀ v, 0 ≤ v → v < 60 → olX σ (gA σ 83 v)) (ha : olX σ (gI σ 125)) (hh : olX σ (gI σ 126)) (hok : okE o (bX σ)) (sd : ∀ ρ ∈ L, sdE (bX σ) ρ) :
    x_list σ (fun _ s => gI s 123 = gI σ 123 ∧ (∃ L', LX o s L' ∧ ∀ ρ, ρ ∈ L' ↔ ρ ∈ L ∨ ρ = bX σ) ∧ ∀ j, j < 62 * gI σ 123 → gA s 86 j = gA σ 86 j) (fun s => gI s 1006 = 2 ∧ L.length = 200 ∧ bX σ ∉ L) := by
  obtain ⟨f0, f1, hm, hlen, hsr, hrows⟩ := hL
  unfold x_list
  rw [hm, w32_id (by omega) (by omega)]
  -- what is bound is laid into the row behind
  refine lx_list_L12 (fun k s => 0 ≤ k ∧ k ≤ 60 ∧ Fr ([], [], [86]) σ s ∧ (∀ j, j < 62 * (gI σ 123 + L.length) → gA s 86 j = gA σ 86 j) ∧ ∀ v, 0 ≤ v → v < k → gA s 86 (62 * (gI σ 123 + L.length) + v) = gA σ 83 v) (fun k _ => (60 - k).toNat) ⟨by omega, by omega, Fr.rf, fun _ _ => rfl, fun v v0 v1 => by omega⟩ ?_
  rintro k s fr ⟨k0, k1, f, hj, hv⟩
  try dsimp only
  by_cases hk : k < 60
  · rw [if_pos hk]
    have w1 : w32 (w32 (62 * (gI σ 123 + L.length)) + k) = 62 * (gI σ 123 + L.length) + k := by simp (disch := omega) only [w32_id]
    rw [w1]
    refine ⟨by omega, by omega, ?_⟩
    rintro s1 hs1
    rw [w32_id (by omega) (by omega)]
    refine ⟨⟨by omega, by omega, f.putA hs1 rfl, fun j hj' => ?_, fun v v0 v1 => ?_⟩, by omega⟩
    · rw [hs1]; simp only [gI_pI, gI_pL, gI_pA, gL_pI, gL_pL, gL_pA, gA_pI, gA_pL, gA_pA]; rw [if_neg (by omega)]; exact hj j hj'
    · rw [hs1]; simp only [gI_pI, gI_pL, gI_pA, gL_pI, gL_pL, gL_pA, gA_pI, gA_pL, gA_pA]
      by_cases e : v = k
      · rw [if_pos ⟨trivial, by omega⟩, e, f.a _ rfl]
      · rw [if_neg (by omega)]; exact hv v v0 (by omega)
  · rw [if_neg hk]
    have ek : k = 60 := by omega
    subst ek
    unfold x_list_j41
    have w1 : w32 (w32 (62 * (gI σ 123 + L.length)) + 60) = 62 * (gI σ 123 + L.length) + 60 := by simp (disch := omega) only [w32_id]
    have w2 : w32 (62 * (gI σ 123 + L.length) + 60 + 1) = 62 * (gI σ 123 + L.length) + 61 := by rw [w32_id (by omega) (by omega)]; omega
    rw [w1, w2]
    refine ⟨by omega, ?_⟩
    rintro s1 hs1
    refine ⟨by omega, ?_⟩
    rintro s2 hs2
    have f2 : Fr ([], [], [86]) σ s2 := (f.putA hs1 rfl).putA hs2 rfl
    have x2 : XP M s2 := h.fr f2 rfl
    have oldj : ∀ j, j < 62 * (gI σ 123 + L.length) → gA s2 86 j = gA σ 86 j := by
      intro j hj'
      rw [hs2, hs1]; simp only [gI_pI, gI_pL, gI_pA, gL_pI, gL_pL, gL_pA, gA_pI, gA_pL, gA_pA]
      rw [if_neg (by omega), if_neg (by omega)]
      exact hj j hj'
    have new : ∀ v, 0 ≤ v → v < 62 → gA s2 86 (62 * (gI σ 123 + L.length) + v) = if v < 60 then gA σ 83 v else if v = 60 then gI σ 125 else gI σ 126 := by
      intro v v0 v1
      rw [hs2, hs1]; simp only [gI_pI, gI_pL, gI_pA, gL_pI, gL_pL, gL_pA, gA_pI, gA_pL, gA_pA]
      by_cases h60 : v < 60
      · rw [if_pos h60, if_neg (by omega), if_neg (by omega)]; exact hv v v0 h60
      · rw [if_neg h60]
        by_cases e : v = 60
        · rw [if_pos e, if_neg (by omega), if_pos ⟨trivial, by omega⟩, f.i _ rfl]
        · rw [if_neg e, if_pos ⟨trivial, by omega⟩, f.i _ rfl]
    have ofr := oX_fr f2 rfl
    have enew : eX s2 (gI σ 123 + L.length) = bX σ := by
      funext v
      unfold eX bX
      by_cases hv2 : 0 ≤ v ∧ v < 62
      · rw [if_pos hv2, new v hv2.1 hv2.2, (ofr _).1]
        by_cases h60 : v < 60
        · rw [if_pos h60, if_pos ⟨hv2.1, h60⟩]
        · rw [if_neg h60, if_neg (show ¬ (0 ≤ v ∧ v < 60) from fun z => h60 z.2)]
          by_cases e : v = 60
          · rw [if_pos e, if_pos e]
          · rw [if_neg e, if_neg e, if_pos (by omega)]
      · rw [if_neg hv2, if_neg (by omega), if_neg (by omega), if_neg (by omega)]
    have rnew : rwX o s2 (gI σ 123 + L.length) := by
      refine ⟨fun v v0 v1 => ?_, by rw [enew]; exact hok⟩
      rw [new v v0 v1]
      refine (ofr _).2 ?_
      by_cases h60 : v < 60
      · rw [if_pos h60]; exact hb v v0 h60
      · rw [if_neg h60]
        by_cases e : v = 60
        · rw [if_pos e]; exact ha
        · rw [if_neg e]; exact hh
    have rold : ∀ i : Nat, i < L.length → rwX o s2 (gI σ 123 + i) ∧ L[i]? = some (eX s2 (gI σ 123 + i)) := by
      intro i hi
      have e := hrows i hi
      have hv3 : ∀ k, 0 ≤ k → k < 62 → gA s2 86 (62 * (gI σ 123 + i) + k) = gA σ 86 (62 * (gI σ 123 + i) + k) := fun k k0 k1 => oldj _ (by omega)
      exact ⟨rwX_row f2 rfl hv3 e.1, by rw [eX_row f2 rfl hv3]; exact e.2⟩
    have i123 : gI s2 123 = gI σ 123 := f2.i _ rfl
    have i124 : gI s2 124 = (L.length : Int) := by rw [f2.i _ rfl, hm]
    have ho2 : gI s2 127 = o := by rw [f2.i _ rfl, ho]
    -- its place
    have ins : ∀ to : Int, gI σ 123 ≤ to → to ≤ gI σ 123 + L.length → (∀ a ∈ L.take (to - gI σ 123).toNat, cmE o a (bX σ) < 0) → (∀ b ∈ L.drop (to - gI σ 123).toNat, cmE o (bX σ) b < 0) →
        x_list_j112 (gI σ 123 + L.length) to s2 (fun _ s => gI s 123 = gI σ 123 ∧ (∃ L', LX o s L' ∧ ∀ ρ, ρ ∈ L' ↔ ρ ∈ L ∨ ρ = bX σ) ∧ ∀ j, j < 62 * gI σ 123 → gA s 86 j = gA σ 86 j) (fun s => gI s 1006 = 2 ∧ L.length = 200 ∧ bX σ ∉ L) := by
      intro to t0 t1 hA hB
      have hnot : bX σ ∉ L := by
        intro hin
        rw [← List.take_append_drop (to - gI σ 123).toNat L] at hin
        rcases List.mem_append.mp hin with z | z
        · have := hA _ z; rw [cmE_rf] at this; omega
        · have := hB _ z; rw [cmE_rf] at this; omega
      unfold x_list_j112
      rw [i124]
      by_cases h200 : (L.length : Int) = 200
      · rw [if_pos h200]
        exact xs_stop ⟨rfl, by omega, hnot⟩
      · rw [if_neg h200]
        refine lx_list_L130 (fun k s => 0 ≤ k ∧ k ≤ 62 ∧ Fr ([], [], [86]) s2 s ∧ (∀ j, j < 62 * to → gA s 86 j = gA s2 86 j) ∧ ∀ r c, to ≤ r → r ≤ gI σ 123 + L.length → 0 ≤ c → c < 62 → gA s 86 (62 * r + c) = if c < k then (if r = to then gA s2 86 (62 * (gI σ 123 + L.length) + c) else gA s2 86 (62 * (r - 1) + c)) else gA s2 86 (62 * r + c)) (fun k _ => (62 - k).toNat) ⟨by omega, by omega, Fr.rf, fun _ _ => rfl, fun r c _ _ c0 c1 => by rw [if_neg (by omega)]⟩ ?_
        rintro k s fr3 ⟨k0, k1, f3, hlow, hrc⟩
        try dsimp only
        by_cases hk : k < 62
        · rw [if_pos hk]
          have w3 : w32 (w32 (62 * (gI σ 123 + L.length)) + k) = 62 * (gI σ 123 + L.length) + k := by simp (disch := omega) only [w32_id]
          rw [w3]
          refine ⟨by omega, ?_⟩
          have hx : gA s 86 (62 * (gI σ 123 + L.length) + k) = gA s2 86 (62 * (gI σ 123 + L.length) + k) := by
            rw [hrc _ k (by omega) (by omega) k0 hk, if_neg (by omega)]
          rw [hx]
          refine lx_list_L152 (fun i q => to ≤ i ∧ i ≤ gI σ 123 + L.length ∧ Fr ([], [], [86]) s q ∧ (∀ r, i < r → r ≤ gI σ 123 + L.length → gA q 86 (62 * r + k) = gA s 86 (62 * (r - 1) + k)) ∧ ∀ j, (∀ r, i < r → r ≤ gI σ 123 + L.length → j ≠ 62 * r + k) → gA q 86 j = gA s 86 j) (fun i _ => (i - to).toNat) ⟨by omega, by omega, Fr.rf, fun r r0 r1 => by omega, fun _ _ => rfl⟩ ?_
          rintro i q fr4 ⟨i0, i1, f4, ha4, hb4⟩
          try dsimp only
          by_cases hi : i ≤ to
          · rw [if_pos hi]
            have ei : i = to := by omega
            unfold x_list_j190
            have w4 : w32 (w32 (62 * to) + k) = 62 * to + k := by simp (disch := omega) only [w32_id]
            rw [w4]
            refine ⟨by omega, ?_⟩
            rintro q1 hq1
            rw [w32_id (by omega) (by omega)]
            have hv1 : ∀ j, gA q1 86 j = if j = 62 * to + k then gA s2 86 (62 * (gI σ 123 + L.length) + k) else gA q 86 j := fun j => by rw [hq1]; simp [gI_pI, gI_pL, gI_pA, gL_pI, gL_pL, gL_pA, gA_pI, gA_pL, gA_pA]
            refine ⟨⟨by omega, by omega, f3.trans (f4.putA hq1 rfl), fun j hj' => ?_, fun r c r0 r1 c0 c1 => ?_⟩, by omega⟩
            · rw [hv1, if_neg (by omega), hb4 j (fun r r0 r1 => by omega)]
              exact hlow j hj'
            · rw [hv1]
              by_cases hck : c = k
              · rw [if_pos (show c < k + 1 by omega), hck]
                by_cases hr : r = to
                · rw [if_pos (by omega), if_pos hr]
                · rw [if_neg (by omega), if_neg hr, ha4 r (by omega) r1, hrc (r - 1) k (by omega) (by omega) k0 hk, if_neg (by omega)]
              · rw [if_neg (by omega), hb4 _ (fun r' r0' r1' => by omega), hrc r c r0 r1 c0 c1]
                by_cases hlt : c < k
                · rw [if_pos hlt, if_pos (show c < k + 1 by omega)]
                · rw [if_neg hlt, if_neg (show ¬ c < k + 1 by omega)]
          · rw [if_neg hi]
            have w5 : w32 (w32 (62 * w32 (i - 1)) + k) = 62 * (i - 1) + k := by simp (disch := omega) only [w32_id]
            have w6 : w32 (w32 (62 * i) + k) = 62 * i + k := by simp (disch := omega) only [w32_id]
            rw [w5, w6]
            refine ⟨by omega, by omega, ?_⟩
            rintro q1 hq1
            rw [w32_id (by omega) (by omega)]
            have hv1 : ∀ j, gA q1 86 j = if j = 62 * i + k then gA q 86 (62 * (i - 1) + k) else gA q 86 j := fun j => by rw [hq1]; simp [gI_pI, gI_pL, gI_pA, gL_pI, gL_pL, gL_pA, gA_pI, gA_pL, gA_pA]
            refine ⟨⟨by omega, by omega, f4.putA hq1 rfl, fun r r0 r1 => ?_, fun j hj' => ?_⟩, by omega⟩
            · rw [hv1]
              by_cases e : r = i
              · rw [if_pos (by omega), hb4 _ (fun r' r0' r1' => by omega), e]
              · rw [if_neg (by omega)]
                exact ha4 r (by omega) r1
            · rw [hv1, if_neg (hj' i (by omega) i1)]
              exact hb4 j (fun r r0 r1 => hj' r (by omega) r1)
        · rw [if_neg hk]
          have ek : k = 62 := by omega
          subst ek
          unfold x_list_j209
          rintro s5 hs5
          rw [f3.i _ rfl, i124, w32_id (by omega) (by omega)] at hs5
          have f5 : Fr ([124], [], [86]) s2 s5 := (f3.weak rfl).putI hs5 rfl
          have f6 : Fr ([124], [], [86]) σ s5 := (f2.weak rfl).trans f5
          have i5 : gI s5 123 = gI σ 123 := f6.i _ rfl
          have ls : ∀ j, gA s5 86 j = gA s 86 j := fun j => by rw [hs5, gA_pI]
          refine ⟨i5, ⟨L.take (to - gI σ 123).toNat ++ bX σ :: L.drop (to - gI σ 123).toNat, ⟨by omega, by omega, ?_, ?_, ?_, fun i hi => ?_⟩, fun ρ => ?_⟩, fun j hj' => ?_⟩
          · rw [hs5]
            simp only [gI_pI, gI_pL, gI_pA, gL_pI, gL_pL, gL_pA, gA_pI, gA_pL, gA_pA]
            simp only [if_true, List.length_append, List.length_take, List.length_cons, List.length_drop]
            omega
          · simp only [List.length_append, List.length_take, List.length_cons, List.length_drop]
            omega
          · exact srE_ins (by rw [List.take_append_drop]; exact hsr) hA hB
          · rw [i5]
            simp only [List.length_append, List.length_take, List.length_cons, List.length_drop] at hi
            have hlt : (L.take (to - gI σ 123).toNat).length = (to - gI σ 123).toNat := by rw [List.length_take]; omega
            by_cases c1 : (i : Int) < to - gI σ 123
            · have hv4 : ∀ c, 0 ≤ c → c < 62 → gA s5 86 (62 * (gI σ 123 + i) + c) = gA s2 86 (62 * (gI σ 123 + i) + c) := fun c c0 c1' => by rw [ls]; exact hlow _ (by omega)
              have e := rold i (by omega)
              refine ⟨rwX_row f5 rfl hv4 e.1, ?_⟩
              rw [eX_row f5 rfl hv4, List.getElem?_append_left (by omega), List.getElem?_take, if_pos (by omega)]
              exact e.2
            · by_cases c2 : (i : Int) = to - gI σ 123
              · have hv4 : ∀ c, 0 ≤ c → c < 62 → gA s5 86 (62 * (gI σ 123 + i) + c) = gA s2 86 (62 * (gI σ 123 + L.length) + c) := fun c c0 c1' => by
                  rw [ls, hrc _ c (by omega) (by omega) c0 c1', if_pos c1', if_pos (by omega)]
                refine ⟨rwX_row f5 rfl hv4 rnew, ?_⟩
                rw [eX_row f5 rfl hv4, enew, List.getElem?_append_right (by omega), show i - (L.take (to - gI σ 123).toNat).length = 0 by omega]; rfl
              · have hv4 : ∀ c, 0 ≤ c → c < 62 → gA s5 86 (62 * (gI σ 123 + i) + c) = gA s2 86 (62 * (gI σ 123 + (i - 1 : Nat)) + c) := fun c c0 c1' => by
                  rw [ls, hrc _ c (by omega) (by omega) c0 c1', if_pos c1', if_neg (by omega)]
                  congr 1
                  omega
                have e := rold (i - 1) (by omega)
                refine ⟨rwX_row f5 rfl hv4 e.1, ?_⟩
                rw [eX_row f5 rfl hv4, List.getElem?_append_right (by omega), show i - (L.take (to - gI σ 123).toNat).length = (i - 1 - (to - gI σ 123).toNat) + 1 by omega, List.getElem?_cons_succ, List.getElem?_drop, show (to - gI σ 123).toNat + (i - 1 - (to - gI σ 123).toNat) = i - 1 by omega]
                exact e.2
          · constructor
            · intro hin
              rcases List.mem_append.mp hin with z | z
              · exact Or.inl (List.mem_of_mem_take z)
              · rcases List.mem_cons.mp z with z | z
                · exact Or.inr z
                · exact Or.inl (List.mem_of_mem_drop z)
            · rintro (z | z)
              · rw [← List.take_append_drop (to - gI σ 123).toNat L] at z
                rcases List.mem_append.mp z with y | y
                · exact List.mem_append_left _ y
                · exact List.mem_append_right _ (List.mem_cons_of_mem _ y)
              · rw [z]; exact List.mem_append_right _ (List.mem_cons_self ..)
          · rw [ls, hlow j (by omega)]
            exact oldj j (by omega)
    refine lx_list_L77 (fun to s => s = s2 ∧ gI σ 123 ≤ to ∧ to ≤ gI σ 123 + L.length ∧ ∀ b ∈ L.drop (to - gI σ 123).toNat, cmE o (bX σ) b < 0) (fun to _ => (to - gI σ 123).toNat) ⟨rfl, by omega, by omega, fun b hb' => by rw [List.drop_of_length_le (by omega)] at hb'; cases hb'⟩ ?_
    rintro to q fr3 ⟨rfl, t0, t1, hB⟩
    try dsimp only
    rw [i123]
    by_cases ht : to ≤ gI σ 123
    · rw [if_pos ht]
      refine ins to t0 t1 (fun a ha' => ?_) hB
      rw [show (to - gI σ 123).toNat = 0 by omega] at ha'
      simp at ha'
    · rw [if_neg ht, w32_id (v := to - 1) (by omega) (by omega)]
      have e := rold (to - 1 - gI σ 123).toNat (by omega)
      rw [show gI σ 123 + (((to - 1 - gI σ 123).toNat : Nat) : Int) = to - 1 by omega] at e
      have hmem : eX q (to - 1) ∈ L := List.mem_of_getElem? e.2
      refine xs_compareMatchers x2 ho2 (by omega) (by omega) (by omega) (by omega) rnew e.1 (by rw [enew]; exact sd _ hmem) ?_
      rw [enew]
      have hneg := cmE_neg o (bX σ) (eX q (to - 1))
      generalize hcz : cmE o (bX σ) (eX q (to - 1)) = cz at hneg ⊢
      by_cases hz : cz = 0
      · rw [if_pos hz]
        have heq := cmE_eq hok e.1.2 (sd _ hmem) (by rw [hcz]; exact hz)
        refine ⟨i123, ⟨L, ⟨by omega, by omega, i124, hlen, hsr, fun i hi => by rw [i123]; exact rold i hi⟩, fun ρ => ⟨fun z => Or.inl z, fun z => ?_⟩⟩, fun j hj' => oldj j (by omega)⟩
        rcases z with z | z
        · exact z
        · rw [z, heq]; exact hmem
      · rw [if_neg hz]
        by_cases hle : cz ≤ 0
        · rw [if_pos hle, w32_id (by omega) (by omega)]
          refine ⟨⟨rfl, by omega, by omega, fun b hb' => ?_⟩, by omega⟩
          rw [show (to + -1 - gI σ 123).toNat = (to - 1 - gI σ 123).toNat by omega] at hb'
          have hlt2 : (to - 1 - gI σ 123).toNat < L.length := by omega
          rw [List.drop_eq_getElem_cons hlt2] at hb'
          rcases List.mem_cons.mp hb' with z | z
          · have := (List.getElem?_eq_some_iff.mp e.2).2
            rw [z, this, hcz]; omega
          · rw [show (to - 1 - gI σ 123).toNat + 1 = (to - gI σ 123).toNat by omega] at z
            exact hB b z
        · rw [if_neg hle]
          unfold x_list_j103
          refine ins to t0 t1 ?_ hB
          have := srE_take hsr (ρ := bX σ) e.2 (by rw [hneg]; omega)
          rw [show (to - 1 - gI σ 123).toNat + 1 = (to - gI σ 123).toNat by omega] at this
          exact this

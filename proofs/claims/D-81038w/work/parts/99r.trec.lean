/-! RewriteHouseModel: a matcher is recorded -/
def LT (o : Int) (σ : S) (L : List Env) : Prop :=
  0 ≤ gI σ 114 ∧ gI σ 114 + 64 * 201 ≤ 460000 ∧ gI σ 115 = (L.length : Int) ∧ L.length ≤ 200 ∧ srE o L ∧ ∀ i : Nat, i < L.length → rwT o σ (gI σ 114 + 64 * i) ∧ L[i]? = some (eT σ (gI σ 114 + 64 * i))
abbrev poolT : List Nat := [48, 49, 50, 56]
theorem oT_fr {σ s : S} {w : List Nat × List Nat × List Nat} (f : Fr w σ s) (hw : apt w [80] poolT = true) (x : Int) : oT s x = oT σ x ∧ (olT σ x → olT s x) := by
  have ha := apt_a hw f
  have hi := apt_i hw f
  simp only [List.forall_mem_cons] at ha hi
  unfold oT olT lvT tT
  simp only [ha, hi]
  exact ⟨trivial, fun h => h⟩
theorem eT_row {σ s : S} {w : List Nat × List Nat × List Nat} (f : Fr w σ s) (hw : apt w [80] poolT = true) {r r' : Int} (hv : ∀ k, 0 ≤ k → k < 62 → gA s 79 (r' + k) = gA σ 79 (r + k)) : eT s r' = eT σ r := by
  funext v
  unfold eT
  by_cases h : 0 ≤ v ∧ v < 62
  · rw [if_pos h, if_pos h, hv v h.1 h.2, (oT_fr f hw _).1]
  · rw [if_neg h, if_neg h]
theorem rwT_row {o : Int} {σ s : S} {w : List Nat × List Nat × List Nat} (f : Fr w σ s) (hw : apt w [80] poolT = true) {r r' : Int} (hv : ∀ k, 0 ≤ k → k < 62 → gA s 79 (r' + k) = gA σ 79 (r + k)) (h : rwT o σ r) : rwT o s r' := by
  refine ⟨fun k k0 k1 => ?_, ?_⟩
  · rw [hv k k0 k1]
    exact (oT_fr f hw _).2 (h.1 k k0 k1)
  · rw [eT_row f hw hv]; exact h.2
theorem srE_drop {o : Int} {L : List Env} (h : srE o L) {k : Nat} {e ρ : Env} (hk : L[k]? = some e) (hc : cmE o ρ e < 0) : ∀ b ∈ L.drop k, cmE o ρ b < 0 := by
  intro b hb
  have hkl := (List.getElem?_eq_some_iff.mp hk).1
  rw [List.drop_eq_getElem_cons hkl, (List.getElem?_eq_some_iff.mp hk).2] at hb
  rcases List.mem_cons.mp hb with z | z
  · rw [z]; exact hc
  · obtain ⟨i, hi, e1⟩ := List.getElem_of_mem z
    rw [List.length_drop] at hi
    rw [List.getElem_drop] at e1
    have := List.pairwise_iff_getElem.mp h k (k + 1 + i) hkl (by omega) (by omega)
    rw [e1, (List.getElem?_eq_some_iff.mp hk).2] at this
    exact cmE_lt hc this
theorem ts_record {M : Mo} {σ : S} (h : TP M σ) {o : Int} {L : List Env} (ho : gI σ 116 = o) (hL : LT o σ L) (hb : ∀ v, 0 ≤ v → v < 60 → olT σ (gA σ 78 v)) (ha : olT σ (gI σ 117)) (hh : olT σ (gI σ 118)) (hok : okE o (bT σ)) (sd : ∀ ρ ∈ L, sdE (bT σ) ρ) :
    t_record σ (fun _ s => gI s 114 = gI σ 114 ∧ (∃ L', LT o s L' ∧ ∀ ρ, ρ ∈ L' ↔ ρ ∈ L ∨ ρ = bT σ) ∧ ∀ j, j < gI σ 114 → gA s 79 j = gA σ 79 j) (fun s => gI s 1006 = 2 ∧ L.length = 200 ∧ bT σ ∉ L) := by
  have hLT := hL
  obtain ⟨f0, f1, hm, hlen, hsr, hrows⟩ := hL
  unfold t_record
  rw [hm]
  refine lt_record_L7 (fun i to s => s = σ ∧ 0 ≤ i ∧ i ≤ to ∧ to ≤ L.length ∧ (∀ a ∈ L.take i.toNat, cmE o a (bT σ) < 0) ∧ ∀ b ∈ L.drop to.toNat, cmE o (bT σ) b < 0) (fun i to _ => (to - i).toNat) ⟨rfl, by omega, by omega, by omega, by simp, by rw [List.drop_of_length_le (by omega)]; simp⟩ ?_
  rintro i to q fr ⟨rfl, i0, i1, i2, hA, hB⟩
  try dsimp only
  by_cases hlt : i < to
  · rw [if_pos hlt]
    have wm : w32 (Int.tdiv (w32 (i + to)) 2) = (i + to) / 2 := by
      rw [w32_id (v := i + to) (by omega) (by omega), Int.tdiv_eq_ediv_of_nonneg (by omega), w32_id (by omega) (by omega)]
    rw [wm]
    obtain ⟨m, em⟩ : ∃ m : Nat, (i + to) / 2 = (m : Int) := ⟨((i + to) / 2).toNat, by omega⟩
    rw [em]
    have e := hrows m (by omega)
    have hmem := List.mem_of_getElem? e.2
    refine ts_orderTo h ho (by omega) (by omega) f0 (by omega) hb ha hh hok e.1 (sd _ hmem) ?_
    have hneg := cmE_neg o (bT q) (eT q (gI q 114 + 64 * m))
    generalize hcz : cmE o (bT q) (eT q (gI q 114 + 64 * m)) = cz at hneg ⊢
    by_cases hz : cz = 0
    · rw [if_pos hz]
      have heq := cmE_eq hok e.1.2 (sd _ hmem) (by rw [hcz]; exact hz)
      refine ⟨rfl, ⟨L, hLT, fun ρ => ⟨fun z => Or.inl z, fun z => ?_⟩⟩, fun _ _ => rfl⟩
      rcases z with z | z
      · exact z
      · rw [z, heq]; exact hmem
    · rw [if_neg hz]
      unfold t_record_j45
      by_cases hle : cz < 0
      · rw [if_pos hle]
        refine ⟨⟨rfl, i0, by omega, by omega, hA, ?_⟩, by omega⟩
        rw [show ((m : Int)).toNat = m by omega]
        exact srE_drop hsr e.2 (by rw [hcz]; exact hle)
      · rw [if_neg hle, w32_id (by omega) (by omega)]
        refine ⟨⟨rfl, by omega, by omega, i2, ?_, hB⟩, by omega⟩
        rw [show ((m : Int) + 1).toNat = m + 1 by omega]
        exact srE_take hsr e.2 (by rw [hneg]; omega)
  · rw [if_neg hlt]
    have eto : to = i := by omega
    subst eto
    obtain ⟨m, rfl⟩ : ∃ m : Nat, to = (m : Int) := ⟨to.toNat, by omega⟩
    rw [show ((m : Int)).toNat = m by omega] at hA hB
    have hnot : bT q ∉ L := by
      intro hin
      rw [← List.take_append_drop m L] at hin
      rcases List.mem_append.mp hin with z | z
      · have := hA _ z; rw [cmE_rf] at this; omega
      · have := hB _ z; rw [cmE_rf] at this; omega
    unfold t_record_j48
    rw [hm]
    by_cases h200 : (L.length : Int) = 200
    · rw [if_pos h200]
      unfold t_fail
      rintro s1 hs1 s2 hs2
      refine ⟨?_, by omega, hnot⟩
      rw [hs2, hs1]; rfl
    · rw [if_neg h200]
      unfold t_record_j64
      have w1 : w32 (w32 (gI q 114 + w32 (64 * gI q 115)) - 1) = gI q 114 + 64 * L.length - 1 := by
        rw [hm]; simp (disch := omega) only [w32_id]
      rw [w1]
      generalize hf : gI q 114 = F at *
      refine lt_record_L79 (fun k s => F + 64 * m - 1 ≤ k ∧ k ≤ F + 64 * L.length - 1 ∧ Fr ([], [], [79]) q s ∧ (∀ j, k < j → j < F + 64 * L.length → gA s 79 (j + 64) = gA q 79 j) ∧ ∀ j, j ≤ k + 64 → gA s 79 j = gA q 79 j) (fun k _ => (k - (F + 64 * m - 1)).toNat) ⟨by omega, by omega, Fr.rf, fun j j0 j1 => by omega, fun _ _ => rfl⟩ ?_
      rintro k s fr2 ⟨k0, k1, f, hup, hlo⟩
      try dsimp only
      have w2 : w32 (gI s 114 + w32 (64 * (m : Int))) = F + 64 * m := by
        rw [f.i _ rfl, hf]; simp (disch := omega) only [w32_id]
      rw [w2]
      by_cases hk : k < F + 64 * m
      · rw [if_pos hk]
        have ek : k = F + 64 * m - 1 := by omega
        subst ek
        unfold t_record_j113
        rw [w2]
        refine lt_record_L126 (fun v s' => 0 ≤ v ∧ v ≤ 60 ∧ Fr ([], [], [79]) s s' ∧ (∀ j, 0 ≤ j → j < v → gA s' 79 (F + 64 * m + j) = gA q 78 j) ∧ ∀ j, j < F + 64 * m ∨ F + 64 * m + v ≤ j → gA s' 79 j = gA s 79 j) (fun v _ => (60 - v).toNat) ⟨by omega, by omega, Fr.rf, fun j j0 j1 => by omega, fun _ _ => rfl⟩ ?_
        rintro v s' fr3 ⟨v0, v1, f', hin, hout⟩
        try dsimp only
        by_cases hv : v < 60
        · rw [if_pos hv]
          have w3 : w32 (F + 64 * m + v) = F + 64 * m + v := w32_id (by omega) (by omega)
          rw [w3]
          refine ⟨⟨v0, hv⟩, ⟨by omega, by omega⟩, ?_⟩
          rintro s1 hs1
          rw [w32_id (by omega) (by omega)]
          have eb : gA s' 78 v = gA q 78 v := by rw [f'.a _ rfl, f.a _ rfl]
          rw [eb] at hs1
          refine ⟨⟨by omega, by omega, f'.putA hs1 rfl, fun j j0 j1 => ?_, fun j hj => ?_⟩, by omega⟩
          · rw [hs1]; simp only [gI_pI, gI_pL, gI_pA, gL_pI, gL_pL, gL_pA, gA_pI, gA_pL, gA_pA]
            by_cases e : j = v
            · rw [if_pos ⟨trivial, by omega⟩, e]
            · rw [if_neg (by omega)]; exact hin j j0 (by omega)
          · rw [hs1]; simp only [gI_pI, gI_pL, gI_pA, gL_pI, gL_pL, gL_pA, gA_pI, gA_pL, gA_pA]
            rw [if_neg (by omega)]
            exact hout j (by omega)
        · rw [if_neg hv]
          have ev : v = 60 := by omega
          subst ev
          unfold t_record_j155
          have w4 : w32 (F + 64 * m + 60) = F + 64 * m + 60 := w32_id (by omega) (by omega)
          have w5 : w32 (F + 64 * m + 61) = F + 64 * m + 61 := w32_id (by omega) (by omega)
          rw [w4, w5]
          refine ⟨⟨by omega, by omega⟩, ?_⟩
          rintro s1 hs1
          refine ⟨⟨by omega, by omega⟩, ?_⟩
          rintro s2 hs2 s3 hs3
          have e115 : gI s2 115 = (L.length : Int) := by rw [hs2, gI_pA, hs1, gI_pA, f'.i _ rfl, f.i _ rfl, hm]
          rw [e115, w32_id (by omega) (by omega)] at hs3
          have f3 : Fr ([115], [], [79]) q s3 := (((f.trans f').weak (w' := ([115], [], [79])) rfl).putA hs1 rfl).putA hs2 rfl |>.putI hs3 rfl
          have x3 := h.fr f3 rfl
          have i117 : gI s1 118 = gI q 118 := by rw [hs1, gI_pA, f'.i _ rfl, f.i _ rfl]
          have i116 : gI s' 117 = gI q 117 := by rw [f'.i _ rfl, f.i _ rfl]
          rw [i117] at hs2
          rw [i116] at hs1
          have iF : gI s3 114 = F := by rw [f3.i _ rfl, hf]
          have cell : ∀ j, gA s3 79 j = if j = F + 64 * m + 61 then gI q 118 else if j = F + 64 * m + 60 then gI q 117 else gA s' 79 j := by
            intro j
            rw [hs3, hs2, hs1]; simp only [gI_pI, gI_pL, gI_pA, gL_pI, gL_pL, gL_pA, gA_pI, gA_pL, gA_pA]
            by_cases e1 : j = F + 64 * m + 61
            · rw [if_pos ⟨trivial, e1⟩, if_pos e1]
            · rw [if_neg (fun z => e1 z.2), if_neg e1]
              by_cases e2 : j = F + 64 * m + 60
              · rw [if_pos ⟨trivial, e2⟩, if_pos e2]
              · rw [if_neg (fun z => e2 z.2), if_neg e2]
          have low : ∀ j, j < F + 64 * m → gA s3 79 j = gA q 79 j := by
            intro j hj
            rw [cell, if_neg (by omega), if_neg (by omega), hout j (by omega), hlo j (by omega)]
          have up : ∀ j, F + 64 * m ≤ j → j < F + 64 * L.length → gA s3 79 (j + 64) = gA q 79 j := by
            intro j j0 j1
            rw [cell, if_neg (by omega), if_neg (by omega), hout _ (by omega), hup j (by omega) j1]
          have mid : ∀ v, 0 ≤ v → v < 62 → gA s3 79 (F + 64 * m + v) = if v < 60 then gA q 78 v else if v = 60 then gI q 117 else gI q 118 := by
            intro v v0 v1
            rw [cell]
            by_cases h60 : v < 60
            · rw [if_neg (by omega), if_neg (by omega), if_pos h60, hin v v0 h60]
            · rw [if_neg h60]
              by_cases e : v = 60
              · rw [if_neg (by omega), if_pos (by omega), if_pos e]
              · rw [if_pos (by omega), if_neg e]
          have ofr := oT_fr f3 rfl
          have enew : eT s3 (F + 64 * m) = bT q := by
            funext v
            unfold eT bT
            by_cases hv2 : 0 ≤ v ∧ v < 62
            · rw [if_pos hv2, mid v hv2.1 hv2.2, (ofr _).1]
              by_cases h60 : v < 60
              · rw [if_pos h60, if_pos ⟨hv2.1, h60⟩]
              · rw [if_neg h60, if_neg (show ¬ (0 ≤ v ∧ v < 60) from fun z => h60 z.2)]
                by_cases e : v = 60
                · rw [if_pos e, if_pos e]
                · rw [if_neg e, if_neg e, if_pos (by omega)]
            · rw [if_neg hv2, if_neg (by omega), if_neg (by omega), if_neg (by omega)]
          have rnew : rwT o s3 (F + 64 * m) := by
            refine ⟨fun v v0 v1 => ?_, by rw [enew]; exact hok⟩
            rw [mid v v0 v1]
            refine (ofr _).2 ?_
            by_cases h60 : v < 60
            · rw [if_pos h60]; exact hb v v0 h60
            · rw [if_neg h60]
              by_cases e : v = 60
              · rw [if_pos e]; exact ha
              · rw [if_neg e]; exact hh
          refine ⟨iF, ⟨L.take m ++ bT q :: L.drop m, ⟨by omega, by omega, ?_, ?_, srE_ins (by rw [List.take_append_drop]; exact hsr) hA hB, fun i hi => ?_⟩, fun ρ => ?_⟩, fun j hj => low j (by omega)⟩
          · rw [hs3]
            simp only [gI_pI, gI_pL, gI_pA, gL_pI, gL_pL, gL_pA, gA_pI, gA_pL, gA_pA]
            simp only [if_true, List.length_append, List.length_take, List.length_cons, List.length_drop]
            omega
          · simp only [List.length_append, List.length_take, List.length_cons, List.length_drop]
            omega
          · rw [iF]
            simp only [List.length_append, List.length_take, List.length_cons, List.length_drop] at hi
            have hltm : (L.take m).length = m := by rw [List.length_take]; omega
            by_cases c1 : i < m
            · have hv4 : ∀ c, 0 ≤ c → c < 62 → gA s3 79 (F + 64 * i + c) = gA q 79 (F + 64 * i + c) := fun c c0 c1' => low _ (by omega)
              have e := hrows i (by omega)
              refine ⟨rwT_row f3 rfl hv4 e.1, ?_⟩
              rw [eT_row f3 rfl hv4, List.getElem?_append_left (by omega), List.getElem?_take, if_pos c1]
              exact e.2
            · by_cases c2 : i = m
              · subst c2
                refine ⟨rnew, ?_⟩
                rw [enew, List.getElem?_append_right (by omega), show i - (L.take i).length = 0 by omega]; rfl
              · have hv4 : ∀ c, 0 ≤ c → c < 62 → gA s3 79 (F + 64 * i + c) = gA q 79 (F + 64 * (i - 1 : Nat) + c) := fun c c0 c1' => by
                  rw [← up (F + 64 * (i - 1 : Nat) + c) (by omega) (by omega)]
                  congr 1
                  omega
                have e := hrows (i - 1) (by omega)
                refine ⟨rwT_row f3 rfl hv4 e.1, ?_⟩
                rw [eT_row f3 rfl hv4, List.getElem?_append_right (by omega), show i - (L.take m).length = (i - 1 - m) + 1 by omega, List.getElem?_cons_succ, List.getElem?_drop, show m + (i - 1 - m) = i - 1 by omega]
                exact e.2
          · constructor
            · intro hin2
              rcases List.mem_append.mp hin2 with z | z
              · exact Or.inl (List.mem_of_mem_take z)
              · rcases List.mem_cons.mp z with z | z
                · exact Or.inr z
                · exact Or.inl (List.mem_of_mem_drop z)
            · rintro (z | z)
              · rw [← List.take_append_drop m L] at z
                rcases List.mem_append.mp z with y | y
                · exact List.mem_append_left _ y
                · exact List.mem_append_right _ (List.mem_cons_of_mem _ y)
              · rw [z]; exact List.mem_append_right _ (List.mem_cons_self ..)
      · rw [if_neg hk]
        have w3 : w32 (k + 64) = k + 64 := w32_id (by omega) (by omega)
        rw [w3]
        refine ⟨⟨by omega, by omega⟩, ⟨by omega, by omega⟩, ?_⟩
        rintro s1 hs1
        rw [w32_id (by omega) (by omega)]
        rw [hlo k (by omega)] at hs1
        refine ⟨⟨by omega, by omega, f.putA hs1 rfl, fun j j0 j1 => ?_, fun j hj => ?_⟩, by omega⟩
        · rw [hs1]; simp only [gI_pI, gI_pL, gI_pA, gL_pI, gL_pL, gL_pA, gA_pI, gA_pL, gA_pA]
          by_cases e : j = k
          · rw [if_pos ⟨trivial, by omega⟩, e]
          · rw [if_neg (by omega)]; exact hup j (by omega) j1
        · rw [hs1]; simp only [gI_pI, gI_pL, gI_pA, gL_pI, gL_pL, gL_pA, gA_pI, gA_pL, gA_pA]
          rw [if_neg (by omega)]
          exact hlo j (by omega)

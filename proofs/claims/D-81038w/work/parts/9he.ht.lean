/-! RewriteHouseModel: handles and what is kept, over calls -/
def HT (hs : List Tr) (σ : S) : Prop := gI σ 101 = (hs.length : Int) ∧ ∀ (i : Nat) (t : Tr), hs[i]? = some t → lvT σ (gA σ 70 (i : Int)) ∧ tT σ (gA σ 70 (i : Int)) = t
def csT (M : Mo) (a : Cl) (σ : S) : Prop := HT a.1 σ ∧ okH M a.1 ∧ gI σ 145 = a.2.1 ∧ gI σ 144 = a.2.2
/-- lists that cover what is kept: of the module, of pair and results -/
def kpU (UM UP : List Tr) : Prop := (UM.length ≤ 6000 ∧ (UM.map wt).sum ≤ 10000) ∧ UP.length ≤ 4900 ∧ (UP.map wt).sum ≤ 30000
/-- what is kept besides the handles -/
def rtN (σ : S) (y : Int) : Prop :=
  (∃ k, (0 ≤ k ∧ k < gI σ 45) ∧ (y = gA σ 64 k ∨ y = gA σ 65 k ∨ ∃ c, (0 ≤ c ∧ c < gA σ 29 k) ∧ (y = gA σ 66 (6 * k + c) ∨ (y = gA σ 67 (6 * k + c) ∧ 0 ≤ y)))) ∨
  (gI σ 190 ≠ 0 ∧ (y = gI σ 181 ∨ y = gI σ 182)) ∨
  (gI σ 135 ≠ 1 ∧ ∃ k, (0 ≤ k ∧ k < gI σ 134) ∧ y = gA σ 85 k) ∨
  (gI σ 135 = 1 ∧ ∃ k j, (0 ≤ k ∧ k < gI σ 134) ∧ (0 ≤ j ∧ j < 62) ∧ y = gA σ 86 (64 * k + j) ∧ 0 ≤ y)
theorem rtT_or {σ : S} {y : Int} : rtT σ y ↔ rtN σ y ∨ ∃ k, (0 ≤ k ∧ k < gI σ 101) ∧ y = gA σ 70 k := by
  unfold rtT rtN
  constructor
  · rintro (h | h | h)
    · exact Or.inl (Or.inl h)
    · exact Or.inr h
    · exact Or.inl (Or.inr h)
  · rintro ((h | h) | h)
    · exact Or.inl h
    · exact Or.inr (Or.inr h)
    · exact Or.inr (Or.inl h)
def kept (M : Mo) (UM UP : List Tr) (σ : S) : Prop := ∀ y, rtN σ y → okT M (tT σ y) ∧ ∀ q ∈ subs (tT σ y), q ∈ UM ++ UP
theorem wt_subs {M : Mo} {hs : List Tr} (h : ∀ t ∈ hs, okT M t) : (hs.flatMap subs).length ≤ 40 * hs.length ∧ ((hs.flatMap subs).map wt).sum ≤ 40 * hs.length := by
  have one : ∀ t : Tr, isT t → ((subs t).map wt).sum + 1 ≤ trS t := by
    refine tr_ind ?_
    intro c ts hc hT ih
    rw [subs_N, trS_N, List.map_cons, List.sum_cons]
    have k : wt (trN c ts) ≤ ts.length := by unfold wt; rw [kids_N]; omega
    have : ((ts.flatMap subs).map wt).sum + ts.length ≤ (ts.map trS).sum := by
      clear hT k
      induction ts with
      | nil => simp
      | cons a l ih2 =>
        have h1 := ih a (List.mem_cons_self ..)
        have h2 := ih2 (fun t ht => ih t (List.mem_cons_of_mem _ ht))
        rw [List.flatMap_cons, List.map_append, List.sum_append, List.map_cons, List.sum_cons, List.length_cons]
        omega
    omega
  induction hs with
  | nil => simp
  | cons a l ih =>
    have i := ih (fun t ht => h t (List.mem_cons_of_mem _ ht))
    have o := h a (List.mem_cons_self ..)
    have l1 := subs_len o.1.1
    have w1 := one a o.1.1
    have := o.2
    rw [List.flatMap_cons, List.length_append, List.map_append, List.sum_append, List.length_cons]
    omega
theorem rtT.fr {σ s : S} {w : List Nat × List Nat × List Nat} (f : Fr w σ s) (hw : apt w [45, 101, 190, 181, 182, 135, 134] [64, 65, 29, 66, 67, 70, 85, 86] = true) (y : Int) : rtT s y ↔ rtT σ y := by
  have hi := apt_i hw f
  have ha := apt_a hw f
  simp only [List.forall_mem_cons] at hi ha
  unfold rtT
  rw [hi.1, hi.2.1, hi.2.2.1, hi.2.2.2.1, hi.2.2.2.2.1, hi.2.2.2.2.2.1, hi.2.2.2.2.2.2.1, ha.1, ha.2.1, ha.2.2.1, ha.2.2.2.1, ha.2.2.2.2.1, ha.2.2.2.2.2.1, ha.2.2.2.2.2.2.1, ha.2.2.2.2.2.2.2.1]
theorem rtN.fr {σ s : S} {w : List Nat × List Nat × List Nat} (f : Fr w σ s) (hw : apt w [45, 190, 181, 182, 135, 134] [64, 65, 29, 66, 67, 85, 86] = true) (y : Int) : rtN s y ↔ rtN σ y := by
  have hi := apt_i hw f
  have ha := apt_a hw f
  simp only [List.forall_mem_cons] at hi ha
  unfold rtN
  rw [hi.1, hi.2.1, hi.2.2.1, hi.2.2.2.1, hi.2.2.2.2.1, hi.2.2.2.2.2.1, ha.1, ha.2.1, ha.2.2.1, ha.2.2.2.1, ha.2.2.2.2.1, ha.2.2.2.2.2.1, ha.2.2.2.2.2.2.1]
theorem rtO.fr {σ s : S} {w : List Nat × List Nat × List Nat} (h : rtO σ) (g : gwT σ s) (f : Fr w σ s) (hw : apt w [45, 101, 190, 181, 182, 135, 134] [64, 65, 29, 66, 67, 70, 85, 86] = true) : rtO s := by
  have hi := apt_i hw f
  have ha := apt_a hw f
  simp only [List.forall_mem_cons] at hi ha
  obtain ⟨h1, h2, h3, h4, h5⟩ := h
  refine ⟨fun y hy => g.lv (h1 y ((rtT.fr f hw y).mp hy)), by rw [hi.1]; exact h2, by rw [hi.1, ha.2.2.1]; exact h3, by rw [hi.2.1]; exact h4, by rw [hi.2.2.2.2.2.2.1]; exact h5⟩
theorem kept.fr {M : Mo} {UM UP : List Tr} {σ s : S} {w : List Nat × List Nat × List Nat} (h : kept M UM UP σ) (O : rtO σ) (g : gwT σ s) (f : Fr w σ s) (hw : apt w [45, 190, 181, 182, 135, 134] [64, 65, 29, 66, 67, 85, 86] = true) : kept M UM UP s := by
  intro y hy
  have r := (rtN.fr f hw y).mp hy
  rw [g.2.1 y (O.1 y (rtT_or.mpr (Or.inl r)))]
  exact h y r
theorem HT.fr {hs : List Tr} {σ s : S} {w : List Nat × List Nat × List Nat} (h : HT hs σ) (g : gwT σ s) (f : Fr w σ s) (hw : apt w [101] [70] = true) : HT hs s := by
  have hi := apt_i hw f
  have ha := apt_a hw f
  simp only [List.forall_mem_cons] at hi ha
  unfold HT
  rw [hi.1, ha.1]
  exact ⟨h.1, fun i t ht => ⟨g.lv (h.2 i t ht).1, (g.2.1 _ (h.2 i t ht).1).trans (h.2 i t ht).2⟩⟩
theorem csT.fr {M : Mo} {a : Cl} {σ s : S} {w : List Nat × List Nat × List Nat} (h : csT M a σ) (g : gwT σ s) (f : Fr w σ s) (hw : apt w [101] [70] = true) (hw2 : apt w [145, 144] [] = true) : csT M a s := by
  have hi := apt_i hw2 f
  simp only [List.forall_mem_cons] at hi
  exact ⟨h.1.fr g f hw, h.2.1, by rw [hi.1]; exact h.2.2.1, by rw [hi.2.1]; exact h.2.2.2⟩
theorem rm_rt {M : Mo} {σ q : S} {g : Int → Int} (h : rmQ M σ g q) {y : Int} (hy : rtN q y) : ∃ x, rtN σ x ∧ y = g x := by
  obtain ⟨q1, f, q3, q4, q5, q6, q7, q8⟩ := h
  unfold rtN at hy
  rw [f.i 45 rfl, f.i 190 rfl, f.i 135 rfl, f.i 134 rfl, f.a 29 rfl] at hy
  rcases hy with ⟨k, ⟨k0, k1⟩, e | e | ⟨c, ⟨c0, c1⟩, e | ⟨e, e0⟩⟩⟩ | ⟨hp, e | e⟩ | ⟨hk, k, ⟨k0, k1⟩, e⟩ | ⟨hk, k, j, ⟨k0, k1⟩, ⟨j0, j1⟩, e, e0⟩
  · exact ⟨_, Or.inl ⟨k, ⟨k0, k1⟩, Or.inl rfl⟩, by rw [e]; exact (q4 k k0 k1).1⟩
  · exact ⟨_, Or.inl ⟨k, ⟨k0, k1⟩, Or.inr (Or.inl rfl)⟩, by rw [e]; exact (q4 k k0 k1).2.1⟩
  · exact ⟨_, Or.inl ⟨k, ⟨k0, k1⟩, Or.inr (Or.inr ⟨c, ⟨c0, c1⟩, Or.inl rfl⟩)⟩, by rw [e]; exact ((q4 k k0 k1).2.2 c c0 c1).1⟩
  · obtain ⟨b1, b2, b3⟩ := (q4 k k0 k1).2.2 c c0 c1
    by_cases z : 0 ≤ gA σ 67 (6 * k + c)
    · exact ⟨_, Or.inl ⟨k, ⟨k0, k1⟩, Or.inr (Or.inr ⟨c, ⟨c0, c1⟩, Or.inr ⟨rfl, z⟩⟩)⟩, by rw [e]; exact b2 z⟩
    · have := b3 (by omega)
      omega
  · exact ⟨_, Or.inr (Or.inl ⟨hp, Or.inl rfl⟩), by rw [e]; exact (q6 hp).1⟩
  · exact ⟨_, Or.inr (Or.inl ⟨hp, Or.inr rfl⟩), by rw [e]; exact (q6 hp).2⟩
  · exact ⟨_, Or.inr (Or.inr (Or.inl ⟨hk, k, ⟨k0, k1⟩, rfl⟩)), by rw [e]; exact (q7 k k0 k1).1 hk⟩
  · obtain ⟨b1, b2⟩ := (q7 k k0 k1).2 hk j j0 j1
    by_cases z : 0 ≤ gA σ 86 (64 * k + j)
    · exact ⟨_, Or.inr (Or.inr (Or.inr ⟨hk, k, j, ⟨k0, k1⟩, ⟨j0, j1⟩, rfl, z⟩)), by rw [e]; exact b1 z⟩
    · have := b2 (by omega)
      omega
/-- between calls -/
def inT (M : Mo) (R : Ru) (sx : Int → Int) (UM UP : List Tr) (a : Cl) (σ : S) : Prop := MBT M R sx σ ∧ kept M UM UP σ ∧ csT M a σ
/-- in a call -/
def caT (M : Mo) (UM UP : List Tr) (a : Cl) (σ : S) : Prop := rtO σ ∧ kept M UM UP σ ∧ csT M a σ
abbrev caI : List Nat := [45, 101, 190, 181, 182, 135, 134]
abbrev caA : List Nat := [64, 65, 29, 66, 67, 70, 85, 86]
theorem caT.fr {M : Mo} {UM UP : List Tr} {a : Cl} {σ s : S} {w : List Nat × List Nat × List Nat} (h : caT M UM UP a σ) (g : gwT σ s) (f : Fr w σ s) (hw : apt w caI caA = true) (hw3 : apt w [45, 190, 181, 182, 135, 134] [64, 65, 29, 66, 67, 85, 86] = true) (hw1 : apt w [101] [70] = true) (hw2 : apt w [145, 144] [] = true) : caT M UM UP a s :=
  ⟨h.1.fr g f hw, h.2.1.fr h.1 g f hw3, h.2.2.fr g f hw1 hw2⟩
theorem ts_open {M : Mo} {R : Ru} {sx : Int → Int} {UM UP : List Tr} {a : Cl} {σ : S} (hU : kpU UM UP) (h : inT M R sx UM UP a σ) (hn : gI σ 121 ≤ 1000000000) : t_beginCall σ (fun _ s => bgT M R sx s ∧ caT M UM UP a s ∧ gI s 121 = gI σ 121 + 1 ∧ ∃ g q, rmQ M σ g q ∧ Fr wT_beginTry q s ∧ ∀ x, lvT q x → lvT s x ∧ tT s x = tT q x) := by
  obtain ⟨mb, kp, cs⟩ := h
  obtain ⟨⟨u1, u2⟩, u3, u4⟩ := hU
  have ws := wt_subs cs.2.1.2
  have hl := cs.2.1.1
  have hnd : ∀ k, (0 ≤ k ∧ k < gI σ 101) → ∃ t, a.1[k.toNat]? = some t ∧ lvT σ (gA σ 70 k) ∧ tT σ (gA σ 70 k) = t := by
    rintro k ⟨k0, k1⟩
    rw [cs.1.1] at k1
    have hl : k.toNat < a.1.length := by omega
    have e := List.getElem?_eq_getElem hl
    have := cs.1.2 k.toNat _ e
    rw [show ((k.toNat : Nat) : Int) = k by omega] at this
    exact ⟨_, e, this⟩
  have kpa : ∀ y, rtT σ y → okT M (tT σ y) ∧ ∀ q ∈ subs (tT σ y), q ∈ UM ++ a.1.flatMap subs ++ UP := by
    intro y hy
    rcases rtT_or.mp hy with hy | ⟨k, hk, e⟩
    · refine ⟨(kp y hy).1, fun q hq => ?_⟩
      have := (kp y hy).2 q hq
      simp only [List.mem_append] at this ⊢
      rcases this with z | z
      · exact Or.inl (Or.inl z)
      · exact Or.inr z
    · obtain ⟨t, h1, h2, h3⟩ := hnd k hk
      have tm := List.mem_of_getElem? h1
      rw [e, h3]
      refine ⟨cs.2.1.2 t tm, fun q hq => ?_⟩
      simp only [List.mem_append]
      exact Or.inl (Or.inr (List.mem_flatMap.mpr ⟨t, tm, hq⟩))
  have bc := ts_beginCall (U := UM ++ a.1.flatMap subs ++ UP) mb hn kpa (by rw [List.length_append, List.length_append]; omega) (by rw [List.map_append, List.map_append, List.sum_append, List.sum_append]; omega)
  refine fm_t_beginCall bc ?_
  rintro r s - ⟨b, ⟨g, q, rm, f, hx⟩, cn⟩
  have rt : ∀ y, rtN s y → ∃ x, rtN σ x ∧ y = g x := fun y hy => rm_rt rm ((rtN.fr f rfl y).mp hy)
  have gl : ∀ x, rtT σ x → lvT s (g x) ∧ tT s (g x) = tT σ x := fun x hx' => by
    obtain ⟨l, e⟩ := rm.2.2.1 x hx'
    exact ⟨(hx _ l).1, ((hx _ l).2).trans e⟩
  obtain ⟨o1, o2, o3, o4, o5⟩ := mb.2.1
  have fm := rm.2.1
  refine ⟨b, ⟨⟨fun y hy => ?_, by rw [f.i _ rfl, fm.i _ rfl]; exact o2, by rw [f.i _ rfl, fm.i _ rfl, f.a _ rfl, fm.a _ rfl]; exact o3, by rw [f.i _ rfl, fm.i _ rfl]; exact o4, by rw [f.i _ rfl, fm.i _ rfl]; exact o5⟩, fun y hy => ?_, ⟨by rw [f.i _ rfl, fm.i _ rfl]; exact cs.1.1, fun i t ht => ?_⟩, cs.2.1, by rw [f.i _ rfl, fm.i _ rfl]; exact cs.2.2.1, by rw [f.i _ rfl, fm.i _ rfl]; exact cs.2.2.2⟩, cn, g, q, rm, f, hx⟩
  · rcases rtT_or.mp hy with hy | ⟨k, hk, e⟩
    · obtain ⟨x, rx, e⟩ := rt y hy
      rw [e]; exact (gl x (rtT_or.mpr (Or.inl rx))).1
    · rw [f.i _ rfl, fm.i _ rfl] at hk
      rw [e, f.a _ rfl, rm.2.2.2.2.1 k hk.1 hk.2]
      exact (gl _ (rtT_or.mpr (Or.inr ⟨k, hk, rfl⟩))).1
  · obtain ⟨x, rx, e⟩ := rt y hy
    rw [e, (gl x (rtT_or.mpr (Or.inl rx))).2]
    exact kp x rx
  · obtain ⟨l, e⟩ := cs.1.2 i t ht
    have hi : i < a.1.length := by
      by_cases z : i < a.1.length
      · exact z
      · rw [List.getElem?_eq_none (by omega)] at ht; cases ht
    have rx : rtT σ (gA σ 70 (i : Int)) := Or.inr (Or.inl ⟨(i : Int), ⟨by omega, by rw [cs.1.1]; omega⟩, rfl⟩)
    have k := rm.2.2.2.2.1 (i : Int) (by omega) (by rw [cs.1.1]; omega)
    rw [f.a _ rfl, k, ← e]
    exact gl _ rx
theorem ts_newHandle {M : Mo} {UM UP : List Tr} {a : Cl} {σ : S} (h : TP M σ) (c : caT M UM UP a σ) (hl : a.1.length < 200) {y : Int} (ly : lvT σ y) (oy : okT M (tT σ y)) : t_newHandle y σ (fun r s => r = (a.1.length : Int) ∧ caT M UM UP (a.1 ++ [tT σ y], a.2) s) := by
  obtain ⟨O, kp, cs⟩ := c
  have hh := cs.1.1
  unfold t_newHandle
  rw [hh]
  refine ⟨⟨by omega, by omega⟩, ?_⟩
  rintro s1 hs1
  rintro s2 hs2
  have e1 : gI s1 101 = (a.1.length : Int) := by rw [hs1]; exact hh
  rw [e1, w32_id (by omega) (by omega)] at hs2
  have e2 : gI s2 101 = (a.1.length : Int) + 1 := by rw [hs2, gI_pI, if_pos rfl]
  rw [e2, w32_id (by omega) (by omega)]
  have f : Fr ([101], [], [70]) σ s2 := (Fr.rf.putA hs1 rfl).putI hs2 rfl
  have g : gwT σ s2 := EyT.of_fr f rfl
  have hd : ∀ j, gA s2 70 j = if j = (a.1.length : Int) then y else gA σ 70 j := by
    intro j
    rw [hs2, gA_pI, hs1, gA_pA]
    by_cases z : j = (a.1.length : Int)
    · rw [if_pos ⟨rfl, z⟩, if_pos z]
    · rw [if_neg (fun k => z k.2), if_neg z]
  have rt : ∀ z, rtT s2 z → rtT σ z ∨ z = y := by
    intro z hz
    rcases rtT_or.mp hz with k | ⟨k, ⟨k0, k1⟩, e⟩
    · exact Or.inl (rtT_or.mpr (Or.inl ((rtN.fr f rfl z).mp k)))
    · rw [hd] at e
      by_cases q : k = (a.1.length : Int)
      · rw [if_pos q] at e; exact Or.inr e
      · rw [if_neg q] at e
        exact Or.inl (rtT_or.mpr (Or.inr ⟨k, ⟨k0, by omega⟩, e⟩))
  have kp2 := kp.fr O g f rfl
  obtain ⟨o1, o2, o3, o4, o5⟩ := O
  refine ⟨by omega, ⟨fun z hz => ?_, by rw [f.i _ rfl]; exact o2, by rw [f.i _ rfl, f.a _ rfl]; exact o3, by rw [e2]; omega, by rw [f.i _ rfl]; exact o5⟩, kp2, ⟨?_, fun i t ht => ?_⟩, cs.2.1.snoc hl oy, by rw [f.i _ rfl]; exact cs.2.2.1, by rw [f.i _ rfl]; exact cs.2.2.2⟩
  · rcases rt z hz with k | k
    · exact g.lv (o1 z k)
    · rw [k]; exact g.lv ly
  · show gI s2 101 = ((a.1 ++ [tT σ y]).length : Int)
    rw [e2, List.length_append]; simp
  · have ht' : (a.1 ++ [tT σ y])[i]? = some t := ht
    rw [hd]
    by_cases e : i < a.1.length
    · rw [List.getElem?_append_left e] at ht'
      rw [if_neg (by omega)]
      obtain ⟨l, k⟩ := cs.1.2 i t ht'
      exact ⟨g.lv l, (g.2.1 _ l).trans k⟩
    · rw [List.getElem?_append_right (by omega)] at ht'
      by_cases e2 : i - a.1.length = 0
      · rw [e2] at ht'
        rw [if_pos (by omega), ← Option.some.inj ht']
        exact ⟨g.lv ly, g.2.1 _ ly⟩
      · rw [List.getElem?_eq_none (by simp; omega)] at ht'
        cases ht'

/-! RewriteHouseModel: list -/
theorem cmE_nil {o o' : Int} {a b : Env} (ha : a 60 = .nil ∧ a 61 = .nil) (hb : b 60 = .nil ∧ b 61 = .nil) : cmE o a b = cmE o' a b := by
  unfold cmE keyE
  rw [ha.1, ha.2, hb.1, hb.2]
  rfl
/-- matchers order what is beside by this operator -/
def opP (p : Tr) : Int := if lab p < 0 then -1 else lab p
def PmT (M : Mo) (p : Tr) (ρ ρ' : Env) : Prop := Pm M p ρ ρ' ∧ (lab p < 0 → ρ' 60 = .nil ∧ ρ' 61 = .nil)
theorem PmT.ok {M : Mo} {p : Tr} {ρ ρ' : Env} (h : PmT M p ρ ρ') : okE (opP p) ρ' := by
  obtain ⟨⟨⟨a, b, c, d⟩, -, -⟩, h2⟩ := h
  unfold opP
  by_cases hv : lab p < 0
  · rw [if_pos hv]
    exact ⟨a, Or.inl (h2 hv).1, Or.inl (h2 hv).2, d⟩
  · rw [if_neg hv]
    exact ⟨a, b, c, d⟩
theorem Zm_PT {M : Mo} (hM : WM M) {p t : Tr} {w : Bool} {ρ ρ' : Env} (hp : NF M p) (ht : NF M t) (hb : okB M ρ) (h : Zm M p t w ρ ρ') : PmT M p ρ ρ' := by
  refine ⟨Zm_P hM hp ht hb h, fun hv => ?_⟩
  unfold Zm at h
  rw [if_neg (fun z => by omega)] at h
  have env := Solv_env hM h (fun g hg => by
    simp only [List.mem_singleton] at hg
    rw [hg]; exact ⟨hp, ht⟩)
  have out : ∀ v : Int, 60 ≤ v → ρ' v = .nil := fun v hv => by
    rcases env v with z | z
    · rw [z]; exact hb.2 v (by omega)
    · omega
  exact ⟨out 60 (by omega), out 61 (by omega)⟩
theorem srE_opP {M : Mo} {p : Tr} {ρ : Env} {L : List Env} (h : srE (opP p) L) (k : ∀ ρ' ∈ L, PmT M p ρ ρ') : srE (lab p) L := by
  unfold opP at h
  by_cases hv : lab p < 0
  · rw [if_pos hv] at h
    unfold srE at h ⊢
    refine List.Pairwise.imp_of_mem ?_ h
    intro a b ha hb hab
    rw [cmE_nil (o' := -1) ((k a ha).2 hv) ((k b hb).2 hv)]
    exact hab
  · rw [if_neg hv] at h
    exact h
/-- what stands for variables at a place of the store; below 0: nothing -/
def eT0 (σ : S) (e : Int) : Env := fun v => if e < 0 then .nil else if 0 ≤ v ∧ v < 60 then oT σ (gA σ 79 (e + v)) else .nil
theorem eT0_ok {M : Mo} {σ : S} (h : TP M σ) {e : Int} (hb : e < 0 ∨ ∀ v, 0 ≤ v → v < 60 → olT σ (gA σ 79 (e + v))) : okB M (eT0 σ e) := by
  refine ⟨fun v v0 v1 => ?_, fun v hv => ?_⟩
  · unfold eT0
    by_cases he : e < 0
    · rw [if_pos he]; exact Or.inl rfl
    · rw [if_neg he, if_pos ⟨v0, v1⟩]
      rcases hb.resolve_left he v v0 v1 with z | z
      · exact Or.inl (oT_0 (by omega))
      · rw [oT_n z]; exact Or.inr (h.nd z).2.2.1
  · unfold eT0
    by_cases he : e < 0
    · rw [if_pos he]
    · rw [if_neg he, if_neg (by omega)]
theorem ts_fail {v w : Int} {σ : S} {Q : Int → S → Prop} {E : S → Prop} (h : ∀ s, Fr ([1006, 1007], [], []) σ s → gI s 1006 = v → E s) : t_fail v w σ Q E := by
  unfold t_fail
  rintro s1 hs1 s2 hs2
  exact h s2 ((Fr.rf.putI hs1 rfl).putI hs2 rfl) (by rw [hs2, hs1]; rfl)
theorem ts_list {M : Mo} {σ : S} (xp : TP M σ) {p t w e : Int} {tp tt : Tr} (lp : lvT σ p) (etp : tT σ p = tp) (lt : lvT σ t) (ett : tT σ t = tt) (sp : trS tp ≤ 40) (st : trS tt ≤ 40) (he : e < 0 ∨ (0 ≤ e ∧ e + 64 ≤ gI σ 113) ∧ ∀ v, 0 ≤ v → v < 60 → olT σ (gA σ 79 (e + v))) (ht0 : 0 ≤ gI σ 83) (ht1 : gI σ 83 + 100 ≤ 15000) (hl0 : 0 ≤ gI σ 113) (hl1 : gI σ 113 + 64 * 201 ≤ 460000) (hr : tWide (asO M tp) tt = false → rmT M (inU M (asO M tp) tt) σ)
    (hd0 : 0 ≤ gL σ 123) (hd1 : gL σ 123 ≤ 3000000) (hm0 : 0 ≤ gI σ 119) (hm1 : gI σ 119 ≤ 6000) :
    t_list p t w e σ (fun r s => ∃ L, mtc M tp tt (decide (w ≠ 0)) (eT0 σ e) (gL σ 123) (gI σ 122) (gI σ 119) = .inr L ∧ r = (L.length : Int) ∧ LT (opP tp) s L ∧ gI s 114 = gI σ 113 ∧ TP M s ∧ ExT σ s (inU M (asO M tp) tt) ∧ gI s 83 = gI σ 83 ∧ (∀ j, j < gI σ 113 → gA s 79 j = gA σ 79 j) ∧ (∀ j, j < gI σ 83 → gA s 58 j = gA σ 58 j) ∧ gL s 123 = gL σ 123 + ((min 3000001 (dlN M tt tp) : Nat) : Int) ∧ gI s 119 = gI σ 119 + (L.length : Int) ∧ gI s 113 = gI σ 113 + 64 * (L.length : Int))
      (fun s => mtc M tp tt (decide (w ≠ 0)) (eT0 σ e) (gL σ 123) (gI σ 122) (gI σ 119) = .inl (gI s 1006) ∧ TP M s ∧ ExT σ s (inU M (asO M tp) tt)) := by
  have rg := xp.rg
  have hM := xp.wm
  have np := (xp.nd lp).2.2.1
  have nt := (xp.nd lt).2.2.1
  have bp := lvT_b xp lp
  have bt := lvT_b xp lt
  have kp := tT_kids xp lp
  have kt := tT_kids xp lt
  have op := xp.opr lp
  have ob := hM.2.2.1
  rw [etp] at np kp
  rw [ett] at nt kt
  have stop : ∀ (s : S) (v x : Int) (Q : Int → S → Prop), TP M s → ExT σ s (inU M (asO M tp) tt) → mtc M tp tt (decide (w ≠ 0)) (eT0 σ e) (gL σ 123) (gI σ 122) (gI σ 119) = .inl v → t_fail v x s Q (fun s => mtc M tp tt (decide (w ≠ 0)) (eT0 σ e) (gL σ 123) (gI σ 122) (gI σ 119) = .inl (gI s 1006) ∧ TP M s ∧ ExT σ s (inU M (asO M tp) tt)) := by
    intro s v x Q xs es h
    refine ts_fail (fun s2 f i => ?_)
    rw [i]
    exact ⟨h, (xs.fr f rfl).1, es.trans (ExT.of_fr f rfl) rg.1⟩
  -- behind the test of rows
  have main : ¬ tWide (asO M tp) tt = true → t_list_j30 p t w e σ (fun r s => ∃ L, mtc M tp tt (decide (w ≠ 0)) (eT0 σ e) (gL σ 123) (gI σ 122) (gI σ 119) = .inr L ∧ r = (L.length : Int) ∧ LT (opP tp) s L ∧ gI s 114 = gI σ 113 ∧ TP M s ∧ ExT σ s (inU M (asO M tp) tt) ∧ gI s 83 = gI σ 83 ∧ (∀ j, j < gI σ 113 → gA s 79 j = gA σ 79 j) ∧ (∀ j, j < gI σ 83 → gA s 58 j = gA σ 58 j) ∧ gL s 123 = gL σ 123 + ((min 3000001 (dlN M tt tp) : Nat) : Int) ∧ gI s 119 = gI σ 119 + (L.length : Int) ∧ gI s 113 = gI σ 113 + 64 * (L.length : Int))
      (fun s => mtc M tp tt (decide (w ≠ 0)) (eT0 σ e) (gL σ 123) (gI σ 122) (gI σ 119) = .inl (gI s 1006) ∧ TP M s ∧ ExT σ s (inU M (asO M tp) tt)) := by
    intro hw
    have hw' : tWide (asO M tp) tt = false := by
      cases h : tWide (asO M tp) tt with
      | true => exact absurd h hw
      | false => rfl
    unfold t_list_j30
    refine ts_dealsOf xp lp lt (by rw [etp]; exact sp) (by rw [ett]; exact st) (by rw [etp, ett]; exact hw') ?_
    rw [etp, ett]
    rintro s1 hs1
    have dle : ((min 3000001 (dlN M tt tp) : Nat) : Int) ≤ 3000001 := by omega
    rw [w64_id (by omega) (by omega)] at hs1
    have f1 : Fr ([], [123], []) σ s1 := Fr.rf.putL hs1 rfl
    have x1 := (xp.fr f1 rfl).1
    have e1 : gL s1 123 = gL σ 123 + ((min 3000001 (dlN M tt tp) : Nat) : Int) := by rw [hs1]; rfl
    have e2 : gI s1 122 = gI σ 122 := f1.i _ rfl
    rw [e1, e2]
    by_cases hdl : gL σ 123 + ((min 3000001 (dlN M tt tp) : Nat) : Int) ≤ gI σ 122
    · rw [if_pos (cmpI_le.mpr hdl)]
      have hndl : ¬ gI σ 122 < gL σ 123 + ((min 3000001 (dlN M tt tp) : Nat) : Int) := by omega
      unfold t_list_j64
      rintro s2 hs2 s3 hs3 s4 hs4
      have i113 : gI s1 113 = gI σ 113 := f1.i _ rfl
      rw [i113] at hs2
      have f24 : Fr ([114, 115, 110], [], []) s1 s4 := ((Fr.rf.putI hs2 rfl).putI hs3 rfl).putI hs4 rfl
      have f4 : Fr ([114, 115, 110], [123], []) σ s4 := (f1.weak (w' := ([114, 115, 110], [123], [])) rfl).trans (f24.weak rfl)
      refine lt_list_L85 (fun v s => 0 ≤ v ∧ v ≤ 60 ∧ Fr ([], [], [78]) s4 s ∧ ∀ j, 0 ≤ j → j < v → gA s 78 j = if e < 0 then -1 else gA σ 79 (e + j)) (fun v _ => (60 - v).toNat) ⟨by omega, by omega, Fr.rf, fun j j0 j1 => by omega⟩ ?_
      rintro v s fr ⟨v0, v1, f5, hbd⟩
      try dsimp only
      by_cases hv : v < 60
      · rw [if_pos hv]
        have est : gA s 79 = gA σ 79 := by rw [f5.a _ rfl, f4.a _ rfl]
        refine ⟨fun z => ?_, ⟨v0, hv⟩, ?_⟩
        · have := (he.resolve_left z).1
          rw [w32_id (by omega) (by omega)]
          exact ⟨by omega, by omega⟩
        · rintro s6 hs6
          rw [w32_id (v := v + 1) (by omega) (by omega)]
          have ev : (if e < 0 then (-1 : Int) else gA s 79 (w32 (e + v))) = if e < 0 then -1 else gA σ 79 (e + v) := by
            by_cases z : e < 0
            · rw [if_pos z, if_pos z]
            · have := (he.resolve_left z).1
              rw [if_neg z, if_neg z, est, w32_id (by omega) (by omega)]
          rw [ev] at hs6
          refine ⟨⟨by omega, by omega, f5.putA hs6 rfl, fun j j0 j1 => ?_⟩, by omega⟩
          rw [hs6]
          simp only [gA_pA]
          by_cases ej : j = v
          · rw [if_pos ⟨trivial, ej⟩, ej]
          · rw [if_neg (fun z => ej z.2)]
            exact hbd j j0 (by omega)
      · rw [if_neg hv]
        have ev : v = 60 := by omega
        subst ev
        have f45 : Fr ([114, 115, 110], [123], [78]) σ s := (f4.weak (w' := ([114, 115, 110], [123], [78])) rfl).trans (f5.weak rfl)
        obtain ⟨x5, l5⟩ := xp.fr f45 rfl
        unfold t_list_j124
        refine ts_isVar x5 (l5 _ lp).1 ?_
        have ewh : gA s 48 p = lab tp := by rw [f45.a _ rfl]; exact kp.1.symm
        rw [ewh]
        have eop : (if bi (lab tp < 0) = 0 then lab tp else (-1 : Int)) = opP tp := by
          unfold opP
          by_cases z : lab tp < 0
          · rw [bi_t z, if_neg (by decide), if_pos z]
          · rw [bi_f z, if_pos rfl, if_neg z]
        rw [eop]
        refine ⟨fun _ => bp, ?_⟩
        rintro s6 hs6 s7 hs7 s8 hs8
        have f58 : Fr ([116, 117, 118], [], []) s s8 := ((Fr.rf.putI hs6 rfl).putI hs7 rfl).putI hs8 rfl
        have f : Fr ([114, 115, 110, 116, 117, 118], [123], [78]) σ s8 := (f45.weak (w' := ([114, 115, 110, 116, 117, 118], [123], [78])) rfl).trans (f58.weak rfl)
        obtain ⟨x8, l8⟩ := xp.fr f rfl
        have e8 : ExT σ s8 (inU M (asO M tp) tt) := ExT.of_fr f rfl
        have ofr := oT_fr f rfl
        have s4i : gI s4 114 = gI σ 113 := by rw [hs4, hs3, hs2]; rfl
        have s4c : gI s4 115 = 0 := by rw [hs4, hs3]; rfl
        have s4g : gI s4 110 = 0 := by rw [hs4]; rfl
        have i1 : gI s8 114 = gI σ 113 := by rw [f58.i _ rfl, f5.i _ rfl, s4i]
        have i2 : gI s8 115 = 0 := by rw [f58.i _ rfl, f5.i _ rfl, s4c]
        have i3 : gI s8 110 = 0 := by rw [f58.i _ rfl, f5.i _ rfl, s4g]
        have i4 : gI s8 117 = -1 := by rw [hs8, hs7]; rfl
        have i5 : gI s8 118 = -1 := by rw [hs8]; rfl
        have i6 : gI s8 116 = opP tp := by rw [hs8, hs7, hs6]; rfl
        have hbd8 : ∀ j, 0 ≤ j → j < 60 → gA s8 78 j = if e < 0 then -1 else gA σ 79 (e + j) := fun j j0 j1 => by rw [f58.a _ rfl]; exact hbd j j0 j1
        have ob8 : ∀ j, 0 ≤ j → j < 60 → olT s8 (gA s8 78 j) := by
          intro j j0 j1
          rw [hbd8 j j0 j1]
          by_cases z : e < 0
          · rw [if_pos z]; exact Or.inl rfl
          · rw [if_neg z]; exact (oT_ex e8 ((he.resolve_left z).2 j j0 j1)).1
        have eb : bT s8 = eT0 σ e := by
          funext u
          unfold bT eT0
          by_cases hu : 0 ≤ u ∧ u < 60
          · rw [if_pos hu, hbd8 u hu.1 hu.2, (ofr _).1]
            by_cases z : e < 0
            · rw [if_pos z, if_pos z]; exact oT_0 (by decide)
            · rw [if_neg z, if_neg z, if_pos hu]
          · rw [if_neg hu, i4, i5]
            have n1 : oT s8 (-1) = .nil := oT_0 (by decide)
            rw [n1]
            by_cases z : e < 0
            · rw [if_pos z]; split
              · rfl
              · split <;> rfl
            · rw [if_neg z, if_neg hu]; split
              · rfl
              · split <;> rfl
        have okb := eT0_ok xp (he.imp id (fun z => z.2))
        have hP : ∀ ρ', Zm M tp tt (decide (w ≠ 0)) (eT0 σ e) ρ' → PmT M tp (eT0 σ e) ρ' := fun ρ' z => Zm_PT hM np nt okb z
        have c : cxT M (asO M tp) tt (PmT M tp (eT0 σ e)) (opP tp) σ := by
          refine ⟨rg.1, fun ρ h => h.ok, fun ρ ρ' h h' v v0 v1 => ?_, hr hw', nt.1⟩
          have a := h.1.2.1 v v0 v1
          have b := h'.1.2.1 v v0 v1
          have ab := a.trans b.symm
          constructor
          · intro z
            rcases h'.1.2.2 v v0 v1 with y | y
            · exact y
            · exact absurd z (ab.mpr (isT_ne_nil y.1))
          · intro z
            rcases h.1.2.2 v v0 v1 with y | y
            · exact y
            · exact absurd z (ab.mp (isT_ne_nil y.1))
        have mt : mtT M (inU M (asO M tp) tt) (PmT M tp (eT0 σ e)) (opP tp) σ s8 (eT0 σ e) [] := by
          refine ⟨x8, e8, ob8, Or.inl i4, Or.inl i5, i6, eb, ⟨by rw [i1]; exact hl0, by rw [i1]; exact hl1, by rw [i2]; rfl, by simp, List.Pairwise.nil, fun i hi => by simp at hi⟩, fun ρ h => (by cases h), ?_, ?_⟩
          · rw [f.i _ rfl]; exact ht0
          · rw [f.i _ rfl]; exact ht1
        have okp : NF M tp ∧ sub1 M tp (asO M tp) ∧ trS tp ≤ 40 := ⟨np, sub1_self M tp, sp⟩
        have tp8 := (l8 _ lp).2.trans etp
        have tt8 := (l8 _ lt).2.trans ett
        -- the end
        have fin : ∀ (s9 : S) (L : List Env), mpT (inU M (asO M tp) tt) s8 s9 → TP M s9 → LT (opP tp) s9 L → (∀ ρ', ρ' ∈ L ↔ Zm M tp tt (decide (w ≠ 0)) (eT0 σ e) ρ') → gI s9 119 = gI σ 119 → gL s9 123 = gL σ 123 + ((min 3000001 (dlN M tt tp) : Nat) : Int) →
            t_list_j215 s9 (fun r s => ∃ L, mtc M tp tt (decide (w ≠ 0)) (eT0 σ e) (gL σ 123) (gI σ 122) (gI σ 119) = .inr L ∧ r = (L.length : Int) ∧ LT (opP tp) s L ∧ gI s 114 = gI σ 113 ∧ TP M s ∧ ExT σ s (inU M (asO M tp) tt) ∧ gI s 83 = gI σ 83 ∧ (∀ j, j < gI σ 113 → gA s 79 j = gA σ 79 j) ∧ (∀ j, j < gI σ 83 → gA s 58 j = gA σ 58 j) ∧ gL s 123 = gL σ 123 + ((min 3000001 (dlN M tt tp) : Nat) : Int) ∧ gI s 119 = gI σ 119 + (L.length : Int) ∧ gI s 113 = gI σ 113 + 64 * (L.length : Int))
              (fun s => mtc M tp tt (decide (w ≠ 0)) (eT0 σ e) (gL σ 123) (gI σ 122) (gI σ 119) = .inl (gI s 1006) ∧ TP M s ∧ ExT σ s (inU M (asO M tp) tt)) := by
          intro s9 L ms xs lx hL hmm hdd
          have hms : mls M tp tt (decide (w ≠ 0)) (eT0 σ e) = some L := mls_some (srE_opP lx.2.2.2.2.1 (fun ρ' h => hP ρ' ((hL ρ').mp h))) hL lx.2.2.2.1
          have mc := mtc_some (mm := gI σ 119) hw hndl hms
          have hlen := lx.2.2.2.1
          obtain ⟨q1, q2, q3, q4, q5⟩ := ms
          unfold t_list_j215
          rintro s10 hs10
          rw [hmm, lx.2.2.1, w32_id (by omega) (by omega)] at hs10
          have f10 : Fr ([119], [], []) s9 s10 := Fr.rf.putI hs10 rfl
          have i10 : gI s10 119 = gI σ 119 + (L.length : Int) := by rw [hs10]; rfl
          have x10 := (xs.fr f10 rfl).1
          have e9 : ExT σ s9 (inU M (asO M tp) tt) := e8.trans q1 rg.1
          have e10 : ExT σ s10 (inU M (asO M tp) tt) := e9.trans (ExT.of_fr f10 rfl) rg.1
          rw [i10]
          by_cases hle : gI σ 119 + (L.length : Int) ≤ 6000
          · rw [if_pos hle]
            rw [if_neg (by omega)] at mc
            unfold t_list_j244
            rintro s11 hs11
            have lf : gI s10 114 = gI σ 113 := by rw [f10.i _ rfl, q3, i1]
            have lc : gI s10 115 = (L.length : Int) := by rw [f10.i _ rfl]; exact lx.2.2.1
            have wst : w32 (gI σ 113 + w32 (64 * (L.length : Int))) = gI σ 113 + 64 * (L.length : Int) := by simp (disch := omega) only [w32_id]
            rw [lf, lc, wst] at hs11
            have f11 : Fr ([119, 113], [], []) s9 s11 := (f10.weak (w' := ([119, 113], [], [])) rfl).putI hs11 rfl
            have e911 : ExT s9 s11 (inU M (asO M tp) tt) := ExT.of_fr f11 rfl
            refine ⟨L, mc, ?_, lx.ex e911 (f11.i _ rfl) (f11.i _ rfl) (f11.a _ rfl), ?_, (xs.fr f11 rfl).1, e9.trans e911 rg.1, ?_, fun j hj => ?_, fun j hj => ?_, ?_, ?_, by rw [hs11]; rfl⟩
            · rw [f11.i _ rfl]; exact lx.2.2.1
            · rw [f11.i _ rfl, q3, i1]
            · rw [f11.i _ rfl, q2, f.i _ rfl]
            · rw [f11.a 79 rfl, q4 j (by rw [i1]; exact hj), f.a 79 rfl]
            · rw [f11.a 58 rfl, q5 j (by rw [f.i _ rfl]; exact hj), f.a 58 rfl]
            · rw [f11.l _ rfl]; exact hdd
            · rw [hs11, gI_pI, if_neg (by decide)]; exact i10
          · rw [if_neg hle]
            rw [if_pos (by omega)] at mc
            exact stop s10 4 0 _ x10 e10 mc
        have bad : ∀ s9, overT M (inU M (asO M tp) tt) s8 [] (Zm M tp tt (decide (w ≠ 0)) (eT0 σ e)) s9 → mtc M tp tt (decide (w ≠ 0)) (eT0 σ e) (gL σ 123) (gI σ 122) (gI σ 119) = .inl (gI s9 1006) ∧ TP M s9 ∧ ExT σ s9 (inU M (asO M tp) tt) := by
          rintro s9 ⟨q1, q2, q3, B, b1, b2, b3⟩
          refine ⟨?_, q2, e8.trans q3 rg.1⟩
          rw [q1]
          refine mtc_none hw hndl (mls_none b1 b2 (fun ρ' hρ => ?_))
          rcases b3 ρ' hρ with z | z
          · cases z
          · exact z
        have hops : 0 ≤ opP tp → 0 ≤ lab tp ∧ opP tp = lab tp := by
          unfold opP
          intro z
          by_cases y : lab tp < 0
          · rw [if_pos y] at z; omega
          · exact ⟨by omega, if_neg y⟩
        have op50 : ¬ opP tp < 0 → inb (opP tp) 50 := by
          intro z
          have := hops (by omega)
          rw [this.2, kp.1]
          exact ⟨by omega, by omega⟩
        refine ⟨fun _ z => op50 z, fun _ _ _ => bt, ?_⟩
        have has8 : 0 ≤ opP tp → gA s8 44 (opP tp) = mAs M (lab tp) := by
          intro z
          have h2 := hops z
          rw [h2.2]
          exact (x8.mo.2.2.2.1 (lab tp) h2.1 (by rw [kp.1]; exact op.2)).1
        have kt8 : gA s8 48 t = lab tt := by rw [f.a _ rfl]; exact kt.1.symm
        rw [kt8]
        by_cases hcond : ¬ (w = 0) ∧ (¬ (opP tp < 0) ∧ (¬ (gA s8 44 (opP tp) = 0) ∧ (lab tt = opP tp)))
        · rw [if_pos hcond]
          obtain ⟨c1, c2, c3, c4⟩ := hcond
          obtain ⟨hv0, hv1⟩ := hops (by omega)
          rw [has8 (by omega)] at c3
          rw [hv1] at c4
          have hAf := sub_asO (M := M) (p := tp) hv0 c3 rfl np.1
          have rwp := rwP.mk hM nt st hw' hv0 c3 hAf c4
          have zc : decide (w ≠ 0) = true ∧ 0 ≤ lab tp ∧ mAs M (lab tp) ≠ 0 ∧ lab tt = lab tp := ⟨by simpa using c1, hv0, c3, c4⟩
          have h1 : lab tp < mOps M := by rw [kp.1]; exact op.2
          rw [← hv1] at rwp
          have hn6 := rwp.2.2.2.2.2.2.2.1
          unfold t_listWithin
          refine ⟨bt, op50 c2, ?_⟩
          have cnt : gA s8 50 t = ((kids tt).length : Int) := by rw [f.a _ rfl]; exact kt.2.symm
          have co8 : gA s8 45 (opP tp) = mCo M (lab tp) := by rw [hv1]; exact (x8.mo.2.2.2.1 (lab tp) hv0 h1).2.1
          rw [cnt, co8]
          by_cases hco : mCo M (lab tp) = 0
          · rw [if_pos hco]
            have hz : ∀ ρ', Zm M tp tt (decide (w ≠ 0)) (eT0 σ e) ρ' ↔ ∃ a b : Nat, a < b ∧ b ≤ (kids tt).length ∧ rowZ M (opP tp) tp (kids tt) (eT0 σ e) a b ρ' := by
              intro ρ'
              unfold Zm
              rw [if_pos zc, if_neg (fun z => z hco), hv1]
              exact rowZ_iff
            refine ft_listWithin_L101 (σ0 := s8) Fr.rf (ts_withinRow c rwp (c4.trans hv1.symm) mt (l8 _ lp).1 tp8 (l8 _ lt).1 tt8 okp hz hP) (fun r s9 g q => ?_) (fun s9 g q => bad s9 q)
            obtain ⟨q1, q2, L, q3, q4⟩ := q
            exact fin s9 L q1 q2 q3 q4 (by rw [g.i _ rfl, f.i _ rfl]) (by rw [g.l _ rfl, f58.l _ rfl, f5.l _ rfl, f24.l _ rfl, e1])
          · rw [if_neg hco]
            have hz : ∀ ρ', Zm M tp tt (decide (w ≠ 0)) (eT0 σ e) ρ' ↔ ∃ S R, spl (kids tt) S R ∧ S ≠ [] ∧ Solv M [.inl (tp, mkS M (opP tp) S)] (upE (eT0 σ e) 61 (rsT M (opP tp) R)) ρ' := by
              intro ρ'
              unfold Zm
              rw [if_pos zc, if_pos hco, hv1]
            have on := mk_ones ⟨(kids tt).length, by omega⟩
            simp only at on
            rw [on]
            refine ft_listWithin_L28 (σ0 := s8) Fr.rf (ts_withinBag c rwp (c4.trans hv1.symm) mt (okb.2 61 (by omega)) (l8 _ lp).1 tp8 (l8 _ lt).1 tt8 okp hz hP) (fun r s9 g q => ?_) (fun s9 g q => bad s9 q)
            obtain ⟨q1, q2, L, q3, q4⟩ := q
            exact fin s9 L q1 q2 q3 q4 (by rw [g.i _ rfl, f.i _ rfl]) (by rw [g.l _ rfl, f58.l _ rfl, f5.l _ rfl, f24.l _ rfl, e1])
        · rw [if_neg hcond]
          have hz : ∀ ρ', Zm M tp tt (decide (w ≠ 0)) (eT0 σ e) ρ' ↔ Solv M [.inl (tp, tt)] (eT0 σ e) ρ' := by
            intro ρ'
            unfold Zm
            rw [if_neg (fun z => hcond (by
              have ho : opP tp = lab tp := by unfold opP; rw [if_neg (by omega)]
              exact ⟨by simpa using z.1, by omega, by rw [has8 (by omega)]; exact z.2.2.1, by rw [ho]; exact z.2.2.2⟩))]
          refine ts_solvePart c mt i3 (l8 _ lp).1 (l8 _ lt).1 (by rw [tp8, tt8]; exact ⟨okp, nt, st, hw', Or.inl (subs_self nt.1)⟩) (by rw [tp8, tt8]; exact fun ρ' z => hP ρ' ((hz ρ').mpr z)) (fun s9 L g mt9 m9 hL => ?_) (fun s9 q => ?_)
          · rw [tp8, tt8] at hL
            refine fin s9 L m9 mt9.1 mt9.2.2.2.2.2.2.2.1 (fun ρ' => ?_) (by rw [g.i _ rfl, f.i _ rfl]) (by rw [g.l _ rfl, f58.l _ rfl, f5.l _ rfl, f24.l _ rfl, e1])
            rw [hL ρ', hz ρ']
            simp
          · rw [tp8, tt8] at q
            exact bad s9 (q.imp (fun ρ' => (hz ρ').mpr))
    · rw [if_neg (fun z => hdl (cmpI_le.mp z))]
      exact stop s1 4 0 _ x1 (ExT.of_fr f1 rfl) (mtc_deal hw (by omega))
  unfold t_list
  refine ts_assocIn xp lp (by rw [etp]; exact sp) ?_
  rw [etp]
  by_cases hz : cmpI (asB M tp) 0 = 0
  · rw [if_pos hz]
    have h0 : asB M tp = 0 := by
      unfold cmpI at hz
      split at hz
      · omega
      · split at hz
        · assumption
        · omega
    refine main (fun z => ?_)
    rw [asB_0 hM np h0 nt] at z
    cases z
  · rw [if_neg hz]
    refine ts_isWide xp np lt (by rw [ett]; exact st) ?_
    rw [ett]
    by_cases hw : tWide (asO M tp) tt = true
    · rw [bi_t hw, if_neg (by decide)]
      exact stop σ 3 0 _ xp (ExT.rf _ _) (mtc_wide hw)
    · rw [bi_f hw, if_pos rfl]
      exact main hw

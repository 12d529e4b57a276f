/-! RewriteHouse: matchers -/
/-- what matching answers: a stop, or the matchers -/
noncomputable def mtc (M : Mo) (p t : Tr) (w : Bool) (ρ : Env) (dm most mm : Int) : Int ⊕ List Env :=
  if tWide (asO M p) t = true then .inl 3
  else if most < dm + ((min 3000001 (dlN M t p) : Nat) : Int) then .inl 4
  else match mls M p t w ρ with
    | none => .inl 2
    | some L => if 6000 < mm + (L.length : Int) then .inl 4 else .inr L
theorem mtc_wide {M : Mo} {p t : Tr} {w : Bool} {ρ : Env} {dm most mm : Int} (h : tWide (asO M p) t = true) : mtc M p t w ρ dm most mm = .inl 3 := by
  unfold mtc; rw [if_pos h]
theorem mtc_deal {M : Mo} {p t : Tr} {w : Bool} {ρ : Env} {dm most mm : Int} (h : ¬ tWide (asO M p) t = true) (h2 : most < dm + ((min 3000001 (dlN M t p) : Nat) : Int)) : mtc M p t w ρ dm most mm = .inl 4 := by
  unfold mtc; rw [if_neg h, if_pos h2]
theorem mtc_none {M : Mo} {p t : Tr} {w : Bool} {ρ : Env} {dm most mm : Int} (h : ¬ tWide (asO M p) t = true) (h2 : ¬ most < dm + ((min 3000001 (dlN M t p) : Nat) : Int)) (h3 : mls M p t w ρ = none) : mtc M p t w ρ dm most mm = .inl 2 := by
  unfold mtc; rw [if_neg h, if_neg h2, h3]
theorem mtc_some {M : Mo} {p t : Tr} {w : Bool} {ρ : Env} {dm most mm : Int} {L : List Env} (h : ¬ tWide (asO M p) t = true) (h2 : ¬ most < dm + ((min 3000001 (dlN M t p) : Nat) : Int)) (h3 : mls M p t w ρ = some L) : mtc M p t w ρ dm most mm = if 6000 < mm + (L.length : Int) then .inl 4 else .inr L := by
  unfold mtc; rw [if_neg h, if_neg h2, h3]
theorem mtc_ok {M : Mo} {p t : Tr} {w : Bool} {ρ : Env} {dm most mm : Int} {L : List Env} (h : mtc M p t w ρ dm most mm = .inr L) : mls M p t w ρ = some L ∧ mm + (L.length : Int) ≤ 6000 ∧ dm + ((min 3000001 (dlN M t p) : Nat) : Int) ≤ most := by
  unfold mtc at h
  split at h
  · cases h
  · split at h
    · cases h
    · split at h
      · cases h
      · rename_i L' hL
        split at h
        · cases h
        · simp only [Sum.inr.injEq] at h
          subst h
          exact ⟨hL, by omega, by omega⟩
theorem pI_same {σ : S} {k : Nat} {v : Int} (h : gI σ k = v) : pI σ k v = σ := by
  unfold pI
  refine Prod.ext ?_ rfl
  funext j
  show (if j = k then v else σ.1 j) = σ.1 j
  by_cases e : j = k
  · rw [if_pos e, e]; exact h.symm
  · rw [if_neg e]
theorem cmpI_le {a b : Int} : cmpI a b ≤ 0 ↔ a ≤ b := by
  unfold cmpI
  by_cases h : a < b
  · rw [if_pos h]; omega
  · rw [if_neg h]
    by_cases e : a = b
    · rw [if_pos e]; omega
    · rw [if_neg e]; omega
def bX0 (σ : S) : Env := fun v => if 0 ≤ v ∧ v < 60 then oX σ (gA σ 83 v) else .nil
theorem bX0_ok {M : Mo} {σ : S} (h : XP M σ) (hb : ∀ v, 0 ≤ v → v < 60 → olX σ (gA σ 83 v)) : okB M (bX0 σ) := by
  refine ⟨fun v v0 v1 => ?_, fun v hv => ?_⟩
  · unfold bX0
    rw [if_pos ⟨v0, v1⟩]
    rcases hb v v0 v1 with z | z
    · rw [z, oX_0]; exact Or.inl rfl
    · rw [oX_n z]; exact Or.inr (h.nd z).2.2.1
  · unfold bX0; rw [if_neg (by omega)]
theorem sub_asO {M : Mo} {p : Tr} {c : Int} (h0 : 0 ≤ c) (ha : mAs M c ≠ 0) (h : lab p = c) (hp : isT p) : asO M p c = true := by
  refine sub1_self M p c h0 ha ?_
  obtain ⟨d, ts, rfl, -, -⟩ := isT_ex hp
  rw [lab_N] at h
  rw [tAny_N, h]
  simp
theorem xs_matchers {M : Mo} {σ : S} (xp : XP M σ) {p t w : Int} {tp tt : Tr} (lp : lvX σ p) (etp : tX σ p = tp) (lt : lvX σ t) (ett : tX σ t = tt) (hb : ∀ v, 0 ≤ v → v < 60 → olX σ (gA σ 83 v)) (hsh : gI σ 138 = 0) (hel : gI σ 134 = 0) (ht0 : 0 ≤ gI σ 106) (ht1 : gI σ 106 + 40 ≤ 15000) (hl0 : 0 ≤ gI σ 123) (hl1 : gI σ 123 + 201 < 6600) (hr : tWide (asO M tp) tt = false → rmX M (inU M (asO M tp) tt) σ)
    (hd0 : 0 ≤ gL σ 129) (hd1 : gL σ 129 ≤ 3000000) (hm0 : 0 ≤ gI σ 128) (hm1 : gI σ 128 ≤ 6000) :
    x_matchers p t w σ (fun r s => ∃ L, mtc M tp tt (decide (w ≠ 0)) (bX0 σ) (gL σ 129) (gL σ 130) (gI σ 128) = .inr L ∧ r = (L.length : Int) ∧ LX (lab tp) s L ∧ XP M s ∧ mpX (inU M (asO M tp) tt) σ s ∧ gL s 129 = gL σ 129 + ((min 3000001 (dlN M tt tp) : Nat) : Int) ∧ gI s 128 = gI σ 128 + (L.length : Int))
      (fun s => mtc M tp tt (decide (w ≠ 0)) (bX0 σ) (gL σ 129) (gL σ 130) (gI σ 128) = .inl (gI s 1006) ∧ XP M s ∧ ExX σ s (inU M (asO M tp) tt)) := by
  have rg := xp.rg
  have hM := xp.wm
  have np := (xp.nd lp).2.2.1
  have nt := (xp.nd lt).2.2.1
  have sp := (xp.nd lp).2.2.2
  have st := (xp.nd lt).2.2.2
  have bp := lvX_b xp lp
  have bt := lvX_b xp lt
  have kp := tX_kids xp lp
  have kt := tX_kids xp lt
  have op := xp.opr lp
  have ob := hM.2.2.1
  rw [etp] at np sp kp
  rw [ett] at nt st kt
  obtain ⟨N, eN⟩ : ∃ N, N = inU M (asO M tp) tt := ⟨_, rfl⟩
  unfold x_matchers
  refine xs_isWide xp lp lt ?_
  rw [etp, ett]
  have stop : ∀ (s : S) (v : Int), XP M s → ExX σ s (inU M (asO M tp) tt) → mtc M tp tt (decide (w ≠ 0)) (bX0 σ) (gL σ 129) (gL σ 130) (gI σ 128) = .inl v → x_stop v s (fun _ s => mtc M tp tt (decide (w ≠ 0)) (bX0 σ) (gL σ 129) (gL σ 130) (gI σ 128) = .inl (gI s 1006) ∧ XP M s ∧ ExX σ s (inU M (asO M tp) tt)) := by
    intro s v xs es h
    have f : Fr ([1006], [], []) s (pI s 1006 v) := Fr.rf.putI rfl rfl
    exact xs_stop ⟨h, xs.fr f rfl, es.trans (ExX.of_fr f rfl) rg.1⟩
  by_cases hw : tWide (asO M tp) tt = true
  · rw [bi_t hw, if_neg (by decide)]
    exact stop σ 3 xp (ExX.rf _ _) (mtc_wide hw)
  rw [bi_f hw, if_pos rfl]
  have hw' : tWide (asO M tp) tt = false := by
    cases h : tWide (asO M tp) tt with
    | true => exact absurd h hw
    | false => rfl
  refine xs_deals xp lp lt (by rw [etp, ett]; exact hw') (fun v v1 v2 v3 => ?_)
  rw [etp, ett] at v3
  rintro s1 hs1
  have emin : min 3000001 v = ((min 3000001 (dlN M tt tp) : Nat) : Int) := by rw [← v3]; omega
  have dle : ((min 3000001 (dlN M tt tp) : Nat) : Int) ≤ 3000001 := by omega
  rw [emin, w64_id (by omega) (by omega)] at hs1
  have f1 : Fr ([], [129], []) σ s1 := Fr.rf.putL hs1 rfl
  have x1 : XP M s1 := xp.fr f1 rfl
  have e1 : gL s1 129 = gL σ 129 + ((min 3000001 (dlN M tt tp) : Nat) : Int) := by rw [hs1]; rfl
  have e2 : gL s1 130 = gL σ 130 := f1.l _ rfl
  rw [e1, e2]
  by_cases hdl : gL σ 129 + ((min 3000001 (dlN M tt tp) : Nat) : Int) ≤ gL σ 130
  · rw [if_pos (cmpI_le.mpr hdl)]
    rintro s2 hs2 s3 hs3 s4 hs4 s5 hs5
    refine ⟨bp, ?_⟩
    rintro s6 hs6
    have f25 : Fr ([124, 121, 125, 126], [], []) s1 s5 := (((Fr.rf.putI hs2 rfl).putI hs3 rfl).putI hs4 rfl).putI hs5 rfl
    have ewh : gA s5 66 p = lab tp := by rw [f25.a _ rfl, f1.a _ rfl]; exact kp.1.symm
    rw [ewh] at hs6 ⊢
    have f : Fr ([124, 121, 125, 126, 127], [129], []) σ s6 := ((f1.weak (w' := ([124, 121, 125, 126, 127], [129], [])) rfl).trans (f25.weak rfl)).putI hs6 rfl
    have x6 : XP M s6 := xp.fr f rfl
    have e6 : ExX σ s6 (inU M (asO M tp) tt) := ExX.of_fr f rfl
    have l6 := lv_fr f rfl
    have ofr := oX_fr f rfl
    have i1 : gI s6 124 = 0 := by rw [hs6, hs5, hs4, hs3, hs2]; rfl
    have i2 : gI s6 121 = 0 := by rw [hs6, hs5, hs4, hs3]; rfl
    have i3 : gI s6 125 = 0 := by rw [hs6, hs5, hs4]; rfl
    have i4 : gI s6 126 = 0 := by rw [hs6, hs5]; rfl
    have i5 : gI s6 127 = lab tp := by rw [hs6]; rfl
    have m6 : mpX (inU M (asO M tp) tt) σ s6 := mpX.of e6 f rfl
    have eb : bX s6 = bX0 σ := by
      funext v
      unfold bX bX0
      by_cases hv : 0 ≤ v ∧ v < 60
      · rw [if_pos hv, if_pos hv, f.a _ rfl, (ofr _).1]
      · rw [if_neg hv, if_neg hv, i3, i4, oX_0]
        split
        · rfl
        · split <;> rfl
    have okb := bX0_ok xp hb
    have hP : ∀ ρ', Zm M tp tt (decide (w ≠ 0)) (bX0 σ) ρ' → Pm M tp (bX0 σ) ρ' := fun ρ' z => Zm_P hM np nt okb z
    have c : cxX M (asO M tp) tt (Pm M tp (bX0 σ)) (lab tp) σ := by
      refine ⟨rg.1, fun ρ h => h.1, fun ρ ρ' h h' v v0 v1 => ?_, hr hw', nt.1⟩
      have a := h.2.1 v v0 v1
      have b := h'.2.1 v v0 v1
      have ab := a.trans b.symm
      constructor
      · intro z
        rcases h'.2.2 v v0 v1 with y | y
        · exact y
        · exact absurd z (ab.mpr (isT_ne_nil y.1))
      · intro z
        rcases h.2.2 v v0 v1 with y | y
        · exact y
        · exact absurd z (ab.mp (isT_ne_nil y.1))
    have mt : mtX M (inU M (asO M tp) tt) (Pm M tp (bX0 σ)) (lab tp) σ s6 (bX0 σ) [] := by
      refine ⟨x6, e6, fun v v0 v1 => ?_, Or.inl i3, Or.inl i4, i5, eb, ⟨?_, ?_, by rw [i1]; rfl, by simp, List.Pairwise.nil, fun i hi => by simp at hi⟩, fun ρ h => (by cases h), ?_, ?_⟩
      · rw [f.a _ rfl]; exact (ofr _).2 (hb v v0 v1)
      · rw [f.i _ rfl]; exact hl0
      · rw [f.i _ rfl]; exact hl1
      · rw [f.i _ rfl]; exact ht0
      · rw [f.i _ rfl]; exact ht1
    have sh6 : gI s6 138 = 0 := by rw [f.i _ rfl]; exact hsh
    have el6 : gI s6 134 = 0 := by rw [f.i _ rfl]; exact hel
    have okp : NF M tp ∧ sub1 M tp (asO M tp) ∧ trS tp ≤ 40 := ⟨np, sub1_self M tp, sp⟩
    have hndl : ¬ gL σ 130 < gL σ 129 + ((min 3000001 (dlN M tt tp) : Nat) : Int) := by omega
    -- the end
    have fin : ∀ (s : S) (L : List Env), mpX (inU M (asO M tp) tt) s6 s → XP M s → LX (lab tp) s L → (∀ ρ', ρ' ∈ L ↔ Zm M tp tt (decide (w ≠ 0)) (bX0 σ) ρ') → gI s 128 = gI σ 128 → gL s 129 = gL σ 129 + ((min 3000001 (dlN M tt tp) : Nat) : Int) →
        x_matchers_j160 s (fun r s => ∃ L, mtc M tp tt (decide (w ≠ 0)) (bX0 σ) (gL σ 129) (gL σ 130) (gI σ 128) = .inr L ∧ r = (L.length : Int) ∧ LX (lab tp) s L ∧ XP M s ∧ mpX (inU M (asO M tp) tt) σ s ∧ gL s 129 = gL σ 129 + ((min 3000001 (dlN M tt tp) : Nat) : Int) ∧ gI s 128 = gI σ 128 + (L.length : Int)) (fun s => mtc M tp tt (decide (w ≠ 0)) (bX0 σ) (gL σ 129) (gL σ 130) (gI σ 128) = .inl (gI s 1006) ∧ XP M s ∧ ExX σ s (inU M (asO M tp) tt)) := by
      intro s L ms xs lx hL hmm hdd
      have hms : mls M tp tt (decide (w ≠ 0)) (bX0 σ) = some L := mls_some lx.2.2.2.2.1 hL lx.2.2.2.1
      have mc := mtc_some (mm := gI σ 128) hw hndl hms
      have hlen := lx.2.2.2.1
      unfold x_matchers_j160
      rintro s7 hs7 s8 hs8
      have e7 : gI s7 128 = gI σ 128 := by rw [hs7, gI_pI, if_neg (by decide)]; exact hmm
      have e7b : gI s7 124 = (L.length : Int) := by rw [hs7, gI_pI, if_neg (by decide)]; exact lx.2.2.1
      rw [e7, e7b, w32_id (by omega) (by omega)] at hs8
      have f8 : Fr ([121, 128], [], []) s s8 := (Fr.rf.putI hs7 rfl).putI hs8 rfl
      have i8 : gI s8 128 = gI σ 128 + (L.length : Int) := by rw [hs8]; rfl
      have x8 : XP M s8 := xs.fr f8 rfl
      have e8 : ExX s s8 (inU M (asO M tp) tt) := ExX.of_fr f8 rfl
      have m8 : mpX (inU M (asO M tp) tt) σ s8 := (m6.trans ms rg.1).trans (mpX.of e8 f8 rfl) rg.1
      rw [i8]
      by_cases hle : gI σ 128 + (L.length : Int) ≤ 6000
      · rw [if_pos hle]
        rw [if_neg (by omega)] at mc
        refine ⟨L, mc, ?_, lx.ex e8 (f8.i _ rfl) (f8.i _ rfl) (f8.a _ rfl), x8, m8, by rw [f8.l _ rfl]; exact hdd, i8⟩
        rw [f8.i _ rfl]; exact lx.2.2.1
      · rw [if_neg hle]
        rw [if_pos (by omega)] at mc
        exact stop s8 4 x8 m8.1 mc
    have bad : ∀ s, overX M (inU M (asO M tp) tt) s6 [] (Zm M tp tt (decide (w ≠ 0)) (bX0 σ)) s → mtc M tp tt (decide (w ≠ 0)) (bX0 σ) (gL σ 129) (gL σ 130) (gI σ 128) = .inl (gI s 1006) ∧ XP M s ∧ ExX σ s (inU M (asO M tp) tt) := by
      rintro s ⟨q1, q2, q3, B, b1, b2, b3⟩
      refine ⟨?_, q2, e6.trans q3 rg.1⟩
      rw [q1]
      refine mtc_none hw hndl (mls_none b1 b2 (fun ρ' hρ => ?_))
      rcases b3 ρ' hρ with z | z
      · cases z
      · exact z
    have tp6 := (l6 _ lp).2.trans etp
    have tt6 := (l6 _ lt).2.trans ett
    -- the whole term
    have whole : (∀ ρ', Zm M tp tt (decide (w ≠ 0)) (bX0 σ) ρ' ↔ Solv M [.inl (tp, tt)] (bX0 σ) ρ') → x_matchers_j150 p t s6 (fun r s => ∃ L, mtc M tp tt (decide (w ≠ 0)) (bX0 σ) (gL σ 129) (gL σ 130) (gI σ 128) = .inr L ∧ r = (L.length : Int) ∧ LX (lab tp) s L ∧ XP M s ∧ mpX (inU M (asO M tp) tt) σ s ∧ gL s 129 = gL σ 129 + ((min 3000001 (dlN M tt tp) : Nat) : Int) ∧ gI s 128 = gI σ 128 + (L.length : Int)) (fun s => mtc M tp tt (decide (w ≠ 0)) (bX0 σ) (gL σ 129) (gL σ 130) (gI σ 128) = .inl (gI s 1006) ∧ XP M s ∧ ExX σ s (inU M (asO M tp) tt)) := by
      intro hz
      have mm := xs_matchPart c (p := p) (x := t) mt sh6 el6 (l6 _ lp).1 (l6 _ lt).1 (by rw [tp6, tt6]; exact ⟨okp, nt, st, hw', Or.inl (subs_self nt.1)⟩) (by rw [tp6, tt6]; exact fun ρ' z => hP ρ' ((hz ρ').mpr z))
      rw [tp6, tt6] at mm
      have mm2 := fm_x_matchPart mm (Q2 := fun _ s => x_matchers_j160 s (fun r s => ∃ L, mtc M tp tt (decide (w ≠ 0)) (bX0 σ) (gL σ 129) (gL σ 130) (gI σ 128) = .inr L ∧ r = (L.length : Int) ∧ LX (lab tp) s L ∧ XP M s ∧ mpX (inU M (asO M tp) tt) σ s ∧ gL s 129 = gL σ 129 + ((min 3000001 (dlN M tt tp) : Nat) : Int) ∧ gI s 128 = gI σ 128 + (L.length : Int)) (fun s => mtc M tp tt (decide (w ≠ 0)) (bX0 σ) (gL σ 129) (gL σ 130) (gI σ 128) = .inl (gI s 1006) ∧ XP M s ∧ ExX σ s (inU M (asO M tp) tt))) (E2 := fun s => mtc M tp tt (decide (w ≠ 0)) (bX0 σ) (gL σ 129) (gL σ 130) (gI σ 128) = .inl (gI s 1006) ∧ XP M s ∧ ExX σ s (inU M (asO M tp) tt)) (fun r s g q => ?_) (fun s g q => bad s (q.imp (fun ρ' => (hz ρ').mpr)))
      · unfold x_matchPart at mm2
        unfold x_matchers_j150
        exact mm2 s6 (pI_same i2).symm
      · obtain ⟨q1, L, q2, q3⟩ := q
        refine fin s L q1 q2.1 q2.2.2.2.2.2.2.2.1 (fun ρ' => ?_) (by rw [g.i _ rfl, f.i _ rfl]) (by rw [g.l _ rfl, hs6, gL_pI, f25.l _ rfl, e1])
        rw [q3 ρ', hz ρ']
        simp
    by_cases hw0 : w = 0
    · rw [if_pos hw0]
      refine whole (fun ρ' => ?_)
      unfold Zm
      rw [if_neg (fun z => by rw [hw0] at z; exact absurd z.1 (by decide))]
    · rw [if_neg hw0]
      by_cases hv : lab tp < 0
      · rw [if_pos hv]
        refine whole (fun ρ' => ?_)
        unfold Zm
        rw [if_neg (fun z => by omega)]
      · rw [if_neg hv]
        rw [moX_as x6, moX_co x6]
        have ib : inb (lab tp) 50 := ⟨by omega, by rw [kp.1]; omega⟩
        refine ⟨ib, ?_⟩
        by_cases has : mAs M (lab tp) = 0
        · rw [if_pos has]
          refine whole (fun ρ' => ?_)
          unfold Zm
          rw [if_neg (fun z => z.2.2.1 has)]
        · rw [if_neg has]
          refine ⟨bt, ?_⟩
          have kt6 : gA s6 66 t = lab tt := by rw [f.a _ rfl]; exact kt.1.symm
          rw [kt6]
          by_cases hl : lab tt = lab tp
          · rw [if_pos hl]
            refine ⟨ib, ?_⟩
            have hAf := sub_asO (M := M) (p := tp) (by omega : 0 ≤ lab tp) has rfl np.1
            have rwp := rwP.mk hM nt st hw' (by omega) has hAf hl
            have zc : decide (w ≠ 0) = true ∧ 0 ≤ lab tp ∧ mAs M (lab tp) ≠ 0 ∧ lab tt = lab tp := ⟨by simpa using hw0, by omega, has, hl⟩
            by_cases hco : mCo M (lab tp) = 0
            · rw [if_pos hco]
              have hz : ∀ ρ', Zm M tp tt (decide (w ≠ 0)) (bX0 σ) ρ' ↔ ∃ a b : Nat, a < b ∧ b ≤ (kids tt).length ∧ rowZ M (lab tp) tp (kids tt) (bX0 σ) a b ρ' := by
                intro ρ'
                unfold Zm
                rw [if_pos zc, if_neg (fun z => z hco)]
                exact rowZ_iff
              refine fm_x_matchRow (xs_matchRow c rwp mt sh6 el6 (l6 _ lp).1 tp6 (l6 _ lt).1 tt6 okp hz hP) (fun r s g q => ?_) (fun s g q => bad s q)
              obtain ⟨q1, q2, L, q3, q4⟩ := q
              exact fin s L q1 q2 q3 q4 (by rw [g.i _ rfl, f.i _ rfl]) (by rw [g.l _ rfl, hs6, gL_pI, f25.l _ rfl, e1])
            · rw [if_neg hco]
              have hz : ∀ ρ', Zm M tp tt (decide (w ≠ 0)) (bX0 σ) ρ' ↔ ∃ S R, spl (kids tt) S R ∧ S ≠ [] ∧ Solv M [.inl (tp, mkS M (lab tp) S)] (upE (bX0 σ) 61 (rsT M (lab tp) R)) ρ' := by
                intro ρ'
                unfold Zm
                rw [if_pos zc, if_pos hco]
              refine fm_x_matchBag (xs_matchBag c rwp mt sh6 el6 (l6 _ lp).1 tp6 (l6 _ lt).1 tt6 okp hz hP) (fun r s g q => ?_) (fun s g q => bad s q)
              obtain ⟨q1, q2, L, q3, q4⟩ := q
              exact fin s L q1 q2 q3 q4 (by rw [g.i _ rfl, f.i _ rfl]) (by rw [g.l _ rfl, hs6, gL_pI, f25.l _ rfl, e1])
          · rw [if_neg hl]
            refine whole (fun ρ' => ?_)
            unfold Zm
            rw [if_neg (fun z => hl z.2.2.2)]
  · rw [if_neg (fun z => hdl (cmpI_le.mp z))]
    exact stop s1 4 x1 (ExX.of_fr f1 rfl) (mtc_deal hw (by omega))

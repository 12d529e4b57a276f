/-! what matchers have for variables: parts of the term -/
theorem Solv_vals {M : Mo} (hM : WM M) {A : Int → Bool} {t0 : Tr} (hT : isT t0) {gs : List Goal} {ρ ρ' : Env} (h : Solv M gs ρ ρ') : (∀ g ∈ gs, gOT M A t0 g) → ∀ v, ρ' v = ρ v ∨ (NF M (ρ' v) ∧ trS (ρ' v) ≤ 40 ∧ inU M A t0 (ρ' v)) := by
  refine h (fun gs ρ ρ' => (∀ g ∈ gs, gOT M A t0 g) → ∀ v, ρ' v = ρ v ∨ (NF M (ρ' v) ∧ trS (ρ' v) ≤ 40 ∧ inU M A t0 (ρ' v))) ?_
  intro gs ρ ρ' hF ok v
  match gs with
  | [] =>
    rw [show ρ' = ρ from hF]
    exact Or.inl rfl
  | .inl (p, t) :: g1 =>
    have okp := ok _ (List.mem_cons_self ..)
    have ok1 : ∀ g ∈ g1, gOT M A t0 g := fun g hg => ok g (List.mem_cons_of_mem _ hg)
    have okA : ∀ {l : List Goal}, (∀ g ∈ l, gOT M A t0 g) → ∀ g ∈ l ++ g1, gOT M A t0 g := by
      intro l hl g hg
      rcases List.mem_append.mp hg with z | z
      · exact hl g z
      · exact ok1 g z
    simp only [FS] at hF
    rcases hF with ⟨a, b | b⟩ | ⟨a, b, c⟩ | ⟨a, b, c, d⟩ | ⟨a, b, c, d, e⟩ | ⟨a, b, c, d⟩
    · exact b.2.2 ok1 v
    · rcases b.2.2.2 ok1 v with z | z
      · by_cases e : v = -1 - lab p
        · right
          have e1 : upE ρ (-1 - lab p) t v = t := by unfold upE; rw [if_pos e]
          rw [z, e1]
          exact ⟨okp.2.1, okp.2.2.1, okp.2.2.2.2⟩
        · left
          rw [z]
          unfold upE
          rw [if_neg e]
      · exact Or.inr z
    · refine c (fun g hg => ?_) v
      rcases List.mem_cons.mp hg with rfl | z
      · have hAf : A (lab p) = true := okp.1.2.1 (lab p) a b (by rw [okp.1.1.eta, tAny_N]; simp [lab_N])
        exact ⟨okp.1, a, b, by omega, elO_elm hM a b hAf okp.2.1 okp.2.2.1 okp.2.2.2.1, rowU_el okp.2.2.2.2 okp.2.1.1⟩
      · exact ok1 g z
    · exact d (okA (pairG_gOT (fun q hq => kid_ok okp.1 hq) (fun q hq => term_kid hT okp.2 hq))) v
    · exact e (okA (pairG_gOT (fun q hq => kid_ok okp.1 hq) (fun q hq => term_kid hT okp.2 (List.mem_reverse.mp hq)))) v
    · have un := unT_ok (A := A) (t0 := t0) hM a (okp.1.1.op a) c
      rcases d with d | d
      · refine d (okA (pairG_gOT (fun q hq => kid_ok okp.1 hq) (fun q hq => ?_))) v
        simp only [List.mem_cons, List.not_mem_nil, or_false] at hq
        rcases hq with rfl | rfl
        · exact okp.2
        · exact un
      · refine d (okA (pairG_gOT (fun q hq => kid_ok okp.1 hq) (fun q hq => ?_))) v
        simp only [List.mem_cons, List.not_mem_nil, or_false] at hq
        rcases hq with rfl | rfl
        · exact un
        · exact okp.2
  | .inr (p, s, es) :: g1 =>
    have okp := ok _ (List.mem_cons_self ..)
    have ok1 : ∀ g ∈ g1, gOT M A t0 g := fun g hg => ok g (List.mem_cons_of_mem _ hg)
    simp only [FS] at hF
    rcases hF with ⟨a, b, c⟩ | ⟨q, S, T, a, b, c, d⟩
    · exact c ok1 v
    · obtain ⟨o1, o2, o3, o4, o5, o6⟩ := okp
      have h1 := o1.1.op o2
      have hAf : A (lab p) = true := o1.2.1 (lab p) o2 o3 (by rw [o1.1.eta, tAny_N]; simp [lab_N])
      obtain ⟨hin1, hin2, hin3, hin4, hin5, hin6⟩ := elm_in hM hT o2 h1 o3 hAf o5 o6 (Sp_spl b)
      have hlt := (List.getElem?_eq_some_iff.mp a).1
      refine d (fun g hg => ?_) v
      rcases List.mem_cons.mp hg with rfl | hg
      · exact ⟨kid_ok o1 (List.mem_of_getElem? a), hin6 c⟩
      · rcases List.mem_cons.mp hg with rfl | hg
        · exact ⟨o1, o2, o3, by omega, hin2, hin4⟩
        · exact ok1 g hg
/-- what stands for variables, or beside -/
theorem Zm_in {M : Mo} (hM : WM M) {p t : Tr} {w : Bool} {ρ ρ' : Env} (hp : NF M p) (sp : trS p ≤ 40) (ht : NF M t) (st : trS t ≤ 40) (hw : tWide (asO M p) t = false) (hb : okB M ρ) (h : Zm M p t w ρ ρ') : ∀ v, ρ' v = ρ v ∨ (NF M (ρ' v) ∧ trS (ρ' v) ≤ 40 ∧ inU M (asO M p) t (ρ' v)) := by
  have okp : NF M p ∧ sub1 M p (asO M p) ∧ trS p ≤ 40 := ⟨hp, sub1_self M p, sp⟩
  unfold Zm at h
  split at h
  · rename_i hc
    have h1 := hp.op hc.2.1
    have hAf := sub_asO hc.2.1 hc.2.2.1 rfl hp.1
    obtain ⟨hT, h0, h1, has, hA2, hk, lE, hn, hel, hrow⟩ := rwP.mk hM ht st hw hc.2.1 hc.2.2.1 hAf hc.2.2.2
    have side : ∀ S R, spl (kids t) S R → rsT M (lab p) S = .nil ∨ (NF M (rsT M (lab p) S) ∧ trS (rsT M (lab p) S) ≤ 40 ∧ inU M (asO M p) t (rsT M (lab p) S)) := by
      intro S R hs
      obtain ⟨hin1, hin2, hin3, hin4, hin5, hin6⟩ := elm_in hM hT h0 h1 has hAf hel hrow hs
      match S, hin1, hin6 with
      | [], _, _ => exact Or.inl rfl
      | a :: r, hin1, hin6 =>
        have nn := mkS_ok hM h0 h1 has (fun e he => ⟨(hin1.1 e he).1, (hin1.1 e he).2.1⟩) (show a :: r ≠ [] by simp)
        have z := hin6 (isT_ne_nil nn.1)
        exact Or.inr ⟨z.1, z.2.1, z.2.2.2⟩
    have sw : ∀ {a b c : List Tr}, spl a b c → spl a c b := by
      intro a
      induction a with
      | nil => rintro b c ⟨rfl, rfl⟩; exact ⟨rfl, rfl⟩
      | cons e es ih =>
        rintro b c (⟨S', rfl, z⟩ | ⟨R', rfl, z⟩)
        · exact Or.inr ⟨S', rfl, ih z⟩
        · exact Or.inl ⟨R', rfl, ih z⟩
    have core : ∀ S R ρ1, spl (kids t) S R → S ≠ [] → Solv M [.inl (p, mkS M (lab p) S)] ρ1 ρ' → ∀ v, ρ' v = ρ1 v ∨ (NF M (ρ' v) ∧ trS (ρ' v) ≤ 40 ∧ inU M (asO M p) t (ρ' v)) := by
      intro S R ρ1 hs hne hz
      obtain ⟨hin1, hin2, hin3, hin4, hin5, hin6⟩ := elm_in hM hT h0 h1 has hAf hel hrow hs
      have nn := mkS_ok hM h0 h1 has (fun e he => ⟨(hin1.1 e he).1, (hin1.1 e he).2.1⟩) hne
      refine Solv_vals hM hT hz (fun g hg => ?_)
      simp only [List.mem_singleton] at hg
      rw [hg]
      exact ⟨okp, hin6 (isT_ne_nil nn.1)⟩
    split at h
    · obtain ⟨S, R, hs, hne, hz⟩ := h
      intro v
      rcases core S R _ hs hne hz v with z | z
      · by_cases e : v = 61
        · have e1 : upE ρ 61 (rsT M (lab p) R) v = rsT M (lab p) R := by unfold upE; rw [if_pos e]
          rw [e1] at z
          rcases side R S (sw hs) with y | y
          · left; rw [z, y, e]; exact (hb.2 61 (by omega)).symm
          · right; rw [z]; exact y
        · left; rw [z]; unfold upE; rw [if_neg e]
      · exact Or.inr z
    · obtain ⟨X, Y, W, e0, hne, hz⟩ := h
      have s1 : spl (kids t) X (Y ++ W) := by rw [e0]; exact app_spl _ _
      have s3 : spl (kids t) (X ++ Y) W := by rw [e0, ← List.append_assoc]; exact app_spl _ _
      have s2 : ∃ Q, spl (kids t) Y Q := by
        obtain ⟨V, hV⟩ := spl_trans (sw s1) (app_spl Y W)
        exact ⟨V, hV⟩
      obtain ⟨Q, s2⟩ := s2
      intro v
      rcases core Y Q _ s2 hne hz v with z | z
      · by_cases e : v = 61
        · have e1 : upE (upE ρ 60 (rsT M (lab p) X)) 61 (rsT M (lab p) W) v = rsT M (lab p) W := by unfold upE; rw [if_pos e]
          rw [e1] at z
          rcases side W _ (sw s3) with y | y
          · left; rw [z, y, e]; exact (hb.2 61 (by omega)).symm
          · right; rw [z]; exact y
        · by_cases e60 : v = 60
          · have e1 : upE (upE ρ 60 (rsT M (lab p) X)) 61 (rsT M (lab p) W) v = rsT M (lab p) X := by unfold upE; rw [if_neg e, if_pos e60]
            rw [e1] at z
            rcases side X _ s1 with y | y
            · left; rw [z, y, e60]; exact (hb.2 60 (by omega)).symm
            · right; rw [z]; exact y
          · left; rw [z]; unfold upE; rw [if_neg e, if_neg e60]
      · exact Or.inr z
  · refine Solv_vals hM ht.1 h (fun g hg => ?_)
    simp only [List.mem_singleton] at hg
    rw [hg]
    exact ⟨okp, ht, st, hw, Or.inl (subs_self ht.1)⟩
/-! rules as they stand: their terms have their forms, and need what is known -/
abbrev okT (M : Mo) (t : Tr) : Prop := NF M t ∧ trS t ≤ 40
def kn (M : Mo) (R : Ru) (s c v : Int) : Prop := 0 ≤ v ∧ (occ v (ruL R s) ∨ ∃ c', 0 ≤ c' ∧ c' < c ∧ mCs M (6 * s + c') = 1 ∧ occ v (ruC R (6 * s + c')))
def RuOK (M : Mo) (R : Ru) (s : Int) : Prop :=
  (okT M (ruL R s) ∧ 0 ≤ lab (ruL R s)) ∧ okT M (ruR R s) ∧ (∀ v, 0 ≤ v → occ v (ruR R s) → kn M R s (mCn M s) v) ∧
  (0 ≤ mCn M s ∧ mCn M s ≤ 6) ∧
  ∀ c, 0 ≤ c → c < mCn M s → okT M (ruC R (6 * s + c)) ∧ (mCs M (6 * s + c) ≠ 2 → okT M (ruO R (6 * s + c)) ∧ ∀ v, 0 ≤ v → occ v (ruO R (6 * s + c)) → kn M R s c v) ∧ (mCs M (6 * s + c) ≠ 1 → ∀ v, 0 ≤ v → occ v (ruC R (6 * s + c)) → kn M R s c v) ∧ (mCs M (6 * s + c) = 2 → 0 ≤ ruS R (6 * s + c) ∧ ruS R (6 * s + c) < mSorts M) ∧ (mCs M (6 * s + c) = 0 ∨ mCs M (6 * s + c) = 1 ∨ mCs M (6 * s + c) = 2)
/-- what stands for variables by a condition -/
def EI (M : Mo) (R : Ru) (s c : Int) (ρ : Env) : Prop := okB M ρ ∧ (∀ v, ρ v ≠ .nil → trS (ρ v) ≤ 40) ∧ ∀ v, kn M R s c v → ρ v ≠ .nil
theorem EI.val {M : Mo} {R : Ru} {s c : Int} {ρ : Env} (h : EI M R s c ρ) {v : Int} (hv : ρ v ≠ .nil) : NF M (ρ v) ∧ trS (ρ v) ≤ 40 := by
  refine ⟨?_, h.2.1 v hv⟩
  rcases Classical.em (0 ≤ v ∧ v < 60) with z | z
  · exact (h.1.1 v z.1 z.2).resolve_left hv
  · exact absurd (h.1.2 v (by omega)) hv
theorem cut_at {ρ : Env} {v : Int} (h : 0 ≤ v ∧ v < 60) : cut ρ v = ρ v := if_pos h
theorem occ_rg {M : Mo} {v : Int} {t : Tr} (v0 : 0 ≤ v) (hT : isT t) (nf : NF M t) (ho : occ v t) : 0 ≤ v ∧ v < 60 := by
  have key : ∀ t, isT t → NF M t → occ v t → 0 ≤ v ∧ v < 60 := by
    refine tr_ind ?_
    intro c ts hc hk ih nf ho
    unfold occ at ho
    rw [tAny_N, Bool.or_eq_true] at ho
    rcases ho with z | z
    · have : c = -1 - v := by simpa using z
      have y := nf.ok
      rcases y with y | y
      · rw [lab_N] at y; omega
      · rw [lab_N] at y; omega
    · obtain ⟨u, hu, h2⟩ := List.any_eq_true.mp z
      exact ih u hu ((NF_N.mp nf).2.2 u hu) h2
  exact key t hT nf ho
/-- matchers of a condition, or of the left side -/
theorem EI.next {M : Mo} (hM : WM M) {R : Ru} {s c c' : Int} {ρ ρ1 : Env} {p t : Tr} {w : Bool} (hp : okT M p) (ht : okT M t) (hw : tWide (asO M p) t = false) (hb : okB M ρ) (hs : ∀ v, ρ v ≠ .nil → trS (ρ v) ≤ 40) (hk : ∀ v, kn M R s c' v → ρ v ≠ .nil ∨ occ v p) (hz : Zm M p t w ρ ρ1) (hc : ∀ v, kn M R s c v → kn M R s c' v) (hkn : ∀ v, kn M R s c v → 0 ≤ v ∧ v < 60) : EI M R s c (cut ρ1) := by
  have P := Zm_P hM hp.1 ht.1 hb hz
  have I := Zm_in hM hp.1 hp.2 ht.1 ht.2 hw hb hz
  refine ⟨⟨fun v v0 v1 => ?_, fun v hv => ?_⟩, fun v hv => ?_, fun v hv => ?_⟩
  · rw [cut_at ⟨v0, v1⟩]; exact P.2.2 v v0 v1
  · unfold cut; rw [if_neg (by omega)]
  · unfold cut at hv ⊢
    by_cases z : 0 ≤ v ∧ v < 60
    · rw [if_pos z] at hv ⊢
      rcases I v with y | y
      · rw [y] at hv ⊢; exact hs v hv
      · exact y.2.1
    · rw [if_neg z] at hv; exact absurd rfl hv
  · rw [cut_at (hkn v hv)]
    exact (P.2.1 v (hkn v hv).1 (hkn v hv).2).mpr (hk v (hc v hv))
theorem kn_rg {M : Mo} (hM : WM M) {R : Ru} {s c v : Int} (h : RuOK M R s) (hc : c ≤ mCn M s) (hk : kn M R s c v) : 0 ≤ v ∧ v < 60 := by
  rcases hk with ⟨v0, z | ⟨c', h0, h1, h2, z⟩⟩
  · exact occ_rg v0 h.1.1.1.1 h.1.1.1 z
  · have := (h.2.2.2.2 c' h0 (by omega)).1
    exact occ_rg v0 this.1.1 this.1 z

/-! the matchers of a pattern and a term -/
def rsT (M : Mo) (o : Int) (R : List Tr) : Tr := match R with
  | [] => .nil
  | a :: r => mkS M o (a :: r)
def Zm (M : Mo) (p t : Tr) (w : Bool) (ρ ρ' : Env) : Prop :=
  if w = true ∧ 0 ≤ lab p ∧ mAs M (lab p) ≠ 0 ∧ lab t = lab p then
    (if mCo M (lab p) ≠ 0 then ∃ S R, spl (kids t) S R ∧ S ≠ [] ∧ Solv M [.inl (p, mkS M (lab p) S)] (upE ρ 61 (rsT M (lab p) R)) ρ'
     else ∃ X Y W, kids t = X ++ (Y ++ W) ∧ Y ≠ [] ∧ Solv M [.inl (p, mkS M (lab p) Y)] (upE (upE ρ 60 (rsT M (lab p) X)) 61 (rsT M (lab p) W)) ρ')
  else Solv M [.inl (p, t)] ρ ρ'
def okB (M : Mo) (ρ : Env) : Prop := (∀ v : Int, 0 ≤ v → v < 60 → ρ v = .nil ∨ NF M (ρ v)) ∧ ∀ v : Int, v < 0 ∨ 60 ≤ v → ρ v = .nil
theorem Solv_env {M : Mo} (hM : WM M) {gs : List Goal} {ρ ρ' : Env} (h : Solv M gs ρ ρ') : (∀ g ∈ gs, okG M g) → ∀ v, ρ' v = ρ v ∨ (0 ≤ v ∧ v < 60 ∧ NF M (ρ' v)) := by
  refine h (fun gs ρ ρ' => (∀ g ∈ gs, okG M g) → ∀ v, ρ' v = ρ v ∨ (0 ≤ v ∧ v < 60 ∧ NF M (ρ' v))) ?_
  intro gs ρ ρ' hF ok v
  match gs with
  | [] =>
    rw [show ρ' = ρ from hF]
    exact Or.inl rfl
  | .inl (p, t) :: g1 =>
    have okp := ok _ (List.mem_cons_self ..)
    have ok1 : ∀ g ∈ g1, okG M g := fun g hg => ok g (List.mem_cons_of_mem _ hg)
    have okA : ∀ {l : List Goal}, (∀ g ∈ l, okG M g) → ∀ g ∈ l ++ g1, okG M g := by
      intro l hl g hg
      rcases List.mem_append.mp hg with z | z
      · exact hl g z
      · exact ok1 g z
    simp only [FS] at hF
    rcases hF with ⟨a, b | b⟩ | ⟨a, b, c⟩ | ⟨a, b, c, d⟩ | ⟨a, b, c, d, e⟩ | ⟨a, b, c, d⟩
    · exact b.2.2 ok1 v
    · rcases b.2.2.2 ok1 v with z | z
      · by_cases e : v = -1 - lab p
        · right
          have e1 : upE ρ (-1 - lab p) t v = t := by unfold upE; rw [if_pos e]
          rw [z, e1]
          rcases okp.1.ok with y | y
          · exact ⟨by omega, by omega, okp.2⟩
          · omega
        · left
          rw [z]
          unfold upE
          rw [if_neg e]
      · exact Or.inr z
    · refine c (fun g hg => ?_) v
      rcases List.mem_cons.mp hg with rfl | z
      · exact ⟨okp.1, a, b, by omega, elO_ok a b okp.2⟩
      · exact ok1 g z
    · exact d (okA (pairG_ok (fun q hq => okp.1.kid hq) (fun q hq => okp.2.kid hq))) v
    · exact e (okA (pairG_ok (fun q hq => okp.1.kid hq) (fun q hq => okp.2.kid (List.mem_reverse.mp hq)))) v
    · have hu := NF_unT hM a (okp.1.op a) c
      rcases d with d | d
      · refine d (okA (pairG_ok (fun q hq => okp.1.kid hq) (fun q hq => ?_))) v
        simp only [List.mem_cons, List.not_mem_nil, or_false] at hq
        rcases hq with rfl | rfl
        · exact okp.2
        · exact hu
      · refine d (okA (pairG_ok (fun q hq => okp.1.kid hq) (fun q hq => ?_))) v
        simp only [List.mem_cons, List.not_mem_nil, or_false] at hq
        rcases hq with rfl | rfl
        · exact hu
        · exact okp.2
  | .inr (p, s, es) :: g1 =>
    have okp := ok _ (List.mem_cons_self ..)
    have ok1 : ∀ g ∈ g1, okG M g := fun g hg => ok g (List.mem_cons_of_mem _ hg)
    simp only [FS] at hF
    rcases hF with ⟨a, b, c⟩ | ⟨q, S, T, a, b, c, d⟩
    · exact c ok1 v
    · obtain ⟨k1, k2⟩ := okG_row hM okp a b c
      refine d (fun g hg => ?_) v
      rcases List.mem_cons.mp hg with rfl | hg
      · exact k1
      · rcases List.mem_cons.mp hg with rfl | hg
        · exact k2
        · exact ok1 g hg
/-- what all matchers are -/
def Pm (M : Mo) (p : Tr) (ρ ρ' : Env) : Prop := okE (lab p) ρ' ∧ (∀ v : Int, 0 ≤ v → v < 60 → (ρ' v ≠ .nil ↔ ρ v ≠ .nil ∨ occ v p)) ∧ ∀ v : Int, 0 ≤ v → v < 60 → ρ' v = .nil ∨ NF M (ρ' v)
theorem Pm_of {M : Mo} (hM : WM M) {p t : Tr} {ρ ρ1 ρ' : Env} (hp : NF M p) (ht : NF M t) (hb : okB M ρ) (h1 : ∀ v : Int, 0 ≤ v → v < 60 → ρ1 v = ρ v) (h60 : okR (lab p) (ρ1 60)) (h61 : okR (lab p) (ρ1 61)) (ho : ∀ v : Int, v < 0 ∨ 62 ≤ v → ρ1 v = .nil) (h : Solv M [.inl (p, t)] ρ1 ρ') : Pm M p ρ ρ' := by
  have ok : ∀ g ∈ ([.inl (p, t)] : List Goal), okG M g := by
    intro g hg
    simp only [List.mem_singleton] at hg
    rw [hg]; exact ⟨hp, ht⟩
  have env := Solv_env hM h ok
  have dom := Solv_dom hM h ok
  have out : ∀ v : Int, v < 0 ∨ 60 ≤ v → ρ' v = ρ1 v := fun v hv => by
    rcases env v with z | z
    · exact z
    · omega
  have ins : ∀ v : Int, 0 ≤ v → v < 60 → ρ' v = .nil ∨ NF M (ρ' v) := fun v v0 v1 => by
    rcases env v with z | z
    · rw [z, h1 v v0 v1]; exact hb.1 v v0 v1
    · exact Or.inr z.2.2
  refine ⟨⟨fun v v0 v1 => (ins v v0 v1).imp id (fun z => z.1), by rw [out 60 (by omega)]; exact h60, by rw [out 61 (by omega)]; exact h61, fun v hv => by rw [out v (by omega), ho v hv]⟩, fun v v0 v1 => ?_, ins⟩
  rw [dom v v0, h1 v v0 v1]
  simp only [List.mem_singleton, exists_eq_left, occG]
theorem mkS_ok {M : Mo} (hM : WM M) {o : Int} (h0 : 0 ≤ o) (h1 : o < mOps M) (ha : mAs M o ≠ 0) {es : List Tr} (h : ∀ e ∈ es, NF M e ∧ lab e ≠ o) (hn : es ≠ []) : NF M (mkS M o es) := by
  match es, hn with
  | [t], _ => exact (h t (by simp)).1
  | a :: b :: r, _ =>
    simp only [mkS]
    refine NF_mk hM ⟨h0, h1, ?_, fun t ht => (h t ht).1⟩
    rw [if_pos ha]
    simp
theorem rsT_okR {M : Mo} (hM : WM M) {o : Int} (h0 : 0 ≤ o) (h1 : o < mOps M) (ha : mAs M o ≠ 0) {es : List Tr} (h : ∀ e ∈ es, NF M e ∧ lab e ≠ o) : okR o (rsT M o es) ∧ (rsT M o es = .nil ∨ NF M (rsT M o es)) := by
  match es, h with
  | [], _ => exact ⟨Or.inl rfl, Or.inl rfl⟩
  | a :: r, h =>
    have nf := mkS_ok hM h0 h1 ha h (by simp)
    refine ⟨Or.inr ⟨nf.1, fun hl => ?_⟩, Or.inr nf⟩
    have nf' : NF M (rsT M o (a :: r)) := nf
    rcases nf'.ok with z | z
    · omega
    · rw [hl, if_pos ha] at z
      exact z.2.2.1.1
theorem row_el {M : Mo} {o : Int} (h0 : 0 ≤ o) (ha : mAs M o ≠ 0) {t : Tr} (ht : NF M t) (hl : lab t = o) : ∀ e ∈ kids t, NF M e ∧ lab e ≠ o := by
  have := elO_ok h0 ha ht
  unfold elO at this
  rw [if_pos hl] at this
  exact this
theorem Zm_P {M : Mo} (hM : WM M) {p t : Tr} {w : Bool} {ρ ρ' : Env} (hp : NF M p) (ht : NF M t) (hb : okB M ρ) (h : Zm M p t w ρ ρ') : Pm M p ρ ρ' := by
  have nl : ∀ v : Int, v < 0 ∨ 60 ≤ v → ρ v = .nil := hb.2
  unfold Zm at h
  split at h
  · rename_i hc
    have h1 := hp.op hc.2.1
    have el := row_el hc.2.1 hc.2.2.1 ht hc.2.2.2
    split at h
    · obtain ⟨S, R, hs, hn, hz⟩ := h
      have hm := spl_mem hs
      refine Pm_of hM hp (mkS_ok hM hc.2.1 h1 hc.2.2.1 (fun e he => el e (hm.1 e he)) hn) hb (fun v v0 v1 => ?_) ?_ ?_ (fun v hv => ?_) hz
      · unfold upE; rw [if_neg (by omega)]
      · unfold upE; rw [if_neg (by omega), nl 60 (by omega)]; exact Or.inl rfl
      · unfold upE; rw [if_pos rfl]; exact (rsT_okR hM hc.2.1 h1 hc.2.2.1 (fun e he => el e (hm.2.1 e he))).1
      · unfold upE; rw [if_neg (by omega)]; exact nl v (by omega)
    · obtain ⟨X, Y, W, e, hn, hz⟩ := h
      have mX : ∀ x ∈ X, NF M x ∧ lab x ≠ lab p := fun x hx => el x (by rw [e]; exact List.mem_append_left _ hx)
      have mY : ∀ x ∈ Y, NF M x ∧ lab x ≠ lab p := fun x hx => el x (by rw [e]; exact List.mem_append_right _ (List.mem_append_left _ hx))
      have mW : ∀ x ∈ W, NF M x ∧ lab x ≠ lab p := fun x hx => el x (by rw [e]; exact List.mem_append_right _ (List.mem_append_right _ hx))
      refine Pm_of hM hp (mkS_ok hM hc.2.1 h1 hc.2.2.1 mY hn) hb (fun v v0 v1 => ?_) ?_ ?_ (fun v hv => ?_) hz
      · unfold upE; rw [if_neg (by omega), if_neg (by omega)]
      · unfold upE; rw [if_neg (by omega), if_pos rfl]; exact (rsT_okR hM hc.2.1 h1 hc.2.2.1 mX).1
      · unfold upE; rw [if_pos rfl]; exact (rsT_okR hM hc.2.1 h1 hc.2.2.1 mW).1
      · unfold upE; rw [if_neg (by omega), if_neg (by omega)]; exact nl v (by omega)
  · exact Pm_of hM hp ht hb (fun _ _ _ => rfl) (by rw [nl 60 (by omega)]; exact Or.inl rfl) (by rw [nl 61 (by omega)]; exact Or.inl rfl) (fun v hv => nl v (by omega)) h
/-- all of them, in order: at most 200 -/
noncomputable def mls (M : Mo) (p t : Tr) (w : Bool) (ρ : Env) : Option (List Env) :=
  @dite _ (∃ L : List Env, (srE (lab p) L ∧ ∀ ρ', ρ' ∈ L ↔ Zm M p t w ρ ρ') ∧ L.length ≤ 200) (Classical.propDecidable _) (fun h => some (Classical.choose h)) (fun _ => none)
theorem mls_some {M : Mo} {p t : Tr} {w : Bool} {ρ : Env} {L : List Env} (h1 : srE (lab p) L) (h2 : ∀ ρ', ρ' ∈ L ↔ Zm M p t w ρ ρ') (h3 : L.length ≤ 200) : mls M p t w ρ = some L := by
  have h : ∃ L : List Env, (srE (lab p) L ∧ ∀ ρ', ρ' ∈ L ↔ Zm M p t w ρ ρ') ∧ L.length ≤ 200 := ⟨L, ⟨h1, h2⟩, h3⟩
  unfold mls
  rw [dif_pos h]
  have s := Classical.choose_spec h
  have e : Classical.choose h = L := srE_uniq s.1.1 h1 (fun x => by rw [s.1.2 x, h2 x])
  rw [e]
theorem mls_none {M : Mo} {p t : Tr} {w : Bool} {ρ : Env} {B : List Env} (h1 : B.Nodup) (h2 : 201 ≤ B.length) (h3 : ∀ ρ' ∈ B, Zm M p t w ρ ρ') : mls M p t w ρ = none := by
  unfold mls
  rw [dif_neg]
  rintro ⟨L, ⟨-, k2⟩, k3⟩
  have := nodup_le h1 (fun x hx => (k2 x).mpr (h3 x hx))
  omega
theorem mls_ok {M : Mo} {p t : Tr} {w : Bool} {ρ : Env} {L : List Env} (h : mls M p t w ρ = some L) : (srE (lab p) L ∧ ∀ ρ', ρ' ∈ L ↔ Zm M p t w ρ ρ') ∧ L.length ≤ 200 := by
  unfold mls at h
  by_cases k : ∃ L : List Env, (srE (lab p) L ∧ ∀ ρ', ρ' ∈ L ↔ Zm M p t w ρ ρ') ∧ L.length ≤ 200
  · rw [dif_pos k] at h
    simp only [Option.some.injEq] at h
    rw [← h]
    exact Classical.choose_spec k
  · rw [dif_neg k] at h
    cases h
/-! masks, whole rows -/
theorem mk_not : ∀ n : Fin 7, ∀ m : Fin 64, m.val < 2 ^ n.val → ∀ k : Fin 6, k.val < n.val → (bAnd (bShr (bXor ((m.val : Nat) : Int) (-1)) ((k.val : Nat) : Int)) 1 = 1 ↔ ((2 ^ n.val - 1 ^^^ m.val) / 2 ^ k.val) % 2 = 1) := by decide +kernel
theorem mk_span : ∀ a : Fin 7, ∀ b : Fin 7, a.val ≤ b.val → w32 (bShl 1 ((b.val : Nat) : Int) - bShl 1 ((a.val : Nat) : Int)) = ((2 ^ b.val - 2 ^ a.val : Nat) : Int) ∧ 2 ^ b.val - 2 ^ a.val < 64 := by decide +kernel
theorem mk_pow : ∀ n : Fin 7, bShl 1 ((n.val : Nat) : Int) = ((2 ^ n.val : Nat) : Int) := by decide +kernel
theorem spl_masks {E : List Tr} {n : Nat} (lE : E.length = n) (hn : n ≤ 6) {S R : List Tr} : spl E S R ↔ ∃ k, k < 2 ^ n ∧ S = pk k E ∧ R = pk (2 ^ n - 1 ^^^ k) E := by
  have h64 : (2 : Nat) ^ n ≤ 64 := Nat.le_trans (Nat.pow_le_pow_right (by omega) hn) (by decide)
  have h1 : 1 ≤ 2 ^ n := Nat.one_le_two_pow
  have all : pk (2 ^ n - 1) E = E := pk_all E lE
  have and_full : ∀ n : Fin 7, ∀ k : Fin 64, k.val < 2 ^ n.val → k.val &&& (2 ^ n.val - 1) = k.val := by decide +kernel
  constructor
  · intro h
    rw [← all] at h
    obtain ⟨k, hk, e1, e2⟩ := spl_pk (by omega) h
    have : k ≤ 2 ^ n - 1 := by rw [← hk]; exact Nat.and_le_right
    exact ⟨k, by omega, e1, e2⟩
  · rintro ⟨k, hk, rfl, rfl⟩
    have := pk_spl (E := E) (m := 2 ^ n - 1) (s := k) (by omega) (and_full ⟨n, by omega⟩ ⟨k, by omega⟩ hk)
    rw [all] at this
    exact this
theorem pk_nil_iff {E : List Tr} {n k : Nat} (lE : E.length = n) (hk : k < 2 ^ n) : pk k E = [] ↔ k = 0 := by
  constructor
  · intro h
    induction E generalizing n k with
    | nil =>
      simp only [List.length_nil] at lE
      subst lE
      simpa using hk
    | cons e E ih =>
      simp only [List.length_cons] at lE
      subst lE
      simp only [pk] at h
      split at h
      · cases h
      · have := ih rfl (k := k / 2) (by rw [Nat.pow_succ] at hk; omega) h
        omega
  · rintro rfl
    exact pk_0 E

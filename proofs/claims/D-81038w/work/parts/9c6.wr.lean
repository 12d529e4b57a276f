/-! the whole of reducing: what a run that ends well leaves -/
section
variable {M : Mo} {R : Ru} {mo : Int}
def QW (M : Mo) (R : Ru) : WT := fun _ ch x st o => ∀ (S : Tr → Prop) r st', o = .inr (r, st') → okT M x → 0 ≤ lab x → stM st x = .nil → PA M R S st → dm M R S (fun n => bg M R n x) → (∀ c ∈ ch, 0 ≤ lab c ∧ ∀ n r, bg M R n x = some r → ¬ S c ∧ ∃ m, bg M R m c = some r) → SN M R S st st' ∧ (∃ n, bg M R n x = some r) ∧ ∀ c, c = x ∨ c ∈ ch → stM st' c = r
theorem QW_sn (d : Int) : sn M R (RE (QW M R) d) := by
  intro S t st r st' ot hP hd h
  rcases h with ⟨c, h⟩ | ⟨c, h | ⟨-, h⟩⟩
  · simp only [Sum.inr.injEq, Prod.mk.injEq] at h
    rw [h.1, h.2]
    refine ⟨SN.same hP rfl, ?_, rfl⟩
    unfold came at c ⊢
    by_cases hv : lab t < 0
    · rw [if_pos hv]; exact ⟨1, bg_var hv 0⟩
    · rw [if_neg hv] at c ⊢; exact hP.1 t c (by omega)
  · cases h.2
  · have hv : ¬ lab t < 0 := by
      intro hv
      unfold came at c
      rw [if_pos hv] at c
      exact isT_nn ot.1.1 c
    have c2 := c
    unfold came at c2
    rw [if_neg hv] at c2
    obtain ⟨a, b, e⟩ := h S r st' rfl ot (by omega) c2 hP hd (fun c hc => absurd hc (List.not_mem_nil))
    refine ⟨a, b, ?_⟩
    unfold came
    rw [if_neg hv]
    exact e t (Or.inl rfl)
theorem Wr_sn (hM : WM M) (hE : ∀ e ∈ eqs M, RuOK M R e) {d : Int} {ch : List Tr} {x : Tr} {st : ST} {o : Out Tr} (h : Wr M R mo d ch x st o) : QW M R d ch x st o := by
  refine h (QW M R) ?_
  clear h d ch x st o
  intro d ch x st o h S r st' eo ox x0 mx hP hd hch
  subst eo
  have hG := QW_sn (M := M) (R := R) (d + 1)
  obtain ⟨y, st1, h1, h⟩ := bnd_ok h
  have hdb := dm_bg x0 hd
  obtain ⟨p1, ⟨n1, e1⟩, -⟩ := redE_sn hM hE hG ox hP (dm_l hdb) h1
  have oy := redB_val hM (bg_val hM hE n1) ox e1
  have fixr : ∀ n, bg M R n x = some r → okT M r ∧ bg M R n r = some r := by
    intro n e
    have o := bg_val hM hE n x r ox e
    exact ⟨o, bg_fix hM hE n x r ox e r (subs_self o.1.1)⟩
  have nSx : (∃ n, bg M R n x = some r) → ¬ S x := fun ⟨n, e⟩ => notS hd ⟨n, r, e⟩ (fun m k => k)
  have nSr : (∃ n, bg M R n x = some r) → ¬ S r := fun ⟨n, e⟩ => notS hd ⟨n, r, (fixr n e).2⟩ (fun m k => by
    cases q : bg M R m x with
    | none => exact absurd q k
    | some r' =>
      have := bg_det q e
      subst this
      rw [(fixr m q).2]
      exact fun z => by cases z)
  have fin : ∀ (chx : List Tr) (stx : ST), PA M R S stx → (∃ n, bg M R n x = some r) → (∀ c ∈ chx, c = x ∨ c ∈ ch ∨ (c = y ∧ 0 ≤ lab y)) → SN M R S stx (finE chx r stx) ∧ ∀ c ∈ chx, stM (finE chx r stx) c = r := by
    intro chx stx hp hx hc
    obtain ⟨n, e⟩ := hx
    refine finE_sn hp (isT_nn (fixr n e).1.1.1) (fun c hm => ?_) (fun _ => ⟨nSr ⟨n, e⟩, n, (fixr n e).2⟩)
    rcases hc c hm with rfl | z | ⟨rfl, y0⟩
    · exact ⟨x0, nSx ⟨n, e⟩, n, e⟩
    · exact ⟨(hch c z).1, (hch c z).2 n r e⟩
    · have ey : bg M R n c = some r := by
        rw [bg_y hM hE ox x0 y0 e1 n (by rw [e]; exact fun z => by cases z), e]
      refine ⟨y0, notS hd ⟨n, r, ey⟩ (fun m k => ?_), n, ey⟩
      rw [bg_y hM hE ox x0 y0 e1 m k]
      exact k
  rcases h with ⟨ny, cy, h⟩ | ⟨ny, h⟩
  · simp only [Sum.inr.injEq, Prod.mk.injEq] at h
    obtain ⟨hr, hs⟩ := h
    have by_ : ∃ n, bg M R n y = some r := by
      rw [hr]
      unfold came at cy ⊢
      by_cases hv : lab y < 0
      · rw [if_pos hv]; exact ⟨1, bg_var hv 0⟩
      · rw [if_neg hv] at cy ⊢; exact p1.1.1 y cy (by omega)
    have bx : ∃ n, bg M R n x = some r := by
      obtain ⟨m, e⟩ := by_
      exact bg_up hM hE ox x0 e1 e
    rw [← hr] at hs
    rw [hs]
    have f := fin (x :: ch) st1 p1.1 bx (fun c hm => by
      rcases List.mem_cons.mp hm with e | e
      · exact Or.inl e
      · exact Or.inr (Or.inl e))
    exact ⟨p1.trans f.1, bx, fun c hc => f.2 c (List.mem_cons.mpr hc)⟩
  · have y0 : 0 ≤ lab y := by
      rcases Classical.em (lab y < 0) with hv | hv
      · refine absurd ⟨fun e => ?_, ?_⟩ ny
        · rw [e] at hv; omega
        · unfold came; rw [if_pos hv]; exact isT_nn oy.1.1
      · omega
    have hd2 := dm_r hdb (fun n m h v e => redB_mono (bg_le h) _ _ e) e1
    simp only [if_neg (show ¬ lab y < 0 by omega)] at hd2
    obtain ⟨q, st2, h2, h⟩ := bnd_ok h
    obtain ⟨p2, n2, e2⟩ := tryEqE_sn hM hE hG _ y st1 q st2 hE oy p1.1 (dm_l hd2) h2
    have mem3 : ∀ c ∈ y :: x :: ch, c = x ∨ c ∈ ch ∨ (c = y ∧ 0 ≤ lab y) := by
      intro c hm
      rcases List.mem_cons.mp hm with e | hm
      · exact Or.inr (Or.inr ⟨e, y0⟩)
      · rcases List.mem_cons.mp hm with e | e
        · exact Or.inl e
        · exact Or.inr (Or.inl e)
    match q with
    | none =>
      simp only [Sum.inr.injEq, Prod.mk.injEq] at h
      obtain ⟨hr, hs⟩ := h
      have bx : ∃ n, bg M R n x = some r := by rw [hr]; exact bg_none x0 y0 e1 e2
      rw [← hr] at hs
      have f := fin (r :: x :: ch) st2 p2.1 bx (by rw [hr]; exact mem3)
      rw [hs]
      exact ⟨(p1.trans p2).trans f.1, bx, fun c hc => f.2 c (List.mem_cons_of_mem _ (List.mem_cons.mpr hc))⟩
    | some z =>
      have oz := tryEqB_val hM (bg_val hM hE n2) _ _ _ hE oy e2
      rcases h with ⟨cz, h⟩ | ⟨cz, h⟩
      · simp only [Sum.inr.injEq, Prod.mk.injEq] at h
        obtain ⟨hr, hs⟩ := h
        have bz : ∃ n, bg M R n z = some r := by
          rw [hr]
          unfold came at cz ⊢
          by_cases hv : lab z < 0
          · rw [if_pos hv]; exact ⟨1, bg_var hv 0⟩
          · rw [if_neg hv] at cz ⊢; exact p2.1.1 z cz (by omega)
        have bx : ∃ n, bg M R n x = some r := by
          obtain ⟨m, e⟩ := bz
          exact bg_some x0 y0 e1 e2 e
        rw [← hr] at hs
        have f := fin (y :: x :: ch) st2 p2.1 bx mem3
        rw [hs]
        exact ⟨(p1.trans p2).trans f.1, bx, fun c hc => f.2 c (List.mem_cons_of_mem _ (List.mem_cons.mpr hc))⟩
      · have hv : ¬ lab z < 0 := by
          intro hv
          unfold came at cz
          rw [if_pos hv] at cz
          exact isT_nn oz.1.1 cz
        have cz2 := cz
        unfold came at cz2
        rw [if_neg hv] at cz2
        have hd3 := dm_r hd2 (fun n m h v e => tryEqB_mono (bg_le h) _ _ _ e) e2
        have toX : ∀ n r, bg M R n z = some r → ∃ N, bg M R N x = some r := fun n r e => bg_some x0 y0 e1 e2 e
        obtain ⟨p3, ⟨n3, e3⟩, m3⟩ := h S r st' rfl oz (by omega) cz2 p2.1 hd3 (fun c hm => by
          refine ⟨?_, fun n r' e => ?_⟩
          · rcases mem3 c hm with e | e | e
            · rw [e]; exact x0
            · exact (hch c e).1
            · rw [e.1]; exact y0
          · obtain ⟨N, eN⟩ := toX n r' e
            rcases mem3 c hm with e | e | e
            · rw [e]; exact ⟨notS hd ⟨N, r', eN⟩ (fun m k => k), N, eN⟩
            · exact (hch c e).2 N r' eN
            · rw [e.1]
              have ey : bg M R N y = some r' := by
                rw [bg_y hM hE ox x0 y0 e1 N (by rw [eN]; exact fun z => by cases z), eN]
              refine ⟨notS hd ⟨N, r', ey⟩ (fun m k => ?_), N, ey⟩
              rw [bg_y hM hE ox x0 y0 e1 m k]
              exact k)
        refine ⟨(p1.trans p2).trans p3, toX n3 r e3, fun c hc => m3 c (Or.inr (List.mem_cons_of_mem _ (List.mem_cons.mpr hc)))⟩
/-- reducing a term: what a run that ends well leaves -/
theorem RE_sn (hM : WM M) (hE : ∀ e ∈ eqs M, RuOK M R e) (d : Int) : sn M R (RE (Wr M R mo) d) := by
  intro S t st r st' ot hP hd h
  exact QW_sn d S t st r st' ot hP hd (RE_mono (fun d ch x st o k => Wr_sn hM hE k) d t st _ h)
theorem dm_no {α : Type} (b : Nat → Option α) : dm M R (fun _ => False) b := fun _ h => absurd h id
theorem PA_no {st : ST} (h : Ms M R st) : PA M R (fun _ => False) st := ⟨h, fun _ k => absurd k id⟩
/-- a term in process is not found at rest behind reducing its parts -/
theorem red_nm (hM : WM M) (hE : ∀ e ∈ eqs M, RuOK M R e) {d : Int} {x y : Tr} {st st1 : ST} (ox : okT M x) (x0 : 0 ≤ lab x) (hm : Ms M R st) (h0 : stM st x = .nil) (h : redE M (RE (Wr M R mo) d) x st (.inr (y, st1))) : stM st1 x = .nil := by
  have hP : PA M R (fun a => a = x) st := ⟨hm, fun a ha => by rw [ha]; exact h0⟩
  refine (redE_sn hM hE (RE_sn (mo := mo) hM hE d) ox hP ?_ h).1.1.2 x rfl
  rintro a rfl n hn
  cases n with
  | zero => exact absurd rfl hn
  | succ n =>
    refine ⟨n, by omega, fun z => hn ?_⟩
    have z' : redB M (bg M R n) a = none := z
    simp only [bg]
    rw [if_neg (by omega), z']
    rfl
end

/-! RewriteHouseModel: reducing, parts of conditions -/
theorem te_reduced_0 (n : Nat) (a b : Int) (σ : S) (Q : Int → S → Prop) (E : S → Prop) : t_S_reduced (n + 1) 0 [a, b] σ Q E = t_reduced_F (t_S_reduced n) a b σ Q E := rfl
theorem te_reduced_1 (n : Nat) (a b : Int) (σ : S) (Q : Int → S → Prop) (E : S → Prop) : t_S_reduced (n + 1) 1 [a, b] σ Q E = t_reduceRow_F (t_S_reduced n) a b σ Q E := rfl
theorem te_reduced_2 (n : Nat) (a b : Int) (σ : S) (Q : Int → S → Prop) (E : S → Prop) : t_S_reduced (n + 1) 2 [a, b] σ Q E = t_byEquation_F (t_S_reduced n) a b σ Q E := rfl
theorem te_reduced_3 (n : Nat) (a b c : Int) (σ : S) (Q : Int → S → Prop) (E : S → Prop) : t_S_reduced (n + 1) 3 [a, b, c] σ Q E = t_reducedPart_F (t_S_reduced n) a b c σ Q E := rfl
theorem te_reduced_4 (n : Nat) (a b c : Int) (σ : S) (Q : Int → S → Prop) (E : S → Prop) : t_S_reduced (n + 1) 4 [a, b, c] σ Q E = t_holdsPart_F (t_S_reduced n) a b c σ Q E := rfl
theorem te_reduced_5 (n : Nat) (a b c d : Int) (σ : S) (Q : Int → S → Prop) (E : S → Prop) : t_S_reduced (n + 1) 5 [a, b, c, d] σ Q E = t_holds_F (t_S_reduced n) a b c d σ Q E := rfl
section
variable {M : Mo} {R : Ru} {mo : Int} {σ0 : S} {a0 r0 : Int} {sx : Int → Int}
/-- a term comes, so deep -/
def SY (d : Int) (σ : S) : Prop := (0 ≤ d ∧ d ≤ 61) ∧ (0 ≤ gI σ 83 ∧ gI σ 83 ≤ 40 * d) ∧ (0 ≤ gI σ 126 ∧ gI σ 126 ≤ 2 * d + 2 * gI σ 120) ∧ (0 ≤ gI σ 113 ∧ gI σ 113 ≤ 64 * gI σ 119)
theorem SY.next {d : Int} {σ s : S} {st' : ST} (h : SY d σ) (k : okY M R mo sx σ0 σ st' s) : SY d s := by
  obtain ⟨s1, s2, s3, s4⟩ := h
  obtain ⟨⟨-, -, -, ⟨⟨c1, -, c3, -⟩, -⟩, -⟩, -, ⟨⟨y1, y2, y3⟩, -⟩, n, m⟩ := k
  exact ⟨s1, by rw [y1]; exact s2, by rw [y3, c1]; omega, by rw [y2, c3]; omega⟩
def TTX (M : Mo) (R : Ru) (mo : Int) (sx : Int → Int) (σ0 : S) (a0 r0 : Int) (G : Orc) (d : Int) : Prop :=
  ∀ (σ : S) (st : ST) (x : Int), TR M R mo sx σ0 st σ → WI M R a0 r0 0 0 st → lvT σ x → okT M (tT σ x) → KH M st (tT σ x) → SY d σ →
    G 0 [x, d] σ (fun r s => ∃ st', RE (Wr M R mo) d (tT σ x) st (.inr (tT s r, st')) ∧ lvT s r ∧ okY M R mo sx σ0 σ st' s) (fun s => RE (Wr M R mo) d (tT σ x) st (.inl (gI s 1006, gI s 120)) ∧ noY M σ s)
theorem KH_put {st : ST} {ρ : Env} {T : Tr} (hM : WM M) (oT : okT M T) (hρ : ∀ v : Int, 0 ≤ v → occ v T → okT M (ρ v) ∧ KH M st (ρ v)) : KH M (addA st (filA M ρ T)) (fil M ρ T) := by
  have le : leS st (addA st (filA M ρ T)) := leS_same rfl (fun u hu => List.mem_append_right _ hu)
  have nf := (fil_all hM T oT.1.1 oT.1 (fun v v0 ho => (hρ v v0 ho).1)).1
  intro q hq
  rcases fil_KH oT hM hρ q hq with z | (z | z) | z
  · exact Or.inl z
  · exact Or.inr (Or.inl (List.mem_append_left _ z))
  · exact Or.inr (Or.inl (le.2 q z))
  · exact Or.inr (Or.inr ⟨z.1.le le, z.2.le le (subs_isT nf.1 hq)⟩)
/-- filled and reduced; it is counted -/
theorem ts_reducedPart (c : cxT2 M R mo σ0 a0 r0) {G : Orc} (hG : FrO wT_reduced G) {d : Int} (hT : TTX M R mo sx σ0 a0 r0 G (d + 1)) {σ : S} {st : ST} {x e : Int} {T : Tr} {ρ : Env} (h : TR M R mo sx σ0 st σ) (w : WI M R a0 r0 0 (-1) (addA st (filA M ρ T))) (oT : okT M T) (lx : lvT σ x) (eT : tT σ x = T) (he0 : 0 ≤ e) (he1 : e + 60 ≤ 460000) (hb : ∀ v, 0 ≤ v → v < 60 → olT σ (gA σ 79 (e + v))) (hρ : eT0 σ e = ρ) (hv : ∀ v : Int, 0 ≤ v → occ v T → okT M (ρ v) ∧ KH M st (ρ v)) (sy : SY (d + 1) σ) :
    t_reducedPart_F G x e d σ (fun r s => ∃ st', bnd (putE M T ρ st) (fun u st2 o => RE (Wr M R mo) (d + 1) u st2 o) (.inr (tT s r, st')) ∧ lvT s r ∧ okY M R mo sx σ0 σ st' s) (fun s => bnd (putE M T ρ st) (fun u st2 o => RE (Wr M R mo) (d + 1) u st2 o) (.inl (gI s 1006, gI s 120)) ∧ noY M σ s) := by
  have hM := c.1.wm
  have rg := h.1.rg
  obtain ⟨s1, s2, s3, s4⟩ := id sy
  unfold t_reducedPart_F
  rw [w32_id (by omega) (by omega)]
  refine fm_t_putIn (put_stepT c h w oT lx eT he0 he1 hb hρ (fun v v0 ho => (hv v v0 ho).1) s2.1 (by omega)) (fun r t1 f1 q => ?_) (fun t1 f1 q => ⟨bnd_inl q.1, q.2⟩)
  obtain ⟨ep, l1, k1, -⟩ := q
  obtain ⟨ev, hs, -, -⟩ := putE_ok ep
  have nf := (fil_all hM T oT.1.1 oT.1 (fun v v0 ho => (hv v v0 ho).1)).1
  have ok1 : okT M (tT t1 r) := by rw [ev]; exact ⟨nf, hs⟩
  have kh1 : KH M (addA st (filA M ρ T)) (tT t1 r) := by rw [ev]; exact KH_put hM oT hv
  refine hG _ _ _ _ _ _ _ (hT t1 _ r k1.1 (w.weak (by omega) (by omega)) l1 ok1 kh1 (sy.next k1)) (fun r5 t5 f5 q => ?_) (fun t5 f5 q => ⟨bnd_inr ep q.1, q.2.pre rg.1 k1⟩)
  obtain ⟨st5, e5, l5, k5⟩ := q
  exact ⟨st5, bnd_inr ep e5, l5, okY.trans rg.1 k1 k5⟩
end

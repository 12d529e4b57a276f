/-! strategies: what is computed. A strategy is a tree: 0 idle, 1 fail, 2 all, 100 and on a rule's label, 4 or, 5 then, 6 star, 7 end, 8 not, 9 one -/
section
variable {M : Mo} {R : Ru} {mo : Int} {a0 r0 : Int} {wl : Int → Int → Bool}
def addTE (z : Tr) (l : List Tr) (st : ST) (o : Out (List Tr)) : Prop := (z ∈ l ∧ o = .inr (l, st)) ∨ (z ∉ l ∧ o = if l.length = 60 then .inl (2, stS st) else .inr (l ++ [z], st))
def addsE : List Tr → List Tr → ST → Out (List Tr) → Prop
  | [], l, st, o => o = .inr (l, st)
  | z :: zs, l, st, o => bnd (addTE z l st) (fun l1 st1 o => addsE zs l1 st1 o) o
abbrev AT : Type := Tr → ST → Out (List Tr) → Prop
def thenE (f : AT) : List Tr → List Tr → ST → Out (List Tr) → Prop
  | [], n, st, o => o = .inr (n, st)
  | x :: xs, n, st, o => bnd (f x st) (fun l st1 o => bnd (addsE l n st1) (fun n1 st2 o => thenE f xs n1 st2 o) o) o
def manyE (f : AT) : Nat → Nat → List Tr → List Nat → ST → Out (List Tr × List Nat) → Prop
  | 0, _, _, _, _, _ => False
  | n + 1, k, m, cs, st, o => match m[k]? with
    | none => o = .inr ((m, cs), st)
    | some x => bnd (f x st) (fun l st1 o => bnd (addsE l m st1) (fun m1 st2 o => manyE f n (k + 1) m1 (cs ++ [l.length]) st2 o) o) o
def stay (m : List Tr) (cs : List Nat) : List Tr := ((m.zip cs).filter (fun q => decide (q.2 = 0))).map Prod.fst
def wAll : Int → Bool := fun _ => true
def kid0 (Z : Tr) : Tr := (kids Z).headD .nil
def kid1 (Z : Tr) : Tr := ((kids Z).drop 1).headD .nil
def ansE (M : Mo) (R : Ru) (mo : Int) (wl : Int → Int → Bool) : Nat → Tr → AT
  | 0, _, _, _, _ => False
  | n + 1, Z, x, st, o =>
    (lab Z = 0 ∧ addTE x [] st o) ∨ (lab Z = 1 ∧ o = .inr ([], st)) ∨
    (lab Z = 2 ∧ bnd (stepsE M R mo wAll x st) (fun fl st1 o => o = .inr (fl.map Prod.fst, st1)) o) ∨
    (100 ≤ lab Z ∧ bnd (stepsE M R mo (wl (lab Z - 100)) x st) (fun fl st1 o => o = .inr (fl.map Prod.fst, st1)) o) ∨
    (lab Z = 4 ∧ bnd (ansE M R mo wl n (kid0 Z) x st) (fun l st1 o => bnd (ansE M R mo wl n (kid1 Z) x st1) (fun l2 st2 o => addsE l2 l st2 o) o) o) ∨
    (lab Z = 5 ∧ bnd (ansE M R mo wl n (kid0 Z) x st) (fun l st1 o => thenE (ansE M R mo wl n (kid1 Z)) l [] st1 o) o) ∨
    (lab Z = 6 ∧ bnd (manyE (ansE M R mo wl n (kid0 Z)) 62 0 [x] [] st) (fun q st1 o => o = .inr (q.1, st1)) o) ∨
    (lab Z = 7 ∧ bnd (manyE (ansE M R mo wl n (kid0 Z)) 62 0 [x] [] st) (fun q st1 o => o = .inr (stay q.1 q.2, st1)) o) ∨
    (lab Z = 8 ∧ bnd (ansE M R mo wl n (kid0 Z) x st) (fun l st1 o => o = .inr (if l = [] then [x] else [], st1)) o) ∨
    (lab Z = 9 ∧ bnd (ansE M R mo wl n (kid0 Z) x st) (fun l st1 o => o = .inr (l.take 1, st1)) o)
/-! it is a function -/
theorem addTE_det {z : Tr} {l : List Tr} {st : ST} : ∀ a b, addTE z l st a → addTE z l st b → a = b := by
  rintro a b (⟨h1, h2⟩ | ⟨h1, h2⟩) (⟨k1, k2⟩ | ⟨k1, k2⟩)
  · exact eq_det a b h2 k2
  · exact absurd h1 k1
  · exact absurd k1 h1
  · exact eq_det a b h2 k2
theorem addsE_det : ∀ zs l st a b, addsE zs l st a → addsE zs l st b → a = b := by
  intro zs
  induction zs with
  | nil => intro l st a b x y; exact eq_det a b x y
  | cons z zs ih => intro l st a b; exact bnd_det (fun a b => addTE_det a b) (fun l1 st1 b c => ih l1 st1 b c)
theorem thenE_det {f : AT} (h : ∀ x st a b, f x st a → f x st b → a = b) : ∀ xs n st a b, thenE f xs n st a → thenE f xs n st b → a = b := by
  intro xs
  induction xs with
  | nil => intro n st a b x y; exact eq_det a b x y
  | cons x xs ih => intro n st a b; exact bnd_det (h x st) (fun l st1 b c => bnd_det (addsE_det l n st1) (fun n1 st2 b c => ih n1 st2 b c))
theorem manyE_det {f : AT} (h : ∀ x st a b, f x st a → f x st b → a = b) : ∀ n k m cs st a b, manyE f n k m cs st a → manyE f n k m cs st b → a = b := by
  intro n
  induction n with
  | zero => intro k m cs st a b x; exact x.elim
  | succ n ih =>
    intro k m cs st a b
    simp only [manyE]
    split
    · exact fun x y => eq_det a b x y
    · exact bnd_det (h _ st) (fun l st1 b c => bnd_det (addsE_det l m st1) (fun m1 st2 b c => ih _ _ _ _ b c))
theorem ansE_det : ∀ n Z x st a b, ansE M R mo wl n Z x st a → ansE M R mo wl n Z x st b → a = b := by
  intro n
  induction n with
  | zero => intro Z x st a b k; exact k.elim
  | succ n ih =>
    intro Z x st a b ha hb
    have st2 : ∀ (w : Int → Bool) a b, bnd (stepsE M R mo w x st) (fun fl st1 o => o = .inr (fl.map Prod.fst, st1)) a → bnd (stepsE M R mo w x st) (fun fl st1 o => o = .inr (fl.map Prod.fst, st1)) b → a = b := fun w a b => bnd_det (stepsE_det w x st) (fun fl st1 b c => eq_det b c)
    rcases ha with ⟨l, ha⟩ | ⟨l, ha⟩ | ⟨l, ha⟩ | ⟨l, ha⟩ | ⟨l, ha⟩ | ⟨l, ha⟩ | ⟨l, ha⟩ | ⟨l, ha⟩ | ⟨l, ha⟩ | ⟨l, ha⟩ <;>
    rcases hb with ⟨k, hb⟩ | ⟨k, hb⟩ | ⟨k, hb⟩ | ⟨k, hb⟩ | ⟨k, hb⟩ | ⟨k, hb⟩ | ⟨k, hb⟩ | ⟨k, hb⟩ | ⟨k, hb⟩ | ⟨k, hb⟩ <;> (try (exfalso; omega))
    · exact addTE_det a b ha hb
    · exact eq_det a b ha hb
    · exact st2 _ a b ha hb
    · exact st2 _ a b ha hb
    · refine bnd_det ?_ ?_ ha hb
      · exact fun a b => ih _ _ _ a b
      · intro l st1 b c p q
        refine bnd_det ?_ ?_ p q
        · exact fun a b => ih _ _ _ a b
        · exact fun l2 st2 b c => addsE_det l2 l st2 b c
    · refine bnd_det ?_ ?_ ha hb
      · exact fun a b => ih _ _ _ a b
      · exact fun l st1 b c => thenE_det (ih _) l [] st1 b c
    · refine bnd_det ?_ ?_ ha hb
      · exact fun a b => manyE_det (ih _) _ _ _ _ _ a b
      · exact fun q st1 b c => eq_det b c
    · refine bnd_det ?_ ?_ ha hb
      · exact fun a b => manyE_det (ih _) _ _ _ _ _ a b
      · exact fun q st1 b c => eq_det b c
    · refine bnd_det ?_ ?_ ha hb
      · exact fun a b => ih _ _ _ a b
      · exact fun q st1 b c => eq_det b c
    · refine bnd_det ?_ ?_ ha hb
      · exact fun a b => ih _ _ _ a b
      · exact fun q st1 b c => eq_det b c
/-! what holds of it -/
def anK (M : Mo) (st : ST) (l : List Tr) : Prop := (l.length ≤ 60 ∧ l.Nodup) ∧ ∀ x ∈ l, DR M st x ∧ okT M x
theorem anK.le {st st' : ST} (h : leS st st') {l : List Tr} (k : anK M st l) : anK M st' l := ⟨k.1, fun q hq => ⟨(k.2 q hq).1.le h (k.2 q hq).2.1.1, (k.2 q hq).2⟩⟩
theorem anK_nil (st : ST) : anK M st [] := ⟨⟨by simp, List.nodup_nil⟩, fun q hq => by cases hq⟩
theorem anK_one {st : ST} {x : Tr} (h : DR M st x ∧ okT M x) : anK M st [x] := ⟨⟨by simp, List.nodup_cons.mpr ⟨List.not_mem_nil, List.nodup_nil⟩⟩, fun q hq => by rw [List.mem_singleton.mp hq]; exact h⟩
theorem flK.an {st : ST} {fl : FL} (h : flK M st fl) : anK M st (fl.map Prod.fst) := ⟨⟨by rw [List.length_map]; exact h.1.1, h.1.2⟩, fun x hx => by
  obtain ⟨q, hq, e⟩ := List.mem_map.mp hx
  rw [← e]
  exact h.2 q hq⟩
def wiA (M : Mo) (R : Ru) (a0 r0 : Int) (st st' : ST) (l : List Tr) : Prop := WI M R a0 r0 0 0 st' ∧ leS st st' ∧ anK M st' l
theorem addTE_an {z : Tr} {l l' : List Tr} {st st' : ST} (hz : DR M st z ∧ okT M z) (hl : anK M st l) (h : addTE z l st (.inr (l', st'))) : st' = st ∧ anK M st l' ∧ ∃ t, l' = l ++ t := by
  rcases h with ⟨-, h⟩ | ⟨hn, h⟩
  · simp only [Sum.inr.injEq, Prod.mk.injEq] at h
    obtain ⟨rfl, rfl⟩ := h
    exact ⟨rfl, hl, [], by rw [List.append_nil]⟩
  · split at h
    · cases h
    · simp only [Sum.inr.injEq, Prod.mk.injEq] at h
      obtain ⟨rfl, rfl⟩ := h
      refine ⟨rfl, ⟨⟨by rw [List.length_append]; have := hl.1.1; simp only [List.length_cons, List.length_nil]; omega, nodup_snoc hl.1.2 hn⟩, fun q hq => ?_⟩, [z], rfl⟩
      rcases List.mem_append.mp hq with e | e
      · exact hl.2 q e
      · rw [List.mem_singleton.mp e]; exact hz
theorem addsE_an : ∀ zs l st l' st', (∀ z ∈ zs, DR M st z ∧ okT M z) → anK M st l → addsE zs l st (.inr (l', st')) → st' = st ∧ anK M st l' ∧ ∃ t, l' = l ++ t := by
  intro zs
  induction zs with
  | nil =>
    intro l st l' st' _ hl h
    simp only [addsE, Sum.inr.injEq, Prod.mk.injEq] at h
    obtain ⟨rfl, rfl⟩ := h
    exact ⟨rfl, hl, [], by rw [List.append_nil]⟩
  | cons z zs ih =>
    intro l st l' st' hz hl h
    obtain ⟨l1, st1, p1, h2⟩ := bnd_ok h
    obtain ⟨es, k1, t1, e1⟩ := addTE_an (hz z (List.mem_cons_self ..)) hl p1
    rw [es] at h2
    obtain ⟨rfl, k2, t2, e2⟩ := ih l1 _ l' st' (fun q hq => hz q (List.mem_cons_of_mem _ hq)) k1 h2
    exact ⟨rfl, k2, t1 ++ t2, by rw [e2, e1, List.append_assoc]⟩
/-- adding what is new, with room -/
theorem addsE_new {st : ST} : ∀ (zs l : List Tr), (l ++ zs).Nodup → (l ++ zs).length ≤ 60 → addsE zs l st (.inr (l ++ zs, st)) := by
  intro zs
  induction zs with
  | nil => intro l _ _; rw [List.append_nil]; rfl
  | cons z zs ih =>
    intro l hn hl
    have e : l ++ z :: zs = (l ++ [z]) ++ zs := by rw [List.append_assoc]; rfl
    rw [e] at hn hl ⊢
    refine bnd_inr (a := l ++ [z]) (st := st) (Or.inr ⟨?_, ?_⟩) (ih _ hn hl)
    · intro hz
      rw [List.nodup_append] at hn
      have := hn.1
      rw [List.nodup_append] at this
      exact this.2.2 z hz z (List.mem_cons_self ..) rfl
    · rw [if_neg]
      rw [List.length_append, List.length_append] at hl
      simp only [List.length_cons, List.length_nil] at hl
      omega
def wiA_f (M : Mo) (R : Ru) (a0 r0 : Int) (f : AT) : Prop := ∀ x st l st', okT M x → DR M st x → WI M R a0 r0 0 0 st → f x st (.inr (l, st')) → wiA M R a0 r0 st st' l
theorem thenE_wi {f : AT} (hf : wiA_f M R a0 r0 f) : ∀ xs n st l st', (∀ x ∈ xs, DR M st x ∧ okT M x) → anK M st n → WI M R a0 r0 0 0 st → thenE f xs n st (.inr (l, st')) → wiA M R a0 r0 st st' l := by
  intro xs
  induction xs with
  | nil =>
    intro n st l st' _ hn hw h
    simp only [thenE, Sum.inr.injEq, Prod.mk.injEq] at h
    obtain ⟨rfl, rfl⟩ := h
    exact ⟨hw, leS.rf _, hn⟩
  | cons x xs ih =>
    intro n st l st' hx hn hw h
    obtain ⟨l1, st1, p1, h3⟩ := bnd_ok h
    obtain ⟨n1, st2, p2, h2⟩ := bnd_ok h3
    have x0 := hx x (List.mem_cons_self ..)
    obtain ⟨w1, le1, k1⟩ := hf x st l1 st1 x0.2 x0.1 hw p1
    obtain ⟨es, k2, -⟩ := addsE_an l1 n st1 n1 st2 k1.2 (hn.le le1) p2
    rw [es] at h2
    obtain ⟨w3, le3, k3⟩ := ih n1 _ l st' (fun q hq => ⟨(hx q (List.mem_cons_of_mem _ hq)).1.le le1 (hx q (List.mem_cons_of_mem _ hq)).2.1.1, (hx q (List.mem_cons_of_mem _ hq)).2⟩) k2 w1 h2
    exact ⟨w3, le1.trans le3, k3⟩
theorem manyE_wi {f : AT} (hf : wiA_f M R a0 r0 f) : ∀ n k m cs st q st', anK M st m → WI M R a0 r0 0 0 st → manyE f n k m cs st (.inr (q, st')) → wiA M R a0 r0 st st' q.1 := by
  intro n
  induction n with
  | zero => intro k m cs st q st' _ _ h; exact h.elim
  | succ n ih =>
    intro k m cs st q st' hm hw h
    simp only [manyE] at h
    split at h
    · simp only [Sum.inr.injEq, Prod.mk.injEq] at h
      obtain ⟨rfl, rfl⟩ := h
      exact ⟨hw, leS.rf _, hm⟩
    · rename_i x hx
      obtain ⟨l1, st1, p1, h3⟩ := bnd_ok h
      obtain ⟨m1, st2, p2, h2⟩ := bnd_ok h3
      have x0 := hm.2 x (List.mem_of_getElem? hx)
      obtain ⟨w1, le1, k1⟩ := hf x st l1 st1 x0.2 x0.1 hw p1
      obtain ⟨es, k2, -⟩ := addsE_an l1 m st1 m1 st2 k1.2 (hm.le le1) p2
      rw [es] at h2
      obtain ⟨w3, le3, k3⟩ := ih _ _ _ _ _ _ k2 w1 h2
      exact ⟨w3, le1.trans le3, k3⟩
theorem zip_fst (m : List Tr) : ∀ cs : List Nat, (m.zip cs).map Prod.fst = m.take cs.length := by
  induction m with
  | nil => intro cs; simp
  | cons a m ih =>
    intro cs
    cases cs with
    | nil => simp
    | cons c cs => simp only [List.zip_cons_cons, List.map_cons, ih, List.length_cons, List.take_succ_cons]
theorem stay_sub (m : List Tr) (cs : List Nat) : (stay m cs).Sublist m := by
  unfold stay
  have h1 : ((m.zip cs).filter (fun q => decide (q.2 = 0))).Sublist (m.zip cs) := List.filter_sublist
  have h2 := h1.map Prod.fst
  refine h2.trans ?_
  rw [zip_fst]
  exact List.take_sublist _ _
theorem anK.sub {st : ST} {l l' : List Tr} (h : anK M st l) (k : l'.Sublist l) : anK M st l' := ⟨⟨Nat.le_trans k.length_le h.1.1, h.1.2.sublist k⟩, fun x hx => h.2 x (k.subset hx)⟩
theorem ansE_wi (hM : WM M) (hR : ∀ s, stX M s → RuOK M R s) : ∀ n Z, wiA_f M R a0 r0 (ansE M R mo wl n Z) := by
  intro n
  induction n with
  | zero => intro Z x st l st' _ _ _ h; exact h.elim
  | succ n ih =>
    intro Z x st l st' ox dx hw h
    have st2 : ∀ (w : Int → Bool), bnd (stepsE M R mo w x st) (fun fl st1 o => o = .inr (fl.map Prod.fst, st1)) (.inr (l, st')) → wiA M R a0 r0 st st' l := by
      intro w h
      obtain ⟨fl, st1, p1, h⟩ := bnd_ok h
      simp only [Sum.inr.injEq, Prod.mk.injEq] at h
      obtain ⟨rfl, rfl⟩ := h
      obtain ⟨w1, le1, k1⟩ := stepsE_wi hM hR ox dx hw p1
      exact ⟨w1, le1, k1.an⟩
    rcases h with ⟨l, h⟩ | ⟨l, h⟩ | ⟨l, h⟩ | ⟨l, h⟩ | ⟨l, h⟩ | ⟨l, h⟩ | ⟨l, h⟩ | ⟨l, h⟩ | ⟨l, h⟩ | ⟨l, h⟩
    · obtain ⟨rfl, k, -⟩ := addTE_an ⟨dx, ox⟩ (anK_nil st) h
      exact ⟨hw, leS.rf _, k⟩
    · simp only [Sum.inr.injEq, Prod.mk.injEq] at h
      obtain ⟨rfl, rfl⟩ := h
      exact ⟨hw, leS.rf _, anK_nil _⟩
    · exact st2 _ h
    · exact st2 _ h
    · obtain ⟨l1, st1, p1, h⟩ := bnd_ok h
      obtain ⟨l2, st2, p2, h⟩ := bnd_ok h
      obtain ⟨w1, le1, k1⟩ := ih _ x st l1 st1 ox dx hw p1
      obtain ⟨w2, le2, k2⟩ := ih _ x st1 l2 st2 ox (dx.le le1 ox.1.1) w1 p2
      obtain ⟨rfl, k3, -⟩ := addsE_an _ _ _ _ _ k2.2 (k1.le le2) h
      exact ⟨w2, le1.trans le2, k3⟩
    · obtain ⟨l1, st1, p1, h⟩ := bnd_ok h
      obtain ⟨w1, le1, k1⟩ := ih _ x st l1 st1 ox dx hw p1
      obtain ⟨w2, le2, k2⟩ := thenE_wi (ih _) l1 [] st1 _ _ k1.2 (anK_nil _) w1 h
      exact ⟨w2, le1.trans le2, k2⟩
    · obtain ⟨q, st1, p1, h⟩ := bnd_ok h
      simp only [Sum.inr.injEq, Prod.mk.injEq] at h
      obtain ⟨rfl, rfl⟩ := h
      exact manyE_wi (ih _) _ _ _ _ _ _ _ (anK_one ⟨dx, ox⟩) hw p1
    · obtain ⟨q, st1, p1, h⟩ := bnd_ok h
      simp only [Sum.inr.injEq, Prod.mk.injEq] at h
      obtain ⟨rfl, rfl⟩ := h
      obtain ⟨w1, le1, k1⟩ := manyE_wi (ih _) _ _ _ _ _ _ _ (anK_one ⟨dx, ox⟩) hw p1
      exact ⟨w1, le1, k1.sub (stay_sub _ _)⟩
    · obtain ⟨l1, st1, p1, h⟩ := bnd_ok h
      simp only [Sum.inr.injEq, Prod.mk.injEq] at h
      obtain ⟨rfl, rfl⟩ := h
      obtain ⟨w1, le1, k1⟩ := ih _ x st l1 _ ox dx hw p1
      refine ⟨w1, le1, ?_⟩
      split
      · exact anK_one ⟨dx.le le1 ox.1.1, ox⟩
      · exact anK_nil _
    · obtain ⟨l1, st1, p1, h⟩ := bnd_ok h
      simp only [Sum.inr.injEq, Prod.mk.injEq] at h
      obtain ⟨rfl, rfl⟩ := h
      obtain ⟨w1, le1, k1⟩ := ih _ x st l1 _ ox dx hw p1
      exact ⟨w1, le1, k1.sub (List.take_sublist _ _)⟩
end

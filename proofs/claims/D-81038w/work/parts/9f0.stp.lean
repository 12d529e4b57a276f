/-! steps by rules: what is computed -/
abbrev FL : Type := List (Tr × Int)
/-- a place in a term: parents with places, from the inmost one on -/
abbrev Pth : Type := List (Tr × Nat)
section
variable {M : Mo} {R : Ru} {mo : Int} {G G0 G1 H0 H1 : RT}
def eachE (f : Env → FL → ST → Out FL → Prop) : List Env → FL → ST → Out FL → Prop
  | [], fl, st, o => o = .inr (fl, st)
  | ρ :: L, fl, st, o => bnd (f ρ fl st) (fun fl1 st1 o => eachE f L fl1 st1 o) o
def plug (M : Mo) : Pth → Tr → Tr
  | [], x => x
  | (p, k) :: π, x => plug M π (mk M (lab p) ((kids p).set k x))
/-- a row is made, none of its terms alone -/
def realR (M : Mo) (o : Int) (ts : List Tr) : Bool := decide (mUn M o = -2) || decide (2 ≤ ((fltR M o ts).filter fun t => decide (lab t ≠ mUn M o)).length)
def plugA (M : Mo) : Pth → Tr → List Tr
  | [], _ => []
  | (p, k) :: π, x => plugA M π (mk M (lab p) ((kids p).set k x)) ++ (if realR M (lab p) ((kids p).set k x) = true then [mk M (lab p) ((kids p).set k x)] else [])
def plugE (M : Mo) (π : Pth) (x : Tr) (st : ST) (o : Out Tr) : Prop := o = if 40 < trS (plug M π x) then .inl (6, stS st) else .inr (plug M π x, addA st (plugA M π x))
def addE (z : Tr) (r : Int) (fl : FL) (st : ST) (o : Out FL) : Prop := (z ∈ fl.map Prod.fst ∧ o = .inr (fl, st)) ∨ (z ∉ fl.map Prod.fst ∧ o = if fl.length = 60 then .inl (2, stS st) else .inr (fl ++ [(z, r)], st))
def hitE (M : Mo) (G0 : RT) (π : Pth) (r : Int) (y : Tr) (fl : FL) (st : ST) (o : Out FL) : Prop :=
  bnd (plugE M π y st) (fun x st1 o => bnd (cntE (trS x) st1) (fun _ st2 o => bnd (G0 x st2) (fun z st3 o => bnd (stepE st3) (fun _ st4 o => addE z r fl st4 o) o) o) o) o
def endE (M : Mo) (R : Ru) (G0 : RT) (s : Int) (π : Pth) (ρm ρ : Env) (fl : FL) (st : ST) (o : Out FL) : Prop :=
  bnd (cntE (trS (ruR R s)) st) (fun _ st1 o => bnd (putE M (ruR R s) ρ st1) (fun v st2 o => bnd (besE M (lab (ruL R s)) (ρm 60) v (ρm 61) st2) (fun y st3 o => hitE M G0 π (s - 40) y fl st3 o) o) o) o
def waysE (M : Mo) (R : Ru) (mo : Int) (G0 G1 : RT) (s : Int) (π : Pth) (ρm : Env) : Nat → Int → Env → FL → ST → Out FL → Prop
  | 0, _, ρ, fl, st, o => endE M R G0 s π ρm ρ fl st o
  | n + 1, c, ρ, fl, st, o => (mCs M (6 * s + c) = 1 ∧ bnd (mcE M R mo G1 (6 * s + c) ρ st) (fun L st1 o => eachE (fun ρ1 fl st o => waysE M R mo G0 G1 s π ρm n (c + 1) (cut ρ1) fl st o) L fl st1 o) o) ∨
    (mCs M (6 * s + c) ≠ 1 ∧ bnd (isTrueE M R G1 (6 * s + c) ρ st) (fun b st1 o => (b = true ∧ waysE M R mo G0 G1 s π ρm n (c + 1) ρ fl st1 o) ∨ (b = false ∧ o = .inr (fl, st1))) o)
def ruleE (M : Mo) (R : Ru) (mo : Int) (G0 G1 : RT) (s : Int) (π : Pth) (x : Tr) (fl : FL) (st : ST) (o : Out FL) : Prop :=
  bnd (mtE M mo (ruL R s) x true nilE st) (fun L st1 o => eachE (fun ρm fl st o => waysE M R mo G0 G1 s π ρm (mCn M s).toNat 0 (cut ρm) fl st o) L fl st1 o) o
def rulesE (M : Mo) (R : Ru) (mo : Int) (G0 G1 : RT) (π : Pth) (x : Tr) : List Int → FL → ST → Out FL → Prop
  | [], fl, st, o => o = .inr (fl, st)
  | s :: ss, fl, st, o => bnd (ruleE M R mo G0 G1 s π x fl st) (fun fl1 st1 o => rulesE M R mo G0 G1 π x ss fl1 st1 o) o
def kidsE (f : Pth → Tr → FL → ST → Out FL → Prop) (p : Tr) (π : Pth) : List Tr → Nat → FL → ST → Out FL → Prop
  | [], _, fl, st, o => o = .inr (fl, st)
  | t :: ts, k, fl, st, o => bnd (f ((p, k) :: π) t fl st) (fun fl1 st1 o => kidsE f p π ts (k + 1) fl1 st1 o) o
def atE (M : Mo) (R : Ru) (mo : Int) (G0 G1 : RT) (ss : List Int) : Nat → Pth → Tr → FL → ST → Out FL → Prop
  | 0, _, _, _, _, _ => False
  | n + 1, π, x, fl, st, o => bnd (rulesE M R mo G0 G1 π x ss fl st) (fun fl1 st1 o => kidsE (atE M R mo G0 G1 ss n) x π (kids x) 0 fl1 st1 o) o
/-- slots of rules that are wanted -/
def rulL (M : Mo) (w : Int → Bool) : List Int := ((List.range (mRls M).toNat).map (fun (n : Nat) => 40 + (n : Int))).filter w
/-- all steps of a term -/
def stepsE (M : Mo) (R : Ru) (mo : Int) (w : Int → Bool) (x : Tr) (st : ST) (o : Out FL) : Prop := atE M R mo (RE (Wr M R mo) 0) (RE (Wr M R mo) 1) (rulL M w) (trS x) [] x [] st o
/-! it is a function -/
theorem eachE_det {f g : Env → FL → ST → Out FL → Prop} (h : ∀ ρ fl st a b, f ρ fl st a → g ρ fl st b → a = b) : ∀ L fl st a b, eachE f L fl st a → eachE g L fl st b → a = b := by
  intro L
  induction L with
  | nil => intro fl st a b x y; exact eq_det a b x y
  | cons ρ L ih => intro fl st a b; exact bnd_det (h ρ fl st) (fun fl1 st1 b c => ih fl1 st1 b c)
theorem addE_det {z : Tr} {r : Int} {fl : FL} {st : ST} : ∀ a b, addE z r fl st a → addE z r fl st b → a = b := by
  rintro a b (⟨h1, h2⟩ | ⟨h1, h2⟩) (⟨k1, k2⟩ | ⟨k1, k2⟩)
  · exact eq_det a b h2 k2
  · exact absurd h1 k1
  · exact absurd k1 h1
  · exact eq_det a b h2 k2
theorem hitE_det (h : ∀ t st a b, G0 t st a → H0 t st b → a = b) (π : Pth) (r : Int) (y : Tr) (fl : FL) (st : ST) : ∀ a b, hitE M G0 π r y fl st a → hitE M H0 π r y fl st b → a = b := by
  intro a b
  exact bnd_det (fun a b => eq_det a b) (fun x st1 b c => bnd_det (fun a b => eq_det a b) (fun _ st2 b c => bnd_det (h x st2) (fun z st3 b c => bnd_det (fun a b => eq_det a b) (fun _ st4 b c => addE_det b c))))
theorem endE_det (h : ∀ t st a b, G0 t st a → H0 t st b → a = b) (s : Int) (π : Pth) (ρm ρ : Env) (fl : FL) (st : ST) : ∀ a b, endE M R G0 s π ρm ρ fl st a → endE M R H0 s π ρm ρ fl st b → a = b := by
  intro a b
  refine bnd_det (fun a b => eq_det a b) (fun _ st1 b c => bnd_det (fun a b => eq_det a b) (fun v st2 b c => bnd_det ?_ (fun y st3 b c => hitE_det h π (s - 40) y fl st3 b c)))
  rintro a b (⟨h1, h2, h3⟩ | ⟨h1, h3⟩) (⟨k1, k2, k3⟩ | ⟨k1, k3⟩)
  · exact eq_det a b h3 k3
  · exact absurd ⟨h1, h2⟩ k1
  · exact absurd ⟨k1, k2⟩ h1
  · exact eq_det a b h3 k3
theorem waysE_det (h0 : ∀ t st a b, G0 t st a → H0 t st b → a = b) (h1 : ∀ t st a b, G1 t st a → H1 t st b → a = b) (s : Int) (π : Pth) (ρm : Env) : ∀ n c ρ fl st a b, waysE M R mo G0 G1 s π ρm n c ρ fl st a → waysE M R mo H0 H1 s π ρm n c ρ fl st b → a = b := by
  intro n
  induction n with
  | zero => intro c ρ fl st a b; exact endE_det h0 s π ρm ρ fl st a b
  | succ n ih =>
    rintro c ρ fl st a b (⟨x1, x2⟩ | ⟨x1, x2⟩) (⟨y1, y2⟩ | ⟨y1, y2⟩)
    · exact bnd_det (mcE_det h1 _ _ _) (fun L st1 b c' => eachE_det (fun ρ1 fl st a b => ih (c + 1) (cut ρ1) fl st a b) L fl st1 b c') x2 y2
    · exact absurd x1 y1
    · exact absurd y1 x1
    · refine bnd_det (isTrueE_det h1 _ _ _) (fun v st1 b c' => ?_) x2 y2
      rintro (⟨p1, p2⟩ | ⟨p1, p2⟩) (⟨q1, q2⟩ | ⟨q1, q2⟩)
      · exact ih (c + 1) ρ fl st1 b c' p2 q2
      · rw [p1] at q1; cases q1
      · rw [p1] at q1; cases q1
      · exact eq_det b c' p2 q2
theorem ruleE_det (h0 : ∀ t st a b, G0 t st a → H0 t st b → a = b) (h1 : ∀ t st a b, G1 t st a → H1 t st b → a = b) (s : Int) (π : Pth) (x : Tr) (fl : FL) (st : ST) : ∀ a b, ruleE M R mo G0 G1 s π x fl st a → ruleE M R mo H0 H1 s π x fl st b → a = b := by
  intro a b
  exact bnd_det (fun a b => eq_det a b) (fun L st1 b c => eachE_det (fun ρm fl st a b => waysE_det h0 h1 s π ρm _ 0 (cut ρm) fl st a b) L fl st1 b c)
theorem rulesE_det (h0 : ∀ t st a b, G0 t st a → H0 t st b → a = b) (h1 : ∀ t st a b, G1 t st a → H1 t st b → a = b) (π : Pth) (x : Tr) : ∀ ss fl st a b, rulesE M R mo G0 G1 π x ss fl st a → rulesE M R mo H0 H1 π x ss fl st b → a = b := by
  intro ss
  induction ss with
  | nil => intro fl st a b x y; exact eq_det a b x y
  | cons s ss ih => intro fl st a b; exact bnd_det (ruleE_det h0 h1 s π x fl st) (fun fl1 st1 b c => ih fl1 st1 b c)
theorem kidsE_det {f g : Pth → Tr → FL → ST → Out FL → Prop} (h : ∀ π t fl st a b, f π t fl st a → g π t fl st b → a = b) (p : Tr) (π : Pth) : ∀ ts k fl st a b, kidsE f p π ts k fl st a → kidsE g p π ts k fl st b → a = b := by
  intro ts
  induction ts with
  | nil => intro k fl st a b x y; exact eq_det a b x y
  | cons t ts ih => intro k fl st a b; exact bnd_det (h _ t fl st) (fun fl1 st1 b c => ih (k + 1) fl1 st1 b c)
theorem atE_det (h0 : ∀ t st a b, G0 t st a → H0 t st b → a = b) (h1 : ∀ t st a b, G1 t st a → H1 t st b → a = b) (ss : List Int) : ∀ n π x fl st a b, atE M R mo G0 G1 ss n π x fl st a → atE M R mo H0 H1 ss n π x fl st b → a = b := by
  intro n
  induction n with
  | zero => intro π x fl st a b k; exact k.elim
  | succ n ih => intro π x fl st a b; exact bnd_det (rulesE_det h0 h1 π x ss fl st) (fun fl1 st1 b c => kidsE_det ih x π (kids x) 0 fl1 st1 b c)
theorem REw_det (d : Int) : ∀ t st a b, RE (Wr M R mo) d t st a → RE (Wr M R mo) d t st b → a = b := fun t st a b h k => RE_det (W := Wr M R mo) (V := Wr M R mo) (fun _ _ _ _ _ _ h k => Wr_det h k) d t st a b h k
theorem stepsE_det (w : Int → Bool) (x : Tr) (st : ST) : ∀ a b, stepsE M R mo w x st a → stepsE M R mo w x st b → a = b := fun a b => atE_det (REw_det 0) (REw_det 1) _ _ _ _ _ _ a b
/-! a place in a term -/
def pthC : Pth → Tr → Tr → Prop
  | [], x, r => x = r
  | (p, k) :: π, x, r => (kids p)[k]? = some x ∧ pthC π p r
theorem pthC_sub {r : Tr} (hr : isT r) : ∀ (π : Pth) (x : Tr), pthC π x r → x ∈ subs r ∧ π.length + trS x ≤ trS r := by
  intro π
  induction π with
  | nil =>
    intro x h
    rw [show x = r from h]
    exact ⟨subs_self hr, by rw [List.length_nil]; omega⟩
  | cons a π ih =>
    obtain ⟨p, k⟩ := a
    rintro x ⟨h1, h2⟩
    obtain ⟨a1, a2⟩ := ih p h2
    have ip := subs_isT hr a1
    have hx := List.mem_of_getElem? h1
    have e : trS x < trS p := by
      obtain ⟨c, ts, rfl, -, -⟩ := isT_ex ip
      rw [kids_N] at hx
      exact trS_kid hx
    exact ⟨subs_trans hr a1 (subs_down ip hx (subs_self (isT_kid ip hx))), by rw [List.length_cons]; omega⟩
theorem set_sum (f : Tr → Nat) : ∀ (l : List Tr) (k : Nat) (p x : Tr), l[k]? = some p → ((l.set k x).map f).sum + f p = (l.map f).sum + f x := by
  intro l
  induction l with
  | nil => intro k p x h; simp at h
  | cons a l ih =>
    intro k p x h
    cases k with
    | zero =>
      simp only [List.getElem?_cons_zero, Option.some.injEq] at h
      subst h
      simp only [List.set_cons_zero, List.map_cons, List.sum_cons]
      omega
    | succ k =>
      simp only [List.getElem?_cons_succ] at h
      have := ih k p x h
      simp only [List.set_cons_succ, List.map_cons, List.sum_cons]
      omega
theorem set_mem {l : List Tr} {k : Nat} {x t : Tr} (h : t ∈ l.set k x) : t = x ∨ t ∈ l := (List.mem_or_eq_of_mem_set h).symm
theorem set_ok {p : Tr} {k : Nat} {y : Tr} (hp : NF M p) (h0 : 0 ≤ lab p) (hy : NF M y) : mkOk M (lab p) ((kids p).set k y) :=
  mkOk_row hp h0 (List.length_set ..) (fun u hu => by
    rcases set_mem hu with e | e
    · rw [e]; exact hy
    · exact hp.kid e)
theorem lab_par {p x : Tr} {k : Nat} (hp : NF M p) (h : (kids p)[k]? = some x) : 0 ≤ lab p ∧ kids p ≠ [] := by
  have hx := List.mem_of_getElem? h
  have hk : kids p ≠ [] := fun e => by rw [e] at hx; cases hx
  refine ⟨?_, hk⟩
  rcases Classical.em (lab p < 0) with z | z
  · exact absurd (kids_var hp z) hk
  · omega
theorem plug_ok (hM : WM M) {r : Tr} (hr : okT M r) : ∀ (π : Pth) (x y : Tr), pthC π x r → NF M y → NF M (plug M π y) ∧ trS y ≤ trS (plug M π y) ∧ trS (plug M π y) + trS x ≤ trS y + trS r := by
  intro π
  induction π with
  | nil =>
    intro x y h hy
    rw [show x = r from h]
    exact ⟨hy, Nat.le_refl _, Nat.le_refl _⟩
  | cons a π ih =>
    obtain ⟨p, k⟩ := a
    rintro x y ⟨h1, h2⟩ hy
    have op := subs_NF hr (pthC_sub hr.1.1 π p h2).1
    have l0 := (lab_par op.1 h1).1
    have ok := set_ok (k := k) op.1 l0 hy
    obtain ⟨i1, i2, i3⟩ := ih p _ h2 (NF_mk hM ok)
    have lk : k < (kids p).length := (List.getElem?_eq_some_iff.mp h1).1
    have mem : y ∈ (kids p).set k y := List.mem_of_getElem? (i := k) (by rw [List.getElem?_set_self lk])
    have g := mk_ge hM ok mem
    have le := mk_le (M := M) (o := lab p) (ts := (kids p).set k y) (fun t ht => (ok.2.2.2 t ht).1)
    have ss := set_sum trS (kids p) k x y h1
    have ep := trS_eta op.1
    simp only [plug]
    exact ⟨i1, Nat.le_trans g i2, by omega⟩
/-- what making a row makes -/
theorem mk_real {o : Int} {ts : List Tr} (h : realR M o ts = true) : ∃ row, mk M o ts = mk3 M o row ∧ (∀ u ∈ row, u ∈ fltR M o ts) ∧ ((mUn M o = -2 ∧ row = fltR M o ts) ∨ (mUn M o ≠ -2 ∧ row = (fltR M o ts).filter (fun t => decide (lab t ≠ mUn M o)) ∧ 2 ≤ row.length)) := by
  rw [mk_eq]
  unfold mk2
  by_cases z : mUn M o = -2
  · rw [if_pos z]
    exact ⟨_, rfl, fun u hu => hu, Or.inl ⟨z, rfl⟩⟩
  · rw [if_neg z]
    unfold realR at h
    simp only [z, decide_false, Bool.false_or, decide_eq_true_eq] at h
    obtain ⟨F, hF⟩ : ∃ F, F = (fltR M o ts).filter (fun t => decide (lab t ≠ mUn M o)) := ⟨_, rfl⟩
    have sub : ∀ u ∈ F, u ∈ fltR M o ts := fun u hu => by rw [hF] at hu; exact (List.mem_filter.mp hu).1
    rw [← hF] at h ⊢
    match F, h, sub, hF with
    | [], h, _, _ => simp at h
    | [_], h, _, _ => simp at h
    | a :: b :: r, h, sub, hF => exact ⟨_, rfl, sub, Or.inr ⟨z, rfl, h⟩⟩
theorem mk_notreal {o : Int} {ts : List Tr} (h : realR M o ts = false) : mUn M o ≠ -2 ∧ (mk M o ts = unT M o ∨ mk M o ts ∈ fltR M o ts) := by
  unfold realR at h
  simp only [Bool.or_eq_false_iff, decide_eq_false_iff_not] at h
  obtain ⟨z, h⟩ := h
  rw [mk_eq]
  unfold mk2
  rw [if_neg z]
  refine ⟨z, ?_⟩
  obtain ⟨F, hF⟩ : ∃ F, F = (fltR M o ts).filter (fun t => decide (lab t ≠ mUn M o)) := ⟨_, rfl⟩
  have sub : ∀ u ∈ F, u ∈ fltR M o ts := fun u hu => by rw [hF] at hu; exact (List.mem_filter.mp hu).1
  rw [← hF] at h ⊢
  match F, h, sub with
  | [], _, _ => exact Or.inl rfl
  | [t], _, sub => exact Or.inr (sub t (List.mem_cons_self ..))
  | a :: b :: r, h, _ => exact absurd (by simp) h
theorem mk3_kids (o : Int) (row : List Tr) : lab (mk3 M o row) = o ∧ (kids (mk3 M o row)).length = row.length := by
  unfold mk3
  refine ⟨lab_N _ _, ?_⟩
  rw [kids_N]
  split
  · exact isort_len _
  · rfl
theorem rowsN_one (x : Tr) : rowsN [x] = if 2 ≤ (kids x).length then 1 else 0 := by
  unfold rowsN
  rw [List.filter_cons]
  by_cases z : 2 ≤ (kids x).length
  · rw [if_pos (by simpa using z), if_pos z]
    rfl
  · rw [if_neg (by simpa using z), if_neg z]
    rfl
/-- how many are made, by what comes of them -/
theorem plugA_cnt (hM : WM M) {r : Tr} (hr : okT M r) : ∀ (π : Pth) (p x : Tr) (A : List Tr), pthC π p r → NF M x → (A = [] ∨ (kids x ≠ [] ∧ lab x = lab p ∧ 2 * rowsN A + 1 ≤ trS x ∧ A.length + 1 ≤ trS x)) →
    (plugA M π x ++ A = [] ∨ (2 * rowsN (plugA M π x ++ A) + 1 ≤ trS (plug M π x) ∧ (plugA M π x ++ A).length + 1 ≤ trS (plug M π x))) := by
  intro π
  induction π with
  | nil =>
    intro p x A _ _ h
    rcases h with h | ⟨-, -, h1, h2⟩
    · exact Or.inl (by rw [h]; rfl)
    · exact Or.inr ⟨h1, h2⟩
  | cons a π ih =>
    obtain ⟨q, k⟩ := a
    rintro p x A ⟨h1, h2⟩ hx h
    have oq := subs_NF hr (pthC_sub hr.1.1 π q h2).1
    obtain ⟨l0, kn⟩ := lab_par oq.1 h1
    have ok := set_ok (k := k) oq.1 l0 hx
    have nx := NF_mk hM ok
    have len : ((kids q).set k x).length = (kids q).length := List.length_set ..
    have kpos : 1 ≤ (kids q).length := List.length_pos_iff.mpr kn
    have lq := oq.1.op l0
    have op := hM.op l0 lq
    simp only [plug, plugA]
    rw [List.append_assoc]
    refine ih q _ _ h2 nx ?_
    have nfq := oq.1
    obtain ⟨c, ts, rfl, hc, hts⟩ := nfq.ex
    simp only [kids_N, lab_N] at h1 l0 kn ok nx len kpos lq op ⊢
    have okc := hc.resolve_left (by omega)
    rcases h with rfl | ⟨kx, lx, h3, h4⟩
    · by_cases z : realR M c (ts.set k x) = true
      · rw [if_pos z]
        obtain ⟨row, e, sub, hrow⟩ := mk_real z
        rw [e]
        obtain ⟨e1, e2⟩ := mk3_kids (M := M) c row
        have s := mk3_S M c row
        have fo := fltR_ok ok
        have rT : ∀ u ∈ row, isT u := fun u hu => (fo.1 u (sub u hu)).1
        have ls := trS_len rT
        have l1 : 1 ≤ row.length := by
          rcases hrow with ⟨-, e⟩ | ⟨-, -, e⟩
          · rw [e]
            have := fo.2
            split at this
            · omega
            · have o2 := ok.2.2.1
              rename_i na
              rw [if_neg na] at o2
              omega
          · omega
        refine Or.inr ⟨?_, e1, ?_, ?_⟩
        · intro e; rw [e] at e2; simp at e2; omega
        · rw [List.append_nil, rowsN_one, e2, s]
          split <;> omega
        · rw [List.append_nil, s]
          simp only [List.length_cons, List.length_nil]
          omega
      · rw [if_neg z]
        exact Or.inl rfl
    · have pm := List.mem_of_getElem? h1
      have nofl : mAs M c ≠ 0 → ∀ t ∈ ts.set k x, lab t ≠ c := by
        intro ha t ht
        have := okc.2.2.1
        rw [if_pos ha] at this
        rcases set_mem ht with e | e
        · rw [e, lx]; exact this.2 p pm
        · exact this.2 t e
      have ef : fltR M c (ts.set k x) = ts.set k x := by
        unfold fltR
        by_cases ha : mAs M c ≠ 0
        · rw [if_pos ha]
          exact flat_id (nofl ha)
        · rw [if_neg ha]
      have nun : mUn M c ≠ -2 → ∀ t ∈ ts.set k x, lab t ≠ mUn M c := by
        intro hu t ht
        rcases set_mem ht with e | e
        · rw [e, lx]; exact okc.2.2.2.1 hu p pm
        · exact okc.2.2.2.1 hu t e
      have fid : mUn M c ≠ -2 → (ts.set k x).filter (fun t => decide (lab t ≠ mUn M c)) = ts.set k x := fun hu =>
        List.filter_eq_self.mpr (fun t ht => decide_eq_true (nun hu t ht))
      have z : realR M c (ts.set k x) = true := by
        unfold realR
        by_cases hu : mUn M c = -2
        · simp only [hu, decide_true, Bool.true_or]
        · rw [ef, fid hu]
          have l2 : 2 ≤ (ts.set k x).length := by
            rcases op.2.2.2.2.2.2.1 with e | e
            · exact absurd e hu
            · have o2 := ok.2.2.1
              split at o2
              · exact o2
              · omega
          simp only [l2, decide_true, Bool.or_true]
      rw [if_pos z]
      obtain ⟨row, e, sub, hrow⟩ := mk_real z
      have er : row = ts.set k x := by
        rcases hrow with ⟨-, e⟩ | ⟨hu, e, -⟩
        · rw [e, ef]
        · rw [e, ef, fid hu]
      rw [e, er]
      obtain ⟨e1, e2⟩ := mk3_kids (M := M) c (ts.set k x)
      have s := mk3_S M c (ts.set k x)
      have ss := set_sum trS ts k p x h1
      have sl := set_sum (fun _ => 1) ts k p x h1
      have rest : ts.length + trS p ≤ (ts.map trS).sum + 1 := by
        have key : ∀ (l : List Tr) (k : Nat), (∀ t ∈ l, isT t) → l[k]? = some p → l.length + trS p ≤ (l.map trS).sum + 1 := by
          intro l
          induction l with
          | nil => intro k _ h; simp at h
          | cons b l ihl =>
            intro k hl hk
            have hb := trS_pos (hl b (List.mem_cons_self ..))
            have hl' := fun t ht => hl t (List.mem_cons_of_mem _ ht)
            simp only [List.length_cons, List.map_cons, List.sum_cons]
            cases k with
            | zero =>
              simp only [List.getElem?_cons_zero, Option.some.injEq] at hk
              have := trS_len hl'
              rw [hk]
              omega
            | succ k =>
              simp only [List.getElem?_cons_succ] at hk
              have := ihl k hl' hk
              omega
        exact key ts k (fun t ht => (hts t ht).1) h1
      refine Or.inr ⟨?_, e1, ?_, ?_⟩
      · intro e; rw [e, len] at e2; simp at e2; omega
      · rw [rowsN_app, rowsN_one, e2, s, len]
        split <;> omega
      · rw [s]
        simp only [List.length_append, List.length_cons, List.length_nil]
        omega
end

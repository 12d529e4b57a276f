/-! steps by rules: what holds of what is computed -/
section
variable {M : Mo} {R : Ru} {mo : Int} {G G0 G1 : RT} {a0 r0 : Int}
theorem eqs_rg {e : Int} (h : e ∈ eqs M) : 0 ≤ e ∧ e < mEqs M := by
  unfold eqs at h
  rcases List.mem_append.mp h with z | z
  · exact allE_mem.mp (List.mem_filter.mp z).1
  · exact allE_mem.mp (List.mem_filter.mp z).1
theorem WI.shift {ka kr : Int} {st : ST} (h : WI M R a0 r0 ka kr st) : WI M R (a0 + ka) (r0 + kr) 0 0 st := by
  obtain ⟨w1, w2, w3, w4, w5, w6, w7⟩ := h
  exact ⟨w1, w2, by omega, by omega, w5, w6, w7⟩
theorem WI.unshift {a1 r1 : Int} {st : ST} (h : WI M R a1 r1 0 0 st) : WI M R a0 r0 (a1 - a0) (r1 - r0) st := by
  obtain ⟨w1, w2, w3, w4, w5, w6, w7⟩ := h
  exact ⟨w1, w2, by omega, by omega, w5, w6, w7⟩
theorem plug_KH (hM : WM M) {r : Tr} (hr : okT M r) {st : ST} (kr : KH M st r) : ∀ (π : Pth) (x y : Tr), pthC π x r → NF M y → KH M st y → (∀ u ∈ plugA M π y, u ∈ stA st) → KH M st (plug M π y) := by
  intro π
  induction π with
  | nil => intro x y _ _ ky _; exact ky
  | cons a π ih =>
    obtain ⟨p, k⟩ := a
    rintro x y ⟨h1, h2⟩ hy ky hA
    have sp := (pthC_sub hr.1.1 π p h2).1
    have op := subs_NF hr sp
    have kp := kr.sub hr.1.1 sp
    have l0 := (lab_par op.1 h1).1
    have ok := set_ok (k := k) op.1 l0 hy
    have nx := NF_mk hM ok
    simp only [plug, plugA] at hA ⊢
    refine ih p _ h2 nx ?_ (fun u hu => hA u (List.mem_append_left _ hu))
    have tT : ∀ t ∈ (kids p).set k y, isT t := fun t ht => (ok.2.2.2 t ht).1
    have kt : ∀ t ∈ (kids p).set k y, KH M st t := by
      intro t ht
      rcases set_mem ht with e | e
      · rw [e]; exact ky
      · exact kp.sub op.1.1 (subs_down op.1.1 e (subs_self (op.1.kid e).1))
    intro q hq
    rcases mk_subs tT nx.1 hq with e | ⟨t, ht, w⟩
    · by_cases z : realR M (lab p) ((kids p).set k y) = true
      · refine Or.inr (Or.inl (hA q (List.mem_append_right _ ?_)))
        rw [if_pos z, e]
        exact List.mem_cons_self ..
      · have z' : realR M (lab p) ((kids p).set k y) = false := by simpa using z
        obtain ⟨hu, e2 | e2⟩ := mk_notreal z'
        · left
          rw [e, e2]
          rfl
        · obtain ⟨-, t, ht, w⟩ := fltR_subs tT e2
          rw [e]
          exact kt t ht _ w
    · exact kt t ht q w
theorem plugE_ok {π : Pth} {y z : Tr} {st st' : ST} (h : plugE M π y st (.inr (z, st'))) : z = plug M π y ∧ trS z ≤ 40 ∧ st' = addA st (plugA M π y) := by
  unfold plugE at h
  split at h
  · cases h
  · simp only [Sum.inr.injEq, Prod.mk.injEq] at h
    exact ⟨h.1, by rw [h.1]; omega, h.2⟩
theorem plugA_NF (hM : WM M) {r : Tr} (hr : okT M r) : ∀ (π : Pth) (x y : Tr), pthC π x r → NF M y → ∀ u ∈ plugA M π y, NF M u := by
  intro π
  induction π with
  | nil => intro x y _ _ u hu; cases hu
  | cons a π ih =>
    obtain ⟨p, k⟩ := a
    rintro x y ⟨h1, h2⟩ hy u hu
    have op := subs_NF hr (pthC_sub hr.1.1 π p h2).1
    have ok := set_ok (k := k) op.1 (lab_par op.1 h1).1 hy
    simp only [plugA] at hu
    rcases List.mem_append.mp hu with e | e
    · exact ih p _ h2 (NF_mk hM ok) u e
    · split at e
      · rw [List.mem_singleton.mp e]; exact NF_mk hM ok
      · cases e
theorem plugcnt_wi (hM : WM M) {r x y z : Tr} {π : Pth} {st st1 st2 : ST} {u : Unit} (hr : okT M r) (kr : KH M st r) (hc : pthC π x r) (oy : okT M y) (ky : KH M st y) (hw : WI M R a0 r0 1 1 st) (h1 : plugE M π y st (.inr (z, st1))) (h2 : cntE (trS z) st1 (.inr (u, st2))) : WI M R a0 r0 1 1 st2 ∧ leS st st2 ∧ KH M st2 z ∧ okT M z ∧ leS st st1 := by
  obtain ⟨ez, s40, e1⟩ := plugE_ok h1
  obtain ⟨c1, e2⟩ := cntE_ok h2
  have zp := trS_pos (plug_ok hM hr π x y hc oy.1).1.1
  have cnt := plugA_cnt hM hr π
  have eM : stM st2 = stM st := by rw [e2, e1]; rfl
  have eA : stA st2 = plugA M π y ++ stA st := by rw [e2, e1]; rfl
  have eA1 : stA st1 = plugA M π y ++ stA st := by rw [e1]; rfl
  have eF : stF st2 = stF st + trS z := by rw [e2, e1]; rfl
  have eF1 : stF st1 = stF st := by rw [e1]; rfl
  have eS : stS st2 = stS st := by rw [e2, e1]; rfl
  have sub : ∀ u ∈ stA st, u ∈ stA st2 := fun u hu => by rw [eA]; exact List.mem_append_right _ hu
  have sub1 : ∀ u ∈ stA st, u ∈ stA st1 := fun u hu => by rw [eA1]; exact List.mem_append_right _ hu
  have le := leS_same eM sub
  have le1 : leS st st1 := leS_same (by rw [e1]; rfl) sub1
  have nfz : NF M z := by rw [ez]; exact (plug_ok hM hr π x y hc oy.1).1
  have hh := hw
  obtain ⟨-, -, w3, w4, w5, w6, w7⟩ := hh
  have counts : (plugA M π y).length ≤ trS z ∧ 2 * rowsN (plugA M π y) ≤ trS z := by
    cases π with
    | nil => simp [plugA, rowsN]
    | cons a π =>
      obtain ⟨p, k⟩ := a
      obtain ⟨d1, d2⟩ := hc
      have op := subs_NF hr (pthC_sub hr.1.1 π p d2).1
      have ok := set_ok (k := k) op.1 (lab_par op.1 d1).1 oy.1
      have := plugA_cnt hM hr ((p, k) :: π) x y [] ⟨d1, d2⟩ oy.1 (Or.inl rfl)
      rw [List.append_nil] at this
      rw [ez]
      rcases this with e | ⟨e3, e4⟩
      · rw [e]; simp [rowsN]
      · omega
  refine ⟨hw.to eM sub ?_ ?_ (by omega) (by rw [eS]; exact w6) (fun v hv => ?_), le, ?_, ⟨nfz, s40⟩, le1⟩
  · rw [eA, eF, eS, List.length_append]; omega
  · rw [eA, eF, eS, rowsN_app]; omega
  · rw [eA] at hv
    rcases List.mem_append.mp hv with e | e
    · exact plugA_NF hM hr π x y hc oy.1 v e
    · exact w7 v e
  · rw [ez]
    exact plug_KH hM hr (kr.le le hr.1.1) π x y hc oy.1 (ky.le le oy.1.1) (fun v hv => by rw [eA]; exact List.mem_append_left _ hv)
/-- what is in a list -/
def flK (M : Mo) (st : ST) (fl : FL) : Prop := (fl.length ≤ 60 ∧ (fl.map Prod.fst).Nodup) ∧ ∀ q ∈ fl, DR M st q.1 ∧ okT M q.1
theorem flK.le {st st' : ST} (h : leS st st') {fl : FL} (k : flK M st fl) : flK M st' fl := ⟨k.1, fun q hq => ⟨(k.2 q hq).1.le h (k.2 q hq).2.1.1, (k.2 q hq).2⟩⟩
theorem flK_nil (st : ST) : flK M st [] := ⟨⟨by simp, List.nodup_nil⟩, fun q hq => by cases hq⟩
def wiF (M : Mo) (R : Ru) (a0 r0 : Int) (st : ST) (st' : ST) (fl' : FL) : Prop := WI M R a0 r0 0 0 st' ∧ leS st st' ∧ flK M st' fl'
theorem nodup_snoc {α : Type} {l : List α} {z : α} (h : l.Nodup) (hz : z ∉ l) : (l ++ [z]).Nodup := by
  rw [List.nodup_append]
  refine ⟨h, List.nodup_cons.mpr ⟨List.not_mem_nil, List.nodup_nil⟩, fun a ha b hb => ?_⟩
  rw [List.mem_singleton.mp hb]
  intro e
  rw [e] at ha
  exact hz ha
theorem addE_wi {z : Tr} {r : Int} {fl fl' : FL} {st st' : ST} (hz : DR M st z ∧ okT M z) (hf : flK M st fl) (hw : WI M R a0 r0 0 0 st) (h : addE z r fl st (.inr (fl', st'))) : wiF M R a0 r0 st st' fl' := by
  rcases h with ⟨-, h⟩ | ⟨hn, h⟩
  · simp only [Sum.inr.injEq, Prod.mk.injEq] at h
    obtain ⟨rfl, rfl⟩ := h
    exact ⟨hw, leS.rf _, hf⟩
  · split at h
    · cases h
    · simp only [Sum.inr.injEq, Prod.mk.injEq] at h
      obtain ⟨rfl, rfl⟩ := h
      refine ⟨hw, leS.rf _, ⟨by rw [List.length_append]; have := hf.1.1; simp only [List.length_cons, List.length_nil]; omega, ?_⟩, fun q hq => ?_⟩
      · rw [List.map_append]
        exact nodup_snoc hf.1.2 hn
      · rcases List.mem_append.mp hq with e | e
        · exact hf.2 q e
        · rw [List.mem_singleton.mp e]; exact hz
theorem hitE_wi (hM : WM M) (hW0 : wi M R (a0 + 1) (r0 + 1) G0) {r x y : Tr} {π : Pth} {n : Int} {fl fl' : FL} {st st' : ST} (hr : okT M r) (kr : KH M st r) (hc : pthC π x r) (oy : okT M y) (ky : KH M st y) (hf : flK M st fl) (hw : WI M R a0 r0 1 1 st) (h : hitE M G0 π n y fl st (.inr (fl', st'))) : wiF M R a0 r0 st st' fl' := by
  obtain ⟨z, st1, p1, h⟩ := bnd_ok h
  obtain ⟨u, st2, p2, h⟩ := bnd_ok h
  obtain ⟨v, st3, p3, h⟩ := bnd_ok h
  obtain ⟨u4, st4, p4, h⟩ := bnd_ok h
  obtain ⟨w2, l2, kz, oz, -⟩ := plugcnt_wi hM hr kr hc oy ky hw p1 p2
  obtain ⟨w3, l3, dv, ov⟩ := hW0 z st2 v st3 oz w2.shift kz p3
  obtain ⟨s4, e4⟩ := stepE_ok p4
  have l4 : leS st3 st4 := leS_same (by rw [e4]) (fun u hu => by rw [e4]; exact hu)
  have w4 : WI M R a0 r0 0 0 st4 := by
    have hh := w3
    obtain ⟨-, -, q3, q4, q5, q6, q7⟩ := hh
    have := (w3.to (ka' := -1) (kr' := -1) (st' := st4) (by rw [e4]) (fun u hu => by rw [e4]; exact hu) (by rw [e4]; show ((stA st3).length : Int) ≤ _ + stF st3 + (stS st3 + 1) + _; omega) (by rw [e4]; show 2 * (rowsN (stA st3) : Int) ≤ _ + stF st3 + (stS st3 + 1) + _; omega) (by rw [e4]; exact q5) (by rw [e4]; exact s4) (by rw [e4]; exact q7))
    have := this.shift
    rw [show a0 + 1 + -1 = a0 by omega, show r0 + 1 + -1 = r0 by omega] at this
    exact this
  have l24 := (l2.trans l3).trans l4
  have := addE_wi ⟨dv.le l4 ov.1.1, ov⟩ (hf.le l24) w4 h
  exact ⟨this.1, l24.trans this.2.1, this.2.2⟩
theorem endE_wi (hM : WM M) (hW0 : wi M R (a0 + 1) (r0 + 1) G0) {s : Int} (hR : RuOK M R s) {r x : Tr} {π : Pth} {ρm ρ : Env} {fl fl' : FL} {st st' : ST} (hr : okT M r) (kr : KH M st r) (hc : pthC π x r) (lm : LM M R s ρm) (km : EK M st ρm) (ei : EI M R s (mCn M s) ρ) (ek : EK M st ρ) (hf : flK M st fl) (hw : WI M R a0 r0 0 0 st) (h : endE M R G0 s π ρm ρ fl st (.inr (fl', st'))) : wiF M R a0 r0 st st' fl' := by
  obtain ⟨u, st1, p1, h⟩ := bnd_ok h
  obtain ⟨v, st2, p2, h⟩ := bnd_ok h
  obtain ⟨y, st3, p3, h⟩ := bnd_ok h
  have rv := fun v v0 ho => EK.at ei ek (hR.2.2.1 v v0 ho)
  obtain ⟨w2, l2, kv, ov, -, -⟩ := cp_wi hM hR.2.1 (Int.le_refl _) rv hw p1 p2
  have k60 : ∀ i, ρm i = .nil ∨ (isT (ρm i) ∧ KH M st2 (ρm i)) := fun i => (km.le l2) i
  have ar : ∀ i, (ρm i = .nil ∨ okT M (ρm i)) → (ρm i = .nil ∨ (okT M (ρm i) ∧ KH M st2 (ρm i))) := by
    intro i hi
    rcases hi with e | e
    · exact Or.inl e
    · rcases k60 i with q | q
      · exact Or.inl q
      · exact Or.inr ⟨e, q.2⟩
  obtain ⟨w3, l3, ky, oy⟩ := besE_wi (a0 := a0) (r0 := r0) hM (hR.1.1.1.op hR.1.2) (ar 60 lm.2.1) ⟨ov, kv⟩ (ar 61 lm.2.2.1) lm.2.2.2 w2 p3
  have l23 := l2.trans l3
  have := hitE_wi hM hW0 hr (kr.le l23 hr.1.1) hc oy ky (hf.le l23) w3 h
  exact ⟨this.1, l23.trans this.2.1, this.2.2⟩
theorem eachE_wi {f : Env → FL → ST → Out FL → Prop} {I : ST → Env → Prop} (hI : ∀ st st' ρ, leS st st' → I st ρ → I st' ρ) : ∀ L fl st fl' st', (∀ ρ ∈ L, I st ρ) → (∀ ρ ∈ L, ∀ st1 fl st2 fl', leS st st1 → WI M R a0 r0 0 0 st1 → I st1 ρ → flK M st1 fl → f ρ fl st1 (.inr (fl', st2)) → wiF M R a0 r0 st1 st2 fl') → flK M st fl → WI M R a0 r0 0 0 st → eachE f L fl st (.inr (fl', st')) → wiF M R a0 r0 st st' fl' := by
  intro L
  induction L with
  | nil =>
    intro fl st fl' st' _ _ hf hw h
    simp only [eachE, Sum.inr.injEq, Prod.mk.injEq] at h
    obtain ⟨rfl, rfl⟩ := h
    exact ⟨hw, leS.rf _, hf⟩
  | cons ρ L ih =>
    intro fl st fl' st' hL hs hf hw h
    obtain ⟨fl1, st1, p1, h⟩ := bnd_ok h
    obtain ⟨w1, l1, f1⟩ := hs ρ (List.mem_cons_self ..) st fl st1 fl1 (leS.rf _) hw (hL ρ (List.mem_cons_self ..)) hf p1
    obtain ⟨w2, l2, f2⟩ := ih fl1 st1 fl' st' (fun ρ' h' => hI _ _ _ l1 (hL ρ' (List.mem_cons_of_mem _ h'))) (fun ρ' h' sa fa sb fb la => hs ρ' (List.mem_cons_of_mem _ h') sa fa sb fb (l1.trans la)) f1 w1 h
    exact ⟨w2, l1.trans l2, f2⟩
theorem mcE_val (hM : WM M) (hE : ∀ e ∈ eqs M, RuOK M R e) (hG : sn M R G) {s c : Int} (hR : RuOK M R s) (c0 : 0 ≤ c) (c1 : c < mCn M s) (z : mCs M (6 * s + c) = 1) {ρ : Env} {st st' : ST} {L : List Env} (ei : EI M R s c ρ) (ek : EK M st ρ) (w : WI M R a0 r0 0 0 st) (h : mcE M R mo G (6 * s + c) ρ st (.inr (L, st'))) : ∀ ρ1 ∈ L, EI M R s (c + 1) (cut ρ1) := by
  have O := (hR.2.2.2.2 c c0 c1).2.1 (by omega)
  obtain ⟨-, n1, b1⟩ := mcE_sn (S := fun _ => False) hM hG O.1 (fun v v0 ho => (EK.at ei ek (O.2 v v0 ho)).1) (PA_no w.1) (dm_no _) h
  exact mcB_val hM (bg_val hM hE n1) hR c0 c1 ei z b1
theorem waysE_wi (hM : WM M) (hE : ∀ e ∈ eqs M, RuOK M R e) (hG1 : sn M R G1) (hW1 : wi M R a0 r0 G1) (hW0 : wi M R (a0 + 1) (r0 + 1) G0) {s : Int} (hR : RuOK M R s) {r x : Tr} {π : Pth} {ρm : Env} (hr : okT M r) (hc : pthC π x r) (lm : LM M R s ρm) : ∀ (n : Nat) (c : Int) (ρ : Env) fl st fl' st', 0 ≤ c → c + (n : Int) = mCn M s → KH M st r → EK M st ρm → EI M R s c ρ → EK M st ρ → flK M st fl → WI M R a0 r0 0 0 st → waysE M R mo G0 G1 s π ρm n c ρ fl st (.inr (fl', st')) → wiF M R a0 r0 st st' fl' := by
  intro n
  induction n with
  | zero =>
    intro c ρ fl st fl' st' c0 hn kr km ei ek hf hw h
    rw [show c = mCn M s by omega] at ei
    exact endE_wi hM hW0 hR hr kr hc lm km ei ek hf hw h
  | succ n ih =>
    intro c ρ fl st fl' st' c0 hn kr km ei ek hf hw h
    have hC := hR.2.2.2.2 c c0 (by omega)
    rcases h with ⟨z, h⟩ | ⟨z, h⟩
    · obtain ⟨L, st1, p1, h⟩ := bnd_ok h
      have O := hC.2.1 (by omega)
      obtain ⟨w1, l1, eL⟩ := mcE_wi hM hW1 hC.1 O.1 (fun v v0 ho => EK.at ei ek (O.2 v v0 ho)) ei.1 ek hw p1
      have vL := mcE_val hM hE hG1 hR c0 (by omega) z ei ek hw p1
      have := eachE_wi (I := fun st ρ1 => EK M st ρ1 ∧ KH M st r ∧ EK M st ρm) (fun a b ρ1 l k => ⟨k.1.le l, k.2.1.le l hr.1.1, k.2.2.le l⟩) L fl st1 fl' st' (fun ρ1 h1 => ⟨eL ρ1 h1, kr.le l1 hr.1.1, km.le l1⟩) (fun ρ1 h1 sa fa sb fb la wa ia fka pa => ih (c + 1) (cut ρ1) fa sa fb sb (by omega) (by omega) ia.2.1 ia.2.2 (vL ρ1 h1) ia.1.ct fka wa pa) (hf.le l1) w1 h
      exact ⟨this.1, l1.trans this.2.1, this.2.2⟩
    · obtain ⟨b, st1, p1, h⟩ := bnd_ok h
      have w1 := isTrueE_wi hM hW1 hC.1 (fun v v0 ho => EK.at ei ek (hC.2.2.1 z v v0 ho)) (fun z2 => ⟨(hC.2.1 z2).1, fun v v0 ho => EK.at ei ek ((hC.2.1 z2).2 v v0 ho)⟩) hw p1
      rcases h with ⟨-, h⟩ | ⟨-, h⟩
      · have := ih (c + 1) ρ fl st1 fl' st' (by omega) (by omega) (kr.le w1.2 hr.1.1) (km.le w1.2) (ei.up z) (ek.le w1.2) (hf.le w1.2) w1.1 h
        exact ⟨this.1, w1.2.trans this.2.1, this.2.2⟩
      · simp only [Sum.inr.injEq, Prod.mk.injEq] at h
        obtain ⟨rfl, rfl⟩ := h
        exact ⟨w1.1, w1.2, hf.le w1.2⟩
theorem ruleE_wi (hM : WM M) (hE : ∀ e ∈ eqs M, RuOK M R e) (hG1 : sn M R G1) (hW1 : wi M R a0 r0 G1) (hW0 : wi M R (a0 + 1) (r0 + 1) G0) {s : Int} (hR : RuOK M R s) {r x : Tr} {π : Pth} (hr : okT M r) (hc : pthC π x r) {fl fl' : FL} {st st' : ST} (dr : DR M st r) (hf : flK M st fl) (hw : WI M R a0 r0 0 0 st) (h : ruleE M R mo G0 G1 s π x fl st (.inr (fl', st'))) : wiF M R a0 r0 st st' fl' := by
  obtain ⟨L, st1, p1, h⟩ := bnd_ok h
  have sx := (pthC_sub hr.1.1 π x hc).1
  have ox := subs_NF hr sx
  have px : PH M st x := dr.1.sub hr.1.1 sx
  have emB := (mtE_ok p1).2.1
  have LMs := left_val hM hR ox emB
  have w1 := mt_wi hw p1
  obtain ⟨hwd, hz⟩ := mlB_ok emB
  have EKs : ∀ ρm ∈ L, EK M st1 ρm := fun ρm hm => EK_match hM hR.1.1 ox hwd okB_nil (hz ρm hm) (px.le w1.2 ox.1.1) (EK_nil _)
  have := eachE_wi (I := fun st ρ1 => EK M st ρ1 ∧ KH M st r) (fun a b ρ1 l k => ⟨k.1.le l, k.2.le l hr.1.1⟩) L fl st1 fl' st' (fun ρ1 h1 => ⟨EKs ρ1 h1, dr.1.KH.le w1.2 hr.1.1⟩) (fun ρ1 h1 sa fa sb fb la wa ia fka pa => waysE_wi hM hE hG1 hW1 hW0 hR hr hc (LMs ρ1 h1) (mCn M s).toNat 0 (cut ρ1) fa sa fb sb (by omega) (by have := hR.2.2.2.1; omega) ia.2 ia.1 (LMs ρ1 h1).1 ia.1.ct fka wa pa) (hf.le w1.2) w1.1 h
  exact ⟨this.1, w1.2.trans this.2.1, this.2.2⟩
theorem rulesE_wi (hM : WM M) (hE : ∀ e ∈ eqs M, RuOK M R e) (hG1 : sn M R G1) (hW1 : wi M R a0 r0 G1) (hW0 : wi M R (a0 + 1) (r0 + 1) G0) {r x : Tr} {π : Pth} (hr : okT M r) (hc : pthC π x r) : ∀ (ss : List Int) fl st fl' st', (∀ s ∈ ss, RuOK M R s) → DR M st r → flK M st fl → WI M R a0 r0 0 0 st → rulesE M R mo G0 G1 π x ss fl st (.inr (fl', st')) → wiF M R a0 r0 st st' fl' := by
  intro ss
  induction ss with
  | nil =>
    intro fl st fl' st' _ _ hf hw h
    simp only [rulesE, Sum.inr.injEq, Prod.mk.injEq] at h
    obtain ⟨rfl, rfl⟩ := h
    exact ⟨hw, leS.rf _, hf⟩
  | cons s ss ih =>
    intro fl st fl' st' hR dr hf hw h
    obtain ⟨fl1, st1, p1, h⟩ := bnd_ok h
    obtain ⟨w1, l1, f1⟩ := ruleE_wi hM hE hG1 hW1 hW0 (hR s (List.mem_cons_self ..)) hr hc dr hf hw p1
    obtain ⟨w2, l2, f2⟩ := ih fl1 st1 fl' st' (fun s' h' => hR s' (List.mem_cons_of_mem _ h')) (dr.le l1 hr.1.1) f1 w1 h
    exact ⟨w2, l1.trans l2, f2⟩
theorem kidsE_wi {f : Pth → Tr → FL → ST → Out FL → Prop} {r : Tr} (hr : okT M r) (hf : ∀ π t fl st fl' st', pthC π t r → DR M st r → flK M st fl → WI M R a0 r0 0 0 st → f π t fl st (.inr (fl', st')) → wiF M R a0 r0 st st' fl') {p : Tr} {π : Pth} (hc : pthC π p r) : ∀ (ts : List Tr) (k : Nat) fl st fl' st', (kids p).drop k = ts → DR M st r → flK M st fl → WI M R a0 r0 0 0 st → kidsE f p π ts k fl st (.inr (fl', st')) → wiF M R a0 r0 st st' fl' := by
  intro ts
  induction ts with
  | nil =>
    intro k fl st fl' st' _ _ hfl hw h
    simp only [kidsE, Sum.inr.injEq, Prod.mk.injEq] at h
    obtain ⟨rfl, rfl⟩ := h
    exact ⟨hw, leS.rf _, hfl⟩
  | cons t ts ih =>
    intro k fl st fl' st' hd dr hfl hw h
    obtain ⟨fl1, st1, p1, h⟩ := bnd_ok h
    have kt : (kids p)[k]? = some t := by
      have := congrArg (fun l : List Tr => l[0]?) hd
      simp only [List.getElem?_drop, List.getElem?_cons_zero] at this
      simpa using this
    have dt : (kids p).drop (k + 1) = ts := by
      rw [← List.drop_drop, hd]
      rfl
    obtain ⟨w1, l1, f1⟩ := hf ((p, k) :: π) t fl st fl1 st1 ⟨kt, hc⟩ dr hfl hw p1
    obtain ⟨w2, l2, f2⟩ := ih (k + 1) fl1 st1 fl' st' dt (dr.le l1 hr.1.1) f1 w1 h
    exact ⟨w2, l1.trans l2, f2⟩
theorem atE_wi (hM : WM M) (hE : ∀ e ∈ eqs M, RuOK M R e) (hG1 : sn M R G1) (hW1 : wi M R a0 r0 G1) (hW0 : wi M R (a0 + 1) (r0 + 1) G0) {r : Tr} (hr : okT M r) {ss : List Int} (hR : ∀ s ∈ ss, RuOK M R s) : ∀ (n : Nat) π x fl st fl' st', pthC π x r → DR M st r → flK M st fl → WI M R a0 r0 0 0 st → atE M R mo G0 G1 ss n π x fl st (.inr (fl', st')) → wiF M R a0 r0 st st' fl' := by
  intro n
  induction n with
  | zero => intro π x fl st fl' st' _ _ _ _ h; exact h.elim
  | succ n ih =>
    intro π x fl st fl' st' hc dr hf hw h
    obtain ⟨fl1, st1, p1, h⟩ := bnd_ok h
    obtain ⟨w1, l1, f1⟩ := rulesE_wi hM hE hG1 hW1 hW0 hr hc ss fl st fl1 st1 hR dr hf hw p1
    obtain ⟨w2, l2, f2⟩ := kidsE_wi hr ih hc (kids x) 0 fl1 st1 fl' st' (List.drop_zero ..) (dr.le l1 hr.1.1) f1 w1 h
    exact ⟨w2, l1.trans l2, f2⟩
theorem rulL_mem {w : Int → Bool} {s : Int} (h : s ∈ rulL M w) : stX M s := by
  unfold rulL at h
  obtain ⟨n, hn, rfl⟩ := List.mem_map.mp (List.mem_filter.mp h).1
  have := List.mem_range.mp hn
  exact Or.inr ⟨by omega, by omega⟩
theorem stepsE_wi (hM : WM M) (hR : ∀ s, stX M s → RuOK M R s) {w : Int → Bool} {x : Tr} {st st' : ST} {fl : FL} (ox : okT M x) (dx : DR M st x) (hw : WI M R a0 r0 0 0 st) (h : stepsE M R mo w x st (.inr (fl, st'))) : wiF M R a0 r0 st st' fl := by
  have hE : ∀ e ∈ eqs M, RuOK M R e := fun e he => hR e (Or.inl (eqs_rg he))
  exact atE_wi (mo := mo) hM hE (RE_sn (mo := mo) hM hE 1) (RE_wi (mo := mo) hM hE 1) (RE_wi (mo := mo) hM hE 0) ox (fun s hs => hR s (rulL_mem hs)) (trS x) [] x [] st fl st' rfl dx (flK_nil _) hw h
end

/-! truth values, recursion by depth -/
def bi (p : Prop) [Decidable p] : Int := if p then 1 else 0
theorem bi_t {p : Prop} [Decidable p] (h : p) : bi p = 1 := if_pos h
theorem bi_f {p : Prop} [Decidable p] (h : ¬ p) : bi p = 0 := if_neg h
theorem isB_bi (p : Prop) [Decidable p] : isB (bi p) := by unfold bi; split; exact Or.inr rfl; exact Or.inl rfl
/-- an index in range -/
abbrev inb (i n : Int) : Prop := 0 ≤ i ∧ i < n
abbrev Orc : Type := Nat → List Int → S → (Int → S → Prop) → (S → Prop) → Prop
theorem can_min {a b : Int} (ha : can a) (hb : can b) : can (min a b) := by unfold can at *; omega
theorem can_max {a b : Int} (ha : can a) (hb : can b) : can (max a b) := by unfold can at *; omega
theorem can8_min {a b : Int} (ha : can8 a) (hb : can8 b) : can8 (min a b) := by unfold can8 at *; omega
theorem can8_max {a b : Int} (ha : can8 a) (hb : can8 b) : can8 (max a b) := by unfold can8 at *; omega
/-! methods with handlers -/
def TabH (x : CX) (hh : List (Nat × Nat × Nat × Nat)) : Prop := (xC x).exceptionTable.toList.map (fun h => (h.startPc, h.endPc, h.handlerPc, h.catchType)) = hh
theorem x_enterH {d : DS} {l : Launch} {y : MethodName} {cc : ByteArray} {maxL : Nat} {ret : Option FieldType} {hh : List (Nat × Nat × Nat × Nat)} {rm : Room} {w : WP} {As : List Value} {σ : S} {rv : Int → Option Value} {ok : Int → Prop} {Q : Int → S → Prop} {E : S → Prop}
    (hy : plainName y.cls = true) (hA : (lg_sl As).length ≤ maxL)
    (body : ∀ x : CX, CtxOk d x cc y.cls → BodyOk d x l w rm maxL ret rv ok Q E → TabH x hh → XJ d x σ 0 (lv_args 0 As) []) : XMet d l y (wsW_ y cc maxL ret hh) rm w As σ rv ok Q E := by
  intro sz
  refine vx_ofWH (cc := cc) (maxL := maxL) (ret := ret) (hh := hh) hy rfl ?_
  intro p e s m args below meth c s₁ B hml hv
  obtain ⟨rfl, hsz, htf, hP, hD, hC, hX⟩ := hv
  subst hsz
  have hts := atoms_spec (ws := wsW_ y cc maxL ret hh) B.pre
  obtain ⟨m9, meth9, c9, hn9, h19, h29, -, -, htab, -, -, -⟩ := Cond.codeWith_spec (hts _ List.mem_cons_self)
  have hts : ∀ w ∈ lw_all, w.before _ s = true := fun w h => hts w (List.mem_cons_of_mem _ h)
  have hown : s.vm.findClass y.cls = some m.cls := findClass_of_methodNamed B.named
  have hm9 : m9 = m := Option.some.inj (hn9.symm.trans B.named)
  subst hm9
  have hme : meth9 = meth := Option.some.inj (h19.symm.trans B.method)
  subst hme
  have hce : c9 = c := by
    have q := B.here.code
    rw [State.code?_eq, B.state] at q
    simp [State.setFrames, h19, h29] at q
    exact q
  subst hce
  have J := body ((p, l, e, rm, s), (m9, As.toArray, below, meth9, c9), vx_MQ below (XQ d w rv ok Q (va_A (gws d w σ) s.heap.size)) (XX d w E (va_A (gws d w σ) s.heap.size)) As.toArray s 0 0 (va_A (gws d w σ) s.heap.size), va_A (gws d w σ) s.heap.size, maxL, w)
    ⟨B.exec, B.bytes, hml, hown, hts, hX, fun q h => Or.inr h, htf, B.notSynchronized⟩ ⟨rfl, rfl, rfl, rfl, B.returns, rfl⟩ htab
  rw [lg_entry_eq]
  exact J s.heap [] _ ⟨hP, hD.self, va_S.rf, hC⟩ (lv_entry As hA)
section
variable {d : DS} {x : CX} {cc : ByteArray} {own : String} {σ : S} {pc : Nat} {lv : List (Nat × Value)} {st : List Value}
theorem tab_at {hh : List (Nat × Nat × Nat × Nat)} (ht : TabH x hh) {i : Nat} {q : Nat × Nat × Nat × Nat} (hi : hh[i]? = some q) : ∃ z, (xC x).exceptionTable.toList[i]? = some z ∧ z.startPc = q.1 ∧ z.endPc = q.2.1 ∧ z.handlerPc = q.2.2.1 ∧ z.catchType = q.2.2.2 := by
  unfold TabH at ht
  rw [← ht, List.getElem?_map] at hi
  cases h : (xC x).exceptionTable.toList[i]? with
  | none => rw [h] at hi; cases hi
  | some z => rw [h] at hi; cases hi; exact ⟨z, rfl, rfl, rfl, rfl, rfl⟩
theorem xe_catch (C : CtxOk d x cc own) {hh : List (Nat × Nat × Nat × Nat)} (ht : TabH x hh) {T : u_T} {N : Nat} (hc : (dCl d)[1]? = some (dStop d, T, N)) (i a b h ct : Nat) (hi : hh[i]? = some (a, b, h, ct)) (hpre : (hh.take i).all (fun q => decide (¬ (q.1 ≤ pc ∧ pc < q.2.1))) = true) (hcov : a ≤ pc ∧ pc < b) (h0 : ct ≠ 0) (hl : Cond.classLink own ct (dStop d) ∈ lw_all) (k : XJ d x σ h lv [.ref (wHs (xW x))]) : XE d x σ pc lv := by
  intro H locs ls rest hw hv
  obtain ⟨ce, c1, c2, c3⟩ := hw.stop C hc
  obtain ⟨z, hz, z1, z2, z3, z4⟩ := tab_at ht hi
  have hlt := (List.getElem?_eq_some_iff.mp hz).1
  have hsplit : (xC x).exceptionTable.toList = (xC x).exceptionTable.toList.take i ++ z :: (xC x).exceptionTable.toList.drop (i + 1) := by
    conv => lhs; rw [← List.take_append_drop i (xC x).exceptionTable.toList]
    rw [List.drop_eq_getElem_cons hlt, (List.getElem?_eq_some_iff.mp hz).2]
  have hk := k H locs ls hw hv
  refine vx_catch (own := own) (name := dStop d) (E := dStop d) C.ow _ z _ hsplit (fun y hy => Or.inl ?_) (by simp [covers, z1, z2]; exact hcov) (by rw [z4]; exact h0) (by rw [z4]; exact C.ts _ hl) (va_Nw.use rfl C.xt.2.2.2.2.1) c1 c2 c3 (by rw [z3]; exact hk)
  obtain ⟨j, hj⟩ := List.getElem?_of_mem hy
  have hji : j < i := by
    have := (List.getElem?_eq_some_iff.mp hj).1
    simp at this
    omega
  rw [List.getElem?_take, if_pos hji] at hj
  have hq : hh[j]? = some (y.startPc, y.endPc, y.handlerPc, y.catchType) := by
    unfold TabH at ht
    rw [← ht, List.getElem?_map, hj]; rfl
  have hm : (y.startPc, y.endPc, y.handlerPc, y.catchType) ∈ hh.take i := List.mem_of_getElem? (by rw [List.getElem?_take, if_pos hji]; exact hq)
  have := List.all_eq_true.mp hpre _ hm
  have := of_decide_eq_true this
  dsimp only at this
  simp [covers]
  omega
theorem xe_outH (C : CtxOk d x cc own) {l : Launch} {w : WP} {rm : Room} {maxL : Nat} {ret : Option FieldType} {rv : Int → Option Value} {ok : Int → Prop} {Q : Int → S → Prop} {E : S → Prop} (B : BodyOk d x l w rm maxL ret rv ok Q E) {hh : List (Nat × Nat × Nat × Nat)} (ht : TabH x hh) (hno : hh.all (fun q => decide (¬ (q.1 ≤ pc ∧ pc < q.2.1))) = true) {T : u_T} {N : Nat} (hc : (dCl d)[1]? = some (dStop d, T, N)) (he : E σ) : XE d x σ pc lv := by
  intro H locs ls rest hw hv
  obtain ⟨ce, c1, c2, c3⟩ := hw.stop C hc
  show vx_W _ _ _ _ _ _ _ _ _ _ _ _ _ _ (xQ x) _ _
  rw [B.2.2.2.2.2]
  refine vy_out (fun y hy => ?_) C.lk c1 c2 c3 (fun t ht hW => ⟨⟨σ, rfl, rfl, he, hw.wd C ht hW⟩, hw.2.2.1.F ht⟩) hw.2.2.1.2.2 (Nat.le_refl _) (Nat.le_refl _)
  obtain ⟨j, hj⟩ := List.getElem?_of_mem hy
  have hq : hh[j]? = some (y.startPc, y.endPc, y.handlerPc, y.catchType) := by
    unfold TabH at ht
    rw [← ht, List.getElem?_map, hj]; rfl
  have := List.all_eq_true.mp hno _ (List.mem_of_getElem? hq)
  have := of_decide_eq_true this
  dsimp only at this
  simp [covers]
  omega
theorem xj_callW {Cn : String} {T : u_T} {N index n : Nat} {y : MethodName} {bytes : ByteArray} {maxL : Nat} {ret : Option FieldType} {hh : List (Nat × Nat × Nat × Nat)} {ws : List Cond} {rm : Room} {rv : Int → Option Value} {ok : Int → Prop} {Q : Int → S → Prop} {E : S → Prop} (As rest : List Value) (C : CtxOk d x cc own) (hc : (dCl d)[0]? = some (Cn, T, N))
    (hM : XMet d (xL x) y ws rm (xW x) (.ref (wH0 (xW x)) :: As) σ rv ok Q E) (cw : vx_CVW (xR x) (xS x) (xAr x) own Cn index y bytes maxL ret hh ws rm 0 0 n) (hn : As.length = n) (hst : st = As.reverse ++ .ref (wH0 (xW x)) :: rest) (hW : (rest.map fun v => v.category).sum ≤ 8) (hd : decode cc pc = .ok (.invokevirtual index, 3))
    (kq : ∀ (r : Int) (σ' : S), ok r → Q r σ' → XJ d x σ' (pc + 3) lv ((rv r).toList ++ rest)) (ke : ∀ σ' : S, E σ' → XE d x σ' pc lv) : XJ d x σ pc lv st := by
  intro H locs ls hw hv
  subst hst
  refine x_call (y := y) (ws := ws) (rm := rm) (As := .ref (wH0 (xW x)) :: As) C hw hv (vx_runVX (b := wH0 (xW x)) (As := As) ⟨C.ex, C.by, C.ml, C.ow, C.ts⟩ (hM H.size) cw ⟨XPc.blind, va_recv C.xt.1 hw.1 hc (gws_0 _ _ _), fun U hU hW => hw.pre C hU hW⟩ rfl hn hv.1 rfl (lv_room hW) hd ⟨Nat.zero_le _, Nat.zero_le _⟩) kq ke
/-! texts -/
theorem xj_lds (C : CtxOk d x cc (dOwn d)) (i : Nat) {index : Nat} {tx : String} (hi : i < dNS d) (hx : (dSidx d)[i]? = some (index, tx)) (hd : decode cc pc = .ok (.ldc index, 2)) (h : XJ d x σ (pc + 2) lv (.ref (wK (xW x) i) :: st)) : XJ d x σ pc lv st := fun H locs ls hw hv => va_ldcS C.ex C.by C.ow (C.xt.2.2.1 i _ hx) hd (h H locs ls hw hv)
theorem xj_ldsw (C : CtxOk d x cc (dOwn d)) (i : Nat) {index : Nat} {tx : String} (hi : i < dNS d) (hx : (dSidx d)[i]? = some (index, tx)) (hd : decode cc pc = .ok (.ldc_w index, 3)) (h : XJ d x σ (pc + 3) lv (.ref (wK (xW x) i) :: st)) : XJ d x σ pc lv st := by
  intro H locs ls hw hv T hT X
  obtain ⟨t, a1, b1⟩ := h H locs ls hw hv T hT X
  have hZ := C.xt.2.2.1 i _ hx
  exact ⟨t, X.ldcStringW C.ex C.ow (text := tx) (a := wK (xW x) i) hZ.1 hZ.2 (g := F0 (xM x) pc ls st) rfl (by rw [C.by]; exact hd) t a1, b1⟩
end

/-! contracts over the world: the answer (rv: what lies on the caller's stack), the Stop thrown -/
def XQ (d : DS) (w : WP) (rv : Int → Option Value) (ok : Int → Prop) (Q : Int → S → Prop) (A : Nat → Prop) : Array Value → State → Outcome → State → Prop := fun _ st oc t => (∃ (r : Int) (u : S), oc = .returned (rv r) ∧ ok r ∧ Q r u ∧ Wd d w A u t) ∧ va_F A st t
def XX (d : DS) (w : WP) (E : S → Prop) (A : Nat → Prop) : Addr → String → State → State → Prop := fun q En st t => (∃ u : S, q = wHs w ∧ En = dStop d ∧ E u ∧ Wd d w A u t) ∧ va_F A st t
def XPc (d : DS) (w : WP) (As : List Value) (σ : S) (sz : Nat) : Array Value → State → Prop := va_Pc As (fun U => U.heap.size = sz ∧ (wTf w).length = 6 ∧ Wd d w (va_A (gws d w σ) sz) σ U)
def XMet (d : DS) (l : Launch) (y : MethodName) (ws : List Cond) (rm : Room) (w : WP) (As : List Value) (σ : S) (rv : Int → Option Value) (ok : Int → Prop) (Q : Int → S → Prop) (E : S → Prop) : Prop :=
  ∀ sz : Nat, vx_Met l y ws rm (XPc d w As σ sz) (XQ d w rv ok Q (va_A (gws d w σ) sz)) (XX d w E (va_A (gws d w σ) sz)) 0 0 (va_A (gws d w σ) sz)
def rvI (r : Int) : Option Value := some (iv r)
def rvL (r : Int) : Option Value := some (jv r)
def rvV (_ : Int) : Option Value := none
def rvS (w : WP) (_ : Int) : Option Value := some (.ref (wHs w))
def rm_ (f l : Nat) : Room := { frames := f, cells := 0, slots := 0, locals := l }
/-- what a body knows at its start, beside CtxOk -/
def BodyOk (d : DS) (x : CX) (l : Launch) (w : WP) (rm : Room) (maxL : Nat) (ret : Option FieldType) (rv : Int → Option Value) (ok : Int → Prop) (Q : Int → S → Prop) (E : S → Prop) : Prop :=
  xL x = l ∧ xW x = w ∧ xR x = rm ∧ xN x = maxL ∧ (xMe x).sig.returnType = ret ∧ xQ x = vx_MQ (xB x) (XQ d (xW x) rv ok Q (xA x)) (XX d (xW x) E (xA x)) (xAr x) (xS x) 0 0 (xA x)
def NoH (x : CX) : Prop := ∀ z ∈ (xC x).exceptionTable.toList, False
theorem x_enter {d : DS} {l : Launch} {y : MethodName} {cc : ByteArray} {maxL : Nat} {ret : Option FieldType} {rm : Room} {w : WP} {As : List Value} {σ : S} {rv : Int → Option Value} {ok : Int → Prop} {Q : Int → S → Prop} {E : S → Prop}
    (hy : plainName y.cls = true) (hA : (lg_sl As).length ≤ maxL)
    (body : ∀ x : CX, CtxOk d x cc y.cls → BodyOk d x l w rm maxL ret rv ok Q E → NoH x → XJ d x σ 0 (lv_args 0 As) []) : XMet d l y (ws_ y cc maxL ret) rm w As σ rv ok Q E := by
  intro sz
  refine vx_ofW (cc := cc) (maxL := maxL) (ret := ret) hy rfl ?_
  intro p e s m args below meth c s₁ B hml hnx hv
  obtain ⟨rfl, hsz, htf, hP, hD, hC, hX⟩ := hv
  subst hsz
  have hts := atoms_spec (ws := ws_ y cc maxL ret) B.pre
  have hts : ∀ w ∈ lw_all, w.before _ s = true := fun w h => hts w (List.mem_cons_of_mem _ h)
  have hown : s.vm.findClass y.cls = some m.cls := findClass_of_methodNamed B.named
  have J := body ((p, l, e, rm, s), (m, As.toArray, below, meth, c), vx_MQ below (XQ d w rv ok Q (va_A (gws d w σ) s.heap.size)) (XX d w E (va_A (gws d w σ) s.heap.size)) As.toArray s 0 0 (va_A (gws d w σ) s.heap.size), va_A (gws d w σ) s.heap.size, maxL, w)
    ⟨B.exec, B.bytes, hml, hown, hts, hX, fun q h => Or.inr h, htf, B.notSynchronized⟩ ⟨rfl, rfl, rfl, rfl, B.returns, rfl⟩ hnx
  rw [lg_entry_eq]
  exact J s.heap [] _ ⟨hP, hD.self, va_S.rf, hC⟩ (lv_entry As hA)
section
variable {d : DS} {x : CX} {cc : ByteArray} {own : String} {σ : S} {pc : Nat} {lv : List (Nat × Value)} {st : List Value}
theorem XW.wd {H : Heap} {locs : List Loc} (C : CtxOk d x cc own) (hw : XW d x σ H locs) {t : State} (ht : t.heap = H) (hW : (xS x).WarmedH t.vm) : Wd d (xW x) (xA x) σ t := by
  refine ⟨by rw [ht]; exact hw.1, hw.2.1.weaken (fun _ _ _ _ => trivial), hw.2.2.2, ?_⟩
  rw [ht]
  exact XT.moved hW (XT.kept hw.2.2.1.2.1 C.xt)
theorem xj_iret (C : CtxOk d x cc own) {l : Launch} {w : WP} {rm : Room} {maxL : Nat} {ok : Int → Prop} {Q : Int → S → Prop} {E : S → Prop} (B : BodyOk d x l w rm maxL (some .int) rvI ok Q E) {v : Int} (hd : decode cc pc = .ok (.ireturn, 1)) (hok : ok v) (hq : Q v σ) : XJ d x σ pc lv [iv v] := by
  intro H locs ls hw hv
  show W _ _ _ _ _ _ _ _ _ _ _ _ _ _ (xQ x) _
  rw [B.2.2.2.2.2]
  exact vx_ret (W.iret C.ex C.by B.2.2.2.2.1 (fun t ht hW => ⟨⟨v, σ, rfl, hok, hq, hw.wd C ht hW⟩, hw.2.2.1.F ht⟩) hw.2.2.1.2.2 hd (hlocks := C.lk))
theorem xj_zret (C : CtxOk d x cc own) {l : Launch} {w : WP} {rm : Room} {maxL : Nat} {ok : Int → Prop} {Q : Int → S → Prop} {E : S → Prop} (B : BodyOk d x l w rm maxL (some .boolean) rvI ok Q E) {v : Int} (hd : decode cc pc = .ok (.ireturn, 1)) (hb : isB v) (hok : ok v) (hq : Q v σ) : XJ d x σ pc lv [iv v] := by
  intro H locs ls hw hv
  show W _ _ _ _ _ _ _ _ _ _ _ _ _ _ (xQ x) _
  rw [B.2.2.2.2.2]
  exact vx_ret (W.zret C.ex C.by B.2.2.2.2.1 (nar_B hb) (fun t ht hW => ⟨⟨v, σ, rfl, hok, hq, hw.wd C ht hW⟩, hw.2.2.1.F ht⟩) hw.2.2.1.2.2 hd (hlocks := C.lk))
theorem xj_lret (C : CtxOk d x cc own) {l : Launch} {w : WP} {rm : Room} {maxL : Nat} {ok : Int → Prop} {Q : Int → S → Prop} {E : S → Prop} (B : BodyOk d x l w rm maxL (some .long) rvL ok Q E) {v : Int} (hd : decode cc pc = .ok (.lreturn, 1)) (hok : ok v) (hq : Q v σ) : XJ d x σ pc lv [jv v] := by
  intro H locs ls hw hv
  show W _ _ _ _ _ _ _ _ _ _ _ _ _ _ (xQ x) _
  rw [B.2.2.2.2.2]
  exact vx_ret (W.lret C.ex C.by B.2.2.2.2.1 (fun t ht hW => ⟨⟨v, σ, rfl, hok, hq, hw.wd C ht hW⟩, hw.2.2.1.F ht⟩) hw.2.2.1.2.2 hd (hlocks := C.lk))
theorem xj_vret (C : CtxOk d x cc own) {l : Launch} {w : WP} {rm : Room} {maxL : Nat} {ok : Int → Prop} {Q : Int → S → Prop} {E : S → Prop} (B : BodyOk d x l w rm maxL none rvV ok Q E) (hd : decode cc pc = .ok (.return_, 1)) (hok : ok 0) (hq : Q 0 σ) : XJ d x σ pc lv [] := by
  intro H locs ls hw hv
  show W _ _ _ _ _ _ _ _ _ _ _ _ _ _ (xQ x) _
  rw [B.2.2.2.2.2]
  exact vx_ret (W.vret C.ex C.by B.2.2.2.2.1 (fun t ht hW => ⟨⟨0, σ, rfl, hok, hq, hw.wd C ht hW⟩, hw.2.2.1.F ht⟩) hw.2.2.1.2.2 hd (hlocks := C.lk))
/-- a method that answers its Stop -/
theorem xj_aret (C : CtxOk d x cc own) {l : Launch} {w : WP} {rm : Room} {maxL : Nat} {rt : FieldType} {ok : Int → Prop} {Q : Int → S → Prop} {E : S → Prop} (B : BodyOk d x l w rm maxL (some rt) (rvS w) ok Q E) (hd : decode cc pc = .ok (.areturn, 1)) (hn : (∃ n, rt = .object n) ∨ ∃ t, rt = .array t) (hok : ok 0) (hq : Q 0 σ) : XJ d x σ pc lv [.ref (wHs (xW x))] := by
  intro H locs ls hw hv
  show W _ _ _ _ _ _ _ _ _ _ _ _ _ _ (xQ x) _
  rw [B.2.2.2.2.2]
  exact vx_ret (W.aret C.ex C.by B.2.2.2.2.1 hn (Or.inr ⟨_, rfl⟩) (fun t ht hW => ⟨⟨0, σ, by rw [B.2.1]; rfl, hok, hq, hw.wd C ht hW⟩, hw.2.2.1.F ht⟩) hw.2.2.1.2.2 hd (hlocks := C.lk))
/-- the Stop's own cell -/
theorem XW.stop {H : Heap} {locs : List Loc} (C : CtxOk d x cc own) (hw : XW d x σ H locs) {T : u_T} {N : Nat} (hc : (dCl d)[1]? = some (dStop d, T, N)) : ∃ ce : Cell, H[wHs (xW x)]? = some ce ∧ ce.vm = .none ∧ (xS x).vm.findClass (dStop d) = some ce.cls := by
  obtain ⟨r, h1, cell, q1, q2, q3, q4⟩ := hw.1 1 _ (gws_1 _ _ _)
  obtain ⟨-, hfc, -⟩ := C.xt.1.1 1 _ hc
  exact ⟨cell, q1, q3, by rw [q2]; exact hfc⟩
/-- as vx_out, with more known of the end -/
theorem vy_out {p : Program} {l : Launch} {e : Env} {R : Room} {s : State} {m : MethodId} {args : Array Value} {below : List Frame} {meth : Method} {c : Code} {H : Heap} {locs : List Loc} {cells slots : Nat} {free : Addr → Prop} {ls : Array Slot} {rest : List Value} {Qc : Array Value → State → Outcome → State → Prop} {XC : Addr → String → State → State → Prop} {pc : Nat} {E : String} {ce : Cell} {q : Addr} {mc ms : Nat} (hout : ∀ x ∈ c.exceptionTable.toList, covers x pc = false) (hlocks : meth.locks = false) (hcell : H[q]? = some ce) (hv : ce.vm = .none) (hcl : s.vm.findClass E = some ce.cls)
    (hx : ∀ t : State, t.heap = H → s.WarmedH t.vm → XC q E s t) (hf : ∀ z ∈ locs, free z.base) (hc : cells ≤ mc) (hs : slots ≤ ms) :
    vx_W p l e R s m args below meth c H locs cells slots (vx_MQ below Qc XC args s mc ms free) (F0 m pc ls rest) q := by
  intro T hT X
  obtain ⟨st1, hrun, hend, hW, hsm⟩ := X.leaveThrown q (g := F0 m pc ls rest) rfl rfl rfl hout hlocks
  have hcell9 : (T.setFrames (.throwing q :: below)).heap[q]? = some ce := by
    show T.heap[q]? = some ce
    rw [hT]; exact hcell
  exact ⟨_, st1, .threw q, hrun, hend, Or.inr ⟨q, rfl, E, ce, locs, hx _ hT hW, hcell9, hv, hcl, hW, hsm.mono hc hs, hf⟩⟩
theorem xe_out (C : CtxOk d x cc own) {l : Launch} {w : WP} {rm : Room} {maxL : Nat} {ret : Option FieldType} {rv : Int → Option Value} {ok : Int → Prop} {Q : Int → S → Prop} {E : S → Prop} (B : BodyOk d x l w rm maxL ret rv ok Q E) (hn : NoH x) {T : u_T} {N : Nat} (hc : (dCl d)[1]? = some (dStop d, T, N)) (he : E σ) : XE d x σ pc lv := by
  intro H locs ls rest hw hv
  obtain ⟨ce, c1, c2, c3⟩ := hw.stop C hc
  show vx_W _ _ _ _ _ _ _ _ _ _ _ _ _ _ (xQ x) _ _
  rw [B.2.2.2.2.2]
  exact vy_out (fun z hz => (hn z hz).elim) C.lk c1 c2 c3 (fun t ht hW => ⟨⟨σ, rfl, rfl, he, hw.wd C ht hW⟩, hw.2.2.1.F ht⟩) hw.2.2.1.2.2 (Nat.le_refl _) (Nat.le_refl _)
/-- a throw of the Stop -/
theorem xj_throw (C : CtxOk d x cc own) (hd : decode cc pc = .ok (.athrow, 1)) (h : XE d x σ pc lv) : XJ d x σ pc lv (.ref (wHs (xW x)) :: st) := fun H locs ls hw hv => vx_athrow C.ex C.by hd (h H locs ls st hw hv)
theorem XPc.blind {w : WP} {As : List Value} {sz : Nat} : FrameBlind (XPc d w As σ sz) := by
  intro a U g mk h
  obtain ⟨h1, h2, h3, hP, hD, hC, hX⟩ := h
  exact ⟨h1, h2, h3, hP, hD, hC, XT.same (V := U.calling g mk a) rfl hX⟩
theorem XW.pre {H : Heap} {locs : List Loc} (C : CtxOk d x cc own) (hw : XW d x σ H locs) {As : List Value} {U : State} (hU : U.heap = H) (hW : (xS x).WarmedH U.vm) : XPc d (xW x) As σ H.size As.toArray U := by
  have hA : ∀ q, va_A (gws d (xW x) σ) H.size q → xA x q := by
    rintro q (⟨k, e, h⟩ | h)
    · exact hw.2.1.2 k _ h
    · exact C.ha q (Nat.le_trans hw.2.2.1.1 h)
  obtain ⟨h1, h2, h3, h4⟩ := hw.wd C hU hW
  exact ⟨rfl, by rw [hU], C.tf, h1, h2, h3, XT.narrow hA h4⟩
theorem x_call {y : MethodName} {ws : List Cond} {rm : Room} {As rest st0 : List Value} {a : Array Value} {H : Heap} {locs : List Loc} {ls : Array Slot} {rv : Int → Option Value} {ok : Int → Prop} {Q : Int → S → Prop} {E : S → Prop} (C : CtxOk d x cc own) (hw : XW d x σ H locs) (hl : lv_has ls (xN x) lv)
    (hr : vx_Run (xP x) (xL x) (xE x) (xR x) (xS x) (xM x) (xAr x) (xB x) (xMe x) (xC x) H locs 0 0 0 0 (F0 (xM x) pc ls st0) rest (XQ d (xW x) rv ok Q (va_A (gws d (xW x) σ) H.size) a) (XX d (xW x) E (va_A (gws d (xW x) σ) H.size)) (va_A (gws d (xW x) σ) H.size))
    (kq : ∀ (r : Int) (σ' : S), ok r → Q r σ' → XJ d x σ' (pc + 3) lv ((rv r).toList ++ rest)) (ke : ∀ σ' : S, E σ' → XE d x σ' pc lv) : XG x H locs (F0 (xM x) pc ls st0) := by
  have hA : ∀ q, va_A (gws d (xW x) σ) H.size q → xA x q := by
    rintro q (⟨k, e, h⟩ | h)
    · exact hw.2.1.2 k _ h
    · exact C.ha q (Nat.le_trans hw.2.2.1.1 h)
  intro T hT X
  rcases hr T hT X with ⟨v, st₀, t, T', L, h0, X', hL, e1, e2, ⟨⟨r, u, hv, hok, hq, hP, hD, hC, hX⟩, hF⟩, stp⟩ | ⟨q, st₀, t, T', L, En, ce, h0, X', hL, e1, e2, ⟨⟨u, hqs, hEn, he, hP, hD, hC, hX⟩, hF⟩, hce, hcv, hcl, stp⟩
  · obtain ⟨k1, k2, k3⟩ := vx_keep h0 e1 hw.2.2.1 (fun q _ h => hA q h) hA hL hF
    cases hv
    obtain ⟨t2, a2, b2⟩ := kq r u hok hq T'.heap (locs ++ L) ls ⟨by rw [e1]; exact hP, gws_D u hw.2.1, k3, hC⟩ hl T' rfl X'
    exact ⟨t2, stp t2 a2, b2⟩
  · obtain ⟨k1, k2, k3⟩ := vx_keep h0 e1 hw.2.2.1 (fun q _ h => hA q h) hA hL hF
    subst hqs
    obtain ⟨t2, a2, b2⟩ := ke u he T'.heap (locs ++ L) ls rest ⟨by rw [e1]; exact hP, gws_D u hw.2.1, k3, hC⟩ hl T' rfl X'
    exact ⟨t2, stp.trans a2, b2⟩
theorem xj_callV {Cn : String} {T : u_T} {N index n : Nat} {y : MethodName} {bytes : ByteArray} {maxL : Nat} {ret : Option FieldType} {ws : List Cond} {rm : Room} {rv : Int → Option Value} {ok : Int → Prop} {Q : Int → S → Prop} {E : S → Prop} (As rest : List Value) (C : CtxOk d x cc own) (hc : (dCl d)[0]? = some (Cn, T, N))
    (hM : XMet d (xL x) y ws rm (xW x) (.ref (wH0 (xW x)) :: As) σ rv ok Q E) (cw : CallW (xR x) (xS x) (xAr x) own Cn index y bytes maxL ret ws rm 0 0 n) (hn : As.length = n) (hst : st = As.reverse ++ .ref (wH0 (xW x)) :: rest) (hW : (rest.map fun v => v.category).sum ≤ 8) (hd : decode cc pc = .ok (.invokevirtual index, 3))
    (kq : ∀ (r : Int) (σ' : S), ok r → Q r σ' → XJ d x σ' (pc + 3) lv ((rv r).toList ++ rest)) (ke : ∀ σ' : S, E σ' → XE d x σ' pc lv) : XJ d x σ pc lv st := by
  intro H locs ls hw hv
  subst hst
  refine x_call (y := y) (ws := ws) (rm := rm) (As := .ref (wH0 (xW x)) :: As) C hw hv (vx_runV (b := wH0 (xW x)) (As := As) ⟨C.ex, C.by, C.ml, C.ow, C.ts⟩ (hM H.size) cw ⟨XPc.blind, va_recv C.xt.1 hw.1 hc (gws_0 _ _ _), fun U hU hW => hw.pre C hU hW⟩ rfl hn hv.1 rfl (lv_room hW) hd ⟨Nat.zero_le _, Nat.zero_le _⟩) kq ke
theorem xj_callS {index n : Nat} {y : MethodName} {bytes : ByteArray} {maxL : Nat} {ret : Option FieldType} {ws : List Cond} {rm : Room} {rv : Int → Option Value} {ok : Int → Prop} {Q : Int → S → Prop} {E : S → Prop} (As rest : List Value) (C : CtxOk d x cc own)
    (hM : XMet d (xL x) y ws rm (xW x) As σ rv ok Q E) (cw : CallB (xR x) (xS x) (xAr x) own index y bytes maxL ret ws rm 0 0 n ∧ (Cond.static y).before (xAr x) (xS x) = true) (hn : As.length = n) (hst : st = As.reverse ++ rest) (hW : (rest.map fun v => v.category).sum ≤ 8) (hd : decode cc pc = .ok (.invokestatic index, 3))
    (kq : ∀ (r : Int) (σ' : S), ok r → Q r σ' → XJ d x σ' (pc + 3) lv ((rv r).toList ++ rest)) (ke : ∀ σ' : S, E σ' → XE d x σ' pc lv) : XJ d x σ pc lv st := by
  intro H locs ls hw hv
  subst hst
  exact x_call (y := y) (ws := ws) (rm := rm) (As := As) C hw hv (vx_runS (As := As) ⟨C.ex, C.by, C.ml, C.ow, C.ts⟩ (hM H.size) cw ⟨XPc.blind, fun U hU hW => hw.pre C hU hW⟩ rfl hn hv.1 rfl (lv_room hW) hd ⟨Nat.zero_le _, Nat.zero_le _⟩) kq ke
end

/-! members of the JDK that the classes call -/
def bA1 (a : Int) : Int := w32 (a - bAnd (bUsh a 1) 1431655765)
def bA2 (a : Int) : Int := w32 (bAnd a 858993459 + bAnd (bUsh a 2) 858993459)
def bA3 (a : Int) : Int := bAnd (w32 (a + bUsh a 4)) 252645135
def bA4 (a : Int) : Int := w32 (a + bUsh a 8)
def bA5 (a : Int) : Int := w32 (a + bUsh a 16)
def bCnt (a : Int) : Int := bAnd (bA5 (bA4 (bA3 (bA2 (bA1 a))))) 63
def sLnX (t : Nat) : Int := ((slX.getD t 0 : Nat) : Int)
def sChX (t : Nat) (k : Int) : Int := ((sbX.getD t []).getD k.toNat 0).toInt
def sLnT (t : Nat) : Int := ((slT.getD t 0 : Nat) : Int)
def sChT (t : Nat) (k : Int) : Int := ((sbT.getD t []).getD k.toNat 0).toInt
theorem slX_all : ∀ v ∈ slX, v < 100 := by decide +kernel
theorem slT_all : ∀ v ∈ slT, v < 100 := by decide +kernel
theorem getD_lt {l : List Nat} (h : ∀ v ∈ l, v < 100) (t : Nat) : l.getD t 0 < 100 := by
  rw [List.getD_eq_getElem?_getD]
  cases e : l[t]? with
  | none => decide
  | some v => exact h v (List.mem_of_getElem? e)
theorem can_sLnX (t : Nat) : can (sLnX t) := by have := getD_lt slX_all t; unfold can sLnX; omega
theorem can_sLnT (t : Nat) : can (sLnT t) := by have := getD_lt slT_all t; unfold can sLnT; omega
theorem can_sChX (t : Nat) (k : Int) : can (sChX t k) := can_t _
theorem can_sChT (t : Nat) (k : Int) : can (sChT t k) := can_t _
section
variable {d : DS} {x : CX} {cc : ByteArray} {own : String} {σ : S} {pc : Nat} {lv : List (Nat × Value)} {st : List Value}
/-- the texts' lengths and bytes are as they should be -/
def StrOk (d : DS) : Prop := (∀ t, t < dNS d → (dSlen d).getD t 0 = ((dSbyt d).getD t []).length ∧ (dSlen d).getD t 0 < 100) ∧ ∀ t, t < dNS d → ∀ b ∈ (dSbyt d).getD t [], ((b &&& 255).toUInt32 % 65536).toInt32 = b ∧ narrow .char (.int b) = .int b
theorem strX : StrOk dX := ⟨by decide +kernel, by decide +kernel⟩
theorem strT : StrOk dT := ⟨by decide +kernel, by decide +kernel⟩
theorem xj_gV (C : CtxOk d x cc own) {t index : Nat} (ht : t < dNS d) (hl : Cond.fieldLink own index "java/lang/String" "value" "[B" ∈ lw_all) (hd : decode cc pc = .ok (.getfield index, 3)) (h : XJ d x σ (pc + 3) lv (.ref (wV (xW x) t) :: st)) : XJ d x σ pc lv (.ref (wK (xW x) t) :: st) := fun H locs ls hw hv => vk_getf C.ex C.by (C.xt.2.1.1 t ht).2.2.1 hw.2.2.1 C.ow (C.ts _ hl) (fun _ h9 => h9) hd (h H locs ls hw hv)
theorem xj_gC (C : CtxOk d x cc own) {t index : Nat} (ht : t < dNS d) (hl : Cond.fieldLink own index "java/lang/String" "coder" "B" ∈ lw_all) (hd : decode cc pc = .ok (.getfield index, 3)) (h : XJ d x σ (pc + 3) lv (iv 0 :: st)) : XJ d x σ pc lv (.ref (wK (xW x) t) :: st) := fun H locs ls hw hv => vk_getf C.ex C.by (C.xt.2.1.1 t ht).2.1 hw.2.2.1 C.ow (C.ts _ hl) (fun _ h9 => h9) hd (h H locs ls hw hv)
theorem xj_gS (C : CtxOk d x cc own) {index : Nat} (hl : Cond.fieldLink own index "java/lang/String" "COMPACT_STRINGS" "Z" ∈ lw_all) (hd : decode cc pc = .ok (.getstatic index, 3)) (h : XJ d x σ (pc + 3) lv (iv 1 :: st)) : XJ d x σ pc lv st := fun H locs ls hw hv => va_gets C.ex C.by C.xt.2.2.2.2.2.1 hw.2.2.1 C.ow (C.ts _ hl) (fun _ h9 => h9) hd (h H locs ls hw hv)
theorem xj_gF (C : CtxOk d x cc own) {index : Nat} (hl : Cond.fieldLink own index "jdk/internal/util/Preconditions" "SIOOBE_FORMATTER" "Ljava/util/function/BiFunction;" ∈ lw_all) (hd : decode cc pc = .ok (.getstatic index, 3)) (h : ∀ v : Value, (v = .null ∨ ∃ t0, v = .ref t0) → XJ d x σ (pc + 3) lv (v :: st)) : XJ d x σ pc lv st := by
  intro H locs ls hw hv
  rcases C.xt.2.2.2.2.2.2 with hz | ⟨t0, hz⟩
  · exact va_gets C.ex C.by hz hw.2.2.1 C.ow (C.ts _ hl) (fun _ h9 => h9) hd (h _ (Or.inl rfl) H locs ls hw hv)
  · exact va_gets C.ex C.by hz hw.2.2.1 C.ow (C.ts _ hl) (fun _ h9 => h9) hd (h _ (Or.inr ⟨_, rfl⟩) H locs ls hw hv)
theorem xj_alV (C : CtxOk d x cc own) (hS : StrOk d) {t : Nat} (ht : t < dNS d) (hd : decode cc pc = .ok (.arraylength, 1)) (h : XJ d x σ (pc + 1) lv (iv (((dSlen d).getD t 0 : Nat) : Int) :: st)) : XJ d x σ pc lv (.ref (wV (xW x) t) :: st) := fun H locs ls hw hv => va_tlen C.ex C.by (C.xt.2.1.1 t ht).2.2.2 hw.2.2.1 (by
    have := (hS.1 t ht).2
    rw [← Int32.toInt_inj, t_i32 (by unfold can; omega), Int32.toInt_ofNat_of_lt (by omega)]) hd (h H locs ls hw hv)
/-- the byte at k -/
def sB (d : DS) (t : Nat) (k : Int) : Int := (((dSbyt d).getD t []).getD k.toNat 0).toInt
theorem xj_bdV (C : CtxOk d x cc own) (hS : StrOk d) {t : Nat} {i : Int} (ht : t < dNS d) (hi : can i) (hb : 0 ≤ i ∧ i < (((dSlen d).getD t 0 : Nat) : Int)) (hd : decode cc pc = .ok (.baload, 1)) (h : XJ d x σ (pc + 1) lv (iv (sB d t i) :: st)) : XJ d x σ pc lv (iv i :: .ref (wV (xW x) t) :: st) := by
  intro H locs ls hw hv
  refine va_tb C.ex C.by (C.xt.2.1.1 t ht).2.2.2 hw.2.2.1 (vp_in_i hi hb) (v := iv (sB d t i)) ?_ hd (h H locs ls hw hv)
  rw [clamp_i hi hb.1]
  unfold iv sB
  rw [i32_t]
theorem sB_in (hS : StrOk d) {t : Nat} {i : Int} (ht : t < dNS d) (hb : 0 ≤ i ∧ i < (((dSlen d).getD t 0 : Nat) : Int)) : ((i32 (sB d t i) &&& 255).toUInt32 % 65536).toInt32 = i32 (sB d t i) ∧ narrow .char (iv (sB d t i)) = iv (sB d t i) := by
  have h1 := (hS.1 t ht).1
  have hm : ((dSbyt d).getD t []).getD i.toNat 0 ∈ (dSbyt d).getD t [] := by
    generalize (dSbyt d).getD t [] = L at h1 ⊢
    have hlt : i.toNat < L.length := by omega
    rw [List.getD_eq_getElem?_getD, List.getElem?_eq_getElem hlt]
    exact List.getElem_mem hlt
  have h2 := hS.2 t ht _ hm
  unfold iv sB
  rw [i32_t]
  exact h2
theorem xj_i2c (C : CtxOk d x cc own) {a v : Int} (hv : ((i32 a).toUInt32 % 65536).toInt32 = i32 v) (hd : decode cc pc = .ok (.i2c, 1)) (h : XJ d x σ (pc + 1) lv (iv v :: st)) : XJ d x σ pc lv (iv a :: st) := fun H locs ls hw hl => lv_i2c C.ex C.by hd hv (h H locs ls hw hl)
theorem xj_tret (C : CtxOk d x cc own) {l : Launch} {w : WP} {rm : Room} {maxL : Nat} {ty : FieldType} {ok : Int → Prop} {Q : Int → S → Prop} {E : S → Prop} (B : BodyOk d x l w rm maxL (some ty) rvI ok Q E) {v : Int} (hn : narrow ty (iv v) = iv v) (hd : decode cc pc = .ok (.ireturn, 1)) (hok : ok v) (hq : Q v σ) : XJ d x σ pc lv [iv v] := by
  intro H locs ls hw hv
  show W _ _ _ _ _ _ _ _ _ _ _ _ _ _ (xQ x) _
  rw [B.2.2.2.2.2]
  exact vx_ret (W.zret C.ex C.by B.2.2.2.2.1 hn (fun t ht hW => ⟨⟨v, σ, rfl, hok, hq, hw.wd C ht hW⟩, hw.2.2.1.F ht⟩) hw.2.2.1.2.2 hd (hlocks := C.lk))
/-- a call on a text -/
theorem xj_callK {t index n : Nat} {y : MethodName} {bytes : ByteArray} {maxL : Nat} {ret : Option FieldType} {ws : List Cond} {rm : Room} {rv : Int → Option Value} {ok : Int → Prop} {Q : Int → S → Prop} {E : S → Prop} (As rest : List Value) (C : CtxOk d x cc own) (ht : t < dNS d)
    (hM : XMet d (xL x) y ws rm (xW x) (.ref (wK (xW x) t) :: As) σ rv ok Q E) (cw : CallW (xR x) (xS x) (xAr x) own "java/lang/String" index y bytes maxL ret ws rm 0 0 n) (hn : As.length = n) (hst : st = As.reverse ++ .ref (wK (xW x) t) :: rest) (hW : (rest.map fun v => v.category).sum ≤ 8) (hd : decode cc pc = .ok (.invokevirtual index, 3))
    (kq : ∀ (r : Int) (σ' : S), ok r → Q r σ' → XJ d x σ' (pc + 3) lv ((rv r).toList ++ rest)) (ke : ∀ σ' : S, E σ' → XE d x σ' pc lv) : XJ d x σ pc lv st := by
  intro H locs ls hw hv
  subst hst
  exact x_call (y := y) (ws := ws) (rm := rm) (As := .ref (wK (xW x) t) :: As) C hw hv (vx_runV (b := wK (xW x) t) (As := As) ⟨C.ex, C.by, C.ml, C.ow, C.ts⟩ (hM H.size) cw ⟨XPc.blind, vk_recv C.xt.2.1 ht hw.2.2.1, fun U hU hW => hw.pre C hU hW⟩ rfl hn hv.1 rfl (lv_room hW) hd ⟨Nat.zero_le _, Nat.zero_le _⟩) kq ke
end
section
variable {d : DS} {l : Launch} {w : WP} {σ : S} {Q : Int → S → Prop}
theorem cj_coder {t : Nat} (ht : t < dNS d) (hq : Q 0 σ) : XMet d l yJ3_coder (ws_ yJ3_coder cJ3_coder 1 (some .byte)) (rm_ 0 0) w [.ref (wK w t)] σ rvI can Q (fun _ => False) := by
  refine x_enter (by decide) (Nat.le_of_ble_eq_true rfl) ?_
  intro x C B hn
  have C : CtxOk d x cJ3_coder RJ3 := C
  obtain rfl : xW x = w := B.2.1
  show XJ d x σ 0 [(0, .ref (wK (xW x) t))] []
  refine xj_gS C q413 dJ3_coder_0 ?_
  refine xj_ifeq (tgt := 13) C (by decide) dJ3_coder_3 (by decide) (fun e => absurd e (by decide)) (fun e => ?_)
  refine xj_aload_n C 0 dJ3_coder_6 rfl ?_
  refine xj_gC C ht q3541 dJ3_coder_7 ?_
  refine xj_goto (tgt := 14) C dJ3_coder_10 (by decide) ?_
  exact xj_tret C B (by decide) dJ3_coder_14 (by decide) hq
theorem cj_isLatin1 {t : Nat} (ht : t < dNS d) (hq : Q 1 σ) : XMet d l yJ3_isLatin1 (ws_ yJ3_isLatin1 cJ3_isLatin1 1 (some .boolean)) (rm_ 0 0) w [.ref (wK w t)] σ rvI can Q (fun _ => False) := by
  refine x_enter (by decide) (Nat.le_of_ble_eq_true rfl) ?_
  intro x C B hn
  have C : CtxOk d x cJ3_isLatin1 RJ3 := C
  obtain rfl : xW x = w := B.2.1
  show XJ d x σ 0 [(0, .ref (wK (xW x) t))] []
  refine xj_gS C q413 dJ3_isLatin1_0 ?_
  refine xj_ifeq (tgt := 17) C (by decide) dJ3_isLatin1_3 (by decide) (fun e => absurd e (by decide)) (fun e => ?_)
  refine xj_aload_n C 0 dJ3_isLatin1_6 rfl ?_
  refine xj_gC C ht q3541 dJ3_isLatin1_7 ?_
  refine xj_ifne (tgt := 17) C (by decide) dJ3_isLatin1_10 (by decide) (fun e => absurd rfl e) (fun e => ?_)
  refine xj_iconst C dJ3_isLatin1_13 ?_
  refine xj_goto (tgt := 18) C dJ3_isLatin1_14 (by decide) ?_
  exact xj_tret C B (by decide) dJ3_isLatin1_18 (by decide) hq
theorem shr_0 {v : Int} (h : can v) : bShr v 0 = v := by
  unfold bShr
  rw [show i32 0 &&& 31 = (0 : Int32) &&& 31 from rfl, sb_shr0, t_i32 h]
theorem cj_length (hS : StrOk d) {t : Nat} (ht : t < dNS d) (hq : Q (((dSlen d).getD t 0 : Nat) : Int) σ) : XMet d l yJ3_length (ws_ yJ3_length cJ3_length 1 (some .int)) (rm_ 1 20) w [.ref (wK w t)] σ rvI can Q (fun _ => False) := by
  refine x_enter (by decide) (Nat.le_of_ble_eq_true rfl) ?_
  intro x C B hn
  have C : CtxOk d x cJ3_length RJ3 := C
  have hR : xR x = rm_ 1 20 := B.2.2.1
  obtain rfl : xW x = w := B.2.1
  obtain rfl : xL x = l := B.1
  have hc : can (((dSlen d).getD t 0 : Nat) : Int) := by have := (hS.1 t ht).2; unfold can; omega
  show XJ d x σ 0 [(0, .ref (wK (xW x) t))] []
  refine xj_aload_n C 0 dJ3_length_0 rfl ?_
  refine xj_gV C ht q3540 dJ3_length_1 ?_
  refine xj_alV C hS ht dJ3_length_4 ?_
  refine xj_aload_n C 0 dJ3_length_5 rfl ?_
  refine xj_callK [] [iv (((dSlen d).getD t 0 : Nat) : Int)] C ht (cj_coder (Q := fun r σ' => r = 0 ∧ Q (((dSlen d).getD t 0 : Nat) : Int) σ') ht ⟨rfl, hq⟩) (cwV 0 C.ts (lw_V q409 q410 q411 q347 q412) rfl rfl rfl (by decide +kernel) (by rw [hR]; exact ⟨Nat.le_of_ble_eq_true rfl, Nat.le_of_ble_eq_true rfl⟩)) rfl rfl (Nat.le_of_ble_eq_true rfl) dJ3_length_6 (fun r σ' _ h => ?_) (fun _ h => h.elim)
  obtain ⟨rfl, h⟩ := h
  refine xj_ishr (a := (((dSlen d).getD t 0 : Nat) : Int)) (b := 0) C dJ3_length_9 ?_
  rw [shr_0 hc]
  exact xj_iret C B dJ3_length_10 hc h
theorem cj_pre {i n : Int} {v : Value} (hv0 : v = .null ∨ ∃ t0, v = .ref t0) (ci : can i) (cn : can n) (h1 : 0 ≤ i) (h2 : i < n) (hq : Q i σ) : XMet d l yJ5_checkIndex (ws_ yJ5_checkIndex cJ5_checkIndex 3 (some .int)) (rm_ 0 0) w [iv i, iv n, v] σ rvI can Q (fun _ => False) := by
  refine x_enter (by decide) (by rcases hv0 with rfl | ⟨t0, rfl⟩ <;> exact Nat.le_of_ble_eq_true rfl) ?_
  intro x C B hn
  have C : CtxOk d x cJ5_checkIndex RJ5 := C
  show XJ d x σ 0 [(0, iv i), (1, iv n), (2, v)] []
  refine xj_iload_n C 0 dJ5_checkIndex_0 rfl ?_
  refine xj_iflt (tgt := 9) C ci dJ5_checkIndex_1 (by decide) (fun e => absurd e (by omega)) (fun e => ?_)
  refine xj_iload_n C 0 dJ5_checkIndex_4 rfl ?_
  refine xj_iload_n C 1 dJ5_checkIndex_5 rfl ?_
  refine xj_icmplt (tgt := 16) C ci cn dJ5_checkIndex_6 (by decide) (fun e => ?_) (fun e => absurd h2 e)
  refine xj_iload_n C 0 dJ5_checkIndex_16 rfl ?_
  exact xj_iret C B dJ5_checkIndex_17 ci hq
theorem cj_chk {i n : Int} (ci : can i) (cn : can n) (h1 : 0 ≤ i) (h2 : i < n) (hq : Q 0 σ) : XMet d l yJ3_checkIndex (ws_ yJ3_checkIndex cJ3_checkIndex 2 none) (rm_ 1 22) w [iv i, iv n] σ rvV (fun _ => True) Q (fun _ => False) := by
  refine x_enter (by decide) (Nat.le_of_ble_eq_true rfl) ?_
  intro x C B hn
  have C : CtxOk d x cJ3_checkIndex RJ3 := C
  have hR : xR x = rm_ 1 22 := B.2.2.1
  obtain rfl : xW x = w := B.2.1
  obtain rfl : xL x = l := B.1
  show XJ d x σ 0 [(0, iv i), (1, iv n)] []
  refine xj_iload_n C 0 dJ3_checkIndex_0 rfl ?_
  refine xj_iload_n C 1 dJ3_checkIndex_1 rfl ?_
  refine xj_gF C q429 dJ3_checkIndex_2 (fun v hv0 => ?_)
  refine xj_callS [iv i, iv n, v] [] C (cj_pre (Q := fun r σ' => Q 0 σ') hv0 ci cn h1 h2 hq) (va_cwS 3 C.ts (lw_S q431 q432 q349 q433) rfl rfl rfl (by decide +kernel) (by rw [hR]; exact ⟨Nat.le_of_ble_eq_true rfl, Nat.le_of_ble_eq_true rfl⟩)) rfl rfl (Nat.le_of_ble_eq_true rfl) dJ3_checkIndex_5 (fun r σ' _ h => ?_) (fun _ h => h.elim)
  refine xj_pop (v := iv r) C dJ3_checkIndex_8 rfl ?_
  exact xj_vret C B dJ3_checkIndex_9 trivial h
theorem cj_latin (hS : StrOk d) {t : Nat} {i : Int} (ht : t < dNS d) (ci : can i) (hb : 0 ≤ i ∧ i < (((dSlen d).getD t 0 : Nat) : Int)) (hq : Q (sB d t i) σ) : XMet d l yJ4_charAt (ws_ yJ4_charAt cJ4_charAt 2 (some .char)) (rm_ 2 43) w [.ref (wV w t), iv i] σ rvI can Q (fun _ => False) := by
  refine x_enter (by decide) (Nat.le_of_ble_eq_true rfl) ?_
  intro x C B hn
  have C : CtxOk d x cJ4_charAt RJ4 := C
  have hR : xR x = rm_ 2 43 := B.2.2.1
  obtain rfl : xW x = w := B.2.1
  obtain rfl : xL x = l := B.1
  have hc : can (((dSlen d).getD t 0 : Nat) : Int) := by have := (hS.1 t ht).2; unfold can; omega
  show XJ d x σ 0 [(0, .ref (wV (xW x) t)), (1, iv i)] []
  refine xj_iload_n C 1 dJ4_charAt_0 rfl ?_
  refine xj_aload_n C 0 dJ4_charAt_1 rfl ?_
  refine xj_alV C hS ht dJ4_charAt_2 ?_
  refine xj_callS [iv i, iv (((dSlen d).getD t 0 : Nat) : Int)] [] C (cj_chk (Q := fun r σ' => Q (sB d t i) σ') ci hc hb.1 hb.2 hq) (va_cwS 2 C.ts (lw_S q426 q427 q347 q428) rfl rfl rfl (by decide +kernel) (by rw [hR]; exact ⟨Nat.le_of_ble_eq_true rfl, Nat.le_of_ble_eq_true rfl⟩)) rfl rfl (Nat.le_of_ble_eq_true rfl) dJ4_charAt_3 (fun r σ' _ h => ?_) (fun _ h => h.elim)
  show XJ d x σ' 6 [(0, .ref (wV (xW x) t)), (1, iv i)] []
  refine xj_aload_n C 0 dJ4_charAt_6 rfl ?_
  refine xj_iload_n C 1 dJ4_charAt_7 rfl ?_
  refine xj_bdV C hS ht ci hb dJ4_charAt_8 ?_
  refine xj_sipush C dJ4_charAt_9 (by decide) ?_
  refine xj_iand C dJ4_charAt_12 ?_
  refine xj_i2c (v := sB d t i) C (by unfold bAnd; rw [i32_t]; exact (sB_in hS ht hb).1) dJ4_charAt_13 ?_
  exact xj_tret C B (sB_in hS ht hb).2 dJ4_charAt_14 (can_t _) h
theorem cj_charAt (hS : StrOk d) {t : Nat} {i : Int} (ht : t < dNS d) (ci : can i) (hb : 0 ≤ i ∧ i < (((dSlen d).getD t 0 : Nat) : Int)) (hq : Q (sB d t i) σ) : XMet d l yJ3_charAt (ws_ yJ3_charAt cJ3_charAt 2 (some .char)) (rm_ 3 64) w [.ref (wK w t), iv i] σ rvI can Q (fun _ => False) := by
  refine x_enter (by decide) (Nat.le_of_ble_eq_true rfl) ?_
  intro x C B hn
  have C : CtxOk d x cJ3_charAt RJ3 := C
  have hR : xR x = rm_ 3 64 := B.2.2.1
  obtain rfl : xW x = w := B.2.1
  obtain rfl : xL x = l := B.1
  show XJ d x σ 0 [(0, .ref (wK (xW x) t)), (1, iv i)] []
  refine xj_aload_n C 0 dJ3_charAt_0 rfl ?_
  refine xj_callK [] [] C ht (cj_isLatin1 (Q := fun r σ' => r = 1 ∧ Q (sB d t i) σ') ht ⟨rfl, hq⟩) (cwV 0 C.ts (lw_V q419 q420 q421 q347 q422) rfl rfl rfl (by decide +kernel) (by rw [hR]; exact ⟨Nat.le_of_ble_eq_true rfl, Nat.le_of_ble_eq_true rfl⟩)) rfl rfl (Nat.le_of_ble_eq_true rfl) dJ3_charAt_1 (fun r σ' _ h => ?_) (fun _ h => h.elim)
  obtain ⟨rfl, h⟩ := h
  show XJ d x σ' 4 [(0, .ref (wK (xW x) t)), (1, iv i)] [iv 1]
  refine xj_ifeq (tgt := 16) C (by decide) dJ3_charAt_4 (by decide) (fun e => absurd e (by decide)) (fun e => ?_)
  refine xj_aload_n C 0 dJ3_charAt_7 rfl ?_
  refine xj_gV C ht q3540 dJ3_charAt_8 ?_
  refine xj_iload_n C 1 dJ3_charAt_11 rfl ?_
  refine xj_callS [.ref (wV (xW x) t), iv i] [] C (cj_latin (Q := fun r σ' => r = sB d t i ∧ Q (sB d t i) σ') hS ht ci hb ⟨rfl, h⟩) (va_cwS 2 C.ts (lw_S q423 q424 q348 q425) rfl rfl rfl (by decide +kernel) (by rw [hR]; exact ⟨Nat.le_of_ble_eq_true rfl, Nat.le_of_ble_eq_true rfl⟩)) rfl rfl (Nat.le_of_ble_eq_true rfl) dJ3_charAt_12 (fun r σ2 _ h => ?_) (fun _ h => h.elim)
  obtain ⟨rfl, h⟩ := h
  show XJ d x σ2 15 [(0, .ref (wK (xW x) t)), (1, iv i)] [iv (sB d t i)]
  exact xj_tret C B (sB_in hS ht hb).2 dJ3_charAt_15 (can_t _) h
theorem cj_bitCount {a : Int} (hq : Q (bCnt a) σ) : XMet d l yJ8_bitCount (ws_ yJ8_bitCount cJ8_bitCount 1 (some .int)) (rm_ 0 0) w [iv a] σ rvI can Q (fun _ => False) := by
  refine x_enter (by decide) (Nat.le_of_ble_eq_true rfl) ?_
  intro x C B hn
  have C : CtxOk d x cJ8_bitCount RJ8 := C
  have hN : xN x = 1 := B.2.2.2.1
  show XJ d x σ 0 [(0, iv a)] []
  refine xj_iload_n C 0 dJ8_bitCount_0 rfl ?_
  refine xj_iload_n C 0 dJ8_bitCount_1 rfl ?_
  refine xj_iconst C dJ8_bitCount_2 ?_
  refine xj_iushr C dJ8_bitCount_3 ?_
  refine xj_ldcw C 1431655765 q1006 dJ8_bitCount_4 rfl ?_
  refine xj_iand C dJ8_bitCount_7 ?_
  refine xj_isub C dJ8_bitCount_8 ?_
  refine xj_istore_n C (lv' := [(0, iv (bA1 a))]) dJ8_bitCount_9 (by rw [hN]; decide) rfl ?_
  refine xj_iload_n C 0 dJ8_bitCount_10 rfl ?_
  refine xj_ldcw C 858993459 q1007 dJ8_bitCount_11 rfl ?_
  refine xj_iand C dJ8_bitCount_14 ?_
  refine xj_iload_n C 0 dJ8_bitCount_15 rfl ?_
  refine xj_iconst C dJ8_bitCount_16 ?_
  refine xj_iushr C dJ8_bitCount_17 ?_
  refine xj_ldcw C 858993459 q1007 dJ8_bitCount_18 rfl ?_
  refine xj_iand C dJ8_bitCount_21 ?_
  refine xj_iadd C dJ8_bitCount_22 ?_
  refine xj_istore_n C (lv' := [(0, iv (bA2 (bA1 a)))]) dJ8_bitCount_23 (by rw [hN]; decide) rfl ?_
  refine xj_iload_n C 0 dJ8_bitCount_24 rfl ?_
  refine xj_iload_n C 0 dJ8_bitCount_25 rfl ?_
  refine xj_iconst C dJ8_bitCount_26 ?_
  refine xj_iushr C dJ8_bitCount_27 ?_
  refine xj_iadd C dJ8_bitCount_28 ?_
  refine xj_ldcw C 252645135 q1008 dJ8_bitCount_29 rfl ?_
  refine xj_iand C dJ8_bitCount_32 ?_
  refine xj_istore_n C (lv' := [(0, iv (bA3 (bA2 (bA1 a))))]) dJ8_bitCount_33 (by rw [hN]; decide) rfl ?_
  refine xj_iload_n C 0 dJ8_bitCount_34 rfl ?_
  refine xj_iload_n C 0 dJ8_bitCount_35 rfl ?_
  refine xj_bipush C dJ8_bitCount_36 (by decide) ?_
  refine xj_iushr C dJ8_bitCount_38 ?_
  refine xj_iadd C dJ8_bitCount_39 ?_
  refine xj_istore_n C (lv' := [(0, iv (bA4 (bA3 (bA2 (bA1 a)))))]) dJ8_bitCount_40 (by rw [hN]; decide) rfl ?_
  refine xj_iload_n C 0 dJ8_bitCount_41 rfl ?_
  refine xj_iload_n C 0 dJ8_bitCount_42 rfl ?_
  refine xj_bipush C dJ8_bitCount_43 (by decide) ?_
  refine xj_iushr C dJ8_bitCount_45 ?_
  refine xj_iadd C dJ8_bitCount_46 ?_
  refine xj_istore_n C (lv' := [(0, iv (bA5 (bA4 (bA3 (bA2 (bA1 a))))))]) dJ8_bitCount_47 (by rw [hN]; decide) rfl ?_
  refine xj_iload_n C 0 dJ8_bitCount_48 rfl ?_
  refine xj_bipush C dJ8_bitCount_49 (by decide) ?_
  refine xj_iand C dJ8_bitCount_51 ?_
  exact xj_iret C B dJ8_bitCount_52 (can_t _) hq
end
section
variable {x : CX} {cc : ByteArray} {σ : S} {pc : Nat} {lv : List (Nat × Value)} {st : List Value}
theorem kmX_bitCount (C : CtxOk dX x cc RX0) (h1 : 1 ≤ (xR x).frames) (h2 : 20 ≤ (xR x).locals) {a : Int} (hW : Nat.ble (st.map fun v => v.category).sum 8 = true) (hd : decode cc pc = .ok (.invokestatic 838, 3)) (h : XJ dX x σ (pc + 3) lv (iv (bCnt a) :: st)) : XJ dX x σ pc lv (iv a :: st) :=
  xj_callS [iv a] st C (cj_bitCount (Q := fun r σ1 => r = bCnt a ∧ σ1 = σ) ⟨rfl, rfl⟩) (va_cwS 1 C.ts (lw_S q1003 q1004 q352 q1005) rfl rfl rfl (by decide +kernel) ⟨h1, h2⟩) rfl rfl (Nat.le_of_ble_eq_true hW) hd (fun r σ1 _ q => by obtain ⟨rfl, rfl⟩ := q; exact h) (fun _ h => h.elim)
theorem ksX_length (C : CtxOk dX x cc RX0) (h1 : 2 ≤ (xR x).frames) (h2 : 40 ≤ (xR x).locals) {t : Nat} (ht : t < 33) (hW : Nat.ble (st.map fun v => v.category).sum 8 = true) (hd : decode cc pc = .ok (.invokevirtual 42, 3)) (h : XJ dX x σ (pc + 3) lv (iv (sLnX t) :: st)) : XJ dX x σ pc lv (.ref (wK (xW x) t) :: st) :=
  xj_callK [] st C ht (cj_length (Q := fun r σ1 => r = sLnX t ∧ σ1 = σ) strX ht ⟨rfl, rfl⟩) (cwV 0 C.ts (lw_V q405 q406 q407 q347 q408) rfl rfl rfl (by decide +kernel) ⟨h1, h2⟩) rfl rfl (Nat.le_of_ble_eq_true hW) hd (fun r σ1 _ q => by obtain ⟨rfl, rfl⟩ := q; exact h) (fun _ h => h.elim)
theorem ksX_charAt (C : CtxOk dX x cc RX0) (h1 : 4 ≤ (xR x).frames) (h2 : 85 ≤ (xR x).locals) {t : Nat} {i : Int} (ht : t < 33) (hi : can i) (hb : 0 ≤ i ∧ i < sLnX t) (hW : Nat.ble (st.map fun v => v.category).sum 8 = true) (hd : decode cc pc = .ok (.invokevirtual 48, 3)) (h : XJ dX x σ (pc + 3) lv (iv (sChX t i) :: st)) : XJ dX x σ pc lv (iv i :: .ref (wK (xW x) t) :: st) :=
  xj_callK [iv i] st C ht (cj_charAt (Q := fun r σ1 => r = sChX t i ∧ σ1 = σ) strX ht hi hb ⟨rfl, rfl⟩) (cwV 1 C.ts (lw_V q415 q416 q417 q347 q418) rfl rfl rfl (by decide +kernel) ⟨h1, h2⟩) rfl rfl (Nat.le_of_ble_eq_true hW) hd (fun r σ1 _ q => by obtain ⟨rfl, rfl⟩ := q; exact h) (fun _ h => h.elim)
theorem kmT_bitCount (C : CtxOk dT x cc RX2) (h1 : 1 ≤ (xR x).frames) (h2 : 20 ≤ (xR x).locals) {a : Int} (hW : Nat.ble (st.map fun v => v.category).sum 8 = true) (hd : decode cc pc = .ok (.invokestatic 873, 3)) (h : XJ dT x σ (pc + 3) lv (iv (bCnt a) :: st)) : XJ dT x σ pc lv (iv a :: st) :=
  xj_callS [iv a] st C (cj_bitCount (Q := fun r σ1 => r = bCnt a ∧ σ1 = σ) ⟨rfl, rfl⟩) (va_cwS 1 C.ts (lw_S q3242 q1004 q352 q1005) rfl rfl rfl (by decide +kernel) ⟨h1, h2⟩) rfl rfl (Nat.le_of_ble_eq_true hW) hd (fun r σ1 _ q => by obtain ⟨rfl, rfl⟩ := q; exact h) (fun _ h => h.elim)
theorem ksT_length (C : CtxOk dT x cc RX2) (h1 : 2 ≤ (xR x).frames) (h2 : 40 ≤ (xR x).locals) {t : Nat} (ht : t < 37) (hW : Nat.ble (st.map fun v => v.category).sum 8 = true) (hd : decode cc pc = .ok (.invokevirtual 438, 3)) (h : XJ dT x σ (pc + 3) lv (iv (sLnT t) :: st)) : XJ dT x σ pc lv (.ref (wK (xW x) t) :: st) :=
  xj_callK [] st C ht (cj_length (Q := fun r σ1 => r = sLnT t ∧ σ1 = σ) strT ht ⟨rfl, rfl⟩) (cwV 0 C.ts (lw_V q2756 q406 q407 q347 q408) rfl rfl rfl (by decide +kernel) ⟨h1, h2⟩) rfl rfl (Nat.le_of_ble_eq_true hW) hd (fun r σ1 _ q => by obtain ⟨rfl, rfl⟩ := q; exact h) (fun _ h => h.elim)
theorem ksT_charAt (C : CtxOk dT x cc RX2) (h1 : 4 ≤ (xR x).frames) (h2 : 85 ≤ (xR x).locals) {t : Nat} {i : Int} (ht : t < 37) (hi : can i) (hb : 0 ≤ i ∧ i < sLnT t) (hW : Nat.ble (st.map fun v => v.category).sum 8 = true) (hd : decode cc pc = .ok (.invokevirtual 444, 3)) (h : XJ dT x σ (pc + 3) lv (iv (sChT t i) :: st)) : XJ dT x σ pc lv (iv i :: .ref (wK (xW x) t) :: st) :=
  xj_callK [iv i] st C ht (cj_charAt (Q := fun r σ1 => r = sChT t i ∧ σ1 = σ) strT ht hi hb ⟨rfl, rfl⟩) (cwV 1 C.ts (lw_V q2757 q416 q417 q347 q418) rfl rfl rfl (by decide +kernel) ⟨h1, h2⟩) rfl rfl (Nat.le_of_ble_eq_true hW) hd (fun r σ1 _ q => by obtain ⟨rfl, rfl⟩ := q; exact h) (fun _ h => h.elim)
end

section
variable {d : DS} {x : CX} {cc : ByteArray} {own : String} {σ : S} {pc : Nat} {lv : List (Nat × Value)} {st : List Value}
/-! branches -/
theorem xj_ifeq (C : CtxOk d x cc own) {a : Int} (ha : can a) {off : Int} {tgt : Nat} (hd : decode cc pc = .ok (.ifCond .eq off, 3)) (ht : (pc : Int) + off = (tgt : Int)) (h1 : a = 0 → XJ d x σ tgt lv st) (h2 : ¬ a = 0 → XJ d x σ (pc + 3) lv st) : XJ d x σ pc lv (iv a :: st) := fun H locs ls hw hv => lv_if_eq C.ex C.by hd ht (fun e => h1 ((i32_eq ha (by decide)).mp e) H locs ls hw hv) (fun e => h2 (fun q => e ((i32_eq ha (by decide)).mpr q)) H locs ls hw hv)
theorem xj_ifne (C : CtxOk d x cc own) {a : Int} (ha : can a) {off : Int} {tgt : Nat} (hd : decode cc pc = .ok (.ifCond .ne off, 3)) (ht : (pc : Int) + off = (tgt : Int)) (h1 : ¬ a = 0 → XJ d x σ tgt lv st) (h2 : a = 0 → XJ d x σ (pc + 3) lv st) : XJ d x σ pc lv (iv a :: st) := fun H locs ls hw hv => lv_if_ne C.ex C.by hd ht (fun e => h1 (fun q => e ((i32_eq ha (by decide)).mpr q)) H locs ls hw hv) (fun e => h2 ((i32_eq ha (by decide)).mp e) H locs ls hw hv)
theorem xj_iflt (C : CtxOk d x cc own) {a : Int} (ha : can a) {off : Int} {tgt : Nat} (hd : decode cc pc = .ok (.ifCond .lt off, 3)) (ht : (pc : Int) + off = (tgt : Int)) (h1 : a < 0 → XJ d x σ tgt lv st) (h2 : ¬ a < 0 → XJ d x σ (pc + 3) lv st) : XJ d x σ pc lv (iv a :: st) := fun H locs ls hw hv => lv_if_lt C.ex C.by hd ht (fun e => h1 ((i32_lt ha (b := 0) (by decide)).mp e) H locs ls hw hv) (fun e => h2 (fun q => e ((i32_lt ha (b := 0) (by decide)).mpr q)) H locs ls hw hv)
theorem xj_ifge (C : CtxOk d x cc own) {a : Int} (ha : can a) {off : Int} {tgt : Nat} (hd : decode cc pc = .ok (.ifCond .ge off, 3)) (ht : (pc : Int) + off = (tgt : Int)) (h1 : ¬ a < 0 → XJ d x σ tgt lv st) (h2 : a < 0 → XJ d x σ (pc + 3) lv st) : XJ d x σ pc lv (iv a :: st) := fun H locs ls hw hv => lv_if_ge C.ex C.by hd ht (fun e => h1 (fun q => by have e2 : i32 0 ≤ i32 a := e; have := (i32_le (by decide) ha).mp e2; omega) H locs ls hw hv) (fun e => h2 (Decidable.byContradiction fun q => e ((i32_le (a := 0) (by decide) ha).mpr (by omega))) H locs ls hw hv)
theorem xj_ifgt (C : CtxOk d x cc own) {a : Int} (ha : can a) {off : Int} {tgt : Nat} (hd : decode cc pc = .ok (.ifCond .gt off, 3)) (ht : (pc : Int) + off = (tgt : Int)) (h1 : ¬ a ≤ 0 → XJ d x σ tgt lv st) (h2 : a ≤ 0 → XJ d x σ (pc + 3) lv st) : XJ d x σ pc lv (iv a :: st) := fun H locs ls hw hv => lv_if_gt C.ex C.by hd ht (fun e => h1 (fun q => by have e2 : i32 0 < i32 a := e; have := (i32_lt (by decide) ha).mp e2; omega) H locs ls hw hv) (fun e => h2 (Decidable.byContradiction fun q => e ((i32_lt (a := 0) (by decide) ha).mpr (by omega))) H locs ls hw hv)
theorem xj_ifle (C : CtxOk d x cc own) {a : Int} (ha : can a) {off : Int} {tgt : Nat} (hd : decode cc pc = .ok (.ifCond .le off, 3)) (ht : (pc : Int) + off = (tgt : Int)) (h1 : a ≤ 0 → XJ d x σ tgt lv st) (h2 : ¬ a ≤ 0 → XJ d x σ (pc + 3) lv st) : XJ d x σ pc lv (iv a :: st) := fun H locs ls hw hv => lv_if_le C.ex C.by hd ht (fun e => h1 ((i32_le ha (b := 0) (by decide)).mp e) H locs ls hw hv) (fun e => h2 (fun q => e ((i32_le ha (b := 0) (by decide)).mpr q)) H locs ls hw hv)
theorem xj_icmpeq (C : CtxOk d x cc own) {a b : Int} (ha : can a) (hb : can b) {off : Int} {tgt : Nat} (hd : decode cc pc = .ok (.if_icmp .eq off, 3)) (ht : (pc : Int) + off = (tgt : Int)) (h1 : a = b → XJ d x σ tgt lv st) (h2 : ¬ a = b → XJ d x σ (pc + 3) lv st) : XJ d x σ pc lv (iv b :: iv a :: st) := fun H locs ls hw hv => lv_icmp_eq C.ex C.by hd ht (fun e => h1 ((i32_eq ha hb).mp e) H locs ls hw hv) (fun e => h2 (fun q => e ((i32_eq ha hb).mpr q)) H locs ls hw hv)
theorem xj_icmpne (C : CtxOk d x cc own) {a b : Int} (ha : can a) (hb : can b) {off : Int} {tgt : Nat} (hd : decode cc pc = .ok (.if_icmp .ne off, 3)) (ht : (pc : Int) + off = (tgt : Int)) (h1 : ¬ a = b → XJ d x σ tgt lv st) (h2 : a = b → XJ d x σ (pc + 3) lv st) : XJ d x σ pc lv (iv b :: iv a :: st) := fun H locs ls hw hv => lv_icmp_ne C.ex C.by hd ht (fun e => h1 (fun q => e ((i32_eq ha hb).mpr q)) H locs ls hw hv) (fun e => h2 ((i32_eq ha hb).mp e) H locs ls hw hv)
theorem xj_icmplt (C : CtxOk d x cc own) {a b : Int} (ha : can a) (hb : can b) {off : Int} {tgt : Nat} (hd : decode cc pc = .ok (.if_icmp .lt off, 3)) (ht : (pc : Int) + off = (tgt : Int)) (h1 : a < b → XJ d x σ tgt lv st) (h2 : ¬ a < b → XJ d x σ (pc + 3) lv st) : XJ d x σ pc lv (iv b :: iv a :: st) := fun H locs ls hw hv => lv_icmp_lt C.ex C.by hd ht (fun e => h1 ((i32_lt ha hb).mp e) H locs ls hw hv) (fun e => h2 (fun q => e ((i32_lt ha hb).mpr q)) H locs ls hw hv)
theorem xj_icmpge (C : CtxOk d x cc own) {a b : Int} (ha : can a) (hb : can b) {off : Int} {tgt : Nat} (hd : decode cc pc = .ok (.if_icmp .ge off, 3)) (ht : (pc : Int) + off = (tgt : Int)) (h1 : ¬ a < b → XJ d x σ tgt lv st) (h2 : a < b → XJ d x σ (pc + 3) lv st) : XJ d x σ pc lv (iv b :: iv a :: st) := fun H locs ls hw hv => lv_icmp_ge C.ex C.by hd ht (fun e => h1 (fun q => by have := (i32_le hb ha).mp e; omega) H locs ls hw hv) (fun e => h2 (Decidable.byContradiction fun q => e ((i32_le hb ha).mpr (by omega))) H locs ls hw hv)
theorem xj_icmpgt (C : CtxOk d x cc own) {a b : Int} (ha : can a) (hb : can b) {off : Int} {tgt : Nat} (hd : decode cc pc = .ok (.if_icmp .gt off, 3)) (ht : (pc : Int) + off = (tgt : Int)) (h1 : ¬ a ≤ b → XJ d x σ tgt lv st) (h2 : a ≤ b → XJ d x σ (pc + 3) lv st) : XJ d x σ pc lv (iv b :: iv a :: st) := fun H locs ls hw hv => lv_icmp_gt C.ex C.by hd ht (fun e => h1 (fun q => by have := (i32_lt hb ha).mp e; omega) H locs ls hw hv) (fun e => h2 (Decidable.byContradiction fun q => e ((i32_lt hb ha).mpr (by omega))) H locs ls hw hv)
theorem xj_icmple (C : CtxOk d x cc own) {a b : Int} (ha : can a) (hb : can b) {off : Int} {tgt : Nat} (hd : decode cc pc = .ok (.if_icmp .le off, 3)) (ht : (pc : Int) + off = (tgt : Int)) (h1 : a ≤ b → XJ d x σ tgt lv st) (h2 : ¬ a ≤ b → XJ d x σ (pc + 3) lv st) : XJ d x σ pc lv (iv b :: iv a :: st) := fun H locs ls hw hv => lv_icmp_le C.ex C.by hd ht (fun e => h1 ((i32_le ha hb).mp e) H locs ls hw hv) (fun e => h2 (fun q => e ((i32_le ha hb).mpr q)) H locs ls hw hv)
theorem xj_tabIn (C : CtxOk d x cc own) {a : Int} {dflt lo hi : Int} {offs : Array Int} {len : Nat} {off : Int} {tgt : Nat} (v : Int) (hd : decode cc pc = .ok (.tableswitch dflt lo hi offs, len)) (hv : a = v) (hc : can v) (h1 : ¬ v < lo) (h2 : ¬ hi < v) (ho : offs[(v - lo).toNat]? = some off) (ht : (pc : Int) + off = (tgt : Int)) (h : XJ d x σ tgt lv st) : XJ d x σ pc lv (iv a :: st) := fun H locs ls hw hl => lv_tableIn C.ex C.by hd (by subst hv; rw [t_i32 hc]; exact h1) (by subst hv; rw [t_i32 hc]; exact h2) (by subst hv; rw [t_i32 hc]; exact ho) ht (h H locs ls hw hl)
theorem xj_tabOut (C : CtxOk d x cc own) {a : Int} {dflt lo hi : Int} {offs : Array Int} {len : Nat} {tgt : Nat} (hc : can a) (hd : decode cc pc = .ok (.tableswitch dflt lo hi offs, len)) (h1 : a < lo ∨ hi < a) (ht : (pc : Int) + dflt = (tgt : Int)) (h : XJ d x σ tgt lv st) : XJ d x σ pc lv (iv a :: st) := fun H locs ls hw hl => lv_tableOut C.ex C.by hd (by rw [t_i32 hc]; exact h1) ht (h H locs ls hw hl)
/-! more of the stack; longs -/
theorem xj_dup2 (C : CtxOk d x cc own) {v u : Value} (hd : decode cc pc = .ok (.dup2, 1)) (hv1 : v.category = 1) (hu1 : u.category = 1) (h : XJ d x σ (pc + 1) lv (v :: u :: v :: u :: st)) : XJ d x σ pc lv (v :: u :: st) := fun H locs ls hw hv => lv_dup2_11 C.ex C.by hd hv1 hu1 (h H locs ls hw hv)
theorem xj_dup_x2 (C : CtxOk d x cc own) {v u t : Value} (hd : decode cc pc = .ok (.dup_x2, 1)) (hv1 : v.category = 1) (hu1 : u.category = 1) (ht1 : t.category = 1) (h : XJ d x σ (pc + 1) lv (v :: u :: t :: v :: st)) : XJ d x σ pc lv (v :: u :: t :: st) := fun H locs ls hw hv => lv_dup_x2 C.ex C.by hd hv1 hu1 ht1 (h H locs ls hw hv)
theorem xj_ldcw (C : CtxOk d x cc own) {index : Nat} (n : Int) {v : Int32} (hc : Jvm.Cond.constant own index v ∈ lw_all) (hd : decode cc pc = .ok (.ldc_w index, 3)) (hn : v = i32 n) (h : XJ d x σ (pc + 3) lv (iv n :: st)) : XJ d x σ pc lv st := fun H locs ls hw hv => lv_ldcw C.ex C.by C.ow (C.ts _ hc) hd (by rw [hn]; exact h H locs ls hw hv)
theorem xj_ldc2 (C : CtxOk d x cc own) {index : Nat} (n : Int) {v : Int64} (hc : Jvm.Cond.constantLong own index v ∈ lw_all) (hd : decode cc pc = .ok (.ldc2_w index, 3)) (hn : v = i64 n) (h : XJ d x σ (pc + 3) lv (jv n :: st)) : XJ d x σ pc lv st := fun H locs ls hw hv => lv_ldc2 C.ex C.by C.ow (C.ts _ hc) hd (by rw [hn]; exact h H locs ls hw hv)
theorem xj_lconst (C : CtxOk d x cc own) {k : Fin 2} (n : Int) (hd : decode cc pc = .ok (.lconst k, 1)) (hn : Int64.ofNat (k : Nat) = i64 n) (h : XJ d x σ (pc + 1) lv (jv n :: st)) : XJ d x σ pc lv st := fun H locs ls hw hv => lv_lconst C.ex C.by hd hn (h H locs ls hw hv)
theorem xj_lload_n (C : CtxOk d x cc own) {k : Fin 4} {a : Int} (i : Nat) (hd : decode cc pc = .ok (.lload_n k, 1)) (hi : lv[i]? = some ((k : Nat), jv a)) (h : XJ d x σ (pc + 1) lv (jv a :: st)) : XJ d x σ pc lv st := fun H locs ls hw hv => lv_lload_n C.ex C.by hd rfl (lv_at hv i hi) (h H locs ls hw hv)
theorem xj_lload (C : CtxOk d x cc own) {k : Nat} {a : Int} (i : Nat) (hd : decode cc pc = .ok (.lload k, 2)) (hi : lv[i]? = some (k, jv a)) (h : XJ d x σ (pc + 2) lv (jv a :: st)) : XJ d x σ pc lv st := fun H locs ls hw hv => lv_lload C.ex C.by hd (lv_at hv i hi) (h H locs ls hw hv)
theorem xj_lstore_n (C : CtxOk d x cc own) {k : Fin 4} {a : Int} {lv' : List (Nat × Value)} (hd : decode cc pc = .ok (.lstore_n k, 1)) (hn : (k : Nat) + 1 < xN x) (hl : ((k : Nat), jv a) :: lv.filter (fun q => !(q.1 == (k : Nat)) && (!(q.1 == (k : Nat) + 1) && !(q.1 + 1 == (k : Nat) && q.2.category == 2))) = lv') (h : XJ d x σ (pc + 1) lv' st) : XJ d x σ pc lv (jv a :: st) := fun H locs ls hw hv => lv_lstore_n C.ex C.by hd rfl hv hn hl (fun ls hv => h H locs ls hw hv)
theorem xj_lstore (C : CtxOk d x cc own) {k : Nat} {a : Int} {lv' : List (Nat × Value)} (hd : decode cc pc = .ok (.lstore k, 2)) (hn : k + 1 < xN x) (hl : (k, jv a) :: lv.filter (fun q => !(q.1 == k) && (!(q.1 == k + 1) && !(q.1 + 1 == k && q.2.category == 2))) = lv') (h : XJ d x σ (pc + 2) lv' st) : XJ d x σ pc lv (jv a :: st) := fun H locs ls hw hv => lv_lstore C.ex C.by hd hv hn hl (fun ls hv => h H locs ls hw hv)
theorem xj_ladd (C : CtxOk d x cc own) {a b : Int} (hd : decode cc pc = .ok (.ladd, 1)) (h : XJ d x σ (pc + 1) lv (jv (w64 (a + b)) :: st)) : XJ d x σ pc lv (jv b :: jv a :: st) := fun H locs ls hw hv => lv_ladd C.ex C.by hd (by rw [i64_add]; exact h H locs ls hw hv)
theorem xj_lmul (C : CtxOk d x cc own) {a b : Int} (hd : decode cc pc = .ok (.lmul, 1)) (h : XJ d x σ (pc + 1) lv (jv (w64 (a * b)) :: st)) : XJ d x σ pc lv (jv b :: jv a :: st) := fun H locs ls hw hv => lv_lmul C.ex C.by hd (by rw [i64_mul]; exact h H locs ls hw hv)
theorem xj_ldiv (C : CtxOk d x cc own) {a b : Int} (ha : can8 a) (hb : can8 b) (h0 : b ≠ 0) (hd : decode cc pc = .ok (.ldiv, 1)) (h : XJ d x σ (pc + 1) lv (jv (w64 (a.tdiv b)) :: st)) : XJ d x σ pc lv (jv b :: jv a :: st) := fun H locs ls hw hv => lv_ldiv C.ex C.by hd (fun e => h0 (by have e2 : i64 b = i64 0 := e; exact (i64_eq hb (by decide)).mp e2)) (by rw [i64_tdiv ha hb]; exact h H locs ls hw hv)
theorem xj_land (C : CtxOk d x cc own) {a b : Int} (hd : decode cc pc = .ok (.land, 1)) (h : XJ d x σ (pc + 1) lv (jv (lAnd a b) :: st)) : XJ d x σ pc lv (jv b :: jv a :: st) := fun H locs ls hw hv => lv_land C.ex C.by hd (by rw [← i64_t (i64 a &&& i64 b)]; exact h H locs ls hw hv)
theorem xj_lor (C : CtxOk d x cc own) {a b : Int} (hd : decode cc pc = .ok (.lor, 1)) (h : XJ d x σ (pc + 1) lv (jv (lOr a b) :: st)) : XJ d x σ pc lv (jv b :: jv a :: st) := fun H locs ls hw hv => lv_lor C.ex C.by hd (by rw [← i64_t (i64 a ||| i64 b)]; exact h H locs ls hw hv)
theorem xj_lxor (C : CtxOk d x cc own) {a b : Int} (hd : decode cc pc = .ok (.lxor, 1)) (h : XJ d x σ (pc + 1) lv (jv (lXor a b) :: st)) : XJ d x σ pc lv (jv b :: jv a :: st) := fun H locs ls hw hv => lv_lxor C.ex C.by hd (by rw [← i64_t (i64 a ^^^ i64 b)]; exact h H locs ls hw hv)
theorem xj_lshl (C : CtxOk d x cc own) {a b : Int} (hd : decode cc pc = .ok (.lshl, 1)) (h : XJ d x σ (pc + 1) lv (jv (lShl a b) :: st)) : XJ d x σ pc lv (iv b :: jv a :: st) := fun H locs ls hw hv => lv_lshl C.ex C.by hd rfl (by rw [← i64_t (i64 a <<< ((i32 b).toInt64 &&& 63))]; exact h H locs ls hw hv)
theorem xj_lshr (C : CtxOk d x cc own) {a b : Int} (hd : decode cc pc = .ok (.lshr, 1)) (h : XJ d x σ (pc + 1) lv (jv (lShr a b) :: st)) : XJ d x σ pc lv (iv b :: jv a :: st) := fun H locs ls hw hv => lv_lshr C.ex C.by hd rfl (by rw [← i64_t (i64 a >>> ((i32 b).toInt64 &&& 63))]; exact h H locs ls hw hv)
theorem xj_i2l (C : CtxOk d x cc own) {a : Int} (ha : can a) (hd : decode cc pc = .ok (.i2l, 1)) (h : XJ d x σ (pc + 1) lv (jv a :: st)) : XJ d x σ pc lv (iv a :: st) := fun H locs ls hw hv => lv_i2l C.ex C.by hd (i32_i64 ha) (h H locs ls hw hv)
theorem cmp_i64 {a b : Int} (ha : can8 a) (hb : can8 b) : lg_cmp (i64 a) (i64 b) = i32 (cmpI a b) := by
  unfold lg_cmp cmpI
  simp only [i64_lt ha hb, i64_lt hb ha, i64_eq ha hb]
  by_cases h1 : a < b
  · have h2 : ¬ b < a := by omega
    have h3 : ¬ a = b := by omega
    simp [h1, h2, h3]; first | rfl | decide
  · by_cases h3 : a = b
    · simp [h3]; first | rfl | decide
    · have h4 : b < a := by omega
      simp [h1, h3, h4]; first | rfl | decide
theorem xj_lcmp (C : CtxOk d x cc own) {a b : Int} (ha : can8 a) (hb : can8 b) (hd : decode cc pc = .ok (.lcmp, 1)) (h : XJ d x σ (pc + 1) lv (iv (cmpI a b) :: st)) : XJ d x σ pc lv (jv b :: jv a :: st) := fun H locs ls hw hv => W.lcmp C.ex C.by hd (by rw [cmp_i64 ha hb]; exact h H locs ls hw hv)
/-! fields -/
theorem fvl_i {w : WP} {k : Nat} (h : dKind d k < 2) : fvl d w σ k = iv (σ.1 k) := by unfold fvl; rw [if_pos h]
theorem fvl_l {w : WP} {k : Nat} (h : dKind d k = 2) : fvl d w σ k = jv (σ.2.1 k) := by unfold fvl; rw [if_neg (by omega), if_pos h]
theorem fvl_s {w : WP} {k : Nat} (h : dKind d k = 3) : fvl d w σ k = .ref (wHs w) := by unfold fvl; rw [if_neg (by omega), if_neg (by omega), if_pos h]
theorem fvl_a {w : WP} {k a : Nat} (h : dKind d k = 4) (ha : dFan d k = a) : fvl d w σ k = .ref (wAd w a) := by unfold fvl; rw [if_neg (by omega), if_neg (by omega), if_neg (by omega), ha]
theorem xj_getI (C : CtxOk d x cc own) {Cn ref : String} {T : u_T} {N index : Nat} (hc : (dCl d)[0]? = some (Cn, T, N)) (hin : ∀ w ∈ u_ws Cn T N, w ∈ lw_all) (k : Nat) (hk : k < N) (hkd : k < dN d) (hkind : dKind d k < 2) (hl : Cond.fieldLink own index ref (T k).2.1 (T k).2.2.1 ∈ lw_all) (hsame : ref = (T k).1) (hd : decode cc pc = .ok (.getfield index, 3)) (h : can (gI σ k) → XJ d x σ (pc + 3) lv (iv (gI σ k) :: st)) : XJ d x σ pc lv (.ref (wH0 (xW x)) :: st) := by
  intro H locs ls hw hv
  subst hsame
  exact va_get (D := wD (xW x)) (ci := 0) (v := iv (gI σ k)) C.ex C.by C.ts hin C.ow C.xt.1 hw.1 0 (gws_0 _ _ _) hc k hk (C.ts _ hl) (fun _ h9 => h9) (by rw [fls_at hkd, fvl_i hkind]; rfl) hd (h (hw.2.2.2.1 k) H locs ls hw hv)
theorem xj_getB (C : CtxOk d x cc own) {Cn ref : String} {T : u_T} {N index : Nat} (hc : (dCl d)[0]? = some (Cn, T, N)) (hin : ∀ w ∈ u_ws Cn T N, w ∈ lw_all) (k : Nat) (hk : k < N) (hkd : k < dN d) (hkind : dKind d k = 1) (hl : Cond.fieldLink own index ref (T k).2.1 (T k).2.2.1 ∈ lw_all) (hsame : ref = (T k).1) (hd : decode cc pc = .ok (.getfield index, 3)) (h : isB (gI σ k) → XJ d x σ (pc + 3) lv (iv (gI σ k) :: st)) : XJ d x σ pc lv (.ref (wH0 (xW x)) :: st) := by
  intro H locs ls hw hv
  subst hsame
  exact va_get (D := wD (xW x)) (ci := 0) (v := iv (gI σ k)) C.ex C.by C.ts hin C.ow C.xt.1 hw.1 0 (gws_0 _ _ _) hc k hk (C.ts _ hl) (fun _ h9 => h9) (by rw [fls_at hkd, fvl_i (by omega)]; rfl) hd (h (hw.2.2.2.2.1 k hkind) H locs ls hw hv)
theorem xj_getL (C : CtxOk d x cc own) {Cn ref : String} {T : u_T} {N index : Nat} (hc : (dCl d)[0]? = some (Cn, T, N)) (hin : ∀ w ∈ u_ws Cn T N, w ∈ lw_all) (k : Nat) (hk : k < N) (hkd : k < dN d) (hkind : dKind d k = 2) (hl : Cond.fieldLink own index ref (T k).2.1 (T k).2.2.1 ∈ lw_all) (hsame : ref = (T k).1) (hd : decode cc pc = .ok (.getfield index, 3)) (h : can8 (gL σ k) → XJ d x σ (pc + 3) lv (jv (gL σ k) :: st)) : XJ d x σ pc lv (.ref (wH0 (xW x)) :: st) := by
  intro H locs ls hw hv
  subst hsame
  exact va_get (D := wD (xW x)) (ci := 0) (v := jv (gL σ k)) C.ex C.by C.ts hin C.ow C.xt.1 hw.1 0 (gws_0 _ _ _) hc k hk (C.ts _ hl) (fun _ h9 => h9) (by rw [fls_at hkd, fvl_l hkind]; rfl) hd (h (hw.2.2.2.2.2.1 k) H locs ls hw hv)
theorem xj_getA (C : CtxOk d x cc own) {Cn ref : String} {T : u_T} {N index : Nat} (hc : (dCl d)[0]? = some (Cn, T, N)) (hin : ∀ w ∈ u_ws Cn T N, w ∈ lw_all) (k a : Nat) (hk : k < N) (hkd : k < dN d) (hkind : dKind d k = 4) (ha : dFan d k = a) (hl : Cond.fieldLink own index ref (T k).2.1 (T k).2.2.1 ∈ lw_all) (hsame : ref = (T k).1) (hd : decode cc pc = .ok (.getfield index, 3)) (h : XJ d x σ (pc + 3) lv (.ref (wAd (xW x) a) :: st)) : XJ d x σ pc lv (.ref (wH0 (xW x)) :: st) := by
  intro H locs ls hw hv
  subst hsame
  exact va_get (D := wD (xW x)) (ci := 0) (v := .ref (wAd (xW x) a)) C.ex C.by C.ts hin C.ow C.xt.1 hw.1 0 (gws_0 _ _ _) hc k hk (C.ts _ hl) (fun _ h9 => h9) (by rw [fls_at hkd, fvl_a hkind ha]) hd (h H locs ls hw hv)
theorem xj_getS (C : CtxOk d x cc own) {Cn ref : String} {T : u_T} {N index : Nat} (hc : (dCl d)[0]? = some (Cn, T, N)) (hin : ∀ w ∈ u_ws Cn T N, w ∈ lw_all) (k : Nat) (hk : k < N) (hkd : k < dN d) (hkind : dKind d k = 3) (hl : Cond.fieldLink own index ref (T k).2.1 (T k).2.2.1 ∈ lw_all) (hsame : ref = (T k).1) (hd : decode cc pc = .ok (.getfield index, 3)) (h : XJ d x σ (pc + 3) lv (.ref (wHs (xW x)) :: st)) : XJ d x σ pc lv (.ref (wH0 (xW x)) :: st) := by
  intro H locs ls hw hv
  subst hsame
  exact va_get (D := wD (xW x)) (ci := 0) (v := .ref (wHs (xW x))) C.ex C.by C.ts hin C.ow C.xt.1 hw.1 0 (gws_0 _ _ _) hc k hk (C.ts _ hl) (fun _ h9 => h9) (by rw [fls_at hkd, fvl_s hkind]) hd (h H locs ls hw hv)
theorem fls_len (d : DS) (w : WP) (σ : S) : (fls d w σ).length = dN d := by simp [fls]
theorem nar_B {v : Int} (h : isB v) : narrow .boolean (iv v) = iv v := by rcases h with rfl | rfl <;> decide
theorem fit_B {v : Int} (h : isB v) : fits .boolean (iv v) = true := by rcases h with rfl | rfl <;> decide
theorem xj_putI (C : CtxOk d x cc own) {Cn ref : String} {T : u_T} {N index : Nat} (hc : (dCl d)[0]? = some (Cn, T, N)) (hin : ∀ w ∈ u_ws Cn T N, w ∈ lw_all) (ty0 : Nat → FieldType) (hty : ∀ k, k < N → parseFieldDescriptor (T k).2.2.1 = some (ty0 k)) (hnm : ∀ a, a < N → ∀ b, b < N → a ≠ b → (T a).2.1 ≠ (T b).2.1) (k : Nat) {v : Int} (hk : k < N) (hkd : k < dN d) (hN : dN d ≤ 1006) (hkind : dKind d k = 0) (ht0 : ty0 k = .int) (hf : (T k).2.2.2 = false) (hl : Cond.fieldLink own index ref (T k).2.1 (T k).2.2.1 ∈ lw_all) (hsame : ref = (T k).1) (hcv : can v) (hd : decode cc pc = .ok (.putfield index, 3)) (h : ∀ σ1, σ1 = pI σ k v → XJ d x σ1 (pc + 3) lv st) : XJ d x σ pc lv (iv v :: .ref (wH0 (xW x)) :: st) := by
  intro H locs ls hw hv
  subst hsame
  refine va_put (D := wD (xW x)) (ci := 0) (ty := .int) C.ex C.by C.ts hin ty0 hty hnm C.ow C.xt.1 hw.1 hw.2.1 hw.2.2.1 0 (gws_0 _ _ _) hc k hk (C.ts _ hl) (fun _ h9 => h9) hf (by rw [hty k hk, ht0]) rfl rfl (by rw [fls_len]; exact hkd) hd (fun H1 locs1 hP hD hS => ?_)
  rw [gws_pI (by omega) (by omega)] at hP hD
  exact h _ rfl H1 locs1 ls ⟨hP, hD, hS, hw.2.2.2.pI hcv (fun e => by omega)⟩ hv
theorem xj_putB (C : CtxOk d x cc own) {Cn ref : String} {T : u_T} {N index : Nat} (hc : (dCl d)[0]? = some (Cn, T, N)) (hin : ∀ w ∈ u_ws Cn T N, w ∈ lw_all) (ty0 : Nat → FieldType) (hty : ∀ k, k < N → parseFieldDescriptor (T k).2.2.1 = some (ty0 k)) (hnm : ∀ a, a < N → ∀ b, b < N → a ≠ b → (T a).2.1 ≠ (T b).2.1) (k : Nat) {v : Int} (hk : k < N) (hkd : k < dN d) (hN : dN d ≤ 1006) (hkind : dKind d k = 1) (ht0 : ty0 k = .boolean) (hf : (T k).2.2.2 = false) (hl : Cond.fieldLink own index ref (T k).2.1 (T k).2.2.1 ∈ lw_all) (hsame : ref = (T k).1) (hcv : isB v) (hd : decode cc pc = .ok (.putfield index, 3)) (h : ∀ σ1, σ1 = pI σ k v → XJ d x σ1 (pc + 3) lv st) : XJ d x σ pc lv (iv v :: .ref (wH0 (xW x)) :: st) := by
  intro H locs ls hw hv
  subst hsame
  refine va_put (D := wD (xW x)) (ci := 0) (ty := .boolean) C.ex C.by C.ts hin ty0 hty hnm C.ow C.xt.1 hw.1 hw.2.1 hw.2.2.1 0 (gws_0 _ _ _) hc k hk (C.ts _ hl) (fun _ h9 => h9) hf (by rw [hty k hk, ht0]) (nar_B hcv) (fit_B hcv) (by rw [fls_len]; exact hkd) hd (fun H1 locs1 hP hD hS => ?_)
  rw [gws_pI (by omega) (by omega)] at hP hD
  exact h _ rfl H1 locs1 ls ⟨hP, hD, hS, hw.2.2.2.pI (can_B hcv) (fun e => hcv)⟩ hv
theorem xj_putL (C : CtxOk d x cc own) {Cn ref : String} {T : u_T} {N index : Nat} (hc : (dCl d)[0]? = some (Cn, T, N)) (hin : ∀ w ∈ u_ws Cn T N, w ∈ lw_all) (ty0 : Nat → FieldType) (hty : ∀ k, k < N → parseFieldDescriptor (T k).2.2.1 = some (ty0 k)) (hnm : ∀ a, a < N → ∀ b, b < N → a ≠ b → (T a).2.1 ≠ (T b).2.1) (k : Nat) {v : Int} (hk : k < N) (hkd : k < dN d) (hkind : dKind d k = 2) (ht0 : ty0 k = .long) (hf : (T k).2.2.2 = false) (hl : Cond.fieldLink own index ref (T k).2.1 (T k).2.2.1 ∈ lw_all) (hsame : ref = (T k).1) (hcv : can8 v) (hd : decode cc pc = .ok (.putfield index, 3)) (h : ∀ σ1, σ1 = pL σ k v → XJ d x σ1 (pc + 3) lv st) : XJ d x σ pc lv (jv v :: .ref (wH0 (xW x)) :: st) := by
  intro H locs ls hw hv
  subst hsame
  refine va_put (D := wD (xW x)) (ci := 0) (ty := .long) C.ex C.by C.ts hin ty0 hty hnm C.ow C.xt.1 hw.1 hw.2.1 hw.2.2.1 0 (gws_0 _ _ _) hc k hk (C.ts _ hl) (fun _ h9 => h9) hf (by rw [hty k hk, ht0]) rfl rfl (by rw [fls_len]; exact hkd) hd (fun H1 locs1 hP hD hS => ?_)
  rw [gws_pL hkind] at hP hD
  exact h _ rfl H1 locs1 ls ⟨hP, hD, hS, hw.2.2.2.pL hcv⟩ hv
/-! the Stop's ints -/
theorem sls_at {w : WP} {k : Nat} (ht : (wTf w).length = 6) (h : k < dNs d) : (sls d w σ)[6 + k]? = some (iv (σ.1 (1006 + k))) := by
  unfold sls
  rw [List.getElem?_append_right (by omega), ht, show 6 + k - 6 = k by omega, List.getElem?_map, List.getElem?_range h]
  rfl
theorem xj_getW (C : CtxOk d x cc (dOwn d)) {T : u_T} {N index : Nat} (hc : (dCl d)[1]? = some (dStop d, T, N)) (hin : ∀ w ∈ u_ws (dStop d) T N, w ∈ lw_all) (j k k2 : Nat) (hj : 6 + k = j) (hj2 : 1006 + k = k2) (hk : j < N) (hkd : k < dNs d) {nm : String} (hq : (index, nm) ∈ dNf d) (hT : T j = (dStop d, nm, "I", false)) (hd : decode cc pc = .ok (.getfield index, 3)) (h : can (gI σ k2) → XJ d x σ (pc + 3) lv (iv (gI σ k2) :: st)) : XJ d x σ pc lv (.ref (wHs (xW x)) :: st) := by
  intro H locs ls hw hv
  subst hj; subst hj2
  have hl := va_Nw.use (A := xAr x) rfl (C.xt.2.2.2.1 _ hq)
  exact va_getN (D := wD (xW x)) (ci := 1) (ref := dStop d) (host := dOwn d) (v := iv (gI σ (1006 + k))) C.ex C.by C.ts hin C.ow C.xt.1 hw.1 1 (gws_1 _ _ _) hc (6 + k) hk (by rw [hT]; exact hl) (by rw [hT]; exact fun _ h9 => h9) (by rw [sls_at C.tf hkd]; rfl) hd (h (hw.2.2.2.1 _) H locs ls hw hv)
theorem xj_putW (C : CtxOk d x cc (dOwn d)) {T : u_T} {N index : Nat} (hc : (dCl d)[1]? = some (dStop d, T, N)) (hin : ∀ w ∈ u_ws (dStop d) T N, w ∈ lw_all) (ty0 : Nat → FieldType) (hty : ∀ k, k < N → parseFieldDescriptor (T k).2.2.1 = some (ty0 k)) (hnm : ∀ a, a < N → ∀ b, b < N → a ≠ b → (T a).2.1 ≠ (T b).2.1) (j k k2 : Nat) {v : Int} (hj : 6 + k = j) (hj2 : 1006 + k = k2) (hk : j < N) (hkd : k < dNs d) (hN : dN d ≤ 1006) (hkz : dKind d k2 = 0) {nm : String} (hq : (index, nm) ∈ dNf d) (hT : T j = (dStop d, nm, "I", false)) (hcv : can v) (hd : decode cc pc = .ok (.putfield index, 3)) (h : ∀ σ1, σ1 = pI σ k2 v → XJ d x σ1 (pc + 3) lv st) : XJ d x σ pc lv (iv v :: .ref (wHs (xW x)) :: st) := by
  intro H locs ls hw hv
  subst hj; subst hj2
  have hl := va_Nw.use (A := xAr x) rfl (C.xt.2.2.2.1 _ hq)
  have hlen : 6 + k < (sls d (xW x) σ).length := by unfold sls; simp [C.tf]; exact hkd
  refine va_putN (D := wD (xW x)) (ci := 1) (ref := dStop d) (host := dOwn d) (ty := .int) C.ex C.by C.ts hin ty0 hty hnm C.ow C.xt.1 hw.1 hw.2.1 hw.2.2.1 1 (gws_1 _ _ _) hc (6 + k) hk (by rw [hT]; exact hl) (by rw [hT]; exact fun _ h9 => h9) (by rw [hT]) (by rw [hT]; show parseFieldDescriptor "I" = _; decide) rfl rfl hlen hd (fun H1 locs1 hP hD hS => ?_)
  rw [gws_pS hN C.tf] at hP hD
  exact h _ rfl H1 locs1 ls ⟨hP, hD, hS, hw.2.2.2.pI hcv (fun e => by omega)⟩ hv
/-! arrays -/
theorem vp_in_i {i : Int} {n : Nat} (hc : can i) (h : 0 ≤ i ∧ i < (n : Int)) : vp_in (i32 i) n := by
  rw [vp_in_iff, t_i32 hc]; exact h
theorem clamp_i {i : Int} (hc : can i) (h : 0 ≤ i) : (i32 i).toNatClampNeg = i.toNat := by
  show (i32 i).toInt.toNat = _
  rw [t_i32 hc]
theorem rd_i {σ : S} {a : Nat} {i : Int} (hc : can i) (h : 0 ≤ i) : i32 (σ.2.2 a (((i32 i).toNatClampNeg : Nat) : Int)) = i32 (gA σ a i) := by
  rw [clamp_i hc h, Int.toNat_of_nonneg h]; rfl
theorem tyl_0 (w : WP) : (tyl w)[0]? = some (wCT w .int, .int) := rfl
theorem tyl_1 (w : WP) : (tyl w)[1]? = some (wCT w .byte, .byte) := rfl
theorem tyl_2 (w : WP) : (tyl w)[2]? = some (wCT w .boolean, .boolean) := rfl
theorem acl_e {w : WP} {a : Nat} {ty : FieldType} (h : dAty d a = ty) : acl d w σ a = (wAd w a, .inl (wCT w ty, dAln d a, .inl fun j => i32 (σ.2.2 a (j : Int)))) := by unfold acl; rw [h]
theorem xj_iald (C : CtxOk d x cc own) {a : Nat} {i n : Int} (ha : a < dNA d) (hty : dAty d a = .int) (hln : ((dAln d a : Nat) : Int) = n) (hc : can i) (hd : decode cc pc = .ok (.iaload, 1)) (hi : 0 ≤ i ∧ i < n) (h : can (gA σ a i) → XJ d x σ (pc + 1) lv (iv (gA σ a i) :: st)) : XJ d x σ pc lv (iv i :: .ref (wAd (xW x) a) :: st) := by
  intro H locs ls hw hv
  have hq := hw.2.2.2.2.2.2 a i
  rw [hty] at hq
  refine va_iald C.ex C.by C.xt.1 hw.1 (a + 2) 0 ((gws_a ha _ _).trans (by rw [acl_e hty])) (tyl_0 _) (vp_in_i hc (by rw [hln]; exact hi)) hd ?_
  show W _ _ _ _ _ _ _ _ _ _ _ _ _ _ _ (F0 _ _ _ (.int (i32 (σ.2.2 a _)) :: _))
  rw [rd_i hc hi.1]
  exact h (can_T hq) H locs ls hw hv
theorem xj_bald (C : CtxOk d x cc own) {a : Nat} {i n : Int} (ha : a < dNA d) (hty : dAty d a = .byte) (hln : ((dAln d a : Nat) : Int) = n) (hc : can i) (hd : decode cc pc = .ok (.baload, 1)) (hi : 0 ≤ i ∧ i < n) (h : isb8 (gA σ a i) → XJ d x σ (pc + 1) lv (iv (gA σ a i) :: st)) : XJ d x σ pc lv (iv i :: .ref (wAd (xW x) a) :: st) := by
  intro H locs ls hw hv
  have hq := hw.2.2.2.2.2.2 a i
  rw [hty] at hq
  refine va_bald C.ex C.by C.xt.1 hw.1 (a + 2) 1 ((gws_a ha _ _).trans (by rw [acl_e hty])) (tyl_1 _) (vp_in_i hc (by rw [hln]; exact hi)) hd ?_
  show W _ _ _ _ _ _ _ _ _ _ _ _ _ _ _ (F0 _ _ _ (.int (i32 (σ.2.2 a _)) :: _))
  rw [rd_i hc hi.1]
  exact h hq H locs ls hw hv
theorem xj_zald (C : CtxOk d x cc own) {a : Nat} {i n : Int} (ha : a < dNA d) (hty : dAty d a = .boolean) (hln : ((dAln d a : Nat) : Int) = n) (hc : can i) (hd : decode cc pc = .ok (.baload, 1)) (hi : 0 ≤ i ∧ i < n) (h : isB (gA σ a i) → XJ d x σ (pc + 1) lv (iv (gA σ a i) :: st)) : XJ d x σ pc lv (iv i :: .ref (wAd (xW x) a) :: st) := by
  intro H locs ls hw hv
  have hq := hw.2.2.2.2.2.2 a i
  rw [hty] at hq
  refine va_zald C.ex C.by C.xt.1 hw.1 (a + 2) 2 ((gws_a ha _ _).trans (by rw [acl_e hty])) (tyl_2 _) (vp_in_i hc (by rw [hln]; exact hi)) hd ?_
  show W _ _ _ _ _ _ _ _ _ _ _ _ _ _ _ (F0 _ _ _ (.int (i32 (σ.2.2 a _)) :: _))
  rw [rd_i hc hi.1]
  exact h hq H locs ls hw hv
theorem xj_iast (C : CtxOk d x cc own) {a : Nat} {i n v : Int} (ha : a < dNA d) (hty : dAty d a = .int) (hln : ((dAln d a : Nat) : Int) = n) (hc : can i) (hcv : can v) (hd : decode cc pc = .ok (.iastore, 1)) (hi : 0 ≤ i ∧ i < n) (h : ∀ σ1, σ1 = pA σ a i v → XJ d x σ1 (pc + 1) lv st) : XJ d x σ pc lv (iv v :: iv i :: .ref (wAd (xW x) a) :: st) := by
  intro H locs ls hw hv
  refine va_iast C.ex C.by C.xt.1 hw.1 hw.2.1 hw.2.2.1 (a + 2) 0 ((gws_a ha _ _).trans (by rw [acl_e hty])) (tyl_0 _) (vp_in_i hc (by rw [hln]; exact hi)) hd (fun H1 locs1 hP hD hS => ?_)
  rw [clamp_i hc hi.1, ← hty, gws_pA hi.1] at hP hD
  exact h _ rfl H1 locs1 ls ⟨hP, hD, hS, hw.2.2.2.pA (by rw [hty]; exact hcv)⟩ hv
theorem nar_b {v : Int} (h : isb8 v) : vp_nar .byte (i32 v) = i32 v := by rw [vp_nar_byte]; exact i32_i8 h
theorem xj_bast (C : CtxOk d x cc own) {a : Nat} {i n v : Int} (ha : a < dNA d) (hty : dAty d a = .byte) (hln : ((dAln d a : Nat) : Int) = n) (hc : can i) (hcv : isb8 v) (hd : decode cc pc = .ok (.bastore, 1)) (hi : 0 ≤ i ∧ i < n) (h : ∀ σ1, σ1 = pA σ a i v → XJ d x σ1 (pc + 1) lv st) : XJ d x σ pc lv (iv v :: iv i :: .ref (wAd (xW x) a) :: st) := by
  intro H locs ls hw hv
  refine va_bast C.ex C.by C.xt.1 hw.1 hw.2.1 hw.2.2.1 (a + 2) 1 ((gws_a ha _ _).trans (by rw [acl_e hty])) (tyl_1 _) (vp_in_i hc (by rw [hln]; exact hi)) hd (fun H1 locs1 hP hD hS => ?_)
  rw [nar_b hcv, clamp_i hc hi.1, ← hty, gws_pA hi.1] at hP hD
  exact h _ rfl H1 locs1 ls ⟨hP, hD, hS, hw.2.2.2.pA (by rw [hty]; exact hcv)⟩ hv
theorem nar_z {v : Int} (h : isB v) : vp_nar .boolean (i32 v) = i32 v := by rcases h with rfl | rfl <;> decide
theorem xj_zast (C : CtxOk d x cc own) {a : Nat} {i n v : Int} (ha : a < dNA d) (hty : dAty d a = .boolean) (hln : ((dAln d a : Nat) : Int) = n) (hc : can i) (hcv : isB v) (hd : decode cc pc = .ok (.bastore, 1)) (hi : 0 ≤ i ∧ i < n) (h : ∀ σ1, σ1 = pA σ a i v → XJ d x σ1 (pc + 1) lv st) : XJ d x σ pc lv (iv v :: iv i :: .ref (wAd (xW x) a) :: st) := by
  intro H locs ls hw hv
  refine va_zast C.ex C.by C.xt.1 hw.1 hw.2.1 hw.2.2.1 (a + 2) 2 ((gws_a ha _ _).trans (by rw [acl_e hty])) (tyl_2 _) (vp_in_i hc (by rw [hln]; exact hi)) hd (fun H1 locs1 hP hD hS => ?_)
  rw [nar_z hcv, clamp_i hc hi.1, ← hty, gws_pA hi.1] at hP hD
  exact h _ rfl H1 locs1 ls ⟨hP, hD, hS, hw.2.2.2.pA (by rw [hty]; exact hcv)⟩ hv
end

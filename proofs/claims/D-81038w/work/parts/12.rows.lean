/-! the judgement XJ: from pc with these locals and this stack, in every heap that holds σ, the machine comes to its end -/
abbrev CX : Type := (Program × Launch × Env × Room × State) × (MethodId × Array Value × List Frame × Method × Code) × (State → Prop) × (Nat → Prop) × Nat × WP
abbrev xP (x : CX) : Program := x.1.1
abbrev xL (x : CX) : Launch := x.1.2.1
abbrev xE (x : CX) : Env := x.1.2.2.1
abbrev xR (x : CX) : Room := x.1.2.2.2.1
abbrev xS (x : CX) : State := x.1.2.2.2.2
abbrev xM (x : CX) : MethodId := x.2.1.1
abbrev xAr (x : CX) : Array Value := x.2.1.2.1
abbrev xB (x : CX) : List Frame := x.2.1.2.2.1
abbrev xMe (x : CX) : Method := x.2.1.2.2.2.1
abbrev xC (x : CX) : Code := x.2.1.2.2.2.2
abbrev xQ (x : CX) : State → Prop := x.2.2.1
abbrev xA (x : CX) : Nat → Prop := x.2.2.2.1
abbrev xN (x : CX) : Nat := x.2.2.2.2.1
abbrev xW (x : CX) : WP := x.2.2.2.2.2
abbrev XG (x : CX) (H : Heap) (locs : List Loc) (g : JFrame) : Prop := W (xP x) (xL x) (xE x) (xR x) (xS x) (xM x) (xAr x) (xB x) (xMe x) (xC x) H locs 0 0 (xQ x) g
abbrev XGX (x : CX) (H : Heap) (locs : List Loc) (g : JFrame) (q : Addr) : Prop := vx_W (xP x) (xL x) (xE x) (xR x) (xS x) (xM x) (xAr x) (xB x) (xMe x) (xC x) H locs 0 0 (xQ x) g q
def XW (d : DS) (x : CX) (σ : S) (H : Heap) (locs : List Loc) : Prop :=
  va_P (wD (xW x)) (dCl d) (gws d (xW x) σ) H ∧ va_D (xA x) (gws d (xW x) σ) ∧ va_S (xA x) (xS x).heap H locs ∧ CanS d σ
def XJ (d : DS) (x : CX) (σ : S) (pc : Nat) (lv : List (Nat × Value)) (st : List Value) : Prop :=
  ∀ (H : Heap) (locs : List Loc) (ls : Array Slot), XW d x σ H locs → lv_has ls (xN x) lv → XG x H locs (F0 (xM x) pc ls st)
/-- the Stop is thrown at pc -/
def XE (d : DS) (x : CX) (σ : S) (pc : Nat) (lv : List (Nat × Value)) : Prop :=
  ∀ (H : Heap) (locs : List Loc) (ls : Array Slot) (rest : List Value), XW d x σ H locs → lv_has ls (xN x) lv → XGX x H locs (F0 (xM x) pc ls rest) (wHs (xW x))
/-- what stands all through a body -/
def CtxOk (d : DS) (x : CX) (cc : ByteArray) (own : String) : Prop :=
  (xP x).tables.exec = Jvm.exec ∧ (xC x).code = cc ∧ (xC x).maxLocals = xN x ∧ (xS x).vm.findClass own = some (xM x).cls ∧ (∀ w ∈ lw_all, w.before (xAr x) (xS x) = true) ∧
  XT d (xW x) (xA x) (xS x) (xS x).heap ∧ (∀ q, (xS x).heap.size ≤ q → xA x q) ∧ (wTf (xW x)).length = 6 ∧ (xMe x).locks = false
theorem CtxOk.ex {d : DS} {x : CX} {cc : ByteArray} {own : String} (C : CtxOk d x cc own) : (xP x).tables.exec = Jvm.exec := C.1
theorem CtxOk.by {d : DS} {x : CX} {cc : ByteArray} {own : String} (C : CtxOk d x cc own) : (xC x).code = cc := C.2.1
theorem CtxOk.ml {d : DS} {x : CX} {cc : ByteArray} {own : String} (C : CtxOk d x cc own) : (xC x).maxLocals = xN x := C.2.2.1
theorem CtxOk.ow {d : DS} {x : CX} {cc : ByteArray} {own : String} (C : CtxOk d x cc own) : (xS x).vm.findClass own = some (xM x).cls := C.2.2.2.1
theorem CtxOk.ts {d : DS} {x : CX} {cc : ByteArray} {own : String} (C : CtxOk d x cc own) : ∀ w ∈ lw_all, w.before (xAr x) (xS x) = true := C.2.2.2.2.1
theorem CtxOk.xt {d : DS} {x : CX} {cc : ByteArray} {own : String} (C : CtxOk d x cc own) : XT d (xW x) (xA x) (xS x) (xS x).heap := C.2.2.2.2.2.1
theorem CtxOk.ha {d : DS} {x : CX} {cc : ByteArray} {own : String} (C : CtxOk d x cc own) : ∀ q, (xS x).heap.size ≤ q → xA x q := C.2.2.2.2.2.2.1
theorem CtxOk.tf {d : DS} {x : CX} {cc : ByteArray} {own : String} (C : CtxOk d x cc own) : (wTf (xW x)).length = 6 := C.2.2.2.2.2.2.2.1
theorem CtxOk.lk {d : DS} {x : CX} {cc : ByteArray} {own : String} (C : CtxOk d x cc own) : (xMe x).locks = false := C.2.2.2.2.2.2.2.2
section
variable {d : DS} {x : CX} {cc : ByteArray} {own : String} {σ : S} {pc : Nat} {lv : List (Nat × Value)} {st : List Value}
theorem xj_sub {lv' : List (Nat × Value)} (h : XJ d x σ pc lv' st) (ks : List Nat) (hl : lv_pick lv ks = lv') : XJ d x σ pc lv st := fun H locs ls hw hv => h H locs ls hw (lv_sub hv ks hl)
theorem xe_sub {lv' : List (Nat × Value)} (h : XE d x σ pc lv') (ks : List Nat) (hl : lv_pick lv ks = lv') : XE d x σ pc lv := fun H locs ls rest hw hv => h H locs ls rest hw (lv_sub hv ks hl)
theorem xj_iconst (C : CtxOk d x cc own) {n : Int} (hd : decode cc pc = .ok (.iconst n, 1)) (h : XJ d x σ (pc + 1) lv (iv n :: st)) : XJ d x σ pc lv st := fun H locs ls hw hv => lv_iconst C.ex C.by hd rfl (h H locs ls hw hv)
theorem xj_bipush (C : CtxOk d x cc own) {n : Int} (hd : decode cc pc = .ok (.bipush n, 2)) (hn : (Int8.ofInt n).toInt32 = i32 n) (h : XJ d x σ (pc + 2) lv (iv n :: st)) : XJ d x σ pc lv st := fun H locs ls hw hv => lv_bipush C.ex C.by hd hn (h H locs ls hw hv)
theorem xj_sipush (C : CtxOk d x cc own) {n : Int} (hd : decode cc pc = .ok (.sipush n, 3)) (hn : (Int16.ofInt n).toInt32 = i32 n) (h : XJ d x σ (pc + 3) lv (iv n :: st)) : XJ d x σ pc lv st := fun H locs ls hw hv => lv_sipush C.ex C.by hd hn (h H locs ls hw hv)
theorem xj_ldc (C : CtxOk d x cc own) {index : Nat} (n : Int) {v : Int32} (hc : Jvm.Cond.constant own index v ∈ lw_all) (hd : decode cc pc = .ok (.ldc index, 2)) (hn : v = i32 n) (h : XJ d x σ (pc + 2) lv (iv n :: st)) : XJ d x σ pc lv st := fun H locs ls hw hv => lv_ldc C.ex C.by C.ow (C.ts _ hc) hd (by rw [hn]; exact h H locs ls hw hv)
theorem xj_iload_n (C : CtxOk d x cc own) {k : Fin 4} {a : Int} (i : Nat) (hd : decode cc pc = .ok (.iload_n k, 1)) (hi : lv[i]? = some ((k : Nat), iv a)) (h : XJ d x σ (pc + 1) lv (iv a :: st)) : XJ d x σ pc lv st := fun H locs ls hw hv => lv_iload_n C.ex C.by hd rfl (lv_at hv i hi) (h H locs ls hw hv)
theorem xj_iload (C : CtxOk d x cc own) {k : Nat} {a : Int} (i : Nat) (hd : decode cc pc = .ok (.iload k, 2)) (hi : lv[i]? = some (k, iv a)) (h : XJ d x σ (pc + 2) lv (iv a :: st)) : XJ d x σ pc lv st := fun H locs ls hw hv => lv_iload C.ex C.by hd (lv_at hv i hi) (h H locs ls hw hv)
theorem xj_aload_n (C : CtxOk d x cc own) {k : Fin 4} {a : Nat} (i : Nat) (hd : decode cc pc = .ok (.aload_n k, 1)) (hi : lv[i]? = some ((k : Nat), .ref a)) (h : XJ d x σ (pc + 1) lv (.ref a :: st)) : XJ d x σ pc lv st := fun H locs ls hw hv => lv_aload_n C.ex C.by hd rfl (lv_at hv i hi) (h H locs ls hw hv)
theorem xj_aload (C : CtxOk d x cc own) {k : Nat} {a : Nat} (i : Nat) (hd : decode cc pc = .ok (.aload k, 2)) (hi : lv[i]? = some (k, .ref a)) (h : XJ d x σ (pc + 2) lv (.ref a :: st)) : XJ d x σ pc lv st := fun H locs ls hw hv => lv_aload C.ex C.by hd (lv_at hv i hi) (h H locs ls hw hv)
theorem xj_istore_n (C : CtxOk d x cc own) {k : Fin 4} {a : Int} {lv' : List (Nat × Value)} (hd : decode cc pc = .ok (.istore_n k, 1)) (hn : (k : Nat) < xN x) (hl : ((k : Nat), iv a) :: lv.filter (fun q => !(q.1 == (k : Nat)) && !(q.1 + 1 == (k : Nat) && q.2.category == 2)) = lv') (h : XJ d x σ (pc + 1) lv' st) : XJ d x σ pc lv (iv a :: st) := fun H locs ls hw hv => lv_istore_n C.ex C.by hd rfl hv hn hl (fun ls hv => h H locs ls hw hv)
theorem xj_istore (C : CtxOk d x cc own) {k : Nat} {a : Int} {lv' : List (Nat × Value)} (hd : decode cc pc = .ok (.istore k, 2)) (hn : k < xN x) (hl : (k, iv a) :: lv.filter (fun q => !(q.1 == k) && !(q.1 + 1 == k && q.2.category == 2)) = lv') (h : XJ d x σ (pc + 2) lv' st) : XJ d x σ pc lv (iv a :: st) := fun H locs ls hw hv => lv_istore C.ex C.by hd hv hn hl (fun ls hv => h H locs ls hw hv)
theorem xj_astore_n (C : CtxOk d x cc own) {k : Fin 4} {a : Nat} {lv' : List (Nat × Value)} (hd : decode cc pc = .ok (.astore_n k, 1)) (hn : (k : Nat) < xN x) (hl : ((k : Nat), Value.ref a) :: lv.filter (fun q => !(q.1 == (k : Nat)) && !(q.1 + 1 == (k : Nat) && q.2.category == 2)) = lv') (h : XJ d x σ (pc + 1) lv' st) : XJ d x σ pc lv (.ref a :: st) := fun H locs ls hw hv => lv_astore_n C.ex C.by hd rfl hv hn hl (fun ls hv => h H locs ls hw hv)
theorem xj_astore (C : CtxOk d x cc own) {k : Nat} {a : Nat} {lv' : List (Nat × Value)} (hd : decode cc pc = .ok (.astore k, 2)) (hn : k < xN x) (hl : (k, Value.ref a) :: lv.filter (fun q => !(q.1 == k) && !(q.1 + 1 == k && q.2.category == 2)) = lv') (h : XJ d x σ (pc + 2) lv' st) : XJ d x σ pc lv (.ref a :: st) := fun H locs ls hw hv => lv_astore C.ex C.by hd hv hn hl (fun ls hv => h H locs ls hw hv)
theorem xj_iinc (C : CtxOk d x cc own) {k : Nat} {n a : Int} {lv' : List (Nat × Value)} (i : Nat) (hd : decode cc pc = .ok (.iinc k n, 3)) (hi : lv[i]? = some (k, iv a)) (hn : k < xN x) (hl : (k, iv (w32 (a + n))) :: lv.filter (fun q => !(q.1 == k) && !(q.1 + 1 == k && q.2.category == 2)) = lv') (h : XJ d x σ (pc + 3) lv' st) : XJ d x σ pc lv st := fun H locs ls hw hv => lv_iinc C.ex C.by hd hv hi (i32_add a n) hn hl (fun ls hv => h H locs ls hw hv)
theorem xj_iadd (C : CtxOk d x cc own) {a b : Int} (hd : decode cc pc = .ok (.iadd, 1)) (h : XJ d x σ (pc + 1) lv (iv (w32 (a + b)) :: st)) : XJ d x σ pc lv (iv b :: iv a :: st) := fun H locs ls hw hv => lv_iadd C.ex C.by hd (by rw [i32_add]; exact h H locs ls hw hv)
theorem xj_isub (C : CtxOk d x cc own) {a b : Int} (hd : decode cc pc = .ok (.isub, 1)) (h : XJ d x σ (pc + 1) lv (iv (w32 (a - b)) :: st)) : XJ d x σ pc lv (iv b :: iv a :: st) := fun H locs ls hw hv => lv_isub C.ex C.by hd (by rw [i32_sub]; exact h H locs ls hw hv)
theorem xj_imul (C : CtxOk d x cc own) {a b : Int} (hd : decode cc pc = .ok (.imul, 1)) (h : XJ d x σ (pc + 1) lv (iv (w32 (a * b)) :: st)) : XJ d x σ pc lv (iv b :: iv a :: st) := fun H locs ls hw hv => lv_imul C.ex C.by hd (by rw [i32_mul]; exact h H locs ls hw hv)
theorem xj_irem (C : CtxOk d x cc own) {a b : Int} (ha : can a) (hb : can b) (h0 : b ≠ 0) (hd : decode cc pc = .ok (.irem, 1)) (h : XJ d x σ (pc + 1) lv (iv (a.tmod b) :: st)) : XJ d x σ pc lv (iv b :: iv a :: st) := fun H locs ls hw hv => lv_irem C.ex C.by hd (fun e => h0 (by have e2 : i32 b = i32 0 := e; exact (i32_eq hb (by decide)).mp e2)) (by rw [i32_tmod ha hb h0]; exact h H locs ls hw hv)
theorem xj_idiv (C : CtxOk d x cc own) {a b : Int} (ha : can a) (hb : can b) (h0 : b ≠ 0) (hd : decode cc pc = .ok (.idiv, 1)) (h : XJ d x σ (pc + 1) lv (iv (w32 (a.tdiv b)) :: st)) : XJ d x σ pc lv (iv b :: iv a :: st) := fun H locs ls hw hv => lv_idiv C.ex C.by hd (fun e => h0 (by have e2 : i32 b = i32 0 := e; exact (i32_eq hb (by decide)).mp e2)) (by rw [i32_tdiv ha hb]; exact h H locs ls hw hv)
theorem xj_ineg (C : CtxOk d x cc own) {a : Int} (hd : decode cc pc = .ok (.ineg, 1)) (h : XJ d x σ (pc + 1) lv (iv (w32 (-a)) :: st)) : XJ d x σ pc lv (iv a :: st) := fun H locs ls hw hv => lv_ineg C.ex C.by hd (by rw [i32_neg]; exact h H locs ls hw hv)
theorem xj_iand (C : CtxOk d x cc own) {a b : Int} (hd : decode cc pc = .ok (.iand, 1)) (h : XJ d x σ (pc + 1) lv (iv (bAnd a b) :: st)) : XJ d x σ pc lv (iv b :: iv a :: st) := fun H locs ls hw hv => lv_iand C.ex C.by hd (by rw [← i32_t (i32 a &&& i32 b)]; exact h H locs ls hw hv)
theorem xj_ior (C : CtxOk d x cc own) {a b : Int} (hd : decode cc pc = .ok (.ior, 1)) (h : XJ d x σ (pc + 1) lv (iv (bOr a b) :: st)) : XJ d x σ pc lv (iv b :: iv a :: st) := fun H locs ls hw hv => lv_ior C.ex C.by hd (by rw [← i32_t (i32 a ||| i32 b)]; exact h H locs ls hw hv)
theorem xj_ixor (C : CtxOk d x cc own) {a b : Int} (hd : decode cc pc = .ok (.ixor, 1)) (h : XJ d x σ (pc + 1) lv (iv (bXor a b) :: st)) : XJ d x σ pc lv (iv b :: iv a :: st) := fun H locs ls hw hv => lv_ixor C.ex C.by hd (by rw [← i32_t (i32 a ^^^ i32 b)]; exact h H locs ls hw hv)
theorem xj_ishl (C : CtxOk d x cc own) {a b : Int} (hd : decode cc pc = .ok (.ishl, 1)) (h : XJ d x σ (pc + 1) lv (iv (bShl a b) :: st)) : XJ d x σ pc lv (iv b :: iv a :: st) := fun H locs ls hw hv => lv_ishl C.ex C.by hd (by rw [← i32_t (i32 a <<< (i32 b &&& 31))]; exact h H locs ls hw hv)
theorem xj_ishr (C : CtxOk d x cc own) {a b : Int} (hd : decode cc pc = .ok (.ishr, 1)) (h : XJ d x σ (pc + 1) lv (iv (bShr a b) :: st)) : XJ d x σ pc lv (iv b :: iv a :: st) := fun H locs ls hw hv => lv_ishr C.ex C.by hd (by rw [← i32_t (i32 a >>> (i32 b &&& 31))]; exact h H locs ls hw hv)
theorem xj_iushr (C : CtxOk d x cc own) {a b : Int} (hd : decode cc pc = .ok (.iushr, 1)) (h : XJ d x σ (pc + 1) lv (iv (bUsh a b) :: st)) : XJ d x σ pc lv (iv b :: iv a :: st) := fun H locs ls hw hv => lv_iushr C.ex C.by hd rfl (by rw [← i32_t ((i32 a).toUInt32 >>> ((i32 b).toUInt32 &&& Int32.toUInt32 31)).toInt32]; exact h H locs ls hw hv)
theorem xj_i2b (C : CtxOk d x cc own) {a : Int} (hd : decode cc pc = .ok (.i2b, 1)) (h : XJ d x σ (pc + 1) lv (iv (b8 a) :: st)) : XJ d x σ pc lv (iv a :: st) := fun H locs ls hw hv => lv_i2b C.ex C.by hd rfl (by rw [← i32_t (i32 a).toInt8.toInt32]; exact h H locs ls hw hv)
theorem xj_dup (C : CtxOk d x cc own) {v : Value} (hd : decode cc pc = .ok (.dup, 1)) (hv1 : v.category = 1) (h : XJ d x σ (pc + 1) lv (v :: v :: st)) : XJ d x σ pc lv (v :: st) := fun H locs ls hw hv => lv_dup C.ex C.by hd hv1 (h H locs ls hw hv)
theorem xj_pop (C : CtxOk d x cc own) {v : Value} (hd : decode cc pc = .ok (.pop, 1)) (hv1 : v.category = 1) (h : XJ d x σ (pc + 1) lv st) : XJ d x σ pc lv (v :: st) := fun H locs ls hw hv => lv_pop C.ex C.by hd hv1 (h H locs ls hw hv)
theorem xj_dup_x1 (C : CtxOk d x cc own) {v u : Value} (hd : decode cc pc = .ok (.dup_x1, 1)) (hv1 : v.category = 1) (hu1 : u.category = 1) (h : XJ d x σ (pc + 1) lv (v :: u :: v :: st)) : XJ d x σ pc lv (v :: u :: st) := fun H locs ls hw hv => lv_dup_x1 C.ex C.by hd hv1 hu1 (h H locs ls hw hv)
theorem xj_goto (C : CtxOk d x cc own) {off : Int} {tgt : Nat} (hd : decode cc pc = .ok (.goto off, 3)) (ht : (pc : Int) + off = (tgt : Int)) (h : XJ d x σ tgt lv st) : XJ d x σ pc lv st := fun H locs ls hw hv => lv_goto C.ex C.by hd ht (h H locs ls hw hv)
end

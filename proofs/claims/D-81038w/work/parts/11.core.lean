/-! the abstract state: ints by field, longs by field, arrays by number; the world that holds it -/
abbrev S : Type := (Nat → Int) × (Nat → Int) × (Nat → Int → Int)
def gI (σ : S) (k : Nat) : Int := σ.1 k
def gL (σ : S) (k : Nat) : Int := σ.2.1 k
def gA (σ : S) (a : Nat) (i : Int) : Int := σ.2.2 a i
def pI (σ : S) (k : Nat) (v : Int) : S := (fun j => if j = k then v else σ.1 j, σ.2)
def pL (σ : S) (k : Nat) (v : Int) : S := (σ.1, fun j => if j = k then v else σ.2.1 j, σ.2.2)
def pA (σ : S) (a : Nat) (i v : Int) : S := (σ.1, σ.2.1, fun b j => if b = a ∧ j = i then v else σ.2.2 b j)
def iv (v : Int) : Value := .int (i32 v)
def jv (v : Int) : Value := .long (i64 v)
/-- a class of this form: own name, its Stop's name, the two classes, fields (kind: 0 int, 1 boolean, 2 long, 3 the Stop, 4 array), arrays (element type, length), the Stop's ints, texts -/
abbrev DS : Type := (String × String) × List vw_C × (Nat × (Nat → Nat) × (Nat → Nat)) × (Nat × (Nat → FieldType) × (Nat → Nat)) × Nat × (Nat × List Nat × List (List Int32) × List (Nat × String)) × List (Nat × String)
abbrev dOwn (d : DS) : String := d.1.1
abbrev dStop (d : DS) : String := d.1.2
abbrev dCl (d : DS) : List vw_C := d.2.1
abbrev dN (d : DS) : Nat := d.2.2.1.1
abbrev dKind (d : DS) : Nat → Nat := d.2.2.1.2.1
abbrev dFan (d : DS) : Nat → Nat := d.2.2.1.2.2
abbrev dNA (d : DS) : Nat := d.2.2.2.1.1
abbrev dAty (d : DS) : Nat → FieldType := d.2.2.2.1.2.1
abbrev dAln (d : DS) : Nat → Nat := d.2.2.2.1.2.2
abbrev dNs (d : DS) : Nat := d.2.2.2.2.1
abbrev dNS (d : DS) : Nat := d.2.2.2.2.2.1.1
abbrev dSlen (d : DS) : List Nat := d.2.2.2.2.2.1.2.1
abbrev dSbyt (d : DS) : List (List Int32) := d.2.2.2.2.2.1.2.2.1
abbrev dSidx (d : DS) : List (Nat × String) := d.2.2.2.2.2.1.2.2.2
abbrev dNf (d : DS) : List (Nat × String) := d.2.2.2.2.2.2
/-- where a world lies -/
abbrev WP : Type := va_G × (Nat → Nat) × (FieldType → ClassId) × Nat × Nat × List Value × (Nat → Nat) × (Nat → Nat)
abbrev wD (w : WP) : va_G := w.1
abbrev wAd (w : WP) : Nat → Nat := w.2.1
abbrev wCT (w : WP) : FieldType → ClassId := w.2.2.1
abbrev wH0 (w : WP) : Nat := w.2.2.2.1
abbrev wHs (w : WP) : Nat := w.2.2.2.2.1
abbrev wTf (w : WP) : List Value := w.2.2.2.2.2.1
abbrev wK (w : WP) : Nat → Nat := w.2.2.2.2.2.2.1
abbrev wV (w : WP) : Nat → Nat := w.2.2.2.2.2.2.2
def fvl (d : DS) (w : WP) (σ : S) (k : Nat) : Value := if dKind d k < 2 then iv (σ.1 k) else if dKind d k = 2 then jv (σ.2.1 k) else if dKind d k = 3 then .ref (wHs w) else .ref (wAd w (dFan d k))
def fls (d : DS) (w : WP) (σ : S) : List Value := (List.range (dN d)).map (fvl d w σ)
def sls (d : DS) (w : WP) (σ : S) : List Value := wTf w ++ (List.range (dNs d)).map fun k => iv (σ.1 (1006 + k))
def acl (d : DS) (w : WP) (σ : S) (a : Nat) : Nat × va_E := (wAd w a, .inl (wCT w (dAty d a), dAln d a, .inl fun j => i32 (σ.2.2 a (j : Int))))
def gws (d : DS) (w : WP) (σ : S) : va_W := (wH0 w, .inr (0, fls d w σ)) :: (wHs w, .inr (1, sls d w σ)) :: (List.range (dNA d)).map (acl d w σ)
def tyl (w : WP) : List (ClassId × FieldType) := [(wCT w .int, .int), (wCT w .byte, .byte), (wCT w .boolean, .boolean)]
def canT (ty : FieldType) (v : Int) : Prop := match ty with
  | .byte => isb8 v
  | .boolean => isB v
  | _ => can v
theorem can_T {ty : FieldType} {v : Int} (h : canT ty v) : can v := by
  unfold canT at h
  split at h
  · exact can_b8 h
  · exact can_B h
  · exact h
def CanS (d : DS) (σ : S) : Prop := (∀ k, can (σ.1 k)) ∧ (∀ k, dKind d k = 1 → isB (σ.1 k)) ∧ (∀ k, can8 (σ.2.1 k)) ∧ ∀ a i, canT (dAty d a) (σ.2.2 a i)
/-- two statics of the JDK that texts rest on -/
def JT (A : Nat → Prop) (U : State) (H : Heap) : Prop := va_Z "java/lang/String" "COMPACT_STRINGS" "Z" (.int 1) A U H ∧ va_Zq "jdk/internal/util/Preconditions" "SIOOBE_FORMATTER" "Ljava/util/function/BiFunction;" A U H
theorem JT.moved {A : Nat → Prop} {U V : State} {H : Heap} (hvm : U.vm.Alike V.vm) (h : JT A U H) : JT A V H := ⟨va_Z.moved hvm h.1, va_Zq.moved hvm h.2⟩
theorem JT.kept {A : Nat → Prop} {U : State} {H H1 : Heap} (hq : ∀ a : Nat, a < H.size → ¬ A a → H1[a]? = H[a]?) (h : JT A U H) : JT A U H1 := ⟨h.1.kept hq, h.2.kept hq⟩
theorem JT.narrow {A B : Nat → Prop} {U : State} {H : Heap} (hAB : ∀ q, B q → A q) (h : JT A U H) : JT B U H := ⟨h.1.narrow hAB, h.2.narrow hAB⟩
/-- what is known of the tables and the texts at a state -/
def XT (d : DS) (w : WP) (A : Nat → Prop) (U : State) (H : Heap) : Prop :=
  va_K (wD w) (dCl d) (tyl w) U ∧ vk_S (dNS d) (dSlen d) (dSbyt d) (wK w) (wV w) A U H ∧ (∀ (i : Nat) (q : Nat × String), (dSidx d)[i]? = some q → vk_R (dOwn d) q.1 q.2 (wK w i) U) ∧
  (∀ q ∈ dNf d, va_Nw (.fieldLinkNest (dOwn d) q.1 (dStop d) q.2 "I" (dOwn d)) U) ∧ va_Nw (.castable (dStop d) (dStop d)) U ∧ JT A U H
def Wd (d : DS) (w : WP) (A : Nat → Prop) (σ : S) (U : State) : Prop :=
  va_P (wD w) (dCl d) (gws d w σ) U.heap ∧ va_D (fun _ => True) (gws d w σ) ∧ CanS d σ ∧ XT d w A U U.heap
theorem XT.moved {d : DS} {w : WP} {A : Nat → Prop} {U V : State} {H : Heap} (hW : U.WarmedH V.vm) (h : XT d w A U H) : XT d w A V H :=
  ⟨va_K.moved hW.alike h.1, vk_S.moved hW.alike h.2.1, fun i q hq => vk_R.warm hW (h.2.2.1 i q hq), fun q hq => va_Nw.warmF hW (h.2.2.2.1 q hq), va_Nw.warmC hW h.2.2.2.2.1, h.2.2.2.2.2.moved hW.alike⟩
theorem XT.same {d : DS} {w : WP} {A : Nat → Prop} {U V : State} {H : Heap} (hv : V.vm = U.vm) (h : XT d w A U H) : XT d w A V H :=
  ⟨va_K.moved (by rw [hv]; exact Vm.Alike.refl _) h.1, vk_S.moved (by rw [hv]; exact Vm.Alike.refl _) h.2.1, fun i q hq => vk_R.same hv (h.2.2.1 i q hq), fun q hq => va_Nw.same rfl hv.symm (h.2.2.2.1 q hq), va_Nw.same rfl hv.symm h.2.2.2.2.1, h.2.2.2.2.2.moved (by rw [hv]; exact Vm.Alike.refl _)⟩
theorem XT.kept {d : DS} {w : WP} {A : Nat → Prop} {U : State} {H H1 : Heap} (hq : ∀ a : Nat, a < H.size → ¬ A a → H1[a]? = H[a]?) (h : XT d w A U H) : XT d w A U H1 := ⟨h.1, h.2.1.kept hq, h.2.2.1, h.2.2.2.1, h.2.2.2.2.1, h.2.2.2.2.2.kept hq⟩
theorem XT.narrow {d : DS} {w : WP} {A B : Nat → Prop} {U : State} {H : Heap} (hAB : ∀ q, B q → A q) (h : XT d w A U H) : XT d w B U H := ⟨h.1, h.2.1.narrow hAB, h.2.2.1, h.2.2.2.1, h.2.2.2.2.1, h.2.2.2.2.2.narrow hAB⟩
/-! the world's list by its places -/
theorem gws_addr (d : DS) (w : WP) (σ σ' : S) : (gws d w σ).map (fun q => q.1) = (gws d w σ').map (fun q => q.1) := by
  simp [gws, acl, Function.comp_def]
theorem gws_len (d : DS) (w : WP) (σ : S) : (gws d w σ).length = dNA d + 2 := by simp [gws]
theorem gws_at_addr {d : DS} {w : WP} {σ : S} (σ' : S) {k : Nat} {q : Nat × va_E} (h : (gws d w σ)[k]? = some q) : ∃ e, (gws d w σ')[k]? = some (q.1, e) := by
  have h1 : ((gws d w σ).map (fun q => q.1))[k]? = some q.1 := by rw [List.getElem?_map, h]; rfl
  rw [gws_addr d w σ σ', List.getElem?_map] at h1
  cases h2 : (gws d w σ')[k]? with
  | none => rw [h2] at h1; cases h1
  | some z =>
    rw [h2] at h1
    obtain ⟨z1, z2⟩ := z
    have h3 : z1 = q.1 := Option.some.inj h1
    exact ⟨z2, by rw [h3]⟩
theorem gws_D {d : DS} {w : WP} {A : Nat → Prop} {σ : S} (σ' : S) (h : va_D A (gws d w σ)) : va_D A (gws d w σ') := by
  refine ⟨fun i j p q hi hj e => ?_, fun k q hk => ?_⟩
  · obtain ⟨e1, h1⟩ := gws_at_addr σ hi
    obtain ⟨e2, h2⟩ := gws_at_addr σ hj
    exact h.1 i j _ _ h1 h2 e
  · obtain ⟨e1, h1⟩ := gws_at_addr σ hk
    exact h.2 k (q.1, e1) h1
theorem gws_A (d : DS) (w : WP) (σ σ' : S) (sz : Nat) : va_A (gws d w σ) sz = va_A (gws d w σ') sz := by
  funext q
  apply propext
  constructor
  · rintro (⟨k, e, h⟩ | h)
    · obtain ⟨e1, h1⟩ := gws_at_addr σ' h
      exact Or.inl ⟨k, e1, h1⟩
    · exact Or.inr h
  · rintro (⟨k, e, h⟩ | h)
    · obtain ⟨e1, h1⟩ := gws_at_addr σ h
      exact Or.inl ⟨k, e1, h1⟩
    · exact Or.inr h
theorem gws_0 (d : DS) (w : WP) (σ : S) : (gws d w σ)[0]? = some (wH0 w, .inr (0, fls d w σ)) := rfl
theorem gws_1 (d : DS) (w : WP) (σ : S) : (gws d w σ)[1]? = some (wHs w, .inr (1, sls d w σ)) := rfl
theorem gws_a {d : DS} {a : Nat} (h : a < dNA d) (w : WP) (σ : S) : (gws d w σ)[a + 2]? = some (acl d w σ a) := by
  show ((List.range (dNA d)).map (acl d w σ))[a]? = _
  rw [List.getElem?_map, List.getElem?_range h]; rfl
theorem fls_at {d : DS} {k : Nat} (h : k < dN d) (w : WP) (σ : S) : (fls d w σ)[k]? = some (fvl d w σ k) := by
  unfold fls
  rw [List.getElem?_map, List.getElem?_range h]; rfl
theorem set_map_range {α : Type} {f g : Nat → α} {n k : Nat} {v : α} (hk : g k = v) (h : ∀ j, j ≠ k → g j = f j) : ((List.range n).map f).set k v = (List.range n).map g := by
  apply List.ext_getElem?
  intro i
  rw [List.getElem?_set]
  by_cases hi : k = i
  · subst hi
    by_cases hn : k < n
    · simp [hn, hk]
    · simp [hn]
  · simp [hi]
    by_cases hn : i < n
    · simp [hn, h i (fun e => hi e.symm)]
    · simp [hn]
theorem fls_pI {d : DS} {w : WP} {σ : S} {k : Nat} {v : Int} (hk : dKind d k < 2) : (fls d w σ).set k (iv v) = fls d w (pI σ k v) := by
  unfold fls
  apply set_map_range
  · simp [fvl, hk, pI]
  · intro j hj
    simp [fvl, pI, hj]
theorem fls_pL {d : DS} {w : WP} {σ : S} {k : Nat} {v : Int} (hk : dKind d k = 2) : (fls d w σ).set k (jv v) = fls d w (pL σ k v) := by
  unfold fls
  apply set_map_range
  · simp [fvl, hk, pL]
  · intro j hj
    simp [fvl, pL, hj]
/-- the fields alone -/
theorem fls_pA (d : DS) (w : WP) (σ : S) (a : Nat) (i v : Int) : fls d w (pA σ a i v) = fls d w σ := rfl
theorem sls_pA (d : DS) (w : WP) (σ : S) (a : Nat) (i v : Int) : sls d w (pA σ a i v) = sls d w σ := rfl
theorem sls_pI {d : DS} {w : WP} {σ : S} {k : Nat} {v : Int} (hk : k < 1006) : sls d w (pI σ k v) = sls d w σ := by
  unfold sls pI
  congr 1
  apply List.map_congr_left
  intro j _
  have : ¬ (1006 + j = k) := by omega
  simp [this]
theorem sls_pL (d : DS) (w : WP) (σ : S) (k : Nat) (v : Int) : sls d w (pL σ k v) = sls d w σ := rfl
theorem fls_pS {d : DS} {w : WP} {σ : S} {k : Nat} {v : Int} (hN : dN d ≤ 1006) : fls d w (pI σ (1006 + k) v) = fls d w σ := by
  unfold fls
  apply List.map_congr_left
  intro j hj
  have h1 : j < dN d := List.mem_range.mp hj
  have : ¬ (j = 1006 + k) := by omega
  simp [fvl, pI, this]
theorem sls_pS {d : DS} {w : WP} {σ : S} {k : Nat} {v : Int} (ht : (wTf w).length = 6) : (sls d w σ).set (6 + k) (iv v) = sls d w (pI σ (1006 + k) v) := by
  unfold sls
  rw [List.set_append_right (6 + k) (iv v) (by omega), ht]
  congr 1
  rw [show 6 + k - 6 = k by omega]
  apply set_map_range
  · simp [pI]
  · intro j hj
    simp [pI, hj]
theorem gws_pI {d : DS} {w : WP} {σ : S} {k : Nat} {v : Int} (hk : dKind d k < 2) (hs : k < 1006) : (gws d w σ).set 0 (wH0 w, .inr (0, (fls d w σ).set k (iv v))) = gws d w (pI σ k v) := by
  rw [fls_pI hk]
  unfold gws
  rw [List.set_cons_zero, sls_pI (d := d) (w := w) (σ := σ) (v := v) hs]
  rfl
theorem gws_pL {d : DS} {w : WP} {σ : S} {k : Nat} {v : Int} (hk : dKind d k = 2) : (gws d w σ).set 0 (wH0 w, .inr (0, (fls d w σ).set k (jv v))) = gws d w (pL σ k v) := by
  rw [fls_pL hk]
  rfl
theorem gws_pS {d : DS} {w : WP} {σ : S} {k : Nat} {v : Int} (hN : dN d ≤ 1006) (ht : (wTf w).length = 6) : (gws d w σ).set 1 (wHs w, .inr (1, (sls d w σ).set (6 + k) (iv v))) = gws d w (pI σ (1006 + k) v) := by
  rw [sls_pS ht]
  unfold gws
  rw [fls_pS (d := d) (w := w) (σ := σ) (k := k) (v := v) hN]
  rfl
theorem acl_pA {d : DS} {w : WP} {σ : S} {a b : Nat} {i v : Int} (h : b ≠ a) : acl d w (pA σ a i v) b = acl d w σ b := by
  simp [acl, pA, h]
theorem acl_pA_self {d : DS} {w : WP} {σ : S} {a : Nat} {i v : Int} (hi : 0 ≤ i) : acl d w (pA σ a i v) a = (wAd w a, .inl (wCT w (dAty d a), dAln d a, .inl (upd (fun j => i32 (σ.2.2 a (j : Int))) i.toNat (i32 v)))) := by
  simp only [acl, pA]
  congr 5
  funext j
  unfold upd
  by_cases h : j = i.toNat
  · have : (j : Int) = i := by omega
    rw [if_pos h, if_pos ⟨trivial, this⟩]
  · have : ¬ (j : Int) = i := by omega
    rw [if_neg h, if_neg (fun e => this e.2)]
theorem gws_pA {d : DS} {w : WP} {σ : S} {a : Nat} {i v : Int} (hi : 0 ≤ i) : (gws d w σ).set (a + 2) (wAd w a, .inl (wCT w (dAty d a), dAln d a, .inl (upd (fun j => i32 (σ.2.2 a (j : Int))) i.toNat (i32 v)))) = gws d w (pA σ a i v) := by
  unfold gws
  rw [List.set_cons_succ, List.set_cons_succ, set_map_range (g := acl d w (pA σ a i v)) (acl_pA_self hi) (fun j hj => acl_pA hj)]
  rfl
theorem CanS.pI {d : DS} {σ : S} {k : Nat} {v : Int} (h : CanS d σ) (hv : can v) (hb : dKind d k = 1 → isB v) : CanS d (pI σ k v) := by
  refine ⟨fun j => ?_, fun j hj => ?_, h.2.2.1, h.2.2.2⟩
  · show can (if j = k then v else σ.1 j)
    split
    · exact hv
    · exact h.1 j
  · show isB (if j = k then v else σ.1 j)
    split
    · rename_i e; subst e; exact hb hj
    · exact h.2.1 j hj
theorem CanS.pL {d : DS} {σ : S} {k : Nat} {v : Int} (h : CanS d σ) (hv : can8 v) : CanS d (pL σ k v) := by
  refine ⟨h.1, h.2.1, fun j => ?_, h.2.2.2⟩
  show can8 (if j = k then v else σ.2.1 j)
  split
  · exact hv
  · exact h.2.2.1 j
theorem CanS.pA {d : DS} {σ : S} {a : Nat} {i v : Int} (h : CanS d σ) (hv : canT (dAty d a) v) : CanS d (pA σ a i v) := by
  refine ⟨h.1, h.2.1, h.2.2.1, fun b j => ?_⟩
  show canT (dAty d b) (if b = a ∧ j = i then v else σ.2.2 b j)
  split
  · rename_i e; rw [e.1]; exact hv
  · exact h.2.2.2 b j

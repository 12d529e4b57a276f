set_option maxRecDepth 100000

def t_in (v0 : Int) (v2 : Int) (v4 : Int) (σ : S) (Q : Int → S → Prop) : Prop :=
  Q (bi (¬ (cmpI v0 v2 < 0) ∧ (cmpI v0 v4 ≤ 0))) σ
def t_fail (v1 : Int) (v2 : Int) (σ : S) (Q : Int → S → Prop) (E : S → Prop) : Prop :=
  ∀ σ_1, σ_1 = pI σ 1006 v1 → ∀ σ_3, σ_3 = pI σ_1 1007 v2 → E σ_3
def t_clearPool_L12 (v1 : Int) (σ : S) (Q : Int → S → Prop) : Prop :=
  ∀ X12 : Int → S → Prop, (∀ (v1 : Int) (σ : S), ((if v1 < 65536 then inb v1 65536 ∧ ∀ σ_7, σ_7 = pA σ 57 v1 (-1) → X12 (w32 (v1 + 1)) σ_7 else Q 0 σ)) → X12 v1 σ) → X12 v1 σ
def t_clearPool (σ : S) (Q : Int → S → Prop) : Prop :=
  ∀ σ_1, σ_1 = pI σ 80 0 → ∀ σ_3, σ_3 = pI σ_1 81 0 → t_clearPool_L12 0 σ_3 Q
def t_clearModule (σ : S) (Q : Int → S → Prop) : Prop :=
  ∀ σ_1, σ_1 = pI σ 18 0 → ∀ σ_3, σ_3 = pI σ_1 53 0 → ∀ σ_5, σ_5 = pI σ_3 23 0 → ∀ σ_7, σ_7 = pI σ_5 37 0 → ∀ σ_9, σ_9 = pI σ_7 62 0 → ∀ σ_11, σ_11 = pI σ_9 45 0 → ∀ σ_13, σ_13 = pI σ_11 46 0 → ∀ σ_15, σ_15 = pI σ_13 47 0 → ∀ σ_17, σ_17 = pI σ_15 20 0 → ∀ σ_19, σ_19 = pI σ_17 16 0 → ∀ σ_21, σ_21 = pI σ_19 101 0 → ∀ σ_23, σ_23 = pI σ_21 134 0 → ∀ σ_25, σ_25 = pI σ_23 135 0 → ∀ σ_27, σ_27 = pI σ_25 144 0 → ∀ σ_29, σ_29 = pI σ_27 145 0 → t_clearPool σ_29 (fun _ σ_31 => Q 0 σ_31)
def t_feed_j111 (σ : S) (Q : Int → S → Prop) : Prop :=
  ∀ σ_9, σ_9 = pI σ 3 (w32 (gI σ 3 + 20)) → Q (gI σ_9 3) σ_9
def t_feed_L24 (v1 : Int) (v2 : Int) (v3 : Int) (v4 : Int) (v5 : Int) (v6 : Int) (σ : S) (Q : Int → S → Prop) : Prop :=
  ∀ X24 : Int → S → Prop, (∀ (v6 : Int) (σ : S), ((if v6 < 20 then inb (w32 (gI σ 3 + v6)) 6020 ∧ ∀ σ_20, σ_20 = pA σ 0 (w32 (gI σ 3 + v6)) (b8 (bUsh (if v6 < 4 then v1 else (if v6 < 8 then v2 else (if v6 < 12 then v3 else (if v6 < 16 then v4 else v5)))) (w32 (24 - (w32 (8 * (Int.tmod v6 4))))))) → X24 (w32 (v6 + 1)) σ_20 else t_feed_j111 σ Q)) → X24 v6 σ) → X24 v6 σ
def t_feed (v1 : Int) (v2 : Int) (v3 : Int) (v4 : Int) (v5 : Int) (σ : S) (Q : Int → S → Prop) : Prop :=
  ∀ σ_1, σ_1 = pI σ 0 0 → (if w32 (gI σ_1 3 + 20) ≤ 6000 then t_feed_L24 v1 v2 v3 v4 v5 0 σ_1 Q else Q (-3) σ_1)
def t_end (v1 : Int) (σ : S) (Q : Int → S → Prop) : Prop :=
  ∀ σ_1, σ_1 = pI σ 0 0 → t_in v1 0 20 σ_1 (fun r_4 σ_3 => (if (r_4 = 0) ∨ (gI σ_3 3 < 20) then Q (-1) σ_3 else ∀ σ_9, σ_9 = pI σ_3 3 (w32 (w32 (gI σ_3 3 + v1) - 20)) → Q (gI σ_9 3) σ_9))
def t_byteAt (v1 : Int) (σ : S) (Q : Int → S → Prop) : Prop :=
  inb v1 6020 ∧ Q (bAnd (gA σ 1 v1) 255) σ
def t_isBlank (v0 : Int) (σ : S) (Q : Int → S → Prop) : Prop :=
  Q (bi ((v0 = 32) ∨ (v0 = 10))) σ
def t_isAlone (v0 : Int) (σ : S) (Q : Int → S → Prop) : Prop :=
  Q (bi ((v0 = 40) ∨ ((v0 = 41) ∨ ((v0 = 91) ∨ ((v0 = 93) ∨ ((v0 = 123) ∨ ((v0 = 125) ∨ (v0 = 44)))))))) σ
def t_findWords_j348 (v1 : Int) (σ : S) (Q : Int → S → Prop) (X58 : Int → S → Prop) : Prop :=
  X58 v1 σ
def t_findWords_j286 (v1 : Int) (v3 : Int) (v4 : Int) (σ : S) (Q : Int → S → Prop) (X58 : Int → S → Prop) : Prop :=
  (if w32 (v1 - v3) ≤ 16 then (if v4 < 0 then inb (gI σ 8) 902 ∧ ∀ σ_41, σ_41 = pA σ 2 (gI σ 8) v3 → inb (gI σ_41 8) 902 ∧ ∀ σ_45, σ_45 = pA σ_41 3 (gI σ_41 8) (w32 (v1 - v3)) → ∀ σ_49, σ_49 = pI σ_45 8 (w32 (gI σ_45 8 + 1)) → t_findWords_j348 v1 σ_49 Q X58 else ∀ σ_51, σ_51 = pI σ 9 v4 → t_findWords_j348 v1 σ_51 Q X58) else ∀ σ_53, σ_53 = pI σ 9 v3 → t_findWords_j348 v1 σ_53 Q X58)
def t_findWords_L261 (v1 : Int) (σ : S) (Q : Int → S → Prop) (X58 : Int → S → Prop) : Prop :=
  ∀ X261 : Int → S → Prop, (∀ (v1 : Int) (σ : S), (((v1 < gI σ 5) → (inb v1 6020)) ∧ (if (v1 < gI σ 5) ∧ (¬ (gA σ 1 v1 = 10)) then X261 (w32 (v1 + 1)) σ else t_findWords_j348 v1 σ Q X58)) → X261 v1 σ) → X261 v1 σ
def t_findWords_j217 (v1 : Int) (v3 : Int) (v4 : Int) (σ : S) (Q : Int → S → Prop) (X58 : Int → S → Prop) : Prop :=
  (if w32 (v1 - v3) < 3 then t_findWords_j286 v1 v3 v4 σ Q X58 else inb v3 6020 ∧ ((gA σ 1 v3 = 42) → (inb (w32 (v3 + 1)) 6020)) ∧ ((gA σ 1 v3 = 42) → (gA σ 1 (w32 (v3 + 1)) = 42) → (inb (w32 (v3 + 2)) 6020)) ∧ (if (gA σ 1 v3 = 42) ∧ ((gA σ 1 (w32 (v3 + 1)) = 42) ∧ (gA σ 1 (w32 (v3 + 2)) = 42)) then t_findWords_L261 v1 σ Q X58 else t_findWords_j286 v1 v3 v4 σ Q X58))
def t_findWords_j209 (v1 : Int) (v3 : Int) (s0 : Int) (σ : S) (Q : Int → S → Prop) (X58 : Int → S → Prop) (X150 : Int → Int → S → Prop) : Prop :=
  X150 (w32 (v1 + 1)) s0 σ
def t_findWords_j207 (v1 : Int) (v3 : Int) (v4 : Int) (σ : S) (Q : Int → S → Prop) (X58 : Int → S → Prop) (X150 : Int → Int → S → Prop) : Prop :=
  t_findWords_j209 v1 v3 v4 σ Q X58 X150
def t_findWords_L150 (v1 : Int) (v3 : Int) (v4 : Int) (σ : S) (Q : Int → S → Prop) (X58 : Int → S → Prop) : Prop :=
  ∀ X150 : Int → Int → S → Prop, (∀ (v1 : Int) (v4 : Int) (σ : S), ((if v1 < gI σ 5 then t_byteAt v1 σ (fun r_76 σ_75 => t_isBlank r_76 σ_75 (fun r_78 σ_77 => (if r_78 = 0 then t_byteAt v1 σ_77 (fun r_82 σ_81 => t_isAlone r_82 σ_81 (fun r_84 σ_83 => (if r_84 = 0 then (if v4 < 0 then t_byteAt v1 σ_83 (fun r_90 σ_89 => t_in r_90 33 126 σ_89 (fun r_92 σ_91 => (if r_92 = 0 then t_findWords_j209 v1 v3 v1 σ_91 Q X58 X150 else t_findWords_j207 v1 v3 v4 σ_91 Q X58 X150))) else t_findWords_j207 v1 v3 v4 σ_83 Q X58 X150) else t_findWords_j217 v1 v3 v4 σ_83 Q X58))) else t_findWords_j217 v1 v3 v4 σ_77 Q X58))) else t_findWords_j217 v1 v3 v4 σ Q X58)) → X150 v1 v4 σ) → X150 v1 v4 σ
def t_findWords_L58 (v1 : Int) (σ : S) (Q : Int → S → Prop) : Prop :=
  ∀ X58 : Int → S → Prop, (∀ (v1 : Int) (σ : S), ((if (v1 < gI σ 5) ∧ ((gI σ 9 < 0) ∧ (gI σ 8 ≤ 900)) then t_byteAt v1 σ (fun r_22 σ_21 => t_isBlank r_22 σ_21 (fun r_24 σ_23 => (if r_24 = 0 then t_isAlone r_22 σ_23 (fun r_28 σ_27 => (if r_28 = 0 then t_findWords_L150 v1 v1 (-1) σ_27 Q X58 else inb (gI σ_27 8) 902 ∧ ∀ σ_96, σ_96 = pA σ_27 2 (gI σ_27 8) v1 → inb (gI σ_96 8) 902 ∧ ∀ σ_100, σ_100 = pA σ_96 3 (gI σ_96 8) 1 → ∀ σ_104, σ_104 = pI σ_100 8 (w32 (gI σ_100 8 + 1)) → t_findWords_j348 (w32 (v1 + 1)) σ_104 Q X58)) else t_findWords_j348 (w32 (v1 + 1)) σ_23 Q X58))) else Q 0 σ)) → X58 v1 σ) → X58 v1 σ
def t_findWords_j36 (σ : S) (Q : Int → S → Prop) : Prop :=
  ∀ σ_7, σ_7 = pI σ 3 0 → ∀ σ_9, σ_9 = pI σ_7 8 0 → ∀ σ_11, σ_11 = pI σ_9 9 (-1) → ∀ σ_13, σ_13 = pI σ_11 10 0 → t_findWords_L58 0 σ_13 Q
def t_findWords_L10 (v1 : Int) (σ : S) (Q : Int → S → Prop) : Prop :=
  ∀ X10 : Int → S → Prop, (∀ (v1 : Int) (σ : S), ((if v1 < gI σ 3 then inb v1 6020 ∧ inb v1 6020 ∧ ∀ σ_111, σ_111 = pA σ 1 v1 (gA σ 0 v1) → X10 (w32 (v1 + 1)) σ_111 else t_findWords_j36 σ Q)) → X10 v1 σ) → X10 v1 σ
def t_findWords (σ : S) (Q : Int → S → Prop) : Prop :=
  ∀ σ_2, σ_2 = pI σ 5 (gI σ 3) → t_findWords_L10 0 σ_2 Q
def t_isOver (σ : S) (Q : Int → S → Prop) (E : S → Prop) : Prop :=
  (if gI σ 10 < gI σ 8 then Q 0 σ else (if gI σ 9 < 0 then Q 1 σ else t_fail 1 (gI σ 9) σ (fun _ σ_9 => Q 1 σ_9) E))
def t_here (σ : S) (Q : Int → S → Prop) : Prop :=
  ((gI σ 10 < gI σ 8) → (inb (gI σ 10) 902)) ∧ Q (if gI σ 10 < gI σ 8 then gA σ 2 (gI σ 10) else gI σ 5) σ
def t_isWordAt_L22 (v1 : Int) (v2 : Nat) (v3 : Int) (v4 : Int) (σ : S) (Q : Int → S → Prop) : Prop :=
  ∀ X22 : Int → Int → S → Prop, (∀ (v3 : Int) (v4 : Int) (σ : S), (inb v1 902 ∧ (if (v4 < gA σ 3 v1) ∧ (¬ (v3 = 0)) then inb v1 902 ∧ inb (w32 (gA σ 2 v1 + v4)) 6020 ∧ inb v4 (sLnT v2) ∧ X22 (bi (gA σ 1 (w32 (gA σ 2 v1 + v4)) = sChT v2 v4)) (w32 (v4 + 1)) σ else Q v3 σ)) → X22 v3 v4 σ) → X22 v3 v4 σ
def t_isWordAt (v1 : Int) (v2 : Nat) (σ : S) (Q : Int → S → Prop) : Prop :=
  inb v1 902 ∧ t_isWordAt_L22 v1 v2 (bi (gA σ 3 v1 = sLnT v2)) 0 σ Q
def t_is_j23 (σ : S) (Q : Int → S → Prop) (E : S → Prop) : Prop :=
  Q 0 σ
def t_is (v1 : Nat) (σ : S) (Q : Int → S → Prop) (E : S → Prop) : Prop :=
  t_isOver σ (fun r_2 σ_1 => (if r_2 = 0 then t_isWordAt (gI σ_1 10) v1 σ_1 (fun r_8 σ_7 => (if r_8 = 0 then t_is_j23 σ_7 Q E else Q 1 σ_7)) else t_is_j23 σ_1 Q E)) E
def t_isReserved_j88 (σ : S) (Q : Int → S → Prop) : Prop :=
  Q 1 σ
def t_isReserved (v1 : Int) (σ : S) (Q : Int → S → Prop) : Prop :=
  t_isWordAt v1 0 σ (fun r_2 σ_1 => (if r_2 = 0 then t_isWordAt v1 1 σ_1 (fun r_6 σ_5 => (if r_6 = 0 then t_isWordAt v1 2 σ_5 (fun r_10 σ_9 => (if r_10 = 0 then t_isWordAt v1 3 σ_9 (fun r_14 σ_13 => (if r_14 = 0 then t_isWordAt v1 4 σ_13 (fun r_18 σ_17 => (if r_18 = 0 then t_isWordAt v1 5 σ_17 (fun r_22 σ_21 => (if r_22 = 0 then t_isWordAt v1 6 σ_21 (fun r_26 σ_25 => (if r_26 = 0 then t_isWordAt v1 7 σ_25 (fun r_30 σ_29 => (if r_30 = 0 then Q 0 σ_29 else t_isReserved_j88 σ_29 Q)) else t_isReserved_j88 σ_25 Q)) else t_isReserved_j88 σ_21 Q)) else t_isReserved_j88 σ_17 Q)) else t_isReserved_j88 σ_13 Q)) else t_isReserved_j88 σ_9 Q)) else t_isReserved_j88 σ_5 Q)) else t_isReserved_j88 σ_1 Q))
def t_pass_j20 (σ : S) (Q : Int → S → Prop) (E : S → Prop) : Prop :=
  ∀ σ_6, σ_6 = pI σ 10 (w32 (gI σ 10 + 1)) → Q 0 σ_6
def t_pass (σ : S) (Q : Int → S → Prop) (E : S → Prop) : Prop :=
  (if gI σ 10 = gI σ 11 then t_here σ (fun r_9 σ_8 => t_fail 2 r_9 σ_8 (fun _ σ_10 => t_pass_j20 σ_10 Q E) E) else t_pass_j20 σ Q E)
def t_must_j17 (σ : S) (Q : Int → S → Prop) (E : S → Prop) : Prop :=
  t_pass σ (fun _ σ_6 => Q 0 σ_6) E
def t_must (v1 : Nat) (σ : S) (Q : Int → S → Prop) (E : S → Prop) : Prop :=
  t_is v1 σ (fun r_2 σ_1 => (if r_2 = 0 then t_here σ_1 (fun r_9 σ_8 => t_fail 1 r_9 σ_8 (fun _ σ_10 => t_must_j17 σ_10 Q E) E) else t_must_j17 σ_1 Q E)) E
def t_plainWord_j46 (σ : S) (Q : Int → S → Prop) (E : S → Prop) : Prop :=
  t_pass σ (fun _ σ_11 => Q (gI σ 10) σ_11) E
def t_plainWord_j37 (σ : S) (Q : Int → S → Prop) (E : S → Prop) : Prop :=
  t_here σ (fun r_7 σ_6 => t_fail 1 r_7 σ_6 (fun _ σ_8 => t_plainWord_j46 σ_8 Q E) E)
def t_plainWord (σ : S) (Q : Int → S → Prop) (E : S → Prop) : Prop :=
  t_isOver σ (fun r_2 σ_1 => (if r_2 = 0 then t_isReserved (gI σ_1 10) σ_1 (fun r_15 σ_14 => (if r_15 = 0 then inb (gI σ_14 10) 902 ∧ t_byteAt (gA σ_14 2 (gI σ_14 10)) σ_14 (fun r_22 σ_21 => t_isAlone r_22 σ_21 (fun r_24 σ_23 => (if r_24 = 0 then t_plainWord_j46 σ_23 Q E else t_plainWord_j37 σ_23 Q E))) else t_plainWord_j37 σ_14 Q E)) else t_plainWord_j37 σ_1 Q E)) E
def t_isPlain_j41 (σ : S) (Q : Int → S → Prop) (E : S → Prop) : Prop :=
  Q 0 σ
def t_isPlain (σ : S) (Q : Int → S → Prop) (E : S → Prop) : Prop :=
  t_isOver σ (fun r_2 σ_1 => (if r_2 = 0 then t_isReserved (gI σ_1 10) σ_1 (fun r_8 σ_7 => (if r_8 = 0 then inb (gI σ_7 10) 902 ∧ t_byteAt (gA σ_7 2 (gI σ_7 10)) σ_7 (fun r_15 σ_14 => t_isAlone r_15 σ_14 (fun r_17 σ_16 => (if r_17 = 0 then Q 1 σ_16 else t_isPlain_j41 σ_16 Q E))) else t_isPlain_j41 σ_7 Q E)) else t_isPlain_j41 σ_1 Q E)) E
def t_findName_j78 (v1 : Int) (v2 : Int) (v3 : Int) (v4 : Int) (σ : S) (Q : Int → S → Prop) (X2 : Int → S → Prop) : Prop :=
  (if v4 = 0 then X2 (w32 (v3 + 1)) σ else Q v3 σ)
def t_findName_L30 (v1 : Int) (v2 : Int) (v3 : Int) (v4 : Int) (v5 : Int) (σ : S) (Q : Int → S → Prop) (X2 : Int → S → Prop) : Prop :=
  ∀ X30 : Int → Int → S → Prop, (∀ (v4 : Int) (v5 : Int) (σ : S), ((if v5 < v2 then (if v4 = 0 then t_findName_j78 v1 v2 v3 v4 σ Q X2 else inb (w32 (w32 (16 * v3) + v5)) 50000 ∧ inb (w32 (v1 + v5)) 6020 ∧ X30 (bi (gA σ 4 (w32 (w32 (16 * v3) + v5)) = gA σ 1 (w32 (v1 + v5)))) (w32 (v5 + 1)) σ) else t_findName_j78 v1 v2 v3 v4 σ Q X2)) → X30 v4 v5 σ) → X30 v4 v5 σ
def t_findName_L2 (v1 : Int) (v2 : Int) (v3 : Int) (σ : S) (Q : Int → S → Prop) : Prop :=
  ∀ X2 : Int → S → Prop, (∀ (v3 : Int) (σ : S), ((if v3 < gI σ 16 then inb v3 3100 ∧ t_findName_L30 v1 v2 v3 (bi (gA σ 5 v3 = v2)) 0 σ Q X2 else Q (-2) σ)) → X2 v3 σ) → X2 v3 σ
def t_findName (v1 : Int) (v2 : Int) (σ : S) (Q : Int → S → Prop) : Prop :=
  t_findName_L2 v1 v2 0 σ Q
def t_name_j52 (v2 : Int) (v3 : Int) (σ : S) (Q : Int → S → Prop) : Prop :=
  inb v3 3100 ∧ ∀ σ_8, σ_8 = pA σ 5 v3 v2 → ∀ σ_12, σ_12 = pI σ_8 16 (w32 (gI σ_8 16 + 1)) → Q v3 σ_12
def t_name_L19 (v1 : Int) (v2 : Int) (v3 : Int) (v4 : Int) (σ : S) (Q : Int → S → Prop) : Prop :=
  ∀ X19 : Int → S → Prop, (∀ (v4 : Int) (σ : S), ((if v4 < v2 then inb (w32 (v1 + v4)) 6020 ∧ inb (w32 (w32 (16 * v3) + v4)) 50000 ∧ ∀ σ_16, σ_16 = pA σ 4 (w32 (w32 (16 * v3) + v4)) (gA σ 1 (w32 (v1 + v4))) → X19 (w32 (v4 + 1)) σ_16 else t_name_j52 v2 v3 σ Q)) → X19 v4 σ) → X19 v4 σ
def t_name (v1 : Int) (v2 : Int) (σ : S) (Q : Int → S → Prop) : Prop :=
  t_findName v1 v2 σ (fun r_2 σ_1 => (if r_2 < 0 then t_name_L19 v1 v2 (gI σ_1 16) 0 σ_1 Q else Q r_2 σ_1))
def t_nameOf (v1 : Int) (σ : S) (Q : Int → S → Prop) : Prop :=
  inb v1 902 ∧ inb v1 902 ∧ t_name (gA σ 2 v1) (gA σ 3 v1) σ (fun r_6 σ_5 => Q r_6 σ_5)
def t_signName_j41 (v1 : Int) (σ : S) (Q : Int → S → Prop) : Prop :=
  inb (w32 (16 * (gI σ 16))) 50000 ∧ ∀ σ_5, σ_5 = pA σ 4 (w32 (16 * (gI σ 16))) (b8 v1) → inb (gI σ_5 16) 3100 ∧ ∀ σ_9, σ_9 = pA σ_5 5 (gI σ_5 16) 1 → ∀ σ_13, σ_13 = pI σ_9 16 (w32 (gI σ_9 16 + 1)) → Q (w32 (gI σ_13 16 - 1)) σ_13
def t_signName_L2 (v1 : Int) (v2 : Int) (σ : S) (Q : Int → S → Prop) : Prop :=
  ∀ X2 : Int → S → Prop, (∀ (v2 : Int) (σ : S), ((if v2 < gI σ 16 then inb v2 3100 ∧ ((gA σ 5 v2 = 1) → (inb (w32 (16 * v2)) 50000)) ∧ (if (gA σ 5 v2 = 1) ∧ (gA σ 4 (w32 (16 * v2)) = v1) then Q v2 σ else X2 (w32 (v2 + 1)) σ) else t_signName_j41 v1 σ Q)) → X2 v2 σ) → X2 v2 σ
def t_signName (v1 : Int) (σ : S) (Q : Int → S → Prop) : Prop :=
  t_signName_L2 v1 0 σ Q
def t_termWords_j67 (v1 : Int) (v2 : Int) (σ : S) (Q : Int → S → Prop) (E : S → Prop) : Prop :=
  inb v1 1136 ∧ ∀ σ_10, σ_10 = pA σ 25 v1 v2 → inb v1 1136 ∧ ∀ σ_14, σ_14 = pA σ_10 26 v1 (w32 (gI σ_10 10 - v2)) → Q 0 σ_14
def t_termWords_j50 (v1 : Int) (v2 : Int) (σ : S) (Q : Int → S → Prop) (E : S → Prop) : Prop :=
  (if gI σ 10 = v2 then t_here σ (fun r_18 σ_17 => t_fail 1 r_18 σ_17 (fun _ σ_19 => t_termWords_j67 v1 v2 σ_19 Q E) E) else t_termWords_j67 v1 v2 σ Q E)
def t_termWords_j43 (v1 : Int) (v2 : Int) (σ : S) (Q : Int → S → Prop) (E : S → Prop) (X5 : S → Prop) : Prop :=
  t_pass σ (fun _ σ_29 => X5 σ_29) E
def t_termWords_L5 (v1 : Int) (v2 : Int) (σ : S) (Q : Int → S → Prop) (E : S → Prop) : Prop :=
  ∀ X5 : S → Prop, (∀ (σ : S), (t_isOver σ (fun r_3 σ_2 => (if r_3 = 0 then t_isReserved (gI σ_2 10) σ_2 (fun r_23 σ_22 => (if r_23 = 0 then (if w32 (gI σ_22 10 - v2) = 32 then t_here σ_22 (fun r_32 σ_31 => t_fail 2 r_32 σ_31 (fun _ σ_33 => t_termWords_j43 v1 v2 σ_33 Q E X5) E) else t_termWords_j43 v1 v2 σ_22 Q E X5) else t_termWords_j50 v1 v2 σ_22 Q E)) else t_termWords_j50 v1 v2 σ_2 Q E)) E) → X5  σ) → X5  σ
def t_termWords (v1 : Int) (σ : S) (Q : Int → S → Prop) (E : S → Prop) : Prop :=
  t_termWords_L5 v1 (gI σ 10) σ Q E
def t_conditions_j211 (v1 : Int) (v2 : Int) (σ : S) (Q : Int → S → Prop) (E : S → Prop) (X6 : Int → S → Prop) : Prop :=
  X6 v2 σ
def t_conditions_j185 (v1 : Int) (σ : S) (Q : Int → S → Prop) (E : S → Prop) (X6 : Int → S → Prop) : Prop :=
  inb v1 70 ∧ inb v1 70 ∧ ∀ σ_34, σ_34 = pA σ 29 v1 (w32 (gA σ 29 v1 + 1)) → t_is 7 σ_34 (fun r_38 σ_37 => (if r_38 = 0 then t_conditions_j211 v1 r_38 σ_37 Q E X6 else t_pass σ_37 (fun _ σ_42 => t_conditions_j211 v1 r_38 σ_42 Q E X6) E)) E
def t_conditions_j59 (v1 : Int) (v3 : Int) (σ : S) (Q : Int → S → Prop) (E : S → Prop) (X6 : Int → S → Prop) : Prop :=
  t_termWords (w32 (w32 (w32 (16 * v1) + 2) + (w32 (2 * v3)))) σ (fun _ σ_9 => t_is 3 σ_9 (fun r_12 σ_11 => (if r_12 = 0 then t_is 5 σ_11 (fun r_17 σ_16 => (if r_17 = 0 then t_must 1 σ_16 (fun _ σ_21 => inb (w32 (w32 (6 * v1) + v3)) 420 ∧ ∀ σ_23, σ_23 = pA σ_21 27 (w32 (w32 (6 * v1) + v3)) 2 → t_plainWord σ_23 (fun r_27 σ_26 => inb (w32 (w32 (6 * v1) + v3)) 420 ∧ ∀ σ_29, σ_29 = pA σ_26 28 (w32 (w32 (6 * v1) + v3)) r_27 → t_conditions_j185 v1 σ_29 Q E X6) E) E else inb (w32 (w32 (6 * v1) + v3)) 420 ∧ ∀ σ_44, σ_44 = pA σ_16 27 (w32 (w32 (6 * v1) + v3)) 1 → t_pass σ_44 (fun _ σ_47 => t_termWords (w32 (w32 (w32 (w32 (16 * v1) + 2) + (w32 (2 * v3))) + 1)) σ_47 (fun _ σ_49 => t_conditions_j185 v1 σ_49 Q E X6) E) E)) E else inb (w32 (w32 (6 * v1) + v3)) 420 ∧ ∀ σ_51, σ_51 = pA σ_11 27 (w32 (w32 (6 * v1) + v3)) 0 → t_pass σ_51 (fun _ σ_54 => t_termWords (w32 (w32 (w32 (w32 (16 * v1) + 2) + (w32 (2 * v3))) + 1)) σ_54 (fun _ σ_56 => t_conditions_j185 v1 σ_56 Q E X6) E) E)) E) E
def t_conditions_j50 (v1 : Int) (v3 : Int) (σ : S) (Q : Int → S → Prop) (E : S → Prop) (X6 : Int → S → Prop) : Prop :=
  t_here σ (fun r_68 σ_67 => t_fail 2 r_68 σ_67 (fun _ σ_69 => t_conditions_j59 v1 v3 σ_69 Q E X6) E)
def t_conditions_j41 (v1 : Int) (v3 : Int) (σ : S) (Q : Int → S → Prop) (E : S → Prop) (X6 : Int → S → Prop) : Prop :=
  t_here σ (fun r_64 σ_63 => t_fail 1 r_64 σ_63 (fun _ σ_65 => t_conditions_j50 v1 v3 σ_65 Q E X6) E)
def t_conditions_L6 (v1 : Int) (v2 : Int) (σ : S) (Q : Int → S → Prop) (E : S → Prop) : Prop :=
  ∀ X6 : Int → S → Prop, (∀ (v2 : Int) (σ : S), ((if v2 = 0 then Q 0 σ else inb v1 70 ∧ (if gA σ 29 v1 = 6 then t_isOver σ (fun r_59 σ_58 => (if r_59 = 0 then t_isReserved (gI σ_58 10) σ_58 (fun r_73 σ_72 => (if r_73 = 0 then t_conditions_j50 v1 (gA σ 29 v1) σ_72 Q E X6 else t_conditions_j41 v1 (gA σ 29 v1) σ_72 Q E X6)) else t_conditions_j41 v1 (gA σ 29 v1) σ_58 Q E X6)) E else t_conditions_j59 v1 (gA σ 29 v1) σ Q E X6))) → X6 v2 σ) → X6 v2 σ
def t_conditions (v1 : Int) (σ : S) (Q : Int → S → Prop) (E : S → Prop) : Prop :=
  t_pass σ (fun _ σ_1 => t_conditions_L6 v1 1 σ_1 Q E) E
def t_statement_j143 (v1 : Int) (σ : S) (Q : Int → S → Prop) (E : S → Prop) : Prop :=
  t_must 0 σ (fun _ σ_36 => ∀ σ_39, σ_39 = pI σ_36 45 (w32 (gI σ_36 45 + 1)) → ∀ σ_43, σ_43 = pI σ_39 46 (w32 (gI σ_39 46 + (bi (v1 < 2)))) → ∀ σ_47, σ_47 = pI σ_43 47 (w32 (gI σ_43 47 + (bi (v1 = 2)))) → Q 0 σ_47) E
def t_statement_j90 (v1 : Int) (v3 : Int) (σ : S) (Q : Int → S → Prop) (E : S → Prop) : Prop :=
  t_termWords (w32 (w32 (16 * v3) + 0)) σ (fun _ σ_22 => t_must (if v1 = 2 then 4 else 3) σ_22 (fun _ σ_27 => t_termWords (w32 (w32 (16 * v3) + 1)) σ_27 (fun _ σ_29 => t_is 6 σ_29 (fun r_32 σ_31 => (if r_32 = 0 then t_statement_j143 v1 σ_31 Q E else t_conditions v3 σ_31 (fun _ σ_53 => t_statement_j143 v1 σ_53 Q E) E)) E) E) E) E
def t_statement_j37 (v1 : Int) (σ : S) (Q : Int → S → Prop) (E : S → Prop) : Prop :=
  t_pass σ (fun _ σ_9 => inb (gI σ 45) 70 ∧ ∀ σ_11, σ_11 = pA σ_9 23 (gI σ 45) v1 → inb (gI σ 45) 70 ∧ ∀ σ_14, σ_14 = pA σ_11 29 (gI σ 45) 0 → inb (gI σ 45) 70 ∧ ∀ σ_17, σ_17 = pA σ_14 24 (gI σ 45) (-2) → (if v1 = 2 then t_plainWord σ_17 (fun r_56 σ_55 => inb (gI σ 45) 70 ∧ ∀ σ_58, σ_58 = pA σ_55 24 (gI σ 45) r_56 → t_must 1 σ_58 (fun _ σ_61 => t_statement_j90 v1 (gI σ 45) σ_61 Q E) E) E else t_statement_j90 v1 (gI σ 45) σ_17 Q E)) E
def t_statement_j31 (v1 : Int) (v2 : Int) (σ : S) (Q : Int → S → Prop) (E : S → Prop) : Prop :=
  t_fail 2 v2 σ (fun _ σ_63 => t_statement_j37 v1 σ_63 Q E) E
def t_statement (v1 : Int) (σ : S) (Q : Int → S → Prop) (E : S → Prop) : Prop :=
  t_here σ (fun r_2 σ_1 => (if v1 < 2 then (if gI σ_1 46 = 40 then t_statement_j31 v1 r_2 σ_1 Q E else t_statement_j37 v1 σ_1 Q E) else (if gI σ_1 47 = 30 then t_statement_j31 v1 r_2 σ_1 Q E else t_statement_j37 v1 σ_1 Q E)))
def t_sortItem_j55 (v2 : Int) (σ : S) (Q : Int → S → Prop) (E : S → Prop) (X6 : Int → S → Prop) : Prop :=
  t_plainWord σ (fun r_15 σ_14 => inb (if v2 = 0 then gI σ 18 else 0) 20 ∧ ∀ σ_17, σ_17 = pA σ_14 6 (if v2 = 0 then gI σ 18 else 0) r_15 → ∀ σ_21, σ_21 = pI σ_17 18 (w32 (gI σ_17 18 + 1)) → X6 1 σ_21) E
def t_sortItem_j20 (σ : S) (Q : Int → S → Prop) (E : S → Prop) (X6 : Int → S → Prop) : Prop :=
  (if bi (gI σ 18 = 20) = 0 then t_sortItem_j55 (bi (gI σ 18 = 20)) σ Q E X6 else t_isPlain σ (fun r_24 σ_23 => (if r_24 = 0 then t_sortItem_j55 (bi (gI σ 18 = 20)) σ_23 Q E X6 else t_here σ_23 (fun r_29 σ_28 => t_fail 2 r_29 σ_28 (fun _ σ_30 => t_sortItem_j55 (bi (gI σ 18 = 20)) σ_30 Q E X6) E))) E)
def t_sortItem_j91 (σ : S) (Q : Int → S → Prop) (E : S → Prop) : Prop :=
  t_pass σ (fun _ σ_39 => Q 0 σ_39) E
def t_sortItem_L6 (v1 : Int) (σ : S) (Q : Int → S → Prop) (E : S → Prop) : Prop :=
  ∀ X6 : Int → S → Prop, (∀ (v1 : Int) (σ : S), ((if v1 = 0 then t_sortItem_j20 σ Q E X6 else t_is 0 σ (fun r_35 σ_34 => (if r_35 = 0 then t_sortItem_j20 σ_34 Q E X6 else t_sortItem_j91 σ_34 Q E)) E)) → X6 v1 σ) → X6 v1 σ
def t_sortItem (σ : S) (Q : Int → S → Prop) (E : S → Prop) : Prop :=
  t_pass σ (fun _ σ_1 => t_sortItem_L6 0 σ_1 Q E) E
def t_group_j42 (σ : S) (Q : Int → S → Prop) (E : S → Prop) (X2 : Int → S → Prop) : Prop :=
  t_plainWord σ (fun r_10 σ_9 => inb (gI σ 20) 1000 ∧ ∀ σ_12, σ_12 = pA σ_9 7 (gI σ 20) r_10 → ∀ σ_16, σ_16 = pI σ_12 20 (w32 (gI σ_12 20 + 1)) → X2 1 σ_16) E
def t_group_j23 (σ : S) (Q : Int → S → Prop) (E : S → Prop) (X2 : Int → S → Prop) : Prop :=
  t_is 8 σ (fun r_4 σ_3 => (if r_4 = 0 then t_group_j42 σ_3 Q E X2 else t_here σ_3 (fun r_19 σ_18 => t_fail 1 r_19 σ_18 (fun _ σ_20 => t_group_j42 σ_20 Q E X2) E))) E
def t_group_L2 (v1 : Int) (σ : S) (Q : Int → S → Prop) (E : S → Prop) : Prop :=
  ∀ X2 : Int → S → Prop, (∀ (v1 : Int) (σ : S), ((if v1 = 0 then t_group_j23 σ Q E X2 else t_isPlain σ (fun r_23 σ_22 => (if r_23 = 0 then Q 0 σ_22 else t_is 8 σ_22 (fun r_28 σ_27 => (if r_28 = 0 then t_group_j23 σ_27 Q E X2 else Q 0 σ_27)) E)) E)) → X2 v1 σ) → X2 v1 σ
def t_group (σ : S) (Q : Int → S → Prop) (E : S → Prop) : Prop :=
  t_group_L2 0 σ Q E
def t_subsortItem_j74 (σ : S) (Q : Int → S → Prop) (E : S → Prop) : Prop :=
  t_must 0 σ (fun _ σ_15 => inb (gI σ_15 20) 1000 ∧ ∀ σ_18, σ_18 = pA σ_15 7 (gI σ_15 20) (-1) → ∀ σ_22, σ_22 = pI σ_18 20 (w32 (gI σ_18 20 + 1)) → Q 0 σ_22) E
def t_subsortItem_L27 (σ : S) (Q : Int → S → Prop) (E : S → Prop) : Prop :=
  ∀ X27 : S → Prop, (∀ (σ : S), (t_is 8 σ (fun r_11 σ_10 => (if r_11 = 0 then t_subsortItem_j74 σ_10 Q E else t_here σ_10 (fun r_26 σ_25 => inb (gI σ_10 20) 1000 ∧ ∀ σ_27, σ_27 = pA σ_25 7 (gI σ_10 20) (w32 ((-2) - r_26)) → ∀ σ_31, σ_31 = pI σ_27 20 (w32 (gI σ_27 20 + 1)) → t_pass σ_31 (fun _ σ_33 => t_group σ_33 (fun _ σ_35 => X27 σ_35) E) E))) E) → X27  σ) → X27  σ
def t_subsortItem (σ : S) (Q : Int → S → Prop) (E : S → Prop) : Prop :=
  t_pass σ (fun _ σ_1 => t_group σ_1 (fun _ σ_3 => t_is 8 σ_3 (fun r_6 σ_5 => (if r_6 = 0 then t_here σ_5 (fun r_38 σ_37 => t_fail 1 r_38 σ_37 (fun _ σ_39 => t_subsortItem_L27 σ_39 Q E) E) else t_subsortItem_L27 σ_5 Q E)) E) E) E
def t_varItem_j52 (v1 : Int) (σ : S) (Q : Int → S → Prop) (E : S → Prop) (X9 : S → Prop) : Prop :=
  t_plainWord σ (fun r_17 σ_16 => inb (if gI σ 23 < 30 then gI σ 23 else 0) 30 ∧ ∀ σ_19, σ_19 = pA σ_16 8 (if gI σ 23 < 30 then gI σ 23 else 0) r_17 → ∀ σ_23, σ_23 = pI σ_19 23 (w32 (gI σ_19 23 + 1)) → X9 σ_23) E
def t_varItem_j27 (v1 : Int) (σ : S) (Q : Int → S → Prop) (E : S → Prop) (X9 : S → Prop) : Prop :=
  (if gI σ 23 = 30 then t_isPlain σ (fun r_26 σ_25 => (if r_26 = 0 then t_varItem_j52 v1 σ_25 Q E X9 else t_here σ_25 (fun r_31 σ_30 => t_fail 2 r_31 σ_30 (fun _ σ_32 => t_varItem_j52 v1 σ_32 Q E X9) E))) E else t_varItem_j52 v1 σ Q E X9)
def t_varItem_j123 (σ : S) (Q : Int → S → Prop) (E : S → Prop) : Prop :=
  t_must 0 σ (fun _ σ_47 => Q 0 σ_47) E
def t_varItem_L102 (v2 : Int) (v3 : Int) (σ : S) (Q : Int → S → Prop) (E : S → Prop) : Prop :=
  ∀ X102 : Int → S → Prop, (∀ (v3 : Int) (σ : S), ((if v3 < gI σ 23 then inb v3 30 ∧ ∀ σ_49, σ_49 = pA σ 9 v3 v2 → X102 (w32 (v3 + 1)) σ_49 else t_varItem_j123 σ Q E)) → X102 v3 σ) → X102 v3 σ
def t_varItem_j91 (v1 : Int) (σ : S) (Q : Int → S → Prop) (E : S → Prop) : Prop :=
  t_pass σ (fun _ σ_39 => t_plainWord σ_39 (fun r_42 σ_41 => t_varItem_L102 r_42 v1 σ_41 Q E) E) E
def t_varItem_L9 (v1 : Int) (σ : S) (Q : Int → S → Prop) (E : S → Prop) : Prop :=
  ∀ X9 : S → Prop, (∀ (σ : S), ((if gI σ 23 = v1 then t_varItem_j27 v1 σ Q E X9 else t_is 1 σ (fun r_35 σ_34 => (if r_35 = 0 then t_varItem_j27 v1 σ_34 Q E X9 else t_varItem_j91 v1 σ_34 Q E)) E)) → X9  σ) → X9  σ
def t_varItem (σ : S) (Q : Int → S → Prop) (E : S → Prop) : Prop :=
  t_pass σ (fun _ σ_1 => t_varItem_L9 (gI σ_1 23) σ_1 Q E) E
def t_digits_j114 (v1 : Int) (σ : S) (Q : Int → S → Prop) (E : S → Prop) : Prop :=
  t_pass σ (fun _ σ_20 => Q v1 σ_20) E
def t_digits_j101 (v1 : Int) (v2 : Int) (σ : S) (Q : Int → S → Prop) (E : S → Prop) : Prop :=
  (if v2 = 0 then t_here σ (fun r_23 σ_22 => t_fail 1 r_23 σ_22 (fun _ σ_24 => t_digits_j114 v1 σ_24 Q E) E) else t_digits_j114 v1 σ Q E)
def t_digits_L37 (v1 : Int) (v2 : Int) (v3 : Int) (σ : S) (Q : Int → S → Prop) (E : S → Prop) : Prop :=
  ∀ X37 : Int → Int → Int → S → Prop, (∀ (v1 : Int) (v2 : Int) (v3 : Int) (σ : S), (((¬ v2 = 0) → (inb (gI σ 10) 902)) ∧ (if ¬ (v2 = 0) ∧ (v3 < gA σ 3 (gI σ 10)) then inb (gI σ 10) 902 ∧ t_byteAt (w32 (gA σ 2 (gI σ 10) + v3)) σ (fun r_15 σ_14 => t_in r_15 48 57 σ_14 (fun r_17 σ_16 => X37 (w32 (w32 (w32 (10 * v1) + r_15) - 48)) r_17 (w32 (v3 + 1)) σ_16)) else t_digits_j101 v1 v2 σ Q E)) → X37 v1 v2 v3 σ) → X37 v1 v2 v3 σ
def t_digits_j34 (v1 : Int) (s0 : Int) (σ : S) (Q : Int → S → Prop) (E : S → Prop) : Prop :=
  t_digits_L37 v1 s0 0 σ Q E
def t_digits_j33 (v1 : Int) (σ : S) (Q : Int → S → Prop) (E : S → Prop) : Prop :=
  t_digits_j34 v1 0 σ Q E
def t_digits (σ : S) (Q : Int → S → Prop) (E : S → Prop) : Prop :=
  t_isOver σ (fun r_2 σ_1 => (if r_2 = 0 then inb (gI σ_1 10) 902 ∧ t_in (gA σ_1 3 (gI σ_1 10)) 1 2 σ_1 (fun r_33 σ_32 => (if r_33 = 0 then t_digits_j33 0 σ_32 Q E else t_digits_j34 0 1 σ_32 Q E)) else t_digits_j33 0 σ_1 Q E)) E
def t_attribute_j333 (v1 : Int) (σ : S) (Q : Int → S → Prop) (E : S → Prop) (X268 : S → Prop) : Prop :=
  inb v1 50 ∧ inb v1 50 ∧ ∀ σ_55, σ_55 = pA σ 20 v1 (w32 (gA σ 20 v1 + 1)) → t_pass σ_55 (fun _ σ_58 => X268 σ_58) E
def t_attribute_j298 (v1 : Int) (σ : S) (Q : Int → S → Prop) (E : S → Prop) (X268 : S → Prop) : Prop :=
  inb v1 50 ∧ (if gA σ 20 v1 < 20 then inb v1 50 ∧ t_here σ (fun r_63 σ_62 => t_byteAt r_63 σ_62 (fun r_65 σ_64 => inb (w32 (w32 (20 * v1) + (gA σ 20 v1))) 1000 ∧ ∀ σ_66, σ_66 = pA σ_64 21 (w32 (w32 (20 * v1) + (gA σ 20 v1))) r_65 → t_attribute_j333 v1 σ_66 Q E X268)) else t_attribute_j333 v1 σ Q E X268)
def t_attribute_L268 (v1 : Int) (σ : S) (Q : Int → S → Prop) (E : S → Prop) : Prop :=
  ∀ X268 : S → Prop, (∀ (σ : S), (t_is 16 σ (fun r_45 σ_44 => (if r_45 = 0 then t_is 17 σ_44 (fun r_70 σ_69 => (if r_70 = 0 then t_is 18 σ_69 (fun r_75 σ_74 => (if r_75 = 0 then Q 0 σ_74 else t_attribute_j298 v1 σ_74 Q E X268)) E else t_attribute_j298 v1 σ_69 Q E X268)) E else t_attribute_j298 v1 σ_44 Q E X268)) E) → X268  σ) → X268  σ
def t_attribute (v1 : Int) (σ : S) (Q : Int → S → Prop) (E : S → Prop) : Prop :=
  t_is 11 σ (fun r_2 σ_1 => (if r_2 = 0 then t_is 12 σ_1 (fun r_7 σ_6 => (if r_7 = 0 then t_is 13 σ_6 (fun r_12 σ_11 => (if r_12 = 0 then t_is 14 σ_11 (fun r_17 σ_16 => (if r_17 = 0 then t_is 15 σ_16 (fun r_22 σ_21 => (if r_22 = 0 then t_here σ_21 (fun r_27 σ_26 => t_fail 1 r_27 σ_26 (fun _ σ_28 => Q 0 σ_28) E) else inb v1 50 ∧ ((gA σ_21 22 v1 = 0) → (inb v1 50)) ∧ inb v1 50 ∧ ∀ σ_36, σ_36 = pA σ_21 22 v1 (bi (¬ (gA σ_21 22 v1 = 0) ∨ (¬ (gA σ_21 20 v1 < 0)))) → t_pass σ_36 (fun _ σ_39 => inb v1 50 ∧ ∀ σ_41, σ_41 = pA σ_39 20 v1 0 → t_attribute_L268 v1 σ_41 Q E) E)) E else inb v1 50 ∧ ((gA σ_16 22 v1 = 0) → (inb v1 50)) ∧ inb v1 50 ∧ ∀ σ_87, σ_87 = pA σ_16 22 v1 (bi (¬ (gA σ_16 22 v1 = 0) ∨ (¬ (gA σ_16 19 v1 < 0)))) → t_pass σ_87 (fun _ σ_90 => t_digits σ_90 (fun r_93 σ_92 => inb v1 50 ∧ ∀ σ_95, σ_95 = pA σ_92 19 v1 r_93 → Q 0 σ_95) E) E)) E else inb v1 50 ∧ ((gA σ_11 22 v1 = 0) → (inb v1 50)) ∧ inb v1 50 ∧ ∀ σ_106, σ_106 = pA σ_11 22 v1 (bi (¬ (gA σ_11 22 v1 = 0) ∨ (¬ (gA σ_11 18 v1 < 0)))) → t_pass σ_106 (fun _ σ_109 => t_plainWord σ_109 (fun r_112 σ_111 => inb v1 50 ∧ ∀ σ_114, σ_114 = pA σ_111 18 v1 r_112 → Q 0 σ_114) E) E)) E else inb v1 50 ∧ ((gA σ_6 22 v1 = 0) → (inb v1 50)) ∧ inb v1 50 ∧ ∀ σ_125, σ_125 = pA σ_6 22 v1 (bi (¬ (gA σ_6 22 v1 = 0) ∨ (¬ (gA σ_6 17 v1 = 0)))) → inb v1 50 ∧ ∀ σ_128, σ_128 = pA σ_125 17 v1 1 → t_pass σ_128 (fun _ σ_131 => Q 0 σ_131) E)) E else inb v1 50 ∧ ((gA σ_1 22 v1 = 0) → (inb v1 50)) ∧ inb v1 50 ∧ ∀ σ_141, σ_141 = pA σ_1 22 v1 (bi (¬ (gA σ_1 22 v1 = 0) ∨ (¬ (gA σ_1 16 v1 = 0)))) → inb v1 50 ∧ ∀ σ_144, σ_144 = pA σ_141 16 v1 1 → t_pass σ_144 (fun _ σ_147 => Q 0 σ_147) E)) E
def t_opItem_j277 (σ : S) (Q : Int → S → Prop) (E : S → Prop) : Prop :=
  t_must 0 σ (fun _ σ_72 => ∀ σ_75, σ_75 = pI σ_72 37 (w32 (gI σ_72 37 + 1)) → Q 0 σ_75) E
def t_opItem_j273 (σ : S) (Q : Int → S → Prop) (E : S → Prop) : Prop :=
  t_pass σ (fun _ σ_86 => t_opItem_j277 σ_86 Q E) E
def t_opItem_L255 (v1 : Int) (σ : S) (Q : Int → S → Prop) (E : S → Prop) : Prop :=
  ∀ X255 : S → Prop, (∀ (σ : S), (t_is 10 σ (fun r_82 σ_81 => (if r_82 = 0 then t_attribute v1 σ_81 (fun _ σ_88 => X255 σ_88) E else t_opItem_j273 σ_81 Q E)) E) → X255  σ) → X255  σ
def t_opItem_j177 (v1 : Int) (σ : S) (Q : Int → S → Prop) (E : S → Prop) : Prop :=
  t_pass σ (fun _ σ_41 => t_plainWord σ_41 (fun r_44 σ_43 => inb v1 50 ∧ ∀ σ_46, σ_46 = pA σ_43 15 v1 r_44 → inb v1 50 ∧ ∀ σ_49, σ_49 = pA σ_46 16 v1 0 → inb v1 50 ∧ ∀ σ_52, σ_52 = pA σ_49 17 v1 0 → inb v1 50 ∧ ∀ σ_55, σ_55 = pA σ_52 18 v1 (-2) → inb v1 50 ∧ ∀ σ_58, σ_58 = pA σ_55 19 v1 (-2) → inb v1 50 ∧ ∀ σ_61, σ_61 = pA σ_58 20 v1 (-2) → inb v1 50 ∧ ∀ σ_64, σ_64 = pA σ_61 22 v1 0 → t_is 9 σ_64 (fun r_68 σ_67 => (if r_68 = 0 then t_opItem_j277 σ_67 Q E else t_pass σ_67 (fun _ σ_77 => t_attribute v1 σ_77 (fun _ σ_79 => t_opItem_L255 v1 σ_79 Q E) E) E)) E) E) E
def t_opItem_j164 (v1 : Int) (σ : S) (Q : Int → S → Prop) (E : S → Prop) (X121 : S → Prop) : Prop :=
  inb v1 50 ∧ inb v1 50 ∧ ∀ σ_99, σ_99 = pA σ 13 v1 (w32 (gA σ 13 v1 + 1)) → X121 σ_99
def t_opItem_L121 (v1 : Int) (σ : S) (Q : Int → S → Prop) (E : S → Prop) : Prop :=
  ∀ X121 : S → Prop, (∀ (σ : S), (t_is 2 σ (fun r_37 σ_36 => (if r_37 = 0 then t_plainWord σ_36 (fun r_91 σ_90 => inb v1 50 ∧ (if gA σ_90 13 v1 < 20 then inb v1 50 ∧ inb (w32 (w32 (20 * v1) + (gA σ_90 13 v1))) 1000 ∧ ∀ σ_104, σ_104 = pA σ_90 14 (w32 (w32 (20 * v1) + (gA σ_90 13 v1))) r_91 → t_opItem_j164 v1 σ_104 Q E X121 else t_opItem_j164 v1 σ_90 Q E X121)) E else t_opItem_j177 v1 σ_36 Q E)) E) → X121  σ) → X121  σ
def t_opItem_j107 (v1 : Int) (σ : S) (Q : Int → S → Prop) (E : S → Prop) : Prop :=
  t_must 1 σ (fun _ σ_31 => inb v1 50 ∧ ∀ σ_33, σ_33 = pA σ_31 13 v1 0 → t_opItem_L121 v1 σ_33 Q E) E
def t_opItem_j72 (v1 : Int) (σ : S) (Q : Int → S → Prop) (E : S → Prop) : Prop :=
  inb v1 50 ∧ inb v1 50 ∧ ∀ σ_24, σ_24 = pA σ 12 v1 (w32 (gI σ 10 - (gA σ 11 v1))) → inb v1 50 ∧ (if gA σ_24 12 v1 = 0 then t_here σ_24 (fun r_108 σ_107 => t_fail 1 r_108 σ_107 (fun _ σ_109 => t_opItem_j107 v1 σ_109 Q E) E) else t_opItem_j107 v1 σ_24 Q E)
def t_opItem_L47 (v1 : Int) (σ : S) (Q : Int → S → Prop) (E : S → Prop) : Prop :=
  ∀ X47 : S → Prop, (∀ (σ : S), (t_isOver σ (fun r_17 σ_16 => (if r_17 = 0 then t_isReserved (gI σ_16 10) σ_16 (fun r_113 σ_112 => (if r_113 = 0 then t_pass σ_112 (fun _ σ_116 => X47 σ_116) E else t_opItem_j72 v1 σ_112 Q E)) else t_opItem_j72 v1 σ_16 Q E)) E) → X47  σ) → X47  σ
def t_opItem_j18 (σ : S) (Q : Int → S → Prop) (E : S → Prop) : Prop :=
  t_here σ (fun r_6 σ_5 => inb (gI σ 37) 50 ∧ ∀ σ_7, σ_7 = pA σ_5 10 (gI σ 37) r_6 → t_pass σ_7 (fun _ σ_10 => inb (gI σ 37) 50 ∧ ∀ σ_13, σ_13 = pA σ_10 11 (gI σ 37) (gI σ_10 10) → t_opItem_L47 (gI σ 37) σ_13 Q E) E)
def t_opItem (σ : S) (Q : Int → S → Prop) (E : S → Prop) : Prop :=
  (if gI σ 37 = 50 then t_here σ (fun r_119 σ_118 => t_fail 2 r_119 σ_118 (fun _ σ_120 => t_opItem_j18 σ_120 Q E) E) else t_opItem_j18 σ Q E)
def t_readItems_L7 (σ : S) (Q : Int → S → Prop) (E : S → Prop) : Prop :=
  ∀ X7 : S → Prop, (∀ (σ : S), (t_isOver σ (fun r_4 σ_3 => (if r_4 = 0 then t_is 19 σ_3 (fun r_9 σ_8 => (if r_9 = 0 then t_is 20 σ_8 (fun r_14 σ_13 => (if r_14 = 0 then t_is 21 σ_13 (fun r_19 σ_18 => (if r_19 = 0 then t_is 22 σ_18 (fun r_24 σ_23 => (if r_24 = 0 then t_is 23 σ_23 (fun r_29 σ_28 => (if r_29 = 0 then t_is 24 σ_28 (fun r_34 σ_33 => (if r_34 = 0 then t_is 25 σ_33 (fun r_39 σ_38 => (if r_39 = 0 then t_here σ_38 (fun r_44 σ_43 => t_fail 1 r_44 σ_43 (fun _ σ_45 => X7 σ_45) E) else t_statement 2 σ_38 (fun _ σ_47 => X7 σ_47) E)) E else t_statement 1 σ_33 (fun _ σ_49 => X7 σ_49) E)) E else t_statement 0 σ_28 (fun _ σ_51 => X7 σ_51) E)) E else t_opItem σ_23 (fun _ σ_53 => X7 σ_53) E)) E else t_varItem σ_18 (fun _ σ_55 => X7 σ_55) E)) E else t_subsortItem σ_13 (fun _ σ_57 => X7 σ_57) E)) E else t_sortItem σ_8 (fun _ σ_59 => X7 σ_59) E)) E else Q 0 σ_3)) E) → X7  σ) → X7  σ
def t_readItems (σ : S) (Q : Int → S → Prop) (E : S → Prop) : Prop :=
  ∀ σ_1, σ_1 = pI σ 11 900 → t_readItems_L7 σ_1 Q E
def t_blame (v1 : Int) (v2 : Int) (σ : S) (Q : Int → S → Prop) : Prop :=
  (if (gI σ 48 = 0) ∨ ((v2 < gI σ 49) ∨ ((v2 = gI σ 49) ∧ (v1 < gI σ 48))) then ∀ σ_9, σ_9 = pI σ 48 v1 → ∀ σ_11, σ_11 = pI σ_9 49 v2 → Q 0 σ_11 else Q 0 σ)
def t_findSort_L19 (v2 : Int) (v3 : Int) (σ : S) (Q : Int → S → Prop) : Prop :=
  ∀ X19 : Int → S → Prop, (∀ (v3 : Int) (σ : S), ((if v3 < gI σ 18 then (if v2 < 0 then Q (-2) σ else inb v3 20 ∧ (if gA σ 30 v3 = v2 then Q v3 σ else X19 (w32 (v3 + 1)) σ)) else Q (-2) σ)) → X19 v3 σ) → X19 v3 σ
def t_findSort (v1 : Int) (σ : S) (Q : Int → S → Prop) : Prop :=
  inb v1 902 ∧ inb v1 902 ∧ t_findName (gA σ 2 v1) (gA σ 3 v1) σ (fun r_6 σ_5 => t_findSort_L19 r_6 0 σ_5 Q)
def t_sortOrBlame (v1 : Int) (σ : S) (Q : Int → S → Prop) : Prop :=
  t_findSort v1 σ (fun r_2 σ_1 => (if r_2 < 0 then inb v1 902 ∧ t_blame 4 (gA σ_1 2 v1) σ_1 (fun _ σ_7 => Q r_2 σ_7) else Q r_2 σ_1))
def t_isBelow (v1 : Int) (v2 : Int) (σ : S) (Q : Int → S → Prop) : Prop :=
  inb v1 20 ∧ Q (bi (bAnd (bShr (gA σ 31 v1) v2) 1 = 1)) σ
def t_addOrder_j38 (v1 : Int) (v2 : Int) (v3 : Int) (σ : S) (Q : Int → S → Prop) (X2 : Int → S → Prop) : Prop :=
  X2 (w32 (v3 + 1)) σ
def t_addOrder_L2 (v1 : Int) (v2 : Int) (v3 : Int) (σ : S) (Q : Int → S → Prop) : Prop :=
  ∀ X2 : Int → S → Prop, (∀ (v3 : Int) (σ : S), ((if v3 < gI σ 18 then t_isBelow v3 v1 σ (fun r_5 σ_4 => (if r_5 = 0 then t_addOrder_j38 v1 v2 v3 σ_4 Q X2 else inb v3 20 ∧ inb v2 20 ∧ inb v3 20 ∧ ∀ σ_12, σ_12 = pA σ_4 31 v3 (bOr (gA σ_4 31 v3) (gA σ_4 31 v2)) → t_addOrder_j38 v1 v2 v3 σ_12 Q X2)) else Q 0 σ)) → X2 v3 σ) → X2 v3 σ
def t_addOrder (v1 : Int) (v2 : Int) (σ : S) (Q : Int → S → Prop) : Prop :=
  t_addOrder_L2 v1 v2 0 σ Q
def t_join_j90 (v3 : Int) (v4 : Int) (σ : S) (Q : Int → S → Prop) : Prop :=
  (if v4 = 0 then Q 0 σ else t_blame 4 v3 σ (fun _ σ_6 => Q 0 σ_6))
def t_join_j84 (v1 : Int) (v2 : Int) (v3 : Int) (v4 : Int) (v5 : Int) (σ : S) (Q : Int → S → Prop) (X6 : Int → Int → S → Prop) : Prop :=
  X6 v4 (w32 (v5 + 1)) σ
def t_join_j78 (v1 : Int) (v2 : Int) (v3 : Int) (v4 : Int) (v5 : Int) (v6 : Int) (σ : S) (Q : Int → S → Prop) (X6 : Int → Int → S → Prop) (X18 : Int → Int → S → Prop) : Prop :=
  X18 v4 (w32 (v6 + 1)) σ
def t_join_j68 (v1 : Int) (v2 : Int) (v3 : Int) (v5 : Int) (v6 : Int) (s0 : Int) (σ : S) (Q : Int → S → Prop) (X6 : Int → Int → S → Prop) (X18 : Int → Int → S → Prop) : Prop :=
  t_addOrder v5 v6 σ (fun _ σ_16 => t_join_j78 v1 v2 v3 s0 v5 v6 σ_16 Q X6 X18)
def t_join_j63 (v1 : Int) (v2 : Int) (v3 : Int) (v5 : Int) (v6 : Int) (σ : S) (Q : Int → S → Prop) (X6 : Int → Int → S → Prop) (X18 : Int → Int → S → Prop) : Prop :=
  t_join_j68 v1 v2 v3 v5 v6 1 σ Q X6 X18
def t_join_L18 (v1 : Int) (v2 : Int) (v3 : Int) (v4 : Int) (v5 : Int) (v6 : Int) (σ : S) (Q : Int → S → Prop) (X6 : Int → Int → S → Prop) : Prop :=
  ∀ X18 : Int → Int → S → Prop, (∀ (v4 : Int) (v6 : Int) (σ : S), ((if v6 < gI σ 18 then (if bAnd (bShr v1 v5) 1 = 1 then (if bAnd (bShr v2 v6) 1 = 1 then (if v4 = 0 then t_isBelow v6 v5 σ (fun r_18 σ_17 => (if r_18 = 0 then t_join_j68 v1 v2 v3 v5 v6 0 σ_17 Q X6 X18 else t_join_j63 v1 v2 v3 v5 v6 σ_17 Q X6 X18)) else t_join_j63 v1 v2 v3 v5 v6 σ Q X6 X18) else t_join_j78 v1 v2 v3 v4 v5 v6 σ Q X6 X18) else t_join_j78 v1 v2 v3 v4 v5 v6 σ Q X6 X18) else t_join_j84 v1 v2 v3 v4 v5 σ Q X6)) → X18 v4 v6 σ) → X18 v4 v6 σ
def t_join_L6 (v1 : Int) (v2 : Int) (v3 : Int) (v4 : Int) (v5 : Int) (σ : S) (Q : Int → S → Prop) : Prop :=
  ∀ X6 : Int → Int → S → Prop, (∀ (v4 : Int) (v5 : Int) (σ : S), ((if v5 < gI σ 18 then t_join_L18 v1 v2 v3 v4 v5 0 σ Q X6 else t_join_j90 v3 v4 σ Q)) → X6 v4 v5 σ) → X6 v4 v5 σ
def t_join (v1 : Int) (v2 : Int) (v3 : Int) (σ : S) (Q : Int → S → Prop) : Prop :=
  t_join_L6 v1 v2 v3 0 0 σ Q
def t_readSorts_j228 (v2 : Int) (v3 : Int) (v4 : Int) (v5 : Int) (σ : S) (Q : Int → S → Prop) (X144 : Int → Int → Int → Int → S → Prop) : Prop :=
  X144 v2 v3 v4 (w32 (v5 + 1)) σ
def t_readSorts_j207 (v2 : Int) (v5 : Int) (v6 : Int) (σ : S) (Q : Int → S → Prop) (X144 : Int → Int → Int → Int → S → Prop) : Prop :=
  t_readSorts_j228 0 v2 (if v6 = (-1) then (-1) else w32 ((-2) - v6)) v5 σ Q X144
def t_readSorts_L144 (v2 : Int) (v3 : Int) (v4 : Int) (v5 : Int) (σ : S) (Q : Int → S → Prop) : Prop :=
  ∀ X144 : Int → Int → Int → Int → S → Prop, (∀ (v2 : Int) (v3 : Int) (v4 : Int) (v5 : Int) (σ : S), ((if v5 < gI σ 20 then inb v5 1000 ∧ (if gA σ 7 v5 < 0 then (if v4 < 0 then t_readSorts_j207 v2 v5 (gA σ 7 v5) σ Q X144 else t_join v3 v2 v4 σ (fun _ σ_22 => t_readSorts_j207 v2 v5 (gA σ 7 v5) σ_22 Q X144)) else t_sortOrBlame (gA σ 7 v5) σ (fun r_24 σ_23 => t_readSorts_j228 (if r_24 < 0 then v2 else bOr v2 (bShl 1 r_24)) v3 v4 v5 σ_23 Q X144)) else Q 0 σ)) → X144 v2 v3 v4 v5 σ) → X144 v2 v3 v4 v5 σ
def t_readSorts_j134 (σ : S) (Q : Int → S → Prop) : Prop :=
  t_readSorts_L144 0 0 (-1) 0 σ Q
def t_readSorts_L111 (v2 : Int) (σ : S) (Q : Int → S → Prop) : Prop :=
  ∀ X111 : Int → S → Prop, (∀ (v2 : Int) (σ : S), ((if v2 < gI σ 18 then inb v2 20 ∧ ∀ σ_29, σ_29 = pA σ 31 v2 (bShl 1 v2) → X111 (w32 (v2 + 1)) σ_29 else t_readSorts_j134 σ Q)) → X111 v2 σ) → X111 v2 σ
def t_readSorts_j104 (v1 : Int) (σ : S) (Q : Int → S → Prop) : Prop :=
  ∀ σ_4, σ_4 = pI σ 18 v1 → t_readSorts_L111 0 σ_4 Q
def t_readSorts_j98 (v1 : Int) (v2 : Int) (σ : S) (Q : Int → S → Prop) (X4 : Int → Int → S → Prop) : Prop :=
  X4 v1 (w32 (v2 + 1)) σ
def t_readSorts_j64 (v1 : Int) (v2 : Int) (v3 : Int) (v4 : Int) (σ : S) (Q : Int → S → Prop) (X4 : Int → Int → S → Prop) : Prop :=
  (if v4 = 0 then inb v1 20 ∧ ∀ σ_40, σ_40 = pA σ 30 v1 v3 → t_readSorts_j98 (w32 (v1 + 1)) v2 σ_40 Q X4 else inb v2 20 ∧ inb (gA σ 6 v2) 902 ∧ t_blame 3 (gA σ 2 (gA σ 6 v2)) σ (fun _ σ_47 => t_readSorts_j98 v1 v2 σ_47 Q X4))
def t_readSorts_L29 (v1 : Int) (v2 : Int) (v3 : Int) (v4 : Int) (v5 : Int) (σ : S) (Q : Int → S → Prop) (X4 : Int → Int → S → Prop) : Prop :=
  ∀ X29 : Int → Int → S → Prop, (∀ (v4 : Int) (v5 : Int) (σ : S), ((if v5 < v1 then ((v4 = 0) → (inb v5 20)) ∧ X29 (bi (¬ (v4 = 0) ∨ (gA σ 30 v5 = v3))) (w32 (v5 + 1)) σ else t_readSorts_j64 v1 v2 v3 v4 σ Q X4)) → X29 v4 v5 σ) → X29 v4 v5 σ
def t_readSorts_L4 (v1 : Int) (v2 : Int) (σ : S) (Q : Int → S → Prop) : Prop :=
  ∀ X4 : Int → Int → S → Prop, (∀ (v1 : Int) (v2 : Int) (σ : S), ((if v2 < gI σ 18 then inb v2 20 ∧ t_nameOf (gA σ 6 v2) σ (fun r_35 σ_34 => t_readSorts_L29 v1 v2 r_35 0 0 σ_34 Q X4) else t_readSorts_j104 v1 σ Q)) → X4 v1 v2 σ) → X4 v1 v2 σ
def t_readSorts (σ : S) (Q : Int → S → Prop) : Prop :=
  t_readSorts_L4 0 0 σ Q
def t_findKinds_j180 (v1 : Int) (σ : S) (Q : Int → S → Prop) (X30 : Int → S → Prop) : Prop :=
  X30 (w32 (v1 + 1)) σ
def t_findKinds_j170 (v1 : Int) (σ : S) (Q : Int → S → Prop) (X30 : Int → S → Prop) : Prop :=
  ∀ σ_20, σ_20 = pI σ 53 (w32 (gI σ 53 + 1)) → t_findKinds_j180 v1 σ_20 Q X30
def t_findKinds_j167 (v1 : Int) (v2 : Int) (σ : S) (Q : Int → S → Prop) (X30 : Int → S → Prop) (X59 : Int → S → Prop) : Prop :=
  X59 v2 σ
def t_findKinds_j161 (v1 : Int) (v2 : Int) (v3 : Int) (σ : S) (Q : Int → S → Prop) (X30 : Int → S → Prop) (X59 : Int → S → Prop) (X67 : Int → Int → S → Prop) : Prop :=
  X67 v2 (w32 (v3 + 1)) σ
def t_findKinds_j155 (v1 : Int) (v2 : Int) (v3 : Int) (v4 : Int) (σ : S) (Q : Int → S → Prop) (X30 : Int → S → Prop) (X59 : Int → S → Prop) (X67 : Int → Int → S → Prop) (X78 : Int → Int → S → Prop) : Prop :=
  X78 v2 (w32 (v4 + 1)) σ
def t_findKinds_j112 (v1 : Int) (v2 : Int) (v3 : Int) (v4 : Int) (s0 : Int) (σ : S) (Q : Int → S → Prop) (X30 : Int → S → Prop) (X59 : Int → S → Prop) (X67 : Int → Int → S → Prop) (X78 : Int → Int → S → Prop) : Prop :=
  ((¬ s0 = 0) → (inb v3 20)) ∧ ((¬ s0 = 0) → (gA σ 32 v3 = gI σ 53) → (inb v4 20)) ∧ (if ¬ (s0 = 0) ∧ ((gA σ 32 v3 = gI σ 53) ∧ (gA σ 32 v4 < 0)) then inb v4 20 ∧ ∀ σ_41, σ_41 = pA σ 32 v4 (gI σ 53) → t_findKinds_j155 v1 1 v3 v4 σ_41 Q X30 X59 X67 X78 else t_findKinds_j155 v1 v2 v3 v4 σ Q X30 X59 X67 X78)
def t_findKinds_j107 (v1 : Int) (v2 : Int) (v3 : Int) (v4 : Int) (σ : S) (Q : Int → S → Prop) (X30 : Int → S → Prop) (X59 : Int → S → Prop) (X67 : Int → Int → S → Prop) (X78 : Int → Int → S → Prop) : Prop :=
  t_findKinds_j112 v1 v2 v3 v4 1 σ Q X30 X59 X67 X78
def t_findKinds_L78 (v1 : Int) (v2 : Int) (v3 : Int) (v4 : Int) (σ : S) (Q : Int → S → Prop) (X30 : Int → S → Prop) (X59 : Int → S → Prop) (X67 : Int → Int → S → Prop) : Prop :=
  ∀ X78 : Int → Int → S → Prop, (∀ (v2 : Int) (v4 : Int) (σ : S), ((if v4 < gI σ 18 then t_isBelow v3 v4 σ (fun r_29 σ_28 => (if r_29 = 0 then t_isBelow v4 v3 σ_28 (fun r_48 σ_47 => (if r_48 = 0 then t_findKinds_j112 v1 v2 v3 v4 0 σ_47 Q X30 X59 X67 X78 else t_findKinds_j107 v1 v2 v3 v4 σ_47 Q X30 X59 X67 X78)) else t_findKinds_j107 v1 v2 v3 v4 σ_28 Q X30 X59 X67 X78)) else t_findKinds_j161 v1 v2 v3 σ Q X30 X59 X67)) → X78 v2 v4 σ) → X78 v2 v4 σ
def t_findKinds_L67 (v1 : Int) (v2 : Int) (v3 : Int) (σ : S) (Q : Int → S → Prop) (X30 : Int → S → Prop) (X59 : Int → S → Prop) : Prop :=
  ∀ X67 : Int → Int → S → Prop, (∀ (v2 : Int) (v3 : Int) (σ : S), ((if v3 < gI σ 18 then t_findKinds_L78 v1 v2 v3 0 σ Q X30 X59 X67 else t_findKinds_j167 v1 v2 σ Q X30 X59)) → X67 v2 v3 σ) → X67 v2 v3 σ
def t_findKinds_L59 (v1 : Int) (v2 : Int) (σ : S) (Q : Int → S → Prop) (X30 : Int → S → Prop) : Prop :=
  ∀ X59 : Int → S → Prop, (∀ (v2 : Int) (σ : S), ((if v2 = 0 then t_findKinds_j170 v1 σ Q X30 else t_findKinds_L67 v1 0 0 σ Q X30 X59)) → X59 v2 σ) → X59 v2 σ
def t_findKinds_L30 (v1 : Int) (σ : S) (Q : Int → S → Prop) : Prop :=
  ∀ X30 : Int → S → Prop, (∀ (v1 : Int) (σ : S), ((if v1 < gI σ 18 then inb v1 20 ∧ (if gA σ 32 v1 < 0 then inb v1 20 ∧ ∀ σ_14, σ_14 = pA σ 32 v1 (gI σ 53) → t_findKinds_L59 v1 1 σ_14 Q X30 else t_findKinds_j180 v1 σ Q X30) else Q 0 σ)) → X30 v1 σ) → X30 v1 σ
def t_findKinds_j28 (σ : S) (Q : Int → S → Prop) : Prop :=
  t_findKinds_L30 0 σ Q
def t_findKinds_L7 (v1 : Int) (σ : S) (Q : Int → S → Prop) : Prop :=
  ∀ X7 : Int → S → Prop, (∀ (v1 : Int) (σ : S), ((if v1 < gI σ 18 then inb v1 20 ∧ ∀ σ_51, σ_51 = pA σ 32 v1 (-1) → X7 (w32 (v1 + 1)) σ_51 else t_findKinds_j28 σ Q)) → X7 v1 σ) → X7 v1 σ
def t_findKinds (σ : S) (Q : Int → S → Prop) : Prop :=
  ∀ σ_1, σ_1 = pI σ 53 0 → t_findKinds_L7 0 σ_1 Q
def t_readVars_j127 (v1 : Int) (σ : S) (Q : Int → S → Prop) : Prop :=
  ∀ σ_4, σ_4 = pI σ 23 v1 → Q 0 σ_4
def t_readVars_j85 (v1 : Int) (v2 : Int) (v3 : Int) (v4 : Int) (σ : S) (Q : Int → S → Prop) (X4 : Int → Int → S → Prop) : Prop :=
  inb v1 30 ∧ ∀ σ_14, σ_14 = pA σ 33 v1 v3 → inb v2 30 ∧ t_sortOrBlame (gA σ_14 9 v2) σ_14 (fun r_20 σ_19 => inb v1 30 ∧ ∀ σ_21, σ_21 = pA σ_19 34 v1 r_20 → X4 (if v4 = 0 then w32 (v1 + 1) else v1) (w32 (v2 + 1)) σ_21)
def t_readVars_j64 (v1 : Int) (v2 : Int) (v3 : Int) (v4 : Int) (σ : S) (Q : Int → S → Prop) (X4 : Int → Int → S → Prop) : Prop :=
  (if v4 = 0 then t_readVars_j85 v1 v2 v3 v4 σ Q X4 else inb v2 30 ∧ inb (gA σ 8 v2) 902 ∧ t_blame 3 (gA σ 2 (gA σ 8 v2)) σ (fun _ σ_32 => t_readVars_j85 v1 v2 v3 v4 σ_32 Q X4))
def t_readVars_L29 (v1 : Int) (v2 : Int) (v3 : Int) (v4 : Int) (v5 : Int) (σ : S) (Q : Int → S → Prop) (X4 : Int → Int → S → Prop) : Prop :=
  ∀ X29 : Int → Int → S → Prop, (∀ (v4 : Int) (v5 : Int) (σ : S), ((if v5 < v1 then ((v4 = 0) → (inb v5 30)) ∧ X29 (bi (¬ (v4 = 0) ∨ (gA σ 33 v5 = v3))) (w32 (v5 + 1)) σ else t_readVars_j64 v1 v2 v3 v4 σ Q X4)) → X29 v4 v5 σ) → X29 v4 v5 σ
def t_readVars_L4 (v1 : Int) (v2 : Int) (σ : S) (Q : Int → S → Prop) : Prop :=
  ∀ X4 : Int → Int → S → Prop, (∀ (v1 : Int) (v2 : Int) (σ : S), ((if v2 < gI σ 23 then inb v2 30 ∧ t_nameOf (gA σ 8 v2) σ (fun r_9 σ_8 => t_readVars_L29 v1 v2 r_9 0 0 σ_8 Q X4) else t_readVars_j127 v1 σ Q)) → X4 v1 v2 σ) → X4 v1 v2 σ
def t_readVars (σ : S) (Q : Int → S → Prop) : Prop :=
  t_readVars_L4 0 0 σ Q
def t_addPart_j28 (v1 : Int) (v2 : Int) (σ : S) (Q : Int → S → Prop) : Prop :=
  inb v1 50 ∧ inb v1 50 ∧ ∀ σ_7, σ_7 = pA σ 36 v1 (w32 (gA σ 36 v1 + 1)) → inb v1 50 ∧ inb v1 50 ∧ ∀ σ_13, σ_13 = pA σ_7 37 v1 (w32 (gA σ_7 37 v1 + (bi (v2 = (-1))))) → Q 0 σ_13
def t_addPart (v1 : Int) (v2 : Int) (σ : S) (Q : Int → S → Prop) : Prop :=
  inb v1 50 ∧ (if gA σ 36 v1 < 13 then inb v1 50 ∧ inb (w32 (w32 (13 * v1) + (gA σ 36 v1))) 650 ∧ ∀ σ_20, σ_20 = pA σ 35 (w32 (w32 (13 * v1) + (gA σ 36 v1))) v2 → t_addPart_j28 v1 v2 σ_20 Q else t_addPart_j28 v1 v2 σ Q)
def t_splitWord_j80 (v1 : Int) (v3 : Int) (v4 : Int) (v5 : Int) (σ : S) (Q : Int → S → Prop) (X22 : Int → S → Prop) : Prop :=
  t_name v5 (w32 (v4 - v5)) σ (fun r_18 σ_17 => t_addPart v1 r_18 σ_17 (fun _ σ_19 => X22 v4 σ_19))
def t_splitWord_L56 (v1 : Int) (v3 : Int) (v4 : Int) (v5 : Int) (σ : S) (Q : Int → S → Prop) (X22 : Int → S → Prop) : Prop :=
  ∀ X56 : Int → S → Prop, (∀ (v4 : Int) (σ : S), (((v4 < v3) → (inb v4 6020)) ∧ (if (v4 < v3) ∧ (¬ (gA σ 1 v4 = 95)) then X56 (w32 (v4 + 1)) σ else t_splitWord_j80 v1 v3 v4 v5 σ Q X22)) → X56 v4 σ) → X56 v4 σ
def t_splitWord_L22 (v1 : Int) (v3 : Int) (v4 : Int) (σ : S) (Q : Int → S → Prop) : Prop :=
  ∀ X22 : Int → S → Prop, (∀ (v4 : Int) (σ : S), ((if v4 < v3 then inb v4 6020 ∧ (if gA σ 1 v4 = 95 then t_addPart v1 (-1) σ (fun _ σ_23 => X22 (w32 (v4 + 1)) σ_23) else t_splitWord_L56 v1 v3 v4 v4 σ Q X22) else Q 0 σ)) → X22 v4 σ) → X22 v4 σ
def t_splitWord (v1 : Int) (v2 : Int) (σ : S) (Q : Int → S → Prop) : Prop :=
  inb v2 902 ∧ inb v2 902 ∧ inb v2 902 ∧ t_splitWord_L22 v1 (w32 (gA σ 2 v2 + (gA σ 3 v2))) (gA σ 2 v2) σ Q
def t_readRows_j325 (v1 : Int) (σ : S) (Q : Int → S → Prop) (X2 : Int → S → Prop) : Prop :=
  inb v1 50 ∧ t_sortOrBlame (gA σ 15 v1) σ (fun r_53 σ_52 => inb v1 50 ∧ ∀ σ_54, σ_54 = pA σ_52 39 v1 r_53 → X2 (w32 (v1 + 1)) σ_54)
def t_readRows_j319 (v1 : Int) (v2 : Int) (v4 : Int) (σ : S) (Q : Int → S → Prop) (X2 : Int → S → Prop) (X264 : Int → S → Prop) : Prop :=
  X264 (w32 (v4 + 1)) σ
def t_readRows_j298 (v1 : Int) (v2 : Int) (v4 : Int) (s0 : Int) (σ : S) (Q : Int → S → Prop) (X2 : Int → S → Prop) (X264 : Int → S → Prop) : Prop :=
  (if v4 < 5 then inb (w32 (w32 (5 * v1) + v4)) 250 ∧ ∀ σ_61, σ_61 = pA σ 38 (w32 (w32 (5 * v1) + v4)) s0 → t_readRows_j319 v1 v2 v4 σ_61 Q X2 X264 else t_readRows_j319 v1 v2 v4 σ Q X2 X264)
def t_readRows_L264 (v1 : Int) (v2 : Int) (v4 : Int) (σ : S) (Q : Int → S → Prop) (X2 : Int → S → Prop) : Prop :=
  ∀ X264 : Int → S → Prop, (∀ (v4 : Int) (σ : S), ((if v4 < v2 then (if v4 < 20 then inb (w32 (w32 (20 * v1) + v4)) 1000 ∧ t_sortOrBlame (gA σ 14 (w32 (w32 (20 * v1) + v4))) σ (fun r_67 σ_66 => t_readRows_j298 v1 v2 v4 r_67 σ_66 Q X2 X264) else t_readRows_j298 v1 v2 v4 (-2) σ Q X2 X264) else t_readRows_j325 v1 σ Q X2)) → X264 v4 σ) → X264 v4 σ
def t_readRows_j261 (v1 : Int) (v2 : Int) (σ : S) (Q : Int → S → Prop) (X2 : Int → S → Prop) : Prop :=
  t_readRows_L264 v1 v2 0 σ Q X2
def t_readRows_j195 (v1 : Int) (v2 : Int) (v3 : Int) (σ : S) (Q : Int → S → Prop) (X2 : Int → S → Prop) : Prop :=
  ((¬ v3 = 0) → (inb v1 50)) ∧ ((¬ v3 = 0) → (gA σ 37 v1 = v2) → (v2 ≤ 3) → (inb v1 50)) ∧ ((¬ v3 = 0) → (gA σ 37 v1 = v2) → (v2 ≤ 3) → (gA σ 36 v1 ≤ 12) → (inb v1 50)) ∧ (if bi (¬ (v3 = 0) ∧ ((gA σ 37 v1 = v2) ∧ ((v2 ≤ 3) ∧ ((gA σ 36 v1 ≤ 12) ∧ (¬ (gA σ 36 v1 = 1) ∨ (¬ (v2 = 1))))))) = 0 then inb v1 50 ∧ t_blame 3 (gA σ 10 v1) σ (fun _ σ_70 => t_readRows_j261 v1 v2 σ_70 Q X2) else t_readRows_j261 v1 v2 σ Q X2)
def t_readRows_j184 (v1 : Int) (v2 : Int) (v3 : Int) (σ : S) (Q : Int → S → Prop) (X2 : Int → S → Prop) : Prop :=
  t_signName 41 σ (fun r_32 σ_31 => t_addPart v1 r_32 σ_31 (fun _ σ_33 => t_readRows_j195 v1 v2 v3 σ_33 Q X2))
def t_readRows_j172 (v1 : Int) (v2 : Int) (v3 : Int) (v5 : Int) (σ : S) (Q : Int → S → Prop) (X2 : Int → S → Prop) (X143 : Int → S → Prop) : Prop :=
  t_addPart v1 (-1) σ (fun _ σ_77 => X143 (w32 (v5 + 1)) σ_77)
def t_readRows_L143 (v1 : Int) (v2 : Int) (v3 : Int) (v5 : Int) (σ : S) (Q : Int → S → Prop) (X2 : Int → S → Prop) : Prop :=
  ∀ X143 : Int → S → Prop, (∀ (v5 : Int) (σ : S), ((if v5 < v2 then (if v5 < 20 then (if v5 ≤ 0 then t_readRows_j172 v1 v2 v3 v5 σ Q X2 X143 else t_signName 44 σ (fun r_79 σ_78 => t_addPart v1 r_79 σ_78 (fun _ σ_80 => t_readRows_j172 v1 v2 v3 v5 σ_80 Q X2 X143))) else t_readRows_j184 v1 v2 v3 σ Q X2) else t_readRows_j184 v1 v2 v3 σ Q X2)) → X143 v5 σ) → X143 v5 σ
def t_readRows_j128 (v1 : Int) (v2 : Int) (s0 : Int) (σ : S) (Q : Int → S → Prop) (X2 : Int → S → Prop) : Prop :=
  t_signName 40 σ (fun r_27 σ_26 => t_addPart v1 r_27 σ_26 (fun _ σ_28 => t_readRows_L143 v1 v2 s0 0 σ_28 Q X2))
def t_readRows_j127 (v1 : Int) (v2 : Int) (σ : S) (Q : Int → S → Prop) (X2 : Int → S → Prop) : Prop :=
  t_readRows_j128 v1 v2 0 σ Q X2
def t_readRows_j123 (v1 : Int) (v2 : Int) (σ : S) (Q : Int → S → Prop) (X2 : Int → S → Prop) : Prop :=
  t_readRows_j128 v1 v2 1 σ Q X2
def t_readRows_j55 (v1 : Int) (σ : S) (Q : Int → S → Prop) (X2 : Int → S → Prop) : Prop :=
  inb v1 50 ∧ inb v1 50 ∧ (if (gA σ 37 v1 = 0) ∧ (¬ (gA σ 13 v1 ≤ 0)) then inb v1 50 ∧ inb v1 50 ∧ (if gA σ 12 v1 = 1 then inb (gA σ 11 v1) 902 ∧ (if gA σ 3 (gA σ 11 v1) = 1 then inb (gA σ 11 v1) 902 ∧ t_byteAt (gA σ 2 (gA σ 11 v1)) σ (fun r_88 σ_87 => t_isAlone r_88 σ_87 (fun r_90 σ_89 => (if r_90 = 0 then t_readRows_j123 v1 (gA σ 13 v1) σ_89 Q X2 else t_readRows_j127 v1 (gA σ 13 v1) σ_89 Q X2))) else t_readRows_j123 v1 (gA σ 13 v1) σ Q X2) else t_readRows_j127 v1 (gA σ 13 v1) σ Q X2) else t_readRows_j195 v1 (gA σ 13 v1) 1 σ Q X2)
def t_readRows_L26 (v1 : Int) (v2 : Int) (σ : S) (Q : Int → S → Prop) (X2 : Int → S → Prop) : Prop :=
  ∀ X26 : Int → S → Prop, (∀ (v2 : Int) (σ : S), (inb v1 50 ∧ (if v2 < gA σ 12 v1 then inb v1 50 ∧ t_splitWord v1 (w32 (gA σ 11 v1 + v2)) σ (fun _ σ_98 => X26 (w32 (v2 + 1)) σ_98) else t_readRows_j55 v1 σ Q X2)) → X26 v2 σ) → X26 v2 σ
def t_readRows_L2 (v1 : Int) (σ : S) (Q : Int → S → Prop) : Prop :=
  ∀ X2 : Int → S → Prop, (∀ (v1 : Int) (σ : S), ((if v1 < gI σ 37 then inb v1 50 ∧ ∀ σ_4, σ_4 = pA σ 36 v1 0 → inb v1 50 ∧ ∀ σ_7, σ_7 = pA σ_4 37 v1 0 → t_readRows_L26 v1 0 σ_7 Q X2 else Q 0 σ)) → X2 v1 σ) → X2 v1 σ
def t_readRows (σ : S) (Q : Int → S → Prop) : Prop :=
  t_readRows_L2 0 σ Q
def t_isOneForm_L39 (v1 : Int) (v2 : Int) (v3 : Int) (v4 : Int) (σ : S) (Q : Int → S → Prop) : Prop :=
  ∀ X39 : Int → Int → S → Prop, (∀ (v3 : Int) (v4 : Int) (σ : S), ((if v3 = 0 then Q v3 σ else inb v1 50 ∧ (if v4 < gA σ 36 v1 then inb (w32 (w32 (13 * v1) + v4)) 650 ∧ inb (w32 (w32 (13 * v2) + v4)) 650 ∧ X39 (bi (gA σ 35 (w32 (w32 (13 * v1) + v4)) = gA σ 35 (w32 (w32 (13 * v2) + v4)))) (w32 (v4 + 1)) σ else Q v3 σ))) → X39 v3 v4 σ) → X39 v3 v4 σ
def t_isOneForm (v1 : Int) (v2 : Int) (σ : S) (Q : Int → S → Prop) : Prop :=
  inb v1 50 ∧ inb v2 50 ∧ ((gA σ 36 v1 = gA σ 36 v2) → (inb v1 50)) ∧ ((gA σ 36 v1 = gA σ 36 v2) → (inb v2 50)) ∧ t_isOneForm_L39 v1 v2 (bi ((gA σ 36 v1 = gA σ 36 v2) ∧ (gA σ 37 v1 = gA σ 37 v2))) 0 σ Q
def t_areOneKinds_L5 (v1 : Int) (v2 : Int) (v3 : Int) (v4 : Int) (σ : S) (Q : Int → S → Prop) : Prop :=
  ∀ X5 : Int → Int → S → Prop, (∀ (v3 : Int) (v4 : Int) (σ : S), (inb v1 50 ∧ (if v4 < gA σ 37 v1 then (if v3 = 0 then Q v3 σ else inb (w32 (w32 (5 * v1) + v4)) 250 ∧ inb (gA σ 38 (w32 (w32 (5 * v1) + v4))) 20 ∧ inb (w32 (w32 (5 * v2) + v4)) 250 ∧ inb (gA σ 38 (w32 (w32 (5 * v2) + v4))) 20 ∧ X5 (bi (gA σ 32 (gA σ 38 (w32 (w32 (5 * v1) + v4))) = gA σ 32 (gA σ 38 (w32 (w32 (5 * v2) + v4))))) (w32 (v4 + 1)) σ) else Q v3 σ)) → X5 v3 v4 σ) → X5 v3 v4 σ
def t_areOneKinds (v1 : Int) (v2 : Int) (σ : S) (Q : Int → S → Prop) : Prop :=
  t_areOneKinds_L5 v1 v2 1 0 σ Q
def t_isAlikeRow_L167 (v1 : Int) (v2 : Int) (v3 : Int) (v4 : Int) (σ : S) (Q : Int → S → Prop) : Prop :=
  ∀ X167 : Int → Int → S → Prop, (∀ (v3 : Int) (v4 : Int) (σ : S), ((if v3 = 0 then Q v3 σ else inb v1 50 ∧ (if v4 < gA σ 20 v1 then (if v4 < 20 then inb (w32 (w32 (20 * v1) + v4)) 1000 ∧ inb (w32 (w32 (20 * v2) + v4)) 1000 ∧ X167 (bi (gA σ 21 (w32 (w32 (20 * v1) + v4)) = gA σ 21 (w32 (w32 (20 * v2) + v4)))) (w32 (v4 + 1)) σ else Q v3 σ) else Q v3 σ))) → X167 v3 v4 σ) → X167 v3 v4 σ
def t_isAlikeRow_j163 (v1 : Int) (v2 : Int) (s0 : Int) (σ : S) (Q : Int → S → Prop) : Prop :=
  t_isAlikeRow_L167 v1 v2 s0 0 σ Q
def t_isAlikeRow_j162 (v1 : Int) (v2 : Int) (σ : S) (Q : Int → S → Prop) : Prop :=
  t_isAlikeRow_j163 v1 v2 0 σ Q
def t_isAlikeRow_j158 (v1 : Int) (v2 : Int) (σ : S) (Q : Int → S → Prop) : Prop :=
  t_isAlikeRow_j163 v1 v2 1 σ Q
def t_isAlikeRow_j123 (v1 : Int) (v2 : Int) (s0 : Int) (s1 : Int) (σ : S) (Q : Int → S → Prop) : Prop :=
  (if s1 = s0 then inb v1 50 ∧ (if gA σ 18 v1 < 0 then t_isAlikeRow_j158 v1 v2 σ Q else inb v1 50 ∧ t_nameOf (gA σ 18 v1) σ (fun r_64 σ_63 => inb v2 50 ∧ t_nameOf (gA σ_63 18 v2) σ_63 (fun r_68 σ_67 => (if r_64 = r_68 then t_isAlikeRow_j158 v1 v2 σ_67 Q else t_isAlikeRow_j162 v1 v2 σ_67 Q)))) else t_isAlikeRow_j162 v1 v2 σ Q)
def t_isAlikeRow_j109 (v1 : Int) (v2 : Int) (s0 : Int) (σ : S) (Q : Int → S → Prop) : Prop :=
  inb v2 50 ∧ (if gA σ 18 v2 < 0 then t_isAlikeRow_j123 v1 v2 1 s0 σ Q else t_isAlikeRow_j123 v1 v2 0 s0 σ Q)
def t_isAlikeRow (v1 : Int) (v2 : Int) (σ : S) (Q : Int → S → Prop) : Prop :=
  inb v1 50 ∧ inb (gA σ 39 v1) 20 ∧ inb v2 50 ∧ inb (gA σ 39 v2) 20 ∧ ((gA σ 32 (gA σ 39 v1) = gA σ 32 (gA σ 39 v2)) → (inb v1 50)) ∧ ((gA σ 32 (gA σ 39 v1) = gA σ 32 (gA σ 39 v2)) → (inb v2 50)) ∧ ((gA σ 32 (gA σ 39 v1) = gA σ 32 (gA σ 39 v2)) → (gA σ 16 v1 = gA σ 16 v2) → (inb v1 50)) ∧ ((gA σ 32 (gA σ 39 v1) = gA σ 32 (gA σ 39 v2)) → (gA σ 16 v1 = gA σ 16 v2) → (inb v2 50)) ∧ ((gA σ 32 (gA σ 39 v1) = gA σ 32 (gA σ 39 v2)) → (gA σ 16 v1 = gA σ 16 v2) → (gA σ 17 v1 = gA σ 17 v2) → (inb v1 50)) ∧ ((gA σ 32 (gA σ 39 v1) = gA σ 32 (gA σ 39 v2)) → (gA σ 16 v1 = gA σ 16 v2) → (gA σ 17 v1 = gA σ 17 v2) → (inb v2 50)) ∧ ((gA σ 32 (gA σ 39 v1) = gA σ 32 (gA σ 39 v2)) → (gA σ 16 v1 = gA σ 16 v2) → (gA σ 17 v1 = gA σ 17 v2) → (gA σ 19 v1 = gA σ 19 v2) → (inb v1 50)) ∧ ((gA σ 32 (gA σ 39 v1) = gA σ 32 (gA σ 39 v2)) → (gA σ 16 v1 = gA σ 16 v2) → (gA σ 17 v1 = gA σ 17 v2) → (gA σ 19 v1 = gA σ 19 v2) → (inb v2 50)) ∧ (if bi ((gA σ 32 (gA σ 39 v1) = gA σ 32 (gA σ 39 v2)) ∧ ((gA σ 16 v1 = gA σ 16 v2) ∧ ((gA σ 17 v1 = gA σ 17 v2) ∧ ((gA σ 19 v1 = gA σ 19 v2) ∧ (gA σ 20 v1 = gA σ 20 v2))))) = 0 then t_isAlikeRow_j162 v1 v2 σ Q else inb v1 50 ∧ (if gA σ 18 v1 < 0 then t_isAlikeRow_j109 v1 v2 1 σ Q else t_isAlikeRow_j109 v1 v2 0 σ Q))
def t_haveSameSorts_L5 (v1 : Int) (v2 : Int) (v3 : Int) (v4 : Int) (σ : S) (Q : Int → S → Prop) : Prop :=
  ∀ X5 : Int → Int → S → Prop, (∀ (v3 : Int) (v4 : Int) (σ : S), (inb v1 50 ∧ (if v4 < gA σ 37 v1 then (if v3 = 0 then Q v3 σ else inb (w32 (w32 (5 * v1) + v4)) 250 ∧ inb (w32 (w32 (5 * v2) + v4)) 250 ∧ X5 (bi (gA σ 38 (w32 (w32 (5 * v1) + v4)) = gA σ 38 (w32 (w32 (5 * v2) + v4)))) (w32 (v4 + 1)) σ) else Q v3 σ)) → X5 v3 v4 σ) → X5 v3 v4 σ
def t_haveSameSorts (v1 : Int) (v2 : Int) (σ : S) (Q : Int → S → Prop) : Prop :=
  t_haveSameSorts_L5 v1 v2 1 0 σ Q
def t_holeKind (v1 : Int) (v2 : Int) (σ : S) (Q : Int → S → Prop) : Prop :=
  inb (w32 (w32 (5 * v1) + v2)) 250 ∧ inb (gA σ 38 (w32 (w32 (5 * v1) + v2))) 20 ∧ Q (gA σ 32 (gA σ 38 (w32 (w32 (5 * v1) + v2)))) σ
def t_makeOps_j77 (v1 : Int) (v2 : Int) (σ : S) (Q : Int → S → Prop) (X7 : Int → S → Prop) (X25 : Int → S → Prop) : Prop :=
  X25 (w32 (v2 + 1)) σ
def t_makeOps_j252 (v1 : Int) (σ : S) (Q : Int → S → Prop) (X7 : Int → S → Prop) : Prop :=
  inb v1 50 ∧ inb (gA σ 40 v1) 50 ∧ inb (gA σ 40 v1) 50 ∧ ∀ σ_37, σ_37 = pA σ 47 (gA σ 40 v1) (w32 (gA σ 47 (gA σ 40 v1) + 1)) → X7 (w32 (v1 + 1)) σ_37
def t_makeOps_j83 (v1 : Int) (σ : S) (Q : Int → S → Prop) (X7 : Int → S → Prop) : Prop :=
  inb v1 50 ∧ (if gA σ 40 v1 < 0 then inb v1 50 ∧ ∀ σ_41, σ_41 = pA σ 40 v1 (gI σ 62) → inb (gI σ 62) 50 ∧ ∀ σ_44, σ_44 = pA σ_41 41 (gI σ 62) v1 → inb v1 50 ∧ inb (gA σ_44 39 v1) 20 ∧ inb (gI σ 62) 50 ∧ ∀ σ_51, σ_51 = pA σ_44 42 (gI σ 62) (gA σ_44 32 (gA σ_44 39 v1)) → inb (w32 (13 * v1)) 650 ∧ ((¬ gA σ_51 35 (w32 (13 * v1)) = (-1)) → (inb v1 50)) ∧ ((¬ gA σ_51 35 (w32 (13 * v1)) = (-1)) → (inb (w32 (w32 (w32 (13 * v1) + (gA σ_51 36 v1)) - 1)) 650)) ∧ inb v1 50 ∧ ((¬ gA σ_51 19 v1 < 0) → (inb v1 50)) ∧ inb (gI σ 62) 50 ∧ ∀ σ_71, σ_71 = pA σ_51 43 (gI σ 62) (if gA σ_51 19 v1 < 0 then (if bi ((gA σ_51 35 (w32 (13 * v1)) = (-1)) ∨ (gA σ_51 35 (w32 (w32 (w32 (13 * v1) + (gA σ_51 36 v1)) - 1)) = (-1))) = 0 then 0 else 41) else gA σ_51 19 v1) → inb v1 50 ∧ inb (gI σ 62) 50 ∧ ∀ σ_76, σ_76 = pA σ_71 44 (gI σ 62) (gA σ_71 16 v1) → inb v1 50 ∧ inb (gI σ 62) 50 ∧ ∀ σ_81, σ_81 = pA σ_76 45 (gI σ 62) (gA σ_76 17 v1) → inb (gI σ 62) 50 ∧ ∀ σ_84, σ_84 = pA σ_81 46 (gI σ 62) (-2) → inb (gI σ 62) 50 ∧ ∀ σ_87, σ_87 = pA σ_84 47 (gI σ 62) 0 → ∀ σ_91, σ_91 = pI σ_87 62 (w32 (gI σ_87 62 + 1)) → t_makeOps_j252 v1 σ_91 Q X7 else t_makeOps_j252 v1 σ Q X7)
def t_makeOps_L25 (v1 : Int) (v2 : Int) (σ : S) (Q : Int → S → Prop) (X7 : Int → S → Prop) : Prop :=
  ∀ X25 : Int → S → Prop, (∀ (v2 : Int) (σ : S), (((v2 < gI σ 62) → (inb v1 50)) ∧ (if (v2 < gI σ 62) ∧ (gA σ 40 v1 < 0) then inb v2 50 ∧ t_isOneForm v1 (gA σ 41 v2) σ (fun r_17 σ_16 => (if r_17 = 0 then t_makeOps_j77 v1 v2 σ_16 Q X7 X25 else inb v2 50 ∧ t_areOneKinds v1 (gA σ_16 41 v2) σ_16 (fun r_23 σ_22 => (if r_23 = 0 then t_makeOps_j77 v1 v2 σ_22 Q X7 X25 else inb v1 50 ∧ ∀ σ_26, σ_26 = pA σ_22 40 v1 v2 → t_makeOps_j77 v1 v2 σ_26 Q X7 X25)))) else t_makeOps_j83 v1 σ Q X7)) → X25 v2 σ) → X25 v2 σ
def t_makeOps_L7 (v1 : Int) (σ : S) (Q : Int → S → Prop) : Prop :=
  ∀ X7 : Int → S → Prop, (∀ (v1 : Int) (σ : S), ((if v1 < gI σ 37 then inb v1 50 ∧ ∀ σ_6, σ_6 = pA σ 40 v1 (-2) → t_makeOps_L25 v1 0 σ_6 Q X7 else Q 0 σ)) → X7 v1 σ) → X7 v1 σ
def t_makeOps (σ : S) (Q : Int → S → Prop) : Prop :=
  ∀ σ_1, σ_1 = pI σ 62 0 → t_makeOps_L7 0 σ_1 Q
def t_constant_L2 (v1 : Int) (v2 : Int) (v3 : Int) (σ : S) (Q : Int → S → Prop) : Prop :=
  ∀ X2 : Int → S → Prop, (∀ (v3 : Int) (σ : S), ((if v3 < gI σ 62 then inb v3 50 ∧ inb (gA σ 41 v3) 50 ∧ ((gA σ 37 (gA σ 41 v3) = 0) → (inb (gA σ 41 v3) 50)) ∧ ((gA σ 37 (gA σ 41 v3) = 0) → (gA σ 36 (gA σ 41 v3) = 1) → (inb (w32 (13 * (gA σ 41 v3))) 650)) ∧ ((gA σ 37 (gA σ 41 v3) = 0) → (gA σ 36 (gA σ 41 v3) = 1) → (gA σ 35 (w32 (13 * (gA σ 41 v3))) = v1) → (inb v3 50)) ∧ (if (gA σ 37 (gA σ 41 v3) = 0) ∧ ((gA σ 36 (gA σ 41 v3) = 1) ∧ ((gA σ 35 (w32 (13 * (gA σ 41 v3))) = v1) ∧ (gA σ 42 v3 = v2))) then Q v3 σ else X2 (w32 (v3 + 1)) σ) else Q (-2) σ)) → X2 v3 σ) → X2 v3 σ
def t_constant (v1 : Int) (v2 : Int) (σ : S) (Q : Int → S → Prop) : Prop :=
  t_constant_L2 v1 v2 0 σ Q
def t_checkRows_j337 (v1 : Int) (σ : S) (Q : Int → S → Prop) (X2 : Int → S → Prop) : Prop :=
  X2 (w32 (v1 + 1)) σ
def t_checkRows_j322 (v1 : Int) (v2 : Int) (σ : S) (Q : Int → S → Prop) (X2 : Int → S → Prop) : Prop :=
  (if v2 = 0 then inb v1 50 ∧ t_blame 5 (gA σ 10 v1) σ (fun _ σ_79 => t_checkRows_j337 v1 σ_79 Q X2) else t_checkRows_j337 v1 σ Q X2)
def t_checkRows_j307 (v1 : Int) (v2 : Int) (v5 : Int) (v6 : Int) (v7 : Int) (σ : S) (Q : Int → S → Prop) (X2 : Int → S → Prop) : Prop :=
  (if v6 = v1 then inb v5 50 ∧ ∀ σ_80, σ_80 = pA σ 46 v5 v7 → t_checkRows_j322 v1 v2 σ_80 Q X2 else t_checkRows_j322 v1 v2 σ Q X2)
def t_checkRows_j252 (v1 : Int) (v2 : Int) (v5 : Int) (v6 : Int) (σ : S) (Q : Int → S → Prop) (X2 : Int → S → Prop) : Prop :=
  ((¬ v2 = 0) → (inb v1 50)) ∧ (if ¬ (v2 = 0) ∧ (¬ (gA σ 18 v1 < 0)) then inb v1 50 ∧ t_nameOf (gA σ 18 v1) σ (fun r_65 σ_64 => inb v1 50 ∧ inb (gA σ_64 39 v1) 20 ∧ t_constant r_65 (gA σ_64 32 (gA σ_64 39 v1)) σ_64 (fun r_71 σ_70 => t_checkRows_j307 v1 (bi (¬ (r_71 < 0))) v5 v6 r_71 σ_70 Q X2)) else t_checkRows_j307 v1 v2 v5 v6 (-2) σ Q X2)
def t_checkRows_j245 (v1 : Int) (v5 : Int) (v6 : Int) (v7 : Int) (s0 : Int) (σ : S) (Q : Int → S → Prop) (X2 : Int → S → Prop) (X208 : Int → Int → S → Prop) : Prop :=
  X208 s0 (w32 (v7 + 1)) σ
def t_checkRows_j244 (v1 : Int) (v5 : Int) (v6 : Int) (v7 : Int) (σ : S) (Q : Int → S → Prop) (X2 : Int → S → Prop) (X208 : Int → Int → S → Prop) : Prop :=
  t_checkRows_j245 v1 v5 v6 v7 0 σ Q X2 X208
def t_checkRows_j240 (v1 : Int) (v5 : Int) (v6 : Int) (v7 : Int) (σ : S) (Q : Int → S → Prop) (X2 : Int → S → Prop) (X208 : Int → Int → S → Prop) : Prop :=
  t_checkRows_j245 v1 v5 v6 v7 1 σ Q X2 X208
def t_checkRows_L208 (v1 : Int) (v2 : Int) (v5 : Int) (v6 : Int) (v7 : Int) (σ : S) (Q : Int → S → Prop) (X2 : Int → S → Prop) : Prop :=
  ∀ X208 : Int → Int → S → Prop, (∀ (v2 : Int) (v7 : Int) (σ : S), ((if v7 < v1 then (if v2 = 0 then t_checkRows_j244 v1 v5 v6 v7 σ Q X2 X208 else inb v7 50 ∧ (if gA σ 40 v7 = v5 then t_haveSameSorts v7 v1 σ (fun r_95 σ_94 => (if r_95 = 0 then t_checkRows_j240 v1 v5 v6 v7 σ_94 Q X2 X208 else t_checkRows_j244 v1 v5 v6 v7 σ_94 Q X2 X208)) else t_checkRows_j240 v1 v5 v6 v7 σ Q X2 X208)) else t_checkRows_j252 v1 v2 v5 v6 σ Q X2)) → X208 v2 v7 σ) → X208 v2 v7 σ
def t_checkRows_j204 (v1 : Int) (v5 : Int) (v6 : Int) (s0 : Int) (σ : S) (Q : Int → S → Prop) (X2 : Int → S → Prop) : Prop :=
  t_checkRows_L208 v1 s0 v5 v6 0 σ Q X2
def t_checkRows_j203 (v1 : Int) (v5 : Int) (v6 : Int) (σ : S) (Q : Int → S → Prop) (X2 : Int → S → Prop) : Prop :=
  t_checkRows_j204 v1 v5 v6 0 σ Q X2
def t_checkRows_j199 (v1 : Int) (v5 : Int) (v6 : Int) (σ : S) (Q : Int → S → Prop) (X2 : Int → S → Prop) : Prop :=
  t_checkRows_j204 v1 v5 v6 1 σ Q X2
def t_checkRows_j109 (v1 : Int) (v2 : Int) (v3 : Int) (s0 : Int) (σ : S) (Q : Int → S → Prop) (X2 : Int → S → Prop) : Prop :=
  ((¬ v2 = 0) → (inb v1 50)) ∧ ((¬ v2 = 0) → (gA σ 16 v1 = 0) → (inb v1 50)) ∧ ((¬ v2 = 0) → (gA σ 16 v1 = 0) → (gA σ 17 v1 = 0) → (inb v1 50)) ∧ ((¬ v2 = 0) → (gA σ 16 v1 = 0) → (¬ gA σ 17 v1 = 0) → (¬ v3 = 0) → (inb v1 50)) ∧ ((¬ v2 = 0) → (¬ gA σ 16 v1 = 0) → (¬ s0 = 0) → (inb v1 50)) ∧ ((¬ v2 = 0) → (¬ gA σ 16 v1 = 0) → (¬ s0 = 0) → (gA σ 17 v1 = 0) → (inb v1 50)) ∧ ((¬ v2 = 0) → (¬ gA σ 16 v1 = 0) → (¬ s0 = 0) → (¬ gA σ 17 v1 = 0) → (¬ v3 = 0) → (inb v1 50)) ∧ inb v1 50 ∧ inb (gA σ 40 v1) 50 ∧ (if bi (¬ (v2 = 0) ∧ (((gA σ 16 v1 = 0) ∧ (((gA σ 17 v1 = 0) ∧ ((gA σ 18 v1 < 0) ∨ (¬ (s0 = 0)))) ∨ (¬ (gA σ 17 v1 = 0) ∧ (¬ (v3 = 0) ∧ ((gA σ 18 v1 < 0) ∨ (¬ (s0 = 0))))))) ∨ (¬ (gA σ 16 v1 = 0) ∧ (¬ (s0 = 0) ∧ (((gA σ 17 v1 = 0) ∧ ((gA σ 18 v1 < 0) ∨ (¬ (s0 = 0)))) ∨ (¬ (gA σ 17 v1 = 0) ∧ (¬ (v3 = 0) ∧ ((gA σ 18 v1 < 0) ∨ (¬ (s0 = 0)))))))))) = 0 then t_checkRows_j203 v1 (gA σ 40 v1) (gA σ 41 (gA σ 40 v1)) σ Q X2 else (if gA σ 41 (gA σ 40 v1) = v1 then t_checkRows_j199 v1 (gA σ 40 v1) (gA σ 41 (gA σ 40 v1)) σ Q X2 else t_isAlikeRow v1 (gA σ 41 (gA σ 40 v1)) σ (fun r_101 σ_100 => (if r_101 = 0 then t_checkRows_j203 v1 (gA σ 40 v1) (gA σ 41 (gA σ 40 v1)) σ_100 Q X2 else t_checkRows_j199 v1 (gA σ 40 v1) (gA σ 41 (gA σ 40 v1)) σ_100 Q X2))))
def t_checkRows_j108 (v1 : Int) (v2 : Int) (v3 : Int) (σ : S) (Q : Int → S → Prop) (X2 : Int → S → Prop) : Prop :=
  t_checkRows_j109 v1 v2 v3 0 σ Q X2
def t_checkRows_j79 (v1 : Int) (v2 : Int) (s0 : Int) (σ : S) (Q : Int → S → Prop) (X2 : Int → S → Prop) : Prop :=
  (if s0 = 0 then t_checkRows_j108 v1 v2 s0 σ Q X2 else t_holeKind v1 0 σ (fun r_107 σ_106 => inb v1 50 ∧ inb (gA σ_106 39 v1) 20 ∧ (if r_107 = gA σ_106 32 (gA σ_106 39 v1) then t_checkRows_j109 v1 v2 s0 1 σ_106 Q X2 else t_checkRows_j108 v1 v2 s0 σ_106 Q X2)))
def t_checkRows_j78 (v1 : Int) (v2 : Int) (σ : S) (Q : Int → S → Prop) (X2 : Int → S → Prop) : Prop :=
  t_checkRows_j79 v1 v2 0 σ Q X2
def t_checkRows_L2 (v1 : Int) (σ : S) (Q : Int → S → Prop) : Prop :=
  ∀ X2 : Int → S → Prop, (∀ (v1 : Int) (σ : S), ((if v1 < gI σ 37 then inb v1 50 ∧ ((gA σ 22 v1 = 0) → (inb v1 50)) ∧ ((gA σ 22 v1 = 0) → (¬ gA σ 20 v1 < 0) → (inb v1 50)) ∧ ((gA σ 22 v1 = 0) → (¬ gA σ 20 v1 < 0) → (inb v1 50)) ∧ inb v1 50 ∧ (if gA σ 37 v1 = 2 then t_holeKind v1 0 σ (fun r_115 σ_114 => t_holeKind v1 1 σ_114 (fun r_117 σ_116 => (if r_115 = r_117 then t_checkRows_j79 v1 (bi ((gA σ 22 v1 = 0) ∧ ((gA σ 20 v1 < 0) ∨ (gA σ 20 v1 = gA σ 37 v1)))) 1 σ_116 Q X2 else t_checkRows_j78 v1 (bi ((gA σ 22 v1 = 0) ∧ ((gA σ 20 v1 < 0) ∨ (gA σ 20 v1 = gA σ 37 v1)))) σ_116 Q X2))) else t_checkRows_j78 v1 (bi ((gA σ 22 v1 = 0) ∧ ((gA σ 20 v1 < 0) ∨ (gA σ 20 v1 = gA σ 37 v1)))) σ Q X2) else Q 0 σ)) → X2 v1 σ) → X2 v1 σ
def t_checkRows (σ : S) (Q : Int → S → Prop) : Prop :=
  t_checkRows_L2 0 σ Q
def t_takes_j132 (v1 : Int) (v4 : Int) (σ : S) (Q : Int → S → Prop) : Prop :=
  ((¬ v4 = 38) → (¬ v4 = 101) → (inb v1 50)) ∧ ((¬ v4 = 38) → (v4 = 101) → (inb v1 50)) ∧ Q (if v4 = 38 then 1000 else (if v4 = 101 then gA σ 43 v1 else w32 (gA σ 43 v1 - 1))) σ
def t_takes_j101 (v1 : Int) (v2 : Int) (v3 : Int) (v4 : Int) (v5 : Int) (v6 : Int) (σ : S) (Q : Int → S → Prop) : Prop :=
  inb v3 50 ∧ (if v2 = w32 (gA σ 37 v3 - 1) then (if v6 = 0 then t_takes_j132 v1 v4 σ Q else t_takes_j132 v1 (if v5 = 0 then 101 else 69) σ Q) else t_takes_j132 v1 v4 σ Q)
def t_takes (v1 : Int) (v2 : Int) (σ : S) (Q : Int → S → Prop) : Prop :=
  inb v1 50 ∧ inb (w32 (13 * (gA σ 41 v1))) 650 ∧ inb (gA σ 41 v1) 50 ∧ inb (w32 (w32 (w32 (13 * (gA σ 41 v1)) + (gA σ 36 (gA σ 41 v1))) - 1)) 650 ∧ inb (gA σ 41 v1) 50 ∧ (if gA σ 20 (gA σ 41 v1) < 0 then (if v2 = 0 then (if bi (gA σ 35 (w32 (13 * (gA σ 41 v1))) = (-1)) = 0 then t_takes_j101 v1 v2 (gA σ 41 v1) 38 (bi (gA σ 35 (w32 (13 * (gA σ 41 v1))) = (-1))) (bi (gA σ 35 (w32 (w32 (w32 (13 * (gA σ 41 v1)) + (gA σ 36 (gA σ 41 v1))) - 1)) = (-1))) σ Q else t_takes_j132 v1 101 σ Q) else t_takes_j101 v1 v2 (gA σ 41 v1) 38 (bi (gA σ 35 (w32 (13 * (gA σ 41 v1))) = (-1))) (bi (gA σ 35 (w32 (w32 (w32 (13 * (gA σ 41 v1)) + (gA σ 36 (gA σ 41 v1))) - 1)) = (-1))) σ Q) else inb (w32 (w32 (20 * (gA σ 41 v1)) + v2)) 1000 ∧ t_takes_j132 v1 (gA σ 21 (w32 (w32 (20 * (gA σ 41 v1)) + v2))) σ Q)
def t_hashOf_j50 (v4 : Int) (σ : S) (Q : Int → S → Prop) : Prop :=
  Q (bAnd (bXor v4 (bUsh v4 16)) 65535) σ
def t_hashOf_L11 (v2 : Int) (v3 : Int) (v4 : Int) (v5 : Int) (σ : S) (Q : Int → S → Prop) : Prop :=
  ∀ X11 : Int → Int → S → Prop, (∀ (v4 : Int) (v5 : Int) (σ : S), ((if v5 < v3 then inb (w32 (v2 + v5)) 800000 ∧ X11 (bXor (w32 (w32 (v4 * 31) + (gA σ 56 (w32 (v2 + v5))))) (bUsh (w32 (w32 (v4 * 31) + (gA σ 56 (w32 (v2 + v5))))) 13)) (w32 (v5 + 1)) σ else t_hashOf_j50 v4 σ Q)) → X11 v4 v5 σ) → X11 v4 v5 σ
def t_hashOf (v1 : Int) (v2 : Int) (v3 : Int) (σ : S) (Q : Int → S → Prop) : Prop :=
  t_hashOf_L11 v2 v3 (w32 (w32 (v1 * 31) + v3)) 0 σ Q
def t_arg (v1 : Int) (v2 : Int) (σ : S) (Q : Int → S → Prop) : Prop :=
  inb v1 200000 ∧ inb (w32 (gA σ 49 v1 + v2)) 800000 ∧ Q (gA σ 56 (w32 (gA σ 49 v1 + v2))) σ
def t_lowest_L2 (v1 : Int) (v2 : Int) (σ : S) (Q : Int → S → Prop) : Prop :=
  ∀ X2 : Int → S → Prop, (∀ (v2 : Int) (σ : S), ((if v2 < gI σ 18 then ((bAnd (bShr v1 v2) 1 = 1) → (inb v2 20)) ∧ (if (bAnd (bShr v1 v2) 1 = 1) ∧ (bAnd v1 (bXor (gA σ 31 v2) (-1)) = 0) then Q v2 σ else X2 (w32 (v2 + 1)) σ) else Q (-2) σ)) → X2 v2 σ) → X2 v2 σ
def t_lowest (v1 : Int) (σ : S) (Q : Int → S → Prop) : Prop :=
  t_lowest_L2 v1 0 σ Q
def t_isRowAbove_j88 (σ : S) (Q : Int → S → Prop) : Prop :=
  Q 1 σ
def t_isRowAbove_j92 (σ : S) (Q : Int → S → Prop) : Prop :=
  Q 0 σ
def t_isRowAbove_j47 (v1 : Int) (v2 : Int) (v3 : Int) (v4 : Int) (v5 : Int) (s0 : Int) (σ : S) (Q : Int → S → Prop) : Prop :=
  (if s0 = 0 then inb v1 50 ∧ inb (gA σ 40 v1) 50 ∧ (if gA σ 45 (gA σ 40 v1) = 0 then t_isRowAbove_j92 σ Q else t_isBelow v3 v4 σ (fun r_18 σ_17 => (if r_18 = 0 then t_isRowAbove_j92 σ_17 Q else t_isBelow v2 v5 σ_17 (fun r_22 σ_21 => (if r_22 = 0 then t_isRowAbove_j92 σ_21 Q else t_isRowAbove_j88 σ_21 Q))))) else t_isRowAbove_j88 σ Q)
def t_isRowAbove_j46 (v1 : Int) (v2 : Int) (v3 : Int) (v4 : Int) (v5 : Int) (σ : S) (Q : Int → S → Prop) : Prop :=
  t_isRowAbove_j47 v1 v2 v3 v4 v5 0 σ Q
def t_isRowAbove (v1 : Int) (v2 : Int) (v3 : Int) (σ : S) (Q : Int → S → Prop) : Prop :=
  inb (w32 (5 * v1)) 250 ∧ inb (w32 (w32 (5 * v1) + 1)) 250 ∧ t_isBelow v2 (gA σ 38 (w32 (5 * v1))) σ (fun r_6 σ_5 => (if r_6 = 0 then t_isRowAbove_j46 v1 v2 v3 (gA σ 38 (w32 (5 * v1))) (gA σ 38 (w32 (w32 (5 * v1) + 1))) σ_5 Q else t_isBelow v3 (gA σ 38 (w32 (w32 (5 * v1) + 1))) σ_5 (fun r_26 σ_25 => (if r_26 = 0 then t_isRowAbove_j46 v1 v2 v3 (gA σ 38 (w32 (5 * v1))) (gA σ 38 (w32 (w32 (5 * v1) + 1))) σ_25 Q else t_isRowAbove_j47 v1 v2 v3 (gA σ 38 (w32 (5 * v1))) (gA σ 38 (w32 (w32 (5 * v1) + 1))) 1 σ_25 Q))))
def t_sortOfTwo_j68 (v4 : Int) (σ : S) (Q : Int → S → Prop) : Prop :=
  t_lowest v4 σ (fun r_7 σ_6 => Q r_7 σ_6)
def t_sortOfTwo_j62 (v1 : Int) (v2 : Int) (v3 : Int) (v4 : Int) (v5 : Int) (σ : S) (Q : Int → S → Prop) (X17 : Int → Int → S → Prop) : Prop :=
  X17 v4 (w32 (v5 + 1)) σ
def t_sortOfTwo_L17 (v1 : Int) (v2 : Int) (v3 : Int) (v4 : Int) (v5 : Int) (σ : S) (Q : Int → S → Prop) : Prop :=
  ∀ X17 : Int → Int → S → Prop, (∀ (v4 : Int) (v5 : Int) (σ : S), ((if v5 < gI σ 37 then inb v5 50 ∧ (if gA σ 40 v5 = v1 then t_isRowAbove v5 v2 v3 σ (fun r_13 σ_12 => (if r_13 = 0 then t_sortOfTwo_j62 v1 v2 v3 v4 v5 σ_12 Q X17 else inb v5 50 ∧ t_sortOfTwo_j62 v1 v2 v3 (bOr v4 (bShl 1 (gA σ_12 39 v5))) v5 σ_12 Q X17)) else t_sortOfTwo_j62 v1 v2 v3 v4 v5 σ Q X17) else t_sortOfTwo_j68 v4 σ Q)) → X17 v4 v5 σ) → X17 v4 v5 σ
def t_sortOfTwo (v1 : Int) (v2 : Int) (v3 : Int) (σ : S) (Q : Int → S → Prop) : Prop :=
  (if (v2 < 0) ∨ (v3 < 0) then Q (-2) σ else t_sortOfTwo_L17 v1 v2 v3 0 0 σ Q)
def t_sortOfVar (v1 : Int) (σ : S) (Q : Int → S → Prop) : Prop :=
  inb (if v1 < 30 then v1 else w32 (v1 - 30)) 30 ∧ Q (gA σ 34 (if v1 < 30 then v1 else w32 (v1 - 30))) σ
def t_leastSort_L56 (v1 : Int) (v2 : Int) (v3 : Int) (v4 : Int) (v5 : Int) (σ : S) (Q : Int → S → Prop) : Prop :=
  ∀ X56 : Int → Int → S → Prop, (∀ (v4 : Int) (v5 : Int) (σ : S), ((if v5 < v3 then t_arg v1 v5 σ (fun r_18 σ_17 => inb r_18 200000 ∧ t_sortOfTwo v2 v4 (gA σ_17 52 r_18) σ_17 (fun r_22 σ_21 => X56 r_22 (w32 (v5 + 1)) σ_21)) else Q v4 σ)) → X56 v4 v5 σ) → X56 v4 v5 σ
def t_leastSort_j228 (v4 : Int) (σ : S) (Q : Int → S → Prop) : Prop :=
  t_lowest v4 σ (fun r_27 σ_26 => Q r_27 σ_26)
def t_leastSort_j190 (v1 : Int) (v2 : Int) (v3 : Int) (v4 : Int) (v5 : Int) (v7 : Int) (s0 : Int) (σ : S) (Q : Int → S → Prop) (X98 : Int → Int → S → Prop) (X128 : Int → Int → S → Prop) : Prop :=
  X128 s0 (w32 (v7 + 1)) σ
def t_leastSort_j189 (v1 : Int) (v2 : Int) (v3 : Int) (v4 : Int) (v5 : Int) (v7 : Int) (σ : S) (Q : Int → S → Prop) (X98 : Int → Int → S → Prop) (X128 : Int → Int → S → Prop) : Prop :=
  t_leastSort_j190 v1 v2 v3 v4 v5 v7 0 σ Q X98 X128
def t_leastSort_j198 (v1 : Int) (v2 : Int) (v3 : Int) (v4 : Int) (v5 : Int) (v6 : Int) (σ : S) (Q : Int → S → Prop) (X98 : Int → Int → S → Prop) : Prop :=
  ((¬ v6 = 0) → (inb v5 50)) ∧ X98 (if v6 = 0 then v4 else bOr v4 (bShl 1 (gA σ 39 v5))) (w32 (v5 + 1)) σ
def t_leastSort_L128 (v1 : Int) (v2 : Int) (v3 : Int) (v4 : Int) (v5 : Int) (v6 : Int) (v7 : Int) (σ : S) (Q : Int → S → Prop) (X98 : Int → Int → S → Prop) : Prop :=
  ∀ X128 : Int → Int → S → Prop, (∀ (v6 : Int) (v7 : Int) (σ : S), ((if (v7 < v3) ∧ (¬ (v6 = 0)) then t_arg v1 v7 σ (fun r_34 σ_33 => inb r_34 200000 ∧ (if gA σ_33 52 r_34 < 0 then t_leastSort_j189 v1 v2 v3 v4 v5 v7 σ_33 Q X98 X128 else t_arg v1 v7 σ_33 (fun r_40 σ_39 => inb r_40 200000 ∧ inb (w32 (w32 (5 * v5) + v7)) 250 ∧ t_isBelow (gA σ_39 52 r_40) (gA σ_39 38 (w32 (w32 (5 * v5) + v7))) σ_39 (fun r_46 σ_45 => (if r_46 = 0 then t_leastSort_j189 v1 v2 v3 v4 v5 v7 σ_45 Q X98 X128 else t_leastSort_j190 v1 v2 v3 v4 v5 v7 1 σ_45 Q X98 X128))))) else t_leastSort_j198 v1 v2 v3 v4 v5 v6 σ Q X98)) → X128 v6 v7 σ) → X128 v6 v7 σ
def t_leastSort_L98 (v1 : Int) (v2 : Int) (v3 : Int) (v4 : Int) (v5 : Int) (σ : S) (Q : Int → S → Prop) : Prop :=
  ∀ X98 : Int → Int → S → Prop, (∀ (v4 : Int) (v5 : Int) (σ : S), ((if v5 < gI σ 37 then inb v5 50 ∧ t_leastSort_L128 v1 v2 v3 v4 v5 (bi (gA σ 40 v5 = v2)) 0 σ Q X98 else t_leastSort_j228 v4 σ Q)) → X98 v4 v5 σ) → X98 v4 v5 σ
def t_leastSort (v1 : Int) (σ : S) (Q : Int → S → Prop) : Prop :=
  inb v1 200000 ∧ (if gA σ 48 v1 < 0 then t_sortOfVar (w32 ((-1) - (gA σ 48 v1))) σ (fun r_64 σ_63 => Q r_64 σ_63) else inb v1 200000 ∧ ((¬ gA σ 50 v1 = 2) → (inb (gA σ 48 v1) 50)) ∧ (if (gA σ 50 v1 = 2) ∨ (¬ (gA σ 44 (gA σ 48 v1) = 0)) then t_arg v1 0 σ (fun r_12 σ_11 => inb r_12 200000 ∧ t_leastSort_L56 v1 (gA σ 48 v1) (gA σ 50 v1) (gA σ_11 52 r_12) 1 σ_11 Q) else t_leastSort_L98 v1 (gA σ 48 v1) (gA σ 50 v1) 0 0 σ Q))
def t_node_j176 (v1 : Int) (v2 : Int) (v3 : Int) (v4 : Int) (v5 : Int) (σ : S) (Q : Int → S → Prop) : Prop :=
  inb v4 200000 ∧ ∀ σ_11, σ_11 = pA σ 48 v4 v1 → inb v4 200000 ∧ ∀ σ_15, σ_15 = pA σ_11 49 v4 (gI σ_11 81) → inb v4 200000 ∧ ∀ σ_18, σ_18 = pA σ_15 50 v4 v2 → inb v4 200000 ∧ ∀ σ_21, σ_21 = pA σ_18 51 v4 v5 → inb v3 65536 ∧ inb v4 200000 ∧ ∀ σ_26, σ_26 = pA σ_21 53 v4 (gA σ_21 57 v3) → inb v3 65536 ∧ ∀ σ_29, σ_29 = pA σ_26 57 v3 v4 → inb v4 200000 ∧ ∀ σ_32, σ_32 = pA σ_29 55 v4 0 → ∀ σ_36, σ_36 = pI σ_32 80 (w32 (gI σ_32 80 + 1)) → ∀ σ_39, σ_39 = pI σ_36 81 (w32 (gI σ_36 81 + v2)) → t_leastSort v4 σ_39 (fun r_42 σ_41 => inb v4 200000 ∧ ∀ σ_43, σ_43 = pA σ_41 52 v4 r_42 → Q v4 σ_43)
def t_node_L142 (v1 : Int) (v2 : Int) (v3 : Int) (v4 : Int) (v5 : Int) (v6 : Int) (σ : S) (Q : Int → S → Prop) : Prop :=
  ∀ X142 : Int → Int → S → Prop, (∀ (v5 : Int) (v6 : Int) (σ : S), ((if v6 < v2 then inb (w32 (gI σ 81 + v6)) 800000 ∧ inb (gA σ 56 (w32 (gI σ 81 + v6))) 200000 ∧ X142 (w32 (v5 + (gA σ 51 (gA σ 56 (w32 (gI σ 81 + v6)))))) (w32 (v6 + 1)) σ else t_node_j176 v1 v2 v3 v4 v5 σ Q)) → X142 v5 v6 σ) → X142 v5 v6 σ
def t_node_j130 (v1 : Int) (v2 : Int) (v3 : Int) (σ : S) (Q : Int → S → Prop) : Prop :=
  t_node_L142 v1 v2 v3 (gI σ 80) 1 0 σ Q
def t_node_j110 (v1 : Int) (v2 : Int) (v3 : Int) (v4 : Int) (v5 : Int) (σ : S) (Q : Int → S → Prop) (X19 : Int → S → Prop) : Prop :=
  (if v5 = 0 then inb v4 200000 ∧ X19 (gA σ 53 v4) σ else Q v4 σ)
def t_node_L56 (v1 : Int) (v2 : Int) (v3 : Int) (v4 : Int) (v5 : Int) (v6 : Int) (σ : S) (Q : Int → S → Prop) (X19 : Int → S → Prop) : Prop :=
  ∀ X56 : Int → Int → S → Prop, (∀ (v5 : Int) (v6 : Int) (σ : S), ((if v6 < v2 then (if v5 = 0 then t_node_j110 v1 v2 v3 v4 v5 σ Q X19 else inb v4 200000 ∧ inb (w32 (gA σ 49 v4 + v6)) 800000 ∧ inb (w32 (gI σ 81 + v6)) 800000 ∧ X56 (bi (gA σ 56 (w32 (gA σ 49 v4 + v6)) = gA σ 56 (w32 (gI σ 81 + v6)))) (w32 (v6 + 1)) σ) else t_node_j110 v1 v2 v3 v4 v5 σ Q X19)) → X56 v5 v6 σ) → X56 v5 v6 σ
def t_node_L19 (v1 : Int) (v2 : Int) (v3 : Int) (v4 : Int) (σ : S) (Q : Int → S → Prop) : Prop :=
  ∀ X19 : Int → S → Prop, (∀ (v4 : Int) (σ : S), ((if v4 < 0 then t_node_j130 v1 v2 v3 σ Q else inb v4 200000 ∧ ((gA σ 48 v4 = v1) → (inb v4 200000)) ∧ t_node_L56 v1 v2 v3 v4 (bi ((gA σ 48 v4 = v1) ∧ (gA σ 50 v4 = v2))) 0 σ Q X19)) → X19 v4 σ) → X19 v4 σ
def t_node (v1 : Int) (v2 : Int) (σ : S) (Q : Int → S → Prop) : Prop :=
  t_hashOf v1 (gI σ 81) v2 σ (fun r_3 σ_2 => inb r_3 65536 ∧ t_node_L19 v1 v2 r_3 (gA σ_2 57 r_3) σ_2 Q)
def t_variable (v1 : Int) (σ : S) (Q : Int → S → Prop) : Prop :=
  t_node (w32 ((-1) - v1)) 0 σ (fun r_2 σ_1 => Q r_2 σ_1)
def t_isVar (v1 : Int) (σ : S) (Q : Int → S → Prop) : Prop :=
  inb v1 200000 ∧ Q (bi (gA σ 48 v1 < 0)) σ
def t_varOf (v1 : Int) (σ : S) (Q : Int → S → Prop) : Prop :=
  inb v1 200000 ∧ Q (w32 ((-1) - (gA σ 48 v1))) σ
def t_kindOfTerm (v1 : Int) (σ : S) (Q : Int → S → Prop) : Prop :=
  t_isVar v1 σ (fun r_2 σ_1 => (if r_2 = 0 then inb v1 200000 ∧ inb (gA σ_1 48 v1) 50 ∧ Q (gA σ_1 42 (gA σ_1 48 v1)) σ_1 else t_varOf v1 σ_1 (fun r_10 σ_9 => t_sortOfVar r_10 σ_9 (fun r_12 σ_11 => inb r_12 20 ∧ Q (gA σ_11 32 r_12) σ_11))))
def t_orderOf_L100 (G : Orc) (v1 : Int) (v2 : Int) (v5 : Int) (σ : S) (Q : Int → S → Prop) : Prop :=
  ∀ X100 : Int → S → Prop, (∀ (v5 : Int) (σ : S), (inb v1 200000 ∧ (if v5 < gA σ 50 v1 then t_arg v1 v5 σ (fun r_20 σ_19 => t_arg v2 v5 σ_19 (fun r_22 σ_21 => G 0 [r_20, r_22] σ_21 (fun r_24 σ_23 => (if r_24 = 0 then X100 (w32 (v5 + 1)) σ_23 else Q r_24 σ_23)) (fun _ => False))) else Q 0 σ)) → X100 v5 σ) → X100 v5 σ
def t_orderOf_j49 (G : Orc) (v3 : Int) (v4 : Int) (σ : S) (Q : Int → S → Prop) : Prop :=
  Q (if v3 < v4 then (-1) else 1) σ
def t_orderOf_F (G : Orc) (v1 : Int) (v2 : Int) (σ : S) (Q : Int → S → Prop) : Prop :=
  (if v1 = v2 then Q 0 σ else inb v1 200000 ∧ inb v2 200000 ∧ (if gA σ 48 v1 = gA σ 48 v2 then inb v1 200000 ∧ inb v2 200000 ∧ (if gA σ 50 v1 = gA σ 50 v2 then t_orderOf_L100 G v1 v2 0 σ Q else inb v1 200000 ∧ inb v2 200000 ∧ Q (if gA σ 50 v1 < gA σ 50 v2 then (-1) else 1) σ) else (if gA σ 48 v1 < 0 then (if gA σ 48 v2 < 0 then Q (if gA σ 48 v1 ≤ gA σ 48 v2 then 1 else (-1)) σ else t_orderOf_j49 G (gA σ 48 v1) (gA σ 48 v2) σ Q) else t_orderOf_j49 G (gA σ 48 v1) (gA σ 48 v2) σ Q)))
def t_S_orderOf : Nat → Orc
  | 0 => fun _ _ _ _ _ => False
  | n + 1 => fun i a σ Q E => match i, a with
    | 0, [v1, v2] => t_orderOf_F (t_S_orderOf n) v1 v2 σ Q
    | _, _ => False
def t_orderOf (v1 : Int) (v2 : Int) (σ : S) (Q : Int → S → Prop) : Prop := t_S_orderOf 90 0 [v1, v2] σ Q (fun _ => False)
def t_idTerm (v1 : Int) (σ : S) (Q : Int → S → Prop) : Prop :=
  inb v1 50 ∧ (if gA σ 46 v1 < 0 then Q (-2) σ else inb v1 50 ∧ t_node (gA σ 46 v1) 0 σ (fun r_8 σ_7 => Q r_8 σ_7))
def t_make_j77 (v1 : Int) (v2 : Int) (v3 : Int) (σ : S) (Q : Int → S → Prop) : Prop :=
  ∀ σ_13, σ_13 = pI σ 83 v2 → t_node v1 v3 σ_13 (fun r_16 σ_15 => Q r_16 σ_15)
def t_make_L44 (v1 : Int) (v2 : Int) (v3 : Int) (v6 : Int) (σ : S) (Q : Int → S → Prop) : Prop :=
  ∀ X44 : Int → S → Prop, (∀ (v6 : Int) (σ : S), ((if v6 < v3 then inb (w32 (v2 + v6)) 20000 ∧ inb (w32 (gI σ 81 + v6)) 800000 ∧ ∀ σ_20, σ_20 = pA σ 56 (w32 (gI σ 81 + v6)) (gA σ 58 (w32 (v2 + v6))) → X44 (w32 (v6 + 1)) σ_20 else t_make_j77 v1 v2 v3 σ Q)) → X44 v6 σ) → X44 v6 σ
def t_make_j331 (v1 : Int) (v6 : Int) (v7 : Int) (v8 : Int) (v9 : Int) (σ : S) (Q : Int → S → Prop) (X237 : Int → S → Prop) : Prop :=
  inb (w32 (gI σ 81 + v9)) 800000 ∧ ∀ σ_41, σ_41 = pA σ 56 (w32 (gI σ 81 + v9)) v8 → X237 (w32 (v7 + 1)) σ_41
def t_make_L271 (v1 : Int) (v6 : Int) (v7 : Int) (v8 : Int) (v9 : Int) (σ : S) (Q : Int → S → Prop) (X237 : Int → S → Prop) : Prop :=
  ∀ X271 : Int → S → Prop, (∀ (v9 : Int) (σ : S), ((if v9 ≤ 0 then t_make_j331 v1 v6 v7 v8 v9 σ Q X237 else inb (w32 (w32 (gI σ 81 + v9) - 1)) 800000 ∧ t_orderOf (gA σ 56 (w32 (w32 (gI σ 81 + v9) - 1))) v8 σ (fun r_48 σ_47 => (if r_48 ≤ 0 then t_make_j331 v1 v6 v7 v8 v9 σ_47 Q X237 else inb (w32 (w32 (gI σ_47 81 + v9) - 1)) 800000 ∧ inb (w32 (gI σ_47 81 + v9)) 800000 ∧ ∀ σ_55, σ_55 = pA σ_47 56 (w32 (gI σ_47 81 + v9)) (gA σ_47 56 (w32 (w32 (gI σ_47 81 + v9) - 1))) → X271 (w32 (v9 + (-1))) σ_55)))) → X271 v9 σ) → X271 v9 σ
def t_make_j351 (v1 : Int) (v6 : Int) (σ : S) (Q : Int → S → Prop) : Prop :=
  t_node v1 v6 σ (fun r_59 σ_58 => Q r_59 σ_58)
def t_make_L237 (v1 : Int) (v6 : Int) (v7 : Int) (σ : S) (Q : Int → S → Prop) : Prop :=
  ∀ X237 : Int → S → Prop, (∀ (v7 : Int) (σ : S), (((v7 < v6) → (inb v1 50)) ∧ (if (v7 < v6) ∧ (¬ (gA σ 45 v1 = 0)) then inb (w32 (gI σ 81 + v7)) 800000 ∧ t_make_L271 v1 v6 v7 (gA σ 56 (w32 (gI σ 81 + v7))) v7 σ Q X237 else t_make_j351 v1 v6 σ Q)) → X237 v7 σ) → X237 v7 σ
def t_make_j205 (v1 : Int) (v2 : Int) (v4 : Int) (v6 : Int) (σ : S) (Q : Int → S → Prop) : Prop :=
  ∀ σ_25, σ_25 = pI σ 83 v2 → (if v6 = 0 then Q v4 σ_25 else (if v6 = 1 then inb (gI σ_25 81) 800000 ∧ Q (gA σ_25 56 (gI σ_25 81)) σ_25 else t_make_L237 v1 v6 1 σ_25 Q))
def t_make_j199 (v1 : Int) (v2 : Int) (v3 : Int) (v4 : Int) (v5 : Int) (v6 : Int) (v7 : Int) (σ : S) (Q : Int → S → Prop) (X95 : Int → Int → S → Prop) : Prop :=
  X95 v6 (w32 (v7 + 1)) σ
def t_make_j175 (v1 : Int) (v2 : Int) (v3 : Int) (v4 : Int) (v5 : Int) (v6 : Int) (v7 : Int) (v8 : Int) (σ : S) (Q : Int → S → Prop) (X95 : Int → Int → S → Prop) : Prop :=
  (if v8 = v4 then t_make_j199 v1 v2 v3 v4 v5 v6 v7 σ Q X95 else inb (w32 (gI σ 81 + v6)) 800000 ∧ ∀ σ_73, σ_73 = pA σ 56 (w32 (gI σ 81 + v6)) v8 → t_make_j199 v1 v2 v3 v4 v5 (w32 (v6 + 1)) v7 σ_73 Q X95)
def t_make_j172 (v1 : Int) (v2 : Int) (v3 : Int) (v4 : Int) (v5 : Int) (v6 : Int) (v7 : Int) (σ : S) (Q : Int → S → Prop) (X95 : Int → Int → S → Prop) : Prop :=
  t_make_j199 v1 v2 v3 v4 v5 v6 v7 σ Q X95
def t_make_L131 (v1 : Int) (v2 : Int) (v3 : Int) (v4 : Int) (v5 : Int) (v6 : Int) (v7 : Int) (v8 : Int) (v9 : Int) (σ : S) (Q : Int → S → Prop) (X95 : Int → Int → S → Prop) : Prop :=
  ∀ X131 : Int → Int → S → Prop, (∀ (v6 : Int) (v9 : Int) (σ : S), (inb v8 200000 ∧ (if v9 < gA σ 50 v8 then t_arg v8 v9 σ (fun r_86 σ_85 => inb (w32 (gI σ 81 + v6)) 800000 ∧ ∀ σ_87, σ_87 = pA σ_85 56 (w32 (gI σ 81 + v6)) r_86 → X131 (w32 (v6 + 1)) (w32 (v9 + 1)) σ_87) else t_make_j172 v1 v2 v3 v4 v5 v6 v7 σ Q X95)) → X131 v6 v9 σ) → X131 v6 v9 σ
def t_make_L95 (v1 : Int) (v2 : Int) (v3 : Int) (v4 : Int) (v5 : Int) (v6 : Int) (v7 : Int) (σ : S) (Q : Int → S → Prop) : Prop :=
  ∀ X95 : Int → Int → S → Prop, (∀ (v6 : Int) (v7 : Int) (σ : S), ((if v7 < v3 then inb (w32 (v2 + v7)) 20000 ∧ (if v5 = 0 then t_make_j175 v1 v2 v3 v4 v5 v6 v7 (gA σ 58 (w32 (v2 + v7))) σ Q X95 else inb (gA σ 58 (w32 (v2 + v7))) 200000 ∧ (if gA σ 48 (gA σ 58 (w32 (v2 + v7))) = v1 then t_make_L131 v1 v2 v3 v4 v5 v6 v7 (gA σ 58 (w32 (v2 + v7))) 0 σ Q X95 else t_make_j175 v1 v2 v3 v4 v5 v6 v7 (gA σ 58 (w32 (v2 + v7))) σ Q X95)) else t_make_j205 v1 v2 v4 v6 σ Q)) → X95 v6 v7 σ) → X95 v6 v7 σ
def t_make (v1 : Int) (v2 : Int) (σ : S) (Q : Int → S → Prop) : Prop :=
  t_idTerm v1 σ (fun r_3 σ_2 => inb v1 50 ∧ ((gA σ_2 44 v1 = 0) → (r_3 < 0) → (inb v1 50)) ∧ (if (gA σ_2 44 v1 = 0) ∧ ((r_3 < 0) ∧ (gA σ_2 45 v1 = 0)) then t_make_L44 v1 v2 (w32 (gI σ 83 - v2)) 0 σ_2 Q else t_make_L95 v1 v2 (w32 (gI σ 83 - v2)) r_3 (gA σ_2 44 v1) 0 0 σ_2 Q))
def t_push (v1 : Int) (σ : S) (Q : Int → S → Prop) : Prop :=
  inb (gI σ 83) 20000 ∧ ∀ σ_2, σ_2 = pA σ 58 (gI σ 83) v1 → ∀ σ_6, σ_6 = pI σ_2 83 (w32 (gI σ_2 83 + 1)) → Q 0 σ_6
def t_span (v1 : Int) (v2 : Int) (σ : S) (Q : Int → S → Prop) : Prop :=
  Q (w32 (w32 (33 * v1) + v2)) σ
def t_capped (v1 : Int) (σ : S) (Q : Int → S → Prop) : Prop :=
  Q (if v1 ≤ 2 then v1 else 2) σ
def t_readings_j96 (v5 : Int) (σ : S) (Q : Int → S → Prop) : Prop :=
  t_capped v5 σ (fun r_7 σ_6 => Q r_7 σ_6)
def t_readings_j90 (v1 : Int) (v2 : Int) (v3 : Int) (v4 : Int) (v5 : Int) (v6 : Int) (σ : S) (Q : Int → S → Prop) (X30 : Int → Int → S → Prop) : Prop :=
  X30 v5 (w32 (v6 + 1)) σ
def t_readings_L30 (v1 : Int) (v2 : Int) (v3 : Int) (v4 : Int) (v5 : Int) (v6 : Int) (σ : S) (Q : Int → S → Prop) : Prop :=
  ∀ X30 : Int → Int → S → Prop, (∀ (v5 : Int) (v6 : Int) (σ : S), ((if v6 < gI σ 62 then (if v5 < 2 then inb v6 50 ∧ ((gA σ 42 v6 = v3) → (inb v6 50)) ∧ (if (gA σ 42 v6 = v3) ∧ (gA σ 43 v6 ≤ v4) then t_span v1 v2 σ (fun r_17 σ_16 => inb (w32 (w32 (50 * r_17) + v6)) 54450 ∧ t_readings_j90 v1 v2 v3 v4 (w32 (v5 + (gA σ_16 61 (w32 (w32 (50 * r_17) + v6))))) v6 σ_16 Q X30) else t_readings_j90 v1 v2 v3 v4 v5 v6 σ Q X30) else t_readings_j96 v5 σ Q) else t_readings_j96 v5 σ Q)) → X30 v5 v6 σ) → X30 v5 v6 σ
def t_readings_j25 (v1 : Int) (v2 : Int) (v3 : Int) (v4 : Int) (s0 : Int) (σ : S) (Q : Int → S → Prop) : Prop :=
  t_readings_L30 v1 v2 v3 v4 s0 0 σ Q
def t_readings (v1 : Int) (v2 : Int) (v3 : Int) (v4 : Int) (σ : S) (Q : Int → S → Prop) : Prop :=
  (if v4 < 0 then t_readings_j25 v1 v2 v3 v4 0 σ Q else t_span v1 v2 σ (fun r_24 σ_23 => inb (w32 (w32 (20 * r_24) + v3)) 21780 ∧ t_readings_j25 v1 v2 v3 v4 (gA σ_23 62 (w32 (w32 (20 * r_24) + v3))) σ_23 Q))
def t_holeNumber_L5 (v1 : Int) (v2 : Int) (v3 : Int) (v4 : Int) (σ : S) (Q : Int → S → Prop) : Prop :=
  ∀ X5 : Int → Int → S → Prop, (∀ (v3 : Int) (v4 : Int) (σ : S), ((if v4 < v2 then inb (w32 (w32 (13 * v1) + v4)) 650 ∧ X5 (w32 (v3 + (bi (gA σ 35 (w32 (w32 (13 * v1) + v4)) = (-1))))) (w32 (v4 + 1)) σ else Q v3 σ)) → X5 v3 v4 σ) → X5 v3 v4 σ
def t_holeNumber (v1 : Int) (v2 : Int) (σ : S) (Q : Int → S → Prop) : Prop :=
  t_holeNumber_L5 v1 v2 0 0 σ Q
def t_fit_j303 (v1 : Int) (v2 : Int) (v3 : Int) (v4 : Int) (v5 : Int) (v6 : Int) (σ : S) (Q : Int → S → Prop) (X63 : Int → S → Prop) : Prop :=
  X63 (w32 (v6 + (-1))) σ
def t_fit_j271 (v1 : Int) (v2 : Int) (v3 : Int) (v4 : Int) (v5 : Int) (v6 : Int) (v7 : Int) (v8 : Int) (v9 : Int) (v10 : Int) (σ : S) (Q : Int → S → Prop) (X63 : Int → S → Prop) (X102 : Int → S → Prop) (X194 : Int → Int → S → Prop) : Prop :=
  X194 v9 (w32 (v10 + 1)) σ
def t_fit_j277 (v1 : Int) (v2 : Int) (v3 : Int) (v4 : Int) (v5 : Int) (v6 : Int) (v7 : Int) (v8 : Int) (v9 : Int) (σ : S) (Q : Int → S → Prop) (X63 : Int → S → Prop) (X102 : Int → S → Prop) : Prop :=
  t_capped v9 σ (fun r_37 σ_36 => inb (w32 (w32 (33 * v6) + v8)) 442 ∧ ∀ σ_38, σ_38 = pA σ_36 63 (w32 (w32 (33 * v6) + v8)) (b8 r_37) → X102 (w32 (v8 + 1)) σ_38)
def t_fit_L194 (v1 : Int) (v2 : Int) (v3 : Int) (v4 : Int) (v5 : Int) (v6 : Int) (v7 : Int) (v8 : Int) (v9 : Int) (v10 : Int) (σ : S) (Q : Int → S → Prop) (X63 : Int → S → Prop) (X102 : Int → S → Prop) : Prop :=
  ∀ X194 : Int → Int → S → Prop, (∀ (v9 : Int) (v10 : Int) (σ : S), ((if (v10 ≤ v3) ∧ (v9 < 2) then inb (w32 (w32 (33 * (w32 (v6 + 1))) + v10)) 442 ∧ (if ¬ (gA σ 63 (w32 (w32 (33 * (w32 (v6 + 1))) + v10)) ≤ 0) ∧ (¬ (v8 = v2) ∨ (¬ (v10 = v3))) then t_holeKind v4 v7 σ (fun r_28 σ_27 => t_takes v1 v7 σ_27 (fun r_30 σ_29 => t_readings v8 v10 r_28 r_30 σ_29 (fun r_32 σ_31 => t_fit_j271 v1 v2 v3 v4 v5 v6 v7 v8 (w32 (v9 + (w32 ((gA σ 63 (w32 (w32 (33 * (w32 (v6 + 1))) + v10))) * r_32)))) v10 σ_31 Q X63 X102 X194))) else t_fit_j271 v1 v2 v3 v4 v5 v6 v7 v8 v9 v10 σ Q X63 X102 X194) else t_fit_j277 v1 v2 v3 v4 v5 v6 v7 v8 v9 σ Q X63 X102)) → X194 v9 v10 σ) → X194 v9 v10 σ
def t_fit_L102 (v1 : Int) (v2 : Int) (v3 : Int) (v4 : Int) (v5 : Int) (v6 : Int) (v7 : Int) (v8 : Int) (σ : S) (Q : Int → S → Prop) (X63 : Int → S → Prop) : Prop :=
  ∀ X102 : Int → S → Prop, (∀ (v8 : Int) (σ : S), ((if v8 ≤ v3 then (if v7 < 0 then ((v8 < v3) → (inb v8 33)) ∧ ((v8 < v3) → (inb (w32 (w32 (13 * v4) + v6)) 650)) ∧ ((v8 < v3) → (gA σ 59 v8 = gA σ 35 (w32 (w32 (13 * v4) + v6))) → (inb (w32 (w32 (w32 (33 * (w32 (v6 + 1))) + v8) + 1)) 442)) ∧ t_fit_j277 v1 v2 v3 v4 v5 v6 v7 v8 (if v8 < v3 then (if gA σ 59 v8 = gA σ 35 (w32 (w32 (13 * v4) + v6)) then gA σ 63 (w32 (w32 (w32 (33 * (w32 (v6 + 1))) + v8) + 1)) else 0) else 0) σ Q X63 X102 else (if ¬ (v8 = v2) ∨ (¬ (v6 = 0) ∨ (¬ (v5 = 1))) then t_fit_L194 v1 v2 v3 v4 v5 v6 v7 v8 0 (w32 (v8 + 1)) σ Q X63 X102 else t_fit_j277 v1 v2 v3 v4 v5 v6 v7 v8 0 σ Q X63 X102)) else t_fit_j303 v1 v2 v3 v4 v5 v6 σ Q X63)) → X102 v8 σ) → X102 v8 σ
def t_fit_j97 (v1 : Int) (v2 : Int) (v3 : Int) (v4 : Int) (v5 : Int) (v6 : Int) (s0 : Int) (σ : S) (Q : Int → S → Prop) (X63 : Int → S → Prop) : Prop :=
  t_fit_L102 v1 v2 v3 v4 v5 v6 s0 v2 σ Q X63
def t_fit_L63 (v1 : Int) (v2 : Int) (v3 : Int) (v4 : Int) (v5 : Int) (v6 : Int) (σ : S) (Q : Int → S → Prop) : Prop :=
  ∀ X63 : Int → S → Prop, (∀ (v6 : Int) (σ : S), ((if v6 < 0 then Q 0 σ else inb (w32 (w32 (13 * v4) + v6)) 650 ∧ (if gA σ 35 (w32 (w32 (13 * v4) + v6)) = (-1) then t_holeNumber v4 v6 σ (fun r_59 σ_58 => t_fit_j97 v1 v2 v3 v4 v5 v6 r_59 σ_58 Q X63) else t_fit_j97 v1 v2 v3 v4 v5 v6 (-1) σ Q X63))) → X63 v6 σ) → X63 v6 σ
def t_fit_j57 (v1 : Int) (v2 : Int) (v3 : Int) (v4 : Int) (v5 : Int) (σ : S) (Q : Int → S → Prop) : Prop :=
  t_fit_L63 v1 v2 v3 v4 v5 (w32 (v5 - 1)) σ Q
def t_fit_L20 (v1 : Int) (v2 : Int) (v3 : Int) (v4 : Int) (v5 : Int) (v6 : Int) (σ : S) (Q : Int → S → Prop) : Prop :=
  ∀ X20 : Int → S → Prop, (∀ (v6 : Int) (σ : S), ((if v6 ≤ v3 then inb (w32 (w32 (33 * v5) + v6)) 442 ∧ ∀ σ_61, σ_61 = pA σ 63 (w32 (w32 (33 * v5) + v6)) (b8 (bi (v6 = v3))) → X20 (w32 (v6 + 1)) σ_61 else t_fit_j57 v1 v2 v3 v4 v5 σ Q)) → X20 v6 σ) → X20 v6 σ
def t_fit (v1 : Int) (v2 : Int) (v3 : Int) (σ : S) (Q : Int → S → Prop) : Prop :=
  inb v1 50 ∧ inb (gA σ 41 v1) 50 ∧ t_fit_L20 v1 v2 v3 (gA σ 41 v1) (gA σ 36 (gA σ 41 v1)) v2 σ Q
def t_readSpan_j248 (v1 : Int) (v2 : Int) (v3 : Int) (v4 : Int) (σ : S) (Q : Int → S → Prop) (X182 : Int → S → Prop) : Prop :=
  X182 (w32 (v4 + 1)) σ
def t_readSpan_L182 (v1 : Int) (v2 : Int) (v3 : Int) (v4 : Int) (σ : S) (Q : Int → S → Prop) : Prop :=
  ∀ X182 : Int → S → Prop, (∀ (v4 : Int) (σ : S), ((if v4 < gI σ 62 then inb (w32 (w32 (50 * v3) + v4)) 54450 ∧ ∀ σ_34, σ_34 = pA σ 61 (w32 (w32 (50 * v3) + v4)) 0 → inb v4 50 ∧ inb (gA σ_34 41 v4) 50 ∧ (if gA σ_34 36 (gA σ_34 41 v4) ≤ w32 (v2 - v1) then t_fit v4 v1 v2 σ_34 (fun _ σ_43 => inb v1 442 ∧ inb (w32 (w32 (50 * v3) + v4)) 54450 ∧ ∀ σ_46, σ_46 = pA σ_43 61 (w32 (w32 (50 * v3) + v4)) (gA σ_43 63 v1) → t_readSpan_j248 v1 v2 v3 v4 σ_46 Q X182) else t_readSpan_j248 v1 v2 v3 v4 σ_34 Q X182) else Q 0 σ)) → X182 v4 σ) → X182 v4 σ
def t_readSpan_j179 (v1 : Int) (v2 : Int) (v3 : Int) (σ : S) (Q : Int → S → Prop) : Prop :=
  t_readSpan_L182 v1 v2 v3 0 σ Q
def t_readSpan_L119 (v1 : Int) (v2 : Int) (v3 : Int) (v4 : Int) (σ : S) (Q : Int → S → Prop) : Prop :=
  ∀ X119 : Int → S → Prop, (∀ (v4 : Int) (σ : S), ((if v4 < gI σ 53 then inb (w32 (w32 (20 * v3) + v4)) 21780 ∧ t_readings (w32 (v1 + 1)) (w32 (v2 - 1)) v4 1000 σ (fun r_52 σ_51 => t_capped (w32 (gA σ 62 (w32 (w32 (20 * v3) + v4)) + r_52)) σ_51 (fun r_54 σ_53 => inb (w32 (w32 (20 * v3) + v4)) 21780 ∧ ∀ σ_55, σ_55 = pA σ_53 62 (w32 (w32 (20 * v3) + v4)) (b8 r_54) → X119 (w32 (v4 + 1)) σ_55)) else t_readSpan_j179 v1 v2 v3 σ Q)) → X119 v4 σ) → X119 v4 σ
def t_readSpan_j81 (v1 : Int) (v2 : Int) (v3 : Int) (σ : S) (Q : Int → S → Prop) : Prop :=
  ((¬ w32 (v2 - v1) ≤ 2) → (inb v1 33)) ∧ ((¬ w32 (v2 - v1) ≤ 2) → (gA σ 59 v1 = gI σ 90) → (inb (w32 (v2 - 1)) 33)) ∧ (if ¬ (w32 (v2 - v1) ≤ 2) ∧ ((gA σ 59 v1 = gI σ 90) ∧ (gA σ 59 (w32 (v2 - 1)) = gI σ 91)) then t_readSpan_L119 v1 v2 v3 0 σ Q else t_readSpan_j179 v1 v2 v3 σ Q)
def t_readSpan_j38 (v1 : Int) (v2 : Int) (v3 : Int) (σ : S) (Q : Int → S → Prop) : Prop :=
  ((w32 (v2 - v1) = 1) → (inb v1 33)) ∧ (if (w32 (v2 - v1) = 1) ∧ (¬ (gA σ 60 v1 < 0)) then inb v1 33 ∧ inb (gA σ 60 v1) 30 ∧ inb (gA σ 34 (gA σ 60 v1)) 20 ∧ inb (w32 (w32 (20 * v3) + (gA σ 32 (gA σ 34 (gA σ 60 v1))))) 21780 ∧ ∀ σ_16, σ_16 = pA σ 62 (w32 (w32 (20 * v3) + (gA σ 32 (gA σ 34 (gA σ 60 v1))))) 1 → t_readSpan_j81 v1 v2 v3 σ_16 Q else t_readSpan_j81 v1 v2 v3 σ Q)
def t_readSpan_L10 (v1 : Int) (v2 : Int) (v3 : Int) (v4 : Int) (σ : S) (Q : Int → S → Prop) : Prop :=
  ∀ X10 : Int → S → Prop, (∀ (v4 : Int) (σ : S), ((if v4 < gI σ 53 then inb (w32 (w32 (20 * v3) + v4)) 21780 ∧ ∀ σ_64, σ_64 = pA σ 62 (w32 (w32 (20 * v3) + v4)) 0 → X10 (w32 (v4 + 1)) σ_64 else t_readSpan_j38 v1 v2 v3 σ Q)) → X10 v4 σ) → X10 v4 σ
def t_readSpan (v1 : Int) (v2 : Int) (σ : S) (Q : Int → S → Prop) : Prop :=
  t_span v1 v2 σ (fun r_2 σ_1 => t_readSpan_L10 v1 v2 r_2 0 σ_1 Q)
def t_signNameHere_j41 (v1 : Int) (σ : S) (Q : Int → S → Prop) : Prop :=
  Q (if v1 = 40 then (-100) else (-101)) σ
def t_signNameHere_L2 (v1 : Int) (v2 : Int) (σ : S) (Q : Int → S → Prop) : Prop :=
  ∀ X2 : Int → S → Prop, (∀ (v2 : Int) (σ : S), ((if v2 < gI σ 16 then inb v2 3100 ∧ ((gA σ 5 v2 = 1) → (inb (w32 (16 * v2)) 50000)) ∧ (if (gA σ 5 v2 = 1) ∧ (gA σ 4 (w32 (16 * v2)) = v1) then Q v2 σ else X2 (w32 (v2 + 1)) σ) else t_signNameHere_j41 v1 σ Q)) → X2 v2 σ) → X2 v2 σ
def t_signNameHere (v1 : Int) (σ : S) (Q : Int → S → Prop) : Prop :=
  t_signNameHere_L2 v1 0 σ Q
def t_unknownName_j24 (s0 : Int) (σ : S) (Q : Int → S → Prop) : Prop :=
  Q (if s0 = 40 then gI σ 90 else (if s0 = 41 then gI σ 91 else (-200))) σ
def t_unknownName (v1 : Int) (σ : S) (Q : Int → S → Prop) : Prop :=
  inb v1 902 ∧ (if gA σ 3 v1 = 1 then inb v1 902 ∧ t_byteAt (gA σ 2 v1) σ (fun r_15 σ_14 => t_unknownName_j24 r_15 σ_14 Q) else t_unknownName_j24 0 σ Q)
def t_takeWords_j178 (v2 : Int) (v3 : Int) (σ : S) (Q : Int → S → Prop) (X146 : Int → S → Prop) : Prop :=
  X146 (w32 (v3 + 1)) σ
def t_takeWords_L154 (v2 : Int) (v3 : Int) (v4 : Int) (σ : S) (Q : Int → S → Prop) (X146 : Int → S → Prop) : Prop :=
  ∀ X154 : Int → S → Prop, (∀ (v4 : Int) (σ : S), ((if w32 (v4 + v3) ≤ v2 then t_readSpan v4 (w32 (v4 + v3)) σ (fun _ σ_17 => X154 (w32 (v4 + 1)) σ_17) else t_takeWords_j178 v2 v3 σ Q X146)) → X154 v4 σ) → X154 v4 σ
def t_takeWords_L146 (v2 : Int) (v3 : Int) (σ : S) (Q : Int → S → Prop) : Prop :=
  ∀ X146 : Int → S → Prop, (∀ (v3 : Int) (σ : S), ((if v3 ≤ v2 then t_takeWords_L154 v2 v3 0 σ Q X146 else Q 0 σ)) → X146 v3 σ) → X146 v3 σ
def t_takeWords_j144 (v2 : Int) (σ : S) (Q : Int → S → Prop) : Prop :=
  t_takeWords_L146 v2 1 σ Q
def t_takeWords_j138 (v1 : Int) (v2 : Int) (v3 : Int) (σ : S) (Q : Int → S → Prop) (X27 : Int → S → Prop) : Prop :=
  X27 (w32 (v3 + 1)) σ
def t_takeWords_L89 (v1 : Int) (v2 : Int) (v3 : Int) (v5 : Int) (v6 : Int) (σ : S) (Q : Int → S → Prop) (X27 : Int → S → Prop) : Prop :=
  ∀ X89 : Int → S → Prop, (∀ (v6 : Int) (σ : S), ((if v6 < gI σ 23 then (if v5 < 0 then t_takeWords_j138 v1 v2 v3 σ Q X27 else inb v6 30 ∧ ((¬ gA σ 33 v6 = v5) → (inb v3 33)) ∧ inb v3 33 ∧ ∀ σ_45, σ_45 = pA σ 60 v3 (if gA σ 33 v6 = v5 then v6 else gA σ 60 v3) → X89 (w32 (v6 + 1)) σ_45) else t_takeWords_j138 v1 v2 v3 σ Q X27)) → X89 v6 σ) → X89 v6 σ
def t_takeWords_j78 (v1 : Int) (v2 : Int) (v3 : Int) (v5 : Int) (s0 : Int) (s1 : Int) (σ : S) (Q : Int → S → Prop) (X27 : Int → S → Prop) : Prop :=
  inb s1 33 ∧ ∀ σ_26, σ_26 = pA σ 59 s1 s0 → inb v3 33 ∧ ∀ σ_29, σ_29 = pA σ_26 60 v3 (-1) → t_takeWords_L89 v1 v2 v3 v5 0 σ_29 Q X27
def t_takeWords_L27 (v1 : Int) (v2 : Int) (v3 : Int) (σ : S) (Q : Int → S → Prop) : Prop :=
  ∀ X27 : Int → S → Prop, (∀ (v3 : Int) (σ : S), ((if v3 < v2 then inb (w32 (v1 + v3)) 902 ∧ inb (w32 (v1 + v3)) 902 ∧ t_findName (gA σ 2 (w32 (v1 + v3))) (gA σ 3 (w32 (v1 + v3))) σ (fun r_23 σ_22 => (if r_23 < 0 then t_unknownName (w32 (v1 + v3)) σ_22 (fun r_49 σ_48 => t_takeWords_j78 v1 v2 v3 r_23 r_49 v3 σ_48 Q X27) else t_takeWords_j78 v1 v2 v3 r_23 r_23 v3 σ_22 Q X27)) else t_takeWords_j144 v2 σ Q)) → X27 v3 σ) → X27 v3 σ
def t_takeWords (v1 : Int) (v2 : Int) (σ : S) (Q : Int → S → Prop) : Prop :=
  t_signNameHere 40 σ (fun r_2 σ_1 => ∀ σ_3, σ_3 = pI σ_1 90 r_2 → t_signNameHere 41 σ_3 (fun r_6 σ_5 => ∀ σ_7, σ_7 = pI σ_5 91 r_6 → ∀ σ_9, σ_9 = pI σ_7 89 v2 → t_takeWords_L27 v1 v2 0 σ_9 Q))
def t_build_j289 (G : Orc) (v5 : Int) (v7 : Int) (σ : S) (Q : Int → S → Prop) : Prop :=
  t_make v5 v7 σ (fun r_27 σ_26 => Q r_27 σ_26)
def t_build_j283 (G : Orc) (v1 : Int) (v2 : Int) (v5 : Int) (v6 : Int) (v7 : Int) (v8 : Int) (v9 : Int) (σ : S) (Q : Int → S → Prop) (X125 : Int → Int → S → Prop) : Prop :=
  X125 v8 (w32 (v9 + 1)) σ
def t_build_j247 (G : Orc) (v1 : Int) (v2 : Int) (v5 : Int) (v6 : Int) (v7 : Int) (v8 : Int) (v9 : Int) (v10 : Int) (v11 : Int) (σ : S) (Q : Int → S → Prop) (X125 : Int → Int → S → Prop) : Prop :=
  t_holeKind v6 v10 σ (fun r_49 σ_48 => t_takes v5 v10 σ_48 (fun r_51 σ_50 => G 0 [v8, v11, r_49, r_51] σ_50 (fun r_53 σ_52 => t_push r_53 σ_52 (fun _ σ_54 => t_build_j283 G v1 v2 v5 v6 v7 v11 v9 σ_54 Q X125)) (fun _ => False)))
def t_build_j241 (G : Orc) (v1 : Int) (v2 : Int) (v5 : Int) (v6 : Int) (v7 : Int) (v8 : Int) (v9 : Int) (v10 : Int) (v11 : Int) (σ : S) (Q : Int → S → Prop) (X125 : Int → Int → S → Prop) (X184 : Int → S → Prop) : Prop :=
  X184 (w32 (v11 + 1)) σ
def t_build_L184 (G : Orc) (v1 : Int) (v2 : Int) (v5 : Int) (v6 : Int) (v7 : Int) (v8 : Int) (v9 : Int) (v10 : Int) (v11 : Int) (σ : S) (Q : Int → S → Prop) (X125 : Int → Int → S → Prop) : Prop :=
  ∀ X184 : Int → S → Prop, (∀ (v11 : Int) (σ : S), (inb (w32 (w32 (33 * (w32 (v9 + 1))) + v11)) 442 ∧ (if ¬ (gA σ 63 (w32 (w32 (33 * (w32 (v9 + 1))) + v11)) = 0) ∧ (¬ (v8 = v1) ∨ (¬ (v11 = v2))) then t_holeKind v6 v10 σ (fun r_41 σ_40 => t_takes v5 v10 σ_40 (fun r_43 σ_42 => t_readings v8 v11 r_41 r_43 σ_42 (fun r_45 σ_44 => (if r_45 = 0 then t_build_j241 G v1 v2 v5 v6 v7 v8 v9 v10 v11 σ_44 Q X125 X184 else t_build_j247 G v1 v2 v5 v6 v7 v8 v9 v10 v11 σ_44 Q X125)))) else t_build_j241 G v1 v2 v5 v6 v7 v8 v9 v10 v11 σ Q X125 X184)) → X184 v11 σ) → X184 v11 σ
def t_build_L125 (G : Orc) (v1 : Int) (v2 : Int) (v5 : Int) (v6 : Int) (v7 : Int) (v8 : Int) (v9 : Int) (σ : S) (Q : Int → S → Prop) : Prop :=
  ∀ X125 : Int → Int → S → Prop, (∀ (v8 : Int) (v9 : Int) (σ : S), (inb v6 50 ∧ (if v9 < gA σ 36 v6 then inb (w32 (w32 (13 * v6) + v9)) 650 ∧ (if gA σ 35 (w32 (w32 (13 * v6) + v9)) = (-1) then t_fit v5 v1 v2 σ (fun _ σ_32 => t_holeNumber v6 v9 σ_32 (fun r_34 σ_33 => t_build_L184 G v1 v2 v5 v6 v7 v8 v9 r_34 (w32 (v8 + 1)) σ_33 Q X125)) else t_build_j283 G v1 v2 v5 v6 v7 (w32 (v8 + 1)) v9 σ Q X125) else t_build_j289 G v5 v7 σ Q)) → X125 v8 v9 σ) → X125 v8 v9 σ
def t_build_j104 (G : Orc) (v1 : Int) (v2 : Int) (v5 : Int) (σ : S) (Q : Int → S → Prop) : Prop :=
  inb v5 50 ∧ t_build_L125 G v1 v2 v5 (gA σ 41 v5) (gI σ 83) v1 0 σ Q
def t_build_j98 (G : Orc) (v1 : Int) (v2 : Int) (v3 : Int) (v4 : Int) (v5 : Int) (σ : S) (Q : Int → S → Prop) (X55 : Int → S → Prop) : Prop :=
  X55 (w32 (v5 + 1)) σ
def t_build_L55 (G : Orc) (v1 : Int) (v2 : Int) (v3 : Int) (v4 : Int) (v5 : Int) (σ : S) (Q : Int → S → Prop) : Prop :=
  ∀ X55 : Int → S → Prop, (∀ (v5 : Int) (σ : S), (inb v5 50 ∧ ((gA σ 42 v5 = v3) → (inb v5 50)) ∧ (if (gA σ 42 v5 = v3) ∧ (gA σ 43 v5 ≤ v4) then t_span v1 v2 σ (fun r_14 σ_13 => inb (w32 (w32 (50 * r_14) + v5)) 54450 ∧ (if gA σ_13 61 (w32 (w32 (50 * r_14) + v5)) = 0 then t_build_j98 G v1 v2 v3 v4 v5 σ_13 Q X55 else t_build_j104 G v1 v2 v5 σ_13 Q)) else t_build_j98 G v1 v2 v3 v4 v5 σ Q X55)) → X55 v5 σ) → X55 v5 σ
def t_build_F (G : Orc) (v1 : Int) (v2 : Int) (v3 : Int) (v4 : Int) (σ : S) (Q : Int → S → Prop) : Prop :=
  t_span v1 v2 σ (fun r_2 σ_1 => inb (w32 (w32 (20 * r_2) + v3)) 21780 ∧ (if gA σ_1 62 (w32 (w32 (20 * r_2) + v3)) ≤ 0 then t_build_L55 G v1 v2 v3 v4 0 σ_1 Q else (if w32 (v2 - v1) = 1 then inb v1 33 ∧ t_variable (gA σ_1 60 v1) σ_1 (fun r_68 σ_67 => Q r_68 σ_67) else G 0 [(w32 (v1 + 1)), (w32 (v2 - 1)), v3, 1000] σ_1 (fun r_64 σ_63 => Q r_64 σ_63) (fun _ => False))))
def t_S_build : Nat → Orc
  | 0 => fun _ _ _ _ _ => False
  | n + 1 => fun i a σ Q E => match i, a with
    | 0, [v1, v2, v3, v4] => t_build_F (t_S_build n) v1 v2 v3 v4 σ Q
    | _, _ => False
def t_build (v1 : Int) (v2 : Int) (v3 : Int) (v4 : Int) (σ : S) (Q : Int → S → Prop) : Prop := t_S_build 70 0 [v1, v2, v3, v4] σ Q (fun _ => False)
def t_readTerm_j74 (v2 : Int) (v4 : Int) (v5 : Int) (σ : S) (Q : Int → S → Prop) : Prop :=
  ∀ σ_10, σ_10 = pI σ 92 (if v4 = 0 then 6 else (if v4 ≤ 1 then 0 else 7)) → (if gI σ_10 92 ≤ 0 then t_build 0 v2 v5 1000 σ_10 (fun r_16 σ_15 => inb r_16 200000 ∧ ∀ σ_23, σ_23 = pI σ_15 92 (if gA σ_15 51 r_16 ≤ 40 then 0 else 6) → Q r_16 σ_23) else Q (-2) σ_10)
def t_readTerm_j68 (v2 : Int) (v3 : Int) (v4 : Int) (v5 : Int) (v6 : Int) (σ : S) (Q : Int → S → Prop) (X15 : Int → Int → Int → S → Prop) : Prop :=
  X15 v4 v5 (w32 (v6 + 1)) σ
def t_readTerm_L15 (v2 : Int) (v3 : Int) (v4 : Int) (v5 : Int) (v6 : Int) (σ : S) (Q : Int → S → Prop) : Prop :=
  ∀ X15 : Int → Int → Int → S → Prop, (∀ (v4 : Int) (v5 : Int) (v6 : Int) (σ : S), ((if v6 < gI σ 53 then (if (v3 < 0) ∨ (v6 = v3) then t_readings 0 v2 v6 1000 σ (fun r_28 σ_27 => t_readTerm_j68 v2 v3 (w32 (v4 + r_28)) (if r_28 ≤ 0 then v5 else v6) v6 σ_27 Q X15) else t_readTerm_j68 v2 v3 v4 v5 v6 σ Q X15) else t_readTerm_j74 v2 v4 v5 σ Q)) → X15 v4 v5 v6 σ) → X15 v4 v5 v6 σ
def t_readTerm (v1 : Int) (v2 : Int) (v3 : Int) (σ : S) (Q : Int → S → Prop) : Prop :=
  t_takeWords v1 v2 σ (fun _ σ_1 => t_readTerm_L15 v2 v3 0 (-1) 0 σ_1 Q)
def t_varsOf_L21 (G : Orc) (v1 : Int) (v2 : Int) (v4 : Int) (σ : S) (Q : Int → S → Prop) : Prop :=
  ∀ X21 : Int → Int → S → Prop, (∀ (v2 : Int) (v4 : Int) (σ : S), (inb v1 200000 ∧ (if v4 < gA σ 50 v1 then t_arg v1 v4 σ (fun r_10 σ_9 => G 0 [r_10] σ_9 (fun r_12 σ_11 => X21 (lOr v2 r_12) (w32 (v4 + 1)) σ_11) (fun _ => False)) else Q v2 σ)) → X21 v2 v4 σ) → X21 v2 v4 σ
def t_varsOf_F (G : Orc) (v1 : Int) (σ : S) (Q : Int → S → Prop) : Prop :=
  t_isVar v1 σ (fun r_2 σ_1 => (if r_2 = 0 then t_varsOf_L21 G v1 0 0 σ_1 Q else t_varOf v1 σ_1 (fun r_14 σ_13 => Q (lShl 1 r_14) σ_13)))
def t_S_varsOf : Nat → Orc
  | 0 => fun _ _ _ _ _ => False
  | n + 1 => fun i a σ Q E => match i, a with
    | 0, [v1] => t_varsOf_F (t_S_varsOf n) v1 σ Q
    | _, _ => False
def t_varsOf (v1 : Int) (σ : S) (Q : Int → S → Prop) : Prop := t_S_varsOf 44 0 [v1] σ Q (fun _ => False)
def t_statementTerm (v1 : Int) (v2 : Int) (σ : S) (Q : Int → S → Prop) (E : S → Prop) : Prop :=
  inb v1 1136 ∧ inb v1 1136 ∧ t_readTerm (gA σ 25 v1) (gA σ 26 v1) v2 σ (fun r_6 σ_5 => (if gI σ_5 92 ≤ 0 then Q r_6 σ_5 else inb v1 1136 ∧ inb (gA σ_5 25 v1) 902 ∧ t_fail (gI σ_5 92) (gA σ_5 2 (gA σ_5 25 v1)) σ_5 (fun _ σ_15 => Q r_6 σ_15) E))
def t_mustKnow (v1 : Int) (v2 : Int) (σ : S) (Q : Int → S → Prop) (E : S → Prop) : Prop :=
  t_varsOf v1 σ (fun r_2 σ_1 => (if cmpI (lAnd r_2 (lXor (gL σ_1 99) (-1))) 0 = 0 then Q 0 σ_1 else inb v2 1136 ∧ inb (gA σ_1 25 v2) 902 ∧ t_fail 8 (gA σ_1 2 (gA σ_1 25 v2)) σ_1 (fun _ σ_10 => Q 0 σ_10) E))
def t_readStatement_j325 (v1 : Int) (v2 : Int) (σ : S) (Q : Int → S → Prop) (E : S → Prop) : Prop :=
  inb v1 70 ∧ t_kindOfTerm (gA σ 64 v1) σ (fun r_37 σ_36 => t_statementTerm (w32 (v2 + 1)) r_37 σ_36 (fun r_39 σ_38 => inb v1 70 ∧ ∀ σ_41, σ_41 = pA σ_38 65 v1 r_39 → inb v1 70 ∧ t_mustKnow (gA σ_41 65 v1) (w32 (v2 + 1)) σ_41 (fun _ σ_46 => Q 0 σ_46) E) E)
def t_readStatement_j319 (v1 : Int) (v2 : Int) (v3 : Int) (σ : S) (Q : Int → S → Prop) (E : S → Prop) (X97 : Int → S → Prop) : Prop :=
  X97 (w32 (v3 + 1)) σ
def t_readStatement_j316 (v1 : Int) (v2 : Int) (v3 : Int) (s0 : Int) (σ : S) (Q : Int → S → Prop) (E : S → Prop) (X97 : Int → S → Prop) : Prop :=
  ∀ σ_81, σ_81 = pL σ 99 s0 → t_readStatement_j319 v1 v2 v3 σ_81 Q E X97
def t_readStatement_j240 (v1 : Int) (v2 : Int) (v3 : Int) (v4 : Int) (v5 : Int) (σ : S) (Q : Int → S → Prop) (E : S → Prop) (X97 : Int → S → Prop) : Prop :=
  inb v4 420 ∧ t_kindOfTerm (gA σ 66 v4) σ (fun r_65 σ_64 => t_statementTerm (w32 (v5 + 1)) r_65 σ_64 (fun r_67 σ_66 => inb v4 420 ∧ ∀ σ_69, σ_69 = pA σ_66 67 v4 r_67 → inb v4 420 ∧ t_mustKnow (gA σ_69 67 v4) (w32 (v5 + 1)) σ_69 (fun _ σ_74 => inb v4 420 ∧ (if gA σ_74 27 v4 = 1 then inb v4 420 ∧ t_varsOf (gA σ_74 66 v4) σ_74 (fun r_87 σ_86 => t_readStatement_j316 v1 v2 v3 (lOr (gL σ_74 99) r_87) σ_86 Q E X97) else t_readStatement_j316 v1 v2 v3 (gL σ_74 99) σ_74 Q E X97)) E) E)
def t_readStatement_L97 (v1 : Int) (v2 : Int) (v3 : Int) (σ : S) (Q : Int → S → Prop) (E : S → Prop) : Prop :=
  ∀ X97 : Int → S → Prop, (∀ (v3 : Int) (σ : S), (inb v1 70 ∧ (if v3 < gA σ 29 v1 then inb (w32 (w32 (6 * v1) + v3)) 420 ∧ (if gA σ 27 (w32 (w32 (6 * v1) + v3)) = 2 then inb (w32 (w32 (6 * v1) + v3)) 420 ∧ t_findSort (gA σ 28 (w32 (w32 (6 * v1) + v3))) σ (fun r_95 σ_94 => inb (w32 (w32 (6 * v1) + v3)) 420 ∧ ∀ σ_96, σ_96 = pA σ_94 68 (w32 (w32 (6 * v1) + v3)) r_95 → inb (w32 (w32 (6 * v1) + v3)) 420 ∧ inb (gA σ_96 68 (w32 (w32 (6 * v1) + v3))) 20 ∧ t_statementTerm (w32 (w32 (v2 + 2) + (w32 (2 * v3)))) (gA σ_96 32 (gA σ_96 68 (w32 (w32 (6 * v1) + v3)))) σ_96 (fun r_104 σ_103 => inb (w32 (w32 (6 * v1) + v3)) 420 ∧ ∀ σ_106, σ_106 = pA σ_103 66 (w32 (w32 (6 * v1) + v3)) r_104 → inb (w32 (w32 (6 * v1) + v3)) 420 ∧ t_mustKnow (gA σ_106 66 (w32 (w32 (6 * v1) + v3))) (w32 (w32 (v2 + 2) + (w32 (2 * v3)))) σ_106 (fun _ σ_111 => inb (w32 (w32 (6 * v1) + v3)) 420 ∧ ∀ σ_113, σ_113 = pA σ_111 67 (w32 (w32 (6 * v1) + v3)) (-2) → t_readStatement_j319 v1 v2 v3 σ_113 Q E X97) E) E) else t_statementTerm (w32 (w32 (v2 + 2) + (w32 (2 * v3)))) (-1) σ (fun r_53 σ_52 => inb (w32 (w32 (6 * v1) + v3)) 420 ∧ ∀ σ_55, σ_55 = pA σ_52 66 (w32 (w32 (6 * v1) + v3)) r_53 → inb (w32 (w32 (6 * v1) + v3)) 420 ∧ (if gA σ_55 27 (w32 (w32 (6 * v1) + v3)) = 0 then inb (w32 (w32 (6 * v1) + v3)) 420 ∧ t_mustKnow (gA σ_55 66 (w32 (w32 (6 * v1) + v3))) (w32 (w32 (v2 + 2) + (w32 (2 * v3)))) σ_55 (fun _ σ_90 => t_readStatement_j240 v1 v2 v3 (w32 (w32 (6 * v1) + v3)) (w32 (w32 (v2 + 2) + (w32 (2 * v3)))) σ_90 Q E X97) E else t_readStatement_j240 v1 v2 v3 (w32 (w32 (6 * v1) + v3)) (w32 (w32 (v2 + 2) + (w32 (2 * v3)))) σ_55 Q E X97)) E) else t_readStatement_j325 v1 v2 σ Q E)) → X97 v3 σ) → X97 v3 σ
def t_readStatement_j81 (v1 : Int) (v2 : Int) (σ : S) (Q : Int → S → Prop) (E : S → Prop) : Prop :=
  inb v1 70 ∧ t_varsOf (gA σ 64 v1) σ (fun r_27 σ_26 => ∀ σ_28, σ_28 = pL σ_26 99 r_27 → t_readStatement_L97 v1 v2 0 σ_28 Q E)
def t_readStatement_j34 (v1 : Int) (v2 : Int) (s0 : Int) (s1 : Int) (σ : S) (Q : Int → S → Prop) (E : S → Prop) : Prop :=
  inb s1 70 ∧ ∀ σ_9, σ_9 = pA σ 69 s1 s0 → t_statementTerm (w32 (v2 + 0)) (-1) σ_9 (fun r_13 σ_12 => inb v1 70 ∧ ∀ σ_15, σ_15 = pA σ_12 64 v1 r_13 → inb v1 70 ∧ t_isVar (gA σ_15 64 v1) σ_15 (fun r_21 σ_20 => (if r_21 = 0 then t_readStatement_j81 v1 v2 σ_20 Q E else inb (w32 (v2 + 0)) 1136 ∧ inb (gA σ_20 25 (w32 (v2 + 0))) 902 ∧ t_fail 8 (gA σ_20 2 (gA σ_20 25 (w32 (v2 + 0)))) σ_20 (fun _ σ_120 => t_readStatement_j81 v1 v2 σ_120 Q E) E))) E
def t_readStatement (v1 : Int) (σ : S) (Q : Int → S → Prop) (E : S → Prop) : Prop :=
  inb v1 70 ∧ (if gA σ 24 v1 < 0 then t_readStatement_j34 v1 (w32 (16 * v1)) (-2) v1 σ Q E else inb v1 70 ∧ t_nameOf (gA σ 24 v1) σ (fun r_8 σ_7 => t_readStatement_j34 v1 (w32 (16 * v1)) r_8 v1 σ_7 Q E))
def t_readModule_L136 (v1 : Int) (σ : S) (Q : Int → S → Prop) (E : S → Prop) : Prop :=
  ∀ X136 : Int → S → Prop, (∀ (v1 : Int) (σ : S), ((if v1 < gI σ 45 then t_readStatement v1 σ (fun _ σ_23 => X136 (w32 (v1 + 1)) σ_23) E else Q 0 σ)) → X136 v1 σ) → X136 v1 σ
def t_readModule_j134 (σ : S) (Q : Int → S → Prop) (E : S → Prop) : Prop :=
  t_readModule_L136 0 σ Q E
def t_readModule_j103 (σ : S) (Q : Int → S → Prop) (E : S → Prop) : Prop :=
  t_findKinds σ (fun _ σ_14 => t_makeOps σ_14 (fun _ σ_15 => t_checkRows σ_15 (fun _ σ_16 => (if gI σ_16 48 ≤ 0 then t_readModule_j134 σ_16 Q E else t_fail (gI σ_16 48) (gI σ_16 49) σ_16 (fun _ σ_27 => t_readModule_j134 σ_27 Q E) E))))
def t_readModule_j84 (σ : S) (Q : Int → S → Prop) (E : S → Prop) : Prop :=
  (if gI σ 48 ≤ 0 then t_readModule_j103 σ Q E else t_fail (gI σ 48) (gI σ 49) σ (fun _ σ_31 => t_readModule_j103 σ_31 Q E) E)
def t_readModule_j78 (v1 : Int) (σ : S) (Q : Int → S → Prop) (E : S → Prop) (X23 : Int → S → Prop) : Prop :=
  X23 (w32 (v1 + 1)) σ
def t_readModule_j72 (v1 : Int) (v2 : Int) (σ : S) (Q : Int → S → Prop) (E : S → Prop) (X23 : Int → S → Prop) (X33 : Int → S → Prop) : Prop :=
  X33 (w32 (v2 + 1)) σ
def t_readModule_L33 (v1 : Int) (v2 : Int) (σ : S) (Q : Int → S → Prop) (E : S → Prop) (X23 : Int → S → Prop) : Prop :=
  ∀ X33 : Int → S → Prop, (∀ (v2 : Int) (σ : S), (inb v1 70 ∧ (if v2 < gA σ 29 v1 then inb (w32 (w32 (6 * v1) + v2)) 420 ∧ (if gA σ 27 (w32 (w32 (6 * v1) + v2)) = 2 then inb (w32 (w32 (6 * v1) + v2)) 420 ∧ t_sortOrBlame (gA σ 28 (w32 (w32 (6 * v1) + v2))) σ (fun r_44 σ_43 => t_readModule_j72 v1 v2 σ_43 Q E X23 X33) else t_readModule_j72 v1 v2 σ Q E X23 X33) else t_readModule_j78 v1 σ Q E X23)) → X33 v2 σ) → X33 v2 σ
def t_readModule_L23 (v1 : Int) (σ : S) (Q : Int → S → Prop) (E : S → Prop) : Prop :=
  ∀ X23 : Int → S → Prop, (∀ (v1 : Int) (σ : S), ((if v1 < gI σ 45 then t_readModule_L33 v1 0 σ Q E X23 else t_readModule_j84 σ Q E)) → X23 v1 σ) → X23 v1 σ
def t_readModule (σ : S) (Q : Int → S → Prop) (E : S → Prop) : Prop :=
  t_readItems σ (fun _ σ_1 => ∀ σ_3, σ_3 = pI σ_1 48 0 → t_readSorts σ_3 (fun _ σ_5 => t_readVars σ_5 (fun _ σ_6 => t_readRows σ_6 (fun _ σ_7 => t_readModule_L23 0 σ_7 Q E)))) E
def t_noFault (σ : S) (Q : Int → S → Prop) : Prop :=
  ∀ σ_1, σ_1 = pI σ 12 (-2) → ∀ σ_3, σ_3 = pI σ_1 13 (-2) → Q 0 σ_3
def t_faultTold_j68 (σ : S) (Q : Int → S → Prop) : Prop :=
  Q (w32 ((-10) - (gI σ 1006))) σ
def t_faultTold_L18 (v1 : Int) (σ : S) (Q : Int → S → Prop) : Prop :=
  ∀ X18 : Int → S → Prop, (∀ (v1 : Int) (σ : S), ((if v1 < gI σ 1007 then (if v1 < gI σ 5 then inb v1 6020 ∧ ∀ σ_17, σ_17 = pI σ 13 (w32 (gI σ 13 + (bi (gA σ 1 v1 = 10)))) → X18 (w32 (v1 + 1)) σ_17 else t_faultTold_j68 σ Q) else t_faultTold_j68 σ Q)) → X18 v1 σ) → X18 v1 σ
def t_faultTold (σ : S) (Q : Int → S → Prop) : Prop :=
  ∀ σ_2, σ_2 = pI σ 12 (gI σ 1007) → ∀ σ_4, σ_4 = pI σ_2 13 1 → t_faultTold_L18 0 σ_4 Q
def t_module_j24 (σ : S) (Q : Int → S → Prop) : Prop :=
  t_clearModule σ (fun _ σ_8 => t_faultTold σ_8 (fun r_10 σ_9 => Q r_10 σ_9))
def t_module (σ : S) (Q : Int → S → Prop) : Prop :=
  ∀ σ_1, σ_1 = pI σ 0 0 → t_clearModule σ_1 (fun _ σ_3 => t_findWords σ_3 (fun _ σ_4 => t_noFault σ_4 (fun _ σ_5 => t_readModule σ_5 (fun _ σ_6 => Q (gI σ_6 62) σ_6) (fun σ_7 => t_module_j24 σ_7 Q))))
def t_fault (v1 : Int) (σ : S) (Q : Int → S → Prop) : Prop :=
  ∀ σ_1, σ_1 = pI σ 0 0 → Q (if v1 = 0 then gI σ_1 12 else (if v1 = 1 then gI σ_1 13 else (-1))) σ_1
def t_count (v1 : Int) (σ : S) (Q : Int → S → Prop) : Prop :=
  ∀ σ_1, σ_1 = pI σ 0 0 → (if v1 = 0 then Q (gI σ_1 18) σ_1 else (if v1 = 1 then Q (gI σ_1 53) σ_1 else (if v1 = 2 then Q (gI σ_1 62) σ_1 else (if v1 = 3 then Q (gI σ_1 37) σ_1 else (if v1 = 4 then Q (gI σ_1 23) σ_1 else (if v1 = 5 then Q (gI σ_1 46) σ_1 else (if v1 = 6 then Q (gI σ_1 47) σ_1 else (if v1 = 7 then Q (gI σ_1 101) σ_1 else (if v1 = 8 then Q (gI σ_1 134) σ_1 else (if v1 = 9 then Q (gI σ_1 144) σ_1 else (if v1 = 10 then Q (gI σ_1 145) σ_1 else Q (-1) σ_1)))))))))))
def t_newHandle (v1 : Int) (σ : S) (Q : Int → S → Prop) : Prop :=
  inb (gI σ 101) 200 ∧ ∀ σ_2, σ_2 = pA σ 70 (gI σ 101) v1 → ∀ σ_6, σ_6 = pI σ_2 101 (w32 (gI σ_2 101 + 1)) → Q (w32 (gI σ_6 101 - 1)) σ_6
def t_noHandle (v1 : Int) (σ : S) (Q : Int → S → Prop) : Prop :=
  t_in v1 0 (w32 (gI σ 101 - 1)) σ (fun r_3 σ_2 => Q (bi (r_3 = 0)) σ_2)
def t_markTerm (v1 : Int) (σ : S) (Q : Int → S → Prop) : Prop :=
  (if v1 < 0 then Q 0 σ else inb v1 200000 ∧ ∀ σ_3, σ_3 = pA σ 92 v1 1 → Q 0 σ_3)
def t_moveNodes_L192 (v3 : Int) (σ : S) (Q : Int → S → Prop) : Prop :=
  ∀ X192 : Int → S → Prop, (∀ (v3 : Int) (σ : S), ((if v3 < gI σ 80 then inb v3 200000 ∧ inb v3 200000 ∧ inb v3 200000 ∧ t_hashOf (gA σ 48 v3) (gA σ 49 v3) (gA σ 50 v3) σ (fun r_20 σ_19 => inb r_20 65536 ∧ inb v3 200000 ∧ ∀ σ_23, σ_23 = pA σ_19 53 v3 (gA σ_19 57 r_20) → inb r_20 65536 ∧ ∀ σ_26, σ_26 = pA σ_23 57 r_20 v3 → X192 (w32 (v3 + 1)) σ_26) else Q 0 σ)) → X192 v3 σ) → X192 v3 σ
def t_moveNodes_j190 (σ : S) (Q : Int → S → Prop) : Prop :=
  t_moveNodes_L192 0 σ Q
def t_moveNodes_L171 (v3 : Int) (σ : S) (Q : Int → S → Prop) : Prop :=
  ∀ X171 : Int → S → Prop, (∀ (v3 : Int) (σ : S), ((if v3 < 65536 then inb v3 65536 ∧ ∀ σ_29, σ_29 = pA σ 57 v3 (-1) → X171 (w32 (v3 + 1)) σ_29 else t_moveNodes_j190 σ Q)) → X171 v3 σ) → X171 v3 σ
def t_moveNodes_j159 (v1 : Int) (v2 : Int) (σ : S) (Q : Int → S → Prop) : Prop :=
  ∀ σ_4, σ_4 = pI σ 80 v1 → ∀ σ_6, σ_6 = pI σ_4 81 v2 → t_moveNodes_L171 0 σ_6 Q
def t_moveNodes_j153 (v1 : Int) (v2 : Int) (v3 : Int) (σ : S) (Q : Int → S → Prop) (X6 : Int → Int → Int → S → Prop) : Prop :=
  X6 v1 v2 (w32 (v3 + 1)) σ
def t_moveNodes_j138 (v1 : Int) (v2 : Int) (v3 : Int) (v5 : Int) (σ : S) (Q : Int → S → Prop) (X6 : Int → Int → Int → S → Prop) : Prop :=
  inb v3 200000 ∧ ∀ σ_66, σ_66 = pA σ 92 v3 v1 → t_moveNodes_j153 (w32 (v1 + 1)) (w32 (v2 + v5)) v3 σ_66 Q X6
def t_moveNodes_L101 (v1 : Int) (v2 : Int) (v3 : Int) (v4 : Int) (v5 : Int) (v6 : Int) (σ : S) (Q : Int → S → Prop) (X6 : Int → Int → Int → S → Prop) : Prop :=
  ∀ X101 : Int → S → Prop, (∀ (v6 : Int) (σ : S), ((if v6 < v5 then inb (w32 (v4 + v6)) 800000 ∧ inb (gA σ 56 (w32 (v4 + v6))) 200000 ∧ inb (w32 (v2 + v6)) 800000 ∧ ∀ σ_73, σ_73 = pA σ 56 (w32 (v2 + v6)) (gA σ 92 (gA σ 56 (w32 (v4 + v6)))) → X101 (w32 (v6 + 1)) σ_73 else t_moveNodes_j138 v1 v2 v3 v5 σ Q X6)) → X101 v6 σ) → X101 v6 σ
def t_moveNodes_L6 (v1 : Int) (v2 : Int) (v3 : Int) (σ : S) (Q : Int → S → Prop) : Prop :=
  ∀ X6 : Int → Int → Int → S → Prop, (∀ (v1 : Int) (v2 : Int) (v3 : Int) (σ : S), ((if v3 < gI σ 80 then inb v3 200000 ∧ (if gA σ 92 v3 = 1 then inb v3 200000 ∧ inb v3 200000 ∧ inb v3 200000 ∧ inb v1 200000 ∧ ∀ σ_42, σ_42 = pA σ 48 v1 (gA σ 48 v3) → inb v1 200000 ∧ ∀ σ_45, σ_45 = pA σ_42 49 v1 v2 → inb v1 200000 ∧ ∀ σ_48, σ_48 = pA σ_45 50 v1 (gA σ 50 v3) → inb v3 200000 ∧ inb v1 200000 ∧ ∀ σ_53, σ_53 = pA σ_48 51 v1 (gA σ_48 51 v3) → inb v3 200000 ∧ inb v1 200000 ∧ ∀ σ_58, σ_58 = pA σ_53 52 v1 (gA σ_53 52 v3) → inb v1 200000 ∧ ∀ σ_61, σ_61 = pA σ_58 55 v1 0 → t_moveNodes_L101 v1 v2 v3 (gA σ 49 v3) (gA σ 50 v3) 0 σ_61 Q X6 else t_moveNodes_j153 v1 v2 v3 σ Q X6) else t_moveNodes_j159 v1 v2 σ Q)) → X6 v1 v2 v3 σ) → X6 v1 v2 v3 σ
def t_moveNodes (σ : S) (Q : Int → S → Prop) : Prop :=
  t_moveNodes_L6 0 0 0 σ Q
def t_compact_j589 (v1 : Int) (σ : S) (Q : Int → S → Prop) (X497 : Int → S → Prop) : Prop :=
  X497 (w32 (v1 + 1)) σ
def t_compact_L532 (v1 : Int) (v2 : Int) (σ : S) (Q : Int → S → Prop) (X497 : Int → S → Prop) : Prop :=
  ∀ X532 : Int → S → Prop, (∀ (v2 : Int) (σ : S), ((if (v2 < 62) ∧ (gI σ 135 = 1) then inb (w32 (w32 (64 * v1) + v2)) 12800 ∧ ((¬ gA σ 86 (w32 (w32 (64 * v1) + v2)) < 0) → (inb (gA σ 86 (w32 (w32 (64 * v1) + v2))) 200000)) ∧ inb (w32 (w32 (64 * v1) + v2)) 12800 ∧ ∀ σ_46, σ_46 = pA σ 86 (w32 (w32 (64 * v1) + v2)) (if gA σ 86 (w32 (w32 (64 * v1) + v2)) < 0 then gA σ 86 (w32 (w32 (64 * v1) + v2)) else gA σ 92 (gA σ 86 (w32 (w32 (64 * v1) + v2)))) → X532 (w32 (v2 + 1)) σ_46 else t_compact_j589 v1 σ Q X497)) → X532 v2 σ) → X532 v2 σ
def t_compact_j530 (v1 : Int) (σ : S) (Q : Int → S → Prop) (X497 : Int → S → Prop) : Prop :=
  t_compact_L532 v1 0 σ Q X497
def t_compact_L497 (v1 : Int) (σ : S) (Q : Int → S → Prop) : Prop :=
  ∀ X497 : Int → S → Prop, (∀ (v1 : Int) (σ : S), ((if v1 < gI σ 134 then (if gI σ 135 = 1 then t_compact_j530 v1 σ Q X497 else inb v1 200 ∧ inb (gA σ 85 v1) 200000 ∧ inb v1 200 ∧ ∀ σ_56, σ_56 = pA σ 85 v1 (gA σ 92 (gA σ 85 v1)) → t_compact_j530 v1 σ_56 Q X497) else Q 0 σ)) → X497 v1 σ) → X497 v1 σ
def t_compact_j495 (σ : S) (Q : Int → S → Prop) : Prop :=
  t_compact_L497 0 σ Q
def t_compact_j462 (σ : S) (Q : Int → S → Prop) : Prop :=
  (if gI σ 190 = 0 then t_compact_j495 σ Q else inb (gI σ 181) 200000 ∧ ∀ σ_62, σ_62 = pI σ 181 (gA σ 92 (gI σ 181)) → inb (gI σ_62 182) 200000 ∧ ∀ σ_67, σ_67 = pI σ_62 182 (gA σ_62 92 (gI σ_62 182)) → t_compact_j495 σ_67 Q)
def t_compact_L431 (v1 : Int) (σ : S) (Q : Int → S → Prop) : Prop :=
  ∀ X431 : Int → S → Prop, (∀ (v1 : Int) (σ : S), ((if v1 < gI σ 101 then inb v1 200 ∧ inb (gA σ 70 v1) 200000 ∧ inb v1 200 ∧ ∀ σ_73, σ_73 = pA σ 70 v1 (gA σ 92 (gA σ 70 v1)) → X431 (w32 (v1 + 1)) σ_73 else t_compact_j462 σ Q)) → X431 v1 σ) → X431 v1 σ
def t_compact_j429 (σ : S) (Q : Int → S → Prop) : Prop :=
  t_compact_L431 0 σ Q
def t_compact_j423 (v1 : Int) (σ : S) (Q : Int → S → Prop) (X290 : Int → S → Prop) : Prop :=
  X290 (w32 (v1 + 1)) σ
def t_compact_L334 (v1 : Int) (v2 : Int) (σ : S) (Q : Int → S → Prop) (X290 : Int → S → Prop) : Prop :=
  ∀ X334 : Int → S → Prop, (∀ (v2 : Int) (σ : S), (inb v1 70 ∧ (if v2 < gA σ 29 v1 then inb (w32 (w32 (6 * v1) + v2)) 420 ∧ inb (gA σ 66 (w32 (w32 (6 * v1) + v2))) 200000 ∧ inb (w32 (w32 (6 * v1) + v2)) 420 ∧ ∀ σ_98, σ_98 = pA σ 66 (w32 (w32 (6 * v1) + v2)) (gA σ 92 (gA σ 66 (w32 (w32 (6 * v1) + v2)))) → inb (w32 (w32 (6 * v1) + v2)) 420 ∧ ((¬ gA σ_98 67 (w32 (w32 (6 * v1) + v2)) < 0) → (inb (w32 (w32 (6 * v1) + v2)) 420)) ∧ ((¬ gA σ_98 67 (w32 (w32 (6 * v1) + v2)) < 0) → (inb (gA σ_98 67 (w32 (w32 (6 * v1) + v2))) 200000)) ∧ inb (w32 (w32 (6 * v1) + v2)) 420 ∧ ∀ σ_111, σ_111 = pA σ_98 67 (w32 (w32 (6 * v1) + v2)) (if gA σ_98 67 (w32 (w32 (6 * v1) + v2)) < 0 then (-2) else gA σ_98 92 (gA σ_98 67 (w32 (w32 (6 * v1) + v2)))) → X334 (w32 (v2 + 1)) σ_111 else t_compact_j423 v1 σ Q X290)) → X334 v2 σ) → X334 v2 σ
def t_compact_L290 (v1 : Int) (σ : S) (Q : Int → S → Prop) : Prop :=
  ∀ X290 : Int → S → Prop, (∀ (v1 : Int) (σ : S), ((if v1 < gI σ 45 then inb v1 70 ∧ inb (gA σ 64 v1) 200000 ∧ inb v1 70 ∧ ∀ σ_80, σ_80 = pA σ 64 v1 (gA σ 92 (gA σ 64 v1)) → inb v1 70 ∧ inb (gA σ_80 65 v1) 200000 ∧ inb v1 70 ∧ ∀ σ_87, σ_87 = pA σ_80 65 v1 (gA σ_80 92 (gA σ_80 65 v1)) → t_compact_L334 v1 0 σ_87 Q X290 else t_compact_j429 σ Q)) → X290 v1 σ) → X290 v1 σ
def t_compact_j284 (σ : S) (Q : Int → S → Prop) : Prop :=
  t_moveNodes σ (fun _ σ_19 => t_compact_L290 0 σ_19 Q)
def t_compact_j278 (v1 : Int) (σ : S) (Q : Int → S → Prop) (X234 : Int → S → Prop) : Prop :=
  X234 (w32 (v1 + (-1))) σ
def t_compact_L240 (v1 : Int) (v2 : Int) (σ : S) (Q : Int → S → Prop) (X234 : Int → S → Prop) : Prop :=
  ∀ X240 : Int → S → Prop, (∀ (v2 : Int) (σ : S), (inb v1 200000 ∧ ((v2 < gA σ 50 v1) → (inb v1 200000)) ∧ (if (v2 < gA σ 50 v1) ∧ (gA σ 92 v1 = 1) then t_arg v1 v2 σ (fun r_121 σ_120 => inb r_121 200000 ∧ ∀ σ_122, σ_122 = pA σ_120 92 r_121 1 → X240 (w32 (v2 + 1)) σ_122) else t_compact_j278 v1 σ Q X234)) → X240 v2 σ) → X240 v2 σ
def t_compact_L234 (v1 : Int) (σ : S) (Q : Int → S → Prop) : Prop :=
  ∀ X234 : Int → S → Prop, (∀ (v1 : Int) (σ : S), ((if v1 < 0 then t_compact_j284 σ Q else t_compact_L240 v1 0 σ Q X234)) → X234 v1 σ) → X234 v1 σ
def t_compact_j227 (σ : S) (Q : Int → S → Prop) : Prop :=
  t_compact_L234 (w32 (gI σ 80 - 1)) σ Q
def t_compact_j221 (v1 : Int) (σ : S) (Q : Int → S → Prop) (X158 : Int → S → Prop) : Prop :=
  X158 (w32 (v1 + 1)) σ
def t_compact_L186 (v1 : Int) (v2 : Int) (σ : S) (Q : Int → S → Prop) (X158 : Int → S → Prop) : Prop :=
  ∀ X186 : Int → S → Prop, (∀ (v2 : Int) (σ : S), ((if (v2 < 62) ∧ (gI σ 135 = 1) then inb (w32 (w32 (64 * v1) + v2)) 12800 ∧ t_markTerm (gA σ 86 (w32 (w32 (64 * v1) + v2))) σ (fun _ σ_136 => X186 (w32 (v2 + 1)) σ_136) else t_compact_j221 v1 σ Q X158)) → X186 v2 σ) → X186 v2 σ
def t_compact_j184 (v1 : Int) (σ : S) (Q : Int → S → Prop) (X158 : Int → S → Prop) : Prop :=
  t_compact_L186 v1 0 σ Q X158
def t_compact_L158 (v1 : Int) (σ : S) (Q : Int → S → Prop) : Prop :=
  ∀ X158 : Int → S → Prop, (∀ (v1 : Int) (σ : S), ((if v1 < gI σ 134 then (if gI σ 135 = 1 then t_compact_j184 v1 σ Q X158 else inb v1 200 ∧ t_markTerm (gA σ 85 v1) σ (fun _ σ_142 => t_compact_j184 v1 σ_142 Q X158)) else t_compact_j227 σ Q)) → X158 v1 σ) → X158 v1 σ
def t_compact_j156 (σ : S) (Q : Int → S → Prop) : Prop :=
  t_compact_L158 0 σ Q
def t_compact_j133 (σ : S) (Q : Int → S → Prop) : Prop :=
  (if gI σ 190 = 0 then t_compact_j156 σ Q else t_markTerm (gI σ 181) σ (fun _ σ_144 => t_markTerm (gI σ_144 182) σ_144 (fun _ σ_146 => t_compact_j156 σ_146 Q)))
def t_compact_L109 (v1 : Int) (σ : S) (Q : Int → S → Prop) : Prop :=
  ∀ X109 : Int → S → Prop, (∀ (v1 : Int) (σ : S), ((if v1 < gI σ 101 then inb v1 200 ∧ t_markTerm (gA σ 70 v1) σ (fun _ σ_149 => X109 (w32 (v1 + 1)) σ_149) else t_compact_j133 σ Q)) → X109 v1 σ) → X109 v1 σ
def t_compact_j107 (σ : S) (Q : Int → S → Prop) : Prop :=
  t_compact_L109 0 σ Q
def t_compact_j101 (v1 : Int) (σ : S) (Q : Int → S → Prop) (X25 : Int → S → Prop) : Prop :=
  X25 (w32 (v1 + 1)) σ
def t_compact_L55 (v1 : Int) (v2 : Int) (σ : S) (Q : Int → S → Prop) (X25 : Int → S → Prop) : Prop :=
  ∀ X55 : Int → S → Prop, (∀ (v2 : Int) (σ : S), (inb v1 70 ∧ (if v2 < gA σ 29 v1 then inb (w32 (w32 (6 * v1) + v2)) 420 ∧ t_markTerm (gA σ 66 (w32 (w32 (6 * v1) + v2))) σ (fun _ σ_162 => inb (w32 (w32 (6 * v1) + v2)) 420 ∧ t_markTerm (gA σ_162 67 (w32 (w32 (6 * v1) + v2))) σ_162 (fun _ σ_165 => X55 (w32 (v2 + 1)) σ_165)) else t_compact_j101 v1 σ Q X25)) → X55 v2 σ) → X55 v2 σ
def t_compact_L25 (v1 : Int) (σ : S) (Q : Int → S → Prop) : Prop :=
  ∀ X25 : Int → S → Prop, (∀ (v1 : Int) (σ : S), ((if v1 < gI σ 45 then inb v1 70 ∧ t_markTerm (gA σ 64 v1) σ (fun _ σ_152 => inb v1 70 ∧ t_markTerm (gA σ_152 65 v1) σ_152 (fun _ σ_155 => t_compact_L55 v1 0 σ_155 Q X25)) else t_compact_j107 σ Q)) → X25 v1 σ) → X25 v1 σ
def t_compact_j23 (σ : S) (Q : Int → S → Prop) : Prop :=
  t_compact_L25 0 σ Q
def t_compact_L2 (v1 : Int) (σ : S) (Q : Int → S → Prop) : Prop :=
  ∀ X2 : Int → S → Prop, (∀ (v1 : Int) (σ : S), ((if v1 < gI σ 80 then inb v1 200000 ∧ ∀ σ_166, σ_166 = pA σ 92 v1 0 → X2 (w32 (v1 + 1)) σ_166 else t_compact_j23 σ Q)) → X2 v1 σ) → X2 v1 σ
def t_compact (σ : S) (Q : Int → S → Prop) : Prop :=
  t_compact_L2 0 σ Q
def t_makeRoom (σ : S) (Q : Int → S → Prop) : Prop :=
  (if ¬ (gI σ 80 ≤ 20000) ∨ (¬ (gI σ 81 ≤ 80000)) then t_compact σ (fun _ σ_5 => Q 0 σ_5) else Q 0 σ)
def t_term_j126 (σ : S) (Q : Int → S → Prop) : Prop :=
  t_faultTold σ (fun r_11 σ_10 => Q r_11 σ_10)
def t_term_j107 (v2 : Int) (σ : S) (Q : Int → S → Prop) : Prop :=
  (if gI σ 101 = 200 then Q (-3) σ else t_newHandle v2 σ (fun r_34 σ_33 => Q r_34 σ_33))
def t_term_j48 (v1 : Int) (σ : S) (Q : Int → S → Prop) : Prop :=
  t_makeRoom σ (fun _ σ_17 => inb 1120 1136 ∧ inb 1120 1136 ∧ t_readTerm (gA σ_17 25 1120) (gA σ_17 26 1120) (-1) σ_17 (fun r_23 σ_22 => (if gI σ_22 92 = 7 then Q (-4) σ_22 else (if gI σ_22 92 = 6 then inb v1 902 ∧ t_fail 6 (gA σ_22 2 v1) σ_22 (fun _ σ_37 => t_term_j107 r_23 σ_37 Q) (fun σ_38 => t_term_j126 σ_38 Q) else t_term_j107 r_23 σ_22 Q))))
def t_term (σ : S) (Q : Int → S → Prop) : Prop :=
  ∀ σ_1, σ_1 = pI σ 0 0 → t_findWords σ_1 (fun _ σ_3 => t_noFault σ_3 (fun _ σ_4 => ∀ σ_5, σ_5 = pI σ_4 11 900 → t_termWords 1120 σ_5 (fun _ σ_8 => t_isOver σ_8 (fun r_13 σ_12 => (if r_13 = 0 then t_here σ_12 (fun r_40 σ_39 => t_fail 1 r_40 σ_39 (fun _ σ_41 => t_term_j48 (gI σ_5 10) σ_41 Q) (fun σ_42 => t_term_j126 σ_42 Q)) else t_term_j48 (gI σ_5 10) σ_12 Q)) (fun σ_14 => t_term_j126 σ_14 Q)) (fun σ_9 => t_term_j126 σ_9 Q)))
def t_about (v1 : Int) (v2 : Int) (σ : S) (Q : Int → S → Prop) : Prop :=
  ∀ σ_1, σ_1 = pI σ 0 0 → t_noHandle v1 σ_1 (fun r_4 σ_3 => (if r_4 = 0 then inb v1 200 ∧ (if v2 = 0 then inb (gA σ_3 70 v1) 200000 ∧ Q (gA σ_3 51 (gA σ_3 70 v1)) σ_3 else (if v2 = 1 then inb (gA σ_3 70 v1) 200000 ∧ Q (gA σ_3 52 (gA σ_3 70 v1)) σ_3 else (if v2 = 2 then t_isVar (gA σ_3 70 v1) σ_3 (fun r_14 σ_13 => ((r_14 = 0) → (inb (gA σ_3 70 v1) 200000)) ∧ Q (if r_14 = 0 then gA σ_13 48 (gA σ_3 70 v1) else (-2)) σ_13) else (if v2 = 3 then t_isVar (gA σ_3 70 v1) σ_3 (fun r_22 σ_21 => (if r_22 = 0 then Q (-2) σ_21 else t_varOf (gA σ_3 70 v1) σ_21 (fun r_26 σ_25 => Q r_26 σ_25))) else (if v2 = 4 then inb (gA σ_3 70 v1) 200000 ∧ Q (gA σ_3 50 (gA σ_3 70 v1)) σ_3 else (if v2 = 5 then t_kindOfTerm (gA σ_3 70 v1) σ_3 (fun r_30 σ_29 => Q r_30 σ_29) else Q (-1) σ_3)))))) else Q (-1) σ_3))
def t_part (v1 : Int) (v2 : Int) (σ : S) (Q : Int → S → Prop) : Prop :=
  ∀ σ_1, σ_1 = pI σ 0 0 → t_noHandle v1 σ_1 (fun r_4 σ_3 => (if r_4 = 0 then inb v1 200 ∧ inb (gA σ_3 70 v1) 200000 ∧ t_in v2 0 (w32 (gA σ_3 50 (gA σ_3 70 v1) - 1)) σ_3 (fun r_12 σ_11 => (if r_12 = 0 then Q (-1) σ_11 else (if gI σ_11 101 = 200 then Q (-3) σ_11 else inb v1 200 ∧ t_arg (gA σ_11 70 v1) v2 σ_11 (fun r_21 σ_20 => t_newHandle r_21 σ_20 (fun r_23 σ_22 => Q r_23 σ_22))))) else Q (-1) σ_3))
def t_order_j21 (σ : S) (Q : Int → S → Prop) : Prop :=
  Q (-9) σ
def t_order (v1 : Int) (v2 : Int) (σ : S) (Q : Int → S → Prop) : Prop :=
  ∀ σ_1, σ_1 = pI σ 0 0 → t_noHandle v1 σ_1 (fun r_4 σ_3 => (if r_4 = 0 then t_noHandle v2 σ_3 (fun r_8 σ_7 => (if r_8 = 0 then inb v1 200 ∧ inb v2 200 ∧ t_orderOf (gA σ_7 70 v1) (gA σ_7 70 v2) σ_7 (fun r_16 σ_15 => Q r_16 σ_15) else t_order_j21 σ_7 Q)) else t_order_j21 σ_3 Q))
def t_showWord_L30 (v1 : Int) (v2 : Int) (σ : S) (Q : Int → S → Prop) : Prop :=
  ∀ X30 : Int → S → Prop, (∀ (v2 : Int) (σ : S), (inb v1 3100 ∧ (if v2 < gA σ 5 v1 then inb (w32 (w32 (16 * v1) + v2)) 50000 ∧ inb (gI σ 103) 20000 ∧ ∀ σ_11, σ_11 = pA σ 71 (gI σ 103) (gA σ 4 (w32 (w32 (16 * v1) + v2))) → ∀ σ_15, σ_15 = pI σ_11 103 (w32 (gI σ_11 103 + 1)) → X30 (w32 (v2 + 1)) σ_15 else Q 0 σ)) → X30 v2 σ) → X30 v2 σ
def t_showWord_j28 (v1 : Int) (σ : S) (Q : Int → S → Prop) : Prop :=
  t_showWord_L30 v1 0 σ Q
def t_showWord (v1 : Int) (σ : S) (Q : Int → S → Prop) : Prop :=
  (if gI σ 103 ≤ 0 then t_showWord_j28 v1 σ Q else inb (gI σ 103) 20000 ∧ ∀ σ_18, σ_18 = pA σ 71 (gI σ 103) 32 → ∀ σ_22, σ_22 = pI σ_18 103 (w32 (gI σ_18 103 + 1)) → t_showWord_j28 v1 σ_22 Q)
def t_showSign_j28 (v1 : Int) (σ : S) (Q : Int → S → Prop) : Prop :=
  inb (gI σ 103) 20000 ∧ ∀ σ_5, σ_5 = pA σ 71 (gI σ 103) (b8 v1) → ∀ σ_9, σ_9 = pI σ_5 103 (w32 (gI σ_5 103 + 1)) → Q 0 σ_9
def t_showSign (v1 : Int) (σ : S) (Q : Int → S → Prop) : Prop :=
  (if gI σ 103 ≤ 0 then t_showSign_j28 v1 σ Q else inb (gI σ 103) 20000 ∧ ∀ σ_12, σ_12 = pA σ 71 (gI σ 103) 32 → ∀ σ_16, σ_16 = pI σ_12 103 (w32 (gI σ_12 103 + 1)) → t_showSign_j28 v1 σ_16 Q)
def t_show_j278 (G : Orc) (v7 : Int) (σ : S) (Q : Int → S → Prop) : Prop :=
  (if v7 = 0 then Q 0 σ else t_showSign 41 σ (fun _ σ_26 => Q 0 σ_26))
def t_show_j272 (G : Orc) (v1 : Int) (v4 : Int) (v5 : Int) (v6 : Int) (v7 : Int) (v8 : Int) (v9 : Int) (σ : S) (Q : Int → S → Prop) (X138 : Int → Int → S → Prop) : Prop :=
  X138 v8 (w32 (v9 + 1)) σ
def t_show_j269 (G : Orc) (v1 : Int) (v4 : Int) (v5 : Int) (v6 : Int) (v7 : Int) (v8 : Int) (v9 : Int) (σ : S) (Q : Int → S → Prop) (X138 : Int → Int → S → Prop) : Prop :=
  t_show_j272 G v1 v4 v5 v6 v7 (w32 (v8 + 1)) v9 σ Q X138
def t_show_j232 (G : Orc) (v1 : Int) (v4 : Int) (v5 : Int) (v6 : Int) (v7 : Int) (v8 : Int) (v9 : Int) (v10 : Int) (σ : S) (Q : Int → S → Prop) (X138 : Int → Int → S → Prop) : Prop :=
  inb v4 50 ∧ t_arg v1 (if gA σ 44 v4 = 0 then v8 else (if v8 = 1 then w32 (v6 - 1) else v8)) σ (fun r_45 σ_44 => G 0 [r_45, 0, v10] σ_44 (fun _ σ_46 => t_show_j269 G v1 v4 v5 v6 v7 v8 v9 σ_46 Q X138) (fun _ => False))
def t_show_L138 (G : Orc) (v1 : Int) (v4 : Int) (v5 : Int) (v6 : Int) (v7 : Int) (v8 : Int) (v9 : Int) (σ : S) (Q : Int → S → Prop) : Prop :=
  ∀ X138 : Int → Int → S → Prop, (∀ (v8 : Int) (v9 : Int) (σ : S), (inb v5 50 ∧ (if v9 < gA σ 36 v5 then inb (w32 (w32 (13 * v5) + v9)) 650 ∧ (if gA σ 35 (w32 (w32 (13 * v5) + v9)) = (-1) then t_takes v4 v8 σ (fun r_32 σ_31 => inb v4 50 ∧ (if gA σ_31 44 v4 = 0 then t_show_j232 G v1 v4 v5 v6 v7 v8 v9 r_32 σ_31 Q X138 else (if (v8 = 0) ∧ (¬ (v6 ≤ 2)) then G 0 [v1, (w32 (v6 - 1)), r_32] σ_31 (fun _ σ_49 => t_show_j269 G v1 v4 v5 v6 v7 v8 v9 σ_49 Q X138) (fun _ => False) else t_show_j232 G v1 v4 v5 v6 v7 v8 v9 r_32 σ_31 Q X138))) else inb (w32 (w32 (13 * v5) + v9)) 650 ∧ t_showWord (gA σ 35 (w32 (w32 (13 * v5) + v9))) σ (fun _ σ_55 => t_show_j272 G v1 v4 v5 v6 v7 v8 v9 σ_55 Q X138)) else t_show_j278 G v7 σ Q)) → X138 v8 v9 σ) → X138 v8 v9 σ
def t_show_j132 (G : Orc) (v1 : Int) (v4 : Int) (v5 : Int) (v6 : Int) (v7 : Int) (σ : S) (Q : Int → S → Prop) : Prop :=
  t_show_L138 G v1 v4 v5 v6 v7 0 0 σ Q
def t_show_F (G : Orc) (v1 : Int) (v2 : Int) (v3 : Int) (σ : S) (Q : Int → S → Prop) : Prop :=
  t_isVar v1 σ (fun r_2 σ_1 => (if r_2 = 0 then inb v1 200000 ∧ inb (gA σ_1 48 v1) 50 ∧ ((v2 ≤ 0) → (inb v1 200000)) ∧ inb (gA σ_1 48 v1) 50 ∧ (if bi (¬ (gA σ_1 43 (gA σ_1 48 v1) ≤ v3)) = 0 then t_show_j132 G v1 (gA σ_1 48 v1) (gA σ_1 41 (gA σ_1 48 v1)) (if v2 ≤ 0 then gA σ_1 50 v1 else v2) (bi (¬ (gA σ_1 43 (gA σ_1 48 v1) ≤ v3))) σ_1 Q else t_showSign 40 σ_1 (fun _ σ_56 => t_show_j132 G v1 (gA σ_1 48 v1) (gA σ_1 41 (gA σ_1 48 v1)) (if v2 ≤ 0 then gA σ_1 50 v1 else v2) (bi (¬ (gA σ_1 43 (gA σ_1 48 v1) ≤ v3))) σ_56 Q)) else t_varOf v1 σ_1 (fun r_60 σ_59 => inb (if r_60 < 30 then r_60 else w32 (r_60 - 30)) 30 ∧ t_showWord (gA σ_59 33 (if r_60 < 30 then r_60 else w32 (r_60 - 30))) σ_59 (fun _ σ_67 => (if r_60 < 30 then Q 0 σ_67 else inb (gI σ_67 103) 20000 ∧ ∀ σ_71, σ_71 = pA σ_67 71 (gI σ_67 103) 39 → ∀ σ_75, σ_75 = pI σ_71 103 (w32 (gI σ_71 103 + 1)) → Q 0 σ_75)))))
def t_S_show : Nat → Orc
  | 0 => fun _ _ _ _ _ => False
  | n + 1 => fun i a σ Q E => match i, a with
    | 0, [v1, v2, v3] => t_show_F (t_S_show n) v1 v2 v3 σ Q
    | _, _ => False
def t_show (v1 : Int) (v2 : Int) (v3 : Int) (σ : S) (Q : Int → S → Prop) : Prop := t_S_show 90 0 [v1, v2, v3] σ Q (fun _ => False)
def t_print (v1 : Int) (v2 : Int) (σ : S) (Q : Int → S → Prop) : Prop :=
  ∀ σ_1, σ_1 = pI σ 0 0 → t_noHandle v1 σ_1 (fun r_4 σ_3 => (if ¬ (r_4 = 0) ∨ (v2 < (-1)) then Q (-1) σ_3 else ∀ σ_7, σ_7 = pI σ_3 103 0 → inb v1 200 ∧ t_show (gA σ_7 70 v1) 0 1000 σ_7 (fun _ σ_11 => ((¬ v2 < 0) → (v2 < gI σ_11 103) → (inb v2 20000)) ∧ Q (if v2 < 0 then gI σ_11 103 else (if v2 < gI σ_11 103 then bAnd (gA σ_11 71 v2) 255 else (-1))) σ_11)))
def t_forget (σ : S) (Q : Int → S → Prop) : Prop :=
  ∀ σ_1, σ_1 = pI σ 0 0 → ∀ σ_4, σ_4 = pI σ_1 101 0 → Q (gI σ_1 101) σ_4
def t_below_j37 (σ : S) (Q : Int → S → Prop) : Prop :=
  Q (-1) σ
def t_below (v1 : Int) (v2 : Int) (σ : S) (Q : Int → S → Prop) : Prop :=
  ∀ σ_1, σ_1 = pI σ 0 0 → t_in v1 0 (w32 (gI σ_1 18 - 1)) σ_1 (fun r_5 σ_4 => (if r_5 = 0 then t_below_j37 σ_4 Q else t_in v2 0 (w32 (gI σ_4 18 - 1)) σ_4 (fun r_10 σ_9 => (if r_10 = 0 then t_below_j37 σ_9 Q else t_isBelow v1 v2 σ_9 (fun r_14 σ_13 => Q (bi (¬ (r_14 = 0))) σ_13)))))
def t_kind (v1 : Int) (σ : S) (Q : Int → S → Prop) : Prop :=
  ∀ σ_1, σ_1 = pI σ 0 0 → t_in v1 0 (w32 (gI σ_1 18 - 1)) σ_1 (fun r_5 σ_4 => ((¬ r_5 = 0) → (inb v1 20)) ∧ Q (if r_5 = 0 then (-1) else gA σ_4 32 v1) σ_4)
def t_operator (v1 : Int) (v2 : Int) (σ : S) (Q : Int → S → Prop) : Prop :=
  ∀ σ_1, σ_1 = pI σ 0 0 → t_in v1 0 (w32 (gI σ_1 62 - 1)) σ_1 (fun r_5 σ_4 => (if r_5 = 0 then Q (-1) σ_4 else (if v2 = 0 then inb v1 50 ∧ inb (gA σ_4 41 v1) 50 ∧ Q (gA σ_4 37 (gA σ_4 41 v1)) σ_4 else (if v2 = 1 then inb v1 50 ∧ Q (gA σ_4 43 v1) σ_4 else (if v2 = 2 then inb v1 50 ∧ Q (bi (¬ (gA σ_4 44 v1 = 0))) σ_4 else (if v2 = 3 then inb v1 50 ∧ Q (bi (¬ (gA σ_4 45 v1 = 0))) σ_4 else (if v2 = 4 then inb v1 50 ∧ Q (gA σ_4 46 v1) σ_4 else (if v2 = 5 then inb v1 50 ∧ Q (gA σ_4 47 v1) σ_4 else (if v2 = 6 then inb v1 50 ∧ Q (gA σ_4 42 v1) σ_4 else Q (-1) σ_4)))))))))
def t_goal (v1 : Int) (v2 : Int) (v3 : Int) (v4 : Int) (v5 : Int) (v6 : Int) (σ : S) (Q : Int → S → Prop) : Prop :=
  inb (gI σ 110) 4000 ∧ ∀ σ_2, σ_2 = pA σ 72 (gI σ 110) v1 → inb (gI σ 110) 4000 ∧ ∀ σ_5, σ_5 = pA σ_2 73 (gI σ 110) v2 → inb (gI σ 110) 4000 ∧ ∀ σ_8, σ_8 = pA σ_5 74 (gI σ 110) v3 → inb (gI σ 110) 4000 ∧ ∀ σ_11, σ_11 = pA σ_8 75 (gI σ 110) v4 → inb (gI σ 110) 4000 ∧ ∀ σ_14, σ_14 = pA σ_11 76 (gI σ 110) v5 → inb (gI σ 110) 4000 ∧ ∀ σ_17, σ_17 = pA σ_14 77 (gI σ 110) v6 → ∀ σ_21, σ_21 = pI σ_17 110 (w32 (gI σ_17 110 + 1)) → Q (gI σ 110) σ_21
def t_rowCount (v1 : Int) (v2 : Int) (σ : S) (Q : Int → S → Prop) : Prop :=
  inb v2 200000 ∧ (if gA σ 48 v2 = v1 then inb v2 200000 ∧ Q (gA σ 50 v2) σ else t_idTerm v1 σ (fun r_6 σ_5 => Q (bi (¬ (v2 = r_6))) σ_5))
def t_element (v1 : Int) (v2 : Int) (v3 : Int) (σ : S) (Q : Int → S → Prop) : Prop :=
  inb v2 200000 ∧ (if gA σ 48 v2 = v1 then t_arg v2 v3 σ (fun r_6 σ_5 => Q r_6 σ_5) else Q v2 σ)
def t_segment_j36 (v1 : Int) (v5 : Int) (σ : S) (Q : Int → S → Prop) : Prop :=
  t_make v1 v5 σ (fun r_5 σ_4 => Q r_5 σ_4)
def t_segment_L9 (v1 : Int) (v2 : Int) (v3 : Int) (v4 : Int) (v5 : Int) (v6 : Int) (σ : S) (Q : Int → S → Prop) : Prop :=
  ∀ X9 : Int → S → Prop, (∀ (v6 : Int) (σ : S), ((if v6 < v4 then t_element v1 v2 (w32 (v3 + v6)) σ (fun r_7 σ_6 => t_push r_7 σ_6 (fun _ σ_8 => X9 (w32 (v6 + 1)) σ_8)) else t_segment_j36 v1 v5 σ Q)) → X9 v6 σ) → X9 v6 σ
def t_segment (v1 : Int) (v2 : Int) (v3 : Int) (v4 : Int) (σ : S) (Q : Int → S → Prop) : Prop :=
  t_segment_L9 v1 v2 v3 v4 (gI σ 83) 0 σ Q
def t_chosen_j44 (v1 : Int) (v4 : Int) (σ : S) (Q : Int → S → Prop) : Prop :=
  t_make v1 v4 σ (fun r_5 σ_4 => Q r_5 σ_4)
def t_chosen_j38 (v1 : Int) (v2 : Int) (v3 : Int) (v4 : Int) (v5 : Int) (σ : S) (Q : Int → S → Prop) (X9 : Int → S → Prop) : Prop :=
  X9 (w32 (v5 + 1)) σ
def t_chosen_L9 (v1 : Int) (v2 : Int) (v3 : Int) (v4 : Int) (v5 : Int) (σ : S) (Q : Int → S → Prop) : Prop :=
  ∀ X9 : Int → S → Prop, (∀ (v5 : Int) (σ : S), ((if bShr v3 v5 = 0 then t_chosen_j44 v1 v4 σ Q else (if bAnd (bShr v3 v5) 1 = 1 then t_element v1 v2 v5 σ (fun r_9 σ_8 => t_push r_9 σ_8 (fun _ σ_10 => t_chosen_j38 v1 v2 v3 v4 v5 σ_10 Q X9)) else t_chosen_j38 v1 v2 v3 v4 v5 σ Q X9))) → X9 v5 σ) → X9 v5 σ
def t_chosen (v1 : Int) (v2 : Int) (v3 : Int) (σ : S) (Q : Int → S → Prop) : Prop :=
  t_chosen_L9 v1 v2 v3 (gI σ 83) 0 σ Q
def t_bits (v0 : Int) (σ : S) (Q : Int → S → Prop) : Prop :=
  Q (bCnt v0) σ
def t_mayTake (v1 : Int) (v2 : Int) (v3 : Int) (σ : S) (Q : Int → S → Prop) : Prop :=
  t_isVar v2 σ (fun r_2 σ_1 => ((r_2 = 0) → (inb v2 200000)) ∧ ((r_2 = 0) → (inb (gA σ_1 48 v2) 50)) ∧ ((¬ bi (¬ (r_2 = 0) ∨ (¬ (gA σ_1 46 (gA σ_1 48 v2) < 0))) = 0) → (v3 ≤ 0) → (inb v1 50)) ∧ Q (bi (((bi (¬ (r_2 = 0) ∨ (¬ (gA σ_1 46 (gA σ_1 48 v2) < 0))) = 0) ∧ (v3 = 1)) ∨ (¬ (bi (¬ (r_2 = 0) ∨ (¬ (gA σ_1 46 (gA σ_1 48 v2) < 0))) = 0) ∧ (¬ (v3 ≤ 0) ∨ (¬ (gA σ_1 46 v1 < 0)))))) σ_1)
def t_orderBeside_L86 (v1 : Int) (v2 : Int) (v3 : Int) (v5 : Int) (σ : S) (Q : Int → S → Prop) : Prop :=
  ∀ X86 : Int → S → Prop, (∀ (v5 : Int) (σ : S), ((if v5 < v3 then t_element (gI σ 116) v1 v5 σ (fun r_27 σ_26 => t_element (gI σ_26 116) v2 v5 σ_26 (fun r_30 σ_29 => t_orderOf r_27 r_30 σ_29 (fun r_32 σ_31 => (if r_32 = 0 then X86 (w32 (v5 + 1)) σ_31 else Q r_32 σ_31)))) else Q 0 σ)) → X86 v5 σ) → X86 v5 σ
def t_orderBeside (v1 : Int) (v2 : Int) (σ : S) (Q : Int → S → Prop) : Prop :=
  ((¬ v1 < 0) → (inb v1 200000)) ∧ ((¬ v1 < 0) → (gA σ 48 v1 = gI σ 116) → (inb v1 200000)) ∧ ((¬ v2 < 0) → (inb v2 200000)) ∧ ((¬ v2 < 0) → (gA σ 48 v2 = gI σ 116) → (inb v2 200000)) ∧ (if (if v1 < 0 then 0 else (if gA σ 48 v1 = gI σ 116 then gA σ 50 v1 else 1)) = (if v2 < 0 then 0 else (if gA σ 48 v2 = gI σ 116 then gA σ 50 v2 else 1)) then t_orderBeside_L86 v1 v2 (if v1 < 0 then 0 else (if gA σ 48 v1 = gI σ 116 then gA σ 50 v1 else 1)) 0 σ Q else Q (if (if v1 < 0 then 0 else (if gA σ 48 v1 = gI σ 116 then gA σ 50 v1 else 1)) < (if v2 < 0 then 0 else (if gA σ 48 v2 = gI σ 116 then gA σ 50 v2 else 1)) then (-1) else 1) σ)
def t_orderTo_j61 (v2 : Int) (σ : S) (Q : Int → S → Prop) : Prop :=
  inb (w32 (v2 + 60)) 460000 ∧ t_orderBeside (gI σ 117) (gA σ 79 (w32 (v2 + 60))) σ (fun r_8 σ_7 => (if r_8 = 0 then inb (w32 (v2 + 61)) 460000 ∧ t_orderBeside (gI σ_7 118) (gA σ_7 79 (w32 (v2 + 61))) σ_7 (fun r_15 σ_14 => Q r_15 σ_14) else Q r_8 σ_7))
def t_orderTo_j55 (v2 : Int) (v3 : Int) (σ : S) (Q : Int → S → Prop) (X12 : Int → S → Prop) : Prop :=
  X12 (w32 (v3 + 1)) σ
def t_orderTo_L12 (v2 : Int) (v3 : Int) (σ : S) (Q : Int → S → Prop) : Prop :=
  ∀ X12 : Int → S → Prop, (∀ (v3 : Int) (σ : S), ((if v3 < 60 then inb v3 60 ∧ (if gA σ 78 v3 < 0 then t_orderTo_j55 v2 v3 σ Q X12 else inb v3 60 ∧ inb (w32 (v2 + v3)) 460000 ∧ t_orderOf (gA σ 78 v3) (gA σ 79 (w32 (v2 + v3))) σ (fun r_25 σ_24 => (if r_25 = 0 then t_orderTo_j55 v2 v3 σ_24 Q X12 else Q r_25 σ_24))) else t_orderTo_j61 v2 σ Q)) → X12 v3 σ) → X12 v3 σ
def t_orderTo (v1 : Int) (σ : S) (Q : Int → S → Prop) : Prop :=
  t_orderTo_L12 (w32 (gI σ 114 + (w32 (64 * v1)))) 0 σ Q
def t_record_j155 (v3 : Int) (σ : S) (Q : Int → S → Prop) (E : S → Prop) : Prop :=
  inb (w32 (v3 + 60)) 460000 ∧ ∀ σ_16, σ_16 = pA σ 79 (w32 (v3 + 60)) (gI σ 117) → inb (w32 (v3 + 61)) 460000 ∧ ∀ σ_20, σ_20 = pA σ_16 79 (w32 (v3 + 61)) (gI σ_16 118) → ∀ σ_24, σ_24 = pI σ_20 115 (w32 (gI σ_20 115 + 1)) → Q 0 σ_24
def t_record_L126 (v3 : Int) (v4 : Int) (σ : S) (Q : Int → S → Prop) (E : S → Prop) : Prop :=
  ∀ X126 : Int → S → Prop, (∀ (v4 : Int) (σ : S), ((if v4 < 60 then inb v4 60 ∧ inb (w32 (v3 + v4)) 460000 ∧ ∀ σ_28, σ_28 = pA σ 79 (w32 (v3 + v4)) (gA σ 78 v4) → X126 (w32 (v4 + 1)) σ_28 else t_record_j155 v3 σ Q E)) → X126 v4 σ) → X126 v4 σ
def t_record_j113 (v1 : Int) (σ : S) (Q : Int → S → Prop) (E : S → Prop) : Prop :=
  t_record_L126 (w32 (gI σ 114 + (w32 (64 * v1)))) 0 σ Q E
def t_record_L79 (v1 : Int) (v3 : Int) (σ : S) (Q : Int → S → Prop) (E : S → Prop) : Prop :=
  ∀ X79 : Int → S → Prop, (∀ (v3 : Int) (σ : S), ((if v3 < w32 (gI σ 114 + (w32 (64 * v1))) then t_record_j113 v1 σ Q E else inb v3 460000 ∧ inb (w32 (v3 + 64)) 460000 ∧ ∀ σ_33, σ_33 = pA σ 79 (w32 (v3 + 64)) (gA σ 79 v3) → X79 (w32 (v3 + (-1))) σ_33)) → X79 v3 σ) → X79 v3 σ
def t_record_j64 (v1 : Int) (σ : S) (Q : Int → S → Prop) (E : S → Prop) : Prop :=
  t_record_L79 v1 (w32 (w32 (gI σ 114 + (w32 (64 * (gI σ 115)))) - 1)) σ Q E
def t_record_j48 (v1 : Int) (σ : S) (Q : Int → S → Prop) (E : S → Prop) : Prop :=
  (if gI σ 115 = 200 then t_fail 2 0 σ (fun _ σ_36 => t_record_j64 v1 σ_36 Q E) E else t_record_j64 v1 σ Q E)
def t_record_j45 (v1 : Int) (v2 : Int) (σ : S) (Q : Int → S → Prop) (E : S → Prop) (X7 : Int → Int → S → Prop) : Prop :=
  X7 v1 v2 σ
def t_record_L7 (v1 : Int) (v2 : Int) (σ : S) (Q : Int → S → Prop) (E : S → Prop) : Prop :=
  ∀ X7 : Int → Int → S → Prop, (∀ (v1 : Int) (v2 : Int) (σ : S), ((if v1 < v2 then t_orderTo (w32 (Int.tdiv (w32 (v1 + v2)) 2)) σ (fun r_39 σ_38 => (if r_39 = 0 then Q 0 σ_38 else (if r_39 < 0 then t_record_j45 v1 (w32 (Int.tdiv (w32 (v1 + v2)) 2)) σ_38 Q E X7 else t_record_j45 (w32 (w32 (Int.tdiv (w32 (v1 + v2)) 2) + 1)) v2 σ_38 Q E X7))) else t_record_j48 v1 σ Q E)) → X7 v1 v2 σ) → X7 v1 v2 σ
def t_record (σ : S) (Q : Int → S → Prop) (E : S → Prop) : Prop :=
  t_record_L7 0 (gI σ 115) σ Q E
def t_solve_j71 (G : Orc) (v2 : Int) (σ : S) (Q : Int → S → Prop) (E : S → Prop) : Prop :=
  ∀ σ_14, σ_14 = pI σ 110 v2 → Q 0 σ_14
def t_solve_F (G : Orc) (v1 : Int) (σ : S) (Q : Int → S → Prop) (E : S → Prop) : Prop :=
  (if v1 < 0 then t_record σ (fun _ σ_26 => Q 0 σ_26) E else inb v1 4000 ∧ (if gA σ 72 v1 = 0 then inb v1 4000 ∧ inb v1 4000 ∧ inb v1 4000 ∧ G 1 [(gA σ 73 v1), (gA σ 74 v1), (gA σ 77 v1)] σ (fun _ σ_24 => t_solve_j71 G (gI σ 110) σ_24 Q E) E else inb v1 4000 ∧ (if gA σ 72 v1 = 1 then G 2 [v1] σ (fun _ σ_16 => t_solve_j71 G (gI σ 110) σ_16 Q E) E else G 3 [v1] σ (fun _ σ_12 => t_solve_j71 G (gI σ 110) σ_12 Q E) E)))
def t_solvePair_j303 (G : Orc) (v1 : Int) (v2 : Int) (v3 : Int) (v4 : Int) (σ : S) (Q : Int → S → Prop) (E : S → Prop) : Prop :=
  t_idTerm v4 σ (fun r_30 σ_29 => ((¬ r_30 < 0) → (inb v1 200000)) ∧ (if ¬ (r_30 < 0) ∧ (gA σ_29 50 v1 = 2) then t_arg v1 1 σ_29 (fun r_36 σ_35 => t_goal 0 r_36 v2 0 0 v3 σ_35 (fun r_38 σ_37 => t_arg v1 0 σ_37 (fun r_40 σ_39 => t_goal 0 r_40 r_30 0 0 r_38 σ_39 (fun r_42 σ_41 => G 0 [r_42] σ_41 (fun _ σ_43 => t_arg v1 1 σ_43 (fun r_46 σ_45 => t_goal 0 r_46 r_30 0 0 v3 σ_45 (fun r_48 σ_47 => t_arg v1 0 σ_47 (fun r_50 σ_49 => t_goal 0 r_50 v2 0 0 r_48 σ_49 (fun r_52 σ_51 => G 0 [r_52] σ_51 (fun _ σ_53 => Q 0 σ_53) E))))) E)))) else Q 0 σ_29))
def t_solvePair_j240 (G : Orc) (v1 : Int) (v2 : Int) (v3 : Int) (v4 : Int) (v5 : Int) (σ : S) (Q : Int → S → Prop) (E : S → Prop) : Prop :=
  G 0 [v5] σ (fun _ σ_23 => inb v4 50 ∧ (if gA σ_23 45 v4 = 0 then t_solvePair_j303 G v1 v2 v3 v4 σ_23 Q E else t_arg v1 1 σ_23 (fun r_59 σ_58 => t_arg v2 0 σ_58 (fun r_61 σ_60 => t_goal 0 r_59 r_61 0 0 v3 σ_60 (fun r_63 σ_62 => t_arg v1 0 σ_62 (fun r_65 σ_64 => t_arg v2 1 σ_64 (fun r_67 σ_66 => t_goal 0 r_65 r_67 0 0 r_63 σ_66 (fun r_69 σ_68 => G 0 [r_69] σ_68 (fun _ σ_70 => t_solvePair_j303 G v1 v2 v3 v4 σ_70 Q E) E)))))))) E
def t_solvePair_L204 (G : Orc) (v1 : Int) (v2 : Int) (v3 : Int) (v4 : Int) (v5 : Int) (v6 : Int) (σ : S) (Q : Int → S → Prop) (E : S → Prop) : Prop :=
  ∀ X204 : Int → Int → S → Prop, (∀ (v5 : Int) (v6 : Int) (σ : S), ((if v6 < 0 then t_solvePair_j240 G v1 v2 v3 v4 v5 σ Q E else t_arg v1 v6 σ (fun r_73 σ_72 => t_arg v2 v6 σ_72 (fun r_75 σ_74 => t_goal 0 r_73 r_75 0 0 v5 σ_74 (fun r_77 σ_76 => X204 r_77 (w32 (v6 + (-1))) σ_76))))) → X204 v5 v6 σ) → X204 v5 v6 σ
def t_solvePair_j157 (G : Orc) (v3 : Int) (s0 : Int) (s1 : Int) (s2 : Int) (s3 : Int) (s4 : Int) (σ : S) (Q : Int → S → Prop) (E : S → Prop) : Prop :=
  t_goal s4 s3 s2 s1 s0 v3 σ (fun r_90 σ_89 => G 0 [r_90] σ_89 (fun _ σ_91 => Q 0 σ_91) E)
def t_solvePair_j129 (G : Orc) (v1 : Int) (v2 : Int) (v3 : Int) (v4 : Int) (s0 : Int) (σ : S) (Q : Int → S → Prop) (E : S → Prop) : Prop :=
  inb v4 50 ∧ (if gA σ 45 v4 = 0 then t_solvePair_j157 G v3 0 0 v2 v1 s0 σ Q E else t_rowCount v4 v2 σ (fun r_94 σ_93 => t_solvePair_j157 G v3 (w32 (bShl 1 r_94 - 1)) 0 v2 v1 s0 σ_93 Q E))
def t_solvePair_F (G : Orc) (v1 : Int) (v2 : Int) (v3 : Int) (σ : S) (Q : Int → S → Prop) (E : S → Prop) : Prop :=
  t_isVar v1 σ (fun r_2 σ_1 => (if r_2 = 0 then inb v1 200000 ∧ inb (gA σ_1 48 v1) 50 ∧ (if gA σ_1 44 (gA σ_1 48 v1) = 0 then inb v2 200000 ∧ ((gA σ_1 48 v2 = gA σ_1 48 v1) → (inb v2 200000)) ∧ ((gA σ_1 48 v2 = gA σ_1 48 v1) → (inb v1 200000)) ∧ (if (gA σ_1 48 v2 = gA σ_1 48 v1) ∧ (gA σ_1 50 v2 = gA σ_1 50 v1) then inb v1 200000 ∧ t_solvePair_L204 G v1 v2 v3 (gA σ_1 48 v1) v3 (w32 (gA σ_1 50 v1 - 1)) σ_1 Q E else t_solvePair_j303 G v1 v2 v3 (gA σ_1 48 v1) σ_1 Q E) else inb (gA σ_1 48 v1) 50 ∧ (if gA σ_1 45 (gA σ_1 48 v1) = 0 then t_solvePair_j129 G v1 v2 v3 (gA σ_1 48 v1) 1 σ_1 Q E else t_solvePair_j129 G v1 v2 v3 (gA σ_1 48 v1) 2 σ_1 Q E)) else t_varOf v1 σ_1 (fun r_96 σ_95 => inb r_96 60 ∧ (if gA σ_95 78 r_96 < 0 then inb v2 200000 ∧ (if gA σ_95 52 v2 < 0 then Q 0 σ_95 else inb v2 200000 ∧ t_sortOfVar r_96 σ_95 (fun r_108 σ_107 => t_isBelow (gA σ_95 52 v2) r_108 σ_107 (fun r_110 σ_109 => (if r_110 = 0 then Q 0 σ_109 else inb r_96 60 ∧ ∀ σ_113, σ_113 = pA σ_109 78 r_96 v2 → G 0 [v3] σ_113 (fun _ σ_116 => inb r_96 60 ∧ ∀ σ_118, σ_118 = pA σ_116 78 r_96 (-1) → Q 0 σ_118) E)))) else inb r_96 60 ∧ (if gA σ_95 78 r_96 = v2 then G 0 [v3] σ_95 (fun _ σ_125 => Q 0 σ_125) E else Q 0 σ_95)))))
def t_solveSide_j227 (G : Orc) (v1 : Int) (v2 : Int) (v3 : Int) (v4 : Int) (v5 : Int) (v6 : Int) (v9 : Int) (v10 : Int) (v12 : Int) (σ : S) (Q : Int → S → Prop) (E : S → Prop) (X141 : Int → S → Prop) : Prop :=
  X141 (w32 (v12 + 1)) σ
def t_solveSide_L141 (G : Orc) (v1 : Int) (v2 : Int) (v3 : Int) (v4 : Int) (v5 : Int) (v6 : Int) (v9 : Int) (v10 : Int) (v12 : Int) (σ : S) (Q : Int → S → Prop) (E : S → Prop) : Prop :=
  ∀ X141 : Int → S → Prop, (∀ (v12 : Int) (σ : S), ((if v12 ≤ v10 then t_mayTake v6 v9 v12 σ (fun r_32 σ_31 => (if r_32 = 0 then t_solveSide_j227 G v1 v2 v3 v4 v5 v6 v9 v10 v12 σ_31 Q E X141 else t_segment v6 v3 v5 v12 σ_31 (fun r_36 σ_35 => inb v1 4000 ∧ t_goal 1 v2 v3 (w32 (v4 + 1)) (w32 (v5 + v12)) (gA σ_35 77 v1) σ_35 (fun r_41 σ_40 => t_goal 0 v9 r_36 0 0 r_41 σ_40 (fun r_43 σ_42 => G 0 [r_43] σ_42 (fun _ σ_44 => ∀ σ_46, σ_46 = pI σ_44 110 (gI σ_35 110) → t_solveSide_j227 G v1 v2 v3 v4 v5 v6 v9 v10 v12 σ_46 Q E X141) E))))) else Q 0 σ)) → X141 v12 σ) → X141 v12 σ
def t_solveSide_F (G : Orc) (v1 : Int) (σ : S) (Q : Int → S → Prop) (E : S → Prop) : Prop :=
  inb v1 4000 ∧ inb v1 4000 ∧ inb v1 4000 ∧ inb v1 4000 ∧ inb (gA σ 73 v1) 200000 ∧ t_rowCount (gA σ 48 (gA σ 73 v1)) (gA σ 74 v1) σ (fun r_12 σ_11 => inb (gA σ 73 v1) 200000 ∧ (if w32 (gA σ_11 50 (gA σ 73 v1) - (gA σ 75 v1)) = 0 then (if gA σ 76 v1 = r_12 then inb v1 4000 ∧ G 0 [(gA σ_11 77 v1)] σ_11 (fun _ σ_52 => Q 0 σ_52) E else Q 0 σ_11) else t_arg (gA σ 73 v1) (gA σ 75 v1) σ_11 (fun r_18 σ_17 => inb (gA σ 48 (gA σ 73 v1)) 50 ∧ t_solveSide_L141 G v1 (gA σ 73 v1) (gA σ 74 v1) (gA σ 75 v1) (gA σ 76 v1) (gA σ 48 (gA σ 73 v1)) r_18 (if gA σ_17 46 (gA σ 48 (gA σ 73 v1)) < 0 then w32 (w32 (r_12 - (gA σ 76 v1)) - (w32 (w32 (gA σ_11 50 (gA σ 73 v1) - (gA σ 75 v1)) - 1))) else w32 (r_12 - (gA σ 76 v1))) (if w32 (gA σ_11 50 (gA σ 73 v1) - (gA σ 75 v1)) = 1 then w32 (r_12 - (gA σ 76 v1)) else 0) σ_17 Q E)))
def t_solveAny_j204 (G : Orc) (v1 : Int) (v2 : Int) (v3 : Int) (v4 : Int) (v5 : Int) (v6 : Int) (v7 : Int) (v8 : Int) (v9 : Int) (σ : S) (Q : Int → S → Prop) (E : S → Prop) (X104 : Int → S → Prop) : Prop :=
  X104 (if v9 = 0 then (-1) else bAnd (w32 (v9 - 1)) v5) σ
def t_solveAny_L104 (G : Orc) (v1 : Int) (v2 : Int) (v3 : Int) (v4 : Int) (v5 : Int) (v6 : Int) (v7 : Int) (v8 : Int) (v9 : Int) (σ : S) (Q : Int → S → Prop) (E : S → Prop) : Prop :=
  ∀ X104 : Int → S → Prop, (∀ (v9 : Int) (σ : S), ((if v9 < 0 then Q 0 σ else (if ¬ (v7 ≤ 1) ∨ (v9 = v5) then t_bits v9 σ (fun r_26 σ_25 => t_mayTake v6 v8 r_26 σ_25 (fun r_28 σ_27 => (if r_28 = 0 then t_solveAny_j204 G v1 v2 v3 v4 v5 v6 v7 v8 v9 σ_27 Q E X104 else t_chosen v6 v3 v9 σ_27 (fun r_36 σ_35 => inb v1 4000 ∧ t_goal 2 v2 v3 (w32 (v4 + 1)) (bAnd v5 (bXor v9 (-1))) (gA σ_35 77 v1) σ_35 (fun r_41 σ_40 => t_goal 0 v8 r_36 0 0 r_41 σ_40 (fun r_43 σ_42 => G 0 [r_43] σ_42 (fun _ σ_44 => ∀ σ_46, σ_46 = pI σ_44 110 (gI σ_35 110) → t_solveAny_j204 G v1 v2 v3 v4 v5 v6 v7 v8 v9 σ_46 Q E X104) E)))))) else t_solveAny_j204 G v1 v2 v3 v4 v5 v6 v7 v8 v9 σ Q E X104))) → X104 v9 σ) → X104 v9 σ
def t_solveAny_j91 (G : Orc) (v1 : Int) (v2 : Int) (v3 : Int) (v4 : Int) (v5 : Int) (v6 : Int) (v7 : Int) (σ : S) (Q : Int → S → Prop) (E : S → Prop) : Prop :=
  t_arg v2 v4 σ (fun r_20 σ_19 => t_solveAny_L104 G v1 v2 v3 v4 v5 v6 v7 r_20 v5 σ_19 Q E)
def t_solveAny_F (G : Orc) (v1 : Int) (σ : S) (Q : Int → S → Prop) (E : S → Prop) : Prop :=
  inb v1 4000 ∧ inb v1 4000 ∧ inb v1 4000 ∧ inb v1 4000 ∧ inb (gA σ 73 v1) 200000 ∧ inb (gA σ 73 v1) 200000 ∧ (if w32 (gA σ 50 (gA σ 73 v1) - (gA σ 75 v1)) = 0 then (if gA σ 76 v1 = 0 then inb v1 4000 ∧ G 0 [(gA σ 77 v1)] σ (fun _ σ_59 => Q 0 σ_59) E else Q 0 σ) else inb (gA σ 48 (gA σ 73 v1)) 50 ∧ (if gA σ 46 (gA σ 48 (gA σ 73 v1)) < 0 then t_bits (gA σ 76 v1) σ (fun r_52 σ_51 => (if r_52 < w32 (gA σ 50 (gA σ 73 v1) - (gA σ 75 v1)) then Q 0 σ_51 else t_solveAny_j91 G v1 (gA σ 73 v1) (gA σ 74 v1) (gA σ 75 v1) (gA σ 76 v1) (gA σ 48 (gA σ 73 v1)) (w32 (gA σ 50 (gA σ 73 v1) - (gA σ 75 v1))) σ_51 Q E)) else t_solveAny_j91 G v1 (gA σ 73 v1) (gA σ 74 v1) (gA σ 75 v1) (gA σ 76 v1) (gA σ 48 (gA σ 73 v1)) (w32 (gA σ 50 (gA σ 73 v1) - (gA σ 75 v1))) σ Q E))
def t_S_solve : Nat → Orc
  | 0 => fun _ _ _ _ _ => False
  | n + 1 => fun i a σ Q E => match i, a with
    | 0, [v1] => t_solve_F (t_S_solve n) v1 σ Q E
    | 1, [v1, v2, v3] => t_solvePair_F (t_S_solve n) v1 v2 v3 σ Q E
    | 2, [v1] => t_solveSide_F (t_S_solve n) v1 σ Q E
    | 3, [v1] => t_solveAny_F (t_S_solve n) v1 σ Q E
    | _, _ => False
def t_solve (v1 : Int) (σ : S) (Q : Int → S → Prop) (E : S → Prop) : Prop := t_S_solve 420 0 [v1] σ Q E
def t_solvePair (v1 : Int) (v2 : Int) (v3 : Int) (σ : S) (Q : Int → S → Prop) (E : S → Prop) : Prop := t_S_solve 420 1 [v1, v2, v3] σ Q E
def t_solveSide (v1 : Int) (σ : S) (Q : Int → S → Prop) (E : S → Prop) : Prop := t_S_solve 420 2 [v1] σ Q E
def t_solveAny (v1 : Int) (σ : S) (Q : Int → S → Prop) (E : S → Prop) : Prop := t_S_solve 420 3 [v1] σ Q E
def t_assocIn_L40 (G : Orc) (v1 : Int) (v2 : Int) (v4 : Int) (σ : S) (Q : Int → S → Prop) : Prop :=
  ∀ X40 : Int → Int → S → Prop, (∀ (v2 : Int) (v4 : Int) (σ : S), (inb v1 200000 ∧ (if v4 < gA σ 50 v1 then t_arg v1 v4 σ (fun r_20 σ_19 => G 0 [r_20] σ_19 (fun r_22 σ_21 => X40 (lOr v2 r_22) (w32 (v4 + 1)) σ_21) (fun _ => False)) else Q v2 σ)) → X40 v2 v4 σ) → X40 v2 v4 σ
def t_assocIn_F (G : Orc) (v1 : Int) (σ : S) (Q : Int → S → Prop) : Prop :=
  t_isVar v1 σ (fun r_2 σ_1 => (if r_2 = 0 then inb v1 200000 ∧ inb (gA σ_1 48 v1) 50 ∧ ((¬ gA σ_1 44 (gA σ_1 48 v1) = 0) → (inb v1 200000)) ∧ t_assocIn_L40 G v1 (if gA σ_1 44 (gA σ_1 48 v1) = 0 then 0 else lShl 1 (gA σ_1 48 v1)) 0 σ_1 Q else Q 0 σ_1))
def t_S_assocIn : Nat → Orc
  | 0 => fun _ _ _ _ _ => False
  | n + 1 => fun i a σ Q E => match i, a with
    | 0, [v1] => t_assocIn_F (t_S_assocIn n) v1 σ Q
    | _, _ => False
def t_assocIn (v1 : Int) (σ : S) (Q : Int → S → Prop) : Prop := t_S_assocIn 44 0 [v1] σ Q (fun _ => False)
def t_isWide_L41 (G : Orc) (v1 : Int) (v2 : Int) (v4 : Int) (σ : S) (Q : Int → S → Prop) : Prop :=
  ∀ X41 : Int → S → Prop, (∀ (v4 : Int) (σ : S), (inb v1 200000 ∧ (if v4 < gA σ 50 v1 then t_arg v1 v4 σ (fun r_16 σ_15 => G 0 [r_16, v2] σ_15 (fun r_18 σ_17 => (if r_18 = 0 then X41 (w32 (v4 + 1)) σ_17 else Q 1 σ_17)) (fun _ => False)) else Q 0 σ)) → X41 v4 σ) → X41 v4 σ
def t_isWide_F (G : Orc) (v1 : Int) (v2 : Int) (σ : S) (Q : Int → S → Prop) : Prop :=
  t_isVar v1 σ (fun r_2 σ_1 => (if r_2 = 0 then inb v1 200000 ∧ ((¬ gA σ_1 50 v1 ≤ 6) → (inb v1 200000)) ∧ (if ¬ (gA σ_1 50 v1 ≤ 6) ∧ (cmpI (lAnd (lShr v2 (gA σ_1 48 v1)) 1) 1 = 0) then Q 1 σ_1 else t_isWide_L41 G v1 v2 0 σ_1 Q) else Q 0 σ_1))
def t_S_isWide : Nat → Orc
  | 0 => fun _ _ _ _ _ => False
  | n + 1 => fun i a σ Q E => match i, a with
    | 0, [v1, v2] => t_isWide_F (t_S_isWide n) v1 v2 σ Q
    | _, _ => False
def t_isWide (v1 : Int) (v2 : Int) (σ : S) (Q : Int → S → Prop) : Prop := t_S_isWide 44 0 [v1, v2] σ Q (fun _ => False)
def t_longest_L44 (G : Orc) (v1 : Int) (v2 : Int) (v3 : Int) (v4 : Int) (σ : S) (Q : Int → S → Prop) : Prop :=
  ∀ X44 : Int → Int → S → Prop, (∀ (v3 : Int) (v4 : Int) (σ : S), (inb v2 200000 ∧ (if v4 < gA σ 50 v2 then t_arg v2 v4 σ (fun r_21 σ_20 => G 0 [v1, r_21] σ_20 (fun r_23 σ_22 => X44 (if r_23 ≤ v3 then v3 else r_23) (w32 (v4 + 1)) σ_22) (fun _ => False)) else Q v3 σ)) → X44 v3 v4 σ) → X44 v3 v4 σ
def t_longest_F (G : Orc) (v1 : Int) (v2 : Int) (σ : S) (Q : Int → S → Prop) : Prop :=
  t_isVar v2 σ (fun r_2 σ_1 => (if r_2 = 0 then inb v2 200000 ∧ ((gA σ_1 48 v2 = v1) → (inb v2 200000)) ∧ ((gA σ_1 48 v2 = v1) → (¬ gA σ_1 50 v2 ≤ 1) → (inb v2 200000)) ∧ t_longest_L44 G v1 v2 (if gA σ_1 48 v2 = v1 then (if gA σ_1 50 v2 ≤ 1 then 1 else gA σ_1 50 v2) else 1) 0 σ_1 Q else Q 1 σ_1))
def t_S_longest : Nat → Orc
  | 0 => fun _ _ _ _ _ => False
  | n + 1 => fun i a σ Q E => match i, a with
    | 0, [v1, v2] => t_longest_F (t_S_longest n) v1 v2 σ Q
    | _, _ => False
def t_longest (v1 : Int) (v2 : Int) (σ : S) (Q : Int → S → Prop) : Prop := t_S_longest 44 0 [v1, v2] σ Q (fun _ => False)
def t_dealsOf_j172 (G : Orc) (v4 : Int) (σ : S) (Q : Int → S → Prop) : Prop :=
  Q (if cmpI v4 3000000 ≤ 0 then v4 else 3000001) σ
def t_dealsOf_L129 (G : Orc) (v1 : Int) (v2 : Int) (v4 : Int) (v7 : Int) (σ : S) (Q : Int → S → Prop) : Prop :=
  ∀ X129 : Int → Int → S → Prop, (∀ (v4 : Int) (v7 : Int) (σ : S), (inb v1 200000 ∧ (if (v7 < gA σ 50 v1) ∧ (cmpI v4 3000000 ≤ 0) then t_arg v1 v7 σ (fun r_27 σ_26 => G 0 [r_27, v2] σ_26 (fun r_29 σ_28 => X129 (w64 (v4 * r_29)) (w32 (v7 + 1)) σ_28) (fun _ => False)) else t_dealsOf_j172 G v4 σ Q)) → X129 v4 v7 σ) → X129 v4 v7 σ
def t_dealsOf_j126 (G : Orc) (v1 : Int) (v2 : Int) (v4 : Int) (σ : S) (Q : Int → S → Prop) : Prop :=
  t_dealsOf_L129 G v1 v2 v4 0 σ Q
def t_dealsOf_L68 (G : Orc) (v1 : Int) (v2 : Int) (v3 : Int) (v4 : Int) (v6 : Int) (v7 : Int) (σ : S) (Q : Int → S → Prop) : Prop :=
  ∀ X68 : Int → Int → S → Prop, (∀ (v4 : Int) (v7 : Int) (σ : S), ((if v7 ≤ v6 then inb v3 50 ∧ ((gA σ 45 v3 = 0) → (inb v1 200000)) ∧ ((gA σ 45 v3 = 0) → (v7 ≠ 0)) ∧ ((¬ gA σ 45 v3 = 0) → (inb v1 200000)) ∧ X68 (if gA σ 45 v3 = 0 then w64 (Int.tdiv (w64 (v4 * (w32 (w32 (gA σ 50 v1 + 1) + v7)))) v7) else w64 (v4 * (w32 (gA σ 50 v1 + 1)))) (w32 (v7 + 1)) σ else t_dealsOf_j126 G v1 v2 v4 σ Q)) → X68 v4 v7 σ) → X68 v4 v7 σ
def t_dealsOf_j63 (G : Orc) (v1 : Int) (v2 : Int) (v3 : Int) (v4 : Int) (s0 : Int) (σ : S) (Q : Int → S → Prop) : Prop :=
  t_dealsOf_L68 G v1 v2 v3 v4 s0 1 σ Q
def t_dealsOf_F (G : Orc) (v1 : Int) (v2 : Int) (σ : S) (Q : Int → S → Prop) : Prop :=
  t_isVar v1 σ (fun r_2 σ_1 => (if r_2 = 0 then inb v1 200000 ∧ inb (gA σ_1 48 v1) 50 ∧ ((¬ gA σ_1 45 (gA σ_1 48 v1) = 0) → (inb (gA σ_1 48 v1) 50)) ∧ inb (gA σ_1 48 v1) 50 ∧ (if gA σ_1 44 (gA σ_1 48 v1) = 0 then t_dealsOf_j63 G v1 v2 (gA σ_1 48 v1) (if gA σ_1 45 (gA σ_1 48 v1) = 0 then 1 else (if gA σ_1 44 (gA σ_1 48 v1) = 0 then 2 else 1)) 0 σ_1 Q else t_longest (gA σ_1 48 v1) v2 σ_1 (fun r_49 σ_48 => t_dealsOf_j63 G v1 v2 (gA σ_1 48 v1) (if gA σ_1 45 (gA σ_1 48 v1) = 0 then 1 else (if gA σ_1 44 (gA σ_1 48 v1) = 0 then 2 else 1)) r_49 σ_48 Q)) else Q 1 σ_1))
def t_S_dealsOf : Nat → Orc
  | 0 => fun _ _ _ _ _ => False
  | n + 1 => fun i a σ Q E => match i, a with
    | 0, [v1, v2] => t_dealsOf_F (t_S_dealsOf n) v1 v2 σ Q
    | _, _ => False
def t_dealsOf (v1 : Int) (v2 : Int) (σ : S) (Q : Int → S → Prop) : Prop := t_S_dealsOf 44 0 [v1, v2] σ Q (fun _ => False)
def t_listWithin_j208 (v1 : Int) (v2 : Int) (v3 : Int) (v4 : Int) (v5 : Int) (σ : S) (Q : Int → S → Prop) (E : S → Prop) (X101 : Int → S → Prop) : Prop :=
  X101 (w32 (v5 + 1)) σ
def t_listWithin_j168 (v1 : Int) (v2 : Int) (v3 : Int) (v4 : Int) (v5 : Int) (v6 : Int) (s0 : Int) (σ : S) (Q : Int → S → Prop) (E : S → Prop) (X101 : Int → S → Prop) (X114 : Int → S → Prop) : Prop :=
  ∀ σ_21, σ_21 = pI σ 118 s0 → ∀ σ_23, σ_23 = pI σ_21 110 0 → t_segment v3 v2 v5 (w32 (v6 - v5)) σ_23 (fun r_26 σ_25 => t_goal 0 v1 r_26 0 0 (-1) σ_25 (fun r_28 σ_27 => t_solve r_28 σ_27 (fun _ σ_29 => X114 (w32 (v6 + 1)) σ_29) E))
def t_listWithin_j140 (v1 : Int) (v2 : Int) (v3 : Int) (v4 : Int) (v5 : Int) (v6 : Int) (s0 : Int) (σ : S) (Q : Int → S → Prop) (E : S → Prop) (X101 : Int → S → Prop) (X114 : Int → S → Prop) : Prop :=
  ∀ σ_15, σ_15 = pI σ 117 s0 → (if v6 = v4 then t_listWithin_j168 v1 v2 v3 v4 v5 v6 (-1) σ_15 Q E X101 X114 else t_segment v3 v2 v6 (w32 (v4 - v6)) σ_15 (fun r_20 σ_19 => t_listWithin_j168 v1 v2 v3 v4 v5 v6 r_20 σ_19 Q E X101 X114))
def t_listWithin_L114 (v1 : Int) (v2 : Int) (v3 : Int) (v4 : Int) (v5 : Int) (v6 : Int) (σ : S) (Q : Int → S → Prop) (E : S → Prop) (X101 : Int → S → Prop) : Prop :=
  ∀ X114 : Int → S → Prop, (∀ (v6 : Int) (σ : S), ((if v6 ≤ v4 then (if v5 = 0 then t_listWithin_j140 v1 v2 v3 v4 v5 v6 (-1) σ Q E X101 X114 else t_segment v3 v2 0 v5 σ (fun r_14 σ_13 => t_listWithin_j140 v1 v2 v3 v4 v5 v6 r_14 σ_13 Q E X101 X114)) else t_listWithin_j208 v1 v2 v3 v4 v5 σ Q E X101)) → X114 v6 σ) → X114 v6 σ
def t_listWithin_L101 (v1 : Int) (v2 : Int) (v3 : Int) (v4 : Int) (v5 : Int) (σ : S) (Q : Int → S → Prop) (E : S → Prop) : Prop :=
  ∀ X101 : Int → S → Prop, (∀ (v5 : Int) (σ : S), ((if v5 < v4 then t_listWithin_L114 v1 v2 v3 v4 v5 (w32 (v5 + 1)) σ Q E X101 else Q 0 σ)) → X101 v5 σ) → X101 v5 σ
def t_listWithin_j95 (σ : S) (Q : Int → S → Prop) (E : S → Prop) : Prop :=
  Q 0 σ
def t_listWithin_j60 (v1 : Int) (v2 : Int) (v3 : Int) (v5 : Int) (v6 : Int) (s0 : Int) (σ : S) (Q : Int → S → Prop) (E : S → Prop) (X28 : Int → S → Prop) : Prop :=
  ∀ σ_37, σ_37 = pI σ 118 s0 → ∀ σ_39, σ_39 = pI σ_37 110 0 → t_chosen v3 v2 v6 σ_39 (fun r_42 σ_41 => t_goal 0 v1 r_42 0 0 (-1) σ_41 (fun r_44 σ_43 => t_solve r_44 σ_43 (fun _ σ_45 => X28 (w32 (v6 + 1)) σ_45) E))
def t_listWithin_L28 (v1 : Int) (v2 : Int) (v3 : Int) (v5 : Int) (v6 : Int) (σ : S) (Q : Int → S → Prop) (E : S → Prop) : Prop :=
  ∀ X28 : Int → S → Prop, (∀ (v6 : Int) (σ : S), ((if v6 ≤ v5 then (if v6 = v5 then t_listWithin_j60 v1 v2 v3 v5 v6 (-1) σ Q E X28 else t_chosen v3 v2 (bAnd v5 (bXor v6 (-1))) σ (fun r_36 σ_35 => t_listWithin_j60 v1 v2 v3 v5 v6 r_36 σ_35 Q E X28)) else t_listWithin_j95 σ Q E)) → X28 v6 σ) → X28 v6 σ
def t_listWithin (v1 : Int) (v2 : Int) (v3 : Int) (σ : S) (Q : Int → S → Prop) (E : S → Prop) : Prop :=
  inb v2 200000 ∧ inb v3 50 ∧ (if gA σ 45 v3 = 0 then t_listWithin_L101 v1 v2 v3 (gA σ 50 v2) 0 σ Q E else t_listWithin_L28 v1 v2 v3 (w32 (bShl 1 (gA σ 50 v2) - 1)) 1 σ Q E)
def t_list_j244 (σ : S) (Q : Int → S → Prop) (E : S → Prop) : Prop :=
  ∀ σ_56, σ_56 = pI σ 113 (w32 (gI σ 114 + (w32 (64 * (gI σ 115))))) → Q (gI σ_56 115) σ_56
def t_list_j215 (σ : S) (Q : Int → S → Prop) (E : S → Prop) : Prop :=
  ∀ σ_49, σ_49 = pI σ 119 (w32 (gI σ 119 + (gI σ 115))) → (if gI σ_49 119 ≤ 6000 then t_list_j244 σ_49 Q E else t_fail 4 0 σ_49 (fun _ σ_59 => t_list_j244 σ_59 Q E) E)
def t_list_j124 (v1 : Int) (v2 : Int) (v3 : Int) (σ : S) (Q : Int → S → Prop) (E : S → Prop) : Prop :=
  t_isVar v1 σ (fun r_24 σ_23 => ((r_24 = 0) → (inb v1 200000)) ∧ ∀ σ_31, σ_31 = pI σ_23 116 (if r_24 = 0 then gA σ_23 48 v1 else (-1)) → ∀ σ_33, σ_33 = pI σ_31 117 (-1) → ∀ σ_35, σ_35 = pI σ_33 118 (-1) → ((¬ v3 = 0) → (¬ (if r_24 = 0 then gA σ_23 48 v1 else (-1)) < 0) → (inb (if r_24 = 0 then gA σ_23 48 v1 else (-1)) 50)) ∧ ((¬ v3 = 0) → (¬ (if r_24 = 0 then gA σ_23 48 v1 else (-1)) < 0) → (¬ gA σ_35 44 (if r_24 = 0 then gA σ_23 48 v1 else (-1)) = 0) → (inb v2 200000)) ∧ (if ¬ (v3 = 0) ∧ (¬ ((if r_24 = 0 then gA σ_23 48 v1 else (-1)) < 0) ∧ (¬ (gA σ_35 44 (if r_24 = 0 then gA σ_23 48 v1 else (-1)) = 0) ∧ (gA σ_35 48 v2 = (if r_24 = 0 then gA σ_23 48 v1 else (-1))))) then t_listWithin v1 v2 (if r_24 = 0 then gA σ_23 48 v1 else (-1)) σ_35 (fun _ σ_45 => t_list_j215 σ_45 Q E) E else t_goal 0 v1 v2 0 0 (-1) σ_35 (fun r_62 σ_61 => t_solve r_62 σ_61 (fun _ σ_63 => t_list_j215 σ_63 Q E) E)))
def t_list_L85 (v1 : Int) (v2 : Int) (v3 : Int) (v4 : Int) (v7 : Int) (σ : S) (Q : Int → S → Prop) (E : S → Prop) : Prop :=
  ∀ X85 : Int → S → Prop, (∀ (v7 : Int) (σ : S), ((if v7 < 60 then ((¬ v4 < 0) → (inb (w32 (v4 + v7)) 460000)) ∧ inb v7 60 ∧ ∀ σ_74, σ_74 = pA σ 78 v7 (if v4 < 0 then (-1) else gA σ 79 (w32 (v4 + v7))) → X85 (w32 (v7 + 1)) σ_74 else t_list_j124 v1 v2 v3 σ Q E)) → X85 v7 σ) → X85 v7 σ
def t_list_j64 (v1 : Int) (v2 : Int) (v3 : Int) (v4 : Int) (σ : S) (Q : Int → S → Prop) (E : S → Prop) : Prop :=
  ∀ σ_15, σ_15 = pI σ 114 (gI σ 113) → ∀ σ_17, σ_17 = pI σ_15 115 0 → ∀ σ_19, σ_19 = pI σ_17 110 0 → t_list_L85 v1 v2 v3 v4 0 σ_19 Q E
def t_list_j30 (v1 : Int) (v2 : Int) (v3 : Int) (v4 : Int) (σ : S) (Q : Int → S → Prop) (E : S → Prop) : Prop :=
  t_dealsOf v1 v2 σ (fun r_7 σ_6 => ∀ σ_8, σ_8 = pL σ_6 123 (w64 ((gL σ 123) + r_7)) → (if cmpI (gL σ_8 123) (gI σ_8 122) ≤ 0 then t_list_j64 v1 v2 v3 v4 σ_8 Q E else t_fail 4 0 σ_8 (fun _ σ_77 => t_list_j64 v1 v2 v3 v4 σ_77 Q E) E))
def t_list (v1 : Int) (v2 : Int) (v3 : Int) (v4 : Int) (σ : S) (Q : Int → S → Prop) (E : S → Prop) : Prop :=
  t_assocIn v1 σ (fun r_2 σ_1 => (if cmpI r_2 0 = 0 then t_list_j30 v1 v2 v3 v4 σ_1 Q E else t_isWide v2 r_2 σ_1 (fun r_80 σ_79 => (if r_80 = 0 then t_list_j30 v1 v2 v3 v4 σ_79 Q E else t_fail 3 0 σ_79 (fun _ σ_83 => t_list_j30 v1 v2 v3 v4 σ_83 Q E) E))))
def t_fill (v1 : Int) (σ : S) (Q : Int → S → Prop) (E : S → Prop) : Prop :=
  ∀ σ_2, σ_2 = pI σ 124 (w32 (gI σ 124 + v1)) → (if gI σ_2 124 ≤ 4000 then Q 0 σ_2 else t_fail 7 0 σ_2 (fun _ σ_7 => Q 0 σ_7) E)
def t_put_j87 (G : Orc) (v1 : Int) (v3 : Int) (σ : S) (Q : Int → S → Prop) : Prop :=
  inb v1 200000 ∧ t_make (gA σ 48 v1) v3 σ (fun r_17 σ_16 => Q r_17 σ_16)
def t_put_L50 (G : Orc) (v1 : Int) (v2 : Int) (v3 : Int) (v4 : Int) (σ : S) (Q : Int → S → Prop) : Prop :=
  ∀ X50 : Int → S → Prop, (∀ (v4 : Int) (σ : S), (inb v1 200000 ∧ (if v4 < gA σ 50 v1 then t_arg v1 v4 σ (fun r_19 σ_18 => G 0 [r_19, v2] σ_18 (fun r_21 σ_20 => t_push r_21 σ_20 (fun _ σ_22 => X50 (w32 (v4 + 1)) σ_22)) (fun _ => False)) else t_put_j87 G v1 v3 σ Q)) → X50 v4 σ) → X50 v4 σ
def t_put_F (G : Orc) (v1 : Int) (v2 : Int) (σ : S) (Q : Int → S → Prop) : Prop :=
  t_isVar v1 σ (fun r_2 σ_1 => (if r_2 = 0 then inb v1 200000 ∧ (if gA σ_1 50 v1 = 0 then Q v1 σ_1 else t_put_L50 G v1 v2 (gI σ_1 83) 0 σ_1 Q) else t_varOf v1 σ_1 (fun r_24 σ_23 => inb (w32 (v2 + r_24)) 460000 ∧ Q (if gA σ_23 79 (w32 (v2 + r_24)) < 0 then v1 else gA σ_23 79 (w32 (v2 + r_24))) σ_23)))
def t_S_put : Nat → Orc
  | 0 => fun _ _ _ _ _ => False
  | n + 1 => fun i a σ Q E => match i, a with
    | 0, [v1, v2] => t_put_F (t_S_put n) v1 v2 σ Q
    | _, _ => False
def t_put (v1 : Int) (v2 : Int) (σ : S) (Q : Int → S → Prop) : Prop := t_S_put 44 0 [v1, v2] σ Q (fun _ => False)
def t_putIn (v1 : Int) (v2 : Int) (σ : S) (Q : Int → S → Prop) (E : S → Prop) : Prop :=
  t_put v1 v2 σ (fun r_2 σ_1 => inb r_2 200000 ∧ (if gA σ_1 51 r_2 ≤ 40 then Q r_2 σ_1 else t_fail 6 0 σ_1 (fun _ σ_7 => Q r_2 σ_7) E))
def t_beside_j67 (v1 : Int) (v6 : Int) (σ : S) (Q : Int → S → Prop) (E : S → Prop) : Prop :=
  t_make v1 v6 σ (fun r_14 σ_13 => inb r_14 200000 ∧ (if gA σ_13 51 r_14 ≤ 40 then Q r_14 σ_13 else t_fail 6 0 σ_13 (fun _ σ_19 => Q r_14 σ_19) E))
def t_beside_j51 (v1 : Int) (v2 : Int) (v5 : Int) (v6 : Int) (σ : S) (Q : Int → S → Prop) (E : S → Prop) : Prop :=
  t_push v2 σ (fun _ σ_10 => (if v5 < 0 then t_beside_j67 v1 v6 σ_10 Q E else t_push v5 σ_10 (fun _ σ_21 => t_beside_j67 v1 v6 σ_21 Q E)))
def t_beside (v1 : Int) (v2 : Int) (v3 : Int) (σ : S) (Q : Int → S → Prop) (E : S → Prop) : Prop :=
  inb (w32 (v3 + 60)) 460000 ∧ inb (w32 (v3 + 61)) 460000 ∧ (if (gA σ 79 (w32 (v3 + 60)) < 0) ∧ (gA σ 79 (w32 (v3 + 61)) < 0) then Q v2 σ else (if gA σ 79 (w32 (v3 + 60)) < 0 then t_beside_j51 v1 v2 (gA σ 79 (w32 (v3 + 61))) (gI σ 83) σ Q E else t_push (gA σ 79 (w32 (v3 + 60))) σ (fun _ σ_22 => t_beside_j51 v1 v2 (gA σ 79 (w32 (v3 + 61))) (gI σ 83) σ_22 Q E)))
def t_oneStep (σ : S) (Q : Int → S → Prop) (E : S → Prop) : Prop :=
  ∀ σ_2, σ_2 = pI σ 120 (w32 (gI σ 120 + 1)) → (if gI σ_2 120 ≤ 600 then Q 0 σ_2 else t_fail 1 0 σ_2 (fun _ σ_7 => Q 0 σ_7) E)
def t_memo (v1 : Int) (σ : S) (Q : Int → S → Prop) : Prop :=
  inb v1 200000 ∧ ((gA σ 55 v1 = gI σ 121) → (inb v1 200000)) ∧ Q (if gA σ 55 v1 = gI σ 121 then gA σ 54 v1 else (-1)) σ
def t_remember (v1 : Int) (v2 : Int) (σ : S) (Q : Int → S → Prop) : Prop :=
  inb v1 200000 ∧ ∀ σ_2, σ_2 = pA σ 55 v1 (gI σ 121) → inb v1 200000 ∧ ∀ σ_5, σ_5 = pA σ_2 54 v1 v2 → Q 0 σ_5
def t_reduced_L211 (G : Orc) (v3 : Int) (v5 : Int) (σ : S) (Q : Int → S → Prop) (E : S → Prop) : Prop :=
  ∀ X211 : S → Prop, (∀ (σ : S), ((if gI σ 126 ≤ v3 then Q v5 σ else ∀ σ_12, σ_12 = pI σ 126 (w32 (gI σ 126 - 1)) → inb (gI σ_12 126) 60000 ∧ t_remember (gA σ_12 80 (gI σ_12 126)) v5 σ_12 (fun _ σ_17 => X211 σ_17))) → X211  σ) → X211  σ
def t_reduced_j208 (G : Orc) (v2 : Int) (v3 : Int) (v4 : Int) (v5 : Int) (σ : S) (Q : Int → S → Prop) (E : S → Prop) (X21 : Int → Int → S → Prop) : Prop :=
  X21 v4 v5 σ
def t_reduced_j182 (G : Orc) (v2 : Int) (v3 : Int) (v6 : Int) (σ : S) (Q : Int → S → Prop) (E : S → Prop) (X21 : Int → Int → S → Prop) : Prop :=
  G 2 [v6, v2] σ (fun r_45 σ_44 => t_reduced_j208 G v2 v3 r_45 (if r_45 < 0 then v6 else (-1)) σ_44 Q E X21) E
def t_reduced_j154 (G : Orc) (v2 : Int) (v3 : Int) (v4 : Int) (v6 : Int) (σ : S) (Q : Int → S → Prop) (E : S → Prop) (X21 : Int → Int → S → Prop) : Prop :=
  (if v6 = v4 then t_reduced_j182 G v2 v3 v6 σ Q E X21 else inb (gI σ 126) 60000 ∧ ∀ σ_52, σ_52 = pA σ 80 (gI σ 126) v6 → ∀ σ_56, σ_56 = pI σ_52 126 (w32 (gI σ_52 126 + 1)) → t_reduced_j182 G v2 v3 v6 σ_56 Q E X21)
def t_reduced_j127 (G : Orc) (v2 : Int) (v3 : Int) (v4 : Int) (v6 : Int) (σ : S) (Q : Int → S → Prop) (E : S → Prop) (X21 : Int → Int → S → Prop) : Prop :=
  (if v6 = v4 then t_reduced_j154 G v2 v3 v4 v6 σ Q E X21 else t_memo v6 σ (fun r_59 σ_58 => (if r_59 < 0 then t_reduced_j154 G v2 v3 v4 v6 σ_58 Q E X21 else t_memo v6 σ_58 (fun r_63 σ_62 => t_reduced_j208 G v2 v3 v4 r_63 σ_62 Q E X21))))
def t_reduced_j74 (G : Orc) (v2 : Int) (v3 : Int) (v4 : Int) (σ : S) (Q : Int → S → Prop) (E : S → Prop) (X21 : Int → Int → S → Prop) : Prop :=
  inb (gI σ 126) 60000 ∧ ∀ σ_29, σ_29 = pA σ 80 (gI σ 126) v4 → ∀ σ_33, σ_33 = pI σ_29 126 (w32 (gI σ_29 126 + 1)) → G 1 [v4, v2] σ_33 (fun r_36 σ_35 => (if r_36 = v4 then t_reduced_j127 G v2 v3 v4 r_36 σ_35 Q E X21 else t_isVar r_36 σ_35 (fun r_65 σ_64 => (if r_65 = 0 then t_reduced_j127 G v2 v3 v4 r_36 σ_64 Q E X21 else t_reduced_j208 G v2 v3 v4 r_36 σ_64 Q E X21)))) E
def t_reduced_L21 (G : Orc) (v2 : Int) (v3 : Int) (v4 : Int) (v5 : Int) (σ : S) (Q : Int → S → Prop) (E : S → Prop) : Prop :=
  ∀ X21 : Int → Int → S → Prop, (∀ (v4 : Int) (v5 : Int) (σ : S), ((if v5 < 0 then t_isVar v4 σ (fun r_19 σ_18 => (if r_19 = 0 then t_memo v4 σ_18 (fun r_23 σ_22 => (if r_23 < 0 then (if v2 ≤ 60 then t_reduced_j74 G v2 v3 v4 σ_22 Q E X21 else t_fail 5 0 σ_22 (fun _ σ_68 => t_reduced_j74 G v2 v3 v4 σ_68 Q E X21) E) else t_memo v4 σ_22 (fun r_71 σ_70 => X21 v4 r_71 σ_70))) else X21 v4 v4 σ_18)) else t_reduced_L211 G v3 v5 σ Q E)) → X21 v4 v5 σ) → X21 v4 v5 σ
def t_reduced_F (G : Orc) (v1 : Int) (v2 : Int) (σ : S) (Q : Int → S → Prop) (E : S → Prop) : Prop :=
  t_isVar v1 σ (fun r_2 σ_1 => (if r_2 = 0 then t_reduced_L21 G v2 (gI σ_1 126) v1 (-1) σ_1 Q E else Q v1 σ_1))
def t_reduceRow_j58 (G : Orc) (v1 : Int) (v3 : Int) (σ : S) (Q : Int → S → Prop) (E : S → Prop) : Prop :=
  inb v1 200000 ∧ t_make (gA σ 48 v1) v3 σ (fun r_13 σ_12 => inb r_13 200000 ∧ (if gA σ_12 51 r_13 ≤ 40 then Q r_13 σ_12 else t_fail 6 0 σ_12 (fun _ σ_18 => Q r_13 σ_18) E))
def t_reduceRow_L19 (G : Orc) (v1 : Int) (v2 : Int) (v3 : Int) (v4 : Int) (σ : S) (Q : Int → S → Prop) (E : S → Prop) : Prop :=
  ∀ X19 : Int → S → Prop, (∀ (v4 : Int) (σ : S), (inb v1 200000 ∧ (if v4 < gA σ 50 v1 then t_arg v1 v4 σ (fun r_21 σ_20 => G 0 [r_21, (w32 (v2 + 1))] σ_20 (fun r_23 σ_22 => t_push r_23 σ_22 (fun _ σ_25 => X19 (w32 (v4 + 1)) σ_25)) E) else t_reduceRow_j58 G v1 v3 σ Q E)) → X19 v4 σ) → X19 v4 σ
def t_reduceRow_F (G : Orc) (v1 : Int) (v2 : Int) (σ : S) (Q : Int → S → Prop) (E : S → Prop) : Prop :=
  inb v1 200000 ∧ (if gA σ 50 v1 = 0 then Q v1 σ else t_reduceRow_L19 G v1 v2 (gI σ 83) 0 σ Q E)
def t_byEquation_j181 (G : Orc) (v1 : Int) (v2 : Int) (v3 : Int) (σ : S) (Q : Int → S → Prop) (E : S → Prop) (X2 : Int → S → Prop) : Prop :=
  X2 (w32 (v3 + 1)) σ
def t_byEquation_j175 (G : Orc) (v1 : Int) (v2 : Int) (v3 : Int) (v4 : Int) (σ : S) (Q : Int → S → Prop) (E : S → Prop) (X2 : Int → S → Prop) (X10 : Int → S → Prop) : Prop :=
  X10 (w32 (v4 + 1)) σ
def t_byEquation_j169 (G : Orc) (v1 : Int) (v2 : Int) (v3 : Int) (v4 : Int) (v5 : Int) (σ : S) (Q : Int → S → Prop) (E : S → Prop) (X2 : Int → S → Prop) (X10 : Int → S → Prop) : Prop :=
  ∀ σ_18, σ_18 = pI σ 113 v5 → t_byEquation_j175 G v1 v2 v3 v4 σ_18 Q E X2 X10
def t_byEquation_j95 (G : Orc) (v4 : Int) (v5 : Int) (v8 : Int) (v10 : Int) (σ : S) (Q : Int → S → Prop) (E : S → Prop) : Prop :=
  inb v4 70 ∧ inb (gA σ 65 v4) 200000 ∧ t_fill (gA σ 51 (gA σ 65 v4)) σ (fun _ σ_32 => inb v4 70 ∧ inb (gA σ_32 64 v4) 200000 ∧ inb v4 70 ∧ t_putIn (gA σ_32 65 v4) v10 σ_32 (fun r_41 σ_40 => t_beside (gA σ_32 48 (gA σ_32 64 v4)) r_41 v8 σ_40 (fun r_44 σ_43 => t_oneStep σ_43 (fun _ σ_46 => ∀ σ_48, σ_48 = pI σ_46 113 v5 → Q r_44 σ_48) E) E) E) E
def t_byEquation_L55 (G : Orc) (v1 : Int) (v2 : Int) (v3 : Int) (v4 : Int) (v5 : Int) (v6 : Int) (v7 : Int) (σ : S) (Q : Int → S → Prop) (E : S → Prop) (X2 : Int → S → Prop) (X10 : Int → S → Prop) : Prop :=
  ∀ X55 : Int → S → Prop, (∀ (v7 : Int) (σ : S), ((if v7 < v6 then G 5 [v4, 0, (w32 (v5 + (w32 (64 * v7)))), v2] σ (fun r_22 σ_21 => (if r_22 < 0 then ∀ σ_26, σ_26 = pI σ_21 113 (gI σ 113) → X55 (w32 (v7 + 1)) σ_26 else t_byEquation_j95 G v4 v5 (w32 (v5 + (w32 (64 * v7)))) r_22 σ_21 Q E)) E else t_byEquation_j169 G v1 v2 v3 v4 v5 σ Q E X2 X10)) → X55 v7 σ) → X55 v7 σ
def t_byEquation_L10 (G : Orc) (v1 : Int) (v2 : Int) (v3 : Int) (v4 : Int) (σ : S) (Q : Int → S → Prop) (E : S → Prop) (X2 : Int → S → Prop) : Prop :=
  ∀ X10 : Int → S → Prop, (∀ (v4 : Int) (σ : S), ((if v4 < gI σ 45 then inb v4 70 ∧ (if gA σ 23 v4 = v3 then inb v4 70 ∧ t_list (gA σ 64 v4) v1 1 (-1) σ (fun r_14 σ_13 => t_byEquation_L55 G v1 v2 v3 v4 (gI σ 113) r_14 0 σ_13 Q E X2 X10) E else t_byEquation_j175 G v1 v2 v3 v4 σ Q E X2 X10) else t_byEquation_j181 G v1 v2 v3 σ Q E X2)) → X10 v4 σ) → X10 v4 σ
def t_byEquation_L2 (G : Orc) (v1 : Int) (v2 : Int) (v3 : Int) (σ : S) (Q : Int → S → Prop) (E : S → Prop) : Prop :=
  ∀ X2 : Int → S → Prop, (∀ (v3 : Int) (σ : S), ((if v3 < 2 then t_byEquation_L10 G v1 v2 v3 0 σ Q E X2 else Q (-1) σ)) → X2 v3 σ) → X2 v3 σ
def t_byEquation_F (G : Orc) (v1 : Int) (v2 : Int) (σ : S) (Q : Int → S → Prop) (E : S → Prop) : Prop :=
  t_byEquation_L2 G v1 v2 0 σ Q E
def t_reducedPart_F (G : Orc) (v1 : Int) (v2 : Int) (v3 : Int) (σ : S) (Q : Int → S → Prop) (E : S → Prop) : Prop :=
  t_putIn v1 v2 σ (fun r_2 σ_1 => G 0 [r_2, (w32 (v3 + 1))] σ_1 (fun r_5 σ_4 => Q r_5 σ_4) E) E
def t_holdsPart_j73 (G : Orc) (σ : S) (Q : Int → S → Prop) (E : S → Prop) : Prop :=
  Q 0 σ
def t_holdsPart_F (G : Orc) (v1 : Int) (v2 : Int) (v3 : Int) (σ : S) (Q : Int → S → Prop) (E : S → Prop) : Prop :=
  inb v1 420 ∧ inb (gA σ 66 v1) 200000 ∧ t_fill (gA σ 51 (gA σ 66 v1)) σ (fun _ σ_5 => inb v1 420 ∧ G 3 [(gA σ_5 66 v1), v2, v3] σ_5 (fun r_10 σ_9 => inb v1 420 ∧ (if gA σ_9 27 v1 = 2 then inb r_10 200000 ∧ (if gA σ_9 52 r_10 < 0 then t_holdsPart_j73 G σ_9 Q E else inb r_10 200000 ∧ inb v1 420 ∧ t_isBelow (gA σ_9 52 r_10) (gA σ_9 68 v1) σ_9 (fun r_39 σ_38 => (if r_39 = 0 then t_holdsPart_j73 G σ_38 Q E else Q 1 σ_38))) else inb v1 420 ∧ inb (gA σ_9 67 v1) 200000 ∧ t_fill (gA σ_9 51 (gA σ_9 67 v1)) σ_9 (fun _ σ_20 => inb v1 420 ∧ G 3 [(gA σ_20 67 v1), v2, v3] σ_20 (fun r_25 σ_24 => Q (bi (r_10 = r_25)) σ_24) E) E)) E) E
def t_holds_j171 (G : Orc) (v7 : Int) (σ : S) (Q : Int → S → Prop) (E : S → Prop) : Prop :=
  ∀ σ_32, σ_32 = pI σ 113 v7 → Q (-1) σ_32
def t_holds_L130 (G : Orc) (v1 : Int) (v2 : Int) (v4 : Int) (v7 : Int) (v8 : Int) (v9 : Int) (σ : S) (Q : Int → S → Prop) (E : S → Prop) : Prop :=
  ∀ X130 : Int → S → Prop, (∀ (v9 : Int) (σ : S), ((if v9 < v8 then G 5 [v1, (w32 (v2 + 1)), (w32 (v7 + (w32 (64 * v9)))), v4] σ (fun r_35 σ_34 => (if r_35 < 0 then X130 (w32 (v9 + 1)) σ_34 else Q r_35 σ_34)) E else t_holds_j171 G v7 σ Q E)) → X130 v9 σ) → X130 v9 σ
def t_holds_F (G : Orc) (v1 : Int) (v2 : Int) (v3 : Int) (v4 : Int) (σ : S) (Q : Int → S → Prop) (E : S → Prop) : Prop :=
  inb v1 70 ∧ (if v2 = gA σ 29 v1 then Q v3 σ else inb (w32 (w32 (6 * v1) + v2)) 420 ∧ (if gA σ 27 (w32 (w32 (6 * v1) + v2)) = 1 then inb (w32 (w32 (6 * v1) + v2)) 420 ∧ inb (gA σ 66 (w32 (w32 (6 * v1) + v2))) 200000 ∧ inb (w32 (w32 (6 * v1) + v2)) 420 ∧ inb (gA σ 67 (w32 (w32 (6 * v1) + v2))) 200000 ∧ t_fill (w32 (gA σ 51 (gA σ 66 (w32 (w32 (6 * v1) + v2))) + (gA σ 51 (gA σ 67 (w32 (w32 (6 * v1) + v2)))))) σ (fun _ σ_17 => inb (w32 (w32 (6 * v1) + v2)) 420 ∧ G 3 [(gA σ_17 67 (w32 (w32 (6 * v1) + v2))), v3, v4] σ_17 (fun r_22 σ_21 => inb (w32 (w32 (6 * v1) + v2)) 420 ∧ t_list (gA σ_21 66 (w32 (w32 (6 * v1) + v2))) r_22 0 v3 σ_21 (fun r_28 σ_27 => t_holds_L130 G v1 v2 v4 (gI σ_21 113) r_28 0 σ_27 Q E) E) E) E else G 4 [(w32 (w32 (6 * v1) + v2)), v3, v4] σ (fun r_40 σ_39 => (if r_40 = 0 then Q (-1) σ_39 else G 5 [v1, (w32 (v2 + 1)), v3, v4] σ_39 (fun r_45 σ_44 => Q r_45 σ_44) E)) E))
def t_S_reduced : Nat → Orc
  | 0 => fun _ _ _ _ _ => False
  | n + 1 => fun i a σ Q E => match i, a with
    | 0, [v1, v2] => t_reduced_F (t_S_reduced n) v1 v2 σ Q E
    | 1, [v1, v2] => t_reduceRow_F (t_S_reduced n) v1 v2 σ Q E
    | 2, [v1, v2] => t_byEquation_F (t_S_reduced n) v1 v2 σ Q E
    | 3, [v1, v2, v3] => t_reducedPart_F (t_S_reduced n) v1 v2 v3 σ Q E
    | 4, [v1, v2, v3] => t_holdsPart_F (t_S_reduced n) v1 v2 v3 σ Q E
    | 5, [v1, v2, v3, v4] => t_holds_F (t_S_reduced n) v1 v2 v3 v4 σ Q E
    | _, _ => False
def t_reduced (v1 : Int) (v2 : Int) (σ : S) (Q : Int → S → Prop) (E : S → Prop) : Prop := t_S_reduced 720 0 [v1, v2] σ Q E
def t_reduceRow (v1 : Int) (v2 : Int) (σ : S) (Q : Int → S → Prop) (E : S → Prop) : Prop := t_S_reduced 720 1 [v1, v2] σ Q E
def t_byEquation (v1 : Int) (v2 : Int) (σ : S) (Q : Int → S → Prop) (E : S → Prop) : Prop := t_S_reduced 720 2 [v1, v2] σ Q E
def t_reducedPart (v1 : Int) (v2 : Int) (v3 : Int) (σ : S) (Q : Int → S → Prop) (E : S → Prop) : Prop := t_S_reduced 720 3 [v1, v2, v3] σ Q E
def t_holdsPart (v1 : Int) (v2 : Int) (v3 : Int) (σ : S) (Q : Int → S → Prop) (E : S → Prop) : Prop := t_S_reduced 720 4 [v1, v2, v3] σ Q E
def t_holds (v1 : Int) (v2 : Int) (v3 : Int) (v4 : Int) (σ : S) (Q : Int → S → Prop) (E : S → Prop) : Prop := t_S_reduced 720 5 [v1, v2, v3, v4] σ Q E
def t_addTerm_j47 (v1 : Int) (v2 : Int) (σ : S) (Q : Int → S → Prop) (E : S → Prop) : Prop :=
  inb (gI σ 129) 40000 ∧ ∀ σ_8, σ_8 = pA σ 81 (gI σ 129) v1 → inb (gI σ_8 129) 40000 ∧ ∀ σ_12, σ_12 = pA σ_8 82 (gI σ_8 129) v2 → ∀ σ_16, σ_16 = pI σ_12 129 (w32 (gI σ_12 129 + 1)) → Q 0 σ_16
def t_addTerm_j30 (v1 : Int) (v2 : Int) (v3 : Int) (σ : S) (Q : Int → S → Prop) (E : S → Prop) : Prop :=
  (if w32 (gI σ 129 - v3) = 60 then t_fail 2 0 σ (fun _ σ_18 => t_addTerm_j47 v1 v2 σ_18 Q E) E else t_addTerm_j47 v1 v2 σ Q E)
def t_addTerm_L3 (v1 : Int) (v2 : Int) (v3 : Int) (v4 : Int) (σ : S) (Q : Int → S → Prop) (E : S → Prop) : Prop :=
  ∀ X3 : Int → S → Prop, (∀ (v4 : Int) (σ : S), ((if v4 < gI σ 129 then inb v4 40000 ∧ (if gA σ 81 v4 = v1 then Q 0 σ else X3 (w32 (v4 + 1)) σ) else t_addTerm_j30 v1 v2 v3 σ Q E)) → X3 v4 σ) → X3 v4 σ
def t_addTerm (v1 : Int) (v2 : Int) (v3 : Int) (σ : S) (Q : Int → S → Prop) (E : S → Prop) : Prop :=
  t_addTerm_L3 v1 v2 v3 v3 σ Q E
def t_replaced_j152 (v3 : Int) (σ : S) (Q : Int → S → Prop) (E : S → Prop) : Prop :=
  inb v3 200000 ∧ (if gA σ 51 v3 ≤ 40 then Q v3 σ else t_fail 6 0 σ (fun _ σ_14 => Q v3 σ_14) E)
def t_replaced_j127 (v4 : Int) (v5 : Int) (σ : S) (Q : Int → S → Prop) (E : S → Prop) (X57 : Int → Int → S → Prop) : Prop :=
  inb v4 51 ∧ inb (gA σ 84 v4) 200000 ∧ t_make (gA σ 48 (gA σ 84 v4)) v5 σ (fun r_28 σ_27 => X57 r_28 (w32 (v4 + (-1))) σ_27)
def t_replaced_j118 (v3 : Int) (v4 : Int) (v5 : Int) (v6 : Int) (s0 : Int) (σ : S) (Q : Int → S → Prop) (E : S → Prop) (X57 : Int → Int → S → Prop) (X71 : Int → S → Prop) : Prop :=
  t_push s0 σ (fun _ σ_37 => X71 (w32 (v6 + 1)) σ_37)
def t_replaced_L71 (v3 : Int) (v4 : Int) (v5 : Int) (v6 : Int) (σ : S) (Q : Int → S → Prop) (E : S → Prop) (X57 : Int → Int → S → Prop) : Prop :=
  ∀ X71 : Int → S → Prop, (∀ (v6 : Int) (σ : S), (inb v4 51 ∧ inb (gA σ 84 v4) 200000 ∧ (if v6 < gA σ 50 (gA σ 84 v4) then inb v4 50 ∧ (if v6 = gA σ 83 v4 then t_replaced_j118 v3 v4 v5 v6 v3 σ Q E X57 X71 else inb v4 51 ∧ t_arg (gA σ 84 v4) v6 σ (fun r_36 σ_35 => t_replaced_j118 v3 v4 v5 v6 r_36 σ_35 Q E X57 X71)) else t_replaced_j127 v4 v5 σ Q E X57)) → X71 v6 σ) → X71 v6 σ
def t_replaced_L57 (v3 : Int) (v4 : Int) (σ : S) (Q : Int → S → Prop) (E : S → Prop) : Prop :=
  ∀ X57 : Int → Int → S → Prop, (∀ (v3 : Int) (v4 : Int) (σ : S), ((if v4 < 0 then t_replaced_j152 v3 σ Q E else t_replaced_L71 v3 v4 (gI σ 83) 0 σ Q E X57)) → X57 v3 v4 σ) → X57 v3 v4 σ
def t_replaced_j47 (v2 : Int) (σ : S) (Q : Int → S → Prop) (E : S → Prop) : Prop :=
  t_replaced_L57 v2 (w32 (gI σ 132 - 1)) σ Q E
def t_replaced_L9 (v2 : Int) (v3 : Int) (σ : S) (Q : Int → S → Prop) (E : S → Prop) : Prop :=
  ∀ X9 : Int → S → Prop, (∀ (v3 : Int) (σ : S), ((if v3 < gI σ 132 then inb v3 51 ∧ inb v3 50 ∧ t_arg (gA σ 84 v3) (gA σ 83 v3) σ (fun r_43 σ_42 => inb (w32 (v3 + 1)) 51 ∧ ∀ σ_44, σ_44 = pA σ_42 84 (w32 (v3 + 1)) r_43 → X9 (w32 (v3 + 1)) σ_44) else t_replaced_j47 v2 σ Q E)) → X9 v3 σ) → X9 v3 σ
def t_replaced (v1 : Int) (v2 : Int) (σ : S) (Q : Int → S → Prop) (E : S → Prop) : Prop :=
  inb 0 51 ∧ ∀ σ_1, σ_1 = pA σ 84 0 v1 → t_replaced_L9 v2 0 σ_1 Q E
def t_addStep (v1 : Int) (v2 : Int) (v3 : Int) (v4 : Int) (σ : S) (Q : Int → S → Prop) (E : S → Prop) : Prop :=
  t_replaced v1 v2 σ (fun r_2 σ_1 => inb r_2 200000 ∧ t_fill (gA σ_1 51 r_2) σ_1 (fun _ σ_6 => t_reduced r_2 0 σ_6 (fun r_9 σ_8 => t_oneStep σ_8 (fun _ σ_11 => t_addTerm r_9 v3 v4 σ_11 (fun _ σ_13 => Q 0 σ_13) E) E) E) E) E
def t_allWays_j238 (G : Orc) (v10 : Int) (σ : S) (Q : Int → S → Prop) (E : S → Prop) : Prop :=
  ∀ σ_32, σ_32 = pI σ 113 v10 → Q 0 σ_32
def t_allWays_L190 (G : Orc) (v1 : Int) (v2 : Int) (v3 : Int) (v4 : Int) (v6 : Int) (v7 : Int) (v10 : Int) (v11 : Int) (v12 : Int) (σ : S) (Q : Int → S → Prop) (E : S → Prop) : Prop :=
  ∀ X190 : Int → S → Prop, (∀ (v12 : Int) (σ : S), ((if v12 < v11 then G 0 [v1, v2, v3, (w32 (v4 + 1)), (w32 (v10 + (w32 (64 * v12)))), v6, v7] σ (fun _ σ_35 => ∀ σ_37, σ_37 = pI σ_35 113 (gI σ 113) → X190 (w32 (v12 + 1)) σ_37) E else t_allWays_j238 G v10 σ Q E)) → X190 v12 σ) → X190 v12 σ
def t_allWays_F (G : Orc) (v1 : Int) (v2 : Int) (v3 : Int) (v4 : Int) (v5 : Int) (v6 : Int) (v7 : Int) (σ : S) (Q : Int → S → Prop) (E : S → Prop) : Prop :=
  inb v2 70 ∧ (if v4 = gA σ 29 v2 then inb v2 70 ∧ inb (gA σ 65 v2) 200000 ∧ t_fill (gA σ 51 (gA σ 65 v2)) σ (fun _ σ_50 => inb v2 70 ∧ inb (gA σ_50 64 v2) 200000 ∧ inb v2 70 ∧ t_putIn (gA σ_50 65 v2) v5 σ_50 (fun r_59 σ_58 => t_beside (gA σ_50 48 (gA σ_50 64 v2)) r_59 v6 σ_58 (fun r_62 σ_61 => t_addStep v1 r_62 v3 v7 σ_61 (fun _ σ_64 => Q 0 σ_64) E) E) E) E else inb (w32 (w32 (6 * v2) + v4)) 420 ∧ (if gA σ 27 (w32 (w32 (6 * v2) + v4)) = 1 then inb (w32 (w32 (6 * v2) + v4)) 420 ∧ inb (gA σ 66 (w32 (w32 (6 * v2) + v4))) 200000 ∧ inb (w32 (w32 (6 * v2) + v4)) 420 ∧ inb (gA σ 67 (w32 (w32 (6 * v2) + v4))) 200000 ∧ t_fill (w32 (gA σ 51 (gA σ 66 (w32 (w32 (6 * v2) + v4))) + (gA σ 51 (gA σ 67 (w32 (w32 (6 * v2) + v4)))))) σ (fun _ σ_17 => inb (w32 (w32 (6 * v2) + v4)) 420 ∧ t_reducedPart (gA σ_17 67 (w32 (w32 (6 * v2) + v4))) v5 0 σ_17 (fun r_22 σ_21 => inb (w32 (w32 (6 * v2) + v4)) 420 ∧ t_list (gA σ_21 66 (w32 (w32 (6 * v2) + v4))) r_22 0 v5 σ_21 (fun r_28 σ_27 => t_allWays_L190 G v1 v2 v3 v4 v6 v7 (gI σ_21 113) r_28 0 σ_27 Q E) E) E) E else t_holdsPart (w32 (w32 (6 * v2) + v4)) v5 0 σ (fun r_40 σ_39 => (if r_40 = 0 then Q 0 σ_39 else G 0 [v1, v2, v3, (w32 (v4 + 1)), v5, v6, v7] σ_39 (fun _ σ_44 => Q 0 σ_44) E)) E))
def t_S_allWays : Nat → Orc
  | 0 => fun _ _ _ _ _ => False
  | n + 1 => fun i a σ Q E => match i, a with
    | 0, [v1, v2, v3, v4, v5, v6, v7] => t_allWays_F (t_S_allWays n) v1 v2 v3 v4 v5 v6 v7 σ Q E
    | _, _ => False
def t_allWays (v1 : Int) (v2 : Int) (v3 : Int) (v4 : Int) (v5 : Int) (v6 : Int) (v7 : Int) (σ : S) (Q : Int → S → Prop) (E : S → Prop) : Prop := t_S_allWays 10 0 [v1, v2, v3, v4, v5, v6, v7] σ Q E
def t_stepBy_j76 (v6 : Int) (σ : S) (Q : Int → S → Prop) (E : S → Prop) : Prop :=
  ∀ σ_9, σ_9 = pI σ 113 v6 → Q 0 σ_9
def t_stepBy_L24 (v1 : Int) (v3 : Int) (v4 : Int) (v5 : Int) (v6 : Int) (v7 : Int) (v8 : Int) (σ : S) (Q : Int → S → Prop) (E : S → Prop) : Prop :=
  ∀ X24 : Int → S → Prop, (∀ (v8 : Int) (σ : S), ((if v8 < v7 then t_allWays v1 v3 v4 0 (w32 (v6 + (w32 (64 * v8)))) (w32 (v6 + (w32 (64 * v8)))) v5 σ (fun _ σ_12 => ∀ σ_14, σ_14 = pI σ_12 113 (gI σ 113) → X24 (w32 (v8 + 1)) σ_14) E else t_stepBy_j76 v6 σ Q E)) → X24 v8 σ) → X24 v8 σ
def t_stepBy (v1 : Int) (v2 : Int) (v3 : Int) (v4 : Int) (v5 : Int) (σ : S) (Q : Int → S → Prop) (E : S → Prop) : Prop :=
  inb v3 70 ∧ t_list (gA σ 64 v3) v2 1 (-1) σ (fun r_5 σ_4 => t_stepBy_L24 v1 v3 v4 v5 (gI σ 113) r_5 0 σ_4 Q E) E
def t_stepAt_L65 (G : Orc) (v1 : Int) (v2 : Int) (v3 : Int) (v4 : Int) (v6 : Int) (σ : S) (Q : Int → S → Prop) (E : S → Prop) : Prop :=
  ∀ X65 : Int → S → Prop, (∀ (v6 : Int) (σ : S), (t_isVar v2 σ (fun r_5 σ_4 => ((r_5 = 0) → (inb v2 200000)) ∧ (if (r_5 = 0) ∧ (v6 < gA σ_4 50 v2) then inb (gI σ_4 132) 50 ∧ ∀ σ_11, σ_11 = pA σ_4 83 (gI σ_4 132) v6 → ∀ σ_15, σ_15 = pI σ_11 132 (w32 (gI σ_11 132 + 1)) → t_arg v2 v6 σ_15 (fun r_18 σ_17 => G 0 [v1, r_18, v3, v4] σ_17 (fun _ σ_19 => ∀ σ_22, σ_22 = pI σ_19 132 (w32 (gI σ_19 132 - 1)) → X65 (w32 (v6 + 1)) σ_22) E) else Q 0 σ_4))) → X65 v6 σ) → X65 v6 σ
def t_stepAt_j62 (G : Orc) (v1 : Int) (v2 : Int) (v3 : Int) (v4 : Int) (σ : S) (Q : Int → S → Prop) (E : S → Prop) : Prop :=
  t_stepAt_L65 G v1 v2 v3 v4 0 σ Q E
def t_stepAt_j56 (G : Orc) (v1 : Int) (v2 : Int) (v3 : Int) (v4 : Int) (v5 : Int) (v6 : Int) (σ : S) (Q : Int → S → Prop) (E : S → Prop) (X6 : Int → Int → S → Prop) : Prop :=
  X6 v5 (w32 (v6 + 1)) σ
def t_stepAt_j53 (G : Orc) (v1 : Int) (v2 : Int) (v3 : Int) (v4 : Int) (v5 : Int) (v6 : Int) (σ : S) (Q : Int → S → Prop) (E : S → Prop) (X6 : Int → Int → S → Prop) : Prop :=
  t_stepAt_j56 G v1 v2 v3 v4 (w32 (v5 + 1)) v6 σ Q E X6
def t_stepAt_L6 (G : Orc) (v1 : Int) (v2 : Int) (v3 : Int) (v4 : Int) (v5 : Int) (v6 : Int) (σ : S) (Q : Int → S → Prop) (E : S → Prop) : Prop :=
  ∀ X6 : Int → Int → S → Prop, (∀ (v5 : Int) (v6 : Int) (σ : S), ((if v6 < gI σ 45 then inb v6 70 ∧ (if gA σ 23 v6 = 2 then ((¬ v3 < 0) → (inb v6 70)) ∧ (if (v3 < 0) ∨ (gA σ 69 v6 = v3) then t_stepBy v1 v2 v6 v5 v4 σ (fun _ σ_35 => t_stepAt_j53 G v1 v2 v3 v4 v5 v6 σ_35 Q E X6) E else t_stepAt_j53 G v1 v2 v3 v4 v5 v6 σ Q E X6) else t_stepAt_j56 G v1 v2 v3 v4 v5 v6 σ Q E X6) else t_stepAt_j62 G v1 v2 v3 v4 σ Q E)) → X6 v5 v6 σ) → X6 v5 v6 σ
def t_stepAt_F (G : Orc) (v1 : Int) (v2 : Int) (v3 : Int) (v4 : Int) (σ : S) (Q : Int → S → Prop) (E : S → Prop) : Prop :=
  t_stepAt_L6 G v1 v2 v3 v4 0 0 σ Q E
def t_S_stepAt : Nat → Orc
  | 0 => fun _ _ _ _ _ => False
  | n + 1 => fun i a σ Q E => match i, a with
    | 0, [v1, v2, v3, v4] => t_stepAt_F (t_S_stepAt n) v1 v2 v3 v4 σ Q E
    | _, _ => False
def t_stepAt (v1 : Int) (v2 : Int) (v3 : Int) (v4 : Int) (σ : S) (Q : Int → S → Prop) (E : S → Prop) : Prop := t_S_stepAt 44 0 [v1, v2, v3, v4] σ Q E
def t_listSteps (v1 : Int) (v2 : Int) (σ : S) (Q : Int → S → Prop) (E : S → Prop) : Prop :=
  ∀ σ_2, σ_2 = pI σ 132 0 → t_stepAt v1 v1 v2 (gI σ 129) σ_2 (fun _ σ_4 => Q (w32 (gI σ_4 129 - (gI σ 129))) σ_4) E
def t_beginTry (σ : S) (Q : Int → S → Prop) : Prop :=
  ∀ σ_2, σ_2 = pI σ 121 (w32 (gI σ 121 + 1)) → ∀ σ_4, σ_4 = pL σ_2 123 0 → ∀ σ_6, σ_6 = pI σ_4 122 300000 → ∀ σ_8, σ_8 = pI σ_6 119 0 → ∀ σ_10, σ_10 = pI σ_8 120 0 → ∀ σ_12, σ_12 = pI σ_10 124 0 → ∀ σ_14, σ_14 = pI σ_12 113 0 → ∀ σ_16, σ_16 = pI σ_14 83 0 → ∀ σ_18, σ_18 = pI σ_16 129 0 → ∀ σ_20, σ_20 = pI σ_18 126 0 → ∀ σ_22, σ_22 = pI σ_20 132 0 → Q 0 σ_22
def t_beginCall (σ : S) (Q : Int → S → Prop) : Prop :=
  t_makeRoom σ (fun _ σ_1 => t_beginTry σ_1 (fun _ σ_2 => Q 0 σ_2))
def t_stopped (σ : S) (Q : Int → S → Prop) : Prop :=
  ∀ σ_2, σ_2 = pI σ 144 (gI σ 1006) → Q (w32 ((-20) - (gI σ_2 1006))) σ_2
def t_match_j149 (σ : S) (Q : Int → S → Prop) : Prop :=
  t_stopped σ (fun r_30 σ_29 => Q r_30 σ_29)
def t_match_j103 (v1 : Int) (v4 : Int) (σ : S) (Q : Int → S → Prop) : Prop :=
  inb v1 200 ∧ t_isVar (gA σ 70 v1) σ (fun r_36 σ_35 => ((r_36 = 0) → (inb v1 200)) ∧ ((r_36 = 0) → (inb (gA σ_35 70 v1) 200000)) ∧ ∀ σ_45, σ_45 = pI σ_35 143 (if r_36 = 0 then gA σ_35 48 (gA σ_35 70 v1) else (-1)) → ∀ σ_47, σ_47 = pI σ_45 134 v4 → ∀ σ_49, σ_49 = pI σ_47 135 1 → Q v4 σ_49)
def t_match_L73 (v1 : Int) (v4 : Int) (v5 : Int) (σ : S) (Q : Int → S → Prop) : Prop :=
  ∀ X73 : Int → S → Prop, (∀ (v5 : Int) (σ : S), ((if v5 < w32 (64 * v4) then inb v5 460000 ∧ inb v5 12800 ∧ ∀ σ_53, σ_53 = pA σ 86 v5 (gA σ 79 v5) → X73 (w32 (v5 + 1)) σ_53 else t_match_j103 v1 v4 σ Q)) → X73 v5 σ) → X73 v5 σ
def t_match (v1 : Int) (v2 : Int) (v3 : Int) (σ : S) (Q : Int → S → Prop) : Prop :=
  ∀ σ_1, σ_1 = pI σ 0 0 → t_noHandle v1 σ_1 (fun r_4 σ_3 => (if r_4 = 0 then t_noHandle v2 σ_3 (fun r_8 σ_7 => (if r_8 = 0 then inb v1 200 ∧ t_kindOfTerm (gA σ_7 70 v1) σ_7 (fun r_14 σ_13 => inb v2 200 ∧ t_kindOfTerm (gA σ_13 70 v2) σ_13 (fun r_18 σ_17 => (if r_14 = r_18 then t_beginCall σ_17 (fun _ σ_21 => inb v1 200 ∧ inb v2 200 ∧ t_list (gA σ_21 70 v1) (gA σ_21 70 v2) v3 (-1) σ_21 (fun r_27 σ_26 => t_match_L73 v1 r_27 0 σ_26 Q) (fun σ_28 => t_match_j149 σ_28 Q)) else Q (-1) σ_17))) else Q (-1) σ_7)) else Q (-1) σ_3))
def t_bound (v1 : Int) (v2 : Int) (σ : S) (Q : Int → S → Prop) : Prop :=
  ∀ σ_1, σ_1 = pI σ 0 0 → (if gI σ_1 135 = 1 then t_in v1 0 (w32 (gI σ_1 134 - 1)) σ_1 (fun r_8 σ_7 => (if r_8 = 0 then Q (-1) σ_7 else t_in v2 (-2) 59 σ_7 (fun r_12 σ_11 => (if r_12 = 0 then Q (-1) σ_11 else inb (w32 (w32 (64 * v1) + (if v2 = (-1) then 60 else (if v2 = (-2) then 61 else v2)))) 12800 ∧ (if gA σ_11 86 (w32 (w32 (64 * v1) + (if v2 = (-1) then 60 else (if v2 = (-2) then 61 else v2)))) < 0 then Q (-2) σ_11 else (if gI σ_11 101 = 200 then Q (-3) σ_11 else t_newHandle (gA σ_11 86 (w32 (w32 (64 * v1) + (if v2 = (-1) then 60 else (if v2 = (-2) then 61 else v2))))) σ_11 (fun r_28 σ_27 => Q r_28 σ_27))))))) else Q (-1) σ_1)
def t_reduce_j58 (σ : S) (Q : Int → S → Prop) : Prop :=
  ∀ σ_17, σ_17 = pI σ 145 (gI σ 120) → t_stopped σ_17 (fun r_20 σ_19 => Q r_20 σ_19)
def t_reduce (v1 : Int) (σ : S) (Q : Int → S → Prop) : Prop :=
  ∀ σ_1, σ_1 = pI σ 0 0 → t_noHandle v1 σ_1 (fun r_4 σ_3 => (if r_4 = 0 then (if gI σ_3 101 = 200 then Q (-3) σ_3 else t_beginCall σ_3 (fun _ σ_10 => inb v1 200 ∧ t_reduced (gA σ_10 70 v1) 0 σ_10 (fun r_14 σ_13 => ∀ σ_22, σ_22 = pI σ_13 145 (gI σ_13 120) → t_newHandle r_14 σ_22 (fun r_25 σ_24 => Q r_25 σ_24)) (fun σ_15 => t_reduce_j58 σ_15 Q))) else Q (-1) σ_3))
def t_steps_j102 (σ : S) (Q : Int → S → Prop) : Prop :=
  ∀ σ_14, σ_14 = pI σ 145 (gI σ 120) → t_stopped σ_14 (fun r_17 σ_16 => Q r_17 σ_16)
def t_steps_j90 (v3 : Int) (σ : S) (Q : Int → S → Prop) : Prop :=
  ∀ σ_26, σ_26 = pI σ 134 v3 → ∀ σ_28, σ_28 = pI σ_26 135 2 → Q v3 σ_28
def t_steps_L50 (v3 : Int) (v4 : Int) (σ : S) (Q : Int → S → Prop) : Prop :=
  ∀ X50 : Int → S → Prop, (∀ (v4 : Int) (σ : S), ((if v4 < v3 then inb v4 40000 ∧ inb v4 200 ∧ ∀ σ_32, σ_32 = pA σ 85 v4 (gA σ 81 v4) → inb v4 40000 ∧ inb v4 200 ∧ ∀ σ_37, σ_37 = pA σ_32 87 v4 (gA σ_32 82 v4) → X50 (w32 (v4 + 1)) σ_37 else t_steps_j90 v3 σ Q)) → X50 v4 σ) → X50 v4 σ
def t_steps (v1 : Int) (σ : S) (Q : Int → S → Prop) : Prop :=
  ∀ σ_1, σ_1 = pI σ 0 0 → t_noHandle v1 σ_1 (fun r_4 σ_3 => (if r_4 = 0 then t_beginCall σ_3 (fun _ σ_7 => inb v1 200 ∧ t_reduced (gA σ_7 70 v1) 0 σ_7 (fun r_11 σ_10 => t_listSteps r_11 (-2) σ_10 (fun r_19 σ_18 => ∀ σ_22, σ_22 = pI σ_18 145 (gI σ_18 120) → t_steps_L50 r_19 0 σ_22 Q) (fun σ_20 => t_steps_j102 σ_20 Q)) (fun σ_12 => t_steps_j102 σ_12 Q)) else Q (-1) σ_3))
def t_result (v1 : Int) (σ : S) (Q : Int → S → Prop) : Prop :=
  ∀ σ_1, σ_1 = pI σ 0 0 → (if ¬ (gI σ_1 135 = 0) ∧ (¬ (gI σ_1 135 = 1)) then t_in v1 0 (w32 (gI σ_1 134 - 1)) σ_1 (fun r_9 σ_8 => (if r_9 = 0 then Q (-1) σ_8 else (if gI σ_8 101 = 200 then Q (-3) σ_8 else inb v1 200 ∧ t_newHandle (gA σ_8 85 v1) σ_8 (fun r_18 σ_17 => Q r_18 σ_17)))) else Q (-1) σ_1)
def t_way (v1 : Int) (v2 : Int) (σ : S) (Q : Int → S → Prop) : Prop :=
  ∀ σ_1, σ_1 = pI σ 0 0 → (if (gI σ_1 135 = 2) ∨ (gI σ_1 135 = 3) then t_in v1 0 (w32 (gI σ_1 134 - 1)) σ_1 (fun r_9 σ_8 => (if r_9 = 0 then Q (-1) σ_8 else (if gI σ_8 135 = 2 then ((v2 = 0) → (inb v1 200)) ∧ Q (if v2 = 0 then gA σ_8 87 v1 else (-1)) σ_8 else (if v2 = 0 then inb v1 200 ∧ Q (gA σ_8 88 v1) σ_8 else (if v2 = 1 then inb v1 200 ∧ Q (gA σ_8 87 v1) σ_8 else (if v2 = 2 then inb v1 200 ∧ Q (gA σ_8 89 v1) σ_8 else (if v2 = 3 then inb (w32 (v1 + 1)) 130 ∧ inb v1 130 ∧ Q (w32 (gA σ_8 90 (w32 (v1 + 1)) - (gA σ_8 90 v1))) σ_8 else Q (-1) σ_8))))))) else Q (-1) σ_1)
def t_states_j383 (σ : S) (Q : Int → S → Prop) : Prop :=
  ∀ σ_14, σ_14 = pI σ 145 (gI σ 120) → t_stopped σ_14 (fun r_17 σ_16 => Q r_17 σ_16)
def t_states_j371 (v2 : Int) (σ : S) (Q : Int → S → Prop) : Prop :=
  ∀ σ_45, σ_45 = pI σ 134 v2 → ∀ σ_47, σ_47 = pI σ_45 135 3 → Q v2 σ_47
def t_states_L345 (v2 : Int) (v3 : Int) (v4 : Int) (σ : S) (Q : Int → S → Prop) : Prop :=
  ∀ X345 : Int → S → Prop, (∀ (v4 : Int) (σ : S), ((if v4 < v3 then inb v4 7300 ∧ inb v4 7300 ∧ ∀ σ_51, σ_51 = pA σ 91 v4 (gA σ 98 v4) → X345 (w32 (v4 + 1)) σ_51 else t_states_j371 v2 σ Q)) → X345 v4 σ) → X345 v4 σ
def t_states_j335 (v2 : Int) (v3 : Int) (σ : S) (Q : Int → S → Prop) : Prop :=
  inb v2 130 ∧ ∀ σ_40, σ_40 = pA σ 90 v2 v3 → t_states_L345 v2 v3 0 σ_40 Q
def t_states_L253 (v2 : Int) (v3 : Int) (v4 : Int) (σ : S) (Q : Int → S → Prop) : Prop :=
  ∀ X253 : Int → S → Prop, (∀ (v4 : Int) (σ : S), ((if v4 < v2 then inb v4 121 ∧ inb v4 200 ∧ ∀ σ_56, σ_56 = pA σ 85 v4 (gA σ 93 v4) → inb v4 121 ∧ inb v4 200 ∧ ∀ σ_61, σ_61 = pA σ_56 87 v4 (gA σ_56 94 v4) → inb v4 121 ∧ inb v4 200 ∧ ∀ σ_66, σ_66 = pA σ_61 88 v4 (gA σ_61 95 v4) → inb v4 121 ∧ inb v4 200 ∧ ∀ σ_71, σ_71 = pA σ_66 89 v4 (gA σ_66 96 v4) → inb v4 130 ∧ inb v4 130 ∧ ∀ σ_76, σ_76 = pA σ_71 90 v4 (gA σ_71 97 v4) → X253 (w32 (v4 + 1)) σ_76 else t_states_j335 v2 v3 σ Q)) → X253 v4 σ) → X253 v4 σ
def t_states_j235 (v2 : Int) (v3 : Int) (σ : S) (Q : Int → S → Prop) : Prop :=
  inb v2 130 ∧ ∀ σ_32, σ_32 = pA σ 97 v2 v3 → ∀ σ_36, σ_36 = pI σ_32 145 (gI σ_32 120) → t_states_L253 v2 v3 0 σ_36 Q
def t_states_j229 (v2 : Int) (v3 : Int) (v4 : Int) (σ : S) (Q : Int → S → Prop) (X66 : Int → Int → Int → S → Prop) : Prop :=
  X66 v2 v3 (w32 (v4 + 1)) σ
def t_states_j212 (v2 : Int) (v3 : Int) (v4 : Int) (v5 : Int) (v6 : Int) (v7 : Int) (σ : S) (Q : Int → S → Prop) (X66 : Int → Int → Int → S → Prop) (X103 : Int → Int → Int → S → Prop) : Prop :=
  inb v3 7300 ∧ ∀ σ_99, σ_99 = pA σ 98 v3 v7 → X103 v2 (w32 (v3 + 1)) (w32 (v6 + 1)) σ_99
def t_states_j160 (v2 : Int) (v3 : Int) (v4 : Int) (v5 : Int) (v6 : Int) (v7 : Int) (σ : S) (Q : Int → S → Prop) (X66 : Int → Int → Int → S → Prop) (X103 : Int → Int → Int → S → Prop) : Prop :=
  inb v6 40000 ∧ inb v2 121 ∧ ∀ σ_106, σ_106 = pA σ 93 v2 (gA σ 81 v6) → inb v6 40000 ∧ inb v2 121 ∧ ∀ σ_111, σ_111 = pA σ_106 94 v2 (gA σ_106 82 v6) → inb v2 121 ∧ ∀ σ_114, σ_114 = pA σ_111 95 v2 v4 → inb v4 121 ∧ inb v2 121 ∧ ∀ σ_119, σ_119 = pA σ_114 96 v2 (w32 (gA σ_114 96 v4 + 1)) → t_states_j212 (w32 (v2 + 1)) v3 v4 v5 v6 v7 σ_119 Q X66 X103
def t_states_j142 (v2 : Int) (v3 : Int) (v4 : Int) (v5 : Int) (v6 : Int) (v7 : Int) (σ : S) (Q : Int → S → Prop) (X66 : Int → Int → Int → S → Prop) (X103 : Int → Int → Int → S → Prop) : Prop :=
  (if v7 = v2 then (if v2 = 120 then t_fail 2 0 σ (fun _ σ_122 => t_states_j160 v2 v3 v4 v5 v6 v7 σ_122 Q X66 X103) (fun σ_123 => t_states_j383 σ_123 Q) else t_states_j160 v2 v3 v4 v5 v6 v7 σ Q X66 X103) else t_states_j212 v2 v3 v4 v5 v6 v7 σ Q X66 X103)
def t_states_L113 (v2 : Int) (v3 : Int) (v4 : Int) (v5 : Int) (v6 : Int) (v7 : Int) (σ : S) (Q : Int → S → Prop) (X66 : Int → Int → Int → S → Prop) (X103 : Int → Int → Int → S → Prop) : Prop :=
  ∀ X113 : Int → S → Prop, (∀ (v7 : Int) (σ : S), (((v7 < v2) → (inb v7 121)) ∧ ((v7 < v2) → (inb v6 40000)) ∧ (if (v7 < v2) ∧ (¬ (gA σ 93 v7 = gA σ 81 v6)) then X113 (w32 (v7 + 1)) σ else t_states_j142 v2 v3 v4 v5 v6 v7 σ Q X66 X103)) → X113 v7 σ) → X113 v7 σ
def t_states_L103 (v2 : Int) (v3 : Int) (v4 : Int) (v5 : Int) (v6 : Int) (σ : S) (Q : Int → S → Prop) (X66 : Int → Int → Int → S → Prop) : Prop :=
  ∀ X103 : Int → Int → Int → S → Prop, (∀ (v2 : Int) (v3 : Int) (v6 : Int) (σ : S), ((if v6 < v5 then t_states_L113 v2 v3 v4 v5 v6 0 σ Q X66 X103 else t_states_j229 v2 v3 v4 σ Q X66)) → X103 v2 v3 v6 σ) → X103 v2 v3 v6 σ
def t_states_L66 (v2 : Int) (v3 : Int) (v4 : Int) (σ : S) (Q : Int → S → Prop) : Prop :=
  ∀ X66 : Int → Int → Int → S → Prop, (∀ (v2 : Int) (v3 : Int) (v4 : Int) (σ : S), ((if v4 < v2 then inb v4 130 ∧ ∀ σ_79, σ_79 = pA σ 97 v4 v3 → ∀ σ_82, σ_82 = pI σ_79 129 0 → inb v4 121 ∧ t_listSteps (gA σ_82 93 v4) (-2) σ_82 (fun r_87 σ_86 => t_states_L103 v2 v3 v4 r_87 0 σ_86 Q X66) (fun σ_88 => t_states_j383 σ_88 Q) else t_states_j235 v2 v3 σ Q)) → X66 v2 v3 v4 σ) → X66 v2 v3 v4 σ
def t_states (v1 : Int) (σ : S) (Q : Int → S → Prop) : Prop :=
  ∀ σ_1, σ_1 = pI σ 0 0 → t_noHandle v1 σ_1 (fun r_4 σ_3 => (if r_4 = 0 then t_beginCall σ_3 (fun _ σ_7 => inb v1 200 ∧ t_reduced (gA σ_7 70 v1) 0 σ_7 (fun r_11 σ_10 => inb 0 121 ∧ ∀ σ_18, σ_18 = pA σ_10 93 0 r_11 → inb 0 121 ∧ ∀ σ_21, σ_21 = pA σ_18 94 0 (-2) → inb 0 121 ∧ ∀ σ_24, σ_24 = pA σ_21 95 0 (-2) → inb 0 121 ∧ ∀ σ_27, σ_27 = pA σ_24 96 0 0 → t_states_L66 1 0 0 σ_27 Q) (fun σ_12 => t_states_j383 σ_12 Q)) else Q (-1) σ_3))
def t_isPattern_j34 (v3 : Int) (s0 : Int) (σ : S) (Q : Int → S → Prop) (E : S → Prop) : Prop :=
  ∀ σ_8, σ_8 = pI σ 113 v3 → Q s0 σ_8
def t_isPattern_j33 (v3 : Int) (σ : S) (Q : Int → S → Prop) (E : S → Prop) : Prop :=
  t_isPattern_j34 v3 0 σ Q E
def t_isPattern (v1 : Int) (v2 : Int) (σ : S) (Q : Int → S → Prop) (E : S → Prop) : Prop :=
  t_kindOfTerm v1 σ (fun r_3 σ_2 => t_kindOfTerm v2 σ_2 (fun r_5 σ_4 => (if r_3 = r_5 then t_list v1 v2 0 (-1) σ_4 (fun r_11 σ_10 => (if r_11 ≤ 0 then t_isPattern_j33 (gI σ 113) σ_10 Q E else t_isPattern_j34 (gI σ 113) 1 σ_10 Q E)) E else t_isPattern_j33 (gI σ 113) σ_4 Q E)))
def t_search_j83 (σ : S) (Q : Int → S → Prop) : Prop :=
  t_stopped σ (fun r_27 σ_26 => Q r_27 σ_26)
def t_search_L45 (v1 : Int) (v3 : Int) (σ : S) (Q : Int → S → Prop) : Prop :=
  ∀ X45 : Int → S → Prop, (∀ (v3 : Int) (σ : S), ((if v3 < gI σ 134 then inb v1 200 ∧ inb v3 200 ∧ t_isPattern (gA σ 70 v1) (gA σ 85 v3) σ (fun r_24 σ_23 => (if r_24 = 0 then X45 (w32 (v3 + 1)) σ_23 else Q v3 σ_23)) (fun σ_25 => t_search_j83 σ_25 Q) else Q (-2) σ)) → X45 v3 σ) → X45 v3 σ
def t_search (v1 : Int) (v2 : Int) (σ : S) (Q : Int → S → Prop) : Prop :=
  ∀ σ_1, σ_1 = pI σ 0 0 → (if gI σ_1 135 = 3 then t_noHandle v1 σ_1 (fun r_7 σ_6 => (if r_7 = 0 then t_in v2 0 (w32 (gI σ_6 134 - 1)) σ_6 (fun r_12 σ_11 => (if r_12 = 0 then Q (-1) σ_11 else t_beginCall σ_11 (fun _ σ_15 => t_search_L45 v1 v2 σ_15 Q))) else Q (-1) σ_6)) else Q (-1) σ_1)
def t_findRows_j158 (v2 : Int) (σ : S) (Q : Int → S → Prop) (X35 : Int → S → Prop) : Prop :=
  X35 v2 σ
def t_findRows_j152 (v2 : Int) (v3 : Int) (σ : S) (Q : Int → S → Prop) (X35 : Int → S → Prop) (X43 : Int → Int → S → Prop) : Prop :=
  X43 v2 (w32 (v3 + 1)) σ
def t_findRows_j129 (v2 : Int) (v3 : Int) (v4 : Int) (σ : S) (Q : Int → S → Prop) (X35 : Int → S → Prop) (X43 : Int → Int → S → Prop) : Prop :=
  inb v3 120 ∧ (if ¬ (gA σ 101 v3 = 0) ∧ (v4 = 0) then inb v3 120 ∧ ∀ σ_24, σ_24 = pA σ 101 v3 0 → t_findRows_j152 1 v3 σ_24 Q X35 X43 else t_findRows_j152 v2 v3 σ Q X35 X43)
def t_findRows_L83 (v2 : Int) (v3 : Int) (v4 : Int) (v5 : Int) (σ : S) (Q : Int → S → Prop) (X35 : Int → S → Prop) (X43 : Int → Int → S → Prop) : Prop :=
  ∀ X83 : Int → Int → S → Prop, (∀ (v4 : Int) (v5 : Int) (σ : S), (inb (w32 (v3 + 1)) 130 ∧ (if v5 < gA σ 90 (w32 (v3 + 1)) then ((v4 = 0) → (inb v5 7300)) ∧ ((v4 = 0) → (inb (gA σ 91 v5) 120)) ∧ X83 (bi (¬ (v4 = 0) ∨ (¬ (gA σ 101 (gA σ 91 v5) = 0)))) (w32 (v5 + 1)) σ else t_findRows_j129 v2 v3 v4 σ Q X35 X43)) → X83 v4 v5 σ) → X83 v4 v5 σ
def t_findRows_L43 (v2 : Int) (v3 : Int) (σ : S) (Q : Int → S → Prop) (X35 : Int → S → Prop) : Prop :=
  ∀ X43 : Int → Int → S → Prop, (∀ (v2 : Int) (v3 : Int) (σ : S), ((if v3 < gI σ 134 then inb v3 130 ∧ inb (w32 (v3 + 1)) 130 ∧ inb v3 130 ∧ t_findRows_L83 v2 v3 (bi (gA σ 90 v3 = gA σ 90 (w32 (v3 + 1)))) (gA σ 90 v3) σ Q X35 X43 else t_findRows_j158 v2 σ Q X35)) → X43 v2 v3 σ) → X43 v2 v3 σ
def t_findRows_L35 (v2 : Int) (σ : S) (Q : Int → S → Prop) : Prop :=
  ∀ X35 : Int → S → Prop, (∀ (v2 : Int) (σ : S), ((if v2 = 0 then Q 0 σ else t_findRows_L43 0 0 σ Q X35)) → X35 v2 σ) → X35 v2 σ
def t_findRows_j33 (σ : S) (Q : Int → S → Prop) : Prop :=
  t_findRows_L35 1 σ Q
def t_findRows_L2 (v1 : Nat) (v2 : Int) (σ : S) (Q : Int → S → Prop) : Prop :=
  ∀ X2 : Int → S → Prop, (∀ (v2 : Int) (σ : S), ((if v2 < gI σ 134 then inb v2 ((dAln dT v1 : Nat) : Int) ∧ inb v2 120 ∧ ∀ σ_43, σ_43 = pA σ 101 v2 (bi (gA σ v1 v2 = 0)) → X2 (w32 (v2 + 1)) σ_43 else t_findRows_j33 σ Q)) → X2 v2 σ) → X2 v2 σ
def t_findRows (v1 : Nat) (σ : S) (Q : Int → S → Prop) : Prop :=
  t_findRows_L2 v1 0 σ Q
def t_law_j144 (σ : S) (Q : Int → S → Prop) : Prop :=
  ∀ σ_31, σ_31 = pI σ 144 (gI σ 1006) → Q (w32 ((-1000) - (gI σ_31 1006))) σ_31
def t_law_L197 (v1 : Int) (v4 : Int) (σ : S) (Q : Int → S → Prop) : Prop :=
  ∀ X197 : Int → S → Prop, (∀ (v4 : Int) (σ : S), ((if v4 < gI σ 134 then ((¬ v1 = 0) → (¬ v1 = 1) → (¬ v1 = 2) → (inb v4 120)) ∧ ((¬ v1 = 0) → (¬ v1 = 1) → (¬ v1 = 2) → (¬ gA σ 99 v4 = 0) → (inb v4 120)) ∧ ((¬ v1 = 0) → (¬ v1 = 1) → (v1 = 2) → (v4 = 0) → (inb v4 120)) ∧ ((¬ v1 = 0) → (v1 = 1) → (inb v4 120)) ∧ ((v1 = 0) → (inb v4 120)) ∧ (if (if v1 = 0 then (if gA σ 99 v4 = 0 then 1 else 0) else (if v1 = 1 then gA σ 99 v4 else (if v1 = 2 then (if v4 = 0 then (if gA σ 101 v4 = 0 then 0 else 1) else 0) else (if gA σ 99 v4 = 0 then 0 else (if gA σ 101 v4 = 0 then 0 else 1))))) = 0 then X197 (w32 (v4 + 1)) σ else Q (w32 ((-10) - v4)) σ) else Q 1 σ)) → X197 v4 σ) → X197 v4 σ
def t_law_j194 (v1 : Int) (σ : S) (Q : Int → S → Prop) : Prop :=
  t_law_L197 v1 0 σ Q
def t_law_j141 (v1 : Int) (σ : S) (Q : Int → S → Prop) : Prop :=
  (if v1 ≤ 1 then t_law_j194 v1 σ Q else t_findRows (if v1 = 2 then 99 else 100) σ (fun _ σ_68 => t_law_j194 v1 σ_68 Q))
def t_law_L97 (v1 : Int) (v3 : Int) (v4 : Int) (σ : S) (Q : Int → S → Prop) : Prop :=
  ∀ X97 : Int → S → Prop, (∀ (v4 : Int) (σ : S), ((if (v4 < gI σ 134) ∧ (v1 = 3) then inb v3 200 ∧ inb v4 200 ∧ t_isPattern (gA σ 70 v3) (gA σ 85 v4) σ (fun r_28 σ_27 => inb v4 120 ∧ ∀ σ_34, σ_34 = pA σ_27 100 v4 r_28 → X97 (w32 (v4 + 1)) σ_34) (fun σ_29 => t_law_j144 σ_29 Q) else t_law_j141 v1 σ Q)) → X97 v4 σ) → X97 v4 σ
def t_law_j94 (v1 : Int) (v3 : Int) (σ : S) (Q : Int → S → Prop) : Prop :=
  t_law_L97 v1 v3 0 σ Q
def t_law_L55 (v1 : Int) (v2 : Int) (v3 : Int) (v4 : Int) (σ : S) (Q : Int → S → Prop) : Prop :=
  ∀ X55 : Int → S → Prop, (∀ (v4 : Int) (σ : S), ((if v4 < gI σ 134 then inb v2 200 ∧ inb v4 200 ∧ t_isPattern (gA σ 70 v2) (gA σ 85 v4) σ (fun r_77 σ_76 => inb v4 120 ∧ ∀ σ_79, σ_79 = pA σ_76 99 v4 r_77 → X55 (w32 (v4 + 1)) σ_79) (fun σ_78 => t_law_j144 σ_78 Q) else t_law_j94 v1 v3 σ Q)) → X55 v4 σ) → X55 v4 σ
def t_law_j48 (v1 : Int) (v2 : Int) (v3 : Int) (σ : S) (Q : Int → S → Prop) : Prop :=
  t_beginCall σ (fun _ σ_16 => t_law_L55 v1 v2 v3 0 σ_16 Q)
def t_law (v1 : Int) (v2 : Int) (v3 : Int) (σ : S) (Q : Int → S → Prop) : Prop :=
  ∀ σ_1, σ_1 = pI σ 0 0 → (if gI σ_1 135 = 3 then t_in v1 0 3 σ_1 (fun r_7 σ_6 => (if r_7 = 0 then Q (-1) σ_6 else t_noHandle v2 σ_6 (fun r_11 σ_10 => (if r_11 = 0 then (if v1 = 3 then t_noHandle v3 σ_10 (fun r_83 σ_82 => (if r_83 = 0 then t_law_j48 v1 v2 v3 σ_82 Q else Q (-1) σ_82)) else t_law_j48 v1 v2 v3 σ_10 Q) else Q (-1) σ_10)))) else Q (-1) σ_1)
def t_plan (v1 : Int) (v2 : Int) (v3 : Int) (σ : S) (Q : Int → S → Prop) : Prop :=
  inb (gI σ 159) 200 ∧ ∀ σ_2, σ_2 = pA σ 102 (gI σ 159) v1 → inb (gI σ_2 159) 200 ∧ ∀ σ_6, σ_6 = pA σ_2 103 (gI σ_2 159) v2 → inb (gI σ_6 159) 200 ∧ ∀ σ_10, σ_10 = pA σ_6 104 (gI σ_6 159) v3 → ∀ σ_14, σ_14 = pI σ_10 159 (w32 (gI σ_10 159 + 1)) → Q (w32 (gI σ_14 159 - 1)) σ_14
def t_readOr_L5 (G : Orc) (v1 : Int) (σ : S) (Q : Int → S → Prop) (E : S → Prop) : Prop :=
  ∀ X5 : Int → S → Prop, (∀ (v1 : Int) (σ : S), (t_is 26 σ (fun r_5 σ_4 => (if r_5 = 0 then Q v1 σ_4 else t_pass σ_4 (fun _ σ_9 => G 1 [] σ_9 (fun r_12 σ_11 => t_plan 4 v1 r_12 σ_11 (fun r_15 σ_14 => X5 r_15 σ_14)) E) E)) E) → X5 v1 σ) → X5 v1 σ
def t_readOr_F (G : Orc) (σ : S) (Q : Int → S → Prop) (E : S → Prop) : Prop :=
  G 1 [] σ (fun r_2 σ_1 => t_readOr_L5 G r_2 σ_1 Q E) E
def t_readThen_L5 (G : Orc) (v1 : Int) (σ : S) (Q : Int → S → Prop) (E : S → Prop) : Prop :=
  ∀ X5 : Int → S → Prop, (∀ (v1 : Int) (σ : S), (t_is 27 σ (fun r_5 σ_4 => (if r_5 = 0 then Q v1 σ_4 else t_pass σ_4 (fun _ σ_9 => G 2 [] σ_9 (fun r_12 σ_11 => t_plan 5 v1 r_12 σ_11 (fun r_15 σ_14 => X5 r_15 σ_14)) E) E)) E) → X5 v1 σ) → X5 v1 σ
def t_readThen_F (G : Orc) (σ : S) (Q : Int → S → Prop) (E : S → Prop) : Prop :=
  G 2 [] σ (fun r_2 σ_1 => t_readThen_L5 G r_2 σ_1 Q E) E
def t_readMany_j25 (G : Orc) (v1 : Int) (σ : S) (Q : Int → S → Prop) (E : S → Prop) (X5 : Int → S → Prop) : Prop :=
  t_is 28 σ (fun r_10 σ_9 => t_plan (if r_10 = 0 then 7 else 6) v1 0 σ_9 (fun r_17 σ_16 => t_pass σ_16 (fun _ σ_18 => X5 r_17 σ_18) E)) E
def t_readMany_L5 (G : Orc) (v1 : Int) (σ : S) (Q : Int → S → Prop) (E : S → Prop) : Prop :=
  ∀ X5 : Int → S → Prop, (∀ (v1 : Int) (σ : S), (t_is 28 σ (fun r_5 σ_4 => (if r_5 = 0 then t_is 29 σ_4 (fun r_21 σ_20 => (if r_21 = 0 then Q v1 σ_20 else t_readMany_j25 G v1 σ_20 Q E X5)) E else t_readMany_j25 G v1 σ_4 Q E X5)) E) → X5 v1 σ) → X5 v1 σ
def t_readMany_F (G : Orc) (σ : S) (Q : Int → S → Prop) (E : S → Prop) : Prop :=
  G 3 [] σ (fun r_2 σ_1 => t_readMany_L5 G r_2 σ_1 Q E) E
def t_readOne_j48 (G : Orc) (σ : S) (Q : Int → S → Prop) (E : S → Prop) : Prop :=
  t_is 32 σ (fun r_12 σ_11 => t_pass σ_11 (fun _ σ_18 => t_must 30 σ_18 (fun _ σ_20 => G 0 [] σ_20 (fun r_23 σ_22 => t_must 31 σ_22 (fun _ σ_25 => t_plan (if r_12 = 0 then 9 else 8) r_23 0 σ_25 (fun r_28 σ_27 => Q r_28 σ_27)) E) E) E) E) E
def t_readOne_j156 (G : Orc) (s0 : Int) (σ : S) (Q : Int → S → Prop) (E : S → Prop) : Prop :=
  t_pass σ (fun _ σ_51 => t_plan s0 0 0 σ_51 (fun r_54 σ_53 => Q r_54 σ_53)) E
def t_readOne_j127 (G : Orc) (σ : S) (Q : Int → S → Prop) (E : S → Prop) : Prop :=
  t_is 34 σ (fun r_40 σ_39 => (if r_40 = 0 then t_is 35 σ_39 (fun r_45 σ_44 => t_readOne_j156 G (if r_45 = 0 then 2 else 1) σ_44 Q E) E else t_readOne_j156 G 0 σ_39 Q E)) E
def t_readOne_j263 (G : Orc) (v1 : Int) (σ : S) (Q : Int → S → Prop) (E : S → Prop) : Prop :=
  t_pass σ (fun _ σ_83 => t_plan 3 v1 0 σ_83 (fun r_86 σ_85 => Q r_86 σ_85)) E
def t_readOne_j250 (G : Orc) (v1 : Int) (v2 : Int) (σ : S) (Q : Int → S → Prop) (E : S → Prop) : Prop :=
  (if v2 = 0 then t_here σ (fun r_88 σ_87 => t_fail 1 r_88 σ_87 (fun _ σ_89 => t_readOne_j263 G v1 σ_89 Q E) E) else t_readOne_j263 G v1 σ Q E)
def t_readOne_L212 (G : Orc) (v1 : Int) (v2 : Int) (v3 : Int) (σ : S) (Q : Int → S → Prop) (E : S → Prop) : Prop :=
  ∀ X212 : Int → Int → S → Prop, (∀ (v2 : Int) (v3 : Int) (σ : S), ((if v3 < gI σ 45 then ((v2 = 0) → (¬ v1 < 0) → (inb v3 70)) ∧ X212 (bi (¬ (v2 = 0) ∨ (¬ (v1 < 0) ∧ (gA σ 69 v3 = v1)))) (w32 (v3 + 1)) σ else t_readOne_j250 G v1 v2 σ Q E)) → X212 v2 v3 σ) → X212 v2 v3 σ
def t_readOne_j185 (G : Orc) (σ : S) (Q : Int → S → Prop) (E : S → Prop) : Prop :=
  inb (gI σ 10) 902 ∧ inb (gI σ 10) 902 ∧ t_findName (gA σ 2 (gI σ 10)) (gA σ 3 (gI σ 10)) σ (fun r_77 σ_76 => t_readOne_L212 G r_77 0 0 σ_76 Q E)
def t_readOne_F (G : Orc) (σ : S) (Q : Int → S → Prop) (E : S → Prop) : Prop :=
  t_is 30 σ (fun r_2 σ_1 => (if r_2 = 0 then t_is 32 σ_1 (fun r_7 σ_6 => (if r_7 = 0 then t_is 33 σ_6 (fun r_30 σ_29 => (if r_30 = 0 then t_is 34 σ_29 (fun r_35 σ_34 => (if r_35 = 0 then t_is 35 σ_34 (fun r_56 σ_55 => (if r_56 = 0 then t_is 36 σ_55 (fun r_61 σ_60 => (if r_61 = 0 then t_isOver σ_60 (fun r_66 σ_65 => (if r_66 = 0 then t_readOne_j185 G σ_65 Q E else t_here σ_65 (fun r_99 σ_98 => t_fail 1 r_99 σ_98 (fun _ σ_100 => t_readOne_j185 G σ_100 Q E) E))) E else t_readOne_j127 G σ_60 Q E)) E else t_readOne_j127 G σ_55 Q E)) E else t_readOne_j127 G σ_34 Q E)) E else t_readOne_j48 G σ_29 Q E)) E else t_readOne_j48 G σ_6 Q E)) E else t_pass σ_1 (fun _ σ_102 => G 0 [] σ_102 (fun r_105 σ_104 => t_must 31 σ_104 (fun _ σ_107 => Q r_105 σ_107) E) E) E)) E
def t_S_readOr : Nat → Orc
  | 0 => fun _ _ _ _ _ => False
  | n + 1 => fun i a σ Q E => match i, a with
    | 0, [] => t_readOr_F (t_S_readOr n) σ Q E
    | 1, [] => t_readThen_F (t_S_readOr n) σ Q E
    | 2, [] => t_readMany_F (t_S_readOr n) σ Q E
    | 3, [] => t_readOne_F (t_S_readOr n) σ Q E
    | _, _ => False
def t_readOr (σ : S) (Q : Int → S → Prop) (E : S → Prop) : Prop := t_S_readOr 320 0 [] σ Q E
def t_readThen (σ : S) (Q : Int → S → Prop) (E : S → Prop) : Prop := t_S_readOr 320 1 [] σ Q E
def t_readMany (σ : S) (Q : Int → S → Prop) (E : S → Prop) : Prop := t_S_readOr 320 2 [] σ Q E
def t_readOne (σ : S) (Q : Int → S → Prop) (E : S → Prop) : Prop := t_S_readOr 320 3 [] σ Q E
def t_answers_j253 (G : Orc) (v3 : Int) (σ : S) (Q : Int → S → Prop) (E : S → Prop) : Prop :=
  Q (w32 (gI σ 129 - v3)) σ
def t_answers_j185 (G : Orc) (v3 : Int) (σ : S) (Q : Int → S → Prop) (E : S → Prop) : Prop :=
  t_answers_j253 G v3 σ Q E
def t_answers_L155 (G : Orc) (v3 : Int) (v4 : Int) (v6 : Int) (σ : S) (Q : Int → S → Prop) (E : S → Prop) : Prop :=
  ∀ X155 : Int → S → Prop, (∀ (v6 : Int) (σ : S), ((if v6 < gI σ 129 then inb v6 40000 ∧ G 1 [v4, (gA σ 81 v6), v3] σ (fun r_35 σ_34 => X155 (w32 (v6 + 1)) σ_34) E else t_answers_j185 G v3 σ Q E)) → X155 v6 σ) → X155 v6 σ
def t_answers_F (G : Orc) (v1 : Int) (v2 : Int) (σ : S) (Q : Int → S → Prop) (E : S → Prop) : Prop :=
  inb v1 200 ∧ inb v1 200 ∧ (if gA σ 102 v1 = 0 then t_addTerm v2 0 (gI σ 129) σ (fun _ σ_6 => t_answers_j253 G (gI σ 129) σ_6 Q E) E else (if gA σ 102 v1 = 1 then t_answers_j253 G (gI σ 129) σ Q E else (if gA σ 102 v1 = 2 then t_listSteps v2 (-2) σ (fun r_10 σ_9 => t_answers_j253 G (gI σ 129) σ_9 Q E) E else (if gA σ 102 v1 = 3 then t_listSteps v2 (gA σ 103 v1) σ (fun r_13 σ_12 => t_answers_j253 G (gI σ 129) σ_12 Q E) E else (if gA σ 102 v1 = 4 then G 0 [(gA σ 103 v1), v2] σ (fun r_16 σ_15 => inb v1 200 ∧ G 1 [(gA σ_15 104 v1), v2, (gI σ 129)] σ_15 (fun r_21 σ_20 => t_answers_j253 G (gI σ 129) σ_20 Q E) E) E else (if gA σ 102 v1 = 5 then inb v1 200 ∧ G 2 [(gA σ 103 v1), (gA σ 104 v1), v2, (gI σ 129)] σ (fun _ σ_25 => t_answers_j253 G (gI σ 129) σ_25 Q E) E else (if gA σ 102 v1 = 6 then t_addTerm v2 0 (gI σ 129) σ (fun _ σ_27 => t_answers_L155 G (gI σ 129) (gA σ 103 v1) (gI σ 129) σ_27 Q E) E else (if gA σ 102 v1 = 7 then G 3 [(gA σ 103 v1), v2, (gI σ 129)] σ (fun _ σ_37 => t_answers_j253 G (gI σ 129) σ_37 Q E) E else (if gA σ 102 v1 = 8 then G 0 [(gA σ 103 v1), v2] σ (fun r_40 σ_39 => ∀ σ_42, σ_42 = pI σ_39 129 (gI σ 129) → (if r_40 = 0 then t_addTerm v2 0 (gI σ 129) σ_42 (fun _ σ_46 => t_answers_j253 G (gI σ 129) σ_46 Q E) E else t_answers_j253 G (gI σ 129) σ_42 Q E)) E else G 0 [(gA σ 103 v1), v2] σ (fun r_49 σ_48 => ∀ σ_52, σ_52 = pI σ_48 129 (w32 (gI σ 129 + (bi (¬ (r_49 ≤ 0))))) → t_answers_j253 G (gI σ 129) σ_52 Q E) E)))))))))
def t_addAll_L23 (G : Orc) (v3 : Int) (v4 : Int) (v5 : Int) (v6 : Int) (σ : S) (Q : Int → S → Prop) (E : S → Prop) : Prop :=
  ∀ X23 : Int → S → Prop, (∀ (v6 : Int) (σ : S), ((if v6 < v5 then inb (w32 (v4 + v6)) 40000 ∧ t_addTerm (gA σ 81 (w32 (v4 + v6))) 0 v3 σ (fun _ σ_11 => X23 (w32 (v6 + 1)) σ_11) E else Q v5 σ)) → X23 v6 σ) → X23 v6 σ
def t_addAll_F (G : Orc) (v1 : Int) (v2 : Int) (v3 : Int) (σ : S) (Q : Int → S → Prop) (E : S → Prop) : Prop :=
  G 0 [v1, v2] σ (fun r_3 σ_2 => ∀ σ_5, σ_5 = pI σ_2 129 (gI σ 129) → t_addAll_L23 G v3 (gI σ 129) r_3 0 σ_5 Q E) E
def t_thenAll_j100 (G : Orc) (v4 : Int) (v7 : Int) (σ : S) (Q : Int → S → Prop) (E : S → Prop) : Prop :=
  ∀ σ_11, σ_11 = pI σ 129 (w32 (v4 + v7)) → Q 0 σ_11
def t_thenAll_L67 (G : Orc) (v4 : Int) (v6 : Int) (v7 : Int) (v8 : Int) (σ : S) (Q : Int → S → Prop) (E : S → Prop) : Prop :=
  ∀ X67 : Int → S → Prop, (∀ (v8 : Int) (σ : S), ((if v8 < v7 then inb (w32 (v6 + v8)) 40000 ∧ inb (w32 (v4 + v8)) 40000 ∧ ∀ σ_15, σ_15 = pA σ 81 (w32 (v4 + v8)) (gA σ 81 (w32 (v6 + v8))) → X67 (w32 (v8 + 1)) σ_15 else t_thenAll_j100 G v4 v7 σ Q E)) → X67 v8 σ) → X67 v8 σ
def t_thenAll_j55 (G : Orc) (v4 : Int) (v6 : Int) (σ : S) (Q : Int → S → Prop) (E : S → Prop) : Prop :=
  t_thenAll_L67 G v4 v6 (w32 (gI σ 129 - v6)) 0 σ Q E
def t_thenAll_L24 (G : Orc) (v2 : Int) (v4 : Int) (v5 : Int) (v6 : Int) (v7 : Int) (σ : S) (Q : Int → S → Prop) (E : S → Prop) : Prop :=
  ∀ X24 : Int → S → Prop, (∀ (v7 : Int) (σ : S), ((if v7 < v5 then inb (w32 (v4 + v7)) 40000 ∧ G 1 [v2, (gA σ 81 (w32 (v4 + v7))), v6] σ (fun r_21 σ_20 => X24 (w32 (v7 + 1)) σ_20) E else t_thenAll_j55 G v4 v6 σ Q E)) → X24 v7 σ) → X24 v7 σ
def t_thenAll_F (G : Orc) (v1 : Int) (v2 : Int) (v3 : Int) (v4 : Int) (σ : S) (Q : Int → S → Prop) (E : S → Prop) : Prop :=
  G 0 [v1, v3] σ (fun r_2 σ_1 => ∀ σ_4, σ_4 = pI σ_1 129 (w32 (v4 + r_2)) → t_thenAll_L24 G v2 v4 r_2 (w32 (v4 + r_2)) 0 σ_4 Q E) E
def t_ends_j97 (G : Orc) (v4 : Int) (σ : S) (Q : Int → S → Prop) (E : S → Prop) : Prop :=
  ∀ σ_9, σ_9 = pI σ 129 v4 → Q 0 σ_9
def t_ends_j91 (G : Orc) (v4 : Int) (v5 : Int) (σ : S) (Q : Int → S → Prop) (E : S → Prop) (X55 : Int → Int → S → Prop) : Prop :=
  X55 v4 (w32 (v5 + 1)) σ
def t_ends_L55 (G : Orc) (v4 : Int) (v5 : Int) (σ : S) (Q : Int → S → Prop) (E : S → Prop) : Prop :=
  ∀ X55 : Int → Int → S → Prop, (∀ (v4 : Int) (v5 : Int) (σ : S), ((if v5 < gI σ 129 then inb v5 40000 ∧ (if gA σ 82 v5 = 0 then inb v5 40000 ∧ inb v4 40000 ∧ ∀ σ_17, σ_17 = pA σ 81 v4 (gA σ 81 v5) → t_ends_j91 G (w32 (v4 + 1)) v5 σ_17 Q E X55 else t_ends_j91 G v4 v5 σ Q E X55) else t_ends_j97 G v4 σ Q E)) → X55 v4 v5 σ) → X55 v4 v5 σ
def t_ends_j52 (G : Orc) (v3 : Int) (v4 : Int) (σ : S) (Q : Int → S → Prop) (E : S → Prop) : Prop :=
  t_ends_L55 G v4 v3 σ Q E
def t_ends_L13 (G : Orc) (v1 : Int) (v3 : Int) (v4 : Int) (v5 : Int) (σ : S) (Q : Int → S → Prop) (E : S → Prop) : Prop :=
  ∀ X13 : Int → S → Prop, (∀ (v5 : Int) (σ : S), ((if v5 < gI σ 129 then inb v5 40000 ∧ G 1 [v1, (gA σ 81 v5), v3] σ (fun r_23 σ_22 => inb v5 40000 ∧ ∀ σ_25, σ_25 = pA σ_22 82 v5 r_23 → X13 (w32 (v5 + 1)) σ_25) E else t_ends_j52 G v3 v4 σ Q E)) → X13 v5 σ) → X13 v5 σ
def t_ends_F (G : Orc) (v1 : Int) (v2 : Int) (v3 : Int) (σ : S) (Q : Int → S → Prop) (E : S → Prop) : Prop :=
  t_addTerm v2 0 v3 σ (fun _ σ_1 => t_ends_L13 G v1 v3 v3 v3 σ_1 Q E) E
def t_S_answers : Nat → Orc
  | 0 => fun _ _ _ _ _ => False
  | n + 1 => fun i a σ Q E => match i, a with
    | 0, [v1, v2] => t_answers_F (t_S_answers n) v1 v2 σ Q E
    | 1, [v1, v2, v3] => t_addAll_F (t_S_answers n) v1 v2 v3 σ Q E
    | 2, [v1, v2, v3, v4] => t_thenAll_F (t_S_answers n) v1 v2 v3 v4 σ Q E
    | 3, [v1, v2, v3] => t_ends_F (t_S_answers n) v1 v2 v3 σ Q E
    | _, _ => False
def t_answers (v1 : Int) (v2 : Int) (σ : S) (Q : Int → S → Prop) (E : S → Prop) : Prop := t_S_answers 200 0 [v1, v2] σ Q E
def t_addAll (v1 : Int) (v2 : Int) (v3 : Int) (σ : S) (Q : Int → S → Prop) (E : S → Prop) : Prop := t_S_answers 200 1 [v1, v2, v3] σ Q E
def t_thenAll (v1 : Int) (v2 : Int) (v3 : Int) (v4 : Int) (σ : S) (Q : Int → S → Prop) (E : S → Prop) : Prop := t_S_answers 200 2 [v1, v2, v3, v4] σ Q E
def t_ends (v1 : Int) (v2 : Int) (v3 : Int) (σ : S) (Q : Int → S → Prop) (E : S → Prop) : Prop := t_S_answers 200 3 [v1, v2, v3] σ Q E
def t_strategy_j60 (σ : S) (Q : Int → S → Prop) : Prop :=
  t_faultTold σ (fun r_17 σ_16 => Q r_17 σ_16)
def t_strategy_j142 (σ : S) (Q : Int → S → Prop) : Prop :=
  ∀ σ_30, σ_30 = pI σ 145 (gI σ 120) → t_stopped σ_30 (fun r_33 σ_32 => Q r_33 σ_32)
def t_strategy_j128 (v4 : Int) (σ : S) (Q : Int → S → Prop) : Prop :=
  ∀ σ_42, σ_42 = pI σ 134 v4 → ∀ σ_44, σ_44 = pI σ_42 135 4 → Q v4 σ_44
def t_strategy_L101 (v4 : Int) (v5 : Int) (σ : S) (Q : Int → S → Prop) : Prop :=
  ∀ X101 : Int → S → Prop, (∀ (v5 : Int) (σ : S), ((if v5 < v4 then inb v5 40000 ∧ inb v5 200 ∧ ∀ σ_48, σ_48 = pA σ 85 v5 (gA σ 81 v5) → X101 (w32 (v5 + 1)) σ_48 else t_strategy_j128 v4 σ Q)) → X101 v5 σ) → X101 v5 σ
def t_strategy_j57 (v1 : Int) (v2 : Int) (σ : S) (Q : Int → S → Prop) : Prop :=
  t_beginCall σ (fun _ σ_23 => inb v1 200 ∧ t_reduced (gA σ_23 70 v1) 0 σ_23 (fun r_27 σ_26 => t_answers v2 r_27 σ_26 (fun r_35 σ_34 => ∀ σ_38, σ_38 = pI σ_34 145 (gI σ_34 120) → t_strategy_L101 r_35 0 σ_38 Q) (fun σ_36 => t_strategy_j142 σ_36 Q)) (fun σ_28 => t_strategy_j142 σ_28 Q))
def t_strategy (v1 : Int) (σ : S) (Q : Int → S → Prop) : Prop :=
  ∀ σ_1, σ_1 = pI σ 0 0 → t_noHandle v1 σ_1 (fun r_4 σ_3 => (if r_4 = 0 then t_findWords σ_3 (fun _ σ_7 => t_noFault σ_7 (fun _ σ_8 => ∀ σ_9, σ_9 = pI σ_8 159 0 → ∀ σ_11, σ_11 = pI σ_9 11 60 → t_readOr σ_11 (fun r_14 σ_13 => t_isOver σ_13 (fun r_19 σ_18 => (if r_19 = 0 then t_here σ_18 (fun r_52 σ_51 => t_fail 1 r_52 σ_51 (fun _ σ_53 => t_strategy_j57 v1 r_14 σ_53 Q) (fun σ_54 => t_strategy_j60 σ_54 Q)) else t_strategy_j57 v1 r_14 σ_18 Q)) (fun σ_20 => t_strategy_j60 σ_20 Q)) (fun σ_15 => t_strategy_j60 σ_15 Q))) else Q (-1) σ_3))
def t_leastOf_j137 (v3 : Int) (σ : S) (Q : Int → S → Prop) : Prop :=
  t_lowest v3 σ (fun r_5 σ_4 => Q (if v3 = 0 then (-1) else (if r_5 < 0 then (-2) else r_5)) σ_4)
def t_leastOf_j110 (v1 : Int) (v2 : Int) (v3 : Int) (v4 : Int) (v5 : Int) (σ : S) (Q : Int → S → Prop) (X5 : Int → Int → S → Prop) : Prop :=
  ((¬ v5 = 0) → (inb v4 50)) ∧ X5 (if v5 = 0 then v3 else bOr v3 (bShl 1 (gA σ 39 v4))) (w32 (v4 + 1)) σ
def t_leastOf_L68 (v1 : Int) (v2 : Int) (v3 : Int) (v4 : Int) (v5 : Int) (v6 : Int) (σ : S) (Q : Int → S → Prop) (X5 : Int → Int → S → Prop) : Prop :=
  ∀ X68 : Int → Int → S → Prop, (∀ (v5 : Int) (v6 : Int) (σ : S), ((if (v6 < v2) ∧ (¬ (v5 = 0)) then inb v6 5 ∧ inb (w32 (w32 (5 * v4) + v6)) 250 ∧ t_isBelow (gA σ 105 v6) (gA σ 38 (w32 (w32 (5 * v4) + v6))) σ (fun r_35 σ_34 => X68 r_35 (w32 (v6 + 1)) σ_34) else t_leastOf_j110 v1 v2 v3 v4 v5 σ Q X5)) → X68 v5 v6 σ) → X68 v5 v6 σ
def t_leastOf_L5 (v1 : Int) (v2 : Int) (v3 : Int) (v4 : Int) (σ : S) (Q : Int → S → Prop) : Prop :=
  ∀ X5 : Int → Int → S → Prop, (∀ (v3 : Int) (v4 : Int) (σ : S), ((if v4 < gI σ 37 then inb v4 50 ∧ (if ¬ (bi (gA σ 40 v4 = v1) = 0) ∧ (v2 = 2) then inb 0 5 ∧ inb 1 5 ∧ t_isRowAbove v4 (gA σ 105 0) (gA σ 105 1) σ (fun r_21 σ_20 => t_leastOf_j110 v1 v2 v3 v4 r_21 σ_20 Q X5) else t_leastOf_L68 v1 v2 v3 v4 (bi (gA σ 40 v4 = v1)) 0 σ Q X5) else t_leastOf_j137 v3 σ Q)) → X5 v3 v4 σ) → X5 v3 v4 σ
def t_leastOf (v1 : Int) (v2 : Int) (σ : S) (Q : Int → S → Prop) : Prop :=
  t_leastOf_L5 v1 v2 0 0 σ Q
def t_firstOfKind_L2 (v1 : Int) (v2 : Int) (σ : S) (Q : Int → S → Prop) : Prop :=
  ∀ X2 : Int → S → Prop, (∀ (v2 : Int) (σ : S), (inb v2 20 ∧ (if gA σ 32 v2 = v1 then Q v2 σ else X2 (w32 (v2 + 1)) σ)) → X2 v2 σ) → X2 v2 σ
def t_firstOfKind (v1 : Int) (σ : S) (Q : Int → S → Prop) : Prop :=
  t_firstOfKind_L2 v1 0 σ Q
def t_nextTuple_j92 (v4 : Int) (v6 : Int) (σ : S) (Q : Int → S → Prop) : Prop :=
  inb v4 5 ∧ ∀ σ_29, σ_29 = pA σ 105 v4 v6 → Q 1 σ_29
def t_nextTuple_j83 (v1 : Int) (v3 : Int) (v4 : Int) (v5 : Int) (v6 : Int) (σ : S) (Q : Int → S → Prop) (X12 : Int → S → Prop) : Prop :=
  (if v6 < gI σ 18 then t_nextTuple_j92 v4 v6 σ Q else t_firstOfKind v5 σ (fun r_25 σ_24 => inb v4 5 ∧ ∀ σ_26, σ_26 = pA σ_24 105 v4 r_25 → X12 (w32 (v4 + (-1))) σ_26))
def t_nextTuple_L56 (v1 : Int) (v3 : Int) (v4 : Int) (v5 : Int) (v6 : Int) (σ : S) (Q : Int → S → Prop) (X12 : Int → S → Prop) : Prop :=
  ∀ X56 : Int → S → Prop, (∀ (v6 : Int) (σ : S), (((v6 < gI σ 18) → (inb v6 20)) ∧ (if (v6 < gI σ 18) ∧ (¬ (gA σ 32 v6 = v5)) then X56 (w32 (v6 + 1)) σ else t_nextTuple_j83 v1 v3 v4 v5 v6 σ Q X12)) → X56 v6 σ) → X56 v6 σ
def t_nextTuple_L12 (v1 : Int) (v3 : Int) (v4 : Int) (σ : S) (Q : Int → S → Prop) : Prop :=
  ∀ X12 : Int → S → Prop, (∀ (v4 : Int) (σ : S), ((if v4 < 0 then Q 0 σ else ((¬ v4 < 2) → (inb v1 50)) ∧ t_holeKind v3 (if v4 < 2 then v4 else (if gA σ 44 v1 = 0 then v4 else 0)) σ (fun r_13 σ_12 => inb v4 5 ∧ t_nextTuple_L56 v1 v3 v4 r_13 (w32 (gA σ_12 105 v4 + 1)) σ_12 Q X12))) → X12 v4 σ) → X12 v4 σ
def t_nextTuple (v1 : Int) (v2 : Int) (σ : S) (Q : Int → S → Prop) : Prop :=
  inb v1 50 ∧ t_nextTuple_L12 v1 (gA σ 41 v1) (w32 (v2 - 1)) σ Q
def t_firstTuple_L10 (v1 : Int) (v2 : Int) (v3 : Int) (v4 : Int) (σ : S) (Q : Int → S → Prop) : Prop :=
  ∀ X10 : Int → S → Prop, (∀ (v4 : Int) (σ : S), ((if v4 < v2 then ((¬ v4 < 2) → (inb v1 50)) ∧ t_holeKind v3 (if v4 < 2 then v4 else (if gA σ 44 v1 = 0 then v4 else 0)) σ (fun r_13 σ_12 => t_firstOfKind r_13 σ_12 (fun r_15 σ_14 => inb v4 5 ∧ ∀ σ_16, σ_16 = pA σ_14 105 v4 r_15 → X10 (w32 (v4 + 1)) σ_16)) else Q 0 σ)) → X10 v4 σ) → X10 v4 σ
def t_firstTuple (v1 : Int) (v2 : Int) (σ : S) (Q : Int → S → Prop) : Prop :=
  inb v1 50 ∧ t_firstTuple_L10 v1 v2 (gA σ 41 v1) 0 σ Q
def t_joined (v1 : Int) (v2 : Int) (v3 : Int) (σ : S) (Q : Int → S → Prop) : Prop :=
  t_sortOfTwo v1 v2 v3 σ (fun r_2 σ_1 => Q r_2 σ_1)
def t_isOneLeast_j172 (v1 : Int) (σ : S) (Q : Int → S → Prop) (X2 : Int → S → Prop) : Prop :=
  X2 (w32 (v1 + 1)) σ
def t_isOneLeast_L89 (v1 : Int) (v3 : Int) (σ : S) (Q : Int → S → Prop) (X2 : Int → S → Prop) : Prop :=
  ∀ X89 : Int → S → Prop, (∀ (v3 : Int) (σ : S), ((if v3 = 0 then t_isOneLeast_j172 v1 σ Q X2 else inb 0 5 ∧ inb 1 5 ∧ t_joined v1 (gA σ 105 0) (gA σ 105 1) σ (fun r_29 σ_28 => inb 2 5 ∧ t_joined v1 r_29 (gA σ_28 105 2) σ_28 (fun r_33 σ_32 => inb 0 5 ∧ inb 1 5 ∧ inb 2 5 ∧ t_joined v1 (gA σ_32 105 1) (gA σ_32 105 2) σ_32 (fun r_41 σ_40 => t_joined v1 (gA σ_32 105 0) r_41 σ_40 (fun r_43 σ_42 => (if r_33 = r_43 then t_nextTuple v1 3 σ_42 (fun r_47 σ_46 => X89 r_47 σ_46) else Q 0 σ_42))))))) → X89 v3 σ) → X89 v3 σ
def t_isOneLeast_j67 (v1 : Int) (σ : S) (Q : Int → S → Prop) (X2 : Int → S → Prop) : Prop :=
  inb v1 50 ∧ (if gA σ 44 v1 = 0 then t_isOneLeast_j172 v1 σ Q X2 else ∀ σ_19, σ_19 = pI σ 162 3 → t_firstTuple v1 3 σ_19 (fun _ σ_21 => t_isOneLeast_L89 v1 1 σ_21 Q X2))
def t_isOneLeast_L40 (v1 : Int) (v2 : Int) (v3 : Int) (σ : S) (Q : Int → S → Prop) (X2 : Int → S → Prop) : Prop :=
  ∀ X40 : Int → S → Prop, (∀ (v3 : Int) (σ : S), ((if v3 = 0 then t_isOneLeast_j67 v1 σ Q X2 else t_leastOf v1 v2 σ (fun r_49 σ_48 => (if r_49 = (-2) then Q 0 σ_48 else t_nextTuple v1 v2 σ_48 (fun r_53 σ_52 => X40 r_53 σ_52))))) → X40 v3 σ) → X40 v3 σ
def t_isOneLeast_L2 (v1 : Int) (σ : S) (Q : Int → S → Prop) : Prop :=
  ∀ X2 : Int → S → Prop, (∀ (v1 : Int) (σ : S), ((if v1 < gI σ 62 then inb v1 50 ∧ inb (gA σ 41 v1) 50 ∧ ∀ σ_8, σ_8 = pI σ 161 v1 → ∀ σ_10, σ_10 = pI σ_8 162 (gA σ 37 (gA σ 41 v1)) → t_firstTuple v1 (gA σ 37 (gA σ 41 v1)) σ_10 (fun _ σ_12 => t_isOneLeast_L40 v1 (gA σ 37 (gA σ 41 v1)) 1 σ_12 Q X2) else Q 1 σ)) → X2 v1 σ) → X2 v1 σ
def t_isOneLeast (σ : S) (Q : Int → S → Prop) : Prop :=
  t_isOneLeast_L2 0 σ Q
def t_timesIn_L6 (v1 : Int) (v2 : Int) (v3 : Int) (v4 : Int) (v5 : Int) (σ : S) (Q : Int → S → Prop) : Prop :=
  ∀ X6 : Int → Int → S → Prop, (∀ (v4 : Int) (v5 : Int) (σ : S), ((if v5 < v3 then t_arg v1 v5 σ (fun r_4 σ_3 => X6 (w32 (v4 + (bi (r_4 = v2)))) (w32 (v5 + 1)) σ_3) else Q v4 σ)) → X6 v4 v5 σ) → X6 v4 v5 σ
def t_timesIn (v1 : Int) (v2 : Int) (v3 : Int) (σ : S) (Q : Int → S → Prop) : Prop :=
  t_timesIn_L6 v1 v2 v3 0 0 σ Q
def t_isLeft (v1 : Int) (v2 : Int) (v3 : Int) (σ : S) (Q : Int → S → Prop) : Prop :=
  t_arg v1 v2 σ (fun r_2 σ_1 => t_timesIn v1 r_2 (w32 (v2 + 1)) σ_1 (fun r_4 σ_3 => inb v3 200000 ∧ t_timesIn v3 r_2 (gA σ_3 50 v3) σ_3 (fun r_8 σ_7 => Q (bi (¬ (r_4 ≤ r_8))) σ_7)))
def t_isAbove_j136 (G : Orc) (v1 : Int) (v2 : Int) (v3 : Int) (v4 : Int) (σ : S) (Q : Int → S → Prop) : Prop :=
  inb v3 8192 ∧ ∀ σ_18, σ_18 = pA σ 109 v3 (gI σ 166) → inb v3 8192 ∧ ∀ σ_21, σ_21 = pA σ_18 106 v3 v1 → inb v3 8192 ∧ ∀ σ_24, σ_24 = pA σ_21 107 v3 v2 → inb v3 8192 ∧ ∀ σ_28, σ_28 = pA σ_24 108 v3 (bi (¬ (v4 = 0))) → Q v4 σ_28
def t_isAbove_L112 (G : Orc) (v1 : Int) (v2 : Int) (v3 : Int) (v4 : Int) (σ : S) (Q : Int → S → Prop) : Prop :=
  ∀ X112 : Int → S → Prop, (∀ (v3 : Int) (σ : S), (inb v3 8192 ∧ (if gA σ 109 v3 = gI σ 166 then X112 (bAnd (w32 (v3 + 1)) 8191) σ else t_isAbove_j136 G v1 v2 v3 v4 σ Q)) → X112 v3 σ) → X112 v3 σ
def t_isAbove_j87 (G : Orc) (v1 : Int) (v2 : Int) (σ : S) (Q : Int → S → Prop) : Prop :=
  G 1 [v1, v2] σ (fun r_11 σ_10 => t_isAbove_L112 G v1 v2 (bAnd (bUsh (w32 ((w32 (w32 (v1 * 31) + v2)) * 40503)) 4) 8191) r_11 σ_10 Q) (fun _ => False)
def t_isAbove_j60 (G : Orc) (v3 : Int) (σ : S) (Q : Int → S → Prop) : Prop :=
  inb v3 8192 ∧ Q (bi (gA σ 108 v3 = 1)) σ
def t_isAbove_L27 (G : Orc) (v1 : Int) (v2 : Int) (v3 : Int) (σ : S) (Q : Int → S → Prop) : Prop :=
  ∀ X27 : Int → S → Prop, (∀ (v3 : Int) (σ : S), (inb v3 8192 ∧ (if gA σ 109 v3 = gI σ 166 then inb v3 8192 ∧ ((gA σ 106 v3 = v1) → (inb v3 8192)) ∧ (if (gA σ 106 v3 = v1) ∧ (gA σ 107 v3 = v2) then t_isAbove_j60 G v3 σ Q else X27 (bAnd (w32 (v3 + 1)) 8191) σ) else t_isAbove_j87 G v1 v2 σ Q)) → X27 v3 σ) → X27 v3 σ
def t_isAbove_F (G : Orc) (v1 : Int) (v2 : Int) (σ : S) (Q : Int → S → Prop) : Prop :=
  t_isVar v1 σ (fun r_2 σ_1 => (if r_2 = 0 then t_isAbove_L27 G v1 v2 (bAnd (bUsh (w32 ((w32 (w32 (v1 * 31) + v2)) * 40503)) 4) 8191) σ_1 Q else Q 0 σ_1))
def t_isAboveBy_j177 (G : Orc) (v1 : Int) (v2 : Int) (v4 : Int) (σ : S) (Q : Int → S → Prop) : Prop :=
  t_arg v1 v4 σ (fun r_38 σ_37 => t_arg v2 v4 σ_37 (fun r_40 σ_39 => G 0 [r_38, r_40] σ_39 (fun r_42 σ_41 => Q r_42 σ_41) (fun _ => False)))
def t_isAboveBy_L149 (G : Orc) (v1 : Int) (v2 : Int) (v4 : Int) (σ : S) (Q : Int → S → Prop) : Prop :=
  ∀ X149 : Int → S → Prop, (∀ (v4 : Int) (σ : S), (inb v1 200000 ∧ (if v4 < gA σ 50 v1 then t_arg v1 v4 σ (fun r_32 σ_31 => t_arg v2 v4 σ_31 (fun r_34 σ_33 => (if r_32 = r_34 then X149 (w32 (v4 + 1)) σ_33 else t_isAboveBy_j177 G v1 v2 v4 σ_33 Q))) else Q 0 σ)) → X149 v4 σ) → X149 v4 σ
def t_isAboveBy_j88 (G : Orc) (v1 : Int) (v2 : Int) (σ : S) (Q : Int → S → Prop) : Prop :=
  inb v1 200000 ∧ inb v2 200000 ∧ (if gA σ 48 v1 = gA σ 48 v2 then inb (gA σ 48 v1) 50 ∧ ((gA σ 44 (gA σ 48 v1) = 0) → (inb (gA σ 48 v1) 50)) ∧ (if ¬ (gA σ 44 (gA σ 48 v1) = 0) ∨ (¬ (gA σ 45 (gA σ 48 v1) = 0)) then G 2 [v1, v2] σ (fun r_26 σ_25 => Q r_26 σ_25) (fun _ => False) else t_isAboveBy_L149 G v1 v2 0 σ Q) else inb v2 200000 ∧ Q (bi (¬ (gA σ 48 v1 ≤ gA σ 48 v2))) σ)
def t_isAboveBy_L56 (G : Orc) (v1 : Int) (v2 : Int) (v3 : Int) (σ : S) (Q : Int → S → Prop) : Prop :=
  ∀ X56 : Int → S → Prop, (∀ (v3 : Int) (σ : S), (inb v2 200000 ∧ (if v3 < gA σ 50 v2 then t_arg v2 v3 σ (fun r_52 σ_51 => G 0 [v1, r_52] σ_51 (fun r_54 σ_53 => (if r_54 = 0 then Q 0 σ_53 else X56 (w32 (v3 + 1)) σ_53)) (fun _ => False)) else t_isAboveBy_j88 G v1 v2 σ Q)) → X56 v3 σ) → X56 v3 σ
def t_isAboveBy_j44 (G : Orc) (v1 : Int) (v2 : Int) (σ : S) (Q : Int → S → Prop) : Prop :=
  t_isVar v2 σ (fun r_6 σ_5 => (if r_6 = 0 then t_isAboveBy_L56 G v1 v2 0 σ_5 Q else Q 0 σ_5))
def t_isAboveBy_L2 (G : Orc) (v1 : Int) (v2 : Int) (v3 : Int) (σ : S) (Q : Int → S → Prop) : Prop :=
  ∀ X2 : Int → S → Prop, (∀ (v3 : Int) (σ : S), (inb v1 200000 ∧ (if v3 < gA σ 50 v1 then t_arg v1 v3 σ (fun r_58 σ_57 => (if r_58 = v2 then Q 1 σ_57 else t_arg v1 v3 σ_57 (fun r_62 σ_61 => G 0 [r_62, v2] σ_61 (fun r_64 σ_63 => (if r_64 = 0 then X2 (w32 (v3 + 1)) σ_63 else Q 1 σ_63)) (fun _ => False)))) else t_isAboveBy_j44 G v1 v2 σ Q)) → X2 v3 σ) → X2 v3 σ
def t_isAboveBy_F (G : Orc) (v1 : Int) (v2 : Int) (σ : S) (Q : Int → S → Prop) : Prop :=
  t_isAboveBy_L2 G v1 v2 0 σ Q
def t_areAbove_j142 (G : Orc) (v1 : Int) (v2 : Int) (v3 : Int) (v4 : Int) (σ : S) (Q : Int → S → Prop) (X46 : Int → S → Prop) : Prop :=
  X46 (w32 (v4 + 1)) σ
def t_areAbove_j127 (G : Orc) (v1 : Int) (v2 : Int) (v3 : Int) (v4 : Int) (v6 : Int) (s0 : Int) (σ : S) (Q : Int → S → Prop) (X46 : Int → S → Prop) (X74 : Int → Int → S → Prop) : Prop :=
  X74 s0 (w32 (v6 + 1)) σ
def t_areAbove_j126 (G : Orc) (v1 : Int) (v2 : Int) (v3 : Int) (v4 : Int) (v6 : Int) (σ : S) (Q : Int → S → Prop) (X46 : Int → S → Prop) (X74 : Int → Int → S → Prop) : Prop :=
  t_areAbove_j127 G v1 v2 v3 v4 v6 0 σ Q X46 X74
def t_areAbove_j135 (G : Orc) (v1 : Int) (v2 : Int) (v3 : Int) (v4 : Int) (v5 : Int) (σ : S) (Q : Int → S → Prop) (X46 : Int → S → Prop) : Prop :=
  (if v5 = 0 then Q 0 σ else t_areAbove_j142 G v1 v2 v3 v4 σ Q X46)
def t_areAbove_L74 (G : Orc) (v1 : Int) (v2 : Int) (v3 : Int) (v4 : Int) (v5 : Int) (v6 : Int) (σ : S) (Q : Int → S → Prop) (X46 : Int → S → Prop) : Prop :=
  ∀ X74 : Int → Int → S → Prop, (∀ (v5 : Int) (v6 : Int) (σ : S), (inb v1 200000 ∧ (if (v6 < gA σ 50 v1) ∧ (v5 = 0) then t_isLeft v1 v6 v2 σ (fun r_18 σ_17 => (if r_18 = 0 then t_areAbove_j126 G v1 v2 v3 v4 v6 σ_17 Q X46 X74 else t_arg v1 v6 σ_17 (fun r_22 σ_21 => t_arg v2 v4 σ_21 (fun r_24 σ_23 => G 0 [r_22, r_24] σ_23 (fun r_26 σ_25 => (if r_26 = 0 then t_areAbove_j126 G v1 v2 v3 v4 v6 σ_25 Q X46 X74 else t_areAbove_j127 G v1 v2 v3 v4 v6 1 σ_25 Q X46 X74)) (fun _ => False))))) else t_areAbove_j135 G v1 v2 v3 v4 v5 σ Q X46)) → X74 v5 v6 σ) → X74 v5 v6 σ
def t_areAbove_L46 (G : Orc) (v1 : Int) (v2 : Int) (v3 : Int) (v4 : Int) (σ : S) (Q : Int → S → Prop) : Prop :=
  ∀ X46 : Int → S → Prop, (∀ (v4 : Int) (σ : S), (inb v2 200000 ∧ (if v4 < gA σ 50 v2 then t_isLeft v2 v4 v1 σ (fun r_10 σ_9 => (if r_10 = 0 then t_areAbove_j142 G v1 v2 v3 v4 σ_9 Q X46 else t_areAbove_L74 G v1 v2 v3 v4 0 0 σ_9 Q X46)) else Q v3 σ)) → X46 v4 σ) → X46 v4 σ
def t_areAbove_j43 (G : Orc) (v1 : Int) (v2 : Int) (v3 : Int) (σ : S) (Q : Int → S → Prop) : Prop :=
  t_areAbove_L46 G v1 v2 v3 0 σ Q
def t_areAbove_j36 (G : Orc) (v1 : Int) (v2 : Int) (v4 : Int) (s0 : Int) (σ : S) (Q : Int → S → Prop) (X5 : Int → Int → S → Prop) : Prop :=
  X5 s0 (w32 (v4 + 1)) σ
def t_areAbove_j31 (G : Orc) (v1 : Int) (v2 : Int) (v4 : Int) (σ : S) (Q : Int → S → Prop) (X5 : Int → Int → S → Prop) : Prop :=
  t_areAbove_j36 G v1 v2 v4 1 σ Q X5
def t_areAbove_L5 (G : Orc) (v1 : Int) (v2 : Int) (v3 : Int) (v4 : Int) (σ : S) (Q : Int → S → Prop) : Prop :=
  ∀ X5 : Int → Int → S → Prop, (∀ (v3 : Int) (v4 : Int) (σ : S), (inb v1 200000 ∧ (if v4 < gA σ 50 v1 then (if v3 = 0 then t_isLeft v1 v4 v2 σ (fun r_37 σ_36 => (if r_37 = 0 then t_areAbove_j36 G v1 v2 v4 0 σ_36 Q X5 else t_areAbove_j31 G v1 v2 v4 σ_36 Q X5)) else t_areAbove_j31 G v1 v2 v4 σ Q X5) else t_areAbove_j43 G v1 v2 v3 σ Q)) → X5 v3 v4 σ) → X5 v3 v4 σ
def t_areAbove_F (G : Orc) (v1 : Int) (v2 : Int) (σ : S) (Q : Int → S → Prop) : Prop :=
  t_areAbove_L5 G v1 v2 0 0 σ Q
def t_S_isAbove : Nat → Orc
  | 0 => fun _ _ _ _ _ => False
  | n + 1 => fun i a σ Q E => match i, a with
    | 0, [v1, v2] => t_isAbove_F (t_S_isAbove n) v1 v2 σ Q
    | 1, [v1, v2] => t_isAboveBy_F (t_S_isAbove n) v1 v2 σ Q
    | 2, [v1, v2] => t_areAbove_F (t_S_isAbove n) v1 v2 σ Q
    | _, _ => False
def t_isAbove (v1 : Int) (v2 : Int) (σ : S) (Q : Int → S → Prop) : Prop := t_S_isAbove 260 0 [v1, v2] σ Q (fun _ => False)
def t_isAboveBy (v1 : Int) (v2 : Int) (σ : S) (Q : Int → S → Prop) : Prop := t_S_isAbove 260 1 [v1, v2] σ Q (fun _ => False)
def t_areAbove (v1 : Int) (v2 : Int) (σ : S) (Q : Int → S → Prop) : Prop := t_S_isAbove 260 2 [v1, v2] σ Q (fun _ => False)
def t_notFalling_j157 (v1 : Int) (v2 : Int) (σ : S) (Q : Int → S → Prop) (X4 : Int → Int → S → Prop) : Prop :=
  X4 v1 (w32 (v2 + 1)) σ
def t_notFalling_j141 (v1 : Int) (v2 : Int) (v4 : Int) (s0 : Int) (σ : S) (Q : Int → S → Prop) (X4 : Int → Int → S → Prop) (X52 : Int → Int → S → Prop) : Prop :=
  X52 s0 (w32 (v4 + 1)) σ
def t_notFalling_j140 (v1 : Int) (v2 : Int) (v4 : Int) (σ : S) (Q : Int → S → Prop) (X4 : Int → Int → S → Prop) (X52 : Int → Int → S → Prop) : Prop :=
  t_notFalling_j141 v1 v2 v4 0 σ Q X4 X52
def t_notFalling_j136 (v1 : Int) (v2 : Int) (v4 : Int) (σ : S) (Q : Int → S → Prop) (X4 : Int → Int → S → Prop) (X52 : Int → Int → S → Prop) : Prop :=
  t_notFalling_j141 v1 v2 v4 1 σ Q X4 X52
def t_notFalling_j148 (v1 : Int) (v2 : Int) (v3 : Int) (σ : S) (Q : Int → S → Prop) (X4 : Int → Int → S → Prop) : Prop :=
  (if v3 = 0 then Q v1 σ else t_notFalling_j157 (w32 (v1 + 1)) v2 σ Q X4)
def t_notFalling_L52 (v1 : Int) (v2 : Int) (v3 : Int) (v4 : Int) (σ : S) (Q : Int → S → Prop) (X4 : Int → Int → S → Prop) : Prop :=
  ∀ X52 : Int → Int → S → Prop, (∀ (v3 : Int) (v4 : Int) (σ : S), (inb v2 70 ∧ (if (v4 < gA σ 29 v2) ∧ (¬ (v3 = 0)) then ∀ σ_22, σ_22 = pI σ 166 (w32 (gI σ 166 + 1)) → inb v2 70 ∧ inb (w32 (w32 (6 * v2) + v4)) 420 ∧ t_isAbove (gA σ_22 64 v2) (gA σ_22 66 (w32 (w32 (6 * v2) + v4))) σ_22 (fun r_29 σ_28 => (if r_29 = 0 then t_notFalling_j140 v1 v2 v4 σ_28 Q X4 X52 else inb (w32 (w32 (6 * v2) + v4)) 420 ∧ (if gA σ_28 67 (w32 (w32 (6 * v2) + v4)) < 0 then t_notFalling_j136 v1 v2 v4 σ_28 Q X4 X52 else inb v2 70 ∧ inb (w32 (w32 (6 * v2) + v4)) 420 ∧ t_isAbove (gA σ_28 64 v2) (gA σ_28 67 (w32 (w32 (6 * v2) + v4))) σ_28 (fun r_41 σ_40 => (if r_41 = 0 then t_notFalling_j140 v1 v2 v4 σ_40 Q X4 X52 else t_notFalling_j136 v1 v2 v4 σ_40 Q X4 X52))))) else t_notFalling_j148 v1 v2 v3 σ Q X4)) → X52 v3 v4 σ) → X52 v3 v4 σ
def t_notFalling_L4 (v1 : Int) (v2 : Int) (σ : S) (Q : Int → S → Prop) : Prop :=
  ∀ X4 : Int → Int → S → Prop, (∀ (v1 : Int) (v2 : Int) (σ : S), ((if v2 < gI σ 45 then inb v2 70 ∧ (if gA σ 23 v2 < 2 then ∀ σ_9, σ_9 = pI σ 166 (w32 (gI σ 166 + 1)) → inb v2 70 ∧ inb v2 70 ∧ t_isAbove (gA σ_9 64 v2) (gA σ_9 65 v2) σ_9 (fun r_16 σ_15 => t_notFalling_L52 v1 v2 r_16 0 σ_15 Q X4) else t_notFalling_j157 v1 v2 σ Q X4) else Q (-2) σ)) → X4 v1 v2 σ) → X4 v1 v2 σ
def t_notFalling (σ : S) (Q : Int → S → Prop) : Prop :=
  t_notFalling_L4 0 0 σ Q
def t_check (v1 : Int) (σ : S) (Q : Int → S → Prop) : Prop :=
  ∀ σ_1, σ_1 = pI σ 0 0 → t_in v1 0 1 σ_1 (fun r_4 σ_3 => (if r_4 = 0 then Q (-1) σ_3 else (if v1 = 0 then t_isOneLeast σ_3 (fun r_15 σ_14 => Q (bi (¬ (r_15 = 0))) σ_14) else t_notFalling σ_3 (fun r_10 σ_9 => Q (bi (r_10 < 0)) σ_9))))
def t_witness_j30 (v1 : Int) (v2 : Int) (σ : S) (Q : Int → S → Prop) : Prop :=
  (if v1 = 1 then t_notFalling σ (fun r_27 σ_26 => Q r_27 σ_26) else t_isOneLeast σ (fun r_14 σ_13 => (if r_14 = 0 then ((¬ v2 = 0) → (v2 ≤ gI σ_13 162) → (inb (w32 (v2 - 1)) 5)) ∧ Q (if v2 = 0 then gI σ_13 161 else (if v2 ≤ gI σ_13 162 then gA σ_13 105 (w32 (v2 - 1)) else (-1))) σ_13 else Q (-2) σ_13)))
def t_witness (v1 : Int) (v2 : Int) (σ : S) (Q : Int → S → Prop) : Prop :=
  ∀ σ_1, σ_1 = pI σ 0 0 → t_in v1 0 1 σ_1 (fun r_4 σ_3 => (if r_4 = 0 then Q (-1) σ_3 else (if v2 < 0 then Q (-1) σ_3 else (if v1 = 1 then (if v2 ≤ 0 then t_witness_j30 v1 v2 σ_3 Q else Q (-1) σ_3) else t_witness_j30 v1 v2 σ_3 Q))))
def t_apart_j73 (G : Orc) (v1 : Int) (v2 : Int) (σ : S) (Q : Int → S → Prop) : Prop :=
  inb v1 200000 ∧ t_make (gA σ 48 v1) v2 σ (fun r_17 σ_16 => Q r_17 σ_16)
def t_apart_L39 (G : Orc) (v1 : Int) (v2 : Int) (v3 : Int) (σ : S) (Q : Int → S → Prop) : Prop :=
  ∀ X39 : Int → S → Prop, (∀ (v3 : Int) (σ : S), (inb v1 200000 ∧ (if v3 < gA σ 50 v1 then t_arg v1 v3 σ (fun r_19 σ_18 => G 0 [r_19] σ_18 (fun r_21 σ_20 => t_push r_21 σ_20 (fun _ σ_22 => X39 (w32 (v3 + 1)) σ_22)) (fun _ => False)) else t_apart_j73 G v1 v2 σ Q)) → X39 v3 σ) → X39 v3 σ
def t_apart_F (G : Orc) (v1 : Int) (σ : S) (Q : Int → S → Prop) : Prop :=
  t_isVar v1 σ (fun r_2 σ_1 => (if r_2 = 0 then inb v1 200000 ∧ (if gA σ_1 50 v1 = 0 then Q v1 σ_1 else t_apart_L39 G v1 (gI σ_1 83) 0 σ_1 Q) else t_varOf v1 σ_1 (fun r_24 σ_23 => t_variable (w32 (r_24 + 30)) σ_23 (fun r_26 σ_25 => Q r_26 σ_25))))
def t_S_apart : Nat → Orc
  | 0 => fun _ _ _ _ _ => False
  | n + 1 => fun i a σ Q E => match i, a with
    | 0, [v1] => t_apart_F (t_S_apart n) v1 σ Q
    | _, _ => False
def t_apart (v1 : Int) (σ : S) (Q : Int → S → Prop) : Prop := t_S_apart 44 0 [v1] σ Q (fun _ => False)
def t_now_j85 (G : Orc) (v1 : Int) (v2 : Int) (σ : S) (Q : Int → S → Prop) : Prop :=
  inb v1 200000 ∧ t_make (gA σ 48 v1) v2 σ (fun r_17 σ_16 => Q r_17 σ_16)
def t_now_L51 (G : Orc) (v1 : Int) (v2 : Int) (v3 : Int) (σ : S) (Q : Int → S → Prop) : Prop :=
  ∀ X51 : Int → S → Prop, (∀ (v3 : Int) (σ : S), (inb v1 200000 ∧ (if v3 < gA σ 50 v1 then t_arg v1 v3 σ (fun r_19 σ_18 => G 0 [r_19] σ_18 (fun r_21 σ_20 => t_push r_21 σ_20 (fun _ σ_22 => X51 (w32 (v3 + 1)) σ_22)) (fun _ => False)) else t_now_j85 G v1 v2 σ Q)) → X51 v3 σ) → X51 v3 σ
def t_now_F (G : Orc) (v1 : Int) (σ : S) (Q : Int → S → Prop) : Prop :=
  t_isVar v1 σ (fun r_2 σ_1 => (if r_2 = 0 then inb v1 200000 ∧ (if gA σ_1 50 v1 = 0 then Q v1 σ_1 else t_now_L51 G v1 (gI σ_1 83) 0 σ_1 Q) else t_varOf v1 σ_1 (fun r_24 σ_23 => inb r_24 60 ∧ (if gA σ_23 114 r_24 < 0 then Q v1 σ_23 else G 0 [(gA σ_23 114 r_24)] σ_23 (fun r_30 σ_29 => Q r_30 σ_29) (fun _ => False)))))
def t_S_now : Nat → Orc
  | 0 => fun _ _ _ _ _ => False
  | n + 1 => fun i a σ Q E => match i, a with
    | 0, [v1] => t_now_F (t_S_now n) v1 σ Q
    | _, _ => False
def t_now (v1 : Int) (σ : S) (Q : Int → S → Prop) : Prop := t_S_now 150 0 [v1] σ Q (fun _ => False)
def t_give (v1 : Int) (v2 : Int) (σ : S) (Q : Int → S → Prop) : Prop :=
  inb v1 60 ∧ ∀ σ_1, σ_1 = pA σ 114 v1 v2 → inb (gI σ_1 169) 400 ∧ ∀ σ_5, σ_5 = pA σ_1 110 (gI σ_1 169) v1 → ∀ σ_9, σ_9 = pI σ_5 169 (w32 (gI σ_5 169 + 1)) → Q 0 σ_9
def t_undo_L0 (v1 : Int) (σ : S) (Q : Int → S → Prop) : Prop :=
  ∀ X0 : S → Prop, (∀ (σ : S), ((if gI σ 169 ≤ v1 then Q 0 σ else ∀ σ_5, σ_5 = pI σ 169 (w32 (gI σ 169 - 1)) → inb (gI σ_5 169) 400 ∧ inb (gA σ_5 110 (gI σ_5 169)) 60 ∧ ∀ σ_10, σ_10 = pA σ_5 114 (gA σ_5 110 (gI σ_5 169)) (-1) → X0 σ_10)) → X0  σ) → X0  σ
def t_undo (v1 : Int) (σ : S) (Q : Int → S → Prop) : Prop :=
  t_undo_L0 v1 σ Q
def t_isVarIn_L25 (G : Orc) (v1 : Int) (v2 : Int) (v3 : Int) (σ : S) (Q : Int → S → Prop) : Prop :=
  ∀ X25 : Int → S → Prop, (∀ (v3 : Int) (σ : S), (inb v2 200000 ∧ (if v3 < gA σ 50 v2 then t_arg v2 v3 σ (fun r_10 σ_9 => G 0 [v1, r_10] σ_9 (fun r_12 σ_11 => (if r_12 = 0 then X25 (w32 (v3 + 1)) σ_11 else Q 1 σ_11)) (fun _ => False)) else Q 0 σ)) → X25 v3 σ) → X25 v3 σ
def t_isVarIn_F (G : Orc) (v1 : Int) (v2 : Int) (σ : S) (Q : Int → S → Prop) : Prop :=
  t_isVar v2 σ (fun r_2 σ_1 => (if r_2 = 0 then t_isVarIn_L25 G v1 v2 0 σ_1 Q else t_varOf v2 σ_1 (fun r_16 σ_15 => Q (bi (r_16 = v1)) σ_15)))
def t_S_isVarIn : Nat → Orc
  | 0 => fun _ _ _ _ _ => False
  | n + 1 => fun i a σ Q E => match i, a with
    | 0, [v1, v2] => t_isVarIn_F (t_S_isVarIn n) v1 v2 σ Q
    | _, _ => False
def t_isVarIn (v1 : Int) (v2 : Int) (σ : S) (Q : Int → S → Prop) : Prop := t_S_isVarIn 44 0 [v1, v2] σ Q (fun _ => False)
def t_pairGoal (v1 : Int) (v2 : Int) (v3 : Int) (σ : S) (Q : Int → S → Prop) : Prop :=
  inb (gI σ 173) 4000 ∧ ∀ σ_2, σ_2 = pA σ 111 (gI σ 173) v1 → inb (gI σ_2 173) 4000 ∧ ∀ σ_6, σ_6 = pA σ_2 112 (gI σ_2 173) v2 → inb (gI σ_6 173) 4000 ∧ ∀ σ_10, σ_10 = pA σ_6 113 (gI σ_6 173) v3 → ∀ σ_14, σ_14 = pI σ_10 173 (w32 (gI σ_10 173 + 1)) → Q (w32 (gI σ_14 173 - 1)) σ_14
def t_release_j68 (v2 : Int) (σ : S) (Q : Int → S → Prop) : Prop :=
  ((v2 < gI σ 80) → (inb v2 200000)) ∧ ∀ σ_18, σ_18 = pI σ 81 (if v2 < gI σ 80 then gA σ 49 v2 else gI σ 81) → ∀ σ_20, σ_20 = pI σ_18 80 v2 → Q 0 σ_20
def t_release_L24 (v2 : Int) (v3 : Int) (σ : S) (Q : Int → S → Prop) : Prop :=
  ∀ X24 : Int → S → Prop, (∀ (v3 : Int) (σ : S), ((if v3 < v2 then t_release_j68 v2 σ Q else inb v3 200000 ∧ inb v3 200000 ∧ inb v3 200000 ∧ t_hashOf (gA σ 48 v3) (gA σ 49 v3) (gA σ 50 v3) σ (fun r_29 σ_28 => inb v3 200000 ∧ inb r_29 65536 ∧ ∀ σ_32, σ_32 = pA σ_28 57 r_29 (gA σ_28 53 v3) → X24 (w32 (v3 + (-1))) σ_32))) → X24 v3 σ) → X24 v3 σ
def t_release (v1 : Int) (σ : S) (Q : Int → S → Prop) : Prop :=
  t_release_L24 (if v1 ≤ gI σ 189 then gI σ 189 else v1) (w32 (gI σ 80 - 1)) σ Q
def t_sized (v1 : Int) (σ : S) (Q : Int → S → Prop) (E : S → Prop) : Prop :=
  inb v1 200000 ∧ (if gA σ 51 v1 ≤ 40 then Q v1 σ else t_fail 6 0 σ (fun _ σ_5 => Q v1 σ_5) E)
def t_tooManyPairs (σ : S) (Q : Int → S → Prop) (E : S → Prop) : Prop :=
  (if w32 (gI σ 175 + (gI σ 177)) ≤ 4000 then Q 0 σ else t_fail 2 0 σ (fun _ σ_5 => Q 0 σ_5) E)
def t_beginPair (σ : S) (Q : Int → S → Prop) : Prop :=
  ∀ σ_2, σ_2 = pI σ 121 (w32 (gI σ 121 + 1)) → ∀ σ_4, σ_4 = pI σ_2 119 0 → ∀ σ_6, σ_6 = pI σ_4 120 0 → ∀ σ_8, σ_8 = pI σ_6 124 0 → Q 0 σ_8
def t_wayFound_j149 (v2 : Int) (σ : S) (Q : Int → S → Prop) (E : S → Prop) : Prop :=
  t_release v2 σ (fun _ σ_35 => Q 0 σ_35)
def t_wayFound_j139 (v2 : Int) (σ : S) (Q : Int → S → Prop) (E : S → Prop) : Prop :=
  ∀ σ_41, σ_41 = pI σ 176 (w32 (gI σ 176 + 1)) → t_wayFound_j149 v2 σ_41 Q E
def t_wayFound (σ : S) (Q : Int → S → Prop) (E : S → Prop) : Prop :=
  ∀ σ_4, σ_4 = pI σ 175 (w32 (gI σ 175 + 1)) → t_tooManyPairs σ_4 (fun _ σ_6 => t_beginPair σ_6 (fun _ σ_8 => t_now (gI σ_8 187) σ_8 (fun r_11 σ_10 => t_sized r_11 σ_10 (fun r_13 σ_12 => t_replaced (gI σ_12 185) (gI σ_12 186) σ_12 (fun r_18 σ_17 => t_now r_18 σ_17 (fun r_21 σ_20 => t_sized r_21 σ_20 (fun r_23 σ_22 => t_reduced r_13 0 σ_22 (fun r_26 σ_25 => t_reduced r_23 0 σ_25 (fun r_29 σ_28 => ∀ σ_31, σ_31 = pI σ_28 113 (gI σ 113) → (if r_26 = r_29 then t_wayFound_j149 (gI σ 80) σ_31 Q E else (if gI σ_31 176 = gI σ_31 178 then ∀ σ_44, σ_44 = pI σ_31 179 (gI σ_31 183) → ∀ σ_47, σ_47 = pI σ_44 180 (gI σ_44 184) → ∀ σ_49, σ_49 = pI σ_47 181 r_26 → ∀ σ_51, σ_51 = pI σ_49 182 r_29 → ∀ σ_54, σ_54 = pI σ_51 189 (gI σ_51 80) → t_wayFound_j139 (gI σ 80) σ_54 Q E else t_wayFound_j139 (gI σ 80) σ_31 Q E))) E) E) E)) E) E))) E
def t_unify_j365 (G : Orc) (v2 : Int) (v3 : Int) (v4 : Int) (σ : S) (Q : Int → S → Prop) (E : S → Prop) : Prop :=
  t_undo v3 σ (fun _ σ_54 => ∀ σ_55, σ_55 = pI σ_54 173 v2 → t_release v4 σ_55 (fun _ σ_57 => ∀ σ_59, σ_59 = pI σ_57 188 (w32 (gI σ_57 188 - 1)) → Q 0 σ_59))
def t_unify_j164 (G : Orc) (v2 : Int) (v3 : Int) (v4 : Int) (v5 : Int) (v6 : Int) (v7 : Int) (σ : S) (Q : Int → S → Prop) (E : S → Prop) : Prop :=
  t_isVar v5 σ (fun r_39 σ_38 => t_varOf (if r_39 = 0 then v6 else v5) σ_38 (fun r_45 σ_44 => t_isVar v5 σ_44 (fun r_47 σ_46 => G 2 [r_45, (if r_47 = 0 then v5 else v6), v7] σ_46 (fun _ σ_52 => t_unify_j365 G v2 v3 v4 σ_52 Q E) E)))
def t_unify_j293 (G : Orc) (v2 : Int) (v3 : Int) (v4 : Int) (v5 : Int) (v6 : Int) (v7 : Int) (v8 : Int) (σ : S) (Q : Int → S → Prop) (E : S → Prop) : Prop :=
  G 0 [v8] σ (fun _ σ_79 => t_undo v3 σ_79 (fun _ σ_81 => inb v5 200000 ∧ inb (gA σ_81 48 v5) 50 ∧ (if gA σ_81 45 (gA σ_81 48 v5) = 0 then t_unify_j365 G v2 v3 v4 σ_81 Q E else t_arg v5 1 σ_81 (fun r_89 σ_88 => t_arg v6 0 σ_88 (fun r_91 σ_90 => t_pairGoal r_89 r_91 v7 σ_90 (fun r_93 σ_92 => t_arg v5 0 σ_92 (fun r_95 σ_94 => t_arg v6 1 σ_94 (fun r_97 σ_96 => t_pairGoal r_95 r_97 r_93 σ_96 (fun r_99 σ_98 => G 0 [r_99] σ_98 (fun _ σ_100 => t_unify_j365 G v2 v3 v4 σ_100 Q E) E))))))))) E
def t_unify_L258 (G : Orc) (v2 : Int) (v3 : Int) (v4 : Int) (v5 : Int) (v6 : Int) (v7 : Int) (v8 : Int) (v9 : Int) (σ : S) (Q : Int → S → Prop) (E : S → Prop) : Prop :=
  ∀ X258 : Int → Int → S → Prop, (∀ (v8 : Int) (v9 : Int) (σ : S), ((if v9 < 0 then t_unify_j293 G v2 v3 v4 v5 v6 v7 v8 σ Q E else t_arg v5 v9 σ (fun r_103 σ_102 => t_arg v6 v9 σ_102 (fun r_105 σ_104 => t_pairGoal r_103 r_105 v8 σ_104 (fun r_107 σ_106 => X258 r_107 (w32 (v9 + (-1))) σ_106))))) → X258 v8 v9 σ) → X258 v8 v9 σ
def t_unify_j146 (G : Orc) (v2 : Int) (v3 : Int) (v4 : Int) (v5 : Int) (v6 : Int) (v7 : Int) (σ : S) (Q : Int → S → Prop) (E : S → Prop) : Prop :=
  t_isVar v5 σ (fun r_35 σ_34 => (if r_35 = 0 then t_isVar v6 σ_34 (fun r_62 σ_61 => (if r_62 = 0 then inb v5 200000 ∧ inb v6 200000 ∧ ((gA σ_61 48 v5 = gA σ_61 48 v6) → (inb v5 200000)) ∧ ((gA σ_61 48 v5 = gA σ_61 48 v6) → (inb v6 200000)) ∧ (if (gA σ_61 48 v5 = gA σ_61 48 v6) ∧ (gA σ_61 50 v5 = gA σ_61 50 v6) then inb v5 200000 ∧ t_unify_L258 G v2 v3 v4 v5 v6 v7 v7 (w32 (gA σ_61 50 v5 - 1)) σ_61 Q E else t_unify_j365 G v2 v3 v4 σ_61 Q E) else t_unify_j164 G v2 v3 v4 v5 v6 v7 σ_61 Q E)) else t_unify_j164 G v2 v3 v4 v5 v6 v7 σ_34 Q E))
def t_unify_j25 (G : Orc) (v1 : Int) (σ : S) (Q : Int → S → Prop) (E : S → Prop) : Prop :=
  ∀ σ_7, σ_7 = pI σ 188 (w32 (gI σ 188 + 1)) → inb v1 4000 ∧ t_now (gA σ_7 111 v1) σ_7 (fun r_15 σ_14 => t_sized r_15 σ_14 (fun r_17 σ_16 => inb v1 4000 ∧ t_now (gA σ_16 112 v1) σ_16 (fun r_22 σ_21 => t_sized r_22 σ_21 (fun r_24 σ_23 => inb v1 4000 ∧ (if r_17 = r_24 then G 0 [(gA σ_23 113 v1)] σ_23 (fun _ σ_121 => t_unify_j365 G (gI σ_7 173) (gI σ_7 169) (gI σ_7 80) σ_121 Q E) E else t_isVar r_17 σ_23 (fun r_31 σ_30 => (if r_31 = 0 then t_unify_j146 G (gI σ_7 173) (gI σ_7 169) (gI σ_7 80) r_17 r_24 (gA σ_23 113 v1) σ_30 Q E else t_isVar r_24 σ_30 (fun r_112 σ_111 => (if r_112 = 0 then t_unify_j146 G (gI σ_7 173) (gI σ_7 169) (gI σ_7 80) r_17 r_24 (gA σ_23 113 v1) σ_111 Q E else t_varOf r_17 σ_111 (fun r_116 σ_115 => t_varOf r_24 σ_115 (fun r_118 σ_117 => G 1 [r_116, r_118, (gA σ_23 113 v1)] σ_117 (fun _ σ_119 => t_unify_j365 G (gI σ_7 173) (gI σ_7 169) (gI σ_7 80) σ_119 Q E) E)))))))) E)) E)
def t_unify_F (G : Orc) (v1 : Int) (σ : S) (Q : Int → S → Prop) (E : S → Prop) : Prop :=
  (if v1 < 0 then t_wayFound σ (fun _ σ_125 => Q 0 σ_125) E else (if gI σ 188 = 150 then t_fail 5 0 σ (fun _ σ_123 => t_unify_j25 G v1 σ_123 Q E) E else t_unify_j25 G v1 σ Q E))
def t_unifyVars_j127 (G : Orc) (v6 : Int) (σ : S) (Q : Int → S → Prop) (E : S → Prop) : Prop :=
  ∀ σ_18, σ_18 = pI σ 177 (w32 (gI σ 177 + (bi (¬ (v6 = 0))))) → t_tooManyPairs σ_18 (fun _ σ_20 => Q 0 σ_20) E
def t_unifyVars_j119 (G : Orc) (v4 : Int) (v5 : Int) (v7 : Int) (s0 : Int) (σ : S) (Q : Int → S → Prop) (E : S → Prop) (X78 : Int → Int → S → Prop) : Prop :=
  X78 s0 (w32 (v7 + 1)) σ
def t_unifyVars_j114 (G : Orc) (v4 : Int) (v5 : Int) (v7 : Int) (σ : S) (Q : Int → S → Prop) (E : S → Prop) (X78 : Int → Int → S → Prop) : Prop :=
  t_unifyVars_j119 G v4 v5 v7 1 σ Q E X78
def t_unifyVars_j118 (G : Orc) (v4 : Int) (v5 : Int) (v7 : Int) (σ : S) (Q : Int → S → Prop) (E : S → Prop) (X78 : Int → Int → S → Prop) : Prop :=
  t_unifyVars_j119 G v4 v5 v7 0 σ Q E X78
def t_unifyVars_L78 (G : Orc) (v4 : Int) (v5 : Int) (v6 : Int) (v7 : Int) (σ : S) (Q : Int → S → Prop) (E : S → Prop) : Prop :=
  ∀ X78 : Int → Int → S → Prop, (∀ (v6 : Int) (v7 : Int) (σ : S), ((if v7 < gI σ 18 then (if v6 = 0 then t_isBelow v7 v4 σ (fun r_27 σ_26 => (if r_27 = 0 then t_unifyVars_j118 G v4 v5 v7 σ_26 Q E X78 else t_isBelow v7 v5 σ_26 (fun r_31 σ_30 => (if r_31 = 0 then t_unifyVars_j118 G v4 v5 v7 σ_30 Q E X78 else t_unifyVars_j114 G v4 v5 v7 σ_30 Q E X78)))) else t_unifyVars_j114 G v4 v5 v7 σ Q E X78) else t_unifyVars_j127 G v6 σ Q E)) → X78 v6 v7 σ) → X78 v6 v7 σ
def t_unifyVars_F (G : Orc) (v1 : Int) (v2 : Int) (v3 : Int) (σ : S) (Q : Int → S → Prop) (E : S → Prop) : Prop :=
  t_sortOfVar v1 σ (fun r_2 σ_1 => t_sortOfVar v2 σ_1 (fun r_4 σ_3 => t_isBelow r_2 r_4 σ_3 (fun r_6 σ_5 => (if r_6 = 0 then t_isBelow r_4 r_2 σ_5 (fun r_10 σ_9 => (if r_10 = 0 then t_unifyVars_L78 G r_2 r_4 0 0 σ_9 Q E else t_variable v2 σ_9 (fun r_35 σ_34 => t_give v1 r_35 σ_34 (fun _ σ_36 => G 0 [v3] σ_36 (fun _ σ_37 => Q 0 σ_37) E)))) else t_variable v1 σ_5 (fun r_40 σ_39 => t_give v2 r_40 σ_39 (fun _ σ_41 => G 0 [v3] σ_41 (fun _ σ_42 => Q 0 σ_42) E))))))
def t_unifyVar_j126 (G : Orc) (v6 : Int) (σ : S) (Q : Int → S → Prop) (E : S → Prop) : Prop :=
  ∀ σ_16, σ_16 = pI σ 177 (w32 (gI σ 177 + (bi (¬ (v6 = 0))))) → t_tooManyPairs σ_16 (fun _ σ_18 => Q 0 σ_18) E
def t_unifyVar_j118 (G : Orc) (v4 : Int) (v5 : Int) (v7 : Int) (s0 : Int) (σ : S) (Q : Int → S → Prop) (E : S → Prop) (X66 : Int → Int → S → Prop) : Prop :=
  X66 s0 (w32 (v7 + 1)) σ
def t_unifyVar_j113 (G : Orc) (v4 : Int) (v5 : Int) (v7 : Int) (σ : S) (Q : Int → S → Prop) (E : S → Prop) (X66 : Int → Int → S → Prop) : Prop :=
  t_unifyVar_j118 G v4 v5 v7 1 σ Q E X66
def t_unifyVar_j117 (G : Orc) (v4 : Int) (v5 : Int) (v7 : Int) (σ : S) (Q : Int → S → Prop) (E : S → Prop) (X66 : Int → Int → S → Prop) : Prop :=
  t_unifyVar_j118 G v4 v5 v7 0 σ Q E X66
def t_unifyVar_L66 (G : Orc) (v4 : Int) (v5 : Int) (v6 : Int) (v7 : Int) (σ : S) (Q : Int → S → Prop) (E : S → Prop) : Prop :=
  ∀ X66 : Int → Int → S → Prop, (∀ (v6 : Int) (v7 : Int) (σ : S), ((if v7 < gI σ 37 then (if v6 = 0 then inb v7 50 ∧ inb v4 200000 ∧ (if gA σ 40 v7 = gA σ 48 v4 then inb v7 50 ∧ t_isBelow (gA σ 39 v7) v5 σ (fun r_33 σ_32 => (if r_33 = 0 then t_unifyVar_j117 G v4 v5 v7 σ_32 Q E X66 else t_unifyVar_j113 G v4 v5 v7 σ_32 Q E X66)) else t_unifyVar_j117 G v4 v5 v7 σ Q E X66) else t_unifyVar_j113 G v4 v5 v7 σ Q E X66) else t_unifyVar_j126 G v6 σ Q E)) → X66 v6 v7 σ) → X66 v6 v7 σ
def t_unifyVar_j60 (G : Orc) (v4 : Int) (v5 : Int) (σ : S) (Q : Int → S → Prop) (E : S → Prop) : Prop :=
  t_unifyVar_L66 G v4 v5 0 0 σ Q E
def t_unifyVar_F (G : Orc) (v1 : Int) (v2 : Int) (v3 : Int) (σ : S) (Q : Int → S → Prop) (E : S → Prop) : Prop :=
  t_isVarIn v1 v2 σ (fun r_2 σ_1 => (if r_2 = 0 then t_sortOfVar v1 σ_1 (fun r_6 σ_5 => inb v2 200000 ∧ (if gA σ_5 52 v2 < 0 then t_unifyVar_j60 G v2 r_6 σ_5 Q E else inb v2 200000 ∧ t_isBelow (gA σ_5 52 v2) r_6 σ_5 (fun r_39 σ_38 => (if r_39 = 0 then t_unifyVar_j60 G v2 r_6 σ_38 Q E else t_give v1 v2 σ_38 (fun _ σ_42 => G 0 [v3] σ_42 (fun _ σ_43 => Q 0 σ_43) E))))) else Q 0 σ_1))
def t_S_unify : Nat → Orc
  | 0 => fun _ _ _ _ _ => False
  | n + 1 => fun i a σ Q E => match i, a with
    | 0, [v1] => t_unify_F (t_S_unify n) v1 σ Q E
    | 1, [v1, v2, v3] => t_unifyVars_F (t_S_unify n) v1 v2 v3 σ Q E
    | 2, [v1, v2, v3] => t_unifyVar_F (t_S_unify n) v1 v2 v3 σ Q E
    | _, _ => False
def t_unify (v1 : Int) (σ : S) (Q : Int → S → Prop) (E : S → Prop) : Prop := t_S_unify 470 0 [v1] σ Q E
def t_unifyVars (v1 : Int) (v2 : Int) (v3 : Int) (σ : S) (Q : Int → S → Prop) (E : S → Prop) : Prop := t_S_unify 470 1 [v1, v2, v3] σ Q E
def t_unifyVar (v1 : Int) (v2 : Int) (v3 : Int) (σ : S) (Q : Int → S → Prop) (E : S → Prop) : Prop := t_S_unify 470 2 [v1, v2, v3] σ Q E
def t_isPlainTerm_L46 (G : Orc) (v1 : Int) (v2 : Int) (v3 : Int) (σ : S) (Q : Int → S → Prop) : Prop :=
  ∀ X46 : Int → Int → S → Prop, (∀ (v2 : Int) (v3 : Int) (σ : S), (inb v1 200000 ∧ (if (v3 < gA σ 50 v1) ∧ (¬ (v2 = 0)) then t_arg v1 v3 σ (fun r_20 σ_19 => G 0 [r_20] σ_19 (fun r_22 σ_21 => X46 r_22 (w32 (v3 + 1)) σ_21) (fun _ => False)) else Q v2 σ)) → X46 v2 v3 σ) → X46 v2 v3 σ
def t_isPlainTerm_F (G : Orc) (v1 : Int) (σ : S) (Q : Int → S → Prop) : Prop :=
  t_isVar v1 σ (fun r_2 σ_1 => (if r_2 = 0 then inb v1 200000 ∧ inb (gA σ_1 48 v1) 50 ∧ ((gA σ_1 44 (gA σ_1 48 v1) = 0) → (inb v1 200000)) ∧ ((gA σ_1 44 (gA σ_1 48 v1) = 0) → (inb (gA σ_1 48 v1) 50)) ∧ t_isPlainTerm_L46 G v1 (bi ((gA σ_1 44 (gA σ_1 48 v1) = 0) ∧ (gA σ_1 46 (gA σ_1 48 v1) < 0))) 0 σ_1 Q else Q 1 σ_1))
def t_S_isPlainTerm : Nat → Orc
  | 0 => fun _ _ _ _ _ => False
  | n + 1 => fun i a σ Q E => match i, a with
    | 0, [v1] => t_isPlainTerm_F (t_S_isPlainTerm n) v1 σ Q
    | _, _ => False
def t_isPlainTerm (v1 : Int) (σ : S) (Q : Int → S → Prop) : Prop := t_S_isPlainTerm 44 0 [v1] σ Q (fun _ => False)
def t_arePlain_j67 (v1 : Int) (σ : S) (Q : Int → S → Prop) (X2 : Int → S → Prop) : Prop :=
  X2 (w32 (v1 + 1)) σ
def t_arePlain_L2 (v1 : Int) (σ : S) (Q : Int → S → Prop) : Prop :=
  ∀ X2 : Int → S → Prop, (∀ (v1 : Int) (σ : S), ((if v1 < gI σ 45 then inb v1 70 ∧ (if gA σ 23 v1 < 2 then inb v1 70 ∧ ((¬ gA σ 23 v1 = 1) → (inb v1 70)) ∧ (if ¬ (gA σ 23 v1 = 1) ∧ (gA σ 29 v1 ≤ 0) then inb v1 70 ∧ t_isPlainTerm (gA σ 64 v1) σ (fun r_17 σ_16 => (if r_17 = 0 then Q 0 σ_16 else inb v1 70 ∧ t_isPlainTerm (gA σ_16 65 v1) σ_16 (fun r_23 σ_22 => (if r_23 = 0 then Q 0 σ_22 else t_arePlain_j67 v1 σ_22 Q X2)))) else Q 0 σ) else t_arePlain_j67 v1 σ Q X2) else Q 1 σ)) → X2 v1 σ) → X2 v1 σ
def t_arePlain (σ : S) (Q : Int → S → Prop) : Prop :=
  t_arePlain_L2 0 σ Q
def t_hasComm_L24 (G : Orc) (v1 : Int) (v2 : Int) (v3 : Int) (σ : S) (Q : Int → S → Prop) : Prop :=
  ∀ X24 : Int → Int → S → Prop, (∀ (v2 : Int) (v3 : Int) (σ : S), (inb v1 200000 ∧ (if (v3 < gA σ 50 v1) ∧ (v2 = 0) then t_arg v1 v3 σ (fun r_14 σ_13 => G 0 [r_14] σ_13 (fun r_16 σ_15 => X24 r_16 (w32 (v3 + 1)) σ_15) (fun _ => False)) else Q v2 σ)) → X24 v2 v3 σ) → X24 v2 v3 σ
def t_hasComm_F (G : Orc) (v1 : Int) (σ : S) (Q : Int → S → Prop) : Prop :=
  t_isVar v1 σ (fun r_2 σ_1 => (if r_2 = 0 then inb v1 200000 ∧ inb (gA σ_1 48 v1) 50 ∧ t_hasComm_L24 G v1 (gA σ_1 45 (gA σ_1 48 v1)) 0 σ_1 Q else Q 0 σ_1))
def t_S_hasComm : Nat → Orc
  | 0 => fun _ _ _ _ _ => False
  | n + 1 => fun i a σ Q E => match i, a with
    | 0, [v1] => t_hasComm_F (t_S_hasComm n) v1 σ Q
    | _, _ => False
def t_hasComm (v1 : Int) (σ : S) (Q : Int → S → Prop) : Prop := t_S_hasComm 44 0 [v1] σ Q (fun _ => False)
def t_overAt_L98 (G : Orc) (v1 : Int) (v2 : Int) (v3 : Int) (σ : S) (Q : Int → S → Prop) (E : S → Prop) : Prop :=
  ∀ X98 : Int → S → Prop, (∀ (v3 : Int) (σ : S), (inb v1 200000 ∧ (if v3 < gA σ 50 v1 then inb (gI σ 132) 50 ∧ ∀ σ_25, σ_25 = pA σ 83 (gI σ 132) v3 → ∀ σ_29, σ_29 = pI σ_25 132 (w32 (gI σ_25 132 + 1)) → t_arg v1 v3 σ_29 (fun r_32 σ_31 => G 0 [r_32, v2] σ_31 (fun _ σ_33 => ∀ σ_36, σ_36 = pI σ_33 132 (w32 (gI σ_33 132 - 1)) → X98 (w32 (v3 + 1)) σ_36) E) else Q 0 σ)) → X98 v3 σ) → X98 v3 σ
def t_overAt_j96 (G : Orc) (v1 : Int) (v2 : Int) (σ : S) (Q : Int → S → Prop) (E : S → Prop) : Prop :=
  t_overAt_L98 G v1 v2 0 σ Q E
def t_overAt_j85 (G : Orc) (v1 : Int) (v2 : Int) (σ : S) (Q : Int → S → Prop) (E : S → Prop) : Prop :=
  t_pairGoal v2 v1 (-1) σ (fun r_17 σ_16 => t_unify r_17 σ_16 (fun _ σ_18 => t_overAt_j96 G v1 v2 σ_18 Q E) E)
def t_overAt_L66 (G : Orc) (v1 : Int) (v2 : Int) (v3 : Int) (σ : S) (Q : Int → S → Prop) (E : S → Prop) : Prop :=
  ∀ X66 : Int → S → Prop, (∀ (v3 : Int) (σ : S), ((if v3 < 60 then inb v3 60 ∧ ∀ σ_38, σ_38 = pA σ 114 v3 (-1) → X66 (w32 (v3 + 1)) σ_38 else t_overAt_j85 G v1 v2 σ Q E)) → X66 v3 σ) → X66 v3 σ
def t_overAt_j49 (G : Orc) (v1 : Int) (v2 : Int) (σ : S) (Q : Int → S → Prop) (E : S → Prop) : Prop :=
  ∀ σ_8, σ_8 = pI σ 173 0 → ∀ σ_10, σ_10 = pI σ_8 169 0 → ∀ σ_12, σ_12 = pI σ_10 188 0 → t_overAt_L66 G v1 v2 0 σ_12 Q E
def t_overAt_F (G : Orc) (v1 : Int) (v2 : Int) (σ : S) (Q : Int → S → Prop) (E : S → Prop) : Prop :=
  t_isVar v1 σ (fun r_2 σ_1 => (if r_2 = 0 then (if gI σ_1 132 ≤ 0 then (if gI σ_1 183 < gI σ_1 184 then t_overAt_j49 G v1 v2 σ_1 Q E else (if gI σ_1 183 = gI σ_1 184 then t_hasComm (gI σ_1 185) σ_1 (fun r_51 σ_50 => (if r_51 = 0 then t_overAt_j96 G v1 v2 σ_50 Q E else t_overAt_j49 G v1 v2 σ_50 Q E)) else t_overAt_j96 G v1 v2 σ_1 Q E)) else t_overAt_j49 G v1 v2 σ_1 Q E) else Q 0 σ_1))
def t_S_overAt : Nat → Orc
  | 0 => fun _ _ _ _ _ => False
  | n + 1 => fun i a σ Q E => match i, a with
    | 0, [v1, v2] => t_overAt_F (t_S_overAt n) v1 v2 σ Q E
    | _, _ => False
def t_overAt (v1 : Int) (v2 : Int) (σ : S) (Q : Int → S → Prop) (E : S → Prop) : Prop := t_S_overAt 44 0 [v1, v2] σ Q E
def t_compactPairs (σ : S) (Q : Int → S → Prop) : Prop :=
  ∀ σ_6, σ_6 = pI σ 190 (bi (¬ (gI σ 176 ≤ gI σ 178) ∧ (¬ (gI σ 178 < 0)))) → t_compact σ_6 (fun _ σ_8 => ∀ σ_9, σ_9 = pI σ_8 190 0 → ∀ σ_12, σ_12 = pI σ_9 189 (gI σ_9 80) → Q 0 σ_12)
def t_findPairs_j199 (v2 : Int) (σ : S) (Q : Int → S → Prop) (E : S → Prop) (X43 : Int → S → Prop) : Prop :=
  X43 (w32 (v2 + 1)) σ
def t_findPairs_j189 (v2 : Int) (σ : S) (Q : Int → S → Prop) (E : S → Prop) (X43 : Int → S → Prop) : Prop :=
  ∀ σ_29, σ_29 = pI σ 183 (w32 (gI σ 183 + 1)) → t_findPairs_j199 v2 σ_29 Q E X43
def t_findPairs_j183 (v2 : Int) (v3 : Int) (σ : S) (Q : Int → S → Prop) (E : S → Prop) (X43 : Int → S → Prop) (X68 : Int → S → Prop) : Prop :=
  X68 (w32 (v3 + 1)) σ
def t_findPairs_j110 (v2 : Int) (v3 : Int) (σ : S) (Q : Int → S → Prop) (E : S → Prop) (X43 : Int → S → Prop) (X68 : Int → S → Prop) : Prop :=
  inb v2 70 ∧ t_apart (gA σ 64 v2) σ (fun r_43 σ_42 => inb v2 70 ∧ t_apart (gA σ_42 65 v2) σ_42 (fun r_47 σ_46 => ∀ σ_48, σ_48 = pI σ_46 186 r_47 → inb v3 70 ∧ ∀ σ_52, σ_52 = pI σ_48 185 (gA σ_48 64 v3) → inb v3 70 ∧ ∀ σ_56, σ_56 = pI σ_52 187 (gA σ_52 65 v3) → ∀ σ_58, σ_58 = pI σ_56 132 0 → inb v3 70 ∧ t_overAt (gA σ_58 64 v3) r_43 σ_58 (fun _ σ_62 => ∀ σ_65, σ_65 = pI σ_62 184 (w32 (gI σ_62 184 + 1)) → t_findPairs_j183 v2 v3 σ_65 Q E X43 X68) E))
def t_findPairs_L68 (v2 : Int) (v3 : Int) (σ : S) (Q : Int → S → Prop) (E : S → Prop) (X43 : Int → S → Prop) : Prop :=
  ∀ X68 : Int → S → Prop, (∀ (v3 : Int) (σ : S), ((if v3 < gI σ 45 then inb v3 70 ∧ (if gA σ 23 v3 < 2 then (if ¬ (gI σ 80 ≤ 20000) ∨ (¬ (gI σ 81 ≤ 80000)) then t_compactPairs σ (fun _ σ_39 => t_findPairs_j110 v2 v3 σ_39 Q E X43 X68) else t_findPairs_j110 v2 v3 σ Q E X43 X68) else t_findPairs_j183 v2 v3 σ Q E X43 X68) else t_findPairs_j189 v2 σ Q E X43)) → X68 v3 σ) → X68 v3 σ
def t_findPairs_L43 (v2 : Int) (σ : S) (Q : Int → S → Prop) (E : S → Prop) : Prop :=
  ∀ X43 : Int → S → Prop, (∀ (v2 : Int) (σ : S), ((if v2 < gI σ 45 then inb v2 70 ∧ (if gA σ 23 v2 < 2 then ∀ σ_23, σ_23 = pI σ 184 0 → t_findPairs_L68 v2 0 σ_23 Q E X43 else t_findPairs_j199 v2 σ Q E X43) else Q 0 σ)) → X43 v2 σ) → X43 v2 σ
def t_findPairs (v1 : Int) (σ : S) (Q : Int → S → Prop) (E : S → Prop) : Prop :=
  t_beginCall σ (fun _ σ_1 => ∀ σ_2, σ_2 = pI σ_1 122 3000000 → ∀ σ_4, σ_4 = pI σ_2 189 0 → ∀ σ_6, σ_6 = pI σ_4 175 0 → ∀ σ_8, σ_8 = pI σ_6 176 0 → ∀ σ_10, σ_10 = pI σ_8 177 0 → ∀ σ_12, σ_12 = pI σ_10 178 v1 → ∀ σ_14, σ_14 = pI σ_12 183 0 → t_findPairs_L43 0 σ_14 Q E)
def t_pairs_j62 (σ : S) (Q : Int → S → Prop) : Prop :=
  t_stopped σ (fun r_14 σ_13 => Q r_14 σ_13)
def t_pairs (v1 : Int) (σ : S) (Q : Int → S → Prop) : Prop :=
  ∀ σ_1, σ_1 = pI σ 0 0 → t_in v1 0 2 σ_1 (fun r_4 σ_3 => (if r_4 = 0 then Q (-1) σ_3 else t_arePlain σ_3 (fun r_8 σ_7 => (if r_8 = 0 then Q (-2) σ_7 else t_findPairs (-1) σ_7 (fun _ σ_11 => Q (if v1 = 0 then gI σ_11 175 else (if v1 = 1 then gI σ_11 176 else gI σ_11 177)) σ_11) (fun σ_12 => t_pairs_j62 σ_12 Q)))))
def t_pair_j102 (σ : S) (Q : Int → S → Prop) : Prop :=
  t_stopped σ (fun r_16 σ_15 => Q r_16 σ_15)
def t_pair (v1 : Int) (v2 : Int) (σ : S) (Q : Int → S → Prop) : Prop :=
  ∀ σ_1, σ_1 = pI σ 0 0 → (if v1 < 0 then Q (-1) σ_1 else t_in v2 0 3 σ_1 (fun r_6 σ_5 => (if r_6 = 0 then Q (-1) σ_5 else t_arePlain σ_5 (fun r_10 σ_9 => (if r_10 = 0 then Q (-1) σ_9 else t_findPairs v1 σ_9 (fun _ σ_13 => (if gI σ_13 176 ≤ v1 then Q (-1) σ_13 else (if v2 < 2 then Q (if v2 = 0 then gI σ_13 179 else gI σ_13 180) σ_13 else (if gI σ_13 101 = 200 then Q (-3) σ_13 else t_newHandle (if v2 = 2 then gI σ_13 181 else gI σ_13 182) σ_13 (fun r_32 σ_31 => Q r_32 σ_31))))) (fun σ_14 => t_pair_j102 σ_14 Q))))))
